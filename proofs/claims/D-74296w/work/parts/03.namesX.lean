/-! TroupeSums -/
set_option maxRecDepth 100000
def RX0 : String := "TroupeSums"
def TX0 : u_T := fun k => match k with
  | 0 => ("TroupeSums", "tape", "[B", true)
  | 1 => ("TroupeSums", "taped", "I", false)
  | 2 => ("TroupeSums", "faultKind", "I", false)
  | 3 => ("TroupeSums", "faultPlace", "I", false)
  | 4 => ("TroupeSums", "troupe", "LTroupeSums$Troupe;", false)
  | 5 => ("TroupeSums", "sum", "[J", false)
  | 6 => ("TroupeSums", "units", "Ljava/util/List;", false)
  | _ => ("TroupeSums", "acts", "Ljava/util/ArrayDeque;", true)
def tyX0 : Nat → FieldType := fun k => match k with
  | 0 => .array .byte
  | 1 => .int
  | 2 => .int
  | 3 => .int
  | 4 => .object "TroupeSums$Troupe"
  | 5 => .array .long
  | 6 => .object "java/util/List"
  | _ => .object "java/util/ArrayDeque"
abbrev wsX00 : List Cond := u_ws RX0 TX0 8
theorem nmX0 : ∀ a, a < 8 → ∀ b, b < 8 → a ≠ b → (TX0 a).2.1 ≠ (TX0 b).2.1 := by decide +kernel
theorem tyX0_ok : ∀ k, k < 8 → parseFieldDescriptor (TX0 k).2.2.1 = some (tyX0 k) := by decide +kernel
abbrev cX0_init : ByteArray := prog_1_method_4_code
def yX0_init : MethodName := ⟨RX0, "<init>", "()V"⟩
def dkwX0_init_1 : List UInt8 := [181, 0, 27, 42, 4, 188, 11, 181, 0, 31, 42, 187, 0, 35, 89, 183, 0, 37, 181, 0, 38, 177]
abbrev dktX0_init_1 : List UInt8 := dkwX0_init_1 ++ []
def dkwX0_init_0 : List UInt8 := [42, 183, 0, 7, 42, 17, 2, 188, 188, 8, 181, 0, 15, 42, 2, 181, 0, 19, 42, 184, 0, 23]
abbrev dktX0_init_0 : List UInt8 := dkwX0_init_0 ++ dktX0_init_1
theorem dksX0_init_0 : cX0_init.data.toList.drop 0 = dktX0_init_0 := by decide +kernel
theorem dksX0_init_1 : cX0_init.data.toList.drop 22 = dktX0_init_1 := dk_seg dksX0_init_0 22 rfl rfl
theorem dX0_init_0 : decode cX0_init 0 = .ok (.aload_n 0, 1) := dk_42 (dk_at dksX0_init_0 0 rfl rfl)
theorem dX0_init_1 : decode cX0_init 1 = .ok (.invokespecial 7, 3) := dk_183 0 7 (dk_at dksX0_init_0 1 rfl rfl)
theorem dX0_init_4 : decode cX0_init 4 = .ok (.aload_n 0, 1) := dk_42 (dk_at dksX0_init_0 4 rfl rfl)
theorem dX0_init_5 : decode cX0_init 5 = .ok (.sipush 700, 3) := dk_17 2 188 (dk_at dksX0_init_0 5 rfl rfl)
theorem dX0_init_8 : decode cX0_init 8 = .ok (.newarray .byte, 2) := dk_188_8 (dk_at dksX0_init_0 8 rfl rfl)
theorem dX0_init_10 : decode cX0_init 10 = .ok (.putfield 15, 3) := dk_181 0 15 (dk_at dksX0_init_0 10 rfl rfl)
theorem dX0_init_13 : decode cX0_init 13 = .ok (.aload_n 0, 1) := dk_42 (dk_at dksX0_init_0 13 rfl rfl)
theorem dX0_init_14 : decode cX0_init 14 = .ok (.iconst (-1), 1) := dk_2 (dk_at dksX0_init_0 14 rfl rfl)
theorem dX0_init_15 : decode cX0_init 15 = .ok (.putfield 19, 3) := dk_181 0 19 (dk_at dksX0_init_0 15 rfl rfl)
theorem dX0_init_18 : decode cX0_init 18 = .ok (.aload_n 0, 1) := dk_42 (dk_at dksX0_init_0 18 rfl rfl)
theorem dX0_init_19 : decode cX0_init 19 = .ok (.invokestatic 23, 3) := dk_184 0 23 (dk_at dksX0_init_0 19 rfl rfl)
theorem dX0_init_22 : decode cX0_init 22 = .ok (.putfield 27, 3) := dk_181 0 27 (dk_at dksX0_init_1 0 rfl rfl)
theorem dX0_init_25 : decode cX0_init 25 = .ok (.aload_n 0, 1) := dk_42 (dk_at dksX0_init_1 3 rfl rfl)
theorem dX0_init_26 : decode cX0_init 26 = .ok (.iconst 1, 1) := dk_4 (dk_at dksX0_init_1 4 rfl rfl)
theorem dX0_init_27 : decode cX0_init 27 = .ok (.newarray .long, 2) := dk_188_11 (dk_at dksX0_init_1 5 rfl rfl)
theorem dX0_init_29 : decode cX0_init 29 = .ok (.putfield 31, 3) := dk_181 0 31 (dk_at dksX0_init_1 7 rfl rfl)
theorem dX0_init_32 : decode cX0_init 32 = .ok (.aload_n 0, 1) := dk_42 (dk_at dksX0_init_1 10 rfl rfl)
theorem dX0_init_33 : decode cX0_init 33 = .ok (.new 35, 3) := dk_187 0 35 (dk_at dksX0_init_1 11 rfl rfl)
theorem dX0_init_36 : decode cX0_init 36 = .ok (.dup, 1) := dk_89 (dk_at dksX0_init_1 14 rfl rfl)
theorem dX0_init_37 : decode cX0_init 37 = .ok (.invokespecial 37, 3) := dk_183 0 37 (dk_at dksX0_init_1 15 rfl rfl)
theorem dX0_init_40 : decode cX0_init 40 = .ok (.putfield 38, 3) := dk_181 0 38 (dk_at dksX0_init_1 18 rfl rfl)
theorem dX0_init_43 : decode cX0_init 43 = .ok (.return_, 1) := dk_177 (dk_at dksX0_init_1 21 rfl rfl)
abbrev cX0_alone : ByteArray := prog_1_method_5_code
def yX0_alone : MethodName := ⟨RX0, "alone", "()LTroupeSums$Troupe;"⟩
def dkwX0_alone_2 : List UInt8 := [42, 176]
abbrev dktX0_alone_2 : List UInt8 := dkwX0_alone_2 ++ []
def dkwX0_alone_1 : List UInt8 := [183, 0, 50, 3, 184, 0, 53, 182, 0, 59, 87, 42, 187, 0, 63, 89, 4, 43, 183, 0, 65, 181, 0, 68]
abbrev dktX0_alone_1 : List UInt8 := dkwX0_alone_1 ++ dktX0_alone_2
def dkwX0_alone_0 : List UInt8 := [187, 0, 42, 89, 183, 0, 44, 75, 187, 0, 45, 89, 183, 0, 47, 76, 43, 187, 0, 48, 89, 4, 188, 10]
abbrev dktX0_alone_0 : List UInt8 := dkwX0_alone_0 ++ dktX0_alone_1
theorem dksX0_alone_0 : cX0_alone.data.toList.drop 0 = dktX0_alone_0 := by decide +kernel
theorem dksX0_alone_1 : cX0_alone.data.toList.drop 24 = dktX0_alone_1 := dk_seg dksX0_alone_0 24 rfl rfl
theorem dksX0_alone_2 : cX0_alone.data.toList.drop 48 = dktX0_alone_2 := dk_seg dksX0_alone_1 24 rfl rfl
theorem dX0_alone_0 : decode cX0_alone 0 = .ok (.new 42, 3) := dk_187 0 42 (dk_at dksX0_alone_0 0 rfl rfl)
theorem dX0_alone_3 : decode cX0_alone 3 = .ok (.dup, 1) := dk_89 (dk_at dksX0_alone_0 3 rfl rfl)
theorem dX0_alone_4 : decode cX0_alone 4 = .ok (.invokespecial 44, 3) := dk_183 0 44 (dk_at dksX0_alone_0 4 rfl rfl)
theorem dX0_alone_7 : decode cX0_alone 7 = .ok (.astore_n 0, 1) := dk_75 (dk_at dksX0_alone_0 7 rfl rfl)
theorem dX0_alone_8 : decode cX0_alone 8 = .ok (.new 45, 3) := dk_187 0 45 (dk_at dksX0_alone_0 8 rfl rfl)
theorem dX0_alone_11 : decode cX0_alone 11 = .ok (.dup, 1) := dk_89 (dk_at dksX0_alone_0 11 rfl rfl)
theorem dX0_alone_12 : decode cX0_alone 12 = .ok (.invokespecial 47, 3) := dk_183 0 47 (dk_at dksX0_alone_0 12 rfl rfl)
theorem dX0_alone_15 : decode cX0_alone 15 = .ok (.astore_n 1, 1) := dk_76 (dk_at dksX0_alone_0 15 rfl rfl)
theorem dX0_alone_16 : decode cX0_alone 16 = .ok (.aload_n 1, 1) := dk_43 (dk_at dksX0_alone_0 16 rfl rfl)
theorem dX0_alone_17 : decode cX0_alone 17 = .ok (.new 48, 3) := dk_187 0 48 (dk_at dksX0_alone_0 17 rfl rfl)
theorem dX0_alone_20 : decode cX0_alone 20 = .ok (.dup, 1) := dk_89 (dk_at dksX0_alone_0 20 rfl rfl)
theorem dX0_alone_21 : decode cX0_alone 21 = .ok (.iconst 1, 1) := dk_4 (dk_at dksX0_alone_0 21 rfl rfl)
theorem dX0_alone_22 : decode cX0_alone 22 = .ok (.newarray .int, 2) := dk_188_10 (dk_at dksX0_alone_0 22 rfl rfl)
theorem dX0_alone_24 : decode cX0_alone 24 = .ok (.invokespecial 50, 3) := dk_183 0 50 (dk_at dksX0_alone_1 0 rfl rfl)
theorem dX0_alone_27 : decode cX0_alone 27 = .ok (.iconst 0, 1) := dk_3 (dk_at dksX0_alone_1 3 rfl rfl)
theorem dX0_alone_28 : decode cX0_alone 28 = .ok (.invokestatic 53, 3) := dk_184 0 53 (dk_at dksX0_alone_1 4 rfl rfl)
theorem dX0_alone_31 : decode cX0_alone 31 = .ok (.invokevirtual 59, 3) := dk_182 0 59 (dk_at dksX0_alone_1 7 rfl rfl)
theorem dX0_alone_34 : decode cX0_alone 34 = .ok (.pop, 1) := dk_87 (dk_at dksX0_alone_1 10 rfl rfl)
theorem dX0_alone_35 : decode cX0_alone 35 = .ok (.aload_n 0, 1) := dk_42 (dk_at dksX0_alone_1 11 rfl rfl)
theorem dX0_alone_36 : decode cX0_alone 36 = .ok (.new 63, 3) := dk_187 0 63 (dk_at dksX0_alone_1 12 rfl rfl)
theorem dX0_alone_39 : decode cX0_alone 39 = .ok (.dup, 1) := dk_89 (dk_at dksX0_alone_1 15 rfl rfl)
theorem dX0_alone_40 : decode cX0_alone 40 = .ok (.iconst 1, 1) := dk_4 (dk_at dksX0_alone_1 16 rfl rfl)
theorem dX0_alone_41 : decode cX0_alone 41 = .ok (.aload_n 1, 1) := dk_43 (dk_at dksX0_alone_1 17 rfl rfl)
theorem dX0_alone_42 : decode cX0_alone 42 = .ok (.invokespecial 65, 3) := dk_183 0 65 (dk_at dksX0_alone_1 18 rfl rfl)
theorem dX0_alone_45 : decode cX0_alone 45 = .ok (.putfield 68, 3) := dk_181 0 68 (dk_at dksX0_alone_1 21 rfl rfl)
theorem dX0_alone_48 : decode cX0_alone 48 = .ok (.aload_n 0, 1) := dk_42 (dk_at dksX0_alone_2 0 rfl rfl)
theorem dX0_alone_49 : decode cX0_alone 49 = .ok (.areturn, 1) := dk_176 (dk_at dksX0_alone_2 1 rfl rfl)
abbrev cX0_isOf : ByteArray := prog_1_method_2_code
def yX0_isOf : MethodName := ⟨RX0, "isOf", "(JI)Z"⟩
def dkwX0_isOf_0 : List UInt8 := [30, 28, 123, 10, 127, 10, 148, 154, 0, 7, 4, 167, 0, 4, 3, 172]
abbrev dktX0_isOf_0 : List UInt8 := dkwX0_isOf_0 ++ []
theorem dksX0_isOf_0 : cX0_isOf.data.toList.drop 0 = dktX0_isOf_0 := by decide +kernel
theorem dX0_isOf_0 : decode cX0_isOf 0 = .ok (.lload_n 0, 1) := dk_30 (dk_at dksX0_isOf_0 0 rfl rfl)
theorem dX0_isOf_1 : decode cX0_isOf 1 = .ok (.iload_n 2, 1) := dk_28 (dk_at dksX0_isOf_0 1 rfl rfl)
theorem dX0_isOf_2 : decode cX0_isOf 2 = .ok (.lshr, 1) := dk_123 (dk_at dksX0_isOf_0 2 rfl rfl)
theorem dX0_isOf_3 : decode cX0_isOf 3 = .ok (.lconst 1, 1) := dk_10 (dk_at dksX0_isOf_0 3 rfl rfl)
theorem dX0_isOf_4 : decode cX0_isOf 4 = .ok (.land, 1) := dk_127 (dk_at dksX0_isOf_0 4 rfl rfl)
theorem dX0_isOf_5 : decode cX0_isOf 5 = .ok (.lconst 1, 1) := dk_10 (dk_at dksX0_isOf_0 5 rfl rfl)
theorem dX0_isOf_6 : decode cX0_isOf 6 = .ok (.lcmp, 1) := dk_148 (dk_at dksX0_isOf_0 6 rfl rfl)
theorem dX0_isOf_7 : decode cX0_isOf 7 = .ok (.ifCond .ne 7, 3) := dk_154 0 7 (dk_at dksX0_isOf_0 7 rfl rfl)
theorem dX0_isOf_10 : decode cX0_isOf 10 = .ok (.iconst 1, 1) := dk_4 (dk_at dksX0_isOf_0 10 rfl rfl)
theorem dX0_isOf_11 : decode cX0_isOf 11 = .ok (.goto 4, 3) := dk_167 0 4 (dk_at dksX0_isOf_0 11 rfl rfl)
theorem dX0_isOf_14 : decode cX0_isOf 14 = .ok (.iconst 0, 1) := dk_3 (dk_at dksX0_isOf_0 14 rfl rfl)
theorem dX0_isOf_15 : decode cX0_isOf 15 = .ok (.ireturn, 1) := dk_172 (dk_at dksX0_isOf_0 15 rfl rfl)
abbrev cX0_feed : ByteArray := prog_1_method_6_code
def yX0_feed : MethodName := ⟨RX0, "feed", "(IIIII)I"⟩
def dkwX0_feed_4 : List UInt8 := [96, 181, 0, 72, 132, 10, 248, 167, 255, 223, 132, 8, 1, 167, 255, 199, 42, 180, 0, 72, 172]
abbrev dktX0_feed_4 : List UInt8 := dkwX0_feed_4 ++ []
def dkwX0_feed_3 : List UInt8 := [155, 0, 34, 42, 180, 0, 15, 42, 180, 0, 72, 21, 9, 21, 10, 122, 145, 84, 42, 89, 180, 0, 72, 4]
abbrev dktX0_feed_3 : List UInt8 := dkwX0_feed_3 ++ dktX0_feed_4
def dkwX0_feed_2 : List UInt8 := [54, 8, 21, 8, 21, 7, 162, 0, 56, 25, 6, 21, 8, 46, 54, 9, 16, 24, 54, 10, 21, 10]
abbrev dktX0_feed_2 : List UInt8 := dkwX0_feed_2 ++ dktX0_feed_3
def dkwX0_feed_1 : List UInt8 := [28, 79, 89, 5, 29, 79, 89, 6, 21, 4, 79, 89, 7, 21, 5, 79, 58, 6, 25, 6, 190, 54, 7, 3]
abbrev dktX0_feed_1 : List UInt8 := dkwX0_feed_1 ++ dktX0_feed_2
def dkwX0_feed_0 : List UInt8 := [42, 180, 0, 72, 16, 20, 96, 17, 2, 188, 164, 0, 5, 2, 172, 8, 188, 10, 89, 3, 27, 79, 89, 4]
abbrev dktX0_feed_0 : List UInt8 := dkwX0_feed_0 ++ dktX0_feed_1
theorem dksX0_feed_0 : cX0_feed.data.toList.drop 0 = dktX0_feed_0 := by decide +kernel
theorem dksX0_feed_1 : cX0_feed.data.toList.drop 24 = dktX0_feed_1 := dk_seg dksX0_feed_0 24 rfl rfl
theorem dksX0_feed_2 : cX0_feed.data.toList.drop 48 = dktX0_feed_2 := dk_seg dksX0_feed_1 24 rfl rfl
theorem dksX0_feed_3 : cX0_feed.data.toList.drop 70 = dktX0_feed_3 := dk_seg dksX0_feed_2 22 rfl rfl
theorem dksX0_feed_4 : cX0_feed.data.toList.drop 94 = dktX0_feed_4 := dk_seg dksX0_feed_3 24 rfl rfl
theorem dX0_feed_0 : decode cX0_feed 0 = .ok (.aload_n 0, 1) := dk_42 (dk_at dksX0_feed_0 0 rfl rfl)
theorem dX0_feed_1 : decode cX0_feed 1 = .ok (.getfield 72, 3) := dk_180 0 72 (dk_at dksX0_feed_0 1 rfl rfl)
theorem dX0_feed_4 : decode cX0_feed 4 = .ok (.bipush 20, 2) := dk_16 20 (dk_at dksX0_feed_0 4 rfl rfl)
theorem dX0_feed_6 : decode cX0_feed 6 = .ok (.iadd, 1) := dk_96 (dk_at dksX0_feed_0 6 rfl rfl)
theorem dX0_feed_7 : decode cX0_feed 7 = .ok (.sipush 700, 3) := dk_17 2 188 (dk_at dksX0_feed_0 7 rfl rfl)
theorem dX0_feed_10 : decode cX0_feed 10 = .ok (.if_icmp .le 5, 3) := dk_164 0 5 (dk_at dksX0_feed_0 10 rfl rfl)
theorem dX0_feed_13 : decode cX0_feed 13 = .ok (.iconst (-1), 1) := dk_2 (dk_at dksX0_feed_0 13 rfl rfl)
theorem dX0_feed_14 : decode cX0_feed 14 = .ok (.ireturn, 1) := dk_172 (dk_at dksX0_feed_0 14 rfl rfl)
theorem dX0_feed_15 : decode cX0_feed 15 = .ok (.iconst 5, 1) := dk_8 (dk_at dksX0_feed_0 15 rfl rfl)
theorem dX0_feed_16 : decode cX0_feed 16 = .ok (.newarray .int, 2) := dk_188_10 (dk_at dksX0_feed_0 16 rfl rfl)
theorem dX0_feed_18 : decode cX0_feed 18 = .ok (.dup, 1) := dk_89 (dk_at dksX0_feed_0 18 rfl rfl)
theorem dX0_feed_19 : decode cX0_feed 19 = .ok (.iconst 0, 1) := dk_3 (dk_at dksX0_feed_0 19 rfl rfl)
theorem dX0_feed_20 : decode cX0_feed 20 = .ok (.iload_n 1, 1) := dk_27 (dk_at dksX0_feed_0 20 rfl rfl)
theorem dX0_feed_21 : decode cX0_feed 21 = .ok (.iastore, 1) := dk_79 (dk_at dksX0_feed_0 21 rfl rfl)
theorem dX0_feed_22 : decode cX0_feed 22 = .ok (.dup, 1) := dk_89 (dk_at dksX0_feed_0 22 rfl rfl)
theorem dX0_feed_23 : decode cX0_feed 23 = .ok (.iconst 1, 1) := dk_4 (dk_at dksX0_feed_0 23 rfl rfl)
theorem dX0_feed_24 : decode cX0_feed 24 = .ok (.iload_n 2, 1) := dk_28 (dk_at dksX0_feed_1 0 rfl rfl)
theorem dX0_feed_25 : decode cX0_feed 25 = .ok (.iastore, 1) := dk_79 (dk_at dksX0_feed_1 1 rfl rfl)
theorem dX0_feed_26 : decode cX0_feed 26 = .ok (.dup, 1) := dk_89 (dk_at dksX0_feed_1 2 rfl rfl)
theorem dX0_feed_27 : decode cX0_feed 27 = .ok (.iconst 2, 1) := dk_5 (dk_at dksX0_feed_1 3 rfl rfl)
theorem dX0_feed_28 : decode cX0_feed 28 = .ok (.iload_n 3, 1) := dk_29 (dk_at dksX0_feed_1 4 rfl rfl)
theorem dX0_feed_29 : decode cX0_feed 29 = .ok (.iastore, 1) := dk_79 (dk_at dksX0_feed_1 5 rfl rfl)
theorem dX0_feed_30 : decode cX0_feed 30 = .ok (.dup, 1) := dk_89 (dk_at dksX0_feed_1 6 rfl rfl)
theorem dX0_feed_31 : decode cX0_feed 31 = .ok (.iconst 3, 1) := dk_6 (dk_at dksX0_feed_1 7 rfl rfl)
theorem dX0_feed_32 : decode cX0_feed 32 = .ok (.iload 4, 2) := dk_21 4 (dk_at dksX0_feed_1 8 rfl rfl)
theorem dX0_feed_34 : decode cX0_feed 34 = .ok (.iastore, 1) := dk_79 (dk_at dksX0_feed_1 10 rfl rfl)
theorem dX0_feed_35 : decode cX0_feed 35 = .ok (.dup, 1) := dk_89 (dk_at dksX0_feed_1 11 rfl rfl)
theorem dX0_feed_36 : decode cX0_feed 36 = .ok (.iconst 4, 1) := dk_7 (dk_at dksX0_feed_1 12 rfl rfl)
theorem dX0_feed_37 : decode cX0_feed 37 = .ok (.iload 5, 2) := dk_21 5 (dk_at dksX0_feed_1 13 rfl rfl)
theorem dX0_feed_39 : decode cX0_feed 39 = .ok (.iastore, 1) := dk_79 (dk_at dksX0_feed_1 15 rfl rfl)
theorem dX0_feed_40 : decode cX0_feed 40 = .ok (.astore 6, 2) := dk_58 6 (dk_at dksX0_feed_1 16 rfl rfl)
theorem dX0_feed_42 : decode cX0_feed 42 = .ok (.aload 6, 2) := dk_25 6 (dk_at dksX0_feed_1 18 rfl rfl)
theorem dX0_feed_44 : decode cX0_feed 44 = .ok (.arraylength, 1) := dk_190 (dk_at dksX0_feed_1 20 rfl rfl)
theorem dX0_feed_45 : decode cX0_feed 45 = .ok (.istore 7, 2) := dk_54 7 (dk_at dksX0_feed_1 21 rfl rfl)
theorem dX0_feed_47 : decode cX0_feed 47 = .ok (.iconst 0, 1) := dk_3 (dk_at dksX0_feed_1 23 rfl rfl)
theorem dX0_feed_48 : decode cX0_feed 48 = .ok (.istore 8, 2) := dk_54 8 (dk_at dksX0_feed_2 0 rfl rfl)
theorem dX0_feed_50 : decode cX0_feed 50 = .ok (.iload 8, 2) := dk_21 8 (dk_at dksX0_feed_2 2 rfl rfl)
theorem dX0_feed_52 : decode cX0_feed 52 = .ok (.iload 7, 2) := dk_21 7 (dk_at dksX0_feed_2 4 rfl rfl)
theorem dX0_feed_54 : decode cX0_feed 54 = .ok (.if_icmp .ge 56, 3) := dk_162 0 56 (dk_at dksX0_feed_2 6 rfl rfl)
theorem dX0_feed_57 : decode cX0_feed 57 = .ok (.aload 6, 2) := dk_25 6 (dk_at dksX0_feed_2 9 rfl rfl)
theorem dX0_feed_59 : decode cX0_feed 59 = .ok (.iload 8, 2) := dk_21 8 (dk_at dksX0_feed_2 11 rfl rfl)
theorem dX0_feed_61 : decode cX0_feed 61 = .ok (.iaload, 1) := dk_46 (dk_at dksX0_feed_2 13 rfl rfl)
theorem dX0_feed_62 : decode cX0_feed 62 = .ok (.istore 9, 2) := dk_54 9 (dk_at dksX0_feed_2 14 rfl rfl)
theorem dX0_feed_64 : decode cX0_feed 64 = .ok (.bipush 24, 2) := dk_16 24 (dk_at dksX0_feed_2 16 rfl rfl)
theorem dX0_feed_66 : decode cX0_feed 66 = .ok (.istore 10, 2) := dk_54 10 (dk_at dksX0_feed_2 18 rfl rfl)
theorem dX0_feed_68 : decode cX0_feed 68 = .ok (.iload 10, 2) := dk_21 10 (dk_at dksX0_feed_2 20 rfl rfl)
theorem dX0_feed_70 : decode cX0_feed 70 = .ok (.ifCond .lt 34, 3) := dk_155 0 34 (dk_at dksX0_feed_3 0 rfl rfl)
theorem dX0_feed_73 : decode cX0_feed 73 = .ok (.aload_n 0, 1) := dk_42 (dk_at dksX0_feed_3 3 rfl rfl)
theorem dX0_feed_74 : decode cX0_feed 74 = .ok (.getfield 15, 3) := dk_180 0 15 (dk_at dksX0_feed_3 4 rfl rfl)
theorem dX0_feed_77 : decode cX0_feed 77 = .ok (.aload_n 0, 1) := dk_42 (dk_at dksX0_feed_3 7 rfl rfl)
theorem dX0_feed_78 : decode cX0_feed 78 = .ok (.getfield 72, 3) := dk_180 0 72 (dk_at dksX0_feed_3 8 rfl rfl)
theorem dX0_feed_81 : decode cX0_feed 81 = .ok (.iload 9, 2) := dk_21 9 (dk_at dksX0_feed_3 11 rfl rfl)
theorem dX0_feed_83 : decode cX0_feed 83 = .ok (.iload 10, 2) := dk_21 10 (dk_at dksX0_feed_3 13 rfl rfl)
theorem dX0_feed_85 : decode cX0_feed 85 = .ok (.ishr, 1) := dk_122 (dk_at dksX0_feed_3 15 rfl rfl)
theorem dX0_feed_86 : decode cX0_feed 86 = .ok (.i2b, 1) := dk_145 (dk_at dksX0_feed_3 16 rfl rfl)
theorem dX0_feed_87 : decode cX0_feed 87 = .ok (.bastore, 1) := dk_84 (dk_at dksX0_feed_3 17 rfl rfl)
theorem dX0_feed_88 : decode cX0_feed 88 = .ok (.aload_n 0, 1) := dk_42 (dk_at dksX0_feed_3 18 rfl rfl)
theorem dX0_feed_89 : decode cX0_feed 89 = .ok (.dup, 1) := dk_89 (dk_at dksX0_feed_3 19 rfl rfl)
theorem dX0_feed_90 : decode cX0_feed 90 = .ok (.getfield 72, 3) := dk_180 0 72 (dk_at dksX0_feed_3 20 rfl rfl)
theorem dX0_feed_93 : decode cX0_feed 93 = .ok (.iconst 1, 1) := dk_4 (dk_at dksX0_feed_3 23 rfl rfl)
theorem dX0_feed_94 : decode cX0_feed 94 = .ok (.iadd, 1) := dk_96 (dk_at dksX0_feed_4 0 rfl rfl)
theorem dX0_feed_95 : decode cX0_feed 95 = .ok (.putfield 72, 3) := dk_181 0 72 (dk_at dksX0_feed_4 1 rfl rfl)
theorem dX0_feed_98 : decode cX0_feed 98 = .ok (.iinc 10 (-8), 3) := dk_132 10 248 (dk_at dksX0_feed_4 4 rfl rfl)
theorem dX0_feed_101 : decode cX0_feed 101 = .ok (.goto (-33), 3) := dk_167 255 223 (dk_at dksX0_feed_4 7 rfl rfl)
theorem dX0_feed_104 : decode cX0_feed 104 = .ok (.iinc 8 1, 3) := dk_132 8 1 (dk_at dksX0_feed_4 10 rfl rfl)
theorem dX0_feed_107 : decode cX0_feed 107 = .ok (.goto (-57), 3) := dk_167 255 199 (dk_at dksX0_feed_4 13 rfl rfl)
theorem dX0_feed_110 : decode cX0_feed 110 = .ok (.aload_n 0, 1) := dk_42 (dk_at dksX0_feed_4 16 rfl rfl)
theorem dX0_feed_111 : decode cX0_feed 111 = .ok (.getfield 72, 3) := dk_180 0 72 (dk_at dksX0_feed_4 17 rfl rfl)
theorem dX0_feed_114 : decode cX0_feed 114 = .ok (.ireturn, 1) := dk_172 (dk_at dksX0_feed_4 20 rfl rfl)
abbrev cX0_end : ByteArray := prog_1_method_7_code
def yX0_end : MethodName := ⟨RX0, "end", "(I)I"⟩
def dkwX0_end_0 : List UInt8 := [27, 155, 0, 11, 27, 42, 180, 0, 72, 164, 0, 5, 2, 172, 42, 27, 181, 0, 72, 27, 172]
abbrev dktX0_end_0 : List UInt8 := dkwX0_end_0 ++ []
theorem dksX0_end_0 : cX0_end.data.toList.drop 0 = dktX0_end_0 := by decide +kernel
theorem dX0_end_0 : decode cX0_end 0 = .ok (.iload_n 1, 1) := dk_27 (dk_at dksX0_end_0 0 rfl rfl)
theorem dX0_end_1 : decode cX0_end 1 = .ok (.ifCond .lt 11, 3) := dk_155 0 11 (dk_at dksX0_end_0 1 rfl rfl)
theorem dX0_end_4 : decode cX0_end 4 = .ok (.iload_n 1, 1) := dk_27 (dk_at dksX0_end_0 4 rfl rfl)
theorem dX0_end_5 : decode cX0_end 5 = .ok (.aload_n 0, 1) := dk_42 (dk_at dksX0_end_0 5 rfl rfl)
theorem dX0_end_6 : decode cX0_end 6 = .ok (.getfield 72, 3) := dk_180 0 72 (dk_at dksX0_end_0 6 rfl rfl)
theorem dX0_end_9 : decode cX0_end 9 = .ok (.if_icmp .le 5, 3) := dk_164 0 5 (dk_at dksX0_end_0 9 rfl rfl)
theorem dX0_end_12 : decode cX0_end 12 = .ok (.iconst (-1), 1) := dk_2 (dk_at dksX0_end_0 12 rfl rfl)
theorem dX0_end_13 : decode cX0_end 13 = .ok (.ireturn, 1) := dk_172 (dk_at dksX0_end_0 13 rfl rfl)
theorem dX0_end_14 : decode cX0_end 14 = .ok (.aload_n 0, 1) := dk_42 (dk_at dksX0_end_0 14 rfl rfl)
theorem dX0_end_15 : decode cX0_end 15 = .ok (.iload_n 1, 1) := dk_27 (dk_at dksX0_end_0 15 rfl rfl)
theorem dX0_end_16 : decode cX0_end 16 = .ok (.putfield 72, 3) := dk_181 0 72 (dk_at dksX0_end_0 16 rfl rfl)
theorem dX0_end_19 : decode cX0_end 19 = .ok (.iload_n 1, 1) := dk_27 (dk_at dksX0_end_0 19 rfl rfl)
theorem dX0_end_20 : decode cX0_end 20 = .ok (.ireturn, 1) := dk_172 (dk_at dksX0_end_0 20 rfl rfl)
abbrev cX0_troupe : ByteArray := prog_1_method_11_code
def yX0_troupe : MethodName := ⟨RX0, "troupe", "()I"⟩
def dkwX0_troupe_3 : List UInt8 := [182, 0, 121, 172]
abbrev dktX0_troupe_3 : List UInt8 := dkwX0_troupe_3 ++ []
def dkwX0_troupe_2 : List UInt8 := [181, 0, 31, 42, 1, 181, 0, 114, 42, 180, 0, 38, 182, 0, 118, 42, 180, 0, 27, 180, 0, 68]
abbrev dktX0_troupe_2 : List UInt8 := dkwX0_troupe_2 ++ dktX0_troupe_3
def dkwX0_troupe_1 : List UInt8 := [181, 0, 27, 167, 0, 13, 76, 42, 43, 182, 0, 103, 182, 0, 107, 172, 42, 42, 182, 0, 111, 188, 11]
abbrev dktX0_troupe_1 : List UInt8 := dkwX0_troupe_1 ++ dktX0_troupe_2
def dkwX0_troupe_0 : List UInt8 := [42, 182, 0, 86, 42, 187, 0, 89, 89, 42, 180, 0, 15, 42, 182, 0, 91, 183, 0, 95, 182, 0, 98]
abbrev dktX0_troupe_0 : List UInt8 := dkwX0_troupe_0 ++ dktX0_troupe_1
theorem dksX0_troupe_0 : cX0_troupe.data.toList.drop 0 = dktX0_troupe_0 := by decide +kernel
theorem dksX0_troupe_1 : cX0_troupe.data.toList.drop 23 = dktX0_troupe_1 := dk_seg dksX0_troupe_0 23 rfl rfl
theorem dksX0_troupe_2 : cX0_troupe.data.toList.drop 46 = dktX0_troupe_2 := dk_seg dksX0_troupe_1 23 rfl rfl
theorem dksX0_troupe_3 : cX0_troupe.data.toList.drop 68 = dktX0_troupe_3 := dk_seg dksX0_troupe_2 22 rfl rfl
theorem dX0_troupe_0 : decode cX0_troupe 0 = .ok (.aload_n 0, 1) := dk_42 (dk_at dksX0_troupe_0 0 rfl rfl)
theorem dX0_troupe_1 : decode cX0_troupe 1 = .ok (.invokevirtual 86, 3) := dk_182 0 86 (dk_at dksX0_troupe_0 1 rfl rfl)
theorem dX0_troupe_4 : decode cX0_troupe 4 = .ok (.aload_n 0, 1) := dk_42 (dk_at dksX0_troupe_0 4 rfl rfl)
theorem dX0_troupe_5 : decode cX0_troupe 5 = .ok (.new 89, 3) := dk_187 0 89 (dk_at dksX0_troupe_0 5 rfl rfl)
theorem dX0_troupe_8 : decode cX0_troupe 8 = .ok (.dup, 1) := dk_89 (dk_at dksX0_troupe_0 8 rfl rfl)
theorem dX0_troupe_9 : decode cX0_troupe 9 = .ok (.aload_n 0, 1) := dk_42 (dk_at dksX0_troupe_0 9 rfl rfl)
theorem dX0_troupe_10 : decode cX0_troupe 10 = .ok (.getfield 15, 3) := dk_180 0 15 (dk_at dksX0_troupe_0 10 rfl rfl)
theorem dX0_troupe_13 : decode cX0_troupe 13 = .ok (.aload_n 0, 1) := dk_42 (dk_at dksX0_troupe_0 13 rfl rfl)
theorem dX0_troupe_14 : decode cX0_troupe 14 = .ok (.invokevirtual 91, 3) := dk_182 0 91 (dk_at dksX0_troupe_0 14 rfl rfl)
theorem dX0_troupe_17 : decode cX0_troupe 17 = .ok (.invokespecial 95, 3) := dk_183 0 95 (dk_at dksX0_troupe_0 17 rfl rfl)
theorem dX0_troupe_20 : decode cX0_troupe 20 = .ok (.invokevirtual 98, 3) := dk_182 0 98 (dk_at dksX0_troupe_0 20 rfl rfl)
theorem dX0_troupe_23 : decode cX0_troupe 23 = .ok (.putfield 27, 3) := dk_181 0 27 (dk_at dksX0_troupe_1 0 rfl rfl)
theorem dX0_troupe_26 : decode cX0_troupe 26 = .ok (.goto 13, 3) := dk_167 0 13 (dk_at dksX0_troupe_1 3 rfl rfl)
theorem dX0_troupe_29 : decode cX0_troupe 29 = .ok (.astore_n 1, 1) := dk_76 (dk_at dksX0_troupe_1 6 rfl rfl)
theorem dX0_troupe_30 : decode cX0_troupe 30 = .ok (.aload_n 0, 1) := dk_42 (dk_at dksX0_troupe_1 7 rfl rfl)
theorem dX0_troupe_31 : decode cX0_troupe 31 = .ok (.aload_n 1, 1) := dk_43 (dk_at dksX0_troupe_1 8 rfl rfl)
theorem dX0_troupe_32 : decode cX0_troupe 32 = .ok (.invokevirtual 103, 3) := dk_182 0 103 (dk_at dksX0_troupe_1 9 rfl rfl)
theorem dX0_troupe_35 : decode cX0_troupe 35 = .ok (.invokevirtual 107, 3) := dk_182 0 107 (dk_at dksX0_troupe_1 12 rfl rfl)
theorem dX0_troupe_38 : decode cX0_troupe 38 = .ok (.ireturn, 1) := dk_172 (dk_at dksX0_troupe_1 15 rfl rfl)
theorem dX0_troupe_39 : decode cX0_troupe 39 = .ok (.aload_n 0, 1) := dk_42 (dk_at dksX0_troupe_1 16 rfl rfl)
theorem dX0_troupe_40 : decode cX0_troupe 40 = .ok (.aload_n 0, 1) := dk_42 (dk_at dksX0_troupe_1 17 rfl rfl)
theorem dX0_troupe_41 : decode cX0_troupe 41 = .ok (.invokevirtual 111, 3) := dk_182 0 111 (dk_at dksX0_troupe_1 18 rfl rfl)
theorem dX0_troupe_44 : decode cX0_troupe 44 = .ok (.newarray .long, 2) := dk_188_11 (dk_at dksX0_troupe_1 21 rfl rfl)
theorem dX0_troupe_46 : decode cX0_troupe 46 = .ok (.putfield 31, 3) := dk_181 0 31 (dk_at dksX0_troupe_2 0 rfl rfl)
theorem dX0_troupe_49 : decode cX0_troupe 49 = .ok (.aload_n 0, 1) := dk_42 (dk_at dksX0_troupe_2 3 rfl rfl)
theorem dX0_troupe_50 : decode cX0_troupe 50 = .ok (.aconst_null, 1) := dk_1 (dk_at dksX0_troupe_2 4 rfl rfl)
theorem dX0_troupe_51 : decode cX0_troupe 51 = .ok (.putfield 114, 3) := dk_181 0 114 (dk_at dksX0_troupe_2 5 rfl rfl)
theorem dX0_troupe_54 : decode cX0_troupe 54 = .ok (.aload_n 0, 1) := dk_42 (dk_at dksX0_troupe_2 8 rfl rfl)
theorem dX0_troupe_55 : decode cX0_troupe 55 = .ok (.getfield 38, 3) := dk_180 0 38 (dk_at dksX0_troupe_2 9 rfl rfl)
theorem dX0_troupe_58 : decode cX0_troupe 58 = .ok (.invokevirtual 118, 3) := dk_182 0 118 (dk_at dksX0_troupe_2 12 rfl rfl)
theorem dX0_troupe_61 : decode cX0_troupe 61 = .ok (.aload_n 0, 1) := dk_42 (dk_at dksX0_troupe_2 15 rfl rfl)
theorem dX0_troupe_62 : decode cX0_troupe 62 = .ok (.getfield 27, 3) := dk_180 0 27 (dk_at dksX0_troupe_2 16 rfl rfl)
theorem dX0_troupe_65 : decode cX0_troupe 65 = .ok (.getfield 68, 3) := dk_180 0 68 (dk_at dksX0_troupe_2 19 rfl rfl)
theorem dX0_troupe_68 : decode cX0_troupe 68 = .ok (.invokevirtual 121, 3) := dk_182 0 121 (dk_at dksX0_troupe_3 0 rfl rfl)
theorem dX0_troupe_71 : decode cX0_troupe 71 = .ok (.ireturn, 1) := dk_172 (dk_at dksX0_troupe_3 3 rfl rfl)
abbrev cX0_right : ByteArray := prog_1_method_10_code
def yX0_right : MethodName := ⟨RX0, "right", "()V"⟩
def dkwX0_right_0 : List UInt8 := [42, 3, 181, 0, 80, 42, 2, 181, 0, 19, 177]
abbrev dktX0_right_0 : List UInt8 := dkwX0_right_0 ++ []
theorem dksX0_right_0 : cX0_right.data.toList.drop 0 = dktX0_right_0 := by decide +kernel
theorem dX0_right_0 : decode cX0_right 0 = .ok (.aload_n 0, 1) := dk_42 (dk_at dksX0_right_0 0 rfl rfl)
theorem dX0_right_1 : decode cX0_right 1 = .ok (.iconst 0, 1) := dk_3 (dk_at dksX0_right_0 1 rfl rfl)
theorem dX0_right_2 : decode cX0_right 2 = .ok (.putfield 80, 3) := dk_181 0 80 (dk_at dksX0_right_0 2 rfl rfl)
theorem dX0_right_5 : decode cX0_right 5 = .ok (.aload_n 0, 1) := dk_42 (dk_at dksX0_right_0 5 rfl rfl)
theorem dX0_right_6 : decode cX0_right 6 = .ok (.iconst (-1), 1) := dk_2 (dk_at dksX0_right_0 6 rfl rfl)
theorem dX0_right_7 : decode cX0_right 7 = .ok (.putfield 19, 3) := dk_181 0 19 (dk_at dksX0_right_0 7 rfl rfl)
theorem dX0_right_10 : decode cX0_right 10 = .ok (.return_, 1) := dk_177 (dk_at dksX0_right_0 10 rfl rfl)
abbrev cX0_taken : ByteArray := prog_1_method_8_code
def yX0_taken : MethodName := ⟨RX0, "taken", "()I"⟩
def dkwX0_taken_0 : List UInt8 := [42, 180, 0, 72, 60, 42, 3, 181, 0, 72, 27, 172]
abbrev dktX0_taken_0 : List UInt8 := dkwX0_taken_0 ++ []
theorem dksX0_taken_0 : cX0_taken.data.toList.drop 0 = dktX0_taken_0 := by decide +kernel
theorem dX0_taken_0 : decode cX0_taken 0 = .ok (.aload_n 0, 1) := dk_42 (dk_at dksX0_taken_0 0 rfl rfl)
theorem dX0_taken_1 : decode cX0_taken 1 = .ok (.getfield 72, 3) := dk_180 0 72 (dk_at dksX0_taken_0 1 rfl rfl)
theorem dX0_taken_4 : decode cX0_taken 4 = .ok (.istore_n 1, 1) := dk_60 (dk_at dksX0_taken_0 4 rfl rfl)
theorem dX0_taken_5 : decode cX0_taken 5 = .ok (.aload_n 0, 1) := dk_42 (dk_at dksX0_taken_0 5 rfl rfl)
theorem dX0_taken_6 : decode cX0_taken 6 = .ok (.iconst 0, 1) := dk_3 (dk_at dksX0_taken_0 6 rfl rfl)
theorem dX0_taken_7 : decode cX0_taken 7 = .ok (.putfield 72, 3) := dk_181 0 72 (dk_at dksX0_taken_0 7 rfl rfl)
theorem dX0_taken_10 : decode cX0_taken 10 = .ok (.iload_n 1, 1) := dk_27 (dk_at dksX0_taken_0 10 rfl rfl)
theorem dX0_taken_11 : decode cX0_taken 11 = .ok (.ireturn, 1) := dk_172 (dk_at dksX0_taken_0 11 rfl rfl)
abbrev cX0_isIn : ByteArray := prog_1_method_1_code
def yX0_isIn : MethodName := ⟨RX0, "isIn", "(JJJ)Z"⟩
def dkwX0_isIn_0 : List UInt8 := [30, 32, 148, 155, 0, 14, 30, 22, 4, 148, 157, 0, 7, 4, 167, 0, 4, 3, 172]
abbrev dktX0_isIn_0 : List UInt8 := dkwX0_isIn_0 ++ []
theorem dksX0_isIn_0 : cX0_isIn.data.toList.drop 0 = dktX0_isIn_0 := by decide +kernel
theorem dX0_isIn_0 : decode cX0_isIn 0 = .ok (.lload_n 0, 1) := dk_30 (dk_at dksX0_isIn_0 0 rfl rfl)
theorem dX0_isIn_1 : decode cX0_isIn 1 = .ok (.lload_n 2, 1) := dk_32 (dk_at dksX0_isIn_0 1 rfl rfl)
theorem dX0_isIn_2 : decode cX0_isIn 2 = .ok (.lcmp, 1) := dk_148 (dk_at dksX0_isIn_0 2 rfl rfl)
theorem dX0_isIn_3 : decode cX0_isIn 3 = .ok (.ifCond .lt 14, 3) := dk_155 0 14 (dk_at dksX0_isIn_0 3 rfl rfl)
theorem dX0_isIn_6 : decode cX0_isIn 6 = .ok (.lload_n 0, 1) := dk_30 (dk_at dksX0_isIn_0 6 rfl rfl)
theorem dX0_isIn_7 : decode cX0_isIn 7 = .ok (.lload 4, 2) := dk_22 4 (dk_at dksX0_isIn_0 7 rfl rfl)
theorem dX0_isIn_9 : decode cX0_isIn 9 = .ok (.lcmp, 1) := dk_148 (dk_at dksX0_isIn_0 9 rfl rfl)
theorem dX0_isIn_10 : decode cX0_isIn 10 = .ok (.ifCond .gt 7, 3) := dk_157 0 7 (dk_at dksX0_isIn_0 10 rfl rfl)
theorem dX0_isIn_13 : decode cX0_isIn 13 = .ok (.iconst 1, 1) := dk_4 (dk_at dksX0_isIn_0 13 rfl rfl)
theorem dX0_isIn_14 : decode cX0_isIn 14 = .ok (.goto 4, 3) := dk_167 0 4 (dk_at dksX0_isIn_0 14 rfl rfl)
theorem dX0_isIn_17 : decode cX0_isIn 17 = .ok (.iconst 0, 1) := dk_3 (dk_at dksX0_isIn_0 17 rfl rfl)
theorem dX0_isIn_18 : decode cX0_isIn 18 = .ok (.ireturn, 1) := dk_172 (dk_at dksX0_isIn_0 18 rfl rfl)
abbrev cX0_faulted : ByteArray := prog_1_method_9_code
def yX0_faulted : MethodName := ⟨RX0, "faulted", "(LTroupeSums$Wrong;)I"⟩
def dkwX0_faulted_0 : List UInt8 := [42, 43, 180, 0, 75, 181, 0, 80, 42, 43, 180, 0, 83, 181, 0, 19, 2, 172]
abbrev dktX0_faulted_0 : List UInt8 := dkwX0_faulted_0 ++ []
theorem dksX0_faulted_0 : cX0_faulted.data.toList.drop 0 = dktX0_faulted_0 := by decide +kernel
theorem dX0_faulted_0 : decode cX0_faulted 0 = .ok (.aload_n 0, 1) := dk_42 (dk_at dksX0_faulted_0 0 rfl rfl)
theorem dX0_faulted_1 : decode cX0_faulted 1 = .ok (.aload_n 1, 1) := dk_43 (dk_at dksX0_faulted_0 1 rfl rfl)
theorem dX0_faulted_2 : decode cX0_faulted 2 = .ok (.getfield 75, 3) := dk_180 0 75 (dk_at dksX0_faulted_0 2 rfl rfl)
theorem dX0_faulted_5 : decode cX0_faulted 5 = .ok (.putfield 80, 3) := dk_181 0 80 (dk_at dksX0_faulted_0 5 rfl rfl)
theorem dX0_faulted_8 : decode cX0_faulted 8 = .ok (.aload_n 0, 1) := dk_42 (dk_at dksX0_faulted_0 8 rfl rfl)
theorem dX0_faulted_9 : decode cX0_faulted 9 = .ok (.aload_n 1, 1) := dk_43 (dk_at dksX0_faulted_0 9 rfl rfl)
theorem dX0_faulted_10 : decode cX0_faulted 10 = .ok (.getfield 83, 3) := dk_180 0 83 (dk_at dksX0_faulted_0 10 rfl rfl)
theorem dX0_faulted_13 : decode cX0_faulted 13 = .ok (.putfield 19, 3) := dk_181 0 19 (dk_at dksX0_faulted_0 13 rfl rfl)
theorem dX0_faulted_16 : decode cX0_faulted 16 = .ok (.iconst (-1), 1) := dk_2 (dk_at dksX0_faulted_0 16 rfl rfl)
theorem dX0_faulted_17 : decode cX0_faulted 17 = .ok (.ireturn, 1) := dk_172 (dk_at dksX0_faulted_0 17 rfl rfl)
abbrev cX0_sorts : ByteArray := prog_1_method_13_code
def yX0_sorts : MethodName := ⟨RX0, "sorts", "()I"⟩
def dkwX0_sorts_0 : List UInt8 := [42, 180, 0, 27, 180, 0, 68, 180, 0, 124, 185, 0, 126, 1, 0, 172]
abbrev dktX0_sorts_0 : List UInt8 := dkwX0_sorts_0 ++ []
theorem dksX0_sorts_0 : cX0_sorts.data.toList.drop 0 = dktX0_sorts_0 := by decide +kernel
theorem dX0_sorts_0 : decode cX0_sorts 0 = .ok (.aload_n 0, 1) := dk_42 (dk_at dksX0_sorts_0 0 rfl rfl)
theorem dX0_sorts_1 : decode cX0_sorts 1 = .ok (.getfield 27, 3) := dk_180 0 27 (dk_at dksX0_sorts_0 1 rfl rfl)
theorem dX0_sorts_4 : decode cX0_sorts 4 = .ok (.getfield 68, 3) := dk_180 0 68 (dk_at dksX0_sorts_0 4 rfl rfl)
theorem dX0_sorts_7 : decode cX0_sorts 7 = .ok (.getfield 124, 3) := dk_180 0 124 (dk_at dksX0_sorts_0 7 rfl rfl)
theorem dX0_sorts_10 : decode cX0_sorts 10 = .ok (.invokeinterface 126 1, 5) := by decide +kernel
theorem dX0_sorts_15 : decode cX0_sorts 15 = .ok (.ireturn, 1) := dk_172 (dk_at dksX0_sorts_0 15 rfl rfl)
abbrev cX0_fault : ByteArray := prog_1_method_12_code
def yX0_fault : MethodName := ⟨RX0, "fault", "(I)I"⟩
def dkwX0_fault_1 : List UInt8 := [172]
abbrev dktX0_fault_1 : List UInt8 := dkwX0_fault_1 ++ []
def dkwX0_fault_0 : List UInt8 := [27, 154, 0, 10, 42, 180, 0, 80, 167, 0, 16, 27, 4, 160, 0, 10, 42, 180, 0, 19, 167, 0, 4, 2]
abbrev dktX0_fault_0 : List UInt8 := dkwX0_fault_0 ++ dktX0_fault_1
theorem dksX0_fault_0 : cX0_fault.data.toList.drop 0 = dktX0_fault_0 := by decide +kernel
theorem dksX0_fault_1 : cX0_fault.data.toList.drop 24 = dktX0_fault_1 := dk_seg dksX0_fault_0 24 rfl rfl
theorem dX0_fault_0 : decode cX0_fault 0 = .ok (.iload_n 1, 1) := dk_27 (dk_at dksX0_fault_0 0 rfl rfl)
theorem dX0_fault_1 : decode cX0_fault 1 = .ok (.ifCond .ne 10, 3) := dk_154 0 10 (dk_at dksX0_fault_0 1 rfl rfl)
theorem dX0_fault_4 : decode cX0_fault 4 = .ok (.aload_n 0, 1) := dk_42 (dk_at dksX0_fault_0 4 rfl rfl)
theorem dX0_fault_5 : decode cX0_fault 5 = .ok (.getfield 80, 3) := dk_180 0 80 (dk_at dksX0_fault_0 5 rfl rfl)
theorem dX0_fault_8 : decode cX0_fault 8 = .ok (.goto 16, 3) := dk_167 0 16 (dk_at dksX0_fault_0 8 rfl rfl)
theorem dX0_fault_11 : decode cX0_fault 11 = .ok (.iload_n 1, 1) := dk_27 (dk_at dksX0_fault_0 11 rfl rfl)
theorem dX0_fault_12 : decode cX0_fault 12 = .ok (.iconst 1, 1) := dk_4 (dk_at dksX0_fault_0 12 rfl rfl)
theorem dX0_fault_13 : decode cX0_fault 13 = .ok (.if_icmp .ne 10, 3) := dk_160 0 10 (dk_at dksX0_fault_0 13 rfl rfl)
theorem dX0_fault_16 : decode cX0_fault 16 = .ok (.aload_n 0, 1) := dk_42 (dk_at dksX0_fault_0 16 rfl rfl)
theorem dX0_fault_17 : decode cX0_fault 17 = .ok (.getfield 19, 3) := dk_180 0 19 (dk_at dksX0_fault_0 17 rfl rfl)
theorem dX0_fault_20 : decode cX0_fault 20 = .ok (.goto 4, 3) := dk_167 0 4 (dk_at dksX0_fault_0 20 rfl rfl)
theorem dX0_fault_23 : decode cX0_fault 23 = .ok (.iconst (-1), 1) := dk_2 (dk_at dksX0_fault_0 23 rfl rfl)
theorem dX0_fault_24 : decode cX0_fault 24 = .ok (.ireturn, 1) := dk_172 (dk_at dksX0_fault_1 0 rfl rfl)
abbrev cX0_about : ByteArray := prog_1_method_17_code
def yX0_about : MethodName := ⟨RX0, "about", "(I)I"⟩
def dkwX0_about_6 : List UInt8 := [42, 180, 0, 72, 167, 0, 4, 2, 172]
abbrev dktX0_about_6 : List UInt8 := dkwX0_about_6 ++ []
def dkwX0_about_5 : List UInt8 := [182, 0, 145, 153, 0, 7, 4, 167, 0, 25, 3, 167, 0, 21, 42, 180, 0, 38, 182, 0, 149, 167, 0, 11]
abbrev dktX0_about_5 : List UInt8 := dkwX0_about_5 ++ dktX0_about_6
def dkwX0_about_4 : List UInt8 := [185, 0, 126, 1, 0, 167, 0, 51, 42, 182, 0, 111, 167, 0, 44, 44, 4, 44, 182, 0, 121, 120, 4, 100]
abbrev dktX0_about_4 : List UInt8 := dkwX0_about_4 ++ dktX0_about_5
def dkwX0_about_3 : List UInt8 := [180, 0, 139, 185, 0, 126, 1, 0, 167, 0, 70, 44, 182, 0, 121, 167, 0, 63, 44, 180, 0, 142]
abbrev dktX0_about_3 : List UInt8 := dkwX0_about_3 ++ dktX0_about_4
def dkwX0_about_2 : List UInt8 := [42, 180, 0, 27, 180, 0, 133, 167, 0, 95, 42, 180, 0, 27, 180, 0, 136, 167, 0, 85, 42, 180, 0, 27]
abbrev dktX0_about_2 : List UInt8 := dkwX0_about_2 ++ dktX0_about_3
def dkwX0_about_1 : List UInt8 := [170, 0, 0, 0, 0, 0, 152, 0, 0, 0, 0, 0, 0, 0, 8, 0, 0, 0, 51, 0, 0, 0, 61, 0, 0, 0, 71, 0, 0, 0, 86, 0, 0, 0, 93, 0, 0, 0, 105, 0, 0, 0, 112, 0, 0, 0, 135, 0, 0, 0, 145]
abbrev dktX0_about_1 : List UInt8 := dkwX0_about_1 ++ dktX0_about_2
def dkwX0_about_0 : List UInt8 := [42, 180, 0, 27, 180, 0, 68, 77, 27]
abbrev dktX0_about_0 : List UInt8 := dkwX0_about_0 ++ dktX0_about_1
theorem dksX0_about_0 : cX0_about.data.toList.drop 0 = dktX0_about_0 := by decide +kernel
theorem dksX0_about_1 : cX0_about.data.toList.drop 9 = dktX0_about_1 := dk_seg dksX0_about_0 9 rfl rfl
theorem dksX0_about_2 : cX0_about.data.toList.drop 60 = dktX0_about_2 := dk_seg dksX0_about_1 51 rfl rfl
theorem dksX0_about_3 : cX0_about.data.toList.drop 84 = dktX0_about_3 := dk_seg dksX0_about_2 24 rfl rfl
theorem dksX0_about_4 : cX0_about.data.toList.drop 106 = dktX0_about_4 := dk_seg dksX0_about_3 22 rfl rfl
theorem dksX0_about_5 : cX0_about.data.toList.drop 130 = dktX0_about_5 := dk_seg dksX0_about_4 24 rfl rfl
theorem dksX0_about_6 : cX0_about.data.toList.drop 154 = dktX0_about_6 := dk_seg dksX0_about_5 24 rfl rfl
theorem dX0_about_0 : decode cX0_about 0 = .ok (.aload_n 0, 1) := dk_42 (dk_at dksX0_about_0 0 rfl rfl)
theorem dX0_about_1 : decode cX0_about 1 = .ok (.getfield 27, 3) := dk_180 0 27 (dk_at dksX0_about_0 1 rfl rfl)
theorem dX0_about_4 : decode cX0_about 4 = .ok (.getfield 68, 3) := dk_180 0 68 (dk_at dksX0_about_0 4 rfl rfl)
theorem dX0_about_7 : decode cX0_about 7 = .ok (.astore_n 2, 1) := dk_77 (dk_at dksX0_about_0 7 rfl rfl)
theorem dX0_about_8 : decode cX0_about 8 = .ok (.iload_n 1, 1) := dk_27 (dk_at dksX0_about_0 8 rfl rfl)
theorem dX0_about_9 : decode cX0_about 9 = .ok (.tableswitch 152 0 8 #[51, 61, 71, 86, 93, 105, 112, 135, 145], 51) := by decide +kernel
theorem dX0_about_60 : decode cX0_about 60 = .ok (.aload_n 0, 1) := dk_42 (dk_at dksX0_about_2 0 rfl rfl)
theorem dX0_about_61 : decode cX0_about 61 = .ok (.getfield 27, 3) := dk_180 0 27 (dk_at dksX0_about_2 1 rfl rfl)
theorem dX0_about_64 : decode cX0_about 64 = .ok (.getfield 133, 3) := dk_180 0 133 (dk_at dksX0_about_2 4 rfl rfl)
theorem dX0_about_67 : decode cX0_about 67 = .ok (.goto 95, 3) := dk_167 0 95 (dk_at dksX0_about_2 7 rfl rfl)
theorem dX0_about_70 : decode cX0_about 70 = .ok (.aload_n 0, 1) := dk_42 (dk_at dksX0_about_2 10 rfl rfl)
theorem dX0_about_71 : decode cX0_about 71 = .ok (.getfield 27, 3) := dk_180 0 27 (dk_at dksX0_about_2 11 rfl rfl)
theorem dX0_about_74 : decode cX0_about 74 = .ok (.getfield 136, 3) := dk_180 0 136 (dk_at dksX0_about_2 14 rfl rfl)
theorem dX0_about_77 : decode cX0_about 77 = .ok (.goto 85, 3) := dk_167 0 85 (dk_at dksX0_about_2 17 rfl rfl)
theorem dX0_about_80 : decode cX0_about 80 = .ok (.aload_n 0, 1) := dk_42 (dk_at dksX0_about_2 20 rfl rfl)
theorem dX0_about_81 : decode cX0_about 81 = .ok (.getfield 27, 3) := dk_180 0 27 (dk_at dksX0_about_2 21 rfl rfl)
theorem dX0_about_84 : decode cX0_about 84 = .ok (.getfield 139, 3) := dk_180 0 139 (dk_at dksX0_about_3 0 rfl rfl)
theorem dX0_about_87 : decode cX0_about 87 = .ok (.invokeinterface 126 1, 5) := by decide +kernel
theorem dX0_about_92 : decode cX0_about 92 = .ok (.goto 70, 3) := dk_167 0 70 (dk_at dksX0_about_3 8 rfl rfl)
theorem dX0_about_95 : decode cX0_about 95 = .ok (.aload_n 2, 1) := dk_44 (dk_at dksX0_about_3 11 rfl rfl)
theorem dX0_about_96 : decode cX0_about 96 = .ok (.invokevirtual 121, 3) := dk_182 0 121 (dk_at dksX0_about_3 12 rfl rfl)
theorem dX0_about_99 : decode cX0_about 99 = .ok (.goto 63, 3) := dk_167 0 63 (dk_at dksX0_about_3 15 rfl rfl)
theorem dX0_about_102 : decode cX0_about 102 = .ok (.aload_n 2, 1) := dk_44 (dk_at dksX0_about_3 18 rfl rfl)
theorem dX0_about_103 : decode cX0_about 103 = .ok (.getfield 142, 3) := dk_180 0 142 (dk_at dksX0_about_3 19 rfl rfl)
theorem dX0_about_106 : decode cX0_about 106 = .ok (.invokeinterface 126 1, 5) := by decide +kernel
theorem dX0_about_111 : decode cX0_about 111 = .ok (.goto 51, 3) := dk_167 0 51 (dk_at dksX0_about_4 5 rfl rfl)
theorem dX0_about_114 : decode cX0_about 114 = .ok (.aload_n 0, 1) := dk_42 (dk_at dksX0_about_4 8 rfl rfl)
theorem dX0_about_115 : decode cX0_about 115 = .ok (.invokevirtual 111, 3) := dk_182 0 111 (dk_at dksX0_about_4 9 rfl rfl)
theorem dX0_about_118 : decode cX0_about 118 = .ok (.goto 44, 3) := dk_167 0 44 (dk_at dksX0_about_4 12 rfl rfl)
theorem dX0_about_121 : decode cX0_about 121 = .ok (.aload_n 2, 1) := dk_44 (dk_at dksX0_about_4 15 rfl rfl)
theorem dX0_about_122 : decode cX0_about 122 = .ok (.iconst 1, 1) := dk_4 (dk_at dksX0_about_4 16 rfl rfl)
theorem dX0_about_123 : decode cX0_about 123 = .ok (.aload_n 2, 1) := dk_44 (dk_at dksX0_about_4 17 rfl rfl)
theorem dX0_about_124 : decode cX0_about 124 = .ok (.invokevirtual 121, 3) := dk_182 0 121 (dk_at dksX0_about_4 18 rfl rfl)
theorem dX0_about_127 : decode cX0_about 127 = .ok (.ishl, 1) := dk_120 (dk_at dksX0_about_4 21 rfl rfl)
theorem dX0_about_128 : decode cX0_about 128 = .ok (.iconst 1, 1) := dk_4 (dk_at dksX0_about_4 22 rfl rfl)
theorem dX0_about_129 : decode cX0_about 129 = .ok (.isub, 1) := dk_100 (dk_at dksX0_about_4 23 rfl rfl)
theorem dX0_about_130 : decode cX0_about 130 = .ok (.invokevirtual 145, 3) := dk_182 0 145 (dk_at dksX0_about_5 0 rfl rfl)
theorem dX0_about_133 : decode cX0_about 133 = .ok (.ifCond .eq 7, 3) := dk_153 0 7 (dk_at dksX0_about_5 3 rfl rfl)
theorem dX0_about_136 : decode cX0_about 136 = .ok (.iconst 1, 1) := dk_4 (dk_at dksX0_about_5 6 rfl rfl)
theorem dX0_about_137 : decode cX0_about 137 = .ok (.goto 25, 3) := dk_167 0 25 (dk_at dksX0_about_5 7 rfl rfl)
theorem dX0_about_140 : decode cX0_about 140 = .ok (.iconst 0, 1) := dk_3 (dk_at dksX0_about_5 10 rfl rfl)
theorem dX0_about_141 : decode cX0_about 141 = .ok (.goto 21, 3) := dk_167 0 21 (dk_at dksX0_about_5 11 rfl rfl)
theorem dX0_about_144 : decode cX0_about 144 = .ok (.aload_n 0, 1) := dk_42 (dk_at dksX0_about_5 14 rfl rfl)
theorem dX0_about_145 : decode cX0_about 145 = .ok (.getfield 38, 3) := dk_180 0 38 (dk_at dksX0_about_5 15 rfl rfl)
theorem dX0_about_148 : decode cX0_about 148 = .ok (.invokevirtual 149, 3) := dk_182 0 149 (dk_at dksX0_about_5 18 rfl rfl)
theorem dX0_about_151 : decode cX0_about 151 = .ok (.goto 11, 3) := dk_167 0 11 (dk_at dksX0_about_5 21 rfl rfl)
theorem dX0_about_154 : decode cX0_about 154 = .ok (.aload_n 0, 1) := dk_42 (dk_at dksX0_about_6 0 rfl rfl)
theorem dX0_about_155 : decode cX0_about 155 = .ok (.getfield 72, 3) := dk_180 0 72 (dk_at dksX0_about_6 1 rfl rfl)
theorem dX0_about_158 : decode cX0_about 158 = .ok (.goto 4, 3) := dk_167 0 4 (dk_at dksX0_about_6 4 rfl rfl)
theorem dX0_about_161 : decode cX0_about 161 = .ok (.iconst (-1), 1) := dk_2 (dk_at dksX0_about_6 7 rfl rfl)
theorem dX0_about_162 : decode cX0_about 162 = .ok (.ireturn, 1) := dk_172 (dk_at dksX0_about_6 8 rfl rfl)
abbrev cX0_moves : ByteArray := prog_1_method_18_code
def yX0_moves : MethodName := ⟨RX0, "moves", "(II)I"⟩
def dkwX0_moves_2 : List UInt8 := [180, 0, 160, 28, 46, 167, 0, 4, 2, 172]
abbrev dktX0_moves_2 : List UInt8 := dkwX0_moves_2 ++ []
def dkwX0_moves_1 : List UInt8 := [153, 0, 30, 42, 180, 0, 27, 180, 0, 68, 180, 0, 153, 27, 185, 0, 156, 2, 0, 192, 0, 48]
abbrev dktX0_moves_1 : List UInt8 := dkwX0_moves_1 ++ dktX0_moves_2
def dkwX0_moves_0 : List UInt8 := [42, 27, 182, 0, 150, 153, 0, 49, 28, 133, 9, 42, 180, 0, 27, 180, 0, 133, 4, 100, 133, 184, 0, 129]
abbrev dktX0_moves_0 : List UInt8 := dkwX0_moves_0 ++ dktX0_moves_1
theorem dksX0_moves_0 : cX0_moves.data.toList.drop 0 = dktX0_moves_0 := by decide +kernel
theorem dksX0_moves_1 : cX0_moves.data.toList.drop 24 = dktX0_moves_1 := dk_seg dksX0_moves_0 24 rfl rfl
theorem dksX0_moves_2 : cX0_moves.data.toList.drop 46 = dktX0_moves_2 := dk_seg dksX0_moves_1 22 rfl rfl
theorem dX0_moves_0 : decode cX0_moves 0 = .ok (.aload_n 0, 1) := dk_42 (dk_at dksX0_moves_0 0 rfl rfl)
theorem dX0_moves_1 : decode cX0_moves 1 = .ok (.iload_n 1, 1) := dk_27 (dk_at dksX0_moves_0 1 rfl rfl)
theorem dX0_moves_2 : decode cX0_moves 2 = .ok (.invokevirtual 150, 3) := dk_182 0 150 (dk_at dksX0_moves_0 2 rfl rfl)
theorem dX0_moves_5 : decode cX0_moves 5 = .ok (.ifCond .eq 49, 3) := dk_153 0 49 (dk_at dksX0_moves_0 5 rfl rfl)
theorem dX0_moves_8 : decode cX0_moves 8 = .ok (.iload_n 2, 1) := dk_28 (dk_at dksX0_moves_0 8 rfl rfl)
theorem dX0_moves_9 : decode cX0_moves 9 = .ok (.i2l, 1) := dk_133 (dk_at dksX0_moves_0 9 rfl rfl)
theorem dX0_moves_10 : decode cX0_moves 10 = .ok (.lconst 0, 1) := dk_9 (dk_at dksX0_moves_0 10 rfl rfl)
theorem dX0_moves_11 : decode cX0_moves 11 = .ok (.aload_n 0, 1) := dk_42 (dk_at dksX0_moves_0 11 rfl rfl)
theorem dX0_moves_12 : decode cX0_moves 12 = .ok (.getfield 27, 3) := dk_180 0 27 (dk_at dksX0_moves_0 12 rfl rfl)
theorem dX0_moves_15 : decode cX0_moves 15 = .ok (.getfield 133, 3) := dk_180 0 133 (dk_at dksX0_moves_0 15 rfl rfl)
theorem dX0_moves_18 : decode cX0_moves 18 = .ok (.iconst 1, 1) := dk_4 (dk_at dksX0_moves_0 18 rfl rfl)
theorem dX0_moves_19 : decode cX0_moves 19 = .ok (.isub, 1) := dk_100 (dk_at dksX0_moves_0 19 rfl rfl)
theorem dX0_moves_20 : decode cX0_moves 20 = .ok (.i2l, 1) := dk_133 (dk_at dksX0_moves_0 20 rfl rfl)
theorem dX0_moves_21 : decode cX0_moves 21 = .ok (.invokestatic 129, 3) := dk_184 0 129 (dk_at dksX0_moves_0 21 rfl rfl)
theorem dX0_moves_24 : decode cX0_moves 24 = .ok (.ifCond .eq 30, 3) := dk_153 0 30 (dk_at dksX0_moves_1 0 rfl rfl)
theorem dX0_moves_27 : decode cX0_moves 27 = .ok (.aload_n 0, 1) := dk_42 (dk_at dksX0_moves_1 3 rfl rfl)
theorem dX0_moves_28 : decode cX0_moves 28 = .ok (.getfield 27, 3) := dk_180 0 27 (dk_at dksX0_moves_1 4 rfl rfl)
theorem dX0_moves_31 : decode cX0_moves 31 = .ok (.getfield 68, 3) := dk_180 0 68 (dk_at dksX0_moves_1 7 rfl rfl)
theorem dX0_moves_34 : decode cX0_moves 34 = .ok (.getfield 153, 3) := dk_180 0 153 (dk_at dksX0_moves_1 10 rfl rfl)
theorem dX0_moves_37 : decode cX0_moves 37 = .ok (.iload_n 1, 1) := dk_27 (dk_at dksX0_moves_1 13 rfl rfl)
theorem dX0_moves_38 : decode cX0_moves 38 = .ok (.invokeinterface 156 2, 5) := by decide +kernel
theorem dX0_moves_43 : decode cX0_moves 43 = .ok (.checkcast 48, 3) := dk_192 0 48 (dk_at dksX0_moves_1 19 rfl rfl)
theorem dX0_moves_46 : decode cX0_moves 46 = .ok (.getfield 160, 3) := dk_180 0 160 (dk_at dksX0_moves_2 0 rfl rfl)
theorem dX0_moves_49 : decode cX0_moves 49 = .ok (.iload_n 2, 1) := dk_28 (dk_at dksX0_moves_2 3 rfl rfl)
theorem dX0_moves_50 : decode cX0_moves 50 = .ok (.iaload, 1) := dk_46 (dk_at dksX0_moves_2 4 rfl rfl)
theorem dX0_moves_51 : decode cX0_moves 51 = .ok (.goto 4, 3) := dk_167 0 4 (dk_at dksX0_moves_2 5 rfl rfl)
theorem dX0_moves_54 : decode cX0_moves 54 = .ok (.iconst (-1), 1) := dk_2 (dk_at dksX0_moves_2 8 rfl rfl)
theorem dX0_moves_55 : decode cX0_moves 55 = .ok (.ireturn, 1) := dk_172 (dk_at dksX0_moves_2 9 rfl rfl)
abbrev cX0_isMember : ByteArray := prog_1_method_15_code
def yX0_isMember : MethodName := ⟨RX0, "isMember", "(I)Z"⟩
def dkwX0_isMember_0 : List UInt8 := [27, 133, 9, 42, 180, 0, 27, 180, 0, 68, 182, 0, 121, 4, 100, 133, 184, 0, 129, 172]
abbrev dktX0_isMember_0 : List UInt8 := dkwX0_isMember_0 ++ []
theorem dksX0_isMember_0 : cX0_isMember.data.toList.drop 0 = dktX0_isMember_0 := by decide +kernel
theorem dX0_isMember_0 : decode cX0_isMember 0 = .ok (.iload_n 1, 1) := dk_27 (dk_at dksX0_isMember_0 0 rfl rfl)
theorem dX0_isMember_1 : decode cX0_isMember 1 = .ok (.i2l, 1) := dk_133 (dk_at dksX0_isMember_0 1 rfl rfl)
theorem dX0_isMember_2 : decode cX0_isMember 2 = .ok (.lconst 0, 1) := dk_9 (dk_at dksX0_isMember_0 2 rfl rfl)
theorem dX0_isMember_3 : decode cX0_isMember 3 = .ok (.aload_n 0, 1) := dk_42 (dk_at dksX0_isMember_0 3 rfl rfl)
theorem dX0_isMember_4 : decode cX0_isMember 4 = .ok (.getfield 27, 3) := dk_180 0 27 (dk_at dksX0_isMember_0 4 rfl rfl)
theorem dX0_isMember_7 : decode cX0_isMember 7 = .ok (.getfield 68, 3) := dk_180 0 68 (dk_at dksX0_isMember_0 7 rfl rfl)
theorem dX0_isMember_10 : decode cX0_isMember 10 = .ok (.invokevirtual 121, 3) := dk_182 0 121 (dk_at dksX0_isMember_0 10 rfl rfl)
theorem dX0_isMember_13 : decode cX0_isMember 13 = .ok (.iconst 1, 1) := dk_4 (dk_at dksX0_isMember_0 13 rfl rfl)
theorem dX0_isMember_14 : decode cX0_isMember 14 = .ok (.isub, 1) := dk_100 (dk_at dksX0_isMember_0 14 rfl rfl)
theorem dX0_isMember_15 : decode cX0_isMember 15 = .ok (.i2l, 1) := dk_133 (dk_at dksX0_isMember_0 15 rfl rfl)
theorem dX0_isMember_16 : decode cX0_isMember 16 = .ok (.invokestatic 129, 3) := dk_184 0 129 (dk_at dksX0_isMember_0 16 rfl rfl)
theorem dX0_isMember_19 : decode cX0_isMember 19 = .ok (.ireturn, 1) := dk_172 (dk_at dksX0_isMember_0 19 rfl rfl)
abbrev cX0_times : ByteArray := prog_1_method_19_code
def yX0_times : MethodName := ⟨RX0, "times", "(II)I"⟩
def dkwX0_times_0 : List UInt8 := [42, 180, 0, 27, 180, 0, 68, 180, 0, 164, 27, 50, 28, 46, 172, 78, 2, 172]
abbrev dktX0_times_0 : List UInt8 := dkwX0_times_0 ++ []
theorem dksX0_times_0 : cX0_times.data.toList.drop 0 = dktX0_times_0 := by decide +kernel
theorem dX0_times_0 : decode cX0_times 0 = .ok (.aload_n 0, 1) := dk_42 (dk_at dksX0_times_0 0 rfl rfl)
theorem dX0_times_1 : decode cX0_times 1 = .ok (.getfield 27, 3) := dk_180 0 27 (dk_at dksX0_times_0 1 rfl rfl)
theorem dX0_times_4 : decode cX0_times 4 = .ok (.getfield 68, 3) := dk_180 0 68 (dk_at dksX0_times_0 4 rfl rfl)
theorem dX0_times_7 : decode cX0_times 7 = .ok (.getfield 164, 3) := dk_180 0 164 (dk_at dksX0_times_0 7 rfl rfl)
theorem dX0_times_10 : decode cX0_times 10 = .ok (.iload_n 1, 1) := dk_27 (dk_at dksX0_times_0 10 rfl rfl)
theorem dX0_times_11 : decode cX0_times 11 = .ok (.aaload, 1) := dk_50 (dk_at dksX0_times_0 11 rfl rfl)
theorem dX0_times_12 : decode cX0_times 12 = .ok (.iload_n 2, 1) := dk_28 (dk_at dksX0_times_0 12 rfl rfl)
theorem dX0_times_13 : decode cX0_times 13 = .ok (.iaload, 1) := dk_46 (dk_at dksX0_times_0 13 rfl rfl)
theorem dX0_times_14 : decode cX0_times 14 = .ok (.ireturn, 1) := dk_172 (dk_at dksX0_times_0 14 rfl rfl)
theorem dX0_times_15 : decode cX0_times 15 = .ok (.astore_n 3, 1) := dk_78 (dk_at dksX0_times_0 15 rfl rfl)
theorem dX0_times_16 : decode cX0_times 16 = .ok (.iconst (-1), 1) := dk_2 (dk_at dksX0_times_0 16 rfl rfl)
theorem dX0_times_17 : decode cX0_times 17 = .ok (.ireturn, 1) := dk_172 (dk_at dksX0_times_0 17 rfl rfl)
abbrev cX0_order : ByteArray := prog_1_method_20_code
def yX0_order : MethodName := ⟨RX0, "order", "(I)I"⟩
def dkwX0_order_0 : List UInt8 := [42, 27, 182, 0, 150, 153, 0, 17, 42, 180, 0, 27, 180, 0, 68, 27, 182, 0, 170, 167, 0, 4, 2, 172]
abbrev dktX0_order_0 : List UInt8 := dkwX0_order_0 ++ []
theorem dksX0_order_0 : cX0_order.data.toList.drop 0 = dktX0_order_0 := by decide +kernel
theorem dX0_order_0 : decode cX0_order 0 = .ok (.aload_n 0, 1) := dk_42 (dk_at dksX0_order_0 0 rfl rfl)
theorem dX0_order_1 : decode cX0_order 1 = .ok (.iload_n 1, 1) := dk_27 (dk_at dksX0_order_0 1 rfl rfl)
theorem dX0_order_2 : decode cX0_order 2 = .ok (.invokevirtual 150, 3) := dk_182 0 150 (dk_at dksX0_order_0 2 rfl rfl)
theorem dX0_order_5 : decode cX0_order 5 = .ok (.ifCond .eq 17, 3) := dk_153 0 17 (dk_at dksX0_order_0 5 rfl rfl)
theorem dX0_order_8 : decode cX0_order 8 = .ok (.aload_n 0, 1) := dk_42 (dk_at dksX0_order_0 8 rfl rfl)
theorem dX0_order_9 : decode cX0_order 9 = .ok (.getfield 27, 3) := dk_180 0 27 (dk_at dksX0_order_0 9 rfl rfl)
theorem dX0_order_12 : decode cX0_order 12 = .ok (.getfield 68, 3) := dk_180 0 68 (dk_at dksX0_order_0 12 rfl rfl)
theorem dX0_order_15 : decode cX0_order 15 = .ok (.iload_n 1, 1) := dk_27 (dk_at dksX0_order_0 15 rfl rfl)
theorem dX0_order_16 : decode cX0_order 16 = .ok (.invokevirtual 170, 3) := dk_182 0 170 (dk_at dksX0_order_0 16 rfl rfl)
theorem dX0_order_19 : decode cX0_order 19 = .ok (.goto 4, 3) := dk_167 0 4 (dk_at dksX0_order_0 19 rfl rfl)
theorem dX0_order_22 : decode cX0_order 22 = .ok (.iconst (-1), 1) := dk_2 (dk_at dksX0_order_0 22 rfl rfl)
theorem dX0_order_23 : decode cX0_order 23 = .ok (.ireturn, 1) := dk_172 (dk_at dksX0_order_0 23 rfl rfl)
abbrev cX0_makesOf : ByteArray := prog_1_method_21_code
def yX0_makesOf : MethodName := ⟨RX0, "makesOf", "(I)I"⟩
def dkwX0_makesOf_0 : List UInt8 := [42, 27, 182, 0, 174, 153, 0, 17, 42, 180, 0, 27, 180, 0, 68, 27, 182, 0, 177, 167, 0, 4, 2, 172]
abbrev dktX0_makesOf_0 : List UInt8 := dkwX0_makesOf_0 ++ []
theorem dksX0_makesOf_0 : cX0_makesOf.data.toList.drop 0 = dktX0_makesOf_0 := by decide +kernel
theorem dX0_makesOf_0 : decode cX0_makesOf 0 = .ok (.aload_n 0, 1) := dk_42 (dk_at dksX0_makesOf_0 0 rfl rfl)
theorem dX0_makesOf_1 : decode cX0_makesOf 1 = .ok (.iload_n 1, 1) := dk_27 (dk_at dksX0_makesOf_0 1 rfl rfl)
theorem dX0_makesOf_2 : decode cX0_makesOf 2 = .ok (.invokevirtual 174, 3) := dk_182 0 174 (dk_at dksX0_makesOf_0 2 rfl rfl)
theorem dX0_makesOf_5 : decode cX0_makesOf 5 = .ok (.ifCond .eq 17, 3) := dk_153 0 17 (dk_at dksX0_makesOf_0 5 rfl rfl)
theorem dX0_makesOf_8 : decode cX0_makesOf 8 = .ok (.aload_n 0, 1) := dk_42 (dk_at dksX0_makesOf_0 8 rfl rfl)
theorem dX0_makesOf_9 : decode cX0_makesOf 9 = .ok (.getfield 27, 3) := dk_180 0 27 (dk_at dksX0_makesOf_0 9 rfl rfl)
theorem dX0_makesOf_12 : decode cX0_makesOf 12 = .ok (.getfield 68, 3) := dk_180 0 68 (dk_at dksX0_makesOf_0 12 rfl rfl)
theorem dX0_makesOf_15 : decode cX0_makesOf 15 = .ok (.iload_n 1, 1) := dk_27 (dk_at dksX0_makesOf_0 15 rfl rfl)
theorem dX0_makesOf_16 : decode cX0_makesOf 16 = .ok (.invokevirtual 177, 3) := dk_182 0 177 (dk_at dksX0_makesOf_0 16 rfl rfl)
theorem dX0_makesOf_19 : decode cX0_makesOf 19 = .ok (.goto 4, 3) := dk_167 0 4 (dk_at dksX0_makesOf_0 19 rfl rfl)
theorem dX0_makesOf_22 : decode cX0_makesOf 22 = .ok (.iconst (-1), 1) := dk_2 (dk_at dksX0_makesOf_0 22 rfl rfl)
theorem dX0_makesOf_23 : decode cX0_makesOf 23 = .ok (.ireturn, 1) := dk_172 (dk_at dksX0_makesOf_0 23 rfl rfl)
abbrev cX0_areMembers : ByteArray := prog_1_method_16_code
def yX0_areMembers : MethodName := ⟨RX0, "areMembers", "(I)Z"⟩
def dkwX0_areMembers_1 : List UInt8 := [3, 172]
abbrev dktX0_areMembers_1 : List UInt8 := dkwX0_areMembers_1 ++ []
def dkwX0_areMembers_0 : List UInt8 := [27, 155, 0, 23, 27, 4, 42, 180, 0, 27, 180, 0, 68, 182, 0, 121, 120, 162, 0, 7, 4, 167, 0, 4]
abbrev dktX0_areMembers_0 : List UInt8 := dkwX0_areMembers_0 ++ dktX0_areMembers_1
theorem dksX0_areMembers_0 : cX0_areMembers.data.toList.drop 0 = dktX0_areMembers_0 := by decide +kernel
theorem dksX0_areMembers_1 : cX0_areMembers.data.toList.drop 24 = dktX0_areMembers_1 := dk_seg dksX0_areMembers_0 24 rfl rfl
theorem dX0_areMembers_0 : decode cX0_areMembers 0 = .ok (.iload_n 1, 1) := dk_27 (dk_at dksX0_areMembers_0 0 rfl rfl)
theorem dX0_areMembers_1 : decode cX0_areMembers 1 = .ok (.ifCond .lt 23, 3) := dk_155 0 23 (dk_at dksX0_areMembers_0 1 rfl rfl)
theorem dX0_areMembers_4 : decode cX0_areMembers 4 = .ok (.iload_n 1, 1) := dk_27 (dk_at dksX0_areMembers_0 4 rfl rfl)
theorem dX0_areMembers_5 : decode cX0_areMembers 5 = .ok (.iconst 1, 1) := dk_4 (dk_at dksX0_areMembers_0 5 rfl rfl)
theorem dX0_areMembers_6 : decode cX0_areMembers 6 = .ok (.aload_n 0, 1) := dk_42 (dk_at dksX0_areMembers_0 6 rfl rfl)
theorem dX0_areMembers_7 : decode cX0_areMembers 7 = .ok (.getfield 27, 3) := dk_180 0 27 (dk_at dksX0_areMembers_0 7 rfl rfl)
theorem dX0_areMembers_10 : decode cX0_areMembers 10 = .ok (.getfield 68, 3) := dk_180 0 68 (dk_at dksX0_areMembers_0 10 rfl rfl)
theorem dX0_areMembers_13 : decode cX0_areMembers 13 = .ok (.invokevirtual 121, 3) := dk_182 0 121 (dk_at dksX0_areMembers_0 13 rfl rfl)
theorem dX0_areMembers_16 : decode cX0_areMembers 16 = .ok (.ishl, 1) := dk_120 (dk_at dksX0_areMembers_0 16 rfl rfl)
theorem dX0_areMembers_17 : decode cX0_areMembers 17 = .ok (.if_icmp .ge 7, 3) := dk_162 0 7 (dk_at dksX0_areMembers_0 17 rfl rfl)
theorem dX0_areMembers_20 : decode cX0_areMembers 20 = .ok (.iconst 1, 1) := dk_4 (dk_at dksX0_areMembers_0 20 rfl rfl)
theorem dX0_areMembers_21 : decode cX0_areMembers 21 = .ok (.goto 4, 3) := dk_167 0 4 (dk_at dksX0_areMembers_0 21 rfl rfl)
theorem dX0_areMembers_24 : decode cX0_areMembers 24 = .ok (.iconst 0, 1) := dk_3 (dk_at dksX0_areMembers_1 0 rfl rfl)
theorem dX0_areMembers_25 : decode cX0_areMembers 25 = .ok (.ireturn, 1) := dk_172 (dk_at dksX0_areMembers_1 1 rfl rfl)
abbrev cX0_sortOf : ByteArray := prog_1_method_22_code
def yX0_sortOf : MethodName := ⟨RX0, "sortOf", "(I)I"⟩
def dkwX0_sortOf_1 : List UInt8 := [182, 0, 177, 182, 0, 180, 167, 0, 4, 2, 172]
abbrev dktX0_sortOf_1 : List UInt8 := dkwX0_sortOf_1 ++ []
def dkwX0_sortOf_0 : List UInt8 := [42, 27, 182, 0, 174, 153, 0, 27, 42, 180, 0, 27, 180, 0, 68, 42, 180, 0, 27, 180, 0, 68, 27]
abbrev dktX0_sortOf_0 : List UInt8 := dkwX0_sortOf_0 ++ dktX0_sortOf_1
theorem dksX0_sortOf_0 : cX0_sortOf.data.toList.drop 0 = dktX0_sortOf_0 := by decide +kernel
theorem dksX0_sortOf_1 : cX0_sortOf.data.toList.drop 23 = dktX0_sortOf_1 := dk_seg dksX0_sortOf_0 23 rfl rfl
theorem dX0_sortOf_0 : decode cX0_sortOf 0 = .ok (.aload_n 0, 1) := dk_42 (dk_at dksX0_sortOf_0 0 rfl rfl)
theorem dX0_sortOf_1 : decode cX0_sortOf 1 = .ok (.iload_n 1, 1) := dk_27 (dk_at dksX0_sortOf_0 1 rfl rfl)
theorem dX0_sortOf_2 : decode cX0_sortOf 2 = .ok (.invokevirtual 174, 3) := dk_182 0 174 (dk_at dksX0_sortOf_0 2 rfl rfl)
theorem dX0_sortOf_5 : decode cX0_sortOf 5 = .ok (.ifCond .eq 27, 3) := dk_153 0 27 (dk_at dksX0_sortOf_0 5 rfl rfl)
theorem dX0_sortOf_8 : decode cX0_sortOf 8 = .ok (.aload_n 0, 1) := dk_42 (dk_at dksX0_sortOf_0 8 rfl rfl)
theorem dX0_sortOf_9 : decode cX0_sortOf 9 = .ok (.getfield 27, 3) := dk_180 0 27 (dk_at dksX0_sortOf_0 9 rfl rfl)
theorem dX0_sortOf_12 : decode cX0_sortOf 12 = .ok (.getfield 68, 3) := dk_180 0 68 (dk_at dksX0_sortOf_0 12 rfl rfl)
theorem dX0_sortOf_15 : decode cX0_sortOf 15 = .ok (.aload_n 0, 1) := dk_42 (dk_at dksX0_sortOf_0 15 rfl rfl)
theorem dX0_sortOf_16 : decode cX0_sortOf 16 = .ok (.getfield 27, 3) := dk_180 0 27 (dk_at dksX0_sortOf_0 16 rfl rfl)
theorem dX0_sortOf_19 : decode cX0_sortOf 19 = .ok (.getfield 68, 3) := dk_180 0 68 (dk_at dksX0_sortOf_0 19 rfl rfl)
theorem dX0_sortOf_22 : decode cX0_sortOf 22 = .ok (.iload_n 1, 1) := dk_27 (dk_at dksX0_sortOf_0 22 rfl rfl)
theorem dX0_sortOf_23 : decode cX0_sortOf 23 = .ok (.invokevirtual 177, 3) := dk_182 0 177 (dk_at dksX0_sortOf_1 0 rfl rfl)
theorem dX0_sortOf_26 : decode cX0_sortOf 26 = .ok (.invokevirtual 180, 3) := dk_182 0 180 (dk_at dksX0_sortOf_1 3 rfl rfl)
theorem dX0_sortOf_29 : decode cX0_sortOf 29 = .ok (.goto 4, 3) := dk_167 0 4 (dk_at dksX0_sortOf_1 6 rfl rfl)
theorem dX0_sortOf_32 : decode cX0_sortOf 32 = .ok (.iconst (-1), 1) := dk_2 (dk_at dksX0_sortOf_1 9 rfl rfl)
theorem dX0_sortOf_33 : decode cX0_sortOf 33 = .ok (.ireturn, 1) := dk_172 (dk_at dksX0_sortOf_1 10 rfl rfl)
abbrev cX0_sort : ByteArray := prog_1_method_23_code
def yX0_sort : MethodName := ⟨RX0, "sort", "(II)I"⟩
def dkwX0_sort_6 : List UInt8 := [182, 0, 145, 153, 0, 7, 4, 167, 0, 8, 3, 167, 0, 4, 2, 172]
abbrev dktX0_sort_6 : List UInt8 := dkwX0_sort_6 ++ []
def dkwX0_sort_5 : List UInt8 := [153, 0, 7, 4, 167, 0, 33, 3, 167, 0, 29, 42, 180, 0, 27, 180, 0, 68, 45, 180, 0, 193]
abbrev dktX0_sort_5 : List UInt8 := dkwX0_sort_5 ++ dktX0_sort_6
def dkwX0_sort_4 : List UInt8 := [180, 0, 195, 184, 0, 198, 167, 0, 54, 42, 180, 0, 27, 180, 0, 68, 45, 180, 0, 193, 182, 0, 201]
abbrev dktX0_sort_4 : List UInt8 := dkwX0_sort_4 ++ dktX0_sort_5
def dkwX0_sort_3 : List UInt8 := [45, 180, 0, 188, 167, 0, 78, 45, 180, 0, 190, 167, 0, 71, 45, 180, 0, 193, 167, 0, 64, 45]
abbrev dktX0_sort_3 : List UInt8 := dkwX0_sort_3 ++ dktX0_sort_4
def dkwX0_sort_2 : List UInt8 := [170, 0, 0, 0, 118, 0, 0, 0, 0, 0, 0, 0, 5, 0, 0, 0, 37, 0, 0, 0, 44, 0, 0, 0, 51, 0, 0, 0, 58, 0, 0, 0, 68, 0, 0, 0, 93]
abbrev dktX0_sort_2 : List UInt8 := dkwX0_sort_2 ++ dktX0_sort_3
def dkwX0_sort_1 : List UInt8 := [185, 0, 156, 2, 0, 192, 0, 186, 78, 28]
abbrev dktX0_sort_1 : List UInt8 := dkwX0_sort_1 ++ dktX0_sort_2
def dkwX0_sort_0 : List UInt8 := [42, 27, 182, 0, 183, 154, 0, 5, 2, 172, 42, 180, 0, 27, 180, 0, 68, 180, 0, 124, 27]
abbrev dktX0_sort_0 : List UInt8 := dkwX0_sort_0 ++ dktX0_sort_1
theorem dksX0_sort_0 : cX0_sort.data.toList.drop 0 = dktX0_sort_0 := by decide +kernel
theorem dksX0_sort_1 : cX0_sort.data.toList.drop 21 = dktX0_sort_1 := dk_seg dksX0_sort_0 21 rfl rfl
theorem dksX0_sort_2 : cX0_sort.data.toList.drop 31 = dktX0_sort_2 := dk_seg dksX0_sort_1 10 rfl rfl
theorem dksX0_sort_3 : cX0_sort.data.toList.drop 68 = dktX0_sort_3 := dk_seg dksX0_sort_2 37 rfl rfl
theorem dksX0_sort_4 : cX0_sort.data.toList.drop 90 = dktX0_sort_4 := dk_seg dksX0_sort_3 22 rfl rfl
theorem dksX0_sort_5 : cX0_sort.data.toList.drop 113 = dktX0_sort_5 := dk_seg dksX0_sort_4 23 rfl rfl
theorem dksX0_sort_6 : cX0_sort.data.toList.drop 135 = dktX0_sort_6 := dk_seg dksX0_sort_5 22 rfl rfl
theorem dX0_sort_0 : decode cX0_sort 0 = .ok (.aload_n 0, 1) := dk_42 (dk_at dksX0_sort_0 0 rfl rfl)
theorem dX0_sort_1 : decode cX0_sort 1 = .ok (.iload_n 1, 1) := dk_27 (dk_at dksX0_sort_0 1 rfl rfl)
theorem dX0_sort_2 : decode cX0_sort 2 = .ok (.invokevirtual 183, 3) := dk_182 0 183 (dk_at dksX0_sort_0 2 rfl rfl)
theorem dX0_sort_5 : decode cX0_sort 5 = .ok (.ifCond .ne 5, 3) := dk_154 0 5 (dk_at dksX0_sort_0 5 rfl rfl)
theorem dX0_sort_8 : decode cX0_sort 8 = .ok (.iconst (-1), 1) := dk_2 (dk_at dksX0_sort_0 8 rfl rfl)
theorem dX0_sort_9 : decode cX0_sort 9 = .ok (.ireturn, 1) := dk_172 (dk_at dksX0_sort_0 9 rfl rfl)
theorem dX0_sort_10 : decode cX0_sort 10 = .ok (.aload_n 0, 1) := dk_42 (dk_at dksX0_sort_0 10 rfl rfl)
theorem dX0_sort_11 : decode cX0_sort 11 = .ok (.getfield 27, 3) := dk_180 0 27 (dk_at dksX0_sort_0 11 rfl rfl)
theorem dX0_sort_14 : decode cX0_sort 14 = .ok (.getfield 68, 3) := dk_180 0 68 (dk_at dksX0_sort_0 14 rfl rfl)
theorem dX0_sort_17 : decode cX0_sort 17 = .ok (.getfield 124, 3) := dk_180 0 124 (dk_at dksX0_sort_0 17 rfl rfl)
theorem dX0_sort_20 : decode cX0_sort 20 = .ok (.iload_n 1, 1) := dk_27 (dk_at dksX0_sort_0 20 rfl rfl)
theorem dX0_sort_21 : decode cX0_sort 21 = .ok (.invokeinterface 156 2, 5) := by decide +kernel
theorem dX0_sort_26 : decode cX0_sort 26 = .ok (.checkcast 186, 3) := dk_192 0 186 (dk_at dksX0_sort_1 5 rfl rfl)
theorem dX0_sort_29 : decode cX0_sort 29 = .ok (.astore_n 3, 1) := dk_78 (dk_at dksX0_sort_1 8 rfl rfl)
theorem dX0_sort_30 : decode cX0_sort 30 = .ok (.iload_n 2, 1) := dk_28 (dk_at dksX0_sort_1 9 rfl rfl)
theorem dX0_sort_31 : decode cX0_sort 31 = .ok (.tableswitch 118 0 5 #[37, 44, 51, 58, 68, 93], 37) := by decide +kernel
theorem dX0_sort_68 : decode cX0_sort 68 = .ok (.aload_n 3, 1) := dk_45 (dk_at dksX0_sort_3 0 rfl rfl)
theorem dX0_sort_69 : decode cX0_sort 69 = .ok (.getfield 188, 3) := dk_180 0 188 (dk_at dksX0_sort_3 1 rfl rfl)
theorem dX0_sort_72 : decode cX0_sort 72 = .ok (.goto 78, 3) := dk_167 0 78 (dk_at dksX0_sort_3 4 rfl rfl)
theorem dX0_sort_75 : decode cX0_sort 75 = .ok (.aload_n 3, 1) := dk_45 (dk_at dksX0_sort_3 7 rfl rfl)
theorem dX0_sort_76 : decode cX0_sort 76 = .ok (.getfield 190, 3) := dk_180 0 190 (dk_at dksX0_sort_3 8 rfl rfl)
theorem dX0_sort_79 : decode cX0_sort 79 = .ok (.goto 71, 3) := dk_167 0 71 (dk_at dksX0_sort_3 11 rfl rfl)
theorem dX0_sort_82 : decode cX0_sort 82 = .ok (.aload_n 3, 1) := dk_45 (dk_at dksX0_sort_3 14 rfl rfl)
theorem dX0_sort_83 : decode cX0_sort 83 = .ok (.getfield 193, 3) := dk_180 0 193 (dk_at dksX0_sort_3 15 rfl rfl)
theorem dX0_sort_86 : decode cX0_sort 86 = .ok (.goto 64, 3) := dk_167 0 64 (dk_at dksX0_sort_3 18 rfl rfl)
theorem dX0_sort_89 : decode cX0_sort 89 = .ok (.aload_n 3, 1) := dk_45 (dk_at dksX0_sort_3 21 rfl rfl)
theorem dX0_sort_90 : decode cX0_sort 90 = .ok (.getfield 195, 3) := dk_180 0 195 (dk_at dksX0_sort_4 0 rfl rfl)
theorem dX0_sort_93 : decode cX0_sort 93 = .ok (.invokestatic 198, 3) := dk_184 0 198 (dk_at dksX0_sort_4 3 rfl rfl)
theorem dX0_sort_96 : decode cX0_sort 96 = .ok (.goto 54, 3) := dk_167 0 54 (dk_at dksX0_sort_4 6 rfl rfl)
theorem dX0_sort_99 : decode cX0_sort 99 = .ok (.aload_n 0, 1) := dk_42 (dk_at dksX0_sort_4 9 rfl rfl)
theorem dX0_sort_100 : decode cX0_sort 100 = .ok (.getfield 27, 3) := dk_180 0 27 (dk_at dksX0_sort_4 10 rfl rfl)
theorem dX0_sort_103 : decode cX0_sort 103 = .ok (.getfield 68, 3) := dk_180 0 68 (dk_at dksX0_sort_4 13 rfl rfl)
theorem dX0_sort_106 : decode cX0_sort 106 = .ok (.aload_n 3, 1) := dk_45 (dk_at dksX0_sort_4 16 rfl rfl)
theorem dX0_sort_107 : decode cX0_sort 107 = .ok (.getfield 193, 3) := dk_180 0 193 (dk_at dksX0_sort_4 17 rfl rfl)
theorem dX0_sort_110 : decode cX0_sort 110 = .ok (.invokevirtual 201, 3) := dk_182 0 201 (dk_at dksX0_sort_4 20 rfl rfl)
theorem dX0_sort_113 : decode cX0_sort 113 = .ok (.ifCond .eq 7, 3) := dk_153 0 7 (dk_at dksX0_sort_5 0 rfl rfl)
theorem dX0_sort_116 : decode cX0_sort 116 = .ok (.iconst 1, 1) := dk_4 (dk_at dksX0_sort_5 3 rfl rfl)
theorem dX0_sort_117 : decode cX0_sort 117 = .ok (.goto 33, 3) := dk_167 0 33 (dk_at dksX0_sort_5 4 rfl rfl)
theorem dX0_sort_120 : decode cX0_sort 120 = .ok (.iconst 0, 1) := dk_3 (dk_at dksX0_sort_5 7 rfl rfl)
theorem dX0_sort_121 : decode cX0_sort 121 = .ok (.goto 29, 3) := dk_167 0 29 (dk_at dksX0_sort_5 8 rfl rfl)
theorem dX0_sort_124 : decode cX0_sort 124 = .ok (.aload_n 0, 1) := dk_42 (dk_at dksX0_sort_5 11 rfl rfl)
theorem dX0_sort_125 : decode cX0_sort 125 = .ok (.getfield 27, 3) := dk_180 0 27 (dk_at dksX0_sort_5 12 rfl rfl)
theorem dX0_sort_128 : decode cX0_sort 128 = .ok (.getfield 68, 3) := dk_180 0 68 (dk_at dksX0_sort_5 15 rfl rfl)
theorem dX0_sort_131 : decode cX0_sort 131 = .ok (.aload_n 3, 1) := dk_45 (dk_at dksX0_sort_5 18 rfl rfl)
theorem dX0_sort_132 : decode cX0_sort 132 = .ok (.getfield 193, 3) := dk_180 0 193 (dk_at dksX0_sort_5 19 rfl rfl)
theorem dX0_sort_135 : decode cX0_sort 135 = .ok (.invokevirtual 145, 3) := dk_182 0 145 (dk_at dksX0_sort_6 0 rfl rfl)
theorem dX0_sort_138 : decode cX0_sort 138 = .ok (.ifCond .eq 7, 3) := dk_153 0 7 (dk_at dksX0_sort_6 3 rfl rfl)
theorem dX0_sort_141 : decode cX0_sort 141 = .ok (.iconst 1, 1) := dk_4 (dk_at dksX0_sort_6 6 rfl rfl)
theorem dX0_sort_142 : decode cX0_sort 142 = .ok (.goto 8, 3) := dk_167 0 8 (dk_at dksX0_sort_6 7 rfl rfl)
theorem dX0_sort_145 : decode cX0_sort 145 = .ok (.iconst 0, 1) := dk_3 (dk_at dksX0_sort_6 10 rfl rfl)
theorem dX0_sort_146 : decode cX0_sort 146 = .ok (.goto 4, 3) := dk_167 0 4 (dk_at dksX0_sort_6 11 rfl rfl)
theorem dX0_sort_149 : decode cX0_sort 149 = .ok (.iconst (-1), 1) := dk_2 (dk_at dksX0_sort_6 14 rfl rfl)
theorem dX0_sort_150 : decode cX0_sort 150 = .ok (.ireturn, 1) := dk_172 (dk_at dksX0_sort_6 15 rfl rfl)
abbrev cX0_isSort : ByteArray := prog_1_method_14_code
def yX0_isSort : MethodName := ⟨RX0, "isSort", "(I)Z"⟩
def dkwX0_isSort_0 : List UInt8 := [27, 133, 9, 42, 182, 0, 111, 4, 100, 133, 184, 0, 129, 172]
abbrev dktX0_isSort_0 : List UInt8 := dkwX0_isSort_0 ++ []
theorem dksX0_isSort_0 : cX0_isSort.data.toList.drop 0 = dktX0_isSort_0 := by decide +kernel
theorem dX0_isSort_0 : decode cX0_isSort 0 = .ok (.iload_n 1, 1) := dk_27 (dk_at dksX0_isSort_0 0 rfl rfl)
theorem dX0_isSort_1 : decode cX0_isSort 1 = .ok (.i2l, 1) := dk_133 (dk_at dksX0_isSort_0 1 rfl rfl)
theorem dX0_isSort_2 : decode cX0_isSort 2 = .ok (.lconst 0, 1) := dk_9 (dk_at dksX0_isSort_0 2 rfl rfl)
theorem dX0_isSort_3 : decode cX0_isSort 3 = .ok (.aload_n 0, 1) := dk_42 (dk_at dksX0_isSort_0 3 rfl rfl)
theorem dX0_isSort_4 : decode cX0_isSort 4 = .ok (.invokevirtual 111, 3) := dk_182 0 111 (dk_at dksX0_isSort_0 4 rfl rfl)
theorem dX0_isSort_7 : decode cX0_isSort 7 = .ok (.iconst 1, 1) := dk_4 (dk_at dksX0_isSort_0 7 rfl rfl)
theorem dX0_isSort_8 : decode cX0_isSort 8 = .ok (.isub, 1) := dk_100 (dk_at dksX0_isSort_0 8 rfl rfl)
theorem dX0_isSort_9 : decode cX0_isSort 9 = .ok (.i2l, 1) := dk_133 (dk_at dksX0_isSort_0 9 rfl rfl)
theorem dX0_isSort_10 : decode cX0_isSort 10 = .ok (.invokestatic 129, 3) := dk_184 0 129 (dk_at dksX0_isSort_0 10 rfl rfl)
theorem dX0_isSort_13 : decode cX0_isSort 13 = .ok (.ireturn, 1) := dk_172 (dk_at dksX0_isSort_0 13 rfl rfl)
abbrev cX0_within : ByteArray := prog_1_method_24_code
def yX0_within : MethodName := ⟨RX0, "within", "(II)I"⟩
def dkwX0_within_1 : List UInt8 := [28, 182, 0, 204, 167, 0, 4, 2, 172]
abbrev dktX0_within_1 : List UInt8 := dkwX0_within_1 ++ []
def dkwX0_within_0 : List UInt8 := [42, 27, 182, 0, 183, 153, 0, 26, 42, 28, 182, 0, 183, 153, 0, 18, 42, 180, 0, 27, 180, 0, 68, 27]
abbrev dktX0_within_0 : List UInt8 := dkwX0_within_0 ++ dktX0_within_1
theorem dksX0_within_0 : cX0_within.data.toList.drop 0 = dktX0_within_0 := by decide +kernel
theorem dksX0_within_1 : cX0_within.data.toList.drop 24 = dktX0_within_1 := dk_seg dksX0_within_0 24 rfl rfl
theorem dX0_within_0 : decode cX0_within 0 = .ok (.aload_n 0, 1) := dk_42 (dk_at dksX0_within_0 0 rfl rfl)
theorem dX0_within_1 : decode cX0_within 1 = .ok (.iload_n 1, 1) := dk_27 (dk_at dksX0_within_0 1 rfl rfl)
theorem dX0_within_2 : decode cX0_within 2 = .ok (.invokevirtual 183, 3) := dk_182 0 183 (dk_at dksX0_within_0 2 rfl rfl)
theorem dX0_within_5 : decode cX0_within 5 = .ok (.ifCond .eq 26, 3) := dk_153 0 26 (dk_at dksX0_within_0 5 rfl rfl)
theorem dX0_within_8 : decode cX0_within 8 = .ok (.aload_n 0, 1) := dk_42 (dk_at dksX0_within_0 8 rfl rfl)
theorem dX0_within_9 : decode cX0_within 9 = .ok (.iload_n 2, 1) := dk_28 (dk_at dksX0_within_0 9 rfl rfl)
theorem dX0_within_10 : decode cX0_within 10 = .ok (.invokevirtual 183, 3) := dk_182 0 183 (dk_at dksX0_within_0 10 rfl rfl)
theorem dX0_within_13 : decode cX0_within 13 = .ok (.ifCond .eq 18, 3) := dk_153 0 18 (dk_at dksX0_within_0 13 rfl rfl)
theorem dX0_within_16 : decode cX0_within 16 = .ok (.aload_n 0, 1) := dk_42 (dk_at dksX0_within_0 16 rfl rfl)
theorem dX0_within_17 : decode cX0_within 17 = .ok (.getfield 27, 3) := dk_180 0 27 (dk_at dksX0_within_0 17 rfl rfl)
theorem dX0_within_20 : decode cX0_within 20 = .ok (.getfield 68, 3) := dk_180 0 68 (dk_at dksX0_within_0 20 rfl rfl)
theorem dX0_within_23 : decode cX0_within 23 = .ok (.iload_n 1, 1) := dk_27 (dk_at dksX0_within_0 23 rfl rfl)
theorem dX0_within_24 : decode cX0_within 24 = .ok (.iload_n 2, 1) := dk_28 (dk_at dksX0_within_1 0 rfl rfl)
theorem dX0_within_25 : decode cX0_within 25 = .ok (.invokevirtual 204, 3) := dk_182 0 204 (dk_at dksX0_within_1 1 rfl rfl)
theorem dX0_within_28 : decode cX0_within 28 = .ok (.goto 4, 3) := dk_167 0 4 (dk_at dksX0_within_1 4 rfl rfl)
theorem dX0_within_31 : decode cX0_within 31 = .ok (.iconst (-1), 1) := dk_2 (dk_at dksX0_within_1 7 rfl rfl)
theorem dX0_within_32 : decode cX0_within 32 = .ok (.ireturn, 1) := dk_172 (dk_at dksX0_within_1 8 rfl rfl)
abbrev cX0_mark : ByteArray := prog_1_method_25_code
def yX0_mark : MethodName := ⟨RX0, "mark", "(II)I"⟩
def dkwX0_mark_1 : List UInt8 := [180, 0, 208, 27, 50, 28, 46, 167, 0, 4, 2, 172]
abbrev dktX0_mark_1 : List UInt8 := dkwX0_mark_1 ++ []
def dkwX0_mark_0 : List UInt8 := [42, 27, 182, 0, 183, 153, 0, 28, 42, 28, 182, 0, 183, 153, 0, 20, 42, 180, 0, 27, 180, 0, 68]
abbrev dktX0_mark_0 : List UInt8 := dkwX0_mark_0 ++ dktX0_mark_1
theorem dksX0_mark_0 : cX0_mark.data.toList.drop 0 = dktX0_mark_0 := by decide +kernel
theorem dksX0_mark_1 : cX0_mark.data.toList.drop 23 = dktX0_mark_1 := dk_seg dksX0_mark_0 23 rfl rfl
theorem dX0_mark_0 : decode cX0_mark 0 = .ok (.aload_n 0, 1) := dk_42 (dk_at dksX0_mark_0 0 rfl rfl)
theorem dX0_mark_1 : decode cX0_mark 1 = .ok (.iload_n 1, 1) := dk_27 (dk_at dksX0_mark_0 1 rfl rfl)
theorem dX0_mark_2 : decode cX0_mark 2 = .ok (.invokevirtual 183, 3) := dk_182 0 183 (dk_at dksX0_mark_0 2 rfl rfl)
theorem dX0_mark_5 : decode cX0_mark 5 = .ok (.ifCond .eq 28, 3) := dk_153 0 28 (dk_at dksX0_mark_0 5 rfl rfl)
theorem dX0_mark_8 : decode cX0_mark 8 = .ok (.aload_n 0, 1) := dk_42 (dk_at dksX0_mark_0 8 rfl rfl)
theorem dX0_mark_9 : decode cX0_mark 9 = .ok (.iload_n 2, 1) := dk_28 (dk_at dksX0_mark_0 9 rfl rfl)
theorem dX0_mark_10 : decode cX0_mark 10 = .ok (.invokevirtual 183, 3) := dk_182 0 183 (dk_at dksX0_mark_0 10 rfl rfl)
theorem dX0_mark_13 : decode cX0_mark 13 = .ok (.ifCond .eq 20, 3) := dk_153 0 20 (dk_at dksX0_mark_0 13 rfl rfl)
theorem dX0_mark_16 : decode cX0_mark 16 = .ok (.aload_n 0, 1) := dk_42 (dk_at dksX0_mark_0 16 rfl rfl)
theorem dX0_mark_17 : decode cX0_mark 17 = .ok (.getfield 27, 3) := dk_180 0 27 (dk_at dksX0_mark_0 17 rfl rfl)
theorem dX0_mark_20 : decode cX0_mark 20 = .ok (.getfield 68, 3) := dk_180 0 68 (dk_at dksX0_mark_0 20 rfl rfl)
theorem dX0_mark_23 : decode cX0_mark 23 = .ok (.getfield 208, 3) := dk_180 0 208 (dk_at dksX0_mark_1 0 rfl rfl)
theorem dX0_mark_26 : decode cX0_mark 26 = .ok (.iload_n 1, 1) := dk_27 (dk_at dksX0_mark_1 3 rfl rfl)
theorem dX0_mark_27 : decode cX0_mark 27 = .ok (.aaload, 1) := dk_50 (dk_at dksX0_mark_1 4 rfl rfl)
theorem dX0_mark_28 : decode cX0_mark 28 = .ok (.iload_n 2, 1) := dk_28 (dk_at dksX0_mark_1 5 rfl rfl)
theorem dX0_mark_29 : decode cX0_mark 29 = .ok (.iaload, 1) := dk_46 (dk_at dksX0_mark_1 6 rfl rfl)
theorem dX0_mark_30 : decode cX0_mark 30 = .ok (.goto 4, 3) := dk_167 0 4 (dk_at dksX0_mark_1 7 rfl rfl)
theorem dX0_mark_33 : decode cX0_mark 33 = .ok (.iconst (-1), 1) := dk_2 (dk_at dksX0_mark_1 10 rfl rfl)
theorem dX0_mark_34 : decode cX0_mark 34 = .ok (.ireturn, 1) := dk_172 (dk_at dksX0_mark_1 11 rfl rfl)
abbrev cX0_product : ByteArray := prog_1_method_26_code
def yX0_product : MethodName := ⟨RX0, "product", "(III)I"⟩
def dkwX0_product_2 : List UInt8 := [184, 0, 211, 182, 0, 217, 180, 0, 220, 29, 47, 136, 172, 58, 4, 2, 172]
abbrev dktX0_product_2 : List UInt8 := dkwX0_product_2 ++ []
def dkwX0_product_1 : List UInt8 := [2, 172, 42, 180, 0, 27, 180, 0, 68, 58, 4, 25, 4, 27, 10, 184, 0, 211, 25, 4, 28, 10]
abbrev dktX0_product_1 : List UInt8 := dkwX0_product_1 ++ dktX0_product_2
def dkwX0_product_0 : List UInt8 := [42, 27, 182, 0, 183, 153, 0, 19, 42, 28, 182, 0, 183, 153, 0, 11, 42, 29, 182, 0, 183, 154, 0, 5]
abbrev dktX0_product_0 : List UInt8 := dkwX0_product_0 ++ dktX0_product_1
theorem dksX0_product_0 : cX0_product.data.toList.drop 0 = dktX0_product_0 := by decide +kernel
theorem dksX0_product_1 : cX0_product.data.toList.drop 24 = dktX0_product_1 := dk_seg dksX0_product_0 24 rfl rfl
theorem dksX0_product_2 : cX0_product.data.toList.drop 46 = dktX0_product_2 := dk_seg dksX0_product_1 22 rfl rfl
theorem dX0_product_0 : decode cX0_product 0 = .ok (.aload_n 0, 1) := dk_42 (dk_at dksX0_product_0 0 rfl rfl)
theorem dX0_product_1 : decode cX0_product 1 = .ok (.iload_n 1, 1) := dk_27 (dk_at dksX0_product_0 1 rfl rfl)
theorem dX0_product_2 : decode cX0_product 2 = .ok (.invokevirtual 183, 3) := dk_182 0 183 (dk_at dksX0_product_0 2 rfl rfl)
theorem dX0_product_5 : decode cX0_product 5 = .ok (.ifCond .eq 19, 3) := dk_153 0 19 (dk_at dksX0_product_0 5 rfl rfl)
theorem dX0_product_8 : decode cX0_product 8 = .ok (.aload_n 0, 1) := dk_42 (dk_at dksX0_product_0 8 rfl rfl)
theorem dX0_product_9 : decode cX0_product 9 = .ok (.iload_n 2, 1) := dk_28 (dk_at dksX0_product_0 9 rfl rfl)
theorem dX0_product_10 : decode cX0_product 10 = .ok (.invokevirtual 183, 3) := dk_182 0 183 (dk_at dksX0_product_0 10 rfl rfl)
theorem dX0_product_13 : decode cX0_product 13 = .ok (.ifCond .eq 11, 3) := dk_153 0 11 (dk_at dksX0_product_0 13 rfl rfl)
theorem dX0_product_16 : decode cX0_product 16 = .ok (.aload_n 0, 1) := dk_42 (dk_at dksX0_product_0 16 rfl rfl)
theorem dX0_product_17 : decode cX0_product 17 = .ok (.iload_n 3, 1) := dk_29 (dk_at dksX0_product_0 17 rfl rfl)
theorem dX0_product_18 : decode cX0_product 18 = .ok (.invokevirtual 183, 3) := dk_182 0 183 (dk_at dksX0_product_0 18 rfl rfl)
theorem dX0_product_21 : decode cX0_product 21 = .ok (.ifCond .ne 5, 3) := dk_154 0 5 (dk_at dksX0_product_0 21 rfl rfl)
theorem dX0_product_24 : decode cX0_product 24 = .ok (.iconst (-1), 1) := dk_2 (dk_at dksX0_product_1 0 rfl rfl)
theorem dX0_product_25 : decode cX0_product 25 = .ok (.ireturn, 1) := dk_172 (dk_at dksX0_product_1 1 rfl rfl)
theorem dX0_product_26 : decode cX0_product 26 = .ok (.aload_n 0, 1) := dk_42 (dk_at dksX0_product_1 2 rfl rfl)
theorem dX0_product_27 : decode cX0_product 27 = .ok (.getfield 27, 3) := dk_180 0 27 (dk_at dksX0_product_1 3 rfl rfl)
theorem dX0_product_30 : decode cX0_product 30 = .ok (.getfield 68, 3) := dk_180 0 68 (dk_at dksX0_product_1 6 rfl rfl)
theorem dX0_product_33 : decode cX0_product 33 = .ok (.astore 4, 2) := dk_58 4 (dk_at dksX0_product_1 9 rfl rfl)
theorem dX0_product_35 : decode cX0_product 35 = .ok (.aload 4, 2) := dk_25 4 (dk_at dksX0_product_1 11 rfl rfl)
theorem dX0_product_37 : decode cX0_product 37 = .ok (.iload_n 1, 1) := dk_27 (dk_at dksX0_product_1 13 rfl rfl)
theorem dX0_product_38 : decode cX0_product 38 = .ok (.lconst 1, 1) := dk_10 (dk_at dksX0_product_1 14 rfl rfl)
theorem dX0_product_39 : decode cX0_product 39 = .ok (.invokestatic 211, 3) := dk_184 0 211 (dk_at dksX0_product_1 15 rfl rfl)
theorem dX0_product_42 : decode cX0_product 42 = .ok (.aload 4, 2) := dk_25 4 (dk_at dksX0_product_1 18 rfl rfl)
theorem dX0_product_44 : decode cX0_product 44 = .ok (.iload_n 2, 1) := dk_28 (dk_at dksX0_product_1 20 rfl rfl)
theorem dX0_product_45 : decode cX0_product 45 = .ok (.lconst 1, 1) := dk_10 (dk_at dksX0_product_1 21 rfl rfl)
theorem dX0_product_46 : decode cX0_product 46 = .ok (.invokestatic 211, 3) := dk_184 0 211 (dk_at dksX0_product_2 0 rfl rfl)
theorem dX0_product_49 : decode cX0_product 49 = .ok (.invokevirtual 217, 3) := dk_182 0 217 (dk_at dksX0_product_2 3 rfl rfl)
theorem dX0_product_52 : decode cX0_product 52 = .ok (.getfield 220, 3) := dk_180 0 220 (dk_at dksX0_product_2 6 rfl rfl)
theorem dX0_product_55 : decode cX0_product 55 = .ok (.iload_n 3, 1) := dk_29 (dk_at dksX0_product_2 9 rfl rfl)
theorem dX0_product_56 : decode cX0_product 56 = .ok (.laload, 1) := dk_47 (dk_at dksX0_product_2 10 rfl rfl)
theorem dX0_product_57 : decode cX0_product 57 = .ok (.l2i, 1) := dk_136 (dk_at dksX0_product_2 11 rfl rfl)
theorem dX0_product_58 : decode cX0_product 58 = .ok (.ireturn, 1) := dk_172 (dk_at dksX0_product_2 12 rfl rfl)
theorem dX0_product_59 : decode cX0_product 59 = .ok (.astore 4, 2) := dk_58 4 (dk_at dksX0_product_2 13 rfl rfl)
theorem dX0_product_61 : decode cX0_product 61 = .ok (.iconst (-1), 1) := dk_2 (dk_at dksX0_product_2 15 rfl rfl)
theorem dX0_product_62 : decode cX0_product 62 = .ok (.ireturn, 1) := dk_172 (dk_at dksX0_product_2 16 rfl rfl)
abbrev cX0_residue : ByteArray := prog_1_method_28_code
def yX0_residue : MethodName := ⟨RX0, "residue", "(II)I"⟩
def dkwX0_residue_1 : List UInt8 := [182, 0, 228, 167, 0, 4, 2, 172]
abbrev dktX0_residue_1 : List UInt8 := dkwX0_residue_1 ++ []
def dkwX0_residue_0 : List UInt8 := [42, 27, 182, 0, 183, 153, 0, 25, 28, 184, 0, 225, 153, 0, 18, 42, 180, 0, 27, 180, 0, 68, 27, 28]
abbrev dktX0_residue_0 : List UInt8 := dkwX0_residue_0 ++ dktX0_residue_1
theorem dksX0_residue_0 : cX0_residue.data.toList.drop 0 = dktX0_residue_0 := by decide +kernel
theorem dksX0_residue_1 : cX0_residue.data.toList.drop 24 = dktX0_residue_1 := dk_seg dksX0_residue_0 24 rfl rfl
theorem dX0_residue_0 : decode cX0_residue 0 = .ok (.aload_n 0, 1) := dk_42 (dk_at dksX0_residue_0 0 rfl rfl)
theorem dX0_residue_1 : decode cX0_residue 1 = .ok (.iload_n 1, 1) := dk_27 (dk_at dksX0_residue_0 1 rfl rfl)
theorem dX0_residue_2 : decode cX0_residue 2 = .ok (.invokevirtual 183, 3) := dk_182 0 183 (dk_at dksX0_residue_0 2 rfl rfl)
theorem dX0_residue_5 : decode cX0_residue 5 = .ok (.ifCond .eq 25, 3) := dk_153 0 25 (dk_at dksX0_residue_0 5 rfl rfl)
theorem dX0_residue_8 : decode cX0_residue 8 = .ok (.iload_n 2, 1) := dk_28 (dk_at dksX0_residue_0 8 rfl rfl)
theorem dX0_residue_9 : decode cX0_residue 9 = .ok (.invokestatic 225, 3) := dk_184 0 225 (dk_at dksX0_residue_0 9 rfl rfl)
theorem dX0_residue_12 : decode cX0_residue 12 = .ok (.ifCond .eq 18, 3) := dk_153 0 18 (dk_at dksX0_residue_0 12 rfl rfl)
theorem dX0_residue_15 : decode cX0_residue 15 = .ok (.aload_n 0, 1) := dk_42 (dk_at dksX0_residue_0 15 rfl rfl)
theorem dX0_residue_16 : decode cX0_residue 16 = .ok (.getfield 27, 3) := dk_180 0 27 (dk_at dksX0_residue_0 16 rfl rfl)
theorem dX0_residue_19 : decode cX0_residue 19 = .ok (.getfield 68, 3) := dk_180 0 68 (dk_at dksX0_residue_0 19 rfl rfl)
theorem dX0_residue_22 : decode cX0_residue 22 = .ok (.iload_n 1, 1) := dk_27 (dk_at dksX0_residue_0 22 rfl rfl)
theorem dX0_residue_23 : decode cX0_residue 23 = .ok (.iload_n 2, 1) := dk_28 (dk_at dksX0_residue_0 23 rfl rfl)
theorem dX0_residue_24 : decode cX0_residue 24 = .ok (.invokevirtual 228, 3) := dk_182 0 228 (dk_at dksX0_residue_1 0 rfl rfl)
theorem dX0_residue_27 : decode cX0_residue 27 = .ok (.goto 4, 3) := dk_167 0 4 (dk_at dksX0_residue_1 3 rfl rfl)
theorem dX0_residue_30 : decode cX0_residue 30 = .ok (.iconst (-1), 1) := dk_2 (dk_at dksX0_residue_1 6 rfl rfl)
theorem dX0_residue_31 : decode cX0_residue 31 = .ok (.ireturn, 1) := dk_172 (dk_at dksX0_residue_1 7 rfl rfl)
abbrev cX0_isPrime : ByteArray := prog_1_method_27_code
def yX0_isPrime : MethodName := ⟨RX0, "isPrime", "(I)Z"⟩
def dkwX0_isPrime_0 : List UInt8 := [26, 5, 159, 0, 13, 26, 6, 159, 0, 8, 26, 8, 160, 0, 7, 4, 167, 0, 4, 3, 172]
abbrev dktX0_isPrime_0 : List UInt8 := dkwX0_isPrime_0 ++ []
theorem dksX0_isPrime_0 : cX0_isPrime.data.toList.drop 0 = dktX0_isPrime_0 := by decide +kernel
theorem dX0_isPrime_0 : decode cX0_isPrime 0 = .ok (.iload_n 0, 1) := dk_26 (dk_at dksX0_isPrime_0 0 rfl rfl)
theorem dX0_isPrime_1 : decode cX0_isPrime 1 = .ok (.iconst 2, 1) := dk_5 (dk_at dksX0_isPrime_0 1 rfl rfl)
theorem dX0_isPrime_2 : decode cX0_isPrime 2 = .ok (.if_icmp .eq 13, 3) := dk_159 0 13 (dk_at dksX0_isPrime_0 2 rfl rfl)
theorem dX0_isPrime_5 : decode cX0_isPrime 5 = .ok (.iload_n 0, 1) := dk_26 (dk_at dksX0_isPrime_0 5 rfl rfl)
theorem dX0_isPrime_6 : decode cX0_isPrime 6 = .ok (.iconst 3, 1) := dk_6 (dk_at dksX0_isPrime_0 6 rfl rfl)
theorem dX0_isPrime_7 : decode cX0_isPrime 7 = .ok (.if_icmp .eq 8, 3) := dk_159 0 8 (dk_at dksX0_isPrime_0 7 rfl rfl)
theorem dX0_isPrime_10 : decode cX0_isPrime 10 = .ok (.iload_n 0, 1) := dk_26 (dk_at dksX0_isPrime_0 10 rfl rfl)
theorem dX0_isPrime_11 : decode cX0_isPrime 11 = .ok (.iconst 5, 1) := dk_8 (dk_at dksX0_isPrime_0 11 rfl rfl)
theorem dX0_isPrime_12 : decode cX0_isPrime 12 = .ok (.if_icmp .ne 7, 3) := dk_160 0 7 (dk_at dksX0_isPrime_0 12 rfl rfl)
theorem dX0_isPrime_15 : decode cX0_isPrime 15 = .ok (.iconst 1, 1) := dk_4 (dk_at dksX0_isPrime_0 15 rfl rfl)
theorem dX0_isPrime_16 : decode cX0_isPrime 16 = .ok (.goto 4, 3) := dk_167 0 4 (dk_at dksX0_isPrime_0 16 rfl rfl)
theorem dX0_isPrime_19 : decode cX0_isPrime 19 = .ok (.iconst 0, 1) := dk_3 (dk_at dksX0_isPrime_0 19 rfl rfl)
theorem dX0_isPrime_20 : decode cX0_isPrime 20 = .ok (.ireturn, 1) := dk_172 (dk_at dksX0_isPrime_0 20 rfl rfl)
abbrev cX0_block : ByteArray := prog_1_method_29_code
def yX0_block : MethodName := ⟨RX0, "block", "(II)I"⟩
def dkwX0_block_1 : List UInt8 := [182, 0, 231, 167, 0, 4, 2, 172]
abbrev dktX0_block_1 : List UInt8 := dkwX0_block_1 ++ []
def dkwX0_block_0 : List UInt8 := [42, 27, 182, 0, 183, 153, 0, 25, 28, 184, 0, 225, 153, 0, 18, 42, 180, 0, 27, 180, 0, 68, 27, 28]
abbrev dktX0_block_0 : List UInt8 := dkwX0_block_0 ++ dktX0_block_1
theorem dksX0_block_0 : cX0_block.data.toList.drop 0 = dktX0_block_0 := by decide +kernel
theorem dksX0_block_1 : cX0_block.data.toList.drop 24 = dktX0_block_1 := dk_seg dksX0_block_0 24 rfl rfl
theorem dX0_block_0 : decode cX0_block 0 = .ok (.aload_n 0, 1) := dk_42 (dk_at dksX0_block_0 0 rfl rfl)
theorem dX0_block_1 : decode cX0_block 1 = .ok (.iload_n 1, 1) := dk_27 (dk_at dksX0_block_0 1 rfl rfl)
theorem dX0_block_2 : decode cX0_block 2 = .ok (.invokevirtual 183, 3) := dk_182 0 183 (dk_at dksX0_block_0 2 rfl rfl)
theorem dX0_block_5 : decode cX0_block 5 = .ok (.ifCond .eq 25, 3) := dk_153 0 25 (dk_at dksX0_block_0 5 rfl rfl)
theorem dX0_block_8 : decode cX0_block 8 = .ok (.iload_n 2, 1) := dk_28 (dk_at dksX0_block_0 8 rfl rfl)
theorem dX0_block_9 : decode cX0_block 9 = .ok (.invokestatic 225, 3) := dk_184 0 225 (dk_at dksX0_block_0 9 rfl rfl)
theorem dX0_block_12 : decode cX0_block 12 = .ok (.ifCond .eq 18, 3) := dk_153 0 18 (dk_at dksX0_block_0 12 rfl rfl)
theorem dX0_block_15 : decode cX0_block 15 = .ok (.aload_n 0, 1) := dk_42 (dk_at dksX0_block_0 15 rfl rfl)
theorem dX0_block_16 : decode cX0_block 16 = .ok (.getfield 27, 3) := dk_180 0 27 (dk_at dksX0_block_0 16 rfl rfl)
theorem dX0_block_19 : decode cX0_block 19 = .ok (.getfield 68, 3) := dk_180 0 68 (dk_at dksX0_block_0 19 rfl rfl)
theorem dX0_block_22 : decode cX0_block 22 = .ok (.iload_n 1, 1) := dk_27 (dk_at dksX0_block_0 22 rfl rfl)
theorem dX0_block_23 : decode cX0_block 23 = .ok (.iload_n 2, 1) := dk_28 (dk_at dksX0_block_0 23 rfl rfl)
theorem dX0_block_24 : decode cX0_block 24 = .ok (.invokevirtual 231, 3) := dk_182 0 231 (dk_at dksX0_block_1 0 rfl rfl)
theorem dX0_block_27 : decode cX0_block 27 = .ok (.goto 4, 3) := dk_167 0 4 (dk_at dksX0_block_1 3 rfl rfl)
theorem dX0_block_30 : decode cX0_block 30 = .ok (.iconst (-1), 1) := dk_2 (dk_at dksX0_block_1 6 rfl rfl)
theorem dX0_block_31 : decode cX0_block 31 = .ok (.ireturn, 1) := dk_172 (dk_at dksX0_block_1 7 rfl rfl)
abbrev cX0_keeper : ByteArray := prog_1_method_31_code
def yX0_keeper : MethodName := ⟨RX0, "keeper", "(I)I"⟩
def dkwX0_keeper_0 : List UInt8 := [42, 27, 182, 0, 234, 153, 0, 17, 42, 180, 0, 27, 180, 0, 68, 27, 182, 0, 237, 167, 0, 4, 2, 172]
abbrev dktX0_keeper_0 : List UInt8 := dkwX0_keeper_0 ++ []
theorem dksX0_keeper_0 : cX0_keeper.data.toList.drop 0 = dktX0_keeper_0 := by decide +kernel
theorem dX0_keeper_0 : decode cX0_keeper 0 = .ok (.aload_n 0, 1) := dk_42 (dk_at dksX0_keeper_0 0 rfl rfl)
theorem dX0_keeper_1 : decode cX0_keeper 1 = .ok (.iload_n 1, 1) := dk_27 (dk_at dksX0_keeper_0 1 rfl rfl)
theorem dX0_keeper_2 : decode cX0_keeper 2 = .ok (.invokevirtual 234, 3) := dk_182 0 234 (dk_at dksX0_keeper_0 2 rfl rfl)
theorem dX0_keeper_5 : decode cX0_keeper 5 = .ok (.ifCond .eq 17, 3) := dk_153 0 17 (dk_at dksX0_keeper_0 5 rfl rfl)
theorem dX0_keeper_8 : decode cX0_keeper 8 = .ok (.aload_n 0, 1) := dk_42 (dk_at dksX0_keeper_0 8 rfl rfl)
theorem dX0_keeper_9 : decode cX0_keeper 9 = .ok (.getfield 27, 3) := dk_180 0 27 (dk_at dksX0_keeper_0 9 rfl rfl)
theorem dX0_keeper_12 : decode cX0_keeper 12 = .ok (.getfield 68, 3) := dk_180 0 68 (dk_at dksX0_keeper_0 12 rfl rfl)
theorem dX0_keeper_15 : decode cX0_keeper 15 = .ok (.iload_n 1, 1) := dk_27 (dk_at dksX0_keeper_0 15 rfl rfl)
theorem dX0_keeper_16 : decode cX0_keeper 16 = .ok (.invokevirtual 237, 3) := dk_182 0 237 (dk_at dksX0_keeper_0 16 rfl rfl)
theorem dX0_keeper_19 : decode cX0_keeper 19 = .ok (.goto 4, 3) := dk_167 0 4 (dk_at dksX0_keeper_0 19 rfl rfl)
theorem dX0_keeper_22 : decode cX0_keeper 22 = .ok (.iconst (-1), 1) := dk_2 (dk_at dksX0_keeper_0 22 rfl rfl)
theorem dX0_keeper_23 : decode cX0_keeper 23 = .ok (.ireturn, 1) := dk_172 (dk_at dksX0_keeper_0 23 rfl rfl)
abbrev cX0_isPlace : ByteArray := prog_1_method_30_code
def yX0_isPlace : MethodName := ⟨RX0, "isPlace", "(I)Z"⟩
def dkwX0_isPlace_0 : List UInt8 := [27, 133, 9, 42, 180, 0, 27, 180, 0, 133, 4, 100, 133, 184, 0, 129, 172]
abbrev dktX0_isPlace_0 : List UInt8 := dkwX0_isPlace_0 ++ []
theorem dksX0_isPlace_0 : cX0_isPlace.data.toList.drop 0 = dktX0_isPlace_0 := by decide +kernel
theorem dX0_isPlace_0 : decode cX0_isPlace 0 = .ok (.iload_n 1, 1) := dk_27 (dk_at dksX0_isPlace_0 0 rfl rfl)
theorem dX0_isPlace_1 : decode cX0_isPlace 1 = .ok (.i2l, 1) := dk_133 (dk_at dksX0_isPlace_0 1 rfl rfl)
theorem dX0_isPlace_2 : decode cX0_isPlace 2 = .ok (.lconst 0, 1) := dk_9 (dk_at dksX0_isPlace_0 2 rfl rfl)
theorem dX0_isPlace_3 : decode cX0_isPlace 3 = .ok (.aload_n 0, 1) := dk_42 (dk_at dksX0_isPlace_0 3 rfl rfl)
theorem dX0_isPlace_4 : decode cX0_isPlace 4 = .ok (.getfield 27, 3) := dk_180 0 27 (dk_at dksX0_isPlace_0 4 rfl rfl)
theorem dX0_isPlace_7 : decode cX0_isPlace 7 = .ok (.getfield 133, 3) := dk_180 0 133 (dk_at dksX0_isPlace_0 7 rfl rfl)
theorem dX0_isPlace_10 : decode cX0_isPlace 10 = .ok (.iconst 1, 1) := dk_4 (dk_at dksX0_isPlace_0 10 rfl rfl)
theorem dX0_isPlace_11 : decode cX0_isPlace 11 = .ok (.isub, 1) := dk_100 (dk_at dksX0_isPlace_0 11 rfl rfl)
theorem dX0_isPlace_12 : decode cX0_isPlace 12 = .ok (.i2l, 1) := dk_133 (dk_at dksX0_isPlace_0 12 rfl rfl)
theorem dX0_isPlace_13 : decode cX0_isPlace 13 = .ok (.invokestatic 129, 3) := dk_184 0 129 (dk_at dksX0_isPlace_0 13 rfl rfl)
theorem dX0_isPlace_16 : decode cX0_isPlace 16 = .ok (.ireturn, 1) := dk_172 (dk_at dksX0_isPlace_0 16 rfl rfl)
abbrev cX0_orbit : ByteArray := prog_1_method_32_code
def yX0_orbit : MethodName := ⟨RX0, "orbit", "(I)I"⟩
def dkwX0_orbit_0 : List UInt8 := [42, 27, 182, 0, 234, 153, 0, 17, 42, 180, 0, 27, 180, 0, 68, 27, 182, 0, 240, 167, 0, 4, 2, 172]
abbrev dktX0_orbit_0 : List UInt8 := dkwX0_orbit_0 ++ []
theorem dksX0_orbit_0 : cX0_orbit.data.toList.drop 0 = dktX0_orbit_0 := by decide +kernel
theorem dX0_orbit_0 : decode cX0_orbit 0 = .ok (.aload_n 0, 1) := dk_42 (dk_at dksX0_orbit_0 0 rfl rfl)
theorem dX0_orbit_1 : decode cX0_orbit 1 = .ok (.iload_n 1, 1) := dk_27 (dk_at dksX0_orbit_0 1 rfl rfl)
theorem dX0_orbit_2 : decode cX0_orbit 2 = .ok (.invokevirtual 234, 3) := dk_182 0 234 (dk_at dksX0_orbit_0 2 rfl rfl)
theorem dX0_orbit_5 : decode cX0_orbit 5 = .ok (.ifCond .eq 17, 3) := dk_153 0 17 (dk_at dksX0_orbit_0 5 rfl rfl)
theorem dX0_orbit_8 : decode cX0_orbit 8 = .ok (.aload_n 0, 1) := dk_42 (dk_at dksX0_orbit_0 8 rfl rfl)
theorem dX0_orbit_9 : decode cX0_orbit 9 = .ok (.getfield 27, 3) := dk_180 0 27 (dk_at dksX0_orbit_0 9 rfl rfl)
theorem dX0_orbit_12 : decode cX0_orbit 12 = .ok (.getfield 68, 3) := dk_180 0 68 (dk_at dksX0_orbit_0 12 rfl rfl)
theorem dX0_orbit_15 : decode cX0_orbit 15 = .ok (.iload_n 1, 1) := dk_27 (dk_at dksX0_orbit_0 15 rfl rfl)
theorem dX0_orbit_16 : decode cX0_orbit 16 = .ok (.invokevirtual 240, 3) := dk_182 0 240 (dk_at dksX0_orbit_0 16 rfl rfl)
theorem dX0_orbit_19 : decode cX0_orbit 19 = .ok (.goto 4, 3) := dk_167 0 4 (dk_at dksX0_orbit_0 19 rfl rfl)
theorem dX0_orbit_22 : decode cX0_orbit 22 = .ok (.iconst (-1), 1) := dk_2 (dk_at dksX0_orbit_0 22 rfl rfl)
theorem dX0_orbit_23 : decode cX0_orbit 23 = .ok (.ireturn, 1) := dk_172 (dk_at dksX0_orbit_0 23 rfl rfl)
abbrev cX0_coset : ByteArray := prog_1_method_33_code
def yX0_coset : MethodName := ⟨RX0, "coset", "(II)I"⟩
def dkwX0_coset_1 : List UInt8 := [28, 182, 0, 243, 167, 0, 4, 2, 172]
abbrev dktX0_coset_1 : List UInt8 := dkwX0_coset_1 ++ []
def dkwX0_coset_0 : List UInt8 := [42, 27, 182, 0, 183, 153, 0, 26, 42, 28, 182, 0, 150, 153, 0, 18, 42, 180, 0, 27, 180, 0, 68, 27]
abbrev dktX0_coset_0 : List UInt8 := dkwX0_coset_0 ++ dktX0_coset_1
theorem dksX0_coset_0 : cX0_coset.data.toList.drop 0 = dktX0_coset_0 := by decide +kernel
theorem dksX0_coset_1 : cX0_coset.data.toList.drop 24 = dktX0_coset_1 := dk_seg dksX0_coset_0 24 rfl rfl
theorem dX0_coset_0 : decode cX0_coset 0 = .ok (.aload_n 0, 1) := dk_42 (dk_at dksX0_coset_0 0 rfl rfl)
theorem dX0_coset_1 : decode cX0_coset 1 = .ok (.iload_n 1, 1) := dk_27 (dk_at dksX0_coset_0 1 rfl rfl)
theorem dX0_coset_2 : decode cX0_coset 2 = .ok (.invokevirtual 183, 3) := dk_182 0 183 (dk_at dksX0_coset_0 2 rfl rfl)
theorem dX0_coset_5 : decode cX0_coset 5 = .ok (.ifCond .eq 26, 3) := dk_153 0 26 (dk_at dksX0_coset_0 5 rfl rfl)
theorem dX0_coset_8 : decode cX0_coset 8 = .ok (.aload_n 0, 1) := dk_42 (dk_at dksX0_coset_0 8 rfl rfl)
theorem dX0_coset_9 : decode cX0_coset 9 = .ok (.iload_n 2, 1) := dk_28 (dk_at dksX0_coset_0 9 rfl rfl)
theorem dX0_coset_10 : decode cX0_coset 10 = .ok (.invokevirtual 150, 3) := dk_182 0 150 (dk_at dksX0_coset_0 10 rfl rfl)
theorem dX0_coset_13 : decode cX0_coset 13 = .ok (.ifCond .eq 18, 3) := dk_153 0 18 (dk_at dksX0_coset_0 13 rfl rfl)
theorem dX0_coset_16 : decode cX0_coset 16 = .ok (.aload_n 0, 1) := dk_42 (dk_at dksX0_coset_0 16 rfl rfl)
theorem dX0_coset_17 : decode cX0_coset 17 = .ok (.getfield 27, 3) := dk_180 0 27 (dk_at dksX0_coset_0 17 rfl rfl)
theorem dX0_coset_20 : decode cX0_coset 20 = .ok (.getfield 68, 3) := dk_180 0 68 (dk_at dksX0_coset_0 20 rfl rfl)
theorem dX0_coset_23 : decode cX0_coset 23 = .ok (.iload_n 1, 1) := dk_27 (dk_at dksX0_coset_0 23 rfl rfl)
theorem dX0_coset_24 : decode cX0_coset 24 = .ok (.iload_n 2, 1) := dk_28 (dk_at dksX0_coset_1 0 rfl rfl)
theorem dX0_coset_25 : decode cX0_coset 25 = .ok (.invokevirtual 243, 3) := dk_182 0 243 (dk_at dksX0_coset_1 1 rfl rfl)
theorem dX0_coset_28 : decode cX0_coset 28 = .ok (.goto 4, 3) := dk_167 0 4 (dk_at dksX0_coset_1 4 rfl rfl)
theorem dX0_coset_31 : decode cX0_coset 31 = .ok (.iconst (-1), 1) := dk_2 (dk_at dksX0_coset_1 7 rfl rfl)
theorem dX0_coset_32 : decode cX0_coset 32 = .ok (.ireturn, 1) := dk_172 (dk_at dksX0_coset_1 8 rfl rfl)
abbrev cX0_takes : ByteArray := prog_1_method_34_code
def yX0_takes : MethodName := ⟨RX0, "takes", "(III)I"⟩
def dkwX0_takes_2 : List UInt8 := [182, 0, 243, 172]
abbrev dktX0_takes_2 : List UInt8 := dkwX0_takes_2 ++ []
def dkwX0_takes_1 : List UInt8 := [2, 172, 42, 180, 0, 27, 180, 0, 68, 27, 42, 180, 0, 27, 180, 0, 68, 180, 0, 164, 28, 50, 29, 46]
abbrev dktX0_takes_1 : List UInt8 := dkwX0_takes_1 ++ dktX0_takes_2
def dkwX0_takes_0 : List UInt8 := [42, 27, 182, 0, 183, 153, 0, 19, 42, 28, 182, 0, 150, 153, 0, 11, 42, 29, 182, 0, 150, 154, 0, 5]
abbrev dktX0_takes_0 : List UInt8 := dkwX0_takes_0 ++ dktX0_takes_1
theorem dksX0_takes_0 : cX0_takes.data.toList.drop 0 = dktX0_takes_0 := by decide +kernel
theorem dksX0_takes_1 : cX0_takes.data.toList.drop 24 = dktX0_takes_1 := dk_seg dksX0_takes_0 24 rfl rfl
theorem dksX0_takes_2 : cX0_takes.data.toList.drop 48 = dktX0_takes_2 := dk_seg dksX0_takes_1 24 rfl rfl
theorem dX0_takes_0 : decode cX0_takes 0 = .ok (.aload_n 0, 1) := dk_42 (dk_at dksX0_takes_0 0 rfl rfl)
theorem dX0_takes_1 : decode cX0_takes 1 = .ok (.iload_n 1, 1) := dk_27 (dk_at dksX0_takes_0 1 rfl rfl)
theorem dX0_takes_2 : decode cX0_takes 2 = .ok (.invokevirtual 183, 3) := dk_182 0 183 (dk_at dksX0_takes_0 2 rfl rfl)
theorem dX0_takes_5 : decode cX0_takes 5 = .ok (.ifCond .eq 19, 3) := dk_153 0 19 (dk_at dksX0_takes_0 5 rfl rfl)
theorem dX0_takes_8 : decode cX0_takes 8 = .ok (.aload_n 0, 1) := dk_42 (dk_at dksX0_takes_0 8 rfl rfl)
theorem dX0_takes_9 : decode cX0_takes 9 = .ok (.iload_n 2, 1) := dk_28 (dk_at dksX0_takes_0 9 rfl rfl)
theorem dX0_takes_10 : decode cX0_takes 10 = .ok (.invokevirtual 150, 3) := dk_182 0 150 (dk_at dksX0_takes_0 10 rfl rfl)
theorem dX0_takes_13 : decode cX0_takes 13 = .ok (.ifCond .eq 11, 3) := dk_153 0 11 (dk_at dksX0_takes_0 13 rfl rfl)
theorem dX0_takes_16 : decode cX0_takes 16 = .ok (.aload_n 0, 1) := dk_42 (dk_at dksX0_takes_0 16 rfl rfl)
theorem dX0_takes_17 : decode cX0_takes 17 = .ok (.iload_n 3, 1) := dk_29 (dk_at dksX0_takes_0 17 rfl rfl)
theorem dX0_takes_18 : decode cX0_takes 18 = .ok (.invokevirtual 150, 3) := dk_182 0 150 (dk_at dksX0_takes_0 18 rfl rfl)
theorem dX0_takes_21 : decode cX0_takes 21 = .ok (.ifCond .ne 5, 3) := dk_154 0 5 (dk_at dksX0_takes_0 21 rfl rfl)
theorem dX0_takes_24 : decode cX0_takes 24 = .ok (.iconst (-1), 1) := dk_2 (dk_at dksX0_takes_1 0 rfl rfl)
theorem dX0_takes_25 : decode cX0_takes 25 = .ok (.ireturn, 1) := dk_172 (dk_at dksX0_takes_1 1 rfl rfl)
theorem dX0_takes_26 : decode cX0_takes 26 = .ok (.aload_n 0, 1) := dk_42 (dk_at dksX0_takes_1 2 rfl rfl)
theorem dX0_takes_27 : decode cX0_takes 27 = .ok (.getfield 27, 3) := dk_180 0 27 (dk_at dksX0_takes_1 3 rfl rfl)
theorem dX0_takes_30 : decode cX0_takes 30 = .ok (.getfield 68, 3) := dk_180 0 68 (dk_at dksX0_takes_1 6 rfl rfl)
theorem dX0_takes_33 : decode cX0_takes 33 = .ok (.iload_n 1, 1) := dk_27 (dk_at dksX0_takes_1 9 rfl rfl)
theorem dX0_takes_34 : decode cX0_takes 34 = .ok (.aload_n 0, 1) := dk_42 (dk_at dksX0_takes_1 10 rfl rfl)
theorem dX0_takes_35 : decode cX0_takes 35 = .ok (.getfield 27, 3) := dk_180 0 27 (dk_at dksX0_takes_1 11 rfl rfl)
theorem dX0_takes_38 : decode cX0_takes 38 = .ok (.getfield 68, 3) := dk_180 0 68 (dk_at dksX0_takes_1 14 rfl rfl)
theorem dX0_takes_41 : decode cX0_takes 41 = .ok (.getfield 164, 3) := dk_180 0 164 (dk_at dksX0_takes_1 17 rfl rfl)
theorem dX0_takes_44 : decode cX0_takes 44 = .ok (.iload_n 2, 1) := dk_28 (dk_at dksX0_takes_1 20 rfl rfl)
theorem dX0_takes_45 : decode cX0_takes 45 = .ok (.aaload, 1) := dk_50 (dk_at dksX0_takes_1 21 rfl rfl)
theorem dX0_takes_46 : decode cX0_takes 46 = .ok (.iload_n 3, 1) := dk_29 (dk_at dksX0_takes_1 22 rfl rfl)
theorem dX0_takes_47 : decode cX0_takes 47 = .ok (.iaload, 1) := dk_46 (dk_at dksX0_takes_1 23 rfl rfl)
theorem dX0_takes_48 : decode cX0_takes 48 = .ok (.invokevirtual 243, 3) := dk_182 0 243 (dk_at dksX0_takes_2 0 rfl rfl)
theorem dX0_takes_51 : decode cX0_takes 51 = .ok (.ireturn, 1) := dk_172 (dk_at dksX0_takes_2 3 rfl rfl)
abbrev cX0_moebius : ByteArray := prog_1_method_35_code
def yX0_moebius : MethodName := ⟨RX0, "moebius", "(I)I"⟩
def dkwX0_moebius_1 : List UInt8 := [172]
abbrev dktX0_moebius_1 : List UInt8 := dkwX0_moebius_1 ++ []
def dkwX0_moebius_0 : List UInt8 := [42, 27, 182, 0, 183, 153, 0, 17, 42, 180, 0, 27, 180, 0, 68, 27, 182, 0, 246, 167, 0, 5, 18, 249]
abbrev dktX0_moebius_0 : List UInt8 := dkwX0_moebius_0 ++ dktX0_moebius_1
theorem dksX0_moebius_0 : cX0_moebius.data.toList.drop 0 = dktX0_moebius_0 := by decide +kernel
theorem dksX0_moebius_1 : cX0_moebius.data.toList.drop 24 = dktX0_moebius_1 := dk_seg dksX0_moebius_0 24 rfl rfl
theorem dX0_moebius_0 : decode cX0_moebius 0 = .ok (.aload_n 0, 1) := dk_42 (dk_at dksX0_moebius_0 0 rfl rfl)
theorem dX0_moebius_1 : decode cX0_moebius 1 = .ok (.iload_n 1, 1) := dk_27 (dk_at dksX0_moebius_0 1 rfl rfl)
theorem dX0_moebius_2 : decode cX0_moebius 2 = .ok (.invokevirtual 183, 3) := dk_182 0 183 (dk_at dksX0_moebius_0 2 rfl rfl)
theorem dX0_moebius_5 : decode cX0_moebius 5 = .ok (.ifCond .eq 17, 3) := dk_153 0 17 (dk_at dksX0_moebius_0 5 rfl rfl)
theorem dX0_moebius_8 : decode cX0_moebius 8 = .ok (.aload_n 0, 1) := dk_42 (dk_at dksX0_moebius_0 8 rfl rfl)
theorem dX0_moebius_9 : decode cX0_moebius 9 = .ok (.getfield 27, 3) := dk_180 0 27 (dk_at dksX0_moebius_0 9 rfl rfl)
theorem dX0_moebius_12 : decode cX0_moebius 12 = .ok (.getfield 68, 3) := dk_180 0 68 (dk_at dksX0_moebius_0 12 rfl rfl)
theorem dX0_moebius_15 : decode cX0_moebius 15 = .ok (.iload_n 1, 1) := dk_27 (dk_at dksX0_moebius_0 15 rfl rfl)
theorem dX0_moebius_16 : decode cX0_moebius 16 = .ok (.invokevirtual 246, 3) := dk_182 0 246 (dk_at dksX0_moebius_0 16 rfl rfl)
theorem dX0_moebius_19 : decode cX0_moebius 19 = .ok (.goto 5, 3) := dk_167 0 5 (dk_at dksX0_moebius_0 19 rfl rfl)
theorem dX0_moebius_22 : decode cX0_moebius 22 = .ok (.ldc 249, 2) := dk_18 249 (dk_at dksX0_moebius_0 22 rfl rfl)
theorem dX0_moebius_24 : decode cX0_moebius 24 = .ok (.ireturn, 1) := dk_172 (dk_at dksX0_moebius_1 0 rfl rfl)
abbrev cX0_mixed : ByteArray := prog_1_method_37_code
def yX0_mixed : MethodName := ⟨RX0, "mixed", "(I)I"⟩
def dkwX0_mixed_1 : List UInt8 := [182, 0, 250, 182, 0, 253, 182, 0, 180, 167, 0, 4, 2, 172]
abbrev dktX0_mixed_1 : List UInt8 := dkwX0_mixed_1 ++ []
def dkwX0_mixed_0 : List UInt8 := [42, 27, 182, 0, 183, 153, 0, 31, 42, 180, 0, 27, 180, 0, 68, 42, 180, 0, 27, 180, 0, 68, 42, 27]
abbrev dktX0_mixed_0 : List UInt8 := dkwX0_mixed_0 ++ dktX0_mixed_1
theorem dksX0_mixed_0 : cX0_mixed.data.toList.drop 0 = dktX0_mixed_0 := by decide +kernel
theorem dksX0_mixed_1 : cX0_mixed.data.toList.drop 24 = dktX0_mixed_1 := dk_seg dksX0_mixed_0 24 rfl rfl
theorem dX0_mixed_0 : decode cX0_mixed 0 = .ok (.aload_n 0, 1) := dk_42 (dk_at dksX0_mixed_0 0 rfl rfl)
theorem dX0_mixed_1 : decode cX0_mixed 1 = .ok (.iload_n 1, 1) := dk_27 (dk_at dksX0_mixed_0 1 rfl rfl)
theorem dX0_mixed_2 : decode cX0_mixed 2 = .ok (.invokevirtual 183, 3) := dk_182 0 183 (dk_at dksX0_mixed_0 2 rfl rfl)
theorem dX0_mixed_5 : decode cX0_mixed 5 = .ok (.ifCond .eq 31, 3) := dk_153 0 31 (dk_at dksX0_mixed_0 5 rfl rfl)
theorem dX0_mixed_8 : decode cX0_mixed 8 = .ok (.aload_n 0, 1) := dk_42 (dk_at dksX0_mixed_0 8 rfl rfl)
theorem dX0_mixed_9 : decode cX0_mixed 9 = .ok (.getfield 27, 3) := dk_180 0 27 (dk_at dksX0_mixed_0 9 rfl rfl)
theorem dX0_mixed_12 : decode cX0_mixed 12 = .ok (.getfield 68, 3) := dk_180 0 68 (dk_at dksX0_mixed_0 12 rfl rfl)
theorem dX0_mixed_15 : decode cX0_mixed 15 = .ok (.aload_n 0, 1) := dk_42 (dk_at dksX0_mixed_0 15 rfl rfl)
theorem dX0_mixed_16 : decode cX0_mixed 16 = .ok (.getfield 27, 3) := dk_180 0 27 (dk_at dksX0_mixed_0 16 rfl rfl)
theorem dX0_mixed_19 : decode cX0_mixed 19 = .ok (.getfield 68, 3) := dk_180 0 68 (dk_at dksX0_mixed_0 19 rfl rfl)
theorem dX0_mixed_22 : decode cX0_mixed 22 = .ok (.aload_n 0, 1) := dk_42 (dk_at dksX0_mixed_0 22 rfl rfl)
theorem dX0_mixed_23 : decode cX0_mixed 23 = .ok (.iload_n 1, 1) := dk_27 (dk_at dksX0_mixed_0 23 rfl rfl)
theorem dX0_mixed_24 : decode cX0_mixed 24 = .ok (.invokevirtual 250, 3) := dk_182 0 250 (dk_at dksX0_mixed_1 0 rfl rfl)
theorem dX0_mixed_27 : decode cX0_mixed 27 = .ok (.invokevirtual 253, 3) := dk_182 0 253 (dk_at dksX0_mixed_1 3 rfl rfl)
theorem dX0_mixed_30 : decode cX0_mixed 30 = .ok (.invokevirtual 180, 3) := dk_182 0 180 (dk_at dksX0_mixed_1 6 rfl rfl)
theorem dX0_mixed_33 : decode cX0_mixed 33 = .ok (.goto 4, 3) := dk_167 0 4 (dk_at dksX0_mixed_1 9 rfl rfl)
theorem dX0_mixed_36 : decode cX0_mixed 36 = .ok (.iconst (-1), 1) := dk_2 (dk_at dksX0_mixed_1 12 rfl rfl)
theorem dX0_mixed_37 : decode cX0_mixed 37 = .ok (.ireturn, 1) := dk_172 (dk_at dksX0_mixed_1 13 rfl rfl)
abbrev cX0_firstOf : ByteArray := prog_1_method_36_code
def yX0_firstOf : MethodName := ⟨RX0, "firstOf", "(I)I"⟩
def dkwX0_firstOf_0 : List UInt8 := [42, 180, 0, 27, 180, 0, 68, 180, 0, 124, 27, 185, 0, 156, 2, 0, 192, 0, 186, 180, 0, 193, 172]
abbrev dktX0_firstOf_0 : List UInt8 := dkwX0_firstOf_0 ++ []
theorem dksX0_firstOf_0 : cX0_firstOf.data.toList.drop 0 = dktX0_firstOf_0 := by decide +kernel
theorem dX0_firstOf_0 : decode cX0_firstOf 0 = .ok (.aload_n 0, 1) := dk_42 (dk_at dksX0_firstOf_0 0 rfl rfl)
theorem dX0_firstOf_1 : decode cX0_firstOf 1 = .ok (.getfield 27, 3) := dk_180 0 27 (dk_at dksX0_firstOf_0 1 rfl rfl)
theorem dX0_firstOf_4 : decode cX0_firstOf 4 = .ok (.getfield 68, 3) := dk_180 0 68 (dk_at dksX0_firstOf_0 4 rfl rfl)
theorem dX0_firstOf_7 : decode cX0_firstOf 7 = .ok (.getfield 124, 3) := dk_180 0 124 (dk_at dksX0_firstOf_0 7 rfl rfl)
theorem dX0_firstOf_10 : decode cX0_firstOf 10 = .ok (.iload_n 1, 1) := dk_27 (dk_at dksX0_firstOf_0 10 rfl rfl)
theorem dX0_firstOf_11 : decode cX0_firstOf 11 = .ok (.invokeinterface 156 2, 5) := by decide +kernel
theorem dX0_firstOf_16 : decode cX0_firstOf 16 = .ok (.checkcast 186, 3) := dk_192 0 186 (dk_at dksX0_firstOf_0 16 rfl rfl)
theorem dX0_firstOf_19 : decode cX0_firstOf 19 = .ok (.getfield 193, 3) := dk_180 0 193 (dk_at dksX0_firstOf_0 19 rfl rfl)
theorem dX0_firstOf_22 : decode cX0_firstOf 22 = .ok (.ireturn, 1) := dk_172 (dk_at dksX0_firstOf_0 22 rfl rfl)
abbrev cX0_centre : ByteArray := prog_1_method_38_code
def yX0_centre : MethodName := ⟨RX0, "centre", "(I)I"⟩
def dkwX0_centre_1 : List UInt8 := [167, 0, 4, 2, 172]
abbrev dktX0_centre_1 : List UInt8 := dkwX0_centre_1 ++ []
def dkwX0_centre_0 : List UInt8 := [42, 27, 182, 0, 183, 153, 0, 21, 42, 180, 0, 27, 180, 0, 68, 42, 27, 182, 0, 250, 182, 1, 0]
abbrev dktX0_centre_0 : List UInt8 := dkwX0_centre_0 ++ dktX0_centre_1
theorem dksX0_centre_0 : cX0_centre.data.toList.drop 0 = dktX0_centre_0 := by decide +kernel
theorem dksX0_centre_1 : cX0_centre.data.toList.drop 23 = dktX0_centre_1 := dk_seg dksX0_centre_0 23 rfl rfl
theorem dX0_centre_0 : decode cX0_centre 0 = .ok (.aload_n 0, 1) := dk_42 (dk_at dksX0_centre_0 0 rfl rfl)
theorem dX0_centre_1 : decode cX0_centre 1 = .ok (.iload_n 1, 1) := dk_27 (dk_at dksX0_centre_0 1 rfl rfl)
theorem dX0_centre_2 : decode cX0_centre 2 = .ok (.invokevirtual 183, 3) := dk_182 0 183 (dk_at dksX0_centre_0 2 rfl rfl)
theorem dX0_centre_5 : decode cX0_centre 5 = .ok (.ifCond .eq 21, 3) := dk_153 0 21 (dk_at dksX0_centre_0 5 rfl rfl)
theorem dX0_centre_8 : decode cX0_centre 8 = .ok (.aload_n 0, 1) := dk_42 (dk_at dksX0_centre_0 8 rfl rfl)
theorem dX0_centre_9 : decode cX0_centre 9 = .ok (.getfield 27, 3) := dk_180 0 27 (dk_at dksX0_centre_0 9 rfl rfl)
theorem dX0_centre_12 : decode cX0_centre 12 = .ok (.getfield 68, 3) := dk_180 0 68 (dk_at dksX0_centre_0 12 rfl rfl)
theorem dX0_centre_15 : decode cX0_centre 15 = .ok (.aload_n 0, 1) := dk_42 (dk_at dksX0_centre_0 15 rfl rfl)
theorem dX0_centre_16 : decode cX0_centre 16 = .ok (.iload_n 1, 1) := dk_27 (dk_at dksX0_centre_0 16 rfl rfl)
theorem dX0_centre_17 : decode cX0_centre 17 = .ok (.invokevirtual 250, 3) := dk_182 0 250 (dk_at dksX0_centre_0 17 rfl rfl)
theorem dX0_centre_20 : decode cX0_centre 20 = .ok (.invokevirtual 256, 3) := dk_182 1 0 (dk_at dksX0_centre_0 20 rfl rfl)
theorem dX0_centre_23 : decode cX0_centre 23 = .ok (.goto 4, 3) := dk_167 0 4 (dk_at dksX0_centre_1 0 rfl rfl)
theorem dX0_centre_26 : decode cX0_centre 26 = .ok (.iconst (-1), 1) := dk_2 (dk_at dksX0_centre_1 3 rfl rfl)
theorem dX0_centre_27 : decode cX0_centre 27 = .ok (.ireturn, 1) := dk_172 (dk_at dksX0_centre_1 4 rfl rfl)
abbrev cX0_pairs : ByteArray := prog_1_method_39_code
def yX0_pairs : MethodName := ⟨RX0, "pairs", "(II)I"⟩
def dkwX0_pairs_2 : List UInt8 := [167, 255, 233, 29, 172]
abbrev dktX0_pairs_2 : List UInt8 := dkwX0_pairs_2 ++ []
def dkwX0_pairs_1 : List UInt8 := [21, 4, 42, 182, 0, 111, 162, 0, 20, 29, 42, 27, 28, 21, 4, 182, 1, 3, 96, 62, 132, 4, 1]
abbrev dktX0_pairs_1 : List UInt8 := dkwX0_pairs_1 ++ dktX0_pairs_2
def dkwX0_pairs_0 : List UInt8 := [42, 27, 182, 0, 183, 153, 0, 11, 42, 28, 182, 0, 183, 154, 0, 5, 2, 172, 3, 62, 3, 54, 4]
abbrev dktX0_pairs_0 : List UInt8 := dkwX0_pairs_0 ++ dktX0_pairs_1
theorem dksX0_pairs_0 : cX0_pairs.data.toList.drop 0 = dktX0_pairs_0 := by decide +kernel
theorem dksX0_pairs_1 : cX0_pairs.data.toList.drop 23 = dktX0_pairs_1 := dk_seg dksX0_pairs_0 23 rfl rfl
theorem dksX0_pairs_2 : cX0_pairs.data.toList.drop 46 = dktX0_pairs_2 := dk_seg dksX0_pairs_1 23 rfl rfl
theorem dX0_pairs_0 : decode cX0_pairs 0 = .ok (.aload_n 0, 1) := dk_42 (dk_at dksX0_pairs_0 0 rfl rfl)
theorem dX0_pairs_1 : decode cX0_pairs 1 = .ok (.iload_n 1, 1) := dk_27 (dk_at dksX0_pairs_0 1 rfl rfl)
theorem dX0_pairs_2 : decode cX0_pairs 2 = .ok (.invokevirtual 183, 3) := dk_182 0 183 (dk_at dksX0_pairs_0 2 rfl rfl)
theorem dX0_pairs_5 : decode cX0_pairs 5 = .ok (.ifCond .eq 11, 3) := dk_153 0 11 (dk_at dksX0_pairs_0 5 rfl rfl)
theorem dX0_pairs_8 : decode cX0_pairs 8 = .ok (.aload_n 0, 1) := dk_42 (dk_at dksX0_pairs_0 8 rfl rfl)
theorem dX0_pairs_9 : decode cX0_pairs 9 = .ok (.iload_n 2, 1) := dk_28 (dk_at dksX0_pairs_0 9 rfl rfl)
theorem dX0_pairs_10 : decode cX0_pairs 10 = .ok (.invokevirtual 183, 3) := dk_182 0 183 (dk_at dksX0_pairs_0 10 rfl rfl)
theorem dX0_pairs_13 : decode cX0_pairs 13 = .ok (.ifCond .ne 5, 3) := dk_154 0 5 (dk_at dksX0_pairs_0 13 rfl rfl)
theorem dX0_pairs_16 : decode cX0_pairs 16 = .ok (.iconst (-1), 1) := dk_2 (dk_at dksX0_pairs_0 16 rfl rfl)
theorem dX0_pairs_17 : decode cX0_pairs 17 = .ok (.ireturn, 1) := dk_172 (dk_at dksX0_pairs_0 17 rfl rfl)
theorem dX0_pairs_18 : decode cX0_pairs 18 = .ok (.iconst 0, 1) := dk_3 (dk_at dksX0_pairs_0 18 rfl rfl)
theorem dX0_pairs_19 : decode cX0_pairs 19 = .ok (.istore_n 3, 1) := dk_62 (dk_at dksX0_pairs_0 19 rfl rfl)
theorem dX0_pairs_20 : decode cX0_pairs 20 = .ok (.iconst 0, 1) := dk_3 (dk_at dksX0_pairs_0 20 rfl rfl)
theorem dX0_pairs_21 : decode cX0_pairs 21 = .ok (.istore 4, 2) := dk_54 4 (dk_at dksX0_pairs_0 21 rfl rfl)
theorem dX0_pairs_23 : decode cX0_pairs 23 = .ok (.iload 4, 2) := dk_21 4 (dk_at dksX0_pairs_1 0 rfl rfl)
theorem dX0_pairs_25 : decode cX0_pairs 25 = .ok (.aload_n 0, 1) := dk_42 (dk_at dksX0_pairs_1 2 rfl rfl)
theorem dX0_pairs_26 : decode cX0_pairs 26 = .ok (.invokevirtual 111, 3) := dk_182 0 111 (dk_at dksX0_pairs_1 3 rfl rfl)
theorem dX0_pairs_29 : decode cX0_pairs 29 = .ok (.if_icmp .ge 20, 3) := dk_162 0 20 (dk_at dksX0_pairs_1 6 rfl rfl)
theorem dX0_pairs_32 : decode cX0_pairs 32 = .ok (.iload_n 3, 1) := dk_29 (dk_at dksX0_pairs_1 9 rfl rfl)
theorem dX0_pairs_33 : decode cX0_pairs 33 = .ok (.aload_n 0, 1) := dk_42 (dk_at dksX0_pairs_1 10 rfl rfl)
theorem dX0_pairs_34 : decode cX0_pairs 34 = .ok (.iload_n 1, 1) := dk_27 (dk_at dksX0_pairs_1 11 rfl rfl)
theorem dX0_pairs_35 : decode cX0_pairs 35 = .ok (.iload_n 2, 1) := dk_28 (dk_at dksX0_pairs_1 12 rfl rfl)
theorem dX0_pairs_36 : decode cX0_pairs 36 = .ok (.iload 4, 2) := dk_21 4 (dk_at dksX0_pairs_1 13 rfl rfl)
theorem dX0_pairs_38 : decode cX0_pairs 38 = .ok (.invokevirtual 259, 3) := dk_182 1 3 (dk_at dksX0_pairs_1 15 rfl rfl)
theorem dX0_pairs_41 : decode cX0_pairs 41 = .ok (.iadd, 1) := dk_96 (dk_at dksX0_pairs_1 18 rfl rfl)
theorem dX0_pairs_42 : decode cX0_pairs 42 = .ok (.istore_n 3, 1) := dk_62 (dk_at dksX0_pairs_1 19 rfl rfl)
theorem dX0_pairs_43 : decode cX0_pairs 43 = .ok (.iinc 4 1, 3) := dk_132 4 1 (dk_at dksX0_pairs_1 20 rfl rfl)
theorem dX0_pairs_46 : decode cX0_pairs 46 = .ok (.goto (-23), 3) := dk_167 255 233 (dk_at dksX0_pairs_2 0 rfl rfl)
theorem dX0_pairs_49 : decode cX0_pairs 49 = .ok (.iload_n 3, 1) := dk_29 (dk_at dksX0_pairs_2 3 rfl rfl)
theorem dX0_pairs_50 : decode cX0_pairs 50 = .ok (.ireturn, 1) := dk_172 (dk_at dksX0_pairs_2 4 rfl rfl)
abbrev cX0_alike : ByteArray := prog_1_method_40_code
def yX0_alike : MethodName := ⟨RX0, "alike", "()I"⟩
def dkwX0_alike_3 : List UInt8 := [167, 255, 194, 27, 172]
abbrev dktX0_alike_3 : List UInt8 := dkwX0_alike_3 ++ []
def dkwX0_alike_2 : List UInt8 := [182, 1, 7, 160, 0, 7, 4, 167, 0, 4, 3, 96, 60, 132, 3, 1, 167, 255, 216, 132, 2, 1]
abbrev dktX0_alike_2 : List UInt8 := dkwX0_alike_2 ++ dktX0_alike_3
def dkwX0_alike_1 : List UInt8 := [180, 0, 27, 180, 0, 68, 182, 0, 121, 162, 0, 32, 27, 42, 28, 29, 182, 1, 7, 42, 29, 28]
abbrev dktX0_alike_1 : List UInt8 := dkwX0_alike_1 ++ dktX0_alike_2
def dkwX0_alike_0 : List UInt8 := [3, 60, 3, 61, 28, 42, 180, 0, 27, 180, 0, 68, 182, 0, 121, 162, 0, 54, 3, 62, 29, 42]
abbrev dktX0_alike_0 : List UInt8 := dkwX0_alike_0 ++ dktX0_alike_1
theorem dksX0_alike_0 : cX0_alike.data.toList.drop 0 = dktX0_alike_0 := by decide +kernel
theorem dksX0_alike_1 : cX0_alike.data.toList.drop 22 = dktX0_alike_1 := dk_seg dksX0_alike_0 22 rfl rfl
theorem dksX0_alike_2 : cX0_alike.data.toList.drop 44 = dktX0_alike_2 := dk_seg dksX0_alike_1 22 rfl rfl
theorem dksX0_alike_3 : cX0_alike.data.toList.drop 66 = dktX0_alike_3 := dk_seg dksX0_alike_2 22 rfl rfl
theorem dX0_alike_0 : decode cX0_alike 0 = .ok (.iconst 0, 1) := dk_3 (dk_at dksX0_alike_0 0 rfl rfl)
theorem dX0_alike_1 : decode cX0_alike 1 = .ok (.istore_n 1, 1) := dk_60 (dk_at dksX0_alike_0 1 rfl rfl)
theorem dX0_alike_2 : decode cX0_alike 2 = .ok (.iconst 0, 1) := dk_3 (dk_at dksX0_alike_0 2 rfl rfl)
theorem dX0_alike_3 : decode cX0_alike 3 = .ok (.istore_n 2, 1) := dk_61 (dk_at dksX0_alike_0 3 rfl rfl)
theorem dX0_alike_4 : decode cX0_alike 4 = .ok (.iload_n 2, 1) := dk_28 (dk_at dksX0_alike_0 4 rfl rfl)
theorem dX0_alike_5 : decode cX0_alike 5 = .ok (.aload_n 0, 1) := dk_42 (dk_at dksX0_alike_0 5 rfl rfl)
theorem dX0_alike_6 : decode cX0_alike 6 = .ok (.getfield 27, 3) := dk_180 0 27 (dk_at dksX0_alike_0 6 rfl rfl)
theorem dX0_alike_9 : decode cX0_alike 9 = .ok (.getfield 68, 3) := dk_180 0 68 (dk_at dksX0_alike_0 9 rfl rfl)
theorem dX0_alike_12 : decode cX0_alike 12 = .ok (.invokevirtual 121, 3) := dk_182 0 121 (dk_at dksX0_alike_0 12 rfl rfl)
theorem dX0_alike_15 : decode cX0_alike 15 = .ok (.if_icmp .ge 54, 3) := dk_162 0 54 (dk_at dksX0_alike_0 15 rfl rfl)
theorem dX0_alike_18 : decode cX0_alike 18 = .ok (.iconst 0, 1) := dk_3 (dk_at dksX0_alike_0 18 rfl rfl)
theorem dX0_alike_19 : decode cX0_alike 19 = .ok (.istore_n 3, 1) := dk_62 (dk_at dksX0_alike_0 19 rfl rfl)
theorem dX0_alike_20 : decode cX0_alike 20 = .ok (.iload_n 3, 1) := dk_29 (dk_at dksX0_alike_0 20 rfl rfl)
theorem dX0_alike_21 : decode cX0_alike 21 = .ok (.aload_n 0, 1) := dk_42 (dk_at dksX0_alike_0 21 rfl rfl)
theorem dX0_alike_22 : decode cX0_alike 22 = .ok (.getfield 27, 3) := dk_180 0 27 (dk_at dksX0_alike_1 0 rfl rfl)
theorem dX0_alike_25 : decode cX0_alike 25 = .ok (.getfield 68, 3) := dk_180 0 68 (dk_at dksX0_alike_1 3 rfl rfl)
theorem dX0_alike_28 : decode cX0_alike 28 = .ok (.invokevirtual 121, 3) := dk_182 0 121 (dk_at dksX0_alike_1 6 rfl rfl)
theorem dX0_alike_31 : decode cX0_alike 31 = .ok (.if_icmp .ge 32, 3) := dk_162 0 32 (dk_at dksX0_alike_1 9 rfl rfl)
theorem dX0_alike_34 : decode cX0_alike 34 = .ok (.iload_n 1, 1) := dk_27 (dk_at dksX0_alike_1 12 rfl rfl)
theorem dX0_alike_35 : decode cX0_alike 35 = .ok (.aload_n 0, 1) := dk_42 (dk_at dksX0_alike_1 13 rfl rfl)
theorem dX0_alike_36 : decode cX0_alike 36 = .ok (.iload_n 2, 1) := dk_28 (dk_at dksX0_alike_1 14 rfl rfl)
theorem dX0_alike_37 : decode cX0_alike 37 = .ok (.iload_n 3, 1) := dk_29 (dk_at dksX0_alike_1 15 rfl rfl)
theorem dX0_alike_38 : decode cX0_alike 38 = .ok (.invokevirtual 263, 3) := dk_182 1 7 (dk_at dksX0_alike_1 16 rfl rfl)
theorem dX0_alike_41 : decode cX0_alike 41 = .ok (.aload_n 0, 1) := dk_42 (dk_at dksX0_alike_1 19 rfl rfl)
theorem dX0_alike_42 : decode cX0_alike 42 = .ok (.iload_n 3, 1) := dk_29 (dk_at dksX0_alike_1 20 rfl rfl)
theorem dX0_alike_43 : decode cX0_alike 43 = .ok (.iload_n 2, 1) := dk_28 (dk_at dksX0_alike_1 21 rfl rfl)
theorem dX0_alike_44 : decode cX0_alike 44 = .ok (.invokevirtual 263, 3) := dk_182 1 7 (dk_at dksX0_alike_2 0 rfl rfl)
theorem dX0_alike_47 : decode cX0_alike 47 = .ok (.if_icmp .ne 7, 3) := dk_160 0 7 (dk_at dksX0_alike_2 3 rfl rfl)
theorem dX0_alike_50 : decode cX0_alike 50 = .ok (.iconst 1, 1) := dk_4 (dk_at dksX0_alike_2 6 rfl rfl)
theorem dX0_alike_51 : decode cX0_alike 51 = .ok (.goto 4, 3) := dk_167 0 4 (dk_at dksX0_alike_2 7 rfl rfl)
theorem dX0_alike_54 : decode cX0_alike 54 = .ok (.iconst 0, 1) := dk_3 (dk_at dksX0_alike_2 10 rfl rfl)
theorem dX0_alike_55 : decode cX0_alike 55 = .ok (.iadd, 1) := dk_96 (dk_at dksX0_alike_2 11 rfl rfl)
theorem dX0_alike_56 : decode cX0_alike 56 = .ok (.istore_n 1, 1) := dk_60 (dk_at dksX0_alike_2 12 rfl rfl)
theorem dX0_alike_57 : decode cX0_alike 57 = .ok (.iinc 3 1, 3) := dk_132 3 1 (dk_at dksX0_alike_2 13 rfl rfl)
theorem dX0_alike_60 : decode cX0_alike 60 = .ok (.goto (-40), 3) := dk_167 255 216 (dk_at dksX0_alike_2 16 rfl rfl)
theorem dX0_alike_63 : decode cX0_alike 63 = .ok (.iinc 2 1, 3) := dk_132 2 1 (dk_at dksX0_alike_2 19 rfl rfl)
theorem dX0_alike_66 : decode cX0_alike 66 = .ok (.goto (-62), 3) := dk_167 255 194 (dk_at dksX0_alike_3 0 rfl rfl)
theorem dX0_alike_69 : decode cX0_alike 69 = .ok (.iload_n 1, 1) := dk_27 (dk_at dksX0_alike_3 3 rfl rfl)
theorem dX0_alike_70 : decode cX0_alike 70 = .ok (.ireturn, 1) := dk_172 (dk_at dksX0_alike_3 4 rfl rfl)
abbrev cX0_meet : ByteArray := prog_1_method_41_code
def yX0_meet : MethodName := ⟨RX0, "meet", "(II)I"⟩
def dkwX0_meet_1 : List UInt8 := [27, 182, 0, 250, 42, 28, 182, 0, 250, 126, 182, 0, 180, 167, 0, 4, 2, 172]
abbrev dktX0_meet_1 : List UInt8 := dkwX0_meet_1 ++ []
def dkwX0_meet_0 : List UInt8 := [42, 27, 182, 0, 183, 153, 0, 35, 42, 28, 182, 0, 183, 153, 0, 27, 42, 180, 0, 27, 180, 0, 68, 42]
abbrev dktX0_meet_0 : List UInt8 := dkwX0_meet_0 ++ dktX0_meet_1
theorem dksX0_meet_0 : cX0_meet.data.toList.drop 0 = dktX0_meet_0 := by decide +kernel
theorem dksX0_meet_1 : cX0_meet.data.toList.drop 24 = dktX0_meet_1 := dk_seg dksX0_meet_0 24 rfl rfl
theorem dX0_meet_0 : decode cX0_meet 0 = .ok (.aload_n 0, 1) := dk_42 (dk_at dksX0_meet_0 0 rfl rfl)
theorem dX0_meet_1 : decode cX0_meet 1 = .ok (.iload_n 1, 1) := dk_27 (dk_at dksX0_meet_0 1 rfl rfl)
theorem dX0_meet_2 : decode cX0_meet 2 = .ok (.invokevirtual 183, 3) := dk_182 0 183 (dk_at dksX0_meet_0 2 rfl rfl)
theorem dX0_meet_5 : decode cX0_meet 5 = .ok (.ifCond .eq 35, 3) := dk_153 0 35 (dk_at dksX0_meet_0 5 rfl rfl)
theorem dX0_meet_8 : decode cX0_meet 8 = .ok (.aload_n 0, 1) := dk_42 (dk_at dksX0_meet_0 8 rfl rfl)
theorem dX0_meet_9 : decode cX0_meet 9 = .ok (.iload_n 2, 1) := dk_28 (dk_at dksX0_meet_0 9 rfl rfl)
theorem dX0_meet_10 : decode cX0_meet 10 = .ok (.invokevirtual 183, 3) := dk_182 0 183 (dk_at dksX0_meet_0 10 rfl rfl)
theorem dX0_meet_13 : decode cX0_meet 13 = .ok (.ifCond .eq 27, 3) := dk_153 0 27 (dk_at dksX0_meet_0 13 rfl rfl)
theorem dX0_meet_16 : decode cX0_meet 16 = .ok (.aload_n 0, 1) := dk_42 (dk_at dksX0_meet_0 16 rfl rfl)
theorem dX0_meet_17 : decode cX0_meet 17 = .ok (.getfield 27, 3) := dk_180 0 27 (dk_at dksX0_meet_0 17 rfl rfl)
theorem dX0_meet_20 : decode cX0_meet 20 = .ok (.getfield 68, 3) := dk_180 0 68 (dk_at dksX0_meet_0 20 rfl rfl)
theorem dX0_meet_23 : decode cX0_meet 23 = .ok (.aload_n 0, 1) := dk_42 (dk_at dksX0_meet_0 23 rfl rfl)
theorem dX0_meet_24 : decode cX0_meet 24 = .ok (.iload_n 1, 1) := dk_27 (dk_at dksX0_meet_1 0 rfl rfl)
theorem dX0_meet_25 : decode cX0_meet 25 = .ok (.invokevirtual 250, 3) := dk_182 0 250 (dk_at dksX0_meet_1 1 rfl rfl)
theorem dX0_meet_28 : decode cX0_meet 28 = .ok (.aload_n 0, 1) := dk_42 (dk_at dksX0_meet_1 4 rfl rfl)
theorem dX0_meet_29 : decode cX0_meet 29 = .ok (.iload_n 2, 1) := dk_28 (dk_at dksX0_meet_1 5 rfl rfl)
theorem dX0_meet_30 : decode cX0_meet 30 = .ok (.invokevirtual 250, 3) := dk_182 0 250 (dk_at dksX0_meet_1 6 rfl rfl)
theorem dX0_meet_33 : decode cX0_meet 33 = .ok (.iand, 1) := dk_126 (dk_at dksX0_meet_1 9 rfl rfl)
theorem dX0_meet_34 : decode cX0_meet 34 = .ok (.invokevirtual 180, 3) := dk_182 0 180 (dk_at dksX0_meet_1 10 rfl rfl)
theorem dX0_meet_37 : decode cX0_meet 37 = .ok (.goto 4, 3) := dk_167 0 4 (dk_at dksX0_meet_1 13 rfl rfl)
theorem dX0_meet_40 : decode cX0_meet 40 = .ok (.iconst (-1), 1) := dk_2 (dk_at dksX0_meet_1 16 rfl rfl)
theorem dX0_meet_41 : decode cX0_meet 41 = .ok (.ireturn, 1) := dk_172 (dk_at dksX0_meet_1 17 rfl rfl)
abbrev cX0_join : ByteArray := prog_1_method_42_code
def yX0_join : MethodName := ⟨RX0, "join", "(II)I"⟩
def dkwX0_join_1 : List UInt8 := [182, 0, 250, 128, 182, 1, 9, 167, 0, 4, 2, 172]
abbrev dktX0_join_1 : List UInt8 := dkwX0_join_1 ++ []
def dkwX0_join_0 : List UInt8 := [42, 27, 182, 0, 183, 153, 0, 29, 42, 28, 182, 0, 183, 153, 0, 21, 42, 42, 27, 182, 0, 250, 42, 28]
abbrev dktX0_join_0 : List UInt8 := dkwX0_join_0 ++ dktX0_join_1
theorem dksX0_join_0 : cX0_join.data.toList.drop 0 = dktX0_join_0 := by decide +kernel
theorem dksX0_join_1 : cX0_join.data.toList.drop 24 = dktX0_join_1 := dk_seg dksX0_join_0 24 rfl rfl
theorem dX0_join_0 : decode cX0_join 0 = .ok (.aload_n 0, 1) := dk_42 (dk_at dksX0_join_0 0 rfl rfl)
theorem dX0_join_1 : decode cX0_join 1 = .ok (.iload_n 1, 1) := dk_27 (dk_at dksX0_join_0 1 rfl rfl)
theorem dX0_join_2 : decode cX0_join 2 = .ok (.invokevirtual 183, 3) := dk_182 0 183 (dk_at dksX0_join_0 2 rfl rfl)
theorem dX0_join_5 : decode cX0_join 5 = .ok (.ifCond .eq 29, 3) := dk_153 0 29 (dk_at dksX0_join_0 5 rfl rfl)
theorem dX0_join_8 : decode cX0_join 8 = .ok (.aload_n 0, 1) := dk_42 (dk_at dksX0_join_0 8 rfl rfl)
theorem dX0_join_9 : decode cX0_join 9 = .ok (.iload_n 2, 1) := dk_28 (dk_at dksX0_join_0 9 rfl rfl)
theorem dX0_join_10 : decode cX0_join 10 = .ok (.invokevirtual 183, 3) := dk_182 0 183 (dk_at dksX0_join_0 10 rfl rfl)
theorem dX0_join_13 : decode cX0_join 13 = .ok (.ifCond .eq 21, 3) := dk_153 0 21 (dk_at dksX0_join_0 13 rfl rfl)
theorem dX0_join_16 : decode cX0_join 16 = .ok (.aload_n 0, 1) := dk_42 (dk_at dksX0_join_0 16 rfl rfl)
theorem dX0_join_17 : decode cX0_join 17 = .ok (.aload_n 0, 1) := dk_42 (dk_at dksX0_join_0 17 rfl rfl)
theorem dX0_join_18 : decode cX0_join 18 = .ok (.iload_n 1, 1) := dk_27 (dk_at dksX0_join_0 18 rfl rfl)
theorem dX0_join_19 : decode cX0_join 19 = .ok (.invokevirtual 250, 3) := dk_182 0 250 (dk_at dksX0_join_0 19 rfl rfl)
theorem dX0_join_22 : decode cX0_join 22 = .ok (.aload_n 0, 1) := dk_42 (dk_at dksX0_join_0 22 rfl rfl)
theorem dX0_join_23 : decode cX0_join 23 = .ok (.iload_n 2, 1) := dk_28 (dk_at dksX0_join_0 23 rfl rfl)
theorem dX0_join_24 : decode cX0_join 24 = .ok (.invokevirtual 250, 3) := dk_182 0 250 (dk_at dksX0_join_1 0 rfl rfl)
theorem dX0_join_27 : decode cX0_join 27 = .ok (.ior, 1) := dk_128 (dk_at dksX0_join_1 3 rfl rfl)
theorem dX0_join_28 : decode cX0_join 28 = .ok (.invokevirtual 265, 3) := dk_182 1 9 (dk_at dksX0_join_1 4 rfl rfl)
theorem dX0_join_31 : decode cX0_join 31 = .ok (.goto 4, 3) := dk_167 0 4 (dk_at dksX0_join_1 7 rfl rfl)
theorem dX0_join_34 : decode cX0_join 34 = .ok (.iconst (-1), 1) := dk_2 (dk_at dksX0_join_1 10 rfl rfl)
theorem dX0_join_35 : decode cX0_join 35 = .ok (.ireturn, 1) := dk_172 (dk_at dksX0_join_1 11 rfl rfl)
abbrev cX0_orders : ByteArray := prog_1_method_43_code
def yX0_orders : MethodName := ⟨RX0, "orders", "(I)I"⟩
def dkwX0_orders_2 : List UInt8 := [96, 61, 132, 3, 1, 167, 255, 222, 28, 172]
abbrev dktX0_orders_2 : List UInt8 := dkwX0_orders_2 ++ []
def dkwX0_orders_1 : List UInt8 := [180, 0, 68, 182, 0, 121, 162, 0, 26, 28, 42, 29, 182, 1, 12, 27, 160, 0, 7, 4, 167, 0, 4, 3]
abbrev dktX0_orders_1 : List UInt8 := dkwX0_orders_1 ++ dktX0_orders_2
def dkwX0_orders_0 : List UInt8 := [27, 133, 10, 20, 1, 10, 184, 0, 129, 154, 0, 5, 2, 172, 3, 61, 3, 62, 29, 42, 180, 0, 27]
abbrev dktX0_orders_0 : List UInt8 := dkwX0_orders_0 ++ dktX0_orders_1
theorem dksX0_orders_0 : cX0_orders.data.toList.drop 0 = dktX0_orders_0 := by decide +kernel
theorem dksX0_orders_1 : cX0_orders.data.toList.drop 23 = dktX0_orders_1 := dk_seg dksX0_orders_0 23 rfl rfl
theorem dksX0_orders_2 : cX0_orders.data.toList.drop 47 = dktX0_orders_2 := dk_seg dksX0_orders_1 24 rfl rfl
theorem dX0_orders_0 : decode cX0_orders 0 = .ok (.iload_n 1, 1) := dk_27 (dk_at dksX0_orders_0 0 rfl rfl)
theorem dX0_orders_1 : decode cX0_orders 1 = .ok (.i2l, 1) := dk_133 (dk_at dksX0_orders_0 1 rfl rfl)
theorem dX0_orders_2 : decode cX0_orders 2 = .ok (.lconst 1, 1) := dk_10 (dk_at dksX0_orders_0 2 rfl rfl)
theorem dX0_orders_3 : decode cX0_orders 3 = .ok (.ldc2_w 266, 3) := dk_20 1 10 (dk_at dksX0_orders_0 3 rfl rfl)
theorem dX0_orders_6 : decode cX0_orders 6 = .ok (.invokestatic 129, 3) := dk_184 0 129 (dk_at dksX0_orders_0 6 rfl rfl)
theorem dX0_orders_9 : decode cX0_orders 9 = .ok (.ifCond .ne 5, 3) := dk_154 0 5 (dk_at dksX0_orders_0 9 rfl rfl)
theorem dX0_orders_12 : decode cX0_orders 12 = .ok (.iconst (-1), 1) := dk_2 (dk_at dksX0_orders_0 12 rfl rfl)
theorem dX0_orders_13 : decode cX0_orders 13 = .ok (.ireturn, 1) := dk_172 (dk_at dksX0_orders_0 13 rfl rfl)
theorem dX0_orders_14 : decode cX0_orders 14 = .ok (.iconst 0, 1) := dk_3 (dk_at dksX0_orders_0 14 rfl rfl)
theorem dX0_orders_15 : decode cX0_orders 15 = .ok (.istore_n 2, 1) := dk_61 (dk_at dksX0_orders_0 15 rfl rfl)
theorem dX0_orders_16 : decode cX0_orders 16 = .ok (.iconst 0, 1) := dk_3 (dk_at dksX0_orders_0 16 rfl rfl)
theorem dX0_orders_17 : decode cX0_orders 17 = .ok (.istore_n 3, 1) := dk_62 (dk_at dksX0_orders_0 17 rfl rfl)
theorem dX0_orders_18 : decode cX0_orders 18 = .ok (.iload_n 3, 1) := dk_29 (dk_at dksX0_orders_0 18 rfl rfl)
theorem dX0_orders_19 : decode cX0_orders 19 = .ok (.aload_n 0, 1) := dk_42 (dk_at dksX0_orders_0 19 rfl rfl)
theorem dX0_orders_20 : decode cX0_orders 20 = .ok (.getfield 27, 3) := dk_180 0 27 (dk_at dksX0_orders_0 20 rfl rfl)
theorem dX0_orders_23 : decode cX0_orders 23 = .ok (.getfield 68, 3) := dk_180 0 68 (dk_at dksX0_orders_1 0 rfl rfl)
theorem dX0_orders_26 : decode cX0_orders 26 = .ok (.invokevirtual 121, 3) := dk_182 0 121 (dk_at dksX0_orders_1 3 rfl rfl)
theorem dX0_orders_29 : decode cX0_orders 29 = .ok (.if_icmp .ge 26, 3) := dk_162 0 26 (dk_at dksX0_orders_1 6 rfl rfl)
theorem dX0_orders_32 : decode cX0_orders 32 = .ok (.iload_n 2, 1) := dk_28 (dk_at dksX0_orders_1 9 rfl rfl)
theorem dX0_orders_33 : decode cX0_orders 33 = .ok (.aload_n 0, 1) := dk_42 (dk_at dksX0_orders_1 10 rfl rfl)
theorem dX0_orders_34 : decode cX0_orders 34 = .ok (.iload_n 3, 1) := dk_29 (dk_at dksX0_orders_1 11 rfl rfl)
theorem dX0_orders_35 : decode cX0_orders 35 = .ok (.invokevirtual 268, 3) := dk_182 1 12 (dk_at dksX0_orders_1 12 rfl rfl)
theorem dX0_orders_38 : decode cX0_orders 38 = .ok (.iload_n 1, 1) := dk_27 (dk_at dksX0_orders_1 15 rfl rfl)
theorem dX0_orders_39 : decode cX0_orders 39 = .ok (.if_icmp .ne 7, 3) := dk_160 0 7 (dk_at dksX0_orders_1 16 rfl rfl)
theorem dX0_orders_42 : decode cX0_orders 42 = .ok (.iconst 1, 1) := dk_4 (dk_at dksX0_orders_1 19 rfl rfl)
theorem dX0_orders_43 : decode cX0_orders 43 = .ok (.goto 4, 3) := dk_167 0 4 (dk_at dksX0_orders_1 20 rfl rfl)
theorem dX0_orders_46 : decode cX0_orders 46 = .ok (.iconst 0, 1) := dk_3 (dk_at dksX0_orders_1 23 rfl rfl)
theorem dX0_orders_47 : decode cX0_orders 47 = .ok (.iadd, 1) := dk_96 (dk_at dksX0_orders_2 0 rfl rfl)
theorem dX0_orders_48 : decode cX0_orders 48 = .ok (.istore_n 2, 1) := dk_61 (dk_at dksX0_orders_2 1 rfl rfl)
theorem dX0_orders_49 : decode cX0_orders 49 = .ok (.iinc 3 1, 3) := dk_132 3 1 (dk_at dksX0_orders_2 2 rfl rfl)
theorem dX0_orders_52 : decode cX0_orders 52 = .ok (.goto (-34), 3) := dk_167 255 222 (dk_at dksX0_orders_2 5 rfl rfl)
theorem dX0_orders_55 : decode cX0_orders 55 = .ok (.iload_n 2, 1) := dk_28 (dk_at dksX0_orders_2 8 rfl rfl)
theorem dX0_orders_56 : decode cX0_orders 56 = .ok (.ireturn, 1) := dk_172 (dk_at dksX0_orders_2 9 rfl rfl)
abbrev cX0_likes : ByteArray := prog_1_method_44_code
def yX0_likes : MethodName := ⟨RX0, "likes", "(I)I"⟩
def dkwX0_likes_0 : List UInt8 := [42, 27, 182, 0, 150, 153, 0, 17, 42, 180, 0, 27, 180, 0, 68, 27, 182, 1, 13, 167, 0, 4, 2, 172]
abbrev dktX0_likes_0 : List UInt8 := dkwX0_likes_0 ++ []
theorem dksX0_likes_0 : cX0_likes.data.toList.drop 0 = dktX0_likes_0 := by decide +kernel
theorem dX0_likes_0 : decode cX0_likes 0 = .ok (.aload_n 0, 1) := dk_42 (dk_at dksX0_likes_0 0 rfl rfl)
theorem dX0_likes_1 : decode cX0_likes 1 = .ok (.iload_n 1, 1) := dk_27 (dk_at dksX0_likes_0 1 rfl rfl)
theorem dX0_likes_2 : decode cX0_likes 2 = .ok (.invokevirtual 150, 3) := dk_182 0 150 (dk_at dksX0_likes_0 2 rfl rfl)
theorem dX0_likes_5 : decode cX0_likes 5 = .ok (.ifCond .eq 17, 3) := dk_153 0 17 (dk_at dksX0_likes_0 5 rfl rfl)
theorem dX0_likes_8 : decode cX0_likes 8 = .ok (.aload_n 0, 1) := dk_42 (dk_at dksX0_likes_0 8 rfl rfl)
theorem dX0_likes_9 : decode cX0_likes 9 = .ok (.getfield 27, 3) := dk_180 0 27 (dk_at dksX0_likes_0 9 rfl rfl)
theorem dX0_likes_12 : decode cX0_likes 12 = .ok (.getfield 68, 3) := dk_180 0 68 (dk_at dksX0_likes_0 12 rfl rfl)
theorem dX0_likes_15 : decode cX0_likes 15 = .ok (.iload_n 1, 1) := dk_27 (dk_at dksX0_likes_0 15 rfl rfl)
theorem dX0_likes_16 : decode cX0_likes 16 = .ok (.invokevirtual 269, 3) := dk_182 1 13 (dk_at dksX0_likes_0 16 rfl rfl)
theorem dX0_likes_19 : decode cX0_likes 19 = .ok (.goto 4, 3) := dk_167 0 4 (dk_at dksX0_likes_0 19 rfl rfl)
theorem dX0_likes_22 : decode cX0_likes 22 = .ok (.iconst (-1), 1) := dk_2 (dk_at dksX0_likes_0 22 rfl rfl)
theorem dX0_likes_23 : decode cX0_likes 23 = .ok (.ireturn, 1) := dk_172 (dk_at dksX0_likes_0 23 rfl rfl)
abbrev cX0_peak : ByteArray := prog_1_method_46_code
def yX0_peak : MethodName := ⟨RX0, "peak", "(III)I"⟩
def dkwX0_peak_0 : List UInt8 := [42, 27, 182, 0, 183, 153, 0, 15, 42, 4, 27, 120, 28, 29, 182, 1, 20, 167, 0, 5, 18, 249, 172]
abbrev dktX0_peak_0 : List UInt8 := dkwX0_peak_0 ++ []
theorem dksX0_peak_0 : cX0_peak.data.toList.drop 0 = dktX0_peak_0 := by decide +kernel
theorem dX0_peak_0 : decode cX0_peak 0 = .ok (.aload_n 0, 1) := dk_42 (dk_at dksX0_peak_0 0 rfl rfl)
theorem dX0_peak_1 : decode cX0_peak 1 = .ok (.iload_n 1, 1) := dk_27 (dk_at dksX0_peak_0 1 rfl rfl)
theorem dX0_peak_2 : decode cX0_peak 2 = .ok (.invokevirtual 183, 3) := dk_182 0 183 (dk_at dksX0_peak_0 2 rfl rfl)
theorem dX0_peak_5 : decode cX0_peak 5 = .ok (.ifCond .eq 15, 3) := dk_153 0 15 (dk_at dksX0_peak_0 5 rfl rfl)
theorem dX0_peak_8 : decode cX0_peak 8 = .ok (.aload_n 0, 1) := dk_42 (dk_at dksX0_peak_0 8 rfl rfl)
theorem dX0_peak_9 : decode cX0_peak 9 = .ok (.iconst 1, 1) := dk_4 (dk_at dksX0_peak_0 9 rfl rfl)
theorem dX0_peak_10 : decode cX0_peak 10 = .ok (.iload_n 1, 1) := dk_27 (dk_at dksX0_peak_0 10 rfl rfl)
theorem dX0_peak_11 : decode cX0_peak 11 = .ok (.ishl, 1) := dk_120 (dk_at dksX0_peak_0 11 rfl rfl)
theorem dX0_peak_12 : decode cX0_peak 12 = .ok (.iload_n 2, 1) := dk_28 (dk_at dksX0_peak_0 12 rfl rfl)
theorem dX0_peak_13 : decode cX0_peak 13 = .ok (.iload_n 3, 1) := dk_29 (dk_at dksX0_peak_0 13 rfl rfl)
theorem dX0_peak_14 : decode cX0_peak 14 = .ok (.invokevirtual 276, 3) := dk_182 1 20 (dk_at dksX0_peak_0 14 rfl rfl)
theorem dX0_peak_17 : decode cX0_peak 17 = .ok (.goto 5, 3) := dk_167 0 5 (dk_at dksX0_peak_0 17 rfl rfl)
theorem dX0_peak_20 : decode cX0_peak 20 = .ok (.ldc 249, 2) := dk_18 249 (dk_at dksX0_peak_0 20 rfl rfl)
theorem dX0_peak_22 : decode cX0_peak 22 = .ok (.ireturn, 1) := dk_172 (dk_at dksX0_peak_0 22 rfl rfl)
abbrev cX0_part : ByteArray := prog_1_method_45_code
def yX0_part : MethodName := ⟨RX0, "part", "(III)I"⟩
def dkwX0_part_1 : List UInt8 := [180, 0, 27, 180, 0, 68, 27, 182, 1, 16, 28, 50, 29, 47, 136, 172]
abbrev dktX0_part_1 : List UInt8 := dkwX0_part_1 ++ []
def dkwX0_part_0 : List UInt8 := [42, 28, 182, 0, 183, 153, 0, 13, 29, 133, 9, 10, 184, 0, 129, 154, 0, 6, 18, 249, 172, 42]
abbrev dktX0_part_0 : List UInt8 := dkwX0_part_0 ++ dktX0_part_1
theorem dksX0_part_0 : cX0_part.data.toList.drop 0 = dktX0_part_0 := by decide +kernel
theorem dksX0_part_1 : cX0_part.data.toList.drop 22 = dktX0_part_1 := dk_seg dksX0_part_0 22 rfl rfl
theorem dX0_part_0 : decode cX0_part 0 = .ok (.aload_n 0, 1) := dk_42 (dk_at dksX0_part_0 0 rfl rfl)
theorem dX0_part_1 : decode cX0_part 1 = .ok (.iload_n 2, 1) := dk_28 (dk_at dksX0_part_0 1 rfl rfl)
theorem dX0_part_2 : decode cX0_part 2 = .ok (.invokevirtual 183, 3) := dk_182 0 183 (dk_at dksX0_part_0 2 rfl rfl)
theorem dX0_part_5 : decode cX0_part 5 = .ok (.ifCond .eq 13, 3) := dk_153 0 13 (dk_at dksX0_part_0 5 rfl rfl)
theorem dX0_part_8 : decode cX0_part 8 = .ok (.iload_n 3, 1) := dk_29 (dk_at dksX0_part_0 8 rfl rfl)
theorem dX0_part_9 : decode cX0_part 9 = .ok (.i2l, 1) := dk_133 (dk_at dksX0_part_0 9 rfl rfl)
theorem dX0_part_10 : decode cX0_part 10 = .ok (.lconst 0, 1) := dk_9 (dk_at dksX0_part_0 10 rfl rfl)
theorem dX0_part_11 : decode cX0_part 11 = .ok (.lconst 1, 1) := dk_10 (dk_at dksX0_part_0 11 rfl rfl)
theorem dX0_part_12 : decode cX0_part 12 = .ok (.invokestatic 129, 3) := dk_184 0 129 (dk_at dksX0_part_0 12 rfl rfl)
theorem dX0_part_15 : decode cX0_part 15 = .ok (.ifCond .ne 6, 3) := dk_154 0 6 (dk_at dksX0_part_0 15 rfl rfl)
theorem dX0_part_18 : decode cX0_part 18 = .ok (.ldc 249, 2) := dk_18 249 (dk_at dksX0_part_0 18 rfl rfl)
theorem dX0_part_20 : decode cX0_part 20 = .ok (.ireturn, 1) := dk_172 (dk_at dksX0_part_0 20 rfl rfl)
theorem dX0_part_21 : decode cX0_part 21 = .ok (.aload_n 0, 1) := dk_42 (dk_at dksX0_part_0 21 rfl rfl)
theorem dX0_part_22 : decode cX0_part 22 = .ok (.getfield 27, 3) := dk_180 0 27 (dk_at dksX0_part_1 0 rfl rfl)
theorem dX0_part_25 : decode cX0_part 25 = .ok (.getfield 68, 3) := dk_180 0 68 (dk_at dksX0_part_1 3 rfl rfl)
theorem dX0_part_28 : decode cX0_part 28 = .ok (.iload_n 1, 1) := dk_27 (dk_at dksX0_part_1 6 rfl rfl)
theorem dX0_part_29 : decode cX0_part 29 = .ok (.invokevirtual 272, 3) := dk_182 1 16 (dk_at dksX0_part_1 7 rfl rfl)
theorem dX0_part_32 : decode cX0_part 32 = .ok (.iload_n 2, 1) := dk_28 (dk_at dksX0_part_1 10 rfl rfl)
theorem dX0_part_33 : decode cX0_part 33 = .ok (.aaload, 1) := dk_50 (dk_at dksX0_part_1 11 rfl rfl)
theorem dX0_part_34 : decode cX0_part 34 = .ok (.iload_n 3, 1) := dk_29 (dk_at dksX0_part_1 12 rfl rfl)
theorem dX0_part_35 : decode cX0_part 35 = .ok (.laload, 1) := dk_47 (dk_at dksX0_part_1 13 rfl rfl)
theorem dX0_part_36 : decode cX0_part 36 = .ok (.l2i, 1) := dk_136 (dk_at dksX0_part_1 14 rfl rfl)
theorem dX0_part_37 : decode cX0_part 37 = .ok (.ireturn, 1) := dk_172 (dk_at dksX0_part_1 15 rfl rfl)
abbrev cX0_common : ByteArray := prog_1_method_3_code
def yX0_common : MethodName := ⟨RX0, "common", "(JJ)J"⟩
def dkwX0_common_1 : List UInt8 := [22, 6, 55, 4, 22, 8, 55, 6, 167, 255, 234, 22, 4, 173]
abbrev dktX0_common_1 : List UInt8 := dkwX0_common_1 ++ []
def dkwX0_common_0 : List UInt8 := [30, 184, 0, 1, 55, 4, 32, 55, 6, 22, 6, 9, 148, 153, 0, 21, 22, 4, 22, 6, 113, 55, 8]
abbrev dktX0_common_0 : List UInt8 := dkwX0_common_0 ++ dktX0_common_1
theorem dksX0_common_0 : cX0_common.data.toList.drop 0 = dktX0_common_0 := by decide +kernel
theorem dksX0_common_1 : cX0_common.data.toList.drop 23 = dktX0_common_1 := dk_seg dksX0_common_0 23 rfl rfl
theorem dX0_common_0 : decode cX0_common 0 = .ok (.lload_n 0, 1) := dk_30 (dk_at dksX0_common_0 0 rfl rfl)
theorem dX0_common_1 : decode cX0_common 1 = .ok (.invokestatic 1, 3) := dk_184 0 1 (dk_at dksX0_common_0 1 rfl rfl)
theorem dX0_common_4 : decode cX0_common 4 = .ok (.lstore 4, 2) := dk_55 4 (dk_at dksX0_common_0 4 rfl rfl)
theorem dX0_common_6 : decode cX0_common 6 = .ok (.lload_n 2, 1) := dk_32 (dk_at dksX0_common_0 6 rfl rfl)
theorem dX0_common_7 : decode cX0_common 7 = .ok (.lstore 6, 2) := dk_55 6 (dk_at dksX0_common_0 7 rfl rfl)
theorem dX0_common_9 : decode cX0_common 9 = .ok (.lload 6, 2) := dk_22 6 (dk_at dksX0_common_0 9 rfl rfl)
theorem dX0_common_11 : decode cX0_common 11 = .ok (.lconst 0, 1) := dk_9 (dk_at dksX0_common_0 11 rfl rfl)
theorem dX0_common_12 : decode cX0_common 12 = .ok (.lcmp, 1) := dk_148 (dk_at dksX0_common_0 12 rfl rfl)
theorem dX0_common_13 : decode cX0_common 13 = .ok (.ifCond .eq 21, 3) := dk_153 0 21 (dk_at dksX0_common_0 13 rfl rfl)
theorem dX0_common_16 : decode cX0_common 16 = .ok (.lload 4, 2) := dk_22 4 (dk_at dksX0_common_0 16 rfl rfl)
theorem dX0_common_18 : decode cX0_common 18 = .ok (.lload 6, 2) := dk_22 6 (dk_at dksX0_common_0 18 rfl rfl)
theorem dX0_common_20 : decode cX0_common 20 = .ok (.lrem, 1) := dk_113 (dk_at dksX0_common_0 20 rfl rfl)
theorem dX0_common_21 : decode cX0_common 21 = .ok (.lstore 8, 2) := dk_55 8 (dk_at dksX0_common_0 21 rfl rfl)
theorem dX0_common_23 : decode cX0_common 23 = .ok (.lload 6, 2) := dk_22 6 (dk_at dksX0_common_1 0 rfl rfl)
theorem dX0_common_25 : decode cX0_common 25 = .ok (.lstore 4, 2) := dk_55 4 (dk_at dksX0_common_1 2 rfl rfl)
theorem dX0_common_27 : decode cX0_common 27 = .ok (.lload 8, 2) := dk_22 8 (dk_at dksX0_common_1 4 rfl rfl)
theorem dX0_common_29 : decode cX0_common 29 = .ok (.lstore 6, 2) := dk_55 6 (dk_at dksX0_common_1 6 rfl rfl)
theorem dX0_common_31 : decode cX0_common 31 = .ok (.goto (-22), 3) := dk_167 255 234 (dk_at dksX0_common_1 8 rfl rfl)
theorem dX0_common_34 : decode cX0_common 34 = .ok (.lload 4, 2) := dk_22 4 (dk_at dksX0_common_1 11 rfl rfl)
theorem dX0_common_36 : decode cX0_common 36 = .ok (.lreturn, 1) := dk_173 (dk_at dksX0_common_1 13 rfl rfl)
abbrev cX0_local : ByteArray := prog_1_method_47_code
def yX0_local : MethodName := ⟨RX0, "local", "(IIII)I"⟩
def dkwX0_local_1 : List UInt8 := [27, 182, 0, 231, 29, 21, 4, 182, 1, 20, 167, 0, 5, 18, 249, 172]
abbrev dktX0_local_1 : List UInt8 := dkwX0_local_1 ++ []
def dkwX0_local_0 : List UInt8 := [42, 28, 182, 0, 183, 153, 0, 32, 27, 184, 0, 225, 153, 0, 25, 42, 42, 180, 0, 27, 180, 0, 68, 28]
abbrev dktX0_local_0 : List UInt8 := dkwX0_local_0 ++ dktX0_local_1
theorem dksX0_local_0 : cX0_local.data.toList.drop 0 = dktX0_local_0 := by decide +kernel
theorem dksX0_local_1 : cX0_local.data.toList.drop 24 = dktX0_local_1 := dk_seg dksX0_local_0 24 rfl rfl
theorem dX0_local_0 : decode cX0_local 0 = .ok (.aload_n 0, 1) := dk_42 (dk_at dksX0_local_0 0 rfl rfl)
theorem dX0_local_1 : decode cX0_local 1 = .ok (.iload_n 2, 1) := dk_28 (dk_at dksX0_local_0 1 rfl rfl)
theorem dX0_local_2 : decode cX0_local 2 = .ok (.invokevirtual 183, 3) := dk_182 0 183 (dk_at dksX0_local_0 2 rfl rfl)
theorem dX0_local_5 : decode cX0_local 5 = .ok (.ifCond .eq 32, 3) := dk_153 0 32 (dk_at dksX0_local_0 5 rfl rfl)
theorem dX0_local_8 : decode cX0_local 8 = .ok (.iload_n 1, 1) := dk_27 (dk_at dksX0_local_0 8 rfl rfl)
theorem dX0_local_9 : decode cX0_local 9 = .ok (.invokestatic 225, 3) := dk_184 0 225 (dk_at dksX0_local_0 9 rfl rfl)
theorem dX0_local_12 : decode cX0_local 12 = .ok (.ifCond .eq 25, 3) := dk_153 0 25 (dk_at dksX0_local_0 12 rfl rfl)
theorem dX0_local_15 : decode cX0_local 15 = .ok (.aload_n 0, 1) := dk_42 (dk_at dksX0_local_0 15 rfl rfl)
theorem dX0_local_16 : decode cX0_local 16 = .ok (.aload_n 0, 1) := dk_42 (dk_at dksX0_local_0 16 rfl rfl)
theorem dX0_local_17 : decode cX0_local 17 = .ok (.getfield 27, 3) := dk_180 0 27 (dk_at dksX0_local_0 17 rfl rfl)
theorem dX0_local_20 : decode cX0_local 20 = .ok (.getfield 68, 3) := dk_180 0 68 (dk_at dksX0_local_0 20 rfl rfl)
theorem dX0_local_23 : decode cX0_local 23 = .ok (.iload_n 2, 1) := dk_28 (dk_at dksX0_local_0 23 rfl rfl)
theorem dX0_local_24 : decode cX0_local 24 = .ok (.iload_n 1, 1) := dk_27 (dk_at dksX0_local_1 0 rfl rfl)
theorem dX0_local_25 : decode cX0_local 25 = .ok (.invokevirtual 231, 3) := dk_182 0 231 (dk_at dksX0_local_1 1 rfl rfl)
theorem dX0_local_28 : decode cX0_local 28 = .ok (.iload_n 3, 1) := dk_29 (dk_at dksX0_local_1 4 rfl rfl)
theorem dX0_local_29 : decode cX0_local 29 = .ok (.iload 4, 2) := dk_21 4 (dk_at dksX0_local_1 5 rfl rfl)
theorem dX0_local_31 : decode cX0_local 31 = .ok (.invokevirtual 276, 3) := dk_182 1 20 (dk_at dksX0_local_1 7 rfl rfl)
theorem dX0_local_34 : decode cX0_local 34 = .ok (.goto 5, 3) := dk_167 0 5 (dk_at dksX0_local_1 10 rfl rfl)
theorem dX0_local_37 : decode cX0_local 37 = .ok (.ldc 249, 2) := dk_18 249 (dk_at dksX0_local_1 13 rfl rfl)
theorem dX0_local_39 : decode cX0_local 39 = .ok (.ireturn, 1) := dk_172 (dk_at dksX0_local_1 15 rfl rfl)
abbrev cX0_units : ByteArray := prog_1_method_49_code
def yX0_units : MethodName := ⟨RX0, "units", "()I"⟩
def dkwX0_units_0 : List UInt8 := [42, 182, 1, 32, 185, 0, 126, 1, 0, 172]
abbrev dktX0_units_0 : List UInt8 := dkwX0_units_0 ++ []
theorem dksX0_units_0 : cX0_units.data.toList.drop 0 = dktX0_units_0 := by decide +kernel
theorem dX0_units_0 : decode cX0_units 0 = .ok (.aload_n 0, 1) := dk_42 (dk_at dksX0_units_0 0 rfl rfl)
theorem dX0_units_1 : decode cX0_units 1 = .ok (.invokevirtual 288, 3) := dk_182 1 32 (dk_at dksX0_units_0 1 rfl rfl)
theorem dX0_units_4 : decode cX0_units 4 = .ok (.invokeinterface 126 1, 5) := by decide +kernel
theorem dX0_units_9 : decode cX0_units 9 = .ok (.ireturn, 1) := dk_172 (dk_at dksX0_units_0 9 rfl rfl)
abbrev cX0_allUnits : ByteArray := prog_1_method_48_code
def yX0_allUnits : MethodName := ⟨RX0, "allUnits", "()Ljava/util/List;"⟩
def dkwX0_allUnits_1 : List UInt8 := [182, 1, 28, 181, 0, 114, 42, 180, 0, 114, 176]
abbrev dktX0_allUnits_1 : List UInt8 := dkwX0_allUnits_1 ++ []
def dkwX0_allUnits_0 : List UInt8 := [42, 180, 0, 114, 199, 0, 24, 42, 187, 1, 23, 89, 42, 180, 0, 27, 180, 0, 68, 183, 1, 25]
abbrev dktX0_allUnits_0 : List UInt8 := dkwX0_allUnits_0 ++ dktX0_allUnits_1
theorem dksX0_allUnits_0 : cX0_allUnits.data.toList.drop 0 = dktX0_allUnits_0 := by decide +kernel
theorem dksX0_allUnits_1 : cX0_allUnits.data.toList.drop 22 = dktX0_allUnits_1 := dk_seg dksX0_allUnits_0 22 rfl rfl
theorem dX0_allUnits_0 : decode cX0_allUnits 0 = .ok (.aload_n 0, 1) := dk_42 (dk_at dksX0_allUnits_0 0 rfl rfl)
theorem dX0_allUnits_1 : decode cX0_allUnits 1 = .ok (.getfield 114, 3) := dk_180 0 114 (dk_at dksX0_allUnits_0 1 rfl rfl)
theorem dX0_allUnits_4 : decode cX0_allUnits 4 = .ok (.ifnonnull 24, 3) := dk_199 0 24 (dk_at dksX0_allUnits_0 4 rfl rfl)
theorem dX0_allUnits_7 : decode cX0_allUnits 7 = .ok (.aload_n 0, 1) := dk_42 (dk_at dksX0_allUnits_0 7 rfl rfl)
theorem dX0_allUnits_8 : decode cX0_allUnits 8 = .ok (.new 279, 3) := dk_187 1 23 (dk_at dksX0_allUnits_0 8 rfl rfl)
theorem dX0_allUnits_11 : decode cX0_allUnits 11 = .ok (.dup, 1) := dk_89 (dk_at dksX0_allUnits_0 11 rfl rfl)
theorem dX0_allUnits_12 : decode cX0_allUnits 12 = .ok (.aload_n 0, 1) := dk_42 (dk_at dksX0_allUnits_0 12 rfl rfl)
theorem dX0_allUnits_13 : decode cX0_allUnits 13 = .ok (.getfield 27, 3) := dk_180 0 27 (dk_at dksX0_allUnits_0 13 rfl rfl)
theorem dX0_allUnits_16 : decode cX0_allUnits 16 = .ok (.getfield 68, 3) := dk_180 0 68 (dk_at dksX0_allUnits_0 16 rfl rfl)
theorem dX0_allUnits_19 : decode cX0_allUnits 19 = .ok (.invokespecial 281, 3) := dk_183 1 25 (dk_at dksX0_allUnits_0 19 rfl rfl)
theorem dX0_allUnits_22 : decode cX0_allUnits 22 = .ok (.invokevirtual 284, 3) := dk_182 1 28 (dk_at dksX0_allUnits_1 0 rfl rfl)
theorem dX0_allUnits_25 : decode cX0_allUnits 25 = .ok (.putfield 114, 3) := dk_181 0 114 (dk_at dksX0_allUnits_1 3 rfl rfl)
theorem dX0_allUnits_28 : decode cX0_allUnits 28 = .ok (.aload_n 0, 1) := dk_42 (dk_at dksX0_allUnits_1 6 rfl rfl)
theorem dX0_allUnits_29 : decode cX0_allUnits 29 = .ok (.getfield 114, 3) := dk_180 0 114 (dk_at dksX0_allUnits_1 7 rfl rfl)
theorem dX0_allUnits_32 : decode cX0_allUnits 32 = .ok (.areturn, 1) := dk_176 (dk_at dksX0_allUnits_1 10 rfl rfl)
abbrev cX0_unit : ByteArray := prog_1_method_50_code
def yX0_unit : MethodName := ⟨RX0, "unit", "(II)I"⟩
def dkwX0_unit_4 : List UInt8 := [180, 0, 68, 45, 182, 1, 48, 28, 47, 136, 172]
abbrev dktX0_unit_4 : List UInt8 := dkwX0_unit_4 ++ []
def dkwX0_unit_3 : List UInt8 := [184, 1, 42, 153, 0, 9, 20, 1, 46, 167, 0, 4, 10, 80, 132, 4, 1, 167, 255, 205, 42, 180, 0, 27]
abbrev dktX0_unit_3 : List UInt8 := dkwX0_unit_3 ++ dktX0_unit_4
def dkwX0_unit_2 : List UInt8 := [182, 1, 32, 27, 185, 0, 156, 2, 0, 192, 1, 37, 180, 1, 39, 133, 45, 190, 4, 100, 21, 4, 100]
abbrev dktX0_unit_2 : List UInt8 := dkwX0_unit_2 ++ dktX0_unit_3
def dkwX0_unit_1 : List UInt8 := [18, 249, 172, 42, 182, 0, 111, 188, 11, 78, 3, 54, 4, 21, 4, 45, 190, 162, 0, 50, 45, 21, 4, 42]
abbrev dktX0_unit_1 : List UInt8 := dkwX0_unit_1 ++ dktX0_unit_2
def dkwX0_unit_0 : List UInt8 := [42, 28, 182, 0, 183, 153, 0, 19, 27, 133, 9, 42, 182, 1, 35, 4, 100, 133, 184, 0, 129, 154, 0, 6]
abbrev dktX0_unit_0 : List UInt8 := dkwX0_unit_0 ++ dktX0_unit_1
theorem dksX0_unit_0 : cX0_unit.data.toList.drop 0 = dktX0_unit_0 := by decide +kernel
theorem dksX0_unit_1 : cX0_unit.data.toList.drop 24 = dktX0_unit_1 := dk_seg dksX0_unit_0 24 rfl rfl
theorem dksX0_unit_2 : cX0_unit.data.toList.drop 48 = dktX0_unit_2 := dk_seg dksX0_unit_1 24 rfl rfl
theorem dksX0_unit_3 : cX0_unit.data.toList.drop 71 = dktX0_unit_3 := dk_seg dksX0_unit_2 23 rfl rfl
theorem dksX0_unit_4 : cX0_unit.data.toList.drop 95 = dktX0_unit_4 := dk_seg dksX0_unit_3 24 rfl rfl
theorem dX0_unit_0 : decode cX0_unit 0 = .ok (.aload_n 0, 1) := dk_42 (dk_at dksX0_unit_0 0 rfl rfl)
theorem dX0_unit_1 : decode cX0_unit 1 = .ok (.iload_n 2, 1) := dk_28 (dk_at dksX0_unit_0 1 rfl rfl)
theorem dX0_unit_2 : decode cX0_unit 2 = .ok (.invokevirtual 183, 3) := dk_182 0 183 (dk_at dksX0_unit_0 2 rfl rfl)
theorem dX0_unit_5 : decode cX0_unit 5 = .ok (.ifCond .eq 19, 3) := dk_153 0 19 (dk_at dksX0_unit_0 5 rfl rfl)
theorem dX0_unit_8 : decode cX0_unit 8 = .ok (.iload_n 1, 1) := dk_27 (dk_at dksX0_unit_0 8 rfl rfl)
theorem dX0_unit_9 : decode cX0_unit 9 = .ok (.i2l, 1) := dk_133 (dk_at dksX0_unit_0 9 rfl rfl)
theorem dX0_unit_10 : decode cX0_unit 10 = .ok (.lconst 0, 1) := dk_9 (dk_at dksX0_unit_0 10 rfl rfl)
theorem dX0_unit_11 : decode cX0_unit 11 = .ok (.aload_n 0, 1) := dk_42 (dk_at dksX0_unit_0 11 rfl rfl)
theorem dX0_unit_12 : decode cX0_unit 12 = .ok (.invokevirtual 291, 3) := dk_182 1 35 (dk_at dksX0_unit_0 12 rfl rfl)
theorem dX0_unit_15 : decode cX0_unit 15 = .ok (.iconst 1, 1) := dk_4 (dk_at dksX0_unit_0 15 rfl rfl)
theorem dX0_unit_16 : decode cX0_unit 16 = .ok (.isub, 1) := dk_100 (dk_at dksX0_unit_0 16 rfl rfl)
theorem dX0_unit_17 : decode cX0_unit 17 = .ok (.i2l, 1) := dk_133 (dk_at dksX0_unit_0 17 rfl rfl)
theorem dX0_unit_18 : decode cX0_unit 18 = .ok (.invokestatic 129, 3) := dk_184 0 129 (dk_at dksX0_unit_0 18 rfl rfl)
theorem dX0_unit_21 : decode cX0_unit 21 = .ok (.ifCond .ne 6, 3) := dk_154 0 6 (dk_at dksX0_unit_0 21 rfl rfl)
theorem dX0_unit_24 : decode cX0_unit 24 = .ok (.ldc 249, 2) := dk_18 249 (dk_at dksX0_unit_1 0 rfl rfl)
theorem dX0_unit_26 : decode cX0_unit 26 = .ok (.ireturn, 1) := dk_172 (dk_at dksX0_unit_1 2 rfl rfl)
theorem dX0_unit_27 : decode cX0_unit 27 = .ok (.aload_n 0, 1) := dk_42 (dk_at dksX0_unit_1 3 rfl rfl)
theorem dX0_unit_28 : decode cX0_unit 28 = .ok (.invokevirtual 111, 3) := dk_182 0 111 (dk_at dksX0_unit_1 4 rfl rfl)
theorem dX0_unit_31 : decode cX0_unit 31 = .ok (.newarray .long, 2) := dk_188_11 (dk_at dksX0_unit_1 7 rfl rfl)
theorem dX0_unit_33 : decode cX0_unit 33 = .ok (.astore_n 3, 1) := dk_78 (dk_at dksX0_unit_1 9 rfl rfl)
theorem dX0_unit_34 : decode cX0_unit 34 = .ok (.iconst 0, 1) := dk_3 (dk_at dksX0_unit_1 10 rfl rfl)
theorem dX0_unit_35 : decode cX0_unit 35 = .ok (.istore 4, 2) := dk_54 4 (dk_at dksX0_unit_1 11 rfl rfl)
theorem dX0_unit_37 : decode cX0_unit 37 = .ok (.iload 4, 2) := dk_21 4 (dk_at dksX0_unit_1 13 rfl rfl)
theorem dX0_unit_39 : decode cX0_unit 39 = .ok (.aload_n 3, 1) := dk_45 (dk_at dksX0_unit_1 15 rfl rfl)
theorem dX0_unit_40 : decode cX0_unit 40 = .ok (.arraylength, 1) := dk_190 (dk_at dksX0_unit_1 16 rfl rfl)
theorem dX0_unit_41 : decode cX0_unit 41 = .ok (.if_icmp .ge 50, 3) := dk_162 0 50 (dk_at dksX0_unit_1 17 rfl rfl)
theorem dX0_unit_44 : decode cX0_unit 44 = .ok (.aload_n 3, 1) := dk_45 (dk_at dksX0_unit_1 20 rfl rfl)
theorem dX0_unit_45 : decode cX0_unit 45 = .ok (.iload 4, 2) := dk_21 4 (dk_at dksX0_unit_1 21 rfl rfl)
theorem dX0_unit_47 : decode cX0_unit 47 = .ok (.aload_n 0, 1) := dk_42 (dk_at dksX0_unit_1 23 rfl rfl)
theorem dX0_unit_48 : decode cX0_unit 48 = .ok (.invokevirtual 288, 3) := dk_182 1 32 (dk_at dksX0_unit_2 0 rfl rfl)
theorem dX0_unit_51 : decode cX0_unit 51 = .ok (.iload_n 1, 1) := dk_27 (dk_at dksX0_unit_2 3 rfl rfl)
theorem dX0_unit_52 : decode cX0_unit 52 = .ok (.invokeinterface 156 2, 5) := by decide +kernel
theorem dX0_unit_57 : decode cX0_unit 57 = .ok (.checkcast 293, 3) := dk_192 1 37 (dk_at dksX0_unit_2 9 rfl rfl)
theorem dX0_unit_60 : decode cX0_unit 60 = .ok (.getfield 295, 3) := dk_180 1 39 (dk_at dksX0_unit_2 12 rfl rfl)
theorem dX0_unit_63 : decode cX0_unit 63 = .ok (.i2l, 1) := dk_133 (dk_at dksX0_unit_2 15 rfl rfl)
theorem dX0_unit_64 : decode cX0_unit 64 = .ok (.aload_n 3, 1) := dk_45 (dk_at dksX0_unit_2 16 rfl rfl)
theorem dX0_unit_65 : decode cX0_unit 65 = .ok (.arraylength, 1) := dk_190 (dk_at dksX0_unit_2 17 rfl rfl)
theorem dX0_unit_66 : decode cX0_unit 66 = .ok (.iconst 1, 1) := dk_4 (dk_at dksX0_unit_2 18 rfl rfl)
theorem dX0_unit_67 : decode cX0_unit 67 = .ok (.isub, 1) := dk_100 (dk_at dksX0_unit_2 19 rfl rfl)
theorem dX0_unit_68 : decode cX0_unit 68 = .ok (.iload 4, 2) := dk_21 4 (dk_at dksX0_unit_2 20 rfl rfl)
theorem dX0_unit_70 : decode cX0_unit 70 = .ok (.isub, 1) := dk_100 (dk_at dksX0_unit_2 22 rfl rfl)
theorem dX0_unit_71 : decode cX0_unit 71 = .ok (.invokestatic 298, 3) := dk_184 1 42 (dk_at dksX0_unit_3 0 rfl rfl)
theorem dX0_unit_74 : decode cX0_unit 74 = .ok (.ifCond .eq 9, 3) := dk_153 0 9 (dk_at dksX0_unit_3 3 rfl rfl)
theorem dX0_unit_77 : decode cX0_unit 77 = .ok (.ldc2_w 302, 3) := dk_20 1 46 (dk_at dksX0_unit_3 6 rfl rfl)
theorem dX0_unit_80 : decode cX0_unit 80 = .ok (.goto 4, 3) := dk_167 0 4 (dk_at dksX0_unit_3 9 rfl rfl)
theorem dX0_unit_83 : decode cX0_unit 83 = .ok (.lconst 1, 1) := dk_10 (dk_at dksX0_unit_3 12 rfl rfl)
theorem dX0_unit_84 : decode cX0_unit 84 = .ok (.lastore, 1) := dk_80 (dk_at dksX0_unit_3 13 rfl rfl)
theorem dX0_unit_85 : decode cX0_unit 85 = .ok (.iinc 4 1, 3) := dk_132 4 1 (dk_at dksX0_unit_3 14 rfl rfl)
theorem dX0_unit_88 : decode cX0_unit 88 = .ok (.goto (-51), 3) := dk_167 255 205 (dk_at dksX0_unit_3 17 rfl rfl)
theorem dX0_unit_91 : decode cX0_unit 91 = .ok (.aload_n 0, 1) := dk_42 (dk_at dksX0_unit_3 20 rfl rfl)
theorem dX0_unit_92 : decode cX0_unit 92 = .ok (.getfield 27, 3) := dk_180 0 27 (dk_at dksX0_unit_3 21 rfl rfl)
theorem dX0_unit_95 : decode cX0_unit 95 = .ok (.getfield 68, 3) := dk_180 0 68 (dk_at dksX0_unit_4 0 rfl rfl)
theorem dX0_unit_98 : decode cX0_unit 98 = .ok (.aload_n 3, 1) := dk_45 (dk_at dksX0_unit_4 3 rfl rfl)
theorem dX0_unit_99 : decode cX0_unit 99 = .ok (.invokevirtual 304, 3) := dk_182 1 48 (dk_at dksX0_unit_4 4 rfl rfl)
theorem dX0_unit_102 : decode cX0_unit 102 = .ok (.iload_n 2, 1) := dk_28 (dk_at dksX0_unit_4 7 rfl rfl)
theorem dX0_unit_103 : decode cX0_unit 103 = .ok (.laload, 1) := dk_47 (dk_at dksX0_unit_4 8 rfl rfl)
theorem dX0_unit_104 : decode cX0_unit 104 = .ok (.l2i, 1) := dk_136 (dk_at dksX0_unit_4 9 rfl rfl)
theorem dX0_unit_105 : decode cX0_unit 105 = .ok (.ireturn, 1) := dk_172 (dk_at dksX0_unit_4 10 rfl rfl)
abbrev cX0_named : ByteArray := prog_1_method_52_code
def yX0_named : MethodName := ⟨RX0, "named", "(II)J"⟩
def dkwX0_named_2 : List UInt8 := [167, 0, 6, 20, 1, 62, 173]
abbrev dktX0_named_2 : List UInt8 := dkwX0_named_2 ++ []
def dkwX0_named_1 : List UInt8 := [42, 180, 0, 27, 180, 1, 64, 27, 185, 0, 156, 2, 0, 192, 0, 212, 180, 0, 220, 28, 184, 1, 67]
abbrev dktX0_named_1 : List UInt8 := dkwX0_named_1 ++ dktX0_named_2
def dkwX0_named_0 : List UInt8 := [27, 133, 9, 42, 180, 0, 27, 180, 1, 64, 185, 0, 126, 1, 0, 4, 100, 133, 184, 0, 129, 153, 0, 29]
abbrev dktX0_named_0 : List UInt8 := dkwX0_named_0 ++ dktX0_named_1
theorem dksX0_named_0 : cX0_named.data.toList.drop 0 = dktX0_named_0 := by decide +kernel
theorem dksX0_named_1 : cX0_named.data.toList.drop 24 = dktX0_named_1 := dk_seg dksX0_named_0 24 rfl rfl
theorem dksX0_named_2 : cX0_named.data.toList.drop 47 = dktX0_named_2 := dk_seg dksX0_named_1 23 rfl rfl
theorem dX0_named_0 : decode cX0_named 0 = .ok (.iload_n 1, 1) := dk_27 (dk_at dksX0_named_0 0 rfl rfl)
theorem dX0_named_1 : decode cX0_named 1 = .ok (.i2l, 1) := dk_133 (dk_at dksX0_named_0 1 rfl rfl)
theorem dX0_named_2 : decode cX0_named 2 = .ok (.lconst 0, 1) := dk_9 (dk_at dksX0_named_0 2 rfl rfl)
theorem dX0_named_3 : decode cX0_named 3 = .ok (.aload_n 0, 1) := dk_42 (dk_at dksX0_named_0 3 rfl rfl)
theorem dX0_named_4 : decode cX0_named 4 = .ok (.getfield 27, 3) := dk_180 0 27 (dk_at dksX0_named_0 4 rfl rfl)
theorem dX0_named_7 : decode cX0_named 7 = .ok (.getfield 320, 3) := dk_180 1 64 (dk_at dksX0_named_0 7 rfl rfl)
theorem dX0_named_10 : decode cX0_named 10 = .ok (.invokeinterface 126 1, 5) := by decide +kernel
theorem dX0_named_15 : decode cX0_named 15 = .ok (.iconst 1, 1) := dk_4 (dk_at dksX0_named_0 15 rfl rfl)
theorem dX0_named_16 : decode cX0_named 16 = .ok (.isub, 1) := dk_100 (dk_at dksX0_named_0 16 rfl rfl)
theorem dX0_named_17 : decode cX0_named 17 = .ok (.i2l, 1) := dk_133 (dk_at dksX0_named_0 17 rfl rfl)
theorem dX0_named_18 : decode cX0_named 18 = .ok (.invokestatic 129, 3) := dk_184 0 129 (dk_at dksX0_named_0 18 rfl rfl)
theorem dX0_named_21 : decode cX0_named 21 = .ok (.ifCond .eq 29, 3) := dk_153 0 29 (dk_at dksX0_named_0 21 rfl rfl)
theorem dX0_named_24 : decode cX0_named 24 = .ok (.aload_n 0, 1) := dk_42 (dk_at dksX0_named_1 0 rfl rfl)
theorem dX0_named_25 : decode cX0_named 25 = .ok (.getfield 27, 3) := dk_180 0 27 (dk_at dksX0_named_1 1 rfl rfl)
theorem dX0_named_28 : decode cX0_named 28 = .ok (.getfield 320, 3) := dk_180 1 64 (dk_at dksX0_named_1 4 rfl rfl)
theorem dX0_named_31 : decode cX0_named 31 = .ok (.iload_n 1, 1) := dk_27 (dk_at dksX0_named_1 7 rfl rfl)
theorem dX0_named_32 : decode cX0_named 32 = .ok (.invokeinterface 156 2, 5) := by decide +kernel
theorem dX0_named_37 : decode cX0_named 37 = .ok (.checkcast 212, 3) := dk_192 0 212 (dk_at dksX0_named_1 13 rfl rfl)
theorem dX0_named_40 : decode cX0_named 40 = .ok (.getfield 220, 3) := dk_180 0 220 (dk_at dksX0_named_1 16 rfl rfl)
theorem dX0_named_43 : decode cX0_named 43 = .ok (.iload_n 2, 1) := dk_28 (dk_at dksX0_named_1 19 rfl rfl)
theorem dX0_named_44 : decode cX0_named 44 = .ok (.invokestatic 323, 3) := dk_184 1 67 (dk_at dksX0_named_1 20 rfl rfl)
theorem dX0_named_47 : decode cX0_named 47 = .ok (.goto 6, 3) := dk_167 0 6 (dk_at dksX0_named_2 0 rfl rfl)
theorem dX0_named_50 : decode cX0_named 50 = .ok (.ldc2_w 318, 3) := dk_20 1 62 (dk_at dksX0_named_2 3 rfl rfl)
theorem dX0_named_53 : decode cX0_named 53 = .ok (.lreturn, 1) := dk_173 (dk_at dksX0_named_2 6 rfl rfl)
abbrev cX0_numberOf : ByteArray := prog_1_method_51_code
def yX0_numberOf : MethodName := ⟨RX0, "numberOf", "([JI)J"⟩
def dkwX0_numberOf_0 : List UInt8 := [4, 188, 11, 77, 42, 27, 44, 3, 4, 184, 1, 52, 167, 0, 8, 78, 20, 1, 62, 173, 44, 3, 47, 173]
abbrev dktX0_numberOf_0 : List UInt8 := dkwX0_numberOf_0 ++ []
theorem dksX0_numberOf_0 : cX0_numberOf.data.toList.drop 0 = dktX0_numberOf_0 := by decide +kernel
theorem dX0_numberOf_0 : decode cX0_numberOf 0 = .ok (.iconst 1, 1) := dk_4 (dk_at dksX0_numberOf_0 0 rfl rfl)
theorem dX0_numberOf_1 : decode cX0_numberOf 1 = .ok (.newarray .long, 2) := dk_188_11 (dk_at dksX0_numberOf_0 1 rfl rfl)
theorem dX0_numberOf_3 : decode cX0_numberOf 3 = .ok (.astore_n 2, 1) := dk_77 (dk_at dksX0_numberOf_0 3 rfl rfl)
theorem dX0_numberOf_4 : decode cX0_numberOf 4 = .ok (.aload_n 0, 1) := dk_42 (dk_at dksX0_numberOf_0 4 rfl rfl)
theorem dX0_numberOf_5 : decode cX0_numberOf 5 = .ok (.iload_n 1, 1) := dk_27 (dk_at dksX0_numberOf_0 5 rfl rfl)
theorem dX0_numberOf_6 : decode cX0_numberOf 6 = .ok (.aload_n 2, 1) := dk_44 (dk_at dksX0_numberOf_0 6 rfl rfl)
theorem dX0_numberOf_7 : decode cX0_numberOf 7 = .ok (.iconst 0, 1) := dk_3 (dk_at dksX0_numberOf_0 7 rfl rfl)
theorem dX0_numberOf_8 : decode cX0_numberOf 8 = .ok (.iconst 1, 1) := dk_4 (dk_at dksX0_numberOf_0 8 rfl rfl)
theorem dX0_numberOf_9 : decode cX0_numberOf 9 = .ok (.invokestatic 308, 3) := dk_184 1 52 (dk_at dksX0_numberOf_0 9 rfl rfl)
theorem dX0_numberOf_12 : decode cX0_numberOf 12 = .ok (.goto 8, 3) := dk_167 0 8 (dk_at dksX0_numberOf_0 12 rfl rfl)
theorem dX0_numberOf_15 : decode cX0_numberOf 15 = .ok (.astore_n 3, 1) := dk_78 (dk_at dksX0_numberOf_0 15 rfl rfl)
theorem dX0_numberOf_16 : decode cX0_numberOf 16 = .ok (.ldc2_w 318, 3) := dk_20 1 62 (dk_at dksX0_numberOf_0 16 rfl rfl)
theorem dX0_numberOf_19 : decode cX0_numberOf 19 = .ok (.lreturn, 1) := dk_173 (dk_at dksX0_numberOf_0 19 rfl rfl)
theorem dX0_numberOf_20 : decode cX0_numberOf 20 = .ok (.aload_n 2, 1) := dk_44 (dk_at dksX0_numberOf_0 20 rfl rfl)
theorem dX0_numberOf_21 : decode cX0_numberOf 21 = .ok (.iconst 0, 1) := dk_3 (dk_at dksX0_numberOf_0 21 rfl rfl)
theorem dX0_numberOf_22 : decode cX0_numberOf 22 = .ok (.laload, 1) := dk_47 (dk_at dksX0_numberOf_0 22 rfl rfl)
theorem dX0_numberOf_23 : decode cX0_numberOf 23 = .ok (.lreturn, 1) := dk_173 (dk_at dksX0_numberOf_0 23 rfl rfl)
abbrev cX0_has : ByteArray := prog_1_method_53_code
def yX0_has : MethodName := ⟨RX0, "has", "(I)J"⟩
def dkwX0_has_0 : List UInt8 := [42, 180, 0, 31, 27, 184, 1, 67, 173]
abbrev dktX0_has_0 : List UInt8 := dkwX0_has_0 ++ []
theorem dksX0_has_0 : cX0_has.data.toList.drop 0 = dktX0_has_0 := by decide +kernel
theorem dX0_has_0 : decode cX0_has 0 = .ok (.aload_n 0, 1) := dk_42 (dk_at dksX0_has_0 0 rfl rfl)
theorem dX0_has_1 : decode cX0_has 1 = .ok (.getfield 31, 3) := dk_180 0 31 (dk_at dksX0_has_0 1 rfl rfl)
theorem dX0_has_4 : decode cX0_has 4 = .ok (.iload_n 1, 1) := dk_27 (dk_at dksX0_has_0 4 rfl rfl)
theorem dX0_has_5 : decode cX0_has 5 = .ok (.invokestatic 323, 3) := dk_184 1 67 (dk_at dksX0_has_0 5 rfl rfl)
theorem dX0_has_8 : decode cX0_has 8 = .ok (.lreturn, 1) := dk_173 (dk_at dksX0_has_0 8 rfl rfl)
abbrev cX0_marked : ByteArray := prog_1_method_55_code
def yX0_marked : MethodName := ⟨RX0, "marked", "(I)J"⟩
def dkwX0_marked_0 : List UInt8 := [42, 182, 1, 74, 27, 184, 1, 67, 173]
abbrev dktX0_marked_0 : List UInt8 := dkwX0_marked_0 ++ []
theorem dksX0_marked_0 : cX0_marked.data.toList.drop 0 = dktX0_marked_0 := by decide +kernel
theorem dX0_marked_0 : decode cX0_marked 0 = .ok (.aload_n 0, 1) := dk_42 (dk_at dksX0_marked_0 0 rfl rfl)
theorem dX0_marked_1 : decode cX0_marked 1 = .ok (.invokevirtual 330, 3) := dk_182 1 74 (dk_at dksX0_marked_0 1 rfl rfl)
theorem dX0_marked_4 : decode cX0_marked 4 = .ok (.iload_n 1, 1) := dk_27 (dk_at dksX0_marked_0 4 rfl rfl)
theorem dX0_marked_5 : decode cX0_marked 5 = .ok (.invokestatic 323, 3) := dk_184 1 67 (dk_at dksX0_marked_0 5 rfl rfl)
theorem dX0_marked_8 : decode cX0_marked 8 = .ok (.lreturn, 1) := dk_173 (dk_at dksX0_marked_0 8 rfl rfl)
abbrev cX0_marksNow : ByteArray := prog_1_method_54_code
def yX0_marksNow : MethodName := ⟨RX0, "marksNow", "()[J"⟩
def dkwX0_marksNow_0 : List UInt8 := [42, 180, 0, 27, 180, 0, 68, 42, 180, 0, 31, 182, 1, 71, 176]
abbrev dktX0_marksNow_0 : List UInt8 := dkwX0_marksNow_0 ++ []
theorem dksX0_marksNow_0 : cX0_marksNow.data.toList.drop 0 = dktX0_marksNow_0 := by decide +kernel
theorem dX0_marksNow_0 : decode cX0_marksNow 0 = .ok (.aload_n 0, 1) := dk_42 (dk_at dksX0_marksNow_0 0 rfl rfl)
theorem dX0_marksNow_1 : decode cX0_marksNow 1 = .ok (.getfield 27, 3) := dk_180 0 27 (dk_at dksX0_marksNow_0 1 rfl rfl)
theorem dX0_marksNow_4 : decode cX0_marksNow 4 = .ok (.getfield 68, 3) := dk_180 0 68 (dk_at dksX0_marksNow_0 4 rfl rfl)
theorem dX0_marksNow_7 : decode cX0_marksNow 7 = .ok (.aload_n 0, 1) := dk_42 (dk_at dksX0_marksNow_0 7 rfl rfl)
theorem dX0_marksNow_8 : decode cX0_marksNow 8 = .ok (.getfield 31, 3) := dk_180 0 31 (dk_at dksX0_marksNow_0 8 rfl rfl)
theorem dX0_marksNow_11 : decode cX0_marksNow 11 = .ok (.invokevirtual 327, 3) := dk_182 1 71 (dk_at dksX0_marksNow_0 11 rfl rfl)
theorem dX0_marksNow_14 : decode cX0_marksNow 14 = .ok (.areturn, 1) := dk_176 (dk_at dksX0_marksNow_0 14 rfl rfl)
abbrev cX0_character : ByteArray := prog_1_method_56_code
def yX0_character : MethodName := ⟨RX0, "character", "(I)J"⟩
def dkwX0_character_1 : List UInt8 := [20, 1, 62, 173]
abbrev dktX0_character_1 : List UInt8 := dkwX0_character_1 ++ []
def dkwX0_character_0 : List UInt8 := [42, 27, 182, 0, 150, 153, 0, 17, 42, 42, 4, 27, 120, 182, 1, 9, 182, 1, 78, 167, 0, 6]
abbrev dktX0_character_0 : List UInt8 := dkwX0_character_0 ++ dktX0_character_1
theorem dksX0_character_0 : cX0_character.data.toList.drop 0 = dktX0_character_0 := by decide +kernel
theorem dksX0_character_1 : cX0_character.data.toList.drop 22 = dktX0_character_1 := dk_seg dksX0_character_0 22 rfl rfl
theorem dX0_character_0 : decode cX0_character 0 = .ok (.aload_n 0, 1) := dk_42 (dk_at dksX0_character_0 0 rfl rfl)
theorem dX0_character_1 : decode cX0_character 1 = .ok (.iload_n 1, 1) := dk_27 (dk_at dksX0_character_0 1 rfl rfl)
theorem dX0_character_2 : decode cX0_character 2 = .ok (.invokevirtual 150, 3) := dk_182 0 150 (dk_at dksX0_character_0 2 rfl rfl)
theorem dX0_character_5 : decode cX0_character 5 = .ok (.ifCond .eq 17, 3) := dk_153 0 17 (dk_at dksX0_character_0 5 rfl rfl)
theorem dX0_character_8 : decode cX0_character 8 = .ok (.aload_n 0, 1) := dk_42 (dk_at dksX0_character_0 8 rfl rfl)
theorem dX0_character_9 : decode cX0_character 9 = .ok (.aload_n 0, 1) := dk_42 (dk_at dksX0_character_0 9 rfl rfl)
theorem dX0_character_10 : decode cX0_character 10 = .ok (.iconst 1, 1) := dk_4 (dk_at dksX0_character_0 10 rfl rfl)
theorem dX0_character_11 : decode cX0_character 11 = .ok (.iload_n 1, 1) := dk_27 (dk_at dksX0_character_0 11 rfl rfl)
theorem dX0_character_12 : decode cX0_character 12 = .ok (.ishl, 1) := dk_120 (dk_at dksX0_character_0 12 rfl rfl)
theorem dX0_character_13 : decode cX0_character 13 = .ok (.invokevirtual 265, 3) := dk_182 1 9 (dk_at dksX0_character_0 13 rfl rfl)
theorem dX0_character_16 : decode cX0_character 16 = .ok (.invokevirtual 334, 3) := dk_182 1 78 (dk_at dksX0_character_0 16 rfl rfl)
theorem dX0_character_19 : decode cX0_character 19 = .ok (.goto 6, 3) := dk_167 0 6 (dk_at dksX0_character_0 19 rfl rfl)
theorem dX0_character_22 : decode cX0_character 22 = .ok (.ldc2_w 318, 3) := dk_20 1 62 (dk_at dksX0_character_1 0 rfl rfl)
theorem dX0_character_25 : decode cX0_character 25 = .ok (.lreturn, 1) := dk_173 (dk_at dksX0_character_1 3 rfl rfl)
abbrev cX0_parts : ByteArray := prog_1_method_57_code
def yX0_parts : MethodName := ⟨RX0, "parts", "()I"⟩
def dkwX0_parts_2 : List UInt8 := [172]
abbrev dktX0_parts_2 : List UInt8 := dkwX0_parts_2 ++ []
def dkwX0_parts_1 : List UInt8 := [55, 5, 27, 22, 5, 9, 148, 154, 0, 7, 3, 167, 0, 4, 4, 96, 60, 132, 4, 1, 167, 255, 226, 27]
abbrev dktX0_parts_1 : List UInt8 := dkwX0_parts_1 ++ dktX0_parts_2
def dkwX0_parts_0 : List UInt8 := [3, 60, 42, 180, 0, 31, 77, 44, 190, 62, 3, 54, 4, 21, 4, 29, 162, 0, 30, 44, 21, 4, 47]
abbrev dktX0_parts_0 : List UInt8 := dkwX0_parts_0 ++ dktX0_parts_1
theorem dksX0_parts_0 : cX0_parts.data.toList.drop 0 = dktX0_parts_0 := by decide +kernel
theorem dksX0_parts_1 : cX0_parts.data.toList.drop 23 = dktX0_parts_1 := dk_seg dksX0_parts_0 23 rfl rfl
theorem dksX0_parts_2 : cX0_parts.data.toList.drop 47 = dktX0_parts_2 := dk_seg dksX0_parts_1 24 rfl rfl
theorem dX0_parts_0 : decode cX0_parts 0 = .ok (.iconst 0, 1) := dk_3 (dk_at dksX0_parts_0 0 rfl rfl)
theorem dX0_parts_1 : decode cX0_parts 1 = .ok (.istore_n 1, 1) := dk_60 (dk_at dksX0_parts_0 1 rfl rfl)
theorem dX0_parts_2 : decode cX0_parts 2 = .ok (.aload_n 0, 1) := dk_42 (dk_at dksX0_parts_0 2 rfl rfl)
theorem dX0_parts_3 : decode cX0_parts 3 = .ok (.getfield 31, 3) := dk_180 0 31 (dk_at dksX0_parts_0 3 rfl rfl)
theorem dX0_parts_6 : decode cX0_parts 6 = .ok (.astore_n 2, 1) := dk_77 (dk_at dksX0_parts_0 6 rfl rfl)
theorem dX0_parts_7 : decode cX0_parts 7 = .ok (.aload_n 2, 1) := dk_44 (dk_at dksX0_parts_0 7 rfl rfl)
theorem dX0_parts_8 : decode cX0_parts 8 = .ok (.arraylength, 1) := dk_190 (dk_at dksX0_parts_0 8 rfl rfl)
theorem dX0_parts_9 : decode cX0_parts 9 = .ok (.istore_n 3, 1) := dk_62 (dk_at dksX0_parts_0 9 rfl rfl)
theorem dX0_parts_10 : decode cX0_parts 10 = .ok (.iconst 0, 1) := dk_3 (dk_at dksX0_parts_0 10 rfl rfl)
theorem dX0_parts_11 : decode cX0_parts 11 = .ok (.istore 4, 2) := dk_54 4 (dk_at dksX0_parts_0 11 rfl rfl)
theorem dX0_parts_13 : decode cX0_parts 13 = .ok (.iload 4, 2) := dk_21 4 (dk_at dksX0_parts_0 13 rfl rfl)
theorem dX0_parts_15 : decode cX0_parts 15 = .ok (.iload_n 3, 1) := dk_29 (dk_at dksX0_parts_0 15 rfl rfl)
theorem dX0_parts_16 : decode cX0_parts 16 = .ok (.if_icmp .ge 30, 3) := dk_162 0 30 (dk_at dksX0_parts_0 16 rfl rfl)
theorem dX0_parts_19 : decode cX0_parts 19 = .ok (.aload_n 2, 1) := dk_44 (dk_at dksX0_parts_0 19 rfl rfl)
theorem dX0_parts_20 : decode cX0_parts 20 = .ok (.iload 4, 2) := dk_21 4 (dk_at dksX0_parts_0 20 rfl rfl)
theorem dX0_parts_22 : decode cX0_parts 22 = .ok (.laload, 1) := dk_47 (dk_at dksX0_parts_0 22 rfl rfl)
theorem dX0_parts_23 : decode cX0_parts 23 = .ok (.lstore 5, 2) := dk_55 5 (dk_at dksX0_parts_1 0 rfl rfl)
theorem dX0_parts_25 : decode cX0_parts 25 = .ok (.iload_n 1, 1) := dk_27 (dk_at dksX0_parts_1 2 rfl rfl)
theorem dX0_parts_26 : decode cX0_parts 26 = .ok (.lload 5, 2) := dk_22 5 (dk_at dksX0_parts_1 3 rfl rfl)
theorem dX0_parts_28 : decode cX0_parts 28 = .ok (.lconst 0, 1) := dk_9 (dk_at dksX0_parts_1 5 rfl rfl)
theorem dX0_parts_29 : decode cX0_parts 29 = .ok (.lcmp, 1) := dk_148 (dk_at dksX0_parts_1 6 rfl rfl)
theorem dX0_parts_30 : decode cX0_parts 30 = .ok (.ifCond .ne 7, 3) := dk_154 0 7 (dk_at dksX0_parts_1 7 rfl rfl)
theorem dX0_parts_33 : decode cX0_parts 33 = .ok (.iconst 0, 1) := dk_3 (dk_at dksX0_parts_1 10 rfl rfl)
theorem dX0_parts_34 : decode cX0_parts 34 = .ok (.goto 4, 3) := dk_167 0 4 (dk_at dksX0_parts_1 11 rfl rfl)
theorem dX0_parts_37 : decode cX0_parts 37 = .ok (.iconst 1, 1) := dk_4 (dk_at dksX0_parts_1 14 rfl rfl)
theorem dX0_parts_38 : decode cX0_parts 38 = .ok (.iadd, 1) := dk_96 (dk_at dksX0_parts_1 15 rfl rfl)
theorem dX0_parts_39 : decode cX0_parts 39 = .ok (.istore_n 1, 1) := dk_60 (dk_at dksX0_parts_1 16 rfl rfl)
theorem dX0_parts_40 : decode cX0_parts 40 = .ok (.iinc 4 1, 3) := dk_132 4 1 (dk_at dksX0_parts_1 17 rfl rfl)
theorem dX0_parts_43 : decode cX0_parts 43 = .ok (.goto (-30), 3) := dk_167 255 226 (dk_at dksX0_parts_1 20 rfl rfl)
theorem dX0_parts_46 : decode cX0_parts 46 = .ok (.iload_n 1, 1) := dk_27 (dk_at dksX0_parts_1 23 rfl rfl)
theorem dX0_parts_47 : decode cX0_parts 47 = .ok (.ireturn, 1) := dk_172 (dk_at dksX0_parts_2 0 rfl rfl)
abbrev cX0_congruence : ByteArray := prog_1_method_58_code
def yX0_congruence : MethodName := ⟨RX0, "congruence", "(I)J"⟩
def dkwX0_congruence_1 : List UInt8 := [180, 0, 27, 180, 0, 68, 27, 182, 1, 85, 133, 109, 167, 0, 6, 20, 1, 62, 173]
abbrev dktX0_congruence_1 : List UInt8 := dkwX0_congruence_1 ++ []
def dkwX0_congruence_0 : List UInt8 := [42, 27, 182, 0, 183, 153, 0, 34, 42, 180, 0, 27, 180, 0, 68, 42, 182, 1, 74, 27, 182, 1, 82, 42]
abbrev dktX0_congruence_0 : List UInt8 := dkwX0_congruence_0 ++ dktX0_congruence_1
theorem dksX0_congruence_0 : cX0_congruence.data.toList.drop 0 = dktX0_congruence_0 := by decide +kernel
theorem dksX0_congruence_1 : cX0_congruence.data.toList.drop 24 = dktX0_congruence_1 := dk_seg dksX0_congruence_0 24 rfl rfl
theorem dX0_congruence_0 : decode cX0_congruence 0 = .ok (.aload_n 0, 1) := dk_42 (dk_at dksX0_congruence_0 0 rfl rfl)
theorem dX0_congruence_1 : decode cX0_congruence 1 = .ok (.iload_n 1, 1) := dk_27 (dk_at dksX0_congruence_0 1 rfl rfl)
theorem dX0_congruence_2 : decode cX0_congruence 2 = .ok (.invokevirtual 183, 3) := dk_182 0 183 (dk_at dksX0_congruence_0 2 rfl rfl)
theorem dX0_congruence_5 : decode cX0_congruence 5 = .ok (.ifCond .eq 34, 3) := dk_153 0 34 (dk_at dksX0_congruence_0 5 rfl rfl)
theorem dX0_congruence_8 : decode cX0_congruence 8 = .ok (.aload_n 0, 1) := dk_42 (dk_at dksX0_congruence_0 8 rfl rfl)
theorem dX0_congruence_9 : decode cX0_congruence 9 = .ok (.getfield 27, 3) := dk_180 0 27 (dk_at dksX0_congruence_0 9 rfl rfl)
theorem dX0_congruence_12 : decode cX0_congruence 12 = .ok (.getfield 68, 3) := dk_180 0 68 (dk_at dksX0_congruence_0 12 rfl rfl)
theorem dX0_congruence_15 : decode cX0_congruence 15 = .ok (.aload_n 0, 1) := dk_42 (dk_at dksX0_congruence_0 15 rfl rfl)
theorem dX0_congruence_16 : decode cX0_congruence 16 = .ok (.invokevirtual 330, 3) := dk_182 1 74 (dk_at dksX0_congruence_0 16 rfl rfl)
theorem dX0_congruence_19 : decode cX0_congruence 19 = .ok (.iload_n 1, 1) := dk_27 (dk_at dksX0_congruence_0 19 rfl rfl)
theorem dX0_congruence_20 : decode cX0_congruence 20 = .ok (.invokevirtual 338, 3) := dk_182 1 82 (dk_at dksX0_congruence_0 20 rfl rfl)
theorem dX0_congruence_23 : decode cX0_congruence 23 = .ok (.aload_n 0, 1) := dk_42 (dk_at dksX0_congruence_0 23 rfl rfl)
theorem dX0_congruence_24 : decode cX0_congruence 24 = .ok (.getfield 27, 3) := dk_180 0 27 (dk_at dksX0_congruence_1 0 rfl rfl)
theorem dX0_congruence_27 : decode cX0_congruence 27 = .ok (.getfield 68, 3) := dk_180 0 68 (dk_at dksX0_congruence_1 3 rfl rfl)
theorem dX0_congruence_30 : decode cX0_congruence 30 = .ok (.iload_n 1, 1) := dk_27 (dk_at dksX0_congruence_1 6 rfl rfl)
theorem dX0_congruence_31 : decode cX0_congruence 31 = .ok (.invokevirtual 341, 3) := dk_182 1 85 (dk_at dksX0_congruence_1 7 rfl rfl)
theorem dX0_congruence_34 : decode cX0_congruence 34 = .ok (.i2l, 1) := dk_133 (dk_at dksX0_congruence_1 10 rfl rfl)
theorem dX0_congruence_35 : decode cX0_congruence 35 = .ok (.ldiv, 1) := dk_109 (dk_at dksX0_congruence_1 11 rfl rfl)
theorem dX0_congruence_36 : decode cX0_congruence 36 = .ok (.goto 6, 3) := dk_167 0 6 (dk_at dksX0_congruence_1 12 rfl rfl)
theorem dX0_congruence_39 : decode cX0_congruence 39 = .ok (.ldc2_w 318, 3) := dk_20 1 62 (dk_at dksX0_congruence_1 15 rfl rfl)
theorem dX0_congruence_42 : decode cX0_congruence 42 = .ok (.lreturn, 1) := dk_173 (dk_at dksX0_congruence_1 18 rfl rfl)
abbrev cX0_is : ByteArray := prog_1_method_59_code
def yX0_is : MethodName := ⟨RX0, "is", "(I)I"⟩
def dkwX0_is_7 : List UInt8 := [160, 0, 7, 4, 167, 0, 4, 3, 159, 0, 7, 4, 167, 0, 4, 3, 172]
abbrev dktX0_is_7 : List UInt8 := dkwX0_is_7 ++ []
def dkwX0_is_6 : List UInt8 := [153, 0, 12, 21, 8, 153, 0, 7, 4, 167, 0, 4, 3, 61, 132, 5, 1, 167, 255, 136, 28, 27, 6]
abbrev dktX0_is_6 : List UInt8 := dkwX0_is_6 ++ dktX0_is_7
def dkwX0_is_5 : List UInt8 := [4, 167, 0, 19, 3, 167, 0, 15, 22, 6, 9, 148, 153, 0, 7, 4, 167, 0, 4, 3, 54, 8, 28]
abbrev dktX0_is_5 : List UInt8 := dkwX0_is_5 ++ dktX0_is_6
def dkwX0_is_4 : List UInt8 := [167, 0, 44, 27, 5, 160, 0, 27, 22, 6, 10, 148, 153, 0, 12, 22, 6, 20, 1, 46, 148, 154, 0, 7]
abbrev dktX0_is_4 : List UInt8 := dkwX0_is_4 ++ dktX0_is_5
def dkwX0_is_3 : List UInt8 := [27, 4, 160, 0, 25, 22, 6, 9, 148, 153, 0, 10, 22, 6, 10, 148, 154, 0, 7, 4, 167, 0, 48, 3]
abbrev dktX0_is_3 : List UInt8 := dkwX0_is_3 ++ dktX0_is_4
def dkwX0_is_2 : List UInt8 := [21, 5, 47, 55, 6, 27, 154, 0, 18, 22, 6, 9, 148, 155, 0, 7, 4, 167, 0, 75, 3, 167, 0, 71]
abbrev dktX0_is_2 : List UInt8 := dkwX0_is_2 ++ dktX0_is_3
def dkwX0_is_1 : List UInt8 := [167, 0, 7, 42, 182, 1, 74, 78, 45, 190, 54, 4, 3, 54, 5, 21, 5, 21, 4, 162, 0, 119, 45]
abbrev dktX0_is_1 : List UInt8 := dkwX0_is_1 ++ dktX0_is_2
def dkwX0_is_0 : List UInt8 := [27, 133, 9, 20, 1, 88, 184, 0, 129, 154, 0, 5, 2, 172, 4, 61, 27, 154, 0, 10, 42, 180, 0, 31]
abbrev dktX0_is_0 : List UInt8 := dkwX0_is_0 ++ dktX0_is_1
theorem dksX0_is_0 : cX0_is.data.toList.drop 0 = dktX0_is_0 := by decide +kernel
theorem dksX0_is_1 : cX0_is.data.toList.drop 24 = dktX0_is_1 := dk_seg dksX0_is_0 24 rfl rfl
theorem dksX0_is_2 : cX0_is.data.toList.drop 47 = dktX0_is_2 := dk_seg dksX0_is_1 23 rfl rfl
theorem dksX0_is_3 : cX0_is.data.toList.drop 71 = dktX0_is_3 := dk_seg dksX0_is_2 24 rfl rfl
theorem dksX0_is_4 : cX0_is.data.toList.drop 95 = dktX0_is_4 := dk_seg dksX0_is_3 24 rfl rfl
theorem dksX0_is_5 : cX0_is.data.toList.drop 119 = dktX0_is_5 := dk_seg dksX0_is_4 24 rfl rfl
theorem dksX0_is_6 : cX0_is.data.toList.drop 142 = dktX0_is_6 := dk_seg dksX0_is_5 23 rfl rfl
theorem dksX0_is_7 : cX0_is.data.toList.drop 165 = dktX0_is_7 := dk_seg dksX0_is_6 23 rfl rfl
theorem dX0_is_0 : decode cX0_is 0 = .ok (.iload_n 1, 1) := dk_27 (dk_at dksX0_is_0 0 rfl rfl)
theorem dX0_is_1 : decode cX0_is 1 = .ok (.i2l, 1) := dk_133 (dk_at dksX0_is_0 1 rfl rfl)
theorem dX0_is_2 : decode cX0_is 2 = .ok (.lconst 0, 1) := dk_9 (dk_at dksX0_is_0 2 rfl rfl)
theorem dX0_is_3 : decode cX0_is 3 = .ok (.ldc2_w 344, 3) := dk_20 1 88 (dk_at dksX0_is_0 3 rfl rfl)
theorem dX0_is_6 : decode cX0_is 6 = .ok (.invokestatic 129, 3) := dk_184 0 129 (dk_at dksX0_is_0 6 rfl rfl)
theorem dX0_is_9 : decode cX0_is 9 = .ok (.ifCond .ne 5, 3) := dk_154 0 5 (dk_at dksX0_is_0 9 rfl rfl)
theorem dX0_is_12 : decode cX0_is 12 = .ok (.iconst (-1), 1) := dk_2 (dk_at dksX0_is_0 12 rfl rfl)
theorem dX0_is_13 : decode cX0_is 13 = .ok (.ireturn, 1) := dk_172 (dk_at dksX0_is_0 13 rfl rfl)
theorem dX0_is_14 : decode cX0_is 14 = .ok (.iconst 1, 1) := dk_4 (dk_at dksX0_is_0 14 rfl rfl)
theorem dX0_is_15 : decode cX0_is 15 = .ok (.istore_n 2, 1) := dk_61 (dk_at dksX0_is_0 15 rfl rfl)
theorem dX0_is_16 : decode cX0_is 16 = .ok (.iload_n 1, 1) := dk_27 (dk_at dksX0_is_0 16 rfl rfl)
theorem dX0_is_17 : decode cX0_is 17 = .ok (.ifCond .ne 10, 3) := dk_154 0 10 (dk_at dksX0_is_0 17 rfl rfl)
theorem dX0_is_20 : decode cX0_is 20 = .ok (.aload_n 0, 1) := dk_42 (dk_at dksX0_is_0 20 rfl rfl)
theorem dX0_is_21 : decode cX0_is 21 = .ok (.getfield 31, 3) := dk_180 0 31 (dk_at dksX0_is_0 21 rfl rfl)
theorem dX0_is_24 : decode cX0_is 24 = .ok (.goto 7, 3) := dk_167 0 7 (dk_at dksX0_is_1 0 rfl rfl)
theorem dX0_is_27 : decode cX0_is 27 = .ok (.aload_n 0, 1) := dk_42 (dk_at dksX0_is_1 3 rfl rfl)
theorem dX0_is_28 : decode cX0_is 28 = .ok (.invokevirtual 330, 3) := dk_182 1 74 (dk_at dksX0_is_1 4 rfl rfl)
theorem dX0_is_31 : decode cX0_is 31 = .ok (.astore_n 3, 1) := dk_78 (dk_at dksX0_is_1 7 rfl rfl)
theorem dX0_is_32 : decode cX0_is 32 = .ok (.aload_n 3, 1) := dk_45 (dk_at dksX0_is_1 8 rfl rfl)
theorem dX0_is_33 : decode cX0_is 33 = .ok (.arraylength, 1) := dk_190 (dk_at dksX0_is_1 9 rfl rfl)
theorem dX0_is_34 : decode cX0_is 34 = .ok (.istore 4, 2) := dk_54 4 (dk_at dksX0_is_1 10 rfl rfl)
theorem dX0_is_36 : decode cX0_is 36 = .ok (.iconst 0, 1) := dk_3 (dk_at dksX0_is_1 12 rfl rfl)
theorem dX0_is_37 : decode cX0_is 37 = .ok (.istore 5, 2) := dk_54 5 (dk_at dksX0_is_1 13 rfl rfl)
theorem dX0_is_39 : decode cX0_is 39 = .ok (.iload 5, 2) := dk_21 5 (dk_at dksX0_is_1 15 rfl rfl)
theorem dX0_is_41 : decode cX0_is 41 = .ok (.iload 4, 2) := dk_21 4 (dk_at dksX0_is_1 17 rfl rfl)
theorem dX0_is_43 : decode cX0_is 43 = .ok (.if_icmp .ge 119, 3) := dk_162 0 119 (dk_at dksX0_is_1 19 rfl rfl)
theorem dX0_is_46 : decode cX0_is 46 = .ok (.aload_n 3, 1) := dk_45 (dk_at dksX0_is_1 22 rfl rfl)
theorem dX0_is_47 : decode cX0_is 47 = .ok (.iload 5, 2) := dk_21 5 (dk_at dksX0_is_2 0 rfl rfl)
theorem dX0_is_49 : decode cX0_is 49 = .ok (.laload, 1) := dk_47 (dk_at dksX0_is_2 2 rfl rfl)
theorem dX0_is_50 : decode cX0_is 50 = .ok (.lstore 6, 2) := dk_55 6 (dk_at dksX0_is_2 3 rfl rfl)
theorem dX0_is_52 : decode cX0_is 52 = .ok (.iload_n 1, 1) := dk_27 (dk_at dksX0_is_2 5 rfl rfl)
theorem dX0_is_53 : decode cX0_is 53 = .ok (.ifCond .ne 18, 3) := dk_154 0 18 (dk_at dksX0_is_2 6 rfl rfl)
theorem dX0_is_56 : decode cX0_is 56 = .ok (.lload 6, 2) := dk_22 6 (dk_at dksX0_is_2 9 rfl rfl)
theorem dX0_is_58 : decode cX0_is 58 = .ok (.lconst 0, 1) := dk_9 (dk_at dksX0_is_2 11 rfl rfl)
theorem dX0_is_59 : decode cX0_is 59 = .ok (.lcmp, 1) := dk_148 (dk_at dksX0_is_2 12 rfl rfl)
theorem dX0_is_60 : decode cX0_is 60 = .ok (.ifCond .lt 7, 3) := dk_155 0 7 (dk_at dksX0_is_2 13 rfl rfl)
theorem dX0_is_63 : decode cX0_is 63 = .ok (.iconst 1, 1) := dk_4 (dk_at dksX0_is_2 16 rfl rfl)
theorem dX0_is_64 : decode cX0_is 64 = .ok (.goto 75, 3) := dk_167 0 75 (dk_at dksX0_is_2 17 rfl rfl)
theorem dX0_is_67 : decode cX0_is 67 = .ok (.iconst 0, 1) := dk_3 (dk_at dksX0_is_2 20 rfl rfl)
theorem dX0_is_68 : decode cX0_is 68 = .ok (.goto 71, 3) := dk_167 0 71 (dk_at dksX0_is_2 21 rfl rfl)
theorem dX0_is_71 : decode cX0_is 71 = .ok (.iload_n 1, 1) := dk_27 (dk_at dksX0_is_3 0 rfl rfl)
theorem dX0_is_72 : decode cX0_is 72 = .ok (.iconst 1, 1) := dk_4 (dk_at dksX0_is_3 1 rfl rfl)
theorem dX0_is_73 : decode cX0_is 73 = .ok (.if_icmp .ne 25, 3) := dk_160 0 25 (dk_at dksX0_is_3 2 rfl rfl)
theorem dX0_is_76 : decode cX0_is 76 = .ok (.lload 6, 2) := dk_22 6 (dk_at dksX0_is_3 5 rfl rfl)
theorem dX0_is_78 : decode cX0_is 78 = .ok (.lconst 0, 1) := dk_9 (dk_at dksX0_is_3 7 rfl rfl)
theorem dX0_is_79 : decode cX0_is 79 = .ok (.lcmp, 1) := dk_148 (dk_at dksX0_is_3 8 rfl rfl)
theorem dX0_is_80 : decode cX0_is 80 = .ok (.ifCond .eq 10, 3) := dk_153 0 10 (dk_at dksX0_is_3 9 rfl rfl)
theorem dX0_is_83 : decode cX0_is 83 = .ok (.lload 6, 2) := dk_22 6 (dk_at dksX0_is_3 12 rfl rfl)
theorem dX0_is_85 : decode cX0_is 85 = .ok (.lconst 1, 1) := dk_10 (dk_at dksX0_is_3 14 rfl rfl)
theorem dX0_is_86 : decode cX0_is 86 = .ok (.lcmp, 1) := dk_148 (dk_at dksX0_is_3 15 rfl rfl)
theorem dX0_is_87 : decode cX0_is 87 = .ok (.ifCond .ne 7, 3) := dk_154 0 7 (dk_at dksX0_is_3 16 rfl rfl)
theorem dX0_is_90 : decode cX0_is 90 = .ok (.iconst 1, 1) := dk_4 (dk_at dksX0_is_3 19 rfl rfl)
theorem dX0_is_91 : decode cX0_is 91 = .ok (.goto 48, 3) := dk_167 0 48 (dk_at dksX0_is_3 20 rfl rfl)
theorem dX0_is_94 : decode cX0_is 94 = .ok (.iconst 0, 1) := dk_3 (dk_at dksX0_is_3 23 rfl rfl)
theorem dX0_is_95 : decode cX0_is 95 = .ok (.goto 44, 3) := dk_167 0 44 (dk_at dksX0_is_4 0 rfl rfl)
theorem dX0_is_98 : decode cX0_is 98 = .ok (.iload_n 1, 1) := dk_27 (dk_at dksX0_is_4 3 rfl rfl)
theorem dX0_is_99 : decode cX0_is 99 = .ok (.iconst 2, 1) := dk_5 (dk_at dksX0_is_4 4 rfl rfl)
theorem dX0_is_100 : decode cX0_is 100 = .ok (.if_icmp .ne 27, 3) := dk_160 0 27 (dk_at dksX0_is_4 5 rfl rfl)
theorem dX0_is_103 : decode cX0_is 103 = .ok (.lload 6, 2) := dk_22 6 (dk_at dksX0_is_4 8 rfl rfl)
theorem dX0_is_105 : decode cX0_is 105 = .ok (.lconst 1, 1) := dk_10 (dk_at dksX0_is_4 10 rfl rfl)
theorem dX0_is_106 : decode cX0_is 106 = .ok (.lcmp, 1) := dk_148 (dk_at dksX0_is_4 11 rfl rfl)
theorem dX0_is_107 : decode cX0_is 107 = .ok (.ifCond .eq 12, 3) := dk_153 0 12 (dk_at dksX0_is_4 12 rfl rfl)
theorem dX0_is_110 : decode cX0_is 110 = .ok (.lload 6, 2) := dk_22 6 (dk_at dksX0_is_4 15 rfl rfl)
theorem dX0_is_112 : decode cX0_is 112 = .ok (.ldc2_w 302, 3) := dk_20 1 46 (dk_at dksX0_is_4 17 rfl rfl)
theorem dX0_is_115 : decode cX0_is 115 = .ok (.lcmp, 1) := dk_148 (dk_at dksX0_is_4 20 rfl rfl)
theorem dX0_is_116 : decode cX0_is 116 = .ok (.ifCond .ne 7, 3) := dk_154 0 7 (dk_at dksX0_is_4 21 rfl rfl)
theorem dX0_is_119 : decode cX0_is 119 = .ok (.iconst 1, 1) := dk_4 (dk_at dksX0_is_5 0 rfl rfl)
theorem dX0_is_120 : decode cX0_is 120 = .ok (.goto 19, 3) := dk_167 0 19 (dk_at dksX0_is_5 1 rfl rfl)
theorem dX0_is_123 : decode cX0_is 123 = .ok (.iconst 0, 1) := dk_3 (dk_at dksX0_is_5 4 rfl rfl)
theorem dX0_is_124 : decode cX0_is 124 = .ok (.goto 15, 3) := dk_167 0 15 (dk_at dksX0_is_5 5 rfl rfl)
theorem dX0_is_127 : decode cX0_is 127 = .ok (.lload 6, 2) := dk_22 6 (dk_at dksX0_is_5 8 rfl rfl)
theorem dX0_is_129 : decode cX0_is 129 = .ok (.lconst 0, 1) := dk_9 (dk_at dksX0_is_5 10 rfl rfl)
theorem dX0_is_130 : decode cX0_is 130 = .ok (.lcmp, 1) := dk_148 (dk_at dksX0_is_5 11 rfl rfl)
theorem dX0_is_131 : decode cX0_is 131 = .ok (.ifCond .eq 7, 3) := dk_153 0 7 (dk_at dksX0_is_5 12 rfl rfl)
theorem dX0_is_134 : decode cX0_is 134 = .ok (.iconst 1, 1) := dk_4 (dk_at dksX0_is_5 15 rfl rfl)
theorem dX0_is_135 : decode cX0_is 135 = .ok (.goto 4, 3) := dk_167 0 4 (dk_at dksX0_is_5 16 rfl rfl)
theorem dX0_is_138 : decode cX0_is 138 = .ok (.iconst 0, 1) := dk_3 (dk_at dksX0_is_5 19 rfl rfl)
theorem dX0_is_139 : decode cX0_is 139 = .ok (.istore 8, 2) := dk_54 8 (dk_at dksX0_is_5 20 rfl rfl)
theorem dX0_is_141 : decode cX0_is 141 = .ok (.iload_n 2, 1) := dk_28 (dk_at dksX0_is_5 22 rfl rfl)
theorem dX0_is_142 : decode cX0_is 142 = .ok (.ifCond .eq 12, 3) := dk_153 0 12 (dk_at dksX0_is_6 0 rfl rfl)
theorem dX0_is_145 : decode cX0_is 145 = .ok (.iload 8, 2) := dk_21 8 (dk_at dksX0_is_6 3 rfl rfl)
theorem dX0_is_147 : decode cX0_is 147 = .ok (.ifCond .eq 7, 3) := dk_153 0 7 (dk_at dksX0_is_6 5 rfl rfl)
theorem dX0_is_150 : decode cX0_is 150 = .ok (.iconst 1, 1) := dk_4 (dk_at dksX0_is_6 8 rfl rfl)
theorem dX0_is_151 : decode cX0_is 151 = .ok (.goto 4, 3) := dk_167 0 4 (dk_at dksX0_is_6 9 rfl rfl)
theorem dX0_is_154 : decode cX0_is 154 = .ok (.iconst 0, 1) := dk_3 (dk_at dksX0_is_6 12 rfl rfl)
theorem dX0_is_155 : decode cX0_is 155 = .ok (.istore_n 2, 1) := dk_61 (dk_at dksX0_is_6 13 rfl rfl)
theorem dX0_is_156 : decode cX0_is 156 = .ok (.iinc 5 1, 3) := dk_132 5 1 (dk_at dksX0_is_6 14 rfl rfl)
theorem dX0_is_159 : decode cX0_is 159 = .ok (.goto (-120), 3) := dk_167 255 136 (dk_at dksX0_is_6 17 rfl rfl)
theorem dX0_is_162 : decode cX0_is 162 = .ok (.iload_n 2, 1) := dk_28 (dk_at dksX0_is_6 20 rfl rfl)
theorem dX0_is_163 : decode cX0_is 163 = .ok (.iload_n 1, 1) := dk_27 (dk_at dksX0_is_6 21 rfl rfl)
theorem dX0_is_164 : decode cX0_is 164 = .ok (.iconst 3, 1) := dk_6 (dk_at dksX0_is_6 22 rfl rfl)
theorem dX0_is_165 : decode cX0_is 165 = .ok (.if_icmp .ne 7, 3) := dk_160 0 7 (dk_at dksX0_is_7 0 rfl rfl)
theorem dX0_is_168 : decode cX0_is 168 = .ok (.iconst 1, 1) := dk_4 (dk_at dksX0_is_7 3 rfl rfl)
theorem dX0_is_169 : decode cX0_is 169 = .ok (.goto 4, 3) := dk_167 0 4 (dk_at dksX0_is_7 4 rfl rfl)
theorem dX0_is_172 : decode cX0_is 172 = .ok (.iconst 0, 1) := dk_3 (dk_at dksX0_is_7 7 rfl rfl)
theorem dX0_is_173 : decode cX0_is 173 = .ok (.if_icmp .eq 7, 3) := dk_159 0 7 (dk_at dksX0_is_7 8 rfl rfl)
theorem dX0_is_176 : decode cX0_is 176 = .ok (.iconst 1, 1) := dk_4 (dk_at dksX0_is_7 11 rfl rfl)
theorem dX0_is_177 : decode cX0_is 177 = .ok (.goto 4, 3) := dk_167 0 4 (dk_at dksX0_is_7 12 rfl rfl)
theorem dX0_is_180 : decode cX0_is 180 = .ok (.iconst 0, 1) := dk_3 (dk_at dksX0_is_7 15 rfl rfl)
theorem dX0_is_181 : decode cX0_is 181 = .ok (.ireturn, 1) := dk_172 (dk_at dksX0_is_7 16 rfl rfl)
abbrev cX0_makes : ByteArray := prog_1_method_61_code
def yX0_makes : MethodName := ⟨RX0, "makes", "()I"⟩
def dkwX0_makes_2 : List UInt8 := [182, 1, 114, 192, 0, 76, 182, 0, 107, 172]
abbrev dktX0_makes_2 : List UInt8 := dkwX0_makes_2 ++ []
def dkwX0_makes_1 : List UInt8 := [182, 1, 98, 180, 0, 220, 182, 1, 101, 192, 1, 102, 182, 1, 105, 42, 182, 1, 109, 172, 76, 42, 43]
abbrev dktX0_makes_1 : List UInt8 := dkwX0_makes_1 ++ dktX0_makes_2
def dkwX0_makes_0 : List UInt8 := [42, 182, 0, 86, 42, 187, 0, 89, 89, 42, 180, 0, 15, 42, 182, 0, 91, 183, 0, 95, 42, 180, 0, 27]
abbrev dktX0_makes_0 : List UInt8 := dkwX0_makes_0 ++ dktX0_makes_1
theorem dksX0_makes_0 : cX0_makes.data.toList.drop 0 = dktX0_makes_0 := by decide +kernel
theorem dksX0_makes_1 : cX0_makes.data.toList.drop 24 = dktX0_makes_1 := dk_seg dksX0_makes_0 24 rfl rfl
theorem dksX0_makes_2 : cX0_makes.data.toList.drop 47 = dktX0_makes_2 := dk_seg dksX0_makes_1 23 rfl rfl
theorem dX0_makes_0 : decode cX0_makes 0 = .ok (.aload_n 0, 1) := dk_42 (dk_at dksX0_makes_0 0 rfl rfl)
theorem dX0_makes_1 : decode cX0_makes 1 = .ok (.invokevirtual 86, 3) := dk_182 0 86 (dk_at dksX0_makes_0 1 rfl rfl)
theorem dX0_makes_4 : decode cX0_makes 4 = .ok (.aload_n 0, 1) := dk_42 (dk_at dksX0_makes_0 4 rfl rfl)
theorem dX0_makes_5 : decode cX0_makes 5 = .ok (.new 89, 3) := dk_187 0 89 (dk_at dksX0_makes_0 5 rfl rfl)
theorem dX0_makes_8 : decode cX0_makes 8 = .ok (.dup, 1) := dk_89 (dk_at dksX0_makes_0 8 rfl rfl)
theorem dX0_makes_9 : decode cX0_makes 9 = .ok (.aload_n 0, 1) := dk_42 (dk_at dksX0_makes_0 9 rfl rfl)
theorem dX0_makes_10 : decode cX0_makes 10 = .ok (.getfield 15, 3) := dk_180 0 15 (dk_at dksX0_makes_0 10 rfl rfl)
theorem dX0_makes_13 : decode cX0_makes 13 = .ok (.aload_n 0, 1) := dk_42 (dk_at dksX0_makes_0 13 rfl rfl)
theorem dX0_makes_14 : decode cX0_makes 14 = .ok (.invokevirtual 91, 3) := dk_182 0 91 (dk_at dksX0_makes_0 14 rfl rfl)
theorem dX0_makes_17 : decode cX0_makes 17 = .ok (.invokespecial 95, 3) := dk_183 0 95 (dk_at dksX0_makes_0 17 rfl rfl)
theorem dX0_makes_20 : decode cX0_makes 20 = .ok (.aload_n 0, 1) := dk_42 (dk_at dksX0_makes_0 20 rfl rfl)
theorem dX0_makes_21 : decode cX0_makes 21 = .ok (.getfield 27, 3) := dk_180 0 27 (dk_at dksX0_makes_0 21 rfl rfl)
theorem dX0_makes_24 : decode cX0_makes 24 = .ok (.invokevirtual 354, 3) := dk_182 1 98 (dk_at dksX0_makes_1 0 rfl rfl)
theorem dX0_makes_27 : decode cX0_makes 27 = .ok (.getfield 220, 3) := dk_180 0 220 (dk_at dksX0_makes_1 3 rfl rfl)
theorem dX0_makes_30 : decode cX0_makes 30 = .ok (.invokevirtual 357, 3) := dk_182 1 101 (dk_at dksX0_makes_1 6 rfl rfl)
theorem dX0_makes_33 : decode cX0_makes 33 = .ok (.checkcast 358, 3) := dk_192 1 102 (dk_at dksX0_makes_1 9 rfl rfl)
theorem dX0_makes_36 : decode cX0_makes 36 = .ok (.invokevirtual 361, 3) := dk_182 1 105 (dk_at dksX0_makes_1 12 rfl rfl)
theorem dX0_makes_39 : decode cX0_makes 39 = .ok (.aload_n 0, 1) := dk_42 (dk_at dksX0_makes_1 15 rfl rfl)
theorem dX0_makes_40 : decode cX0_makes 40 = .ok (.invokevirtual 365, 3) := dk_182 1 109 (dk_at dksX0_makes_1 16 rfl rfl)
theorem dX0_makes_43 : decode cX0_makes 43 = .ok (.ireturn, 1) := dk_172 (dk_at dksX0_makes_1 19 rfl rfl)
theorem dX0_makes_44 : decode cX0_makes 44 = .ok (.astore_n 1, 1) := dk_76 (dk_at dksX0_makes_1 20 rfl rfl)
theorem dX0_makes_45 : decode cX0_makes 45 = .ok (.aload_n 0, 1) := dk_42 (dk_at dksX0_makes_1 21 rfl rfl)
theorem dX0_makes_46 : decode cX0_makes 46 = .ok (.aload_n 1, 1) := dk_43 (dk_at dksX0_makes_1 22 rfl rfl)
theorem dX0_makes_47 : decode cX0_makes 47 = .ok (.invokevirtual 370, 3) := dk_182 1 114 (dk_at dksX0_makes_2 0 rfl rfl)
theorem dX0_makes_50 : decode cX0_makes 50 = .ok (.checkcast 76, 3) := dk_192 0 76 (dk_at dksX0_makes_2 3 rfl rfl)
theorem dX0_makes_53 : decode cX0_makes 53 = .ok (.invokevirtual 107, 3) := dk_182 0 107 (dk_at dksX0_makes_2 6 rfl rfl)
theorem dX0_makes_56 : decode cX0_makes 56 = .ok (.ireturn, 1) := dk_172 (dk_at dksX0_makes_2 9 rfl rfl)
abbrev cX0_becomes : ByteArray := prog_1_method_60_code
def yX0_becomes : MethodName := ⟨RX0, "becomes", "([J)V"⟩
def dkwX0_becomes_1 : List UInt8 := [180, 0, 38, 182, 1, 94, 87, 42, 43, 181, 0, 31, 177]
abbrev dktX0_becomes_1 : List UInt8 := dkwX0_becomes_1 ++ []
def dkwX0_becomes_0 : List UInt8 := [42, 180, 0, 38, 42, 180, 0, 31, 182, 1, 90, 42, 180, 0, 38, 182, 0, 149, 16, 12, 164, 0, 11, 42]
abbrev dktX0_becomes_0 : List UInt8 := dkwX0_becomes_0 ++ dktX0_becomes_1
theorem dksX0_becomes_0 : cX0_becomes.data.toList.drop 0 = dktX0_becomes_0 := by decide +kernel
theorem dksX0_becomes_1 : cX0_becomes.data.toList.drop 24 = dktX0_becomes_1 := dk_seg dksX0_becomes_0 24 rfl rfl
theorem dX0_becomes_0 : decode cX0_becomes 0 = .ok (.aload_n 0, 1) := dk_42 (dk_at dksX0_becomes_0 0 rfl rfl)
theorem dX0_becomes_1 : decode cX0_becomes 1 = .ok (.getfield 38, 3) := dk_180 0 38 (dk_at dksX0_becomes_0 1 rfl rfl)
theorem dX0_becomes_4 : decode cX0_becomes 4 = .ok (.aload_n 0, 1) := dk_42 (dk_at dksX0_becomes_0 4 rfl rfl)
theorem dX0_becomes_5 : decode cX0_becomes 5 = .ok (.getfield 31, 3) := dk_180 0 31 (dk_at dksX0_becomes_0 5 rfl rfl)
theorem dX0_becomes_8 : decode cX0_becomes 8 = .ok (.invokevirtual 346, 3) := dk_182 1 90 (dk_at dksX0_becomes_0 8 rfl rfl)
theorem dX0_becomes_11 : decode cX0_becomes 11 = .ok (.aload_n 0, 1) := dk_42 (dk_at dksX0_becomes_0 11 rfl rfl)
theorem dX0_becomes_12 : decode cX0_becomes 12 = .ok (.getfield 38, 3) := dk_180 0 38 (dk_at dksX0_becomes_0 12 rfl rfl)
theorem dX0_becomes_15 : decode cX0_becomes 15 = .ok (.invokevirtual 149, 3) := dk_182 0 149 (dk_at dksX0_becomes_0 15 rfl rfl)
theorem dX0_becomes_18 : decode cX0_becomes 18 = .ok (.bipush 12, 2) := dk_16 12 (dk_at dksX0_becomes_0 18 rfl rfl)
theorem dX0_becomes_20 : decode cX0_becomes 20 = .ok (.if_icmp .le 11, 3) := dk_164 0 11 (dk_at dksX0_becomes_0 20 rfl rfl)
theorem dX0_becomes_23 : decode cX0_becomes 23 = .ok (.aload_n 0, 1) := dk_42 (dk_at dksX0_becomes_0 23 rfl rfl)
theorem dX0_becomes_24 : decode cX0_becomes 24 = .ok (.getfield 38, 3) := dk_180 0 38 (dk_at dksX0_becomes_1 0 rfl rfl)
theorem dX0_becomes_27 : decode cX0_becomes 27 = .ok (.invokevirtual 350, 3) := dk_182 1 94 (dk_at dksX0_becomes_1 3 rfl rfl)
theorem dX0_becomes_30 : decode cX0_becomes 30 = .ok (.pop, 1) := dk_87 (dk_at dksX0_becomes_1 6 rfl rfl)
theorem dX0_becomes_31 : decode cX0_becomes 31 = .ok (.aload_n 0, 1) := dk_42 (dk_at dksX0_becomes_1 7 rfl rfl)
theorem dX0_becomes_32 : decode cX0_becomes 32 = .ok (.aload_n 1, 1) := dk_43 (dk_at dksX0_becomes_1 8 rfl rfl)
theorem dX0_becomes_33 : decode cX0_becomes 33 = .ok (.putfield 31, 3) := dk_181 0 31 (dk_at dksX0_becomes_1 9 rfl rfl)
theorem dX0_becomes_36 : decode cX0_becomes 36 = .ok (.return_, 1) := dk_177 (dk_at dksX0_becomes_1 12 rfl rfl)
abbrev cX0_take : ByteArray := prog_1_method_65_code
def yX0_take : MethodName := ⟨RX0, "take", "(II)I"⟩
def dkwX0_take_6 : List UInt8 := [182, 1, 105, 45, 3, 47, 136, 172]
abbrev dktX0_take_6 : List UInt8 := dkwX0_take_6 ++ []
def dkwX0_take_5 : List UInt8 := [184, 1, 135, 133, 80, 132, 4, 1, 167, 255, 174, 42, 42, 180, 0, 27, 180, 0, 68, 45, 182, 1, 48]
abbrev dktX0_take_5 : List UInt8 := dkwX0_take_5 ++ dktX0_take_6
def dkwX0_take_4 : List UInt8 := [4, 160, 0, 14, 42, 21, 5, 28, 182, 1, 132, 133, 167, 0, 15, 28, 42, 21, 5, 3, 182, 1, 128]
abbrev dktX0_take_4 : List UInt8 := dkwX0_take_4 ++ dktX0_take_5
def dkwX0_take_3 : List UInt8 := [180, 0, 193, 54, 5, 45, 21, 4, 27, 154, 0, 14, 42, 21, 5, 4, 182, 1, 128, 133, 167, 0, 31, 27]
abbrev dktX0_take_3 : List UInt8 := dkwX0_take_3 ++ dktX0_take_4
def dkwX0_take_2 : List UInt8 := [162, 0, 81, 42, 180, 0, 27, 180, 0, 68, 180, 0, 124, 21, 4, 185, 0, 156, 2, 0, 192, 0, 186]
abbrev dktX0_take_2 : List UInt8 := dkwX0_take_2 ++ dktX0_take_3
def dkwX0_take_1 : List UInt8 := [184, 0, 129, 154, 0, 5, 2, 172, 42, 182, 0, 111, 188, 11, 78, 3, 54, 4, 21, 4, 45, 190]
abbrev dktX0_take_1 : List UInt8 := dkwX0_take_1 ++ dktX0_take_2
def dkwX0_take_0 : List UInt8 := [27, 133, 9, 20, 1, 124, 184, 0, 129, 153, 0, 19, 27, 158, 0, 17, 28, 133, 9, 20, 1, 126]
abbrev dktX0_take_0 : List UInt8 := dkwX0_take_0 ++ dktX0_take_1
theorem dksX0_take_0 : cX0_take.data.toList.drop 0 = dktX0_take_0 := by decide +kernel
theorem dksX0_take_1 : cX0_take.data.toList.drop 22 = dktX0_take_1 := dk_seg dksX0_take_0 22 rfl rfl
theorem dksX0_take_2 : cX0_take.data.toList.drop 44 = dktX0_take_2 := dk_seg dksX0_take_1 22 rfl rfl
theorem dksX0_take_3 : cX0_take.data.toList.drop 67 = dktX0_take_3 := dk_seg dksX0_take_2 23 rfl rfl
theorem dksX0_take_4 : cX0_take.data.toList.drop 91 = dktX0_take_4 := dk_seg dksX0_take_3 24 rfl rfl
theorem dksX0_take_5 : cX0_take.data.toList.drop 114 = dktX0_take_5 := dk_seg dksX0_take_4 23 rfl rfl
theorem dksX0_take_6 : cX0_take.data.toList.drop 137 = dktX0_take_6 := dk_seg dksX0_take_5 23 rfl rfl
theorem dX0_take_0 : decode cX0_take 0 = .ok (.iload_n 1, 1) := dk_27 (dk_at dksX0_take_0 0 rfl rfl)
theorem dX0_take_1 : decode cX0_take 1 = .ok (.i2l, 1) := dk_133 (dk_at dksX0_take_0 1 rfl rfl)
theorem dX0_take_2 : decode cX0_take 2 = .ok (.lconst 0, 1) := dk_9 (dk_at dksX0_take_0 2 rfl rfl)
theorem dX0_take_3 : decode cX0_take 3 = .ok (.ldc2_w 380, 3) := dk_20 1 124 (dk_at dksX0_take_0 3 rfl rfl)
theorem dX0_take_6 : decode cX0_take 6 = .ok (.invokestatic 129, 3) := dk_184 0 129 (dk_at dksX0_take_0 6 rfl rfl)
theorem dX0_take_9 : decode cX0_take 9 = .ok (.ifCond .eq 19, 3) := dk_153 0 19 (dk_at dksX0_take_0 9 rfl rfl)
theorem dX0_take_12 : decode cX0_take 12 = .ok (.iload_n 1, 1) := dk_27 (dk_at dksX0_take_0 12 rfl rfl)
theorem dX0_take_13 : decode cX0_take 13 = .ok (.ifCond .le 17, 3) := dk_158 0 17 (dk_at dksX0_take_0 13 rfl rfl)
theorem dX0_take_16 : decode cX0_take 16 = .ok (.iload_n 2, 1) := dk_28 (dk_at dksX0_take_0 16 rfl rfl)
theorem dX0_take_17 : decode cX0_take 17 = .ok (.i2l, 1) := dk_133 (dk_at dksX0_take_0 17 rfl rfl)
theorem dX0_take_18 : decode cX0_take 18 = .ok (.lconst 0, 1) := dk_9 (dk_at dksX0_take_0 18 rfl rfl)
theorem dX0_take_19 : decode cX0_take 19 = .ok (.ldc2_w 382, 3) := dk_20 1 126 (dk_at dksX0_take_0 19 rfl rfl)
theorem dX0_take_22 : decode cX0_take 22 = .ok (.invokestatic 129, 3) := dk_184 0 129 (dk_at dksX0_take_1 0 rfl rfl)
theorem dX0_take_25 : decode cX0_take 25 = .ok (.ifCond .ne 5, 3) := dk_154 0 5 (dk_at dksX0_take_1 3 rfl rfl)
theorem dX0_take_28 : decode cX0_take 28 = .ok (.iconst (-1), 1) := dk_2 (dk_at dksX0_take_1 6 rfl rfl)
theorem dX0_take_29 : decode cX0_take 29 = .ok (.ireturn, 1) := dk_172 (dk_at dksX0_take_1 7 rfl rfl)
theorem dX0_take_30 : decode cX0_take 30 = .ok (.aload_n 0, 1) := dk_42 (dk_at dksX0_take_1 8 rfl rfl)
theorem dX0_take_31 : decode cX0_take 31 = .ok (.invokevirtual 111, 3) := dk_182 0 111 (dk_at dksX0_take_1 9 rfl rfl)
theorem dX0_take_34 : decode cX0_take 34 = .ok (.newarray .long, 2) := dk_188_11 (dk_at dksX0_take_1 12 rfl rfl)
theorem dX0_take_36 : decode cX0_take 36 = .ok (.astore_n 3, 1) := dk_78 (dk_at dksX0_take_1 14 rfl rfl)
theorem dX0_take_37 : decode cX0_take 37 = .ok (.iconst 0, 1) := dk_3 (dk_at dksX0_take_1 15 rfl rfl)
theorem dX0_take_38 : decode cX0_take 38 = .ok (.istore 4, 2) := dk_54 4 (dk_at dksX0_take_1 16 rfl rfl)
theorem dX0_take_40 : decode cX0_take 40 = .ok (.iload 4, 2) := dk_21 4 (dk_at dksX0_take_1 18 rfl rfl)
theorem dX0_take_42 : decode cX0_take 42 = .ok (.aload_n 3, 1) := dk_45 (dk_at dksX0_take_1 20 rfl rfl)
theorem dX0_take_43 : decode cX0_take 43 = .ok (.arraylength, 1) := dk_190 (dk_at dksX0_take_1 21 rfl rfl)
theorem dX0_take_44 : decode cX0_take 44 = .ok (.if_icmp .ge 81, 3) := dk_162 0 81 (dk_at dksX0_take_2 0 rfl rfl)
theorem dX0_take_47 : decode cX0_take 47 = .ok (.aload_n 0, 1) := dk_42 (dk_at dksX0_take_2 3 rfl rfl)
theorem dX0_take_48 : decode cX0_take 48 = .ok (.getfield 27, 3) := dk_180 0 27 (dk_at dksX0_take_2 4 rfl rfl)
theorem dX0_take_51 : decode cX0_take 51 = .ok (.getfield 68, 3) := dk_180 0 68 (dk_at dksX0_take_2 7 rfl rfl)
theorem dX0_take_54 : decode cX0_take 54 = .ok (.getfield 124, 3) := dk_180 0 124 (dk_at dksX0_take_2 10 rfl rfl)
theorem dX0_take_57 : decode cX0_take 57 = .ok (.iload 4, 2) := dk_21 4 (dk_at dksX0_take_2 13 rfl rfl)
theorem dX0_take_59 : decode cX0_take 59 = .ok (.invokeinterface 156 2, 5) := by decide +kernel
theorem dX0_take_64 : decode cX0_take 64 = .ok (.checkcast 186, 3) := dk_192 0 186 (dk_at dksX0_take_2 20 rfl rfl)
theorem dX0_take_67 : decode cX0_take 67 = .ok (.getfield 193, 3) := dk_180 0 193 (dk_at dksX0_take_3 0 rfl rfl)
theorem dX0_take_70 : decode cX0_take 70 = .ok (.istore 5, 2) := dk_54 5 (dk_at dksX0_take_3 3 rfl rfl)
theorem dX0_take_72 : decode cX0_take 72 = .ok (.aload_n 3, 1) := dk_45 (dk_at dksX0_take_3 5 rfl rfl)
theorem dX0_take_73 : decode cX0_take 73 = .ok (.iload 4, 2) := dk_21 4 (dk_at dksX0_take_3 6 rfl rfl)
theorem dX0_take_75 : decode cX0_take 75 = .ok (.iload_n 1, 1) := dk_27 (dk_at dksX0_take_3 8 rfl rfl)
theorem dX0_take_76 : decode cX0_take 76 = .ok (.ifCond .ne 14, 3) := dk_154 0 14 (dk_at dksX0_take_3 9 rfl rfl)
theorem dX0_take_79 : decode cX0_take 79 = .ok (.aload_n 0, 1) := dk_42 (dk_at dksX0_take_3 12 rfl rfl)
theorem dX0_take_80 : decode cX0_take 80 = .ok (.iload 5, 2) := dk_21 5 (dk_at dksX0_take_3 13 rfl rfl)
theorem dX0_take_82 : decode cX0_take 82 = .ok (.iconst 1, 1) := dk_4 (dk_at dksX0_take_3 15 rfl rfl)
theorem dX0_take_83 : decode cX0_take 83 = .ok (.invokevirtual 384, 3) := dk_182 1 128 (dk_at dksX0_take_3 16 rfl rfl)
theorem dX0_take_86 : decode cX0_take 86 = .ok (.i2l, 1) := dk_133 (dk_at dksX0_take_3 19 rfl rfl)
theorem dX0_take_87 : decode cX0_take 87 = .ok (.goto 31, 3) := dk_167 0 31 (dk_at dksX0_take_3 20 rfl rfl)
theorem dX0_take_90 : decode cX0_take 90 = .ok (.iload_n 1, 1) := dk_27 (dk_at dksX0_take_3 23 rfl rfl)
theorem dX0_take_91 : decode cX0_take 91 = .ok (.iconst 1, 1) := dk_4 (dk_at dksX0_take_4 0 rfl rfl)
theorem dX0_take_92 : decode cX0_take 92 = .ok (.if_icmp .ne 14, 3) := dk_160 0 14 (dk_at dksX0_take_4 1 rfl rfl)
theorem dX0_take_95 : decode cX0_take 95 = .ok (.aload_n 0, 1) := dk_42 (dk_at dksX0_take_4 4 rfl rfl)
theorem dX0_take_96 : decode cX0_take 96 = .ok (.iload 5, 2) := dk_21 5 (dk_at dksX0_take_4 5 rfl rfl)
theorem dX0_take_98 : decode cX0_take 98 = .ok (.iload_n 2, 1) := dk_28 (dk_at dksX0_take_4 7 rfl rfl)
theorem dX0_take_99 : decode cX0_take 99 = .ok (.invokevirtual 388, 3) := dk_182 1 132 (dk_at dksX0_take_4 8 rfl rfl)
theorem dX0_take_102 : decode cX0_take 102 = .ok (.i2l, 1) := dk_133 (dk_at dksX0_take_4 11 rfl rfl)
theorem dX0_take_103 : decode cX0_take 103 = .ok (.goto 15, 3) := dk_167 0 15 (dk_at dksX0_take_4 12 rfl rfl)
theorem dX0_take_106 : decode cX0_take 106 = .ok (.iload_n 2, 1) := dk_28 (dk_at dksX0_take_4 15 rfl rfl)
theorem dX0_take_107 : decode cX0_take 107 = .ok (.aload_n 0, 1) := dk_42 (dk_at dksX0_take_4 16 rfl rfl)
theorem dX0_take_108 : decode cX0_take 108 = .ok (.iload 5, 2) := dk_21 5 (dk_at dksX0_take_4 17 rfl rfl)
theorem dX0_take_110 : decode cX0_take 110 = .ok (.iconst 0, 1) := dk_3 (dk_at dksX0_take_4 19 rfl rfl)
theorem dX0_take_111 : decode cX0_take 111 = .ok (.invokevirtual 384, 3) := dk_182 1 128 (dk_at dksX0_take_4 20 rfl rfl)
theorem dX0_take_114 : decode cX0_take 114 = .ok (.invokestatic 391, 3) := dk_184 1 135 (dk_at dksX0_take_5 0 rfl rfl)
theorem dX0_take_117 : decode cX0_take 117 = .ok (.i2l, 1) := dk_133 (dk_at dksX0_take_5 3 rfl rfl)
theorem dX0_take_118 : decode cX0_take 118 = .ok (.lastore, 1) := dk_80 (dk_at dksX0_take_5 4 rfl rfl)
theorem dX0_take_119 : decode cX0_take 119 = .ok (.iinc 4 1, 3) := dk_132 4 1 (dk_at dksX0_take_5 5 rfl rfl)
theorem dX0_take_122 : decode cX0_take 122 = .ok (.goto (-82), 3) := dk_167 255 174 (dk_at dksX0_take_5 8 rfl rfl)
theorem dX0_take_125 : decode cX0_take 125 = .ok (.aload_n 0, 1) := dk_42 (dk_at dksX0_take_5 11 rfl rfl)
theorem dX0_take_126 : decode cX0_take 126 = .ok (.aload_n 0, 1) := dk_42 (dk_at dksX0_take_5 12 rfl rfl)
theorem dX0_take_127 : decode cX0_take 127 = .ok (.getfield 27, 3) := dk_180 0 27 (dk_at dksX0_take_5 13 rfl rfl)
theorem dX0_take_130 : decode cX0_take 130 = .ok (.getfield 68, 3) := dk_180 0 68 (dk_at dksX0_take_5 16 rfl rfl)
theorem dX0_take_133 : decode cX0_take 133 = .ok (.aload_n 3, 1) := dk_45 (dk_at dksX0_take_5 19 rfl rfl)
theorem dX0_take_134 : decode cX0_take 134 = .ok (.invokevirtual 304, 3) := dk_182 1 48 (dk_at dksX0_take_5 20 rfl rfl)
theorem dX0_take_137 : decode cX0_take 137 = .ok (.invokevirtual 361, 3) := dk_182 1 105 (dk_at dksX0_take_6 0 rfl rfl)
theorem dX0_take_140 : decode cX0_take 140 = .ok (.aload_n 3, 1) := dk_45 (dk_at dksX0_take_6 3 rfl rfl)
theorem dX0_take_141 : decode cX0_take 141 = .ok (.iconst 0, 1) := dk_3 (dk_at dksX0_take_6 4 rfl rfl)
theorem dX0_take_142 : decode cX0_take 142 = .ok (.laload, 1) := dk_47 (dk_at dksX0_take_6 5 rfl rfl)
theorem dX0_take_143 : decode cX0_take 143 = .ok (.l2i, 1) := dk_136 (dk_at dksX0_take_6 6 rfl rfl)
theorem dX0_take_144 : decode cX0_take 144 = .ok (.ireturn, 1) := dk_172 (dk_at dksX0_take_6 7 rfl rfl)
abbrev cX0_orbits : ByteArray := prog_1_method_62_code
def yX0_orbits : MethodName := ⟨RX0, "orbits", "(IZ)I"⟩
def dkwX0_orbits_6 : List UInt8 := [3, 96, 62, 132, 4, 1, 167, 255, 114, 29, 172]
abbrev dktX0_orbits_6 : List UInt8 := dkwX0_orbits_6 ++ []
def dkwX0_orbits_5 : List UInt8 := [21, 6, 160, 0, 7, 4, 167, 0, 19, 3, 167, 0, 15, 21, 5, 21, 4, 160, 0, 7, 4, 167, 0, 4]
abbrev dktX0_orbits_5 : List UInt8 := dkwX0_orbits_5 ++ dktX0_orbits_6
def dkwX0_orbits_4 : List UInt8 := [54, 5, 21, 6, 21, 8, 184, 1, 121, 54, 6, 132, 7, 1, 167, 255, 177, 29, 28, 153, 0, 18, 21, 5]
abbrev dktX0_orbits_4 : List UInt8 := dkwX0_orbits_4 ++ dktX0_orbits_5
def dkwX0_orbits_3 : List UInt8 := [192, 0, 48, 180, 0, 160, 21, 4, 46, 167, 0, 5, 21, 4, 54, 8, 21, 5, 21, 8, 184, 1, 118]
abbrev dktX0_orbits_3 : List UInt8 := dkwX0_orbits_3 ++ dktX0_orbits_4
def dkwX0_orbits_2 : List UInt8 := [184, 1, 42, 153, 0, 32, 42, 180, 0, 27, 180, 0, 68, 180, 0, 153, 21, 7, 185, 0, 156, 2, 0]
abbrev dktX0_orbits_2 : List UInt8 := dkwX0_orbits_2 ++ dktX0_orbits_3
def dkwX0_orbits_1 : List UInt8 := [54, 6, 3, 54, 7, 21, 7, 42, 180, 0, 27, 180, 0, 68, 182, 0, 121, 162, 0, 70, 27, 133, 21, 7]
abbrev dktX0_orbits_1 : List UInt8 := dkwX0_orbits_1 ++ dktX0_orbits_2
def dkwX0_orbits_0 : List UInt8 := [3, 62, 3, 54, 4, 21, 4, 42, 180, 0, 27, 180, 0, 133, 162, 0, 136, 21, 4, 54, 5, 21, 4]
abbrev dktX0_orbits_0 : List UInt8 := dkwX0_orbits_0 ++ dktX0_orbits_1
theorem dksX0_orbits_0 : cX0_orbits.data.toList.drop 0 = dktX0_orbits_0 := by decide +kernel
theorem dksX0_orbits_1 : cX0_orbits.data.toList.drop 23 = dktX0_orbits_1 := dk_seg dksX0_orbits_0 23 rfl rfl
theorem dksX0_orbits_2 : cX0_orbits.data.toList.drop 47 = dktX0_orbits_2 := dk_seg dksX0_orbits_1 24 rfl rfl
theorem dksX0_orbits_3 : cX0_orbits.data.toList.drop 70 = dktX0_orbits_3 := dk_seg dksX0_orbits_2 23 rfl rfl
theorem dksX0_orbits_4 : cX0_orbits.data.toList.drop 93 = dktX0_orbits_4 := dk_seg dksX0_orbits_3 23 rfl rfl
theorem dksX0_orbits_5 : cX0_orbits.data.toList.drop 117 = dktX0_orbits_5 := dk_seg dksX0_orbits_4 24 rfl rfl
theorem dksX0_orbits_6 : cX0_orbits.data.toList.drop 141 = dktX0_orbits_6 := dk_seg dksX0_orbits_5 24 rfl rfl
theorem dX0_orbits_0 : decode cX0_orbits 0 = .ok (.iconst 0, 1) := dk_3 (dk_at dksX0_orbits_0 0 rfl rfl)
theorem dX0_orbits_1 : decode cX0_orbits 1 = .ok (.istore_n 3, 1) := dk_62 (dk_at dksX0_orbits_0 1 rfl rfl)
theorem dX0_orbits_2 : decode cX0_orbits 2 = .ok (.iconst 0, 1) := dk_3 (dk_at dksX0_orbits_0 2 rfl rfl)
theorem dX0_orbits_3 : decode cX0_orbits 3 = .ok (.istore 4, 2) := dk_54 4 (dk_at dksX0_orbits_0 3 rfl rfl)
theorem dX0_orbits_5 : decode cX0_orbits 5 = .ok (.iload 4, 2) := dk_21 4 (dk_at dksX0_orbits_0 5 rfl rfl)
theorem dX0_orbits_7 : decode cX0_orbits 7 = .ok (.aload_n 0, 1) := dk_42 (dk_at dksX0_orbits_0 7 rfl rfl)
theorem dX0_orbits_8 : decode cX0_orbits 8 = .ok (.getfield 27, 3) := dk_180 0 27 (dk_at dksX0_orbits_0 8 rfl rfl)
theorem dX0_orbits_11 : decode cX0_orbits 11 = .ok (.getfield 133, 3) := dk_180 0 133 (dk_at dksX0_orbits_0 11 rfl rfl)
theorem dX0_orbits_14 : decode cX0_orbits 14 = .ok (.if_icmp .ge 136, 3) := dk_162 0 136 (dk_at dksX0_orbits_0 14 rfl rfl)
theorem dX0_orbits_17 : decode cX0_orbits 17 = .ok (.iload 4, 2) := dk_21 4 (dk_at dksX0_orbits_0 17 rfl rfl)
theorem dX0_orbits_19 : decode cX0_orbits 19 = .ok (.istore 5, 2) := dk_54 5 (dk_at dksX0_orbits_0 19 rfl rfl)
theorem dX0_orbits_21 : decode cX0_orbits 21 = .ok (.iload 4, 2) := dk_21 4 (dk_at dksX0_orbits_0 21 rfl rfl)
theorem dX0_orbits_23 : decode cX0_orbits 23 = .ok (.istore 6, 2) := dk_54 6 (dk_at dksX0_orbits_1 0 rfl rfl)
theorem dX0_orbits_25 : decode cX0_orbits 25 = .ok (.iconst 0, 1) := dk_3 (dk_at dksX0_orbits_1 2 rfl rfl)
theorem dX0_orbits_26 : decode cX0_orbits 26 = .ok (.istore 7, 2) := dk_54 7 (dk_at dksX0_orbits_1 3 rfl rfl)
theorem dX0_orbits_28 : decode cX0_orbits 28 = .ok (.iload 7, 2) := dk_21 7 (dk_at dksX0_orbits_1 5 rfl rfl)
theorem dX0_orbits_30 : decode cX0_orbits 30 = .ok (.aload_n 0, 1) := dk_42 (dk_at dksX0_orbits_1 7 rfl rfl)
theorem dX0_orbits_31 : decode cX0_orbits 31 = .ok (.getfield 27, 3) := dk_180 0 27 (dk_at dksX0_orbits_1 8 rfl rfl)
theorem dX0_orbits_34 : decode cX0_orbits 34 = .ok (.getfield 68, 3) := dk_180 0 68 (dk_at dksX0_orbits_1 11 rfl rfl)
theorem dX0_orbits_37 : decode cX0_orbits 37 = .ok (.invokevirtual 121, 3) := dk_182 0 121 (dk_at dksX0_orbits_1 14 rfl rfl)
theorem dX0_orbits_40 : decode cX0_orbits 40 = .ok (.if_icmp .ge 70, 3) := dk_162 0 70 (dk_at dksX0_orbits_1 17 rfl rfl)
theorem dX0_orbits_43 : decode cX0_orbits 43 = .ok (.iload_n 1, 1) := dk_27 (dk_at dksX0_orbits_1 20 rfl rfl)
theorem dX0_orbits_44 : decode cX0_orbits 44 = .ok (.i2l, 1) := dk_133 (dk_at dksX0_orbits_1 21 rfl rfl)
theorem dX0_orbits_45 : decode cX0_orbits 45 = .ok (.iload 7, 2) := dk_21 7 (dk_at dksX0_orbits_1 22 rfl rfl)
theorem dX0_orbits_47 : decode cX0_orbits 47 = .ok (.invokestatic 298, 3) := dk_184 1 42 (dk_at dksX0_orbits_2 0 rfl rfl)
theorem dX0_orbits_50 : decode cX0_orbits 50 = .ok (.ifCond .eq 32, 3) := dk_153 0 32 (dk_at dksX0_orbits_2 3 rfl rfl)
theorem dX0_orbits_53 : decode cX0_orbits 53 = .ok (.aload_n 0, 1) := dk_42 (dk_at dksX0_orbits_2 6 rfl rfl)
theorem dX0_orbits_54 : decode cX0_orbits 54 = .ok (.getfield 27, 3) := dk_180 0 27 (dk_at dksX0_orbits_2 7 rfl rfl)
theorem dX0_orbits_57 : decode cX0_orbits 57 = .ok (.getfield 68, 3) := dk_180 0 68 (dk_at dksX0_orbits_2 10 rfl rfl)
theorem dX0_orbits_60 : decode cX0_orbits 60 = .ok (.getfield 153, 3) := dk_180 0 153 (dk_at dksX0_orbits_2 13 rfl rfl)
theorem dX0_orbits_63 : decode cX0_orbits 63 = .ok (.iload 7, 2) := dk_21 7 (dk_at dksX0_orbits_2 16 rfl rfl)
theorem dX0_orbits_65 : decode cX0_orbits 65 = .ok (.invokeinterface 156 2, 5) := by decide +kernel
theorem dX0_orbits_70 : decode cX0_orbits 70 = .ok (.checkcast 48, 3) := dk_192 0 48 (dk_at dksX0_orbits_3 0 rfl rfl)
theorem dX0_orbits_73 : decode cX0_orbits 73 = .ok (.getfield 160, 3) := dk_180 0 160 (dk_at dksX0_orbits_3 3 rfl rfl)
theorem dX0_orbits_76 : decode cX0_orbits 76 = .ok (.iload 4, 2) := dk_21 4 (dk_at dksX0_orbits_3 6 rfl rfl)
theorem dX0_orbits_78 : decode cX0_orbits 78 = .ok (.iaload, 1) := dk_46 (dk_at dksX0_orbits_3 8 rfl rfl)
theorem dX0_orbits_79 : decode cX0_orbits 79 = .ok (.goto 5, 3) := dk_167 0 5 (dk_at dksX0_orbits_3 9 rfl rfl)
theorem dX0_orbits_82 : decode cX0_orbits 82 = .ok (.iload 4, 2) := dk_21 4 (dk_at dksX0_orbits_3 12 rfl rfl)
theorem dX0_orbits_84 : decode cX0_orbits 84 = .ok (.istore 8, 2) := dk_54 8 (dk_at dksX0_orbits_3 14 rfl rfl)
theorem dX0_orbits_86 : decode cX0_orbits 86 = .ok (.iload 5, 2) := dk_21 5 (dk_at dksX0_orbits_3 16 rfl rfl)
theorem dX0_orbits_88 : decode cX0_orbits 88 = .ok (.iload 8, 2) := dk_21 8 (dk_at dksX0_orbits_3 18 rfl rfl)
theorem dX0_orbits_90 : decode cX0_orbits 90 = .ok (.invokestatic 374, 3) := dk_184 1 118 (dk_at dksX0_orbits_3 20 rfl rfl)
theorem dX0_orbits_93 : decode cX0_orbits 93 = .ok (.istore 5, 2) := dk_54 5 (dk_at dksX0_orbits_4 0 rfl rfl)
theorem dX0_orbits_95 : decode cX0_orbits 95 = .ok (.iload 6, 2) := dk_21 6 (dk_at dksX0_orbits_4 2 rfl rfl)
theorem dX0_orbits_97 : decode cX0_orbits 97 = .ok (.iload 8, 2) := dk_21 8 (dk_at dksX0_orbits_4 4 rfl rfl)
theorem dX0_orbits_99 : decode cX0_orbits 99 = .ok (.invokestatic 377, 3) := dk_184 1 121 (dk_at dksX0_orbits_4 6 rfl rfl)
theorem dX0_orbits_102 : decode cX0_orbits 102 = .ok (.istore 6, 2) := dk_54 6 (dk_at dksX0_orbits_4 9 rfl rfl)
theorem dX0_orbits_104 : decode cX0_orbits 104 = .ok (.iinc 7 1, 3) := dk_132 7 1 (dk_at dksX0_orbits_4 11 rfl rfl)
theorem dX0_orbits_107 : decode cX0_orbits 107 = .ok (.goto (-79), 3) := dk_167 255 177 (dk_at dksX0_orbits_4 14 rfl rfl)
theorem dX0_orbits_110 : decode cX0_orbits 110 = .ok (.iload_n 3, 1) := dk_29 (dk_at dksX0_orbits_4 17 rfl rfl)
theorem dX0_orbits_111 : decode cX0_orbits 111 = .ok (.iload_n 2, 1) := dk_28 (dk_at dksX0_orbits_4 18 rfl rfl)
theorem dX0_orbits_112 : decode cX0_orbits 112 = .ok (.ifCond .eq 18, 3) := dk_153 0 18 (dk_at dksX0_orbits_4 19 rfl rfl)
theorem dX0_orbits_115 : decode cX0_orbits 115 = .ok (.iload 5, 2) := dk_21 5 (dk_at dksX0_orbits_4 22 rfl rfl)
theorem dX0_orbits_117 : decode cX0_orbits 117 = .ok (.iload 6, 2) := dk_21 6 (dk_at dksX0_orbits_5 0 rfl rfl)
theorem dX0_orbits_119 : decode cX0_orbits 119 = .ok (.if_icmp .ne 7, 3) := dk_160 0 7 (dk_at dksX0_orbits_5 2 rfl rfl)
theorem dX0_orbits_122 : decode cX0_orbits 122 = .ok (.iconst 1, 1) := dk_4 (dk_at dksX0_orbits_5 5 rfl rfl)
theorem dX0_orbits_123 : decode cX0_orbits 123 = .ok (.goto 19, 3) := dk_167 0 19 (dk_at dksX0_orbits_5 6 rfl rfl)
theorem dX0_orbits_126 : decode cX0_orbits 126 = .ok (.iconst 0, 1) := dk_3 (dk_at dksX0_orbits_5 9 rfl rfl)
theorem dX0_orbits_127 : decode cX0_orbits 127 = .ok (.goto 15, 3) := dk_167 0 15 (dk_at dksX0_orbits_5 10 rfl rfl)
theorem dX0_orbits_130 : decode cX0_orbits 130 = .ok (.iload 5, 2) := dk_21 5 (dk_at dksX0_orbits_5 13 rfl rfl)
theorem dX0_orbits_132 : decode cX0_orbits 132 = .ok (.iload 4, 2) := dk_21 4 (dk_at dksX0_orbits_5 15 rfl rfl)
theorem dX0_orbits_134 : decode cX0_orbits 134 = .ok (.if_icmp .ne 7, 3) := dk_160 0 7 (dk_at dksX0_orbits_5 17 rfl rfl)
theorem dX0_orbits_137 : decode cX0_orbits 137 = .ok (.iconst 1, 1) := dk_4 (dk_at dksX0_orbits_5 20 rfl rfl)
theorem dX0_orbits_138 : decode cX0_orbits 138 = .ok (.goto 4, 3) := dk_167 0 4 (dk_at dksX0_orbits_5 21 rfl rfl)
theorem dX0_orbits_141 : decode cX0_orbits 141 = .ok (.iconst 0, 1) := dk_3 (dk_at dksX0_orbits_6 0 rfl rfl)
theorem dX0_orbits_142 : decode cX0_orbits 142 = .ok (.iadd, 1) := dk_96 (dk_at dksX0_orbits_6 1 rfl rfl)
theorem dX0_orbits_143 : decode cX0_orbits 143 = .ok (.istore_n 3, 1) := dk_62 (dk_at dksX0_orbits_6 2 rfl rfl)
theorem dX0_orbits_144 : decode cX0_orbits 144 = .ok (.iinc 4 1, 3) := dk_132 4 1 (dk_at dksX0_orbits_6 3 rfl rfl)
theorem dX0_orbits_147 : decode cX0_orbits 147 = .ok (.goto (-142), 3) := dk_167 255 114 (dk_at dksX0_orbits_6 6 rfl rfl)
theorem dX0_orbits_150 : decode cX0_orbits 150 = .ok (.iload_n 3, 1) := dk_29 (dk_at dksX0_orbits_6 9 rfl rfl)
theorem dX0_orbits_151 : decode cX0_orbits 151 = .ok (.ireturn, 1) := dk_172 (dk_at dksX0_orbits_6 10 rfl rfl)
abbrev cX0_setsOf : ByteArray := prog_1_method_63_code
def yX0_setsOf : MethodName := ⟨RX0, "setsOf", "(II)I"⟩
def dkwX0_setsOf_7 : List UInt8 := [167, 0, 4, 3, 96, 62, 132, 4, 1, 167, 255, 92, 29, 172]
abbrev dktX0_setsOf_7 : List UInt8 := dkwX0_setsOf_7 ++ []
def dkwX0_setsOf_6 : List UInt8 := [3, 54, 5, 132, 7, 1, 167, 255, 173, 132, 6, 1, 167, 255, 144, 29, 21, 5, 153, 0, 7, 4]
abbrev dktX0_setsOf_6 : List UInt8 := dkwX0_setsOf_6 ++ dktX0_setsOf_7
def dkwX0_setsOf_5 : List UInt8 := [185, 0, 156, 2, 0, 192, 0, 48, 180, 0, 160, 21, 7, 46, 184, 1, 42, 153, 0, 7, 4, 167, 0, 4]
abbrev dktX0_setsOf_5 : List UInt8 := dkwX0_setsOf_5 ++ dktX0_setsOf_6
def dkwX0_setsOf_4 : List UInt8 := [184, 1, 42, 153, 0, 38, 21, 4, 133, 42, 180, 0, 27, 180, 0, 68, 180, 0, 153, 21, 6]
abbrev dktX0_setsOf_4 : List UInt8 := dkwX0_setsOf_4 ++ dktX0_setsOf_5
def dkwX0_setsOf_3 : List UInt8 := [162, 0, 77, 27, 133, 21, 6, 184, 1, 42, 153, 0, 67, 21, 5, 153, 0, 62, 21, 4, 133, 21, 7]
abbrev dktX0_setsOf_3 : List UInt8 := dkwX0_setsOf_3 ++ dktX0_setsOf_4
def dkwX0_setsOf_2 : List UInt8 := [182, 0, 121, 162, 0, 103, 21, 5, 153, 0, 98, 3, 54, 7, 21, 7, 42, 180, 0, 27, 180, 0, 133]
abbrev dktX0_setsOf_2 : List UInt8 := dkwX0_setsOf_2 ++ dktX0_setsOf_3
def dkwX0_setsOf_1 : List UInt8 := [28, 160, 0, 7, 4, 167, 0, 4, 3, 54, 5, 3, 54, 6, 21, 6, 42, 180, 0, 27, 180, 0, 68]
abbrev dktX0_setsOf_1 : List UInt8 := dkwX0_setsOf_1 ++ dktX0_setsOf_2
def dkwX0_setsOf_0 : List UInt8 := [3, 62, 3, 54, 4, 21, 4, 4, 42, 180, 0, 27, 180, 0, 133, 120, 162, 0, 156, 21, 4, 184, 0, 198]
abbrev dktX0_setsOf_0 : List UInt8 := dkwX0_setsOf_0 ++ dktX0_setsOf_1
theorem dksX0_setsOf_0 : cX0_setsOf.data.toList.drop 0 = dktX0_setsOf_0 := by decide +kernel
theorem dksX0_setsOf_1 : cX0_setsOf.data.toList.drop 24 = dktX0_setsOf_1 := dk_seg dksX0_setsOf_0 24 rfl rfl
theorem dksX0_setsOf_2 : cX0_setsOf.data.toList.drop 47 = dktX0_setsOf_2 := dk_seg dksX0_setsOf_1 23 rfl rfl
theorem dksX0_setsOf_3 : cX0_setsOf.data.toList.drop 70 = dktX0_setsOf_3 := dk_seg dksX0_setsOf_2 23 rfl rfl
theorem dksX0_setsOf_4 : cX0_setsOf.data.toList.drop 93 = dktX0_setsOf_4 := dk_seg dksX0_setsOf_3 23 rfl rfl
theorem dksX0_setsOf_5 : cX0_setsOf.data.toList.drop 114 = dktX0_setsOf_5 := dk_seg dksX0_setsOf_4 21 rfl rfl
theorem dksX0_setsOf_6 : cX0_setsOf.data.toList.drop 138 = dktX0_setsOf_6 := dk_seg dksX0_setsOf_5 24 rfl rfl
theorem dksX0_setsOf_7 : cX0_setsOf.data.toList.drop 160 = dktX0_setsOf_7 := dk_seg dksX0_setsOf_6 22 rfl rfl
theorem dX0_setsOf_0 : decode cX0_setsOf 0 = .ok (.iconst 0, 1) := dk_3 (dk_at dksX0_setsOf_0 0 rfl rfl)
theorem dX0_setsOf_1 : decode cX0_setsOf 1 = .ok (.istore_n 3, 1) := dk_62 (dk_at dksX0_setsOf_0 1 rfl rfl)
theorem dX0_setsOf_2 : decode cX0_setsOf 2 = .ok (.iconst 0, 1) := dk_3 (dk_at dksX0_setsOf_0 2 rfl rfl)
theorem dX0_setsOf_3 : decode cX0_setsOf 3 = .ok (.istore 4, 2) := dk_54 4 (dk_at dksX0_setsOf_0 3 rfl rfl)
theorem dX0_setsOf_5 : decode cX0_setsOf 5 = .ok (.iload 4, 2) := dk_21 4 (dk_at dksX0_setsOf_0 5 rfl rfl)
theorem dX0_setsOf_7 : decode cX0_setsOf 7 = .ok (.iconst 1, 1) := dk_4 (dk_at dksX0_setsOf_0 7 rfl rfl)
theorem dX0_setsOf_8 : decode cX0_setsOf 8 = .ok (.aload_n 0, 1) := dk_42 (dk_at dksX0_setsOf_0 8 rfl rfl)
theorem dX0_setsOf_9 : decode cX0_setsOf 9 = .ok (.getfield 27, 3) := dk_180 0 27 (dk_at dksX0_setsOf_0 9 rfl rfl)
theorem dX0_setsOf_12 : decode cX0_setsOf 12 = .ok (.getfield 133, 3) := dk_180 0 133 (dk_at dksX0_setsOf_0 12 rfl rfl)
theorem dX0_setsOf_15 : decode cX0_setsOf 15 = .ok (.ishl, 1) := dk_120 (dk_at dksX0_setsOf_0 15 rfl rfl)
theorem dX0_setsOf_16 : decode cX0_setsOf 16 = .ok (.if_icmp .ge 156, 3) := dk_162 0 156 (dk_at dksX0_setsOf_0 16 rfl rfl)
theorem dX0_setsOf_19 : decode cX0_setsOf 19 = .ok (.iload 4, 2) := dk_21 4 (dk_at dksX0_setsOf_0 19 rfl rfl)
theorem dX0_setsOf_21 : decode cX0_setsOf 21 = .ok (.invokestatic 198, 3) := dk_184 0 198 (dk_at dksX0_setsOf_0 21 rfl rfl)
theorem dX0_setsOf_24 : decode cX0_setsOf 24 = .ok (.iload_n 2, 1) := dk_28 (dk_at dksX0_setsOf_1 0 rfl rfl)
theorem dX0_setsOf_25 : decode cX0_setsOf 25 = .ok (.if_icmp .ne 7, 3) := dk_160 0 7 (dk_at dksX0_setsOf_1 1 rfl rfl)
theorem dX0_setsOf_28 : decode cX0_setsOf 28 = .ok (.iconst 1, 1) := dk_4 (dk_at dksX0_setsOf_1 4 rfl rfl)
theorem dX0_setsOf_29 : decode cX0_setsOf 29 = .ok (.goto 4, 3) := dk_167 0 4 (dk_at dksX0_setsOf_1 5 rfl rfl)
theorem dX0_setsOf_32 : decode cX0_setsOf 32 = .ok (.iconst 0, 1) := dk_3 (dk_at dksX0_setsOf_1 8 rfl rfl)
theorem dX0_setsOf_33 : decode cX0_setsOf 33 = .ok (.istore 5, 2) := dk_54 5 (dk_at dksX0_setsOf_1 9 rfl rfl)
theorem dX0_setsOf_35 : decode cX0_setsOf 35 = .ok (.iconst 0, 1) := dk_3 (dk_at dksX0_setsOf_1 11 rfl rfl)
theorem dX0_setsOf_36 : decode cX0_setsOf 36 = .ok (.istore 6, 2) := dk_54 6 (dk_at dksX0_setsOf_1 12 rfl rfl)
theorem dX0_setsOf_38 : decode cX0_setsOf 38 = .ok (.iload 6, 2) := dk_21 6 (dk_at dksX0_setsOf_1 14 rfl rfl)
theorem dX0_setsOf_40 : decode cX0_setsOf 40 = .ok (.aload_n 0, 1) := dk_42 (dk_at dksX0_setsOf_1 16 rfl rfl)
theorem dX0_setsOf_41 : decode cX0_setsOf 41 = .ok (.getfield 27, 3) := dk_180 0 27 (dk_at dksX0_setsOf_1 17 rfl rfl)
theorem dX0_setsOf_44 : decode cX0_setsOf 44 = .ok (.getfield 68, 3) := dk_180 0 68 (dk_at dksX0_setsOf_1 20 rfl rfl)
theorem dX0_setsOf_47 : decode cX0_setsOf 47 = .ok (.invokevirtual 121, 3) := dk_182 0 121 (dk_at dksX0_setsOf_2 0 rfl rfl)
theorem dX0_setsOf_50 : decode cX0_setsOf 50 = .ok (.if_icmp .ge 103, 3) := dk_162 0 103 (dk_at dksX0_setsOf_2 3 rfl rfl)
theorem dX0_setsOf_53 : decode cX0_setsOf 53 = .ok (.iload 5, 2) := dk_21 5 (dk_at dksX0_setsOf_2 6 rfl rfl)
theorem dX0_setsOf_55 : decode cX0_setsOf 55 = .ok (.ifCond .eq 98, 3) := dk_153 0 98 (dk_at dksX0_setsOf_2 8 rfl rfl)
theorem dX0_setsOf_58 : decode cX0_setsOf 58 = .ok (.iconst 0, 1) := dk_3 (dk_at dksX0_setsOf_2 11 rfl rfl)
theorem dX0_setsOf_59 : decode cX0_setsOf 59 = .ok (.istore 7, 2) := dk_54 7 (dk_at dksX0_setsOf_2 12 rfl rfl)
theorem dX0_setsOf_61 : decode cX0_setsOf 61 = .ok (.iload 7, 2) := dk_21 7 (dk_at dksX0_setsOf_2 14 rfl rfl)
theorem dX0_setsOf_63 : decode cX0_setsOf 63 = .ok (.aload_n 0, 1) := dk_42 (dk_at dksX0_setsOf_2 16 rfl rfl)
theorem dX0_setsOf_64 : decode cX0_setsOf 64 = .ok (.getfield 27, 3) := dk_180 0 27 (dk_at dksX0_setsOf_2 17 rfl rfl)
theorem dX0_setsOf_67 : decode cX0_setsOf 67 = .ok (.getfield 133, 3) := dk_180 0 133 (dk_at dksX0_setsOf_2 20 rfl rfl)
theorem dX0_setsOf_70 : decode cX0_setsOf 70 = .ok (.if_icmp .ge 77, 3) := dk_162 0 77 (dk_at dksX0_setsOf_3 0 rfl rfl)
theorem dX0_setsOf_73 : decode cX0_setsOf 73 = .ok (.iload_n 1, 1) := dk_27 (dk_at dksX0_setsOf_3 3 rfl rfl)
theorem dX0_setsOf_74 : decode cX0_setsOf 74 = .ok (.i2l, 1) := dk_133 (dk_at dksX0_setsOf_3 4 rfl rfl)
theorem dX0_setsOf_75 : decode cX0_setsOf 75 = .ok (.iload 6, 2) := dk_21 6 (dk_at dksX0_setsOf_3 5 rfl rfl)
theorem dX0_setsOf_77 : decode cX0_setsOf 77 = .ok (.invokestatic 298, 3) := dk_184 1 42 (dk_at dksX0_setsOf_3 7 rfl rfl)
theorem dX0_setsOf_80 : decode cX0_setsOf 80 = .ok (.ifCond .eq 67, 3) := dk_153 0 67 (dk_at dksX0_setsOf_3 10 rfl rfl)
theorem dX0_setsOf_83 : decode cX0_setsOf 83 = .ok (.iload 5, 2) := dk_21 5 (dk_at dksX0_setsOf_3 13 rfl rfl)
theorem dX0_setsOf_85 : decode cX0_setsOf 85 = .ok (.ifCond .eq 62, 3) := dk_153 0 62 (dk_at dksX0_setsOf_3 15 rfl rfl)
theorem dX0_setsOf_88 : decode cX0_setsOf 88 = .ok (.iload 4, 2) := dk_21 4 (dk_at dksX0_setsOf_3 18 rfl rfl)
theorem dX0_setsOf_90 : decode cX0_setsOf 90 = .ok (.i2l, 1) := dk_133 (dk_at dksX0_setsOf_3 20 rfl rfl)
theorem dX0_setsOf_91 : decode cX0_setsOf 91 = .ok (.iload 7, 2) := dk_21 7 (dk_at dksX0_setsOf_3 21 rfl rfl)
theorem dX0_setsOf_93 : decode cX0_setsOf 93 = .ok (.invokestatic 298, 3) := dk_184 1 42 (dk_at dksX0_setsOf_4 0 rfl rfl)
theorem dX0_setsOf_96 : decode cX0_setsOf 96 = .ok (.ifCond .eq 38, 3) := dk_153 0 38 (dk_at dksX0_setsOf_4 3 rfl rfl)
theorem dX0_setsOf_99 : decode cX0_setsOf 99 = .ok (.iload 4, 2) := dk_21 4 (dk_at dksX0_setsOf_4 6 rfl rfl)
theorem dX0_setsOf_101 : decode cX0_setsOf 101 = .ok (.i2l, 1) := dk_133 (dk_at dksX0_setsOf_4 8 rfl rfl)
theorem dX0_setsOf_102 : decode cX0_setsOf 102 = .ok (.aload_n 0, 1) := dk_42 (dk_at dksX0_setsOf_4 9 rfl rfl)
theorem dX0_setsOf_103 : decode cX0_setsOf 103 = .ok (.getfield 27, 3) := dk_180 0 27 (dk_at dksX0_setsOf_4 10 rfl rfl)
theorem dX0_setsOf_106 : decode cX0_setsOf 106 = .ok (.getfield 68, 3) := dk_180 0 68 (dk_at dksX0_setsOf_4 13 rfl rfl)
theorem dX0_setsOf_109 : decode cX0_setsOf 109 = .ok (.getfield 153, 3) := dk_180 0 153 (dk_at dksX0_setsOf_4 16 rfl rfl)
theorem dX0_setsOf_112 : decode cX0_setsOf 112 = .ok (.iload 6, 2) := dk_21 6 (dk_at dksX0_setsOf_4 19 rfl rfl)
theorem dX0_setsOf_114 : decode cX0_setsOf 114 = .ok (.invokeinterface 156 2, 5) := by decide +kernel
theorem dX0_setsOf_119 : decode cX0_setsOf 119 = .ok (.checkcast 48, 3) := dk_192 0 48 (dk_at dksX0_setsOf_5 5 rfl rfl)
theorem dX0_setsOf_122 : decode cX0_setsOf 122 = .ok (.getfield 160, 3) := dk_180 0 160 (dk_at dksX0_setsOf_5 8 rfl rfl)
theorem dX0_setsOf_125 : decode cX0_setsOf 125 = .ok (.iload 7, 2) := dk_21 7 (dk_at dksX0_setsOf_5 11 rfl rfl)
theorem dX0_setsOf_127 : decode cX0_setsOf 127 = .ok (.iaload, 1) := dk_46 (dk_at dksX0_setsOf_5 13 rfl rfl)
theorem dX0_setsOf_128 : decode cX0_setsOf 128 = .ok (.invokestatic 298, 3) := dk_184 1 42 (dk_at dksX0_setsOf_5 14 rfl rfl)
theorem dX0_setsOf_131 : decode cX0_setsOf 131 = .ok (.ifCond .eq 7, 3) := dk_153 0 7 (dk_at dksX0_setsOf_5 17 rfl rfl)
theorem dX0_setsOf_134 : decode cX0_setsOf 134 = .ok (.iconst 1, 1) := dk_4 (dk_at dksX0_setsOf_5 20 rfl rfl)
theorem dX0_setsOf_135 : decode cX0_setsOf 135 = .ok (.goto 4, 3) := dk_167 0 4 (dk_at dksX0_setsOf_5 21 rfl rfl)
theorem dX0_setsOf_138 : decode cX0_setsOf 138 = .ok (.iconst 0, 1) := dk_3 (dk_at dksX0_setsOf_6 0 rfl rfl)
theorem dX0_setsOf_139 : decode cX0_setsOf 139 = .ok (.istore 5, 2) := dk_54 5 (dk_at dksX0_setsOf_6 1 rfl rfl)
theorem dX0_setsOf_141 : decode cX0_setsOf 141 = .ok (.iinc 7 1, 3) := dk_132 7 1 (dk_at dksX0_setsOf_6 3 rfl rfl)
theorem dX0_setsOf_144 : decode cX0_setsOf 144 = .ok (.goto (-83), 3) := dk_167 255 173 (dk_at dksX0_setsOf_6 6 rfl rfl)
theorem dX0_setsOf_147 : decode cX0_setsOf 147 = .ok (.iinc 6 1, 3) := dk_132 6 1 (dk_at dksX0_setsOf_6 9 rfl rfl)
theorem dX0_setsOf_150 : decode cX0_setsOf 150 = .ok (.goto (-112), 3) := dk_167 255 144 (dk_at dksX0_setsOf_6 12 rfl rfl)
theorem dX0_setsOf_153 : decode cX0_setsOf 153 = .ok (.iload_n 3, 1) := dk_29 (dk_at dksX0_setsOf_6 15 rfl rfl)
theorem dX0_setsOf_154 : decode cX0_setsOf 154 = .ok (.iload 5, 2) := dk_21 5 (dk_at dksX0_setsOf_6 16 rfl rfl)
theorem dX0_setsOf_156 : decode cX0_setsOf 156 = .ok (.ifCond .eq 7, 3) := dk_153 0 7 (dk_at dksX0_setsOf_6 18 rfl rfl)
theorem dX0_setsOf_159 : decode cX0_setsOf 159 = .ok (.iconst 1, 1) := dk_4 (dk_at dksX0_setsOf_6 21 rfl rfl)
theorem dX0_setsOf_160 : decode cX0_setsOf 160 = .ok (.goto 4, 3) := dk_167 0 4 (dk_at dksX0_setsOf_7 0 rfl rfl)
theorem dX0_setsOf_163 : decode cX0_setsOf 163 = .ok (.iconst 0, 1) := dk_3 (dk_at dksX0_setsOf_7 3 rfl rfl)
theorem dX0_setsOf_164 : decode cX0_setsOf 164 = .ok (.iadd, 1) := dk_96 (dk_at dksX0_setsOf_7 4 rfl rfl)
theorem dX0_setsOf_165 : decode cX0_setsOf 165 = .ok (.istore_n 3, 1) := dk_62 (dk_at dksX0_setsOf_7 5 rfl rfl)
theorem dX0_setsOf_166 : decode cX0_setsOf 166 = .ok (.iinc 4 1, 3) := dk_132 4 1 (dk_at dksX0_setsOf_7 6 rfl rfl)
theorem dX0_setsOf_169 : decode cX0_setsOf 169 = .ok (.goto (-164), 3) := dk_167 255 92 (dk_at dksX0_setsOf_7 9 rfl rfl)
theorem dX0_setsOf_172 : decode cX0_setsOf 172 = .ok (.iload_n 3, 1) := dk_29 (dk_at dksX0_setsOf_7 12 rfl rfl)
theorem dX0_setsOf_173 : decode cX0_setsOf 173 = .ok (.ireturn, 1) := dk_172 (dk_at dksX0_setsOf_7 13 rfl rfl)
abbrev cX0_power : ByteArray := prog_1_method_64_code
def yX0_power : MethodName := ⟨RX0, "power", "(II)I"⟩
def dkwX0_power_0 : List UInt8 := [4, 61, 3, 62, 29, 27, 162, 0, 13, 28, 26, 104, 61, 132, 3, 1, 167, 255, 244, 28, 172]
abbrev dktX0_power_0 : List UInt8 := dkwX0_power_0 ++ []
theorem dksX0_power_0 : cX0_power.data.toList.drop 0 = dktX0_power_0 := by decide +kernel
theorem dX0_power_0 : decode cX0_power 0 = .ok (.iconst 1, 1) := dk_4 (dk_at dksX0_power_0 0 rfl rfl)
theorem dX0_power_1 : decode cX0_power 1 = .ok (.istore_n 2, 1) := dk_61 (dk_at dksX0_power_0 1 rfl rfl)
theorem dX0_power_2 : decode cX0_power 2 = .ok (.iconst 0, 1) := dk_3 (dk_at dksX0_power_0 2 rfl rfl)
theorem dX0_power_3 : decode cX0_power 3 = .ok (.istore_n 3, 1) := dk_62 (dk_at dksX0_power_0 3 rfl rfl)
theorem dX0_power_4 : decode cX0_power 4 = .ok (.iload_n 3, 1) := dk_29 (dk_at dksX0_power_0 4 rfl rfl)
theorem dX0_power_5 : decode cX0_power 5 = .ok (.iload_n 1, 1) := dk_27 (dk_at dksX0_power_0 5 rfl rfl)
theorem dX0_power_6 : decode cX0_power 6 = .ok (.if_icmp .ge 13, 3) := dk_162 0 13 (dk_at dksX0_power_0 6 rfl rfl)
theorem dX0_power_9 : decode cX0_power 9 = .ok (.iload_n 2, 1) := dk_28 (dk_at dksX0_power_0 9 rfl rfl)
theorem dX0_power_10 : decode cX0_power 10 = .ok (.iload_n 0, 1) := dk_26 (dk_at dksX0_power_0 10 rfl rfl)
theorem dX0_power_11 : decode cX0_power 11 = .ok (.imul, 1) := dk_104 (dk_at dksX0_power_0 11 rfl rfl)
theorem dX0_power_12 : decode cX0_power 12 = .ok (.istore_n 2, 1) := dk_61 (dk_at dksX0_power_0 12 rfl rfl)
theorem dX0_power_13 : decode cX0_power 13 = .ok (.iinc 3 1, 3) := dk_132 3 1 (dk_at dksX0_power_0 13 rfl rfl)
theorem dX0_power_16 : decode cX0_power 16 = .ok (.goto (-12), 3) := dk_167 255 244 (dk_at dksX0_power_0 16 rfl rfl)
theorem dX0_power_19 : decode cX0_power 19 = .ok (.iload_n 2, 1) := dk_28 (dk_at dksX0_power_0 19 rfl rfl)
theorem dX0_power_20 : decode cX0_power 20 = .ok (.ireturn, 1) := dk_172 (dk_at dksX0_power_0 20 rfl rfl)
abbrev cX0_marks : ByteArray := prog_1_method_66_code
def yX0_marks : MethodName := ⟨RX0, "marks", "()I"⟩
def dkwX0_marks_12 : List UInt8 := [180, 0, 68, 44, 182, 1, 48, 182, 1, 105, 3, 172]
abbrev dktX0_marks_12 : List UInt8 := dkwX0_marks_12 ++ []
def dkwX0_marks_11 : List UInt8 := [44, 182, 1, 144, 54, 5, 21, 5, 2, 159, 0, 8, 21, 5, 4, 96, 172, 42, 42, 180, 0, 27]
abbrev dktX0_marks_11 : List UInt8 := dkwX0_marks_11 ++ dktX0_marks_12
def dkwX0_marks_10 : List UInt8 := [105, 80, 132, 3, 1, 167, 255, 37, 29, 44, 190, 162, 0, 6, 16, 254, 172, 42, 180, 0, 27, 180, 0, 68]
abbrev dktX0_marks_10 : List UInt8 := dkwX0_marks_10 ++ dktX0_marks_11
def dkwX0_marks_9 : List UInt8 := [159, 0, 14, 21, 9, 153, 0, 9, 29, 44, 190, 160, 0, 6, 16, 254, 172, 44, 29, 21, 5, 133, 22, 7]
abbrev dktX0_marks_9 : List UInt8 := dkwX0_marks_9 ++ dktX0_marks_10
def dkwX0_marks_8 : List UInt8 := [180, 0, 15, 21, 4, 51, 16, 10, 160, 0, 7, 4, 167, 0, 4, 3, 54, 9, 21, 4, 21, 6]
abbrev dktX0_marks_8 : List UInt8 := dkwX0_marks_8 ++ dktX0_marks_9
def dkwX0_marks_7 : List UInt8 := [167, 255, 196, 21, 4, 27, 159, 0, 27, 42, 180, 0, 15, 21, 4, 51, 16, 32, 159, 0, 15, 42]
abbrev dktX0_marks_7 : List UInt8 := dkwX0_marks_7 ++ dktX0_marks_8
def dkwX0_marks_6 : List UInt8 := [20, 1, 142, 22, 7, 105, 42, 180, 0, 15, 21, 4, 51, 133, 97, 20, 1, 138, 101, 55, 7, 132, 4, 1]
abbrev dktX0_marks_6 : List UInt8 := dkwX0_marks_6 ++ dktX0_marks_7
def dkwX0_marks_5 : List UInt8 := [20, 1, 138, 20, 1, 140, 184, 0, 129, 153, 0, 40, 21, 4, 21, 6, 100, 16, 6, 162, 0, 30]
abbrev dktX0_marks_5 : List UInt8 := dkwX0_marks_5 ++ dktX0_marks_6
def dkwX0_marks_4 : List UInt8 := [54, 4, 21, 4, 54, 6, 9, 55, 7, 21, 4, 27, 162, 0, 60, 42, 180, 0, 15, 21, 4, 51, 133]
abbrev dktX0_marks_4 : List UInt8 := dkwX0_marks_4 ++ dktX0_marks_5
def dkwX0_marks_3 : List UInt8 := [160, 0, 7, 2, 167, 0, 4, 4, 54, 5, 21, 4, 21, 5, 156, 0, 7, 4, 167, 0, 4, 3, 96]
abbrev dktX0_marks_3 : List UInt8 := dkwX0_marks_3 ++ dktX0_marks_4
def dkwX0_marks_2 : List UInt8 := [132, 4, 1, 167, 255, 223, 21, 4, 27, 160, 0, 6, 167, 0, 180, 42, 180, 0, 15, 21, 4, 51, 16, 45]
abbrev dktX0_marks_2 : List UInt8 := dkwX0_marks_2 ++ dktX0_marks_3
def dkwX0_marks_1 : List UInt8 := [180, 0, 15, 21, 4, 51, 16, 32, 159, 0, 15, 42, 180, 0, 15, 21, 4, 51, 16, 10, 160, 0, 9]
abbrev dktX0_marks_1 : List UInt8 := dkwX0_marks_1 ++ dktX0_marks_2
def dkwX0_marks_0 : List UInt8 := [42, 182, 0, 91, 60, 42, 182, 0, 111, 188, 11, 77, 3, 62, 3, 54, 4, 21, 4, 27, 162, 0, 33, 42]
abbrev dktX0_marks_0 : List UInt8 := dkwX0_marks_0 ++ dktX0_marks_1
theorem dksX0_marks_0 : cX0_marks.data.toList.drop 0 = dktX0_marks_0 := by decide +kernel
theorem dksX0_marks_1 : cX0_marks.data.toList.drop 24 = dktX0_marks_1 := dk_seg dksX0_marks_0 24 rfl rfl
theorem dksX0_marks_2 : cX0_marks.data.toList.drop 47 = dktX0_marks_2 := dk_seg dksX0_marks_1 23 rfl rfl
theorem dksX0_marks_3 : cX0_marks.data.toList.drop 71 = dktX0_marks_3 := dk_seg dksX0_marks_2 24 rfl rfl
theorem dksX0_marks_4 : cX0_marks.data.toList.drop 94 = dktX0_marks_4 := dk_seg dksX0_marks_3 23 rfl rfl
theorem dksX0_marks_5 : cX0_marks.data.toList.drop 117 = dktX0_marks_5 := dk_seg dksX0_marks_4 23 rfl rfl
theorem dksX0_marks_6 : cX0_marks.data.toList.drop 139 = dktX0_marks_6 := dk_seg dksX0_marks_5 22 rfl rfl
theorem dksX0_marks_7 : cX0_marks.data.toList.drop 163 = dktX0_marks_7 := dk_seg dksX0_marks_6 24 rfl rfl
theorem dksX0_marks_8 : cX0_marks.data.toList.drop 185 = dktX0_marks_8 := dk_seg dksX0_marks_7 22 rfl rfl
theorem dksX0_marks_9 : cX0_marks.data.toList.drop 207 = dktX0_marks_9 := dk_seg dksX0_marks_8 22 rfl rfl
theorem dksX0_marks_10 : cX0_marks.data.toList.drop 231 = dktX0_marks_10 := dk_seg dksX0_marks_9 24 rfl rfl
theorem dksX0_marks_11 : cX0_marks.data.toList.drop 255 = dktX0_marks_11 := dk_seg dksX0_marks_10 24 rfl rfl
theorem dksX0_marks_12 : cX0_marks.data.toList.drop 277 = dktX0_marks_12 := dk_seg dksX0_marks_11 22 rfl rfl
theorem dX0_marks_0 : decode cX0_marks 0 = .ok (.aload_n 0, 1) := dk_42 (dk_at dksX0_marks_0 0 rfl rfl)
theorem dX0_marks_1 : decode cX0_marks 1 = .ok (.invokevirtual 91, 3) := dk_182 0 91 (dk_at dksX0_marks_0 1 rfl rfl)
theorem dX0_marks_4 : decode cX0_marks 4 = .ok (.istore_n 1, 1) := dk_60 (dk_at dksX0_marks_0 4 rfl rfl)
theorem dX0_marks_5 : decode cX0_marks 5 = .ok (.aload_n 0, 1) := dk_42 (dk_at dksX0_marks_0 5 rfl rfl)
theorem dX0_marks_6 : decode cX0_marks 6 = .ok (.invokevirtual 111, 3) := dk_182 0 111 (dk_at dksX0_marks_0 6 rfl rfl)
theorem dX0_marks_9 : decode cX0_marks 9 = .ok (.newarray .long, 2) := dk_188_11 (dk_at dksX0_marks_0 9 rfl rfl)
theorem dX0_marks_11 : decode cX0_marks 11 = .ok (.astore_n 2, 1) := dk_77 (dk_at dksX0_marks_0 11 rfl rfl)
theorem dX0_marks_12 : decode cX0_marks 12 = .ok (.iconst 0, 1) := dk_3 (dk_at dksX0_marks_0 12 rfl rfl)
theorem dX0_marks_13 : decode cX0_marks 13 = .ok (.istore_n 3, 1) := dk_62 (dk_at dksX0_marks_0 13 rfl rfl)
theorem dX0_marks_14 : decode cX0_marks 14 = .ok (.iconst 0, 1) := dk_3 (dk_at dksX0_marks_0 14 rfl rfl)
theorem dX0_marks_15 : decode cX0_marks 15 = .ok (.istore 4, 2) := dk_54 4 (dk_at dksX0_marks_0 15 rfl rfl)
theorem dX0_marks_17 : decode cX0_marks 17 = .ok (.iload 4, 2) := dk_21 4 (dk_at dksX0_marks_0 17 rfl rfl)
theorem dX0_marks_19 : decode cX0_marks 19 = .ok (.iload_n 1, 1) := dk_27 (dk_at dksX0_marks_0 19 rfl rfl)
theorem dX0_marks_20 : decode cX0_marks 20 = .ok (.if_icmp .ge 33, 3) := dk_162 0 33 (dk_at dksX0_marks_0 20 rfl rfl)
theorem dX0_marks_23 : decode cX0_marks 23 = .ok (.aload_n 0, 1) := dk_42 (dk_at dksX0_marks_0 23 rfl rfl)
theorem dX0_marks_24 : decode cX0_marks 24 = .ok (.getfield 15, 3) := dk_180 0 15 (dk_at dksX0_marks_1 0 rfl rfl)
theorem dX0_marks_27 : decode cX0_marks 27 = .ok (.iload 4, 2) := dk_21 4 (dk_at dksX0_marks_1 3 rfl rfl)
theorem dX0_marks_29 : decode cX0_marks 29 = .ok (.baload, 1) := dk_51 (dk_at dksX0_marks_1 5 rfl rfl)
theorem dX0_marks_30 : decode cX0_marks 30 = .ok (.bipush 32, 2) := dk_16 32 (dk_at dksX0_marks_1 6 rfl rfl)
theorem dX0_marks_32 : decode cX0_marks 32 = .ok (.if_icmp .eq 15, 3) := dk_159 0 15 (dk_at dksX0_marks_1 8 rfl rfl)
theorem dX0_marks_35 : decode cX0_marks 35 = .ok (.aload_n 0, 1) := dk_42 (dk_at dksX0_marks_1 11 rfl rfl)
theorem dX0_marks_36 : decode cX0_marks 36 = .ok (.getfield 15, 3) := dk_180 0 15 (dk_at dksX0_marks_1 12 rfl rfl)
theorem dX0_marks_39 : decode cX0_marks 39 = .ok (.iload 4, 2) := dk_21 4 (dk_at dksX0_marks_1 15 rfl rfl)
theorem dX0_marks_41 : decode cX0_marks 41 = .ok (.baload, 1) := dk_51 (dk_at dksX0_marks_1 17 rfl rfl)
theorem dX0_marks_42 : decode cX0_marks 42 = .ok (.bipush 10, 2) := dk_16 10 (dk_at dksX0_marks_1 18 rfl rfl)
theorem dX0_marks_44 : decode cX0_marks 44 = .ok (.if_icmp .ne 9, 3) := dk_160 0 9 (dk_at dksX0_marks_1 20 rfl rfl)
theorem dX0_marks_47 : decode cX0_marks 47 = .ok (.iinc 4 1, 3) := dk_132 4 1 (dk_at dksX0_marks_2 0 rfl rfl)
theorem dX0_marks_50 : decode cX0_marks 50 = .ok (.goto (-33), 3) := dk_167 255 223 (dk_at dksX0_marks_2 3 rfl rfl)
theorem dX0_marks_53 : decode cX0_marks 53 = .ok (.iload 4, 2) := dk_21 4 (dk_at dksX0_marks_2 6 rfl rfl)
theorem dX0_marks_55 : decode cX0_marks 55 = .ok (.iload_n 1, 1) := dk_27 (dk_at dksX0_marks_2 8 rfl rfl)
theorem dX0_marks_56 : decode cX0_marks 56 = .ok (.if_icmp .ne 6, 3) := dk_160 0 6 (dk_at dksX0_marks_2 9 rfl rfl)
theorem dX0_marks_59 : decode cX0_marks 59 = .ok (.goto 180, 3) := dk_167 0 180 (dk_at dksX0_marks_2 12 rfl rfl)
theorem dX0_marks_62 : decode cX0_marks 62 = .ok (.aload_n 0, 1) := dk_42 (dk_at dksX0_marks_2 15 rfl rfl)
theorem dX0_marks_63 : decode cX0_marks 63 = .ok (.getfield 15, 3) := dk_180 0 15 (dk_at dksX0_marks_2 16 rfl rfl)
theorem dX0_marks_66 : decode cX0_marks 66 = .ok (.iload 4, 2) := dk_21 4 (dk_at dksX0_marks_2 19 rfl rfl)
theorem dX0_marks_68 : decode cX0_marks 68 = .ok (.baload, 1) := dk_51 (dk_at dksX0_marks_2 21 rfl rfl)
theorem dX0_marks_69 : decode cX0_marks 69 = .ok (.bipush 45, 2) := dk_16 45 (dk_at dksX0_marks_2 22 rfl rfl)
theorem dX0_marks_71 : decode cX0_marks 71 = .ok (.if_icmp .ne 7, 3) := dk_160 0 7 (dk_at dksX0_marks_3 0 rfl rfl)
theorem dX0_marks_74 : decode cX0_marks 74 = .ok (.iconst (-1), 1) := dk_2 (dk_at dksX0_marks_3 3 rfl rfl)
theorem dX0_marks_75 : decode cX0_marks 75 = .ok (.goto 4, 3) := dk_167 0 4 (dk_at dksX0_marks_3 4 rfl rfl)
theorem dX0_marks_78 : decode cX0_marks 78 = .ok (.iconst 1, 1) := dk_4 (dk_at dksX0_marks_3 7 rfl rfl)
theorem dX0_marks_79 : decode cX0_marks 79 = .ok (.istore 5, 2) := dk_54 5 (dk_at dksX0_marks_3 8 rfl rfl)
theorem dX0_marks_81 : decode cX0_marks 81 = .ok (.iload 4, 2) := dk_21 4 (dk_at dksX0_marks_3 10 rfl rfl)
theorem dX0_marks_83 : decode cX0_marks 83 = .ok (.iload 5, 2) := dk_21 5 (dk_at dksX0_marks_3 12 rfl rfl)
theorem dX0_marks_85 : decode cX0_marks 85 = .ok (.ifCond .ge 7, 3) := dk_156 0 7 (dk_at dksX0_marks_3 14 rfl rfl)
theorem dX0_marks_88 : decode cX0_marks 88 = .ok (.iconst 1, 1) := dk_4 (dk_at dksX0_marks_3 17 rfl rfl)
theorem dX0_marks_89 : decode cX0_marks 89 = .ok (.goto 4, 3) := dk_167 0 4 (dk_at dksX0_marks_3 18 rfl rfl)
theorem dX0_marks_92 : decode cX0_marks 92 = .ok (.iconst 0, 1) := dk_3 (dk_at dksX0_marks_3 21 rfl rfl)
theorem dX0_marks_93 : decode cX0_marks 93 = .ok (.iadd, 1) := dk_96 (dk_at dksX0_marks_3 22 rfl rfl)
theorem dX0_marks_94 : decode cX0_marks 94 = .ok (.istore 4, 2) := dk_54 4 (dk_at dksX0_marks_4 0 rfl rfl)
theorem dX0_marks_96 : decode cX0_marks 96 = .ok (.iload 4, 2) := dk_21 4 (dk_at dksX0_marks_4 2 rfl rfl)
theorem dX0_marks_98 : decode cX0_marks 98 = .ok (.istore 6, 2) := dk_54 6 (dk_at dksX0_marks_4 4 rfl rfl)
theorem dX0_marks_100 : decode cX0_marks 100 = .ok (.lconst 0, 1) := dk_9 (dk_at dksX0_marks_4 6 rfl rfl)
theorem dX0_marks_101 : decode cX0_marks 101 = .ok (.lstore 7, 2) := dk_55 7 (dk_at dksX0_marks_4 7 rfl rfl)
theorem dX0_marks_103 : decode cX0_marks 103 = .ok (.iload 4, 2) := dk_21 4 (dk_at dksX0_marks_4 9 rfl rfl)
theorem dX0_marks_105 : decode cX0_marks 105 = .ok (.iload_n 1, 1) := dk_27 (dk_at dksX0_marks_4 11 rfl rfl)
theorem dX0_marks_106 : decode cX0_marks 106 = .ok (.if_icmp .ge 60, 3) := dk_162 0 60 (dk_at dksX0_marks_4 12 rfl rfl)
theorem dX0_marks_109 : decode cX0_marks 109 = .ok (.aload_n 0, 1) := dk_42 (dk_at dksX0_marks_4 15 rfl rfl)
theorem dX0_marks_110 : decode cX0_marks 110 = .ok (.getfield 15, 3) := dk_180 0 15 (dk_at dksX0_marks_4 16 rfl rfl)
theorem dX0_marks_113 : decode cX0_marks 113 = .ok (.iload 4, 2) := dk_21 4 (dk_at dksX0_marks_4 19 rfl rfl)
theorem dX0_marks_115 : decode cX0_marks 115 = .ok (.baload, 1) := dk_51 (dk_at dksX0_marks_4 21 rfl rfl)
theorem dX0_marks_116 : decode cX0_marks 116 = .ok (.i2l, 1) := dk_133 (dk_at dksX0_marks_4 22 rfl rfl)
theorem dX0_marks_117 : decode cX0_marks 117 = .ok (.ldc2_w 394, 3) := dk_20 1 138 (dk_at dksX0_marks_5 0 rfl rfl)
theorem dX0_marks_120 : decode cX0_marks 120 = .ok (.ldc2_w 396, 3) := dk_20 1 140 (dk_at dksX0_marks_5 3 rfl rfl)
theorem dX0_marks_123 : decode cX0_marks 123 = .ok (.invokestatic 129, 3) := dk_184 0 129 (dk_at dksX0_marks_5 6 rfl rfl)
theorem dX0_marks_126 : decode cX0_marks 126 = .ok (.ifCond .eq 40, 3) := dk_153 0 40 (dk_at dksX0_marks_5 9 rfl rfl)
theorem dX0_marks_129 : decode cX0_marks 129 = .ok (.iload 4, 2) := dk_21 4 (dk_at dksX0_marks_5 12 rfl rfl)
theorem dX0_marks_131 : decode cX0_marks 131 = .ok (.iload 6, 2) := dk_21 6 (dk_at dksX0_marks_5 14 rfl rfl)
theorem dX0_marks_133 : decode cX0_marks 133 = .ok (.isub, 1) := dk_100 (dk_at dksX0_marks_5 16 rfl rfl)
theorem dX0_marks_134 : decode cX0_marks 134 = .ok (.bipush 6, 2) := dk_16 6 (dk_at dksX0_marks_5 17 rfl rfl)
theorem dX0_marks_136 : decode cX0_marks 136 = .ok (.if_icmp .ge 30, 3) := dk_162 0 30 (dk_at dksX0_marks_5 19 rfl rfl)
theorem dX0_marks_139 : decode cX0_marks 139 = .ok (.ldc2_w 398, 3) := dk_20 1 142 (dk_at dksX0_marks_6 0 rfl rfl)
theorem dX0_marks_142 : decode cX0_marks 142 = .ok (.lload 7, 2) := dk_22 7 (dk_at dksX0_marks_6 3 rfl rfl)
theorem dX0_marks_144 : decode cX0_marks 144 = .ok (.lmul, 1) := dk_105 (dk_at dksX0_marks_6 5 rfl rfl)
theorem dX0_marks_145 : decode cX0_marks 145 = .ok (.aload_n 0, 1) := dk_42 (dk_at dksX0_marks_6 6 rfl rfl)
theorem dX0_marks_146 : decode cX0_marks 146 = .ok (.getfield 15, 3) := dk_180 0 15 (dk_at dksX0_marks_6 7 rfl rfl)
theorem dX0_marks_149 : decode cX0_marks 149 = .ok (.iload 4, 2) := dk_21 4 (dk_at dksX0_marks_6 10 rfl rfl)
theorem dX0_marks_151 : decode cX0_marks 151 = .ok (.baload, 1) := dk_51 (dk_at dksX0_marks_6 12 rfl rfl)
theorem dX0_marks_152 : decode cX0_marks 152 = .ok (.i2l, 1) := dk_133 (dk_at dksX0_marks_6 13 rfl rfl)
theorem dX0_marks_153 : decode cX0_marks 153 = .ok (.ladd, 1) := dk_97 (dk_at dksX0_marks_6 14 rfl rfl)
theorem dX0_marks_154 : decode cX0_marks 154 = .ok (.ldc2_w 394, 3) := dk_20 1 138 (dk_at dksX0_marks_6 15 rfl rfl)
theorem dX0_marks_157 : decode cX0_marks 157 = .ok (.lsub, 1) := dk_101 (dk_at dksX0_marks_6 18 rfl rfl)
theorem dX0_marks_158 : decode cX0_marks 158 = .ok (.lstore 7, 2) := dk_55 7 (dk_at dksX0_marks_6 19 rfl rfl)
theorem dX0_marks_160 : decode cX0_marks 160 = .ok (.iinc 4 1, 3) := dk_132 4 1 (dk_at dksX0_marks_6 21 rfl rfl)
theorem dX0_marks_163 : decode cX0_marks 163 = .ok (.goto (-60), 3) := dk_167 255 196 (dk_at dksX0_marks_7 0 rfl rfl)
theorem dX0_marks_166 : decode cX0_marks 166 = .ok (.iload 4, 2) := dk_21 4 (dk_at dksX0_marks_7 3 rfl rfl)
theorem dX0_marks_168 : decode cX0_marks 168 = .ok (.iload_n 1, 1) := dk_27 (dk_at dksX0_marks_7 5 rfl rfl)
theorem dX0_marks_169 : decode cX0_marks 169 = .ok (.if_icmp .eq 27, 3) := dk_159 0 27 (dk_at dksX0_marks_7 6 rfl rfl)
theorem dX0_marks_172 : decode cX0_marks 172 = .ok (.aload_n 0, 1) := dk_42 (dk_at dksX0_marks_7 9 rfl rfl)
theorem dX0_marks_173 : decode cX0_marks 173 = .ok (.getfield 15, 3) := dk_180 0 15 (dk_at dksX0_marks_7 10 rfl rfl)
theorem dX0_marks_176 : decode cX0_marks 176 = .ok (.iload 4, 2) := dk_21 4 (dk_at dksX0_marks_7 13 rfl rfl)
theorem dX0_marks_178 : decode cX0_marks 178 = .ok (.baload, 1) := dk_51 (dk_at dksX0_marks_7 15 rfl rfl)
theorem dX0_marks_179 : decode cX0_marks 179 = .ok (.bipush 32, 2) := dk_16 32 (dk_at dksX0_marks_7 16 rfl rfl)
theorem dX0_marks_181 : decode cX0_marks 181 = .ok (.if_icmp .eq 15, 3) := dk_159 0 15 (dk_at dksX0_marks_7 18 rfl rfl)
theorem dX0_marks_184 : decode cX0_marks 184 = .ok (.aload_n 0, 1) := dk_42 (dk_at dksX0_marks_7 21 rfl rfl)
theorem dX0_marks_185 : decode cX0_marks 185 = .ok (.getfield 15, 3) := dk_180 0 15 (dk_at dksX0_marks_8 0 rfl rfl)
theorem dX0_marks_188 : decode cX0_marks 188 = .ok (.iload 4, 2) := dk_21 4 (dk_at dksX0_marks_8 3 rfl rfl)
theorem dX0_marks_190 : decode cX0_marks 190 = .ok (.baload, 1) := dk_51 (dk_at dksX0_marks_8 5 rfl rfl)
theorem dX0_marks_191 : decode cX0_marks 191 = .ok (.bipush 10, 2) := dk_16 10 (dk_at dksX0_marks_8 6 rfl rfl)
theorem dX0_marks_193 : decode cX0_marks 193 = .ok (.if_icmp .ne 7, 3) := dk_160 0 7 (dk_at dksX0_marks_8 8 rfl rfl)
theorem dX0_marks_196 : decode cX0_marks 196 = .ok (.iconst 1, 1) := dk_4 (dk_at dksX0_marks_8 11 rfl rfl)
theorem dX0_marks_197 : decode cX0_marks 197 = .ok (.goto 4, 3) := dk_167 0 4 (dk_at dksX0_marks_8 12 rfl rfl)
theorem dX0_marks_200 : decode cX0_marks 200 = .ok (.iconst 0, 1) := dk_3 (dk_at dksX0_marks_8 15 rfl rfl)
theorem dX0_marks_201 : decode cX0_marks 201 = .ok (.istore 9, 2) := dk_54 9 (dk_at dksX0_marks_8 16 rfl rfl)
theorem dX0_marks_203 : decode cX0_marks 203 = .ok (.iload 4, 2) := dk_21 4 (dk_at dksX0_marks_8 18 rfl rfl)
theorem dX0_marks_205 : decode cX0_marks 205 = .ok (.iload 6, 2) := dk_21 6 (dk_at dksX0_marks_8 20 rfl rfl)
theorem dX0_marks_207 : decode cX0_marks 207 = .ok (.if_icmp .eq 14, 3) := dk_159 0 14 (dk_at dksX0_marks_9 0 rfl rfl)
theorem dX0_marks_210 : decode cX0_marks 210 = .ok (.iload 9, 2) := dk_21 9 (dk_at dksX0_marks_9 3 rfl rfl)
theorem dX0_marks_212 : decode cX0_marks 212 = .ok (.ifCond .eq 9, 3) := dk_153 0 9 (dk_at dksX0_marks_9 5 rfl rfl)
theorem dX0_marks_215 : decode cX0_marks 215 = .ok (.iload_n 3, 1) := dk_29 (dk_at dksX0_marks_9 8 rfl rfl)
theorem dX0_marks_216 : decode cX0_marks 216 = .ok (.aload_n 2, 1) := dk_44 (dk_at dksX0_marks_9 9 rfl rfl)
theorem dX0_marks_217 : decode cX0_marks 217 = .ok (.arraylength, 1) := dk_190 (dk_at dksX0_marks_9 10 rfl rfl)
theorem dX0_marks_218 : decode cX0_marks 218 = .ok (.if_icmp .ne 6, 3) := dk_160 0 6 (dk_at dksX0_marks_9 11 rfl rfl)
theorem dX0_marks_221 : decode cX0_marks 221 = .ok (.bipush (-2), 2) := dk_16 254 (dk_at dksX0_marks_9 14 rfl rfl)
theorem dX0_marks_223 : decode cX0_marks 223 = .ok (.ireturn, 1) := dk_172 (dk_at dksX0_marks_9 16 rfl rfl)
theorem dX0_marks_224 : decode cX0_marks 224 = .ok (.aload_n 2, 1) := dk_44 (dk_at dksX0_marks_9 17 rfl rfl)
theorem dX0_marks_225 : decode cX0_marks 225 = .ok (.iload_n 3, 1) := dk_29 (dk_at dksX0_marks_9 18 rfl rfl)
theorem dX0_marks_226 : decode cX0_marks 226 = .ok (.iload 5, 2) := dk_21 5 (dk_at dksX0_marks_9 19 rfl rfl)
theorem dX0_marks_228 : decode cX0_marks 228 = .ok (.i2l, 1) := dk_133 (dk_at dksX0_marks_9 21 rfl rfl)
theorem dX0_marks_229 : decode cX0_marks 229 = .ok (.lload 7, 2) := dk_22 7 (dk_at dksX0_marks_9 22 rfl rfl)
theorem dX0_marks_231 : decode cX0_marks 231 = .ok (.lmul, 1) := dk_105 (dk_at dksX0_marks_10 0 rfl rfl)
theorem dX0_marks_232 : decode cX0_marks 232 = .ok (.lastore, 1) := dk_80 (dk_at dksX0_marks_10 1 rfl rfl)
theorem dX0_marks_233 : decode cX0_marks 233 = .ok (.iinc 3 1, 3) := dk_132 3 1 (dk_at dksX0_marks_10 2 rfl rfl)
theorem dX0_marks_236 : decode cX0_marks 236 = .ok (.goto (-219), 3) := dk_167 255 37 (dk_at dksX0_marks_10 5 rfl rfl)
theorem dX0_marks_239 : decode cX0_marks 239 = .ok (.iload_n 3, 1) := dk_29 (dk_at dksX0_marks_10 8 rfl rfl)
theorem dX0_marks_240 : decode cX0_marks 240 = .ok (.aload_n 2, 1) := dk_44 (dk_at dksX0_marks_10 9 rfl rfl)
theorem dX0_marks_241 : decode cX0_marks 241 = .ok (.arraylength, 1) := dk_190 (dk_at dksX0_marks_10 10 rfl rfl)
theorem dX0_marks_242 : decode cX0_marks 242 = .ok (.if_icmp .ge 6, 3) := dk_162 0 6 (dk_at dksX0_marks_10 11 rfl rfl)
theorem dX0_marks_245 : decode cX0_marks 245 = .ok (.bipush (-2), 2) := dk_16 254 (dk_at dksX0_marks_10 14 rfl rfl)
theorem dX0_marks_247 : decode cX0_marks 247 = .ok (.ireturn, 1) := dk_172 (dk_at dksX0_marks_10 16 rfl rfl)
theorem dX0_marks_248 : decode cX0_marks 248 = .ok (.aload_n 0, 1) := dk_42 (dk_at dksX0_marks_10 17 rfl rfl)
theorem dX0_marks_249 : decode cX0_marks 249 = .ok (.getfield 27, 3) := dk_180 0 27 (dk_at dksX0_marks_10 18 rfl rfl)
theorem dX0_marks_252 : decode cX0_marks 252 = .ok (.getfield 68, 3) := dk_180 0 68 (dk_at dksX0_marks_10 21 rfl rfl)
theorem dX0_marks_255 : decode cX0_marks 255 = .ok (.aload_n 2, 1) := dk_44 (dk_at dksX0_marks_11 0 rfl rfl)
theorem dX0_marks_256 : decode cX0_marks 256 = .ok (.invokevirtual 400, 3) := dk_182 1 144 (dk_at dksX0_marks_11 1 rfl rfl)
theorem dX0_marks_259 : decode cX0_marks 259 = .ok (.istore 5, 2) := dk_54 5 (dk_at dksX0_marks_11 4 rfl rfl)
theorem dX0_marks_261 : decode cX0_marks 261 = .ok (.iload 5, 2) := dk_21 5 (dk_at dksX0_marks_11 6 rfl rfl)
theorem dX0_marks_263 : decode cX0_marks 263 = .ok (.iconst (-1), 1) := dk_2 (dk_at dksX0_marks_11 8 rfl rfl)
theorem dX0_marks_264 : decode cX0_marks 264 = .ok (.if_icmp .eq 8, 3) := dk_159 0 8 (dk_at dksX0_marks_11 9 rfl rfl)
theorem dX0_marks_267 : decode cX0_marks 267 = .ok (.iload 5, 2) := dk_21 5 (dk_at dksX0_marks_11 12 rfl rfl)
theorem dX0_marks_269 : decode cX0_marks 269 = .ok (.iconst 1, 1) := dk_4 (dk_at dksX0_marks_11 14 rfl rfl)
theorem dX0_marks_270 : decode cX0_marks 270 = .ok (.iadd, 1) := dk_96 (dk_at dksX0_marks_11 15 rfl rfl)
theorem dX0_marks_271 : decode cX0_marks 271 = .ok (.ireturn, 1) := dk_172 (dk_at dksX0_marks_11 16 rfl rfl)
theorem dX0_marks_272 : decode cX0_marks 272 = .ok (.aload_n 0, 1) := dk_42 (dk_at dksX0_marks_11 17 rfl rfl)
theorem dX0_marks_273 : decode cX0_marks 273 = .ok (.aload_n 0, 1) := dk_42 (dk_at dksX0_marks_11 18 rfl rfl)
theorem dX0_marks_274 : decode cX0_marks 274 = .ok (.getfield 27, 3) := dk_180 0 27 (dk_at dksX0_marks_11 19 rfl rfl)
theorem dX0_marks_277 : decode cX0_marks 277 = .ok (.getfield 68, 3) := dk_180 0 68 (dk_at dksX0_marks_12 0 rfl rfl)
theorem dX0_marks_280 : decode cX0_marks 280 = .ok (.aload_n 2, 1) := dk_44 (dk_at dksX0_marks_12 3 rfl rfl)
theorem dX0_marks_281 : decode cX0_marks 281 = .ok (.invokevirtual 304, 3) := dk_182 1 48 (dk_at dksX0_marks_12 4 rfl rfl)
theorem dX0_marks_284 : decode cX0_marks 284 = .ok (.invokevirtual 361, 3) := dk_182 1 105 (dk_at dksX0_marks_12 7 rfl rfl)
theorem dX0_marks_287 : decode cX0_marks 287 = .ok (.iconst 0, 1) := dk_3 (dk_at dksX0_marks_12 10 rfl rfl)
theorem dX0_marks_288 : decode cX0_marks 288 = .ok (.ireturn, 1) := dk_172 (dk_at dksX0_marks_12 11 rfl rfl)
abbrev cX0_uses : ByteArray := prog_1_method_67_code
def yX0_uses : MethodName := ⟨RX0, "uses", "(I)I"⟩
def dkwX0_uses_2 : List UInt8 := [182, 1, 101, 192, 1, 102, 182, 1, 105, 42, 182, 1, 109, 172]
abbrev dktX0_uses_2 : List UInt8 := dkwX0_uses_2 ++ []
def dkwX0_uses_1 : List UInt8 := [2, 172, 42, 42, 180, 0, 27, 180, 1, 64, 27, 185, 0, 156, 2, 0, 192, 0, 212, 180, 0, 220]
abbrev dktX0_uses_1 : List UInt8 := dkwX0_uses_1 ++ dktX0_uses_2
def dkwX0_uses_0 : List UInt8 := [27, 133, 9, 42, 180, 0, 27, 180, 1, 64, 185, 0, 126, 1, 0, 4, 100, 133, 184, 0, 129, 154, 0, 5]
abbrev dktX0_uses_0 : List UInt8 := dkwX0_uses_0 ++ dktX0_uses_1
theorem dksX0_uses_0 : cX0_uses.data.toList.drop 0 = dktX0_uses_0 := by decide +kernel
theorem dksX0_uses_1 : cX0_uses.data.toList.drop 24 = dktX0_uses_1 := dk_seg dksX0_uses_0 24 rfl rfl
theorem dksX0_uses_2 : cX0_uses.data.toList.drop 46 = dktX0_uses_2 := dk_seg dksX0_uses_1 22 rfl rfl
theorem dX0_uses_0 : decode cX0_uses 0 = .ok (.iload_n 1, 1) := dk_27 (dk_at dksX0_uses_0 0 rfl rfl)
theorem dX0_uses_1 : decode cX0_uses 1 = .ok (.i2l, 1) := dk_133 (dk_at dksX0_uses_0 1 rfl rfl)
theorem dX0_uses_2 : decode cX0_uses 2 = .ok (.lconst 0, 1) := dk_9 (dk_at dksX0_uses_0 2 rfl rfl)
theorem dX0_uses_3 : decode cX0_uses 3 = .ok (.aload_n 0, 1) := dk_42 (dk_at dksX0_uses_0 3 rfl rfl)
theorem dX0_uses_4 : decode cX0_uses 4 = .ok (.getfield 27, 3) := dk_180 0 27 (dk_at dksX0_uses_0 4 rfl rfl)
theorem dX0_uses_7 : decode cX0_uses 7 = .ok (.getfield 320, 3) := dk_180 1 64 (dk_at dksX0_uses_0 7 rfl rfl)
theorem dX0_uses_10 : decode cX0_uses 10 = .ok (.invokeinterface 126 1, 5) := by decide +kernel
theorem dX0_uses_15 : decode cX0_uses 15 = .ok (.iconst 1, 1) := dk_4 (dk_at dksX0_uses_0 15 rfl rfl)
theorem dX0_uses_16 : decode cX0_uses 16 = .ok (.isub, 1) := dk_100 (dk_at dksX0_uses_0 16 rfl rfl)
theorem dX0_uses_17 : decode cX0_uses 17 = .ok (.i2l, 1) := dk_133 (dk_at dksX0_uses_0 17 rfl rfl)
theorem dX0_uses_18 : decode cX0_uses 18 = .ok (.invokestatic 129, 3) := dk_184 0 129 (dk_at dksX0_uses_0 18 rfl rfl)
theorem dX0_uses_21 : decode cX0_uses 21 = .ok (.ifCond .ne 5, 3) := dk_154 0 5 (dk_at dksX0_uses_0 21 rfl rfl)
theorem dX0_uses_24 : decode cX0_uses 24 = .ok (.iconst (-1), 1) := dk_2 (dk_at dksX0_uses_1 0 rfl rfl)
theorem dX0_uses_25 : decode cX0_uses 25 = .ok (.ireturn, 1) := dk_172 (dk_at dksX0_uses_1 1 rfl rfl)
theorem dX0_uses_26 : decode cX0_uses 26 = .ok (.aload_n 0, 1) := dk_42 (dk_at dksX0_uses_1 2 rfl rfl)
theorem dX0_uses_27 : decode cX0_uses 27 = .ok (.aload_n 0, 1) := dk_42 (dk_at dksX0_uses_1 3 rfl rfl)
theorem dX0_uses_28 : decode cX0_uses 28 = .ok (.getfield 27, 3) := dk_180 0 27 (dk_at dksX0_uses_1 4 rfl rfl)
theorem dX0_uses_31 : decode cX0_uses 31 = .ok (.getfield 320, 3) := dk_180 1 64 (dk_at dksX0_uses_1 7 rfl rfl)
theorem dX0_uses_34 : decode cX0_uses 34 = .ok (.iload_n 1, 1) := dk_27 (dk_at dksX0_uses_1 10 rfl rfl)
theorem dX0_uses_35 : decode cX0_uses 35 = .ok (.invokeinterface 156 2, 5) := by decide +kernel
theorem dX0_uses_40 : decode cX0_uses 40 = .ok (.checkcast 212, 3) := dk_192 0 212 (dk_at dksX0_uses_1 16 rfl rfl)
theorem dX0_uses_43 : decode cX0_uses 43 = .ok (.getfield 220, 3) := dk_180 0 220 (dk_at dksX0_uses_1 19 rfl rfl)
theorem dX0_uses_46 : decode cX0_uses 46 = .ok (.invokevirtual 357, 3) := dk_182 1 101 (dk_at dksX0_uses_2 0 rfl rfl)
theorem dX0_uses_49 : decode cX0_uses 49 = .ok (.checkcast 358, 3) := dk_192 1 102 (dk_at dksX0_uses_2 3 rfl rfl)
theorem dX0_uses_52 : decode cX0_uses 52 = .ok (.invokevirtual 361, 3) := dk_182 1 105 (dk_at dksX0_uses_2 6 rfl rfl)
theorem dX0_uses_55 : decode cX0_uses 55 = .ok (.aload_n 0, 1) := dk_42 (dk_at dksX0_uses_2 9 rfl rfl)
theorem dX0_uses_56 : decode cX0_uses 56 = .ok (.invokevirtual 365, 3) := dk_182 1 109 (dk_at dksX0_uses_2 10 rfl rfl)
theorem dX0_uses_59 : decode cX0_uses 59 = .ok (.ireturn, 1) := dk_172 (dk_at dksX0_uses_2 13 rfl rfl)
abbrev cX0_grows : ByteArray := prog_1_method_68_code
def yX0_grows : MethodName := ⟨RX0, "grows", "(III)J"⟩
def dkwX0_grows_5 : List UInt8 := [167, 0, 9, 58, 5, 20, 1, 62, 173, 25, 4, 29, 47, 173]
abbrev dktX0_grows_5 : List UInt8 := dkwX0_grows_5 ++ []
def dkwX0_grows_4 : List UInt8 := [42, 187, 0, 212, 89, 42, 180, 0, 27, 180, 0, 68, 25, 4, 183, 1, 156, 180, 0, 220, 182, 1, 105]
abbrev dktX0_grows_4 : List UInt8 := dkwX0_grows_4 ++ dktX0_grows_5
def dkwX0_grows_3 : List UInt8 := [21, 5, 47, 105, 21, 5, 29, 160, 0, 7, 28, 167, 0, 4, 3, 133, 97, 80, 132, 5, 1, 167, 255, 217]
abbrev dktX0_grows_3 : List UInt8 := dkwX0_grows_3 ++ dktX0_grows_4
def dkwX0_grows_2 : List UInt8 := [58, 4, 3, 54, 5, 21, 5, 25, 4, 190, 162, 0, 37, 25, 4, 21, 5, 27, 133, 42, 180, 0, 31]
abbrev dktX0_grows_2 : List UInt8 := dkwX0_grows_2 ++ dktX0_grows_3
def dkwX0_grows_1 : List UInt8 := [184, 0, 129, 153, 0, 11, 42, 29, 182, 0, 183, 154, 0, 7, 20, 1, 62, 173, 42, 182, 0, 111, 188, 11]
abbrev dktX0_grows_1 : List UInt8 := dkwX0_grows_1 ++ dktX0_grows_2
def dkwX0_grows_0 : List UInt8 := [27, 133, 20, 1, 148, 20, 1, 150, 184, 0, 129, 153, 0, 25, 28, 133, 20, 1, 152, 20, 1, 154]
abbrev dktX0_grows_0 : List UInt8 := dkwX0_grows_0 ++ dktX0_grows_1
theorem dksX0_grows_0 : cX0_grows.data.toList.drop 0 = dktX0_grows_0 := by decide +kernel
theorem dksX0_grows_1 : cX0_grows.data.toList.drop 22 = dktX0_grows_1 := dk_seg dksX0_grows_0 22 rfl rfl
theorem dksX0_grows_2 : cX0_grows.data.toList.drop 46 = dktX0_grows_2 := dk_seg dksX0_grows_1 24 rfl rfl
theorem dksX0_grows_3 : cX0_grows.data.toList.drop 69 = dktX0_grows_3 := dk_seg dksX0_grows_2 23 rfl rfl
theorem dksX0_grows_4 : cX0_grows.data.toList.drop 93 = dktX0_grows_4 := dk_seg dksX0_grows_3 24 rfl rfl
theorem dksX0_grows_5 : cX0_grows.data.toList.drop 116 = dktX0_grows_5 := dk_seg dksX0_grows_4 23 rfl rfl
theorem dX0_grows_0 : decode cX0_grows 0 = .ok (.iload_n 1, 1) := dk_27 (dk_at dksX0_grows_0 0 rfl rfl)
theorem dX0_grows_1 : decode cX0_grows 1 = .ok (.i2l, 1) := dk_133 (dk_at dksX0_grows_0 1 rfl rfl)
theorem dX0_grows_2 : decode cX0_grows 2 = .ok (.ldc2_w 404, 3) := dk_20 1 148 (dk_at dksX0_grows_0 2 rfl rfl)
theorem dX0_grows_5 : decode cX0_grows 5 = .ok (.ldc2_w 406, 3) := dk_20 1 150 (dk_at dksX0_grows_0 5 rfl rfl)
theorem dX0_grows_8 : decode cX0_grows 8 = .ok (.invokestatic 129, 3) := dk_184 0 129 (dk_at dksX0_grows_0 8 rfl rfl)
theorem dX0_grows_11 : decode cX0_grows 11 = .ok (.ifCond .eq 25, 3) := dk_153 0 25 (dk_at dksX0_grows_0 11 rfl rfl)
theorem dX0_grows_14 : decode cX0_grows 14 = .ok (.iload_n 2, 1) := dk_28 (dk_at dksX0_grows_0 14 rfl rfl)
theorem dX0_grows_15 : decode cX0_grows 15 = .ok (.i2l, 1) := dk_133 (dk_at dksX0_grows_0 15 rfl rfl)
theorem dX0_grows_16 : decode cX0_grows 16 = .ok (.ldc2_w 408, 3) := dk_20 1 152 (dk_at dksX0_grows_0 16 rfl rfl)
theorem dX0_grows_19 : decode cX0_grows 19 = .ok (.ldc2_w 410, 3) := dk_20 1 154 (dk_at dksX0_grows_0 19 rfl rfl)
theorem dX0_grows_22 : decode cX0_grows 22 = .ok (.invokestatic 129, 3) := dk_184 0 129 (dk_at dksX0_grows_1 0 rfl rfl)
theorem dX0_grows_25 : decode cX0_grows 25 = .ok (.ifCond .eq 11, 3) := dk_153 0 11 (dk_at dksX0_grows_1 3 rfl rfl)
theorem dX0_grows_28 : decode cX0_grows 28 = .ok (.aload_n 0, 1) := dk_42 (dk_at dksX0_grows_1 6 rfl rfl)
theorem dX0_grows_29 : decode cX0_grows 29 = .ok (.iload_n 3, 1) := dk_29 (dk_at dksX0_grows_1 7 rfl rfl)
theorem dX0_grows_30 : decode cX0_grows 30 = .ok (.invokevirtual 183, 3) := dk_182 0 183 (dk_at dksX0_grows_1 8 rfl rfl)
theorem dX0_grows_33 : decode cX0_grows 33 = .ok (.ifCond .ne 7, 3) := dk_154 0 7 (dk_at dksX0_grows_1 11 rfl rfl)
theorem dX0_grows_36 : decode cX0_grows 36 = .ok (.ldc2_w 318, 3) := dk_20 1 62 (dk_at dksX0_grows_1 14 rfl rfl)
theorem dX0_grows_39 : decode cX0_grows 39 = .ok (.lreturn, 1) := dk_173 (dk_at dksX0_grows_1 17 rfl rfl)
theorem dX0_grows_40 : decode cX0_grows 40 = .ok (.aload_n 0, 1) := dk_42 (dk_at dksX0_grows_1 18 rfl rfl)
theorem dX0_grows_41 : decode cX0_grows 41 = .ok (.invokevirtual 111, 3) := dk_182 0 111 (dk_at dksX0_grows_1 19 rfl rfl)
theorem dX0_grows_44 : decode cX0_grows 44 = .ok (.newarray .long, 2) := dk_188_11 (dk_at dksX0_grows_1 22 rfl rfl)
theorem dX0_grows_46 : decode cX0_grows 46 = .ok (.astore 4, 2) := dk_58 4 (dk_at dksX0_grows_2 0 rfl rfl)
theorem dX0_grows_48 : decode cX0_grows 48 = .ok (.iconst 0, 1) := dk_3 (dk_at dksX0_grows_2 2 rfl rfl)
theorem dX0_grows_49 : decode cX0_grows 49 = .ok (.istore 5, 2) := dk_54 5 (dk_at dksX0_grows_2 3 rfl rfl)
theorem dX0_grows_51 : decode cX0_grows 51 = .ok (.iload 5, 2) := dk_21 5 (dk_at dksX0_grows_2 5 rfl rfl)
theorem dX0_grows_53 : decode cX0_grows 53 = .ok (.aload 4, 2) := dk_25 4 (dk_at dksX0_grows_2 7 rfl rfl)
theorem dX0_grows_55 : decode cX0_grows 55 = .ok (.arraylength, 1) := dk_190 (dk_at dksX0_grows_2 9 rfl rfl)
theorem dX0_grows_56 : decode cX0_grows 56 = .ok (.if_icmp .ge 37, 3) := dk_162 0 37 (dk_at dksX0_grows_2 10 rfl rfl)
theorem dX0_grows_59 : decode cX0_grows 59 = .ok (.aload 4, 2) := dk_25 4 (dk_at dksX0_grows_2 13 rfl rfl)
theorem dX0_grows_61 : decode cX0_grows 61 = .ok (.iload 5, 2) := dk_21 5 (dk_at dksX0_grows_2 15 rfl rfl)
theorem dX0_grows_63 : decode cX0_grows 63 = .ok (.iload_n 1, 1) := dk_27 (dk_at dksX0_grows_2 17 rfl rfl)
theorem dX0_grows_64 : decode cX0_grows 64 = .ok (.i2l, 1) := dk_133 (dk_at dksX0_grows_2 18 rfl rfl)
theorem dX0_grows_65 : decode cX0_grows 65 = .ok (.aload_n 0, 1) := dk_42 (dk_at dksX0_grows_2 19 rfl rfl)
theorem dX0_grows_66 : decode cX0_grows 66 = .ok (.getfield 31, 3) := dk_180 0 31 (dk_at dksX0_grows_2 20 rfl rfl)
theorem dX0_grows_69 : decode cX0_grows 69 = .ok (.iload 5, 2) := dk_21 5 (dk_at dksX0_grows_3 0 rfl rfl)
theorem dX0_grows_71 : decode cX0_grows 71 = .ok (.laload, 1) := dk_47 (dk_at dksX0_grows_3 2 rfl rfl)
theorem dX0_grows_72 : decode cX0_grows 72 = .ok (.lmul, 1) := dk_105 (dk_at dksX0_grows_3 3 rfl rfl)
theorem dX0_grows_73 : decode cX0_grows 73 = .ok (.iload 5, 2) := dk_21 5 (dk_at dksX0_grows_3 4 rfl rfl)
theorem dX0_grows_75 : decode cX0_grows 75 = .ok (.iload_n 3, 1) := dk_29 (dk_at dksX0_grows_3 6 rfl rfl)
theorem dX0_grows_76 : decode cX0_grows 76 = .ok (.if_icmp .ne 7, 3) := dk_160 0 7 (dk_at dksX0_grows_3 7 rfl rfl)
theorem dX0_grows_79 : decode cX0_grows 79 = .ok (.iload_n 2, 1) := dk_28 (dk_at dksX0_grows_3 10 rfl rfl)
theorem dX0_grows_80 : decode cX0_grows 80 = .ok (.goto 4, 3) := dk_167 0 4 (dk_at dksX0_grows_3 11 rfl rfl)
theorem dX0_grows_83 : decode cX0_grows 83 = .ok (.iconst 0, 1) := dk_3 (dk_at dksX0_grows_3 14 rfl rfl)
theorem dX0_grows_84 : decode cX0_grows 84 = .ok (.i2l, 1) := dk_133 (dk_at dksX0_grows_3 15 rfl rfl)
theorem dX0_grows_85 : decode cX0_grows 85 = .ok (.ladd, 1) := dk_97 (dk_at dksX0_grows_3 16 rfl rfl)
theorem dX0_grows_86 : decode cX0_grows 86 = .ok (.lastore, 1) := dk_80 (dk_at dksX0_grows_3 17 rfl rfl)
theorem dX0_grows_87 : decode cX0_grows 87 = .ok (.iinc 5 1, 3) := dk_132 5 1 (dk_at dksX0_grows_3 18 rfl rfl)
theorem dX0_grows_90 : decode cX0_grows 90 = .ok (.goto (-39), 3) := dk_167 255 217 (dk_at dksX0_grows_3 21 rfl rfl)
theorem dX0_grows_93 : decode cX0_grows 93 = .ok (.aload_n 0, 1) := dk_42 (dk_at dksX0_grows_4 0 rfl rfl)
theorem dX0_grows_94 : decode cX0_grows 94 = .ok (.new 212, 3) := dk_187 0 212 (dk_at dksX0_grows_4 1 rfl rfl)
theorem dX0_grows_97 : decode cX0_grows 97 = .ok (.dup, 1) := dk_89 (dk_at dksX0_grows_4 4 rfl rfl)
theorem dX0_grows_98 : decode cX0_grows 98 = .ok (.aload_n 0, 1) := dk_42 (dk_at dksX0_grows_4 5 rfl rfl)
theorem dX0_grows_99 : decode cX0_grows 99 = .ok (.getfield 27, 3) := dk_180 0 27 (dk_at dksX0_grows_4 6 rfl rfl)
theorem dX0_grows_102 : decode cX0_grows 102 = .ok (.getfield 68, 3) := dk_180 0 68 (dk_at dksX0_grows_4 9 rfl rfl)
theorem dX0_grows_105 : decode cX0_grows 105 = .ok (.aload 4, 2) := dk_25 4 (dk_at dksX0_grows_4 12 rfl rfl)
theorem dX0_grows_107 : decode cX0_grows 107 = .ok (.invokespecial 412, 3) := dk_183 1 156 (dk_at dksX0_grows_4 14 rfl rfl)
theorem dX0_grows_110 : decode cX0_grows 110 = .ok (.getfield 220, 3) := dk_180 0 220 (dk_at dksX0_grows_4 17 rfl rfl)
theorem dX0_grows_113 : decode cX0_grows 113 = .ok (.invokevirtual 361, 3) := dk_182 1 105 (dk_at dksX0_grows_4 20 rfl rfl)
theorem dX0_grows_116 : decode cX0_grows 116 = .ok (.goto 9, 3) := dk_167 0 9 (dk_at dksX0_grows_5 0 rfl rfl)
theorem dX0_grows_119 : decode cX0_grows 119 = .ok (.astore 5, 2) := dk_58 5 (dk_at dksX0_grows_5 3 rfl rfl)
theorem dX0_grows_121 : decode cX0_grows 121 = .ok (.ldc2_w 318, 3) := dk_20 1 62 (dk_at dksX0_grows_5 5 rfl rfl)
theorem dX0_grows_124 : decode cX0_grows 124 = .ok (.lreturn, 1) := dk_173 (dk_at dksX0_grows_5 8 rfl rfl)
theorem dX0_grows_125 : decode cX0_grows 125 = .ok (.aload 4, 2) := dk_25 4 (dk_at dksX0_grows_5 9 rfl rfl)
theorem dX0_grows_127 : decode cX0_grows 127 = .ok (.iload_n 3, 1) := dk_29 (dk_at dksX0_grows_5 11 rfl rfl)
theorem dX0_grows_128 : decode cX0_grows 128 = .ok (.laload, 1) := dk_47 (dk_at dksX0_grows_5 12 rfl rfl)
theorem dX0_grows_129 : decode cX0_grows 129 = .ok (.lreturn, 1) := dk_173 (dk_at dksX0_grows_5 13 rfl rfl)
abbrev cX0_undo : ByteArray := prog_1_method_69_code
def yX0_undo : MethodName := ⟨RX0, "undo", "()I"⟩
def dkwX0_undo_1 : List UInt8 := [181, 0, 31, 42, 180, 0, 38, 182, 0, 149, 172]
abbrev dktX0_undo_1 : List UInt8 := dkwX0_undo_1 ++ []
def dkwX0_undo_0 : List UInt8 := [42, 180, 0, 38, 182, 1, 159, 153, 0, 5, 2, 172, 42, 42, 180, 0, 38, 182, 1, 163, 192, 1, 102]
abbrev dktX0_undo_0 : List UInt8 := dkwX0_undo_0 ++ dktX0_undo_1
theorem dksX0_undo_0 : cX0_undo.data.toList.drop 0 = dktX0_undo_0 := by decide +kernel
theorem dksX0_undo_1 : cX0_undo.data.toList.drop 23 = dktX0_undo_1 := dk_seg dksX0_undo_0 23 rfl rfl
theorem dX0_undo_0 : decode cX0_undo 0 = .ok (.aload_n 0, 1) := dk_42 (dk_at dksX0_undo_0 0 rfl rfl)
theorem dX0_undo_1 : decode cX0_undo 1 = .ok (.getfield 38, 3) := dk_180 0 38 (dk_at dksX0_undo_0 1 rfl rfl)
theorem dX0_undo_4 : decode cX0_undo 4 = .ok (.invokevirtual 415, 3) := dk_182 1 159 (dk_at dksX0_undo_0 4 rfl rfl)
theorem dX0_undo_7 : decode cX0_undo 7 = .ok (.ifCond .eq 5, 3) := dk_153 0 5 (dk_at dksX0_undo_0 7 rfl rfl)
theorem dX0_undo_10 : decode cX0_undo 10 = .ok (.iconst (-1), 1) := dk_2 (dk_at dksX0_undo_0 10 rfl rfl)
theorem dX0_undo_11 : decode cX0_undo 11 = .ok (.ireturn, 1) := dk_172 (dk_at dksX0_undo_0 11 rfl rfl)
theorem dX0_undo_12 : decode cX0_undo 12 = .ok (.aload_n 0, 1) := dk_42 (dk_at dksX0_undo_0 12 rfl rfl)
theorem dX0_undo_13 : decode cX0_undo 13 = .ok (.aload_n 0, 1) := dk_42 (dk_at dksX0_undo_0 13 rfl rfl)
theorem dX0_undo_14 : decode cX0_undo 14 = .ok (.getfield 38, 3) := dk_180 0 38 (dk_at dksX0_undo_0 14 rfl rfl)
theorem dX0_undo_17 : decode cX0_undo 17 = .ok (.invokevirtual 419, 3) := dk_182 1 163 (dk_at dksX0_undo_0 17 rfl rfl)
theorem dX0_undo_20 : decode cX0_undo 20 = .ok (.checkcast 358, 3) := dk_192 1 102 (dk_at dksX0_undo_0 20 rfl rfl)
theorem dX0_undo_23 : decode cX0_undo 23 = .ok (.putfield 31, 3) := dk_181 0 31 (dk_at dksX0_undo_1 0 rfl rfl)
theorem dX0_undo_26 : decode cX0_undo 26 = .ok (.aload_n 0, 1) := dk_42 (dk_at dksX0_undo_1 3 rfl rfl)
theorem dX0_undo_27 : decode cX0_undo 27 = .ok (.getfield 38, 3) := dk_180 0 38 (dk_at dksX0_undo_1 4 rfl rfl)
theorem dX0_undo_30 : decode cX0_undo 30 = .ok (.invokevirtual 149, 3) := dk_182 0 149 (dk_at dksX0_undo_1 7 rfl rfl)
theorem dX0_undo_33 : decode cX0_undo 33 = .ok (.ireturn, 1) := dk_172 (dk_at dksX0_undo_1 10 rfl rfl)
theorem q134 : (Jvm.Cond.initialized "TroupeSums") ∈ lw_all := lw_g (lw_at lw_m1 1 rfl) rfl
theorem q187 : (Jvm.Cond.instantiable "TroupeSums" (8 : Nat)) ∈ lw_all := lw_g (lw_at lw_m1 54 rfl) rfl
theorem q189 : (Jvm.Cond.instanceMethod ({ cls := "TroupeSums", name := "<init>", desc := "()V" } : Jvm.MethodName)) ∈ lw_all := lw_g (lw_at lw_m1 56 rfl) rfl
theorem q190 : (Jvm.Cond.code ({ cls := "TroupeSums", name := "<init>", desc := "()V" } : Jvm.MethodName) prog_1_method_4_code (1 : Nat) (Option.none : Option Jvm.ClassFile.FieldType)) ∈ lw_all := lw_g (lw_at lw_m1 57 rfl) rfl
theorem q191 : (Jvm.Cond.methodLink "TroupeSums" (7 : Nat) ({ cls := "java/lang/Object", name := "<init>", desc := "()V" } : Jvm.MethodName)) ∈ lw_all := lw_g (lw_at lw_m1 58 rfl) rfl
theorem q194 : (Jvm.Cond.methodLink "TroupeSums" (23 : Nat) ({ cls := "TroupeSums", name := "alone", desc := "()LTroupeSums$Troupe;" } : Jvm.MethodName)) ∈ lw_all := lw_g (lw_at lw_m1 61 rfl) rfl
theorem q195 : (Jvm.Cond.static ({ cls := "TroupeSums", name := "alone", desc := "()LTroupeSums$Troupe;" } : Jvm.MethodName)) ∈ lw_all := lw_g (lw_at lw_m1 62 rfl) rfl
theorem q196 : (Jvm.Cond.code ({ cls := "TroupeSums", name := "alone", desc := "()LTroupeSums$Troupe;" } : Jvm.MethodName) prog_1_method_5_code (2 : Nat) (Option.some (Jvm.ClassFile.FieldType.object "TroupeSums$Troupe"))) ∈ lw_all := lw_g (lw_at lw_m1 63 rfl) rfl
theorem q197 : (Jvm.Cond.classLink "TroupeSums" (42 : Nat) "TroupeSums$Troupe") ∈ lw_all := lw_g (lw_at lw_m1 64 rfl) rfl
theorem q199 : (Jvm.Cond.methodLinkNest "TroupeSums" (44 : Nat) ({ cls := "TroupeSums$Troupe", name := "<init>", desc := "()V" } : Jvm.MethodName) "TroupeSums") ∈ lw_tbl := lw_at lw_m1 66 rfl
theorem q235 : (Jvm.Cond.fieldLinkNest "TroupeSums" (133 : Nat) "TroupeSums$Troupe" "places" "I" "TroupeSums") ∈ lw_tbl := lw_at lw_m1 102 rfl
theorem q237 : (Jvm.Cond.fieldLinkNest "TroupeSums" (136 : Nat) "TroupeSums$Troupe" "moves" "I" "TroupeSums") ∈ lw_tbl := lw_at lw_m1 104 rfl
theorem q238 : (Jvm.Cond.fieldLinkNest "TroupeSums" (68 : Nat) "TroupeSums$Troupe" "group" "LTroupeSums$Group;" "TroupeSums") ∈ lw_tbl := lw_at lw_m1 105 rfl
theorem q242 : (Jvm.Cond.fieldLinkNest "TroupeSums" (139 : Nat) "TroupeSums$Troupe" "names" "Ljava/util/List;" "TroupeSums") ∈ lw_tbl := lw_at lw_m1 109 rfl
theorem q245 : (Jvm.Cond.fieldLinkNest "TroupeSums" (320 : Nat) "TroupeSums$Troupe" "sums" "Ljava/util/List;" "TroupeSums") ∈ lw_tbl := lw_at lw_m1 112 rfl
theorem q257 : (Jvm.Cond.classLink "TroupeSums" (45 : Nat) "java/util/TreeMap") ∈ lw_all := lw_g (lw_at lw_m1 124 rfl) rfl
theorem q259 : (Jvm.Cond.methodLink "TroupeSums" (47 : Nat) ({ cls := "java/util/TreeMap", name := "<init>", desc := "()V" } : Jvm.MethodName)) ∈ lw_all := lw_g (lw_at lw_m1 126 rfl) rfl
theorem q291 : (Jvm.Cond.classLink "TroupeSums" (48 : Nat) "TroupeSums$Row") ∈ lw_all := lw_g (lw_at lw_m1 158 rfl) rfl
theorem q293 : (Jvm.Cond.methodLink "TroupeSums" (50 : Nat) ({ cls := "TroupeSums$Row", name := "<init>", desc := "([I)V" } : Jvm.MethodName)) ∈ lw_all := lw_g (lw_at lw_m1 160 rfl) rfl
theorem q298 : (Jvm.Cond.fieldLinkNest "TroupeSums" (160 : Nat) "TroupeSums$Row" "to" "[I" "TroupeSums") ∈ lw_tbl := lw_at lw_m1 165 rfl
theorem q304 : (Jvm.Cond.methodLink "TroupeSums" (53 : Nat) ({ cls := "java/lang/Integer", name := "valueOf", desc := "(I)Ljava/lang/Integer;" } : Jvm.MethodName)) ∈ lw_all := lw_g (lw_at lw_m1 171 rfl) rfl
theorem q324 : (Jvm.Cond.methodLink "TroupeSums" (59 : Nat) ({ cls := "java/util/TreeMap", name := "put", desc := "(Ljava/lang/Object;Ljava/lang/Object;)Ljava/lang/Object;" } : Jvm.MethodName)) ∈ lw_all := lw_g (lw_at lw_m1 191 rfl) rfl
theorem q672 : (Jvm.Cond.classLink "TroupeSums" (63 : Nat) "TroupeSums$Group") ∈ lw_all := lw_g (lw_at lw_m3 59 rfl) rfl
theorem q674 : (Jvm.Cond.methodLink "TroupeSums" (65 : Nat) ({ cls := "TroupeSums$Group", name := "<init>", desc := "(ILjava/util/TreeMap;)V" } : Jvm.MethodName)) ∈ lw_all := lw_g (lw_at lw_m3 61 rfl) rfl
theorem q828 : (Jvm.Cond.selects "TroupeSums" ({ cls := "java/lang/Object", name := "getClass", desc := "()Ljava/lang/Class;" } : Jvm.MethodName) ({ cls := "java/lang/Object", name := "getClass", desc := "()Ljava/lang/Class;" } : Jvm.MethodName)) ∈ lw_all := lw_g (lw_at lw_m3 215 rfl) rfl
theorem q937 : (Jvm.Cond.static ({ cls := "TroupeSums", name := "isOf", desc := "(JI)Z" } : Jvm.MethodName)) ∈ lw_all := lw_g (lw_at lw_m4 84 rfl) rfl
theorem q938 : (Jvm.Cond.code ({ cls := "TroupeSums", name := "isOf", desc := "(JI)Z" } : Jvm.MethodName) prog_1_method_2_code (3 : Nat) (Option.some Jvm.ClassFile.FieldType.boolean)) ∈ lw_all := lw_g (lw_at lw_m4 85 rfl) rfl
theorem q960 : (Jvm.Cond.selects "TroupeSums" ({ cls := "java/lang/Object", name := "equals", desc := "(Ljava/lang/Object;)Z" } : Jvm.MethodName) ({ cls := "java/lang/Object", name := "equals", desc := "(Ljava/lang/Object;)Z" } : Jvm.MethodName)) ∈ lw_all := lw_g (lw_at lw_m4 107 rfl) rfl
theorem q1078 : (Jvm.Cond.fieldLinkNest "TroupeSums" (188 : Nat) "TroupeSums$Sort" "size" "I" "TroupeSums") ∈ lw_tbl := lw_at lw_m4 225 rfl
theorem q1083 : (Jvm.Cond.fieldLinkNest "TroupeSums" (193 : Nat) "TroupeSums$Sort" "first" "I" "TroupeSums") ∈ lw_tbl := lw_at lw_m4 230 rfl
theorem q1085 : (Jvm.Cond.fieldLinkNest "TroupeSums" (190 : Nat) "TroupeSums$Sort" "many" "I" "TroupeSums") ∈ lw_tbl := lw_at lw_m4 232 rfl
theorem q1087 : (Jvm.Cond.fieldLinkNest "TroupeSums" (195 : Nat) "TroupeSums$Sort" "norm" "I" "TroupeSums") ∈ lw_tbl := lw_at lw_m4 234 rfl
theorem q1185 : (Jvm.Cond.fieldLinkNest "TroupeSums" (153 : Nat) "TroupeSums$Group" "rows" "Ljava/util/List;" "TroupeSums") ∈ lw_tbl := lw_at lw_m5 92 rfl
theorem q1187 : (Jvm.Cond.fieldLinkNest "TroupeSums" (164 : Nat) "TroupeSums$Group" "times" "[[I" "TroupeSums") ∈ lw_tbl := lw_at lw_m5 94 rfl
theorem q1190 : (Jvm.Cond.fieldLinkNest "TroupeSums" (142 : Nat) "TroupeSums$Group" "subgroups" "Ljava/util/List;" "TroupeSums") ∈ lw_tbl := lw_at lw_m5 97 rfl
theorem q1194 : (Jvm.Cond.fieldLinkNest "TroupeSums" (124 : Nat) "TroupeSums$Group" "sorts" "Ljava/util/List;" "TroupeSums") ∈ lw_tbl := lw_at lw_m5 101 rfl
theorem q1199 : (Jvm.Cond.fieldLinkNest "TroupeSums" (208 : Nat) "TroupeSums$Group" "marks" "[[I" "TroupeSums") ∈ lw_tbl := lw_at lw_m5 106 rfl
theorem q1217 : (Jvm.Cond.classLink "TroupeSums" (35 : Nat) "java/util/ArrayDeque") ∈ lw_all := lw_g (lw_at lw_m5 124 rfl) rfl
theorem q1219 : (Jvm.Cond.methodLink "TroupeSums" (37 : Nat) ({ cls := "java/util/ArrayDeque", name := "<init>", desc := "()V" } : Jvm.MethodName)) ∈ lw_all := lw_g (lw_at lw_m5 126 rfl) rfl
theorem q1235 : (Jvm.Cond.fieldLink "TroupeSums" (15 : Nat) "TroupeSums" "tape" "[B") ∈ lw_all := lw_g (lw_at lw_m5 142 rfl) rfl
theorem q1236 : (Jvm.Cond.fieldLink "TroupeSums" (72 : Nat) "TroupeSums" "taped" "I") ∈ lw_all := lw_g (lw_at lw_m5 143 rfl) rfl
theorem q1237 : (Jvm.Cond.fieldLink "TroupeSums" (80 : Nat) "TroupeSums" "faultKind" "I") ∈ lw_all := lw_g (lw_at lw_m5 144 rfl) rfl
theorem q1238 : (Jvm.Cond.fieldLink "TroupeSums" (19 : Nat) "TroupeSums" "faultPlace" "I") ∈ lw_all := lw_g (lw_at lw_m5 145 rfl) rfl
theorem q1239 : (Jvm.Cond.fieldLink "TroupeSums" (27 : Nat) "TroupeSums" "troupe" "LTroupeSums$Troupe;") ∈ lw_all := lw_g (lw_at lw_m5 146 rfl) rfl
theorem q1240 : (Jvm.Cond.fieldLink "TroupeSums" (31 : Nat) "TroupeSums" "sum" "[J") ∈ lw_all := lw_g (lw_at lw_m5 147 rfl) rfl
theorem q1241 : (Jvm.Cond.fieldLink "TroupeSums" (114 : Nat) "TroupeSums" "units" "Ljava/util/List;") ∈ lw_all := lw_g (lw_at lw_m5 148 rfl) rfl
theorem q1242 : (Jvm.Cond.fieldLink "TroupeSums" (38 : Nat) "TroupeSums" "acts" "Ljava/util/ArrayDeque;") ∈ lw_all := lw_g (lw_at lw_m5 149 rfl) rfl
theorem q1243 : (Jvm.Cond.laysFinal "TroupeSums" "TroupeSums" "tape" "[B") ∈ lw_all := lw_g (lw_at lw_m5 150 rfl) rfl
theorem q1244 : (Jvm.Cond.soleField "TroupeSums" "tape") ∈ lw_all := lw_g (lw_at lw_m5 151 rfl) rfl
theorem q1245 : (Jvm.Cond.lays "TroupeSums" "TroupeSums" "taped" "I") ∈ lw_all := lw_g (lw_at lw_m5 152 rfl) rfl
theorem q1246 : (Jvm.Cond.soleField "TroupeSums" "taped") ∈ lw_all := lw_g (lw_at lw_m5 153 rfl) rfl
theorem q1247 : (Jvm.Cond.lays "TroupeSums" "TroupeSums" "faultKind" "I") ∈ lw_all := lw_g (lw_at lw_m5 154 rfl) rfl
theorem q1248 : (Jvm.Cond.soleField "TroupeSums" "faultKind") ∈ lw_all := lw_g (lw_at lw_m5 155 rfl) rfl
theorem q1249 : (Jvm.Cond.lays "TroupeSums" "TroupeSums" "faultPlace" "I") ∈ lw_all := lw_g (lw_at lw_m5 156 rfl) rfl
theorem q1250 : (Jvm.Cond.soleField "TroupeSums" "faultPlace") ∈ lw_all := lw_g (lw_at lw_m5 157 rfl) rfl
theorem q1251 : (Jvm.Cond.lays "TroupeSums" "TroupeSums" "troupe" "LTroupeSums$Troupe;") ∈ lw_all := lw_g (lw_at lw_m5 158 rfl) rfl
theorem q1252 : (Jvm.Cond.soleField "TroupeSums" "troupe") ∈ lw_all := lw_g (lw_at lw_m5 159 rfl) rfl
theorem q1253 : (Jvm.Cond.lays "TroupeSums" "TroupeSums" "sum" "[J") ∈ lw_all := lw_g (lw_at lw_m5 160 rfl) rfl
theorem q1254 : (Jvm.Cond.soleField "TroupeSums" "sum") ∈ lw_all := lw_g (lw_at lw_m5 161 rfl) rfl
theorem q1255 : (Jvm.Cond.lays "TroupeSums" "TroupeSums" "units" "Ljava/util/List;") ∈ lw_all := lw_g (lw_at lw_m5 162 rfl) rfl
theorem q1256 : (Jvm.Cond.soleField "TroupeSums" "units") ∈ lw_all := lw_g (lw_at lw_m5 163 rfl) rfl
theorem q1257 : (Jvm.Cond.laysFinal "TroupeSums" "TroupeSums" "acts" "Ljava/util/ArrayDeque;") ∈ lw_all := lw_g (lw_at lw_m5 164 rfl) rfl
theorem q1258 : (Jvm.Cond.soleField "TroupeSums" "acts") ∈ lw_all := lw_g (lw_at lw_m5 165 rfl) rfl
theorem q1259 : (Jvm.Cond.superclass "TroupeSums" "java/lang/Object") ∈ lw_all := lw_g (lw_at lw_m5 166 rfl) rfl
theorem q1261 : (Jvm.Cond.instanceMethod ({ cls := "TroupeSums", name := "feed", desc := "(IIIII)I" } : Jvm.MethodName)) ∈ lw_all := lw_g (lw_at lw_m5 168 rfl) rfl
theorem q1262 : (Jvm.Cond.selects "TroupeSums" ({ cls := "TroupeSums", name := "feed", desc := "(IIIII)I" } : Jvm.MethodName) ({ cls := "TroupeSums", name := "feed", desc := "(IIIII)I" } : Jvm.MethodName)) ∈ lw_all := lw_g (lw_at lw_m5 169 rfl) rfl
theorem q1263 : (Jvm.Cond.code ({ cls := "TroupeSums", name := "feed", desc := "(IIIII)I" } : Jvm.MethodName) prog_1_method_6_code (11 : Nat) (Option.some Jvm.ClassFile.FieldType.int)) ∈ lw_all := lw_g (lw_at lw_m5 170 rfl) rfl
theorem q1265 : (Jvm.Cond.instanceMethod ({ cls := "TroupeSums", name := "end", desc := "(I)I" } : Jvm.MethodName)) ∈ lw_all := lw_g (lw_at lw_m5 172 rfl) rfl
theorem q1266 : (Jvm.Cond.selects "TroupeSums" ({ cls := "TroupeSums", name := "end", desc := "(I)I" } : Jvm.MethodName) ({ cls := "TroupeSums", name := "end", desc := "(I)I" } : Jvm.MethodName)) ∈ lw_all := lw_g (lw_at lw_m5 173 rfl) rfl
theorem q1267 : (Jvm.Cond.code ({ cls := "TroupeSums", name := "end", desc := "(I)I" } : Jvm.MethodName) prog_1_method_7_code (2 : Nat) (Option.some Jvm.ClassFile.FieldType.int)) ∈ lw_all := lw_g (lw_at lw_m5 174 rfl) rfl
theorem q1269 : (Jvm.Cond.instanceMethod ({ cls := "TroupeSums", name := "troupe", desc := "()I" } : Jvm.MethodName)) ∈ lw_all := lw_g (lw_at lw_m5 176 rfl) rfl
theorem q1270 : (Jvm.Cond.selects "TroupeSums" ({ cls := "TroupeSums", name := "troupe", desc := "()I" } : Jvm.MethodName) ({ cls := "TroupeSums", name := "troupe", desc := "()I" } : Jvm.MethodName)) ∈ lw_all := lw_g (lw_at lw_m5 177 rfl) rfl
theorem q1271 : (Jvm.Cond.codeWith ({ cls := "TroupeSums", name := "troupe", desc := "()I" } : Jvm.MethodName) prog_1_method_11_code (2 : Nat) (Option.some Jvm.ClassFile.FieldType.int) [((4 : Nat), (26 : Nat), (29 : Nat), (101 : Nat))]) ∈ lw_all := lw_g (lw_at lw_m5 178 rfl) rfl
theorem q1272 : (Jvm.Cond.classLink "TroupeSums" (101 : Nat) "TroupeSums$TextWrong") ∈ lw_all := lw_g (lw_at lw_m5 179 rfl) rfl
theorem q1273 : (Jvm.Cond.methodLink "TroupeSums" (86 : Nat) ({ cls := "TroupeSums", name := "right", desc := "()V" } : Jvm.MethodName)) ∈ lw_all := lw_g (lw_at lw_m5 180 rfl) rfl
theorem q1274 : (Jvm.Cond.privateMethod ({ cls := "TroupeSums", name := "right", desc := "()V" } : Jvm.MethodName)) ∈ lw_tbl := lw_at lw_m5 181 rfl
theorem q1275 : (Jvm.Cond.instanceMethod ({ cls := "TroupeSums", name := "right", desc := "()V" } : Jvm.MethodName)) ∈ lw_all := lw_g (lw_at lw_m5 182 rfl) rfl
theorem q1276 : (Jvm.Cond.code ({ cls := "TroupeSums", name := "right", desc := "()V" } : Jvm.MethodName) prog_1_method_10_code (1 : Nat) (Option.none : Option Jvm.ClassFile.FieldType)) ∈ lw_all := lw_g (lw_at lw_m5 183 rfl) rfl
theorem q1277 : (Jvm.Cond.classLink "TroupeSums" (89 : Nat) "TroupeSums$Reader") ∈ lw_all := lw_g (lw_at lw_m5 184 rfl) rfl
theorem q1279 : (Jvm.Cond.methodLink "TroupeSums" (91 : Nat) ({ cls := "TroupeSums", name := "taken", desc := "()I" } : Jvm.MethodName)) ∈ lw_all := lw_g (lw_at lw_m5 186 rfl) rfl
theorem q1280 : (Jvm.Cond.privateMethod ({ cls := "TroupeSums", name := "taken", desc := "()I" } : Jvm.MethodName)) ∈ lw_tbl := lw_at lw_m5 187 rfl
theorem q1281 : (Jvm.Cond.instanceMethod ({ cls := "TroupeSums", name := "taken", desc := "()I" } : Jvm.MethodName)) ∈ lw_all := lw_g (lw_at lw_m5 188 rfl) rfl
theorem q1282 : (Jvm.Cond.code ({ cls := "TroupeSums", name := "taken", desc := "()I" } : Jvm.MethodName) prog_1_method_8_code (2 : Nat) (Option.some Jvm.ClassFile.FieldType.int)) ∈ lw_all := lw_g (lw_at lw_m5 189 rfl) rfl
theorem q1283 : (Jvm.Cond.methodLink "TroupeSums" (95 : Nat) ({ cls := "TroupeSums$Reader", name := "<init>", desc := "([BI)V" } : Jvm.MethodName)) ∈ lw_all := lw_g (lw_at lw_m5 190 rfl) rfl
theorem q1395 : (Jvm.Cond.methodLink "TroupeSums" (98 : Nat) ({ cls := "TroupeSums$Reader", name := "read", desc := "()LTroupeSums$Troupe;" } : Jvm.MethodName)) ∈ lw_all := lw_g (lw_at lw_m6 62 rfl) rfl
theorem q1617 : (Jvm.Cond.fieldLinkNest "TroupeSums" (75 : Nat) "TroupeSums$Wrong" "kind" "I" "TroupeSums") ∈ lw_tbl := lw_at lw_m7 44 rfl
theorem q1619 : (Jvm.Cond.fieldLinkNest "TroupeSums" (83 : Nat) "TroupeSums$Wrong" "place" "I" "TroupeSums") ∈ lw_tbl := lw_at lw_m7 46 rfl
theorem q1791 : (Jvm.Cond.static ({ cls := "TroupeSums", name := "isIn", desc := "(JJJ)Z" } : Jvm.MethodName)) ∈ lw_all := lw_g (lw_at lw_m7 218 rfl) rfl
theorem q1792 : (Jvm.Cond.code ({ cls := "TroupeSums", name := "isIn", desc := "(JJJ)Z" } : Jvm.MethodName) prog_1_method_1_code (6 : Nat) (Option.some Jvm.ClassFile.FieldType.boolean)) ∈ lw_all := lw_g (lw_at lw_m7 219 rfl) rfl
theorem q1818 : (Jvm.Cond.fieldLinkNest "TroupeSums" (220 : Nat) "TroupeSums$Sum" "numbers" "[J" "TroupeSums") ∈ lw_tbl := lw_at lw_m8 5 rfl
theorem q1897 : (Jvm.Cond.methodLink "TroupeSums" (103 : Nat) ({ cls := "TroupeSums$TextWrong", name := "first", desc := "()LTroupeSums$Wrong;" } : Jvm.MethodName)) ∈ lw_all := lw_g (lw_at lw_m8 84 rfl) rfl
theorem q1909 : (Jvm.Cond.methodLink "TroupeSums" (107 : Nat) ({ cls := "TroupeSums", name := "faulted", desc := "(LTroupeSums$Wrong;)I" } : Jvm.MethodName)) ∈ lw_all := lw_g (lw_at lw_m8 96 rfl) rfl
theorem q1910 : (Jvm.Cond.privateMethod ({ cls := "TroupeSums", name := "faulted", desc := "(LTroupeSums$Wrong;)I" } : Jvm.MethodName)) ∈ lw_tbl := lw_at lw_m8 97 rfl
theorem q1911 : (Jvm.Cond.instanceMethod ({ cls := "TroupeSums", name := "faulted", desc := "(LTroupeSums$Wrong;)I" } : Jvm.MethodName)) ∈ lw_all := lw_g (lw_at lw_m8 98 rfl) rfl
theorem q1912 : (Jvm.Cond.code ({ cls := "TroupeSums", name := "faulted", desc := "(LTroupeSums$Wrong;)I" } : Jvm.MethodName) prog_1_method_9_code (2 : Nat) (Option.some Jvm.ClassFile.FieldType.int)) ∈ lw_all := lw_g (lw_at lw_m8 99 rfl) rfl
theorem q1913 : (Jvm.Cond.methodLink "TroupeSums" (111 : Nat) ({ cls := "TroupeSums", name := "sorts", desc := "()I" } : Jvm.MethodName)) ∈ lw_all := lw_g (lw_at lw_m8 100 rfl) rfl
theorem q1914 : (Jvm.Cond.privateMethod ({ cls := "TroupeSums", name := "sorts", desc := "()I" } : Jvm.MethodName)) ∈ lw_tbl := lw_at lw_m8 101 rfl
theorem q1915 : (Jvm.Cond.instanceMethod ({ cls := "TroupeSums", name := "sorts", desc := "()I" } : Jvm.MethodName)) ∈ lw_all := lw_g (lw_at lw_m8 102 rfl) rfl
theorem q1916 : (Jvm.Cond.code ({ cls := "TroupeSums", name := "sorts", desc := "()I" } : Jvm.MethodName) prog_1_method_13_code (1 : Nat) (Option.some Jvm.ClassFile.FieldType.int)) ∈ lw_all := lw_g (lw_at lw_m8 103 rfl) rfl
theorem q1917 : (Jvm.Cond.interfaceEntry "TroupeSums" (126 : Nat)) ∈ lw_tbl := lw_at lw_m8 104 rfl
theorem q1918 : (Jvm.Cond.methodLink "TroupeSums" (126 : Nat) ({ cls := "java/util/List", name := "size", desc := "()I" } : Jvm.MethodName)) ∈ lw_all := lw_g (lw_at lw_m8 105 rfl) rfl
theorem q1919 : (Jvm.Cond.methodLink "TroupeSums" (118 : Nat) ({ cls := "java/util/ArrayDeque", name := "clear", desc := "()V" } : Jvm.MethodName)) ∈ lw_all := lw_g (lw_at lw_m8 106 rfl) rfl
theorem q1926 : (Jvm.Cond.methodLink "TroupeSums" (121 : Nat) ({ cls := "TroupeSums$Group", name := "size", desc := "()I" } : Jvm.MethodName)) ∈ lw_all := lw_g (lw_at lw_m8 113 rfl) rfl
theorem q1928 : (Jvm.Cond.instanceMethod ({ cls := "TroupeSums", name := "fault", desc := "(I)I" } : Jvm.MethodName)) ∈ lw_all := lw_g (lw_at lw_m8 115 rfl) rfl
theorem q1929 : (Jvm.Cond.selects "TroupeSums" ({ cls := "TroupeSums", name := "fault", desc := "(I)I" } : Jvm.MethodName) ({ cls := "TroupeSums", name := "fault", desc := "(I)I" } : Jvm.MethodName)) ∈ lw_all := lw_g (lw_at lw_m8 116 rfl) rfl
theorem q1930 : (Jvm.Cond.code ({ cls := "TroupeSums", name := "fault", desc := "(I)I" } : Jvm.MethodName) prog_1_method_12_code (2 : Nat) (Option.some Jvm.ClassFile.FieldType.int)) ∈ lw_all := lw_g (lw_at lw_m8 117 rfl) rfl
theorem q1932 : (Jvm.Cond.instanceMethod ({ cls := "TroupeSums", name := "about", desc := "(I)I" } : Jvm.MethodName)) ∈ lw_all := lw_g (lw_at lw_m8 119 rfl) rfl
theorem q1933 : (Jvm.Cond.selects "TroupeSums" ({ cls := "TroupeSums", name := "about", desc := "(I)I" } : Jvm.MethodName) ({ cls := "TroupeSums", name := "about", desc := "(I)I" } : Jvm.MethodName)) ∈ lw_all := lw_g (lw_at lw_m8 120 rfl) rfl
theorem q1934 : (Jvm.Cond.code ({ cls := "TroupeSums", name := "about", desc := "(I)I" } : Jvm.MethodName) prog_1_method_17_code (3 : Nat) (Option.some Jvm.ClassFile.FieldType.int)) ∈ lw_all := lw_g (lw_at lw_m8 121 rfl) rfl
theorem q1935 : (Jvm.Cond.methodLink "TroupeSums" (145 : Nat) ({ cls := "TroupeSums$Group", name := "isLevel", desc := "(I)Z" } : Jvm.MethodName)) ∈ lw_all := lw_g (lw_at lw_m8 122 rfl) rfl
theorem q1939 : (Jvm.Cond.methodLink "TroupeSums" (149 : Nat) ({ cls := "java/util/ArrayDeque", name := "size", desc := "()I" } : Jvm.MethodName)) ∈ lw_all := lw_g (lw_at lw_m8 126 rfl) rfl
theorem q1941 : (Jvm.Cond.instanceMethod ({ cls := "TroupeSums", name := "moves", desc := "(II)I" } : Jvm.MethodName)) ∈ lw_all := lw_g (lw_at lw_m8 128 rfl) rfl
theorem q1942 : (Jvm.Cond.selects "TroupeSums" ({ cls := "TroupeSums", name := "moves", desc := "(II)I" } : Jvm.MethodName) ({ cls := "TroupeSums", name := "moves", desc := "(II)I" } : Jvm.MethodName)) ∈ lw_all := lw_g (lw_at lw_m8 129 rfl) rfl
theorem q1943 : (Jvm.Cond.code ({ cls := "TroupeSums", name := "moves", desc := "(II)I" } : Jvm.MethodName) prog_1_method_18_code (3 : Nat) (Option.some Jvm.ClassFile.FieldType.int)) ∈ lw_all := lw_g (lw_at lw_m8 130 rfl) rfl
theorem q1944 : (Jvm.Cond.methodLink "TroupeSums" (150 : Nat) ({ cls := "TroupeSums", name := "isMember", desc := "(I)Z" } : Jvm.MethodName)) ∈ lw_all := lw_g (lw_at lw_m8 131 rfl) rfl
theorem q1945 : (Jvm.Cond.privateMethod ({ cls := "TroupeSums", name := "isMember", desc := "(I)Z" } : Jvm.MethodName)) ∈ lw_tbl := lw_at lw_m8 132 rfl
theorem q1946 : (Jvm.Cond.instanceMethod ({ cls := "TroupeSums", name := "isMember", desc := "(I)Z" } : Jvm.MethodName)) ∈ lw_all := lw_g (lw_at lw_m8 133 rfl) rfl
theorem q1947 : (Jvm.Cond.code ({ cls := "TroupeSums", name := "isMember", desc := "(I)Z" } : Jvm.MethodName) prog_1_method_15_code (2 : Nat) (Option.some Jvm.ClassFile.FieldType.boolean)) ∈ lw_all := lw_g (lw_at lw_m8 134 rfl) rfl
theorem q1948 : (Jvm.Cond.methodLink "TroupeSums" (129 : Nat) ({ cls := "TroupeSums", name := "isIn", desc := "(JJJ)Z" } : Jvm.MethodName)) ∈ lw_all := lw_g (lw_at lw_m8 135 rfl) rfl
theorem q1949 : (Jvm.Cond.interfaceEntry "TroupeSums" (156 : Nat)) ∈ lw_tbl := lw_at lw_m8 136 rfl
theorem q1950 : (Jvm.Cond.methodLink "TroupeSums" (156 : Nat) ({ cls := "java/util/List", name := "get", desc := "(I)Ljava/lang/Object;" } : Jvm.MethodName)) ∈ lw_all := lw_g (lw_at lw_m8 137 rfl) rfl
theorem q1952 : (Jvm.Cond.instanceMethod ({ cls := "TroupeSums", name := "times", desc := "(II)I" } : Jvm.MethodName)) ∈ lw_all := lw_g (lw_at lw_m8 139 rfl) rfl
theorem q1953 : (Jvm.Cond.selects "TroupeSums" ({ cls := "TroupeSums", name := "times", desc := "(II)I" } : Jvm.MethodName) ({ cls := "TroupeSums", name := "times", desc := "(II)I" } : Jvm.MethodName)) ∈ lw_all := lw_g (lw_at lw_m8 140 rfl) rfl
theorem q1954 : (Jvm.Cond.codeWith ({ cls := "TroupeSums", name := "times", desc := "(II)I" } : Jvm.MethodName) prog_1_method_19_code (4 : Nat) (Option.some Jvm.ClassFile.FieldType.int) [((0 : Nat), (14 : Nat), (15 : Nat), (168 : Nat))]) ∈ lw_all := lw_g (lw_at lw_m8 141 rfl) rfl
theorem q1955 : (Jvm.Cond.classLink "TroupeSums" (168 : Nat) "java/lang/ArrayIndexOutOfBoundsException") ∈ lw_all := lw_g (lw_at lw_m8 142 rfl) rfl
theorem q1985 : (Jvm.Cond.instanceMethod ({ cls := "TroupeSums", name := "order", desc := "(I)I" } : Jvm.MethodName)) ∈ lw_all := lw_g (lw_at lw_m8 172 rfl) rfl
theorem q1986 : (Jvm.Cond.selects "TroupeSums" ({ cls := "TroupeSums", name := "order", desc := "(I)I" } : Jvm.MethodName) ({ cls := "TroupeSums", name := "order", desc := "(I)I" } : Jvm.MethodName)) ∈ lw_all := lw_g (lw_at lw_m8 173 rfl) rfl
theorem q1987 : (Jvm.Cond.code ({ cls := "TroupeSums", name := "order", desc := "(I)I" } : Jvm.MethodName) prog_1_method_20_code (2 : Nat) (Option.some Jvm.ClassFile.FieldType.int)) ∈ lw_all := lw_g (lw_at lw_m8 174 rfl) rfl
theorem q1988 : (Jvm.Cond.methodLink "TroupeSums" (170 : Nat) ({ cls := "TroupeSums$Group", name := "order", desc := "(I)I" } : Jvm.MethodName)) ∈ lw_all := lw_g (lw_at lw_m8 175 rfl) rfl
theorem q1993 : (Jvm.Cond.instanceMethod ({ cls := "TroupeSums", name := "makesOf", desc := "(I)I" } : Jvm.MethodName)) ∈ lw_all := lw_g (lw_at lw_m8 180 rfl) rfl
theorem q1994 : (Jvm.Cond.selects "TroupeSums" ({ cls := "TroupeSums", name := "makesOf", desc := "(I)I" } : Jvm.MethodName) ({ cls := "TroupeSums", name := "makesOf", desc := "(I)I" } : Jvm.MethodName)) ∈ lw_all := lw_g (lw_at lw_m8 181 rfl) rfl
theorem q1995 : (Jvm.Cond.code ({ cls := "TroupeSums", name := "makesOf", desc := "(I)I" } : Jvm.MethodName) prog_1_method_21_code (2 : Nat) (Option.some Jvm.ClassFile.FieldType.int)) ∈ lw_all := lw_g (lw_at lw_m8 182 rfl) rfl
theorem q1996 : (Jvm.Cond.methodLink "TroupeSums" (174 : Nat) ({ cls := "TroupeSums", name := "areMembers", desc := "(I)Z" } : Jvm.MethodName)) ∈ lw_all := lw_g (lw_at lw_m8 183 rfl) rfl
theorem q1997 : (Jvm.Cond.privateMethod ({ cls := "TroupeSums", name := "areMembers", desc := "(I)Z" } : Jvm.MethodName)) ∈ lw_tbl := lw_at lw_m8 184 rfl
theorem q1998 : (Jvm.Cond.instanceMethod ({ cls := "TroupeSums", name := "areMembers", desc := "(I)Z" } : Jvm.MethodName)) ∈ lw_all := lw_g (lw_at lw_m8 185 rfl) rfl
theorem q1999 : (Jvm.Cond.code ({ cls := "TroupeSums", name := "areMembers", desc := "(I)Z" } : Jvm.MethodName) prog_1_method_16_code (2 : Nat) (Option.some Jvm.ClassFile.FieldType.boolean)) ∈ lw_all := lw_g (lw_at lw_m8 186 rfl) rfl
theorem q2000 : (Jvm.Cond.methodLink "TroupeSums" (177 : Nat) ({ cls := "TroupeSums$Group", name := "made", desc := "(I)I" } : Jvm.MethodName)) ∈ lw_all := lw_g (lw_at lw_m8 187 rfl) rfl
theorem q2002 : (Jvm.Cond.instanceMethod ({ cls := "TroupeSums", name := "sortOf", desc := "(I)I" } : Jvm.MethodName)) ∈ lw_all := lw_g (lw_at lw_m8 189 rfl) rfl
theorem q2003 : (Jvm.Cond.selects "TroupeSums" ({ cls := "TroupeSums", name := "sortOf", desc := "(I)I" } : Jvm.MethodName) ({ cls := "TroupeSums", name := "sortOf", desc := "(I)I" } : Jvm.MethodName)) ∈ lw_all := lw_g (lw_at lw_m8 190 rfl) rfl
theorem q2004 : (Jvm.Cond.code ({ cls := "TroupeSums", name := "sortOf", desc := "(I)I" } : Jvm.MethodName) prog_1_method_22_code (2 : Nat) (Option.some Jvm.ClassFile.FieldType.int)) ∈ lw_all := lw_g (lw_at lw_m8 191 rfl) rfl
theorem q2005 : (Jvm.Cond.methodLink "TroupeSums" (180 : Nat) ({ cls := "TroupeSums$Group", name := "sortOf", desc := "(I)I" } : Jvm.MethodName)) ∈ lw_all := lw_g (lw_at lw_m8 192 rfl) rfl
theorem q2012 : (Jvm.Cond.instanceMethod ({ cls := "TroupeSums", name := "sort", desc := "(II)I" } : Jvm.MethodName)) ∈ lw_all := lw_g (lw_at lw_m8 199 rfl) rfl
theorem q2013 : (Jvm.Cond.selects "TroupeSums" ({ cls := "TroupeSums", name := "sort", desc := "(II)I" } : Jvm.MethodName) ({ cls := "TroupeSums", name := "sort", desc := "(II)I" } : Jvm.MethodName)) ∈ lw_all := lw_g (lw_at lw_m8 200 rfl) rfl
theorem q2014 : (Jvm.Cond.code ({ cls := "TroupeSums", name := "sort", desc := "(II)I" } : Jvm.MethodName) prog_1_method_23_code (4 : Nat) (Option.some Jvm.ClassFile.FieldType.int)) ∈ lw_all := lw_g (lw_at lw_m8 201 rfl) rfl
theorem q2015 : (Jvm.Cond.methodLink "TroupeSums" (183 : Nat) ({ cls := "TroupeSums", name := "isSort", desc := "(I)Z" } : Jvm.MethodName)) ∈ lw_all := lw_g (lw_at lw_m8 202 rfl) rfl
theorem q2016 : (Jvm.Cond.privateMethod ({ cls := "TroupeSums", name := "isSort", desc := "(I)Z" } : Jvm.MethodName)) ∈ lw_tbl := lw_at lw_m8 203 rfl
theorem q2017 : (Jvm.Cond.instanceMethod ({ cls := "TroupeSums", name := "isSort", desc := "(I)Z" } : Jvm.MethodName)) ∈ lw_all := lw_g (lw_at lw_m8 204 rfl) rfl
theorem q2018 : (Jvm.Cond.code ({ cls := "TroupeSums", name := "isSort", desc := "(I)Z" } : Jvm.MethodName) prog_1_method_14_code (2 : Nat) (Option.some Jvm.ClassFile.FieldType.boolean)) ∈ lw_all := lw_g (lw_at lw_m8 205 rfl) rfl
theorem q2019 : (Jvm.Cond.classLink "TroupeSums" (186 : Nat) "TroupeSums$Sort") ∈ lw_all := lw_g (lw_at lw_m8 206 rfl) rfl
theorem q2020 : (Jvm.Cond.methodLink "TroupeSums" (198 : Nat) ({ cls := "java/lang/Integer", name := "bitCount", desc := "(I)I" } : Jvm.MethodName)) ∈ lw_all := lw_g (lw_at lw_m8 207 rfl) rfl
theorem q2021 : (Jvm.Cond.methodLink "TroupeSums" (201 : Nat) ({ cls := "TroupeSums$Group", name := "isRound", desc := "(I)Z" } : Jvm.MethodName)) ∈ lw_all := lw_g (lw_at lw_m8 208 rfl) rfl
theorem q2026 : (Jvm.Cond.instanceMethod ({ cls := "TroupeSums", name := "within", desc := "(II)I" } : Jvm.MethodName)) ∈ lw_all := lw_g (lw_at lw_m8 213 rfl) rfl
theorem q2027 : (Jvm.Cond.selects "TroupeSums" ({ cls := "TroupeSums", name := "within", desc := "(II)I" } : Jvm.MethodName) ({ cls := "TroupeSums", name := "within", desc := "(II)I" } : Jvm.MethodName)) ∈ lw_all := lw_g (lw_at lw_m8 214 rfl) rfl
theorem q2028 : (Jvm.Cond.code ({ cls := "TroupeSums", name := "within", desc := "(II)I" } : Jvm.MethodName) prog_1_method_24_code (3 : Nat) (Option.some Jvm.ClassFile.FieldType.int)) ∈ lw_all := lw_g (lw_at lw_m8 215 rfl) rfl
theorem q2029 : (Jvm.Cond.methodLink "TroupeSums" (204 : Nat) ({ cls := "TroupeSums$Group", name := "within", desc := "(II)I" } : Jvm.MethodName)) ∈ lw_all := lw_g (lw_at lw_m8 216 rfl) rfl
theorem q2034 : (Jvm.Cond.instanceMethod ({ cls := "TroupeSums", name := "mark", desc := "(II)I" } : Jvm.MethodName)) ∈ lw_all := lw_g (lw_at lw_m8 221 rfl) rfl
theorem q2035 : (Jvm.Cond.selects "TroupeSums" ({ cls := "TroupeSums", name := "mark", desc := "(II)I" } : Jvm.MethodName) ({ cls := "TroupeSums", name := "mark", desc := "(II)I" } : Jvm.MethodName)) ∈ lw_all := lw_g (lw_at lw_m8 222 rfl) rfl
theorem q2036 : (Jvm.Cond.code ({ cls := "TroupeSums", name := "mark", desc := "(II)I" } : Jvm.MethodName) prog_1_method_25_code (3 : Nat) (Option.some Jvm.ClassFile.FieldType.int)) ∈ lw_all := lw_g (lw_at lw_m8 223 rfl) rfl
theorem q2038 : (Jvm.Cond.instanceMethod ({ cls := "TroupeSums", name := "product", desc := "(III)I" } : Jvm.MethodName)) ∈ lw_all := lw_g (lw_at lw_m8 225 rfl) rfl
theorem q2039 : (Jvm.Cond.selects "TroupeSums" ({ cls := "TroupeSums", name := "product", desc := "(III)I" } : Jvm.MethodName) ({ cls := "TroupeSums", name := "product", desc := "(III)I" } : Jvm.MethodName)) ∈ lw_all := lw_g (lw_at lw_m8 226 rfl) rfl
theorem q2040 : (Jvm.Cond.codeWith ({ cls := "TroupeSums", name := "product", desc := "(III)I" } : Jvm.MethodName) prog_1_method_26_code (5 : Nat) (Option.some Jvm.ClassFile.FieldType.int) [((26 : Nat), (58 : Nat), (59 : Nat), (223 : Nat))]) ∈ lw_all := lw_g (lw_at lw_m8 227 rfl) rfl
theorem q2041 : (Jvm.Cond.classLink "TroupeSums" (223 : Nat) "TroupeSums$TooGreat") ∈ lw_all := lw_g (lw_at lw_m8 228 rfl) rfl
theorem q2042 : (Jvm.Cond.methodLink "TroupeSums" (211 : Nat) ({ cls := "TroupeSums$Sum", name := "of", desc := "(LTroupeSums$Group;IJ)LTroupeSums$Sum;" } : Jvm.MethodName)) ∈ lw_all := lw_g (lw_at lw_m8 229 rfl) rfl
theorem q2043 : (Jvm.Cond.methodLink "TroupeSums" (217 : Nat) ({ cls := "TroupeSums$Sum", name := "times", desc := "(LTroupeSums$Sum;)LTroupeSums$Sum;" } : Jvm.MethodName)) ∈ lw_all := lw_g (lw_at lw_m8 230 rfl) rfl
theorem q2045 : (Jvm.Cond.instanceMethod ({ cls := "TroupeSums", name := "residue", desc := "(II)I" } : Jvm.MethodName)) ∈ lw_all := lw_g (lw_at lw_m8 232 rfl) rfl
theorem q2046 : (Jvm.Cond.selects "TroupeSums" ({ cls := "TroupeSums", name := "residue", desc := "(II)I" } : Jvm.MethodName) ({ cls := "TroupeSums", name := "residue", desc := "(II)I" } : Jvm.MethodName)) ∈ lw_all := lw_g (lw_at lw_m8 233 rfl) rfl
theorem q2047 : (Jvm.Cond.code ({ cls := "TroupeSums", name := "residue", desc := "(II)I" } : Jvm.MethodName) prog_1_method_28_code (3 : Nat) (Option.some Jvm.ClassFile.FieldType.int)) ∈ lw_all := lw_g (lw_at lw_m8 234 rfl) rfl
theorem q2048 : (Jvm.Cond.methodLink "TroupeSums" (225 : Nat) ({ cls := "TroupeSums", name := "isPrime", desc := "(I)Z" } : Jvm.MethodName)) ∈ lw_all := lw_g (lw_at lw_m8 235 rfl) rfl
theorem q2049 : (Jvm.Cond.static ({ cls := "TroupeSums", name := "isPrime", desc := "(I)Z" } : Jvm.MethodName)) ∈ lw_all := lw_g (lw_at lw_m8 236 rfl) rfl
theorem q2050 : (Jvm.Cond.code ({ cls := "TroupeSums", name := "isPrime", desc := "(I)Z" } : Jvm.MethodName) prog_1_method_27_code (1 : Nat) (Option.some Jvm.ClassFile.FieldType.boolean)) ∈ lw_all := lw_g (lw_at lw_m8 237 rfl) rfl
theorem q2051 : (Jvm.Cond.methodLink "TroupeSums" (228 : Nat) ({ cls := "TroupeSums$Group", name := "residue", desc := "(II)I" } : Jvm.MethodName)) ∈ lw_all := lw_g (lw_at lw_m8 238 rfl) rfl
theorem q2057 : (Jvm.Cond.instanceMethod ({ cls := "TroupeSums", name := "block", desc := "(II)I" } : Jvm.MethodName)) ∈ lw_all := lw_g (lw_at lw_m9 4 rfl) rfl
theorem q2058 : (Jvm.Cond.selects "TroupeSums" ({ cls := "TroupeSums", name := "block", desc := "(II)I" } : Jvm.MethodName) ({ cls := "TroupeSums", name := "block", desc := "(II)I" } : Jvm.MethodName)) ∈ lw_all := lw_g (lw_at lw_m9 5 rfl) rfl
theorem q2059 : (Jvm.Cond.code ({ cls := "TroupeSums", name := "block", desc := "(II)I" } : Jvm.MethodName) prog_1_method_29_code (3 : Nat) (Option.some Jvm.ClassFile.FieldType.int)) ∈ lw_all := lw_g (lw_at lw_m9 6 rfl) rfl
theorem q2060 : (Jvm.Cond.methodLink "TroupeSums" (231 : Nat) ({ cls := "TroupeSums$Group", name := "block", desc := "(II)I" } : Jvm.MethodName)) ∈ lw_all := lw_g (lw_at lw_m9 7 rfl) rfl
theorem q2066 : (Jvm.Cond.instanceMethod ({ cls := "TroupeSums", name := "keeper", desc := "(I)I" } : Jvm.MethodName)) ∈ lw_all := lw_g (lw_at lw_m9 13 rfl) rfl
theorem q2067 : (Jvm.Cond.selects "TroupeSums" ({ cls := "TroupeSums", name := "keeper", desc := "(I)I" } : Jvm.MethodName) ({ cls := "TroupeSums", name := "keeper", desc := "(I)I" } : Jvm.MethodName)) ∈ lw_all := lw_g (lw_at lw_m9 14 rfl) rfl
theorem q2068 : (Jvm.Cond.code ({ cls := "TroupeSums", name := "keeper", desc := "(I)I" } : Jvm.MethodName) prog_1_method_31_code (2 : Nat) (Option.some Jvm.ClassFile.FieldType.int)) ∈ lw_all := lw_g (lw_at lw_m9 15 rfl) rfl
theorem q2069 : (Jvm.Cond.methodLink "TroupeSums" (234 : Nat) ({ cls := "TroupeSums", name := "isPlace", desc := "(I)Z" } : Jvm.MethodName)) ∈ lw_all := lw_g (lw_at lw_m9 16 rfl) rfl
theorem q2070 : (Jvm.Cond.privateMethod ({ cls := "TroupeSums", name := "isPlace", desc := "(I)Z" } : Jvm.MethodName)) ∈ lw_tbl := lw_at lw_m9 17 rfl
theorem q2071 : (Jvm.Cond.instanceMethod ({ cls := "TroupeSums", name := "isPlace", desc := "(I)Z" } : Jvm.MethodName)) ∈ lw_all := lw_g (lw_at lw_m9 18 rfl) rfl
theorem q2072 : (Jvm.Cond.code ({ cls := "TroupeSums", name := "isPlace", desc := "(I)Z" } : Jvm.MethodName) prog_1_method_30_code (2 : Nat) (Option.some Jvm.ClassFile.FieldType.boolean)) ∈ lw_all := lw_g (lw_at lw_m9 19 rfl) rfl
theorem q2073 : (Jvm.Cond.methodLink "TroupeSums" (237 : Nat) ({ cls := "TroupeSums$Group", name := "keeper", desc := "(I)I" } : Jvm.MethodName)) ∈ lw_all := lw_g (lw_at lw_m9 20 rfl) rfl
theorem q2078 : (Jvm.Cond.instanceMethod ({ cls := "TroupeSums", name := "orbit", desc := "(I)I" } : Jvm.MethodName)) ∈ lw_all := lw_g (lw_at lw_m9 25 rfl) rfl
theorem q2079 : (Jvm.Cond.selects "TroupeSums" ({ cls := "TroupeSums", name := "orbit", desc := "(I)I" } : Jvm.MethodName) ({ cls := "TroupeSums", name := "orbit", desc := "(I)I" } : Jvm.MethodName)) ∈ lw_all := lw_g (lw_at lw_m9 26 rfl) rfl
theorem q2080 : (Jvm.Cond.code ({ cls := "TroupeSums", name := "orbit", desc := "(I)I" } : Jvm.MethodName) prog_1_method_32_code (2 : Nat) (Option.some Jvm.ClassFile.FieldType.int)) ∈ lw_all := lw_g (lw_at lw_m9 27 rfl) rfl
theorem q2081 : (Jvm.Cond.methodLink "TroupeSums" (240 : Nat) ({ cls := "TroupeSums$Group", name := "orbit", desc := "(I)I" } : Jvm.MethodName)) ∈ lw_all := lw_g (lw_at lw_m9 28 rfl) rfl
theorem q2086 : (Jvm.Cond.instanceMethod ({ cls := "TroupeSums", name := "coset", desc := "(II)I" } : Jvm.MethodName)) ∈ lw_all := lw_g (lw_at lw_m9 33 rfl) rfl
theorem q2087 : (Jvm.Cond.selects "TroupeSums" ({ cls := "TroupeSums", name := "coset", desc := "(II)I" } : Jvm.MethodName) ({ cls := "TroupeSums", name := "coset", desc := "(II)I" } : Jvm.MethodName)) ∈ lw_all := lw_g (lw_at lw_m9 34 rfl) rfl
theorem q2088 : (Jvm.Cond.code ({ cls := "TroupeSums", name := "coset", desc := "(II)I" } : Jvm.MethodName) prog_1_method_33_code (3 : Nat) (Option.some Jvm.ClassFile.FieldType.int)) ∈ lw_all := lw_g (lw_at lw_m9 35 rfl) rfl
theorem q2089 : (Jvm.Cond.methodLink "TroupeSums" (243 : Nat) ({ cls := "TroupeSums$Group", name := "coset", desc := "(II)I" } : Jvm.MethodName)) ∈ lw_all := lw_g (lw_at lw_m9 36 rfl) rfl
theorem q2094 : (Jvm.Cond.instanceMethod ({ cls := "TroupeSums", name := "takes", desc := "(III)I" } : Jvm.MethodName)) ∈ lw_all := lw_g (lw_at lw_m9 41 rfl) rfl
theorem q2095 : (Jvm.Cond.selects "TroupeSums" ({ cls := "TroupeSums", name := "takes", desc := "(III)I" } : Jvm.MethodName) ({ cls := "TroupeSums", name := "takes", desc := "(III)I" } : Jvm.MethodName)) ∈ lw_all := lw_g (lw_at lw_m9 42 rfl) rfl
theorem q2096 : (Jvm.Cond.code ({ cls := "TroupeSums", name := "takes", desc := "(III)I" } : Jvm.MethodName) prog_1_method_34_code (4 : Nat) (Option.some Jvm.ClassFile.FieldType.int)) ∈ lw_all := lw_g (lw_at lw_m9 43 rfl) rfl
theorem q2098 : (Jvm.Cond.instanceMethod ({ cls := "TroupeSums", name := "moebius", desc := "(I)I" } : Jvm.MethodName)) ∈ lw_all := lw_g (lw_at lw_m9 45 rfl) rfl
theorem q2099 : (Jvm.Cond.selects "TroupeSums" ({ cls := "TroupeSums", name := "moebius", desc := "(I)I" } : Jvm.MethodName) ({ cls := "TroupeSums", name := "moebius", desc := "(I)I" } : Jvm.MethodName)) ∈ lw_all := lw_g (lw_at lw_m9 46 rfl) rfl
theorem q2100 : (Jvm.Cond.code ({ cls := "TroupeSums", name := "moebius", desc := "(I)I" } : Jvm.MethodName) prog_1_method_35_code (2 : Nat) (Option.some Jvm.ClassFile.FieldType.int)) ∈ lw_all := lw_g (lw_at lw_m9 47 rfl) rfl
theorem q2101 : (Jvm.Cond.methodLink "TroupeSums" (246 : Nat) ({ cls := "TroupeSums$Group", name := "moebius", desc := "(I)I" } : Jvm.MethodName)) ∈ lw_all := lw_g (lw_at lw_m9 48 rfl) rfl
theorem q2105 : (Jvm.Cond.constant "TroupeSums" (249 : Nat) (-1000000 : Int32)) ∈ lw_all := lw_g (lw_at lw_m9 52 rfl) rfl
theorem q2107 : (Jvm.Cond.instanceMethod ({ cls := "TroupeSums", name := "mixed", desc := "(I)I" } : Jvm.MethodName)) ∈ lw_all := lw_g (lw_at lw_m9 54 rfl) rfl
theorem q2108 : (Jvm.Cond.selects "TroupeSums" ({ cls := "TroupeSums", name := "mixed", desc := "(I)I" } : Jvm.MethodName) ({ cls := "TroupeSums", name := "mixed", desc := "(I)I" } : Jvm.MethodName)) ∈ lw_all := lw_g (lw_at lw_m9 55 rfl) rfl
theorem q2109 : (Jvm.Cond.code ({ cls := "TroupeSums", name := "mixed", desc := "(I)I" } : Jvm.MethodName) prog_1_method_37_code (2 : Nat) (Option.some Jvm.ClassFile.FieldType.int)) ∈ lw_all := lw_g (lw_at lw_m9 56 rfl) rfl
theorem q2110 : (Jvm.Cond.methodLink "TroupeSums" (250 : Nat) ({ cls := "TroupeSums", name := "firstOf", desc := "(I)I" } : Jvm.MethodName)) ∈ lw_all := lw_g (lw_at lw_m9 57 rfl) rfl
theorem q2111 : (Jvm.Cond.privateMethod ({ cls := "TroupeSums", name := "firstOf", desc := "(I)I" } : Jvm.MethodName)) ∈ lw_tbl := lw_at lw_m9 58 rfl
theorem q2112 : (Jvm.Cond.instanceMethod ({ cls := "TroupeSums", name := "firstOf", desc := "(I)I" } : Jvm.MethodName)) ∈ lw_all := lw_g (lw_at lw_m9 59 rfl) rfl
theorem q2113 : (Jvm.Cond.code ({ cls := "TroupeSums", name := "firstOf", desc := "(I)I" } : Jvm.MethodName) prog_1_method_36_code (2 : Nat) (Option.some Jvm.ClassFile.FieldType.int)) ∈ lw_all := lw_g (lw_at lw_m9 60 rfl) rfl
theorem q2114 : (Jvm.Cond.methodLink "TroupeSums" (253 : Nat) ({ cls := "TroupeSums$Group", name := "mixed", desc := "(I)I" } : Jvm.MethodName)) ∈ lw_all := lw_g (lw_at lw_m9 61 rfl) rfl
theorem q2119 : (Jvm.Cond.instanceMethod ({ cls := "TroupeSums", name := "centre", desc := "(I)I" } : Jvm.MethodName)) ∈ lw_all := lw_g (lw_at lw_m9 66 rfl) rfl
theorem q2120 : (Jvm.Cond.selects "TroupeSums" ({ cls := "TroupeSums", name := "centre", desc := "(I)I" } : Jvm.MethodName) ({ cls := "TroupeSums", name := "centre", desc := "(I)I" } : Jvm.MethodName)) ∈ lw_all := lw_g (lw_at lw_m9 67 rfl) rfl
theorem q2121 : (Jvm.Cond.code ({ cls := "TroupeSums", name := "centre", desc := "(I)I" } : Jvm.MethodName) prog_1_method_38_code (2 : Nat) (Option.some Jvm.ClassFile.FieldType.int)) ∈ lw_all := lw_g (lw_at lw_m9 68 rfl) rfl
theorem q2122 : (Jvm.Cond.methodLink "TroupeSums" (256 : Nat) ({ cls := "TroupeSums$Group", name := "centre", desc := "(I)I" } : Jvm.MethodName)) ∈ lw_all := lw_g (lw_at lw_m9 69 rfl) rfl
theorem q2127 : (Jvm.Cond.instanceMethod ({ cls := "TroupeSums", name := "pairs", desc := "(II)I" } : Jvm.MethodName)) ∈ lw_all := lw_g (lw_at lw_m9 74 rfl) rfl
theorem q2128 : (Jvm.Cond.selects "TroupeSums" ({ cls := "TroupeSums", name := "pairs", desc := "(II)I" } : Jvm.MethodName) ({ cls := "TroupeSums", name := "pairs", desc := "(II)I" } : Jvm.MethodName)) ∈ lw_all := lw_g (lw_at lw_m9 75 rfl) rfl
theorem q2129 : (Jvm.Cond.code ({ cls := "TroupeSums", name := "pairs", desc := "(II)I" } : Jvm.MethodName) prog_1_method_39_code (5 : Nat) (Option.some Jvm.ClassFile.FieldType.int)) ∈ lw_all := lw_g (lw_at lw_m9 76 rfl) rfl
theorem q2130 : (Jvm.Cond.methodLink "TroupeSums" (259 : Nat) ({ cls := "TroupeSums", name := "product", desc := "(III)I" } : Jvm.MethodName)) ∈ lw_all := lw_g (lw_at lw_m9 77 rfl) rfl
theorem q2132 : (Jvm.Cond.instanceMethod ({ cls := "TroupeSums", name := "alike", desc := "()I" } : Jvm.MethodName)) ∈ lw_all := lw_g (lw_at lw_m9 79 rfl) rfl
theorem q2133 : (Jvm.Cond.selects "TroupeSums" ({ cls := "TroupeSums", name := "alike", desc := "()I" } : Jvm.MethodName) ({ cls := "TroupeSums", name := "alike", desc := "()I" } : Jvm.MethodName)) ∈ lw_all := lw_g (lw_at lw_m9 80 rfl) rfl
theorem q2134 : (Jvm.Cond.code ({ cls := "TroupeSums", name := "alike", desc := "()I" } : Jvm.MethodName) prog_1_method_40_code (4 : Nat) (Option.some Jvm.ClassFile.FieldType.int)) ∈ lw_all := lw_g (lw_at lw_m9 81 rfl) rfl
theorem q2135 : (Jvm.Cond.methodLink "TroupeSums" (263 : Nat) ({ cls := "TroupeSums", name := "times", desc := "(II)I" } : Jvm.MethodName)) ∈ lw_all := lw_g (lw_at lw_m9 82 rfl) rfl
theorem q2137 : (Jvm.Cond.instanceMethod ({ cls := "TroupeSums", name := "meet", desc := "(II)I" } : Jvm.MethodName)) ∈ lw_all := lw_g (lw_at lw_m9 84 rfl) rfl
theorem q2138 : (Jvm.Cond.selects "TroupeSums" ({ cls := "TroupeSums", name := "meet", desc := "(II)I" } : Jvm.MethodName) ({ cls := "TroupeSums", name := "meet", desc := "(II)I" } : Jvm.MethodName)) ∈ lw_all := lw_g (lw_at lw_m9 85 rfl) rfl
theorem q2139 : (Jvm.Cond.code ({ cls := "TroupeSums", name := "meet", desc := "(II)I" } : Jvm.MethodName) prog_1_method_41_code (3 : Nat) (Option.some Jvm.ClassFile.FieldType.int)) ∈ lw_all := lw_g (lw_at lw_m9 86 rfl) rfl
theorem q2141 : (Jvm.Cond.instanceMethod ({ cls := "TroupeSums", name := "join", desc := "(II)I" } : Jvm.MethodName)) ∈ lw_all := lw_g (lw_at lw_m9 88 rfl) rfl
theorem q2142 : (Jvm.Cond.selects "TroupeSums" ({ cls := "TroupeSums", name := "join", desc := "(II)I" } : Jvm.MethodName) ({ cls := "TroupeSums", name := "join", desc := "(II)I" } : Jvm.MethodName)) ∈ lw_all := lw_g (lw_at lw_m9 89 rfl) rfl
theorem q2143 : (Jvm.Cond.code ({ cls := "TroupeSums", name := "join", desc := "(II)I" } : Jvm.MethodName) prog_1_method_42_code (3 : Nat) (Option.some Jvm.ClassFile.FieldType.int)) ∈ lw_all := lw_g (lw_at lw_m9 90 rfl) rfl
theorem q2144 : (Jvm.Cond.methodLink "TroupeSums" (265 : Nat) ({ cls := "TroupeSums", name := "sortOf", desc := "(I)I" } : Jvm.MethodName)) ∈ lw_all := lw_g (lw_at lw_m9 91 rfl) rfl
theorem q2146 : (Jvm.Cond.instanceMethod ({ cls := "TroupeSums", name := "orders", desc := "(I)I" } : Jvm.MethodName)) ∈ lw_all := lw_g (lw_at lw_m9 93 rfl) rfl
theorem q2147 : (Jvm.Cond.selects "TroupeSums" ({ cls := "TroupeSums", name := "orders", desc := "(I)I" } : Jvm.MethodName) ({ cls := "TroupeSums", name := "orders", desc := "(I)I" } : Jvm.MethodName)) ∈ lw_all := lw_g (lw_at lw_m9 94 rfl) rfl
theorem q2148 : (Jvm.Cond.code ({ cls := "TroupeSums", name := "orders", desc := "(I)I" } : Jvm.MethodName) prog_1_method_43_code (4 : Nat) (Option.some Jvm.ClassFile.FieldType.int)) ∈ lw_all := lw_g (lw_at lw_m9 95 rfl) rfl
theorem q2149 : (Jvm.Cond.constantLong "TroupeSums" (266 : Nat) (24 : Int64)) ∈ lw_all := lw_g (lw_at lw_m9 96 rfl) rfl
theorem q2150 : (Jvm.Cond.methodLink "TroupeSums" (268 : Nat) ({ cls := "TroupeSums", name := "order", desc := "(I)I" } : Jvm.MethodName)) ∈ lw_all := lw_g (lw_at lw_m9 97 rfl) rfl
theorem q2152 : (Jvm.Cond.instanceMethod ({ cls := "TroupeSums", name := "likes", desc := "(I)I" } : Jvm.MethodName)) ∈ lw_all := lw_g (lw_at lw_m9 99 rfl) rfl
theorem q2153 : (Jvm.Cond.selects "TroupeSums" ({ cls := "TroupeSums", name := "likes", desc := "(I)I" } : Jvm.MethodName) ({ cls := "TroupeSums", name := "likes", desc := "(I)I" } : Jvm.MethodName)) ∈ lw_all := lw_g (lw_at lw_m9 100 rfl) rfl
theorem q2154 : (Jvm.Cond.code ({ cls := "TroupeSums", name := "likes", desc := "(I)I" } : Jvm.MethodName) prog_1_method_44_code (2 : Nat) (Option.some Jvm.ClassFile.FieldType.int)) ∈ lw_all := lw_g (lw_at lw_m9 101 rfl) rfl
theorem q2155 : (Jvm.Cond.methodLink "TroupeSums" (269 : Nat) ({ cls := "TroupeSums$Group", name := "likes", desc := "(I)I" } : Jvm.MethodName)) ∈ lw_all := lw_g (lw_at lw_m9 102 rfl) rfl
theorem q2160 : (Jvm.Cond.instanceMethod ({ cls := "TroupeSums", name := "peak", desc := "(III)I" } : Jvm.MethodName)) ∈ lw_all := lw_g (lw_at lw_m9 107 rfl) rfl
theorem q2161 : (Jvm.Cond.selects "TroupeSums" ({ cls := "TroupeSums", name := "peak", desc := "(III)I" } : Jvm.MethodName) ({ cls := "TroupeSums", name := "peak", desc := "(III)I" } : Jvm.MethodName)) ∈ lw_all := lw_g (lw_at lw_m9 108 rfl) rfl
theorem q2162 : (Jvm.Cond.code ({ cls := "TroupeSums", name := "peak", desc := "(III)I" } : Jvm.MethodName) prog_1_method_46_code (4 : Nat) (Option.some Jvm.ClassFile.FieldType.int)) ∈ lw_all := lw_g (lw_at lw_m9 109 rfl) rfl
theorem q2163 : (Jvm.Cond.methodLink "TroupeSums" (276 : Nat) ({ cls := "TroupeSums", name := "part", desc := "(III)I" } : Jvm.MethodName)) ∈ lw_all := lw_g (lw_at lw_m9 110 rfl) rfl
theorem q2164 : (Jvm.Cond.privateMethod ({ cls := "TroupeSums", name := "part", desc := "(III)I" } : Jvm.MethodName)) ∈ lw_tbl := lw_at lw_m9 111 rfl
theorem q2165 : (Jvm.Cond.instanceMethod ({ cls := "TroupeSums", name := "part", desc := "(III)I" } : Jvm.MethodName)) ∈ lw_all := lw_g (lw_at lw_m9 112 rfl) rfl
theorem q2166 : (Jvm.Cond.code ({ cls := "TroupeSums", name := "part", desc := "(III)I" } : Jvm.MethodName) prog_1_method_45_code (4 : Nat) (Option.some Jvm.ClassFile.FieldType.int)) ∈ lw_all := lw_g (lw_at lw_m9 113 rfl) rfl
theorem q2167 : (Jvm.Cond.methodLink "TroupeSums" (272 : Nat) ({ cls := "TroupeSums$Group", name := "peak", desc := "(I)[[J" } : Jvm.MethodName)) ∈ lw_all := lw_g (lw_at lw_m9 114 rfl) rfl
theorem q2180 : (Jvm.Cond.static ({ cls := "TroupeSums", name := "common", desc := "(JJ)J" } : Jvm.MethodName)) ∈ lw_all := lw_g (lw_at lw_m9 127 rfl) rfl
theorem q2181 : (Jvm.Cond.code ({ cls := "TroupeSums", name := "common", desc := "(JJ)J" } : Jvm.MethodName) prog_1_method_3_code (10 : Nat) (Option.some Jvm.ClassFile.FieldType.long)) ∈ lw_all := lw_g (lw_at lw_m9 128 rfl) rfl
theorem q2182 : (Jvm.Cond.methodLink "TroupeSums" (1 : Nat) ({ cls := "java/lang/Math", name := "abs", desc := "(J)J" } : Jvm.MethodName)) ∈ lw_all := lw_g (lw_at lw_m9 129 rfl) rfl
theorem q2184 : (Jvm.Cond.instanceMethod ({ cls := "TroupeSums", name := "local", desc := "(IIII)I" } : Jvm.MethodName)) ∈ lw_all := lw_g (lw_at lw_m9 131 rfl) rfl
theorem q2185 : (Jvm.Cond.selects "TroupeSums" ({ cls := "TroupeSums", name := "local", desc := "(IIII)I" } : Jvm.MethodName) ({ cls := "TroupeSums", name := "local", desc := "(IIII)I" } : Jvm.MethodName)) ∈ lw_all := lw_g (lw_at lw_m9 132 rfl) rfl
theorem q2186 : (Jvm.Cond.code ({ cls := "TroupeSums", name := "local", desc := "(IIII)I" } : Jvm.MethodName) prog_1_method_47_code (5 : Nat) (Option.some Jvm.ClassFile.FieldType.int)) ∈ lw_all := lw_g (lw_at lw_m9 133 rfl) rfl
theorem q2188 : (Jvm.Cond.instanceMethod ({ cls := "TroupeSums", name := "units", desc := "()I" } : Jvm.MethodName)) ∈ lw_all := lw_g (lw_at lw_m9 135 rfl) rfl
theorem q2189 : (Jvm.Cond.selects "TroupeSums" ({ cls := "TroupeSums", name := "units", desc := "()I" } : Jvm.MethodName) ({ cls := "TroupeSums", name := "units", desc := "()I" } : Jvm.MethodName)) ∈ lw_all := lw_g (lw_at lw_m9 136 rfl) rfl
theorem q2190 : (Jvm.Cond.code ({ cls := "TroupeSums", name := "units", desc := "()I" } : Jvm.MethodName) prog_1_method_49_code (1 : Nat) (Option.some Jvm.ClassFile.FieldType.int)) ∈ lw_all := lw_g (lw_at lw_m9 137 rfl) rfl
theorem q2191 : (Jvm.Cond.methodLink "TroupeSums" (288 : Nat) ({ cls := "TroupeSums", name := "allUnits", desc := "()Ljava/util/List;" } : Jvm.MethodName)) ∈ lw_all := lw_g (lw_at lw_m9 138 rfl) rfl
theorem q2192 : (Jvm.Cond.privateMethod ({ cls := "TroupeSums", name := "allUnits", desc := "()Ljava/util/List;" } : Jvm.MethodName)) ∈ lw_tbl := lw_at lw_m9 139 rfl
theorem q2193 : (Jvm.Cond.instanceMethod ({ cls := "TroupeSums", name := "allUnits", desc := "()Ljava/util/List;" } : Jvm.MethodName)) ∈ lw_all := lw_g (lw_at lw_m9 140 rfl) rfl
theorem q2194 : (Jvm.Cond.code ({ cls := "TroupeSums", name := "allUnits", desc := "()Ljava/util/List;" } : Jvm.MethodName) prog_1_method_48_code (1 : Nat) (Option.some (Jvm.ClassFile.FieldType.object "java/util/List"))) ∈ lw_all := lw_g (lw_at lw_m9 141 rfl) rfl
theorem q2195 : (Jvm.Cond.classLink "TroupeSums" (279 : Nat) "TroupeSums$Seeker") ∈ lw_all := lw_g (lw_at lw_m9 142 rfl) rfl
theorem q2197 : (Jvm.Cond.methodLink "TroupeSums" (281 : Nat) ({ cls := "TroupeSums$Seeker", name := "<init>", desc := "(LTroupeSums$Group;)V" } : Jvm.MethodName)) ∈ lw_all := lw_g (lw_at lw_m9 144 rfl) rfl
theorem q2220 : (Jvm.Cond.methodLink "TroupeSums" (284 : Nat) ({ cls := "TroupeSums$Seeker", name := "all", desc := "()Ljava/util/List;" } : Jvm.MethodName)) ∈ lw_all := lw_g (lw_at lw_m9 167 rfl) rfl
theorem q2235 : (Jvm.Cond.fieldLinkNest "TroupeSums" (295 : Nat) "TroupeSums$Signs" "bits" "I" "TroupeSums") ∈ lw_tbl := lw_at lw_m9 182 rfl
theorem q2248 : (Jvm.Cond.instanceMethod ({ cls := "TroupeSums", name := "unit", desc := "(II)I" } : Jvm.MethodName)) ∈ lw_all := lw_g (lw_at lw_m9 195 rfl) rfl
theorem q2249 : (Jvm.Cond.selects "TroupeSums" ({ cls := "TroupeSums", name := "unit", desc := "(II)I" } : Jvm.MethodName) ({ cls := "TroupeSums", name := "unit", desc := "(II)I" } : Jvm.MethodName)) ∈ lw_all := lw_g (lw_at lw_m9 196 rfl) rfl
theorem q2250 : (Jvm.Cond.code ({ cls := "TroupeSums", name := "unit", desc := "(II)I" } : Jvm.MethodName) prog_1_method_50_code (5 : Nat) (Option.some Jvm.ClassFile.FieldType.int)) ∈ lw_all := lw_g (lw_at lw_m9 197 rfl) rfl
theorem q2251 : (Jvm.Cond.methodLink "TroupeSums" (291 : Nat) ({ cls := "TroupeSums", name := "units", desc := "()I" } : Jvm.MethodName)) ∈ lw_all := lw_g (lw_at lw_m9 198 rfl) rfl
theorem q2252 : (Jvm.Cond.classLink "TroupeSums" (293 : Nat) "TroupeSums$Signs") ∈ lw_all := lw_g (lw_at lw_m9 199 rfl) rfl
theorem q2253 : (Jvm.Cond.methodLink "TroupeSums" (298 : Nat) ({ cls := "TroupeSums", name := "isOf", desc := "(JI)Z" } : Jvm.MethodName)) ∈ lw_all := lw_g (lw_at lw_m9 200 rfl) rfl
theorem q2254 : (Jvm.Cond.constantLong "TroupeSums" (302 : Nat) (-1 : Int64)) ∈ lw_all := lw_g (lw_at lw_m9 201 rfl) rfl
theorem q2255 : (Jvm.Cond.methodLink "TroupeSums" (304 : Nat) ({ cls := "TroupeSums$Group", name := "solved", desc := "([J)[J" } : Jvm.MethodName)) ∈ lw_all := lw_g (lw_at lw_m9 202 rfl) rfl
theorem q2257 : (Jvm.Cond.instanceMethod ({ cls := "TroupeSums", name := "named", desc := "(II)J" } : Jvm.MethodName)) ∈ lw_all := lw_g (lw_at lw_m9 204 rfl) rfl
theorem q2258 : (Jvm.Cond.selects "TroupeSums" ({ cls := "TroupeSums", name := "named", desc := "(II)J" } : Jvm.MethodName) ({ cls := "TroupeSums", name := "named", desc := "(II)J" } : Jvm.MethodName)) ∈ lw_all := lw_g (lw_at lw_m9 205 rfl) rfl
theorem q2259 : (Jvm.Cond.code ({ cls := "TroupeSums", name := "named", desc := "(II)J" } : Jvm.MethodName) prog_1_method_52_code (3 : Nat) (Option.some Jvm.ClassFile.FieldType.long)) ∈ lw_all := lw_g (lw_at lw_m9 206 rfl) rfl
theorem q2260 : (Jvm.Cond.classLink "TroupeSums" (212 : Nat) "TroupeSums$Sum") ∈ lw_all := lw_g (lw_at lw_m9 207 rfl) rfl
theorem q2261 : (Jvm.Cond.methodLink "TroupeSums" (323 : Nat) ({ cls := "TroupeSums", name := "numberOf", desc := "([JI)J" } : Jvm.MethodName)) ∈ lw_all := lw_g (lw_at lw_m9 208 rfl) rfl
theorem q2262 : (Jvm.Cond.static ({ cls := "TroupeSums", name := "numberOf", desc := "([JI)J" } : Jvm.MethodName)) ∈ lw_all := lw_g (lw_at lw_m9 209 rfl) rfl
theorem q2263 : (Jvm.Cond.codeWith ({ cls := "TroupeSums", name := "numberOf", desc := "([JI)J" } : Jvm.MethodName) prog_1_method_51_code (4 : Nat) (Option.some Jvm.ClassFile.FieldType.long) [((4 : Nat), (12 : Nat), (15 : Nat), (314 : Nat))]) ∈ lw_all := lw_g (lw_at lw_m9 210 rfl) rfl
theorem q2264 : (Jvm.Cond.classLink "TroupeSums" (314 : Nat) "java/lang/IndexOutOfBoundsException") ∈ lw_all := lw_g (lw_at lw_m9 211 rfl) rfl
theorem q2265 : (Jvm.Cond.methodLink "TroupeSums" (308 : Nat) ({ cls := "java/lang/System", name := "arraycopy", desc := "(Ljava/lang/Object;ILjava/lang/Object;II)V" } : Jvm.MethodName)) ∈ lw_all := lw_g (lw_at lw_m9 212 rfl) rfl
theorem q2266 : (Jvm.Cond.constantLong "TroupeSums" (318 : Nat) (-9223372036854775808 : Int64)) ∈ lw_all := lw_g (lw_at lw_m9 213 rfl) rfl
theorem q2268 : (Jvm.Cond.instanceMethod ({ cls := "TroupeSums", name := "has", desc := "(I)J" } : Jvm.MethodName)) ∈ lw_all := lw_g (lw_at lw_m9 215 rfl) rfl
theorem q2269 : (Jvm.Cond.selects "TroupeSums" ({ cls := "TroupeSums", name := "has", desc := "(I)J" } : Jvm.MethodName) ({ cls := "TroupeSums", name := "has", desc := "(I)J" } : Jvm.MethodName)) ∈ lw_all := lw_g (lw_at lw_m9 216 rfl) rfl
theorem q2270 : (Jvm.Cond.code ({ cls := "TroupeSums", name := "has", desc := "(I)J" } : Jvm.MethodName) prog_1_method_53_code (2 : Nat) (Option.some Jvm.ClassFile.FieldType.long)) ∈ lw_all := lw_g (lw_at lw_m9 217 rfl) rfl
theorem q2272 : (Jvm.Cond.instanceMethod ({ cls := "TroupeSums", name := "marked", desc := "(I)J" } : Jvm.MethodName)) ∈ lw_all := lw_g (lw_at lw_m9 219 rfl) rfl
theorem q2273 : (Jvm.Cond.selects "TroupeSums" ({ cls := "TroupeSums", name := "marked", desc := "(I)J" } : Jvm.MethodName) ({ cls := "TroupeSums", name := "marked", desc := "(I)J" } : Jvm.MethodName)) ∈ lw_all := lw_g (lw_at lw_m9 220 rfl) rfl
theorem q2274 : (Jvm.Cond.code ({ cls := "TroupeSums", name := "marked", desc := "(I)J" } : Jvm.MethodName) prog_1_method_55_code (2 : Nat) (Option.some Jvm.ClassFile.FieldType.long)) ∈ lw_all := lw_g (lw_at lw_m9 221 rfl) rfl
theorem q2275 : (Jvm.Cond.methodLink "TroupeSums" (330 : Nat) ({ cls := "TroupeSums", name := "marksNow", desc := "()[J" } : Jvm.MethodName)) ∈ lw_all := lw_g (lw_at lw_m9 222 rfl) rfl
theorem q2276 : (Jvm.Cond.privateMethod ({ cls := "TroupeSums", name := "marksNow", desc := "()[J" } : Jvm.MethodName)) ∈ lw_tbl := lw_at lw_m9 223 rfl
theorem q2277 : (Jvm.Cond.instanceMethod ({ cls := "TroupeSums", name := "marksNow", desc := "()[J" } : Jvm.MethodName)) ∈ lw_all := lw_g (lw_at lw_m9 224 rfl) rfl
theorem q2278 : (Jvm.Cond.code ({ cls := "TroupeSums", name := "marksNow", desc := "()[J" } : Jvm.MethodName) prog_1_method_54_code (1 : Nat) (Option.some (Jvm.ClassFile.FieldType.array Jvm.ClassFile.FieldType.long))) ∈ lw_all := lw_g (lw_at lw_m9 225 rfl) rfl
theorem q2279 : (Jvm.Cond.methodLink "TroupeSums" (327 : Nat) ({ cls := "TroupeSums$Group", name := "marksOf", desc := "([J)[J" } : Jvm.MethodName)) ∈ lw_all := lw_g (lw_at lw_m9 226 rfl) rfl
theorem q2281 : (Jvm.Cond.instanceMethod ({ cls := "TroupeSums", name := "character", desc := "(I)J" } : Jvm.MethodName)) ∈ lw_all := lw_g (lw_at lw_m9 228 rfl) rfl
theorem q2282 : (Jvm.Cond.selects "TroupeSums" ({ cls := "TroupeSums", name := "character", desc := "(I)J" } : Jvm.MethodName) ({ cls := "TroupeSums", name := "character", desc := "(I)J" } : Jvm.MethodName)) ∈ lw_all := lw_g (lw_at lw_m9 229 rfl) rfl
theorem q2283 : (Jvm.Cond.code ({ cls := "TroupeSums", name := "character", desc := "(I)J" } : Jvm.MethodName) prog_1_method_56_code (2 : Nat) (Option.some Jvm.ClassFile.FieldType.long)) ∈ lw_all := lw_g (lw_at lw_m9 230 rfl) rfl
theorem q2284 : (Jvm.Cond.methodLink "TroupeSums" (334 : Nat) ({ cls := "TroupeSums", name := "marked", desc := "(I)J" } : Jvm.MethodName)) ∈ lw_all := lw_g (lw_at lw_m9 231 rfl) rfl
theorem q2286 : (Jvm.Cond.instanceMethod ({ cls := "TroupeSums", name := "parts", desc := "()I" } : Jvm.MethodName)) ∈ lw_all := lw_g (lw_at lw_m9 233 rfl) rfl
theorem q2287 : (Jvm.Cond.selects "TroupeSums" ({ cls := "TroupeSums", name := "parts", desc := "()I" } : Jvm.MethodName) ({ cls := "TroupeSums", name := "parts", desc := "()I" } : Jvm.MethodName)) ∈ lw_all := lw_g (lw_at lw_m9 234 rfl) rfl
theorem q2288 : (Jvm.Cond.code ({ cls := "TroupeSums", name := "parts", desc := "()I" } : Jvm.MethodName) prog_1_method_57_code (7 : Nat) (Option.some Jvm.ClassFile.FieldType.int)) ∈ lw_all := lw_g (lw_at lw_m9 235 rfl) rfl
theorem q2290 : (Jvm.Cond.instanceMethod ({ cls := "TroupeSums", name := "congruence", desc := "(I)J" } : Jvm.MethodName)) ∈ lw_all := lw_g (lw_at lw_m9 237 rfl) rfl
theorem q2291 : (Jvm.Cond.selects "TroupeSums" ({ cls := "TroupeSums", name := "congruence", desc := "(I)J" } : Jvm.MethodName) ({ cls := "TroupeSums", name := "congruence", desc := "(I)J" } : Jvm.MethodName)) ∈ lw_all := lw_g (lw_at lw_m9 238 rfl) rfl
theorem q2292 : (Jvm.Cond.code ({ cls := "TroupeSums", name := "congruence", desc := "(I)J" } : Jvm.MethodName) prog_1_method_58_code (2 : Nat) (Option.some Jvm.ClassFile.FieldType.long)) ∈ lw_all := lw_g (lw_at lw_m9 239 rfl) rfl
theorem q2293 : (Jvm.Cond.methodLink "TroupeSums" (338 : Nat) ({ cls := "TroupeSums$Group", name := "congruence", desc := "([JI)J" } : Jvm.MethodName)) ∈ lw_all := lw_g (lw_at lw_m10 0 rfl) rfl
theorem q2297 : (Jvm.Cond.methodLink "TroupeSums" (341 : Nat) ({ cls := "TroupeSums$Group", name := "cosets", desc := "(I)I" } : Jvm.MethodName)) ∈ lw_all := lw_g (lw_at lw_m10 4 rfl) rfl
theorem q2302 : (Jvm.Cond.instanceMethod ({ cls := "TroupeSums", name := "is", desc := "(I)I" } : Jvm.MethodName)) ∈ lw_all := lw_g (lw_at lw_m10 9 rfl) rfl
theorem q2303 : (Jvm.Cond.selects "TroupeSums" ({ cls := "TroupeSums", name := "is", desc := "(I)I" } : Jvm.MethodName) ({ cls := "TroupeSums", name := "is", desc := "(I)I" } : Jvm.MethodName)) ∈ lw_all := lw_g (lw_at lw_m10 10 rfl) rfl
theorem q2304 : (Jvm.Cond.code ({ cls := "TroupeSums", name := "is", desc := "(I)I" } : Jvm.MethodName) prog_1_method_59_code (9 : Nat) (Option.some Jvm.ClassFile.FieldType.int)) ∈ lw_all := lw_g (lw_at lw_m10 11 rfl) rfl
theorem q2305 : (Jvm.Cond.constantLong "TroupeSums" (344 : Nat) (3 : Int64)) ∈ lw_all := lw_g (lw_at lw_m10 12 rfl) rfl
theorem q2307 : (Jvm.Cond.instanceMethod ({ cls := "TroupeSums", name := "makes", desc := "()I" } : Jvm.MethodName)) ∈ lw_all := lw_g (lw_at lw_m10 14 rfl) rfl
theorem q2308 : (Jvm.Cond.selects "TroupeSums" ({ cls := "TroupeSums", name := "makes", desc := "()I" } : Jvm.MethodName) ({ cls := "TroupeSums", name := "makes", desc := "()I" } : Jvm.MethodName)) ∈ lw_all := lw_g (lw_at lw_m10 15 rfl) rfl
theorem q2309 : (Jvm.Cond.codeWith ({ cls := "TroupeSums", name := "makes", desc := "()I" } : Jvm.MethodName) prog_1_method_61_code (2 : Nat) (Option.some Jvm.ClassFile.FieldType.int) [((4 : Nat), (43 : Nat), (44 : Nat), (368 : Nat))]) ∈ lw_all := lw_g (lw_at lw_m10 16 rfl) rfl
theorem q2310 : (Jvm.Cond.classLink "TroupeSums" (368 : Nat) "TroupeSums$LineWrong") ∈ lw_all := lw_g (lw_at lw_m10 17 rfl) rfl
theorem q2311 : (Jvm.Cond.methodLink "TroupeSums" (354 : Nat) ({ cls := "TroupeSums$Reader", name := "alone", desc := "(LTroupeSums$Troupe;)LTroupeSums$Sum;" } : Jvm.MethodName)) ∈ lw_all := lw_g (lw_at lw_m10 18 rfl) rfl
theorem q2315 : (Jvm.Cond.methodLink "TroupeSums" (357 : Nat) ({ cls := "[J", name := "clone", desc := "()Ljava/lang/Object;" } : Jvm.MethodName)) ∈ lw_all := lw_g (lw_at lw_m10 22 rfl) rfl
theorem q2316 : (Jvm.Cond.classLink "TroupeSums" (358 : Nat) "[J") ∈ lw_all := lw_g (lw_at lw_m10 23 rfl) rfl
theorem q2317 : (Jvm.Cond.methodLink "TroupeSums" (361 : Nat) ({ cls := "TroupeSums", name := "becomes", desc := "([J)V" } : Jvm.MethodName)) ∈ lw_all := lw_g (lw_at lw_m10 24 rfl) rfl
theorem q2318 : (Jvm.Cond.privateMethod ({ cls := "TroupeSums", name := "becomes", desc := "([J)V" } : Jvm.MethodName)) ∈ lw_tbl := lw_at lw_m10 25 rfl
theorem q2319 : (Jvm.Cond.instanceMethod ({ cls := "TroupeSums", name := "becomes", desc := "([J)V" } : Jvm.MethodName)) ∈ lw_all := lw_g (lw_at lw_m10 26 rfl) rfl
theorem q2320 : (Jvm.Cond.code ({ cls := "TroupeSums", name := "becomes", desc := "([J)V" } : Jvm.MethodName) prog_1_method_60_code (2 : Nat) (Option.none : Option Jvm.ClassFile.FieldType)) ∈ lw_all := lw_g (lw_at lw_m10 27 rfl) rfl
theorem q2321 : (Jvm.Cond.methodLink "TroupeSums" (346 : Nat) ({ cls := "java/util/ArrayDeque", name := "addLast", desc := "(Ljava/lang/Object;)V" } : Jvm.MethodName)) ∈ lw_all := lw_g (lw_at lw_m10 28 rfl) rfl
theorem q2340 : (Jvm.Cond.methodLink "TroupeSums" (350 : Nat) ({ cls := "java/util/ArrayDeque", name := "removeFirst", desc := "()Ljava/lang/Object;" } : Jvm.MethodName)) ∈ lw_all := lw_g (lw_at lw_m10 47 rfl) rfl
theorem q2351 : (Jvm.Cond.methodLink "TroupeSums" (365 : Nat) ({ cls := "TroupeSums", name := "parts", desc := "()I" } : Jvm.MethodName)) ∈ lw_all := lw_g (lw_at lw_m10 58 rfl) rfl
theorem q2352 : (Jvm.Cond.methodLink "TroupeSums" (370 : Nat) ({ cls := "TroupeSums$LineWrong", name := "getCause", desc := "()Ljava/lang/Throwable;" } : Jvm.MethodName)) ∈ lw_all := lw_g (lw_at lw_m10 59 rfl) rfl
theorem q2355 : (Jvm.Cond.classLink "TroupeSums" (76 : Nat) "TroupeSums$Wrong") ∈ lw_all := lw_g (lw_at lw_m10 62 rfl) rfl
theorem q2357 : (Jvm.Cond.instanceMethod ({ cls := "TroupeSums", name := "take", desc := "(II)I" } : Jvm.MethodName)) ∈ lw_all := lw_g (lw_at lw_m10 64 rfl) rfl
theorem q2358 : (Jvm.Cond.selects "TroupeSums" ({ cls := "TroupeSums", name := "take", desc := "(II)I" } : Jvm.MethodName) ({ cls := "TroupeSums", name := "take", desc := "(II)I" } : Jvm.MethodName)) ∈ lw_all := lw_g (lw_at lw_m10 65 rfl) rfl
theorem q2359 : (Jvm.Cond.code ({ cls := "TroupeSums", name := "take", desc := "(II)I" } : Jvm.MethodName) prog_1_method_65_code (6 : Nat) (Option.some Jvm.ClassFile.FieldType.int)) ∈ lw_all := lw_g (lw_at lw_m10 66 rfl) rfl
theorem q2360 : (Jvm.Cond.constantLong "TroupeSums" (380 : Nat) (2 : Int64)) ∈ lw_all := lw_g (lw_at lw_m10 67 rfl) rfl
theorem q2361 : (Jvm.Cond.constantLong "TroupeSums" (382 : Nat) (6 : Int64)) ∈ lw_all := lw_g (lw_at lw_m10 68 rfl) rfl
theorem q2362 : (Jvm.Cond.methodLink "TroupeSums" (384 : Nat) ({ cls := "TroupeSums", name := "orbits", desc := "(IZ)I" } : Jvm.MethodName)) ∈ lw_all := lw_g (lw_at lw_m10 69 rfl) rfl
theorem q2363 : (Jvm.Cond.privateMethod ({ cls := "TroupeSums", name := "orbits", desc := "(IZ)I" } : Jvm.MethodName)) ∈ lw_tbl := lw_at lw_m10 70 rfl
theorem q2364 : (Jvm.Cond.instanceMethod ({ cls := "TroupeSums", name := "orbits", desc := "(IZ)I" } : Jvm.MethodName)) ∈ lw_all := lw_g (lw_at lw_m10 71 rfl) rfl
theorem q2365 : (Jvm.Cond.code ({ cls := "TroupeSums", name := "orbits", desc := "(IZ)I" } : Jvm.MethodName) prog_1_method_62_code (9 : Nat) (Option.some Jvm.ClassFile.FieldType.int)) ∈ lw_all := lw_g (lw_at lw_m10 72 rfl) rfl
theorem q2366 : (Jvm.Cond.methodLink "TroupeSums" (374 : Nat) ({ cls := "java/lang/Math", name := "min", desc := "(II)I" } : Jvm.MethodName)) ∈ lw_all := lw_g (lw_at lw_m10 73 rfl) rfl
theorem q2367 : (Jvm.Cond.methodLink "TroupeSums" (377 : Nat) ({ cls := "java/lang/Math", name := "max", desc := "(II)I" } : Jvm.MethodName)) ∈ lw_all := lw_g (lw_at lw_m10 74 rfl) rfl
theorem q2368 : (Jvm.Cond.methodLink "TroupeSums" (388 : Nat) ({ cls := "TroupeSums", name := "setsOf", desc := "(II)I" } : Jvm.MethodName)) ∈ lw_all := lw_g (lw_at lw_m10 75 rfl) rfl
theorem q2369 : (Jvm.Cond.privateMethod ({ cls := "TroupeSums", name := "setsOf", desc := "(II)I" } : Jvm.MethodName)) ∈ lw_tbl := lw_at lw_m10 76 rfl
theorem q2370 : (Jvm.Cond.instanceMethod ({ cls := "TroupeSums", name := "setsOf", desc := "(II)I" } : Jvm.MethodName)) ∈ lw_all := lw_g (lw_at lw_m10 77 rfl) rfl
theorem q2371 : (Jvm.Cond.code ({ cls := "TroupeSums", name := "setsOf", desc := "(II)I" } : Jvm.MethodName) prog_1_method_63_code (8 : Nat) (Option.some Jvm.ClassFile.FieldType.int)) ∈ lw_all := lw_g (lw_at lw_m10 78 rfl) rfl
theorem q2372 : (Jvm.Cond.methodLink "TroupeSums" (391 : Nat) ({ cls := "TroupeSums", name := "power", desc := "(II)I" } : Jvm.MethodName)) ∈ lw_all := lw_g (lw_at lw_m10 79 rfl) rfl
theorem q2373 : (Jvm.Cond.static ({ cls := "TroupeSums", name := "power", desc := "(II)I" } : Jvm.MethodName)) ∈ lw_all := lw_g (lw_at lw_m10 80 rfl) rfl
theorem q2374 : (Jvm.Cond.code ({ cls := "TroupeSums", name := "power", desc := "(II)I" } : Jvm.MethodName) prog_1_method_64_code (4 : Nat) (Option.some Jvm.ClassFile.FieldType.int)) ∈ lw_all := lw_g (lw_at lw_m10 81 rfl) rfl
theorem q2376 : (Jvm.Cond.instanceMethod ({ cls := "TroupeSums", name := "marks", desc := "()I" } : Jvm.MethodName)) ∈ lw_all := lw_g (lw_at lw_m10 83 rfl) rfl
theorem q2377 : (Jvm.Cond.selects "TroupeSums" ({ cls := "TroupeSums", name := "marks", desc := "()I" } : Jvm.MethodName) ({ cls := "TroupeSums", name := "marks", desc := "()I" } : Jvm.MethodName)) ∈ lw_all := lw_g (lw_at lw_m10 84 rfl) rfl
theorem q2378 : (Jvm.Cond.code ({ cls := "TroupeSums", name := "marks", desc := "()I" } : Jvm.MethodName) prog_1_method_66_code (10 : Nat) (Option.some Jvm.ClassFile.FieldType.int)) ∈ lw_all := lw_g (lw_at lw_m10 85 rfl) rfl
theorem q2379 : (Jvm.Cond.constantLong "TroupeSums" (394 : Nat) (48 : Int64)) ∈ lw_all := lw_g (lw_at lw_m10 86 rfl) rfl
theorem q2380 : (Jvm.Cond.constantLong "TroupeSums" (396 : Nat) (57 : Int64)) ∈ lw_all := lw_g (lw_at lw_m10 87 rfl) rfl
theorem q2381 : (Jvm.Cond.constantLong "TroupeSums" (398 : Nat) (10 : Int64)) ∈ lw_all := lw_g (lw_at lw_m10 88 rfl) rfl
theorem q2382 : (Jvm.Cond.methodLink "TroupeSums" (400 : Nat) ({ cls := "TroupeSums$Group", name := "firstWrong", desc := "([J)I" } : Jvm.MethodName)) ∈ lw_all := lw_g (lw_at lw_m10 89 rfl) rfl
theorem q2389 : (Jvm.Cond.instanceMethod ({ cls := "TroupeSums", name := "uses", desc := "(I)I" } : Jvm.MethodName)) ∈ lw_all := lw_g (lw_at lw_m10 96 rfl) rfl
theorem q2390 : (Jvm.Cond.selects "TroupeSums" ({ cls := "TroupeSums", name := "uses", desc := "(I)I" } : Jvm.MethodName) ({ cls := "TroupeSums", name := "uses", desc := "(I)I" } : Jvm.MethodName)) ∈ lw_all := lw_g (lw_at lw_m10 97 rfl) rfl
theorem q2391 : (Jvm.Cond.code ({ cls := "TroupeSums", name := "uses", desc := "(I)I" } : Jvm.MethodName) prog_1_method_67_code (2 : Nat) (Option.some Jvm.ClassFile.FieldType.int)) ∈ lw_all := lw_g (lw_at lw_m10 98 rfl) rfl
theorem q2393 : (Jvm.Cond.instanceMethod ({ cls := "TroupeSums", name := "grows", desc := "(III)J" } : Jvm.MethodName)) ∈ lw_all := lw_g (lw_at lw_m10 100 rfl) rfl
theorem q2394 : (Jvm.Cond.selects "TroupeSums" ({ cls := "TroupeSums", name := "grows", desc := "(III)J" } : Jvm.MethodName) ({ cls := "TroupeSums", name := "grows", desc := "(III)J" } : Jvm.MethodName)) ∈ lw_all := lw_g (lw_at lw_m10 101 rfl) rfl
theorem q2395 : (Jvm.Cond.codeWith ({ cls := "TroupeSums", name := "grows", desc := "(III)J" } : Jvm.MethodName) prog_1_method_68_code (6 : Nat) (Option.some Jvm.ClassFile.FieldType.long) [((93 : Nat), (116 : Nat), (119 : Nat), (223 : Nat))]) ∈ lw_all := lw_g (lw_at lw_m10 102 rfl) rfl
theorem q2396 : (Jvm.Cond.constantLong "TroupeSums" (404 : Nat) (-9 : Int64)) ∈ lw_all := lw_g (lw_at lw_m10 103 rfl) rfl
theorem q2397 : (Jvm.Cond.constantLong "TroupeSums" (406 : Nat) (9 : Int64)) ∈ lw_all := lw_g (lw_at lw_m10 104 rfl) rfl
theorem q2398 : (Jvm.Cond.constantLong "TroupeSums" (408 : Nat) (-999 : Int64)) ∈ lw_all := lw_g (lw_at lw_m10 105 rfl) rfl
theorem q2399 : (Jvm.Cond.constantLong "TroupeSums" (410 : Nat) (999 : Int64)) ∈ lw_all := lw_g (lw_at lw_m10 106 rfl) rfl
theorem q2400 : (Jvm.Cond.methodLink "TroupeSums" (412 : Nat) ({ cls := "TroupeSums$Sum", name := "<init>", desc := "(LTroupeSums$Group;[J)V" } : Jvm.MethodName)) ∈ lw_all := lw_g (lw_at lw_m10 107 rfl) rfl
theorem q2402 : (Jvm.Cond.instanceMethod ({ cls := "TroupeSums", name := "undo", desc := "()I" } : Jvm.MethodName)) ∈ lw_all := lw_g (lw_at lw_m10 109 rfl) rfl
theorem q2403 : (Jvm.Cond.selects "TroupeSums" ({ cls := "TroupeSums", name := "undo", desc := "()I" } : Jvm.MethodName) ({ cls := "TroupeSums", name := "undo", desc := "()I" } : Jvm.MethodName)) ∈ lw_all := lw_g (lw_at lw_m10 110 rfl) rfl
theorem q2404 : (Jvm.Cond.code ({ cls := "TroupeSums", name := "undo", desc := "()I" } : Jvm.MethodName) prog_1_method_69_code (1 : Nat) (Option.some Jvm.ClassFile.FieldType.int)) ∈ lw_all := lw_g (lw_at lw_m10 111 rfl) rfl
theorem q2405 : (Jvm.Cond.methodLink "TroupeSums" (415 : Nat) ({ cls := "java/util/ArrayDeque", name := "isEmpty", desc := "()Z" } : Jvm.MethodName)) ∈ lw_all := lw_g (lw_at lw_m10 112 rfl) rfl
theorem q2409 : (Jvm.Cond.methodLink "TroupeSums" (419 : Nat) ({ cls := "java/util/ArrayDeque", name := "removeLast", desc := "()Ljava/lang/Object;" } : Jvm.MethodName)) ∈ lw_all := lw_g (lw_at lw_m10 116 rfl) rfl
theorem q3182 : (Jvm.Cond.castable "TroupeSums" "java/lang/Object") ∈ lw_tbl := lw_at lw_m13 169 rfl
theorem in_X0 : ∀ w ∈ wsX00, w ∈ lw_all := lw_in wsX00 [1243, 1245, 1247, 1249, 1251, 1253, 1255, 1257] (by decide +kernel) (by decide +kernel)
/-! TroupeSums$Troupe -/
set_option maxRecDepth 100000
def RX1 : String := "TroupeSums$Troupe"
def TX1 : u_T := fun k => match k with
  | 0 => ("TroupeSums$Troupe", "places", "I", false)
  | 1 => ("TroupeSums$Troupe", "moves", "I", false)
  | 2 => ("TroupeSums$Troupe", "group", "LTroupeSums$Group;", false)
  | 3 => ("TroupeSums$Troupe", "names", "Ljava/util/List;", true)
  | _ => ("TroupeSums$Troupe", "sums", "Ljava/util/List;", true)
def tyX1 : Nat → FieldType := fun k => match k with
  | 0 => .int
  | 1 => .int
  | 2 => .object "TroupeSums$Group"
  | 3 => .object "java/util/List"
  | _ => .object "java/util/List"
abbrev wsX10 : List Cond := u_ws RX1 TX1 5
theorem nmX1 : ∀ a, a < 5 → ∀ b, b < 5 → a ≠ b → (TX1 a).2.1 ≠ (TX1 b).2.1 := by decide +kernel
theorem tyX1_ok : ∀ k, k < 5 → parseFieldDescriptor (TX1 k).2.2.1 = some (tyX1 k) := by decide +kernel
abbrev cX1_init : ByteArray := prog_13_method_1_code
def yX1_init : MethodName := ⟨RX1, "<init>", "()V"⟩
def dkwX1_init_1 : List UInt8 := [89, 183, 0, 15, 181, 0, 20, 177]
abbrev dktX1_init_1 : List UInt8 := dkwX1_init_1 ++ []
def dkwX1_init_0 : List UInt8 := [42, 183, 0, 1, 42, 4, 181, 0, 7, 42, 187, 0, 13, 89, 183, 0, 15, 181, 0, 16, 42, 187, 0, 13]
abbrev dktX1_init_0 : List UInt8 := dkwX1_init_0 ++ dktX1_init_1
theorem dksX1_init_0 : cX1_init.data.toList.drop 0 = dktX1_init_0 := by decide +kernel
theorem dksX1_init_1 : cX1_init.data.toList.drop 24 = dktX1_init_1 := dk_seg dksX1_init_0 24 rfl rfl
theorem dX1_init_0 : decode cX1_init 0 = .ok (.aload_n 0, 1) := dk_42 (dk_at dksX1_init_0 0 rfl rfl)
theorem dX1_init_1 : decode cX1_init 1 = .ok (.invokespecial 1, 3) := dk_183 0 1 (dk_at dksX1_init_0 1 rfl rfl)
theorem dX1_init_4 : decode cX1_init 4 = .ok (.aload_n 0, 1) := dk_42 (dk_at dksX1_init_0 4 rfl rfl)
theorem dX1_init_5 : decode cX1_init 5 = .ok (.iconst 1, 1) := dk_4 (dk_at dksX1_init_0 5 rfl rfl)
theorem dX1_init_6 : decode cX1_init 6 = .ok (.putfield 7, 3) := dk_181 0 7 (dk_at dksX1_init_0 6 rfl rfl)
theorem dX1_init_9 : decode cX1_init 9 = .ok (.aload_n 0, 1) := dk_42 (dk_at dksX1_init_0 9 rfl rfl)
theorem dX1_init_10 : decode cX1_init 10 = .ok (.new 13, 3) := dk_187 0 13 (dk_at dksX1_init_0 10 rfl rfl)
theorem dX1_init_13 : decode cX1_init 13 = .ok (.dup, 1) := dk_89 (dk_at dksX1_init_0 13 rfl rfl)
theorem dX1_init_14 : decode cX1_init 14 = .ok (.invokespecial 15, 3) := dk_183 0 15 (dk_at dksX1_init_0 14 rfl rfl)
theorem dX1_init_17 : decode cX1_init 17 = .ok (.putfield 16, 3) := dk_181 0 16 (dk_at dksX1_init_0 17 rfl rfl)
theorem dX1_init_20 : decode cX1_init 20 = .ok (.aload_n 0, 1) := dk_42 (dk_at dksX1_init_0 20 rfl rfl)
theorem dX1_init_21 : decode cX1_init 21 = .ok (.new 13, 3) := dk_187 0 13 (dk_at dksX1_init_0 21 rfl rfl)
theorem dX1_init_24 : decode cX1_init 24 = .ok (.dup, 1) := dk_89 (dk_at dksX1_init_1 0 rfl rfl)
theorem dX1_init_25 : decode cX1_init 25 = .ok (.invokespecial 15, 3) := dk_183 0 15 (dk_at dksX1_init_1 1 rfl rfl)
theorem dX1_init_28 : decode cX1_init 28 = .ok (.putfield 20, 3) := dk_181 0 20 (dk_at dksX1_init_1 4 rfl rfl)
theorem dX1_init_31 : decode cX1_init 31 = .ok (.return_, 1) := dk_177 (dk_at dksX1_init_1 7 rfl rfl)
theorem q135 : (Jvm.Cond.initialized "TroupeSums$Troupe") ∈ lw_all := lw_g (lw_at lw_m1 2 rfl) rfl
theorem q198 : (Jvm.Cond.instantiable "TroupeSums$Troupe" (5 : Nat)) ∈ lw_all := lw_g (lw_at lw_m1 65 rfl) rfl
theorem q200 : (Jvm.Cond.instanceMethod ({ cls := "TroupeSums$Troupe", name := "<init>", desc := "()V" } : Jvm.MethodName)) ∈ lw_all := lw_g (lw_at lw_m1 67 rfl) rfl
theorem q201 : (Jvm.Cond.code ({ cls := "TroupeSums$Troupe", name := "<init>", desc := "()V" } : Jvm.MethodName) prog_13_method_1_code (1 : Nat) (Option.none : Option Jvm.ClassFile.FieldType)) ∈ lw_all := lw_g (lw_at lw_m1 68 rfl) rfl
theorem q202 : (Jvm.Cond.methodLink "TroupeSums$Troupe" (1 : Nat) ({ cls := "java/lang/Object", name := "<init>", desc := "()V" } : Jvm.MethodName)) ∈ lw_all := lw_g (lw_at lw_m1 69 rfl) rfl
theorem q203 : (Jvm.Cond.classLink "TroupeSums$Troupe" (13 : Nat) "java/util/ArrayList") ∈ lw_all := lw_g (lw_at lw_m1 70 rfl) rfl
theorem q205 : (Jvm.Cond.methodLink "TroupeSums$Troupe" (15 : Nat) ({ cls := "java/util/ArrayList", name := "<init>", desc := "()V" } : Jvm.MethodName)) ∈ lw_all := lw_g (lw_at lw_m1 72 rfl) rfl
theorem q233 : (Jvm.Cond.fieldLink "TroupeSums$Troupe" (7 : Nat) "TroupeSums$Troupe" "places" "I") ∈ lw_all := lw_g (lw_at lw_m1 100 rfl) rfl
theorem q240 : (Jvm.Cond.fieldLink "TroupeSums$Troupe" (16 : Nat) "TroupeSums$Troupe" "names" "Ljava/util/List;") ∈ lw_all := lw_g (lw_at lw_m1 107 rfl) rfl
theorem q243 : (Jvm.Cond.fieldLink "TroupeSums$Troupe" (20 : Nat) "TroupeSums$Troupe" "sums" "Ljava/util/List;") ∈ lw_all := lw_g (lw_at lw_m1 110 rfl) rfl
theorem q246 : (Jvm.Cond.lays "TroupeSums$Troupe" "TroupeSums$Troupe" "places" "I") ∈ lw_all := lw_g (lw_at lw_m1 113 rfl) rfl
theorem q247 : (Jvm.Cond.soleField "TroupeSums$Troupe" "places") ∈ lw_all := lw_g (lw_at lw_m1 114 rfl) rfl
theorem q248 : (Jvm.Cond.lays "TroupeSums$Troupe" "TroupeSums$Troupe" "moves" "I") ∈ lw_all := lw_g (lw_at lw_m1 115 rfl) rfl
theorem q249 : (Jvm.Cond.soleField "TroupeSums$Troupe" "moves") ∈ lw_all := lw_g (lw_at lw_m1 116 rfl) rfl
theorem q250 : (Jvm.Cond.lays "TroupeSums$Troupe" "TroupeSums$Troupe" "group" "LTroupeSums$Group;") ∈ lw_all := lw_g (lw_at lw_m1 117 rfl) rfl
theorem q251 : (Jvm.Cond.soleField "TroupeSums$Troupe" "group") ∈ lw_all := lw_g (lw_at lw_m1 118 rfl) rfl
theorem q252 : (Jvm.Cond.laysFinal "TroupeSums$Troupe" "TroupeSums$Troupe" "names" "Ljava/util/List;") ∈ lw_all := lw_g (lw_at lw_m1 119 rfl) rfl
theorem q253 : (Jvm.Cond.soleField "TroupeSums$Troupe" "names") ∈ lw_all := lw_g (lw_at lw_m1 120 rfl) rfl
theorem q254 : (Jvm.Cond.laysFinal "TroupeSums$Troupe" "TroupeSums$Troupe" "sums" "Ljava/util/List;") ∈ lw_all := lw_g (lw_at lw_m1 121 rfl) rfl
theorem q255 : (Jvm.Cond.soleField "TroupeSums$Troupe" "sums") ∈ lw_all := lw_g (lw_at lw_m1 122 rfl) rfl
theorem q256 : (Jvm.Cond.superclass "TroupeSums$Troupe" "java/lang/Object") ∈ lw_all := lw_g (lw_at lw_m1 123 rfl) rfl
theorem q840 : (Jvm.Cond.selects "TroupeSums$Troupe" ({ cls := "java/lang/Object", name := "getClass", desc := "()Ljava/lang/Class;" } : Jvm.MethodName) ({ cls := "java/lang/Object", name := "getClass", desc := "()Ljava/lang/Class;" } : Jvm.MethodName)) ∈ lw_all := lw_g (lw_at lw_m3 227 rfl) rfl
theorem q972 : (Jvm.Cond.selects "TroupeSums$Troupe" ({ cls := "java/lang/Object", name := "equals", desc := "(Ljava/lang/Object;)Z" } : Jvm.MethodName) ({ cls := "java/lang/Object", name := "equals", desc := "(Ljava/lang/Object;)Z" } : Jvm.MethodName)) ∈ lw_all := lw_g (lw_at lw_m4 119 rfl) rfl
theorem q3183 : (Jvm.Cond.castable "TroupeSums$Troupe" "java/lang/Object") ∈ lw_tbl := lw_at lw_m13 170 rfl
theorem in_X1 : ∀ w ∈ wsX10, w ∈ lw_all := lw_in wsX10 [246, 248, 250, 252, 254] (by decide +kernel) (by decide +kernel)
/-! TroupeSums$Row -/
set_option maxRecDepth 100000
def RX2 : String := "TroupeSums$Row"
def TX2 : u_T := fun k => match k with
  | _ => ("TroupeSums$Row", "to", "[I", true)
def tyX2 : Nat → FieldType := fun k => match k with
  | _ => .array .int
abbrev wsX20 : List Cond := u_ws RX2 TX2 1
theorem nmX2 : ∀ a, a < 1 → ∀ b, b < 1 → a ≠ b → (TX2 a).2.1 ≠ (TX2 b).2.1 := by decide +kernel
theorem tyX2_ok : ∀ k, k < 1 → parseFieldDescriptor (TX2 k).2.2.1 = some (tyX2 k) := by decide +kernel
abbrev cX2_init : ByteArray := prog_6_method_1_code
def yX2_init : MethodName := ⟨RX2, "<init>", "([I)V"⟩
def dkwX2_init_0 : List UInt8 := [42, 183, 0, 1, 42, 43, 181, 0, 7, 177]
abbrev dktX2_init_0 : List UInt8 := dkwX2_init_0 ++ []
theorem dksX2_init_0 : cX2_init.data.toList.drop 0 = dktX2_init_0 := by decide +kernel
theorem dX2_init_0 : decode cX2_init 0 = .ok (.aload_n 0, 1) := dk_42 (dk_at dksX2_init_0 0 rfl rfl)
theorem dX2_init_1 : decode cX2_init 1 = .ok (.invokespecial 1, 3) := dk_183 0 1 (dk_at dksX2_init_0 1 rfl rfl)
theorem dX2_init_4 : decode cX2_init 4 = .ok (.aload_n 0, 1) := dk_42 (dk_at dksX2_init_0 4 rfl rfl)
theorem dX2_init_5 : decode cX2_init 5 = .ok (.aload_n 1, 1) := dk_43 (dk_at dksX2_init_0 5 rfl rfl)
theorem dX2_init_6 : decode cX2_init 6 = .ok (.putfield 7, 3) := dk_181 0 7 (dk_at dksX2_init_0 6 rfl rfl)
theorem dX2_init_9 : decode cX2_init 9 = .ok (.return_, 1) := dk_177 (dk_at dksX2_init_0 9 rfl rfl)
abbrev cX2_compareTo : ByteArray := prog_6_method_4_code
def yX2_compareTo : MethodName := ⟨RX2, "compareTo", "(Ljava/lang/Object;)I"⟩
def dkwX2_compareTo_0 : List UInt8 := [42, 43, 192, 0, 8, 182, 0, 16, 172]
abbrev dktX2_compareTo_0 : List UInt8 := dkwX2_compareTo_0 ++ []
theorem dksX2_compareTo_0 : cX2_compareTo.data.toList.drop 0 = dktX2_compareTo_0 := by decide +kernel
theorem dX2_compareTo_0 : decode cX2_compareTo 0 = .ok (.aload_n 0, 1) := dk_42 (dk_at dksX2_compareTo_0 0 rfl rfl)
theorem dX2_compareTo_1 : decode cX2_compareTo 1 = .ok (.aload_n 1, 1) := dk_43 (dk_at dksX2_compareTo_0 1 rfl rfl)
theorem dX2_compareTo_2 : decode cX2_compareTo 2 = .ok (.checkcast 8, 3) := dk_192 0 8 (dk_at dksX2_compareTo_0 2 rfl rfl)
theorem dX2_compareTo_5 : decode cX2_compareTo 5 = .ok (.invokevirtual 16, 3) := dk_182 0 16 (dk_at dksX2_compareTo_0 5 rfl rfl)
theorem dX2_compareTo_8 : decode cX2_compareTo 8 = .ok (.ireturn, 1) := dk_172 (dk_at dksX2_compareTo_0 8 rfl rfl)
abbrev cX2_compareTo_2 : ByteArray := prog_6_method_3_code
def yX2_compareTo_2 : MethodName := ⟨RX2, "compareTo", "(LTroupeSums$Row;)I"⟩
def dkwX2_compareTo_2_2 : List UInt8 := [132, 2, 1, 167, 255, 208, 3, 172]
abbrev dktX2_compareTo_2_2 : List UInt8 := dkwX2_compareTo_2_2 ++ []
def dkwX2_compareTo_2_1 : List UInt8 := [159, 0, 24, 42, 180, 0, 7, 28, 46, 43, 180, 0, 7, 28, 46, 162, 0, 7, 2, 167, 0, 4, 4, 172]
abbrev dktX2_compareTo_2_1 : List UInt8 := dkwX2_compareTo_2_1 ++ dktX2_compareTo_2_2
def dkwX2_compareTo_2_0 : List UInt8 := [3, 61, 28, 42, 180, 0, 7, 190, 162, 0, 45, 42, 180, 0, 7, 28, 46, 43, 180, 0, 7, 28, 46]
abbrev dktX2_compareTo_2_0 : List UInt8 := dkwX2_compareTo_2_0 ++ dktX2_compareTo_2_1
theorem dksX2_compareTo_2_0 : cX2_compareTo_2.data.toList.drop 0 = dktX2_compareTo_2_0 := by decide +kernel
theorem dksX2_compareTo_2_1 : cX2_compareTo_2.data.toList.drop 23 = dktX2_compareTo_2_1 := dk_seg dksX2_compareTo_2_0 23 rfl rfl
theorem dksX2_compareTo_2_2 : cX2_compareTo_2.data.toList.drop 47 = dktX2_compareTo_2_2 := dk_seg dksX2_compareTo_2_1 24 rfl rfl
theorem dX2_compareTo_2_0 : decode cX2_compareTo_2 0 = .ok (.iconst 0, 1) := dk_3 (dk_at dksX2_compareTo_2_0 0 rfl rfl)
theorem dX2_compareTo_2_1 : decode cX2_compareTo_2 1 = .ok (.istore_n 2, 1) := dk_61 (dk_at dksX2_compareTo_2_0 1 rfl rfl)
theorem dX2_compareTo_2_2 : decode cX2_compareTo_2 2 = .ok (.iload_n 2, 1) := dk_28 (dk_at dksX2_compareTo_2_0 2 rfl rfl)
theorem dX2_compareTo_2_3 : decode cX2_compareTo_2 3 = .ok (.aload_n 0, 1) := dk_42 (dk_at dksX2_compareTo_2_0 3 rfl rfl)
theorem dX2_compareTo_2_4 : decode cX2_compareTo_2 4 = .ok (.getfield 7, 3) := dk_180 0 7 (dk_at dksX2_compareTo_2_0 4 rfl rfl)
theorem dX2_compareTo_2_7 : decode cX2_compareTo_2 7 = .ok (.arraylength, 1) := dk_190 (dk_at dksX2_compareTo_2_0 7 rfl rfl)
theorem dX2_compareTo_2_8 : decode cX2_compareTo_2 8 = .ok (.if_icmp .ge 45, 3) := dk_162 0 45 (dk_at dksX2_compareTo_2_0 8 rfl rfl)
theorem dX2_compareTo_2_11 : decode cX2_compareTo_2 11 = .ok (.aload_n 0, 1) := dk_42 (dk_at dksX2_compareTo_2_0 11 rfl rfl)
theorem dX2_compareTo_2_12 : decode cX2_compareTo_2 12 = .ok (.getfield 7, 3) := dk_180 0 7 (dk_at dksX2_compareTo_2_0 12 rfl rfl)
theorem dX2_compareTo_2_15 : decode cX2_compareTo_2 15 = .ok (.iload_n 2, 1) := dk_28 (dk_at dksX2_compareTo_2_0 15 rfl rfl)
theorem dX2_compareTo_2_16 : decode cX2_compareTo_2 16 = .ok (.iaload, 1) := dk_46 (dk_at dksX2_compareTo_2_0 16 rfl rfl)
theorem dX2_compareTo_2_17 : decode cX2_compareTo_2 17 = .ok (.aload_n 1, 1) := dk_43 (dk_at dksX2_compareTo_2_0 17 rfl rfl)
theorem dX2_compareTo_2_18 : decode cX2_compareTo_2 18 = .ok (.getfield 7, 3) := dk_180 0 7 (dk_at dksX2_compareTo_2_0 18 rfl rfl)
theorem dX2_compareTo_2_21 : decode cX2_compareTo_2 21 = .ok (.iload_n 2, 1) := dk_28 (dk_at dksX2_compareTo_2_0 21 rfl rfl)
theorem dX2_compareTo_2_22 : decode cX2_compareTo_2 22 = .ok (.iaload, 1) := dk_46 (dk_at dksX2_compareTo_2_0 22 rfl rfl)
theorem dX2_compareTo_2_23 : decode cX2_compareTo_2 23 = .ok (.if_icmp .eq 24, 3) := dk_159 0 24 (dk_at dksX2_compareTo_2_1 0 rfl rfl)
theorem dX2_compareTo_2_26 : decode cX2_compareTo_2 26 = .ok (.aload_n 0, 1) := dk_42 (dk_at dksX2_compareTo_2_1 3 rfl rfl)
theorem dX2_compareTo_2_27 : decode cX2_compareTo_2 27 = .ok (.getfield 7, 3) := dk_180 0 7 (dk_at dksX2_compareTo_2_1 4 rfl rfl)
theorem dX2_compareTo_2_30 : decode cX2_compareTo_2 30 = .ok (.iload_n 2, 1) := dk_28 (dk_at dksX2_compareTo_2_1 7 rfl rfl)
theorem dX2_compareTo_2_31 : decode cX2_compareTo_2 31 = .ok (.iaload, 1) := dk_46 (dk_at dksX2_compareTo_2_1 8 rfl rfl)
theorem dX2_compareTo_2_32 : decode cX2_compareTo_2 32 = .ok (.aload_n 1, 1) := dk_43 (dk_at dksX2_compareTo_2_1 9 rfl rfl)
theorem dX2_compareTo_2_33 : decode cX2_compareTo_2 33 = .ok (.getfield 7, 3) := dk_180 0 7 (dk_at dksX2_compareTo_2_1 10 rfl rfl)
theorem dX2_compareTo_2_36 : decode cX2_compareTo_2 36 = .ok (.iload_n 2, 1) := dk_28 (dk_at dksX2_compareTo_2_1 13 rfl rfl)
theorem dX2_compareTo_2_37 : decode cX2_compareTo_2 37 = .ok (.iaload, 1) := dk_46 (dk_at dksX2_compareTo_2_1 14 rfl rfl)
theorem dX2_compareTo_2_38 : decode cX2_compareTo_2 38 = .ok (.if_icmp .ge 7, 3) := dk_162 0 7 (dk_at dksX2_compareTo_2_1 15 rfl rfl)
theorem dX2_compareTo_2_41 : decode cX2_compareTo_2 41 = .ok (.iconst (-1), 1) := dk_2 (dk_at dksX2_compareTo_2_1 18 rfl rfl)
theorem dX2_compareTo_2_42 : decode cX2_compareTo_2 42 = .ok (.goto 4, 3) := dk_167 0 4 (dk_at dksX2_compareTo_2_1 19 rfl rfl)
theorem dX2_compareTo_2_45 : decode cX2_compareTo_2 45 = .ok (.iconst 1, 1) := dk_4 (dk_at dksX2_compareTo_2_1 22 rfl rfl)
theorem dX2_compareTo_2_46 : decode cX2_compareTo_2 46 = .ok (.ireturn, 1) := dk_172 (dk_at dksX2_compareTo_2_1 23 rfl rfl)
theorem dX2_compareTo_2_47 : decode cX2_compareTo_2 47 = .ok (.iinc 2 1, 3) := dk_132 2 1 (dk_at dksX2_compareTo_2_2 0 rfl rfl)
theorem dX2_compareTo_2_50 : decode cX2_compareTo_2 50 = .ok (.goto (-48), 3) := dk_167 255 208 (dk_at dksX2_compareTo_2_2 3 rfl rfl)
theorem dX2_compareTo_2_53 : decode cX2_compareTo_2 53 = .ok (.iconst 0, 1) := dk_3 (dk_at dksX2_compareTo_2_2 6 rfl rfl)
theorem dX2_compareTo_2_54 : decode cX2_compareTo_2 54 = .ok (.ireturn, 1) := dk_172 (dk_at dksX2_compareTo_2_2 7 rfl rfl)
abbrev cX2_then : ByteArray := prog_6_method_2_code
def yX2_then : MethodName := ⟨RX2, "then", "(LTroupeSums$Row;)LTroupeSums$Row;"⟩
def dkwX2_then_1 : List UInt8 := [180, 0, 7, 29, 46, 46, 79, 132, 3, 1, 167, 255, 233, 187, 0, 8, 89, 44, 183, 0, 13, 176]
abbrev dktX2_then_1 : List UInt8 := dkwX2_then_1 ++ []
def dkwX2_then_0 : List UInt8 := [42, 180, 0, 7, 190, 188, 10, 77, 3, 62, 29, 44, 190, 162, 0, 23, 44, 29, 43, 180, 0, 7, 42]
abbrev dktX2_then_0 : List UInt8 := dkwX2_then_0 ++ dktX2_then_1
theorem dksX2_then_0 : cX2_then.data.toList.drop 0 = dktX2_then_0 := by decide +kernel
theorem dksX2_then_1 : cX2_then.data.toList.drop 23 = dktX2_then_1 := dk_seg dksX2_then_0 23 rfl rfl
theorem dX2_then_0 : decode cX2_then 0 = .ok (.aload_n 0, 1) := dk_42 (dk_at dksX2_then_0 0 rfl rfl)
theorem dX2_then_1 : decode cX2_then 1 = .ok (.getfield 7, 3) := dk_180 0 7 (dk_at dksX2_then_0 1 rfl rfl)
theorem dX2_then_4 : decode cX2_then 4 = .ok (.arraylength, 1) := dk_190 (dk_at dksX2_then_0 4 rfl rfl)
theorem dX2_then_5 : decode cX2_then 5 = .ok (.newarray .int, 2) := dk_188_10 (dk_at dksX2_then_0 5 rfl rfl)
theorem dX2_then_7 : decode cX2_then 7 = .ok (.astore_n 2, 1) := dk_77 (dk_at dksX2_then_0 7 rfl rfl)
theorem dX2_then_8 : decode cX2_then 8 = .ok (.iconst 0, 1) := dk_3 (dk_at dksX2_then_0 8 rfl rfl)
theorem dX2_then_9 : decode cX2_then 9 = .ok (.istore_n 3, 1) := dk_62 (dk_at dksX2_then_0 9 rfl rfl)
theorem dX2_then_10 : decode cX2_then 10 = .ok (.iload_n 3, 1) := dk_29 (dk_at dksX2_then_0 10 rfl rfl)
theorem dX2_then_11 : decode cX2_then 11 = .ok (.aload_n 2, 1) := dk_44 (dk_at dksX2_then_0 11 rfl rfl)
theorem dX2_then_12 : decode cX2_then 12 = .ok (.arraylength, 1) := dk_190 (dk_at dksX2_then_0 12 rfl rfl)
theorem dX2_then_13 : decode cX2_then 13 = .ok (.if_icmp .ge 23, 3) := dk_162 0 23 (dk_at dksX2_then_0 13 rfl rfl)
theorem dX2_then_16 : decode cX2_then 16 = .ok (.aload_n 2, 1) := dk_44 (dk_at dksX2_then_0 16 rfl rfl)
theorem dX2_then_17 : decode cX2_then 17 = .ok (.iload_n 3, 1) := dk_29 (dk_at dksX2_then_0 17 rfl rfl)
theorem dX2_then_18 : decode cX2_then 18 = .ok (.aload_n 1, 1) := dk_43 (dk_at dksX2_then_0 18 rfl rfl)
theorem dX2_then_19 : decode cX2_then 19 = .ok (.getfield 7, 3) := dk_180 0 7 (dk_at dksX2_then_0 19 rfl rfl)
theorem dX2_then_22 : decode cX2_then 22 = .ok (.aload_n 0, 1) := dk_42 (dk_at dksX2_then_0 22 rfl rfl)
theorem dX2_then_23 : decode cX2_then 23 = .ok (.getfield 7, 3) := dk_180 0 7 (dk_at dksX2_then_1 0 rfl rfl)
theorem dX2_then_26 : decode cX2_then 26 = .ok (.iload_n 3, 1) := dk_29 (dk_at dksX2_then_1 3 rfl rfl)
theorem dX2_then_27 : decode cX2_then 27 = .ok (.iaload, 1) := dk_46 (dk_at dksX2_then_1 4 rfl rfl)
theorem dX2_then_28 : decode cX2_then 28 = .ok (.iaload, 1) := dk_46 (dk_at dksX2_then_1 5 rfl rfl)
theorem dX2_then_29 : decode cX2_then 29 = .ok (.iastore, 1) := dk_79 (dk_at dksX2_then_1 6 rfl rfl)
theorem dX2_then_30 : decode cX2_then 30 = .ok (.iinc 3 1, 3) := dk_132 3 1 (dk_at dksX2_then_1 7 rfl rfl)
theorem dX2_then_33 : decode cX2_then 33 = .ok (.goto (-23), 3) := dk_167 255 233 (dk_at dksX2_then_1 10 rfl rfl)
theorem dX2_then_36 : decode cX2_then 36 = .ok (.new 8, 3) := dk_187 0 8 (dk_at dksX2_then_1 13 rfl rfl)
theorem dX2_then_39 : decode cX2_then 39 = .ok (.dup, 1) := dk_89 (dk_at dksX2_then_1 16 rfl rfl)
theorem dX2_then_40 : decode cX2_then 40 = .ok (.aload_n 2, 1) := dk_44 (dk_at dksX2_then_1 17 rfl rfl)
theorem dX2_then_41 : decode cX2_then 41 = .ok (.invokespecial 13, 3) := dk_183 0 13 (dk_at dksX2_then_1 18 rfl rfl)
theorem dX2_then_44 : decode cX2_then 44 = .ok (.areturn, 1) := dk_176 (dk_at dksX2_then_1 21 rfl rfl)
theorem q141 : (Jvm.Cond.initialized "TroupeSums$Row") ∈ lw_all := lw_g (lw_at lw_m1 8 rfl) rfl
theorem q292 : (Jvm.Cond.instantiable "TroupeSums$Row" (1 : Nat)) ∈ lw_all := lw_g (lw_at lw_m1 159 rfl) rfl
theorem q294 : (Jvm.Cond.instanceMethod ({ cls := "TroupeSums$Row", name := "<init>", desc := "([I)V" } : Jvm.MethodName)) ∈ lw_all := lw_g (lw_at lw_m1 161 rfl) rfl
theorem q295 : (Jvm.Cond.code ({ cls := "TroupeSums$Row", name := "<init>", desc := "([I)V" } : Jvm.MethodName) prog_6_method_1_code (2 : Nat) (Option.none : Option Jvm.ClassFile.FieldType)) ∈ lw_all := lw_g (lw_at lw_m1 162 rfl) rfl
theorem q296 : (Jvm.Cond.methodLink "TroupeSums$Row" (1 : Nat) ({ cls := "java/lang/Object", name := "<init>", desc := "()V" } : Jvm.MethodName)) ∈ lw_all := lw_g (lw_at lw_m1 163 rfl) rfl
theorem q297 : (Jvm.Cond.fieldLink "TroupeSums$Row" (7 : Nat) "TroupeSums$Row" "to" "[I") ∈ lw_all := lw_g (lw_at lw_m1 164 rfl) rfl
theorem q300 : (Jvm.Cond.laysFinal "TroupeSums$Row" "TroupeSums$Row" "to" "[I") ∈ lw_all := lw_g (lw_at lw_m1 167 rfl) rfl
theorem q301 : (Jvm.Cond.soleField "TroupeSums$Row" "to") ∈ lw_all := lw_g (lw_at lw_m1 168 rfl) rfl
theorem q302 : (Jvm.Cond.superclass "TroupeSums$Row" "java/lang/Object") ∈ lw_all := lw_g (lw_at lw_m1 169 rfl) rfl
theorem q345 : (Jvm.Cond.castable "TroupeSums$Row" "java/lang/Comparable") ∈ lw_tbl := lw_at lw_m1 212 rfl
theorem q346 : (Jvm.Cond.selects "TroupeSums$Row" ({ cls := "java/lang/Comparable", name := "compareTo", desc := "(Ljava/lang/Object;)I" } : Jvm.MethodName) ({ cls := "TroupeSums$Row", name := "compareTo", desc := "(Ljava/lang/Object;)I" } : Jvm.MethodName)) ∈ lw_all := lw_g (lw_at lw_m1 213 rfl) rfl
theorem q347 : (Jvm.Cond.unhidden "TroupeSums$Row" "compareTo" "(Ljava/lang/Object;)I") ∈ lw_tbl := lw_at lw_m1 214 rfl
theorem q348 : (Jvm.Cond.instanceMethod ({ cls := "TroupeSums$Row", name := "compareTo", desc := "(Ljava/lang/Object;)I" } : Jvm.MethodName)) ∈ lw_all := lw_g (lw_at lw_m1 215 rfl) rfl
theorem q349 : (Jvm.Cond.publicMethod ({ cls := "TroupeSums$Row", name := "compareTo", desc := "(Ljava/lang/Object;)I" } : Jvm.MethodName)) ∈ lw_tbl := lw_at lw_m1 216 rfl
theorem q350 : (Jvm.Cond.code ({ cls := "TroupeSums$Row", name := "compareTo", desc := "(Ljava/lang/Object;)I" } : Jvm.MethodName) prog_6_method_4_code (2 : Nat) (Option.some Jvm.ClassFile.FieldType.int)) ∈ lw_all := lw_g (lw_at lw_m1 217 rfl) rfl
theorem q351 : (Jvm.Cond.classLink "TroupeSums$Row" (8 : Nat) "TroupeSums$Row") ∈ lw_all := lw_g (lw_at lw_m1 218 rfl) rfl
theorem q352 : (Jvm.Cond.methodLink "TroupeSums$Row" (16 : Nat) ({ cls := "TroupeSums$Row", name := "compareTo", desc := "(LTroupeSums$Row;)I" } : Jvm.MethodName)) ∈ lw_all := lw_g (lw_at lw_m1 219 rfl) rfl
theorem q353 : (Jvm.Cond.instanceMethod ({ cls := "TroupeSums$Row", name := "compareTo", desc := "(LTroupeSums$Row;)I" } : Jvm.MethodName)) ∈ lw_all := lw_g (lw_at lw_m1 220 rfl) rfl
theorem q354 : (Jvm.Cond.selects "TroupeSums$Row" ({ cls := "TroupeSums$Row", name := "compareTo", desc := "(LTroupeSums$Row;)I" } : Jvm.MethodName) ({ cls := "TroupeSums$Row", name := "compareTo", desc := "(LTroupeSums$Row;)I" } : Jvm.MethodName)) ∈ lw_all := lw_g (lw_at lw_m1 221 rfl) rfl
theorem q355 : (Jvm.Cond.code ({ cls := "TroupeSums$Row", name := "compareTo", desc := "(LTroupeSums$Row;)I" } : Jvm.MethodName) prog_6_method_3_code (3 : Nat) (Option.some Jvm.ClassFile.FieldType.int)) ∈ lw_all := lw_g (lw_at lw_m1 222 rfl) rfl
theorem q833 : (Jvm.Cond.selects "TroupeSums$Row" ({ cls := "java/lang/Object", name := "getClass", desc := "()Ljava/lang/Class;" } : Jvm.MethodName) ({ cls := "java/lang/Object", name := "getClass", desc := "()Ljava/lang/Class;" } : Jvm.MethodName)) ∈ lw_all := lw_g (lw_at lw_m3 220 rfl) rfl
theorem q903 : (Jvm.Cond.instanceMethod ({ cls := "TroupeSums$Row", name := "then", desc := "(LTroupeSums$Row;)LTroupeSums$Row;" } : Jvm.MethodName)) ∈ lw_all := lw_g (lw_at lw_m4 50 rfl) rfl
theorem q904 : (Jvm.Cond.selects "TroupeSums$Row" ({ cls := "TroupeSums$Row", name := "then", desc := "(LTroupeSums$Row;)LTroupeSums$Row;" } : Jvm.MethodName) ({ cls := "TroupeSums$Row", name := "then", desc := "(LTroupeSums$Row;)LTroupeSums$Row;" } : Jvm.MethodName)) ∈ lw_all := lw_g (lw_at lw_m4 51 rfl) rfl
theorem q905 : (Jvm.Cond.code ({ cls := "TroupeSums$Row", name := "then", desc := "(LTroupeSums$Row;)LTroupeSums$Row;" } : Jvm.MethodName) prog_6_method_2_code (4 : Nat) (Option.some (Jvm.ClassFile.FieldType.object "TroupeSums$Row"))) ∈ lw_all := lw_g (lw_at lw_m4 52 rfl) rfl
theorem q906 : (Jvm.Cond.methodLink "TroupeSums$Row" (13 : Nat) ({ cls := "TroupeSums$Row", name := "<init>", desc := "([I)V" } : Jvm.MethodName)) ∈ lw_all := lw_g (lw_at lw_m4 53 rfl) rfl
theorem q965 : (Jvm.Cond.selects "TroupeSums$Row" ({ cls := "java/lang/Object", name := "equals", desc := "(Ljava/lang/Object;)Z" } : Jvm.MethodName) ({ cls := "java/lang/Object", name := "equals", desc := "(Ljava/lang/Object;)Z" } : Jvm.MethodName)) ∈ lw_all := lw_g (lw_at lw_m4 112 rfl) rfl
theorem q3186 : (Jvm.Cond.castable "TroupeSums$Row" "java/lang/Object") ∈ lw_tbl := lw_at lw_m13 173 rfl
theorem in_X2 : ∀ w ∈ wsX20, w ∈ lw_all := lw_in wsX20 [300] (by decide +kernel) (by decide +kernel)
/-! TroupeSums$Group -/
set_option maxRecDepth 100000
def RX3 : String := "TroupeSums$Group"
def TX3 : u_T := fun k => match k with
  | 0 => ("TroupeSums$Group", "places", "I", true)
  | 1 => ("TroupeSums$Group", "rows", "Ljava/util/List;", true)
  | 2 => ("TroupeSums$Group", "times", "[[I", true)
  | 3 => ("TroupeSums$Group", "undo", "[I", true)
  | 4 => ("TroupeSums$Group", "subgroups", "Ljava/util/List;", true)
  | 5 => ("TroupeSums$Group", "sorts", "Ljava/util/List;", true)
  | 6 => ("TroupeSums$Group", "sortOf", "[I", true)
  | _ => ("TroupeSums$Group", "marks", "[[I", true)
def tyX3 : Nat → FieldType := fun k => match k with
  | 0 => .int
  | 1 => .object "java/util/List"
  | 2 => .array (.array .int)
  | 3 => .array .int
  | 4 => .object "java/util/List"
  | 5 => .object "java/util/List"
  | 6 => .array .int
  | _ => .array (.array .int)
abbrev wsX30 : List Cond := u_ws RX3 TX3 8
theorem nmX3 : ∀ a, a < 8 → ∀ b, b < 8 → a ≠ b → (TX3 a).2.1 ≠ (TX3 b).2.1 := by decide +kernel
theorem tyX3_ok : ∀ k, k < 8 → parseFieldDescriptor (TX3 k).2.2.1 = some (tyX3 k) := by decide +kernel
abbrev cX3_init : ByteArray := prog_3_method_1_code
def yX3_init : MethodName := ⟨RX3, "<init>", "(ILjava/util/TreeMap;)V"⟩
def dkwX3_init_16 : List UInt8 := [192, 0, 107, 180, 0, 109, 182, 0, 112, 79, 132, 5, 1, 167, 255, 195, 132, 4, 1, 167, 255, 176, 177]
abbrev dktX3_init_16 : List UInt8 := dkwX3_init_16 ++ []
def dkwX3_init_15 : List UInt8 := [185, 0, 71, 2, 0, 192, 0, 107, 180, 0, 109, 42, 180, 0, 21, 21, 5, 185, 0, 71, 2, 0]
abbrev dktX3_init_15 : List UInt8 := dkwX3_init_15 ++ dktX3_init_16
def dkwX3_init_14 : List UInt8 := [180, 0, 104, 190, 162, 0, 57, 42, 180, 0, 104, 21, 4, 50, 21, 5, 42, 42, 180, 0, 21, 21, 4]
abbrev dktX3_init_14 : List UInt8 := dkwX3_init_14 ++ dktX3_init_15
def dkwX3_init_13 : List UInt8 := [181, 0, 104, 3, 54, 4, 21, 4, 42, 180, 0, 104, 190, 162, 0, 76, 3, 54, 5, 21, 5, 42]
abbrev dktX3_init_13 : List UInt8 := dkwX3_init_13 ++ dktX3_init_14
def dkwX3_init_12 : List UInt8 := [42, 180, 0, 21, 185, 0, 58, 1, 0, 42, 180, 0, 21, 185, 0, 58, 1, 0, 197, 0, 62, 2]
abbrev dktX3_init_12 : List UInt8 := dkwX3_init_12 ++ dktX3_init_13
def dkwX3_init_11 : List UInt8 := [42, 182, 0, 95, 42, 42, 180, 0, 18, 185, 0, 58, 1, 0, 188, 10, 181, 0, 98, 42, 182, 0, 101, 42]
abbrev dktX3_init_11 : List UInt8 := dkwX3_init_11 ++ dktX3_init_12
def dkwX3_init_10 : List UInt8 := [154, 0, 12, 42, 180, 0, 67, 21, 4, 21, 5, 79, 132, 5, 1, 167, 255, 174, 132, 4, 1, 167, 255, 159]
abbrev dktX3_init_10 : List UInt8 := dkwX3_init_10 ++ dktX3_init_11
def dkwX3_init_9 : List UInt8 := [182, 0, 85, 182, 0, 89, 192, 0, 76, 182, 0, 92, 79, 42, 180, 0, 64, 21, 4, 50, 21, 5, 46]
abbrev dktX3_init_9 : List UInt8 := dkwX3_init_9 ++ dktX3_init_10
def dkwX3_init_8 : List UInt8 := [21, 4, 185, 0, 71, 2, 0, 192, 0, 50, 42, 180, 0, 12, 21, 5, 185, 0, 71, 2, 0, 192, 0, 50]
abbrev dktX3_init_8 : List UInt8 := dkwX3_init_8 ++ dktX3_init_9
def dkwX3_init_7 : List UInt8 := [3, 54, 5, 21, 5, 29, 162, 0, 82, 42, 180, 0, 64, 21, 4, 50, 21, 5, 44, 42, 180, 0, 12]
abbrev dktX3_init_7 : List UInt8 := dkwX3_init_7 ++ dktX3_init_8
def dkwX3_init_6 : List UInt8 := [21, 4, 184, 0, 75, 182, 0, 81, 87, 132, 4, 1, 167, 255, 223, 3, 54, 4, 21, 4, 29, 162, 0, 97]
abbrev dktX3_init_6 : List UInt8 := dkwX3_init_6 ++ dktX3_init_7
def dkwX3_init_5 : List UInt8 := [54, 4, 21, 4, 29, 162, 0, 33, 44, 42, 180, 0, 12, 21, 4, 185, 0, 71, 2, 0, 192, 0, 50]
abbrev dktX3_init_5 : List UInt8 := dkwX3_init_5 ++ dktX3_init_6
def dkwX3_init_4 : List UInt8 := [185, 0, 58, 1, 0, 62, 42, 29, 29, 197, 0, 62, 2, 181, 0, 64, 42, 29, 188, 10, 181, 0, 67, 3]
abbrev dktX3_init_4 : List UInt8 := dkwX3_init_4 ++ dktX3_init_5
def dkwX3_init_3 : List UInt8 := [58, 4, 42, 180, 0, 12, 25, 4, 185, 0, 52, 2, 0, 87, 167, 255, 224, 42, 180, 0, 12]
abbrev dktX3_init_3 : List UInt8 := dkwX3_init_3 ++ dktX3_init_4
def dkwX3_init_2 : List UInt8 := [185, 0, 34, 1, 0, 78, 45, 185, 0, 40, 1, 0, 153, 0, 29, 45, 185, 0, 46, 1, 0, 192, 0, 50]
abbrev dktX3_init_2 : List UInt8 := dkwX3_init_2 ++ dktX3_init_3
def dkwX3_init_1 : List UInt8 := [181, 0, 18, 42, 187, 0, 9, 89, 183, 0, 11, 181, 0, 21, 42, 27, 181, 0, 24, 44, 182, 0, 28]
abbrev dktX3_init_1 : List UInt8 := dkwX3_init_1 ++ dktX3_init_2
def dkwX3_init_0 : List UInt8 := [42, 183, 0, 3, 42, 187, 0, 9, 89, 183, 0, 11, 181, 0, 12, 42, 187, 0, 9, 89, 183, 0, 11]
abbrev dktX3_init_0 : List UInt8 := dkwX3_init_0 ++ dktX3_init_1
theorem dksX3_init_0 : cX3_init.data.toList.drop 0 = dktX3_init_0 := by decide +kernel
theorem dksX3_init_1 : cX3_init.data.toList.drop 23 = dktX3_init_1 := dk_seg dksX3_init_0 23 rfl rfl
theorem dksX3_init_2 : cX3_init.data.toList.drop 46 = dktX3_init_2 := dk_seg dksX3_init_1 23 rfl rfl
theorem dksX3_init_3 : cX3_init.data.toList.drop 70 = dktX3_init_3 := dk_seg dksX3_init_2 24 rfl rfl
theorem dksX3_init_4 : cX3_init.data.toList.drop 91 = dktX3_init_4 := dk_seg dksX3_init_3 21 rfl rfl
theorem dksX3_init_5 : cX3_init.data.toList.drop 115 = dktX3_init_5 := dk_seg dksX3_init_4 24 rfl rfl
theorem dksX3_init_6 : cX3_init.data.toList.drop 138 = dktX3_init_6 := dk_seg dksX3_init_5 23 rfl rfl
theorem dksX3_init_7 : cX3_init.data.toList.drop 162 = dktX3_init_7 := dk_seg dksX3_init_6 24 rfl rfl
theorem dksX3_init_8 : cX3_init.data.toList.drop 185 = dktX3_init_8 := dk_seg dksX3_init_7 23 rfl rfl
theorem dksX3_init_9 : cX3_init.data.toList.drop 209 = dktX3_init_9 := dk_seg dksX3_init_8 24 rfl rfl
theorem dksX3_init_10 : cX3_init.data.toList.drop 232 = dktX3_init_10 := dk_seg dksX3_init_9 23 rfl rfl
theorem dksX3_init_11 : cX3_init.data.toList.drop 256 = dktX3_init_11 := dk_seg dksX3_init_10 24 rfl rfl
theorem dksX3_init_12 : cX3_init.data.toList.drop 280 = dktX3_init_12 := dk_seg dksX3_init_11 24 rfl rfl
theorem dksX3_init_13 : cX3_init.data.toList.drop 302 = dktX3_init_13 := dk_seg dksX3_init_12 22 rfl rfl
theorem dksX3_init_14 : cX3_init.data.toList.drop 324 = dktX3_init_14 := dk_seg dksX3_init_13 22 rfl rfl
theorem dksX3_init_15 : cX3_init.data.toList.drop 347 = dktX3_init_15 := dk_seg dksX3_init_14 23 rfl rfl
theorem dksX3_init_16 : cX3_init.data.toList.drop 369 = dktX3_init_16 := dk_seg dksX3_init_15 22 rfl rfl
theorem dX3_init_0 : decode cX3_init 0 = .ok (.aload_n 0, 1) := dk_42 (dk_at dksX3_init_0 0 rfl rfl)
theorem dX3_init_1 : decode cX3_init 1 = .ok (.invokespecial 3, 3) := dk_183 0 3 (dk_at dksX3_init_0 1 rfl rfl)
theorem dX3_init_4 : decode cX3_init 4 = .ok (.aload_n 0, 1) := dk_42 (dk_at dksX3_init_0 4 rfl rfl)
theorem dX3_init_5 : decode cX3_init 5 = .ok (.new 9, 3) := dk_187 0 9 (dk_at dksX3_init_0 5 rfl rfl)
theorem dX3_init_8 : decode cX3_init 8 = .ok (.dup, 1) := dk_89 (dk_at dksX3_init_0 8 rfl rfl)
theorem dX3_init_9 : decode cX3_init 9 = .ok (.invokespecial 11, 3) := dk_183 0 11 (dk_at dksX3_init_0 9 rfl rfl)
theorem dX3_init_12 : decode cX3_init 12 = .ok (.putfield 12, 3) := dk_181 0 12 (dk_at dksX3_init_0 12 rfl rfl)
theorem dX3_init_15 : decode cX3_init 15 = .ok (.aload_n 0, 1) := dk_42 (dk_at dksX3_init_0 15 rfl rfl)
theorem dX3_init_16 : decode cX3_init 16 = .ok (.new 9, 3) := dk_187 0 9 (dk_at dksX3_init_0 16 rfl rfl)
theorem dX3_init_19 : decode cX3_init 19 = .ok (.dup, 1) := dk_89 (dk_at dksX3_init_0 19 rfl rfl)
theorem dX3_init_20 : decode cX3_init 20 = .ok (.invokespecial 11, 3) := dk_183 0 11 (dk_at dksX3_init_0 20 rfl rfl)
theorem dX3_init_23 : decode cX3_init 23 = .ok (.putfield 18, 3) := dk_181 0 18 (dk_at dksX3_init_1 0 rfl rfl)
theorem dX3_init_26 : decode cX3_init 26 = .ok (.aload_n 0, 1) := dk_42 (dk_at dksX3_init_1 3 rfl rfl)
theorem dX3_init_27 : decode cX3_init 27 = .ok (.new 9, 3) := dk_187 0 9 (dk_at dksX3_init_1 4 rfl rfl)
theorem dX3_init_30 : decode cX3_init 30 = .ok (.dup, 1) := dk_89 (dk_at dksX3_init_1 7 rfl rfl)
theorem dX3_init_31 : decode cX3_init 31 = .ok (.invokespecial 11, 3) := dk_183 0 11 (dk_at dksX3_init_1 8 rfl rfl)
theorem dX3_init_34 : decode cX3_init 34 = .ok (.putfield 21, 3) := dk_181 0 21 (dk_at dksX3_init_1 11 rfl rfl)
theorem dX3_init_37 : decode cX3_init 37 = .ok (.aload_n 0, 1) := dk_42 (dk_at dksX3_init_1 14 rfl rfl)
theorem dX3_init_38 : decode cX3_init 38 = .ok (.iload_n 1, 1) := dk_27 (dk_at dksX3_init_1 15 rfl rfl)
theorem dX3_init_39 : decode cX3_init 39 = .ok (.putfield 24, 3) := dk_181 0 24 (dk_at dksX3_init_1 16 rfl rfl)
theorem dX3_init_42 : decode cX3_init 42 = .ok (.aload_n 2, 1) := dk_44 (dk_at dksX3_init_1 19 rfl rfl)
theorem dX3_init_43 : decode cX3_init 43 = .ok (.invokevirtual 28, 3) := dk_182 0 28 (dk_at dksX3_init_1 20 rfl rfl)
theorem dX3_init_46 : decode cX3_init 46 = .ok (.invokeinterface 34 1, 5) := by decide +kernel
theorem dX3_init_51 : decode cX3_init 51 = .ok (.astore_n 3, 1) := dk_78 (dk_at dksX3_init_2 5 rfl rfl)
theorem dX3_init_52 : decode cX3_init 52 = .ok (.aload_n 3, 1) := dk_45 (dk_at dksX3_init_2 6 rfl rfl)
theorem dX3_init_53 : decode cX3_init 53 = .ok (.invokeinterface 40 1, 5) := by decide +kernel
theorem dX3_init_58 : decode cX3_init 58 = .ok (.ifCond .eq 29, 3) := dk_153 0 29 (dk_at dksX3_init_2 12 rfl rfl)
theorem dX3_init_61 : decode cX3_init 61 = .ok (.aload_n 3, 1) := dk_45 (dk_at dksX3_init_2 15 rfl rfl)
theorem dX3_init_62 : decode cX3_init 62 = .ok (.invokeinterface 46 1, 5) := by decide +kernel
theorem dX3_init_67 : decode cX3_init 67 = .ok (.checkcast 50, 3) := dk_192 0 50 (dk_at dksX3_init_2 21 rfl rfl)
theorem dX3_init_70 : decode cX3_init 70 = .ok (.astore 4, 2) := dk_58 4 (dk_at dksX3_init_3 0 rfl rfl)
theorem dX3_init_72 : decode cX3_init 72 = .ok (.aload_n 0, 1) := dk_42 (dk_at dksX3_init_3 2 rfl rfl)
theorem dX3_init_73 : decode cX3_init 73 = .ok (.getfield 12, 3) := dk_180 0 12 (dk_at dksX3_init_3 3 rfl rfl)
theorem dX3_init_76 : decode cX3_init 76 = .ok (.aload 4, 2) := dk_25 4 (dk_at dksX3_init_3 6 rfl rfl)
theorem dX3_init_78 : decode cX3_init 78 = .ok (.invokeinterface 52 2, 5) := by decide +kernel
theorem dX3_init_83 : decode cX3_init 83 = .ok (.pop, 1) := dk_87 (dk_at dksX3_init_3 13 rfl rfl)
theorem dX3_init_84 : decode cX3_init 84 = .ok (.goto (-32), 3) := dk_167 255 224 (dk_at dksX3_init_3 14 rfl rfl)
theorem dX3_init_87 : decode cX3_init 87 = .ok (.aload_n 0, 1) := dk_42 (dk_at dksX3_init_3 17 rfl rfl)
theorem dX3_init_88 : decode cX3_init 88 = .ok (.getfield 12, 3) := dk_180 0 12 (dk_at dksX3_init_3 18 rfl rfl)
theorem dX3_init_91 : decode cX3_init 91 = .ok (.invokeinterface 58 1, 5) := by decide +kernel
theorem dX3_init_96 : decode cX3_init 96 = .ok (.istore_n 3, 1) := dk_62 (dk_at dksX3_init_4 5 rfl rfl)
theorem dX3_init_97 : decode cX3_init 97 = .ok (.aload_n 0, 1) := dk_42 (dk_at dksX3_init_4 6 rfl rfl)
theorem dX3_init_98 : decode cX3_init 98 = .ok (.iload_n 3, 1) := dk_29 (dk_at dksX3_init_4 7 rfl rfl)
theorem dX3_init_99 : decode cX3_init 99 = .ok (.iload_n 3, 1) := dk_29 (dk_at dksX3_init_4 8 rfl rfl)
theorem dX3_init_100 : decode cX3_init 100 = .ok (.multianewarray 62 2, 4) := by decide +kernel
theorem dX3_init_104 : decode cX3_init 104 = .ok (.putfield 64, 3) := dk_181 0 64 (dk_at dksX3_init_4 13 rfl rfl)
theorem dX3_init_107 : decode cX3_init 107 = .ok (.aload_n 0, 1) := dk_42 (dk_at dksX3_init_4 16 rfl rfl)
theorem dX3_init_108 : decode cX3_init 108 = .ok (.iload_n 3, 1) := dk_29 (dk_at dksX3_init_4 17 rfl rfl)
theorem dX3_init_109 : decode cX3_init 109 = .ok (.newarray .int, 2) := dk_188_10 (dk_at dksX3_init_4 18 rfl rfl)
theorem dX3_init_111 : decode cX3_init 111 = .ok (.putfield 67, 3) := dk_181 0 67 (dk_at dksX3_init_4 20 rfl rfl)
theorem dX3_init_114 : decode cX3_init 114 = .ok (.iconst 0, 1) := dk_3 (dk_at dksX3_init_4 23 rfl rfl)
theorem dX3_init_115 : decode cX3_init 115 = .ok (.istore 4, 2) := dk_54 4 (dk_at dksX3_init_5 0 rfl rfl)
theorem dX3_init_117 : decode cX3_init 117 = .ok (.iload 4, 2) := dk_21 4 (dk_at dksX3_init_5 2 rfl rfl)
theorem dX3_init_119 : decode cX3_init 119 = .ok (.iload_n 3, 1) := dk_29 (dk_at dksX3_init_5 4 rfl rfl)
theorem dX3_init_120 : decode cX3_init 120 = .ok (.if_icmp .ge 33, 3) := dk_162 0 33 (dk_at dksX3_init_5 5 rfl rfl)
theorem dX3_init_123 : decode cX3_init 123 = .ok (.aload_n 2, 1) := dk_44 (dk_at dksX3_init_5 8 rfl rfl)
theorem dX3_init_124 : decode cX3_init 124 = .ok (.aload_n 0, 1) := dk_42 (dk_at dksX3_init_5 9 rfl rfl)
theorem dX3_init_125 : decode cX3_init 125 = .ok (.getfield 12, 3) := dk_180 0 12 (dk_at dksX3_init_5 10 rfl rfl)
theorem dX3_init_128 : decode cX3_init 128 = .ok (.iload 4, 2) := dk_21 4 (dk_at dksX3_init_5 13 rfl rfl)
theorem dX3_init_130 : decode cX3_init 130 = .ok (.invokeinterface 71 2, 5) := by decide +kernel
theorem dX3_init_135 : decode cX3_init 135 = .ok (.checkcast 50, 3) := dk_192 0 50 (dk_at dksX3_init_5 20 rfl rfl)
theorem dX3_init_138 : decode cX3_init 138 = .ok (.iload 4, 2) := dk_21 4 (dk_at dksX3_init_6 0 rfl rfl)
theorem dX3_init_140 : decode cX3_init 140 = .ok (.invokestatic 75, 3) := dk_184 0 75 (dk_at dksX3_init_6 2 rfl rfl)
theorem dX3_init_143 : decode cX3_init 143 = .ok (.invokevirtual 81, 3) := dk_182 0 81 (dk_at dksX3_init_6 5 rfl rfl)
theorem dX3_init_146 : decode cX3_init 146 = .ok (.pop, 1) := dk_87 (dk_at dksX3_init_6 8 rfl rfl)
theorem dX3_init_147 : decode cX3_init 147 = .ok (.iinc 4 1, 3) := dk_132 4 1 (dk_at dksX3_init_6 9 rfl rfl)
theorem dX3_init_150 : decode cX3_init 150 = .ok (.goto (-33), 3) := dk_167 255 223 (dk_at dksX3_init_6 12 rfl rfl)
theorem dX3_init_153 : decode cX3_init 153 = .ok (.iconst 0, 1) := dk_3 (dk_at dksX3_init_6 15 rfl rfl)
theorem dX3_init_154 : decode cX3_init 154 = .ok (.istore 4, 2) := dk_54 4 (dk_at dksX3_init_6 16 rfl rfl)
theorem dX3_init_156 : decode cX3_init 156 = .ok (.iload 4, 2) := dk_21 4 (dk_at dksX3_init_6 18 rfl rfl)
theorem dX3_init_158 : decode cX3_init 158 = .ok (.iload_n 3, 1) := dk_29 (dk_at dksX3_init_6 20 rfl rfl)
theorem dX3_init_159 : decode cX3_init 159 = .ok (.if_icmp .ge 97, 3) := dk_162 0 97 (dk_at dksX3_init_6 21 rfl rfl)
theorem dX3_init_162 : decode cX3_init 162 = .ok (.iconst 0, 1) := dk_3 (dk_at dksX3_init_7 0 rfl rfl)
theorem dX3_init_163 : decode cX3_init 163 = .ok (.istore 5, 2) := dk_54 5 (dk_at dksX3_init_7 1 rfl rfl)
theorem dX3_init_165 : decode cX3_init 165 = .ok (.iload 5, 2) := dk_21 5 (dk_at dksX3_init_7 3 rfl rfl)
theorem dX3_init_167 : decode cX3_init 167 = .ok (.iload_n 3, 1) := dk_29 (dk_at dksX3_init_7 5 rfl rfl)
theorem dX3_init_168 : decode cX3_init 168 = .ok (.if_icmp .ge 82, 3) := dk_162 0 82 (dk_at dksX3_init_7 6 rfl rfl)
theorem dX3_init_171 : decode cX3_init 171 = .ok (.aload_n 0, 1) := dk_42 (dk_at dksX3_init_7 9 rfl rfl)
theorem dX3_init_172 : decode cX3_init 172 = .ok (.getfield 64, 3) := dk_180 0 64 (dk_at dksX3_init_7 10 rfl rfl)
theorem dX3_init_175 : decode cX3_init 175 = .ok (.iload 4, 2) := dk_21 4 (dk_at dksX3_init_7 13 rfl rfl)
theorem dX3_init_177 : decode cX3_init 177 = .ok (.aaload, 1) := dk_50 (dk_at dksX3_init_7 15 rfl rfl)
theorem dX3_init_178 : decode cX3_init 178 = .ok (.iload 5, 2) := dk_21 5 (dk_at dksX3_init_7 16 rfl rfl)
theorem dX3_init_180 : decode cX3_init 180 = .ok (.aload_n 2, 1) := dk_44 (dk_at dksX3_init_7 18 rfl rfl)
theorem dX3_init_181 : decode cX3_init 181 = .ok (.aload_n 0, 1) := dk_42 (dk_at dksX3_init_7 19 rfl rfl)
theorem dX3_init_182 : decode cX3_init 182 = .ok (.getfield 12, 3) := dk_180 0 12 (dk_at dksX3_init_7 20 rfl rfl)
theorem dX3_init_185 : decode cX3_init 185 = .ok (.iload 4, 2) := dk_21 4 (dk_at dksX3_init_8 0 rfl rfl)
theorem dX3_init_187 : decode cX3_init 187 = .ok (.invokeinterface 71 2, 5) := by decide +kernel
theorem dX3_init_192 : decode cX3_init 192 = .ok (.checkcast 50, 3) := dk_192 0 50 (dk_at dksX3_init_8 7 rfl rfl)
theorem dX3_init_195 : decode cX3_init 195 = .ok (.aload_n 0, 1) := dk_42 (dk_at dksX3_init_8 10 rfl rfl)
theorem dX3_init_196 : decode cX3_init 196 = .ok (.getfield 12, 3) := dk_180 0 12 (dk_at dksX3_init_8 11 rfl rfl)
theorem dX3_init_199 : decode cX3_init 199 = .ok (.iload 5, 2) := dk_21 5 (dk_at dksX3_init_8 14 rfl rfl)
theorem dX3_init_201 : decode cX3_init 201 = .ok (.invokeinterface 71 2, 5) := by decide +kernel
theorem dX3_init_206 : decode cX3_init 206 = .ok (.checkcast 50, 3) := dk_192 0 50 (dk_at dksX3_init_8 21 rfl rfl)
theorem dX3_init_209 : decode cX3_init 209 = .ok (.invokevirtual 85, 3) := dk_182 0 85 (dk_at dksX3_init_9 0 rfl rfl)
theorem dX3_init_212 : decode cX3_init 212 = .ok (.invokevirtual 89, 3) := dk_182 0 89 (dk_at dksX3_init_9 3 rfl rfl)
theorem dX3_init_215 : decode cX3_init 215 = .ok (.checkcast 76, 3) := dk_192 0 76 (dk_at dksX3_init_9 6 rfl rfl)
theorem dX3_init_218 : decode cX3_init 218 = .ok (.invokevirtual 92, 3) := dk_182 0 92 (dk_at dksX3_init_9 9 rfl rfl)
theorem dX3_init_221 : decode cX3_init 221 = .ok (.iastore, 1) := dk_79 (dk_at dksX3_init_9 12 rfl rfl)
theorem dX3_init_222 : decode cX3_init 222 = .ok (.aload_n 0, 1) := dk_42 (dk_at dksX3_init_9 13 rfl rfl)
theorem dX3_init_223 : decode cX3_init 223 = .ok (.getfield 64, 3) := dk_180 0 64 (dk_at dksX3_init_9 14 rfl rfl)
theorem dX3_init_226 : decode cX3_init 226 = .ok (.iload 4, 2) := dk_21 4 (dk_at dksX3_init_9 17 rfl rfl)
theorem dX3_init_228 : decode cX3_init 228 = .ok (.aaload, 1) := dk_50 (dk_at dksX3_init_9 19 rfl rfl)
theorem dX3_init_229 : decode cX3_init 229 = .ok (.iload 5, 2) := dk_21 5 (dk_at dksX3_init_9 20 rfl rfl)
theorem dX3_init_231 : decode cX3_init 231 = .ok (.iaload, 1) := dk_46 (dk_at dksX3_init_9 22 rfl rfl)
theorem dX3_init_232 : decode cX3_init 232 = .ok (.ifCond .ne 12, 3) := dk_154 0 12 (dk_at dksX3_init_10 0 rfl rfl)
theorem dX3_init_235 : decode cX3_init 235 = .ok (.aload_n 0, 1) := dk_42 (dk_at dksX3_init_10 3 rfl rfl)
theorem dX3_init_236 : decode cX3_init 236 = .ok (.getfield 67, 3) := dk_180 0 67 (dk_at dksX3_init_10 4 rfl rfl)
theorem dX3_init_239 : decode cX3_init 239 = .ok (.iload 4, 2) := dk_21 4 (dk_at dksX3_init_10 7 rfl rfl)
theorem dX3_init_241 : decode cX3_init 241 = .ok (.iload 5, 2) := dk_21 5 (dk_at dksX3_init_10 9 rfl rfl)
theorem dX3_init_243 : decode cX3_init 243 = .ok (.iastore, 1) := dk_79 (dk_at dksX3_init_10 11 rfl rfl)
theorem dX3_init_244 : decode cX3_init 244 = .ok (.iinc 5 1, 3) := dk_132 5 1 (dk_at dksX3_init_10 12 rfl rfl)
theorem dX3_init_247 : decode cX3_init 247 = .ok (.goto (-82), 3) := dk_167 255 174 (dk_at dksX3_init_10 15 rfl rfl)
theorem dX3_init_250 : decode cX3_init 250 = .ok (.iinc 4 1, 3) := dk_132 4 1 (dk_at dksX3_init_10 18 rfl rfl)
theorem dX3_init_253 : decode cX3_init 253 = .ok (.goto (-97), 3) := dk_167 255 159 (dk_at dksX3_init_10 21 rfl rfl)
theorem dX3_init_256 : decode cX3_init 256 = .ok (.aload_n 0, 1) := dk_42 (dk_at dksX3_init_11 0 rfl rfl)
theorem dX3_init_257 : decode cX3_init 257 = .ok (.invokevirtual 95, 3) := dk_182 0 95 (dk_at dksX3_init_11 1 rfl rfl)
theorem dX3_init_260 : decode cX3_init 260 = .ok (.aload_n 0, 1) := dk_42 (dk_at dksX3_init_11 4 rfl rfl)
theorem dX3_init_261 : decode cX3_init 261 = .ok (.aload_n 0, 1) := dk_42 (dk_at dksX3_init_11 5 rfl rfl)
theorem dX3_init_262 : decode cX3_init 262 = .ok (.getfield 18, 3) := dk_180 0 18 (dk_at dksX3_init_11 6 rfl rfl)
theorem dX3_init_265 : decode cX3_init 265 = .ok (.invokeinterface 58 1, 5) := by decide +kernel
theorem dX3_init_270 : decode cX3_init 270 = .ok (.newarray .int, 2) := dk_188_10 (dk_at dksX3_init_11 14 rfl rfl)
theorem dX3_init_272 : decode cX3_init 272 = .ok (.putfield 98, 3) := dk_181 0 98 (dk_at dksX3_init_11 16 rfl rfl)
theorem dX3_init_275 : decode cX3_init 275 = .ok (.aload_n 0, 1) := dk_42 (dk_at dksX3_init_11 19 rfl rfl)
theorem dX3_init_276 : decode cX3_init 276 = .ok (.invokevirtual 101, 3) := dk_182 0 101 (dk_at dksX3_init_11 20 rfl rfl)
theorem dX3_init_279 : decode cX3_init 279 = .ok (.aload_n 0, 1) := dk_42 (dk_at dksX3_init_11 23 rfl rfl)
theorem dX3_init_280 : decode cX3_init 280 = .ok (.aload_n 0, 1) := dk_42 (dk_at dksX3_init_12 0 rfl rfl)
theorem dX3_init_281 : decode cX3_init 281 = .ok (.getfield 21, 3) := dk_180 0 21 (dk_at dksX3_init_12 1 rfl rfl)
theorem dX3_init_284 : decode cX3_init 284 = .ok (.invokeinterface 58 1, 5) := by decide +kernel
theorem dX3_init_289 : decode cX3_init 289 = .ok (.aload_n 0, 1) := dk_42 (dk_at dksX3_init_12 9 rfl rfl)
theorem dX3_init_290 : decode cX3_init 290 = .ok (.getfield 21, 3) := dk_180 0 21 (dk_at dksX3_init_12 10 rfl rfl)
theorem dX3_init_293 : decode cX3_init 293 = .ok (.invokeinterface 58 1, 5) := by decide +kernel
theorem dX3_init_298 : decode cX3_init 298 = .ok (.multianewarray 62 2, 4) := by decide +kernel
theorem dX3_init_302 : decode cX3_init 302 = .ok (.putfield 104, 3) := dk_181 0 104 (dk_at dksX3_init_13 0 rfl rfl)
theorem dX3_init_305 : decode cX3_init 305 = .ok (.iconst 0, 1) := dk_3 (dk_at dksX3_init_13 3 rfl rfl)
theorem dX3_init_306 : decode cX3_init 306 = .ok (.istore 4, 2) := dk_54 4 (dk_at dksX3_init_13 4 rfl rfl)
theorem dX3_init_308 : decode cX3_init 308 = .ok (.iload 4, 2) := dk_21 4 (dk_at dksX3_init_13 6 rfl rfl)
theorem dX3_init_310 : decode cX3_init 310 = .ok (.aload_n 0, 1) := dk_42 (dk_at dksX3_init_13 8 rfl rfl)
theorem dX3_init_311 : decode cX3_init 311 = .ok (.getfield 104, 3) := dk_180 0 104 (dk_at dksX3_init_13 9 rfl rfl)
theorem dX3_init_314 : decode cX3_init 314 = .ok (.arraylength, 1) := dk_190 (dk_at dksX3_init_13 12 rfl rfl)
theorem dX3_init_315 : decode cX3_init 315 = .ok (.if_icmp .ge 76, 3) := dk_162 0 76 (dk_at dksX3_init_13 13 rfl rfl)
theorem dX3_init_318 : decode cX3_init 318 = .ok (.iconst 0, 1) := dk_3 (dk_at dksX3_init_13 16 rfl rfl)
theorem dX3_init_319 : decode cX3_init 319 = .ok (.istore 5, 2) := dk_54 5 (dk_at dksX3_init_13 17 rfl rfl)
theorem dX3_init_321 : decode cX3_init 321 = .ok (.iload 5, 2) := dk_21 5 (dk_at dksX3_init_13 19 rfl rfl)
theorem dX3_init_323 : decode cX3_init 323 = .ok (.aload_n 0, 1) := dk_42 (dk_at dksX3_init_13 21 rfl rfl)
theorem dX3_init_324 : decode cX3_init 324 = .ok (.getfield 104, 3) := dk_180 0 104 (dk_at dksX3_init_14 0 rfl rfl)
theorem dX3_init_327 : decode cX3_init 327 = .ok (.arraylength, 1) := dk_190 (dk_at dksX3_init_14 3 rfl rfl)
theorem dX3_init_328 : decode cX3_init 328 = .ok (.if_icmp .ge 57, 3) := dk_162 0 57 (dk_at dksX3_init_14 4 rfl rfl)
theorem dX3_init_331 : decode cX3_init 331 = .ok (.aload_n 0, 1) := dk_42 (dk_at dksX3_init_14 7 rfl rfl)
theorem dX3_init_332 : decode cX3_init 332 = .ok (.getfield 104, 3) := dk_180 0 104 (dk_at dksX3_init_14 8 rfl rfl)
theorem dX3_init_335 : decode cX3_init 335 = .ok (.iload 4, 2) := dk_21 4 (dk_at dksX3_init_14 11 rfl rfl)
theorem dX3_init_337 : decode cX3_init 337 = .ok (.aaload, 1) := dk_50 (dk_at dksX3_init_14 13 rfl rfl)
theorem dX3_init_338 : decode cX3_init 338 = .ok (.iload 5, 2) := dk_21 5 (dk_at dksX3_init_14 14 rfl rfl)
theorem dX3_init_340 : decode cX3_init 340 = .ok (.aload_n 0, 1) := dk_42 (dk_at dksX3_init_14 16 rfl rfl)
theorem dX3_init_341 : decode cX3_init 341 = .ok (.aload_n 0, 1) := dk_42 (dk_at dksX3_init_14 17 rfl rfl)
theorem dX3_init_342 : decode cX3_init 342 = .ok (.getfield 21, 3) := dk_180 0 21 (dk_at dksX3_init_14 18 rfl rfl)
theorem dX3_init_345 : decode cX3_init 345 = .ok (.iload 4, 2) := dk_21 4 (dk_at dksX3_init_14 21 rfl rfl)
theorem dX3_init_347 : decode cX3_init 347 = .ok (.invokeinterface 71 2, 5) := by decide +kernel
theorem dX3_init_352 : decode cX3_init 352 = .ok (.checkcast 107, 3) := dk_192 0 107 (dk_at dksX3_init_15 5 rfl rfl)
theorem dX3_init_355 : decode cX3_init 355 = .ok (.getfield 109, 3) := dk_180 0 109 (dk_at dksX3_init_15 8 rfl rfl)
theorem dX3_init_358 : decode cX3_init 358 = .ok (.aload_n 0, 1) := dk_42 (dk_at dksX3_init_15 11 rfl rfl)
theorem dX3_init_359 : decode cX3_init 359 = .ok (.getfield 21, 3) := dk_180 0 21 (dk_at dksX3_init_15 12 rfl rfl)
theorem dX3_init_362 : decode cX3_init 362 = .ok (.iload 5, 2) := dk_21 5 (dk_at dksX3_init_15 15 rfl rfl)
theorem dX3_init_364 : decode cX3_init 364 = .ok (.invokeinterface 71 2, 5) := by decide +kernel
theorem dX3_init_369 : decode cX3_init 369 = .ok (.checkcast 107, 3) := dk_192 0 107 (dk_at dksX3_init_16 0 rfl rfl)
theorem dX3_init_372 : decode cX3_init 372 = .ok (.getfield 109, 3) := dk_180 0 109 (dk_at dksX3_init_16 3 rfl rfl)
theorem dX3_init_375 : decode cX3_init 375 = .ok (.invokevirtual 112, 3) := dk_182 0 112 (dk_at dksX3_init_16 6 rfl rfl)
theorem dX3_init_378 : decode cX3_init 378 = .ok (.iastore, 1) := dk_79 (dk_at dksX3_init_16 9 rfl rfl)
theorem dX3_init_379 : decode cX3_init 379 = .ok (.iinc 5 1, 3) := dk_132 5 1 (dk_at dksX3_init_16 10 rfl rfl)
theorem dX3_init_382 : decode cX3_init 382 = .ok (.goto (-61), 3) := dk_167 255 195 (dk_at dksX3_init_16 13 rfl rfl)
theorem dX3_init_385 : decode cX3_init 385 = .ok (.iinc 4 1, 3) := dk_132 4 1 (dk_at dksX3_init_16 16 rfl rfl)
theorem dX3_init_388 : decode cX3_init 388 = .ok (.goto (-80), 3) := dk_167 255 176 (dk_at dksX3_init_16 19 rfl rfl)
theorem dX3_init_391 : decode cX3_init 391 = .ok (.return_, 1) := dk_177 (dk_at dksX3_init_16 22 rfl rfl)
abbrev cX3_findSubgroups : ByteArray := prog_3_method_4_code
def yX3_findSubgroups : MethodName := ⟨RX3, "findSubgroups", "()V"⟩
def dkwX3_findSubgroups_4 : List UInt8 := [87, 132, 2, 1, 167, 255, 190, 132, 1, 1, 167, 255, 169, 177]
abbrev dktX3_findSubgroups_4 : List UInt8 := dkwX3_findSubgroups_4 ++ []
def dkwX3_findSubgroups_3 : List UInt8 := [184, 0, 75, 185, 0, 125, 2, 0, 154, 0, 17, 42, 180, 0, 18, 29, 184, 0, 75, 185, 0, 52, 2, 0]
abbrev dktX3_findSubgroups_3 : List UInt8 := dkwX3_findSubgroups_3 ++ dktX3_findSubgroups_4
def dkwX3_findSubgroups_2 : List UInt8 := [185, 0, 71, 2, 0, 192, 0, 76, 182, 0, 92, 4, 28, 120, 128, 182, 0, 121, 62, 42, 180, 0, 18, 29]
abbrev dktX3_findSubgroups_2 : List UInt8 := dkwX3_findSubgroups_2 ++ dktX3_findSubgroups_3
def dkwX3_findSubgroups_1 : List UInt8 := [185, 0, 58, 1, 0, 162, 0, 80, 4, 61, 28, 42, 182, 0, 116, 162, 0, 64, 42, 42, 180, 0, 18, 27]
abbrev dktX3_findSubgroups_1 : List UInt8 := dkwX3_findSubgroups_1 ++ dktX3_findSubgroups_2
def dkwX3_findSubgroups_0 : List UInt8 := [42, 180, 0, 18, 4, 184, 0, 75, 185, 0, 52, 2, 0, 87, 3, 60, 27, 42, 180, 0, 18]
abbrev dktX3_findSubgroups_0 : List UInt8 := dkwX3_findSubgroups_0 ++ dktX3_findSubgroups_1
theorem dksX3_findSubgroups_0 : cX3_findSubgroups.data.toList.drop 0 = dktX3_findSubgroups_0 := by decide +kernel
theorem dksX3_findSubgroups_1 : cX3_findSubgroups.data.toList.drop 21 = dktX3_findSubgroups_1 := dk_seg dksX3_findSubgroups_0 21 rfl rfl
theorem dksX3_findSubgroups_2 : cX3_findSubgroups.data.toList.drop 45 = dktX3_findSubgroups_2 := dk_seg dksX3_findSubgroups_1 24 rfl rfl
theorem dksX3_findSubgroups_3 : cX3_findSubgroups.data.toList.drop 69 = dktX3_findSubgroups_3 := dk_seg dksX3_findSubgroups_2 24 rfl rfl
theorem dksX3_findSubgroups_4 : cX3_findSubgroups.data.toList.drop 93 = dktX3_findSubgroups_4 := dk_seg dksX3_findSubgroups_3 24 rfl rfl
theorem dX3_findSubgroups_0 : decode cX3_findSubgroups 0 = .ok (.aload_n 0, 1) := dk_42 (dk_at dksX3_findSubgroups_0 0 rfl rfl)
theorem dX3_findSubgroups_1 : decode cX3_findSubgroups 1 = .ok (.getfield 18, 3) := dk_180 0 18 (dk_at dksX3_findSubgroups_0 1 rfl rfl)
theorem dX3_findSubgroups_4 : decode cX3_findSubgroups 4 = .ok (.iconst 1, 1) := dk_4 (dk_at dksX3_findSubgroups_0 4 rfl rfl)
theorem dX3_findSubgroups_5 : decode cX3_findSubgroups 5 = .ok (.invokestatic 75, 3) := dk_184 0 75 (dk_at dksX3_findSubgroups_0 5 rfl rfl)
theorem dX3_findSubgroups_8 : decode cX3_findSubgroups 8 = .ok (.invokeinterface 52 2, 5) := by decide +kernel
theorem dX3_findSubgroups_13 : decode cX3_findSubgroups 13 = .ok (.pop, 1) := dk_87 (dk_at dksX3_findSubgroups_0 13 rfl rfl)
theorem dX3_findSubgroups_14 : decode cX3_findSubgroups 14 = .ok (.iconst 0, 1) := dk_3 (dk_at dksX3_findSubgroups_0 14 rfl rfl)
theorem dX3_findSubgroups_15 : decode cX3_findSubgroups 15 = .ok (.istore_n 1, 1) := dk_60 (dk_at dksX3_findSubgroups_0 15 rfl rfl)
theorem dX3_findSubgroups_16 : decode cX3_findSubgroups 16 = .ok (.iload_n 1, 1) := dk_27 (dk_at dksX3_findSubgroups_0 16 rfl rfl)
theorem dX3_findSubgroups_17 : decode cX3_findSubgroups 17 = .ok (.aload_n 0, 1) := dk_42 (dk_at dksX3_findSubgroups_0 17 rfl rfl)
theorem dX3_findSubgroups_18 : decode cX3_findSubgroups 18 = .ok (.getfield 18, 3) := dk_180 0 18 (dk_at dksX3_findSubgroups_0 18 rfl rfl)
theorem dX3_findSubgroups_21 : decode cX3_findSubgroups 21 = .ok (.invokeinterface 58 1, 5) := by decide +kernel
theorem dX3_findSubgroups_26 : decode cX3_findSubgroups 26 = .ok (.if_icmp .ge 80, 3) := dk_162 0 80 (dk_at dksX3_findSubgroups_1 5 rfl rfl)
theorem dX3_findSubgroups_29 : decode cX3_findSubgroups 29 = .ok (.iconst 1, 1) := dk_4 (dk_at dksX3_findSubgroups_1 8 rfl rfl)
theorem dX3_findSubgroups_30 : decode cX3_findSubgroups 30 = .ok (.istore_n 2, 1) := dk_61 (dk_at dksX3_findSubgroups_1 9 rfl rfl)
theorem dX3_findSubgroups_31 : decode cX3_findSubgroups 31 = .ok (.iload_n 2, 1) := dk_28 (dk_at dksX3_findSubgroups_1 10 rfl rfl)
theorem dX3_findSubgroups_32 : decode cX3_findSubgroups 32 = .ok (.aload_n 0, 1) := dk_42 (dk_at dksX3_findSubgroups_1 11 rfl rfl)
theorem dX3_findSubgroups_33 : decode cX3_findSubgroups 33 = .ok (.invokevirtual 116, 3) := dk_182 0 116 (dk_at dksX3_findSubgroups_1 12 rfl rfl)
theorem dX3_findSubgroups_36 : decode cX3_findSubgroups 36 = .ok (.if_icmp .ge 64, 3) := dk_162 0 64 (dk_at dksX3_findSubgroups_1 15 rfl rfl)
theorem dX3_findSubgroups_39 : decode cX3_findSubgroups 39 = .ok (.aload_n 0, 1) := dk_42 (dk_at dksX3_findSubgroups_1 18 rfl rfl)
theorem dX3_findSubgroups_40 : decode cX3_findSubgroups 40 = .ok (.aload_n 0, 1) := dk_42 (dk_at dksX3_findSubgroups_1 19 rfl rfl)
theorem dX3_findSubgroups_41 : decode cX3_findSubgroups 41 = .ok (.getfield 18, 3) := dk_180 0 18 (dk_at dksX3_findSubgroups_1 20 rfl rfl)
theorem dX3_findSubgroups_44 : decode cX3_findSubgroups 44 = .ok (.iload_n 1, 1) := dk_27 (dk_at dksX3_findSubgroups_1 23 rfl rfl)
theorem dX3_findSubgroups_45 : decode cX3_findSubgroups 45 = .ok (.invokeinterface 71 2, 5) := by decide +kernel
theorem dX3_findSubgroups_50 : decode cX3_findSubgroups 50 = .ok (.checkcast 76, 3) := dk_192 0 76 (dk_at dksX3_findSubgroups_2 5 rfl rfl)
theorem dX3_findSubgroups_53 : decode cX3_findSubgroups 53 = .ok (.invokevirtual 92, 3) := dk_182 0 92 (dk_at dksX3_findSubgroups_2 8 rfl rfl)
theorem dX3_findSubgroups_56 : decode cX3_findSubgroups 56 = .ok (.iconst 1, 1) := dk_4 (dk_at dksX3_findSubgroups_2 11 rfl rfl)
theorem dX3_findSubgroups_57 : decode cX3_findSubgroups 57 = .ok (.iload_n 2, 1) := dk_28 (dk_at dksX3_findSubgroups_2 12 rfl rfl)
theorem dX3_findSubgroups_58 : decode cX3_findSubgroups 58 = .ok (.ishl, 1) := dk_120 (dk_at dksX3_findSubgroups_2 13 rfl rfl)
theorem dX3_findSubgroups_59 : decode cX3_findSubgroups 59 = .ok (.ior, 1) := dk_128 (dk_at dksX3_findSubgroups_2 14 rfl rfl)
theorem dX3_findSubgroups_60 : decode cX3_findSubgroups 60 = .ok (.invokevirtual 121, 3) := dk_182 0 121 (dk_at dksX3_findSubgroups_2 15 rfl rfl)
theorem dX3_findSubgroups_63 : decode cX3_findSubgroups 63 = .ok (.istore_n 3, 1) := dk_62 (dk_at dksX3_findSubgroups_2 18 rfl rfl)
theorem dX3_findSubgroups_64 : decode cX3_findSubgroups 64 = .ok (.aload_n 0, 1) := dk_42 (dk_at dksX3_findSubgroups_2 19 rfl rfl)
theorem dX3_findSubgroups_65 : decode cX3_findSubgroups 65 = .ok (.getfield 18, 3) := dk_180 0 18 (dk_at dksX3_findSubgroups_2 20 rfl rfl)
theorem dX3_findSubgroups_68 : decode cX3_findSubgroups 68 = .ok (.iload_n 3, 1) := dk_29 (dk_at dksX3_findSubgroups_2 23 rfl rfl)
theorem dX3_findSubgroups_69 : decode cX3_findSubgroups 69 = .ok (.invokestatic 75, 3) := dk_184 0 75 (dk_at dksX3_findSubgroups_3 0 rfl rfl)
theorem dX3_findSubgroups_72 : decode cX3_findSubgroups 72 = .ok (.invokeinterface 125 2, 5) := by decide +kernel
theorem dX3_findSubgroups_77 : decode cX3_findSubgroups 77 = .ok (.ifCond .ne 17, 3) := dk_154 0 17 (dk_at dksX3_findSubgroups_3 8 rfl rfl)
theorem dX3_findSubgroups_80 : decode cX3_findSubgroups 80 = .ok (.aload_n 0, 1) := dk_42 (dk_at dksX3_findSubgroups_3 11 rfl rfl)
theorem dX3_findSubgroups_81 : decode cX3_findSubgroups 81 = .ok (.getfield 18, 3) := dk_180 0 18 (dk_at dksX3_findSubgroups_3 12 rfl rfl)
theorem dX3_findSubgroups_84 : decode cX3_findSubgroups 84 = .ok (.iload_n 3, 1) := dk_29 (dk_at dksX3_findSubgroups_3 15 rfl rfl)
theorem dX3_findSubgroups_85 : decode cX3_findSubgroups 85 = .ok (.invokestatic 75, 3) := dk_184 0 75 (dk_at dksX3_findSubgroups_3 16 rfl rfl)
theorem dX3_findSubgroups_88 : decode cX3_findSubgroups 88 = .ok (.invokeinterface 52 2, 5) := by decide +kernel
theorem dX3_findSubgroups_93 : decode cX3_findSubgroups 93 = .ok (.pop, 1) := dk_87 (dk_at dksX3_findSubgroups_4 0 rfl rfl)
theorem dX3_findSubgroups_94 : decode cX3_findSubgroups 94 = .ok (.iinc 2 1, 3) := dk_132 2 1 (dk_at dksX3_findSubgroups_4 1 rfl rfl)
theorem dX3_findSubgroups_97 : decode cX3_findSubgroups 97 = .ok (.goto (-66), 3) := dk_167 255 190 (dk_at dksX3_findSubgroups_4 4 rfl rfl)
theorem dX3_findSubgroups_100 : decode cX3_findSubgroups 100 = .ok (.iinc 1 1, 3) := dk_132 1 1 (dk_at dksX3_findSubgroups_4 7 rfl rfl)
theorem dX3_findSubgroups_103 : decode cX3_findSubgroups 103 = .ok (.goto (-87), 3) := dk_167 255 169 (dk_at dksX3_findSubgroups_4 10 rfl rfl)
theorem dX3_findSubgroups_106 : decode cX3_findSubgroups 106 = .ok (.return_, 1) := dk_177 (dk_at dksX3_findSubgroups_4 13 rfl rfl)
abbrev cX3_size : ByteArray := prog_3_method_2_code
def yX3_size : MethodName := ⟨RX3, "size", "()I"⟩
def dkwX3_size_0 : List UInt8 := [42, 180, 0, 12, 185, 0, 58, 1, 0, 172]
abbrev dktX3_size_0 : List UInt8 := dkwX3_size_0 ++ []
theorem dksX3_size_0 : cX3_size.data.toList.drop 0 = dktX3_size_0 := by decide +kernel
theorem dX3_size_0 : decode cX3_size 0 = .ok (.aload_n 0, 1) := dk_42 (dk_at dksX3_size_0 0 rfl rfl)
theorem dX3_size_1 : decode cX3_size 1 = .ok (.getfield 12, 3) := dk_180 0 12 (dk_at dksX3_size_0 1 rfl rfl)
theorem dX3_size_4 : decode cX3_size 4 = .ok (.invokeinterface 58 1, 5) := by decide +kernel
theorem dX3_size_9 : decode cX3_size 9 = .ok (.ireturn, 1) := dk_172 (dk_at dksX3_size_0 9 rfl rfl)
abbrev cX3_made : ByteArray := prog_3_method_3_code
def yX3_made : MethodName := ⟨RX3, "made", "(I)I"⟩
def dkwX3_made_4 : List UInt8 := [172]
abbrev dktX3_made_4 : List UInt8 := dkwX3_made_4 ++ []
def dkwX3_made_3 : List UInt8 := [46, 120, 167, 0, 4, 3, 128, 61, 132, 5, 1, 167, 255, 205, 132, 4, 1, 167, 255, 187, 167, 255, 174, 28]
abbrev dktX3_made_3 : List UInt8 := dkwX3_made_3 ++ dktX3_made_4
def dkwX3_made_2 : List UInt8 := [153, 0, 38, 28, 29, 133, 21, 5, 184, 0, 117, 153, 0, 18, 4, 42, 180, 0, 64, 21, 4, 50, 21, 5]
abbrev dktX3_made_2 : List UInt8 := dkwX3_made_2 ++ dktX3_made_3
def dkwX3_made_1 : List UInt8 := [162, 0, 66, 3, 54, 5, 21, 5, 42, 182, 0, 116, 162, 0, 48, 29, 133, 21, 4, 184, 0, 117]
abbrev dktX3_made_1 : List UInt8 := dkwX3_made_1 ++ dktX3_made_2
def dkwX3_made_0 : List UInt8 := [27, 4, 128, 61, 3, 62, 28, 29, 159, 0, 83, 28, 62, 3, 54, 4, 21, 4, 42, 182, 0, 116]
abbrev dktX3_made_0 : List UInt8 := dkwX3_made_0 ++ dktX3_made_1
theorem dksX3_made_0 : cX3_made.data.toList.drop 0 = dktX3_made_0 := by decide +kernel
theorem dksX3_made_1 : cX3_made.data.toList.drop 22 = dktX3_made_1 := dk_seg dksX3_made_0 22 rfl rfl
theorem dksX3_made_2 : cX3_made.data.toList.drop 44 = dktX3_made_2 := dk_seg dksX3_made_1 22 rfl rfl
theorem dksX3_made_3 : cX3_made.data.toList.drop 68 = dktX3_made_3 := dk_seg dksX3_made_2 24 rfl rfl
theorem dksX3_made_4 : cX3_made.data.toList.drop 92 = dktX3_made_4 := dk_seg dksX3_made_3 24 rfl rfl
theorem dX3_made_0 : decode cX3_made 0 = .ok (.iload_n 1, 1) := dk_27 (dk_at dksX3_made_0 0 rfl rfl)
theorem dX3_made_1 : decode cX3_made 1 = .ok (.iconst 1, 1) := dk_4 (dk_at dksX3_made_0 1 rfl rfl)
theorem dX3_made_2 : decode cX3_made 2 = .ok (.ior, 1) := dk_128 (dk_at dksX3_made_0 2 rfl rfl)
theorem dX3_made_3 : decode cX3_made 3 = .ok (.istore_n 2, 1) := dk_61 (dk_at dksX3_made_0 3 rfl rfl)
theorem dX3_made_4 : decode cX3_made 4 = .ok (.iconst 0, 1) := dk_3 (dk_at dksX3_made_0 4 rfl rfl)
theorem dX3_made_5 : decode cX3_made 5 = .ok (.istore_n 3, 1) := dk_62 (dk_at dksX3_made_0 5 rfl rfl)
theorem dX3_made_6 : decode cX3_made 6 = .ok (.iload_n 2, 1) := dk_28 (dk_at dksX3_made_0 6 rfl rfl)
theorem dX3_made_7 : decode cX3_made 7 = .ok (.iload_n 3, 1) := dk_29 (dk_at dksX3_made_0 7 rfl rfl)
theorem dX3_made_8 : decode cX3_made 8 = .ok (.if_icmp .eq 83, 3) := dk_159 0 83 (dk_at dksX3_made_0 8 rfl rfl)
theorem dX3_made_11 : decode cX3_made 11 = .ok (.iload_n 2, 1) := dk_28 (dk_at dksX3_made_0 11 rfl rfl)
theorem dX3_made_12 : decode cX3_made 12 = .ok (.istore_n 3, 1) := dk_62 (dk_at dksX3_made_0 12 rfl rfl)
theorem dX3_made_13 : decode cX3_made 13 = .ok (.iconst 0, 1) := dk_3 (dk_at dksX3_made_0 13 rfl rfl)
theorem dX3_made_14 : decode cX3_made 14 = .ok (.istore 4, 2) := dk_54 4 (dk_at dksX3_made_0 14 rfl rfl)
theorem dX3_made_16 : decode cX3_made 16 = .ok (.iload 4, 2) := dk_21 4 (dk_at dksX3_made_0 16 rfl rfl)
theorem dX3_made_18 : decode cX3_made 18 = .ok (.aload_n 0, 1) := dk_42 (dk_at dksX3_made_0 18 rfl rfl)
theorem dX3_made_19 : decode cX3_made 19 = .ok (.invokevirtual 116, 3) := dk_182 0 116 (dk_at dksX3_made_0 19 rfl rfl)
theorem dX3_made_22 : decode cX3_made 22 = .ok (.if_icmp .ge 66, 3) := dk_162 0 66 (dk_at dksX3_made_1 0 rfl rfl)
theorem dX3_made_25 : decode cX3_made 25 = .ok (.iconst 0, 1) := dk_3 (dk_at dksX3_made_1 3 rfl rfl)
theorem dX3_made_26 : decode cX3_made 26 = .ok (.istore 5, 2) := dk_54 5 (dk_at dksX3_made_1 4 rfl rfl)
theorem dX3_made_28 : decode cX3_made 28 = .ok (.iload 5, 2) := dk_21 5 (dk_at dksX3_made_1 6 rfl rfl)
theorem dX3_made_30 : decode cX3_made 30 = .ok (.aload_n 0, 1) := dk_42 (dk_at dksX3_made_1 8 rfl rfl)
theorem dX3_made_31 : decode cX3_made 31 = .ok (.invokevirtual 116, 3) := dk_182 0 116 (dk_at dksX3_made_1 9 rfl rfl)
theorem dX3_made_34 : decode cX3_made 34 = .ok (.if_icmp .ge 48, 3) := dk_162 0 48 (dk_at dksX3_made_1 12 rfl rfl)
theorem dX3_made_37 : decode cX3_made 37 = .ok (.iload_n 3, 1) := dk_29 (dk_at dksX3_made_1 15 rfl rfl)
theorem dX3_made_38 : decode cX3_made 38 = .ok (.i2l, 1) := dk_133 (dk_at dksX3_made_1 16 rfl rfl)
theorem dX3_made_39 : decode cX3_made 39 = .ok (.iload 4, 2) := dk_21 4 (dk_at dksX3_made_1 17 rfl rfl)
theorem dX3_made_41 : decode cX3_made 41 = .ok (.invokestatic 117, 3) := dk_184 0 117 (dk_at dksX3_made_1 19 rfl rfl)
theorem dX3_made_44 : decode cX3_made 44 = .ok (.ifCond .eq 38, 3) := dk_153 0 38 (dk_at dksX3_made_2 0 rfl rfl)
theorem dX3_made_47 : decode cX3_made 47 = .ok (.iload_n 2, 1) := dk_28 (dk_at dksX3_made_2 3 rfl rfl)
theorem dX3_made_48 : decode cX3_made 48 = .ok (.iload_n 3, 1) := dk_29 (dk_at dksX3_made_2 4 rfl rfl)
theorem dX3_made_49 : decode cX3_made 49 = .ok (.i2l, 1) := dk_133 (dk_at dksX3_made_2 5 rfl rfl)
theorem dX3_made_50 : decode cX3_made 50 = .ok (.iload 5, 2) := dk_21 5 (dk_at dksX3_made_2 6 rfl rfl)
theorem dX3_made_52 : decode cX3_made 52 = .ok (.invokestatic 117, 3) := dk_184 0 117 (dk_at dksX3_made_2 8 rfl rfl)
theorem dX3_made_55 : decode cX3_made 55 = .ok (.ifCond .eq 18, 3) := dk_153 0 18 (dk_at dksX3_made_2 11 rfl rfl)
theorem dX3_made_58 : decode cX3_made 58 = .ok (.iconst 1, 1) := dk_4 (dk_at dksX3_made_2 14 rfl rfl)
theorem dX3_made_59 : decode cX3_made 59 = .ok (.aload_n 0, 1) := dk_42 (dk_at dksX3_made_2 15 rfl rfl)
theorem dX3_made_60 : decode cX3_made 60 = .ok (.getfield 64, 3) := dk_180 0 64 (dk_at dksX3_made_2 16 rfl rfl)
theorem dX3_made_63 : decode cX3_made 63 = .ok (.iload 4, 2) := dk_21 4 (dk_at dksX3_made_2 19 rfl rfl)
theorem dX3_made_65 : decode cX3_made 65 = .ok (.aaload, 1) := dk_50 (dk_at dksX3_made_2 21 rfl rfl)
theorem dX3_made_66 : decode cX3_made 66 = .ok (.iload 5, 2) := dk_21 5 (dk_at dksX3_made_2 22 rfl rfl)
theorem dX3_made_68 : decode cX3_made 68 = .ok (.iaload, 1) := dk_46 (dk_at dksX3_made_3 0 rfl rfl)
theorem dX3_made_69 : decode cX3_made 69 = .ok (.ishl, 1) := dk_120 (dk_at dksX3_made_3 1 rfl rfl)
theorem dX3_made_70 : decode cX3_made 70 = .ok (.goto 4, 3) := dk_167 0 4 (dk_at dksX3_made_3 2 rfl rfl)
theorem dX3_made_73 : decode cX3_made 73 = .ok (.iconst 0, 1) := dk_3 (dk_at dksX3_made_3 5 rfl rfl)
theorem dX3_made_74 : decode cX3_made 74 = .ok (.ior, 1) := dk_128 (dk_at dksX3_made_3 6 rfl rfl)
theorem dX3_made_75 : decode cX3_made 75 = .ok (.istore_n 2, 1) := dk_61 (dk_at dksX3_made_3 7 rfl rfl)
theorem dX3_made_76 : decode cX3_made 76 = .ok (.iinc 5 1, 3) := dk_132 5 1 (dk_at dksX3_made_3 8 rfl rfl)
theorem dX3_made_79 : decode cX3_made 79 = .ok (.goto (-51), 3) := dk_167 255 205 (dk_at dksX3_made_3 11 rfl rfl)
theorem dX3_made_82 : decode cX3_made 82 = .ok (.iinc 4 1, 3) := dk_132 4 1 (dk_at dksX3_made_3 14 rfl rfl)
theorem dX3_made_85 : decode cX3_made 85 = .ok (.goto (-69), 3) := dk_167 255 187 (dk_at dksX3_made_3 17 rfl rfl)
theorem dX3_made_88 : decode cX3_made 88 = .ok (.goto (-82), 3) := dk_167 255 174 (dk_at dksX3_made_3 20 rfl rfl)
theorem dX3_made_91 : decode cX3_made 91 = .ok (.iload_n 2, 1) := dk_28 (dk_at dksX3_made_3 23 rfl rfl)
theorem dX3_made_92 : decode cX3_made 92 = .ok (.ireturn, 1) := dk_172 (dk_at dksX3_made_4 0 rfl rfl)
abbrev cX3_findSorts : ByteArray := prog_3_method_7_code
def yX3_findSorts : MethodName := ⟨RX3, "findSorts", "()V"⟩
def dkwX3_findSorts_10 : List UInt8 := [180, 0, 109, 182, 0, 161, 181, 0, 164, 167, 255, 225, 177]
abbrev dktX3_findSorts_10 : List UInt8 := dkwX3_findSorts_10 ++ []
def dkwX3_findSorts_9 : List UInt8 := [44, 185, 0, 40, 1, 0, 153, 0, 28, 44, 185, 0, 46, 1, 0, 192, 0, 107, 78, 45, 42, 45]
abbrev dktX3_findSorts_9 : List UInt8 := dkwX3_findSorts_9 ++ dktX3_findSorts_10
def dkwX3_findSorts_8 : List UInt8 := [180, 0, 158, 4, 96, 181, 0, 158, 132, 2, 1, 167, 255, 158, 42, 180, 0, 21, 185, 0, 144, 1, 0, 77]
abbrev dktX3_findSorts_8 : List UInt8 := dkwX3_findSorts_8 ++ dktX3_findSorts_9
def dkwX3_findSorts_7 : List UInt8 := [96, 79, 167, 255, 221, 42, 180, 0, 21, 42, 180, 0, 98, 28, 46, 185, 0, 71, 2, 0, 192, 0, 107, 89]
abbrev dktX3_findSorts_7 : List UInt8 := dkwX3_findSorts_7 ++ dktX3_findSorts_8
def dkwX3_findSorts_6 : List UInt8 := [46, 185, 0, 71, 2, 0, 192, 0, 107, 180, 0, 109, 29, 159, 0, 16, 42, 180, 0, 98, 28, 92, 46, 4]
abbrev dktX3_findSorts_6 : List UInt8 := dkwX3_findSorts_6 ++ dktX3_findSorts_7
def dkwX3_findSorts_5 : List UInt8 := [185, 0, 71, 2, 0, 192, 0, 76, 182, 0, 92, 182, 0, 145, 62, 42, 180, 0, 21, 42, 180, 0, 98, 28]
abbrev dktX3_findSorts_5 : List UInt8 := dkwX3_findSorts_5 ++ dktX3_findSorts_6
def dkwX3_findSorts_4 : List UInt8 := [167, 255, 232, 3, 61, 28, 42, 180, 0, 98, 190, 162, 0, 95, 42, 42, 180, 0, 18, 28]
abbrev dktX3_findSorts_4 : List UInt8 := dkwX3_findSorts_4 ++ dktX3_findSorts_5
def dkwX3_findSorts_3 : List UInt8 := [43, 182, 0, 152, 154, 0, 23, 42, 180, 0, 21, 43, 182, 0, 155, 192, 0, 107, 185, 0, 52, 2, 0, 87]
abbrev dktX3_findSorts_3 : List UInt8 := dkwX3_findSorts_3 ++ dktX3_findSorts_4
def dkwX3_findSorts_2 : List UInt8 := [29, 182, 0, 145, 29, 160, 0, 16, 43, 187, 0, 107, 89, 29, 183, 0, 148, 182, 0, 151, 87, 167, 255, 212]
abbrev dktX3_findSorts_2 : List UInt8 := dkwX3_findSorts_2 ++ dktX3_findSorts_3
def dkwX3_findSorts_1 : List UInt8 := [77, 44, 185, 0, 40, 1, 0, 153, 0, 41, 44, 185, 0, 46, 1, 0, 192, 0, 76, 182, 0, 92, 62, 42]
abbrev dktX3_findSorts_1 : List UInt8 := dkwX3_findSorts_1 ++ dktX3_findSorts_2
def dkwX3_findSorts_0 : List UInt8 := [187, 0, 136, 89, 187, 0, 138, 89, 183, 0, 140, 183, 0, 141, 76, 42, 180, 0, 18, 185, 0, 144, 1, 0]
abbrev dktX3_findSorts_0 : List UInt8 := dkwX3_findSorts_0 ++ dktX3_findSorts_1
theorem dksX3_findSorts_0 : cX3_findSorts.data.toList.drop 0 = dktX3_findSorts_0 := by decide +kernel
theorem dksX3_findSorts_1 : cX3_findSorts.data.toList.drop 24 = dktX3_findSorts_1 := dk_seg dksX3_findSorts_0 24 rfl rfl
theorem dksX3_findSorts_2 : cX3_findSorts.data.toList.drop 48 = dktX3_findSorts_2 := dk_seg dksX3_findSorts_1 24 rfl rfl
theorem dksX3_findSorts_3 : cX3_findSorts.data.toList.drop 72 = dktX3_findSorts_3 := dk_seg dksX3_findSorts_2 24 rfl rfl
theorem dksX3_findSorts_4 : cX3_findSorts.data.toList.drop 96 = dktX3_findSorts_4 := dk_seg dksX3_findSorts_3 24 rfl rfl
theorem dksX3_findSorts_5 : cX3_findSorts.data.toList.drop 116 = dktX3_findSorts_5 := dk_seg dksX3_findSorts_4 20 rfl rfl
theorem dksX3_findSorts_6 : cX3_findSorts.data.toList.drop 140 = dktX3_findSorts_6 := dk_seg dksX3_findSorts_5 24 rfl rfl
theorem dksX3_findSorts_7 : cX3_findSorts.data.toList.drop 164 = dktX3_findSorts_7 := dk_seg dksX3_findSorts_6 24 rfl rfl
theorem dksX3_findSorts_8 : cX3_findSorts.data.toList.drop 188 = dktX3_findSorts_8 := dk_seg dksX3_findSorts_7 24 rfl rfl
theorem dksX3_findSorts_9 : cX3_findSorts.data.toList.drop 212 = dktX3_findSorts_9 := dk_seg dksX3_findSorts_8 24 rfl rfl
theorem dksX3_findSorts_10 : cX3_findSorts.data.toList.drop 234 = dktX3_findSorts_10 := dk_seg dksX3_findSorts_9 22 rfl rfl
theorem dX3_findSorts_0 : decode cX3_findSorts 0 = .ok (.new 136, 3) := dk_187 0 136 (dk_at dksX3_findSorts_0 0 rfl rfl)
theorem dX3_findSorts_3 : decode cX3_findSorts 3 = .ok (.dup, 1) := dk_89 (dk_at dksX3_findSorts_0 3 rfl rfl)
theorem dX3_findSorts_4 : decode cX3_findSorts 4 = .ok (.new 138, 3) := dk_187 0 138 (dk_at dksX3_findSorts_0 4 rfl rfl)
theorem dX3_findSorts_7 : decode cX3_findSorts 7 = .ok (.dup, 1) := dk_89 (dk_at dksX3_findSorts_0 7 rfl rfl)
theorem dX3_findSorts_8 : decode cX3_findSorts 8 = .ok (.invokespecial 140, 3) := dk_183 0 140 (dk_at dksX3_findSorts_0 8 rfl rfl)
theorem dX3_findSorts_11 : decode cX3_findSorts 11 = .ok (.invokespecial 141, 3) := dk_183 0 141 (dk_at dksX3_findSorts_0 11 rfl rfl)
theorem dX3_findSorts_14 : decode cX3_findSorts 14 = .ok (.astore_n 1, 1) := dk_76 (dk_at dksX3_findSorts_0 14 rfl rfl)
theorem dX3_findSorts_15 : decode cX3_findSorts 15 = .ok (.aload_n 0, 1) := dk_42 (dk_at dksX3_findSorts_0 15 rfl rfl)
theorem dX3_findSorts_16 : decode cX3_findSorts 16 = .ok (.getfield 18, 3) := dk_180 0 18 (dk_at dksX3_findSorts_0 16 rfl rfl)
theorem dX3_findSorts_19 : decode cX3_findSorts 19 = .ok (.invokeinterface 144 1, 5) := by decide +kernel
theorem dX3_findSorts_24 : decode cX3_findSorts 24 = .ok (.astore_n 2, 1) := dk_77 (dk_at dksX3_findSorts_1 0 rfl rfl)
theorem dX3_findSorts_25 : decode cX3_findSorts 25 = .ok (.aload_n 2, 1) := dk_44 (dk_at dksX3_findSorts_1 1 rfl rfl)
theorem dX3_findSorts_26 : decode cX3_findSorts 26 = .ok (.invokeinterface 40 1, 5) := by decide +kernel
theorem dX3_findSorts_31 : decode cX3_findSorts 31 = .ok (.ifCond .eq 41, 3) := dk_153 0 41 (dk_at dksX3_findSorts_1 7 rfl rfl)
theorem dX3_findSorts_34 : decode cX3_findSorts 34 = .ok (.aload_n 2, 1) := dk_44 (dk_at dksX3_findSorts_1 10 rfl rfl)
theorem dX3_findSorts_35 : decode cX3_findSorts 35 = .ok (.invokeinterface 46 1, 5) := by decide +kernel
theorem dX3_findSorts_40 : decode cX3_findSorts 40 = .ok (.checkcast 76, 3) := dk_192 0 76 (dk_at dksX3_findSorts_1 16 rfl rfl)
theorem dX3_findSorts_43 : decode cX3_findSorts 43 = .ok (.invokevirtual 92, 3) := dk_182 0 92 (dk_at dksX3_findSorts_1 19 rfl rfl)
theorem dX3_findSorts_46 : decode cX3_findSorts 46 = .ok (.istore_n 3, 1) := dk_62 (dk_at dksX3_findSorts_1 22 rfl rfl)
theorem dX3_findSorts_47 : decode cX3_findSorts 47 = .ok (.aload_n 0, 1) := dk_42 (dk_at dksX3_findSorts_1 23 rfl rfl)
theorem dX3_findSorts_48 : decode cX3_findSorts 48 = .ok (.iload_n 3, 1) := dk_29 (dk_at dksX3_findSorts_2 0 rfl rfl)
theorem dX3_findSorts_49 : decode cX3_findSorts 49 = .ok (.invokevirtual 145, 3) := dk_182 0 145 (dk_at dksX3_findSorts_2 1 rfl rfl)
theorem dX3_findSorts_52 : decode cX3_findSorts 52 = .ok (.iload_n 3, 1) := dk_29 (dk_at dksX3_findSorts_2 4 rfl rfl)
theorem dX3_findSorts_53 : decode cX3_findSorts 53 = .ok (.if_icmp .ne 16, 3) := dk_160 0 16 (dk_at dksX3_findSorts_2 5 rfl rfl)
theorem dX3_findSorts_56 : decode cX3_findSorts 56 = .ok (.aload_n 1, 1) := dk_43 (dk_at dksX3_findSorts_2 8 rfl rfl)
theorem dX3_findSorts_57 : decode cX3_findSorts 57 = .ok (.new 107, 3) := dk_187 0 107 (dk_at dksX3_findSorts_2 9 rfl rfl)
theorem dX3_findSorts_60 : decode cX3_findSorts 60 = .ok (.dup, 1) := dk_89 (dk_at dksX3_findSorts_2 12 rfl rfl)
theorem dX3_findSorts_61 : decode cX3_findSorts 61 = .ok (.iload_n 3, 1) := dk_29 (dk_at dksX3_findSorts_2 13 rfl rfl)
theorem dX3_findSorts_62 : decode cX3_findSorts 62 = .ok (.invokespecial 148, 3) := dk_183 0 148 (dk_at dksX3_findSorts_2 14 rfl rfl)
theorem dX3_findSorts_65 : decode cX3_findSorts 65 = .ok (.invokevirtual 151, 3) := dk_182 0 151 (dk_at dksX3_findSorts_2 17 rfl rfl)
theorem dX3_findSorts_68 : decode cX3_findSorts 68 = .ok (.pop, 1) := dk_87 (dk_at dksX3_findSorts_2 20 rfl rfl)
theorem dX3_findSorts_69 : decode cX3_findSorts 69 = .ok (.goto (-44), 3) := dk_167 255 212 (dk_at dksX3_findSorts_2 21 rfl rfl)
theorem dX3_findSorts_72 : decode cX3_findSorts 72 = .ok (.aload_n 1, 1) := dk_43 (dk_at dksX3_findSorts_3 0 rfl rfl)
theorem dX3_findSorts_73 : decode cX3_findSorts 73 = .ok (.invokevirtual 152, 3) := dk_182 0 152 (dk_at dksX3_findSorts_3 1 rfl rfl)
theorem dX3_findSorts_76 : decode cX3_findSorts 76 = .ok (.ifCond .ne 23, 3) := dk_154 0 23 (dk_at dksX3_findSorts_3 4 rfl rfl)
theorem dX3_findSorts_79 : decode cX3_findSorts 79 = .ok (.aload_n 0, 1) := dk_42 (dk_at dksX3_findSorts_3 7 rfl rfl)
theorem dX3_findSorts_80 : decode cX3_findSorts 80 = .ok (.getfield 21, 3) := dk_180 0 21 (dk_at dksX3_findSorts_3 8 rfl rfl)
theorem dX3_findSorts_83 : decode cX3_findSorts 83 = .ok (.aload_n 1, 1) := dk_43 (dk_at dksX3_findSorts_3 11 rfl rfl)
theorem dX3_findSorts_84 : decode cX3_findSorts 84 = .ok (.invokevirtual 155, 3) := dk_182 0 155 (dk_at dksX3_findSorts_3 12 rfl rfl)
theorem dX3_findSorts_87 : decode cX3_findSorts 87 = .ok (.checkcast 107, 3) := dk_192 0 107 (dk_at dksX3_findSorts_3 15 rfl rfl)
theorem dX3_findSorts_90 : decode cX3_findSorts 90 = .ok (.invokeinterface 52 2, 5) := by decide +kernel
theorem dX3_findSorts_95 : decode cX3_findSorts 95 = .ok (.pop, 1) := dk_87 (dk_at dksX3_findSorts_3 23 rfl rfl)
theorem dX3_findSorts_96 : decode cX3_findSorts 96 = .ok (.goto (-24), 3) := dk_167 255 232 (dk_at dksX3_findSorts_4 0 rfl rfl)
theorem dX3_findSorts_99 : decode cX3_findSorts 99 = .ok (.iconst 0, 1) := dk_3 (dk_at dksX3_findSorts_4 3 rfl rfl)
theorem dX3_findSorts_100 : decode cX3_findSorts 100 = .ok (.istore_n 2, 1) := dk_61 (dk_at dksX3_findSorts_4 4 rfl rfl)
theorem dX3_findSorts_101 : decode cX3_findSorts 101 = .ok (.iload_n 2, 1) := dk_28 (dk_at dksX3_findSorts_4 5 rfl rfl)
theorem dX3_findSorts_102 : decode cX3_findSorts 102 = .ok (.aload_n 0, 1) := dk_42 (dk_at dksX3_findSorts_4 6 rfl rfl)
theorem dX3_findSorts_103 : decode cX3_findSorts 103 = .ok (.getfield 98, 3) := dk_180 0 98 (dk_at dksX3_findSorts_4 7 rfl rfl)
theorem dX3_findSorts_106 : decode cX3_findSorts 106 = .ok (.arraylength, 1) := dk_190 (dk_at dksX3_findSorts_4 10 rfl rfl)
theorem dX3_findSorts_107 : decode cX3_findSorts 107 = .ok (.if_icmp .ge 95, 3) := dk_162 0 95 (dk_at dksX3_findSorts_4 11 rfl rfl)
theorem dX3_findSorts_110 : decode cX3_findSorts 110 = .ok (.aload_n 0, 1) := dk_42 (dk_at dksX3_findSorts_4 14 rfl rfl)
theorem dX3_findSorts_111 : decode cX3_findSorts 111 = .ok (.aload_n 0, 1) := dk_42 (dk_at dksX3_findSorts_4 15 rfl rfl)
theorem dX3_findSorts_112 : decode cX3_findSorts 112 = .ok (.getfield 18, 3) := dk_180 0 18 (dk_at dksX3_findSorts_4 16 rfl rfl)
theorem dX3_findSorts_115 : decode cX3_findSorts 115 = .ok (.iload_n 2, 1) := dk_28 (dk_at dksX3_findSorts_4 19 rfl rfl)
theorem dX3_findSorts_116 : decode cX3_findSorts 116 = .ok (.invokeinterface 71 2, 5) := by decide +kernel
theorem dX3_findSorts_121 : decode cX3_findSorts 121 = .ok (.checkcast 76, 3) := dk_192 0 76 (dk_at dksX3_findSorts_5 5 rfl rfl)
theorem dX3_findSorts_124 : decode cX3_findSorts 124 = .ok (.invokevirtual 92, 3) := dk_182 0 92 (dk_at dksX3_findSorts_5 8 rfl rfl)
theorem dX3_findSorts_127 : decode cX3_findSorts 127 = .ok (.invokevirtual 145, 3) := dk_182 0 145 (dk_at dksX3_findSorts_5 11 rfl rfl)
theorem dX3_findSorts_130 : decode cX3_findSorts 130 = .ok (.istore_n 3, 1) := dk_62 (dk_at dksX3_findSorts_5 14 rfl rfl)
theorem dX3_findSorts_131 : decode cX3_findSorts 131 = .ok (.aload_n 0, 1) := dk_42 (dk_at dksX3_findSorts_5 15 rfl rfl)
theorem dX3_findSorts_132 : decode cX3_findSorts 132 = .ok (.getfield 21, 3) := dk_180 0 21 (dk_at dksX3_findSorts_5 16 rfl rfl)
theorem dX3_findSorts_135 : decode cX3_findSorts 135 = .ok (.aload_n 0, 1) := dk_42 (dk_at dksX3_findSorts_5 19 rfl rfl)
theorem dX3_findSorts_136 : decode cX3_findSorts 136 = .ok (.getfield 98, 3) := dk_180 0 98 (dk_at dksX3_findSorts_5 20 rfl rfl)
theorem dX3_findSorts_139 : decode cX3_findSorts 139 = .ok (.iload_n 2, 1) := dk_28 (dk_at dksX3_findSorts_5 23 rfl rfl)
theorem dX3_findSorts_140 : decode cX3_findSorts 140 = .ok (.iaload, 1) := dk_46 (dk_at dksX3_findSorts_6 0 rfl rfl)
theorem dX3_findSorts_141 : decode cX3_findSorts 141 = .ok (.invokeinterface 71 2, 5) := by decide +kernel
theorem dX3_findSorts_146 : decode cX3_findSorts 146 = .ok (.checkcast 107, 3) := dk_192 0 107 (dk_at dksX3_findSorts_6 6 rfl rfl)
theorem dX3_findSorts_149 : decode cX3_findSorts 149 = .ok (.getfield 109, 3) := dk_180 0 109 (dk_at dksX3_findSorts_6 9 rfl rfl)
theorem dX3_findSorts_152 : decode cX3_findSorts 152 = .ok (.iload_n 3, 1) := dk_29 (dk_at dksX3_findSorts_6 12 rfl rfl)
theorem dX3_findSorts_153 : decode cX3_findSorts 153 = .ok (.if_icmp .eq 16, 3) := dk_159 0 16 (dk_at dksX3_findSorts_6 13 rfl rfl)
theorem dX3_findSorts_156 : decode cX3_findSorts 156 = .ok (.aload_n 0, 1) := dk_42 (dk_at dksX3_findSorts_6 16 rfl rfl)
theorem dX3_findSorts_157 : decode cX3_findSorts 157 = .ok (.getfield 98, 3) := dk_180 0 98 (dk_at dksX3_findSorts_6 17 rfl rfl)
theorem dX3_findSorts_160 : decode cX3_findSorts 160 = .ok (.iload_n 2, 1) := dk_28 (dk_at dksX3_findSorts_6 20 rfl rfl)
theorem dX3_findSorts_161 : decode cX3_findSorts 161 = .ok (.dup2, 1) := dk_92 (dk_at dksX3_findSorts_6 21 rfl rfl)
theorem dX3_findSorts_162 : decode cX3_findSorts 162 = .ok (.iaload, 1) := dk_46 (dk_at dksX3_findSorts_6 22 rfl rfl)
theorem dX3_findSorts_163 : decode cX3_findSorts 163 = .ok (.iconst 1, 1) := dk_4 (dk_at dksX3_findSorts_6 23 rfl rfl)
theorem dX3_findSorts_164 : decode cX3_findSorts 164 = .ok (.iadd, 1) := dk_96 (dk_at dksX3_findSorts_7 0 rfl rfl)
theorem dX3_findSorts_165 : decode cX3_findSorts 165 = .ok (.iastore, 1) := dk_79 (dk_at dksX3_findSorts_7 1 rfl rfl)
theorem dX3_findSorts_166 : decode cX3_findSorts 166 = .ok (.goto (-35), 3) := dk_167 255 221 (dk_at dksX3_findSorts_7 2 rfl rfl)
theorem dX3_findSorts_169 : decode cX3_findSorts 169 = .ok (.aload_n 0, 1) := dk_42 (dk_at dksX3_findSorts_7 5 rfl rfl)
theorem dX3_findSorts_170 : decode cX3_findSorts 170 = .ok (.getfield 21, 3) := dk_180 0 21 (dk_at dksX3_findSorts_7 6 rfl rfl)
theorem dX3_findSorts_173 : decode cX3_findSorts 173 = .ok (.aload_n 0, 1) := dk_42 (dk_at dksX3_findSorts_7 9 rfl rfl)
theorem dX3_findSorts_174 : decode cX3_findSorts 174 = .ok (.getfield 98, 3) := dk_180 0 98 (dk_at dksX3_findSorts_7 10 rfl rfl)
theorem dX3_findSorts_177 : decode cX3_findSorts 177 = .ok (.iload_n 2, 1) := dk_28 (dk_at dksX3_findSorts_7 13 rfl rfl)
theorem dX3_findSorts_178 : decode cX3_findSorts 178 = .ok (.iaload, 1) := dk_46 (dk_at dksX3_findSorts_7 14 rfl rfl)
theorem dX3_findSorts_179 : decode cX3_findSorts 179 = .ok (.invokeinterface 71 2, 5) := by decide +kernel
theorem dX3_findSorts_184 : decode cX3_findSorts 184 = .ok (.checkcast 107, 3) := dk_192 0 107 (dk_at dksX3_findSorts_7 20 rfl rfl)
theorem dX3_findSorts_187 : decode cX3_findSorts 187 = .ok (.dup, 1) := dk_89 (dk_at dksX3_findSorts_7 23 rfl rfl)
theorem dX3_findSorts_188 : decode cX3_findSorts 188 = .ok (.getfield 158, 3) := dk_180 0 158 (dk_at dksX3_findSorts_8 0 rfl rfl)
theorem dX3_findSorts_191 : decode cX3_findSorts 191 = .ok (.iconst 1, 1) := dk_4 (dk_at dksX3_findSorts_8 3 rfl rfl)
theorem dX3_findSorts_192 : decode cX3_findSorts 192 = .ok (.iadd, 1) := dk_96 (dk_at dksX3_findSorts_8 4 rfl rfl)
theorem dX3_findSorts_193 : decode cX3_findSorts 193 = .ok (.putfield 158, 3) := dk_181 0 158 (dk_at dksX3_findSorts_8 5 rfl rfl)
theorem dX3_findSorts_196 : decode cX3_findSorts 196 = .ok (.iinc 2 1, 3) := dk_132 2 1 (dk_at dksX3_findSorts_8 8 rfl rfl)
theorem dX3_findSorts_199 : decode cX3_findSorts 199 = .ok (.goto (-98), 3) := dk_167 255 158 (dk_at dksX3_findSorts_8 11 rfl rfl)
theorem dX3_findSorts_202 : decode cX3_findSorts 202 = .ok (.aload_n 0, 1) := dk_42 (dk_at dksX3_findSorts_8 14 rfl rfl)
theorem dX3_findSorts_203 : decode cX3_findSorts 203 = .ok (.getfield 21, 3) := dk_180 0 21 (dk_at dksX3_findSorts_8 15 rfl rfl)
theorem dX3_findSorts_206 : decode cX3_findSorts 206 = .ok (.invokeinterface 144 1, 5) := by decide +kernel
theorem dX3_findSorts_211 : decode cX3_findSorts 211 = .ok (.astore_n 2, 1) := dk_77 (dk_at dksX3_findSorts_8 23 rfl rfl)
theorem dX3_findSorts_212 : decode cX3_findSorts 212 = .ok (.aload_n 2, 1) := dk_44 (dk_at dksX3_findSorts_9 0 rfl rfl)
theorem dX3_findSorts_213 : decode cX3_findSorts 213 = .ok (.invokeinterface 40 1, 5) := by decide +kernel
theorem dX3_findSorts_218 : decode cX3_findSorts 218 = .ok (.ifCond .eq 28, 3) := dk_153 0 28 (dk_at dksX3_findSorts_9 6 rfl rfl)
theorem dX3_findSorts_221 : decode cX3_findSorts 221 = .ok (.aload_n 2, 1) := dk_44 (dk_at dksX3_findSorts_9 9 rfl rfl)
theorem dX3_findSorts_222 : decode cX3_findSorts 222 = .ok (.invokeinterface 46 1, 5) := by decide +kernel
theorem dX3_findSorts_227 : decode cX3_findSorts 227 = .ok (.checkcast 107, 3) := dk_192 0 107 (dk_at dksX3_findSorts_9 15 rfl rfl)
theorem dX3_findSorts_230 : decode cX3_findSorts 230 = .ok (.astore_n 3, 1) := dk_78 (dk_at dksX3_findSorts_9 18 rfl rfl)
theorem dX3_findSorts_231 : decode cX3_findSorts 231 = .ok (.aload_n 3, 1) := dk_45 (dk_at dksX3_findSorts_9 19 rfl rfl)
theorem dX3_findSorts_232 : decode cX3_findSorts 232 = .ok (.aload_n 0, 1) := dk_42 (dk_at dksX3_findSorts_9 20 rfl rfl)
theorem dX3_findSorts_233 : decode cX3_findSorts 233 = .ok (.aload_n 3, 1) := dk_45 (dk_at dksX3_findSorts_9 21 rfl rfl)
theorem dX3_findSorts_234 : decode cX3_findSorts 234 = .ok (.getfield 109, 3) := dk_180 0 109 (dk_at dksX3_findSorts_10 0 rfl rfl)
theorem dX3_findSorts_237 : decode cX3_findSorts 237 = .ok (.invokevirtual 161, 3) := dk_182 0 161 (dk_at dksX3_findSorts_10 3 rfl rfl)
theorem dX3_findSorts_240 : decode cX3_findSorts 240 = .ok (.putfield 164, 3) := dk_181 0 164 (dk_at dksX3_findSorts_10 6 rfl rfl)
theorem dX3_findSorts_243 : decode cX3_findSorts 243 = .ok (.goto (-31), 3) := dk_167 255 225 (dk_at dksX3_findSorts_10 9 rfl rfl)
theorem dX3_findSorts_246 : decode cX3_findSorts 246 = .ok (.return_, 1) := dk_177 (dk_at dksX3_findSorts_10 12 rfl rfl)
abbrev cX3_firstOf : ByteArray := prog_3_method_6_code
def yX3_firstOf : MethodName := ⟨RX3, "firstOf", "(I)I"⟩
def dkwX3_firstOf_1 : List UInt8 := [132, 3, 1, 167, 255, 234, 28, 172]
abbrev dktX3_firstOf_1 : List UInt8 := dkwX3_firstOf_1 ++ []
def dkwX3_firstOf_0 : List UInt8 := [27, 61, 3, 62, 29, 42, 182, 0, 116, 162, 0, 20, 28, 42, 27, 29, 182, 0, 128, 184, 0, 131, 61]
abbrev dktX3_firstOf_0 : List UInt8 := dkwX3_firstOf_0 ++ dktX3_firstOf_1
theorem dksX3_firstOf_0 : cX3_firstOf.data.toList.drop 0 = dktX3_firstOf_0 := by decide +kernel
theorem dksX3_firstOf_1 : cX3_firstOf.data.toList.drop 23 = dktX3_firstOf_1 := dk_seg dksX3_firstOf_0 23 rfl rfl
theorem dX3_firstOf_0 : decode cX3_firstOf 0 = .ok (.iload_n 1, 1) := dk_27 (dk_at dksX3_firstOf_0 0 rfl rfl)
theorem dX3_firstOf_1 : decode cX3_firstOf 1 = .ok (.istore_n 2, 1) := dk_61 (dk_at dksX3_firstOf_0 1 rfl rfl)
theorem dX3_firstOf_2 : decode cX3_firstOf 2 = .ok (.iconst 0, 1) := dk_3 (dk_at dksX3_firstOf_0 2 rfl rfl)
theorem dX3_firstOf_3 : decode cX3_firstOf 3 = .ok (.istore_n 3, 1) := dk_62 (dk_at dksX3_firstOf_0 3 rfl rfl)
theorem dX3_firstOf_4 : decode cX3_firstOf 4 = .ok (.iload_n 3, 1) := dk_29 (dk_at dksX3_firstOf_0 4 rfl rfl)
theorem dX3_firstOf_5 : decode cX3_firstOf 5 = .ok (.aload_n 0, 1) := dk_42 (dk_at dksX3_firstOf_0 5 rfl rfl)
theorem dX3_firstOf_6 : decode cX3_firstOf 6 = .ok (.invokevirtual 116, 3) := dk_182 0 116 (dk_at dksX3_firstOf_0 6 rfl rfl)
theorem dX3_firstOf_9 : decode cX3_firstOf 9 = .ok (.if_icmp .ge 20, 3) := dk_162 0 20 (dk_at dksX3_firstOf_0 9 rfl rfl)
theorem dX3_firstOf_12 : decode cX3_firstOf 12 = .ok (.iload_n 2, 1) := dk_28 (dk_at dksX3_firstOf_0 12 rfl rfl)
theorem dX3_firstOf_13 : decode cX3_firstOf 13 = .ok (.aload_n 0, 1) := dk_42 (dk_at dksX3_firstOf_0 13 rfl rfl)
theorem dX3_firstOf_14 : decode cX3_firstOf 14 = .ok (.iload_n 1, 1) := dk_27 (dk_at dksX3_firstOf_0 14 rfl rfl)
theorem dX3_firstOf_15 : decode cX3_firstOf 15 = .ok (.iload_n 3, 1) := dk_29 (dk_at dksX3_firstOf_0 15 rfl rfl)
theorem dX3_firstOf_16 : decode cX3_firstOf 16 = .ok (.invokevirtual 128, 3) := dk_182 0 128 (dk_at dksX3_firstOf_0 16 rfl rfl)
theorem dX3_firstOf_19 : decode cX3_firstOf 19 = .ok (.invokestatic 131, 3) := dk_184 0 131 (dk_at dksX3_firstOf_0 19 rfl rfl)
theorem dX3_firstOf_22 : decode cX3_firstOf 22 = .ok (.istore_n 2, 1) := dk_61 (dk_at dksX3_firstOf_0 22 rfl rfl)
theorem dX3_firstOf_23 : decode cX3_firstOf 23 = .ok (.iinc 3 1, 3) := dk_132 3 1 (dk_at dksX3_firstOf_1 0 rfl rfl)
theorem dX3_firstOf_26 : decode cX3_firstOf 26 = .ok (.goto (-22), 3) := dk_167 255 234 (dk_at dksX3_firstOf_1 3 rfl rfl)
theorem dX3_firstOf_29 : decode cX3_firstOf 29 = .ok (.iload_n 2, 1) := dk_28 (dk_at dksX3_firstOf_1 6 rfl rfl)
theorem dX3_firstOf_30 : decode cX3_firstOf 30 = .ok (.ireturn, 1) := dk_172 (dk_at dksX3_firstOf_1 7 rfl rfl)
abbrev cX3_turned : ByteArray := prog_3_method_5_code
def yX3_turned : MethodName := ⟨RX3, "turned", "(II)I"⟩
def dkwX3_turned_2 : List UInt8 := [46, 120, 167, 0, 4, 3, 128, 62, 132, 4, 1, 167, 255, 204, 29, 172]
abbrev dktX3_turned_2 : List UInt8 := dkwX3_turned_2 ++ []
def dkwX3_turned_1 : List UInt8 := [153, 0, 29, 4, 42, 180, 0, 64, 42, 180, 0, 64, 42, 180, 0, 67, 28, 46, 50, 21, 4, 46, 50, 28]
abbrev dktX3_turned_1 : List UInt8 := dkwX3_turned_1 ++ dktX3_turned_2
def dkwX3_turned_0 : List UInt8 := [3, 62, 3, 54, 4, 21, 4, 42, 182, 0, 116, 162, 0, 49, 29, 27, 133, 21, 4, 184, 0, 117]
abbrev dktX3_turned_0 : List UInt8 := dkwX3_turned_0 ++ dktX3_turned_1
theorem dksX3_turned_0 : cX3_turned.data.toList.drop 0 = dktX3_turned_0 := by decide +kernel
theorem dksX3_turned_1 : cX3_turned.data.toList.drop 22 = dktX3_turned_1 := dk_seg dksX3_turned_0 22 rfl rfl
theorem dksX3_turned_2 : cX3_turned.data.toList.drop 46 = dktX3_turned_2 := dk_seg dksX3_turned_1 24 rfl rfl
theorem dX3_turned_0 : decode cX3_turned 0 = .ok (.iconst 0, 1) := dk_3 (dk_at dksX3_turned_0 0 rfl rfl)
theorem dX3_turned_1 : decode cX3_turned 1 = .ok (.istore_n 3, 1) := dk_62 (dk_at dksX3_turned_0 1 rfl rfl)
theorem dX3_turned_2 : decode cX3_turned 2 = .ok (.iconst 0, 1) := dk_3 (dk_at dksX3_turned_0 2 rfl rfl)
theorem dX3_turned_3 : decode cX3_turned 3 = .ok (.istore 4, 2) := dk_54 4 (dk_at dksX3_turned_0 3 rfl rfl)
theorem dX3_turned_5 : decode cX3_turned 5 = .ok (.iload 4, 2) := dk_21 4 (dk_at dksX3_turned_0 5 rfl rfl)
theorem dX3_turned_7 : decode cX3_turned 7 = .ok (.aload_n 0, 1) := dk_42 (dk_at dksX3_turned_0 7 rfl rfl)
theorem dX3_turned_8 : decode cX3_turned 8 = .ok (.invokevirtual 116, 3) := dk_182 0 116 (dk_at dksX3_turned_0 8 rfl rfl)
theorem dX3_turned_11 : decode cX3_turned 11 = .ok (.if_icmp .ge 49, 3) := dk_162 0 49 (dk_at dksX3_turned_0 11 rfl rfl)
theorem dX3_turned_14 : decode cX3_turned 14 = .ok (.iload_n 3, 1) := dk_29 (dk_at dksX3_turned_0 14 rfl rfl)
theorem dX3_turned_15 : decode cX3_turned 15 = .ok (.iload_n 1, 1) := dk_27 (dk_at dksX3_turned_0 15 rfl rfl)
theorem dX3_turned_16 : decode cX3_turned 16 = .ok (.i2l, 1) := dk_133 (dk_at dksX3_turned_0 16 rfl rfl)
theorem dX3_turned_17 : decode cX3_turned 17 = .ok (.iload 4, 2) := dk_21 4 (dk_at dksX3_turned_0 17 rfl rfl)
theorem dX3_turned_19 : decode cX3_turned 19 = .ok (.invokestatic 117, 3) := dk_184 0 117 (dk_at dksX3_turned_0 19 rfl rfl)
theorem dX3_turned_22 : decode cX3_turned 22 = .ok (.ifCond .eq 29, 3) := dk_153 0 29 (dk_at dksX3_turned_1 0 rfl rfl)
theorem dX3_turned_25 : decode cX3_turned 25 = .ok (.iconst 1, 1) := dk_4 (dk_at dksX3_turned_1 3 rfl rfl)
theorem dX3_turned_26 : decode cX3_turned 26 = .ok (.aload_n 0, 1) := dk_42 (dk_at dksX3_turned_1 4 rfl rfl)
theorem dX3_turned_27 : decode cX3_turned 27 = .ok (.getfield 64, 3) := dk_180 0 64 (dk_at dksX3_turned_1 5 rfl rfl)
theorem dX3_turned_30 : decode cX3_turned 30 = .ok (.aload_n 0, 1) := dk_42 (dk_at dksX3_turned_1 8 rfl rfl)
theorem dX3_turned_31 : decode cX3_turned 31 = .ok (.getfield 64, 3) := dk_180 0 64 (dk_at dksX3_turned_1 9 rfl rfl)
theorem dX3_turned_34 : decode cX3_turned 34 = .ok (.aload_n 0, 1) := dk_42 (dk_at dksX3_turned_1 12 rfl rfl)
theorem dX3_turned_35 : decode cX3_turned 35 = .ok (.getfield 67, 3) := dk_180 0 67 (dk_at dksX3_turned_1 13 rfl rfl)
theorem dX3_turned_38 : decode cX3_turned 38 = .ok (.iload_n 2, 1) := dk_28 (dk_at dksX3_turned_1 16 rfl rfl)
theorem dX3_turned_39 : decode cX3_turned 39 = .ok (.iaload, 1) := dk_46 (dk_at dksX3_turned_1 17 rfl rfl)
theorem dX3_turned_40 : decode cX3_turned 40 = .ok (.aaload, 1) := dk_50 (dk_at dksX3_turned_1 18 rfl rfl)
theorem dX3_turned_41 : decode cX3_turned 41 = .ok (.iload 4, 2) := dk_21 4 (dk_at dksX3_turned_1 19 rfl rfl)
theorem dX3_turned_43 : decode cX3_turned 43 = .ok (.iaload, 1) := dk_46 (dk_at dksX3_turned_1 21 rfl rfl)
theorem dX3_turned_44 : decode cX3_turned 44 = .ok (.aaload, 1) := dk_50 (dk_at dksX3_turned_1 22 rfl rfl)
theorem dX3_turned_45 : decode cX3_turned 45 = .ok (.iload_n 2, 1) := dk_28 (dk_at dksX3_turned_1 23 rfl rfl)
theorem dX3_turned_46 : decode cX3_turned 46 = .ok (.iaload, 1) := dk_46 (dk_at dksX3_turned_2 0 rfl rfl)
theorem dX3_turned_47 : decode cX3_turned 47 = .ok (.ishl, 1) := dk_120 (dk_at dksX3_turned_2 1 rfl rfl)
theorem dX3_turned_48 : decode cX3_turned 48 = .ok (.goto 4, 3) := dk_167 0 4 (dk_at dksX3_turned_2 2 rfl rfl)
theorem dX3_turned_51 : decode cX3_turned 51 = .ok (.iconst 0, 1) := dk_3 (dk_at dksX3_turned_2 5 rfl rfl)
theorem dX3_turned_52 : decode cX3_turned 52 = .ok (.ior, 1) := dk_128 (dk_at dksX3_turned_2 6 rfl rfl)
theorem dX3_turned_53 : decode cX3_turned 53 = .ok (.istore_n 3, 1) := dk_62 (dk_at dksX3_turned_2 7 rfl rfl)
theorem dX3_turned_54 : decode cX3_turned 54 = .ok (.iinc 4 1, 3) := dk_132 4 1 (dk_at dksX3_turned_2 8 rfl rfl)
theorem dX3_turned_57 : decode cX3_turned 57 = .ok (.goto (-52), 3) := dk_167 255 204 (dk_at dksX3_turned_2 11 rfl rfl)
theorem dX3_turned_60 : decode cX3_turned 60 = .ok (.iload_n 3, 1) := dk_29 (dk_at dksX3_turned_2 14 rfl rfl)
theorem dX3_turned_61 : decode cX3_turned 61 = .ok (.ireturn, 1) := dk_172 (dk_at dksX3_turned_2 15 rfl rfl)
abbrev cX3_norm : ByteArray := prog_3_method_8_code
def yX3_norm : MethodName := ⟨RX3, "norm", "(I)I"⟩
def dkwX3_norm_1 : List UInt8 := [29, 120, 167, 0, 4, 3, 128, 61, 132, 3, 1, 167, 255, 225, 28, 172]
abbrev dktX3_norm_1 : List UInt8 := dkwX3_norm_1 ++ []
def dkwX3_norm_0 : List UInt8 := [3, 61, 3, 62, 29, 42, 182, 0, 116, 162, 0, 29, 28, 42, 27, 29, 182, 0, 128, 27, 160, 0, 9, 4]
abbrev dktX3_norm_0 : List UInt8 := dkwX3_norm_0 ++ dktX3_norm_1
theorem dksX3_norm_0 : cX3_norm.data.toList.drop 0 = dktX3_norm_0 := by decide +kernel
theorem dksX3_norm_1 : cX3_norm.data.toList.drop 24 = dktX3_norm_1 := dk_seg dksX3_norm_0 24 rfl rfl
theorem dX3_norm_0 : decode cX3_norm 0 = .ok (.iconst 0, 1) := dk_3 (dk_at dksX3_norm_0 0 rfl rfl)
theorem dX3_norm_1 : decode cX3_norm 1 = .ok (.istore_n 2, 1) := dk_61 (dk_at dksX3_norm_0 1 rfl rfl)
theorem dX3_norm_2 : decode cX3_norm 2 = .ok (.iconst 0, 1) := dk_3 (dk_at dksX3_norm_0 2 rfl rfl)
theorem dX3_norm_3 : decode cX3_norm 3 = .ok (.istore_n 3, 1) := dk_62 (dk_at dksX3_norm_0 3 rfl rfl)
theorem dX3_norm_4 : decode cX3_norm 4 = .ok (.iload_n 3, 1) := dk_29 (dk_at dksX3_norm_0 4 rfl rfl)
theorem dX3_norm_5 : decode cX3_norm 5 = .ok (.aload_n 0, 1) := dk_42 (dk_at dksX3_norm_0 5 rfl rfl)
theorem dX3_norm_6 : decode cX3_norm 6 = .ok (.invokevirtual 116, 3) := dk_182 0 116 (dk_at dksX3_norm_0 6 rfl rfl)
theorem dX3_norm_9 : decode cX3_norm 9 = .ok (.if_icmp .ge 29, 3) := dk_162 0 29 (dk_at dksX3_norm_0 9 rfl rfl)
theorem dX3_norm_12 : decode cX3_norm 12 = .ok (.iload_n 2, 1) := dk_28 (dk_at dksX3_norm_0 12 rfl rfl)
theorem dX3_norm_13 : decode cX3_norm 13 = .ok (.aload_n 0, 1) := dk_42 (dk_at dksX3_norm_0 13 rfl rfl)
theorem dX3_norm_14 : decode cX3_norm 14 = .ok (.iload_n 1, 1) := dk_27 (dk_at dksX3_norm_0 14 rfl rfl)
theorem dX3_norm_15 : decode cX3_norm 15 = .ok (.iload_n 3, 1) := dk_29 (dk_at dksX3_norm_0 15 rfl rfl)
theorem dX3_norm_16 : decode cX3_norm 16 = .ok (.invokevirtual 128, 3) := dk_182 0 128 (dk_at dksX3_norm_0 16 rfl rfl)
theorem dX3_norm_19 : decode cX3_norm 19 = .ok (.iload_n 1, 1) := dk_27 (dk_at dksX3_norm_0 19 rfl rfl)
theorem dX3_norm_20 : decode cX3_norm 20 = .ok (.if_icmp .ne 9, 3) := dk_160 0 9 (dk_at dksX3_norm_0 20 rfl rfl)
theorem dX3_norm_23 : decode cX3_norm 23 = .ok (.iconst 1, 1) := dk_4 (dk_at dksX3_norm_0 23 rfl rfl)
theorem dX3_norm_24 : decode cX3_norm 24 = .ok (.iload_n 3, 1) := dk_29 (dk_at dksX3_norm_1 0 rfl rfl)
theorem dX3_norm_25 : decode cX3_norm 25 = .ok (.ishl, 1) := dk_120 (dk_at dksX3_norm_1 1 rfl rfl)
theorem dX3_norm_26 : decode cX3_norm 26 = .ok (.goto 4, 3) := dk_167 0 4 (dk_at dksX3_norm_1 2 rfl rfl)
theorem dX3_norm_29 : decode cX3_norm 29 = .ok (.iconst 0, 1) := dk_3 (dk_at dksX3_norm_1 5 rfl rfl)
theorem dX3_norm_30 : decode cX3_norm 30 = .ok (.ior, 1) := dk_128 (dk_at dksX3_norm_1 6 rfl rfl)
theorem dX3_norm_31 : decode cX3_norm 31 = .ok (.istore_n 2, 1) := dk_61 (dk_at dksX3_norm_1 7 rfl rfl)
theorem dX3_norm_32 : decode cX3_norm 32 = .ok (.iinc 3 1, 3) := dk_132 3 1 (dk_at dksX3_norm_1 8 rfl rfl)
theorem dX3_norm_35 : decode cX3_norm 35 = .ok (.goto (-31), 3) := dk_167 255 225 (dk_at dksX3_norm_1 11 rfl rfl)
theorem dX3_norm_38 : decode cX3_norm 38 = .ok (.iload_n 2, 1) := dk_28 (dk_at dksX3_norm_1 14 rfl rfl)
theorem dX3_norm_39 : decode cX3_norm 39 = .ok (.ireturn, 1) := dk_172 (dk_at dksX3_norm_1 15 rfl rfl)
abbrev cX3_mark : ByteArray := prog_3_method_10_code
def yX3_mark : MethodName := ⟨RX3, "mark", "(II)I"⟩
def dkwX3_mark_2 : List UInt8 := [27, 184, 0, 170, 108, 172]
abbrev dktX3_mark_2 : List UInt8 := dkwX3_mark_2 ++ []
def dkwX3_mark_1 : List UInt8 := [182, 0, 128, 27, 2, 130, 126, 154, 0, 7, 4, 167, 0, 4, 3, 96, 62, 132, 4, 1, 167, 255, 217, 29]
abbrev dktX3_mark_1 : List UInt8 := dkwX3_mark_1 ++ dktX3_mark_2
def dkwX3_mark_0 : List UInt8 := [3, 62, 3, 54, 4, 21, 4, 42, 182, 0, 116, 162, 0, 36, 29, 42, 28, 42, 180, 0, 67, 21, 4, 46]
abbrev dktX3_mark_0 : List UInt8 := dkwX3_mark_0 ++ dktX3_mark_1
theorem dksX3_mark_0 : cX3_mark.data.toList.drop 0 = dktX3_mark_0 := by decide +kernel
theorem dksX3_mark_1 : cX3_mark.data.toList.drop 24 = dktX3_mark_1 := dk_seg dksX3_mark_0 24 rfl rfl
theorem dksX3_mark_2 : cX3_mark.data.toList.drop 48 = dktX3_mark_2 := dk_seg dksX3_mark_1 24 rfl rfl
theorem dX3_mark_0 : decode cX3_mark 0 = .ok (.iconst 0, 1) := dk_3 (dk_at dksX3_mark_0 0 rfl rfl)
theorem dX3_mark_1 : decode cX3_mark 1 = .ok (.istore_n 3, 1) := dk_62 (dk_at dksX3_mark_0 1 rfl rfl)
theorem dX3_mark_2 : decode cX3_mark 2 = .ok (.iconst 0, 1) := dk_3 (dk_at dksX3_mark_0 2 rfl rfl)
theorem dX3_mark_3 : decode cX3_mark 3 = .ok (.istore 4, 2) := dk_54 4 (dk_at dksX3_mark_0 3 rfl rfl)
theorem dX3_mark_5 : decode cX3_mark 5 = .ok (.iload 4, 2) := dk_21 4 (dk_at dksX3_mark_0 5 rfl rfl)
theorem dX3_mark_7 : decode cX3_mark 7 = .ok (.aload_n 0, 1) := dk_42 (dk_at dksX3_mark_0 7 rfl rfl)
theorem dX3_mark_8 : decode cX3_mark 8 = .ok (.invokevirtual 116, 3) := dk_182 0 116 (dk_at dksX3_mark_0 8 rfl rfl)
theorem dX3_mark_11 : decode cX3_mark 11 = .ok (.if_icmp .ge 36, 3) := dk_162 0 36 (dk_at dksX3_mark_0 11 rfl rfl)
theorem dX3_mark_14 : decode cX3_mark 14 = .ok (.iload_n 3, 1) := dk_29 (dk_at dksX3_mark_0 14 rfl rfl)
theorem dX3_mark_15 : decode cX3_mark 15 = .ok (.aload_n 0, 1) := dk_42 (dk_at dksX3_mark_0 15 rfl rfl)
theorem dX3_mark_16 : decode cX3_mark 16 = .ok (.iload_n 2, 1) := dk_28 (dk_at dksX3_mark_0 16 rfl rfl)
theorem dX3_mark_17 : decode cX3_mark 17 = .ok (.aload_n 0, 1) := dk_42 (dk_at dksX3_mark_0 17 rfl rfl)
theorem dX3_mark_18 : decode cX3_mark 18 = .ok (.getfield 67, 3) := dk_180 0 67 (dk_at dksX3_mark_0 18 rfl rfl)
theorem dX3_mark_21 : decode cX3_mark 21 = .ok (.iload 4, 2) := dk_21 4 (dk_at dksX3_mark_0 21 rfl rfl)
theorem dX3_mark_23 : decode cX3_mark 23 = .ok (.iaload, 1) := dk_46 (dk_at dksX3_mark_0 23 rfl rfl)
theorem dX3_mark_24 : decode cX3_mark 24 = .ok (.invokevirtual 128, 3) := dk_182 0 128 (dk_at dksX3_mark_1 0 rfl rfl)
theorem dX3_mark_27 : decode cX3_mark 27 = .ok (.iload_n 1, 1) := dk_27 (dk_at dksX3_mark_1 3 rfl rfl)
theorem dX3_mark_28 : decode cX3_mark 28 = .ok (.iconst (-1), 1) := dk_2 (dk_at dksX3_mark_1 4 rfl rfl)
theorem dX3_mark_29 : decode cX3_mark 29 = .ok (.ixor, 1) := dk_130 (dk_at dksX3_mark_1 5 rfl rfl)
theorem dX3_mark_30 : decode cX3_mark 30 = .ok (.iand, 1) := dk_126 (dk_at dksX3_mark_1 6 rfl rfl)
theorem dX3_mark_31 : decode cX3_mark 31 = .ok (.ifCond .ne 7, 3) := dk_154 0 7 (dk_at dksX3_mark_1 7 rfl rfl)
theorem dX3_mark_34 : decode cX3_mark 34 = .ok (.iconst 1, 1) := dk_4 (dk_at dksX3_mark_1 10 rfl rfl)
theorem dX3_mark_35 : decode cX3_mark 35 = .ok (.goto 4, 3) := dk_167 0 4 (dk_at dksX3_mark_1 11 rfl rfl)
theorem dX3_mark_38 : decode cX3_mark 38 = .ok (.iconst 0, 1) := dk_3 (dk_at dksX3_mark_1 14 rfl rfl)
theorem dX3_mark_39 : decode cX3_mark 39 = .ok (.iadd, 1) := dk_96 (dk_at dksX3_mark_1 15 rfl rfl)
theorem dX3_mark_40 : decode cX3_mark 40 = .ok (.istore_n 3, 1) := dk_62 (dk_at dksX3_mark_1 16 rfl rfl)
theorem dX3_mark_41 : decode cX3_mark 41 = .ok (.iinc 4 1, 3) := dk_132 4 1 (dk_at dksX3_mark_1 17 rfl rfl)
theorem dX3_mark_44 : decode cX3_mark 44 = .ok (.goto (-39), 3) := dk_167 255 217 (dk_at dksX3_mark_1 20 rfl rfl)
theorem dX3_mark_47 : decode cX3_mark 47 = .ok (.iload_n 3, 1) := dk_29 (dk_at dksX3_mark_1 23 rfl rfl)
theorem dX3_mark_48 : decode cX3_mark 48 = .ok (.iload_n 1, 1) := dk_27 (dk_at dksX3_mark_2 0 rfl rfl)
theorem dX3_mark_49 : decode cX3_mark 49 = .ok (.invokestatic 170, 3) := dk_184 0 170 (dk_at dksX3_mark_2 1 rfl rfl)
theorem dX3_mark_52 : decode cX3_mark 52 = .ok (.idiv, 1) := dk_108 (dk_at dksX3_mark_2 4 rfl rfl)
theorem dX3_mark_53 : decode cX3_mark 53 = .ok (.ireturn, 1) := dk_172 (dk_at dksX3_mark_2 5 rfl rfl)
abbrev cX3_marksOf : ByteArray := prog_3_method_28_code
def yX3_marksOf : MethodName := ⟨RX3, "marksOf", "([J)[J"⟩
def dkwX3_marksOf_2 : List UInt8 := [167, 255, 225, 132, 3, 1, 167, 255, 210, 44, 176]
abbrev dktX3_marksOf_2 : List UInt8 := dkwX3_marksOf_2 ++ []
def dkwX3_marksOf_1 : List UInt8 := [21, 4, 92, 47, 43, 29, 47, 42, 180, 0, 104, 29, 50, 21, 4, 46, 133, 105, 97, 80, 132, 4, 1]
abbrev dktX3_marksOf_1 : List UInt8 := dkwX3_marksOf_1 ++ dktX3_marksOf_2
def dkwX3_marksOf_0 : List UInt8 := [43, 190, 188, 11, 77, 3, 62, 29, 44, 190, 162, 0, 46, 3, 54, 4, 21, 4, 44, 190, 162, 0, 30, 44]
abbrev dktX3_marksOf_0 : List UInt8 := dkwX3_marksOf_0 ++ dktX3_marksOf_1
theorem dksX3_marksOf_0 : cX3_marksOf.data.toList.drop 0 = dktX3_marksOf_0 := by decide +kernel
theorem dksX3_marksOf_1 : cX3_marksOf.data.toList.drop 24 = dktX3_marksOf_1 := dk_seg dksX3_marksOf_0 24 rfl rfl
theorem dksX3_marksOf_2 : cX3_marksOf.data.toList.drop 47 = dktX3_marksOf_2 := dk_seg dksX3_marksOf_1 23 rfl rfl
theorem dX3_marksOf_0 : decode cX3_marksOf 0 = .ok (.aload_n 1, 1) := dk_43 (dk_at dksX3_marksOf_0 0 rfl rfl)
theorem dX3_marksOf_1 : decode cX3_marksOf 1 = .ok (.arraylength, 1) := dk_190 (dk_at dksX3_marksOf_0 1 rfl rfl)
theorem dX3_marksOf_2 : decode cX3_marksOf 2 = .ok (.newarray .long, 2) := dk_188_11 (dk_at dksX3_marksOf_0 2 rfl rfl)
theorem dX3_marksOf_4 : decode cX3_marksOf 4 = .ok (.astore_n 2, 1) := dk_77 (dk_at dksX3_marksOf_0 4 rfl rfl)
theorem dX3_marksOf_5 : decode cX3_marksOf 5 = .ok (.iconst 0, 1) := dk_3 (dk_at dksX3_marksOf_0 5 rfl rfl)
theorem dX3_marksOf_6 : decode cX3_marksOf 6 = .ok (.istore_n 3, 1) := dk_62 (dk_at dksX3_marksOf_0 6 rfl rfl)
theorem dX3_marksOf_7 : decode cX3_marksOf 7 = .ok (.iload_n 3, 1) := dk_29 (dk_at dksX3_marksOf_0 7 rfl rfl)
theorem dX3_marksOf_8 : decode cX3_marksOf 8 = .ok (.aload_n 2, 1) := dk_44 (dk_at dksX3_marksOf_0 8 rfl rfl)
theorem dX3_marksOf_9 : decode cX3_marksOf 9 = .ok (.arraylength, 1) := dk_190 (dk_at dksX3_marksOf_0 9 rfl rfl)
theorem dX3_marksOf_10 : decode cX3_marksOf 10 = .ok (.if_icmp .ge 46, 3) := dk_162 0 46 (dk_at dksX3_marksOf_0 10 rfl rfl)
theorem dX3_marksOf_13 : decode cX3_marksOf 13 = .ok (.iconst 0, 1) := dk_3 (dk_at dksX3_marksOf_0 13 rfl rfl)
theorem dX3_marksOf_14 : decode cX3_marksOf 14 = .ok (.istore 4, 2) := dk_54 4 (dk_at dksX3_marksOf_0 14 rfl rfl)
theorem dX3_marksOf_16 : decode cX3_marksOf 16 = .ok (.iload 4, 2) := dk_21 4 (dk_at dksX3_marksOf_0 16 rfl rfl)
theorem dX3_marksOf_18 : decode cX3_marksOf 18 = .ok (.aload_n 2, 1) := dk_44 (dk_at dksX3_marksOf_0 18 rfl rfl)
theorem dX3_marksOf_19 : decode cX3_marksOf 19 = .ok (.arraylength, 1) := dk_190 (dk_at dksX3_marksOf_0 19 rfl rfl)
theorem dX3_marksOf_20 : decode cX3_marksOf 20 = .ok (.if_icmp .ge 30, 3) := dk_162 0 30 (dk_at dksX3_marksOf_0 20 rfl rfl)
theorem dX3_marksOf_23 : decode cX3_marksOf 23 = .ok (.aload_n 2, 1) := dk_44 (dk_at dksX3_marksOf_0 23 rfl rfl)
theorem dX3_marksOf_24 : decode cX3_marksOf 24 = .ok (.iload 4, 2) := dk_21 4 (dk_at dksX3_marksOf_1 0 rfl rfl)
theorem dX3_marksOf_26 : decode cX3_marksOf 26 = .ok (.dup2, 1) := dk_92 (dk_at dksX3_marksOf_1 2 rfl rfl)
theorem dX3_marksOf_27 : decode cX3_marksOf 27 = .ok (.laload, 1) := dk_47 (dk_at dksX3_marksOf_1 3 rfl rfl)
theorem dX3_marksOf_28 : decode cX3_marksOf 28 = .ok (.aload_n 1, 1) := dk_43 (dk_at dksX3_marksOf_1 4 rfl rfl)
theorem dX3_marksOf_29 : decode cX3_marksOf 29 = .ok (.iload_n 3, 1) := dk_29 (dk_at dksX3_marksOf_1 5 rfl rfl)
theorem dX3_marksOf_30 : decode cX3_marksOf 30 = .ok (.laload, 1) := dk_47 (dk_at dksX3_marksOf_1 6 rfl rfl)
theorem dX3_marksOf_31 : decode cX3_marksOf 31 = .ok (.aload_n 0, 1) := dk_42 (dk_at dksX3_marksOf_1 7 rfl rfl)
theorem dX3_marksOf_32 : decode cX3_marksOf 32 = .ok (.getfield 104, 3) := dk_180 0 104 (dk_at dksX3_marksOf_1 8 rfl rfl)
theorem dX3_marksOf_35 : decode cX3_marksOf 35 = .ok (.iload_n 3, 1) := dk_29 (dk_at dksX3_marksOf_1 11 rfl rfl)
theorem dX3_marksOf_36 : decode cX3_marksOf 36 = .ok (.aaload, 1) := dk_50 (dk_at dksX3_marksOf_1 12 rfl rfl)
theorem dX3_marksOf_37 : decode cX3_marksOf 37 = .ok (.iload 4, 2) := dk_21 4 (dk_at dksX3_marksOf_1 13 rfl rfl)
theorem dX3_marksOf_39 : decode cX3_marksOf 39 = .ok (.iaload, 1) := dk_46 (dk_at dksX3_marksOf_1 15 rfl rfl)
theorem dX3_marksOf_40 : decode cX3_marksOf 40 = .ok (.i2l, 1) := dk_133 (dk_at dksX3_marksOf_1 16 rfl rfl)
theorem dX3_marksOf_41 : decode cX3_marksOf 41 = .ok (.lmul, 1) := dk_105 (dk_at dksX3_marksOf_1 17 rfl rfl)
theorem dX3_marksOf_42 : decode cX3_marksOf 42 = .ok (.ladd, 1) := dk_97 (dk_at dksX3_marksOf_1 18 rfl rfl)
theorem dX3_marksOf_43 : decode cX3_marksOf 43 = .ok (.lastore, 1) := dk_80 (dk_at dksX3_marksOf_1 19 rfl rfl)
theorem dX3_marksOf_44 : decode cX3_marksOf 44 = .ok (.iinc 4 1, 3) := dk_132 4 1 (dk_at dksX3_marksOf_1 20 rfl rfl)
theorem dX3_marksOf_47 : decode cX3_marksOf 47 = .ok (.goto (-31), 3) := dk_167 255 225 (dk_at dksX3_marksOf_2 0 rfl rfl)
theorem dX3_marksOf_50 : decode cX3_marksOf 50 = .ok (.iinc 3 1, 3) := dk_132 3 1 (dk_at dksX3_marksOf_2 3 rfl rfl)
theorem dX3_marksOf_53 : decode cX3_marksOf 53 = .ok (.goto (-46), 3) := dk_167 255 210 (dk_at dksX3_marksOf_2 6 rfl rfl)
theorem dX3_marksOf_56 : decode cX3_marksOf 56 = .ok (.aload_n 2, 1) := dk_44 (dk_at dksX3_marksOf_2 9 rfl rfl)
theorem dX3_marksOf_57 : decode cX3_marksOf 57 = .ok (.areturn, 1) := dk_176 (dk_at dksX3_marksOf_2 10 rfl rfl)
abbrev cX3_solved : ByteArray := prog_3_method_27_code
def yX3_solved : MethodName := ⟨RX3, "solved", "([J)[J"⟩
def dkwX3_solved_3 : List UInt8 := [132, 3, 255, 167, 255, 191, 44, 176]
abbrev dktX3_solved_3 : List UInt8 := dkwX3_solved_3 ++ []
def dkwX3_solved_2 : List UInt8 := [101, 55, 4, 132, 6, 1, 167, 255, 226, 44, 29, 22, 4, 42, 180, 0, 104, 29, 50, 29, 46, 133, 109, 80]
abbrev dktX3_solved_2 : List UInt8 := dkwX3_solved_2 ++ dktX3_solved_3
def dkwX3_solved_1 : List UInt8 := [21, 6, 43, 190, 162, 0, 29, 22, 4, 44, 21, 6, 47, 42, 180, 0, 104, 21, 6, 50, 29, 46, 133, 105]
abbrev dktX3_solved_1 : List UInt8 := dkwX3_solved_1 ++ dktX3_solved_2
def dkwX3_solved_0 : List UInt8 := [43, 190, 188, 11, 77, 43, 190, 4, 100, 62, 29, 155, 0, 67, 43, 29, 47, 55, 4, 29, 4, 96, 54, 6]
abbrev dktX3_solved_0 : List UInt8 := dkwX3_solved_0 ++ dktX3_solved_1
theorem dksX3_solved_0 : cX3_solved.data.toList.drop 0 = dktX3_solved_0 := by decide +kernel
theorem dksX3_solved_1 : cX3_solved.data.toList.drop 24 = dktX3_solved_1 := dk_seg dksX3_solved_0 24 rfl rfl
theorem dksX3_solved_2 : cX3_solved.data.toList.drop 48 = dktX3_solved_2 := dk_seg dksX3_solved_1 24 rfl rfl
theorem dksX3_solved_3 : cX3_solved.data.toList.drop 72 = dktX3_solved_3 := dk_seg dksX3_solved_2 24 rfl rfl
theorem dX3_solved_0 : decode cX3_solved 0 = .ok (.aload_n 1, 1) := dk_43 (dk_at dksX3_solved_0 0 rfl rfl)
theorem dX3_solved_1 : decode cX3_solved 1 = .ok (.arraylength, 1) := dk_190 (dk_at dksX3_solved_0 1 rfl rfl)
theorem dX3_solved_2 : decode cX3_solved 2 = .ok (.newarray .long, 2) := dk_188_11 (dk_at dksX3_solved_0 2 rfl rfl)
theorem dX3_solved_4 : decode cX3_solved 4 = .ok (.astore_n 2, 1) := dk_77 (dk_at dksX3_solved_0 4 rfl rfl)
theorem dX3_solved_5 : decode cX3_solved 5 = .ok (.aload_n 1, 1) := dk_43 (dk_at dksX3_solved_0 5 rfl rfl)
theorem dX3_solved_6 : decode cX3_solved 6 = .ok (.arraylength, 1) := dk_190 (dk_at dksX3_solved_0 6 rfl rfl)
theorem dX3_solved_7 : decode cX3_solved 7 = .ok (.iconst 1, 1) := dk_4 (dk_at dksX3_solved_0 7 rfl rfl)
theorem dX3_solved_8 : decode cX3_solved 8 = .ok (.isub, 1) := dk_100 (dk_at dksX3_solved_0 8 rfl rfl)
theorem dX3_solved_9 : decode cX3_solved 9 = .ok (.istore_n 3, 1) := dk_62 (dk_at dksX3_solved_0 9 rfl rfl)
theorem dX3_solved_10 : decode cX3_solved 10 = .ok (.iload_n 3, 1) := dk_29 (dk_at dksX3_solved_0 10 rfl rfl)
theorem dX3_solved_11 : decode cX3_solved 11 = .ok (.ifCond .lt 67, 3) := dk_155 0 67 (dk_at dksX3_solved_0 11 rfl rfl)
theorem dX3_solved_14 : decode cX3_solved 14 = .ok (.aload_n 1, 1) := dk_43 (dk_at dksX3_solved_0 14 rfl rfl)
theorem dX3_solved_15 : decode cX3_solved 15 = .ok (.iload_n 3, 1) := dk_29 (dk_at dksX3_solved_0 15 rfl rfl)
theorem dX3_solved_16 : decode cX3_solved 16 = .ok (.laload, 1) := dk_47 (dk_at dksX3_solved_0 16 rfl rfl)
theorem dX3_solved_17 : decode cX3_solved 17 = .ok (.lstore 4, 2) := dk_55 4 (dk_at dksX3_solved_0 17 rfl rfl)
theorem dX3_solved_19 : decode cX3_solved 19 = .ok (.iload_n 3, 1) := dk_29 (dk_at dksX3_solved_0 19 rfl rfl)
theorem dX3_solved_20 : decode cX3_solved 20 = .ok (.iconst 1, 1) := dk_4 (dk_at dksX3_solved_0 20 rfl rfl)
theorem dX3_solved_21 : decode cX3_solved 21 = .ok (.iadd, 1) := dk_96 (dk_at dksX3_solved_0 21 rfl rfl)
theorem dX3_solved_22 : decode cX3_solved 22 = .ok (.istore 6, 2) := dk_54 6 (dk_at dksX3_solved_0 22 rfl rfl)
theorem dX3_solved_24 : decode cX3_solved 24 = .ok (.iload 6, 2) := dk_21 6 (dk_at dksX3_solved_1 0 rfl rfl)
theorem dX3_solved_26 : decode cX3_solved 26 = .ok (.aload_n 1, 1) := dk_43 (dk_at dksX3_solved_1 2 rfl rfl)
theorem dX3_solved_27 : decode cX3_solved 27 = .ok (.arraylength, 1) := dk_190 (dk_at dksX3_solved_1 3 rfl rfl)
theorem dX3_solved_28 : decode cX3_solved 28 = .ok (.if_icmp .ge 29, 3) := dk_162 0 29 (dk_at dksX3_solved_1 4 rfl rfl)
theorem dX3_solved_31 : decode cX3_solved 31 = .ok (.lload 4, 2) := dk_22 4 (dk_at dksX3_solved_1 7 rfl rfl)
theorem dX3_solved_33 : decode cX3_solved 33 = .ok (.aload_n 2, 1) := dk_44 (dk_at dksX3_solved_1 9 rfl rfl)
theorem dX3_solved_34 : decode cX3_solved 34 = .ok (.iload 6, 2) := dk_21 6 (dk_at dksX3_solved_1 10 rfl rfl)
theorem dX3_solved_36 : decode cX3_solved 36 = .ok (.laload, 1) := dk_47 (dk_at dksX3_solved_1 12 rfl rfl)
theorem dX3_solved_37 : decode cX3_solved 37 = .ok (.aload_n 0, 1) := dk_42 (dk_at dksX3_solved_1 13 rfl rfl)
theorem dX3_solved_38 : decode cX3_solved 38 = .ok (.getfield 104, 3) := dk_180 0 104 (dk_at dksX3_solved_1 14 rfl rfl)
theorem dX3_solved_41 : decode cX3_solved 41 = .ok (.iload 6, 2) := dk_21 6 (dk_at dksX3_solved_1 17 rfl rfl)
theorem dX3_solved_43 : decode cX3_solved 43 = .ok (.aaload, 1) := dk_50 (dk_at dksX3_solved_1 19 rfl rfl)
theorem dX3_solved_44 : decode cX3_solved 44 = .ok (.iload_n 3, 1) := dk_29 (dk_at dksX3_solved_1 20 rfl rfl)
theorem dX3_solved_45 : decode cX3_solved 45 = .ok (.iaload, 1) := dk_46 (dk_at dksX3_solved_1 21 rfl rfl)
theorem dX3_solved_46 : decode cX3_solved 46 = .ok (.i2l, 1) := dk_133 (dk_at dksX3_solved_1 22 rfl rfl)
theorem dX3_solved_47 : decode cX3_solved 47 = .ok (.lmul, 1) := dk_105 (dk_at dksX3_solved_1 23 rfl rfl)
theorem dX3_solved_48 : decode cX3_solved 48 = .ok (.lsub, 1) := dk_101 (dk_at dksX3_solved_2 0 rfl rfl)
theorem dX3_solved_49 : decode cX3_solved 49 = .ok (.lstore 4, 2) := dk_55 4 (dk_at dksX3_solved_2 1 rfl rfl)
theorem dX3_solved_51 : decode cX3_solved 51 = .ok (.iinc 6 1, 3) := dk_132 6 1 (dk_at dksX3_solved_2 3 rfl rfl)
theorem dX3_solved_54 : decode cX3_solved 54 = .ok (.goto (-30), 3) := dk_167 255 226 (dk_at dksX3_solved_2 6 rfl rfl)
theorem dX3_solved_57 : decode cX3_solved 57 = .ok (.aload_n 2, 1) := dk_44 (dk_at dksX3_solved_2 9 rfl rfl)
theorem dX3_solved_58 : decode cX3_solved 58 = .ok (.iload_n 3, 1) := dk_29 (dk_at dksX3_solved_2 10 rfl rfl)
theorem dX3_solved_59 : decode cX3_solved 59 = .ok (.lload 4, 2) := dk_22 4 (dk_at dksX3_solved_2 11 rfl rfl)
theorem dX3_solved_61 : decode cX3_solved 61 = .ok (.aload_n 0, 1) := dk_42 (dk_at dksX3_solved_2 13 rfl rfl)
theorem dX3_solved_62 : decode cX3_solved 62 = .ok (.getfield 104, 3) := dk_180 0 104 (dk_at dksX3_solved_2 14 rfl rfl)
theorem dX3_solved_65 : decode cX3_solved 65 = .ok (.iload_n 3, 1) := dk_29 (dk_at dksX3_solved_2 17 rfl rfl)
theorem dX3_solved_66 : decode cX3_solved 66 = .ok (.aaload, 1) := dk_50 (dk_at dksX3_solved_2 18 rfl rfl)
theorem dX3_solved_67 : decode cX3_solved 67 = .ok (.iload_n 3, 1) := dk_29 (dk_at dksX3_solved_2 19 rfl rfl)
theorem dX3_solved_68 : decode cX3_solved 68 = .ok (.iaload, 1) := dk_46 (dk_at dksX3_solved_2 20 rfl rfl)
theorem dX3_solved_69 : decode cX3_solved 69 = .ok (.i2l, 1) := dk_133 (dk_at dksX3_solved_2 21 rfl rfl)
theorem dX3_solved_70 : decode cX3_solved 70 = .ok (.ldiv, 1) := dk_109 (dk_at dksX3_solved_2 22 rfl rfl)
theorem dX3_solved_71 : decode cX3_solved 71 = .ok (.lastore, 1) := dk_80 (dk_at dksX3_solved_2 23 rfl rfl)
theorem dX3_solved_72 : decode cX3_solved 72 = .ok (.iinc 3 (-1), 3) := dk_132 3 255 (dk_at dksX3_solved_3 0 rfl rfl)
theorem dX3_solved_75 : decode cX3_solved 75 = .ok (.goto (-65), 3) := dk_167 255 191 (dk_at dksX3_solved_3 3 rfl rfl)
theorem dX3_solved_78 : decode cX3_solved 78 = .ok (.aload_n 2, 1) := dk_44 (dk_at dksX3_solved_3 6 rfl rfl)
theorem dX3_solved_79 : decode cX3_solved 79 = .ok (.areturn, 1) := dk_176 (dk_at dksX3_solved_3 7 rfl rfl)
abbrev cX3_isLevel : ByteArray := prog_3_method_12_code
def yX3_isLevel : MethodName := ⟨RX3, "isLevel", "(I)Z"⟩
def dkwX3_isLevel_2 : List UInt8 := [29, 50, 28, 46, 159, 0, 5, 3, 172, 132, 3, 1, 167, 255, 209, 132, 2, 1, 167, 255, 193, 4, 172]
abbrev dktX3_isLevel_2 : List UInt8 := dkwX3_isLevel_2 ++ []
def dkwX3_isLevel_1 : List UInt8 := [153, 0, 33, 27, 133, 29, 184, 0, 117, 153, 0, 24, 42, 180, 0, 64, 28, 50, 29, 46, 42, 180, 0, 64]
abbrev dktX3_isLevel_1 : List UInt8 := dkwX3_isLevel_1 ++ dktX3_isLevel_2
def dkwX3_isLevel_0 : List UInt8 := [3, 61, 28, 42, 182, 0, 116, 162, 0, 61, 3, 62, 29, 28, 162, 0, 48, 27, 133, 28, 184, 0, 117]
abbrev dktX3_isLevel_0 : List UInt8 := dkwX3_isLevel_0 ++ dktX3_isLevel_1
theorem dksX3_isLevel_0 : cX3_isLevel.data.toList.drop 0 = dktX3_isLevel_0 := by decide +kernel
theorem dksX3_isLevel_1 : cX3_isLevel.data.toList.drop 23 = dktX3_isLevel_1 := dk_seg dksX3_isLevel_0 23 rfl rfl
theorem dksX3_isLevel_2 : cX3_isLevel.data.toList.drop 47 = dktX3_isLevel_2 := dk_seg dksX3_isLevel_1 24 rfl rfl
theorem dX3_isLevel_0 : decode cX3_isLevel 0 = .ok (.iconst 0, 1) := dk_3 (dk_at dksX3_isLevel_0 0 rfl rfl)
theorem dX3_isLevel_1 : decode cX3_isLevel 1 = .ok (.istore_n 2, 1) := dk_61 (dk_at dksX3_isLevel_0 1 rfl rfl)
theorem dX3_isLevel_2 : decode cX3_isLevel 2 = .ok (.iload_n 2, 1) := dk_28 (dk_at dksX3_isLevel_0 2 rfl rfl)
theorem dX3_isLevel_3 : decode cX3_isLevel 3 = .ok (.aload_n 0, 1) := dk_42 (dk_at dksX3_isLevel_0 3 rfl rfl)
theorem dX3_isLevel_4 : decode cX3_isLevel 4 = .ok (.invokevirtual 116, 3) := dk_182 0 116 (dk_at dksX3_isLevel_0 4 rfl rfl)
theorem dX3_isLevel_7 : decode cX3_isLevel 7 = .ok (.if_icmp .ge 61, 3) := dk_162 0 61 (dk_at dksX3_isLevel_0 7 rfl rfl)
theorem dX3_isLevel_10 : decode cX3_isLevel 10 = .ok (.iconst 0, 1) := dk_3 (dk_at dksX3_isLevel_0 10 rfl rfl)
theorem dX3_isLevel_11 : decode cX3_isLevel 11 = .ok (.istore_n 3, 1) := dk_62 (dk_at dksX3_isLevel_0 11 rfl rfl)
theorem dX3_isLevel_12 : decode cX3_isLevel 12 = .ok (.iload_n 3, 1) := dk_29 (dk_at dksX3_isLevel_0 12 rfl rfl)
theorem dX3_isLevel_13 : decode cX3_isLevel 13 = .ok (.iload_n 2, 1) := dk_28 (dk_at dksX3_isLevel_0 13 rfl rfl)
theorem dX3_isLevel_14 : decode cX3_isLevel 14 = .ok (.if_icmp .ge 48, 3) := dk_162 0 48 (dk_at dksX3_isLevel_0 14 rfl rfl)
theorem dX3_isLevel_17 : decode cX3_isLevel 17 = .ok (.iload_n 1, 1) := dk_27 (dk_at dksX3_isLevel_0 17 rfl rfl)
theorem dX3_isLevel_18 : decode cX3_isLevel 18 = .ok (.i2l, 1) := dk_133 (dk_at dksX3_isLevel_0 18 rfl rfl)
theorem dX3_isLevel_19 : decode cX3_isLevel 19 = .ok (.iload_n 2, 1) := dk_28 (dk_at dksX3_isLevel_0 19 rfl rfl)
theorem dX3_isLevel_20 : decode cX3_isLevel 20 = .ok (.invokestatic 117, 3) := dk_184 0 117 (dk_at dksX3_isLevel_0 20 rfl rfl)
theorem dX3_isLevel_23 : decode cX3_isLevel 23 = .ok (.ifCond .eq 33, 3) := dk_153 0 33 (dk_at dksX3_isLevel_1 0 rfl rfl)
theorem dX3_isLevel_26 : decode cX3_isLevel 26 = .ok (.iload_n 1, 1) := dk_27 (dk_at dksX3_isLevel_1 3 rfl rfl)
theorem dX3_isLevel_27 : decode cX3_isLevel 27 = .ok (.i2l, 1) := dk_133 (dk_at dksX3_isLevel_1 4 rfl rfl)
theorem dX3_isLevel_28 : decode cX3_isLevel 28 = .ok (.iload_n 3, 1) := dk_29 (dk_at dksX3_isLevel_1 5 rfl rfl)
theorem dX3_isLevel_29 : decode cX3_isLevel 29 = .ok (.invokestatic 117, 3) := dk_184 0 117 (dk_at dksX3_isLevel_1 6 rfl rfl)
theorem dX3_isLevel_32 : decode cX3_isLevel 32 = .ok (.ifCond .eq 24, 3) := dk_153 0 24 (dk_at dksX3_isLevel_1 9 rfl rfl)
theorem dX3_isLevel_35 : decode cX3_isLevel 35 = .ok (.aload_n 0, 1) := dk_42 (dk_at dksX3_isLevel_1 12 rfl rfl)
theorem dX3_isLevel_36 : decode cX3_isLevel 36 = .ok (.getfield 64, 3) := dk_180 0 64 (dk_at dksX3_isLevel_1 13 rfl rfl)
theorem dX3_isLevel_39 : decode cX3_isLevel 39 = .ok (.iload_n 2, 1) := dk_28 (dk_at dksX3_isLevel_1 16 rfl rfl)
theorem dX3_isLevel_40 : decode cX3_isLevel 40 = .ok (.aaload, 1) := dk_50 (dk_at dksX3_isLevel_1 17 rfl rfl)
theorem dX3_isLevel_41 : decode cX3_isLevel 41 = .ok (.iload_n 3, 1) := dk_29 (dk_at dksX3_isLevel_1 18 rfl rfl)
theorem dX3_isLevel_42 : decode cX3_isLevel 42 = .ok (.iaload, 1) := dk_46 (dk_at dksX3_isLevel_1 19 rfl rfl)
theorem dX3_isLevel_43 : decode cX3_isLevel 43 = .ok (.aload_n 0, 1) := dk_42 (dk_at dksX3_isLevel_1 20 rfl rfl)
theorem dX3_isLevel_44 : decode cX3_isLevel 44 = .ok (.getfield 64, 3) := dk_180 0 64 (dk_at dksX3_isLevel_1 21 rfl rfl)
theorem dX3_isLevel_47 : decode cX3_isLevel 47 = .ok (.iload_n 3, 1) := dk_29 (dk_at dksX3_isLevel_2 0 rfl rfl)
theorem dX3_isLevel_48 : decode cX3_isLevel 48 = .ok (.aaload, 1) := dk_50 (dk_at dksX3_isLevel_2 1 rfl rfl)
theorem dX3_isLevel_49 : decode cX3_isLevel 49 = .ok (.iload_n 2, 1) := dk_28 (dk_at dksX3_isLevel_2 2 rfl rfl)
theorem dX3_isLevel_50 : decode cX3_isLevel 50 = .ok (.iaload, 1) := dk_46 (dk_at dksX3_isLevel_2 3 rfl rfl)
theorem dX3_isLevel_51 : decode cX3_isLevel 51 = .ok (.if_icmp .eq 5, 3) := dk_159 0 5 (dk_at dksX3_isLevel_2 4 rfl rfl)
theorem dX3_isLevel_54 : decode cX3_isLevel 54 = .ok (.iconst 0, 1) := dk_3 (dk_at dksX3_isLevel_2 7 rfl rfl)
theorem dX3_isLevel_55 : decode cX3_isLevel 55 = .ok (.ireturn, 1) := dk_172 (dk_at dksX3_isLevel_2 8 rfl rfl)
theorem dX3_isLevel_56 : decode cX3_isLevel 56 = .ok (.iinc 3 1, 3) := dk_132 3 1 (dk_at dksX3_isLevel_2 9 rfl rfl)
theorem dX3_isLevel_59 : decode cX3_isLevel 59 = .ok (.goto (-47), 3) := dk_167 255 209 (dk_at dksX3_isLevel_2 12 rfl rfl)
theorem dX3_isLevel_62 : decode cX3_isLevel 62 = .ok (.iinc 2 1, 3) := dk_132 2 1 (dk_at dksX3_isLevel_2 15 rfl rfl)
theorem dX3_isLevel_65 : decode cX3_isLevel 65 = .ok (.goto (-63), 3) := dk_167 255 193 (dk_at dksX3_isLevel_2 18 rfl rfl)
theorem dX3_isLevel_68 : decode cX3_isLevel 68 = .ok (.iconst 1, 1) := dk_4 (dk_at dksX3_isLevel_2 21 rfl rfl)
theorem dX3_isLevel_69 : decode cX3_isLevel 69 = .ok (.ireturn, 1) := dk_172 (dk_at dksX3_isLevel_2 22 rfl rfl)
abbrev cX3_order : ByteArray := prog_3_method_11_code
def yX3_order : MethodName := ⟨RX3, "order", "(I)I"⟩
def dkwX3_order_1 : List UInt8 := [172]
abbrev dktX3_order_1 : List UInt8 := dkwX3_order_1 ++ []
def dkwX3_order_0 : List UInt8 := [4, 61, 27, 62, 29, 153, 0, 18, 132, 2, 1, 42, 180, 0, 64, 29, 50, 27, 46, 62, 167, 255, 240, 28]
abbrev dktX3_order_0 : List UInt8 := dkwX3_order_0 ++ dktX3_order_1
theorem dksX3_order_0 : cX3_order.data.toList.drop 0 = dktX3_order_0 := by decide +kernel
theorem dksX3_order_1 : cX3_order.data.toList.drop 24 = dktX3_order_1 := dk_seg dksX3_order_0 24 rfl rfl
theorem dX3_order_0 : decode cX3_order 0 = .ok (.iconst 1, 1) := dk_4 (dk_at dksX3_order_0 0 rfl rfl)
theorem dX3_order_1 : decode cX3_order 1 = .ok (.istore_n 2, 1) := dk_61 (dk_at dksX3_order_0 1 rfl rfl)
theorem dX3_order_2 : decode cX3_order 2 = .ok (.iload_n 1, 1) := dk_27 (dk_at dksX3_order_0 2 rfl rfl)
theorem dX3_order_3 : decode cX3_order 3 = .ok (.istore_n 3, 1) := dk_62 (dk_at dksX3_order_0 3 rfl rfl)
theorem dX3_order_4 : decode cX3_order 4 = .ok (.iload_n 3, 1) := dk_29 (dk_at dksX3_order_0 4 rfl rfl)
theorem dX3_order_5 : decode cX3_order 5 = .ok (.ifCond .eq 18, 3) := dk_153 0 18 (dk_at dksX3_order_0 5 rfl rfl)
theorem dX3_order_8 : decode cX3_order 8 = .ok (.iinc 2 1, 3) := dk_132 2 1 (dk_at dksX3_order_0 8 rfl rfl)
theorem dX3_order_11 : decode cX3_order 11 = .ok (.aload_n 0, 1) := dk_42 (dk_at dksX3_order_0 11 rfl rfl)
theorem dX3_order_12 : decode cX3_order 12 = .ok (.getfield 64, 3) := dk_180 0 64 (dk_at dksX3_order_0 12 rfl rfl)
theorem dX3_order_15 : decode cX3_order 15 = .ok (.iload_n 3, 1) := dk_29 (dk_at dksX3_order_0 15 rfl rfl)
theorem dX3_order_16 : decode cX3_order 16 = .ok (.aaload, 1) := dk_50 (dk_at dksX3_order_0 16 rfl rfl)
theorem dX3_order_17 : decode cX3_order 17 = .ok (.iload_n 1, 1) := dk_27 (dk_at dksX3_order_0 17 rfl rfl)
theorem dX3_order_18 : decode cX3_order 18 = .ok (.iaload, 1) := dk_46 (dk_at dksX3_order_0 18 rfl rfl)
theorem dX3_order_19 : decode cX3_order 19 = .ok (.istore_n 3, 1) := dk_62 (dk_at dksX3_order_0 19 rfl rfl)
theorem dX3_order_20 : decode cX3_order 20 = .ok (.goto (-16), 3) := dk_167 255 240 (dk_at dksX3_order_0 20 rfl rfl)
theorem dX3_order_23 : decode cX3_order 23 = .ok (.iload_n 2, 1) := dk_28 (dk_at dksX3_order_0 23 rfl rfl)
theorem dX3_order_24 : decode cX3_order 24 = .ok (.ireturn, 1) := dk_172 (dk_at dksX3_order_1 0 rfl rfl)
abbrev cX3_sortOf : ByteArray := prog_3_method_9_code
def yX3_sortOf : MethodName := ⟨RX3, "sortOf", "(I)I"⟩
def dkwX3_sortOf_0 : List UInt8 := [42, 180, 0, 98, 42, 180, 0, 18, 27, 184, 0, 75, 185, 0, 166, 2, 0, 46, 172]
abbrev dktX3_sortOf_0 : List UInt8 := dkwX3_sortOf_0 ++ []
theorem dksX3_sortOf_0 : cX3_sortOf.data.toList.drop 0 = dktX3_sortOf_0 := by decide +kernel
theorem dX3_sortOf_0 : decode cX3_sortOf 0 = .ok (.aload_n 0, 1) := dk_42 (dk_at dksX3_sortOf_0 0 rfl rfl)
theorem dX3_sortOf_1 : decode cX3_sortOf 1 = .ok (.getfield 98, 3) := dk_180 0 98 (dk_at dksX3_sortOf_0 1 rfl rfl)
theorem dX3_sortOf_4 : decode cX3_sortOf 4 = .ok (.aload_n 0, 1) := dk_42 (dk_at dksX3_sortOf_0 4 rfl rfl)
theorem dX3_sortOf_5 : decode cX3_sortOf 5 = .ok (.getfield 18, 3) := dk_180 0 18 (dk_at dksX3_sortOf_0 5 rfl rfl)
theorem dX3_sortOf_8 : decode cX3_sortOf 8 = .ok (.iload_n 1, 1) := dk_27 (dk_at dksX3_sortOf_0 8 rfl rfl)
theorem dX3_sortOf_9 : decode cX3_sortOf 9 = .ok (.invokestatic 75, 3) := dk_184 0 75 (dk_at dksX3_sortOf_0 9 rfl rfl)
theorem dX3_sortOf_12 : decode cX3_sortOf 12 = .ok (.invokeinterface 166 2, 5) := by decide +kernel
theorem dX3_sortOf_17 : decode cX3_sortOf 17 = .ok (.iaload, 1) := dk_46 (dk_at dksX3_sortOf_0 17 rfl rfl)
theorem dX3_sortOf_18 : decode cX3_sortOf 18 = .ok (.ireturn, 1) := dk_172 (dk_at dksX3_sortOf_0 18 rfl rfl)
abbrev cX3_isRound : ByteArray := prog_3_method_13_code
def yX3_isRound : MethodName := ⟨RX3, "isRound", "(I)Z"⟩
def dkwX3_isRound_1 : List UInt8 := [182, 0, 121, 27, 160, 0, 5, 4, 172, 132, 2, 1, 167, 255, 223, 3, 172]
abbrev dktX3_isRound_1 : List UInt8 := dkwX3_isRound_1 ++ []
def dkwX3_isRound_0 : List UInt8 := [3, 61, 28, 42, 182, 0, 116, 162, 0, 31, 27, 133, 28, 184, 0, 117, 153, 0, 16, 42, 4, 28, 120]
abbrev dktX3_isRound_0 : List UInt8 := dkwX3_isRound_0 ++ dktX3_isRound_1
theorem dksX3_isRound_0 : cX3_isRound.data.toList.drop 0 = dktX3_isRound_0 := by decide +kernel
theorem dksX3_isRound_1 : cX3_isRound.data.toList.drop 23 = dktX3_isRound_1 := dk_seg dksX3_isRound_0 23 rfl rfl
theorem dX3_isRound_0 : decode cX3_isRound 0 = .ok (.iconst 0, 1) := dk_3 (dk_at dksX3_isRound_0 0 rfl rfl)
theorem dX3_isRound_1 : decode cX3_isRound 1 = .ok (.istore_n 2, 1) := dk_61 (dk_at dksX3_isRound_0 1 rfl rfl)
theorem dX3_isRound_2 : decode cX3_isRound 2 = .ok (.iload_n 2, 1) := dk_28 (dk_at dksX3_isRound_0 2 rfl rfl)
theorem dX3_isRound_3 : decode cX3_isRound 3 = .ok (.aload_n 0, 1) := dk_42 (dk_at dksX3_isRound_0 3 rfl rfl)
theorem dX3_isRound_4 : decode cX3_isRound 4 = .ok (.invokevirtual 116, 3) := dk_182 0 116 (dk_at dksX3_isRound_0 4 rfl rfl)
theorem dX3_isRound_7 : decode cX3_isRound 7 = .ok (.if_icmp .ge 31, 3) := dk_162 0 31 (dk_at dksX3_isRound_0 7 rfl rfl)
theorem dX3_isRound_10 : decode cX3_isRound 10 = .ok (.iload_n 1, 1) := dk_27 (dk_at dksX3_isRound_0 10 rfl rfl)
theorem dX3_isRound_11 : decode cX3_isRound 11 = .ok (.i2l, 1) := dk_133 (dk_at dksX3_isRound_0 11 rfl rfl)
theorem dX3_isRound_12 : decode cX3_isRound 12 = .ok (.iload_n 2, 1) := dk_28 (dk_at dksX3_isRound_0 12 rfl rfl)
theorem dX3_isRound_13 : decode cX3_isRound 13 = .ok (.invokestatic 117, 3) := dk_184 0 117 (dk_at dksX3_isRound_0 13 rfl rfl)
theorem dX3_isRound_16 : decode cX3_isRound 16 = .ok (.ifCond .eq 16, 3) := dk_153 0 16 (dk_at dksX3_isRound_0 16 rfl rfl)
theorem dX3_isRound_19 : decode cX3_isRound 19 = .ok (.aload_n 0, 1) := dk_42 (dk_at dksX3_isRound_0 19 rfl rfl)
theorem dX3_isRound_20 : decode cX3_isRound 20 = .ok (.iconst 1, 1) := dk_4 (dk_at dksX3_isRound_0 20 rfl rfl)
theorem dX3_isRound_21 : decode cX3_isRound 21 = .ok (.iload_n 2, 1) := dk_28 (dk_at dksX3_isRound_0 21 rfl rfl)
theorem dX3_isRound_22 : decode cX3_isRound 22 = .ok (.ishl, 1) := dk_120 (dk_at dksX3_isRound_0 22 rfl rfl)
theorem dX3_isRound_23 : decode cX3_isRound 23 = .ok (.invokevirtual 121, 3) := dk_182 0 121 (dk_at dksX3_isRound_1 0 rfl rfl)
theorem dX3_isRound_26 : decode cX3_isRound 26 = .ok (.iload_n 1, 1) := dk_27 (dk_at dksX3_isRound_1 3 rfl rfl)
theorem dX3_isRound_27 : decode cX3_isRound 27 = .ok (.if_icmp .ne 5, 3) := dk_160 0 5 (dk_at dksX3_isRound_1 4 rfl rfl)
theorem dX3_isRound_30 : decode cX3_isRound 30 = .ok (.iconst 1, 1) := dk_4 (dk_at dksX3_isRound_1 7 rfl rfl)
theorem dX3_isRound_31 : decode cX3_isRound 31 = .ok (.ireturn, 1) := dk_172 (dk_at dksX3_isRound_1 8 rfl rfl)
theorem dX3_isRound_32 : decode cX3_isRound 32 = .ok (.iinc 2 1, 3) := dk_132 2 1 (dk_at dksX3_isRound_1 9 rfl rfl)
theorem dX3_isRound_35 : decode cX3_isRound 35 = .ok (.goto (-33), 3) := dk_167 255 223 (dk_at dksX3_isRound_1 12 rfl rfl)
theorem dX3_isRound_38 : decode cX3_isRound 38 = .ok (.iconst 0, 1) := dk_3 (dk_at dksX3_isRound_1 15 rfl rfl)
theorem dX3_isRound_39 : decode cX3_isRound 39 = .ok (.ireturn, 1) := dk_172 (dk_at dksX3_isRound_1 16 rfl rfl)
abbrev cX3_within : ByteArray := prog_3_method_14_code
def yX3_within : MethodName := ⟨RX3, "within", "(II)I"⟩
def dkwX3_within_3 : List UInt8 := [62, 132, 4, 1, 167, 255, 185, 29, 172]
abbrev dktX3_within_3 : List UInt8 := dkwX3_within_3 ++ []
def dkwX3_within_2 : List UInt8 := [28, 185, 0, 71, 2, 0, 192, 0, 107, 180, 0, 109, 2, 130, 126, 154, 0, 7, 4, 167, 0, 4, 3, 96]
abbrev dktX3_within_2 : List UInt8 := dkwX3_within_2 ++ dktX3_within_3
def dkwX3_within_1 : List UInt8 := [160, 0, 46, 42, 180, 0, 18, 21, 4, 185, 0, 71, 2, 0, 192, 0, 76, 182, 0, 92, 42, 180, 0, 21]
abbrev dktX3_within_1 : List UInt8 := dkwX3_within_1 ++ dktX3_within_2
def dkwX3_within_0 : List UInt8 := [3, 62, 3, 54, 4, 21, 4, 42, 180, 0, 98, 190, 162, 0, 67, 29, 42, 180, 0, 98, 21, 4, 46, 27]
abbrev dktX3_within_0 : List UInt8 := dkwX3_within_0 ++ dktX3_within_1
theorem dksX3_within_0 : cX3_within.data.toList.drop 0 = dktX3_within_0 := by decide +kernel
theorem dksX3_within_1 : cX3_within.data.toList.drop 24 = dktX3_within_1 := dk_seg dksX3_within_0 24 rfl rfl
theorem dksX3_within_2 : cX3_within.data.toList.drop 48 = dktX3_within_2 := dk_seg dksX3_within_1 24 rfl rfl
theorem dksX3_within_3 : cX3_within.data.toList.drop 72 = dktX3_within_3 := dk_seg dksX3_within_2 24 rfl rfl
theorem dX3_within_0 : decode cX3_within 0 = .ok (.iconst 0, 1) := dk_3 (dk_at dksX3_within_0 0 rfl rfl)
theorem dX3_within_1 : decode cX3_within 1 = .ok (.istore_n 3, 1) := dk_62 (dk_at dksX3_within_0 1 rfl rfl)
theorem dX3_within_2 : decode cX3_within 2 = .ok (.iconst 0, 1) := dk_3 (dk_at dksX3_within_0 2 rfl rfl)
theorem dX3_within_3 : decode cX3_within 3 = .ok (.istore 4, 2) := dk_54 4 (dk_at dksX3_within_0 3 rfl rfl)
theorem dX3_within_5 : decode cX3_within 5 = .ok (.iload 4, 2) := dk_21 4 (dk_at dksX3_within_0 5 rfl rfl)
theorem dX3_within_7 : decode cX3_within 7 = .ok (.aload_n 0, 1) := dk_42 (dk_at dksX3_within_0 7 rfl rfl)
theorem dX3_within_8 : decode cX3_within 8 = .ok (.getfield 98, 3) := dk_180 0 98 (dk_at dksX3_within_0 8 rfl rfl)
theorem dX3_within_11 : decode cX3_within 11 = .ok (.arraylength, 1) := dk_190 (dk_at dksX3_within_0 11 rfl rfl)
theorem dX3_within_12 : decode cX3_within 12 = .ok (.if_icmp .ge 67, 3) := dk_162 0 67 (dk_at dksX3_within_0 12 rfl rfl)
theorem dX3_within_15 : decode cX3_within 15 = .ok (.iload_n 3, 1) := dk_29 (dk_at dksX3_within_0 15 rfl rfl)
theorem dX3_within_16 : decode cX3_within 16 = .ok (.aload_n 0, 1) := dk_42 (dk_at dksX3_within_0 16 rfl rfl)
theorem dX3_within_17 : decode cX3_within 17 = .ok (.getfield 98, 3) := dk_180 0 98 (dk_at dksX3_within_0 17 rfl rfl)
theorem dX3_within_20 : decode cX3_within 20 = .ok (.iload 4, 2) := dk_21 4 (dk_at dksX3_within_0 20 rfl rfl)
theorem dX3_within_22 : decode cX3_within 22 = .ok (.iaload, 1) := dk_46 (dk_at dksX3_within_0 22 rfl rfl)
theorem dX3_within_23 : decode cX3_within 23 = .ok (.iload_n 1, 1) := dk_27 (dk_at dksX3_within_0 23 rfl rfl)
theorem dX3_within_24 : decode cX3_within 24 = .ok (.if_icmp .ne 46, 3) := dk_160 0 46 (dk_at dksX3_within_1 0 rfl rfl)
theorem dX3_within_27 : decode cX3_within 27 = .ok (.aload_n 0, 1) := dk_42 (dk_at dksX3_within_1 3 rfl rfl)
theorem dX3_within_28 : decode cX3_within 28 = .ok (.getfield 18, 3) := dk_180 0 18 (dk_at dksX3_within_1 4 rfl rfl)
theorem dX3_within_31 : decode cX3_within 31 = .ok (.iload 4, 2) := dk_21 4 (dk_at dksX3_within_1 7 rfl rfl)
theorem dX3_within_33 : decode cX3_within 33 = .ok (.invokeinterface 71 2, 5) := by decide +kernel
theorem dX3_within_38 : decode cX3_within 38 = .ok (.checkcast 76, 3) := dk_192 0 76 (dk_at dksX3_within_1 14 rfl rfl)
theorem dX3_within_41 : decode cX3_within 41 = .ok (.invokevirtual 92, 3) := dk_182 0 92 (dk_at dksX3_within_1 17 rfl rfl)
theorem dX3_within_44 : decode cX3_within 44 = .ok (.aload_n 0, 1) := dk_42 (dk_at dksX3_within_1 20 rfl rfl)
theorem dX3_within_45 : decode cX3_within 45 = .ok (.getfield 21, 3) := dk_180 0 21 (dk_at dksX3_within_1 21 rfl rfl)
theorem dX3_within_48 : decode cX3_within 48 = .ok (.iload_n 2, 1) := dk_28 (dk_at dksX3_within_2 0 rfl rfl)
theorem dX3_within_49 : decode cX3_within 49 = .ok (.invokeinterface 71 2, 5) := by decide +kernel
theorem dX3_within_54 : decode cX3_within 54 = .ok (.checkcast 107, 3) := dk_192 0 107 (dk_at dksX3_within_2 6 rfl rfl)
theorem dX3_within_57 : decode cX3_within 57 = .ok (.getfield 109, 3) := dk_180 0 109 (dk_at dksX3_within_2 9 rfl rfl)
theorem dX3_within_60 : decode cX3_within 60 = .ok (.iconst (-1), 1) := dk_2 (dk_at dksX3_within_2 12 rfl rfl)
theorem dX3_within_61 : decode cX3_within 61 = .ok (.ixor, 1) := dk_130 (dk_at dksX3_within_2 13 rfl rfl)
theorem dX3_within_62 : decode cX3_within 62 = .ok (.iand, 1) := dk_126 (dk_at dksX3_within_2 14 rfl rfl)
theorem dX3_within_63 : decode cX3_within 63 = .ok (.ifCond .ne 7, 3) := dk_154 0 7 (dk_at dksX3_within_2 15 rfl rfl)
theorem dX3_within_66 : decode cX3_within 66 = .ok (.iconst 1, 1) := dk_4 (dk_at dksX3_within_2 18 rfl rfl)
theorem dX3_within_67 : decode cX3_within 67 = .ok (.goto 4, 3) := dk_167 0 4 (dk_at dksX3_within_2 19 rfl rfl)
theorem dX3_within_70 : decode cX3_within 70 = .ok (.iconst 0, 1) := dk_3 (dk_at dksX3_within_2 22 rfl rfl)
theorem dX3_within_71 : decode cX3_within 71 = .ok (.iadd, 1) := dk_96 (dk_at dksX3_within_2 23 rfl rfl)
theorem dX3_within_72 : decode cX3_within 72 = .ok (.istore_n 3, 1) := dk_62 (dk_at dksX3_within_3 0 rfl rfl)
theorem dX3_within_73 : decode cX3_within 73 = .ok (.iinc 4 1, 3) := dk_132 4 1 (dk_at dksX3_within_3 1 rfl rfl)
theorem dX3_within_76 : decode cX3_within 76 = .ok (.goto (-71), 3) := dk_167 255 185 (dk_at dksX3_within_3 4 rfl rfl)
theorem dX3_within_79 : decode cX3_within 79 = .ok (.iload_n 3, 1) := dk_29 (dk_at dksX3_within_3 7 rfl rfl)
theorem dX3_within_80 : decode cX3_within 80 = .ok (.ireturn, 1) := dk_172 (dk_at dksX3_within_3 8 rfl rfl)
abbrev cX3_residue : ByteArray := prog_3_method_22_code
def yX3_residue : MethodName := ⟨RX3, "residue", "(II)I"⟩
def dkwX3_residue_5 : List UInt8 := [167, 255, 243, 21, 7, 4, 160, 0, 7, 21, 6, 54, 4, 167, 255, 156, 42, 21, 4, 182, 0, 176, 172]
abbrev dktX3_residue_5 : List UInt8 := dkwX3_residue_5 ++ []
def dkwX3_residue_4 : List UInt8 := [184, 0, 170, 21, 6, 184, 0, 170, 108, 54, 7, 21, 7, 28, 112, 154, 0, 12, 21, 7, 28, 108, 54, 7]
abbrev dktX3_residue_4 : List UInt8 := dkwX3_residue_4 ++ dktX3_residue_5
def dkwX3_residue_3 : List UInt8 := [126, 29, 160, 255, 213, 21, 6, 184, 0, 170, 21, 4, 184, 0, 170, 161, 0, 6, 167, 255, 197, 29]
abbrev dktX3_residue_3 : List UInt8 := dkwX3_residue_3 ++ dktX3_residue_4
def dkwX3_residue_2 : List UInt8 := [192, 0, 76, 182, 0, 92, 54, 6, 21, 6, 29, 2, 130, 126, 154, 255, 225, 42, 21, 6, 182, 0, 161, 29]
abbrev dktX3_residue_2 : List UInt8 := dkwX3_residue_2 ++ dktX3_residue_3
def dkwX3_residue_1 : List UInt8 := [185, 0, 144, 1, 0, 58, 5, 25, 5, 185, 0, 40, 1, 0, 153, 0, 96, 25, 5, 185, 0, 46, 1, 0]
abbrev dktX3_residue_1 : List UInt8 := dkwX3_residue_1 ++ dktX3_residue_2
def dkwX3_residue_0 : List UInt8 := [42, 180, 0, 21, 27, 185, 0, 71, 2, 0, 192, 0, 107, 180, 0, 109, 62, 29, 54, 4, 42, 180, 0, 18]
abbrev dktX3_residue_0 : List UInt8 := dkwX3_residue_0 ++ dktX3_residue_1
theorem dksX3_residue_0 : cX3_residue.data.toList.drop 0 = dktX3_residue_0 := by decide +kernel
theorem dksX3_residue_1 : cX3_residue.data.toList.drop 24 = dktX3_residue_1 := dk_seg dksX3_residue_0 24 rfl rfl
theorem dksX3_residue_2 : cX3_residue.data.toList.drop 48 = dktX3_residue_2 := dk_seg dksX3_residue_1 24 rfl rfl
theorem dksX3_residue_3 : cX3_residue.data.toList.drop 72 = dktX3_residue_3 := dk_seg dksX3_residue_2 24 rfl rfl
theorem dksX3_residue_4 : cX3_residue.data.toList.drop 94 = dktX3_residue_4 := dk_seg dksX3_residue_3 22 rfl rfl
theorem dksX3_residue_5 : cX3_residue.data.toList.drop 118 = dktX3_residue_5 := dk_seg dksX3_residue_4 24 rfl rfl
theorem dX3_residue_0 : decode cX3_residue 0 = .ok (.aload_n 0, 1) := dk_42 (dk_at dksX3_residue_0 0 rfl rfl)
theorem dX3_residue_1 : decode cX3_residue 1 = .ok (.getfield 21, 3) := dk_180 0 21 (dk_at dksX3_residue_0 1 rfl rfl)
theorem dX3_residue_4 : decode cX3_residue 4 = .ok (.iload_n 1, 1) := dk_27 (dk_at dksX3_residue_0 4 rfl rfl)
theorem dX3_residue_5 : decode cX3_residue 5 = .ok (.invokeinterface 71 2, 5) := by decide +kernel
theorem dX3_residue_10 : decode cX3_residue 10 = .ok (.checkcast 107, 3) := dk_192 0 107 (dk_at dksX3_residue_0 10 rfl rfl)
theorem dX3_residue_13 : decode cX3_residue 13 = .ok (.getfield 109, 3) := dk_180 0 109 (dk_at dksX3_residue_0 13 rfl rfl)
theorem dX3_residue_16 : decode cX3_residue 16 = .ok (.istore_n 3, 1) := dk_62 (dk_at dksX3_residue_0 16 rfl rfl)
theorem dX3_residue_17 : decode cX3_residue 17 = .ok (.iload_n 3, 1) := dk_29 (dk_at dksX3_residue_0 17 rfl rfl)
theorem dX3_residue_18 : decode cX3_residue 18 = .ok (.istore 4, 2) := dk_54 4 (dk_at dksX3_residue_0 18 rfl rfl)
theorem dX3_residue_20 : decode cX3_residue 20 = .ok (.aload_n 0, 1) := dk_42 (dk_at dksX3_residue_0 20 rfl rfl)
theorem dX3_residue_21 : decode cX3_residue 21 = .ok (.getfield 18, 3) := dk_180 0 18 (dk_at dksX3_residue_0 21 rfl rfl)
theorem dX3_residue_24 : decode cX3_residue 24 = .ok (.invokeinterface 144 1, 5) := by decide +kernel
theorem dX3_residue_29 : decode cX3_residue 29 = .ok (.astore 5, 2) := dk_58 5 (dk_at dksX3_residue_1 5 rfl rfl)
theorem dX3_residue_31 : decode cX3_residue 31 = .ok (.aload 5, 2) := dk_25 5 (dk_at dksX3_residue_1 7 rfl rfl)
theorem dX3_residue_33 : decode cX3_residue 33 = .ok (.invokeinterface 40 1, 5) := by decide +kernel
theorem dX3_residue_38 : decode cX3_residue 38 = .ok (.ifCond .eq 96, 3) := dk_153 0 96 (dk_at dksX3_residue_1 14 rfl rfl)
theorem dX3_residue_41 : decode cX3_residue 41 = .ok (.aload 5, 2) := dk_25 5 (dk_at dksX3_residue_1 17 rfl rfl)
theorem dX3_residue_43 : decode cX3_residue 43 = .ok (.invokeinterface 46 1, 5) := by decide +kernel
theorem dX3_residue_48 : decode cX3_residue 48 = .ok (.checkcast 76, 3) := dk_192 0 76 (dk_at dksX3_residue_2 0 rfl rfl)
theorem dX3_residue_51 : decode cX3_residue 51 = .ok (.invokevirtual 92, 3) := dk_182 0 92 (dk_at dksX3_residue_2 3 rfl rfl)
theorem dX3_residue_54 : decode cX3_residue 54 = .ok (.istore 6, 2) := dk_54 6 (dk_at dksX3_residue_2 6 rfl rfl)
theorem dX3_residue_56 : decode cX3_residue 56 = .ok (.iload 6, 2) := dk_21 6 (dk_at dksX3_residue_2 8 rfl rfl)
theorem dX3_residue_58 : decode cX3_residue 58 = .ok (.iload_n 3, 1) := dk_29 (dk_at dksX3_residue_2 10 rfl rfl)
theorem dX3_residue_59 : decode cX3_residue 59 = .ok (.iconst (-1), 1) := dk_2 (dk_at dksX3_residue_2 11 rfl rfl)
theorem dX3_residue_60 : decode cX3_residue 60 = .ok (.ixor, 1) := dk_130 (dk_at dksX3_residue_2 12 rfl rfl)
theorem dX3_residue_61 : decode cX3_residue 61 = .ok (.iand, 1) := dk_126 (dk_at dksX3_residue_2 13 rfl rfl)
theorem dX3_residue_62 : decode cX3_residue 62 = .ok (.ifCond .ne (-31), 3) := dk_154 255 225 (dk_at dksX3_residue_2 14 rfl rfl)
theorem dX3_residue_65 : decode cX3_residue 65 = .ok (.aload_n 0, 1) := dk_42 (dk_at dksX3_residue_2 17 rfl rfl)
theorem dX3_residue_66 : decode cX3_residue 66 = .ok (.iload 6, 2) := dk_21 6 (dk_at dksX3_residue_2 18 rfl rfl)
theorem dX3_residue_68 : decode cX3_residue 68 = .ok (.invokevirtual 161, 3) := dk_182 0 161 (dk_at dksX3_residue_2 20 rfl rfl)
theorem dX3_residue_71 : decode cX3_residue 71 = .ok (.iload_n 3, 1) := dk_29 (dk_at dksX3_residue_2 23 rfl rfl)
theorem dX3_residue_72 : decode cX3_residue 72 = .ok (.iand, 1) := dk_126 (dk_at dksX3_residue_3 0 rfl rfl)
theorem dX3_residue_73 : decode cX3_residue 73 = .ok (.iload_n 3, 1) := dk_29 (dk_at dksX3_residue_3 1 rfl rfl)
theorem dX3_residue_74 : decode cX3_residue 74 = .ok (.if_icmp .ne (-43), 3) := dk_160 255 213 (dk_at dksX3_residue_3 2 rfl rfl)
theorem dX3_residue_77 : decode cX3_residue 77 = .ok (.iload 6, 2) := dk_21 6 (dk_at dksX3_residue_3 5 rfl rfl)
theorem dX3_residue_79 : decode cX3_residue 79 = .ok (.invokestatic 170, 3) := dk_184 0 170 (dk_at dksX3_residue_3 7 rfl rfl)
theorem dX3_residue_82 : decode cX3_residue 82 = .ok (.iload 4, 2) := dk_21 4 (dk_at dksX3_residue_3 10 rfl rfl)
theorem dX3_residue_84 : decode cX3_residue 84 = .ok (.invokestatic 170, 3) := dk_184 0 170 (dk_at dksX3_residue_3 12 rfl rfl)
theorem dX3_residue_87 : decode cX3_residue 87 = .ok (.if_icmp .lt 6, 3) := dk_161 0 6 (dk_at dksX3_residue_3 15 rfl rfl)
theorem dX3_residue_90 : decode cX3_residue 90 = .ok (.goto (-59), 3) := dk_167 255 197 (dk_at dksX3_residue_3 18 rfl rfl)
theorem dX3_residue_93 : decode cX3_residue 93 = .ok (.iload_n 3, 1) := dk_29 (dk_at dksX3_residue_3 21 rfl rfl)
theorem dX3_residue_94 : decode cX3_residue 94 = .ok (.invokestatic 170, 3) := dk_184 0 170 (dk_at dksX3_residue_4 0 rfl rfl)
theorem dX3_residue_97 : decode cX3_residue 97 = .ok (.iload 6, 2) := dk_21 6 (dk_at dksX3_residue_4 3 rfl rfl)
theorem dX3_residue_99 : decode cX3_residue 99 = .ok (.invokestatic 170, 3) := dk_184 0 170 (dk_at dksX3_residue_4 5 rfl rfl)
theorem dX3_residue_102 : decode cX3_residue 102 = .ok (.idiv, 1) := dk_108 (dk_at dksX3_residue_4 8 rfl rfl)
theorem dX3_residue_103 : decode cX3_residue 103 = .ok (.istore 7, 2) := dk_54 7 (dk_at dksX3_residue_4 9 rfl rfl)
theorem dX3_residue_105 : decode cX3_residue 105 = .ok (.iload 7, 2) := dk_21 7 (dk_at dksX3_residue_4 11 rfl rfl)
theorem dX3_residue_107 : decode cX3_residue 107 = .ok (.iload_n 2, 1) := dk_28 (dk_at dksX3_residue_4 13 rfl rfl)
theorem dX3_residue_108 : decode cX3_residue 108 = .ok (.irem, 1) := dk_112 (dk_at dksX3_residue_4 14 rfl rfl)
theorem dX3_residue_109 : decode cX3_residue 109 = .ok (.ifCond .ne 12, 3) := dk_154 0 12 (dk_at dksX3_residue_4 15 rfl rfl)
theorem dX3_residue_112 : decode cX3_residue 112 = .ok (.iload 7, 2) := dk_21 7 (dk_at dksX3_residue_4 18 rfl rfl)
theorem dX3_residue_114 : decode cX3_residue 114 = .ok (.iload_n 2, 1) := dk_28 (dk_at dksX3_residue_4 20 rfl rfl)
theorem dX3_residue_115 : decode cX3_residue 115 = .ok (.idiv, 1) := dk_108 (dk_at dksX3_residue_4 21 rfl rfl)
theorem dX3_residue_116 : decode cX3_residue 116 = .ok (.istore 7, 2) := dk_54 7 (dk_at dksX3_residue_4 22 rfl rfl)
theorem dX3_residue_118 : decode cX3_residue 118 = .ok (.goto (-13), 3) := dk_167 255 243 (dk_at dksX3_residue_5 0 rfl rfl)
theorem dX3_residue_121 : decode cX3_residue 121 = .ok (.iload 7, 2) := dk_21 7 (dk_at dksX3_residue_5 3 rfl rfl)
theorem dX3_residue_123 : decode cX3_residue 123 = .ok (.iconst 1, 1) := dk_4 (dk_at dksX3_residue_5 5 rfl rfl)
theorem dX3_residue_124 : decode cX3_residue 124 = .ok (.if_icmp .ne 7, 3) := dk_160 0 7 (dk_at dksX3_residue_5 6 rfl rfl)
theorem dX3_residue_127 : decode cX3_residue 127 = .ok (.iload 6, 2) := dk_21 6 (dk_at dksX3_residue_5 9 rfl rfl)
theorem dX3_residue_129 : decode cX3_residue 129 = .ok (.istore 4, 2) := dk_54 4 (dk_at dksX3_residue_5 11 rfl rfl)
theorem dX3_residue_131 : decode cX3_residue 131 = .ok (.goto (-100), 3) := dk_167 255 156 (dk_at dksX3_residue_5 13 rfl rfl)
theorem dX3_residue_134 : decode cX3_residue 134 = .ok (.aload_n 0, 1) := dk_42 (dk_at dksX3_residue_5 16 rfl rfl)
theorem dX3_residue_135 : decode cX3_residue 135 = .ok (.iload 4, 2) := dk_21 4 (dk_at dksX3_residue_5 17 rfl rfl)
theorem dX3_residue_137 : decode cX3_residue 137 = .ok (.invokevirtual 176, 3) := dk_182 0 176 (dk_at dksX3_residue_5 19 rfl rfl)
theorem dX3_residue_140 : decode cX3_residue 140 = .ok (.ireturn, 1) := dk_172 (dk_at dksX3_residue_5 22 rfl rfl)
abbrev cX3_block : ByteArray := prog_3_method_23_code
def yX3_block : MethodName := ⟨RX3, "block", "(II)I"⟩
def dkwX3_block_2 : List UInt8 := [132, 4, 1, 167, 255, 212, 29, 172]
abbrev dktX3_block_2 : List UInt8 := dkwX3_block_2 ++ []
def dkwX3_block_1 : List UInt8 := [182, 0, 178, 42, 27, 28, 182, 0, 178, 160, 0, 10, 4, 21, 4, 120, 167, 0, 4, 3, 128, 62]
abbrev dktX3_block_1 : List UInt8 := dkwX3_block_1 ++ dktX3_block_2
def dkwX3_block_0 : List UInt8 := [3, 62, 3, 54, 4, 21, 4, 42, 180, 0, 21, 185, 0, 58, 1, 0, 162, 0, 36, 29, 42, 21, 4, 28]
abbrev dktX3_block_0 : List UInt8 := dkwX3_block_0 ++ dktX3_block_1
theorem dksX3_block_0 : cX3_block.data.toList.drop 0 = dktX3_block_0 := by decide +kernel
theorem dksX3_block_1 : cX3_block.data.toList.drop 24 = dktX3_block_1 := dk_seg dksX3_block_0 24 rfl rfl
theorem dksX3_block_2 : cX3_block.data.toList.drop 46 = dktX3_block_2 := dk_seg dksX3_block_1 22 rfl rfl
theorem dX3_block_0 : decode cX3_block 0 = .ok (.iconst 0, 1) := dk_3 (dk_at dksX3_block_0 0 rfl rfl)
theorem dX3_block_1 : decode cX3_block 1 = .ok (.istore_n 3, 1) := dk_62 (dk_at dksX3_block_0 1 rfl rfl)
theorem dX3_block_2 : decode cX3_block 2 = .ok (.iconst 0, 1) := dk_3 (dk_at dksX3_block_0 2 rfl rfl)
theorem dX3_block_3 : decode cX3_block 3 = .ok (.istore 4, 2) := dk_54 4 (dk_at dksX3_block_0 3 rfl rfl)
theorem dX3_block_5 : decode cX3_block 5 = .ok (.iload 4, 2) := dk_21 4 (dk_at dksX3_block_0 5 rfl rfl)
theorem dX3_block_7 : decode cX3_block 7 = .ok (.aload_n 0, 1) := dk_42 (dk_at dksX3_block_0 7 rfl rfl)
theorem dX3_block_8 : decode cX3_block 8 = .ok (.getfield 21, 3) := dk_180 0 21 (dk_at dksX3_block_0 8 rfl rfl)
theorem dX3_block_11 : decode cX3_block 11 = .ok (.invokeinterface 58 1, 5) := by decide +kernel
theorem dX3_block_16 : decode cX3_block 16 = .ok (.if_icmp .ge 36, 3) := dk_162 0 36 (dk_at dksX3_block_0 16 rfl rfl)
theorem dX3_block_19 : decode cX3_block 19 = .ok (.iload_n 3, 1) := dk_29 (dk_at dksX3_block_0 19 rfl rfl)
theorem dX3_block_20 : decode cX3_block 20 = .ok (.aload_n 0, 1) := dk_42 (dk_at dksX3_block_0 20 rfl rfl)
theorem dX3_block_21 : decode cX3_block 21 = .ok (.iload 4, 2) := dk_21 4 (dk_at dksX3_block_0 21 rfl rfl)
theorem dX3_block_23 : decode cX3_block 23 = .ok (.iload_n 2, 1) := dk_28 (dk_at dksX3_block_0 23 rfl rfl)
theorem dX3_block_24 : decode cX3_block 24 = .ok (.invokevirtual 178, 3) := dk_182 0 178 (dk_at dksX3_block_1 0 rfl rfl)
theorem dX3_block_27 : decode cX3_block 27 = .ok (.aload_n 0, 1) := dk_42 (dk_at dksX3_block_1 3 rfl rfl)
theorem dX3_block_28 : decode cX3_block 28 = .ok (.iload_n 1, 1) := dk_27 (dk_at dksX3_block_1 4 rfl rfl)
theorem dX3_block_29 : decode cX3_block 29 = .ok (.iload_n 2, 1) := dk_28 (dk_at dksX3_block_1 5 rfl rfl)
theorem dX3_block_30 : decode cX3_block 30 = .ok (.invokevirtual 178, 3) := dk_182 0 178 (dk_at dksX3_block_1 6 rfl rfl)
theorem dX3_block_33 : decode cX3_block 33 = .ok (.if_icmp .ne 10, 3) := dk_160 0 10 (dk_at dksX3_block_1 9 rfl rfl)
theorem dX3_block_36 : decode cX3_block 36 = .ok (.iconst 1, 1) := dk_4 (dk_at dksX3_block_1 12 rfl rfl)
theorem dX3_block_37 : decode cX3_block 37 = .ok (.iload 4, 2) := dk_21 4 (dk_at dksX3_block_1 13 rfl rfl)
theorem dX3_block_39 : decode cX3_block 39 = .ok (.ishl, 1) := dk_120 (dk_at dksX3_block_1 15 rfl rfl)
theorem dX3_block_40 : decode cX3_block 40 = .ok (.goto 4, 3) := dk_167 0 4 (dk_at dksX3_block_1 16 rfl rfl)
theorem dX3_block_43 : decode cX3_block 43 = .ok (.iconst 0, 1) := dk_3 (dk_at dksX3_block_1 19 rfl rfl)
theorem dX3_block_44 : decode cX3_block 44 = .ok (.ior, 1) := dk_128 (dk_at dksX3_block_1 20 rfl rfl)
theorem dX3_block_45 : decode cX3_block 45 = .ok (.istore_n 3, 1) := dk_62 (dk_at dksX3_block_1 21 rfl rfl)
theorem dX3_block_46 : decode cX3_block 46 = .ok (.iinc 4 1, 3) := dk_132 4 1 (dk_at dksX3_block_2 0 rfl rfl)
theorem dX3_block_49 : decode cX3_block 49 = .ok (.goto (-44), 3) := dk_167 255 212 (dk_at dksX3_block_2 3 rfl rfl)
theorem dX3_block_52 : decode cX3_block 52 = .ok (.iload_n 3, 1) := dk_29 (dk_at dksX3_block_2 6 rfl rfl)
theorem dX3_block_53 : decode cX3_block 53 = .ok (.ireturn, 1) := dk_172 (dk_at dksX3_block_2 7 rfl rfl)
abbrev cX3_keeper : ByteArray := prog_3_method_20_code
def yX3_keeper : MethodName := ⟨RX3, "keeper", "(I)I"⟩
def dkwX3_keeper_2 : List UInt8 := [167, 255, 213, 28, 172]
abbrev dktX3_keeper_2 : List UInt8 := dkwX3_keeper_2 ++ []
def dkwX3_keeper_1 : List UInt8 := [192, 0, 50, 180, 0, 173, 27, 46, 27, 160, 0, 9, 4, 29, 120, 167, 0, 4, 3, 128, 61, 132, 3, 1]
abbrev dktX3_keeper_1 : List UInt8 := dkwX3_keeper_1 ++ dktX3_keeper_2
def dkwX3_keeper_0 : List UInt8 := [3, 61, 3, 62, 29, 42, 182, 0, 116, 162, 0, 41, 28, 42, 180, 0, 12, 29, 185, 0, 71, 2, 0]
abbrev dktX3_keeper_0 : List UInt8 := dkwX3_keeper_0 ++ dktX3_keeper_1
theorem dksX3_keeper_0 : cX3_keeper.data.toList.drop 0 = dktX3_keeper_0 := by decide +kernel
theorem dksX3_keeper_1 : cX3_keeper.data.toList.drop 23 = dktX3_keeper_1 := dk_seg dksX3_keeper_0 23 rfl rfl
theorem dksX3_keeper_2 : cX3_keeper.data.toList.drop 47 = dktX3_keeper_2 := dk_seg dksX3_keeper_1 24 rfl rfl
theorem dX3_keeper_0 : decode cX3_keeper 0 = .ok (.iconst 0, 1) := dk_3 (dk_at dksX3_keeper_0 0 rfl rfl)
theorem dX3_keeper_1 : decode cX3_keeper 1 = .ok (.istore_n 2, 1) := dk_61 (dk_at dksX3_keeper_0 1 rfl rfl)
theorem dX3_keeper_2 : decode cX3_keeper 2 = .ok (.iconst 0, 1) := dk_3 (dk_at dksX3_keeper_0 2 rfl rfl)
theorem dX3_keeper_3 : decode cX3_keeper 3 = .ok (.istore_n 3, 1) := dk_62 (dk_at dksX3_keeper_0 3 rfl rfl)
theorem dX3_keeper_4 : decode cX3_keeper 4 = .ok (.iload_n 3, 1) := dk_29 (dk_at dksX3_keeper_0 4 rfl rfl)
theorem dX3_keeper_5 : decode cX3_keeper 5 = .ok (.aload_n 0, 1) := dk_42 (dk_at dksX3_keeper_0 5 rfl rfl)
theorem dX3_keeper_6 : decode cX3_keeper 6 = .ok (.invokevirtual 116, 3) := dk_182 0 116 (dk_at dksX3_keeper_0 6 rfl rfl)
theorem dX3_keeper_9 : decode cX3_keeper 9 = .ok (.if_icmp .ge 41, 3) := dk_162 0 41 (dk_at dksX3_keeper_0 9 rfl rfl)
theorem dX3_keeper_12 : decode cX3_keeper 12 = .ok (.iload_n 2, 1) := dk_28 (dk_at dksX3_keeper_0 12 rfl rfl)
theorem dX3_keeper_13 : decode cX3_keeper 13 = .ok (.aload_n 0, 1) := dk_42 (dk_at dksX3_keeper_0 13 rfl rfl)
theorem dX3_keeper_14 : decode cX3_keeper 14 = .ok (.getfield 12, 3) := dk_180 0 12 (dk_at dksX3_keeper_0 14 rfl rfl)
theorem dX3_keeper_17 : decode cX3_keeper 17 = .ok (.iload_n 3, 1) := dk_29 (dk_at dksX3_keeper_0 17 rfl rfl)
theorem dX3_keeper_18 : decode cX3_keeper 18 = .ok (.invokeinterface 71 2, 5) := by decide +kernel
theorem dX3_keeper_23 : decode cX3_keeper 23 = .ok (.checkcast 50, 3) := dk_192 0 50 (dk_at dksX3_keeper_1 0 rfl rfl)
theorem dX3_keeper_26 : decode cX3_keeper 26 = .ok (.getfield 173, 3) := dk_180 0 173 (dk_at dksX3_keeper_1 3 rfl rfl)
theorem dX3_keeper_29 : decode cX3_keeper 29 = .ok (.iload_n 1, 1) := dk_27 (dk_at dksX3_keeper_1 6 rfl rfl)
theorem dX3_keeper_30 : decode cX3_keeper 30 = .ok (.iaload, 1) := dk_46 (dk_at dksX3_keeper_1 7 rfl rfl)
theorem dX3_keeper_31 : decode cX3_keeper 31 = .ok (.iload_n 1, 1) := dk_27 (dk_at dksX3_keeper_1 8 rfl rfl)
theorem dX3_keeper_32 : decode cX3_keeper 32 = .ok (.if_icmp .ne 9, 3) := dk_160 0 9 (dk_at dksX3_keeper_1 9 rfl rfl)
theorem dX3_keeper_35 : decode cX3_keeper 35 = .ok (.iconst 1, 1) := dk_4 (dk_at dksX3_keeper_1 12 rfl rfl)
theorem dX3_keeper_36 : decode cX3_keeper 36 = .ok (.iload_n 3, 1) := dk_29 (dk_at dksX3_keeper_1 13 rfl rfl)
theorem dX3_keeper_37 : decode cX3_keeper 37 = .ok (.ishl, 1) := dk_120 (dk_at dksX3_keeper_1 14 rfl rfl)
theorem dX3_keeper_38 : decode cX3_keeper 38 = .ok (.goto 4, 3) := dk_167 0 4 (dk_at dksX3_keeper_1 15 rfl rfl)
theorem dX3_keeper_41 : decode cX3_keeper 41 = .ok (.iconst 0, 1) := dk_3 (dk_at dksX3_keeper_1 18 rfl rfl)
theorem dX3_keeper_42 : decode cX3_keeper 42 = .ok (.ior, 1) := dk_128 (dk_at dksX3_keeper_1 19 rfl rfl)
theorem dX3_keeper_43 : decode cX3_keeper 43 = .ok (.istore_n 2, 1) := dk_61 (dk_at dksX3_keeper_1 20 rfl rfl)
theorem dX3_keeper_44 : decode cX3_keeper 44 = .ok (.iinc 3 1, 3) := dk_132 3 1 (dk_at dksX3_keeper_1 21 rfl rfl)
theorem dX3_keeper_47 : decode cX3_keeper 47 = .ok (.goto (-43), 3) := dk_167 255 213 (dk_at dksX3_keeper_2 0 rfl rfl)
theorem dX3_keeper_50 : decode cX3_keeper 50 = .ok (.iload_n 2, 1) := dk_28 (dk_at dksX3_keeper_2 3 rfl rfl)
theorem dX3_keeper_51 : decode cX3_keeper 51 = .ok (.ireturn, 1) := dk_172 (dk_at dksX3_keeper_2 4 rfl rfl)
abbrev cX3_orbit : ByteArray := prog_3_method_21_code
def yX3_orbit : MethodName := ⟨RX3, "orbit", "(I)I"⟩
def dkwX3_orbit_2 : List UInt8 := [167, 255, 224, 28, 172]
abbrev dktX3_orbit_2 : List UInt8 := dkwX3_orbit_2 ++ []
def dkwX3_orbit_1 : List UInt8 := [185, 0, 46, 1, 0, 192, 0, 50, 58, 4, 28, 4, 25, 4, 180, 0, 173, 27, 46, 120, 128, 61]
abbrev dktX3_orbit_1 : List UInt8 := dkwX3_orbit_1 ++ dktX3_orbit_2
def dkwX3_orbit_0 : List UInt8 := [3, 61, 42, 180, 0, 12, 185, 0, 144, 1, 0, 78, 45, 185, 0, 40, 1, 0, 153, 0, 29, 45]
abbrev dktX3_orbit_0 : List UInt8 := dkwX3_orbit_0 ++ dktX3_orbit_1
theorem dksX3_orbit_0 : cX3_orbit.data.toList.drop 0 = dktX3_orbit_0 := by decide +kernel
theorem dksX3_orbit_1 : cX3_orbit.data.toList.drop 22 = dktX3_orbit_1 := dk_seg dksX3_orbit_0 22 rfl rfl
theorem dksX3_orbit_2 : cX3_orbit.data.toList.drop 44 = dktX3_orbit_2 := dk_seg dksX3_orbit_1 22 rfl rfl
theorem dX3_orbit_0 : decode cX3_orbit 0 = .ok (.iconst 0, 1) := dk_3 (dk_at dksX3_orbit_0 0 rfl rfl)
theorem dX3_orbit_1 : decode cX3_orbit 1 = .ok (.istore_n 2, 1) := dk_61 (dk_at dksX3_orbit_0 1 rfl rfl)
theorem dX3_orbit_2 : decode cX3_orbit 2 = .ok (.aload_n 0, 1) := dk_42 (dk_at dksX3_orbit_0 2 rfl rfl)
theorem dX3_orbit_3 : decode cX3_orbit 3 = .ok (.getfield 12, 3) := dk_180 0 12 (dk_at dksX3_orbit_0 3 rfl rfl)
theorem dX3_orbit_6 : decode cX3_orbit 6 = .ok (.invokeinterface 144 1, 5) := by decide +kernel
theorem dX3_orbit_11 : decode cX3_orbit 11 = .ok (.astore_n 3, 1) := dk_78 (dk_at dksX3_orbit_0 11 rfl rfl)
theorem dX3_orbit_12 : decode cX3_orbit 12 = .ok (.aload_n 3, 1) := dk_45 (dk_at dksX3_orbit_0 12 rfl rfl)
theorem dX3_orbit_13 : decode cX3_orbit 13 = .ok (.invokeinterface 40 1, 5) := by decide +kernel
theorem dX3_orbit_18 : decode cX3_orbit 18 = .ok (.ifCond .eq 29, 3) := dk_153 0 29 (dk_at dksX3_orbit_0 18 rfl rfl)
theorem dX3_orbit_21 : decode cX3_orbit 21 = .ok (.aload_n 3, 1) := dk_45 (dk_at dksX3_orbit_0 21 rfl rfl)
theorem dX3_orbit_22 : decode cX3_orbit 22 = .ok (.invokeinterface 46 1, 5) := by decide +kernel
theorem dX3_orbit_27 : decode cX3_orbit 27 = .ok (.checkcast 50, 3) := dk_192 0 50 (dk_at dksX3_orbit_1 5 rfl rfl)
theorem dX3_orbit_30 : decode cX3_orbit 30 = .ok (.astore 4, 2) := dk_58 4 (dk_at dksX3_orbit_1 8 rfl rfl)
theorem dX3_orbit_32 : decode cX3_orbit 32 = .ok (.iload_n 2, 1) := dk_28 (dk_at dksX3_orbit_1 10 rfl rfl)
theorem dX3_orbit_33 : decode cX3_orbit 33 = .ok (.iconst 1, 1) := dk_4 (dk_at dksX3_orbit_1 11 rfl rfl)
theorem dX3_orbit_34 : decode cX3_orbit 34 = .ok (.aload 4, 2) := dk_25 4 (dk_at dksX3_orbit_1 12 rfl rfl)
theorem dX3_orbit_36 : decode cX3_orbit 36 = .ok (.getfield 173, 3) := dk_180 0 173 (dk_at dksX3_orbit_1 14 rfl rfl)
theorem dX3_orbit_39 : decode cX3_orbit 39 = .ok (.iload_n 1, 1) := dk_27 (dk_at dksX3_orbit_1 17 rfl rfl)
theorem dX3_orbit_40 : decode cX3_orbit 40 = .ok (.iaload, 1) := dk_46 (dk_at dksX3_orbit_1 18 rfl rfl)
theorem dX3_orbit_41 : decode cX3_orbit 41 = .ok (.ishl, 1) := dk_120 (dk_at dksX3_orbit_1 19 rfl rfl)
theorem dX3_orbit_42 : decode cX3_orbit 42 = .ok (.ior, 1) := dk_128 (dk_at dksX3_orbit_1 20 rfl rfl)
theorem dX3_orbit_43 : decode cX3_orbit 43 = .ok (.istore_n 2, 1) := dk_61 (dk_at dksX3_orbit_1 21 rfl rfl)
theorem dX3_orbit_44 : decode cX3_orbit 44 = .ok (.goto (-32), 3) := dk_167 255 224 (dk_at dksX3_orbit_2 0 rfl rfl)
theorem dX3_orbit_47 : decode cX3_orbit 47 = .ok (.iload_n 2, 1) := dk_28 (dk_at dksX3_orbit_2 3 rfl rfl)
theorem dX3_orbit_48 : decode cX3_orbit 48 = .ok (.ireturn, 1) := dk_172 (dk_at dksX3_orbit_2 4 rfl rfl)
abbrev cX3_coset : ByteArray := prog_3_method_15_code
def yX3_coset : MethodName := ⟨RX3, "coset", "(II)I"⟩
def dkwX3_coset_2 : List UInt8 := [46, 184, 0, 131, 62, 132, 4, 1, 167, 255, 205, 29, 172]
abbrev dktX3_coset_2 : List UInt8 := dkwX3_coset_2 ++ []
def dkwX3_coset_1 : List UInt8 := [192, 0, 107, 180, 0, 109, 133, 21, 4, 184, 0, 117, 153, 0, 17, 29, 42, 180, 0, 64, 21, 4, 50, 28]
abbrev dktX3_coset_1 : List UInt8 := dkwX3_coset_1 ++ dktX3_coset_2
def dkwX3_coset_0 : List UInt8 := [28, 62, 3, 54, 4, 21, 4, 42, 182, 0, 116, 162, 0, 48, 42, 180, 0, 21, 27, 185, 0, 71, 2, 0]
abbrev dktX3_coset_0 : List UInt8 := dkwX3_coset_0 ++ dktX3_coset_1
theorem dksX3_coset_0 : cX3_coset.data.toList.drop 0 = dktX3_coset_0 := by decide +kernel
theorem dksX3_coset_1 : cX3_coset.data.toList.drop 24 = dktX3_coset_1 := dk_seg dksX3_coset_0 24 rfl rfl
theorem dksX3_coset_2 : cX3_coset.data.toList.drop 48 = dktX3_coset_2 := dk_seg dksX3_coset_1 24 rfl rfl
theorem dX3_coset_0 : decode cX3_coset 0 = .ok (.iload_n 2, 1) := dk_28 (dk_at dksX3_coset_0 0 rfl rfl)
theorem dX3_coset_1 : decode cX3_coset 1 = .ok (.istore_n 3, 1) := dk_62 (dk_at dksX3_coset_0 1 rfl rfl)
theorem dX3_coset_2 : decode cX3_coset 2 = .ok (.iconst 0, 1) := dk_3 (dk_at dksX3_coset_0 2 rfl rfl)
theorem dX3_coset_3 : decode cX3_coset 3 = .ok (.istore 4, 2) := dk_54 4 (dk_at dksX3_coset_0 3 rfl rfl)
theorem dX3_coset_5 : decode cX3_coset 5 = .ok (.iload 4, 2) := dk_21 4 (dk_at dksX3_coset_0 5 rfl rfl)
theorem dX3_coset_7 : decode cX3_coset 7 = .ok (.aload_n 0, 1) := dk_42 (dk_at dksX3_coset_0 7 rfl rfl)
theorem dX3_coset_8 : decode cX3_coset 8 = .ok (.invokevirtual 116, 3) := dk_182 0 116 (dk_at dksX3_coset_0 8 rfl rfl)
theorem dX3_coset_11 : decode cX3_coset 11 = .ok (.if_icmp .ge 48, 3) := dk_162 0 48 (dk_at dksX3_coset_0 11 rfl rfl)
theorem dX3_coset_14 : decode cX3_coset 14 = .ok (.aload_n 0, 1) := dk_42 (dk_at dksX3_coset_0 14 rfl rfl)
theorem dX3_coset_15 : decode cX3_coset 15 = .ok (.getfield 21, 3) := dk_180 0 21 (dk_at dksX3_coset_0 15 rfl rfl)
theorem dX3_coset_18 : decode cX3_coset 18 = .ok (.iload_n 1, 1) := dk_27 (dk_at dksX3_coset_0 18 rfl rfl)
theorem dX3_coset_19 : decode cX3_coset 19 = .ok (.invokeinterface 71 2, 5) := by decide +kernel
theorem dX3_coset_24 : decode cX3_coset 24 = .ok (.checkcast 107, 3) := dk_192 0 107 (dk_at dksX3_coset_1 0 rfl rfl)
theorem dX3_coset_27 : decode cX3_coset 27 = .ok (.getfield 109, 3) := dk_180 0 109 (dk_at dksX3_coset_1 3 rfl rfl)
theorem dX3_coset_30 : decode cX3_coset 30 = .ok (.i2l, 1) := dk_133 (dk_at dksX3_coset_1 6 rfl rfl)
theorem dX3_coset_31 : decode cX3_coset 31 = .ok (.iload 4, 2) := dk_21 4 (dk_at dksX3_coset_1 7 rfl rfl)
theorem dX3_coset_33 : decode cX3_coset 33 = .ok (.invokestatic 117, 3) := dk_184 0 117 (dk_at dksX3_coset_1 9 rfl rfl)
theorem dX3_coset_36 : decode cX3_coset 36 = .ok (.ifCond .eq 17, 3) := dk_153 0 17 (dk_at dksX3_coset_1 12 rfl rfl)
theorem dX3_coset_39 : decode cX3_coset 39 = .ok (.iload_n 3, 1) := dk_29 (dk_at dksX3_coset_1 15 rfl rfl)
theorem dX3_coset_40 : decode cX3_coset 40 = .ok (.aload_n 0, 1) := dk_42 (dk_at dksX3_coset_1 16 rfl rfl)
theorem dX3_coset_41 : decode cX3_coset 41 = .ok (.getfield 64, 3) := dk_180 0 64 (dk_at dksX3_coset_1 17 rfl rfl)
theorem dX3_coset_44 : decode cX3_coset 44 = .ok (.iload 4, 2) := dk_21 4 (dk_at dksX3_coset_1 20 rfl rfl)
theorem dX3_coset_46 : decode cX3_coset 46 = .ok (.aaload, 1) := dk_50 (dk_at dksX3_coset_1 22 rfl rfl)
theorem dX3_coset_47 : decode cX3_coset 47 = .ok (.iload_n 2, 1) := dk_28 (dk_at dksX3_coset_1 23 rfl rfl)
theorem dX3_coset_48 : decode cX3_coset 48 = .ok (.iaload, 1) := dk_46 (dk_at dksX3_coset_2 0 rfl rfl)
theorem dX3_coset_49 : decode cX3_coset 49 = .ok (.invokestatic 131, 3) := dk_184 0 131 (dk_at dksX3_coset_2 1 rfl rfl)
theorem dX3_coset_52 : decode cX3_coset 52 = .ok (.istore_n 3, 1) := dk_62 (dk_at dksX3_coset_2 4 rfl rfl)
theorem dX3_coset_53 : decode cX3_coset 53 = .ok (.iinc 4 1, 3) := dk_132 4 1 (dk_at dksX3_coset_2 5 rfl rfl)
theorem dX3_coset_56 : decode cX3_coset 56 = .ok (.goto (-51), 3) := dk_167 255 205 (dk_at dksX3_coset_2 8 rfl rfl)
theorem dX3_coset_59 : decode cX3_coset 59 = .ok (.iload_n 3, 1) := dk_29 (dk_at dksX3_coset_2 11 rfl rfl)
theorem dX3_coset_60 : decode cX3_coset 60 = .ok (.ireturn, 1) := dk_172 (dk_at dksX3_coset_2 12 rfl rfl)
abbrev cX3_moebius : ByteArray := prog_3_method_16_code
def yX3_moebius : MethodName := ⟨RX3, "moebius", "(I)I"⟩
def dkwX3_moebius_6 : List UInt8 := [167, 255, 132, 44, 27, 46, 172]
abbrev dktX3_moebius_6 : List UInt8 := dkwX3_moebius_6 ++ []
def dkwX3_moebius_5 : List UInt8 := [180, 0, 98, 21, 4, 46, 46, 167, 0, 4, 3, 100, 79, 132, 4, 1, 167, 255, 162, 132, 3, 255]
abbrev dktX3_moebius_5 : List UInt8 := dkwX3_moebius_5 ++ dktX3_moebius_6
def dkwX3_moebius_4 : List UInt8 := [130, 126, 154, 0, 7, 4, 167, 0, 4, 3, 54, 5, 44, 29, 92, 46, 21, 5, 153, 0, 15, 44, 42]
abbrev dktX3_moebius_4 : List UInt8 := dkwX3_moebius_4 ++ dktX3_moebius_5
def dkwX3_moebius_3 : List UInt8 := [192, 0, 107, 180, 0, 109, 42, 180, 0, 18, 21, 4, 185, 0, 71, 2, 0, 192, 0, 76, 182, 0, 92, 2]
abbrev dktX3_moebius_3 : List UInt8 := dkwX3_moebius_3 ++ dktX3_moebius_4
def dkwX3_moebius_2 : List UInt8 := [162, 0, 90, 42, 180, 0, 98, 21, 4, 46, 29, 164, 0, 46, 42, 180, 0, 21, 29, 185, 0, 71, 2, 0]
abbrev dktX3_moebius_2 : List UInt8 := dkwX3_moebius_2 ++ dktX3_moebius_3
def dkwX3_moebius_1 : List UInt8 := [29, 44, 190, 4, 100, 160, 0, 7, 4, 167, 0, 4, 3, 79, 3, 54, 4, 21, 4, 42, 180, 0, 98, 190]
abbrev dktX3_moebius_1 : List UInt8 := dkwX3_moebius_1 ++ dktX3_moebius_2
def dkwX3_moebius_0 : List UInt8 := [42, 180, 0, 21, 185, 0, 58, 1, 0, 188, 10, 77, 44, 190, 4, 100, 62, 29, 27, 161, 0, 125, 44, 29]
abbrev dktX3_moebius_0 : List UInt8 := dkwX3_moebius_0 ++ dktX3_moebius_1
theorem dksX3_moebius_0 : cX3_moebius.data.toList.drop 0 = dktX3_moebius_0 := by decide +kernel
theorem dksX3_moebius_1 : cX3_moebius.data.toList.drop 24 = dktX3_moebius_1 := dk_seg dksX3_moebius_0 24 rfl rfl
theorem dksX3_moebius_2 : cX3_moebius.data.toList.drop 48 = dktX3_moebius_2 := dk_seg dksX3_moebius_1 24 rfl rfl
theorem dksX3_moebius_3 : cX3_moebius.data.toList.drop 72 = dktX3_moebius_3 := dk_seg dksX3_moebius_2 24 rfl rfl
theorem dksX3_moebius_4 : cX3_moebius.data.toList.drop 96 = dktX3_moebius_4 := dk_seg dksX3_moebius_3 24 rfl rfl
theorem dksX3_moebius_5 : cX3_moebius.data.toList.drop 119 = dktX3_moebius_5 := dk_seg dksX3_moebius_4 23 rfl rfl
theorem dksX3_moebius_6 : cX3_moebius.data.toList.drop 141 = dktX3_moebius_6 := dk_seg dksX3_moebius_5 22 rfl rfl
theorem dX3_moebius_0 : decode cX3_moebius 0 = .ok (.aload_n 0, 1) := dk_42 (dk_at dksX3_moebius_0 0 rfl rfl)
theorem dX3_moebius_1 : decode cX3_moebius 1 = .ok (.getfield 21, 3) := dk_180 0 21 (dk_at dksX3_moebius_0 1 rfl rfl)
theorem dX3_moebius_4 : decode cX3_moebius 4 = .ok (.invokeinterface 58 1, 5) := by decide +kernel
theorem dX3_moebius_9 : decode cX3_moebius 9 = .ok (.newarray .int, 2) := dk_188_10 (dk_at dksX3_moebius_0 9 rfl rfl)
theorem dX3_moebius_11 : decode cX3_moebius 11 = .ok (.astore_n 2, 1) := dk_77 (dk_at dksX3_moebius_0 11 rfl rfl)
theorem dX3_moebius_12 : decode cX3_moebius 12 = .ok (.aload_n 2, 1) := dk_44 (dk_at dksX3_moebius_0 12 rfl rfl)
theorem dX3_moebius_13 : decode cX3_moebius 13 = .ok (.arraylength, 1) := dk_190 (dk_at dksX3_moebius_0 13 rfl rfl)
theorem dX3_moebius_14 : decode cX3_moebius 14 = .ok (.iconst 1, 1) := dk_4 (dk_at dksX3_moebius_0 14 rfl rfl)
theorem dX3_moebius_15 : decode cX3_moebius 15 = .ok (.isub, 1) := dk_100 (dk_at dksX3_moebius_0 15 rfl rfl)
theorem dX3_moebius_16 : decode cX3_moebius 16 = .ok (.istore_n 3, 1) := dk_62 (dk_at dksX3_moebius_0 16 rfl rfl)
theorem dX3_moebius_17 : decode cX3_moebius 17 = .ok (.iload_n 3, 1) := dk_29 (dk_at dksX3_moebius_0 17 rfl rfl)
theorem dX3_moebius_18 : decode cX3_moebius 18 = .ok (.iload_n 1, 1) := dk_27 (dk_at dksX3_moebius_0 18 rfl rfl)
theorem dX3_moebius_19 : decode cX3_moebius 19 = .ok (.if_icmp .lt 125, 3) := dk_161 0 125 (dk_at dksX3_moebius_0 19 rfl rfl)
theorem dX3_moebius_22 : decode cX3_moebius 22 = .ok (.aload_n 2, 1) := dk_44 (dk_at dksX3_moebius_0 22 rfl rfl)
theorem dX3_moebius_23 : decode cX3_moebius 23 = .ok (.iload_n 3, 1) := dk_29 (dk_at dksX3_moebius_0 23 rfl rfl)
theorem dX3_moebius_24 : decode cX3_moebius 24 = .ok (.iload_n 3, 1) := dk_29 (dk_at dksX3_moebius_1 0 rfl rfl)
theorem dX3_moebius_25 : decode cX3_moebius 25 = .ok (.aload_n 2, 1) := dk_44 (dk_at dksX3_moebius_1 1 rfl rfl)
theorem dX3_moebius_26 : decode cX3_moebius 26 = .ok (.arraylength, 1) := dk_190 (dk_at dksX3_moebius_1 2 rfl rfl)
theorem dX3_moebius_27 : decode cX3_moebius 27 = .ok (.iconst 1, 1) := dk_4 (dk_at dksX3_moebius_1 3 rfl rfl)
theorem dX3_moebius_28 : decode cX3_moebius 28 = .ok (.isub, 1) := dk_100 (dk_at dksX3_moebius_1 4 rfl rfl)
theorem dX3_moebius_29 : decode cX3_moebius 29 = .ok (.if_icmp .ne 7, 3) := dk_160 0 7 (dk_at dksX3_moebius_1 5 rfl rfl)
theorem dX3_moebius_32 : decode cX3_moebius 32 = .ok (.iconst 1, 1) := dk_4 (dk_at dksX3_moebius_1 8 rfl rfl)
theorem dX3_moebius_33 : decode cX3_moebius 33 = .ok (.goto 4, 3) := dk_167 0 4 (dk_at dksX3_moebius_1 9 rfl rfl)
theorem dX3_moebius_36 : decode cX3_moebius 36 = .ok (.iconst 0, 1) := dk_3 (dk_at dksX3_moebius_1 12 rfl rfl)
theorem dX3_moebius_37 : decode cX3_moebius 37 = .ok (.iastore, 1) := dk_79 (dk_at dksX3_moebius_1 13 rfl rfl)
theorem dX3_moebius_38 : decode cX3_moebius 38 = .ok (.iconst 0, 1) := dk_3 (dk_at dksX3_moebius_1 14 rfl rfl)
theorem dX3_moebius_39 : decode cX3_moebius 39 = .ok (.istore 4, 2) := dk_54 4 (dk_at dksX3_moebius_1 15 rfl rfl)
theorem dX3_moebius_41 : decode cX3_moebius 41 = .ok (.iload 4, 2) := dk_21 4 (dk_at dksX3_moebius_1 17 rfl rfl)
theorem dX3_moebius_43 : decode cX3_moebius 43 = .ok (.aload_n 0, 1) := dk_42 (dk_at dksX3_moebius_1 19 rfl rfl)
theorem dX3_moebius_44 : decode cX3_moebius 44 = .ok (.getfield 98, 3) := dk_180 0 98 (dk_at dksX3_moebius_1 20 rfl rfl)
theorem dX3_moebius_47 : decode cX3_moebius 47 = .ok (.arraylength, 1) := dk_190 (dk_at dksX3_moebius_1 23 rfl rfl)
theorem dX3_moebius_48 : decode cX3_moebius 48 = .ok (.if_icmp .ge 90, 3) := dk_162 0 90 (dk_at dksX3_moebius_2 0 rfl rfl)
theorem dX3_moebius_51 : decode cX3_moebius 51 = .ok (.aload_n 0, 1) := dk_42 (dk_at dksX3_moebius_2 3 rfl rfl)
theorem dX3_moebius_52 : decode cX3_moebius 52 = .ok (.getfield 98, 3) := dk_180 0 98 (dk_at dksX3_moebius_2 4 rfl rfl)
theorem dX3_moebius_55 : decode cX3_moebius 55 = .ok (.iload 4, 2) := dk_21 4 (dk_at dksX3_moebius_2 7 rfl rfl)
theorem dX3_moebius_57 : decode cX3_moebius 57 = .ok (.iaload, 1) := dk_46 (dk_at dksX3_moebius_2 9 rfl rfl)
theorem dX3_moebius_58 : decode cX3_moebius 58 = .ok (.iload_n 3, 1) := dk_29 (dk_at dksX3_moebius_2 10 rfl rfl)
theorem dX3_moebius_59 : decode cX3_moebius 59 = .ok (.if_icmp .le 46, 3) := dk_164 0 46 (dk_at dksX3_moebius_2 11 rfl rfl)
theorem dX3_moebius_62 : decode cX3_moebius 62 = .ok (.aload_n 0, 1) := dk_42 (dk_at dksX3_moebius_2 14 rfl rfl)
theorem dX3_moebius_63 : decode cX3_moebius 63 = .ok (.getfield 21, 3) := dk_180 0 21 (dk_at dksX3_moebius_2 15 rfl rfl)
theorem dX3_moebius_66 : decode cX3_moebius 66 = .ok (.iload_n 3, 1) := dk_29 (dk_at dksX3_moebius_2 18 rfl rfl)
theorem dX3_moebius_67 : decode cX3_moebius 67 = .ok (.invokeinterface 71 2, 5) := by decide +kernel
theorem dX3_moebius_72 : decode cX3_moebius 72 = .ok (.checkcast 107, 3) := dk_192 0 107 (dk_at dksX3_moebius_3 0 rfl rfl)
theorem dX3_moebius_75 : decode cX3_moebius 75 = .ok (.getfield 109, 3) := dk_180 0 109 (dk_at dksX3_moebius_3 3 rfl rfl)
theorem dX3_moebius_78 : decode cX3_moebius 78 = .ok (.aload_n 0, 1) := dk_42 (dk_at dksX3_moebius_3 6 rfl rfl)
theorem dX3_moebius_79 : decode cX3_moebius 79 = .ok (.getfield 18, 3) := dk_180 0 18 (dk_at dksX3_moebius_3 7 rfl rfl)
theorem dX3_moebius_82 : decode cX3_moebius 82 = .ok (.iload 4, 2) := dk_21 4 (dk_at dksX3_moebius_3 10 rfl rfl)
theorem dX3_moebius_84 : decode cX3_moebius 84 = .ok (.invokeinterface 71 2, 5) := by decide +kernel
theorem dX3_moebius_89 : decode cX3_moebius 89 = .ok (.checkcast 76, 3) := dk_192 0 76 (dk_at dksX3_moebius_3 17 rfl rfl)
theorem dX3_moebius_92 : decode cX3_moebius 92 = .ok (.invokevirtual 92, 3) := dk_182 0 92 (dk_at dksX3_moebius_3 20 rfl rfl)
theorem dX3_moebius_95 : decode cX3_moebius 95 = .ok (.iconst (-1), 1) := dk_2 (dk_at dksX3_moebius_3 23 rfl rfl)
theorem dX3_moebius_96 : decode cX3_moebius 96 = .ok (.ixor, 1) := dk_130 (dk_at dksX3_moebius_4 0 rfl rfl)
theorem dX3_moebius_97 : decode cX3_moebius 97 = .ok (.iand, 1) := dk_126 (dk_at dksX3_moebius_4 1 rfl rfl)
theorem dX3_moebius_98 : decode cX3_moebius 98 = .ok (.ifCond .ne 7, 3) := dk_154 0 7 (dk_at dksX3_moebius_4 2 rfl rfl)
theorem dX3_moebius_101 : decode cX3_moebius 101 = .ok (.iconst 1, 1) := dk_4 (dk_at dksX3_moebius_4 5 rfl rfl)
theorem dX3_moebius_102 : decode cX3_moebius 102 = .ok (.goto 4, 3) := dk_167 0 4 (dk_at dksX3_moebius_4 6 rfl rfl)
theorem dX3_moebius_105 : decode cX3_moebius 105 = .ok (.iconst 0, 1) := dk_3 (dk_at dksX3_moebius_4 9 rfl rfl)
theorem dX3_moebius_106 : decode cX3_moebius 106 = .ok (.istore 5, 2) := dk_54 5 (dk_at dksX3_moebius_4 10 rfl rfl)
theorem dX3_moebius_108 : decode cX3_moebius 108 = .ok (.aload_n 2, 1) := dk_44 (dk_at dksX3_moebius_4 12 rfl rfl)
theorem dX3_moebius_109 : decode cX3_moebius 109 = .ok (.iload_n 3, 1) := dk_29 (dk_at dksX3_moebius_4 13 rfl rfl)
theorem dX3_moebius_110 : decode cX3_moebius 110 = .ok (.dup2, 1) := dk_92 (dk_at dksX3_moebius_4 14 rfl rfl)
theorem dX3_moebius_111 : decode cX3_moebius 111 = .ok (.iaload, 1) := dk_46 (dk_at dksX3_moebius_4 15 rfl rfl)
theorem dX3_moebius_112 : decode cX3_moebius 112 = .ok (.iload 5, 2) := dk_21 5 (dk_at dksX3_moebius_4 16 rfl rfl)
theorem dX3_moebius_114 : decode cX3_moebius 114 = .ok (.ifCond .eq 15, 3) := dk_153 0 15 (dk_at dksX3_moebius_4 18 rfl rfl)
theorem dX3_moebius_117 : decode cX3_moebius 117 = .ok (.aload_n 2, 1) := dk_44 (dk_at dksX3_moebius_4 21 rfl rfl)
theorem dX3_moebius_118 : decode cX3_moebius 118 = .ok (.aload_n 0, 1) := dk_42 (dk_at dksX3_moebius_4 22 rfl rfl)
theorem dX3_moebius_119 : decode cX3_moebius 119 = .ok (.getfield 98, 3) := dk_180 0 98 (dk_at dksX3_moebius_5 0 rfl rfl)
theorem dX3_moebius_122 : decode cX3_moebius 122 = .ok (.iload 4, 2) := dk_21 4 (dk_at dksX3_moebius_5 3 rfl rfl)
theorem dX3_moebius_124 : decode cX3_moebius 124 = .ok (.iaload, 1) := dk_46 (dk_at dksX3_moebius_5 5 rfl rfl)
theorem dX3_moebius_125 : decode cX3_moebius 125 = .ok (.iaload, 1) := dk_46 (dk_at dksX3_moebius_5 6 rfl rfl)
theorem dX3_moebius_126 : decode cX3_moebius 126 = .ok (.goto 4, 3) := dk_167 0 4 (dk_at dksX3_moebius_5 7 rfl rfl)
theorem dX3_moebius_129 : decode cX3_moebius 129 = .ok (.iconst 0, 1) := dk_3 (dk_at dksX3_moebius_5 10 rfl rfl)
theorem dX3_moebius_130 : decode cX3_moebius 130 = .ok (.isub, 1) := dk_100 (dk_at dksX3_moebius_5 11 rfl rfl)
theorem dX3_moebius_131 : decode cX3_moebius 131 = .ok (.iastore, 1) := dk_79 (dk_at dksX3_moebius_5 12 rfl rfl)
theorem dX3_moebius_132 : decode cX3_moebius 132 = .ok (.iinc 4 1, 3) := dk_132 4 1 (dk_at dksX3_moebius_5 13 rfl rfl)
theorem dX3_moebius_135 : decode cX3_moebius 135 = .ok (.goto (-94), 3) := dk_167 255 162 (dk_at dksX3_moebius_5 16 rfl rfl)
theorem dX3_moebius_138 : decode cX3_moebius 138 = .ok (.iinc 3 (-1), 3) := dk_132 3 255 (dk_at dksX3_moebius_5 19 rfl rfl)
theorem dX3_moebius_141 : decode cX3_moebius 141 = .ok (.goto (-124), 3) := dk_167 255 132 (dk_at dksX3_moebius_6 0 rfl rfl)
theorem dX3_moebius_144 : decode cX3_moebius 144 = .ok (.aload_n 2, 1) := dk_44 (dk_at dksX3_moebius_6 3 rfl rfl)
theorem dX3_moebius_145 : decode cX3_moebius 145 = .ok (.iload_n 1, 1) := dk_27 (dk_at dksX3_moebius_6 4 rfl rfl)
theorem dX3_moebius_146 : decode cX3_moebius 146 = .ok (.iaload, 1) := dk_46 (dk_at dksX3_moebius_6 5 rfl rfl)
theorem dX3_moebius_147 : decode cX3_moebius 147 = .ok (.ireturn, 1) := dk_172 (dk_at dksX3_moebius_6 6 rfl rfl)
abbrev cX3_mixed : ByteArray := prog_3_method_17_code
def yX3_mixed : MethodName := ⟨RX3, "mixed", "(I)I"⟩
def dkwX3_mixed_4 : List UInt8 := [132, 3, 1, 167, 255, 165, 42, 28, 182, 0, 121, 172]
abbrev dktX3_mixed_4 : List UInt8 := dkwX3_mixed_4 ++ []
def dkwX3_mixed_3 : List UInt8 := [180, 0, 64, 29, 50, 21, 4, 46, 46, 120, 167, 0, 4, 3, 128, 61, 132, 4, 1, 167, 255, 182]
abbrev dktX3_mixed_3 : List UInt8 := dkwX3_mixed_3 ++ dktX3_mixed_4
def dkwX3_mixed_2 : List UInt8 := [180, 0, 64, 42, 180, 0, 64, 42, 180, 0, 67, 29, 46, 50, 42, 180, 0, 67, 21, 4, 46, 46, 50, 42]
abbrev dktX3_mixed_2 : List UInt8 := dkwX3_mixed_2 ++ dktX3_mixed_3
def dkwX3_mixed_1 : List UInt8 := [28, 27, 133, 29, 184, 0, 117, 153, 0, 52, 27, 133, 21, 4, 184, 0, 117, 153, 0, 42, 4, 42]
abbrev dktX3_mixed_1 : List UInt8 := dkwX3_mixed_1 ++ dktX3_mixed_2
def dkwX3_mixed_0 : List UInt8 := [4, 61, 3, 62, 29, 42, 182, 0, 116, 162, 0, 89, 3, 54, 4, 21, 4, 42, 182, 0, 116, 162, 0, 71]
abbrev dktX3_mixed_0 : List UInt8 := dkwX3_mixed_0 ++ dktX3_mixed_1
theorem dksX3_mixed_0 : cX3_mixed.data.toList.drop 0 = dktX3_mixed_0 := by decide +kernel
theorem dksX3_mixed_1 : cX3_mixed.data.toList.drop 24 = dktX3_mixed_1 := dk_seg dksX3_mixed_0 24 rfl rfl
theorem dksX3_mixed_2 : cX3_mixed.data.toList.drop 46 = dktX3_mixed_2 := dk_seg dksX3_mixed_1 22 rfl rfl
theorem dksX3_mixed_3 : cX3_mixed.data.toList.drop 70 = dktX3_mixed_3 := dk_seg dksX3_mixed_2 24 rfl rfl
theorem dksX3_mixed_4 : cX3_mixed.data.toList.drop 92 = dktX3_mixed_4 := dk_seg dksX3_mixed_3 22 rfl rfl
theorem dX3_mixed_0 : decode cX3_mixed 0 = .ok (.iconst 1, 1) := dk_4 (dk_at dksX3_mixed_0 0 rfl rfl)
theorem dX3_mixed_1 : decode cX3_mixed 1 = .ok (.istore_n 2, 1) := dk_61 (dk_at dksX3_mixed_0 1 rfl rfl)
theorem dX3_mixed_2 : decode cX3_mixed 2 = .ok (.iconst 0, 1) := dk_3 (dk_at dksX3_mixed_0 2 rfl rfl)
theorem dX3_mixed_3 : decode cX3_mixed 3 = .ok (.istore_n 3, 1) := dk_62 (dk_at dksX3_mixed_0 3 rfl rfl)
theorem dX3_mixed_4 : decode cX3_mixed 4 = .ok (.iload_n 3, 1) := dk_29 (dk_at dksX3_mixed_0 4 rfl rfl)
theorem dX3_mixed_5 : decode cX3_mixed 5 = .ok (.aload_n 0, 1) := dk_42 (dk_at dksX3_mixed_0 5 rfl rfl)
theorem dX3_mixed_6 : decode cX3_mixed 6 = .ok (.invokevirtual 116, 3) := dk_182 0 116 (dk_at dksX3_mixed_0 6 rfl rfl)
theorem dX3_mixed_9 : decode cX3_mixed 9 = .ok (.if_icmp .ge 89, 3) := dk_162 0 89 (dk_at dksX3_mixed_0 9 rfl rfl)
theorem dX3_mixed_12 : decode cX3_mixed 12 = .ok (.iconst 0, 1) := dk_3 (dk_at dksX3_mixed_0 12 rfl rfl)
theorem dX3_mixed_13 : decode cX3_mixed 13 = .ok (.istore 4, 2) := dk_54 4 (dk_at dksX3_mixed_0 13 rfl rfl)
theorem dX3_mixed_15 : decode cX3_mixed 15 = .ok (.iload 4, 2) := dk_21 4 (dk_at dksX3_mixed_0 15 rfl rfl)
theorem dX3_mixed_17 : decode cX3_mixed 17 = .ok (.aload_n 0, 1) := dk_42 (dk_at dksX3_mixed_0 17 rfl rfl)
theorem dX3_mixed_18 : decode cX3_mixed 18 = .ok (.invokevirtual 116, 3) := dk_182 0 116 (dk_at dksX3_mixed_0 18 rfl rfl)
theorem dX3_mixed_21 : decode cX3_mixed 21 = .ok (.if_icmp .ge 71, 3) := dk_162 0 71 (dk_at dksX3_mixed_0 21 rfl rfl)
theorem dX3_mixed_24 : decode cX3_mixed 24 = .ok (.iload_n 2, 1) := dk_28 (dk_at dksX3_mixed_1 0 rfl rfl)
theorem dX3_mixed_25 : decode cX3_mixed 25 = .ok (.iload_n 1, 1) := dk_27 (dk_at dksX3_mixed_1 1 rfl rfl)
theorem dX3_mixed_26 : decode cX3_mixed 26 = .ok (.i2l, 1) := dk_133 (dk_at dksX3_mixed_1 2 rfl rfl)
theorem dX3_mixed_27 : decode cX3_mixed 27 = .ok (.iload_n 3, 1) := dk_29 (dk_at dksX3_mixed_1 3 rfl rfl)
theorem dX3_mixed_28 : decode cX3_mixed 28 = .ok (.invokestatic 117, 3) := dk_184 0 117 (dk_at dksX3_mixed_1 4 rfl rfl)
theorem dX3_mixed_31 : decode cX3_mixed 31 = .ok (.ifCond .eq 52, 3) := dk_153 0 52 (dk_at dksX3_mixed_1 7 rfl rfl)
theorem dX3_mixed_34 : decode cX3_mixed 34 = .ok (.iload_n 1, 1) := dk_27 (dk_at dksX3_mixed_1 10 rfl rfl)
theorem dX3_mixed_35 : decode cX3_mixed 35 = .ok (.i2l, 1) := dk_133 (dk_at dksX3_mixed_1 11 rfl rfl)
theorem dX3_mixed_36 : decode cX3_mixed 36 = .ok (.iload 4, 2) := dk_21 4 (dk_at dksX3_mixed_1 12 rfl rfl)
theorem dX3_mixed_38 : decode cX3_mixed 38 = .ok (.invokestatic 117, 3) := dk_184 0 117 (dk_at dksX3_mixed_1 14 rfl rfl)
theorem dX3_mixed_41 : decode cX3_mixed 41 = .ok (.ifCond .eq 42, 3) := dk_153 0 42 (dk_at dksX3_mixed_1 17 rfl rfl)
theorem dX3_mixed_44 : decode cX3_mixed 44 = .ok (.iconst 1, 1) := dk_4 (dk_at dksX3_mixed_1 20 rfl rfl)
theorem dX3_mixed_45 : decode cX3_mixed 45 = .ok (.aload_n 0, 1) := dk_42 (dk_at dksX3_mixed_1 21 rfl rfl)
theorem dX3_mixed_46 : decode cX3_mixed 46 = .ok (.getfield 64, 3) := dk_180 0 64 (dk_at dksX3_mixed_2 0 rfl rfl)
theorem dX3_mixed_49 : decode cX3_mixed 49 = .ok (.aload_n 0, 1) := dk_42 (dk_at dksX3_mixed_2 3 rfl rfl)
theorem dX3_mixed_50 : decode cX3_mixed 50 = .ok (.getfield 64, 3) := dk_180 0 64 (dk_at dksX3_mixed_2 4 rfl rfl)
theorem dX3_mixed_53 : decode cX3_mixed 53 = .ok (.aload_n 0, 1) := dk_42 (dk_at dksX3_mixed_2 7 rfl rfl)
theorem dX3_mixed_54 : decode cX3_mixed 54 = .ok (.getfield 67, 3) := dk_180 0 67 (dk_at dksX3_mixed_2 8 rfl rfl)
theorem dX3_mixed_57 : decode cX3_mixed 57 = .ok (.iload_n 3, 1) := dk_29 (dk_at dksX3_mixed_2 11 rfl rfl)
theorem dX3_mixed_58 : decode cX3_mixed 58 = .ok (.iaload, 1) := dk_46 (dk_at dksX3_mixed_2 12 rfl rfl)
theorem dX3_mixed_59 : decode cX3_mixed 59 = .ok (.aaload, 1) := dk_50 (dk_at dksX3_mixed_2 13 rfl rfl)
theorem dX3_mixed_60 : decode cX3_mixed 60 = .ok (.aload_n 0, 1) := dk_42 (dk_at dksX3_mixed_2 14 rfl rfl)
theorem dX3_mixed_61 : decode cX3_mixed 61 = .ok (.getfield 67, 3) := dk_180 0 67 (dk_at dksX3_mixed_2 15 rfl rfl)
theorem dX3_mixed_64 : decode cX3_mixed 64 = .ok (.iload 4, 2) := dk_21 4 (dk_at dksX3_mixed_2 18 rfl rfl)
theorem dX3_mixed_66 : decode cX3_mixed 66 = .ok (.iaload, 1) := dk_46 (dk_at dksX3_mixed_2 20 rfl rfl)
theorem dX3_mixed_67 : decode cX3_mixed 67 = .ok (.iaload, 1) := dk_46 (dk_at dksX3_mixed_2 21 rfl rfl)
theorem dX3_mixed_68 : decode cX3_mixed 68 = .ok (.aaload, 1) := dk_50 (dk_at dksX3_mixed_2 22 rfl rfl)
theorem dX3_mixed_69 : decode cX3_mixed 69 = .ok (.aload_n 0, 1) := dk_42 (dk_at dksX3_mixed_2 23 rfl rfl)
theorem dX3_mixed_70 : decode cX3_mixed 70 = .ok (.getfield 64, 3) := dk_180 0 64 (dk_at dksX3_mixed_3 0 rfl rfl)
theorem dX3_mixed_73 : decode cX3_mixed 73 = .ok (.iload_n 3, 1) := dk_29 (dk_at dksX3_mixed_3 3 rfl rfl)
theorem dX3_mixed_74 : decode cX3_mixed 74 = .ok (.aaload, 1) := dk_50 (dk_at dksX3_mixed_3 4 rfl rfl)
theorem dX3_mixed_75 : decode cX3_mixed 75 = .ok (.iload 4, 2) := dk_21 4 (dk_at dksX3_mixed_3 5 rfl rfl)
theorem dX3_mixed_77 : decode cX3_mixed 77 = .ok (.iaload, 1) := dk_46 (dk_at dksX3_mixed_3 7 rfl rfl)
theorem dX3_mixed_78 : decode cX3_mixed 78 = .ok (.iaload, 1) := dk_46 (dk_at dksX3_mixed_3 8 rfl rfl)
theorem dX3_mixed_79 : decode cX3_mixed 79 = .ok (.ishl, 1) := dk_120 (dk_at dksX3_mixed_3 9 rfl rfl)
theorem dX3_mixed_80 : decode cX3_mixed 80 = .ok (.goto 4, 3) := dk_167 0 4 (dk_at dksX3_mixed_3 10 rfl rfl)
theorem dX3_mixed_83 : decode cX3_mixed 83 = .ok (.iconst 0, 1) := dk_3 (dk_at dksX3_mixed_3 13 rfl rfl)
theorem dX3_mixed_84 : decode cX3_mixed 84 = .ok (.ior, 1) := dk_128 (dk_at dksX3_mixed_3 14 rfl rfl)
theorem dX3_mixed_85 : decode cX3_mixed 85 = .ok (.istore_n 2, 1) := dk_61 (dk_at dksX3_mixed_3 15 rfl rfl)
theorem dX3_mixed_86 : decode cX3_mixed 86 = .ok (.iinc 4 1, 3) := dk_132 4 1 (dk_at dksX3_mixed_3 16 rfl rfl)
theorem dX3_mixed_89 : decode cX3_mixed 89 = .ok (.goto (-74), 3) := dk_167 255 182 (dk_at dksX3_mixed_3 19 rfl rfl)
theorem dX3_mixed_92 : decode cX3_mixed 92 = .ok (.iinc 3 1, 3) := dk_132 3 1 (dk_at dksX3_mixed_4 0 rfl rfl)
theorem dX3_mixed_95 : decode cX3_mixed 95 = .ok (.goto (-91), 3) := dk_167 255 165 (dk_at dksX3_mixed_4 3 rfl rfl)
theorem dX3_mixed_98 : decode cX3_mixed 98 = .ok (.aload_n 0, 1) := dk_42 (dk_at dksX3_mixed_4 6 rfl rfl)
theorem dX3_mixed_99 : decode cX3_mixed 99 = .ok (.iload_n 2, 1) := dk_28 (dk_at dksX3_mixed_4 7 rfl rfl)
theorem dX3_mixed_100 : decode cX3_mixed 100 = .ok (.invokevirtual 121, 3) := dk_182 0 121 (dk_at dksX3_mixed_4 8 rfl rfl)
theorem dX3_mixed_103 : decode cX3_mixed 103 = .ok (.ireturn, 1) := dk_172 (dk_at dksX3_mixed_4 11 rfl rfl)
abbrev cX3_centre : ByteArray := prog_3_method_18_code
def yX3_centre : MethodName := ⟨RX3, "centre", "(I)I"⟩
def dkwX3_centre_4 : List UInt8 := [3, 128, 61, 132, 3, 1, 167, 255, 161, 28, 172]
abbrev dktX3_centre_4 : List UInt8 := dkwX3_centre_4 ++ []
def dkwX3_centre_3 : List UInt8 := [167, 0, 4, 3, 54, 4, 132, 5, 1, 167, 255, 201, 28, 21, 4, 153, 0, 9, 4, 29, 120, 167, 0, 4]
abbrev dktX3_centre_3 : List UInt8 := dkwX3_centre_3 ++ dktX3_centre_4
def dkwX3_centre_2 : List UInt8 := [42, 180, 0, 64, 29, 50, 21, 5, 46, 42, 180, 0, 64, 21, 5, 50, 29, 46, 160, 0, 7, 4]
abbrev dktX3_centre_2 : List UInt8 := dkwX3_centre_2 ++ dktX3_centre_3
def dkwX3_centre_1 : List UInt8 := [21, 5, 42, 182, 0, 116, 162, 0, 52, 21, 4, 153, 0, 47, 27, 133, 21, 5, 184, 0, 117, 153, 0, 24]
abbrev dktX3_centre_1 : List UInt8 := dkwX3_centre_1 ++ dktX3_centre_2
def dkwX3_centre_0 : List UInt8 := [3, 61, 3, 62, 29, 42, 182, 0, 116, 162, 0, 93, 27, 133, 29, 184, 0, 117, 54, 4, 3, 54, 5]
abbrev dktX3_centre_0 : List UInt8 := dkwX3_centre_0 ++ dktX3_centre_1
theorem dksX3_centre_0 : cX3_centre.data.toList.drop 0 = dktX3_centre_0 := by decide +kernel
theorem dksX3_centre_1 : cX3_centre.data.toList.drop 23 = dktX3_centre_1 := dk_seg dksX3_centre_0 23 rfl rfl
theorem dksX3_centre_2 : cX3_centre.data.toList.drop 47 = dktX3_centre_2 := dk_seg dksX3_centre_1 24 rfl rfl
theorem dksX3_centre_3 : cX3_centre.data.toList.drop 69 = dktX3_centre_3 := dk_seg dksX3_centre_2 22 rfl rfl
theorem dksX3_centre_4 : cX3_centre.data.toList.drop 93 = dktX3_centre_4 := dk_seg dksX3_centre_3 24 rfl rfl
theorem dX3_centre_0 : decode cX3_centre 0 = .ok (.iconst 0, 1) := dk_3 (dk_at dksX3_centre_0 0 rfl rfl)
theorem dX3_centre_1 : decode cX3_centre 1 = .ok (.istore_n 2, 1) := dk_61 (dk_at dksX3_centre_0 1 rfl rfl)
theorem dX3_centre_2 : decode cX3_centre 2 = .ok (.iconst 0, 1) := dk_3 (dk_at dksX3_centre_0 2 rfl rfl)
theorem dX3_centre_3 : decode cX3_centre 3 = .ok (.istore_n 3, 1) := dk_62 (dk_at dksX3_centre_0 3 rfl rfl)
theorem dX3_centre_4 : decode cX3_centre 4 = .ok (.iload_n 3, 1) := dk_29 (dk_at dksX3_centre_0 4 rfl rfl)
theorem dX3_centre_5 : decode cX3_centre 5 = .ok (.aload_n 0, 1) := dk_42 (dk_at dksX3_centre_0 5 rfl rfl)
theorem dX3_centre_6 : decode cX3_centre 6 = .ok (.invokevirtual 116, 3) := dk_182 0 116 (dk_at dksX3_centre_0 6 rfl rfl)
theorem dX3_centre_9 : decode cX3_centre 9 = .ok (.if_icmp .ge 93, 3) := dk_162 0 93 (dk_at dksX3_centre_0 9 rfl rfl)
theorem dX3_centre_12 : decode cX3_centre 12 = .ok (.iload_n 1, 1) := dk_27 (dk_at dksX3_centre_0 12 rfl rfl)
theorem dX3_centre_13 : decode cX3_centre 13 = .ok (.i2l, 1) := dk_133 (dk_at dksX3_centre_0 13 rfl rfl)
theorem dX3_centre_14 : decode cX3_centre 14 = .ok (.iload_n 3, 1) := dk_29 (dk_at dksX3_centre_0 14 rfl rfl)
theorem dX3_centre_15 : decode cX3_centre 15 = .ok (.invokestatic 117, 3) := dk_184 0 117 (dk_at dksX3_centre_0 15 rfl rfl)
theorem dX3_centre_18 : decode cX3_centre 18 = .ok (.istore 4, 2) := dk_54 4 (dk_at dksX3_centre_0 18 rfl rfl)
theorem dX3_centre_20 : decode cX3_centre 20 = .ok (.iconst 0, 1) := dk_3 (dk_at dksX3_centre_0 20 rfl rfl)
theorem dX3_centre_21 : decode cX3_centre 21 = .ok (.istore 5, 2) := dk_54 5 (dk_at dksX3_centre_0 21 rfl rfl)
theorem dX3_centre_23 : decode cX3_centre 23 = .ok (.iload 5, 2) := dk_21 5 (dk_at dksX3_centre_1 0 rfl rfl)
theorem dX3_centre_25 : decode cX3_centre 25 = .ok (.aload_n 0, 1) := dk_42 (dk_at dksX3_centre_1 2 rfl rfl)
theorem dX3_centre_26 : decode cX3_centre 26 = .ok (.invokevirtual 116, 3) := dk_182 0 116 (dk_at dksX3_centre_1 3 rfl rfl)
theorem dX3_centre_29 : decode cX3_centre 29 = .ok (.if_icmp .ge 52, 3) := dk_162 0 52 (dk_at dksX3_centre_1 6 rfl rfl)
theorem dX3_centre_32 : decode cX3_centre 32 = .ok (.iload 4, 2) := dk_21 4 (dk_at dksX3_centre_1 9 rfl rfl)
theorem dX3_centre_34 : decode cX3_centre 34 = .ok (.ifCond .eq 47, 3) := dk_153 0 47 (dk_at dksX3_centre_1 11 rfl rfl)
theorem dX3_centre_37 : decode cX3_centre 37 = .ok (.iload_n 1, 1) := dk_27 (dk_at dksX3_centre_1 14 rfl rfl)
theorem dX3_centre_38 : decode cX3_centre 38 = .ok (.i2l, 1) := dk_133 (dk_at dksX3_centre_1 15 rfl rfl)
theorem dX3_centre_39 : decode cX3_centre 39 = .ok (.iload 5, 2) := dk_21 5 (dk_at dksX3_centre_1 16 rfl rfl)
theorem dX3_centre_41 : decode cX3_centre 41 = .ok (.invokestatic 117, 3) := dk_184 0 117 (dk_at dksX3_centre_1 18 rfl rfl)
theorem dX3_centre_44 : decode cX3_centre 44 = .ok (.ifCond .eq 24, 3) := dk_153 0 24 (dk_at dksX3_centre_1 21 rfl rfl)
theorem dX3_centre_47 : decode cX3_centre 47 = .ok (.aload_n 0, 1) := dk_42 (dk_at dksX3_centre_2 0 rfl rfl)
theorem dX3_centre_48 : decode cX3_centre 48 = .ok (.getfield 64, 3) := dk_180 0 64 (dk_at dksX3_centre_2 1 rfl rfl)
theorem dX3_centre_51 : decode cX3_centre 51 = .ok (.iload_n 3, 1) := dk_29 (dk_at dksX3_centre_2 4 rfl rfl)
theorem dX3_centre_52 : decode cX3_centre 52 = .ok (.aaload, 1) := dk_50 (dk_at dksX3_centre_2 5 rfl rfl)
theorem dX3_centre_53 : decode cX3_centre 53 = .ok (.iload 5, 2) := dk_21 5 (dk_at dksX3_centre_2 6 rfl rfl)
theorem dX3_centre_55 : decode cX3_centre 55 = .ok (.iaload, 1) := dk_46 (dk_at dksX3_centre_2 8 rfl rfl)
theorem dX3_centre_56 : decode cX3_centre 56 = .ok (.aload_n 0, 1) := dk_42 (dk_at dksX3_centre_2 9 rfl rfl)
theorem dX3_centre_57 : decode cX3_centre 57 = .ok (.getfield 64, 3) := dk_180 0 64 (dk_at dksX3_centre_2 10 rfl rfl)
theorem dX3_centre_60 : decode cX3_centre 60 = .ok (.iload 5, 2) := dk_21 5 (dk_at dksX3_centre_2 13 rfl rfl)
theorem dX3_centre_62 : decode cX3_centre 62 = .ok (.aaload, 1) := dk_50 (dk_at dksX3_centre_2 15 rfl rfl)
theorem dX3_centre_63 : decode cX3_centre 63 = .ok (.iload_n 3, 1) := dk_29 (dk_at dksX3_centre_2 16 rfl rfl)
theorem dX3_centre_64 : decode cX3_centre 64 = .ok (.iaload, 1) := dk_46 (dk_at dksX3_centre_2 17 rfl rfl)
theorem dX3_centre_65 : decode cX3_centre 65 = .ok (.if_icmp .ne 7, 3) := dk_160 0 7 (dk_at dksX3_centre_2 18 rfl rfl)
theorem dX3_centre_68 : decode cX3_centre 68 = .ok (.iconst 1, 1) := dk_4 (dk_at dksX3_centre_2 21 rfl rfl)
theorem dX3_centre_69 : decode cX3_centre 69 = .ok (.goto 4, 3) := dk_167 0 4 (dk_at dksX3_centre_3 0 rfl rfl)
theorem dX3_centre_72 : decode cX3_centre 72 = .ok (.iconst 0, 1) := dk_3 (dk_at dksX3_centre_3 3 rfl rfl)
theorem dX3_centre_73 : decode cX3_centre 73 = .ok (.istore 4, 2) := dk_54 4 (dk_at dksX3_centre_3 4 rfl rfl)
theorem dX3_centre_75 : decode cX3_centre 75 = .ok (.iinc 5 1, 3) := dk_132 5 1 (dk_at dksX3_centre_3 6 rfl rfl)
theorem dX3_centre_78 : decode cX3_centre 78 = .ok (.goto (-55), 3) := dk_167 255 201 (dk_at dksX3_centre_3 9 rfl rfl)
theorem dX3_centre_81 : decode cX3_centre 81 = .ok (.iload_n 2, 1) := dk_28 (dk_at dksX3_centre_3 12 rfl rfl)
theorem dX3_centre_82 : decode cX3_centre 82 = .ok (.iload 4, 2) := dk_21 4 (dk_at dksX3_centre_3 13 rfl rfl)
theorem dX3_centre_84 : decode cX3_centre 84 = .ok (.ifCond .eq 9, 3) := dk_153 0 9 (dk_at dksX3_centre_3 15 rfl rfl)
theorem dX3_centre_87 : decode cX3_centre 87 = .ok (.iconst 1, 1) := dk_4 (dk_at dksX3_centre_3 18 rfl rfl)
theorem dX3_centre_88 : decode cX3_centre 88 = .ok (.iload_n 3, 1) := dk_29 (dk_at dksX3_centre_3 19 rfl rfl)
theorem dX3_centre_89 : decode cX3_centre 89 = .ok (.ishl, 1) := dk_120 (dk_at dksX3_centre_3 20 rfl rfl)
theorem dX3_centre_90 : decode cX3_centre 90 = .ok (.goto 4, 3) := dk_167 0 4 (dk_at dksX3_centre_3 21 rfl rfl)
theorem dX3_centre_93 : decode cX3_centre 93 = .ok (.iconst 0, 1) := dk_3 (dk_at dksX3_centre_4 0 rfl rfl)
theorem dX3_centre_94 : decode cX3_centre 94 = .ok (.ior, 1) := dk_128 (dk_at dksX3_centre_4 1 rfl rfl)
theorem dX3_centre_95 : decode cX3_centre 95 = .ok (.istore_n 2, 1) := dk_61 (dk_at dksX3_centre_4 2 rfl rfl)
theorem dX3_centre_96 : decode cX3_centre 96 = .ok (.iinc 3 1, 3) := dk_132 3 1 (dk_at dksX3_centre_4 3 rfl rfl)
theorem dX3_centre_99 : decode cX3_centre 99 = .ok (.goto (-95), 3) := dk_167 255 161 (dk_at dksX3_centre_4 6 rfl rfl)
theorem dX3_centre_102 : decode cX3_centre 102 = .ok (.iload_n 2, 1) := dk_28 (dk_at dksX3_centre_4 9 rfl rfl)
theorem dX3_centre_103 : decode cX3_centre 103 = .ok (.ireturn, 1) := dk_172 (dk_at dksX3_centre_4 10 rfl rfl)
abbrev cX3_likes : ByteArray := prog_3_method_19_code
def yX3_likes : MethodName := ⟨RX3, "likes", "(I)I"⟩
def dkwX3_likes_1 : List UInt8 := [132, 3, 1, 167, 255, 234, 28, 184, 0, 170, 172]
abbrev dktX3_likes_1 : List UInt8 := dkwX3_likes_1 ++ []
def dkwX3_likes_0 : List UInt8 := [3, 61, 3, 62, 29, 42, 182, 0, 116, 162, 0, 20, 28, 42, 4, 27, 120, 29, 182, 0, 128, 128, 61]
abbrev dktX3_likes_0 : List UInt8 := dkwX3_likes_0 ++ dktX3_likes_1
theorem dksX3_likes_0 : cX3_likes.data.toList.drop 0 = dktX3_likes_0 := by decide +kernel
theorem dksX3_likes_1 : cX3_likes.data.toList.drop 23 = dktX3_likes_1 := dk_seg dksX3_likes_0 23 rfl rfl
theorem dX3_likes_0 : decode cX3_likes 0 = .ok (.iconst 0, 1) := dk_3 (dk_at dksX3_likes_0 0 rfl rfl)
theorem dX3_likes_1 : decode cX3_likes 1 = .ok (.istore_n 2, 1) := dk_61 (dk_at dksX3_likes_0 1 rfl rfl)
theorem dX3_likes_2 : decode cX3_likes 2 = .ok (.iconst 0, 1) := dk_3 (dk_at dksX3_likes_0 2 rfl rfl)
theorem dX3_likes_3 : decode cX3_likes 3 = .ok (.istore_n 3, 1) := dk_62 (dk_at dksX3_likes_0 3 rfl rfl)
theorem dX3_likes_4 : decode cX3_likes 4 = .ok (.iload_n 3, 1) := dk_29 (dk_at dksX3_likes_0 4 rfl rfl)
theorem dX3_likes_5 : decode cX3_likes 5 = .ok (.aload_n 0, 1) := dk_42 (dk_at dksX3_likes_0 5 rfl rfl)
theorem dX3_likes_6 : decode cX3_likes 6 = .ok (.invokevirtual 116, 3) := dk_182 0 116 (dk_at dksX3_likes_0 6 rfl rfl)
theorem dX3_likes_9 : decode cX3_likes 9 = .ok (.if_icmp .ge 20, 3) := dk_162 0 20 (dk_at dksX3_likes_0 9 rfl rfl)
theorem dX3_likes_12 : decode cX3_likes 12 = .ok (.iload_n 2, 1) := dk_28 (dk_at dksX3_likes_0 12 rfl rfl)
theorem dX3_likes_13 : decode cX3_likes 13 = .ok (.aload_n 0, 1) := dk_42 (dk_at dksX3_likes_0 13 rfl rfl)
theorem dX3_likes_14 : decode cX3_likes 14 = .ok (.iconst 1, 1) := dk_4 (dk_at dksX3_likes_0 14 rfl rfl)
theorem dX3_likes_15 : decode cX3_likes 15 = .ok (.iload_n 1, 1) := dk_27 (dk_at dksX3_likes_0 15 rfl rfl)
theorem dX3_likes_16 : decode cX3_likes 16 = .ok (.ishl, 1) := dk_120 (dk_at dksX3_likes_0 16 rfl rfl)
theorem dX3_likes_17 : decode cX3_likes 17 = .ok (.iload_n 3, 1) := dk_29 (dk_at dksX3_likes_0 17 rfl rfl)
theorem dX3_likes_18 : decode cX3_likes 18 = .ok (.invokevirtual 128, 3) := dk_182 0 128 (dk_at dksX3_likes_0 18 rfl rfl)
theorem dX3_likes_21 : decode cX3_likes 21 = .ok (.ior, 1) := dk_128 (dk_at dksX3_likes_0 21 rfl rfl)
theorem dX3_likes_22 : decode cX3_likes 22 = .ok (.istore_n 2, 1) := dk_61 (dk_at dksX3_likes_0 22 rfl rfl)
theorem dX3_likes_23 : decode cX3_likes 23 = .ok (.iinc 3 1, 3) := dk_132 3 1 (dk_at dksX3_likes_1 0 rfl rfl)
theorem dX3_likes_26 : decode cX3_likes 26 = .ok (.goto (-22), 3) := dk_167 255 234 (dk_at dksX3_likes_1 3 rfl rfl)
theorem dX3_likes_29 : decode cX3_likes 29 = .ok (.iload_n 2, 1) := dk_28 (dk_at dksX3_likes_1 6 rfl rfl)
theorem dX3_likes_30 : decode cX3_likes 30 = .ok (.invokestatic 170, 3) := dk_184 0 170 (dk_at dksX3_likes_1 7 rfl rfl)
theorem dX3_likes_33 : decode cX3_likes 33 = .ok (.ireturn, 1) := dk_172 (dk_at dksX3_likes_1 10 rfl rfl)
abbrev cX3_peak : ByteArray := prog_3_method_29_code
def yX3_peak : MethodName := ⟨RX3, "peak", "(I)[[J"⟩
def dkwX3_peak_5 : List UInt8 := [21, 4, 50, 21, 4, 46, 133, 105, 184, 0, 196, 83, 132, 4, 255, 167, 255, 144, 45, 176]
abbrev dktX3_peak_5 : List UInt8 := dkwX3_peak_5 ++ []
def dkwX3_peak_4 : List UInt8 := [58, 5, 132, 6, 1, 167, 255, 215, 45, 21, 4, 25, 5, 3, 47, 25, 5, 4, 47, 42, 180, 0, 104]
abbrev dktX3_peak_4 : List UInt8 := dkwX3_peak_4 ++ dktX3_peak_5
def dkwX3_peak_3 : List UInt8 := [3, 47, 117, 42, 180, 0, 104, 21, 6, 50, 21, 4, 46, 133, 105, 45, 21, 6, 50, 4, 47, 184, 0, 192]
abbrev dktX3_peak_3 : List UInt8 := dkwX3_peak_3 ++ dktX3_peak_4
def dkwX3_peak_2 : List UInt8 := [89, 4, 10, 80, 58, 5, 21, 4, 4, 96, 54, 6, 21, 6, 28, 162, 0, 41, 25, 5, 45, 21, 6, 50]
abbrev dktX3_peak_2 : List UInt8 := dkwX3_peak_2 ++ dktX3_peak_3
def dkwX3_peak_1 : List UInt8 := [155, 0, 113, 5, 188, 11, 89, 3, 27, 133, 21, 4, 184, 0, 117, 153, 0, 7, 10, 167, 0, 4, 9, 80]
abbrev dktX3_peak_1 : List UInt8 := dkwX3_peak_1 ++ dktX3_peak_2
def dkwX3_peak_0 : List UInt8 := [42, 180, 0, 21, 185, 0, 58, 1, 0, 61, 28, 189, 0, 190, 78, 28, 4, 100, 54, 4, 21, 4]
abbrev dktX3_peak_0 : List UInt8 := dkwX3_peak_0 ++ dktX3_peak_1
theorem dksX3_peak_0 : cX3_peak.data.toList.drop 0 = dktX3_peak_0 := by decide +kernel
theorem dksX3_peak_1 : cX3_peak.data.toList.drop 22 = dktX3_peak_1 := dk_seg dksX3_peak_0 22 rfl rfl
theorem dksX3_peak_2 : cX3_peak.data.toList.drop 46 = dktX3_peak_2 := dk_seg dksX3_peak_1 24 rfl rfl
theorem dksX3_peak_3 : cX3_peak.data.toList.drop 70 = dktX3_peak_3 := dk_seg dksX3_peak_2 24 rfl rfl
theorem dksX3_peak_4 : cX3_peak.data.toList.drop 94 = dktX3_peak_4 := dk_seg dksX3_peak_3 24 rfl rfl
theorem dksX3_peak_5 : cX3_peak.data.toList.drop 117 = dktX3_peak_5 := dk_seg dksX3_peak_4 23 rfl rfl
theorem dX3_peak_0 : decode cX3_peak 0 = .ok (.aload_n 0, 1) := dk_42 (dk_at dksX3_peak_0 0 rfl rfl)
theorem dX3_peak_1 : decode cX3_peak 1 = .ok (.getfield 21, 3) := dk_180 0 21 (dk_at dksX3_peak_0 1 rfl rfl)
theorem dX3_peak_4 : decode cX3_peak 4 = .ok (.invokeinterface 58 1, 5) := by decide +kernel
theorem dX3_peak_9 : decode cX3_peak 9 = .ok (.istore_n 2, 1) := dk_61 (dk_at dksX3_peak_0 9 rfl rfl)
theorem dX3_peak_10 : decode cX3_peak 10 = .ok (.iload_n 2, 1) := dk_28 (dk_at dksX3_peak_0 10 rfl rfl)
theorem dX3_peak_11 : decode cX3_peak 11 = .ok (.anewarray 190, 3) := dk_189 0 190 (dk_at dksX3_peak_0 11 rfl rfl)
theorem dX3_peak_14 : decode cX3_peak 14 = .ok (.astore_n 3, 1) := dk_78 (dk_at dksX3_peak_0 14 rfl rfl)
theorem dX3_peak_15 : decode cX3_peak 15 = .ok (.iload_n 2, 1) := dk_28 (dk_at dksX3_peak_0 15 rfl rfl)
theorem dX3_peak_16 : decode cX3_peak 16 = .ok (.iconst 1, 1) := dk_4 (dk_at dksX3_peak_0 16 rfl rfl)
theorem dX3_peak_17 : decode cX3_peak 17 = .ok (.isub, 1) := dk_100 (dk_at dksX3_peak_0 17 rfl rfl)
theorem dX3_peak_18 : decode cX3_peak 18 = .ok (.istore 4, 2) := dk_54 4 (dk_at dksX3_peak_0 18 rfl rfl)
theorem dX3_peak_20 : decode cX3_peak 20 = .ok (.iload 4, 2) := dk_21 4 (dk_at dksX3_peak_0 20 rfl rfl)
theorem dX3_peak_22 : decode cX3_peak 22 = .ok (.ifCond .lt 113, 3) := dk_155 0 113 (dk_at dksX3_peak_1 0 rfl rfl)
theorem dX3_peak_25 : decode cX3_peak 25 = .ok (.iconst 2, 1) := dk_5 (dk_at dksX3_peak_1 3 rfl rfl)
theorem dX3_peak_26 : decode cX3_peak 26 = .ok (.newarray .long, 2) := dk_188_11 (dk_at dksX3_peak_1 4 rfl rfl)
theorem dX3_peak_28 : decode cX3_peak 28 = .ok (.dup, 1) := dk_89 (dk_at dksX3_peak_1 6 rfl rfl)
theorem dX3_peak_29 : decode cX3_peak 29 = .ok (.iconst 0, 1) := dk_3 (dk_at dksX3_peak_1 7 rfl rfl)
theorem dX3_peak_30 : decode cX3_peak 30 = .ok (.iload_n 1, 1) := dk_27 (dk_at dksX3_peak_1 8 rfl rfl)
theorem dX3_peak_31 : decode cX3_peak 31 = .ok (.i2l, 1) := dk_133 (dk_at dksX3_peak_1 9 rfl rfl)
theorem dX3_peak_32 : decode cX3_peak 32 = .ok (.iload 4, 2) := dk_21 4 (dk_at dksX3_peak_1 10 rfl rfl)
theorem dX3_peak_34 : decode cX3_peak 34 = .ok (.invokestatic 117, 3) := dk_184 0 117 (dk_at dksX3_peak_1 12 rfl rfl)
theorem dX3_peak_37 : decode cX3_peak 37 = .ok (.ifCond .eq 7, 3) := dk_153 0 7 (dk_at dksX3_peak_1 15 rfl rfl)
theorem dX3_peak_40 : decode cX3_peak 40 = .ok (.lconst 1, 1) := dk_10 (dk_at dksX3_peak_1 18 rfl rfl)
theorem dX3_peak_41 : decode cX3_peak 41 = .ok (.goto 4, 3) := dk_167 0 4 (dk_at dksX3_peak_1 19 rfl rfl)
theorem dX3_peak_44 : decode cX3_peak 44 = .ok (.lconst 0, 1) := dk_9 (dk_at dksX3_peak_1 22 rfl rfl)
theorem dX3_peak_45 : decode cX3_peak 45 = .ok (.lastore, 1) := dk_80 (dk_at dksX3_peak_1 23 rfl rfl)
theorem dX3_peak_46 : decode cX3_peak 46 = .ok (.dup, 1) := dk_89 (dk_at dksX3_peak_2 0 rfl rfl)
theorem dX3_peak_47 : decode cX3_peak 47 = .ok (.iconst 1, 1) := dk_4 (dk_at dksX3_peak_2 1 rfl rfl)
theorem dX3_peak_48 : decode cX3_peak 48 = .ok (.lconst 1, 1) := dk_10 (dk_at dksX3_peak_2 2 rfl rfl)
theorem dX3_peak_49 : decode cX3_peak 49 = .ok (.lastore, 1) := dk_80 (dk_at dksX3_peak_2 3 rfl rfl)
theorem dX3_peak_50 : decode cX3_peak 50 = .ok (.astore 5, 2) := dk_58 5 (dk_at dksX3_peak_2 4 rfl rfl)
theorem dX3_peak_52 : decode cX3_peak 52 = .ok (.iload 4, 2) := dk_21 4 (dk_at dksX3_peak_2 6 rfl rfl)
theorem dX3_peak_54 : decode cX3_peak 54 = .ok (.iconst 1, 1) := dk_4 (dk_at dksX3_peak_2 8 rfl rfl)
theorem dX3_peak_55 : decode cX3_peak 55 = .ok (.iadd, 1) := dk_96 (dk_at dksX3_peak_2 9 rfl rfl)
theorem dX3_peak_56 : decode cX3_peak 56 = .ok (.istore 6, 2) := dk_54 6 (dk_at dksX3_peak_2 10 rfl rfl)
theorem dX3_peak_58 : decode cX3_peak 58 = .ok (.iload 6, 2) := dk_21 6 (dk_at dksX3_peak_2 12 rfl rfl)
theorem dX3_peak_60 : decode cX3_peak 60 = .ok (.iload_n 2, 1) := dk_28 (dk_at dksX3_peak_2 14 rfl rfl)
theorem dX3_peak_61 : decode cX3_peak 61 = .ok (.if_icmp .ge 41, 3) := dk_162 0 41 (dk_at dksX3_peak_2 15 rfl rfl)
theorem dX3_peak_64 : decode cX3_peak 64 = .ok (.aload 5, 2) := dk_25 5 (dk_at dksX3_peak_2 18 rfl rfl)
theorem dX3_peak_66 : decode cX3_peak 66 = .ok (.aload_n 3, 1) := dk_45 (dk_at dksX3_peak_2 20 rfl rfl)
theorem dX3_peak_67 : decode cX3_peak 67 = .ok (.iload 6, 2) := dk_21 6 (dk_at dksX3_peak_2 21 rfl rfl)
theorem dX3_peak_69 : decode cX3_peak 69 = .ok (.aaload, 1) := dk_50 (dk_at dksX3_peak_2 23 rfl rfl)
theorem dX3_peak_70 : decode cX3_peak 70 = .ok (.iconst 0, 1) := dk_3 (dk_at dksX3_peak_3 0 rfl rfl)
theorem dX3_peak_71 : decode cX3_peak 71 = .ok (.laload, 1) := dk_47 (dk_at dksX3_peak_3 1 rfl rfl)
theorem dX3_peak_72 : decode cX3_peak 72 = .ok (.lneg, 1) := dk_117 (dk_at dksX3_peak_3 2 rfl rfl)
theorem dX3_peak_73 : decode cX3_peak 73 = .ok (.aload_n 0, 1) := dk_42 (dk_at dksX3_peak_3 3 rfl rfl)
theorem dX3_peak_74 : decode cX3_peak 74 = .ok (.getfield 104, 3) := dk_180 0 104 (dk_at dksX3_peak_3 4 rfl rfl)
theorem dX3_peak_77 : decode cX3_peak 77 = .ok (.iload 6, 2) := dk_21 6 (dk_at dksX3_peak_3 7 rfl rfl)
theorem dX3_peak_79 : decode cX3_peak 79 = .ok (.aaload, 1) := dk_50 (dk_at dksX3_peak_3 9 rfl rfl)
theorem dX3_peak_80 : decode cX3_peak 80 = .ok (.iload 4, 2) := dk_21 4 (dk_at dksX3_peak_3 10 rfl rfl)
theorem dX3_peak_82 : decode cX3_peak 82 = .ok (.iaload, 1) := dk_46 (dk_at dksX3_peak_3 12 rfl rfl)
theorem dX3_peak_83 : decode cX3_peak 83 = .ok (.i2l, 1) := dk_133 (dk_at dksX3_peak_3 13 rfl rfl)
theorem dX3_peak_84 : decode cX3_peak 84 = .ok (.lmul, 1) := dk_105 (dk_at dksX3_peak_3 14 rfl rfl)
theorem dX3_peak_85 : decode cX3_peak 85 = .ok (.aload_n 3, 1) := dk_45 (dk_at dksX3_peak_3 15 rfl rfl)
theorem dX3_peak_86 : decode cX3_peak 86 = .ok (.iload 6, 2) := dk_21 6 (dk_at dksX3_peak_3 16 rfl rfl)
theorem dX3_peak_88 : decode cX3_peak 88 = .ok (.aaload, 1) := dk_50 (dk_at dksX3_peak_3 18 rfl rfl)
theorem dX3_peak_89 : decode cX3_peak 89 = .ok (.iconst 1, 1) := dk_4 (dk_at dksX3_peak_3 19 rfl rfl)
theorem dX3_peak_90 : decode cX3_peak 90 = .ok (.laload, 1) := dk_47 (dk_at dksX3_peak_3 20 rfl rfl)
theorem dX3_peak_91 : decode cX3_peak 91 = .ok (.invokestatic 192, 3) := dk_184 0 192 (dk_at dksX3_peak_3 21 rfl rfl)
theorem dX3_peak_94 : decode cX3_peak 94 = .ok (.astore 5, 2) := dk_58 5 (dk_at dksX3_peak_4 0 rfl rfl)
theorem dX3_peak_96 : decode cX3_peak 96 = .ok (.iinc 6 1, 3) := dk_132 6 1 (dk_at dksX3_peak_4 2 rfl rfl)
theorem dX3_peak_99 : decode cX3_peak 99 = .ok (.goto (-41), 3) := dk_167 255 215 (dk_at dksX3_peak_4 5 rfl rfl)
theorem dX3_peak_102 : decode cX3_peak 102 = .ok (.aload_n 3, 1) := dk_45 (dk_at dksX3_peak_4 8 rfl rfl)
theorem dX3_peak_103 : decode cX3_peak 103 = .ok (.iload 4, 2) := dk_21 4 (dk_at dksX3_peak_4 9 rfl rfl)
theorem dX3_peak_105 : decode cX3_peak 105 = .ok (.aload 5, 2) := dk_25 5 (dk_at dksX3_peak_4 11 rfl rfl)
theorem dX3_peak_107 : decode cX3_peak 107 = .ok (.iconst 0, 1) := dk_3 (dk_at dksX3_peak_4 13 rfl rfl)
theorem dX3_peak_108 : decode cX3_peak 108 = .ok (.laload, 1) := dk_47 (dk_at dksX3_peak_4 14 rfl rfl)
theorem dX3_peak_109 : decode cX3_peak 109 = .ok (.aload 5, 2) := dk_25 5 (dk_at dksX3_peak_4 15 rfl rfl)
theorem dX3_peak_111 : decode cX3_peak 111 = .ok (.iconst 1, 1) := dk_4 (dk_at dksX3_peak_4 17 rfl rfl)
theorem dX3_peak_112 : decode cX3_peak 112 = .ok (.laload, 1) := dk_47 (dk_at dksX3_peak_4 18 rfl rfl)
theorem dX3_peak_113 : decode cX3_peak 113 = .ok (.aload_n 0, 1) := dk_42 (dk_at dksX3_peak_4 19 rfl rfl)
theorem dX3_peak_114 : decode cX3_peak 114 = .ok (.getfield 104, 3) := dk_180 0 104 (dk_at dksX3_peak_4 20 rfl rfl)
theorem dX3_peak_117 : decode cX3_peak 117 = .ok (.iload 4, 2) := dk_21 4 (dk_at dksX3_peak_5 0 rfl rfl)
theorem dX3_peak_119 : decode cX3_peak 119 = .ok (.aaload, 1) := dk_50 (dk_at dksX3_peak_5 2 rfl rfl)
theorem dX3_peak_120 : decode cX3_peak 120 = .ok (.iload 4, 2) := dk_21 4 (dk_at dksX3_peak_5 3 rfl rfl)
theorem dX3_peak_122 : decode cX3_peak 122 = .ok (.iaload, 1) := dk_46 (dk_at dksX3_peak_5 5 rfl rfl)
theorem dX3_peak_123 : decode cX3_peak 123 = .ok (.i2l, 1) := dk_133 (dk_at dksX3_peak_5 6 rfl rfl)
theorem dX3_peak_124 : decode cX3_peak 124 = .ok (.lmul, 1) := dk_105 (dk_at dksX3_peak_5 7 rfl rfl)
theorem dX3_peak_125 : decode cX3_peak 125 = .ok (.invokestatic 196, 3) := dk_184 0 196 (dk_at dksX3_peak_5 8 rfl rfl)
theorem dX3_peak_128 : decode cX3_peak 128 = .ok (.aastore, 1) := dk_83 (dk_at dksX3_peak_5 11 rfl rfl)
theorem dX3_peak_129 : decode cX3_peak 129 = .ok (.iinc 4 (-1), 3) := dk_132 4 255 (dk_at dksX3_peak_5 12 rfl rfl)
theorem dX3_peak_132 : decode cX3_peak 132 = .ok (.goto (-112), 3) := dk_167 255 144 (dk_at dksX3_peak_5 15 rfl rfl)
theorem dX3_peak_135 : decode cX3_peak 135 = .ok (.aload_n 3, 1) := dk_45 (dk_at dksX3_peak_5 18 rfl rfl)
theorem dX3_peak_136 : decode cX3_peak 136 = .ok (.areturn, 1) := dk_176 (dk_at dksX3_peak_5 19 rfl rfl)
abbrev cX3_sum : ByteArray := prog_3_method_30_code
def yX3_sum : MethodName := ⟨RX3, "sum", "([JJJ)[J"⟩
def dkwX3_sum_0 : List UInt8 := [42, 3, 47, 33, 105, 31, 42, 4, 47, 105, 97, 42, 4, 47, 33, 105, 184, 0, 196, 176]
abbrev dktX3_sum_0 : List UInt8 := dkwX3_sum_0 ++ []
theorem dksX3_sum_0 : cX3_sum.data.toList.drop 0 = dktX3_sum_0 := by decide +kernel
theorem dX3_sum_0 : decode cX3_sum 0 = .ok (.aload_n 0, 1) := dk_42 (dk_at dksX3_sum_0 0 rfl rfl)
theorem dX3_sum_1 : decode cX3_sum 1 = .ok (.iconst 0, 1) := dk_3 (dk_at dksX3_sum_0 1 rfl rfl)
theorem dX3_sum_2 : decode cX3_sum 2 = .ok (.laload, 1) := dk_47 (dk_at dksX3_sum_0 2 rfl rfl)
theorem dX3_sum_3 : decode cX3_sum 3 = .ok (.lload_n 3, 1) := dk_33 (dk_at dksX3_sum_0 3 rfl rfl)
theorem dX3_sum_4 : decode cX3_sum 4 = .ok (.lmul, 1) := dk_105 (dk_at dksX3_sum_0 4 rfl rfl)
theorem dX3_sum_5 : decode cX3_sum 5 = .ok (.lload_n 1, 1) := dk_31 (dk_at dksX3_sum_0 5 rfl rfl)
theorem dX3_sum_6 : decode cX3_sum 6 = .ok (.aload_n 0, 1) := dk_42 (dk_at dksX3_sum_0 6 rfl rfl)
theorem dX3_sum_7 : decode cX3_sum 7 = .ok (.iconst 1, 1) := dk_4 (dk_at dksX3_sum_0 7 rfl rfl)
theorem dX3_sum_8 : decode cX3_sum 8 = .ok (.laload, 1) := dk_47 (dk_at dksX3_sum_0 8 rfl rfl)
theorem dX3_sum_9 : decode cX3_sum 9 = .ok (.lmul, 1) := dk_105 (dk_at dksX3_sum_0 9 rfl rfl)
theorem dX3_sum_10 : decode cX3_sum 10 = .ok (.ladd, 1) := dk_97 (dk_at dksX3_sum_0 10 rfl rfl)
theorem dX3_sum_11 : decode cX3_sum 11 = .ok (.aload_n 0, 1) := dk_42 (dk_at dksX3_sum_0 11 rfl rfl)
theorem dX3_sum_12 : decode cX3_sum 12 = .ok (.iconst 1, 1) := dk_4 (dk_at dksX3_sum_0 12 rfl rfl)
theorem dX3_sum_13 : decode cX3_sum 13 = .ok (.laload, 1) := dk_47 (dk_at dksX3_sum_0 13 rfl rfl)
theorem dX3_sum_14 : decode cX3_sum 14 = .ok (.lload_n 3, 1) := dk_33 (dk_at dksX3_sum_0 14 rfl rfl)
theorem dX3_sum_15 : decode cX3_sum 15 = .ok (.lmul, 1) := dk_105 (dk_at dksX3_sum_0 15 rfl rfl)
theorem dX3_sum_16 : decode cX3_sum 16 = .ok (.invokestatic 196, 3) := dk_184 0 196 (dk_at dksX3_sum_0 16 rfl rfl)
theorem dX3_sum_19 : decode cX3_sum 19 = .ok (.areturn, 1) := dk_176 (dk_at dksX3_sum_0 19 rfl rfl)
abbrev cX3_lowest : ByteArray := prog_3_method_31_code
def yX3_lowest : MethodName := ⟨RX3, "lowest", "(JJ)[J"⟩
def dkwX3_lowest_1 : List UInt8 := [176]
abbrev dktX3_lowest_1 : List UInt8 := dkwX3_lowest_1 ++ []
def dkwX3_lowest_0 : List UInt8 := [30, 32, 184, 0, 200, 55, 4, 5, 188, 11, 89, 3, 30, 22, 4, 109, 80, 89, 4, 32, 22, 4, 109, 80]
abbrev dktX3_lowest_0 : List UInt8 := dkwX3_lowest_0 ++ dktX3_lowest_1
theorem dksX3_lowest_0 : cX3_lowest.data.toList.drop 0 = dktX3_lowest_0 := by decide +kernel
theorem dksX3_lowest_1 : cX3_lowest.data.toList.drop 24 = dktX3_lowest_1 := dk_seg dksX3_lowest_0 24 rfl rfl
theorem dX3_lowest_0 : decode cX3_lowest 0 = .ok (.lload_n 0, 1) := dk_30 (dk_at dksX3_lowest_0 0 rfl rfl)
theorem dX3_lowest_1 : decode cX3_lowest 1 = .ok (.lload_n 2, 1) := dk_32 (dk_at dksX3_lowest_0 1 rfl rfl)
theorem dX3_lowest_2 : decode cX3_lowest 2 = .ok (.invokestatic 200, 3) := dk_184 0 200 (dk_at dksX3_lowest_0 2 rfl rfl)
theorem dX3_lowest_5 : decode cX3_lowest 5 = .ok (.lstore 4, 2) := dk_55 4 (dk_at dksX3_lowest_0 5 rfl rfl)
theorem dX3_lowest_7 : decode cX3_lowest 7 = .ok (.iconst 2, 1) := dk_5 (dk_at dksX3_lowest_0 7 rfl rfl)
theorem dX3_lowest_8 : decode cX3_lowest 8 = .ok (.newarray .long, 2) := dk_188_11 (dk_at dksX3_lowest_0 8 rfl rfl)
theorem dX3_lowest_10 : decode cX3_lowest 10 = .ok (.dup, 1) := dk_89 (dk_at dksX3_lowest_0 10 rfl rfl)
theorem dX3_lowest_11 : decode cX3_lowest 11 = .ok (.iconst 0, 1) := dk_3 (dk_at dksX3_lowest_0 11 rfl rfl)
theorem dX3_lowest_12 : decode cX3_lowest 12 = .ok (.lload_n 0, 1) := dk_30 (dk_at dksX3_lowest_0 12 rfl rfl)
theorem dX3_lowest_13 : decode cX3_lowest 13 = .ok (.lload 4, 2) := dk_22 4 (dk_at dksX3_lowest_0 13 rfl rfl)
theorem dX3_lowest_15 : decode cX3_lowest 15 = .ok (.ldiv, 1) := dk_109 (dk_at dksX3_lowest_0 15 rfl rfl)
theorem dX3_lowest_16 : decode cX3_lowest 16 = .ok (.lastore, 1) := dk_80 (dk_at dksX3_lowest_0 16 rfl rfl)
theorem dX3_lowest_17 : decode cX3_lowest 17 = .ok (.dup, 1) := dk_89 (dk_at dksX3_lowest_0 17 rfl rfl)
theorem dX3_lowest_18 : decode cX3_lowest 18 = .ok (.iconst 1, 1) := dk_4 (dk_at dksX3_lowest_0 18 rfl rfl)
theorem dX3_lowest_19 : decode cX3_lowest 19 = .ok (.lload_n 2, 1) := dk_32 (dk_at dksX3_lowest_0 19 rfl rfl)
theorem dX3_lowest_20 : decode cX3_lowest 20 = .ok (.lload 4, 2) := dk_22 4 (dk_at dksX3_lowest_0 20 rfl rfl)
theorem dX3_lowest_22 : decode cX3_lowest 22 = .ok (.ldiv, 1) := dk_109 (dk_at dksX3_lowest_0 22 rfl rfl)
theorem dX3_lowest_23 : decode cX3_lowest 23 = .ok (.lastore, 1) := dk_80 (dk_at dksX3_lowest_0 23 rfl rfl)
theorem dX3_lowest_24 : decode cX3_lowest 24 = .ok (.areturn, 1) := dk_176 (dk_at dksX3_lowest_1 0 rfl rfl)
abbrev cX3_congruence : ByteArray := prog_3_method_24_code
def yX3_congruence : MethodName := ⟨RX3, "congruence", "([JI)J"⟩
def dkwX3_congruence_4 : List UInt8 := [185, 0, 71, 2, 0, 192, 0, 107, 180, 0, 181, 133, 109, 173]
abbrev dktX3_congruence_4 : List UInt8 := dkwX3_congruence_4 ++ []
def dkwX3_congruence_3 : List UInt8 := [182, 0, 176, 47, 167, 0, 4, 9, 97, 55, 4, 132, 6, 1, 167, 255, 194, 22, 4, 42, 180, 0, 21, 28]
abbrev dktX3_congruence_3 : List UInt8 := dkwX3_congruence_3 ++ dktX3_congruence_4
def dkwX3_congruence_2 : List UInt8 := [180, 0, 164, 133, 21, 6, 184, 0, 117, 153, 0, 22, 43, 42, 42, 29, 4, 21, 6, 120, 128, 182, 0, 121]
abbrev dktX3_congruence_2 : List UInt8 := dkwX3_congruence_2 ++ dktX3_congruence_3
def dkwX3_congruence_1 : List UInt8 := [21, 6, 42, 182, 0, 116, 162, 0, 59, 22, 4, 42, 180, 0, 21, 28, 185, 0, 71, 2, 0, 192, 0, 107]
abbrev dktX3_congruence_1 : List UInt8 := dkwX3_congruence_1 ++ dktX3_congruence_2
def dkwX3_congruence_0 : List UInt8 := [42, 180, 0, 21, 28, 185, 0, 71, 2, 0, 192, 0, 107, 180, 0, 109, 62, 9, 55, 4, 3, 54, 6]
abbrev dktX3_congruence_0 : List UInt8 := dkwX3_congruence_0 ++ dktX3_congruence_1
theorem dksX3_congruence_0 : cX3_congruence.data.toList.drop 0 = dktX3_congruence_0 := by decide +kernel
theorem dksX3_congruence_1 : cX3_congruence.data.toList.drop 23 = dktX3_congruence_1 := dk_seg dksX3_congruence_0 23 rfl rfl
theorem dksX3_congruence_2 : cX3_congruence.data.toList.drop 47 = dktX3_congruence_2 := dk_seg dksX3_congruence_1 24 rfl rfl
theorem dksX3_congruence_3 : cX3_congruence.data.toList.drop 71 = dktX3_congruence_3 := dk_seg dksX3_congruence_2 24 rfl rfl
theorem dksX3_congruence_4 : cX3_congruence.data.toList.drop 95 = dktX3_congruence_4 := dk_seg dksX3_congruence_3 24 rfl rfl
theorem dX3_congruence_0 : decode cX3_congruence 0 = .ok (.aload_n 0, 1) := dk_42 (dk_at dksX3_congruence_0 0 rfl rfl)
theorem dX3_congruence_1 : decode cX3_congruence 1 = .ok (.getfield 21, 3) := dk_180 0 21 (dk_at dksX3_congruence_0 1 rfl rfl)
theorem dX3_congruence_4 : decode cX3_congruence 4 = .ok (.iload_n 2, 1) := dk_28 (dk_at dksX3_congruence_0 4 rfl rfl)
theorem dX3_congruence_5 : decode cX3_congruence 5 = .ok (.invokeinterface 71 2, 5) := by decide +kernel
theorem dX3_congruence_10 : decode cX3_congruence 10 = .ok (.checkcast 107, 3) := dk_192 0 107 (dk_at dksX3_congruence_0 10 rfl rfl)
theorem dX3_congruence_13 : decode cX3_congruence 13 = .ok (.getfield 109, 3) := dk_180 0 109 (dk_at dksX3_congruence_0 13 rfl rfl)
theorem dX3_congruence_16 : decode cX3_congruence 16 = .ok (.istore_n 3, 1) := dk_62 (dk_at dksX3_congruence_0 16 rfl rfl)
theorem dX3_congruence_17 : decode cX3_congruence 17 = .ok (.lconst 0, 1) := dk_9 (dk_at dksX3_congruence_0 17 rfl rfl)
theorem dX3_congruence_18 : decode cX3_congruence 18 = .ok (.lstore 4, 2) := dk_55 4 (dk_at dksX3_congruence_0 18 rfl rfl)
theorem dX3_congruence_20 : decode cX3_congruence 20 = .ok (.iconst 0, 1) := dk_3 (dk_at dksX3_congruence_0 20 rfl rfl)
theorem dX3_congruence_21 : decode cX3_congruence 21 = .ok (.istore 6, 2) := dk_54 6 (dk_at dksX3_congruence_0 21 rfl rfl)
theorem dX3_congruence_23 : decode cX3_congruence 23 = .ok (.iload 6, 2) := dk_21 6 (dk_at dksX3_congruence_1 0 rfl rfl)
theorem dX3_congruence_25 : decode cX3_congruence 25 = .ok (.aload_n 0, 1) := dk_42 (dk_at dksX3_congruence_1 2 rfl rfl)
theorem dX3_congruence_26 : decode cX3_congruence 26 = .ok (.invokevirtual 116, 3) := dk_182 0 116 (dk_at dksX3_congruence_1 3 rfl rfl)
theorem dX3_congruence_29 : decode cX3_congruence 29 = .ok (.if_icmp .ge 59, 3) := dk_162 0 59 (dk_at dksX3_congruence_1 6 rfl rfl)
theorem dX3_congruence_32 : decode cX3_congruence 32 = .ok (.lload 4, 2) := dk_22 4 (dk_at dksX3_congruence_1 9 rfl rfl)
theorem dX3_congruence_34 : decode cX3_congruence 34 = .ok (.aload_n 0, 1) := dk_42 (dk_at dksX3_congruence_1 11 rfl rfl)
theorem dX3_congruence_35 : decode cX3_congruence 35 = .ok (.getfield 21, 3) := dk_180 0 21 (dk_at dksX3_congruence_1 12 rfl rfl)
theorem dX3_congruence_38 : decode cX3_congruence 38 = .ok (.iload_n 2, 1) := dk_28 (dk_at dksX3_congruence_1 15 rfl rfl)
theorem dX3_congruence_39 : decode cX3_congruence 39 = .ok (.invokeinterface 71 2, 5) := by decide +kernel
theorem dX3_congruence_44 : decode cX3_congruence 44 = .ok (.checkcast 107, 3) := dk_192 0 107 (dk_at dksX3_congruence_1 21 rfl rfl)
theorem dX3_congruence_47 : decode cX3_congruence 47 = .ok (.getfield 164, 3) := dk_180 0 164 (dk_at dksX3_congruence_2 0 rfl rfl)
theorem dX3_congruence_50 : decode cX3_congruence 50 = .ok (.i2l, 1) := dk_133 (dk_at dksX3_congruence_2 3 rfl rfl)
theorem dX3_congruence_51 : decode cX3_congruence 51 = .ok (.iload 6, 2) := dk_21 6 (dk_at dksX3_congruence_2 4 rfl rfl)
theorem dX3_congruence_53 : decode cX3_congruence 53 = .ok (.invokestatic 117, 3) := dk_184 0 117 (dk_at dksX3_congruence_2 6 rfl rfl)
theorem dX3_congruence_56 : decode cX3_congruence 56 = .ok (.ifCond .eq 22, 3) := dk_153 0 22 (dk_at dksX3_congruence_2 9 rfl rfl)
theorem dX3_congruence_59 : decode cX3_congruence 59 = .ok (.aload_n 1, 1) := dk_43 (dk_at dksX3_congruence_2 12 rfl rfl)
theorem dX3_congruence_60 : decode cX3_congruence 60 = .ok (.aload_n 0, 1) := dk_42 (dk_at dksX3_congruence_2 13 rfl rfl)
theorem dX3_congruence_61 : decode cX3_congruence 61 = .ok (.aload_n 0, 1) := dk_42 (dk_at dksX3_congruence_2 14 rfl rfl)
theorem dX3_congruence_62 : decode cX3_congruence 62 = .ok (.iload_n 3, 1) := dk_29 (dk_at dksX3_congruence_2 15 rfl rfl)
theorem dX3_congruence_63 : decode cX3_congruence 63 = .ok (.iconst 1, 1) := dk_4 (dk_at dksX3_congruence_2 16 rfl rfl)
theorem dX3_congruence_64 : decode cX3_congruence 64 = .ok (.iload 6, 2) := dk_21 6 (dk_at dksX3_congruence_2 17 rfl rfl)
theorem dX3_congruence_66 : decode cX3_congruence 66 = .ok (.ishl, 1) := dk_120 (dk_at dksX3_congruence_2 19 rfl rfl)
theorem dX3_congruence_67 : decode cX3_congruence 67 = .ok (.ior, 1) := dk_128 (dk_at dksX3_congruence_2 20 rfl rfl)
theorem dX3_congruence_68 : decode cX3_congruence 68 = .ok (.invokevirtual 121, 3) := dk_182 0 121 (dk_at dksX3_congruence_2 21 rfl rfl)
theorem dX3_congruence_71 : decode cX3_congruence 71 = .ok (.invokevirtual 176, 3) := dk_182 0 176 (dk_at dksX3_congruence_3 0 rfl rfl)
theorem dX3_congruence_74 : decode cX3_congruence 74 = .ok (.laload, 1) := dk_47 (dk_at dksX3_congruence_3 3 rfl rfl)
theorem dX3_congruence_75 : decode cX3_congruence 75 = .ok (.goto 4, 3) := dk_167 0 4 (dk_at dksX3_congruence_3 4 rfl rfl)
theorem dX3_congruence_78 : decode cX3_congruence 78 = .ok (.lconst 0, 1) := dk_9 (dk_at dksX3_congruence_3 7 rfl rfl)
theorem dX3_congruence_79 : decode cX3_congruence 79 = .ok (.ladd, 1) := dk_97 (dk_at dksX3_congruence_3 8 rfl rfl)
theorem dX3_congruence_80 : decode cX3_congruence 80 = .ok (.lstore 4, 2) := dk_55 4 (dk_at dksX3_congruence_3 9 rfl rfl)
theorem dX3_congruence_82 : decode cX3_congruence 82 = .ok (.iinc 6 1, 3) := dk_132 6 1 (dk_at dksX3_congruence_3 11 rfl rfl)
theorem dX3_congruence_85 : decode cX3_congruence 85 = .ok (.goto (-62), 3) := dk_167 255 194 (dk_at dksX3_congruence_3 14 rfl rfl)
theorem dX3_congruence_88 : decode cX3_congruence 88 = .ok (.lload 4, 2) := dk_22 4 (dk_at dksX3_congruence_3 17 rfl rfl)
theorem dX3_congruence_90 : decode cX3_congruence 90 = .ok (.aload_n 0, 1) := dk_42 (dk_at dksX3_congruence_3 19 rfl rfl)
theorem dX3_congruence_91 : decode cX3_congruence 91 = .ok (.getfield 21, 3) := dk_180 0 21 (dk_at dksX3_congruence_3 20 rfl rfl)
theorem dX3_congruence_94 : decode cX3_congruence 94 = .ok (.iload_n 2, 1) := dk_28 (dk_at dksX3_congruence_3 23 rfl rfl)
theorem dX3_congruence_95 : decode cX3_congruence 95 = .ok (.invokeinterface 71 2, 5) := by decide +kernel
theorem dX3_congruence_100 : decode cX3_congruence 100 = .ok (.checkcast 107, 3) := dk_192 0 107 (dk_at dksX3_congruence_4 5 rfl rfl)
theorem dX3_congruence_103 : decode cX3_congruence 103 = .ok (.getfield 181, 3) := dk_180 0 181 (dk_at dksX3_congruence_4 8 rfl rfl)
theorem dX3_congruence_106 : decode cX3_congruence 106 = .ok (.i2l, 1) := dk_133 (dk_at dksX3_congruence_4 11 rfl rfl)
theorem dX3_congruence_107 : decode cX3_congruence 107 = .ok (.ldiv, 1) := dk_109 (dk_at dksX3_congruence_4 12 rfl rfl)
theorem dX3_congruence_108 : decode cX3_congruence 108 = .ok (.lreturn, 1) := dk_173 (dk_at dksX3_congruence_4 13 rfl rfl)
abbrev cX3_cosets : ByteArray := prog_3_method_25_code
def yX3_cosets : MethodName := ⟨RX3, "cosets", "(I)I"⟩
def dkwX3_cosets_1 : List UInt8 := [185, 0, 71, 2, 0, 192, 0, 107, 180, 0, 181, 108, 172]
abbrev dktX3_cosets_1 : List UInt8 := dkwX3_cosets_1 ++ []
def dkwX3_cosets_0 : List UInt8 := [42, 180, 0, 21, 27, 185, 0, 71, 2, 0, 192, 0, 107, 180, 0, 164, 184, 0, 170, 42, 180, 0, 21, 27]
abbrev dktX3_cosets_0 : List UInt8 := dkwX3_cosets_0 ++ dktX3_cosets_1
theorem dksX3_cosets_0 : cX3_cosets.data.toList.drop 0 = dktX3_cosets_0 := by decide +kernel
theorem dksX3_cosets_1 : cX3_cosets.data.toList.drop 24 = dktX3_cosets_1 := dk_seg dksX3_cosets_0 24 rfl rfl
theorem dX3_cosets_0 : decode cX3_cosets 0 = .ok (.aload_n 0, 1) := dk_42 (dk_at dksX3_cosets_0 0 rfl rfl)
theorem dX3_cosets_1 : decode cX3_cosets 1 = .ok (.getfield 21, 3) := dk_180 0 21 (dk_at dksX3_cosets_0 1 rfl rfl)
theorem dX3_cosets_4 : decode cX3_cosets 4 = .ok (.iload_n 1, 1) := dk_27 (dk_at dksX3_cosets_0 4 rfl rfl)
theorem dX3_cosets_5 : decode cX3_cosets 5 = .ok (.invokeinterface 71 2, 5) := by decide +kernel
theorem dX3_cosets_10 : decode cX3_cosets 10 = .ok (.checkcast 107, 3) := dk_192 0 107 (dk_at dksX3_cosets_0 10 rfl rfl)
theorem dX3_cosets_13 : decode cX3_cosets 13 = .ok (.getfield 164, 3) := dk_180 0 164 (dk_at dksX3_cosets_0 13 rfl rfl)
theorem dX3_cosets_16 : decode cX3_cosets 16 = .ok (.invokestatic 170, 3) := dk_184 0 170 (dk_at dksX3_cosets_0 16 rfl rfl)
theorem dX3_cosets_19 : decode cX3_cosets 19 = .ok (.aload_n 0, 1) := dk_42 (dk_at dksX3_cosets_0 19 rfl rfl)
theorem dX3_cosets_20 : decode cX3_cosets 20 = .ok (.getfield 21, 3) := dk_180 0 21 (dk_at dksX3_cosets_0 20 rfl rfl)
theorem dX3_cosets_23 : decode cX3_cosets 23 = .ok (.iload_n 1, 1) := dk_27 (dk_at dksX3_cosets_0 23 rfl rfl)
theorem dX3_cosets_24 : decode cX3_cosets 24 = .ok (.invokeinterface 71 2, 5) := by decide +kernel
theorem dX3_cosets_29 : decode cX3_cosets 29 = .ok (.checkcast 107, 3) := dk_192 0 107 (dk_at dksX3_cosets_1 5 rfl rfl)
theorem dX3_cosets_32 : decode cX3_cosets 32 = .ok (.getfield 181, 3) := dk_180 0 181 (dk_at dksX3_cosets_1 8 rfl rfl)
theorem dX3_cosets_35 : decode cX3_cosets 35 = .ok (.idiv, 1) := dk_108 (dk_at dksX3_cosets_1 11 rfl rfl)
theorem dX3_cosets_36 : decode cX3_cosets 36 = .ok (.ireturn, 1) := dk_172 (dk_at dksX3_cosets_1 12 rfl rfl)
abbrev cX3_firstWrong : ByteArray := prog_3_method_26_code
def yX3_firstWrong : MethodName := ⟨RX3, "firstWrong", "([J)I"⟩
def dkwX3_firstWrong_1 : List UInt8 := [182, 0, 187, 133, 113, 9, 148, 153, 0, 5, 28, 172, 132, 2, 1, 167, 255, 220, 2, 172]
abbrev dktX3_firstWrong_1 : List UInt8 := dkwX3_firstWrong_1 ++ []
def dkwX3_firstWrong_0 : List UInt8 := [3, 61, 28, 42, 180, 0, 21, 185, 0, 58, 1, 0, 162, 0, 29, 42, 43, 28, 182, 0, 183, 42, 28]
abbrev dktX3_firstWrong_0 : List UInt8 := dkwX3_firstWrong_0 ++ dktX3_firstWrong_1
theorem dksX3_firstWrong_0 : cX3_firstWrong.data.toList.drop 0 = dktX3_firstWrong_0 := by decide +kernel
theorem dksX3_firstWrong_1 : cX3_firstWrong.data.toList.drop 23 = dktX3_firstWrong_1 := dk_seg dksX3_firstWrong_0 23 rfl rfl
theorem dX3_firstWrong_0 : decode cX3_firstWrong 0 = .ok (.iconst 0, 1) := dk_3 (dk_at dksX3_firstWrong_0 0 rfl rfl)
theorem dX3_firstWrong_1 : decode cX3_firstWrong 1 = .ok (.istore_n 2, 1) := dk_61 (dk_at dksX3_firstWrong_0 1 rfl rfl)
theorem dX3_firstWrong_2 : decode cX3_firstWrong 2 = .ok (.iload_n 2, 1) := dk_28 (dk_at dksX3_firstWrong_0 2 rfl rfl)
theorem dX3_firstWrong_3 : decode cX3_firstWrong 3 = .ok (.aload_n 0, 1) := dk_42 (dk_at dksX3_firstWrong_0 3 rfl rfl)
theorem dX3_firstWrong_4 : decode cX3_firstWrong 4 = .ok (.getfield 21, 3) := dk_180 0 21 (dk_at dksX3_firstWrong_0 4 rfl rfl)
theorem dX3_firstWrong_7 : decode cX3_firstWrong 7 = .ok (.invokeinterface 58 1, 5) := by decide +kernel
theorem dX3_firstWrong_12 : decode cX3_firstWrong 12 = .ok (.if_icmp .ge 29, 3) := dk_162 0 29 (dk_at dksX3_firstWrong_0 12 rfl rfl)
theorem dX3_firstWrong_15 : decode cX3_firstWrong 15 = .ok (.aload_n 0, 1) := dk_42 (dk_at dksX3_firstWrong_0 15 rfl rfl)
theorem dX3_firstWrong_16 : decode cX3_firstWrong 16 = .ok (.aload_n 1, 1) := dk_43 (dk_at dksX3_firstWrong_0 16 rfl rfl)
theorem dX3_firstWrong_17 : decode cX3_firstWrong 17 = .ok (.iload_n 2, 1) := dk_28 (dk_at dksX3_firstWrong_0 17 rfl rfl)
theorem dX3_firstWrong_18 : decode cX3_firstWrong 18 = .ok (.invokevirtual 183, 3) := dk_182 0 183 (dk_at dksX3_firstWrong_0 18 rfl rfl)
theorem dX3_firstWrong_21 : decode cX3_firstWrong 21 = .ok (.aload_n 0, 1) := dk_42 (dk_at dksX3_firstWrong_0 21 rfl rfl)
theorem dX3_firstWrong_22 : decode cX3_firstWrong 22 = .ok (.iload_n 2, 1) := dk_28 (dk_at dksX3_firstWrong_0 22 rfl rfl)
theorem dX3_firstWrong_23 : decode cX3_firstWrong 23 = .ok (.invokevirtual 187, 3) := dk_182 0 187 (dk_at dksX3_firstWrong_1 0 rfl rfl)
theorem dX3_firstWrong_26 : decode cX3_firstWrong 26 = .ok (.i2l, 1) := dk_133 (dk_at dksX3_firstWrong_1 3 rfl rfl)
theorem dX3_firstWrong_27 : decode cX3_firstWrong 27 = .ok (.lrem, 1) := dk_113 (dk_at dksX3_firstWrong_1 4 rfl rfl)
theorem dX3_firstWrong_28 : decode cX3_firstWrong 28 = .ok (.lconst 0, 1) := dk_9 (dk_at dksX3_firstWrong_1 5 rfl rfl)
theorem dX3_firstWrong_29 : decode cX3_firstWrong 29 = .ok (.lcmp, 1) := dk_148 (dk_at dksX3_firstWrong_1 6 rfl rfl)
theorem dX3_firstWrong_30 : decode cX3_firstWrong 30 = .ok (.ifCond .eq 5, 3) := dk_153 0 5 (dk_at dksX3_firstWrong_1 7 rfl rfl)
theorem dX3_firstWrong_33 : decode cX3_firstWrong 33 = .ok (.iload_n 2, 1) := dk_28 (dk_at dksX3_firstWrong_1 10 rfl rfl)
theorem dX3_firstWrong_34 : decode cX3_firstWrong 34 = .ok (.ireturn, 1) := dk_172 (dk_at dksX3_firstWrong_1 11 rfl rfl)
theorem dX3_firstWrong_35 : decode cX3_firstWrong 35 = .ok (.iinc 2 1, 3) := dk_132 2 1 (dk_at dksX3_firstWrong_1 12 rfl rfl)
theorem dX3_firstWrong_38 : decode cX3_firstWrong 38 = .ok (.goto (-36), 3) := dk_167 255 220 (dk_at dksX3_firstWrong_1 15 rfl rfl)
theorem dX3_firstWrong_41 : decode cX3_firstWrong 41 = .ok (.iconst (-1), 1) := dk_2 (dk_at dksX3_firstWrong_1 18 rfl rfl)
theorem dX3_firstWrong_42 : decode cX3_firstWrong 42 = .ok (.ireturn, 1) := dk_172 (dk_at dksX3_firstWrong_1 19 rfl rfl)
theorem q156 : (Jvm.Cond.initialized "TroupeSums$Group") ∈ lw_all := lw_g (lw_at lw_m1 23 rfl) rfl
theorem q299 : (Jvm.Cond.fieldLinkNest "TroupeSums$Group" (173 : Nat) "TroupeSums$Row" "to" "[I" "TroupeSums") ∈ lw_tbl := lw_at lw_m1 166 rfl
theorem q673 : (Jvm.Cond.instantiable "TroupeSums$Group" (8 : Nat)) ∈ lw_all := lw_g (lw_at lw_m3 60 rfl) rfl
theorem q675 : (Jvm.Cond.instanceMethod ({ cls := "TroupeSums$Group", name := "<init>", desc := "(ILjava/util/TreeMap;)V" } : Jvm.MethodName)) ∈ lw_all := lw_g (lw_at lw_m3 62 rfl) rfl
theorem q676 : (Jvm.Cond.code ({ cls := "TroupeSums$Group", name := "<init>", desc := "(ILjava/util/TreeMap;)V" } : Jvm.MethodName) prog_3_method_1_code (6 : Nat) (Option.none : Option Jvm.ClassFile.FieldType)) ∈ lw_all := lw_g (lw_at lw_m3 63 rfl) rfl
theorem q677 : (Jvm.Cond.methodLink "TroupeSums$Group" (3 : Nat) ({ cls := "java/lang/Object", name := "<init>", desc := "()V" } : Jvm.MethodName)) ∈ lw_all := lw_g (lw_at lw_m3 64 rfl) rfl
theorem q678 : (Jvm.Cond.classLink "TroupeSums$Group" (9 : Nat) "java/util/ArrayList") ∈ lw_all := lw_g (lw_at lw_m3 65 rfl) rfl
theorem q679 : (Jvm.Cond.methodLink "TroupeSums$Group" (11 : Nat) ({ cls := "java/util/ArrayList", name := "<init>", desc := "()V" } : Jvm.MethodName)) ∈ lw_all := lw_g (lw_at lw_m3 66 rfl) rfl
theorem q680 : (Jvm.Cond.methodLink "TroupeSums$Group" (28 : Nat) ({ cls := "java/util/TreeMap", name := "keySet", desc := "()Ljava/util/Set;" } : Jvm.MethodName)) ∈ lw_all := lw_g (lw_at lw_m3 67 rfl) rfl
theorem q701 : (Jvm.Cond.interfaceEntry "TroupeSums$Group" (34 : Nat)) ∈ lw_tbl := lw_at lw_m3 88 rfl
theorem q702 : (Jvm.Cond.methodLink "TroupeSums$Group" (34 : Nat) ({ cls := "java/util/Set", name := "iterator", desc := "()Ljava/util/Iterator;" } : Jvm.MethodName)) ∈ lw_all := lw_g (lw_at lw_m3 89 rfl) rfl
theorem q746 : (Jvm.Cond.interfaceEntry "TroupeSums$Group" (40 : Nat)) ∈ lw_tbl := lw_at lw_m3 133 rfl
theorem q747 : (Jvm.Cond.methodLink "TroupeSums$Group" (40 : Nat) ({ cls := "java/util/Iterator", name := "hasNext", desc := "()Z" } : Jvm.MethodName)) ∈ lw_all := lw_g (lw_at lw_m3 134 rfl) rfl
theorem q762 : (Jvm.Cond.interfaceEntry "TroupeSums$Group" (46 : Nat)) ∈ lw_tbl := lw_at lw_m3 149 rfl
theorem q763 : (Jvm.Cond.methodLink "TroupeSums$Group" (46 : Nat) ({ cls := "java/util/Iterator", name := "next", desc := "()Ljava/lang/Object;" } : Jvm.MethodName)) ∈ lw_all := lw_g (lw_at lw_m3 150 rfl) rfl
theorem q789 : (Jvm.Cond.classLink "TroupeSums$Group" (50 : Nat) "TroupeSums$Row") ∈ lw_all := lw_g (lw_at lw_m3 176 rfl) rfl
theorem q790 : (Jvm.Cond.interfaceEntry "TroupeSums$Group" (52 : Nat)) ∈ lw_tbl := lw_at lw_m3 177 rfl
theorem q791 : (Jvm.Cond.methodLink "TroupeSums$Group" (52 : Nat) ({ cls := "java/util/List", name := "add", desc := "(Ljava/lang/Object;)Z" } : Jvm.MethodName)) ∈ lw_all := lw_g (lw_at lw_m3 178 rfl) rfl
theorem q830 : (Jvm.Cond.selects "TroupeSums$Group" ({ cls := "java/lang/Object", name := "getClass", desc := "()Ljava/lang/Class;" } : Jvm.MethodName) ({ cls := "java/lang/Object", name := "getClass", desc := "()Ljava/lang/Class;" } : Jvm.MethodName)) ∈ lw_all := lw_g (lw_at lw_m3 217 rfl) rfl
theorem q870 : (Jvm.Cond.interfaceEntry "TroupeSums$Group" (58 : Nat)) ∈ lw_tbl := lw_at lw_m4 17 rfl
theorem q871 : (Jvm.Cond.methodLink "TroupeSums$Group" (58 : Nat) ({ cls := "java/util/List", name := "size", desc := "()I" } : Jvm.MethodName)) ∈ lw_all := lw_g (lw_at lw_m4 18 rfl) rfl
theorem q879 : (Jvm.Cond.classLink "TroupeSums$Group" (62 : Nat) "[[I") ∈ lw_all := lw_g (lw_at lw_m4 26 rfl) rfl
theorem q881 : (Jvm.Cond.interfaceEntry "TroupeSums$Group" (71 : Nat)) ∈ lw_tbl := lw_at lw_m4 28 rfl
theorem q882 : (Jvm.Cond.methodLink "TroupeSums$Group" (71 : Nat) ({ cls := "java/util/List", name := "get", desc := "(I)Ljava/lang/Object;" } : Jvm.MethodName)) ∈ lw_all := lw_g (lw_at lw_m4 29 rfl) rfl
theorem q900 : (Jvm.Cond.methodLink "TroupeSums$Group" (75 : Nat) ({ cls := "java/lang/Integer", name := "valueOf", desc := "(I)Ljava/lang/Integer;" } : Jvm.MethodName)) ∈ lw_all := lw_g (lw_at lw_m4 47 rfl) rfl
theorem q901 : (Jvm.Cond.methodLink "TroupeSums$Group" (81 : Nat) ({ cls := "java/util/TreeMap", name := "put", desc := "(Ljava/lang/Object;Ljava/lang/Object;)Ljava/lang/Object;" } : Jvm.MethodName)) ∈ lw_all := lw_g (lw_at lw_m4 48 rfl) rfl
theorem q902 : (Jvm.Cond.methodLink "TroupeSums$Group" (85 : Nat) ({ cls := "TroupeSums$Row", name := "then", desc := "(LTroupeSums$Row;)LTroupeSums$Row;" } : Jvm.MethodName)) ∈ lw_all := lw_g (lw_at lw_m4 49 rfl) rfl
theorem q907 : (Jvm.Cond.methodLink "TroupeSums$Group" (89 : Nat) ({ cls := "java/util/TreeMap", name := "get", desc := "(Ljava/lang/Object;)Ljava/lang/Object;" } : Jvm.MethodName)) ∈ lw_all := lw_g (lw_at lw_m4 54 rfl) rfl
theorem q919 : (Jvm.Cond.classLink "TroupeSums$Group" (76 : Nat) "java/lang/Integer") ∈ lw_all := lw_g (lw_at lw_m4 66 rfl) rfl
theorem q920 : (Jvm.Cond.methodLink "TroupeSums$Group" (92 : Nat) ({ cls := "java/lang/Integer", name := "intValue", desc := "()I" } : Jvm.MethodName)) ∈ lw_all := lw_g (lw_at lw_m4 67 rfl) rfl
theorem q924 : (Jvm.Cond.methodLink "TroupeSums$Group" (95 : Nat) ({ cls := "TroupeSums$Group", name := "findSubgroups", desc := "()V" } : Jvm.MethodName)) ∈ lw_all := lw_g (lw_at lw_m4 71 rfl) rfl
theorem q925 : (Jvm.Cond.privateMethod ({ cls := "TroupeSums$Group", name := "findSubgroups", desc := "()V" } : Jvm.MethodName)) ∈ lw_tbl := lw_at lw_m4 72 rfl
theorem q926 : (Jvm.Cond.instanceMethod ({ cls := "TroupeSums$Group", name := "findSubgroups", desc := "()V" } : Jvm.MethodName)) ∈ lw_all := lw_g (lw_at lw_m4 73 rfl) rfl
theorem q927 : (Jvm.Cond.code ({ cls := "TroupeSums$Group", name := "findSubgroups", desc := "()V" } : Jvm.MethodName) prog_3_method_4_code (4 : Nat) (Option.none : Option Jvm.ClassFile.FieldType)) ∈ lw_all := lw_g (lw_at lw_m4 74 rfl) rfl
theorem q928 : (Jvm.Cond.methodLink "TroupeSums$Group" (116 : Nat) ({ cls := "TroupeSums$Group", name := "size", desc := "()I" } : Jvm.MethodName)) ∈ lw_all := lw_g (lw_at lw_m4 75 rfl) rfl
theorem q929 : (Jvm.Cond.instanceMethod ({ cls := "TroupeSums$Group", name := "size", desc := "()I" } : Jvm.MethodName)) ∈ lw_all := lw_g (lw_at lw_m4 76 rfl) rfl
theorem q930 : (Jvm.Cond.selects "TroupeSums$Group" ({ cls := "TroupeSums$Group", name := "size", desc := "()I" } : Jvm.MethodName) ({ cls := "TroupeSums$Group", name := "size", desc := "()I" } : Jvm.MethodName)) ∈ lw_all := lw_g (lw_at lw_m4 77 rfl) rfl
theorem q931 : (Jvm.Cond.code ({ cls := "TroupeSums$Group", name := "size", desc := "()I" } : Jvm.MethodName) prog_3_method_2_code (1 : Nat) (Option.some Jvm.ClassFile.FieldType.int)) ∈ lw_all := lw_g (lw_at lw_m4 78 rfl) rfl
theorem q932 : (Jvm.Cond.methodLink "TroupeSums$Group" (121 : Nat) ({ cls := "TroupeSums$Group", name := "made", desc := "(I)I" } : Jvm.MethodName)) ∈ lw_all := lw_g (lw_at lw_m4 79 rfl) rfl
theorem q933 : (Jvm.Cond.instanceMethod ({ cls := "TroupeSums$Group", name := "made", desc := "(I)I" } : Jvm.MethodName)) ∈ lw_all := lw_g (lw_at lw_m4 80 rfl) rfl
theorem q934 : (Jvm.Cond.selects "TroupeSums$Group" ({ cls := "TroupeSums$Group", name := "made", desc := "(I)I" } : Jvm.MethodName) ({ cls := "TroupeSums$Group", name := "made", desc := "(I)I" } : Jvm.MethodName)) ∈ lw_all := lw_g (lw_at lw_m4 81 rfl) rfl
theorem q935 : (Jvm.Cond.code ({ cls := "TroupeSums$Group", name := "made", desc := "(I)I" } : Jvm.MethodName) prog_3_method_3_code (6 : Nat) (Option.some Jvm.ClassFile.FieldType.int)) ∈ lw_all := lw_g (lw_at lw_m4 82 rfl) rfl
theorem q936 : (Jvm.Cond.methodLinkNest "TroupeSums$Group" (117 : Nat) ({ cls := "TroupeSums", name := "isOf", desc := "(JI)Z" } : Jvm.MethodName) "TroupeSums") ∈ lw_tbl := lw_at lw_m4 83 rfl
theorem q939 : (Jvm.Cond.interfaceEntry "TroupeSums$Group" (125 : Nat)) ∈ lw_tbl := lw_at lw_m4 86 rfl
theorem q940 : (Jvm.Cond.methodLink "TroupeSums$Group" (125 : Nat) ({ cls := "java/util/List", name := "contains", desc := "(Ljava/lang/Object;)Z" } : Jvm.MethodName)) ∈ lw_all := lw_g (lw_at lw_m4 87 rfl) rfl
theorem q962 : (Jvm.Cond.selects "TroupeSums$Group" ({ cls := "java/lang/Object", name := "equals", desc := "(Ljava/lang/Object;)Z" } : Jvm.MethodName) ({ cls := "java/lang/Object", name := "equals", desc := "(Ljava/lang/Object;)Z" } : Jvm.MethodName)) ∈ lw_all := lw_g (lw_at lw_m4 109 rfl) rfl
theorem q990 : (Jvm.Cond.methodLink "TroupeSums$Group" (101 : Nat) ({ cls := "TroupeSums$Group", name := "findSorts", desc := "()V" } : Jvm.MethodName)) ∈ lw_all := lw_g (lw_at lw_m4 137 rfl) rfl
theorem q991 : (Jvm.Cond.privateMethod ({ cls := "TroupeSums$Group", name := "findSorts", desc := "()V" } : Jvm.MethodName)) ∈ lw_tbl := lw_at lw_m4 138 rfl
theorem q992 : (Jvm.Cond.instanceMethod ({ cls := "TroupeSums$Group", name := "findSorts", desc := "()V" } : Jvm.MethodName)) ∈ lw_all := lw_g (lw_at lw_m4 139 rfl) rfl
theorem q993 : (Jvm.Cond.code ({ cls := "TroupeSums$Group", name := "findSorts", desc := "()V" } : Jvm.MethodName) prog_3_method_7_code (4 : Nat) (Option.none : Option Jvm.ClassFile.FieldType)) ∈ lw_all := lw_g (lw_at lw_m4 140 rfl) rfl
theorem q994 : (Jvm.Cond.classLink "TroupeSums$Group" (136 : Nat) "java/util/PriorityQueue") ∈ lw_all := lw_g (lw_at lw_m4 141 rfl) rfl
theorem q996 : (Jvm.Cond.classLink "TroupeSums$Group" (138 : Nat) "TroupeSums$BySize") ∈ lw_all := lw_g (lw_at lw_m4 143 rfl) rfl
theorem q998 : (Jvm.Cond.methodLinkNest "TroupeSums$Group" (140 : Nat) ({ cls := "TroupeSums$BySize", name := "<init>", desc := "()V" } : Jvm.MethodName) "TroupeSums") ∈ lw_tbl := lw_at lw_m4 145 rfl
theorem q1003 : (Jvm.Cond.methodLink "TroupeSums$Group" (141 : Nat) ({ cls := "java/util/PriorityQueue", name := "<init>", desc := "(Ljava/util/Comparator;)V" } : Jvm.MethodName)) ∈ lw_all := lw_g (lw_at lw_m4 150 rfl) rfl
theorem q1027 : (Jvm.Cond.interfaceEntry "TroupeSums$Group" (144 : Nat)) ∈ lw_tbl := lw_at lw_m4 174 rfl
theorem q1028 : (Jvm.Cond.methodLink "TroupeSums$Group" (144 : Nat) ({ cls := "java/util/List", name := "iterator", desc := "()Ljava/util/Iterator;" } : Jvm.MethodName)) ∈ lw_all := lw_g (lw_at lw_m4 175 rfl) rfl
theorem q1055 : (Jvm.Cond.methodLink "TroupeSums$Group" (145 : Nat) ({ cls := "TroupeSums$Group", name := "firstOf", desc := "(I)I" } : Jvm.MethodName)) ∈ lw_all := lw_g (lw_at lw_m4 202 rfl) rfl
theorem q1056 : (Jvm.Cond.privateMethod ({ cls := "TroupeSums$Group", name := "firstOf", desc := "(I)I" } : Jvm.MethodName)) ∈ lw_tbl := lw_at lw_m4 203 rfl
theorem q1057 : (Jvm.Cond.instanceMethod ({ cls := "TroupeSums$Group", name := "firstOf", desc := "(I)I" } : Jvm.MethodName)) ∈ lw_all := lw_g (lw_at lw_m4 204 rfl) rfl
theorem q1058 : (Jvm.Cond.code ({ cls := "TroupeSums$Group", name := "firstOf", desc := "(I)I" } : Jvm.MethodName) prog_3_method_6_code (4 : Nat) (Option.some Jvm.ClassFile.FieldType.int)) ∈ lw_all := lw_g (lw_at lw_m4 205 rfl) rfl
theorem q1059 : (Jvm.Cond.methodLink "TroupeSums$Group" (128 : Nat) ({ cls := "TroupeSums$Group", name := "turned", desc := "(II)I" } : Jvm.MethodName)) ∈ lw_all := lw_g (lw_at lw_m4 206 rfl) rfl
theorem q1060 : (Jvm.Cond.instanceMethod ({ cls := "TroupeSums$Group", name := "turned", desc := "(II)I" } : Jvm.MethodName)) ∈ lw_all := lw_g (lw_at lw_m4 207 rfl) rfl
theorem q1061 : (Jvm.Cond.selects "TroupeSums$Group" ({ cls := "TroupeSums$Group", name := "turned", desc := "(II)I" } : Jvm.MethodName) ({ cls := "TroupeSums$Group", name := "turned", desc := "(II)I" } : Jvm.MethodName)) ∈ lw_all := lw_g (lw_at lw_m4 208 rfl) rfl
theorem q1062 : (Jvm.Cond.code ({ cls := "TroupeSums$Group", name := "turned", desc := "(II)I" } : Jvm.MethodName) prog_3_method_5_code (5 : Nat) (Option.some Jvm.ClassFile.FieldType.int)) ∈ lw_all := lw_g (lw_at lw_m4 209 rfl) rfl
theorem q1063 : (Jvm.Cond.methodLink "TroupeSums$Group" (131 : Nat) ({ cls := "java/lang/Math", name := "min", desc := "(II)I" } : Jvm.MethodName)) ∈ lw_all := lw_g (lw_at lw_m4 210 rfl) rfl
theorem q1064 : (Jvm.Cond.classLink "TroupeSums$Group" (107 : Nat) "TroupeSums$Sort") ∈ lw_all := lw_g (lw_at lw_m4 211 rfl) rfl
theorem q1066 : (Jvm.Cond.methodLink "TroupeSums$Group" (148 : Nat) ({ cls := "TroupeSums$Sort", name := "<init>", desc := "(I)V" } : Jvm.MethodName)) ∈ lw_all := lw_g (lw_at lw_m4 213 rfl) rfl
theorem q1079 : (Jvm.Cond.fieldLinkNest "TroupeSums$Group" (181 : Nat) "TroupeSums$Sort" "size" "I" "TroupeSums") ∈ lw_tbl := lw_at lw_m4 226 rfl
theorem q1081 : (Jvm.Cond.fieldLinkNest "TroupeSums$Group" (109 : Nat) "TroupeSums$Sort" "first" "I" "TroupeSums") ∈ lw_tbl := lw_at lw_m4 228 rfl
theorem q1084 : (Jvm.Cond.fieldLinkNest "TroupeSums$Group" (158 : Nat) "TroupeSums$Sort" "many" "I" "TroupeSums") ∈ lw_tbl := lw_at lw_m4 231 rfl
theorem q1086 : (Jvm.Cond.fieldLinkNest "TroupeSums$Group" (164 : Nat) "TroupeSums$Sort" "norm" "I" "TroupeSums") ∈ lw_tbl := lw_at lw_m4 233 rfl
theorem q1097 : (Jvm.Cond.methodLink "TroupeSums$Group" (151 : Nat) ({ cls := "java/util/PriorityQueue", name := "add", desc := "(Ljava/lang/Object;)Z" } : Jvm.MethodName)) ∈ lw_all := lw_g (lw_at lw_m5 4 rfl) rfl
theorem q1126 : (Jvm.Cond.methodLink "TroupeSums$Group" (152 : Nat) ({ cls := "java/util/PriorityQueue", name := "isEmpty", desc := "()Z" } : Jvm.MethodName)) ∈ lw_all := lw_g (lw_at lw_m5 33 rfl) rfl
theorem q1157 : (Jvm.Cond.methodLink "TroupeSums$Group" (155 : Nat) ({ cls := "java/util/PriorityQueue", name := "remove", desc := "()Ljava/lang/Object;" } : Jvm.MethodName)) ∈ lw_all := lw_g (lw_at lw_m5 64 rfl) rfl
theorem q1174 : (Jvm.Cond.methodLink "TroupeSums$Group" (161 : Nat) ({ cls := "TroupeSums$Group", name := "norm", desc := "(I)I" } : Jvm.MethodName)) ∈ lw_all := lw_g (lw_at lw_m5 81 rfl) rfl
theorem q1175 : (Jvm.Cond.instanceMethod ({ cls := "TroupeSums$Group", name := "norm", desc := "(I)I" } : Jvm.MethodName)) ∈ lw_all := lw_g (lw_at lw_m5 82 rfl) rfl
theorem q1176 : (Jvm.Cond.selects "TroupeSums$Group" ({ cls := "TroupeSums$Group", name := "norm", desc := "(I)I" } : Jvm.MethodName) ({ cls := "TroupeSums$Group", name := "norm", desc := "(I)I" } : Jvm.MethodName)) ∈ lw_all := lw_g (lw_at lw_m5 83 rfl) rfl
theorem q1177 : (Jvm.Cond.code ({ cls := "TroupeSums$Group", name := "norm", desc := "(I)I" } : Jvm.MethodName) prog_3_method_8_code (4 : Nat) (Option.some Jvm.ClassFile.FieldType.int)) ∈ lw_all := lw_g (lw_at lw_m5 84 rfl) rfl
theorem q1178 : (Jvm.Cond.methodLink "TroupeSums$Group" (112 : Nat) ({ cls := "TroupeSums$Group", name := "mark", desc := "(II)I" } : Jvm.MethodName)) ∈ lw_all := lw_g (lw_at lw_m5 85 rfl) rfl
theorem q1179 : (Jvm.Cond.privateMethod ({ cls := "TroupeSums$Group", name := "mark", desc := "(II)I" } : Jvm.MethodName)) ∈ lw_tbl := lw_at lw_m5 86 rfl
theorem q1180 : (Jvm.Cond.instanceMethod ({ cls := "TroupeSums$Group", name := "mark", desc := "(II)I" } : Jvm.MethodName)) ∈ lw_all := lw_g (lw_at lw_m5 87 rfl) rfl
theorem q1181 : (Jvm.Cond.code ({ cls := "TroupeSums$Group", name := "mark", desc := "(II)I" } : Jvm.MethodName) prog_3_method_10_code (5 : Nat) (Option.some Jvm.ClassFile.FieldType.int)) ∈ lw_all := lw_g (lw_at lw_m5 88 rfl) rfl
theorem q1182 : (Jvm.Cond.methodLink "TroupeSums$Group" (170 : Nat) ({ cls := "java/lang/Integer", name := "bitCount", desc := "(I)I" } : Jvm.MethodName)) ∈ lw_all := lw_g (lw_at lw_m5 89 rfl) rfl
theorem q1183 : (Jvm.Cond.fieldLink "TroupeSums$Group" (24 : Nat) "TroupeSums$Group" "places" "I") ∈ lw_all := lw_g (lw_at lw_m5 90 rfl) rfl
theorem q1184 : (Jvm.Cond.fieldLink "TroupeSums$Group" (12 : Nat) "TroupeSums$Group" "rows" "Ljava/util/List;") ∈ lw_all := lw_g (lw_at lw_m5 91 rfl) rfl
theorem q1186 : (Jvm.Cond.fieldLink "TroupeSums$Group" (64 : Nat) "TroupeSums$Group" "times" "[[I") ∈ lw_all := lw_g (lw_at lw_m5 93 rfl) rfl
theorem q1188 : (Jvm.Cond.fieldLink "TroupeSums$Group" (67 : Nat) "TroupeSums$Group" "undo" "[I") ∈ lw_all := lw_g (lw_at lw_m5 95 rfl) rfl
theorem q1189 : (Jvm.Cond.fieldLink "TroupeSums$Group" (18 : Nat) "TroupeSums$Group" "subgroups" "Ljava/util/List;") ∈ lw_all := lw_g (lw_at lw_m5 96 rfl) rfl
theorem q1192 : (Jvm.Cond.fieldLink "TroupeSums$Group" (21 : Nat) "TroupeSums$Group" "sorts" "Ljava/util/List;") ∈ lw_all := lw_g (lw_at lw_m5 99 rfl) rfl
theorem q1196 : (Jvm.Cond.fieldLink "TroupeSums$Group" (98 : Nat) "TroupeSums$Group" "sortOf" "[I") ∈ lw_all := lw_g (lw_at lw_m5 103 rfl) rfl
theorem q1197 : (Jvm.Cond.fieldLink "TroupeSums$Group" (104 : Nat) "TroupeSums$Group" "marks" "[[I") ∈ lw_all := lw_g (lw_at lw_m5 104 rfl) rfl
theorem q1200 : (Jvm.Cond.laysFinal "TroupeSums$Group" "TroupeSums$Group" "places" "I") ∈ lw_all := lw_g (lw_at lw_m5 107 rfl) rfl
theorem q1201 : (Jvm.Cond.soleField "TroupeSums$Group" "places") ∈ lw_all := lw_g (lw_at lw_m5 108 rfl) rfl
theorem q1202 : (Jvm.Cond.laysFinal "TroupeSums$Group" "TroupeSums$Group" "rows" "Ljava/util/List;") ∈ lw_all := lw_g (lw_at lw_m5 109 rfl) rfl
theorem q1203 : (Jvm.Cond.soleField "TroupeSums$Group" "rows") ∈ lw_all := lw_g (lw_at lw_m5 110 rfl) rfl
theorem q1204 : (Jvm.Cond.laysFinal "TroupeSums$Group" "TroupeSums$Group" "times" "[[I") ∈ lw_all := lw_g (lw_at lw_m5 111 rfl) rfl
theorem q1205 : (Jvm.Cond.soleField "TroupeSums$Group" "times") ∈ lw_all := lw_g (lw_at lw_m5 112 rfl) rfl
theorem q1206 : (Jvm.Cond.laysFinal "TroupeSums$Group" "TroupeSums$Group" "undo" "[I") ∈ lw_all := lw_g (lw_at lw_m5 113 rfl) rfl
theorem q1207 : (Jvm.Cond.soleField "TroupeSums$Group" "undo") ∈ lw_all := lw_g (lw_at lw_m5 114 rfl) rfl
theorem q1208 : (Jvm.Cond.laysFinal "TroupeSums$Group" "TroupeSums$Group" "subgroups" "Ljava/util/List;") ∈ lw_all := lw_g (lw_at lw_m5 115 rfl) rfl
theorem q1209 : (Jvm.Cond.soleField "TroupeSums$Group" "subgroups") ∈ lw_all := lw_g (lw_at lw_m5 116 rfl) rfl
theorem q1210 : (Jvm.Cond.laysFinal "TroupeSums$Group" "TroupeSums$Group" "sorts" "Ljava/util/List;") ∈ lw_all := lw_g (lw_at lw_m5 117 rfl) rfl
theorem q1211 : (Jvm.Cond.soleField "TroupeSums$Group" "sorts") ∈ lw_all := lw_g (lw_at lw_m5 118 rfl) rfl
theorem q1212 : (Jvm.Cond.laysFinal "TroupeSums$Group" "TroupeSums$Group" "sortOf" "[I") ∈ lw_all := lw_g (lw_at lw_m5 119 rfl) rfl
theorem q1213 : (Jvm.Cond.soleField "TroupeSums$Group" "sortOf") ∈ lw_all := lw_g (lw_at lw_m5 120 rfl) rfl
theorem q1214 : (Jvm.Cond.laysFinal "TroupeSums$Group" "TroupeSums$Group" "marks" "[[I") ∈ lw_all := lw_g (lw_at lw_m5 121 rfl) rfl
theorem q1215 : (Jvm.Cond.soleField "TroupeSums$Group" "marks") ∈ lw_all := lw_g (lw_at lw_m5 122 rfl) rfl
theorem q1216 : (Jvm.Cond.superclass "TroupeSums$Group" "java/lang/Object") ∈ lw_all := lw_g (lw_at lw_m5 123 rfl) rfl
theorem q1813 : (Jvm.Cond.instanceMethod ({ cls := "TroupeSums$Group", name := "marksOf", desc := "([J)[J" } : Jvm.MethodName)) ∈ lw_all := lw_g (lw_at lw_m8 0 rfl) rfl
theorem q1814 : (Jvm.Cond.selects "TroupeSums$Group" ({ cls := "TroupeSums$Group", name := "marksOf", desc := "([J)[J" } : Jvm.MethodName) ({ cls := "TroupeSums$Group", name := "marksOf", desc := "([J)[J" } : Jvm.MethodName)) ∈ lw_all := lw_g (lw_at lw_m8 1 rfl) rfl
theorem q1815 : (Jvm.Cond.code ({ cls := "TroupeSums$Group", name := "marksOf", desc := "([J)[J" } : Jvm.MethodName) prog_3_method_28_code (5 : Nat) (Option.some (Jvm.ClassFile.FieldType.array Jvm.ClassFile.FieldType.long))) ∈ lw_all := lw_g (lw_at lw_m8 2 rfl) rfl
theorem q1860 : (Jvm.Cond.instanceMethod ({ cls := "TroupeSums$Group", name := "solved", desc := "([J)[J" } : Jvm.MethodName)) ∈ lw_all := lw_g (lw_at lw_m8 47 rfl) rfl
theorem q1861 : (Jvm.Cond.selects "TroupeSums$Group" ({ cls := "TroupeSums$Group", name := "solved", desc := "([J)[J" } : Jvm.MethodName) ({ cls := "TroupeSums$Group", name := "solved", desc := "([J)[J" } : Jvm.MethodName)) ∈ lw_all := lw_g (lw_at lw_m8 48 rfl) rfl
theorem q1862 : (Jvm.Cond.code ({ cls := "TroupeSums$Group", name := "solved", desc := "([J)[J" } : Jvm.MethodName) prog_3_method_27_code (7 : Nat) (Option.some (Jvm.ClassFile.FieldType.array Jvm.ClassFile.FieldType.long))) ∈ lw_all := lw_g (lw_at lw_m8 49 rfl) rfl
theorem q1936 : (Jvm.Cond.instanceMethod ({ cls := "TroupeSums$Group", name := "isLevel", desc := "(I)Z" } : Jvm.MethodName)) ∈ lw_all := lw_g (lw_at lw_m8 123 rfl) rfl
theorem q1937 : (Jvm.Cond.selects "TroupeSums$Group" ({ cls := "TroupeSums$Group", name := "isLevel", desc := "(I)Z" } : Jvm.MethodName) ({ cls := "TroupeSums$Group", name := "isLevel", desc := "(I)Z" } : Jvm.MethodName)) ∈ lw_all := lw_g (lw_at lw_m8 124 rfl) rfl
theorem q1938 : (Jvm.Cond.code ({ cls := "TroupeSums$Group", name := "isLevel", desc := "(I)Z" } : Jvm.MethodName) prog_3_method_12_code (4 : Nat) (Option.some Jvm.ClassFile.FieldType.boolean)) ∈ lw_all := lw_g (lw_at lw_m8 125 rfl) rfl
theorem q1989 : (Jvm.Cond.instanceMethod ({ cls := "TroupeSums$Group", name := "order", desc := "(I)I" } : Jvm.MethodName)) ∈ lw_all := lw_g (lw_at lw_m8 176 rfl) rfl
theorem q1990 : (Jvm.Cond.selects "TroupeSums$Group" ({ cls := "TroupeSums$Group", name := "order", desc := "(I)I" } : Jvm.MethodName) ({ cls := "TroupeSums$Group", name := "order", desc := "(I)I" } : Jvm.MethodName)) ∈ lw_all := lw_g (lw_at lw_m8 177 rfl) rfl
theorem q1991 : (Jvm.Cond.code ({ cls := "TroupeSums$Group", name := "order", desc := "(I)I" } : Jvm.MethodName) prog_3_method_11_code (4 : Nat) (Option.some Jvm.ClassFile.FieldType.int)) ∈ lw_all := lw_g (lw_at lw_m8 178 rfl) rfl
theorem q2006 : (Jvm.Cond.instanceMethod ({ cls := "TroupeSums$Group", name := "sortOf", desc := "(I)I" } : Jvm.MethodName)) ∈ lw_all := lw_g (lw_at lw_m8 193 rfl) rfl
theorem q2007 : (Jvm.Cond.selects "TroupeSums$Group" ({ cls := "TroupeSums$Group", name := "sortOf", desc := "(I)I" } : Jvm.MethodName) ({ cls := "TroupeSums$Group", name := "sortOf", desc := "(I)I" } : Jvm.MethodName)) ∈ lw_all := lw_g (lw_at lw_m8 194 rfl) rfl
theorem q2008 : (Jvm.Cond.code ({ cls := "TroupeSums$Group", name := "sortOf", desc := "(I)I" } : Jvm.MethodName) prog_3_method_9_code (2 : Nat) (Option.some Jvm.ClassFile.FieldType.int)) ∈ lw_all := lw_g (lw_at lw_m8 195 rfl) rfl
theorem q2009 : (Jvm.Cond.interfaceEntry "TroupeSums$Group" (166 : Nat)) ∈ lw_tbl := lw_at lw_m8 196 rfl
theorem q2010 : (Jvm.Cond.methodLink "TroupeSums$Group" (166 : Nat) ({ cls := "java/util/List", name := "indexOf", desc := "(Ljava/lang/Object;)I" } : Jvm.MethodName)) ∈ lw_all := lw_g (lw_at lw_m8 197 rfl) rfl
theorem q2022 : (Jvm.Cond.instanceMethod ({ cls := "TroupeSums$Group", name := "isRound", desc := "(I)Z" } : Jvm.MethodName)) ∈ lw_all := lw_g (lw_at lw_m8 209 rfl) rfl
theorem q2023 : (Jvm.Cond.selects "TroupeSums$Group" ({ cls := "TroupeSums$Group", name := "isRound", desc := "(I)Z" } : Jvm.MethodName) ({ cls := "TroupeSums$Group", name := "isRound", desc := "(I)Z" } : Jvm.MethodName)) ∈ lw_all := lw_g (lw_at lw_m8 210 rfl) rfl
theorem q2024 : (Jvm.Cond.code ({ cls := "TroupeSums$Group", name := "isRound", desc := "(I)Z" } : Jvm.MethodName) prog_3_method_13_code (3 : Nat) (Option.some Jvm.ClassFile.FieldType.boolean)) ∈ lw_all := lw_g (lw_at lw_m8 211 rfl) rfl
theorem q2030 : (Jvm.Cond.instanceMethod ({ cls := "TroupeSums$Group", name := "within", desc := "(II)I" } : Jvm.MethodName)) ∈ lw_all := lw_g (lw_at lw_m8 217 rfl) rfl
theorem q2031 : (Jvm.Cond.selects "TroupeSums$Group" ({ cls := "TroupeSums$Group", name := "within", desc := "(II)I" } : Jvm.MethodName) ({ cls := "TroupeSums$Group", name := "within", desc := "(II)I" } : Jvm.MethodName)) ∈ lw_all := lw_g (lw_at lw_m8 218 rfl) rfl
theorem q2032 : (Jvm.Cond.code ({ cls := "TroupeSums$Group", name := "within", desc := "(II)I" } : Jvm.MethodName) prog_3_method_14_code (5 : Nat) (Option.some Jvm.ClassFile.FieldType.int)) ∈ lw_all := lw_g (lw_at lw_m8 219 rfl) rfl
theorem q2052 : (Jvm.Cond.instanceMethod ({ cls := "TroupeSums$Group", name := "residue", desc := "(II)I" } : Jvm.MethodName)) ∈ lw_all := lw_g (lw_at lw_m8 239 rfl) rfl
theorem q2053 : (Jvm.Cond.selects "TroupeSums$Group" ({ cls := "TroupeSums$Group", name := "residue", desc := "(II)I" } : Jvm.MethodName) ({ cls := "TroupeSums$Group", name := "residue", desc := "(II)I" } : Jvm.MethodName)) ∈ lw_all := lw_g (lw_at lw_m9 0 rfl) rfl
theorem q2054 : (Jvm.Cond.code ({ cls := "TroupeSums$Group", name := "residue", desc := "(II)I" } : Jvm.MethodName) prog_3_method_22_code (8 : Nat) (Option.some Jvm.ClassFile.FieldType.int)) ∈ lw_all := lw_g (lw_at lw_m9 1 rfl) rfl
theorem q2055 : (Jvm.Cond.methodLink "TroupeSums$Group" (176 : Nat) ({ cls := "TroupeSums$Group", name := "sortOf", desc := "(I)I" } : Jvm.MethodName)) ∈ lw_all := lw_g (lw_at lw_m9 2 rfl) rfl
theorem q2061 : (Jvm.Cond.instanceMethod ({ cls := "TroupeSums$Group", name := "block", desc := "(II)I" } : Jvm.MethodName)) ∈ lw_all := lw_g (lw_at lw_m9 8 rfl) rfl
theorem q2062 : (Jvm.Cond.selects "TroupeSums$Group" ({ cls := "TroupeSums$Group", name := "block", desc := "(II)I" } : Jvm.MethodName) ({ cls := "TroupeSums$Group", name := "block", desc := "(II)I" } : Jvm.MethodName)) ∈ lw_all := lw_g (lw_at lw_m9 9 rfl) rfl
theorem q2063 : (Jvm.Cond.code ({ cls := "TroupeSums$Group", name := "block", desc := "(II)I" } : Jvm.MethodName) prog_3_method_23_code (5 : Nat) (Option.some Jvm.ClassFile.FieldType.int)) ∈ lw_all := lw_g (lw_at lw_m9 10 rfl) rfl
theorem q2064 : (Jvm.Cond.methodLink "TroupeSums$Group" (178 : Nat) ({ cls := "TroupeSums$Group", name := "residue", desc := "(II)I" } : Jvm.MethodName)) ∈ lw_all := lw_g (lw_at lw_m9 11 rfl) rfl
theorem q2074 : (Jvm.Cond.instanceMethod ({ cls := "TroupeSums$Group", name := "keeper", desc := "(I)I" } : Jvm.MethodName)) ∈ lw_all := lw_g (lw_at lw_m9 21 rfl) rfl
theorem q2075 : (Jvm.Cond.selects "TroupeSums$Group" ({ cls := "TroupeSums$Group", name := "keeper", desc := "(I)I" } : Jvm.MethodName) ({ cls := "TroupeSums$Group", name := "keeper", desc := "(I)I" } : Jvm.MethodName)) ∈ lw_all := lw_g (lw_at lw_m9 22 rfl) rfl
theorem q2076 : (Jvm.Cond.code ({ cls := "TroupeSums$Group", name := "keeper", desc := "(I)I" } : Jvm.MethodName) prog_3_method_20_code (4 : Nat) (Option.some Jvm.ClassFile.FieldType.int)) ∈ lw_all := lw_g (lw_at lw_m9 23 rfl) rfl
theorem q2082 : (Jvm.Cond.instanceMethod ({ cls := "TroupeSums$Group", name := "orbit", desc := "(I)I" } : Jvm.MethodName)) ∈ lw_all := lw_g (lw_at lw_m9 29 rfl) rfl
theorem q2083 : (Jvm.Cond.selects "TroupeSums$Group" ({ cls := "TroupeSums$Group", name := "orbit", desc := "(I)I" } : Jvm.MethodName) ({ cls := "TroupeSums$Group", name := "orbit", desc := "(I)I" } : Jvm.MethodName)) ∈ lw_all := lw_g (lw_at lw_m9 30 rfl) rfl
theorem q2084 : (Jvm.Cond.code ({ cls := "TroupeSums$Group", name := "orbit", desc := "(I)I" } : Jvm.MethodName) prog_3_method_21_code (5 : Nat) (Option.some Jvm.ClassFile.FieldType.int)) ∈ lw_all := lw_g (lw_at lw_m9 31 rfl) rfl
theorem q2090 : (Jvm.Cond.instanceMethod ({ cls := "TroupeSums$Group", name := "coset", desc := "(II)I" } : Jvm.MethodName)) ∈ lw_all := lw_g (lw_at lw_m9 37 rfl) rfl
theorem q2091 : (Jvm.Cond.selects "TroupeSums$Group" ({ cls := "TroupeSums$Group", name := "coset", desc := "(II)I" } : Jvm.MethodName) ({ cls := "TroupeSums$Group", name := "coset", desc := "(II)I" } : Jvm.MethodName)) ∈ lw_all := lw_g (lw_at lw_m9 38 rfl) rfl
theorem q2092 : (Jvm.Cond.code ({ cls := "TroupeSums$Group", name := "coset", desc := "(II)I" } : Jvm.MethodName) prog_3_method_15_code (5 : Nat) (Option.some Jvm.ClassFile.FieldType.int)) ∈ lw_all := lw_g (lw_at lw_m9 39 rfl) rfl
theorem q2102 : (Jvm.Cond.instanceMethod ({ cls := "TroupeSums$Group", name := "moebius", desc := "(I)I" } : Jvm.MethodName)) ∈ lw_all := lw_g (lw_at lw_m9 49 rfl) rfl
theorem q2103 : (Jvm.Cond.selects "TroupeSums$Group" ({ cls := "TroupeSums$Group", name := "moebius", desc := "(I)I" } : Jvm.MethodName) ({ cls := "TroupeSums$Group", name := "moebius", desc := "(I)I" } : Jvm.MethodName)) ∈ lw_all := lw_g (lw_at lw_m9 50 rfl) rfl
theorem q2104 : (Jvm.Cond.code ({ cls := "TroupeSums$Group", name := "moebius", desc := "(I)I" } : Jvm.MethodName) prog_3_method_16_code (6 : Nat) (Option.some Jvm.ClassFile.FieldType.int)) ∈ lw_all := lw_g (lw_at lw_m9 51 rfl) rfl
theorem q2115 : (Jvm.Cond.instanceMethod ({ cls := "TroupeSums$Group", name := "mixed", desc := "(I)I" } : Jvm.MethodName)) ∈ lw_all := lw_g (lw_at lw_m9 62 rfl) rfl
theorem q2116 : (Jvm.Cond.selects "TroupeSums$Group" ({ cls := "TroupeSums$Group", name := "mixed", desc := "(I)I" } : Jvm.MethodName) ({ cls := "TroupeSums$Group", name := "mixed", desc := "(I)I" } : Jvm.MethodName)) ∈ lw_all := lw_g (lw_at lw_m9 63 rfl) rfl
theorem q2117 : (Jvm.Cond.code ({ cls := "TroupeSums$Group", name := "mixed", desc := "(I)I" } : Jvm.MethodName) prog_3_method_17_code (5 : Nat) (Option.some Jvm.ClassFile.FieldType.int)) ∈ lw_all := lw_g (lw_at lw_m9 64 rfl) rfl
theorem q2123 : (Jvm.Cond.instanceMethod ({ cls := "TroupeSums$Group", name := "centre", desc := "(I)I" } : Jvm.MethodName)) ∈ lw_all := lw_g (lw_at lw_m9 70 rfl) rfl
theorem q2124 : (Jvm.Cond.selects "TroupeSums$Group" ({ cls := "TroupeSums$Group", name := "centre", desc := "(I)I" } : Jvm.MethodName) ({ cls := "TroupeSums$Group", name := "centre", desc := "(I)I" } : Jvm.MethodName)) ∈ lw_all := lw_g (lw_at lw_m9 71 rfl) rfl
theorem q2125 : (Jvm.Cond.code ({ cls := "TroupeSums$Group", name := "centre", desc := "(I)I" } : Jvm.MethodName) prog_3_method_18_code (6 : Nat) (Option.some Jvm.ClassFile.FieldType.int)) ∈ lw_all := lw_g (lw_at lw_m9 72 rfl) rfl
theorem q2156 : (Jvm.Cond.instanceMethod ({ cls := "TroupeSums$Group", name := "likes", desc := "(I)I" } : Jvm.MethodName)) ∈ lw_all := lw_g (lw_at lw_m9 103 rfl) rfl
theorem q2157 : (Jvm.Cond.selects "TroupeSums$Group" ({ cls := "TroupeSums$Group", name := "likes", desc := "(I)I" } : Jvm.MethodName) ({ cls := "TroupeSums$Group", name := "likes", desc := "(I)I" } : Jvm.MethodName)) ∈ lw_all := lw_g (lw_at lw_m9 104 rfl) rfl
theorem q2158 : (Jvm.Cond.code ({ cls := "TroupeSums$Group", name := "likes", desc := "(I)I" } : Jvm.MethodName) prog_3_method_19_code (4 : Nat) (Option.some Jvm.ClassFile.FieldType.int)) ∈ lw_all := lw_g (lw_at lw_m9 105 rfl) rfl
theorem q2168 : (Jvm.Cond.instanceMethod ({ cls := "TroupeSums$Group", name := "peak", desc := "(I)[[J" } : Jvm.MethodName)) ∈ lw_all := lw_g (lw_at lw_m9 115 rfl) rfl
theorem q2169 : (Jvm.Cond.selects "TroupeSums$Group" ({ cls := "TroupeSums$Group", name := "peak", desc := "(I)[[J" } : Jvm.MethodName) ({ cls := "TroupeSums$Group", name := "peak", desc := "(I)[[J" } : Jvm.MethodName)) ∈ lw_all := lw_g (lw_at lw_m9 116 rfl) rfl
theorem q2170 : (Jvm.Cond.code ({ cls := "TroupeSums$Group", name := "peak", desc := "(I)[[J" } : Jvm.MethodName) prog_3_method_29_code (7 : Nat) (Option.some (Jvm.ClassFile.FieldType.array (Jvm.ClassFile.FieldType.array Jvm.ClassFile.FieldType.long)))) ∈ lw_all := lw_g (lw_at lw_m9 117 rfl) rfl
theorem q2171 : (Jvm.Cond.classLink "TroupeSums$Group" (190 : Nat) "[J") ∈ lw_all := lw_g (lw_at lw_m9 118 rfl) rfl
theorem q2173 : (Jvm.Cond.methodLink "TroupeSums$Group" (192 : Nat) ({ cls := "TroupeSums$Group", name := "sum", desc := "([JJJ)[J" } : Jvm.MethodName)) ∈ lw_all := lw_g (lw_at lw_m9 120 rfl) rfl
theorem q2174 : (Jvm.Cond.static ({ cls := "TroupeSums$Group", name := "sum", desc := "([JJJ)[J" } : Jvm.MethodName)) ∈ lw_all := lw_g (lw_at lw_m9 121 rfl) rfl
theorem q2175 : (Jvm.Cond.code ({ cls := "TroupeSums$Group", name := "sum", desc := "([JJJ)[J" } : Jvm.MethodName) prog_3_method_30_code (5 : Nat) (Option.some (Jvm.ClassFile.FieldType.array Jvm.ClassFile.FieldType.long))) ∈ lw_all := lw_g (lw_at lw_m9 122 rfl) rfl
theorem q2176 : (Jvm.Cond.methodLink "TroupeSums$Group" (196 : Nat) ({ cls := "TroupeSums$Group", name := "lowest", desc := "(JJ)[J" } : Jvm.MethodName)) ∈ lw_all := lw_g (lw_at lw_m9 123 rfl) rfl
theorem q2177 : (Jvm.Cond.static ({ cls := "TroupeSums$Group", name := "lowest", desc := "(JJ)[J" } : Jvm.MethodName)) ∈ lw_all := lw_g (lw_at lw_m9 124 rfl) rfl
theorem q2178 : (Jvm.Cond.code ({ cls := "TroupeSums$Group", name := "lowest", desc := "(JJ)[J" } : Jvm.MethodName) prog_3_method_31_code (6 : Nat) (Option.some (Jvm.ClassFile.FieldType.array Jvm.ClassFile.FieldType.long))) ∈ lw_all := lw_g (lw_at lw_m9 125 rfl) rfl
theorem q2179 : (Jvm.Cond.methodLinkNest "TroupeSums$Group" (200 : Nat) ({ cls := "TroupeSums", name := "common", desc := "(JJ)J" } : Jvm.MethodName) "TroupeSums") ∈ lw_tbl := lw_at lw_m9 126 rfl
theorem q2294 : (Jvm.Cond.instanceMethod ({ cls := "TroupeSums$Group", name := "congruence", desc := "([JI)J" } : Jvm.MethodName)) ∈ lw_all := lw_g (lw_at lw_m10 1 rfl) rfl
theorem q2295 : (Jvm.Cond.selects "TroupeSums$Group" ({ cls := "TroupeSums$Group", name := "congruence", desc := "([JI)J" } : Jvm.MethodName) ({ cls := "TroupeSums$Group", name := "congruence", desc := "([JI)J" } : Jvm.MethodName)) ∈ lw_all := lw_g (lw_at lw_m10 2 rfl) rfl
theorem q2296 : (Jvm.Cond.code ({ cls := "TroupeSums$Group", name := "congruence", desc := "([JI)J" } : Jvm.MethodName) prog_3_method_24_code (7 : Nat) (Option.some Jvm.ClassFile.FieldType.long)) ∈ lw_all := lw_g (lw_at lw_m10 3 rfl) rfl
theorem q2298 : (Jvm.Cond.instanceMethod ({ cls := "TroupeSums$Group", name := "cosets", desc := "(I)I" } : Jvm.MethodName)) ∈ lw_all := lw_g (lw_at lw_m10 5 rfl) rfl
theorem q2299 : (Jvm.Cond.selects "TroupeSums$Group" ({ cls := "TroupeSums$Group", name := "cosets", desc := "(I)I" } : Jvm.MethodName) ({ cls := "TroupeSums$Group", name := "cosets", desc := "(I)I" } : Jvm.MethodName)) ∈ lw_all := lw_g (lw_at lw_m10 6 rfl) rfl
theorem q2300 : (Jvm.Cond.code ({ cls := "TroupeSums$Group", name := "cosets", desc := "(I)I" } : Jvm.MethodName) prog_3_method_25_code (2 : Nat) (Option.some Jvm.ClassFile.FieldType.int)) ∈ lw_all := lw_g (lw_at lw_m10 7 rfl) rfl
theorem q2383 : (Jvm.Cond.instanceMethod ({ cls := "TroupeSums$Group", name := "firstWrong", desc := "([J)I" } : Jvm.MethodName)) ∈ lw_all := lw_g (lw_at lw_m10 90 rfl) rfl
theorem q2384 : (Jvm.Cond.selects "TroupeSums$Group" ({ cls := "TroupeSums$Group", name := "firstWrong", desc := "([J)I" } : Jvm.MethodName) ({ cls := "TroupeSums$Group", name := "firstWrong", desc := "([J)I" } : Jvm.MethodName)) ∈ lw_all := lw_g (lw_at lw_m10 91 rfl) rfl
theorem q2385 : (Jvm.Cond.code ({ cls := "TroupeSums$Group", name := "firstWrong", desc := "([J)I" } : Jvm.MethodName) prog_3_method_26_code (3 : Nat) (Option.some Jvm.ClassFile.FieldType.int)) ∈ lw_all := lw_g (lw_at lw_m10 92 rfl) rfl
theorem q2386 : (Jvm.Cond.methodLink "TroupeSums$Group" (183 : Nat) ({ cls := "TroupeSums$Group", name := "congruence", desc := "([JI)J" } : Jvm.MethodName)) ∈ lw_all := lw_g (lw_at lw_m10 93 rfl) rfl
theorem q2387 : (Jvm.Cond.methodLink "TroupeSums$Group" (187 : Nat) ({ cls := "TroupeSums$Group", name := "cosets", desc := "(I)I" } : Jvm.MethodName)) ∈ lw_all := lw_g (lw_at lw_m10 94 rfl) rfl
theorem q3189 : (Jvm.Cond.castable "TroupeSums$Group" "java/lang/Object") ∈ lw_tbl := lw_at lw_m13 176 rfl
theorem in_X3 : ∀ w ∈ wsX30, w ∈ lw_all := lw_in wsX30 [1200, 1202, 1204, 1206, 1208, 1210, 1212, 1214] (by decide +kernel) (by decide +kernel)
/-! TroupeSums$BySize -/
set_option maxRecDepth 100000
def RX4 : String := "TroupeSums$BySize"
abbrev cX4_compare : ByteArray := prog_2_method_3_code
def yX4_compare : MethodName := ⟨RX4, "compare", "(Ljava/lang/Object;Ljava/lang/Object;)I"⟩
def dkwX4_compare_0 : List UInt8 := [42, 43, 192, 0, 8, 44, 192, 0, 8, 182, 0, 22, 172]
abbrev dktX4_compare_0 : List UInt8 := dkwX4_compare_0 ++ []
theorem dksX4_compare_0 : cX4_compare.data.toList.drop 0 = dktX4_compare_0 := by decide +kernel
theorem dX4_compare_0 : decode cX4_compare 0 = .ok (.aload_n 0, 1) := dk_42 (dk_at dksX4_compare_0 0 rfl rfl)
theorem dX4_compare_1 : decode cX4_compare 1 = .ok (.aload_n 1, 1) := dk_43 (dk_at dksX4_compare_0 1 rfl rfl)
theorem dX4_compare_2 : decode cX4_compare 2 = .ok (.checkcast 8, 3) := dk_192 0 8 (dk_at dksX4_compare_0 2 rfl rfl)
theorem dX4_compare_5 : decode cX4_compare 5 = .ok (.aload_n 2, 1) := dk_44 (dk_at dksX4_compare_0 5 rfl rfl)
theorem dX4_compare_6 : decode cX4_compare 6 = .ok (.checkcast 8, 3) := dk_192 0 8 (dk_at dksX4_compare_0 6 rfl rfl)
theorem dX4_compare_9 : decode cX4_compare 9 = .ok (.invokevirtual 22, 3) := dk_182 0 22 (dk_at dksX4_compare_0 9 rfl rfl)
theorem dX4_compare_12 : decode cX4_compare 12 = .ok (.ireturn, 1) := dk_172 (dk_at dksX4_compare_0 12 rfl rfl)
abbrev cX4_compare_2 : ByteArray := prog_2_method_2_code
def yX4_compare_2 : MethodName := ⟨RX4, "compare", "(LTroupeSums$Sort;LTroupeSums$Sort;)I"⟩
def dkwX4_compare_2_1 : List UInt8 := [167, 0, 14, 43, 180, 0, 19, 44, 180, 0, 19, 184, 0, 13, 172]
abbrev dktX4_compare_2_1 : List UInt8 := dkwX4_compare_2_1 ++ []
def dkwX4_compare_2_0 : List UInt8 := [43, 180, 0, 7, 44, 180, 0, 7, 159, 0, 17, 43, 180, 0, 7, 44, 180, 0, 7, 184, 0, 13]
abbrev dktX4_compare_2_0 : List UInt8 := dkwX4_compare_2_0 ++ dktX4_compare_2_1
theorem dksX4_compare_2_0 : cX4_compare_2.data.toList.drop 0 = dktX4_compare_2_0 := by decide +kernel
theorem dksX4_compare_2_1 : cX4_compare_2.data.toList.drop 22 = dktX4_compare_2_1 := dk_seg dksX4_compare_2_0 22 rfl rfl
theorem dX4_compare_2_0 : decode cX4_compare_2 0 = .ok (.aload_n 1, 1) := dk_43 (dk_at dksX4_compare_2_0 0 rfl rfl)
theorem dX4_compare_2_1 : decode cX4_compare_2 1 = .ok (.getfield 7, 3) := dk_180 0 7 (dk_at dksX4_compare_2_0 1 rfl rfl)
theorem dX4_compare_2_4 : decode cX4_compare_2 4 = .ok (.aload_n 2, 1) := dk_44 (dk_at dksX4_compare_2_0 4 rfl rfl)
theorem dX4_compare_2_5 : decode cX4_compare_2 5 = .ok (.getfield 7, 3) := dk_180 0 7 (dk_at dksX4_compare_2_0 5 rfl rfl)
theorem dX4_compare_2_8 : decode cX4_compare_2 8 = .ok (.if_icmp .eq 17, 3) := dk_159 0 17 (dk_at dksX4_compare_2_0 8 rfl rfl)
theorem dX4_compare_2_11 : decode cX4_compare_2 11 = .ok (.aload_n 1, 1) := dk_43 (dk_at dksX4_compare_2_0 11 rfl rfl)
theorem dX4_compare_2_12 : decode cX4_compare_2 12 = .ok (.getfield 7, 3) := dk_180 0 7 (dk_at dksX4_compare_2_0 12 rfl rfl)
theorem dX4_compare_2_15 : decode cX4_compare_2 15 = .ok (.aload_n 2, 1) := dk_44 (dk_at dksX4_compare_2_0 15 rfl rfl)
theorem dX4_compare_2_16 : decode cX4_compare_2 16 = .ok (.getfield 7, 3) := dk_180 0 7 (dk_at dksX4_compare_2_0 16 rfl rfl)
theorem dX4_compare_2_19 : decode cX4_compare_2 19 = .ok (.invokestatic 13, 3) := dk_184 0 13 (dk_at dksX4_compare_2_0 19 rfl rfl)
theorem dX4_compare_2_22 : decode cX4_compare_2 22 = .ok (.goto 14, 3) := dk_167 0 14 (dk_at dksX4_compare_2_1 0 rfl rfl)
theorem dX4_compare_2_25 : decode cX4_compare_2 25 = .ok (.aload_n 1, 1) := dk_43 (dk_at dksX4_compare_2_1 3 rfl rfl)
theorem dX4_compare_2_26 : decode cX4_compare_2 26 = .ok (.getfield 19, 3) := dk_180 0 19 (dk_at dksX4_compare_2_1 4 rfl rfl)
theorem dX4_compare_2_29 : decode cX4_compare_2 29 = .ok (.aload_n 2, 1) := dk_44 (dk_at dksX4_compare_2_1 7 rfl rfl)
theorem dX4_compare_2_30 : decode cX4_compare_2 30 = .ok (.getfield 19, 3) := dk_180 0 19 (dk_at dksX4_compare_2_1 8 rfl rfl)
theorem dX4_compare_2_33 : decode cX4_compare_2 33 = .ok (.invokestatic 13, 3) := dk_184 0 13 (dk_at dksX4_compare_2_1 11 rfl rfl)
theorem dX4_compare_2_36 : decode cX4_compare_2 36 = .ok (.ireturn, 1) := dk_172 (dk_at dksX4_compare_2_1 14 rfl rfl)
abbrev cX4_init : ByteArray := prog_2_method_1_code
def yX4_init : MethodName := ⟨RX4, "<init>", "()V"⟩
theorem dX4_init_0 : decode cX4_init 0 = .ok (.aload_n 0, 1) := by decide +kernel
theorem dX4_init_1 : decode cX4_init 1 = .ok (.invokespecial 1, 3) := by decide +kernel
theorem dX4_init_4 : decode cX4_init 4 = .ok (.return_, 1) := by decide +kernel
theorem q165 : (Jvm.Cond.initialized "TroupeSums$BySize") ∈ lw_all := lw_g (lw_at lw_m1 32 rfl) rfl
theorem q596 : (Jvm.Cond.castable "TroupeSums$BySize" "java/util/Comparator") ∈ lw_tbl := lw_at lw_m2 223 rfl
theorem q597 : (Jvm.Cond.selects "TroupeSums$BySize" ({ cls := "java/util/Comparator", name := "compare", desc := "(Ljava/lang/Object;Ljava/lang/Object;)I" } : Jvm.MethodName) ({ cls := "TroupeSums$BySize", name := "compare", desc := "(Ljava/lang/Object;Ljava/lang/Object;)I" } : Jvm.MethodName)) ∈ lw_all := lw_g (lw_at lw_m2 224 rfl) rfl
theorem q598 : (Jvm.Cond.unhidden "TroupeSums$BySize" "compare" "(Ljava/lang/Object;Ljava/lang/Object;)I") ∈ lw_tbl := lw_at lw_m2 225 rfl
theorem q599 : (Jvm.Cond.instanceMethod ({ cls := "TroupeSums$BySize", name := "compare", desc := "(Ljava/lang/Object;Ljava/lang/Object;)I" } : Jvm.MethodName)) ∈ lw_all := lw_g (lw_at lw_m2 226 rfl) rfl
theorem q600 : (Jvm.Cond.publicMethod ({ cls := "TroupeSums$BySize", name := "compare", desc := "(Ljava/lang/Object;Ljava/lang/Object;)I" } : Jvm.MethodName)) ∈ lw_tbl := lw_at lw_m2 227 rfl
theorem q601 : (Jvm.Cond.code ({ cls := "TroupeSums$BySize", name := "compare", desc := "(Ljava/lang/Object;Ljava/lang/Object;)I" } : Jvm.MethodName) prog_2_method_3_code (3 : Nat) (Option.some Jvm.ClassFile.FieldType.int)) ∈ lw_all := lw_g (lw_at lw_m2 228 rfl) rfl
theorem q602 : (Jvm.Cond.classLink "TroupeSums$BySize" (8 : Nat) "TroupeSums$Sort") ∈ lw_all := lw_g (lw_at lw_m2 229 rfl) rfl
theorem q603 : (Jvm.Cond.methodLink "TroupeSums$BySize" (22 : Nat) ({ cls := "TroupeSums$BySize", name := "compare", desc := "(LTroupeSums$Sort;LTroupeSums$Sort;)I" } : Jvm.MethodName)) ∈ lw_all := lw_g (lw_at lw_m2 230 rfl) rfl
theorem q604 : (Jvm.Cond.instanceMethod ({ cls := "TroupeSums$BySize", name := "compare", desc := "(LTroupeSums$Sort;LTroupeSums$Sort;)I" } : Jvm.MethodName)) ∈ lw_all := lw_g (lw_at lw_m2 231 rfl) rfl
theorem q605 : (Jvm.Cond.selects "TroupeSums$BySize" ({ cls := "TroupeSums$BySize", name := "compare", desc := "(LTroupeSums$Sort;LTroupeSums$Sort;)I" } : Jvm.MethodName) ({ cls := "TroupeSums$BySize", name := "compare", desc := "(LTroupeSums$Sort;LTroupeSums$Sort;)I" } : Jvm.MethodName)) ∈ lw_all := lw_g (lw_at lw_m2 232 rfl) rfl
theorem q606 : (Jvm.Cond.code ({ cls := "TroupeSums$BySize", name := "compare", desc := "(LTroupeSums$Sort;LTroupeSums$Sort;)I" } : Jvm.MethodName) prog_2_method_2_code (3 : Nat) (Option.some Jvm.ClassFile.FieldType.int)) ∈ lw_all := lw_g (lw_at lw_m2 233 rfl) rfl
theorem q607 : (Jvm.Cond.methodLink "TroupeSums$BySize" (13 : Nat) ({ cls := "java/lang/Integer", name := "compare", desc := "(II)I" } : Jvm.MethodName)) ∈ lw_all := lw_g (lw_at lw_m2 234 rfl) rfl
theorem q829 : (Jvm.Cond.selects "TroupeSums$BySize" ({ cls := "java/lang/Object", name := "getClass", desc := "()Ljava/lang/Class;" } : Jvm.MethodName) ({ cls := "java/lang/Object", name := "getClass", desc := "()Ljava/lang/Class;" } : Jvm.MethodName)) ∈ lw_all := lw_g (lw_at lw_m3 216 rfl) rfl
theorem q961 : (Jvm.Cond.selects "TroupeSums$BySize" ({ cls := "java/lang/Object", name := "equals", desc := "(Ljava/lang/Object;)Z" } : Jvm.MethodName) ({ cls := "java/lang/Object", name := "equals", desc := "(Ljava/lang/Object;)Z" } : Jvm.MethodName)) ∈ lw_all := lw_g (lw_at lw_m4 108 rfl) rfl
theorem q997 : (Jvm.Cond.instantiable "TroupeSums$BySize" (0 : Nat)) ∈ lw_all := lw_g (lw_at lw_m4 144 rfl) rfl
theorem q999 : (Jvm.Cond.instanceMethod ({ cls := "TroupeSums$BySize", name := "<init>", desc := "()V" } : Jvm.MethodName)) ∈ lw_all := lw_g (lw_at lw_m4 146 rfl) rfl
theorem q1000 : (Jvm.Cond.code ({ cls := "TroupeSums$BySize", name := "<init>", desc := "()V" } : Jvm.MethodName) prog_2_method_1_code (1 : Nat) (Option.none : Option Jvm.ClassFile.FieldType)) ∈ lw_all := lw_g (lw_at lw_m4 147 rfl) rfl
theorem q1001 : (Jvm.Cond.methodLink "TroupeSums$BySize" (1 : Nat) ({ cls := "java/lang/Object", name := "<init>", desc := "()V" } : Jvm.MethodName)) ∈ lw_all := lw_g (lw_at lw_m4 148 rfl) rfl
theorem q1002 : (Jvm.Cond.superclass "TroupeSums$BySize" "java/lang/Object") ∈ lw_all := lw_g (lw_at lw_m4 149 rfl) rfl
theorem q1077 : (Jvm.Cond.fieldLinkNest "TroupeSums$BySize" (7 : Nat) "TroupeSums$Sort" "size" "I" "TroupeSums") ∈ lw_tbl := lw_at lw_m4 224 rfl
theorem q1082 : (Jvm.Cond.fieldLinkNest "TroupeSums$BySize" (19 : Nat) "TroupeSums$Sort" "first" "I" "TroupeSums") ∈ lw_tbl := lw_at lw_m4 229 rfl
theorem q3193 : (Jvm.Cond.castable "TroupeSums$BySize" "java/lang/Object") ∈ lw_tbl := lw_at lw_m13 180 rfl
/-! TroupeSums$Sort -/
set_option maxRecDepth 100000
def RX5 : String := "TroupeSums$Sort"
def TX5 : u_T := fun k => match k with
  | 0 => ("TroupeSums$Sort", "size", "I", true)
  | 1 => ("TroupeSums$Sort", "first", "I", true)
  | 2 => ("TroupeSums$Sort", "many", "I", false)
  | _ => ("TroupeSums$Sort", "norm", "I", false)
def tyX5 : Nat → FieldType := fun k => match k with
  | 0 => .int
  | 1 => .int
  | 2 => .int
  | _ => .int
abbrev wsX50 : List Cond := u_ws RX5 TX5 4
theorem nmX5 : ∀ a, a < 4 → ∀ b, b < 4 → a ≠ b → (TX5 a).2.1 ≠ (TX5 b).2.1 := by decide +kernel
theorem tyX5_ok : ∀ k, k < 4 → parseFieldDescriptor (TX5 k).2.2.1 = some (tyX5 k) := by decide +kernel
abbrev cX5_init : ByteArray := prog_9_method_1_code
def yX5_init : MethodName := ⟨RX5, "<init>", "(I)V"⟩
def dkwX5_init_0 : List UInt8 := [42, 183, 0, 1, 42, 27, 181, 0, 7, 42, 27, 184, 0, 13, 181, 0, 19, 177]
abbrev dktX5_init_0 : List UInt8 := dkwX5_init_0 ++ []
theorem dksX5_init_0 : cX5_init.data.toList.drop 0 = dktX5_init_0 := by decide +kernel
theorem dX5_init_0 : decode cX5_init 0 = .ok (.aload_n 0, 1) := dk_42 (dk_at dksX5_init_0 0 rfl rfl)
theorem dX5_init_1 : decode cX5_init 1 = .ok (.invokespecial 1, 3) := dk_183 0 1 (dk_at dksX5_init_0 1 rfl rfl)
theorem dX5_init_4 : decode cX5_init 4 = .ok (.aload_n 0, 1) := dk_42 (dk_at dksX5_init_0 4 rfl rfl)
theorem dX5_init_5 : decode cX5_init 5 = .ok (.iload_n 1, 1) := dk_27 (dk_at dksX5_init_0 5 rfl rfl)
theorem dX5_init_6 : decode cX5_init 6 = .ok (.putfield 7, 3) := dk_181 0 7 (dk_at dksX5_init_0 6 rfl rfl)
theorem dX5_init_9 : decode cX5_init 9 = .ok (.aload_n 0, 1) := dk_42 (dk_at dksX5_init_0 9 rfl rfl)
theorem dX5_init_10 : decode cX5_init 10 = .ok (.iload_n 1, 1) := dk_27 (dk_at dksX5_init_0 10 rfl rfl)
theorem dX5_init_11 : decode cX5_init 11 = .ok (.invokestatic 13, 3) := dk_184 0 13 (dk_at dksX5_init_0 11 rfl rfl)
theorem dX5_init_14 : decode cX5_init 14 = .ok (.putfield 19, 3) := dk_181 0 19 (dk_at dksX5_init_0 14 rfl rfl)
theorem dX5_init_17 : decode cX5_init 17 = .ok (.return_, 1) := dk_177 (dk_at dksX5_init_0 17 rfl rfl)
theorem q167 : (Jvm.Cond.initialized "TroupeSums$Sort") ∈ lw_all := lw_g (lw_at lw_m1 34 rfl) rfl
theorem q836 : (Jvm.Cond.selects "TroupeSums$Sort" ({ cls := "java/lang/Object", name := "getClass", desc := "()Ljava/lang/Class;" } : Jvm.MethodName) ({ cls := "java/lang/Object", name := "getClass", desc := "()Ljava/lang/Class;" } : Jvm.MethodName)) ∈ lw_all := lw_g (lw_at lw_m3 223 rfl) rfl
theorem q968 : (Jvm.Cond.selects "TroupeSums$Sort" ({ cls := "java/lang/Object", name := "equals", desc := "(Ljava/lang/Object;)Z" } : Jvm.MethodName) ({ cls := "java/lang/Object", name := "equals", desc := "(Ljava/lang/Object;)Z" } : Jvm.MethodName)) ∈ lw_all := lw_g (lw_at lw_m4 115 rfl) rfl
theorem q1065 : (Jvm.Cond.instantiable "TroupeSums$Sort" (4 : Nat)) ∈ lw_all := lw_g (lw_at lw_m4 212 rfl) rfl
theorem q1067 : (Jvm.Cond.instanceMethod ({ cls := "TroupeSums$Sort", name := "<init>", desc := "(I)V" } : Jvm.MethodName)) ∈ lw_all := lw_g (lw_at lw_m4 214 rfl) rfl
theorem q1068 : (Jvm.Cond.code ({ cls := "TroupeSums$Sort", name := "<init>", desc := "(I)V" } : Jvm.MethodName) prog_9_method_1_code (2 : Nat) (Option.none : Option Jvm.ClassFile.FieldType)) ∈ lw_all := lw_g (lw_at lw_m4 215 rfl) rfl
theorem q1069 : (Jvm.Cond.methodLink "TroupeSums$Sort" (1 : Nat) ({ cls := "java/lang/Object", name := "<init>", desc := "()V" } : Jvm.MethodName)) ∈ lw_all := lw_g (lw_at lw_m4 216 rfl) rfl
theorem q1070 : (Jvm.Cond.methodLink "TroupeSums$Sort" (13 : Nat) ({ cls := "java/lang/Integer", name := "bitCount", desc := "(I)I" } : Jvm.MethodName)) ∈ lw_all := lw_g (lw_at lw_m4 217 rfl) rfl
theorem q1076 : (Jvm.Cond.fieldLink "TroupeSums$Sort" (19 : Nat) "TroupeSums$Sort" "size" "I") ∈ lw_all := lw_g (lw_at lw_m4 223 rfl) rfl
theorem q1080 : (Jvm.Cond.fieldLink "TroupeSums$Sort" (7 : Nat) "TroupeSums$Sort" "first" "I") ∈ lw_all := lw_g (lw_at lw_m4 227 rfl) rfl
theorem q1088 : (Jvm.Cond.laysFinal "TroupeSums$Sort" "TroupeSums$Sort" "size" "I") ∈ lw_all := lw_g (lw_at lw_m4 235 rfl) rfl
theorem q1089 : (Jvm.Cond.soleField "TroupeSums$Sort" "size") ∈ lw_all := lw_g (lw_at lw_m4 236 rfl) rfl
theorem q1090 : (Jvm.Cond.laysFinal "TroupeSums$Sort" "TroupeSums$Sort" "first" "I") ∈ lw_all := lw_g (lw_at lw_m4 237 rfl) rfl
theorem q1091 : (Jvm.Cond.soleField "TroupeSums$Sort" "first") ∈ lw_all := lw_g (lw_at lw_m4 238 rfl) rfl
theorem q1092 : (Jvm.Cond.lays "TroupeSums$Sort" "TroupeSums$Sort" "many" "I") ∈ lw_all := lw_g (lw_at lw_m4 239 rfl) rfl
theorem q1093 : (Jvm.Cond.soleField "TroupeSums$Sort" "many") ∈ lw_all := lw_g (lw_at lw_m5 0 rfl) rfl
theorem q1094 : (Jvm.Cond.lays "TroupeSums$Sort" "TroupeSums$Sort" "norm" "I") ∈ lw_all := lw_g (lw_at lw_m5 1 rfl) rfl
theorem q1095 : (Jvm.Cond.soleField "TroupeSums$Sort" "norm") ∈ lw_all := lw_g (lw_at lw_m5 2 rfl) rfl
theorem q1096 : (Jvm.Cond.superclass "TroupeSums$Sort" "java/lang/Object") ∈ lw_all := lw_g (lw_at lw_m5 3 rfl) rfl
theorem q3195 : (Jvm.Cond.castable "TroupeSums$Sort" "java/lang/Object") ∈ lw_tbl := lw_at lw_m13 182 rfl
theorem in_X5 : ∀ w ∈ wsX50, w ∈ lw_all := lw_in wsX50 [1088, 1090, 1092, 1094] (by decide +kernel) (by decide +kernel)
/-! TroupeSums$Reader -/
set_option maxRecDepth 100000
def RX7 : String := "TroupeSums$Reader"
def TX7 : u_T := fun k => match k with
  | 0 => ("TroupeSums$Reader", "tape", "[B", true)
  | 1 => ("TroupeSums$Reader", "size", "I", true)
  | 2 => ("TroupeSums$Reader", "from", "I", false)
  | 3 => ("TroupeSums$Reader", "to", "I", false)
  | 4 => ("TroupeSums$Reader", "kind", "I", false)
  | 5 => ("TroupeSums$Reader", "units", "I", false)
  | 6 => ("TroupeSums$Reader", "nests", "I", false)
  | 7 => ("TroupeSums$Reader", "made", "LTroupeSums$Troupe;", false)
  | 8 => ("TroupeSums$Reader", "members", "Ljava/util/TreeMap;", false)
  | 9 => ("TroupeSums$Reader", "isSkipping", "Z", false)
  | _ => ("TroupeSums$Reader", "started", "I", false)
def tyX7 : Nat → FieldType := fun k => match k with
  | 0 => .array .byte
  | 1 => .int
  | 2 => .int
  | 3 => .int
  | 4 => .int
  | 5 => .int
  | 6 => .int
  | 7 => .object "TroupeSums$Troupe"
  | 8 => .object "java/util/TreeMap"
  | 9 => .boolean
  | _ => .int
abbrev wsX70 : List Cond := u_ws RX7 TX7 11
theorem nmX7 : ∀ a, a < 11 → ∀ b, b < 11 → a ≠ b → (TX7 a).2.1 ≠ (TX7 b).2.1 := by decide +kernel
theorem tyX7_ok : ∀ k, k < 11 → parseFieldDescriptor (TX7 k).2.2.1 = some (tyX7 k) := by decide +kernel
abbrev cX7_init : ByteArray := prog_5_method_1_code
def yX7_init : MethodName := ⟨RX7, "<init>", "([BI)V"⟩
def dkwX7_init_1 : List UInt8 := [181, 0, 21, 42, 43, 181, 0, 25, 42, 28, 181, 0, 29, 42, 182, 0, 33, 177]
abbrev dktX7_init_1 : List UInt8 := dkwX7_init_1 ++ []
def dkwX7_init_0 : List UInt8 := [42, 183, 0, 3, 42, 187, 0, 9, 89, 183, 0, 11, 181, 0, 12, 42, 187, 0, 18, 89, 183, 0, 20]
abbrev dktX7_init_0 : List UInt8 := dkwX7_init_0 ++ dktX7_init_1
theorem dksX7_init_0 : cX7_init.data.toList.drop 0 = dktX7_init_0 := by decide +kernel
theorem dksX7_init_1 : cX7_init.data.toList.drop 23 = dktX7_init_1 := dk_seg dksX7_init_0 23 rfl rfl
theorem dX7_init_0 : decode cX7_init 0 = .ok (.aload_n 0, 1) := dk_42 (dk_at dksX7_init_0 0 rfl rfl)
theorem dX7_init_1 : decode cX7_init 1 = .ok (.invokespecial 3, 3) := dk_183 0 3 (dk_at dksX7_init_0 1 rfl rfl)
theorem dX7_init_4 : decode cX7_init 4 = .ok (.aload_n 0, 1) := dk_42 (dk_at dksX7_init_0 4 rfl rfl)
theorem dX7_init_5 : decode cX7_init 5 = .ok (.new 9, 3) := dk_187 0 9 (dk_at dksX7_init_0 5 rfl rfl)
theorem dX7_init_8 : decode cX7_init 8 = .ok (.dup, 1) := dk_89 (dk_at dksX7_init_0 8 rfl rfl)
theorem dX7_init_9 : decode cX7_init 9 = .ok (.invokespecial 11, 3) := dk_183 0 11 (dk_at dksX7_init_0 9 rfl rfl)
theorem dX7_init_12 : decode cX7_init 12 = .ok (.putfield 12, 3) := dk_181 0 12 (dk_at dksX7_init_0 12 rfl rfl)
theorem dX7_init_15 : decode cX7_init 15 = .ok (.aload_n 0, 1) := dk_42 (dk_at dksX7_init_0 15 rfl rfl)
theorem dX7_init_16 : decode cX7_init 16 = .ok (.new 18, 3) := dk_187 0 18 (dk_at dksX7_init_0 16 rfl rfl)
theorem dX7_init_19 : decode cX7_init 19 = .ok (.dup, 1) := dk_89 (dk_at dksX7_init_0 19 rfl rfl)
theorem dX7_init_20 : decode cX7_init 20 = .ok (.invokespecial 20, 3) := dk_183 0 20 (dk_at dksX7_init_0 20 rfl rfl)
theorem dX7_init_23 : decode cX7_init 23 = .ok (.putfield 21, 3) := dk_181 0 21 (dk_at dksX7_init_1 0 rfl rfl)
theorem dX7_init_26 : decode cX7_init 26 = .ok (.aload_n 0, 1) := dk_42 (dk_at dksX7_init_1 3 rfl rfl)
theorem dX7_init_27 : decode cX7_init 27 = .ok (.aload_n 1, 1) := dk_43 (dk_at dksX7_init_1 4 rfl rfl)
theorem dX7_init_28 : decode cX7_init 28 = .ok (.putfield 25, 3) := dk_181 0 25 (dk_at dksX7_init_1 5 rfl rfl)
theorem dX7_init_31 : decode cX7_init 31 = .ok (.aload_n 0, 1) := dk_42 (dk_at dksX7_init_1 8 rfl rfl)
theorem dX7_init_32 : decode cX7_init 32 = .ok (.iload_n 2, 1) := dk_28 (dk_at dksX7_init_1 9 rfl rfl)
theorem dX7_init_33 : decode cX7_init 33 = .ok (.putfield 29, 3) := dk_181 0 29 (dk_at dksX7_init_1 10 rfl rfl)
theorem dX7_init_36 : decode cX7_init 36 = .ok (.aload_n 0, 1) := dk_42 (dk_at dksX7_init_1 13 rfl rfl)
theorem dX7_init_37 : decode cX7_init 37 = .ok (.invokevirtual 33, 3) := dk_182 0 33 (dk_at dksX7_init_1 14 rfl rfl)
theorem dX7_init_40 : decode cX7_init 40 = .ok (.return_, 1) := dk_177 (dk_at dksX7_init_1 17 rfl rfl)
abbrev cX7_next : ByteArray := prog_5_method_4_code
def yX7_next : MethodName := ⟨RX7, "next", "()V"⟩
def dkwX7_next_10 : List UInt8 := [42, 42, 180, 0, 43, 182, 0, 36, 182, 0, 55, 155, 0, 7, 6, 167, 0, 4, 7, 181, 0, 46, 177]
abbrev dktX7_next_10 : List UInt8 := dkwX7_next_10 ++ []
def dkwX7_next_9 : List UInt8 := [7, 167, 0, 4, 5, 181, 0, 46, 167, 0, 38, 42, 89, 180, 0, 40, 4, 96, 181, 0, 40, 42, 18, 53]
abbrev dktX7_next_9 : List UInt8 := dkwX7_next_9 ++ dktX7_next_10
def dkwX7_next_8 : List UInt8 := [42, 180, 0, 43, 100, 6, 163, 0, 18, 42, 42, 180, 0, 40, 16, 97, 16, 122, 182, 0, 49, 153, 0, 7]
abbrev dktX7_next_8 : List UInt8 := dkwX7_next_8 ++ dktX7_next_9
def dkwX7_next_7 : List UInt8 := [182, 0, 49, 153, 0, 16, 42, 89, 180, 0, 40, 4, 96, 181, 0, 40, 167, 255, 231, 42, 42, 180, 0, 40]
abbrev dktX7_next_7 : List UInt8 := dkwX7_next_7 ++ dktX7_next_8
def dkwX7_next_6 : List UInt8 := [180, 0, 43, 16, 48, 16, 57, 182, 0, 49, 153, 0, 71, 42, 42, 180, 0, 40, 16, 48, 16, 57]
abbrev dktX7_next_6 : List UInt8 := dkwX7_next_6 ++ dktX7_next_7
def dkwX7_next_5 : List UInt8 := [180, 0, 43, 100, 16, 6, 164, 0, 7, 7, 167, 0, 4, 4, 181, 0, 46, 167, 0, 121, 42, 42]
abbrev dktX7_next_5 : List UInt8 := dkwX7_next_5 ++ dktX7_next_6
def dkwX7_next_4 : List UInt8 := [153, 0, 16, 42, 89, 180, 0, 40, 4, 96, 181, 0, 40, 167, 255, 231, 42, 42, 180, 0, 40, 42]
abbrev dktX7_next_4 : List UInt8 := dkwX7_next_4 ++ dktX7_next_5
def dkwX7_next_3 : List UInt8 := [16, 97, 16, 122, 182, 0, 49, 153, 0, 57, 42, 42, 180, 0, 40, 16, 97, 16, 122, 182, 0, 49]
abbrev dktX7_next_3 : List UInt8 := dkwX7_next_3 ++ dktX7_next_4
def dkwX7_next_2 : List UInt8 := [42, 180, 0, 43, 42, 180, 0, 29, 161, 0, 11, 42, 3, 181, 0, 46, 167, 0, 190, 42, 42, 180, 0, 43]
abbrev dktX7_next_2 : List UInt8 := dkwX7_next_2 ++ dktX7_next_3
def dkwX7_next_1 : List UInt8 := [160, 0, 16, 42, 89, 180, 0, 40, 4, 96, 181, 0, 40, 167, 255, 220, 42, 42, 180, 0, 40, 181, 0, 43]
abbrev dktX7_next_1 : List UInt8 := dkwX7_next_1 ++ dktX7_next_2
def dkwX7_next_0 : List UInt8 := [42, 42, 180, 0, 40, 182, 0, 36, 16, 32, 159, 0, 16, 42, 42, 180, 0, 40, 182, 0, 36, 16, 10]
abbrev dktX7_next_0 : List UInt8 := dkwX7_next_0 ++ dktX7_next_1
theorem dksX7_next_0 : cX7_next.data.toList.drop 0 = dktX7_next_0 := by decide +kernel
theorem dksX7_next_1 : cX7_next.data.toList.drop 23 = dktX7_next_1 := dk_seg dksX7_next_0 23 rfl rfl
theorem dksX7_next_2 : cX7_next.data.toList.drop 47 = dktX7_next_2 := dk_seg dksX7_next_1 24 rfl rfl
theorem dksX7_next_3 : cX7_next.data.toList.drop 71 = dktX7_next_3 := dk_seg dksX7_next_2 24 rfl rfl
theorem dksX7_next_4 : cX7_next.data.toList.drop 93 = dktX7_next_4 := dk_seg dksX7_next_3 22 rfl rfl
theorem dksX7_next_5 : cX7_next.data.toList.drop 115 = dktX7_next_5 := dk_seg dksX7_next_4 22 rfl rfl
theorem dksX7_next_6 : cX7_next.data.toList.drop 137 = dktX7_next_6 := dk_seg dksX7_next_5 22 rfl rfl
theorem dksX7_next_7 : cX7_next.data.toList.drop 159 = dktX7_next_7 := dk_seg dksX7_next_6 22 rfl rfl
theorem dksX7_next_8 : cX7_next.data.toList.drop 183 = dktX7_next_8 := dk_seg dksX7_next_7 24 rfl rfl
theorem dksX7_next_9 : cX7_next.data.toList.drop 207 = dktX7_next_9 := dk_seg dksX7_next_8 24 rfl rfl
theorem dksX7_next_10 : cX7_next.data.toList.drop 231 = dktX7_next_10 := dk_seg dksX7_next_9 24 rfl rfl
theorem dX7_next_0 : decode cX7_next 0 = .ok (.aload_n 0, 1) := dk_42 (dk_at dksX7_next_0 0 rfl rfl)
theorem dX7_next_1 : decode cX7_next 1 = .ok (.aload_n 0, 1) := dk_42 (dk_at dksX7_next_0 1 rfl rfl)
theorem dX7_next_2 : decode cX7_next 2 = .ok (.getfield 40, 3) := dk_180 0 40 (dk_at dksX7_next_0 2 rfl rfl)
theorem dX7_next_5 : decode cX7_next 5 = .ok (.invokevirtual 36, 3) := dk_182 0 36 (dk_at dksX7_next_0 5 rfl rfl)
theorem dX7_next_8 : decode cX7_next 8 = .ok (.bipush 32, 2) := dk_16 32 (dk_at dksX7_next_0 8 rfl rfl)
theorem dX7_next_10 : decode cX7_next 10 = .ok (.if_icmp .eq 16, 3) := dk_159 0 16 (dk_at dksX7_next_0 10 rfl rfl)
theorem dX7_next_13 : decode cX7_next 13 = .ok (.aload_n 0, 1) := dk_42 (dk_at dksX7_next_0 13 rfl rfl)
theorem dX7_next_14 : decode cX7_next 14 = .ok (.aload_n 0, 1) := dk_42 (dk_at dksX7_next_0 14 rfl rfl)
theorem dX7_next_15 : decode cX7_next 15 = .ok (.getfield 40, 3) := dk_180 0 40 (dk_at dksX7_next_0 15 rfl rfl)
theorem dX7_next_18 : decode cX7_next 18 = .ok (.invokevirtual 36, 3) := dk_182 0 36 (dk_at dksX7_next_0 18 rfl rfl)
theorem dX7_next_21 : decode cX7_next 21 = .ok (.bipush 10, 2) := dk_16 10 (dk_at dksX7_next_0 21 rfl rfl)
theorem dX7_next_23 : decode cX7_next 23 = .ok (.if_icmp .ne 16, 3) := dk_160 0 16 (dk_at dksX7_next_1 0 rfl rfl)
theorem dX7_next_26 : decode cX7_next 26 = .ok (.aload_n 0, 1) := dk_42 (dk_at dksX7_next_1 3 rfl rfl)
theorem dX7_next_27 : decode cX7_next 27 = .ok (.dup, 1) := dk_89 (dk_at dksX7_next_1 4 rfl rfl)
theorem dX7_next_28 : decode cX7_next 28 = .ok (.getfield 40, 3) := dk_180 0 40 (dk_at dksX7_next_1 5 rfl rfl)
theorem dX7_next_31 : decode cX7_next 31 = .ok (.iconst 1, 1) := dk_4 (dk_at dksX7_next_1 8 rfl rfl)
theorem dX7_next_32 : decode cX7_next 32 = .ok (.iadd, 1) := dk_96 (dk_at dksX7_next_1 9 rfl rfl)
theorem dX7_next_33 : decode cX7_next 33 = .ok (.putfield 40, 3) := dk_181 0 40 (dk_at dksX7_next_1 10 rfl rfl)
theorem dX7_next_36 : decode cX7_next 36 = .ok (.goto (-36), 3) := dk_167 255 220 (dk_at dksX7_next_1 13 rfl rfl)
theorem dX7_next_39 : decode cX7_next 39 = .ok (.aload_n 0, 1) := dk_42 (dk_at dksX7_next_1 16 rfl rfl)
theorem dX7_next_40 : decode cX7_next 40 = .ok (.aload_n 0, 1) := dk_42 (dk_at dksX7_next_1 17 rfl rfl)
theorem dX7_next_41 : decode cX7_next 41 = .ok (.getfield 40, 3) := dk_180 0 40 (dk_at dksX7_next_1 18 rfl rfl)
theorem dX7_next_44 : decode cX7_next 44 = .ok (.putfield 43, 3) := dk_181 0 43 (dk_at dksX7_next_1 21 rfl rfl)
theorem dX7_next_47 : decode cX7_next 47 = .ok (.aload_n 0, 1) := dk_42 (dk_at dksX7_next_2 0 rfl rfl)
theorem dX7_next_48 : decode cX7_next 48 = .ok (.getfield 43, 3) := dk_180 0 43 (dk_at dksX7_next_2 1 rfl rfl)
theorem dX7_next_51 : decode cX7_next 51 = .ok (.aload_n 0, 1) := dk_42 (dk_at dksX7_next_2 4 rfl rfl)
theorem dX7_next_52 : decode cX7_next 52 = .ok (.getfield 29, 3) := dk_180 0 29 (dk_at dksX7_next_2 5 rfl rfl)
theorem dX7_next_55 : decode cX7_next 55 = .ok (.if_icmp .lt 11, 3) := dk_161 0 11 (dk_at dksX7_next_2 8 rfl rfl)
theorem dX7_next_58 : decode cX7_next 58 = .ok (.aload_n 0, 1) := dk_42 (dk_at dksX7_next_2 11 rfl rfl)
theorem dX7_next_59 : decode cX7_next 59 = .ok (.iconst 0, 1) := dk_3 (dk_at dksX7_next_2 12 rfl rfl)
theorem dX7_next_60 : decode cX7_next 60 = .ok (.putfield 46, 3) := dk_181 0 46 (dk_at dksX7_next_2 13 rfl rfl)
theorem dX7_next_63 : decode cX7_next 63 = .ok (.goto 190, 3) := dk_167 0 190 (dk_at dksX7_next_2 16 rfl rfl)
theorem dX7_next_66 : decode cX7_next 66 = .ok (.aload_n 0, 1) := dk_42 (dk_at dksX7_next_2 19 rfl rfl)
theorem dX7_next_67 : decode cX7_next 67 = .ok (.aload_n 0, 1) := dk_42 (dk_at dksX7_next_2 20 rfl rfl)
theorem dX7_next_68 : decode cX7_next 68 = .ok (.getfield 43, 3) := dk_180 0 43 (dk_at dksX7_next_2 21 rfl rfl)
theorem dX7_next_71 : decode cX7_next 71 = .ok (.bipush 97, 2) := dk_16 97 (dk_at dksX7_next_3 0 rfl rfl)
theorem dX7_next_73 : decode cX7_next 73 = .ok (.bipush 122, 2) := dk_16 122 (dk_at dksX7_next_3 2 rfl rfl)
theorem dX7_next_75 : decode cX7_next 75 = .ok (.invokevirtual 49, 3) := dk_182 0 49 (dk_at dksX7_next_3 4 rfl rfl)
theorem dX7_next_78 : decode cX7_next 78 = .ok (.ifCond .eq 57, 3) := dk_153 0 57 (dk_at dksX7_next_3 7 rfl rfl)
theorem dX7_next_81 : decode cX7_next 81 = .ok (.aload_n 0, 1) := dk_42 (dk_at dksX7_next_3 10 rfl rfl)
theorem dX7_next_82 : decode cX7_next 82 = .ok (.aload_n 0, 1) := dk_42 (dk_at dksX7_next_3 11 rfl rfl)
theorem dX7_next_83 : decode cX7_next 83 = .ok (.getfield 40, 3) := dk_180 0 40 (dk_at dksX7_next_3 12 rfl rfl)
theorem dX7_next_86 : decode cX7_next 86 = .ok (.bipush 97, 2) := dk_16 97 (dk_at dksX7_next_3 15 rfl rfl)
theorem dX7_next_88 : decode cX7_next 88 = .ok (.bipush 122, 2) := dk_16 122 (dk_at dksX7_next_3 17 rfl rfl)
theorem dX7_next_90 : decode cX7_next 90 = .ok (.invokevirtual 49, 3) := dk_182 0 49 (dk_at dksX7_next_3 19 rfl rfl)
theorem dX7_next_93 : decode cX7_next 93 = .ok (.ifCond .eq 16, 3) := dk_153 0 16 (dk_at dksX7_next_4 0 rfl rfl)
theorem dX7_next_96 : decode cX7_next 96 = .ok (.aload_n 0, 1) := dk_42 (dk_at dksX7_next_4 3 rfl rfl)
theorem dX7_next_97 : decode cX7_next 97 = .ok (.dup, 1) := dk_89 (dk_at dksX7_next_4 4 rfl rfl)
theorem dX7_next_98 : decode cX7_next 98 = .ok (.getfield 40, 3) := dk_180 0 40 (dk_at dksX7_next_4 5 rfl rfl)
theorem dX7_next_101 : decode cX7_next 101 = .ok (.iconst 1, 1) := dk_4 (dk_at dksX7_next_4 8 rfl rfl)
theorem dX7_next_102 : decode cX7_next 102 = .ok (.iadd, 1) := dk_96 (dk_at dksX7_next_4 9 rfl rfl)
theorem dX7_next_103 : decode cX7_next 103 = .ok (.putfield 40, 3) := dk_181 0 40 (dk_at dksX7_next_4 10 rfl rfl)
theorem dX7_next_106 : decode cX7_next 106 = .ok (.goto (-25), 3) := dk_167 255 231 (dk_at dksX7_next_4 13 rfl rfl)
theorem dX7_next_109 : decode cX7_next 109 = .ok (.aload_n 0, 1) := dk_42 (dk_at dksX7_next_4 16 rfl rfl)
theorem dX7_next_110 : decode cX7_next 110 = .ok (.aload_n 0, 1) := dk_42 (dk_at dksX7_next_4 17 rfl rfl)
theorem dX7_next_111 : decode cX7_next 111 = .ok (.getfield 40, 3) := dk_180 0 40 (dk_at dksX7_next_4 18 rfl rfl)
theorem dX7_next_114 : decode cX7_next 114 = .ok (.aload_n 0, 1) := dk_42 (dk_at dksX7_next_4 21 rfl rfl)
theorem dX7_next_115 : decode cX7_next 115 = .ok (.getfield 43, 3) := dk_180 0 43 (dk_at dksX7_next_5 0 rfl rfl)
theorem dX7_next_118 : decode cX7_next 118 = .ok (.isub, 1) := dk_100 (dk_at dksX7_next_5 3 rfl rfl)
theorem dX7_next_119 : decode cX7_next 119 = .ok (.bipush 6, 2) := dk_16 6 (dk_at dksX7_next_5 4 rfl rfl)
theorem dX7_next_121 : decode cX7_next 121 = .ok (.if_icmp .le 7, 3) := dk_164 0 7 (dk_at dksX7_next_5 6 rfl rfl)
theorem dX7_next_124 : decode cX7_next 124 = .ok (.iconst 4, 1) := dk_7 (dk_at dksX7_next_5 9 rfl rfl)
theorem dX7_next_125 : decode cX7_next 125 = .ok (.goto 4, 3) := dk_167 0 4 (dk_at dksX7_next_5 10 rfl rfl)
theorem dX7_next_128 : decode cX7_next 128 = .ok (.iconst 1, 1) := dk_4 (dk_at dksX7_next_5 13 rfl rfl)
theorem dX7_next_129 : decode cX7_next 129 = .ok (.putfield 46, 3) := dk_181 0 46 (dk_at dksX7_next_5 14 rfl rfl)
theorem dX7_next_132 : decode cX7_next 132 = .ok (.goto 121, 3) := dk_167 0 121 (dk_at dksX7_next_5 17 rfl rfl)
theorem dX7_next_135 : decode cX7_next 135 = .ok (.aload_n 0, 1) := dk_42 (dk_at dksX7_next_5 20 rfl rfl)
theorem dX7_next_136 : decode cX7_next 136 = .ok (.aload_n 0, 1) := dk_42 (dk_at dksX7_next_5 21 rfl rfl)
theorem dX7_next_137 : decode cX7_next 137 = .ok (.getfield 43, 3) := dk_180 0 43 (dk_at dksX7_next_6 0 rfl rfl)
theorem dX7_next_140 : decode cX7_next 140 = .ok (.bipush 48, 2) := dk_16 48 (dk_at dksX7_next_6 3 rfl rfl)
theorem dX7_next_142 : decode cX7_next 142 = .ok (.bipush 57, 2) := dk_16 57 (dk_at dksX7_next_6 5 rfl rfl)
theorem dX7_next_144 : decode cX7_next 144 = .ok (.invokevirtual 49, 3) := dk_182 0 49 (dk_at dksX7_next_6 7 rfl rfl)
theorem dX7_next_147 : decode cX7_next 147 = .ok (.ifCond .eq 71, 3) := dk_153 0 71 (dk_at dksX7_next_6 10 rfl rfl)
theorem dX7_next_150 : decode cX7_next 150 = .ok (.aload_n 0, 1) := dk_42 (dk_at dksX7_next_6 13 rfl rfl)
theorem dX7_next_151 : decode cX7_next 151 = .ok (.aload_n 0, 1) := dk_42 (dk_at dksX7_next_6 14 rfl rfl)
theorem dX7_next_152 : decode cX7_next 152 = .ok (.getfield 40, 3) := dk_180 0 40 (dk_at dksX7_next_6 15 rfl rfl)
theorem dX7_next_155 : decode cX7_next 155 = .ok (.bipush 48, 2) := dk_16 48 (dk_at dksX7_next_6 18 rfl rfl)
theorem dX7_next_157 : decode cX7_next 157 = .ok (.bipush 57, 2) := dk_16 57 (dk_at dksX7_next_6 20 rfl rfl)
theorem dX7_next_159 : decode cX7_next 159 = .ok (.invokevirtual 49, 3) := dk_182 0 49 (dk_at dksX7_next_7 0 rfl rfl)
theorem dX7_next_162 : decode cX7_next 162 = .ok (.ifCond .eq 16, 3) := dk_153 0 16 (dk_at dksX7_next_7 3 rfl rfl)
theorem dX7_next_165 : decode cX7_next 165 = .ok (.aload_n 0, 1) := dk_42 (dk_at dksX7_next_7 6 rfl rfl)
theorem dX7_next_166 : decode cX7_next 166 = .ok (.dup, 1) := dk_89 (dk_at dksX7_next_7 7 rfl rfl)
theorem dX7_next_167 : decode cX7_next 167 = .ok (.getfield 40, 3) := dk_180 0 40 (dk_at dksX7_next_7 8 rfl rfl)
theorem dX7_next_170 : decode cX7_next 170 = .ok (.iconst 1, 1) := dk_4 (dk_at dksX7_next_7 11 rfl rfl)
theorem dX7_next_171 : decode cX7_next 171 = .ok (.iadd, 1) := dk_96 (dk_at dksX7_next_7 12 rfl rfl)
theorem dX7_next_172 : decode cX7_next 172 = .ok (.putfield 40, 3) := dk_181 0 40 (dk_at dksX7_next_7 13 rfl rfl)
theorem dX7_next_175 : decode cX7_next 175 = .ok (.goto (-25), 3) := dk_167 255 231 (dk_at dksX7_next_7 16 rfl rfl)
theorem dX7_next_178 : decode cX7_next 178 = .ok (.aload_n 0, 1) := dk_42 (dk_at dksX7_next_7 19 rfl rfl)
theorem dX7_next_179 : decode cX7_next 179 = .ok (.aload_n 0, 1) := dk_42 (dk_at dksX7_next_7 20 rfl rfl)
theorem dX7_next_180 : decode cX7_next 180 = .ok (.getfield 40, 3) := dk_180 0 40 (dk_at dksX7_next_7 21 rfl rfl)
theorem dX7_next_183 : decode cX7_next 183 = .ok (.aload_n 0, 1) := dk_42 (dk_at dksX7_next_8 0 rfl rfl)
theorem dX7_next_184 : decode cX7_next 184 = .ok (.getfield 43, 3) := dk_180 0 43 (dk_at dksX7_next_8 1 rfl rfl)
theorem dX7_next_187 : decode cX7_next 187 = .ok (.isub, 1) := dk_100 (dk_at dksX7_next_8 4 rfl rfl)
theorem dX7_next_188 : decode cX7_next 188 = .ok (.iconst 3, 1) := dk_6 (dk_at dksX7_next_8 5 rfl rfl)
theorem dX7_next_189 : decode cX7_next 189 = .ok (.if_icmp .gt 18, 3) := dk_163 0 18 (dk_at dksX7_next_8 6 rfl rfl)
theorem dX7_next_192 : decode cX7_next 192 = .ok (.aload_n 0, 1) := dk_42 (dk_at dksX7_next_8 9 rfl rfl)
theorem dX7_next_193 : decode cX7_next 193 = .ok (.aload_n 0, 1) := dk_42 (dk_at dksX7_next_8 10 rfl rfl)
theorem dX7_next_194 : decode cX7_next 194 = .ok (.getfield 40, 3) := dk_180 0 40 (dk_at dksX7_next_8 11 rfl rfl)
theorem dX7_next_197 : decode cX7_next 197 = .ok (.bipush 97, 2) := dk_16 97 (dk_at dksX7_next_8 14 rfl rfl)
theorem dX7_next_199 : decode cX7_next 199 = .ok (.bipush 122, 2) := dk_16 122 (dk_at dksX7_next_8 16 rfl rfl)
theorem dX7_next_201 : decode cX7_next 201 = .ok (.invokevirtual 49, 3) := dk_182 0 49 (dk_at dksX7_next_8 18 rfl rfl)
theorem dX7_next_204 : decode cX7_next 204 = .ok (.ifCond .eq 7, 3) := dk_153 0 7 (dk_at dksX7_next_8 21 rfl rfl)
theorem dX7_next_207 : decode cX7_next 207 = .ok (.iconst 4, 1) := dk_7 (dk_at dksX7_next_9 0 rfl rfl)
theorem dX7_next_208 : decode cX7_next 208 = .ok (.goto 4, 3) := dk_167 0 4 (dk_at dksX7_next_9 1 rfl rfl)
theorem dX7_next_211 : decode cX7_next 211 = .ok (.iconst 2, 1) := dk_5 (dk_at dksX7_next_9 4 rfl rfl)
theorem dX7_next_212 : decode cX7_next 212 = .ok (.putfield 46, 3) := dk_181 0 46 (dk_at dksX7_next_9 5 rfl rfl)
theorem dX7_next_215 : decode cX7_next 215 = .ok (.goto 38, 3) := dk_167 0 38 (dk_at dksX7_next_9 8 rfl rfl)
theorem dX7_next_218 : decode cX7_next 218 = .ok (.aload_n 0, 1) := dk_42 (dk_at dksX7_next_9 11 rfl rfl)
theorem dX7_next_219 : decode cX7_next 219 = .ok (.dup, 1) := dk_89 (dk_at dksX7_next_9 12 rfl rfl)
theorem dX7_next_220 : decode cX7_next 220 = .ok (.getfield 40, 3) := dk_180 0 40 (dk_at dksX7_next_9 13 rfl rfl)
theorem dX7_next_223 : decode cX7_next 223 = .ok (.iconst 1, 1) := dk_4 (dk_at dksX7_next_9 16 rfl rfl)
theorem dX7_next_224 : decode cX7_next 224 = .ok (.iadd, 1) := dk_96 (dk_at dksX7_next_9 17 rfl rfl)
theorem dX7_next_225 : decode cX7_next 225 = .ok (.putfield 40, 3) := dk_181 0 40 (dk_at dksX7_next_9 18 rfl rfl)
theorem dX7_next_228 : decode cX7_next 228 = .ok (.aload_n 0, 1) := dk_42 (dk_at dksX7_next_9 21 rfl rfl)
theorem dX7_next_229 : decode cX7_next 229 = .ok (.ldc 53, 2) := dk_18 53 (dk_at dksX7_next_9 22 rfl rfl)
theorem dX7_next_231 : decode cX7_next 231 = .ok (.aload_n 0, 1) := dk_42 (dk_at dksX7_next_10 0 rfl rfl)
theorem dX7_next_232 : decode cX7_next 232 = .ok (.aload_n 0, 1) := dk_42 (dk_at dksX7_next_10 1 rfl rfl)
theorem dX7_next_233 : decode cX7_next 233 = .ok (.getfield 43, 3) := dk_180 0 43 (dk_at dksX7_next_10 2 rfl rfl)
theorem dX7_next_236 : decode cX7_next 236 = .ok (.invokevirtual 36, 3) := dk_182 0 36 (dk_at dksX7_next_10 5 rfl rfl)
theorem dX7_next_239 : decode cX7_next 239 = .ok (.invokevirtual 55, 3) := dk_182 0 55 (dk_at dksX7_next_10 8 rfl rfl)
theorem dX7_next_242 : decode cX7_next 242 = .ok (.ifCond .lt 7, 3) := dk_155 0 7 (dk_at dksX7_next_10 11 rfl rfl)
theorem dX7_next_245 : decode cX7_next 245 = .ok (.iconst 3, 1) := dk_6 (dk_at dksX7_next_10 14 rfl rfl)
theorem dX7_next_246 : decode cX7_next 246 = .ok (.goto 4, 3) := dk_167 0 4 (dk_at dksX7_next_10 15 rfl rfl)
theorem dX7_next_249 : decode cX7_next 249 = .ok (.iconst 4, 1) := dk_7 (dk_at dksX7_next_10 18 rfl rfl)
theorem dX7_next_250 : decode cX7_next 250 = .ok (.putfield 46, 3) := dk_181 0 46 (dk_at dksX7_next_10 19 rfl rfl)
theorem dX7_next_253 : decode cX7_next 253 = .ok (.return_, 1) := dk_177 (dk_at dksX7_next_10 22 rfl rfl)
abbrev cX7_at : ByteArray := prog_5_method_2_code
def yX7_at : MethodName := ⟨RX7, "at", "(I)I"⟩
def dkwX7_at_0 : List UInt8 := [27, 42, 180, 0, 29, 162, 0, 16, 42, 180, 0, 25, 27, 51, 17, 0, 255, 126, 167, 0, 4, 2, 172]
abbrev dktX7_at_0 : List UInt8 := dkwX7_at_0 ++ []
theorem dksX7_at_0 : cX7_at.data.toList.drop 0 = dktX7_at_0 := by decide +kernel
theorem dX7_at_0 : decode cX7_at 0 = .ok (.iload_n 1, 1) := dk_27 (dk_at dksX7_at_0 0 rfl rfl)
theorem dX7_at_1 : decode cX7_at 1 = .ok (.aload_n 0, 1) := dk_42 (dk_at dksX7_at_0 1 rfl rfl)
theorem dX7_at_2 : decode cX7_at 2 = .ok (.getfield 29, 3) := dk_180 0 29 (dk_at dksX7_at_0 2 rfl rfl)
theorem dX7_at_5 : decode cX7_at 5 = .ok (.if_icmp .ge 16, 3) := dk_162 0 16 (dk_at dksX7_at_0 5 rfl rfl)
theorem dX7_at_8 : decode cX7_at 8 = .ok (.aload_n 0, 1) := dk_42 (dk_at dksX7_at_0 8 rfl rfl)
theorem dX7_at_9 : decode cX7_at 9 = .ok (.getfield 25, 3) := dk_180 0 25 (dk_at dksX7_at_0 9 rfl rfl)
theorem dX7_at_12 : decode cX7_at 12 = .ok (.iload_n 1, 1) := dk_27 (dk_at dksX7_at_0 12 rfl rfl)
theorem dX7_at_13 : decode cX7_at 13 = .ok (.baload, 1) := dk_51 (dk_at dksX7_at_0 13 rfl rfl)
theorem dX7_at_14 : decode cX7_at 14 = .ok (.sipush 255, 3) := dk_17 0 255 (dk_at dksX7_at_0 14 rfl rfl)
theorem dX7_at_17 : decode cX7_at 17 = .ok (.iand, 1) := dk_126 (dk_at dksX7_at_0 17 rfl rfl)
theorem dX7_at_18 : decode cX7_at 18 = .ok (.goto 4, 3) := dk_167 0 4 (dk_at dksX7_at_0 18 rfl rfl)
theorem dX7_at_21 : decode cX7_at 21 = .ok (.iconst (-1), 1) := dk_2 (dk_at dksX7_at_0 21 rfl rfl)
theorem dX7_at_22 : decode cX7_at 22 = .ok (.ireturn, 1) := dk_172 (dk_at dksX7_at_0 22 rfl rfl)
abbrev cX7_isBetween : ByteArray := prog_5_method_3_code
def yX7_isBetween : MethodName := ⟨RX7, "isBetween", "(ICC)Z"⟩
def dkwX7_isBetween_0 : List UInt8 := [42, 27, 182, 0, 36, 28, 161, 0, 16, 42, 27, 182, 0, 36, 29, 163, 0, 7, 4, 167, 0, 4, 3, 172]
abbrev dktX7_isBetween_0 : List UInt8 := dkwX7_isBetween_0 ++ []
theorem dksX7_isBetween_0 : cX7_isBetween.data.toList.drop 0 = dktX7_isBetween_0 := by decide +kernel
theorem dX7_isBetween_0 : decode cX7_isBetween 0 = .ok (.aload_n 0, 1) := dk_42 (dk_at dksX7_isBetween_0 0 rfl rfl)
theorem dX7_isBetween_1 : decode cX7_isBetween 1 = .ok (.iload_n 1, 1) := dk_27 (dk_at dksX7_isBetween_0 1 rfl rfl)
theorem dX7_isBetween_2 : decode cX7_isBetween 2 = .ok (.invokevirtual 36, 3) := dk_182 0 36 (dk_at dksX7_isBetween_0 2 rfl rfl)
theorem dX7_isBetween_5 : decode cX7_isBetween 5 = .ok (.iload_n 2, 1) := dk_28 (dk_at dksX7_isBetween_0 5 rfl rfl)
theorem dX7_isBetween_6 : decode cX7_isBetween 6 = .ok (.if_icmp .lt 16, 3) := dk_161 0 16 (dk_at dksX7_isBetween_0 6 rfl rfl)
theorem dX7_isBetween_9 : decode cX7_isBetween 9 = .ok (.aload_n 0, 1) := dk_42 (dk_at dksX7_isBetween_0 9 rfl rfl)
theorem dX7_isBetween_10 : decode cX7_isBetween 10 = .ok (.iload_n 1, 1) := dk_27 (dk_at dksX7_isBetween_0 10 rfl rfl)
theorem dX7_isBetween_11 : decode cX7_isBetween 11 = .ok (.invokevirtual 36, 3) := dk_182 0 36 (dk_at dksX7_isBetween_0 11 rfl rfl)
theorem dX7_isBetween_14 : decode cX7_isBetween 14 = .ok (.iload_n 3, 1) := dk_29 (dk_at dksX7_isBetween_0 14 rfl rfl)
theorem dX7_isBetween_15 : decode cX7_isBetween 15 = .ok (.if_icmp .gt 7, 3) := dk_163 0 7 (dk_at dksX7_isBetween_0 15 rfl rfl)
theorem dX7_isBetween_18 : decode cX7_isBetween 18 = .ok (.iconst 1, 1) := dk_4 (dk_at dksX7_isBetween_0 18 rfl rfl)
theorem dX7_isBetween_19 : decode cX7_isBetween 19 = .ok (.goto 4, 3) := dk_167 0 4 (dk_at dksX7_isBetween_0 19 rfl rfl)
theorem dX7_isBetween_22 : decode cX7_isBetween 22 = .ok (.iconst 0, 1) := dk_3 (dk_at dksX7_isBetween_0 22 rfl rfl)
theorem dX7_isBetween_23 : decode cX7_isBetween 23 = .ok (.ireturn, 1) := dk_172 (dk_at dksX7_isBetween_0 23 rfl rfl)
abbrev cX7_read : ByteArray := prog_5_method_11_code
def yX7_read : MethodName := ⟨RX7, "read", "()LTroupeSums$Troupe;"⟩
def dkwX7_read_1 : List UInt8 := [42, 180, 0, 12, 176, 76, 187, 0, 114, 89, 43, 183, 0, 116, 191]
abbrev dktX7_read_1 : List UInt8 := dkwX7_read_1 ++ []
def dkwX7_read_0 : List UInt8 := [42, 3, 182, 0, 105, 42, 180, 0, 46, 153, 0, 11, 42, 4, 182, 0, 105, 167, 255, 244, 42, 182, 0, 109]
abbrev dktX7_read_0 : List UInt8 := dkwX7_read_0 ++ dktX7_read_1
theorem dksX7_read_0 : cX7_read.data.toList.drop 0 = dktX7_read_0 := by decide +kernel
theorem dksX7_read_1 : cX7_read.data.toList.drop 24 = dktX7_read_1 := dk_seg dksX7_read_0 24 rfl rfl
theorem dX7_read_0 : decode cX7_read 0 = .ok (.aload_n 0, 1) := dk_42 (dk_at dksX7_read_0 0 rfl rfl)
theorem dX7_read_1 : decode cX7_read 1 = .ok (.iconst 0, 1) := dk_3 (dk_at dksX7_read_0 1 rfl rfl)
theorem dX7_read_2 : decode cX7_read 2 = .ok (.invokevirtual 105, 3) := dk_182 0 105 (dk_at dksX7_read_0 2 rfl rfl)
theorem dX7_read_5 : decode cX7_read 5 = .ok (.aload_n 0, 1) := dk_42 (dk_at dksX7_read_0 5 rfl rfl)
theorem dX7_read_6 : decode cX7_read 6 = .ok (.getfield 46, 3) := dk_180 0 46 (dk_at dksX7_read_0 6 rfl rfl)
theorem dX7_read_9 : decode cX7_read 9 = .ok (.ifCond .eq 11, 3) := dk_153 0 11 (dk_at dksX7_read_0 9 rfl rfl)
theorem dX7_read_12 : decode cX7_read 12 = .ok (.aload_n 0, 1) := dk_42 (dk_at dksX7_read_0 12 rfl rfl)
theorem dX7_read_13 : decode cX7_read 13 = .ok (.iconst 1, 1) := dk_4 (dk_at dksX7_read_0 13 rfl rfl)
theorem dX7_read_14 : decode cX7_read 14 = .ok (.invokevirtual 105, 3) := dk_182 0 105 (dk_at dksX7_read_0 14 rfl rfl)
theorem dX7_read_17 : decode cX7_read 17 = .ok (.goto (-12), 3) := dk_167 255 244 (dk_at dksX7_read_0 17 rfl rfl)
theorem dX7_read_20 : decode cX7_read 20 = .ok (.aload_n 0, 1) := dk_42 (dk_at dksX7_read_0 20 rfl rfl)
theorem dX7_read_21 : decode cX7_read 21 = .ok (.invokevirtual 109, 3) := dk_182 0 109 (dk_at dksX7_read_0 21 rfl rfl)
theorem dX7_read_24 : decode cX7_read 24 = .ok (.aload_n 0, 1) := dk_42 (dk_at dksX7_read_1 0 rfl rfl)
theorem dX7_read_25 : decode cX7_read 25 = .ok (.getfield 12, 3) := dk_180 0 12 (dk_at dksX7_read_1 1 rfl rfl)
theorem dX7_read_28 : decode cX7_read 28 = .ok (.areturn, 1) := dk_176 (dk_at dksX7_read_1 4 rfl rfl)
theorem dX7_read_29 : decode cX7_read 29 = .ok (.astore_n 1, 1) := dk_76 (dk_at dksX7_read_1 5 rfl rfl)
theorem dX7_read_30 : decode cX7_read 30 = .ok (.new 114, 3) := dk_187 0 114 (dk_at dksX7_read_1 6 rfl rfl)
theorem dX7_read_33 : decode cX7_read 33 = .ok (.dup, 1) := dk_89 (dk_at dksX7_read_1 9 rfl rfl)
theorem dX7_read_34 : decode cX7_read 34 = .ok (.aload_n 1, 1) := dk_43 (dk_at dksX7_read_1 10 rfl rfl)
theorem dX7_read_35 : decode cX7_read 35 = .ok (.invokespecial 116, 3) := dk_183 0 116 (dk_at dksX7_read_1 11 rfl rfl)
theorem dX7_read_38 : decode cX7_read 38 = .ok (.athrow, 1) := dk_191 (dk_at dksX7_read_1 14 rfl rfl)
abbrev cX7_line : ByteArray := prog_5_method_13_code
def yX7_line : MethodName := ⟨RX7, "line", "(I)V"⟩
def dkwX7_line_5 : List UInt8 := [183, 0, 62, 183, 0, 138, 191, 78, 187, 0, 112, 89, 45, 183, 0, 138, 191, 177]
abbrev dktX7_line_5 : List UInt8 := dkwX7_line_5 ++ []
def dkwX7_line_4 : List UInt8 := [167, 0, 7, 42, 182, 0, 134, 167, 0, 32, 78, 187, 0, 112, 89, 187, 0, 60, 89, 16, 6, 28]
abbrev dktX7_line_4 : List UInt8 := dkwX7_line_4 ++ dktX7_line_5
def dkwX7_line_3 : List UInt8 := [182, 0, 69, 27, 154, 0, 10, 42, 182, 0, 130, 167, 0, 20, 21, 4, 153, 0, 11, 42, 28, 182, 0, 132]
abbrev dktX7_line_3 : List UInt8 := dkwX7_line_3 ++ dktX7_line_4
def dkwX7_line_2 : List UInt8 := [167, 0, 22, 21, 4, 154, 0, 12, 45, 18, 101, 182, 0, 93, 153, 0, 7, 4, 167, 0, 4, 3, 5]
abbrev dktX7_line_2 : List UInt8 := dkwX7_line_2 ++ dktX7_line_3
def dkwX7_line_1 : List UInt8 := [180, 0, 119, 199, 0, 7, 4, 167, 0, 4, 3, 54, 4, 42, 27, 154, 0, 12, 45, 18, 97, 182, 0, 93]
abbrev dktX7_line_1 : List UInt8 := dkwX7_line_1 ++ dktX7_line_2
def dkwX7_line_0 : List UInt8 := [42, 180, 0, 43, 61, 42, 182, 0, 84, 78, 45, 18, 99, 182, 0, 93, 153, 0, 17, 42, 180, 0, 12]
abbrev dktX7_line_0 : List UInt8 := dkwX7_line_0 ++ dktX7_line_1
theorem dksX7_line_0 : cX7_line.data.toList.drop 0 = dktX7_line_0 := by decide +kernel
theorem dksX7_line_1 : cX7_line.data.toList.drop 23 = dktX7_line_1 := dk_seg dksX7_line_0 23 rfl rfl
theorem dksX7_line_2 : cX7_line.data.toList.drop 47 = dktX7_line_2 := dk_seg dksX7_line_1 24 rfl rfl
theorem dksX7_line_3 : cX7_line.data.toList.drop 70 = dktX7_line_3 := dk_seg dksX7_line_2 23 rfl rfl
theorem dksX7_line_4 : cX7_line.data.toList.drop 94 = dktX7_line_4 := dk_seg dksX7_line_3 24 rfl rfl
theorem dksX7_line_5 : cX7_line.data.toList.drop 116 = dktX7_line_5 := dk_seg dksX7_line_4 22 rfl rfl
theorem dX7_line_0 : decode cX7_line 0 = .ok (.aload_n 0, 1) := dk_42 (dk_at dksX7_line_0 0 rfl rfl)
theorem dX7_line_1 : decode cX7_line 1 = .ok (.getfield 43, 3) := dk_180 0 43 (dk_at dksX7_line_0 1 rfl rfl)
theorem dX7_line_4 : decode cX7_line 4 = .ok (.istore_n 2, 1) := dk_61 (dk_at dksX7_line_0 4 rfl rfl)
theorem dX7_line_5 : decode cX7_line 5 = .ok (.aload_n 0, 1) := dk_42 (dk_at dksX7_line_0 5 rfl rfl)
theorem dX7_line_6 : decode cX7_line 6 = .ok (.invokevirtual 84, 3) := dk_182 0 84 (dk_at dksX7_line_0 6 rfl rfl)
theorem dX7_line_9 : decode cX7_line 9 = .ok (.astore_n 3, 1) := dk_78 (dk_at dksX7_line_0 9 rfl rfl)
theorem dX7_line_10 : decode cX7_line 10 = .ok (.aload_n 3, 1) := dk_45 (dk_at dksX7_line_0 10 rfl rfl)
theorem dX7_line_11 : decode cX7_line 11 = .ok (.ldc 99, 2) := dk_18 99 (dk_at dksX7_line_0 11 rfl rfl)
theorem dX7_line_13 : decode cX7_line 13 = .ok (.invokevirtual 93, 3) := dk_182 0 93 (dk_at dksX7_line_0 13 rfl rfl)
theorem dX7_line_16 : decode cX7_line 16 = .ok (.ifCond .eq 17, 3) := dk_153 0 17 (dk_at dksX7_line_0 16 rfl rfl)
theorem dX7_line_19 : decode cX7_line 19 = .ok (.aload_n 0, 1) := dk_42 (dk_at dksX7_line_0 19 rfl rfl)
theorem dX7_line_20 : decode cX7_line 20 = .ok (.getfield 12, 3) := dk_180 0 12 (dk_at dksX7_line_0 20 rfl rfl)
theorem dX7_line_23 : decode cX7_line 23 = .ok (.getfield 119, 3) := dk_180 0 119 (dk_at dksX7_line_1 0 rfl rfl)
theorem dX7_line_26 : decode cX7_line 26 = .ok (.ifnonnull 7, 3) := dk_199 0 7 (dk_at dksX7_line_1 3 rfl rfl)
theorem dX7_line_29 : decode cX7_line 29 = .ok (.iconst 1, 1) := dk_4 (dk_at dksX7_line_1 6 rfl rfl)
theorem dX7_line_30 : decode cX7_line 30 = .ok (.goto 4, 3) := dk_167 0 4 (dk_at dksX7_line_1 7 rfl rfl)
theorem dX7_line_33 : decode cX7_line 33 = .ok (.iconst 0, 1) := dk_3 (dk_at dksX7_line_1 10 rfl rfl)
theorem dX7_line_34 : decode cX7_line 34 = .ok (.istore 4, 2) := dk_54 4 (dk_at dksX7_line_1 11 rfl rfl)
theorem dX7_line_36 : decode cX7_line 36 = .ok (.aload_n 0, 1) := dk_42 (dk_at dksX7_line_1 13 rfl rfl)
theorem dX7_line_37 : decode cX7_line 37 = .ok (.iload_n 1, 1) := dk_27 (dk_at dksX7_line_1 14 rfl rfl)
theorem dX7_line_38 : decode cX7_line 38 = .ok (.ifCond .ne 12, 3) := dk_154 0 12 (dk_at dksX7_line_1 15 rfl rfl)
theorem dX7_line_41 : decode cX7_line 41 = .ok (.aload_n 3, 1) := dk_45 (dk_at dksX7_line_1 18 rfl rfl)
theorem dX7_line_42 : decode cX7_line 42 = .ok (.ldc 97, 2) := dk_18 97 (dk_at dksX7_line_1 19 rfl rfl)
theorem dX7_line_44 : decode cX7_line 44 = .ok (.invokevirtual 93, 3) := dk_182 0 93 (dk_at dksX7_line_1 21 rfl rfl)
theorem dX7_line_47 : decode cX7_line 47 = .ok (.goto 22, 3) := dk_167 0 22 (dk_at dksX7_line_2 0 rfl rfl)
theorem dX7_line_50 : decode cX7_line 50 = .ok (.iload 4, 2) := dk_21 4 (dk_at dksX7_line_2 3 rfl rfl)
theorem dX7_line_52 : decode cX7_line 52 = .ok (.ifCond .ne 12, 3) := dk_154 0 12 (dk_at dksX7_line_2 5 rfl rfl)
theorem dX7_line_55 : decode cX7_line 55 = .ok (.aload_n 3, 1) := dk_45 (dk_at dksX7_line_2 8 rfl rfl)
theorem dX7_line_56 : decode cX7_line 56 = .ok (.ldc 101, 2) := dk_18 101 (dk_at dksX7_line_2 9 rfl rfl)
theorem dX7_line_58 : decode cX7_line 58 = .ok (.invokevirtual 93, 3) := dk_182 0 93 (dk_at dksX7_line_2 11 rfl rfl)
theorem dX7_line_61 : decode cX7_line 61 = .ok (.ifCond .eq 7, 3) := dk_153 0 7 (dk_at dksX7_line_2 14 rfl rfl)
theorem dX7_line_64 : decode cX7_line 64 = .ok (.iconst 1, 1) := dk_4 (dk_at dksX7_line_2 17 rfl rfl)
theorem dX7_line_65 : decode cX7_line 65 = .ok (.goto 4, 3) := dk_167 0 4 (dk_at dksX7_line_2 18 rfl rfl)
theorem dX7_line_68 : decode cX7_line 68 = .ok (.iconst 0, 1) := dk_3 (dk_at dksX7_line_2 21 rfl rfl)
theorem dX7_line_69 : decode cX7_line 69 = .ok (.iconst 2, 1) := dk_5 (dk_at dksX7_line_2 22 rfl rfl)
theorem dX7_line_70 : decode cX7_line 70 = .ok (.invokevirtual 69, 3) := dk_182 0 69 (dk_at dksX7_line_3 0 rfl rfl)
theorem dX7_line_73 : decode cX7_line 73 = .ok (.iload_n 1, 1) := dk_27 (dk_at dksX7_line_3 3 rfl rfl)
theorem dX7_line_74 : decode cX7_line 74 = .ok (.ifCond .ne 10, 3) := dk_154 0 10 (dk_at dksX7_line_3 4 rfl rfl)
theorem dX7_line_77 : decode cX7_line 77 = .ok (.aload_n 0, 1) := dk_42 (dk_at dksX7_line_3 7 rfl rfl)
theorem dX7_line_78 : decode cX7_line 78 = .ok (.invokevirtual 130, 3) := dk_182 0 130 (dk_at dksX7_line_3 8 rfl rfl)
theorem dX7_line_81 : decode cX7_line 81 = .ok (.goto 20, 3) := dk_167 0 20 (dk_at dksX7_line_3 11 rfl rfl)
theorem dX7_line_84 : decode cX7_line 84 = .ok (.iload 4, 2) := dk_21 4 (dk_at dksX7_line_3 14 rfl rfl)
theorem dX7_line_86 : decode cX7_line 86 = .ok (.ifCond .eq 11, 3) := dk_153 0 11 (dk_at dksX7_line_3 16 rfl rfl)
theorem dX7_line_89 : decode cX7_line 89 = .ok (.aload_n 0, 1) := dk_42 (dk_at dksX7_line_3 19 rfl rfl)
theorem dX7_line_90 : decode cX7_line 90 = .ok (.iload_n 2, 1) := dk_28 (dk_at dksX7_line_3 20 rfl rfl)
theorem dX7_line_91 : decode cX7_line 91 = .ok (.invokevirtual 132, 3) := dk_182 0 132 (dk_at dksX7_line_3 21 rfl rfl)
theorem dX7_line_94 : decode cX7_line 94 = .ok (.goto 7, 3) := dk_167 0 7 (dk_at dksX7_line_4 0 rfl rfl)
theorem dX7_line_97 : decode cX7_line 97 = .ok (.aload_n 0, 1) := dk_42 (dk_at dksX7_line_4 3 rfl rfl)
theorem dX7_line_98 : decode cX7_line 98 = .ok (.invokevirtual 134, 3) := dk_182 0 134 (dk_at dksX7_line_4 4 rfl rfl)
theorem dX7_line_101 : decode cX7_line 101 = .ok (.goto 32, 3) := dk_167 0 32 (dk_at dksX7_line_4 7 rfl rfl)
theorem dX7_line_104 : decode cX7_line 104 = .ok (.astore_n 3, 1) := dk_78 (dk_at dksX7_line_4 10 rfl rfl)
theorem dX7_line_105 : decode cX7_line 105 = .ok (.new 112, 3) := dk_187 0 112 (dk_at dksX7_line_4 11 rfl rfl)
theorem dX7_line_108 : decode cX7_line 108 = .ok (.dup, 1) := dk_89 (dk_at dksX7_line_4 14 rfl rfl)
theorem dX7_line_109 : decode cX7_line 109 = .ok (.new 60, 3) := dk_187 0 60 (dk_at dksX7_line_4 15 rfl rfl)
theorem dX7_line_112 : decode cX7_line 112 = .ok (.dup, 1) := dk_89 (dk_at dksX7_line_4 18 rfl rfl)
theorem dX7_line_113 : decode cX7_line 113 = .ok (.bipush 6, 2) := dk_16 6 (dk_at dksX7_line_4 19 rfl rfl)
theorem dX7_line_115 : decode cX7_line 115 = .ok (.iload_n 2, 1) := dk_28 (dk_at dksX7_line_4 21 rfl rfl)
theorem dX7_line_116 : decode cX7_line 116 = .ok (.invokespecial 62, 3) := dk_183 0 62 (dk_at dksX7_line_5 0 rfl rfl)
theorem dX7_line_119 : decode cX7_line 119 = .ok (.invokespecial 138, 3) := dk_183 0 138 (dk_at dksX7_line_5 3 rfl rfl)
theorem dX7_line_122 : decode cX7_line 122 = .ok (.athrow, 1) := dk_191 (dk_at dksX7_line_5 6 rfl rfl)
theorem dX7_line_123 : decode cX7_line 123 = .ok (.astore_n 3, 1) := dk_78 (dk_at dksX7_line_5 7 rfl rfl)
theorem dX7_line_124 : decode cX7_line 124 = .ok (.new 112, 3) := dk_187 0 112 (dk_at dksX7_line_5 8 rfl rfl)
theorem dX7_line_127 : decode cX7_line 127 = .ok (.dup, 1) := dk_89 (dk_at dksX7_line_5 11 rfl rfl)
theorem dX7_line_128 : decode cX7_line 128 = .ok (.aload_n 3, 1) := dk_45 (dk_at dksX7_line_5 12 rfl rfl)
theorem dX7_line_129 : decode cX7_line 129 = .ok (.invokespecial 138, 3) := dk_183 0 138 (dk_at dksX7_line_5 13 rfl rfl)
theorem dX7_line_132 : decode cX7_line 132 = .ok (.athrow, 1) := dk_191 (dk_at dksX7_line_5 16 rfl rfl)
theorem dX7_line_133 : decode cX7_line 133 = .ok (.return_, 1) := dk_177 (dk_at dksX7_line_5 17 rfl rfl)
abbrev cX7_word : ByteArray := prog_5_method_8_code
def yX7_word : MethodName := ⟨RX7, "word", "()Ljava/lang/String;"⟩
def dkwX7_word_2 : List UInt8 := [43, 182, 0, 80, 176]
abbrev dktX7_word_2 : List UInt8 := dkwX7_word_2 ++ []
def dkwX7_word_1 : List UInt8 := [180, 0, 46, 4, 160, 0, 20, 43, 42, 28, 182, 0, 36, 146, 182, 0, 76, 87, 132, 2, 1, 167, 255, 226]
abbrev dktX7_word_1 : List UInt8 := dkwX7_word_1 ++ dktX7_word_2
def dkwX7_word_0 : List UInt8 := [187, 0, 73, 89, 183, 0, 75, 76, 42, 180, 0, 43, 61, 28, 42, 180, 0, 40, 162, 0, 28, 42]
abbrev dktX7_word_0 : List UInt8 := dkwX7_word_0 ++ dktX7_word_1
theorem dksX7_word_0 : cX7_word.data.toList.drop 0 = dktX7_word_0 := by decide +kernel
theorem dksX7_word_1 : cX7_word.data.toList.drop 22 = dktX7_word_1 := dk_seg dksX7_word_0 22 rfl rfl
theorem dksX7_word_2 : cX7_word.data.toList.drop 46 = dktX7_word_2 := dk_seg dksX7_word_1 24 rfl rfl
theorem dX7_word_0 : decode cX7_word 0 = .ok (.new 73, 3) := dk_187 0 73 (dk_at dksX7_word_0 0 rfl rfl)
theorem dX7_word_3 : decode cX7_word 3 = .ok (.dup, 1) := dk_89 (dk_at dksX7_word_0 3 rfl rfl)
theorem dX7_word_4 : decode cX7_word 4 = .ok (.invokespecial 75, 3) := dk_183 0 75 (dk_at dksX7_word_0 4 rfl rfl)
theorem dX7_word_7 : decode cX7_word 7 = .ok (.astore_n 1, 1) := dk_76 (dk_at dksX7_word_0 7 rfl rfl)
theorem dX7_word_8 : decode cX7_word 8 = .ok (.aload_n 0, 1) := dk_42 (dk_at dksX7_word_0 8 rfl rfl)
theorem dX7_word_9 : decode cX7_word 9 = .ok (.getfield 43, 3) := dk_180 0 43 (dk_at dksX7_word_0 9 rfl rfl)
theorem dX7_word_12 : decode cX7_word 12 = .ok (.istore_n 2, 1) := dk_61 (dk_at dksX7_word_0 12 rfl rfl)
theorem dX7_word_13 : decode cX7_word 13 = .ok (.iload_n 2, 1) := dk_28 (dk_at dksX7_word_0 13 rfl rfl)
theorem dX7_word_14 : decode cX7_word 14 = .ok (.aload_n 0, 1) := dk_42 (dk_at dksX7_word_0 14 rfl rfl)
theorem dX7_word_15 : decode cX7_word 15 = .ok (.getfield 40, 3) := dk_180 0 40 (dk_at dksX7_word_0 15 rfl rfl)
theorem dX7_word_18 : decode cX7_word 18 = .ok (.if_icmp .ge 28, 3) := dk_162 0 28 (dk_at dksX7_word_0 18 rfl rfl)
theorem dX7_word_21 : decode cX7_word 21 = .ok (.aload_n 0, 1) := dk_42 (dk_at dksX7_word_0 21 rfl rfl)
theorem dX7_word_22 : decode cX7_word 22 = .ok (.getfield 46, 3) := dk_180 0 46 (dk_at dksX7_word_1 0 rfl rfl)
theorem dX7_word_25 : decode cX7_word 25 = .ok (.iconst 1, 1) := dk_4 (dk_at dksX7_word_1 3 rfl rfl)
theorem dX7_word_26 : decode cX7_word 26 = .ok (.if_icmp .ne 20, 3) := dk_160 0 20 (dk_at dksX7_word_1 4 rfl rfl)
theorem dX7_word_29 : decode cX7_word 29 = .ok (.aload_n 1, 1) := dk_43 (dk_at dksX7_word_1 7 rfl rfl)
theorem dX7_word_30 : decode cX7_word 30 = .ok (.aload_n 0, 1) := dk_42 (dk_at dksX7_word_1 8 rfl rfl)
theorem dX7_word_31 : decode cX7_word 31 = .ok (.iload_n 2, 1) := dk_28 (dk_at dksX7_word_1 9 rfl rfl)
theorem dX7_word_32 : decode cX7_word 32 = .ok (.invokevirtual 36, 3) := dk_182 0 36 (dk_at dksX7_word_1 10 rfl rfl)
theorem dX7_word_35 : decode cX7_word 35 = .ok (.i2c, 1) := dk_146 (dk_at dksX7_word_1 13 rfl rfl)
theorem dX7_word_36 : decode cX7_word 36 = .ok (.invokevirtual 76, 3) := dk_182 0 76 (dk_at dksX7_word_1 14 rfl rfl)
theorem dX7_word_39 : decode cX7_word 39 = .ok (.pop, 1) := dk_87 (dk_at dksX7_word_1 17 rfl rfl)
theorem dX7_word_40 : decode cX7_word 40 = .ok (.iinc 2 1, 3) := dk_132 2 1 (dk_at dksX7_word_1 18 rfl rfl)
theorem dX7_word_43 : decode cX7_word 43 = .ok (.goto (-30), 3) := dk_167 255 226 (dk_at dksX7_word_1 21 rfl rfl)
theorem dX7_word_46 : decode cX7_word 46 = .ok (.aload_n 1, 1) := dk_43 (dk_at dksX7_word_2 0 rfl rfl)
theorem dX7_word_47 : decode cX7_word 47 = .ok (.invokevirtual 80, 3) := dk_182 0 80 (dk_at dksX7_word_2 1 rfl rfl)
theorem dX7_word_50 : decode cX7_word 50 = .ok (.areturn, 1) := dk_176 (dk_at dksX7_word_2 4 rfl rfl)
abbrev cX7_need : ByteArray := prog_5_method_5_code
def yX7_need : MethodName := ⟨RX7, "need", "(ZI)V"⟩
def dkwX7_need_1 : List UInt8 := [180, 0, 43, 183, 0, 62, 191, 177]
abbrev dktX7_need_1 : List UInt8 := dkwX7_need_1 ++ []
def dkwX7_need_0 : List UInt8 := [27, 154, 0, 28, 187, 0, 60, 89, 42, 180, 0, 46, 7, 160, 0, 7, 4, 167, 0, 4, 28, 42]
abbrev dktX7_need_0 : List UInt8 := dkwX7_need_0 ++ dktX7_need_1
theorem dksX7_need_0 : cX7_need.data.toList.drop 0 = dktX7_need_0 := by decide +kernel
theorem dksX7_need_1 : cX7_need.data.toList.drop 22 = dktX7_need_1 := dk_seg dksX7_need_0 22 rfl rfl
theorem dX7_need_0 : decode cX7_need 0 = .ok (.iload_n 1, 1) := dk_27 (dk_at dksX7_need_0 0 rfl rfl)
theorem dX7_need_1 : decode cX7_need 1 = .ok (.ifCond .ne 28, 3) := dk_154 0 28 (dk_at dksX7_need_0 1 rfl rfl)
theorem dX7_need_4 : decode cX7_need 4 = .ok (.new 60, 3) := dk_187 0 60 (dk_at dksX7_need_0 4 rfl rfl)
theorem dX7_need_7 : decode cX7_need 7 = .ok (.dup, 1) := dk_89 (dk_at dksX7_need_0 7 rfl rfl)
theorem dX7_need_8 : decode cX7_need 8 = .ok (.aload_n 0, 1) := dk_42 (dk_at dksX7_need_0 8 rfl rfl)
theorem dX7_need_9 : decode cX7_need 9 = .ok (.getfield 46, 3) := dk_180 0 46 (dk_at dksX7_need_0 9 rfl rfl)
theorem dX7_need_12 : decode cX7_need 12 = .ok (.iconst 4, 1) := dk_7 (dk_at dksX7_need_0 12 rfl rfl)
theorem dX7_need_13 : decode cX7_need 13 = .ok (.if_icmp .ne 7, 3) := dk_160 0 7 (dk_at dksX7_need_0 13 rfl rfl)
theorem dX7_need_16 : decode cX7_need 16 = .ok (.iconst 1, 1) := dk_4 (dk_at dksX7_need_0 16 rfl rfl)
theorem dX7_need_17 : decode cX7_need 17 = .ok (.goto 4, 3) := dk_167 0 4 (dk_at dksX7_need_0 17 rfl rfl)
theorem dX7_need_20 : decode cX7_need 20 = .ok (.iload_n 2, 1) := dk_28 (dk_at dksX7_need_0 20 rfl rfl)
theorem dX7_need_21 : decode cX7_need 21 = .ok (.aload_n 0, 1) := dk_42 (dk_at dksX7_need_0 21 rfl rfl)
theorem dX7_need_22 : decode cX7_need 22 = .ok (.getfield 43, 3) := dk_180 0 43 (dk_at dksX7_need_1 0 rfl rfl)
theorem dX7_need_25 : decode cX7_need 25 = .ok (.invokespecial 62, 3) := dk_183 0 62 (dk_at dksX7_need_1 3 rfl rfl)
theorem dX7_need_28 : decode cX7_need 28 = .ok (.athrow, 1) := dk_191 (dk_at dksX7_need_1 6 rfl rfl)
theorem dX7_need_29 : decode cX7_need 29 = .ok (.return_, 1) := dk_177 (dk_at dksX7_need_1 7 rfl rfl)
abbrev cX7_places : ByteArray := prog_5_method_14_code
def yX7_places : MethodName := ⟨RX7, "places", "()V"⟩
def dkwX7_places_3 : List UInt8 := [183, 0, 146, 3, 184, 0, 149, 182, 0, 155, 87, 42, 16, 59, 182, 0, 159, 177]
abbrev dktX7_places_3 : List UInt8 := dkwX7_places_3 ++ []
def dkwX7_places_2 : List UInt8 := [162, 0, 13, 44, 29, 29, 79, 132, 3, 1, 167, 255, 244, 42, 180, 0, 21, 187, 0, 144, 89, 44]
abbrev dktX7_places_2 : List UInt8 := dkwX7_places_2 ++ dktX7_places_3
def dkwX7_places_1 : List UInt8 := [182, 0, 69, 42, 182, 0, 33, 42, 180, 0, 12, 27, 181, 0, 125, 27, 188, 10, 77, 3, 62, 29, 27]
abbrev dktX7_places_1 : List UInt8 := dkwX7_places_1 ++ dktX7_places_2
def dkwX7_places_0 : List UInt8 := [42, 182, 0, 33, 42, 16, 6, 182, 0, 141, 60, 42, 27, 158, 0, 7, 4, 167, 0, 4, 3, 7]
abbrev dktX7_places_0 : List UInt8 := dkwX7_places_0 ++ dktX7_places_1
theorem dksX7_places_0 : cX7_places.data.toList.drop 0 = dktX7_places_0 := by decide +kernel
theorem dksX7_places_1 : cX7_places.data.toList.drop 22 = dktX7_places_1 := dk_seg dksX7_places_0 22 rfl rfl
theorem dksX7_places_2 : cX7_places.data.toList.drop 45 = dktX7_places_2 := dk_seg dksX7_places_1 23 rfl rfl
theorem dksX7_places_3 : cX7_places.data.toList.drop 67 = dktX7_places_3 := dk_seg dksX7_places_2 22 rfl rfl
theorem dX7_places_0 : decode cX7_places 0 = .ok (.aload_n 0, 1) := dk_42 (dk_at dksX7_places_0 0 rfl rfl)
theorem dX7_places_1 : decode cX7_places 1 = .ok (.invokevirtual 33, 3) := dk_182 0 33 (dk_at dksX7_places_0 1 rfl rfl)
theorem dX7_places_4 : decode cX7_places 4 = .ok (.aload_n 0, 1) := dk_42 (dk_at dksX7_places_0 4 rfl rfl)
theorem dX7_places_5 : decode cX7_places 5 = .ok (.bipush 6, 2) := dk_16 6 (dk_at dksX7_places_0 5 rfl rfl)
theorem dX7_places_7 : decode cX7_places 7 = .ok (.invokevirtual 141, 3) := dk_182 0 141 (dk_at dksX7_places_0 7 rfl rfl)
theorem dX7_places_10 : decode cX7_places 10 = .ok (.istore_n 1, 1) := dk_60 (dk_at dksX7_places_0 10 rfl rfl)
theorem dX7_places_11 : decode cX7_places 11 = .ok (.aload_n 0, 1) := dk_42 (dk_at dksX7_places_0 11 rfl rfl)
theorem dX7_places_12 : decode cX7_places 12 = .ok (.iload_n 1, 1) := dk_27 (dk_at dksX7_places_0 12 rfl rfl)
theorem dX7_places_13 : decode cX7_places 13 = .ok (.ifCond .le 7, 3) := dk_158 0 7 (dk_at dksX7_places_0 13 rfl rfl)
theorem dX7_places_16 : decode cX7_places 16 = .ok (.iconst 1, 1) := dk_4 (dk_at dksX7_places_0 16 rfl rfl)
theorem dX7_places_17 : decode cX7_places 17 = .ok (.goto 4, 3) := dk_167 0 4 (dk_at dksX7_places_0 17 rfl rfl)
theorem dX7_places_20 : decode cX7_places 20 = .ok (.iconst 0, 1) := dk_3 (dk_at dksX7_places_0 20 rfl rfl)
theorem dX7_places_21 : decode cX7_places 21 = .ok (.iconst 4, 1) := dk_7 (dk_at dksX7_places_0 21 rfl rfl)
theorem dX7_places_22 : decode cX7_places 22 = .ok (.invokevirtual 69, 3) := dk_182 0 69 (dk_at dksX7_places_1 0 rfl rfl)
theorem dX7_places_25 : decode cX7_places 25 = .ok (.aload_n 0, 1) := dk_42 (dk_at dksX7_places_1 3 rfl rfl)
theorem dX7_places_26 : decode cX7_places 26 = .ok (.invokevirtual 33, 3) := dk_182 0 33 (dk_at dksX7_places_1 4 rfl rfl)
theorem dX7_places_29 : decode cX7_places 29 = .ok (.aload_n 0, 1) := dk_42 (dk_at dksX7_places_1 7 rfl rfl)
theorem dX7_places_30 : decode cX7_places 30 = .ok (.getfield 12, 3) := dk_180 0 12 (dk_at dksX7_places_1 8 rfl rfl)
theorem dX7_places_33 : decode cX7_places 33 = .ok (.iload_n 1, 1) := dk_27 (dk_at dksX7_places_1 11 rfl rfl)
theorem dX7_places_34 : decode cX7_places 34 = .ok (.putfield 125, 3) := dk_181 0 125 (dk_at dksX7_places_1 12 rfl rfl)
theorem dX7_places_37 : decode cX7_places 37 = .ok (.iload_n 1, 1) := dk_27 (dk_at dksX7_places_1 15 rfl rfl)
theorem dX7_places_38 : decode cX7_places 38 = .ok (.newarray .int, 2) := dk_188_10 (dk_at dksX7_places_1 16 rfl rfl)
theorem dX7_places_40 : decode cX7_places 40 = .ok (.astore_n 2, 1) := dk_77 (dk_at dksX7_places_1 18 rfl rfl)
theorem dX7_places_41 : decode cX7_places 41 = .ok (.iconst 0, 1) := dk_3 (dk_at dksX7_places_1 19 rfl rfl)
theorem dX7_places_42 : decode cX7_places 42 = .ok (.istore_n 3, 1) := dk_62 (dk_at dksX7_places_1 20 rfl rfl)
theorem dX7_places_43 : decode cX7_places 43 = .ok (.iload_n 3, 1) := dk_29 (dk_at dksX7_places_1 21 rfl rfl)
theorem dX7_places_44 : decode cX7_places 44 = .ok (.iload_n 1, 1) := dk_27 (dk_at dksX7_places_1 22 rfl rfl)
theorem dX7_places_45 : decode cX7_places 45 = .ok (.if_icmp .ge 13, 3) := dk_162 0 13 (dk_at dksX7_places_2 0 rfl rfl)
theorem dX7_places_48 : decode cX7_places 48 = .ok (.aload_n 2, 1) := dk_44 (dk_at dksX7_places_2 3 rfl rfl)
theorem dX7_places_49 : decode cX7_places 49 = .ok (.iload_n 3, 1) := dk_29 (dk_at dksX7_places_2 4 rfl rfl)
theorem dX7_places_50 : decode cX7_places 50 = .ok (.iload_n 3, 1) := dk_29 (dk_at dksX7_places_2 5 rfl rfl)
theorem dX7_places_51 : decode cX7_places 51 = .ok (.iastore, 1) := dk_79 (dk_at dksX7_places_2 6 rfl rfl)
theorem dX7_places_52 : decode cX7_places 52 = .ok (.iinc 3 1, 3) := dk_132 3 1 (dk_at dksX7_places_2 7 rfl rfl)
theorem dX7_places_55 : decode cX7_places 55 = .ok (.goto (-12), 3) := dk_167 255 244 (dk_at dksX7_places_2 10 rfl rfl)
theorem dX7_places_58 : decode cX7_places 58 = .ok (.aload_n 0, 1) := dk_42 (dk_at dksX7_places_2 13 rfl rfl)
theorem dX7_places_59 : decode cX7_places 59 = .ok (.getfield 21, 3) := dk_180 0 21 (dk_at dksX7_places_2 14 rfl rfl)
theorem dX7_places_62 : decode cX7_places 62 = .ok (.new 144, 3) := dk_187 0 144 (dk_at dksX7_places_2 17 rfl rfl)
theorem dX7_places_65 : decode cX7_places 65 = .ok (.dup, 1) := dk_89 (dk_at dksX7_places_2 20 rfl rfl)
theorem dX7_places_66 : decode cX7_places 66 = .ok (.aload_n 2, 1) := dk_44 (dk_at dksX7_places_2 21 rfl rfl)
theorem dX7_places_67 : decode cX7_places 67 = .ok (.invokespecial 146, 3) := dk_183 0 146 (dk_at dksX7_places_3 0 rfl rfl)
theorem dX7_places_70 : decode cX7_places 70 = .ok (.iconst 0, 1) := dk_3 (dk_at dksX7_places_3 3 rfl rfl)
theorem dX7_places_71 : decode cX7_places 71 = .ok (.invokestatic 149, 3) := dk_184 0 149 (dk_at dksX7_places_3 4 rfl rfl)
theorem dX7_places_74 : decode cX7_places 74 = .ok (.invokevirtual 155, 3) := dk_182 0 155 (dk_at dksX7_places_3 7 rfl rfl)
theorem dX7_places_77 : decode cX7_places 77 = .ok (.pop, 1) := dk_87 (dk_at dksX7_places_3 10 rfl rfl)
theorem dX7_places_78 : decode cX7_places 78 = .ok (.aload_n 0, 1) := dk_42 (dk_at dksX7_places_3 11 rfl rfl)
theorem dX7_places_79 : decode cX7_places 79 = .ok (.bipush 59, 2) := dk_16 59 (dk_at dksX7_places_3 12 rfl rfl)
theorem dX7_places_81 : decode cX7_places 81 = .ok (.invokevirtual 159, 3) := dk_182 0 159 (dk_at dksX7_places_3 14 rfl rfl)
theorem dX7_places_84 : decode cX7_places 84 = .ok (.return_, 1) := dk_177 (dk_at dksX7_places_3 17 rfl rfl)
abbrev cX7_number : ByteArray := prog_5_method_10_code
def yX7_number : MethodName := ⟨RX7, "number", "(I)I"⟩
def dkwX7_number_2 : List UInt8 := [132, 3, 1, 167, 255, 231, 42, 28, 27, 163, 0, 7, 4, 167, 0, 4, 3, 7, 182, 0, 69, 28, 172]
abbrev dktX7_number_2 : List UInt8 := dkwX7_number_2 ++ []
def dkwX7_number_1 : List UInt8 := [62, 29, 42, 180, 0, 40, 162, 0, 23, 16, 10, 28, 104, 42, 29, 182, 0, 36, 96, 16, 48, 100, 61]
abbrev dktX7_number_1 : List UInt8 := dkwX7_number_1 ++ dktX7_number_2
def dkwX7_number_0 : List UInt8 := [42, 42, 180, 0, 46, 5, 160, 0, 7, 4, 167, 0, 4, 3, 5, 182, 0, 69, 3, 61, 42, 180, 0, 43]
abbrev dktX7_number_0 : List UInt8 := dkwX7_number_0 ++ dktX7_number_1
theorem dksX7_number_0 : cX7_number.data.toList.drop 0 = dktX7_number_0 := by decide +kernel
theorem dksX7_number_1 : cX7_number.data.toList.drop 24 = dktX7_number_1 := dk_seg dksX7_number_0 24 rfl rfl
theorem dksX7_number_2 : cX7_number.data.toList.drop 47 = dktX7_number_2 := dk_seg dksX7_number_1 23 rfl rfl
theorem dX7_number_0 : decode cX7_number 0 = .ok (.aload_n 0, 1) := dk_42 (dk_at dksX7_number_0 0 rfl rfl)
theorem dX7_number_1 : decode cX7_number 1 = .ok (.aload_n 0, 1) := dk_42 (dk_at dksX7_number_0 1 rfl rfl)
theorem dX7_number_2 : decode cX7_number 2 = .ok (.getfield 46, 3) := dk_180 0 46 (dk_at dksX7_number_0 2 rfl rfl)
theorem dX7_number_5 : decode cX7_number 5 = .ok (.iconst 2, 1) := dk_5 (dk_at dksX7_number_0 5 rfl rfl)
theorem dX7_number_6 : decode cX7_number 6 = .ok (.if_icmp .ne 7, 3) := dk_160 0 7 (dk_at dksX7_number_0 6 rfl rfl)
theorem dX7_number_9 : decode cX7_number 9 = .ok (.iconst 1, 1) := dk_4 (dk_at dksX7_number_0 9 rfl rfl)
theorem dX7_number_10 : decode cX7_number 10 = .ok (.goto 4, 3) := dk_167 0 4 (dk_at dksX7_number_0 10 rfl rfl)
theorem dX7_number_13 : decode cX7_number 13 = .ok (.iconst 0, 1) := dk_3 (dk_at dksX7_number_0 13 rfl rfl)
theorem dX7_number_14 : decode cX7_number 14 = .ok (.iconst 2, 1) := dk_5 (dk_at dksX7_number_0 14 rfl rfl)
theorem dX7_number_15 : decode cX7_number 15 = .ok (.invokevirtual 69, 3) := dk_182 0 69 (dk_at dksX7_number_0 15 rfl rfl)
theorem dX7_number_18 : decode cX7_number 18 = .ok (.iconst 0, 1) := dk_3 (dk_at dksX7_number_0 18 rfl rfl)
theorem dX7_number_19 : decode cX7_number 19 = .ok (.istore_n 2, 1) := dk_61 (dk_at dksX7_number_0 19 rfl rfl)
theorem dX7_number_20 : decode cX7_number 20 = .ok (.aload_n 0, 1) := dk_42 (dk_at dksX7_number_0 20 rfl rfl)
theorem dX7_number_21 : decode cX7_number 21 = .ok (.getfield 43, 3) := dk_180 0 43 (dk_at dksX7_number_0 21 rfl rfl)
theorem dX7_number_24 : decode cX7_number 24 = .ok (.istore_n 3, 1) := dk_62 (dk_at dksX7_number_1 0 rfl rfl)
theorem dX7_number_25 : decode cX7_number 25 = .ok (.iload_n 3, 1) := dk_29 (dk_at dksX7_number_1 1 rfl rfl)
theorem dX7_number_26 : decode cX7_number 26 = .ok (.aload_n 0, 1) := dk_42 (dk_at dksX7_number_1 2 rfl rfl)
theorem dX7_number_27 : decode cX7_number 27 = .ok (.getfield 40, 3) := dk_180 0 40 (dk_at dksX7_number_1 3 rfl rfl)
theorem dX7_number_30 : decode cX7_number 30 = .ok (.if_icmp .ge 23, 3) := dk_162 0 23 (dk_at dksX7_number_1 6 rfl rfl)
theorem dX7_number_33 : decode cX7_number 33 = .ok (.bipush 10, 2) := dk_16 10 (dk_at dksX7_number_1 9 rfl rfl)
theorem dX7_number_35 : decode cX7_number 35 = .ok (.iload_n 2, 1) := dk_28 (dk_at dksX7_number_1 11 rfl rfl)
theorem dX7_number_36 : decode cX7_number 36 = .ok (.imul, 1) := dk_104 (dk_at dksX7_number_1 12 rfl rfl)
theorem dX7_number_37 : decode cX7_number 37 = .ok (.aload_n 0, 1) := dk_42 (dk_at dksX7_number_1 13 rfl rfl)
theorem dX7_number_38 : decode cX7_number 38 = .ok (.iload_n 3, 1) := dk_29 (dk_at dksX7_number_1 14 rfl rfl)
theorem dX7_number_39 : decode cX7_number 39 = .ok (.invokevirtual 36, 3) := dk_182 0 36 (dk_at dksX7_number_1 15 rfl rfl)
theorem dX7_number_42 : decode cX7_number 42 = .ok (.iadd, 1) := dk_96 (dk_at dksX7_number_1 18 rfl rfl)
theorem dX7_number_43 : decode cX7_number 43 = .ok (.bipush 48, 2) := dk_16 48 (dk_at dksX7_number_1 19 rfl rfl)
theorem dX7_number_45 : decode cX7_number 45 = .ok (.isub, 1) := dk_100 (dk_at dksX7_number_1 21 rfl rfl)
theorem dX7_number_46 : decode cX7_number 46 = .ok (.istore_n 2, 1) := dk_61 (dk_at dksX7_number_1 22 rfl rfl)
theorem dX7_number_47 : decode cX7_number 47 = .ok (.iinc 3 1, 3) := dk_132 3 1 (dk_at dksX7_number_2 0 rfl rfl)
theorem dX7_number_50 : decode cX7_number 50 = .ok (.goto (-25), 3) := dk_167 255 231 (dk_at dksX7_number_2 3 rfl rfl)
theorem dX7_number_53 : decode cX7_number 53 = .ok (.aload_n 0, 1) := dk_42 (dk_at dksX7_number_2 6 rfl rfl)
theorem dX7_number_54 : decode cX7_number 54 = .ok (.iload_n 2, 1) := dk_28 (dk_at dksX7_number_2 7 rfl rfl)
theorem dX7_number_55 : decode cX7_number 55 = .ok (.iload_n 1, 1) := dk_27 (dk_at dksX7_number_2 8 rfl rfl)
theorem dX7_number_56 : decode cX7_number 56 = .ok (.if_icmp .gt 7, 3) := dk_163 0 7 (dk_at dksX7_number_2 9 rfl rfl)
theorem dX7_number_59 : decode cX7_number 59 = .ok (.iconst 1, 1) := dk_4 (dk_at dksX7_number_2 12 rfl rfl)
theorem dX7_number_60 : decode cX7_number 60 = .ok (.goto 4, 3) := dk_167 0 4 (dk_at dksX7_number_2 13 rfl rfl)
theorem dX7_number_63 : decode cX7_number 63 = .ok (.iconst 0, 1) := dk_3 (dk_at dksX7_number_2 16 rfl rfl)
theorem dX7_number_64 : decode cX7_number 64 = .ok (.iconst 4, 1) := dk_7 (dk_at dksX7_number_2 17 rfl rfl)
theorem dX7_number_65 : decode cX7_number 65 = .ok (.invokevirtual 69, 3) := dk_182 0 69 (dk_at dksX7_number_2 18 rfl rfl)
theorem dX7_number_68 : decode cX7_number 68 = .ok (.iload_n 2, 1) := dk_28 (dk_at dksX7_number_2 21 rfl rfl)
theorem dX7_number_69 : decode cX7_number 69 = .ok (.ireturn, 1) := dk_172 (dk_at dksX7_number_2 22 rfl rfl)
abbrev cX7_sign : ByteArray := prog_5_method_7_code
def yX7_sign : MethodName := ⟨RX7, "sign", "(C)V"⟩
def dkwX7_sign_0 : List UInt8 := [42, 42, 27, 182, 0, 65, 5, 182, 0, 69, 42, 182, 0, 33, 177]
abbrev dktX7_sign_0 : List UInt8 := dkwX7_sign_0 ++ []
theorem dksX7_sign_0 : cX7_sign.data.toList.drop 0 = dktX7_sign_0 := by decide +kernel
theorem dX7_sign_0 : decode cX7_sign 0 = .ok (.aload_n 0, 1) := dk_42 (dk_at dksX7_sign_0 0 rfl rfl)
theorem dX7_sign_1 : decode cX7_sign 1 = .ok (.aload_n 0, 1) := dk_42 (dk_at dksX7_sign_0 1 rfl rfl)
theorem dX7_sign_2 : decode cX7_sign 2 = .ok (.iload_n 1, 1) := dk_27 (dk_at dksX7_sign_0 2 rfl rfl)
theorem dX7_sign_3 : decode cX7_sign 3 = .ok (.invokevirtual 65, 3) := dk_182 0 65 (dk_at dksX7_sign_0 3 rfl rfl)
theorem dX7_sign_6 : decode cX7_sign 6 = .ok (.iconst 2, 1) := dk_5 (dk_at dksX7_sign_0 6 rfl rfl)
theorem dX7_sign_7 : decode cX7_sign 7 = .ok (.invokevirtual 69, 3) := dk_182 0 69 (dk_at dksX7_sign_0 7 rfl rfl)
theorem dX7_sign_10 : decode cX7_sign 10 = .ok (.aload_n 0, 1) := dk_42 (dk_at dksX7_sign_0 10 rfl rfl)
theorem dX7_sign_11 : decode cX7_sign 11 = .ok (.invokevirtual 33, 3) := dk_182 0 33 (dk_at dksX7_sign_0 11 rfl rfl)
theorem dX7_sign_14 : decode cX7_sign 14 = .ok (.return_, 1) := dk_177 (dk_at dksX7_sign_0 14 rfl rfl)
abbrev cX7_isSign : ByteArray := prog_5_method_6_code
def yX7_isSign : MethodName := ⟨RX7, "isSign", "(C)Z"⟩
def dkwX7_isSign_1 : List UInt8 := [3, 172]
abbrev dktX7_isSign_1 : List UInt8 := dkwX7_isSign_1 ++ []
def dkwX7_isSign_0 : List UInt8 := [42, 180, 0, 46, 6, 160, 0, 19, 42, 42, 180, 0, 43, 182, 0, 36, 27, 160, 0, 7, 4, 167, 0, 4]
abbrev dktX7_isSign_0 : List UInt8 := dkwX7_isSign_0 ++ dktX7_isSign_1
theorem dksX7_isSign_0 : cX7_isSign.data.toList.drop 0 = dktX7_isSign_0 := by decide +kernel
theorem dksX7_isSign_1 : cX7_isSign.data.toList.drop 24 = dktX7_isSign_1 := dk_seg dksX7_isSign_0 24 rfl rfl
theorem dX7_isSign_0 : decode cX7_isSign 0 = .ok (.aload_n 0, 1) := dk_42 (dk_at dksX7_isSign_0 0 rfl rfl)
theorem dX7_isSign_1 : decode cX7_isSign 1 = .ok (.getfield 46, 3) := dk_180 0 46 (dk_at dksX7_isSign_0 1 rfl rfl)
theorem dX7_isSign_4 : decode cX7_isSign 4 = .ok (.iconst 3, 1) := dk_6 (dk_at dksX7_isSign_0 4 rfl rfl)
theorem dX7_isSign_5 : decode cX7_isSign 5 = .ok (.if_icmp .ne 19, 3) := dk_160 0 19 (dk_at dksX7_isSign_0 5 rfl rfl)
theorem dX7_isSign_8 : decode cX7_isSign 8 = .ok (.aload_n 0, 1) := dk_42 (dk_at dksX7_isSign_0 8 rfl rfl)
theorem dX7_isSign_9 : decode cX7_isSign 9 = .ok (.aload_n 0, 1) := dk_42 (dk_at dksX7_isSign_0 9 rfl rfl)
theorem dX7_isSign_10 : decode cX7_isSign 10 = .ok (.getfield 43, 3) := dk_180 0 43 (dk_at dksX7_isSign_0 10 rfl rfl)
theorem dX7_isSign_13 : decode cX7_isSign 13 = .ok (.invokevirtual 36, 3) := dk_182 0 36 (dk_at dksX7_isSign_0 13 rfl rfl)
theorem dX7_isSign_16 : decode cX7_isSign 16 = .ok (.iload_n 1, 1) := dk_27 (dk_at dksX7_isSign_0 16 rfl rfl)
theorem dX7_isSign_17 : decode cX7_isSign 17 = .ok (.if_icmp .ne 7, 3) := dk_160 0 7 (dk_at dksX7_isSign_0 17 rfl rfl)
theorem dX7_isSign_20 : decode cX7_isSign 20 = .ok (.iconst 1, 1) := dk_4 (dk_at dksX7_isSign_0 20 rfl rfl)
theorem dX7_isSign_21 : decode cX7_isSign 21 = .ok (.goto 4, 3) := dk_167 0 4 (dk_at dksX7_isSign_0 21 rfl rfl)
theorem dX7_isSign_24 : decode cX7_isSign 24 = .ok (.iconst 0, 1) := dk_3 (dk_at dksX7_isSign_1 0 rfl rfl)
theorem dX7_isSign_25 : decode cX7_isSign 25 = .ok (.ireturn, 1) := dk_172 (dk_at dksX7_isSign_1 1 rfl rfl)
abbrev cX7_move : ByteArray := prog_5_method_15_code
def yX7_move : MethodName := ⟨RX7, "move", "(I)V"⟩
def dkwX7_move_6 : List UInt8 := [8, 27, 183, 0, 62, 191, 177]
abbrev dktX7_move_6 : List UInt8 := dkwX7_move_6 ++ []
def dkwX7_move_5 : List UInt8 := [4, 96, 181, 0, 163, 42, 187, 0, 144, 89, 44, 183, 0, 146, 182, 0, 170, 154, 0, 13, 187, 0, 60, 89]
abbrev dktX7_move_5 : List UInt8 := dkwX7_move_5 ++ dktX7_move_6
def dkwX7_move_4 : List UInt8 := [42, 182, 0, 33, 132, 4, 1, 167, 255, 199, 42, 16, 59, 182, 0, 159, 42, 180, 0, 12, 89, 180, 0, 163]
abbrev dktX7_move_4 : List UInt8 := dkwX7_move_4 ++ dktX7_move_5
def dkwX7_move_3 : List UInt8 := [184, 0, 166, 154, 0, 7, 4, 167, 0, 4, 3, 7, 182, 0, 69, 29, 4, 44, 21, 4, 46, 120, 128, 62]
abbrev dktX7_move_3 : List UInt8 := dkwX7_move_3 ++ dktX7_move_4
def dkwX7_move_2 : List UInt8 := [162, 0, 56, 44, 21, 4, 42, 44, 190, 4, 100, 182, 0, 141, 79, 42, 29, 133, 44, 21, 4, 46]
abbrev dktX7_move_2 : List UInt8 := dkwX7_move_2 ++ dktX7_move_3
def dkwX7_move_1 : List UInt8 := [182, 0, 33, 42, 180, 0, 12, 180, 0, 125, 188, 10, 77, 3, 62, 3, 54, 4, 21, 4, 44, 190]
abbrev dktX7_move_1 : List UInt8 := dkwX7_move_1 ++ dktX7_move_2
def dkwX7_move_0 : List UInt8 := [42, 42, 180, 0, 12, 180, 0, 163, 7, 162, 0, 7, 4, 167, 0, 4, 3, 8, 182, 0, 69, 42]
abbrev dktX7_move_0 : List UInt8 := dkwX7_move_0 ++ dktX7_move_1
theorem dksX7_move_0 : cX7_move.data.toList.drop 0 = dktX7_move_0 := by decide +kernel
theorem dksX7_move_1 : cX7_move.data.toList.drop 22 = dktX7_move_1 := dk_seg dksX7_move_0 22 rfl rfl
theorem dksX7_move_2 : cX7_move.data.toList.drop 44 = dktX7_move_2 := dk_seg dksX7_move_1 22 rfl rfl
theorem dksX7_move_3 : cX7_move.data.toList.drop 66 = dktX7_move_3 := dk_seg dksX7_move_2 22 rfl rfl
theorem dksX7_move_4 : cX7_move.data.toList.drop 90 = dktX7_move_4 := dk_seg dksX7_move_3 24 rfl rfl
theorem dksX7_move_5 : cX7_move.data.toList.drop 114 = dktX7_move_5 := dk_seg dksX7_move_4 24 rfl rfl
theorem dksX7_move_6 : cX7_move.data.toList.drop 138 = dktX7_move_6 := dk_seg dksX7_move_5 24 rfl rfl
theorem dX7_move_0 : decode cX7_move 0 = .ok (.aload_n 0, 1) := dk_42 (dk_at dksX7_move_0 0 rfl rfl)
theorem dX7_move_1 : decode cX7_move 1 = .ok (.aload_n 0, 1) := dk_42 (dk_at dksX7_move_0 1 rfl rfl)
theorem dX7_move_2 : decode cX7_move 2 = .ok (.getfield 12, 3) := dk_180 0 12 (dk_at dksX7_move_0 2 rfl rfl)
theorem dX7_move_5 : decode cX7_move 5 = .ok (.getfield 163, 3) := dk_180 0 163 (dk_at dksX7_move_0 5 rfl rfl)
theorem dX7_move_8 : decode cX7_move 8 = .ok (.iconst 4, 1) := dk_7 (dk_at dksX7_move_0 8 rfl rfl)
theorem dX7_move_9 : decode cX7_move 9 = .ok (.if_icmp .ge 7, 3) := dk_162 0 7 (dk_at dksX7_move_0 9 rfl rfl)
theorem dX7_move_12 : decode cX7_move 12 = .ok (.iconst 1, 1) := dk_4 (dk_at dksX7_move_0 12 rfl rfl)
theorem dX7_move_13 : decode cX7_move 13 = .ok (.goto 4, 3) := dk_167 0 4 (dk_at dksX7_move_0 13 rfl rfl)
theorem dX7_move_16 : decode cX7_move 16 = .ok (.iconst 0, 1) := dk_3 (dk_at dksX7_move_0 16 rfl rfl)
theorem dX7_move_17 : decode cX7_move 17 = .ok (.iconst 5, 1) := dk_8 (dk_at dksX7_move_0 17 rfl rfl)
theorem dX7_move_18 : decode cX7_move 18 = .ok (.invokevirtual 69, 3) := dk_182 0 69 (dk_at dksX7_move_0 18 rfl rfl)
theorem dX7_move_21 : decode cX7_move 21 = .ok (.aload_n 0, 1) := dk_42 (dk_at dksX7_move_0 21 rfl rfl)
theorem dX7_move_22 : decode cX7_move 22 = .ok (.invokevirtual 33, 3) := dk_182 0 33 (dk_at dksX7_move_1 0 rfl rfl)
theorem dX7_move_25 : decode cX7_move 25 = .ok (.aload_n 0, 1) := dk_42 (dk_at dksX7_move_1 3 rfl rfl)
theorem dX7_move_26 : decode cX7_move 26 = .ok (.getfield 12, 3) := dk_180 0 12 (dk_at dksX7_move_1 4 rfl rfl)
theorem dX7_move_29 : decode cX7_move 29 = .ok (.getfield 125, 3) := dk_180 0 125 (dk_at dksX7_move_1 7 rfl rfl)
theorem dX7_move_32 : decode cX7_move 32 = .ok (.newarray .int, 2) := dk_188_10 (dk_at dksX7_move_1 10 rfl rfl)
theorem dX7_move_34 : decode cX7_move 34 = .ok (.astore_n 2, 1) := dk_77 (dk_at dksX7_move_1 12 rfl rfl)
theorem dX7_move_35 : decode cX7_move 35 = .ok (.iconst 0, 1) := dk_3 (dk_at dksX7_move_1 13 rfl rfl)
theorem dX7_move_36 : decode cX7_move 36 = .ok (.istore_n 3, 1) := dk_62 (dk_at dksX7_move_1 14 rfl rfl)
theorem dX7_move_37 : decode cX7_move 37 = .ok (.iconst 0, 1) := dk_3 (dk_at dksX7_move_1 15 rfl rfl)
theorem dX7_move_38 : decode cX7_move 38 = .ok (.istore 4, 2) := dk_54 4 (dk_at dksX7_move_1 16 rfl rfl)
theorem dX7_move_40 : decode cX7_move 40 = .ok (.iload 4, 2) := dk_21 4 (dk_at dksX7_move_1 18 rfl rfl)
theorem dX7_move_42 : decode cX7_move 42 = .ok (.aload_n 2, 1) := dk_44 (dk_at dksX7_move_1 20 rfl rfl)
theorem dX7_move_43 : decode cX7_move 43 = .ok (.arraylength, 1) := dk_190 (dk_at dksX7_move_1 21 rfl rfl)
theorem dX7_move_44 : decode cX7_move 44 = .ok (.if_icmp .ge 56, 3) := dk_162 0 56 (dk_at dksX7_move_2 0 rfl rfl)
theorem dX7_move_47 : decode cX7_move 47 = .ok (.aload_n 2, 1) := dk_44 (dk_at dksX7_move_2 3 rfl rfl)
theorem dX7_move_48 : decode cX7_move 48 = .ok (.iload 4, 2) := dk_21 4 (dk_at dksX7_move_2 4 rfl rfl)
theorem dX7_move_50 : decode cX7_move 50 = .ok (.aload_n 0, 1) := dk_42 (dk_at dksX7_move_2 6 rfl rfl)
theorem dX7_move_51 : decode cX7_move 51 = .ok (.aload_n 2, 1) := dk_44 (dk_at dksX7_move_2 7 rfl rfl)
theorem dX7_move_52 : decode cX7_move 52 = .ok (.arraylength, 1) := dk_190 (dk_at dksX7_move_2 8 rfl rfl)
theorem dX7_move_53 : decode cX7_move 53 = .ok (.iconst 1, 1) := dk_4 (dk_at dksX7_move_2 9 rfl rfl)
theorem dX7_move_54 : decode cX7_move 54 = .ok (.isub, 1) := dk_100 (dk_at dksX7_move_2 10 rfl rfl)
theorem dX7_move_55 : decode cX7_move 55 = .ok (.invokevirtual 141, 3) := dk_182 0 141 (dk_at dksX7_move_2 11 rfl rfl)
theorem dX7_move_58 : decode cX7_move 58 = .ok (.iastore, 1) := dk_79 (dk_at dksX7_move_2 14 rfl rfl)
theorem dX7_move_59 : decode cX7_move 59 = .ok (.aload_n 0, 1) := dk_42 (dk_at dksX7_move_2 15 rfl rfl)
theorem dX7_move_60 : decode cX7_move 60 = .ok (.iload_n 3, 1) := dk_29 (dk_at dksX7_move_2 16 rfl rfl)
theorem dX7_move_61 : decode cX7_move 61 = .ok (.i2l, 1) := dk_133 (dk_at dksX7_move_2 17 rfl rfl)
theorem dX7_move_62 : decode cX7_move 62 = .ok (.aload_n 2, 1) := dk_44 (dk_at dksX7_move_2 18 rfl rfl)
theorem dX7_move_63 : decode cX7_move 63 = .ok (.iload 4, 2) := dk_21 4 (dk_at dksX7_move_2 19 rfl rfl)
theorem dX7_move_65 : decode cX7_move 65 = .ok (.iaload, 1) := dk_46 (dk_at dksX7_move_2 21 rfl rfl)
theorem dX7_move_66 : decode cX7_move 66 = .ok (.invokestatic 166, 3) := dk_184 0 166 (dk_at dksX7_move_3 0 rfl rfl)
theorem dX7_move_69 : decode cX7_move 69 = .ok (.ifCond .ne 7, 3) := dk_154 0 7 (dk_at dksX7_move_3 3 rfl rfl)
theorem dX7_move_72 : decode cX7_move 72 = .ok (.iconst 1, 1) := dk_4 (dk_at dksX7_move_3 6 rfl rfl)
theorem dX7_move_73 : decode cX7_move 73 = .ok (.goto 4, 3) := dk_167 0 4 (dk_at dksX7_move_3 7 rfl rfl)
theorem dX7_move_76 : decode cX7_move 76 = .ok (.iconst 0, 1) := dk_3 (dk_at dksX7_move_3 10 rfl rfl)
theorem dX7_move_77 : decode cX7_move 77 = .ok (.iconst 4, 1) := dk_7 (dk_at dksX7_move_3 11 rfl rfl)
theorem dX7_move_78 : decode cX7_move 78 = .ok (.invokevirtual 69, 3) := dk_182 0 69 (dk_at dksX7_move_3 12 rfl rfl)
theorem dX7_move_81 : decode cX7_move 81 = .ok (.iload_n 3, 1) := dk_29 (dk_at dksX7_move_3 15 rfl rfl)
theorem dX7_move_82 : decode cX7_move 82 = .ok (.iconst 1, 1) := dk_4 (dk_at dksX7_move_3 16 rfl rfl)
theorem dX7_move_83 : decode cX7_move 83 = .ok (.aload_n 2, 1) := dk_44 (dk_at dksX7_move_3 17 rfl rfl)
theorem dX7_move_84 : decode cX7_move 84 = .ok (.iload 4, 2) := dk_21 4 (dk_at dksX7_move_3 18 rfl rfl)
theorem dX7_move_86 : decode cX7_move 86 = .ok (.iaload, 1) := dk_46 (dk_at dksX7_move_3 20 rfl rfl)
theorem dX7_move_87 : decode cX7_move 87 = .ok (.ishl, 1) := dk_120 (dk_at dksX7_move_3 21 rfl rfl)
theorem dX7_move_88 : decode cX7_move 88 = .ok (.ior, 1) := dk_128 (dk_at dksX7_move_3 22 rfl rfl)
theorem dX7_move_89 : decode cX7_move 89 = .ok (.istore_n 3, 1) := dk_62 (dk_at dksX7_move_3 23 rfl rfl)
theorem dX7_move_90 : decode cX7_move 90 = .ok (.aload_n 0, 1) := dk_42 (dk_at dksX7_move_4 0 rfl rfl)
theorem dX7_move_91 : decode cX7_move 91 = .ok (.invokevirtual 33, 3) := dk_182 0 33 (dk_at dksX7_move_4 1 rfl rfl)
theorem dX7_move_94 : decode cX7_move 94 = .ok (.iinc 4 1, 3) := dk_132 4 1 (dk_at dksX7_move_4 4 rfl rfl)
theorem dX7_move_97 : decode cX7_move 97 = .ok (.goto (-57), 3) := dk_167 255 199 (dk_at dksX7_move_4 7 rfl rfl)
theorem dX7_move_100 : decode cX7_move 100 = .ok (.aload_n 0, 1) := dk_42 (dk_at dksX7_move_4 10 rfl rfl)
theorem dX7_move_101 : decode cX7_move 101 = .ok (.bipush 59, 2) := dk_16 59 (dk_at dksX7_move_4 11 rfl rfl)
theorem dX7_move_103 : decode cX7_move 103 = .ok (.invokevirtual 159, 3) := dk_182 0 159 (dk_at dksX7_move_4 13 rfl rfl)
theorem dX7_move_106 : decode cX7_move 106 = .ok (.aload_n 0, 1) := dk_42 (dk_at dksX7_move_4 16 rfl rfl)
theorem dX7_move_107 : decode cX7_move 107 = .ok (.getfield 12, 3) := dk_180 0 12 (dk_at dksX7_move_4 17 rfl rfl)
theorem dX7_move_110 : decode cX7_move 110 = .ok (.dup, 1) := dk_89 (dk_at dksX7_move_4 20 rfl rfl)
theorem dX7_move_111 : decode cX7_move 111 = .ok (.getfield 163, 3) := dk_180 0 163 (dk_at dksX7_move_4 21 rfl rfl)
theorem dX7_move_114 : decode cX7_move 114 = .ok (.iconst 1, 1) := dk_4 (dk_at dksX7_move_5 0 rfl rfl)
theorem dX7_move_115 : decode cX7_move 115 = .ok (.iadd, 1) := dk_96 (dk_at dksX7_move_5 1 rfl rfl)
theorem dX7_move_116 : decode cX7_move 116 = .ok (.putfield 163, 3) := dk_181 0 163 (dk_at dksX7_move_5 2 rfl rfl)
theorem dX7_move_119 : decode cX7_move 119 = .ok (.aload_n 0, 1) := dk_42 (dk_at dksX7_move_5 5 rfl rfl)
theorem dX7_move_120 : decode cX7_move 120 = .ok (.new 144, 3) := dk_187 0 144 (dk_at dksX7_move_5 6 rfl rfl)
theorem dX7_move_123 : decode cX7_move 123 = .ok (.dup, 1) := dk_89 (dk_at dksX7_move_5 9 rfl rfl)
theorem dX7_move_124 : decode cX7_move 124 = .ok (.aload_n 2, 1) := dk_44 (dk_at dksX7_move_5 10 rfl rfl)
theorem dX7_move_125 : decode cX7_move 125 = .ok (.invokespecial 146, 3) := dk_183 0 146 (dk_at dksX7_move_5 11 rfl rfl)
theorem dX7_move_128 : decode cX7_move 128 = .ok (.invokevirtual 170, 3) := dk_182 0 170 (dk_at dksX7_move_5 14 rfl rfl)
theorem dX7_move_131 : decode cX7_move 131 = .ok (.ifCond .ne 13, 3) := dk_154 0 13 (dk_at dksX7_move_5 17 rfl rfl)
theorem dX7_move_134 : decode cX7_move 134 = .ok (.new 60, 3) := dk_187 0 60 (dk_at dksX7_move_5 20 rfl rfl)
theorem dX7_move_137 : decode cX7_move 137 = .ok (.dup, 1) := dk_89 (dk_at dksX7_move_5 23 rfl rfl)
theorem dX7_move_138 : decode cX7_move 138 = .ok (.iconst 5, 1) := dk_8 (dk_at dksX7_move_6 0 rfl rfl)
theorem dX7_move_139 : decode cX7_move 139 = .ok (.iload_n 1, 1) := dk_27 (dk_at dksX7_move_6 1 rfl rfl)
theorem dX7_move_140 : decode cX7_move 140 = .ok (.invokespecial 62, 3) := dk_183 0 62 (dk_at dksX7_move_6 2 rfl rfl)
theorem dX7_move_143 : decode cX7_move 143 = .ok (.athrow, 1) := dk_191 (dk_at dksX7_move_6 5 rfl rfl)
theorem dX7_move_144 : decode cX7_move 144 = .ok (.return_, 1) := dk_177 (dk_at dksX7_move_6 6 rfl rfl)
abbrev cX7_grows : ByteArray := prog_5_method_16_code
def yX7_grows : MethodName := ⟨RX7, "grows", "(LTroupeSums$Row;)Z"⟩
def dkwX7_grows_10 : List UInt8 := [181, 0, 21, 44, 182, 0, 193, 16, 24, 163, 0, 7, 4, 167, 0, 4, 3, 172]
abbrev dktX7_grows_10 : List UInt8 := dkwX7_grows_10 ++ []
def dkwX7_grows_9 : List UInt8 := [25, 8, 182, 0, 204, 3, 184, 0, 149, 182, 0, 155, 87, 167, 255, 218, 167, 255, 184, 167, 255, 95, 42, 44]
abbrev dktX7_grows_9 : List UInt8 := dkwX7_grows_9 ++ dktX7_grows_10
def dkwX7_grows_8 : List UInt8 := [185, 0, 184, 1, 0, 153, 0, 34, 25, 7, 185, 0, 190, 1, 0, 192, 0, 144, 58, 8, 44, 25, 6]
abbrev dktX7_grows_8 : List UInt8 := dkwX7_grows_8 ++ dktX7_grows_9
def dkwX7_grows_7 : List UInt8 := [25, 5, 185, 0, 190, 1, 0, 192, 0, 144, 58, 6, 25, 4, 185, 0, 203, 1, 0, 58, 7, 25, 7]
abbrev dktX7_grows_7 : List UInt8 := dkwX7_grows_7 ++ dktX7_grows_8
def dkwX7_grows_6 : List UInt8 := [87, 167, 255, 224, 25, 4, 185, 0, 203, 1, 0, 58, 5, 25, 5, 185, 0, 184, 1, 0, 153, 0, 68]
abbrev dktX7_grows_6 : List UInt8 := dkwX7_grows_6 ++ dktX7_grows_7
def dkwX7_grows_5 : List UInt8 := [153, 0, 28, 25, 5, 185, 0, 190, 1, 0, 192, 0, 144, 58, 6, 25, 4, 25, 6, 185, 0, 198, 2, 0]
abbrev dktX7_grows_5 : List UInt8 := dkwX7_grows_5 ++ dktX7_grows_6
def dkwX7_grows_4 : List UInt8 := [89, 183, 0, 197, 58, 4, 44, 182, 0, 174, 185, 0, 178, 1, 0, 58, 5, 25, 5, 185, 0, 184, 1, 0]
abbrev dktX7_grows_4 : List UInt8 := dkwX7_grows_4 ++ dktX7_grows_5
def dkwX7_grows_3 : List UInt8 := [182, 0, 193, 29, 159, 0, 159, 44, 182, 0, 193, 16, 24, 163, 0, 150, 44, 182, 0, 193, 62, 187, 0, 195]
abbrev dktX7_grows_3 : List UInt8 := dkwX7_grows_3 ++ dktX7_grows_4
def dkwX7_grows_2 : List UInt8 := [184, 0, 149, 182, 0, 155, 87, 167, 255, 225, 44, 43, 3, 184, 0, 149, 182, 0, 155, 87, 3, 62, 44]
abbrev dktX7_grows_2 : List UInt8 := dkwX7_grows_2 ++ dktX7_grows_3
def dkwX7_grows_1 : List UInt8 := [185, 0, 184, 1, 0, 153, 0, 28, 45, 185, 0, 190, 1, 0, 192, 0, 144, 58, 4, 44, 25, 4, 3]
abbrev dktX7_grows_1 : List UInt8 := dkwX7_grows_1 ++ dktX7_grows_2
def dkwX7_grows_0 : List UInt8 := [187, 0, 18, 89, 183, 0, 20, 77, 42, 180, 0, 21, 182, 0, 174, 185, 0, 178, 1, 0, 78, 45]
abbrev dktX7_grows_0 : List UInt8 := dkwX7_grows_0 ++ dktX7_grows_1
theorem dksX7_grows_0 : cX7_grows.data.toList.drop 0 = dktX7_grows_0 := by decide +kernel
theorem dksX7_grows_1 : cX7_grows.data.toList.drop 22 = dktX7_grows_1 := dk_seg dksX7_grows_0 22 rfl rfl
theorem dksX7_grows_2 : cX7_grows.data.toList.drop 45 = dktX7_grows_2 := dk_seg dksX7_grows_1 23 rfl rfl
theorem dksX7_grows_3 : cX7_grows.data.toList.drop 68 = dktX7_grows_3 := dk_seg dksX7_grows_2 23 rfl rfl
theorem dksX7_grows_4 : cX7_grows.data.toList.drop 92 = dktX7_grows_4 := dk_seg dksX7_grows_3 24 rfl rfl
theorem dksX7_grows_5 : cX7_grows.data.toList.drop 116 = dktX7_grows_5 := dk_seg dksX7_grows_4 24 rfl rfl
theorem dksX7_grows_6 : cX7_grows.data.toList.drop 140 = dktX7_grows_6 := dk_seg dksX7_grows_5 24 rfl rfl
theorem dksX7_grows_7 : cX7_grows.data.toList.drop 163 = dktX7_grows_7 := dk_seg dksX7_grows_6 23 rfl rfl
theorem dksX7_grows_8 : cX7_grows.data.toList.drop 186 = dktX7_grows_8 := dk_seg dksX7_grows_7 23 rfl rfl
theorem dksX7_grows_9 : cX7_grows.data.toList.drop 209 = dktX7_grows_9 := dk_seg dksX7_grows_8 23 rfl rfl
theorem dksX7_grows_10 : cX7_grows.data.toList.drop 233 = dktX7_grows_10 := dk_seg dksX7_grows_9 24 rfl rfl
theorem dX7_grows_0 : decode cX7_grows 0 = .ok (.new 18, 3) := dk_187 0 18 (dk_at dksX7_grows_0 0 rfl rfl)
theorem dX7_grows_3 : decode cX7_grows 3 = .ok (.dup, 1) := dk_89 (dk_at dksX7_grows_0 3 rfl rfl)
theorem dX7_grows_4 : decode cX7_grows 4 = .ok (.invokespecial 20, 3) := dk_183 0 20 (dk_at dksX7_grows_0 4 rfl rfl)
theorem dX7_grows_7 : decode cX7_grows 7 = .ok (.astore_n 2, 1) := dk_77 (dk_at dksX7_grows_0 7 rfl rfl)
theorem dX7_grows_8 : decode cX7_grows 8 = .ok (.aload_n 0, 1) := dk_42 (dk_at dksX7_grows_0 8 rfl rfl)
theorem dX7_grows_9 : decode cX7_grows 9 = .ok (.getfield 21, 3) := dk_180 0 21 (dk_at dksX7_grows_0 9 rfl rfl)
theorem dX7_grows_12 : decode cX7_grows 12 = .ok (.invokevirtual 174, 3) := dk_182 0 174 (dk_at dksX7_grows_0 12 rfl rfl)
theorem dX7_grows_15 : decode cX7_grows 15 = .ok (.invokeinterface 178 1, 5) := by decide +kernel
theorem dX7_grows_20 : decode cX7_grows 20 = .ok (.astore_n 3, 1) := dk_78 (dk_at dksX7_grows_0 20 rfl rfl)
theorem dX7_grows_21 : decode cX7_grows 21 = .ok (.aload_n 3, 1) := dk_45 (dk_at dksX7_grows_0 21 rfl rfl)
theorem dX7_grows_22 : decode cX7_grows 22 = .ok (.invokeinterface 184 1, 5) := by decide +kernel
theorem dX7_grows_27 : decode cX7_grows 27 = .ok (.ifCond .eq 28, 3) := dk_153 0 28 (dk_at dksX7_grows_1 5 rfl rfl)
theorem dX7_grows_30 : decode cX7_grows 30 = .ok (.aload_n 3, 1) := dk_45 (dk_at dksX7_grows_1 8 rfl rfl)
theorem dX7_grows_31 : decode cX7_grows 31 = .ok (.invokeinterface 190 1, 5) := by decide +kernel
theorem dX7_grows_36 : decode cX7_grows 36 = .ok (.checkcast 144, 3) := dk_192 0 144 (dk_at dksX7_grows_1 14 rfl rfl)
theorem dX7_grows_39 : decode cX7_grows 39 = .ok (.astore 4, 2) := dk_58 4 (dk_at dksX7_grows_1 17 rfl rfl)
theorem dX7_grows_41 : decode cX7_grows 41 = .ok (.aload_n 2, 1) := dk_44 (dk_at dksX7_grows_1 19 rfl rfl)
theorem dX7_grows_42 : decode cX7_grows 42 = .ok (.aload 4, 2) := dk_25 4 (dk_at dksX7_grows_1 20 rfl rfl)
theorem dX7_grows_44 : decode cX7_grows 44 = .ok (.iconst 0, 1) := dk_3 (dk_at dksX7_grows_1 22 rfl rfl)
theorem dX7_grows_45 : decode cX7_grows 45 = .ok (.invokestatic 149, 3) := dk_184 0 149 (dk_at dksX7_grows_2 0 rfl rfl)
theorem dX7_grows_48 : decode cX7_grows 48 = .ok (.invokevirtual 155, 3) := dk_182 0 155 (dk_at dksX7_grows_2 3 rfl rfl)
theorem dX7_grows_51 : decode cX7_grows 51 = .ok (.pop, 1) := dk_87 (dk_at dksX7_grows_2 6 rfl rfl)
theorem dX7_grows_52 : decode cX7_grows 52 = .ok (.goto (-31), 3) := dk_167 255 225 (dk_at dksX7_grows_2 7 rfl rfl)
theorem dX7_grows_55 : decode cX7_grows 55 = .ok (.aload_n 2, 1) := dk_44 (dk_at dksX7_grows_2 10 rfl rfl)
theorem dX7_grows_56 : decode cX7_grows 56 = .ok (.aload_n 1, 1) := dk_43 (dk_at dksX7_grows_2 11 rfl rfl)
theorem dX7_grows_57 : decode cX7_grows 57 = .ok (.iconst 0, 1) := dk_3 (dk_at dksX7_grows_2 12 rfl rfl)
theorem dX7_grows_58 : decode cX7_grows 58 = .ok (.invokestatic 149, 3) := dk_184 0 149 (dk_at dksX7_grows_2 13 rfl rfl)
theorem dX7_grows_61 : decode cX7_grows 61 = .ok (.invokevirtual 155, 3) := dk_182 0 155 (dk_at dksX7_grows_2 16 rfl rfl)
theorem dX7_grows_64 : decode cX7_grows 64 = .ok (.pop, 1) := dk_87 (dk_at dksX7_grows_2 19 rfl rfl)
theorem dX7_grows_65 : decode cX7_grows 65 = .ok (.iconst 0, 1) := dk_3 (dk_at dksX7_grows_2 20 rfl rfl)
theorem dX7_grows_66 : decode cX7_grows 66 = .ok (.istore_n 3, 1) := dk_62 (dk_at dksX7_grows_2 21 rfl rfl)
theorem dX7_grows_67 : decode cX7_grows 67 = .ok (.aload_n 2, 1) := dk_44 (dk_at dksX7_grows_2 22 rfl rfl)
theorem dX7_grows_68 : decode cX7_grows 68 = .ok (.invokevirtual 193, 3) := dk_182 0 193 (dk_at dksX7_grows_3 0 rfl rfl)
theorem dX7_grows_71 : decode cX7_grows 71 = .ok (.iload_n 3, 1) := dk_29 (dk_at dksX7_grows_3 3 rfl rfl)
theorem dX7_grows_72 : decode cX7_grows 72 = .ok (.if_icmp .eq 159, 3) := dk_159 0 159 (dk_at dksX7_grows_3 4 rfl rfl)
theorem dX7_grows_75 : decode cX7_grows 75 = .ok (.aload_n 2, 1) := dk_44 (dk_at dksX7_grows_3 7 rfl rfl)
theorem dX7_grows_76 : decode cX7_grows 76 = .ok (.invokevirtual 193, 3) := dk_182 0 193 (dk_at dksX7_grows_3 8 rfl rfl)
theorem dX7_grows_79 : decode cX7_grows 79 = .ok (.bipush 24, 2) := dk_16 24 (dk_at dksX7_grows_3 11 rfl rfl)
theorem dX7_grows_81 : decode cX7_grows 81 = .ok (.if_icmp .gt 150, 3) := dk_163 0 150 (dk_at dksX7_grows_3 13 rfl rfl)
theorem dX7_grows_84 : decode cX7_grows 84 = .ok (.aload_n 2, 1) := dk_44 (dk_at dksX7_grows_3 16 rfl rfl)
theorem dX7_grows_85 : decode cX7_grows 85 = .ok (.invokevirtual 193, 3) := dk_182 0 193 (dk_at dksX7_grows_3 17 rfl rfl)
theorem dX7_grows_88 : decode cX7_grows 88 = .ok (.istore_n 3, 1) := dk_62 (dk_at dksX7_grows_3 20 rfl rfl)
theorem dX7_grows_89 : decode cX7_grows 89 = .ok (.new 195, 3) := dk_187 0 195 (dk_at dksX7_grows_3 21 rfl rfl)
theorem dX7_grows_92 : decode cX7_grows 92 = .ok (.dup, 1) := dk_89 (dk_at dksX7_grows_4 0 rfl rfl)
theorem dX7_grows_93 : decode cX7_grows 93 = .ok (.invokespecial 197, 3) := dk_183 0 197 (dk_at dksX7_grows_4 1 rfl rfl)
theorem dX7_grows_96 : decode cX7_grows 96 = .ok (.astore 4, 2) := dk_58 4 (dk_at dksX7_grows_4 4 rfl rfl)
theorem dX7_grows_98 : decode cX7_grows 98 = .ok (.aload_n 2, 1) := dk_44 (dk_at dksX7_grows_4 6 rfl rfl)
theorem dX7_grows_99 : decode cX7_grows 99 = .ok (.invokevirtual 174, 3) := dk_182 0 174 (dk_at dksX7_grows_4 7 rfl rfl)
theorem dX7_grows_102 : decode cX7_grows 102 = .ok (.invokeinterface 178 1, 5) := by decide +kernel
theorem dX7_grows_107 : decode cX7_grows 107 = .ok (.astore 5, 2) := dk_58 5 (dk_at dksX7_grows_4 15 rfl rfl)
theorem dX7_grows_109 : decode cX7_grows 109 = .ok (.aload 5, 2) := dk_25 5 (dk_at dksX7_grows_4 17 rfl rfl)
theorem dX7_grows_111 : decode cX7_grows 111 = .ok (.invokeinterface 184 1, 5) := by decide +kernel
theorem dX7_grows_116 : decode cX7_grows 116 = .ok (.ifCond .eq 28, 3) := dk_153 0 28 (dk_at dksX7_grows_5 0 rfl rfl)
theorem dX7_grows_119 : decode cX7_grows 119 = .ok (.aload 5, 2) := dk_25 5 (dk_at dksX7_grows_5 3 rfl rfl)
theorem dX7_grows_121 : decode cX7_grows 121 = .ok (.invokeinterface 190 1, 5) := by decide +kernel
theorem dX7_grows_126 : decode cX7_grows 126 = .ok (.checkcast 144, 3) := dk_192 0 144 (dk_at dksX7_grows_5 10 rfl rfl)
theorem dX7_grows_129 : decode cX7_grows 129 = .ok (.astore 6, 2) := dk_58 6 (dk_at dksX7_grows_5 13 rfl rfl)
theorem dX7_grows_131 : decode cX7_grows 131 = .ok (.aload 4, 2) := dk_25 4 (dk_at dksX7_grows_5 15 rfl rfl)
theorem dX7_grows_133 : decode cX7_grows 133 = .ok (.aload 6, 2) := dk_25 6 (dk_at dksX7_grows_5 17 rfl rfl)
theorem dX7_grows_135 : decode cX7_grows 135 = .ok (.invokeinterface 198 2, 5) := by decide +kernel
theorem dX7_grows_140 : decode cX7_grows 140 = .ok (.pop, 1) := dk_87 (dk_at dksX7_grows_6 0 rfl rfl)
theorem dX7_grows_141 : decode cX7_grows 141 = .ok (.goto (-32), 3) := dk_167 255 224 (dk_at dksX7_grows_6 1 rfl rfl)
theorem dX7_grows_144 : decode cX7_grows 144 = .ok (.aload 4, 2) := dk_25 4 (dk_at dksX7_grows_6 4 rfl rfl)
theorem dX7_grows_146 : decode cX7_grows 146 = .ok (.invokeinterface 203 1, 5) := by decide +kernel
theorem dX7_grows_151 : decode cX7_grows 151 = .ok (.astore 5, 2) := dk_58 5 (dk_at dksX7_grows_6 11 rfl rfl)
theorem dX7_grows_153 : decode cX7_grows 153 = .ok (.aload 5, 2) := dk_25 5 (dk_at dksX7_grows_6 13 rfl rfl)
theorem dX7_grows_155 : decode cX7_grows 155 = .ok (.invokeinterface 184 1, 5) := by decide +kernel
theorem dX7_grows_160 : decode cX7_grows 160 = .ok (.ifCond .eq 68, 3) := dk_153 0 68 (dk_at dksX7_grows_6 20 rfl rfl)
theorem dX7_grows_163 : decode cX7_grows 163 = .ok (.aload 5, 2) := dk_25 5 (dk_at dksX7_grows_7 0 rfl rfl)
theorem dX7_grows_165 : decode cX7_grows 165 = .ok (.invokeinterface 190 1, 5) := by decide +kernel
theorem dX7_grows_170 : decode cX7_grows 170 = .ok (.checkcast 144, 3) := dk_192 0 144 (dk_at dksX7_grows_7 7 rfl rfl)
theorem dX7_grows_173 : decode cX7_grows 173 = .ok (.astore 6, 2) := dk_58 6 (dk_at dksX7_grows_7 10 rfl rfl)
theorem dX7_grows_175 : decode cX7_grows 175 = .ok (.aload 4, 2) := dk_25 4 (dk_at dksX7_grows_7 12 rfl rfl)
theorem dX7_grows_177 : decode cX7_grows 177 = .ok (.invokeinterface 203 1, 5) := by decide +kernel
theorem dX7_grows_182 : decode cX7_grows 182 = .ok (.astore 7, 2) := dk_58 7 (dk_at dksX7_grows_7 19 rfl rfl)
theorem dX7_grows_184 : decode cX7_grows 184 = .ok (.aload 7, 2) := dk_25 7 (dk_at dksX7_grows_7 21 rfl rfl)
theorem dX7_grows_186 : decode cX7_grows 186 = .ok (.invokeinterface 184 1, 5) := by decide +kernel
theorem dX7_grows_191 : decode cX7_grows 191 = .ok (.ifCond .eq 34, 3) := dk_153 0 34 (dk_at dksX7_grows_8 5 rfl rfl)
theorem dX7_grows_194 : decode cX7_grows 194 = .ok (.aload 7, 2) := dk_25 7 (dk_at dksX7_grows_8 8 rfl rfl)
theorem dX7_grows_196 : decode cX7_grows 196 = .ok (.invokeinterface 190 1, 5) := by decide +kernel
theorem dX7_grows_201 : decode cX7_grows 201 = .ok (.checkcast 144, 3) := dk_192 0 144 (dk_at dksX7_grows_8 15 rfl rfl)
theorem dX7_grows_204 : decode cX7_grows 204 = .ok (.astore 8, 2) := dk_58 8 (dk_at dksX7_grows_8 18 rfl rfl)
theorem dX7_grows_206 : decode cX7_grows 206 = .ok (.aload_n 2, 1) := dk_44 (dk_at dksX7_grows_8 20 rfl rfl)
theorem dX7_grows_207 : decode cX7_grows 207 = .ok (.aload 6, 2) := dk_25 6 (dk_at dksX7_grows_8 21 rfl rfl)
theorem dX7_grows_209 : decode cX7_grows 209 = .ok (.aload 8, 2) := dk_25 8 (dk_at dksX7_grows_9 0 rfl rfl)
theorem dX7_grows_211 : decode cX7_grows 211 = .ok (.invokevirtual 204, 3) := dk_182 0 204 (dk_at dksX7_grows_9 2 rfl rfl)
theorem dX7_grows_214 : decode cX7_grows 214 = .ok (.iconst 0, 1) := dk_3 (dk_at dksX7_grows_9 5 rfl rfl)
theorem dX7_grows_215 : decode cX7_grows 215 = .ok (.invokestatic 149, 3) := dk_184 0 149 (dk_at dksX7_grows_9 6 rfl rfl)
theorem dX7_grows_218 : decode cX7_grows 218 = .ok (.invokevirtual 155, 3) := dk_182 0 155 (dk_at dksX7_grows_9 9 rfl rfl)
theorem dX7_grows_221 : decode cX7_grows 221 = .ok (.pop, 1) := dk_87 (dk_at dksX7_grows_9 12 rfl rfl)
theorem dX7_grows_222 : decode cX7_grows 222 = .ok (.goto (-38), 3) := dk_167 255 218 (dk_at dksX7_grows_9 13 rfl rfl)
theorem dX7_grows_225 : decode cX7_grows 225 = .ok (.goto (-72), 3) := dk_167 255 184 (dk_at dksX7_grows_9 16 rfl rfl)
theorem dX7_grows_228 : decode cX7_grows 228 = .ok (.goto (-161), 3) := dk_167 255 95 (dk_at dksX7_grows_9 19 rfl rfl)
theorem dX7_grows_231 : decode cX7_grows 231 = .ok (.aload_n 0, 1) := dk_42 (dk_at dksX7_grows_9 22 rfl rfl)
theorem dX7_grows_232 : decode cX7_grows 232 = .ok (.aload_n 2, 1) := dk_44 (dk_at dksX7_grows_9 23 rfl rfl)
theorem dX7_grows_233 : decode cX7_grows 233 = .ok (.putfield 21, 3) := dk_181 0 21 (dk_at dksX7_grows_10 0 rfl rfl)
theorem dX7_grows_236 : decode cX7_grows 236 = .ok (.aload_n 2, 1) := dk_44 (dk_at dksX7_grows_10 3 rfl rfl)
theorem dX7_grows_237 : decode cX7_grows 237 = .ok (.invokevirtual 193, 3) := dk_182 0 193 (dk_at dksX7_grows_10 4 rfl rfl)
theorem dX7_grows_240 : decode cX7_grows 240 = .ok (.bipush 24, 2) := dk_16 24 (dk_at dksX7_grows_10 7 rfl rfl)
theorem dX7_grows_242 : decode cX7_grows 242 = .ok (.if_icmp .gt 7, 3) := dk_163 0 7 (dk_at dksX7_grows_10 9 rfl rfl)
theorem dX7_grows_245 : decode cX7_grows 245 = .ok (.iconst 1, 1) := dk_4 (dk_at dksX7_grows_10 12 rfl rfl)
theorem dX7_grows_246 : decode cX7_grows 246 = .ok (.goto 4, 3) := dk_167 0 4 (dk_at dksX7_grows_10 13 rfl rfl)
theorem dX7_grows_249 : decode cX7_grows 249 = .ok (.iconst 0, 1) := dk_3 (dk_at dksX7_grows_10 16 rfl rfl)
theorem dX7_grows_250 : decode cX7_grows 250 = .ok (.ireturn, 1) := dk_172 (dk_at dksX7_grows_10 17 rfl rfl)
abbrev cX7_let : ByteArray := prog_5_method_17_code
def yX7_let : MethodName := ⟨RX7, "let", "()V"⟩
def dkwX7_let_6 : List UInt8 := [185, 0, 198, 2, 0, 87, 177]
abbrev dktX7_let_6 : List UInt8 := dkwX7_let_6 ++ []
def dkwX7_let_5 : List UInt8 := [42, 180, 0, 12, 180, 0, 208, 43, 185, 0, 198, 2, 0, 87, 42, 180, 0, 12, 180, 0, 226, 44]
abbrev dktX7_let_5 : List UInt8 := dkwX7_let_5 ++ dktX7_let_6
def dkwX7_let_4 : List UInt8 := [167, 0, 12, 58, 4, 25, 4, 78, 42, 182, 0, 223, 42, 16, 59, 182, 0, 159, 45, 198, 0, 5, 45, 191]
abbrev dktX7_let_4 : List UInt8 := dkwX7_let_4 ++ dktX7_let_5
def dkwX7_let_3 : List UInt8 := [182, 0, 69, 42, 182, 0, 33, 42, 16, 61, 182, 0, 159, 1, 77, 1, 78, 42, 182, 0, 219, 77]
abbrev dktX7_let_3 : List UInt8 := dkwX7_let_3 ++ dktX7_let_4
def dkwX7_let_2 : List UInt8 := [76, 42, 42, 180, 0, 12, 180, 0, 208, 43, 185, 0, 216, 2, 0, 154, 0, 7, 4, 167, 0, 4, 3, 6]
abbrev dktX7_let_2 : List UInt8 := dkwX7_let_2 ++ dktX7_let_3
def dkwX7_let_1 : List UInt8 := [182, 0, 69, 42, 182, 0, 109, 42, 182, 0, 33, 42, 42, 182, 0, 213, 5, 182, 0, 69, 42, 182, 0, 84]
abbrev dktX7_let_1 : List UInt8 := dkwX7_let_1 ++ dktX7_let_2
def dkwX7_let_0 : List UInt8 := [42, 42, 180, 0, 12, 180, 0, 208, 185, 0, 212, 1, 0, 16, 8, 162, 0, 7, 4, 167, 0, 4, 3, 8]
abbrev dktX7_let_0 : List UInt8 := dkwX7_let_0 ++ dktX7_let_1
theorem dksX7_let_0 : cX7_let.data.toList.drop 0 = dktX7_let_0 := by decide +kernel
theorem dksX7_let_1 : cX7_let.data.toList.drop 24 = dktX7_let_1 := dk_seg dksX7_let_0 24 rfl rfl
theorem dksX7_let_2 : cX7_let.data.toList.drop 48 = dktX7_let_2 := dk_seg dksX7_let_1 24 rfl rfl
theorem dksX7_let_3 : cX7_let.data.toList.drop 72 = dktX7_let_3 := dk_seg dksX7_let_2 24 rfl rfl
theorem dksX7_let_4 : cX7_let.data.toList.drop 94 = dktX7_let_4 := dk_seg dksX7_let_3 22 rfl rfl
theorem dksX7_let_5 : cX7_let.data.toList.drop 118 = dktX7_let_5 := dk_seg dksX7_let_4 24 rfl rfl
theorem dksX7_let_6 : cX7_let.data.toList.drop 140 = dktX7_let_6 := dk_seg dksX7_let_5 22 rfl rfl
theorem dX7_let_0 : decode cX7_let 0 = .ok (.aload_n 0, 1) := dk_42 (dk_at dksX7_let_0 0 rfl rfl)
theorem dX7_let_1 : decode cX7_let 1 = .ok (.aload_n 0, 1) := dk_42 (dk_at dksX7_let_0 1 rfl rfl)
theorem dX7_let_2 : decode cX7_let 2 = .ok (.getfield 12, 3) := dk_180 0 12 (dk_at dksX7_let_0 2 rfl rfl)
theorem dX7_let_5 : decode cX7_let 5 = .ok (.getfield 208, 3) := dk_180 0 208 (dk_at dksX7_let_0 5 rfl rfl)
theorem dX7_let_8 : decode cX7_let 8 = .ok (.invokeinterface 212 1, 5) := by decide +kernel
theorem dX7_let_13 : decode cX7_let 13 = .ok (.bipush 8, 2) := dk_16 8 (dk_at dksX7_let_0 13 rfl rfl)
theorem dX7_let_15 : decode cX7_let 15 = .ok (.if_icmp .ge 7, 3) := dk_162 0 7 (dk_at dksX7_let_0 15 rfl rfl)
theorem dX7_let_18 : decode cX7_let 18 = .ok (.iconst 1, 1) := dk_4 (dk_at dksX7_let_0 18 rfl rfl)
theorem dX7_let_19 : decode cX7_let 19 = .ok (.goto 4, 3) := dk_167 0 4 (dk_at dksX7_let_0 19 rfl rfl)
theorem dX7_let_22 : decode cX7_let 22 = .ok (.iconst 0, 1) := dk_3 (dk_at dksX7_let_0 22 rfl rfl)
theorem dX7_let_23 : decode cX7_let 23 = .ok (.iconst 5, 1) := dk_8 (dk_at dksX7_let_0 23 rfl rfl)
theorem dX7_let_24 : decode cX7_let 24 = .ok (.invokevirtual 69, 3) := dk_182 0 69 (dk_at dksX7_let_1 0 rfl rfl)
theorem dX7_let_27 : decode cX7_let 27 = .ok (.aload_n 0, 1) := dk_42 (dk_at dksX7_let_1 3 rfl rfl)
theorem dX7_let_28 : decode cX7_let 28 = .ok (.invokevirtual 109, 3) := dk_182 0 109 (dk_at dksX7_let_1 4 rfl rfl)
theorem dX7_let_31 : decode cX7_let 31 = .ok (.aload_n 0, 1) := dk_42 (dk_at dksX7_let_1 7 rfl rfl)
theorem dX7_let_32 : decode cX7_let 32 = .ok (.invokevirtual 33, 3) := dk_182 0 33 (dk_at dksX7_let_1 8 rfl rfl)
theorem dX7_let_35 : decode cX7_let 35 = .ok (.aload_n 0, 1) := dk_42 (dk_at dksX7_let_1 11 rfl rfl)
theorem dX7_let_36 : decode cX7_let 36 = .ok (.aload_n 0, 1) := dk_42 (dk_at dksX7_let_1 12 rfl rfl)
theorem dX7_let_37 : decode cX7_let 37 = .ok (.invokevirtual 213, 3) := dk_182 0 213 (dk_at dksX7_let_1 13 rfl rfl)
theorem dX7_let_40 : decode cX7_let 40 = .ok (.iconst 2, 1) := dk_5 (dk_at dksX7_let_1 16 rfl rfl)
theorem dX7_let_41 : decode cX7_let 41 = .ok (.invokevirtual 69, 3) := dk_182 0 69 (dk_at dksX7_let_1 17 rfl rfl)
theorem dX7_let_44 : decode cX7_let 44 = .ok (.aload_n 0, 1) := dk_42 (dk_at dksX7_let_1 20 rfl rfl)
theorem dX7_let_45 : decode cX7_let 45 = .ok (.invokevirtual 84, 3) := dk_182 0 84 (dk_at dksX7_let_1 21 rfl rfl)
theorem dX7_let_48 : decode cX7_let 48 = .ok (.astore_n 1, 1) := dk_76 (dk_at dksX7_let_2 0 rfl rfl)
theorem dX7_let_49 : decode cX7_let 49 = .ok (.aload_n 0, 1) := dk_42 (dk_at dksX7_let_2 1 rfl rfl)
theorem dX7_let_50 : decode cX7_let 50 = .ok (.aload_n 0, 1) := dk_42 (dk_at dksX7_let_2 2 rfl rfl)
theorem dX7_let_51 : decode cX7_let 51 = .ok (.getfield 12, 3) := dk_180 0 12 (dk_at dksX7_let_2 3 rfl rfl)
theorem dX7_let_54 : decode cX7_let 54 = .ok (.getfield 208, 3) := dk_180 0 208 (dk_at dksX7_let_2 6 rfl rfl)
theorem dX7_let_57 : decode cX7_let 57 = .ok (.aload_n 1, 1) := dk_43 (dk_at dksX7_let_2 9 rfl rfl)
theorem dX7_let_58 : decode cX7_let 58 = .ok (.invokeinterface 216 2, 5) := by decide +kernel
theorem dX7_let_63 : decode cX7_let 63 = .ok (.ifCond .ne 7, 3) := dk_154 0 7 (dk_at dksX7_let_2 15 rfl rfl)
theorem dX7_let_66 : decode cX7_let 66 = .ok (.iconst 1, 1) := dk_4 (dk_at dksX7_let_2 18 rfl rfl)
theorem dX7_let_67 : decode cX7_let 67 = .ok (.goto 4, 3) := dk_167 0 4 (dk_at dksX7_let_2 19 rfl rfl)
theorem dX7_let_70 : decode cX7_let 70 = .ok (.iconst 0, 1) := dk_3 (dk_at dksX7_let_2 22 rfl rfl)
theorem dX7_let_71 : decode cX7_let 71 = .ok (.iconst 3, 1) := dk_6 (dk_at dksX7_let_2 23 rfl rfl)
theorem dX7_let_72 : decode cX7_let 72 = .ok (.invokevirtual 69, 3) := dk_182 0 69 (dk_at dksX7_let_3 0 rfl rfl)
theorem dX7_let_75 : decode cX7_let 75 = .ok (.aload_n 0, 1) := dk_42 (dk_at dksX7_let_3 3 rfl rfl)
theorem dX7_let_76 : decode cX7_let 76 = .ok (.invokevirtual 33, 3) := dk_182 0 33 (dk_at dksX7_let_3 4 rfl rfl)
theorem dX7_let_79 : decode cX7_let 79 = .ok (.aload_n 0, 1) := dk_42 (dk_at dksX7_let_3 7 rfl rfl)
theorem dX7_let_80 : decode cX7_let 80 = .ok (.bipush 61, 2) := dk_16 61 (dk_at dksX7_let_3 8 rfl rfl)
theorem dX7_let_82 : decode cX7_let 82 = .ok (.invokevirtual 159, 3) := dk_182 0 159 (dk_at dksX7_let_3 10 rfl rfl)
theorem dX7_let_85 : decode cX7_let 85 = .ok (.aconst_null, 1) := dk_1 (dk_at dksX7_let_3 13 rfl rfl)
theorem dX7_let_86 : decode cX7_let 86 = .ok (.astore_n 2, 1) := dk_77 (dk_at dksX7_let_3 14 rfl rfl)
theorem dX7_let_87 : decode cX7_let 87 = .ok (.aconst_null, 1) := dk_1 (dk_at dksX7_let_3 15 rfl rfl)
theorem dX7_let_88 : decode cX7_let 88 = .ok (.astore_n 3, 1) := dk_78 (dk_at dksX7_let_3 16 rfl rfl)
theorem dX7_let_89 : decode cX7_let 89 = .ok (.aload_n 0, 1) := dk_42 (dk_at dksX7_let_3 17 rfl rfl)
theorem dX7_let_90 : decode cX7_let 90 = .ok (.invokevirtual 219, 3) := dk_182 0 219 (dk_at dksX7_let_3 18 rfl rfl)
theorem dX7_let_93 : decode cX7_let 93 = .ok (.astore_n 2, 1) := dk_77 (dk_at dksX7_let_3 21 rfl rfl)
theorem dX7_let_94 : decode cX7_let 94 = .ok (.goto 12, 3) := dk_167 0 12 (dk_at dksX7_let_4 0 rfl rfl)
theorem dX7_let_97 : decode cX7_let 97 = .ok (.astore 4, 2) := dk_58 4 (dk_at dksX7_let_4 3 rfl rfl)
theorem dX7_let_99 : decode cX7_let 99 = .ok (.aload 4, 2) := dk_25 4 (dk_at dksX7_let_4 5 rfl rfl)
theorem dX7_let_101 : decode cX7_let 101 = .ok (.astore_n 3, 1) := dk_78 (dk_at dksX7_let_4 7 rfl rfl)
theorem dX7_let_102 : decode cX7_let 102 = .ok (.aload_n 0, 1) := dk_42 (dk_at dksX7_let_4 8 rfl rfl)
theorem dX7_let_103 : decode cX7_let 103 = .ok (.invokevirtual 223, 3) := dk_182 0 223 (dk_at dksX7_let_4 9 rfl rfl)
theorem dX7_let_106 : decode cX7_let 106 = .ok (.aload_n 0, 1) := dk_42 (dk_at dksX7_let_4 12 rfl rfl)
theorem dX7_let_107 : decode cX7_let 107 = .ok (.bipush 59, 2) := dk_16 59 (dk_at dksX7_let_4 13 rfl rfl)
theorem dX7_let_109 : decode cX7_let 109 = .ok (.invokevirtual 159, 3) := dk_182 0 159 (dk_at dksX7_let_4 15 rfl rfl)
theorem dX7_let_112 : decode cX7_let 112 = .ok (.aload_n 3, 1) := dk_45 (dk_at dksX7_let_4 18 rfl rfl)
theorem dX7_let_113 : decode cX7_let 113 = .ok (.ifnull 5, 3) := dk_198 0 5 (dk_at dksX7_let_4 19 rfl rfl)
theorem dX7_let_116 : decode cX7_let 116 = .ok (.aload_n 3, 1) := dk_45 (dk_at dksX7_let_4 22 rfl rfl)
theorem dX7_let_117 : decode cX7_let 117 = .ok (.athrow, 1) := dk_191 (dk_at dksX7_let_4 23 rfl rfl)
theorem dX7_let_118 : decode cX7_let 118 = .ok (.aload_n 0, 1) := dk_42 (dk_at dksX7_let_5 0 rfl rfl)
theorem dX7_let_119 : decode cX7_let 119 = .ok (.getfield 12, 3) := dk_180 0 12 (dk_at dksX7_let_5 1 rfl rfl)
theorem dX7_let_122 : decode cX7_let 122 = .ok (.getfield 208, 3) := dk_180 0 208 (dk_at dksX7_let_5 4 rfl rfl)
theorem dX7_let_125 : decode cX7_let 125 = .ok (.aload_n 1, 1) := dk_43 (dk_at dksX7_let_5 7 rfl rfl)
theorem dX7_let_126 : decode cX7_let 126 = .ok (.invokeinterface 198 2, 5) := by decide +kernel
theorem dX7_let_131 : decode cX7_let 131 = .ok (.pop, 1) := dk_87 (dk_at dksX7_let_5 13 rfl rfl)
theorem dX7_let_132 : decode cX7_let 132 = .ok (.aload_n 0, 1) := dk_42 (dk_at dksX7_let_5 14 rfl rfl)
theorem dX7_let_133 : decode cX7_let 133 = .ok (.getfield 12, 3) := dk_180 0 12 (dk_at dksX7_let_5 15 rfl rfl)
theorem dX7_let_136 : decode cX7_let 136 = .ok (.getfield 226, 3) := dk_180 0 226 (dk_at dksX7_let_5 18 rfl rfl)
theorem dX7_let_139 : decode cX7_let 139 = .ok (.aload_n 2, 1) := dk_44 (dk_at dksX7_let_5 21 rfl rfl)
theorem dX7_let_140 : decode cX7_let 140 = .ok (.invokeinterface 198 2, 5) := by decide +kernel
theorem dX7_let_145 : decode cX7_let 145 = .ok (.pop, 1) := dk_87 (dk_at dksX7_let_6 5 rfl rfl)
theorem dX7_let_146 : decode cX7_let 146 = .ok (.return_, 1) := dk_177 (dk_at dksX7_let_6 6 rfl rfl)
abbrev cX7_closes : ByteArray := prog_5_method_12_code
def yX7_closes : MethodName := ⟨RX7, "closes", "()V"⟩
def dkwX7_closes_1 : List UInt8 := [180, 0, 125, 42, 180, 0, 21, 183, 0, 127, 181, 0, 119, 177]
abbrev dktX7_closes_1 : List UInt8 := dkwX7_closes_1 ++ []
def dkwX7_closes_0 : List UInt8 := [42, 180, 0, 12, 180, 0, 119, 199, 0, 28, 42, 180, 0, 12, 187, 0, 123, 89, 42, 180, 0, 12]
abbrev dktX7_closes_0 : List UInt8 := dkwX7_closes_0 ++ dktX7_closes_1
theorem dksX7_closes_0 : cX7_closes.data.toList.drop 0 = dktX7_closes_0 := by decide +kernel
theorem dksX7_closes_1 : cX7_closes.data.toList.drop 22 = dktX7_closes_1 := dk_seg dksX7_closes_0 22 rfl rfl
theorem dX7_closes_0 : decode cX7_closes 0 = .ok (.aload_n 0, 1) := dk_42 (dk_at dksX7_closes_0 0 rfl rfl)
theorem dX7_closes_1 : decode cX7_closes 1 = .ok (.getfield 12, 3) := dk_180 0 12 (dk_at dksX7_closes_0 1 rfl rfl)
theorem dX7_closes_4 : decode cX7_closes 4 = .ok (.getfield 119, 3) := dk_180 0 119 (dk_at dksX7_closes_0 4 rfl rfl)
theorem dX7_closes_7 : decode cX7_closes 7 = .ok (.ifnonnull 28, 3) := dk_199 0 28 (dk_at dksX7_closes_0 7 rfl rfl)
theorem dX7_closes_10 : decode cX7_closes 10 = .ok (.aload_n 0, 1) := dk_42 (dk_at dksX7_closes_0 10 rfl rfl)
theorem dX7_closes_11 : decode cX7_closes 11 = .ok (.getfield 12, 3) := dk_180 0 12 (dk_at dksX7_closes_0 11 rfl rfl)
theorem dX7_closes_14 : decode cX7_closes 14 = .ok (.new 123, 3) := dk_187 0 123 (dk_at dksX7_closes_0 14 rfl rfl)
theorem dX7_closes_17 : decode cX7_closes 17 = .ok (.dup, 1) := dk_89 (dk_at dksX7_closes_0 17 rfl rfl)
theorem dX7_closes_18 : decode cX7_closes 18 = .ok (.aload_n 0, 1) := dk_42 (dk_at dksX7_closes_0 18 rfl rfl)
theorem dX7_closes_19 : decode cX7_closes 19 = .ok (.getfield 12, 3) := dk_180 0 12 (dk_at dksX7_closes_0 19 rfl rfl)
theorem dX7_closes_22 : decode cX7_closes 22 = .ok (.getfield 125, 3) := dk_180 0 125 (dk_at dksX7_closes_1 0 rfl rfl)
theorem dX7_closes_25 : decode cX7_closes 25 = .ok (.aload_n 0, 1) := dk_42 (dk_at dksX7_closes_1 3 rfl rfl)
theorem dX7_closes_26 : decode cX7_closes 26 = .ok (.getfield 21, 3) := dk_180 0 21 (dk_at dksX7_closes_1 4 rfl rfl)
theorem dX7_closes_29 : decode cX7_closes 29 = .ok (.invokespecial 127, 3) := dk_183 0 127 (dk_at dksX7_closes_1 7 rfl rfl)
theorem dX7_closes_32 : decode cX7_closes 32 = .ok (.putfield 119, 3) := dk_181 0 119 (dk_at dksX7_closes_1 10 rfl rfl)
theorem dX7_closes_35 : decode cX7_closes 35 = .ok (.return_, 1) := dk_177 (dk_at dksX7_closes_1 13 rfl rfl)
abbrev cX7_isName : ByteArray := prog_5_method_9_code
def yX7_isName : MethodName := ⟨RX7, "isName", "()Z"⟩
def dkwX7_isName_6 : List UInt8 := [3, 167, 0, 4, 4, 172]
abbrev dktX7_isName_6 : List UInt8 := dkwX7_isName_6 ++ []
def dkwX7_isName_5 : List UInt8 := [170, 0, 0, 0, 0, 0, 0, 40, 0, 0, 0, 0, 0, 0, 0, 4, 0, 0, 0, 36, 0, 0, 0, 36, 0, 0, 0, 36, 0, 0, 0, 36, 0, 0, 0, 36]
abbrev dktX7_isName_5 : List UInt8 := dkwX7_isName_5 ++ dktX7_isName_6
def dkwX7_isName_4 : List UInt8 := [153, 0, 19, 6, 61, 167, 0, 14, 43, 18, 103, 182, 0, 93, 153, 0, 5, 7, 61, 28]
abbrev dktX7_isName_4 : List UInt8 := dkwX7_isName_4 ++ dktX7_isName_5
def dkwX7_isName_3 : List UInt8 := [61, 167, 0, 42, 43, 18, 99, 182, 0, 93, 153, 0, 33, 5, 61, 167, 0, 28, 43, 18, 101, 182, 0, 93]
abbrev dktX7_isName_3 : List UInt8 := dkwX7_isName_3 ++ dktX7_isName_4
def dkwX7_isName_2 : List UInt8 := [43, 18, 91, 182, 0, 93, 153, 0, 61, 3, 61, 167, 0, 56, 43, 18, 97, 182, 0, 93, 153, 0, 47, 4]
abbrev dktX7_isName_2 : List UInt8 := dkwX7_isName_2 ++ dktX7_isName_3
def dkwX7_isName_1 : List UInt8 := [171, 0, 0, 0, 116, 0, 0, 0, 5, 197, 62, 72, 76, 0, 0, 0, 63, 0, 0, 0, 0, 0, 0, 0, 49, 0, 1, 162, 27, 0, 0, 0, 91, 0, 51, 59, 209, 0, 0, 0, 77, 0, 53, 245, 158, 0, 0, 0, 105]
abbrev dktX7_isName_1 : List UInt8 := dkwX7_isName_1 ++ dktX7_isName_2
def dkwX7_isName_0 : List UInt8 := [42, 182, 0, 84, 76, 2, 61, 43, 182, 0, 87]
abbrev dktX7_isName_0 : List UInt8 := dkwX7_isName_0 ++ dktX7_isName_1
theorem dksX7_isName_0 : cX7_isName.data.toList.drop 0 = dktX7_isName_0 := by decide +kernel
theorem dksX7_isName_1 : cX7_isName.data.toList.drop 11 = dktX7_isName_1 := dk_seg dksX7_isName_0 11 rfl rfl
theorem dksX7_isName_2 : cX7_isName.data.toList.drop 60 = dktX7_isName_2 := dk_seg dksX7_isName_1 49 rfl rfl
theorem dksX7_isName_3 : cX7_isName.data.toList.drop 84 = dktX7_isName_3 := dk_seg dksX7_isName_2 24 rfl rfl
theorem dksX7_isName_4 : cX7_isName.data.toList.drop 108 = dktX7_isName_4 := dk_seg dksX7_isName_3 24 rfl rfl
theorem dksX7_isName_5 : cX7_isName.data.toList.drop 128 = dktX7_isName_5 := dk_seg dksX7_isName_4 20 rfl rfl
theorem dksX7_isName_6 : cX7_isName.data.toList.drop 164 = dktX7_isName_6 := dk_seg dksX7_isName_5 36 rfl rfl
theorem dX7_isName_0 : decode cX7_isName 0 = .ok (.aload_n 0, 1) := dk_42 (dk_at dksX7_isName_0 0 rfl rfl)
theorem dX7_isName_1 : decode cX7_isName 1 = .ok (.invokevirtual 84, 3) := dk_182 0 84 (dk_at dksX7_isName_0 1 rfl rfl)
theorem dX7_isName_4 : decode cX7_isName 4 = .ok (.astore_n 1, 1) := dk_76 (dk_at dksX7_isName_0 4 rfl rfl)
theorem dX7_isName_5 : decode cX7_isName 5 = .ok (.iconst (-1), 1) := dk_2 (dk_at dksX7_isName_0 5 rfl rfl)
theorem dX7_isName_6 : decode cX7_isName 6 = .ok (.istore_n 2, 1) := dk_61 (dk_at dksX7_isName_0 6 rfl rfl)
theorem dX7_isName_7 : decode cX7_isName 7 = .ok (.aload_n 1, 1) := dk_43 (dk_at dksX7_isName_0 7 rfl rfl)
theorem dX7_isName_8 : decode cX7_isName 8 = .ok (.invokevirtual 87, 3) := dk_182 0 87 (dk_at dksX7_isName_0 8 rfl rfl)
theorem dX7_isName_11 : decode cX7_isName 11 = .ok (.lookupswitch 116 #[(-985774004, 63), (0, 49), (107035, 91), (3357649, 77), (3536286, 105)], 49) := by decide +kernel
theorem dX7_isName_60 : decode cX7_isName 60 = .ok (.aload_n 1, 1) := dk_43 (dk_at dksX7_isName_2 0 rfl rfl)
theorem dX7_isName_61 : decode cX7_isName 61 = .ok (.ldc 91, 2) := dk_18 91 (dk_at dksX7_isName_2 1 rfl rfl)
theorem dX7_isName_63 : decode cX7_isName 63 = .ok (.invokevirtual 93, 3) := dk_182 0 93 (dk_at dksX7_isName_2 3 rfl rfl)
theorem dX7_isName_66 : decode cX7_isName 66 = .ok (.ifCond .eq 61, 3) := dk_153 0 61 (dk_at dksX7_isName_2 6 rfl rfl)
theorem dX7_isName_69 : decode cX7_isName 69 = .ok (.iconst 0, 1) := dk_3 (dk_at dksX7_isName_2 9 rfl rfl)
theorem dX7_isName_70 : decode cX7_isName 70 = .ok (.istore_n 2, 1) := dk_61 (dk_at dksX7_isName_2 10 rfl rfl)
theorem dX7_isName_71 : decode cX7_isName 71 = .ok (.goto 56, 3) := dk_167 0 56 (dk_at dksX7_isName_2 11 rfl rfl)
theorem dX7_isName_74 : decode cX7_isName 74 = .ok (.aload_n 1, 1) := dk_43 (dk_at dksX7_isName_2 14 rfl rfl)
theorem dX7_isName_75 : decode cX7_isName 75 = .ok (.ldc 97, 2) := dk_18 97 (dk_at dksX7_isName_2 15 rfl rfl)
theorem dX7_isName_77 : decode cX7_isName 77 = .ok (.invokevirtual 93, 3) := dk_182 0 93 (dk_at dksX7_isName_2 17 rfl rfl)
theorem dX7_isName_80 : decode cX7_isName 80 = .ok (.ifCond .eq 47, 3) := dk_153 0 47 (dk_at dksX7_isName_2 20 rfl rfl)
theorem dX7_isName_83 : decode cX7_isName 83 = .ok (.iconst 1, 1) := dk_4 (dk_at dksX7_isName_2 23 rfl rfl)
theorem dX7_isName_84 : decode cX7_isName 84 = .ok (.istore_n 2, 1) := dk_61 (dk_at dksX7_isName_3 0 rfl rfl)
theorem dX7_isName_85 : decode cX7_isName 85 = .ok (.goto 42, 3) := dk_167 0 42 (dk_at dksX7_isName_3 1 rfl rfl)
theorem dX7_isName_88 : decode cX7_isName 88 = .ok (.aload_n 1, 1) := dk_43 (dk_at dksX7_isName_3 4 rfl rfl)
theorem dX7_isName_89 : decode cX7_isName 89 = .ok (.ldc 99, 2) := dk_18 99 (dk_at dksX7_isName_3 5 rfl rfl)
theorem dX7_isName_91 : decode cX7_isName 91 = .ok (.invokevirtual 93, 3) := dk_182 0 93 (dk_at dksX7_isName_3 7 rfl rfl)
theorem dX7_isName_94 : decode cX7_isName 94 = .ok (.ifCond .eq 33, 3) := dk_153 0 33 (dk_at dksX7_isName_3 10 rfl rfl)
theorem dX7_isName_97 : decode cX7_isName 97 = .ok (.iconst 2, 1) := dk_5 (dk_at dksX7_isName_3 13 rfl rfl)
theorem dX7_isName_98 : decode cX7_isName 98 = .ok (.istore_n 2, 1) := dk_61 (dk_at dksX7_isName_3 14 rfl rfl)
theorem dX7_isName_99 : decode cX7_isName 99 = .ok (.goto 28, 3) := dk_167 0 28 (dk_at dksX7_isName_3 15 rfl rfl)
theorem dX7_isName_102 : decode cX7_isName 102 = .ok (.aload_n 1, 1) := dk_43 (dk_at dksX7_isName_3 18 rfl rfl)
theorem dX7_isName_103 : decode cX7_isName 103 = .ok (.ldc 101, 2) := dk_18 101 (dk_at dksX7_isName_3 19 rfl rfl)
theorem dX7_isName_105 : decode cX7_isName 105 = .ok (.invokevirtual 93, 3) := dk_182 0 93 (dk_at dksX7_isName_3 21 rfl rfl)
theorem dX7_isName_108 : decode cX7_isName 108 = .ok (.ifCond .eq 19, 3) := dk_153 0 19 (dk_at dksX7_isName_4 0 rfl rfl)
theorem dX7_isName_111 : decode cX7_isName 111 = .ok (.iconst 3, 1) := dk_6 (dk_at dksX7_isName_4 3 rfl rfl)
theorem dX7_isName_112 : decode cX7_isName 112 = .ok (.istore_n 2, 1) := dk_61 (dk_at dksX7_isName_4 4 rfl rfl)
theorem dX7_isName_113 : decode cX7_isName 113 = .ok (.goto 14, 3) := dk_167 0 14 (dk_at dksX7_isName_4 5 rfl rfl)
theorem dX7_isName_116 : decode cX7_isName 116 = .ok (.aload_n 1, 1) := dk_43 (dk_at dksX7_isName_4 8 rfl rfl)
theorem dX7_isName_117 : decode cX7_isName 117 = .ok (.ldc 103, 2) := dk_18 103 (dk_at dksX7_isName_4 9 rfl rfl)
theorem dX7_isName_119 : decode cX7_isName 119 = .ok (.invokevirtual 93, 3) := dk_182 0 93 (dk_at dksX7_isName_4 11 rfl rfl)
theorem dX7_isName_122 : decode cX7_isName 122 = .ok (.ifCond .eq 5, 3) := dk_153 0 5 (dk_at dksX7_isName_4 14 rfl rfl)
theorem dX7_isName_125 : decode cX7_isName 125 = .ok (.iconst 4, 1) := dk_7 (dk_at dksX7_isName_4 17 rfl rfl)
theorem dX7_isName_126 : decode cX7_isName 126 = .ok (.istore_n 2, 1) := dk_61 (dk_at dksX7_isName_4 18 rfl rfl)
theorem dX7_isName_127 : decode cX7_isName 127 = .ok (.iload_n 2, 1) := dk_28 (dk_at dksX7_isName_4 19 rfl rfl)
theorem dX7_isName_128 : decode cX7_isName 128 = .ok (.tableswitch 40 0 4 #[36, 36, 36, 36, 36], 36) := by decide +kernel
theorem dX7_isName_164 : decode cX7_isName 164 = .ok (.iconst 0, 1) := dk_3 (dk_at dksX7_isName_6 0 rfl rfl)
theorem dX7_isName_165 : decode cX7_isName 165 = .ok (.goto 4, 3) := dk_167 0 4 (dk_at dksX7_isName_6 1 rfl rfl)
theorem dX7_isName_168 : decode cX7_isName 168 = .ok (.iconst 1, 1) := dk_4 (dk_at dksX7_isName_6 4 rfl rfl)
theorem dX7_isName_169 : decode cX7_isName 169 = .ok (.ireturn, 1) := dk_172 (dk_at dksX7_isName_6 5 rfl rfl)
abbrev cX7_whole : ByteArray := prog_5_method_18_code
def yX7_whole : MethodName := ⟨RX7, "whole", "()LTroupeSums$Sum;"⟩
def dkwX7_whole_1 : List UInt8 := [182, 0, 242, 176]
abbrev dktX7_whole_1 : List UInt8 := dkwX7_whole_1 ++ []
def dkwX7_whole_0 : List UInt8 := [42, 3, 181, 0, 229, 42, 3, 181, 0, 232, 42, 42, 180, 0, 43, 181, 0, 235, 42, 3, 181, 0, 238, 42]
abbrev dktX7_whole_0 : List UInt8 := dkwX7_whole_0 ++ dktX7_whole_1
theorem dksX7_whole_0 : cX7_whole.data.toList.drop 0 = dktX7_whole_0 := by decide +kernel
theorem dksX7_whole_1 : cX7_whole.data.toList.drop 24 = dktX7_whole_1 := dk_seg dksX7_whole_0 24 rfl rfl
theorem dX7_whole_0 : decode cX7_whole 0 = .ok (.aload_n 0, 1) := dk_42 (dk_at dksX7_whole_0 0 rfl rfl)
theorem dX7_whole_1 : decode cX7_whole 1 = .ok (.iconst 0, 1) := dk_3 (dk_at dksX7_whole_0 1 rfl rfl)
theorem dX7_whole_2 : decode cX7_whole 2 = .ok (.putfield 229, 3) := dk_181 0 229 (dk_at dksX7_whole_0 2 rfl rfl)
theorem dX7_whole_5 : decode cX7_whole 5 = .ok (.aload_n 0, 1) := dk_42 (dk_at dksX7_whole_0 5 rfl rfl)
theorem dX7_whole_6 : decode cX7_whole 6 = .ok (.iconst 0, 1) := dk_3 (dk_at dksX7_whole_0 6 rfl rfl)
theorem dX7_whole_7 : decode cX7_whole 7 = .ok (.putfield 232, 3) := dk_181 0 232 (dk_at dksX7_whole_0 7 rfl rfl)
theorem dX7_whole_10 : decode cX7_whole 10 = .ok (.aload_n 0, 1) := dk_42 (dk_at dksX7_whole_0 10 rfl rfl)
theorem dX7_whole_11 : decode cX7_whole 11 = .ok (.aload_n 0, 1) := dk_42 (dk_at dksX7_whole_0 11 rfl rfl)
theorem dX7_whole_12 : decode cX7_whole 12 = .ok (.getfield 43, 3) := dk_180 0 43 (dk_at dksX7_whole_0 12 rfl rfl)
theorem dX7_whole_15 : decode cX7_whole 15 = .ok (.putfield 235, 3) := dk_181 0 235 (dk_at dksX7_whole_0 15 rfl rfl)
theorem dX7_whole_18 : decode cX7_whole 18 = .ok (.aload_n 0, 1) := dk_42 (dk_at dksX7_whole_0 18 rfl rfl)
theorem dX7_whole_19 : decode cX7_whole 19 = .ok (.iconst 0, 1) := dk_3 (dk_at dksX7_whole_0 19 rfl rfl)
theorem dX7_whole_20 : decode cX7_whole 20 = .ok (.putfield 238, 3) := dk_181 0 238 (dk_at dksX7_whole_0 20 rfl rfl)
theorem dX7_whole_23 : decode cX7_whole 23 = .ok (.aload_n 0, 1) := dk_42 (dk_at dksX7_whole_0 23 rfl rfl)
theorem dX7_whole_24 : decode cX7_whole 24 = .ok (.invokevirtual 242, 3) := dk_182 0 242 (dk_at dksX7_whole_1 0 rfl rfl)
theorem dX7_whole_27 : decode cX7_whole 27 = .ok (.areturn, 1) := dk_176 (dk_at dksX7_whole_1 3 rfl rfl)
abbrev cX7_any : ByteArray := prog_5_method_20_code
def yX7_any : MethodName := ⟨RX7, "any", "()LTroupeSums$Sum;"⟩
def dkwX7_any_2 : List UInt8 := [180, 0, 238, 153, 0, 7, 43, 167, 0, 9, 43, 45, 28, 182, 0, 248, 76, 167, 255, 196, 43, 176]
abbrev dktX7_any_2 : List UInt8 := dkwX7_any_2 ++ []
def dkwX7_any_1 : List UInt8 := [16, 43, 182, 0, 65, 153, 0, 7, 4, 167, 0, 4, 2, 61, 42, 182, 0, 33, 42, 182, 0, 245, 78, 42]
abbrev dktX7_any_1 : List UInt8 := dkwX7_any_1 ++ dktX7_any_2
def dkwX7_any_0 : List UInt8 := [42, 182, 0, 245, 76, 42, 16, 43, 182, 0, 65, 154, 0, 12, 42, 16, 45, 182, 0, 65, 153, 0, 48, 42]
abbrev dktX7_any_0 : List UInt8 := dkwX7_any_0 ++ dktX7_any_1
theorem dksX7_any_0 : cX7_any.data.toList.drop 0 = dktX7_any_0 := by decide +kernel
theorem dksX7_any_1 : cX7_any.data.toList.drop 24 = dktX7_any_1 := dk_seg dksX7_any_0 24 rfl rfl
theorem dksX7_any_2 : cX7_any.data.toList.drop 48 = dktX7_any_2 := dk_seg dksX7_any_1 24 rfl rfl
theorem dX7_any_0 : decode cX7_any 0 = .ok (.aload_n 0, 1) := dk_42 (dk_at dksX7_any_0 0 rfl rfl)
theorem dX7_any_1 : decode cX7_any 1 = .ok (.invokevirtual 245, 3) := dk_182 0 245 (dk_at dksX7_any_0 1 rfl rfl)
theorem dX7_any_4 : decode cX7_any 4 = .ok (.astore_n 1, 1) := dk_76 (dk_at dksX7_any_0 4 rfl rfl)
theorem dX7_any_5 : decode cX7_any 5 = .ok (.aload_n 0, 1) := dk_42 (dk_at dksX7_any_0 5 rfl rfl)
theorem dX7_any_6 : decode cX7_any 6 = .ok (.bipush 43, 2) := dk_16 43 (dk_at dksX7_any_0 6 rfl rfl)
theorem dX7_any_8 : decode cX7_any 8 = .ok (.invokevirtual 65, 3) := dk_182 0 65 (dk_at dksX7_any_0 8 rfl rfl)
theorem dX7_any_11 : decode cX7_any 11 = .ok (.ifCond .ne 12, 3) := dk_154 0 12 (dk_at dksX7_any_0 11 rfl rfl)
theorem dX7_any_14 : decode cX7_any 14 = .ok (.aload_n 0, 1) := dk_42 (dk_at dksX7_any_0 14 rfl rfl)
theorem dX7_any_15 : decode cX7_any 15 = .ok (.bipush 45, 2) := dk_16 45 (dk_at dksX7_any_0 15 rfl rfl)
theorem dX7_any_17 : decode cX7_any 17 = .ok (.invokevirtual 65, 3) := dk_182 0 65 (dk_at dksX7_any_0 17 rfl rfl)
theorem dX7_any_20 : decode cX7_any 20 = .ok (.ifCond .eq 48, 3) := dk_153 0 48 (dk_at dksX7_any_0 20 rfl rfl)
theorem dX7_any_23 : decode cX7_any 23 = .ok (.aload_n 0, 1) := dk_42 (dk_at dksX7_any_0 23 rfl rfl)
theorem dX7_any_24 : decode cX7_any 24 = .ok (.bipush 43, 2) := dk_16 43 (dk_at dksX7_any_1 0 rfl rfl)
theorem dX7_any_26 : decode cX7_any 26 = .ok (.invokevirtual 65, 3) := dk_182 0 65 (dk_at dksX7_any_1 2 rfl rfl)
theorem dX7_any_29 : decode cX7_any 29 = .ok (.ifCond .eq 7, 3) := dk_153 0 7 (dk_at dksX7_any_1 5 rfl rfl)
theorem dX7_any_32 : decode cX7_any 32 = .ok (.iconst 1, 1) := dk_4 (dk_at dksX7_any_1 8 rfl rfl)
theorem dX7_any_33 : decode cX7_any 33 = .ok (.goto 4, 3) := dk_167 0 4 (dk_at dksX7_any_1 9 rfl rfl)
theorem dX7_any_36 : decode cX7_any 36 = .ok (.iconst (-1), 1) := dk_2 (dk_at dksX7_any_1 12 rfl rfl)
theorem dX7_any_37 : decode cX7_any 37 = .ok (.istore_n 2, 1) := dk_61 (dk_at dksX7_any_1 13 rfl rfl)
theorem dX7_any_38 : decode cX7_any 38 = .ok (.aload_n 0, 1) := dk_42 (dk_at dksX7_any_1 14 rfl rfl)
theorem dX7_any_39 : decode cX7_any 39 = .ok (.invokevirtual 33, 3) := dk_182 0 33 (dk_at dksX7_any_1 15 rfl rfl)
theorem dX7_any_42 : decode cX7_any 42 = .ok (.aload_n 0, 1) := dk_42 (dk_at dksX7_any_1 18 rfl rfl)
theorem dX7_any_43 : decode cX7_any 43 = .ok (.invokevirtual 245, 3) := dk_182 0 245 (dk_at dksX7_any_1 19 rfl rfl)
theorem dX7_any_46 : decode cX7_any 46 = .ok (.astore_n 3, 1) := dk_78 (dk_at dksX7_any_1 22 rfl rfl)
theorem dX7_any_47 : decode cX7_any 47 = .ok (.aload_n 0, 1) := dk_42 (dk_at dksX7_any_1 23 rfl rfl)
theorem dX7_any_48 : decode cX7_any 48 = .ok (.getfield 238, 3) := dk_180 0 238 (dk_at dksX7_any_2 0 rfl rfl)
theorem dX7_any_51 : decode cX7_any 51 = .ok (.ifCond .eq 7, 3) := dk_153 0 7 (dk_at dksX7_any_2 3 rfl rfl)
theorem dX7_any_54 : decode cX7_any 54 = .ok (.aload_n 1, 1) := dk_43 (dk_at dksX7_any_2 6 rfl rfl)
theorem dX7_any_55 : decode cX7_any 55 = .ok (.goto 9, 3) := dk_167 0 9 (dk_at dksX7_any_2 7 rfl rfl)
theorem dX7_any_58 : decode cX7_any 58 = .ok (.aload_n 1, 1) := dk_43 (dk_at dksX7_any_2 10 rfl rfl)
theorem dX7_any_59 : decode cX7_any 59 = .ok (.aload_n 3, 1) := dk_45 (dk_at dksX7_any_2 11 rfl rfl)
theorem dX7_any_60 : decode cX7_any 60 = .ok (.iload_n 2, 1) := dk_28 (dk_at dksX7_any_2 12 rfl rfl)
theorem dX7_any_61 : decode cX7_any 61 = .ok (.invokevirtual 248, 3) := dk_182 0 248 (dk_at dksX7_any_2 13 rfl rfl)
theorem dX7_any_64 : decode cX7_any 64 = .ok (.astore_n 1, 1) := dk_76 (dk_at dksX7_any_2 16 rfl rfl)
theorem dX7_any_65 : decode cX7_any 65 = .ok (.goto (-60), 3) := dk_167 255 196 (dk_at dksX7_any_2 17 rfl rfl)
theorem dX7_any_68 : decode cX7_any 68 = .ok (.aload_n 1, 1) := dk_43 (dk_at dksX7_any_2 20 rfl rfl)
theorem dX7_any_69 : decode cX7_any 69 = .ok (.areturn, 1) := dk_176 (dk_at dksX7_any_2 21 rfl rfl)
abbrev cX7_product : ByteArray := prog_5_method_21_code
def yX7_product : MethodName := ⟨RX7, "product", "()LTroupeSums$Sum;"⟩
def dkwX7_product_1 : List UInt8 := [180, 0, 238, 153, 0, 7, 43, 167, 0, 8, 43, 44, 182, 1, 1, 76, 167, 255, 221, 43, 176]
abbrev dktX7_product_1 : List UInt8 := dkwX7_product_1 ++ []
def dkwX7_product_0 : List UInt8 := [42, 182, 0, 254, 76, 42, 16, 42, 182, 0, 65, 153, 0, 32, 42, 182, 0, 33, 42, 182, 0, 254, 77, 42]
abbrev dktX7_product_0 : List UInt8 := dkwX7_product_0 ++ dktX7_product_1
theorem dksX7_product_0 : cX7_product.data.toList.drop 0 = dktX7_product_0 := by decide +kernel
theorem dksX7_product_1 : cX7_product.data.toList.drop 24 = dktX7_product_1 := dk_seg dksX7_product_0 24 rfl rfl
theorem dX7_product_0 : decode cX7_product 0 = .ok (.aload_n 0, 1) := dk_42 (dk_at dksX7_product_0 0 rfl rfl)
theorem dX7_product_1 : decode cX7_product 1 = .ok (.invokevirtual 254, 3) := dk_182 0 254 (dk_at dksX7_product_0 1 rfl rfl)
theorem dX7_product_4 : decode cX7_product 4 = .ok (.astore_n 1, 1) := dk_76 (dk_at dksX7_product_0 4 rfl rfl)
theorem dX7_product_5 : decode cX7_product 5 = .ok (.aload_n 0, 1) := dk_42 (dk_at dksX7_product_0 5 rfl rfl)
theorem dX7_product_6 : decode cX7_product 6 = .ok (.bipush 42, 2) := dk_16 42 (dk_at dksX7_product_0 6 rfl rfl)
theorem dX7_product_8 : decode cX7_product 8 = .ok (.invokevirtual 65, 3) := dk_182 0 65 (dk_at dksX7_product_0 8 rfl rfl)
theorem dX7_product_11 : decode cX7_product 11 = .ok (.ifCond .eq 32, 3) := dk_153 0 32 (dk_at dksX7_product_0 11 rfl rfl)
theorem dX7_product_14 : decode cX7_product 14 = .ok (.aload_n 0, 1) := dk_42 (dk_at dksX7_product_0 14 rfl rfl)
theorem dX7_product_15 : decode cX7_product 15 = .ok (.invokevirtual 33, 3) := dk_182 0 33 (dk_at dksX7_product_0 15 rfl rfl)
theorem dX7_product_18 : decode cX7_product 18 = .ok (.aload_n 0, 1) := dk_42 (dk_at dksX7_product_0 18 rfl rfl)
theorem dX7_product_19 : decode cX7_product 19 = .ok (.invokevirtual 254, 3) := dk_182 0 254 (dk_at dksX7_product_0 19 rfl rfl)
theorem dX7_product_22 : decode cX7_product 22 = .ok (.astore_n 2, 1) := dk_77 (dk_at dksX7_product_0 22 rfl rfl)
theorem dX7_product_23 : decode cX7_product 23 = .ok (.aload_n 0, 1) := dk_42 (dk_at dksX7_product_0 23 rfl rfl)
theorem dX7_product_24 : decode cX7_product 24 = .ok (.getfield 238, 3) := dk_180 0 238 (dk_at dksX7_product_1 0 rfl rfl)
theorem dX7_product_27 : decode cX7_product 27 = .ok (.ifCond .eq 7, 3) := dk_153 0 7 (dk_at dksX7_product_1 3 rfl rfl)
theorem dX7_product_30 : decode cX7_product 30 = .ok (.aload_n 1, 1) := dk_43 (dk_at dksX7_product_1 6 rfl rfl)
theorem dX7_product_31 : decode cX7_product 31 = .ok (.goto 8, 3) := dk_167 0 8 (dk_at dksX7_product_1 7 rfl rfl)
theorem dX7_product_34 : decode cX7_product 34 = .ok (.aload_n 1, 1) := dk_43 (dk_at dksX7_product_1 10 rfl rfl)
theorem dX7_product_35 : decode cX7_product 35 = .ok (.aload_n 2, 1) := dk_44 (dk_at dksX7_product_1 11 rfl rfl)
theorem dX7_product_36 : decode cX7_product 36 = .ok (.invokevirtual 257, 3) := dk_182 1 1 (dk_at dksX7_product_1 12 rfl rfl)
theorem dX7_product_39 : decode cX7_product 39 = .ok (.astore_n 1, 1) := dk_76 (dk_at dksX7_product_1 15 rfl rfl)
theorem dX7_product_40 : decode cX7_product 40 = .ok (.goto (-35), 3) := dk_167 255 221 (dk_at dksX7_product_1 16 rfl rfl)
theorem dX7_product_43 : decode cX7_product 43 = .ok (.aload_n 1, 1) := dk_43 (dk_at dksX7_product_1 19 rfl rfl)
theorem dX7_product_44 : decode cX7_product 44 = .ok (.areturn, 1) := dk_176 (dk_at dksX7_product_1 20 rfl rfl)
abbrev cX7_factor : ByteArray := prog_5_method_24_code
def yX7_factor : MethodName := ⟨RX7, "factor", "()LTroupeSums$Sum;"⟩
def dkwX7_factor_4 : List UInt8 := [182, 0, 33, 42, 180, 0, 238, 153, 0, 7, 43, 167, 0, 8, 43, 28, 182, 1, 18, 176]
abbrev dktX7_factor_4 : List UInt8 := dkwX7_factor_4 ++ []
def dkwX7_factor_3 : List UInt8 := [16, 94, 182, 0, 65, 154, 0, 5, 43, 176, 42, 182, 0, 33, 42, 16, 9, 182, 0, 141, 61, 42]
abbrev dktX7_factor_3 : List UInt8 := dkwX7_factor_3 ++ dktX7_factor_4
def dkwX7_factor_2 : List UInt8 := [153, 0, 7, 43, 167, 0, 12, 42, 182, 1, 12, 43, 2, 182, 0, 248, 176, 42, 182, 1, 15, 76, 42]
abbrev dktX7_factor_2 : List UInt8 := dkwX7_factor_2 ++ dktX7_factor_3
def dkwX7_factor_1 : List UInt8 := [181, 0, 232, 42, 182, 0, 254, 76, 42, 89, 180, 0, 232, 4, 100, 181, 0, 232, 42, 180, 0, 238]
abbrev dktX7_factor_1 : List UInt8 := dkwX7_factor_1 ++ dktX7_factor_2
def dkwX7_factor_0 : List UInt8 := [42, 182, 1, 9, 42, 16, 45, 182, 0, 65, 153, 0, 53, 42, 182, 0, 33, 42, 89, 180, 0, 232, 4, 96]
abbrev dktX7_factor_0 : List UInt8 := dkwX7_factor_0 ++ dktX7_factor_1
theorem dksX7_factor_0 : cX7_factor.data.toList.drop 0 = dktX7_factor_0 := by decide +kernel
theorem dksX7_factor_1 : cX7_factor.data.toList.drop 24 = dktX7_factor_1 := dk_seg dksX7_factor_0 24 rfl rfl
theorem dksX7_factor_2 : cX7_factor.data.toList.drop 46 = dktX7_factor_2 := dk_seg dksX7_factor_1 22 rfl rfl
theorem dksX7_factor_3 : cX7_factor.data.toList.drop 69 = dktX7_factor_3 := dk_seg dksX7_factor_2 23 rfl rfl
theorem dksX7_factor_4 : cX7_factor.data.toList.drop 91 = dktX7_factor_4 := dk_seg dksX7_factor_3 22 rfl rfl
theorem dX7_factor_0 : decode cX7_factor 0 = .ok (.aload_n 0, 1) := dk_42 (dk_at dksX7_factor_0 0 rfl rfl)
theorem dX7_factor_1 : decode cX7_factor 1 = .ok (.invokevirtual 265, 3) := dk_182 1 9 (dk_at dksX7_factor_0 1 rfl rfl)
theorem dX7_factor_4 : decode cX7_factor 4 = .ok (.aload_n 0, 1) := dk_42 (dk_at dksX7_factor_0 4 rfl rfl)
theorem dX7_factor_5 : decode cX7_factor 5 = .ok (.bipush 45, 2) := dk_16 45 (dk_at dksX7_factor_0 5 rfl rfl)
theorem dX7_factor_7 : decode cX7_factor 7 = .ok (.invokevirtual 65, 3) := dk_182 0 65 (dk_at dksX7_factor_0 7 rfl rfl)
theorem dX7_factor_10 : decode cX7_factor 10 = .ok (.ifCond .eq 53, 3) := dk_153 0 53 (dk_at dksX7_factor_0 10 rfl rfl)
theorem dX7_factor_13 : decode cX7_factor 13 = .ok (.aload_n 0, 1) := dk_42 (dk_at dksX7_factor_0 13 rfl rfl)
theorem dX7_factor_14 : decode cX7_factor 14 = .ok (.invokevirtual 33, 3) := dk_182 0 33 (dk_at dksX7_factor_0 14 rfl rfl)
theorem dX7_factor_17 : decode cX7_factor 17 = .ok (.aload_n 0, 1) := dk_42 (dk_at dksX7_factor_0 17 rfl rfl)
theorem dX7_factor_18 : decode cX7_factor 18 = .ok (.dup, 1) := dk_89 (dk_at dksX7_factor_0 18 rfl rfl)
theorem dX7_factor_19 : decode cX7_factor 19 = .ok (.getfield 232, 3) := dk_180 0 232 (dk_at dksX7_factor_0 19 rfl rfl)
theorem dX7_factor_22 : decode cX7_factor 22 = .ok (.iconst 1, 1) := dk_4 (dk_at dksX7_factor_0 22 rfl rfl)
theorem dX7_factor_23 : decode cX7_factor 23 = .ok (.iadd, 1) := dk_96 (dk_at dksX7_factor_0 23 rfl rfl)
theorem dX7_factor_24 : decode cX7_factor 24 = .ok (.putfield 232, 3) := dk_181 0 232 (dk_at dksX7_factor_1 0 rfl rfl)
theorem dX7_factor_27 : decode cX7_factor 27 = .ok (.aload_n 0, 1) := dk_42 (dk_at dksX7_factor_1 3 rfl rfl)
theorem dX7_factor_28 : decode cX7_factor 28 = .ok (.invokevirtual 254, 3) := dk_182 0 254 (dk_at dksX7_factor_1 4 rfl rfl)
theorem dX7_factor_31 : decode cX7_factor 31 = .ok (.astore_n 1, 1) := dk_76 (dk_at dksX7_factor_1 7 rfl rfl)
theorem dX7_factor_32 : decode cX7_factor 32 = .ok (.aload_n 0, 1) := dk_42 (dk_at dksX7_factor_1 8 rfl rfl)
theorem dX7_factor_33 : decode cX7_factor 33 = .ok (.dup, 1) := dk_89 (dk_at dksX7_factor_1 9 rfl rfl)
theorem dX7_factor_34 : decode cX7_factor 34 = .ok (.getfield 232, 3) := dk_180 0 232 (dk_at dksX7_factor_1 10 rfl rfl)
theorem dX7_factor_37 : decode cX7_factor 37 = .ok (.iconst 1, 1) := dk_4 (dk_at dksX7_factor_1 13 rfl rfl)
theorem dX7_factor_38 : decode cX7_factor 38 = .ok (.isub, 1) := dk_100 (dk_at dksX7_factor_1 14 rfl rfl)
theorem dX7_factor_39 : decode cX7_factor 39 = .ok (.putfield 232, 3) := dk_181 0 232 (dk_at dksX7_factor_1 15 rfl rfl)
theorem dX7_factor_42 : decode cX7_factor 42 = .ok (.aload_n 0, 1) := dk_42 (dk_at dksX7_factor_1 18 rfl rfl)
theorem dX7_factor_43 : decode cX7_factor 43 = .ok (.getfield 238, 3) := dk_180 0 238 (dk_at dksX7_factor_1 19 rfl rfl)
theorem dX7_factor_46 : decode cX7_factor 46 = .ok (.ifCond .eq 7, 3) := dk_153 0 7 (dk_at dksX7_factor_2 0 rfl rfl)
theorem dX7_factor_49 : decode cX7_factor 49 = .ok (.aload_n 1, 1) := dk_43 (dk_at dksX7_factor_2 3 rfl rfl)
theorem dX7_factor_50 : decode cX7_factor 50 = .ok (.goto 12, 3) := dk_167 0 12 (dk_at dksX7_factor_2 4 rfl rfl)
theorem dX7_factor_53 : decode cX7_factor 53 = .ok (.aload_n 0, 1) := dk_42 (dk_at dksX7_factor_2 7 rfl rfl)
theorem dX7_factor_54 : decode cX7_factor 54 = .ok (.invokevirtual 268, 3) := dk_182 1 12 (dk_at dksX7_factor_2 8 rfl rfl)
theorem dX7_factor_57 : decode cX7_factor 57 = .ok (.aload_n 1, 1) := dk_43 (dk_at dksX7_factor_2 11 rfl rfl)
theorem dX7_factor_58 : decode cX7_factor 58 = .ok (.iconst (-1), 1) := dk_2 (dk_at dksX7_factor_2 12 rfl rfl)
theorem dX7_factor_59 : decode cX7_factor 59 = .ok (.invokevirtual 248, 3) := dk_182 0 248 (dk_at dksX7_factor_2 13 rfl rfl)
theorem dX7_factor_62 : decode cX7_factor 62 = .ok (.areturn, 1) := dk_176 (dk_at dksX7_factor_2 16 rfl rfl)
theorem dX7_factor_63 : decode cX7_factor 63 = .ok (.aload_n 0, 1) := dk_42 (dk_at dksX7_factor_2 17 rfl rfl)
theorem dX7_factor_64 : decode cX7_factor 64 = .ok (.invokevirtual 271, 3) := dk_182 1 15 (dk_at dksX7_factor_2 18 rfl rfl)
theorem dX7_factor_67 : decode cX7_factor 67 = .ok (.astore_n 1, 1) := dk_76 (dk_at dksX7_factor_2 21 rfl rfl)
theorem dX7_factor_68 : decode cX7_factor 68 = .ok (.aload_n 0, 1) := dk_42 (dk_at dksX7_factor_2 22 rfl rfl)
theorem dX7_factor_69 : decode cX7_factor 69 = .ok (.bipush 94, 2) := dk_16 94 (dk_at dksX7_factor_3 0 rfl rfl)
theorem dX7_factor_71 : decode cX7_factor 71 = .ok (.invokevirtual 65, 3) := dk_182 0 65 (dk_at dksX7_factor_3 2 rfl rfl)
theorem dX7_factor_74 : decode cX7_factor 74 = .ok (.ifCond .ne 5, 3) := dk_154 0 5 (dk_at dksX7_factor_3 5 rfl rfl)
theorem dX7_factor_77 : decode cX7_factor 77 = .ok (.aload_n 1, 1) := dk_43 (dk_at dksX7_factor_3 8 rfl rfl)
theorem dX7_factor_78 : decode cX7_factor 78 = .ok (.areturn, 1) := dk_176 (dk_at dksX7_factor_3 9 rfl rfl)
theorem dX7_factor_79 : decode cX7_factor 79 = .ok (.aload_n 0, 1) := dk_42 (dk_at dksX7_factor_3 10 rfl rfl)
theorem dX7_factor_80 : decode cX7_factor 80 = .ok (.invokevirtual 33, 3) := dk_182 0 33 (dk_at dksX7_factor_3 11 rfl rfl)
theorem dX7_factor_83 : decode cX7_factor 83 = .ok (.aload_n 0, 1) := dk_42 (dk_at dksX7_factor_3 14 rfl rfl)
theorem dX7_factor_84 : decode cX7_factor 84 = .ok (.bipush 9, 2) := dk_16 9 (dk_at dksX7_factor_3 15 rfl rfl)
theorem dX7_factor_86 : decode cX7_factor 86 = .ok (.invokevirtual 141, 3) := dk_182 0 141 (dk_at dksX7_factor_3 17 rfl rfl)
theorem dX7_factor_89 : decode cX7_factor 89 = .ok (.istore_n 2, 1) := dk_61 (dk_at dksX7_factor_3 20 rfl rfl)
theorem dX7_factor_90 : decode cX7_factor 90 = .ok (.aload_n 0, 1) := dk_42 (dk_at dksX7_factor_3 21 rfl rfl)
theorem dX7_factor_91 : decode cX7_factor 91 = .ok (.invokevirtual 33, 3) := dk_182 0 33 (dk_at dksX7_factor_4 0 rfl rfl)
theorem dX7_factor_94 : decode cX7_factor 94 = .ok (.aload_n 0, 1) := dk_42 (dk_at dksX7_factor_4 3 rfl rfl)
theorem dX7_factor_95 : decode cX7_factor 95 = .ok (.getfield 238, 3) := dk_180 0 238 (dk_at dksX7_factor_4 4 rfl rfl)
theorem dX7_factor_98 : decode cX7_factor 98 = .ok (.ifCond .eq 7, 3) := dk_153 0 7 (dk_at dksX7_factor_4 7 rfl rfl)
theorem dX7_factor_101 : decode cX7_factor 101 = .ok (.aload_n 1, 1) := dk_43 (dk_at dksX7_factor_4 10 rfl rfl)
theorem dX7_factor_102 : decode cX7_factor 102 = .ok (.goto 8, 3) := dk_167 0 8 (dk_at dksX7_factor_4 11 rfl rfl)
theorem dX7_factor_105 : decode cX7_factor 105 = .ok (.aload_n 1, 1) := dk_43 (dk_at dksX7_factor_4 14 rfl rfl)
theorem dX7_factor_106 : decode cX7_factor 106 = .ok (.iload_n 2, 1) := dk_28 (dk_at dksX7_factor_4 15 rfl rfl)
theorem dX7_factor_107 : decode cX7_factor 107 = .ok (.invokevirtual 274, 3) := dk_182 1 18 (dk_at dksX7_factor_4 16 rfl rfl)
theorem dX7_factor_110 : decode cX7_factor 110 = .ok (.areturn, 1) := dk_176 (dk_at dksX7_factor_4 19 rfl rfl)
abbrev cX7_unit : ByteArray := prog_5_method_23_code
def yX7_unit : MethodName := ⟨RX7, "unit", "()V"⟩
def dkwX7_unit_5 : List UInt8 := [8, 182, 0, 69, 42, 89, 180, 0, 229, 4, 96, 181, 0, 229, 177]
abbrev dktX7_unit_5 : List UInt8 := dkwX7_unit_5 ++ []
def dkwX7_unit_4 : List UInt8 := [42, 42, 180, 0, 229, 16, 30, 162, 0, 16, 42, 180, 0, 232, 16, 6, 163, 0, 7, 4, 167, 0, 4, 3]
abbrev dktX7_unit_4 : List UInt8 := dkwX7_unit_4 ++ dktX7_unit_5
def dkwX7_unit_3 : List UInt8 := [180, 0, 208, 42, 182, 0, 84, 185, 0, 216, 2, 0, 153, 0, 7, 4, 167, 0, 4, 3, 6, 182, 0, 69]
abbrev dktX7_unit_3 : List UInt8 := dkwX7_unit_3 ++ dktX7_unit_4
def dkwX7_unit_2 : List UInt8 := [167, 0, 4, 3, 60, 42, 27, 5, 182, 0, 69, 42, 42, 182, 0, 213, 153, 0, 22, 42, 180, 0, 12]
abbrev dktX7_unit_2 : List UInt8 := dkwX7_unit_2 ++ dktX7_unit_3
def dkwX7_unit_1 : List UInt8 := [154, 0, 22, 42, 182, 0, 84, 18, 103, 182, 0, 93, 154, 0, 10, 42, 182, 0, 213, 153, 0, 7, 4]
abbrev dktX7_unit_1 : List UInt8 := dkwX7_unit_1 ++ dktX7_unit_2
def dkwX7_unit_0 : List UInt8 := [42, 180, 0, 46, 5, 159, 0, 40, 42, 16, 45, 182, 0, 65, 154, 0, 31, 42, 16, 40, 182, 0, 65]
abbrev dktX7_unit_0 : List UInt8 := dkwX7_unit_0 ++ dktX7_unit_1
theorem dksX7_unit_0 : cX7_unit.data.toList.drop 0 = dktX7_unit_0 := by decide +kernel
theorem dksX7_unit_1 : cX7_unit.data.toList.drop 23 = dktX7_unit_1 := dk_seg dksX7_unit_0 23 rfl rfl
theorem dksX7_unit_2 : cX7_unit.data.toList.drop 46 = dktX7_unit_2 := dk_seg dksX7_unit_1 23 rfl rfl
theorem dksX7_unit_3 : cX7_unit.data.toList.drop 69 = dktX7_unit_3 := dk_seg dksX7_unit_2 23 rfl rfl
theorem dksX7_unit_4 : cX7_unit.data.toList.drop 93 = dktX7_unit_4 := dk_seg dksX7_unit_3 24 rfl rfl
theorem dksX7_unit_5 : cX7_unit.data.toList.drop 117 = dktX7_unit_5 := dk_seg dksX7_unit_4 24 rfl rfl
theorem dX7_unit_0 : decode cX7_unit 0 = .ok (.aload_n 0, 1) := dk_42 (dk_at dksX7_unit_0 0 rfl rfl)
theorem dX7_unit_1 : decode cX7_unit 1 = .ok (.getfield 46, 3) := dk_180 0 46 (dk_at dksX7_unit_0 1 rfl rfl)
theorem dX7_unit_4 : decode cX7_unit 4 = .ok (.iconst 2, 1) := dk_5 (dk_at dksX7_unit_0 4 rfl rfl)
theorem dX7_unit_5 : decode cX7_unit 5 = .ok (.if_icmp .eq 40, 3) := dk_159 0 40 (dk_at dksX7_unit_0 5 rfl rfl)
theorem dX7_unit_8 : decode cX7_unit 8 = .ok (.aload_n 0, 1) := dk_42 (dk_at dksX7_unit_0 8 rfl rfl)
theorem dX7_unit_9 : decode cX7_unit 9 = .ok (.bipush 45, 2) := dk_16 45 (dk_at dksX7_unit_0 9 rfl rfl)
theorem dX7_unit_11 : decode cX7_unit 11 = .ok (.invokevirtual 65, 3) := dk_182 0 65 (dk_at dksX7_unit_0 11 rfl rfl)
theorem dX7_unit_14 : decode cX7_unit 14 = .ok (.ifCond .ne 31, 3) := dk_154 0 31 (dk_at dksX7_unit_0 14 rfl rfl)
theorem dX7_unit_17 : decode cX7_unit 17 = .ok (.aload_n 0, 1) := dk_42 (dk_at dksX7_unit_0 17 rfl rfl)
theorem dX7_unit_18 : decode cX7_unit 18 = .ok (.bipush 40, 2) := dk_16 40 (dk_at dksX7_unit_0 18 rfl rfl)
theorem dX7_unit_20 : decode cX7_unit 20 = .ok (.invokevirtual 65, 3) := dk_182 0 65 (dk_at dksX7_unit_0 20 rfl rfl)
theorem dX7_unit_23 : decode cX7_unit 23 = .ok (.ifCond .ne 22, 3) := dk_154 0 22 (dk_at dksX7_unit_1 0 rfl rfl)
theorem dX7_unit_26 : decode cX7_unit 26 = .ok (.aload_n 0, 1) := dk_42 (dk_at dksX7_unit_1 3 rfl rfl)
theorem dX7_unit_27 : decode cX7_unit 27 = .ok (.invokevirtual 84, 3) := dk_182 0 84 (dk_at dksX7_unit_1 4 rfl rfl)
theorem dX7_unit_30 : decode cX7_unit 30 = .ok (.ldc 103, 2) := dk_18 103 (dk_at dksX7_unit_1 7 rfl rfl)
theorem dX7_unit_32 : decode cX7_unit 32 = .ok (.invokevirtual 93, 3) := dk_182 0 93 (dk_at dksX7_unit_1 9 rfl rfl)
theorem dX7_unit_35 : decode cX7_unit 35 = .ok (.ifCond .ne 10, 3) := dk_154 0 10 (dk_at dksX7_unit_1 12 rfl rfl)
theorem dX7_unit_38 : decode cX7_unit 38 = .ok (.aload_n 0, 1) := dk_42 (dk_at dksX7_unit_1 15 rfl rfl)
theorem dX7_unit_39 : decode cX7_unit 39 = .ok (.invokevirtual 213, 3) := dk_182 0 213 (dk_at dksX7_unit_1 16 rfl rfl)
theorem dX7_unit_42 : decode cX7_unit 42 = .ok (.ifCond .eq 7, 3) := dk_153 0 7 (dk_at dksX7_unit_1 19 rfl rfl)
theorem dX7_unit_45 : decode cX7_unit 45 = .ok (.iconst 1, 1) := dk_4 (dk_at dksX7_unit_1 22 rfl rfl)
theorem dX7_unit_46 : decode cX7_unit 46 = .ok (.goto 4, 3) := dk_167 0 4 (dk_at dksX7_unit_2 0 rfl rfl)
theorem dX7_unit_49 : decode cX7_unit 49 = .ok (.iconst 0, 1) := dk_3 (dk_at dksX7_unit_2 3 rfl rfl)
theorem dX7_unit_50 : decode cX7_unit 50 = .ok (.istore_n 1, 1) := dk_60 (dk_at dksX7_unit_2 4 rfl rfl)
theorem dX7_unit_51 : decode cX7_unit 51 = .ok (.aload_n 0, 1) := dk_42 (dk_at dksX7_unit_2 5 rfl rfl)
theorem dX7_unit_52 : decode cX7_unit 52 = .ok (.iload_n 1, 1) := dk_27 (dk_at dksX7_unit_2 6 rfl rfl)
theorem dX7_unit_53 : decode cX7_unit 53 = .ok (.iconst 2, 1) := dk_5 (dk_at dksX7_unit_2 7 rfl rfl)
theorem dX7_unit_54 : decode cX7_unit 54 = .ok (.invokevirtual 69, 3) := dk_182 0 69 (dk_at dksX7_unit_2 8 rfl rfl)
theorem dX7_unit_57 : decode cX7_unit 57 = .ok (.aload_n 0, 1) := dk_42 (dk_at dksX7_unit_2 11 rfl rfl)
theorem dX7_unit_58 : decode cX7_unit 58 = .ok (.aload_n 0, 1) := dk_42 (dk_at dksX7_unit_2 12 rfl rfl)
theorem dX7_unit_59 : decode cX7_unit 59 = .ok (.invokevirtual 213, 3) := dk_182 0 213 (dk_at dksX7_unit_2 13 rfl rfl)
theorem dX7_unit_62 : decode cX7_unit 62 = .ok (.ifCond .eq 22, 3) := dk_153 0 22 (dk_at dksX7_unit_2 16 rfl rfl)
theorem dX7_unit_65 : decode cX7_unit 65 = .ok (.aload_n 0, 1) := dk_42 (dk_at dksX7_unit_2 19 rfl rfl)
theorem dX7_unit_66 : decode cX7_unit 66 = .ok (.getfield 12, 3) := dk_180 0 12 (dk_at dksX7_unit_2 20 rfl rfl)
theorem dX7_unit_69 : decode cX7_unit 69 = .ok (.getfield 208, 3) := dk_180 0 208 (dk_at dksX7_unit_3 0 rfl rfl)
theorem dX7_unit_72 : decode cX7_unit 72 = .ok (.aload_n 0, 1) := dk_42 (dk_at dksX7_unit_3 3 rfl rfl)
theorem dX7_unit_73 : decode cX7_unit 73 = .ok (.invokevirtual 84, 3) := dk_182 0 84 (dk_at dksX7_unit_3 4 rfl rfl)
theorem dX7_unit_76 : decode cX7_unit 76 = .ok (.invokeinterface 216 2, 5) := by decide +kernel
theorem dX7_unit_81 : decode cX7_unit 81 = .ok (.ifCond .eq 7, 3) := dk_153 0 7 (dk_at dksX7_unit_3 12 rfl rfl)
theorem dX7_unit_84 : decode cX7_unit 84 = .ok (.iconst 1, 1) := dk_4 (dk_at dksX7_unit_3 15 rfl rfl)
theorem dX7_unit_85 : decode cX7_unit 85 = .ok (.goto 4, 3) := dk_167 0 4 (dk_at dksX7_unit_3 16 rfl rfl)
theorem dX7_unit_88 : decode cX7_unit 88 = .ok (.iconst 0, 1) := dk_3 (dk_at dksX7_unit_3 19 rfl rfl)
theorem dX7_unit_89 : decode cX7_unit 89 = .ok (.iconst 3, 1) := dk_6 (dk_at dksX7_unit_3 20 rfl rfl)
theorem dX7_unit_90 : decode cX7_unit 90 = .ok (.invokevirtual 69, 3) := dk_182 0 69 (dk_at dksX7_unit_3 21 rfl rfl)
theorem dX7_unit_93 : decode cX7_unit 93 = .ok (.aload_n 0, 1) := dk_42 (dk_at dksX7_unit_4 0 rfl rfl)
theorem dX7_unit_94 : decode cX7_unit 94 = .ok (.aload_n 0, 1) := dk_42 (dk_at dksX7_unit_4 1 rfl rfl)
theorem dX7_unit_95 : decode cX7_unit 95 = .ok (.getfield 229, 3) := dk_180 0 229 (dk_at dksX7_unit_4 2 rfl rfl)
theorem dX7_unit_98 : decode cX7_unit 98 = .ok (.bipush 30, 2) := dk_16 30 (dk_at dksX7_unit_4 5 rfl rfl)
theorem dX7_unit_100 : decode cX7_unit 100 = .ok (.if_icmp .ge 16, 3) := dk_162 0 16 (dk_at dksX7_unit_4 7 rfl rfl)
theorem dX7_unit_103 : decode cX7_unit 103 = .ok (.aload_n 0, 1) := dk_42 (dk_at dksX7_unit_4 10 rfl rfl)
theorem dX7_unit_104 : decode cX7_unit 104 = .ok (.getfield 232, 3) := dk_180 0 232 (dk_at dksX7_unit_4 11 rfl rfl)
theorem dX7_unit_107 : decode cX7_unit 107 = .ok (.bipush 6, 2) := dk_16 6 (dk_at dksX7_unit_4 14 rfl rfl)
theorem dX7_unit_109 : decode cX7_unit 109 = .ok (.if_icmp .gt 7, 3) := dk_163 0 7 (dk_at dksX7_unit_4 16 rfl rfl)
theorem dX7_unit_112 : decode cX7_unit 112 = .ok (.iconst 1, 1) := dk_4 (dk_at dksX7_unit_4 19 rfl rfl)
theorem dX7_unit_113 : decode cX7_unit 113 = .ok (.goto 4, 3) := dk_167 0 4 (dk_at dksX7_unit_4 20 rfl rfl)
theorem dX7_unit_116 : decode cX7_unit 116 = .ok (.iconst 0, 1) := dk_3 (dk_at dksX7_unit_4 23 rfl rfl)
theorem dX7_unit_117 : decode cX7_unit 117 = .ok (.iconst 5, 1) := dk_8 (dk_at dksX7_unit_5 0 rfl rfl)
theorem dX7_unit_118 : decode cX7_unit 118 = .ok (.invokevirtual 69, 3) := dk_182 0 69 (dk_at dksX7_unit_5 1 rfl rfl)
theorem dX7_unit_121 : decode cX7_unit 121 = .ok (.aload_n 0, 1) := dk_42 (dk_at dksX7_unit_5 4 rfl rfl)
theorem dX7_unit_122 : decode cX7_unit 122 = .ok (.dup, 1) := dk_89 (dk_at dksX7_unit_5 5 rfl rfl)
theorem dX7_unit_123 : decode cX7_unit 123 = .ok (.getfield 229, 3) := dk_180 0 229 (dk_at dksX7_unit_5 6 rfl rfl)
theorem dX7_unit_126 : decode cX7_unit 126 = .ok (.iconst 1, 1) := dk_4 (dk_at dksX7_unit_5 9 rfl rfl)
theorem dX7_unit_127 : decode cX7_unit 127 = .ok (.iadd, 1) := dk_96 (dk_at dksX7_unit_5 10 rfl rfl)
theorem dX7_unit_128 : decode cX7_unit 128 = .ok (.putfield 229, 3) := dk_181 0 229 (dk_at dksX7_unit_5 11 rfl rfl)
theorem dX7_unit_131 : decode cX7_unit 131 = .ok (.return_, 1) := dk_177 (dk_at dksX7_unit_5 14 rfl rfl)
abbrev cX7_none : ByteArray := prog_5_method_22_code
def yX7_none : MethodName := ⟨RX7, "none", "()LTroupeSums$Sum;"⟩
def dkwX7_none_0 : List UInt8 := [42, 180, 0, 12, 180, 0, 119, 3, 9, 184, 1, 5, 176]
abbrev dktX7_none_0 : List UInt8 := dkwX7_none_0 ++ []
theorem dksX7_none_0 : cX7_none.data.toList.drop 0 = dktX7_none_0 := by decide +kernel
theorem dX7_none_0 : decode cX7_none 0 = .ok (.aload_n 0, 1) := dk_42 (dk_at dksX7_none_0 0 rfl rfl)
theorem dX7_none_1 : decode cX7_none 1 = .ok (.getfield 12, 3) := dk_180 0 12 (dk_at dksX7_none_0 1 rfl rfl)
theorem dX7_none_4 : decode cX7_none 4 = .ok (.getfield 119, 3) := dk_180 0 119 (dk_at dksX7_none_0 4 rfl rfl)
theorem dX7_none_7 : decode cX7_none 7 = .ok (.iconst 0, 1) := dk_3 (dk_at dksX7_none_0 7 rfl rfl)
theorem dX7_none_8 : decode cX7_none 8 = .ok (.lconst 0, 1) := dk_9 (dk_at dksX7_none_0 8 rfl rfl)
theorem dX7_none_9 : decode cX7_none 9 = .ok (.invokestatic 261, 3) := dk_184 1 5 (dk_at dksX7_none_0 9 rfl rfl)
theorem dX7_none_12 : decode cX7_none 12 = .ok (.areturn, 1) := dk_176 (dk_at dksX7_none_0 12 rfl rfl)
abbrev cX7_thing : ByteArray := prog_5_method_25_code
def yX7_thing : MethodName := ⟨RX7, "thing", "()LTroupeSums$Sum;"⟩
def dkwX7_thing_7 : List UInt8 := [182, 0, 141, 10, 184, 1, 5, 76, 42, 182, 0, 33, 43, 176]
abbrev dktX7_thing_7 : List UInt8 := dkwX7_thing_7 ++ []
def dkwX7_thing_6 : List UInt8 := [180, 0, 12, 180, 0, 119, 42, 42, 180, 0, 12, 180, 0, 119, 180, 1, 22, 185, 0, 212, 1, 0, 4, 100]
abbrev dktX7_thing_6 : List UInt8 := dkwX7_thing_6 ++ dktX7_thing_7
def dkwX7_thing_5 : List UInt8 := [185, 1, 25, 2, 0, 185, 1, 28, 2, 0, 192, 0, 249, 76, 167, 0, 40, 42, 182, 0, 33, 42]
abbrev dktX7_thing_5 : List UInt8 := dkwX7_thing_5 ++ dktX7_thing_6
def dkwX7_thing_4 : List UInt8 := [182, 0, 213, 153, 0, 38, 42, 180, 0, 12, 180, 0, 226, 42, 180, 0, 12, 180, 0, 208, 42, 182, 0, 84]
abbrev dktX7_thing_4 : List UInt8 := dkwX7_thing_4 ++ dktX7_thing_5
def dkwX7_thing_3 : List UInt8 := [185, 0, 212, 1, 0, 4, 100, 42, 17, 3, 231, 182, 0, 141, 133, 184, 1, 5, 76, 167, 0, 82, 42]
abbrev dktX7_thing_3 : List UInt8 := dkwX7_thing_3 ++ dktX7_thing_4
def dkwX7_thing_2 : List UInt8 := [180, 0, 46, 5, 160, 0, 42, 42, 180, 0, 12, 180, 0, 119, 42, 180, 0, 12, 180, 0, 119, 180, 1, 22]
abbrev dktX7_thing_2 : List UInt8 := dkwX7_thing_2 ++ dktX7_thing_3
def dkwX7_thing_1 : List UInt8 := [182, 0, 242, 76, 42, 89, 180, 0, 232, 4, 100, 181, 0, 232, 42, 16, 41, 182, 0, 159, 43, 176, 42]
abbrev dktX7_thing_1 : List UInt8 := dkwX7_thing_1 ++ dktX7_thing_2
def dkwX7_thing_0 : List UInt8 := [42, 16, 40, 182, 0, 65, 153, 0, 40, 42, 182, 0, 33, 42, 89, 180, 0, 232, 4, 96, 181, 0, 232, 42]
abbrev dktX7_thing_0 : List UInt8 := dkwX7_thing_0 ++ dktX7_thing_1
theorem dksX7_thing_0 : cX7_thing.data.toList.drop 0 = dktX7_thing_0 := by decide +kernel
theorem dksX7_thing_1 : cX7_thing.data.toList.drop 24 = dktX7_thing_1 := dk_seg dksX7_thing_0 24 rfl rfl
theorem dksX7_thing_2 : cX7_thing.data.toList.drop 47 = dktX7_thing_2 := dk_seg dksX7_thing_1 23 rfl rfl
theorem dksX7_thing_3 : cX7_thing.data.toList.drop 71 = dktX7_thing_3 := dk_seg dksX7_thing_2 24 rfl rfl
theorem dksX7_thing_4 : cX7_thing.data.toList.drop 94 = dktX7_thing_4 := dk_seg dksX7_thing_3 23 rfl rfl
theorem dksX7_thing_5 : cX7_thing.data.toList.drop 118 = dktX7_thing_5 := dk_seg dksX7_thing_4 24 rfl rfl
theorem dksX7_thing_6 : cX7_thing.data.toList.drop 140 = dktX7_thing_6 := dk_seg dksX7_thing_5 22 rfl rfl
theorem dksX7_thing_7 : cX7_thing.data.toList.drop 164 = dktX7_thing_7 := dk_seg dksX7_thing_6 24 rfl rfl
theorem dX7_thing_0 : decode cX7_thing 0 = .ok (.aload_n 0, 1) := dk_42 (dk_at dksX7_thing_0 0 rfl rfl)
theorem dX7_thing_1 : decode cX7_thing 1 = .ok (.bipush 40, 2) := dk_16 40 (dk_at dksX7_thing_0 1 rfl rfl)
theorem dX7_thing_3 : decode cX7_thing 3 = .ok (.invokevirtual 65, 3) := dk_182 0 65 (dk_at dksX7_thing_0 3 rfl rfl)
theorem dX7_thing_6 : decode cX7_thing 6 = .ok (.ifCond .eq 40, 3) := dk_153 0 40 (dk_at dksX7_thing_0 6 rfl rfl)
theorem dX7_thing_9 : decode cX7_thing 9 = .ok (.aload_n 0, 1) := dk_42 (dk_at dksX7_thing_0 9 rfl rfl)
theorem dX7_thing_10 : decode cX7_thing 10 = .ok (.invokevirtual 33, 3) := dk_182 0 33 (dk_at dksX7_thing_0 10 rfl rfl)
theorem dX7_thing_13 : decode cX7_thing 13 = .ok (.aload_n 0, 1) := dk_42 (dk_at dksX7_thing_0 13 rfl rfl)
theorem dX7_thing_14 : decode cX7_thing 14 = .ok (.dup, 1) := dk_89 (dk_at dksX7_thing_0 14 rfl rfl)
theorem dX7_thing_15 : decode cX7_thing 15 = .ok (.getfield 232, 3) := dk_180 0 232 (dk_at dksX7_thing_0 15 rfl rfl)
theorem dX7_thing_18 : decode cX7_thing 18 = .ok (.iconst 1, 1) := dk_4 (dk_at dksX7_thing_0 18 rfl rfl)
theorem dX7_thing_19 : decode cX7_thing 19 = .ok (.iadd, 1) := dk_96 (dk_at dksX7_thing_0 19 rfl rfl)
theorem dX7_thing_20 : decode cX7_thing 20 = .ok (.putfield 232, 3) := dk_181 0 232 (dk_at dksX7_thing_0 20 rfl rfl)
theorem dX7_thing_23 : decode cX7_thing 23 = .ok (.aload_n 0, 1) := dk_42 (dk_at dksX7_thing_0 23 rfl rfl)
theorem dX7_thing_24 : decode cX7_thing 24 = .ok (.invokevirtual 242, 3) := dk_182 0 242 (dk_at dksX7_thing_1 0 rfl rfl)
theorem dX7_thing_27 : decode cX7_thing 27 = .ok (.astore_n 1, 1) := dk_76 (dk_at dksX7_thing_1 3 rfl rfl)
theorem dX7_thing_28 : decode cX7_thing 28 = .ok (.aload_n 0, 1) := dk_42 (dk_at dksX7_thing_1 4 rfl rfl)
theorem dX7_thing_29 : decode cX7_thing 29 = .ok (.dup, 1) := dk_89 (dk_at dksX7_thing_1 5 rfl rfl)
theorem dX7_thing_30 : decode cX7_thing 30 = .ok (.getfield 232, 3) := dk_180 0 232 (dk_at dksX7_thing_1 6 rfl rfl)
theorem dX7_thing_33 : decode cX7_thing 33 = .ok (.iconst 1, 1) := dk_4 (dk_at dksX7_thing_1 9 rfl rfl)
theorem dX7_thing_34 : decode cX7_thing 34 = .ok (.isub, 1) := dk_100 (dk_at dksX7_thing_1 10 rfl rfl)
theorem dX7_thing_35 : decode cX7_thing 35 = .ok (.putfield 232, 3) := dk_181 0 232 (dk_at dksX7_thing_1 11 rfl rfl)
theorem dX7_thing_38 : decode cX7_thing 38 = .ok (.aload_n 0, 1) := dk_42 (dk_at dksX7_thing_1 14 rfl rfl)
theorem dX7_thing_39 : decode cX7_thing 39 = .ok (.bipush 41, 2) := dk_16 41 (dk_at dksX7_thing_1 15 rfl rfl)
theorem dX7_thing_41 : decode cX7_thing 41 = .ok (.invokevirtual 159, 3) := dk_182 0 159 (dk_at dksX7_thing_1 17 rfl rfl)
theorem dX7_thing_44 : decode cX7_thing 44 = .ok (.aload_n 1, 1) := dk_43 (dk_at dksX7_thing_1 20 rfl rfl)
theorem dX7_thing_45 : decode cX7_thing 45 = .ok (.areturn, 1) := dk_176 (dk_at dksX7_thing_1 21 rfl rfl)
theorem dX7_thing_46 : decode cX7_thing 46 = .ok (.aload_n 0, 1) := dk_42 (dk_at dksX7_thing_1 22 rfl rfl)
theorem dX7_thing_47 : decode cX7_thing 47 = .ok (.getfield 46, 3) := dk_180 0 46 (dk_at dksX7_thing_2 0 rfl rfl)
theorem dX7_thing_50 : decode cX7_thing 50 = .ok (.iconst 2, 1) := dk_5 (dk_at dksX7_thing_2 3 rfl rfl)
theorem dX7_thing_51 : decode cX7_thing 51 = .ok (.if_icmp .ne 42, 3) := dk_160 0 42 (dk_at dksX7_thing_2 4 rfl rfl)
theorem dX7_thing_54 : decode cX7_thing 54 = .ok (.aload_n 0, 1) := dk_42 (dk_at dksX7_thing_2 7 rfl rfl)
theorem dX7_thing_55 : decode cX7_thing 55 = .ok (.getfield 12, 3) := dk_180 0 12 (dk_at dksX7_thing_2 8 rfl rfl)
theorem dX7_thing_58 : decode cX7_thing 58 = .ok (.getfield 119, 3) := dk_180 0 119 (dk_at dksX7_thing_2 11 rfl rfl)
theorem dX7_thing_61 : decode cX7_thing 61 = .ok (.aload_n 0, 1) := dk_42 (dk_at dksX7_thing_2 14 rfl rfl)
theorem dX7_thing_62 : decode cX7_thing 62 = .ok (.getfield 12, 3) := dk_180 0 12 (dk_at dksX7_thing_2 15 rfl rfl)
theorem dX7_thing_65 : decode cX7_thing 65 = .ok (.getfield 119, 3) := dk_180 0 119 (dk_at dksX7_thing_2 18 rfl rfl)
theorem dX7_thing_68 : decode cX7_thing 68 = .ok (.getfield 278, 3) := dk_180 1 22 (dk_at dksX7_thing_2 21 rfl rfl)
theorem dX7_thing_71 : decode cX7_thing 71 = .ok (.invokeinterface 212 1, 5) := by decide +kernel
theorem dX7_thing_76 : decode cX7_thing 76 = .ok (.iconst 1, 1) := dk_4 (dk_at dksX7_thing_3 5 rfl rfl)
theorem dX7_thing_77 : decode cX7_thing 77 = .ok (.isub, 1) := dk_100 (dk_at dksX7_thing_3 6 rfl rfl)
theorem dX7_thing_78 : decode cX7_thing 78 = .ok (.aload_n 0, 1) := dk_42 (dk_at dksX7_thing_3 7 rfl rfl)
theorem dX7_thing_79 : decode cX7_thing 79 = .ok (.sipush 999, 3) := dk_17 3 231 (dk_at dksX7_thing_3 8 rfl rfl)
theorem dX7_thing_82 : decode cX7_thing 82 = .ok (.invokevirtual 141, 3) := dk_182 0 141 (dk_at dksX7_thing_3 11 rfl rfl)
theorem dX7_thing_85 : decode cX7_thing 85 = .ok (.i2l, 1) := dk_133 (dk_at dksX7_thing_3 14 rfl rfl)
theorem dX7_thing_86 : decode cX7_thing 86 = .ok (.invokestatic 261, 3) := dk_184 1 5 (dk_at dksX7_thing_3 15 rfl rfl)
theorem dX7_thing_89 : decode cX7_thing 89 = .ok (.astore_n 1, 1) := dk_76 (dk_at dksX7_thing_3 18 rfl rfl)
theorem dX7_thing_90 : decode cX7_thing 90 = .ok (.goto 82, 3) := dk_167 0 82 (dk_at dksX7_thing_3 19 rfl rfl)
theorem dX7_thing_93 : decode cX7_thing 93 = .ok (.aload_n 0, 1) := dk_42 (dk_at dksX7_thing_3 22 rfl rfl)
theorem dX7_thing_94 : decode cX7_thing 94 = .ok (.invokevirtual 213, 3) := dk_182 0 213 (dk_at dksX7_thing_4 0 rfl rfl)
theorem dX7_thing_97 : decode cX7_thing 97 = .ok (.ifCond .eq 38, 3) := dk_153 0 38 (dk_at dksX7_thing_4 3 rfl rfl)
theorem dX7_thing_100 : decode cX7_thing 100 = .ok (.aload_n 0, 1) := dk_42 (dk_at dksX7_thing_4 6 rfl rfl)
theorem dX7_thing_101 : decode cX7_thing 101 = .ok (.getfield 12, 3) := dk_180 0 12 (dk_at dksX7_thing_4 7 rfl rfl)
theorem dX7_thing_104 : decode cX7_thing 104 = .ok (.getfield 226, 3) := dk_180 0 226 (dk_at dksX7_thing_4 10 rfl rfl)
theorem dX7_thing_107 : decode cX7_thing 107 = .ok (.aload_n 0, 1) := dk_42 (dk_at dksX7_thing_4 13 rfl rfl)
theorem dX7_thing_108 : decode cX7_thing 108 = .ok (.getfield 12, 3) := dk_180 0 12 (dk_at dksX7_thing_4 14 rfl rfl)
theorem dX7_thing_111 : decode cX7_thing 111 = .ok (.getfield 208, 3) := dk_180 0 208 (dk_at dksX7_thing_4 17 rfl rfl)
theorem dX7_thing_114 : decode cX7_thing 114 = .ok (.aload_n 0, 1) := dk_42 (dk_at dksX7_thing_4 20 rfl rfl)
theorem dX7_thing_115 : decode cX7_thing 115 = .ok (.invokevirtual 84, 3) := dk_182 0 84 (dk_at dksX7_thing_4 21 rfl rfl)
theorem dX7_thing_118 : decode cX7_thing 118 = .ok (.invokeinterface 281 2, 5) := by decide +kernel
theorem dX7_thing_123 : decode cX7_thing 123 = .ok (.invokeinterface 284 2, 5) := by decide +kernel
theorem dX7_thing_128 : decode cX7_thing 128 = .ok (.checkcast 249, 3) := dk_192 0 249 (dk_at dksX7_thing_5 10 rfl rfl)
theorem dX7_thing_131 : decode cX7_thing 131 = .ok (.astore_n 1, 1) := dk_76 (dk_at dksX7_thing_5 13 rfl rfl)
theorem dX7_thing_132 : decode cX7_thing 132 = .ok (.goto 40, 3) := dk_167 0 40 (dk_at dksX7_thing_5 14 rfl rfl)
theorem dX7_thing_135 : decode cX7_thing 135 = .ok (.aload_n 0, 1) := dk_42 (dk_at dksX7_thing_5 17 rfl rfl)
theorem dX7_thing_136 : decode cX7_thing 136 = .ok (.invokevirtual 33, 3) := dk_182 0 33 (dk_at dksX7_thing_5 18 rfl rfl)
theorem dX7_thing_139 : decode cX7_thing 139 = .ok (.aload_n 0, 1) := dk_42 (dk_at dksX7_thing_5 21 rfl rfl)
theorem dX7_thing_140 : decode cX7_thing 140 = .ok (.getfield 12, 3) := dk_180 0 12 (dk_at dksX7_thing_6 0 rfl rfl)
theorem dX7_thing_143 : decode cX7_thing 143 = .ok (.getfield 119, 3) := dk_180 0 119 (dk_at dksX7_thing_6 3 rfl rfl)
theorem dX7_thing_146 : decode cX7_thing 146 = .ok (.aload_n 0, 1) := dk_42 (dk_at dksX7_thing_6 6 rfl rfl)
theorem dX7_thing_147 : decode cX7_thing 147 = .ok (.aload_n 0, 1) := dk_42 (dk_at dksX7_thing_6 7 rfl rfl)
theorem dX7_thing_148 : decode cX7_thing 148 = .ok (.getfield 12, 3) := dk_180 0 12 (dk_at dksX7_thing_6 8 rfl rfl)
theorem dX7_thing_151 : decode cX7_thing 151 = .ok (.getfield 119, 3) := dk_180 0 119 (dk_at dksX7_thing_6 11 rfl rfl)
theorem dX7_thing_154 : decode cX7_thing 154 = .ok (.getfield 278, 3) := dk_180 1 22 (dk_at dksX7_thing_6 14 rfl rfl)
theorem dX7_thing_157 : decode cX7_thing 157 = .ok (.invokeinterface 212 1, 5) := by decide +kernel
theorem dX7_thing_162 : decode cX7_thing 162 = .ok (.iconst 1, 1) := dk_4 (dk_at dksX7_thing_6 22 rfl rfl)
theorem dX7_thing_163 : decode cX7_thing 163 = .ok (.isub, 1) := dk_100 (dk_at dksX7_thing_6 23 rfl rfl)
theorem dX7_thing_164 : decode cX7_thing 164 = .ok (.invokevirtual 141, 3) := dk_182 0 141 (dk_at dksX7_thing_7 0 rfl rfl)
theorem dX7_thing_167 : decode cX7_thing 167 = .ok (.lconst 1, 1) := dk_10 (dk_at dksX7_thing_7 3 rfl rfl)
theorem dX7_thing_168 : decode cX7_thing 168 = .ok (.invokestatic 261, 3) := dk_184 1 5 (dk_at dksX7_thing_7 4 rfl rfl)
theorem dX7_thing_171 : decode cX7_thing 171 = .ok (.astore_n 1, 1) := dk_76 (dk_at dksX7_thing_7 7 rfl rfl)
theorem dX7_thing_172 : decode cX7_thing 172 = .ok (.aload_n 0, 1) := dk_42 (dk_at dksX7_thing_7 8 rfl rfl)
theorem dX7_thing_173 : decode cX7_thing 173 = .ok (.invokevirtual 33, 3) := dk_182 0 33 (dk_at dksX7_thing_7 9 rfl rfl)
theorem dX7_thing_176 : decode cX7_thing 176 = .ok (.aload_n 1, 1) := dk_43 (dk_at dksX7_thing_7 12 rfl rfl)
theorem dX7_thing_177 : decode cX7_thing 177 = .ok (.areturn, 1) := dk_176 (dk_at dksX7_thing_7 13 rfl rfl)
abbrev cX7_skips : ByteArray := prog_5_method_19_code
def yX7_skips : MethodName := ⟨RX7, "skips", "()V"⟩
def dkwX7_skips_1 : List UInt8 := [181, 0, 238, 42, 182, 0, 242, 76, 177]
abbrev dktX7_skips_1 : List UInt8 := dkwX7_skips_1 ++ []
def dkwX7_skips_0 : List UInt8 := [42, 42, 180, 0, 235, 181, 0, 40, 42, 182, 0, 33, 42, 3, 181, 0, 229, 42, 3, 181, 0, 232, 42, 4]
abbrev dktX7_skips_0 : List UInt8 := dkwX7_skips_0 ++ dktX7_skips_1
theorem dksX7_skips_0 : cX7_skips.data.toList.drop 0 = dktX7_skips_0 := by decide +kernel
theorem dksX7_skips_1 : cX7_skips.data.toList.drop 24 = dktX7_skips_1 := dk_seg dksX7_skips_0 24 rfl rfl
theorem dX7_skips_0 : decode cX7_skips 0 = .ok (.aload_n 0, 1) := dk_42 (dk_at dksX7_skips_0 0 rfl rfl)
theorem dX7_skips_1 : decode cX7_skips 1 = .ok (.aload_n 0, 1) := dk_42 (dk_at dksX7_skips_0 1 rfl rfl)
theorem dX7_skips_2 : decode cX7_skips 2 = .ok (.getfield 235, 3) := dk_180 0 235 (dk_at dksX7_skips_0 2 rfl rfl)
theorem dX7_skips_5 : decode cX7_skips 5 = .ok (.putfield 40, 3) := dk_181 0 40 (dk_at dksX7_skips_0 5 rfl rfl)
theorem dX7_skips_8 : decode cX7_skips 8 = .ok (.aload_n 0, 1) := dk_42 (dk_at dksX7_skips_0 8 rfl rfl)
theorem dX7_skips_9 : decode cX7_skips 9 = .ok (.invokevirtual 33, 3) := dk_182 0 33 (dk_at dksX7_skips_0 9 rfl rfl)
theorem dX7_skips_12 : decode cX7_skips 12 = .ok (.aload_n 0, 1) := dk_42 (dk_at dksX7_skips_0 12 rfl rfl)
theorem dX7_skips_13 : decode cX7_skips 13 = .ok (.iconst 0, 1) := dk_3 (dk_at dksX7_skips_0 13 rfl rfl)
theorem dX7_skips_14 : decode cX7_skips 14 = .ok (.putfield 229, 3) := dk_181 0 229 (dk_at dksX7_skips_0 14 rfl rfl)
theorem dX7_skips_17 : decode cX7_skips 17 = .ok (.aload_n 0, 1) := dk_42 (dk_at dksX7_skips_0 17 rfl rfl)
theorem dX7_skips_18 : decode cX7_skips 18 = .ok (.iconst 0, 1) := dk_3 (dk_at dksX7_skips_0 18 rfl rfl)
theorem dX7_skips_19 : decode cX7_skips 19 = .ok (.putfield 232, 3) := dk_181 0 232 (dk_at dksX7_skips_0 19 rfl rfl)
theorem dX7_skips_22 : decode cX7_skips 22 = .ok (.aload_n 0, 1) := dk_42 (dk_at dksX7_skips_0 22 rfl rfl)
theorem dX7_skips_23 : decode cX7_skips 23 = .ok (.iconst 1, 1) := dk_4 (dk_at dksX7_skips_0 23 rfl rfl)
theorem dX7_skips_24 : decode cX7_skips 24 = .ok (.putfield 238, 3) := dk_181 0 238 (dk_at dksX7_skips_1 0 rfl rfl)
theorem dX7_skips_27 : decode cX7_skips 27 = .ok (.aload_n 0, 1) := dk_42 (dk_at dksX7_skips_1 3 rfl rfl)
theorem dX7_skips_28 : decode cX7_skips 28 = .ok (.invokevirtual 242, 3) := dk_182 0 242 (dk_at dksX7_skips_1 4 rfl rfl)
theorem dX7_skips_31 : decode cX7_skips 31 = .ok (.astore_n 1, 1) := dk_76 (dk_at dksX7_skips_1 7 rfl rfl)
theorem dX7_skips_32 : decode cX7_skips 32 = .ok (.return_, 1) := dk_177 (dk_at dksX7_skips_1 8 rfl rfl)
abbrev cX7_alone : ByteArray := prog_5_method_26_code
def yX7_alone : MethodName := ⟨RX7, "alone", "(LTroupeSums$Troupe;)LTroupeSums$Sum;"⟩
def dkwX7_alone_3 : List UInt8 := [187, 0, 112, 89, 44, 183, 0, 138, 191]
abbrev dktX7_alone_3 : List UInt8 := dkwX7_alone_3 ++ []
def dkwX7_alone_2 : List UInt8 := [45, 191, 44, 176, 77, 187, 0, 112, 89, 187, 0, 60, 89, 16, 6, 3, 183, 0, 62, 183, 0, 138, 191, 77]
abbrev dktX7_alone_2 : List UInt8 := dkwX7_alone_2 ++ dktX7_alone_3
def dkwX7_alone_1 : List UInt8 := [182, 0, 223, 42, 42, 180, 0, 46, 154, 0, 7, 4, 167, 0, 4, 3, 5, 182, 0, 69, 45, 198, 0, 5]
abbrev dktX7_alone_1 : List UInt8 := dkwX7_alone_1 ++ dktX7_alone_2
def dkwX7_alone_0 : List UInt8 := [42, 43, 181, 0, 12, 1, 77, 1, 78, 42, 182, 0, 219, 77, 167, 0, 12, 58, 4, 25, 4, 78, 42]
abbrev dktX7_alone_0 : List UInt8 := dkwX7_alone_0 ++ dktX7_alone_1
theorem dksX7_alone_0 : cX7_alone.data.toList.drop 0 = dktX7_alone_0 := by decide +kernel
theorem dksX7_alone_1 : cX7_alone.data.toList.drop 23 = dktX7_alone_1 := dk_seg dksX7_alone_0 23 rfl rfl
theorem dksX7_alone_2 : cX7_alone.data.toList.drop 47 = dktX7_alone_2 := dk_seg dksX7_alone_1 24 rfl rfl
theorem dksX7_alone_3 : cX7_alone.data.toList.drop 71 = dktX7_alone_3 := dk_seg dksX7_alone_2 24 rfl rfl
theorem dX7_alone_0 : decode cX7_alone 0 = .ok (.aload_n 0, 1) := dk_42 (dk_at dksX7_alone_0 0 rfl rfl)
theorem dX7_alone_1 : decode cX7_alone 1 = .ok (.aload_n 1, 1) := dk_43 (dk_at dksX7_alone_0 1 rfl rfl)
theorem dX7_alone_2 : decode cX7_alone 2 = .ok (.putfield 12, 3) := dk_181 0 12 (dk_at dksX7_alone_0 2 rfl rfl)
theorem dX7_alone_5 : decode cX7_alone 5 = .ok (.aconst_null, 1) := dk_1 (dk_at dksX7_alone_0 5 rfl rfl)
theorem dX7_alone_6 : decode cX7_alone 6 = .ok (.astore_n 2, 1) := dk_77 (dk_at dksX7_alone_0 6 rfl rfl)
theorem dX7_alone_7 : decode cX7_alone 7 = .ok (.aconst_null, 1) := dk_1 (dk_at dksX7_alone_0 7 rfl rfl)
theorem dX7_alone_8 : decode cX7_alone 8 = .ok (.astore_n 3, 1) := dk_78 (dk_at dksX7_alone_0 8 rfl rfl)
theorem dX7_alone_9 : decode cX7_alone 9 = .ok (.aload_n 0, 1) := dk_42 (dk_at dksX7_alone_0 9 rfl rfl)
theorem dX7_alone_10 : decode cX7_alone 10 = .ok (.invokevirtual 219, 3) := dk_182 0 219 (dk_at dksX7_alone_0 10 rfl rfl)
theorem dX7_alone_13 : decode cX7_alone 13 = .ok (.astore_n 2, 1) := dk_77 (dk_at dksX7_alone_0 13 rfl rfl)
theorem dX7_alone_14 : decode cX7_alone 14 = .ok (.goto 12, 3) := dk_167 0 12 (dk_at dksX7_alone_0 14 rfl rfl)
theorem dX7_alone_17 : decode cX7_alone 17 = .ok (.astore 4, 2) := dk_58 4 (dk_at dksX7_alone_0 17 rfl rfl)
theorem dX7_alone_19 : decode cX7_alone 19 = .ok (.aload 4, 2) := dk_25 4 (dk_at dksX7_alone_0 19 rfl rfl)
theorem dX7_alone_21 : decode cX7_alone 21 = .ok (.astore_n 3, 1) := dk_78 (dk_at dksX7_alone_0 21 rfl rfl)
theorem dX7_alone_22 : decode cX7_alone 22 = .ok (.aload_n 0, 1) := dk_42 (dk_at dksX7_alone_0 22 rfl rfl)
theorem dX7_alone_23 : decode cX7_alone 23 = .ok (.invokevirtual 223, 3) := dk_182 0 223 (dk_at dksX7_alone_1 0 rfl rfl)
theorem dX7_alone_26 : decode cX7_alone 26 = .ok (.aload_n 0, 1) := dk_42 (dk_at dksX7_alone_1 3 rfl rfl)
theorem dX7_alone_27 : decode cX7_alone 27 = .ok (.aload_n 0, 1) := dk_42 (dk_at dksX7_alone_1 4 rfl rfl)
theorem dX7_alone_28 : decode cX7_alone 28 = .ok (.getfield 46, 3) := dk_180 0 46 (dk_at dksX7_alone_1 5 rfl rfl)
theorem dX7_alone_31 : decode cX7_alone 31 = .ok (.ifCond .ne 7, 3) := dk_154 0 7 (dk_at dksX7_alone_1 8 rfl rfl)
theorem dX7_alone_34 : decode cX7_alone 34 = .ok (.iconst 1, 1) := dk_4 (dk_at dksX7_alone_1 11 rfl rfl)
theorem dX7_alone_35 : decode cX7_alone 35 = .ok (.goto 4, 3) := dk_167 0 4 (dk_at dksX7_alone_1 12 rfl rfl)
theorem dX7_alone_38 : decode cX7_alone 38 = .ok (.iconst 0, 1) := dk_3 (dk_at dksX7_alone_1 15 rfl rfl)
theorem dX7_alone_39 : decode cX7_alone 39 = .ok (.iconst 2, 1) := dk_5 (dk_at dksX7_alone_1 16 rfl rfl)
theorem dX7_alone_40 : decode cX7_alone 40 = .ok (.invokevirtual 69, 3) := dk_182 0 69 (dk_at dksX7_alone_1 17 rfl rfl)
theorem dX7_alone_43 : decode cX7_alone 43 = .ok (.aload_n 3, 1) := dk_45 (dk_at dksX7_alone_1 20 rfl rfl)
theorem dX7_alone_44 : decode cX7_alone 44 = .ok (.ifnull 5, 3) := dk_198 0 5 (dk_at dksX7_alone_1 21 rfl rfl)
theorem dX7_alone_47 : decode cX7_alone 47 = .ok (.aload_n 3, 1) := dk_45 (dk_at dksX7_alone_2 0 rfl rfl)
theorem dX7_alone_48 : decode cX7_alone 48 = .ok (.athrow, 1) := dk_191 (dk_at dksX7_alone_2 1 rfl rfl)
theorem dX7_alone_49 : decode cX7_alone 49 = .ok (.aload_n 2, 1) := dk_44 (dk_at dksX7_alone_2 2 rfl rfl)
theorem dX7_alone_50 : decode cX7_alone 50 = .ok (.areturn, 1) := dk_176 (dk_at dksX7_alone_2 3 rfl rfl)
theorem dX7_alone_51 : decode cX7_alone 51 = .ok (.astore_n 2, 1) := dk_77 (dk_at dksX7_alone_2 4 rfl rfl)
theorem dX7_alone_52 : decode cX7_alone 52 = .ok (.new 112, 3) := dk_187 0 112 (dk_at dksX7_alone_2 5 rfl rfl)
theorem dX7_alone_55 : decode cX7_alone 55 = .ok (.dup, 1) := dk_89 (dk_at dksX7_alone_2 8 rfl rfl)
theorem dX7_alone_56 : decode cX7_alone 56 = .ok (.new 60, 3) := dk_187 0 60 (dk_at dksX7_alone_2 9 rfl rfl)
theorem dX7_alone_59 : decode cX7_alone 59 = .ok (.dup, 1) := dk_89 (dk_at dksX7_alone_2 12 rfl rfl)
theorem dX7_alone_60 : decode cX7_alone 60 = .ok (.bipush 6, 2) := dk_16 6 (dk_at dksX7_alone_2 13 rfl rfl)
theorem dX7_alone_62 : decode cX7_alone 62 = .ok (.iconst 0, 1) := dk_3 (dk_at dksX7_alone_2 15 rfl rfl)
theorem dX7_alone_63 : decode cX7_alone 63 = .ok (.invokespecial 62, 3) := dk_183 0 62 (dk_at dksX7_alone_2 16 rfl rfl)
theorem dX7_alone_66 : decode cX7_alone 66 = .ok (.invokespecial 138, 3) := dk_183 0 138 (dk_at dksX7_alone_2 19 rfl rfl)
theorem dX7_alone_69 : decode cX7_alone 69 = .ok (.athrow, 1) := dk_191 (dk_at dksX7_alone_2 22 rfl rfl)
theorem dX7_alone_70 : decode cX7_alone 70 = .ok (.astore_n 2, 1) := dk_77 (dk_at dksX7_alone_2 23 rfl rfl)
theorem dX7_alone_71 : decode cX7_alone 71 = .ok (.new 112, 3) := dk_187 0 112 (dk_at dksX7_alone_3 0 rfl rfl)
theorem dX7_alone_74 : decode cX7_alone 74 = .ok (.dup, 1) := dk_89 (dk_at dksX7_alone_3 3 rfl rfl)
theorem dX7_alone_75 : decode cX7_alone 75 = .ok (.aload_n 2, 1) := dk_44 (dk_at dksX7_alone_3 4 rfl rfl)
theorem dX7_alone_76 : decode cX7_alone 76 = .ok (.invokespecial 138, 3) := dk_183 0 138 (dk_at dksX7_alone_3 5 rfl rfl)
theorem dX7_alone_79 : decode cX7_alone 79 = .ok (.athrow, 1) := dk_191 (dk_at dksX7_alone_3 8 rfl rfl)
theorem q170 : (Jvm.Cond.initialized "TroupeSums$Reader") ∈ lw_all := lw_g (lw_at lw_m1 37 rfl) rfl
theorem q234 : (Jvm.Cond.fieldLinkNest "TroupeSums$Reader" (125 : Nat) "TroupeSums$Troupe" "places" "I" "TroupeSums") ∈ lw_tbl := lw_at lw_m1 101 rfl
theorem q236 : (Jvm.Cond.fieldLinkNest "TroupeSums$Reader" (163 : Nat) "TroupeSums$Troupe" "moves" "I" "TroupeSums") ∈ lw_tbl := lw_at lw_m1 103 rfl
theorem q239 : (Jvm.Cond.fieldLinkNest "TroupeSums$Reader" (119 : Nat) "TroupeSums$Troupe" "group" "LTroupeSums$Group;" "TroupeSums") ∈ lw_tbl := lw_at lw_m1 106 rfl
theorem q241 : (Jvm.Cond.fieldLinkNest "TroupeSums$Reader" (208 : Nat) "TroupeSums$Troupe" "names" "Ljava/util/List;" "TroupeSums") ∈ lw_tbl := lw_at lw_m1 108 rfl
theorem q244 : (Jvm.Cond.fieldLinkNest "TroupeSums$Reader" (226 : Nat) "TroupeSums$Troupe" "sums" "Ljava/util/List;" "TroupeSums") ∈ lw_tbl := lw_at lw_m1 111 rfl
theorem q832 : (Jvm.Cond.selects "TroupeSums$Reader" ({ cls := "java/lang/Object", name := "getClass", desc := "()Ljava/lang/Class;" } : Jvm.MethodName) ({ cls := "java/lang/Object", name := "getClass", desc := "()Ljava/lang/Class;" } : Jvm.MethodName)) ∈ lw_all := lw_g (lw_at lw_m3 219 rfl) rfl
theorem q964 : (Jvm.Cond.selects "TroupeSums$Reader" ({ cls := "java/lang/Object", name := "equals", desc := "(Ljava/lang/Object;)Z" } : Jvm.MethodName) ({ cls := "java/lang/Object", name := "equals", desc := "(Ljava/lang/Object;)Z" } : Jvm.MethodName)) ∈ lw_all := lw_g (lw_at lw_m4 111 rfl) rfl
theorem q1195 : (Jvm.Cond.fieldLinkNest "TroupeSums$Reader" (278 : Nat) "TroupeSums$Group" "sorts" "Ljava/util/List;" "TroupeSums") ∈ lw_tbl := lw_at lw_m5 102 rfl
theorem q1278 : (Jvm.Cond.instantiable "TroupeSums$Reader" (11 : Nat)) ∈ lw_all := lw_g (lw_at lw_m5 185 rfl) rfl
theorem q1284 : (Jvm.Cond.instanceMethod ({ cls := "TroupeSums$Reader", name := "<init>", desc := "([BI)V" } : Jvm.MethodName)) ∈ lw_all := lw_g (lw_at lw_m5 191 rfl) rfl
theorem q1285 : (Jvm.Cond.code ({ cls := "TroupeSums$Reader", name := "<init>", desc := "([BI)V" } : Jvm.MethodName) prog_5_method_1_code (3 : Nat) (Option.none : Option Jvm.ClassFile.FieldType)) ∈ lw_all := lw_g (lw_at lw_m5 192 rfl) rfl
theorem q1286 : (Jvm.Cond.methodLink "TroupeSums$Reader" (3 : Nat) ({ cls := "java/lang/Object", name := "<init>", desc := "()V" } : Jvm.MethodName)) ∈ lw_all := lw_g (lw_at lw_m5 193 rfl) rfl
theorem q1287 : (Jvm.Cond.classLink "TroupeSums$Reader" (9 : Nat) "TroupeSums$Troupe") ∈ lw_all := lw_g (lw_at lw_m5 194 rfl) rfl
theorem q1288 : (Jvm.Cond.methodLinkNest "TroupeSums$Reader" (11 : Nat) ({ cls := "TroupeSums$Troupe", name := "<init>", desc := "()V" } : Jvm.MethodName) "TroupeSums") ∈ lw_tbl := lw_at lw_m5 195 rfl
theorem q1289 : (Jvm.Cond.classLink "TroupeSums$Reader" (18 : Nat) "java/util/TreeMap") ∈ lw_all := lw_g (lw_at lw_m5 196 rfl) rfl
theorem q1290 : (Jvm.Cond.methodLink "TroupeSums$Reader" (20 : Nat) ({ cls := "java/util/TreeMap", name := "<init>", desc := "()V" } : Jvm.MethodName)) ∈ lw_all := lw_g (lw_at lw_m5 197 rfl) rfl
theorem q1291 : (Jvm.Cond.methodLink "TroupeSums$Reader" (33 : Nat) ({ cls := "TroupeSums$Reader", name := "next", desc := "()V" } : Jvm.MethodName)) ∈ lw_all := lw_g (lw_at lw_m5 198 rfl) rfl
theorem q1292 : (Jvm.Cond.privateMethod ({ cls := "TroupeSums$Reader", name := "next", desc := "()V" } : Jvm.MethodName)) ∈ lw_tbl := lw_at lw_m5 199 rfl
theorem q1293 : (Jvm.Cond.instanceMethod ({ cls := "TroupeSums$Reader", name := "next", desc := "()V" } : Jvm.MethodName)) ∈ lw_all := lw_g (lw_at lw_m5 200 rfl) rfl
theorem q1294 : (Jvm.Cond.code ({ cls := "TroupeSums$Reader", name := "next", desc := "()V" } : Jvm.MethodName) prog_5_method_4_code (1 : Nat) (Option.none : Option Jvm.ClassFile.FieldType)) ∈ lw_all := lw_g (lw_at lw_m5 201 rfl) rfl
theorem q1295 : (Jvm.Cond.methodLink "TroupeSums$Reader" (36 : Nat) ({ cls := "TroupeSums$Reader", name := "at", desc := "(I)I" } : Jvm.MethodName)) ∈ lw_all := lw_g (lw_at lw_m5 202 rfl) rfl
theorem q1296 : (Jvm.Cond.privateMethod ({ cls := "TroupeSums$Reader", name := "at", desc := "(I)I" } : Jvm.MethodName)) ∈ lw_tbl := lw_at lw_m5 203 rfl
theorem q1297 : (Jvm.Cond.instanceMethod ({ cls := "TroupeSums$Reader", name := "at", desc := "(I)I" } : Jvm.MethodName)) ∈ lw_all := lw_g (lw_at lw_m5 204 rfl) rfl
theorem q1298 : (Jvm.Cond.code ({ cls := "TroupeSums$Reader", name := "at", desc := "(I)I" } : Jvm.MethodName) prog_5_method_2_code (2 : Nat) (Option.some Jvm.ClassFile.FieldType.int)) ∈ lw_all := lw_g (lw_at lw_m5 205 rfl) rfl
theorem q1299 : (Jvm.Cond.methodLink "TroupeSums$Reader" (49 : Nat) ({ cls := "TroupeSums$Reader", name := "isBetween", desc := "(ICC)Z" } : Jvm.MethodName)) ∈ lw_all := lw_g (lw_at lw_m5 206 rfl) rfl
theorem q1300 : (Jvm.Cond.privateMethod ({ cls := "TroupeSums$Reader", name := "isBetween", desc := "(ICC)Z" } : Jvm.MethodName)) ∈ lw_tbl := lw_at lw_m5 207 rfl
theorem q1301 : (Jvm.Cond.instanceMethod ({ cls := "TroupeSums$Reader", name := "isBetween", desc := "(ICC)Z" } : Jvm.MethodName)) ∈ lw_all := lw_g (lw_at lw_m5 208 rfl) rfl
theorem q1302 : (Jvm.Cond.code ({ cls := "TroupeSums$Reader", name := "isBetween", desc := "(ICC)Z" } : Jvm.MethodName) prog_5_method_3_code (4 : Nat) (Option.some Jvm.ClassFile.FieldType.boolean)) ∈ lw_all := lw_g (lw_at lw_m5 209 rfl) rfl
theorem q1303 : (Jvm.Cond.stringRef "TroupeSums$Reader" (53 : Nat) "=+-*^();") ∈ lw_tbl := lw_at lw_m5 210 rfl
theorem q1304 : (Jvm.Cond.methodLink "TroupeSums$Reader" (55 : Nat) ({ cls := "java/lang/String", name := "indexOf", desc := "(I)I" } : Jvm.MethodName)) ∈ lw_all := lw_g (lw_at lw_m5 211 rfl) rfl
theorem q1361 : (Jvm.Cond.fieldLink "TroupeSums$Reader" (25 : Nat) "TroupeSums$Reader" "tape" "[B") ∈ lw_all := lw_g (lw_at lw_m6 28 rfl) rfl
theorem q1362 : (Jvm.Cond.fieldLink "TroupeSums$Reader" (29 : Nat) "TroupeSums$Reader" "size" "I") ∈ lw_all := lw_g (lw_at lw_m6 29 rfl) rfl
theorem q1363 : (Jvm.Cond.fieldLink "TroupeSums$Reader" (43 : Nat) "TroupeSums$Reader" "from" "I") ∈ lw_all := lw_g (lw_at lw_m6 30 rfl) rfl
theorem q1364 : (Jvm.Cond.fieldLink "TroupeSums$Reader" (40 : Nat) "TroupeSums$Reader" "to" "I") ∈ lw_all := lw_g (lw_at lw_m6 31 rfl) rfl
theorem q1365 : (Jvm.Cond.fieldLink "TroupeSums$Reader" (46 : Nat) "TroupeSums$Reader" "kind" "I") ∈ lw_all := lw_g (lw_at lw_m6 32 rfl) rfl
theorem q1366 : (Jvm.Cond.fieldLink "TroupeSums$Reader" (229 : Nat) "TroupeSums$Reader" "units" "I") ∈ lw_all := lw_g (lw_at lw_m6 33 rfl) rfl
theorem q1367 : (Jvm.Cond.fieldLink "TroupeSums$Reader" (232 : Nat) "TroupeSums$Reader" "nests" "I") ∈ lw_all := lw_g (lw_at lw_m6 34 rfl) rfl
theorem q1368 : (Jvm.Cond.fieldLink "TroupeSums$Reader" (12 : Nat) "TroupeSums$Reader" "made" "LTroupeSums$Troupe;") ∈ lw_all := lw_g (lw_at lw_m6 35 rfl) rfl
theorem q1369 : (Jvm.Cond.fieldLink "TroupeSums$Reader" (21 : Nat) "TroupeSums$Reader" "members" "Ljava/util/TreeMap;") ∈ lw_all := lw_g (lw_at lw_m6 36 rfl) rfl
theorem q1370 : (Jvm.Cond.fieldLink "TroupeSums$Reader" (238 : Nat) "TroupeSums$Reader" "isSkipping" "Z") ∈ lw_all := lw_g (lw_at lw_m6 37 rfl) rfl
theorem q1371 : (Jvm.Cond.fieldLink "TroupeSums$Reader" (235 : Nat) "TroupeSums$Reader" "started" "I") ∈ lw_all := lw_g (lw_at lw_m6 38 rfl) rfl
theorem q1372 : (Jvm.Cond.laysFinal "TroupeSums$Reader" "TroupeSums$Reader" "tape" "[B") ∈ lw_all := lw_g (lw_at lw_m6 39 rfl) rfl
theorem q1373 : (Jvm.Cond.soleField "TroupeSums$Reader" "tape") ∈ lw_all := lw_g (lw_at lw_m6 40 rfl) rfl
theorem q1374 : (Jvm.Cond.laysFinal "TroupeSums$Reader" "TroupeSums$Reader" "size" "I") ∈ lw_all := lw_g (lw_at lw_m6 41 rfl) rfl
theorem q1375 : (Jvm.Cond.soleField "TroupeSums$Reader" "size") ∈ lw_all := lw_g (lw_at lw_m6 42 rfl) rfl
theorem q1376 : (Jvm.Cond.lays "TroupeSums$Reader" "TroupeSums$Reader" "from" "I") ∈ lw_all := lw_g (lw_at lw_m6 43 rfl) rfl
theorem q1377 : (Jvm.Cond.soleField "TroupeSums$Reader" "from") ∈ lw_all := lw_g (lw_at lw_m6 44 rfl) rfl
theorem q1378 : (Jvm.Cond.lays "TroupeSums$Reader" "TroupeSums$Reader" "to" "I") ∈ lw_all := lw_g (lw_at lw_m6 45 rfl) rfl
theorem q1379 : (Jvm.Cond.soleField "TroupeSums$Reader" "to") ∈ lw_all := lw_g (lw_at lw_m6 46 rfl) rfl
theorem q1380 : (Jvm.Cond.lays "TroupeSums$Reader" "TroupeSums$Reader" "kind" "I") ∈ lw_all := lw_g (lw_at lw_m6 47 rfl) rfl
theorem q1381 : (Jvm.Cond.soleField "TroupeSums$Reader" "kind") ∈ lw_all := lw_g (lw_at lw_m6 48 rfl) rfl
theorem q1382 : (Jvm.Cond.lays "TroupeSums$Reader" "TroupeSums$Reader" "units" "I") ∈ lw_all := lw_g (lw_at lw_m6 49 rfl) rfl
theorem q1383 : (Jvm.Cond.soleField "TroupeSums$Reader" "units") ∈ lw_all := lw_g (lw_at lw_m6 50 rfl) rfl
theorem q1384 : (Jvm.Cond.lays "TroupeSums$Reader" "TroupeSums$Reader" "nests" "I") ∈ lw_all := lw_g (lw_at lw_m6 51 rfl) rfl
theorem q1385 : (Jvm.Cond.soleField "TroupeSums$Reader" "nests") ∈ lw_all := lw_g (lw_at lw_m6 52 rfl) rfl
theorem q1386 : (Jvm.Cond.lays "TroupeSums$Reader" "TroupeSums$Reader" "made" "LTroupeSums$Troupe;") ∈ lw_all := lw_g (lw_at lw_m6 53 rfl) rfl
theorem q1387 : (Jvm.Cond.soleField "TroupeSums$Reader" "made") ∈ lw_all := lw_g (lw_at lw_m6 54 rfl) rfl
theorem q1388 : (Jvm.Cond.lays "TroupeSums$Reader" "TroupeSums$Reader" "members" "Ljava/util/TreeMap;") ∈ lw_all := lw_g (lw_at lw_m6 55 rfl) rfl
theorem q1389 : (Jvm.Cond.soleField "TroupeSums$Reader" "members") ∈ lw_all := lw_g (lw_at lw_m6 56 rfl) rfl
theorem q1390 : (Jvm.Cond.lays "TroupeSums$Reader" "TroupeSums$Reader" "isSkipping" "Z") ∈ lw_all := lw_g (lw_at lw_m6 57 rfl) rfl
theorem q1391 : (Jvm.Cond.soleField "TroupeSums$Reader" "isSkipping") ∈ lw_all := lw_g (lw_at lw_m6 58 rfl) rfl
theorem q1392 : (Jvm.Cond.lays "TroupeSums$Reader" "TroupeSums$Reader" "started" "I") ∈ lw_all := lw_g (lw_at lw_m6 59 rfl) rfl
theorem q1393 : (Jvm.Cond.soleField "TroupeSums$Reader" "started") ∈ lw_all := lw_g (lw_at lw_m6 60 rfl) rfl
theorem q1394 : (Jvm.Cond.superclass "TroupeSums$Reader" "java/lang/Object") ∈ lw_all := lw_g (lw_at lw_m6 61 rfl) rfl
theorem q1396 : (Jvm.Cond.instanceMethod ({ cls := "TroupeSums$Reader", name := "read", desc := "()LTroupeSums$Troupe;" } : Jvm.MethodName)) ∈ lw_all := lw_g (lw_at lw_m6 63 rfl) rfl
theorem q1397 : (Jvm.Cond.selects "TroupeSums$Reader" ({ cls := "TroupeSums$Reader", name := "read", desc := "()LTroupeSums$Troupe;" } : Jvm.MethodName) ({ cls := "TroupeSums$Reader", name := "read", desc := "()LTroupeSums$Troupe;" } : Jvm.MethodName)) ∈ lw_all := lw_g (lw_at lw_m6 64 rfl) rfl
theorem q1398 : (Jvm.Cond.codeWith ({ cls := "TroupeSums$Reader", name := "read", desc := "()LTroupeSums$Troupe;" } : Jvm.MethodName) prog_5_method_11_code (2 : Nat) (Option.some (Jvm.ClassFile.FieldType.object "TroupeSums$Troupe")) [((0 : Nat), (28 : Nat), (29 : Nat), (112 : Nat))]) ∈ lw_all := lw_g (lw_at lw_m6 65 rfl) rfl
theorem q1399 : (Jvm.Cond.classLink "TroupeSums$Reader" (112 : Nat) "TroupeSums$LineWrong") ∈ lw_all := lw_g (lw_at lw_m6 66 rfl) rfl
theorem q1400 : (Jvm.Cond.methodLink "TroupeSums$Reader" (105 : Nat) ({ cls := "TroupeSums$Reader", name := "line", desc := "(I)V" } : Jvm.MethodName)) ∈ lw_all := lw_g (lw_at lw_m6 67 rfl) rfl
theorem q1401 : (Jvm.Cond.privateMethod ({ cls := "TroupeSums$Reader", name := "line", desc := "(I)V" } : Jvm.MethodName)) ∈ lw_tbl := lw_at lw_m6 68 rfl
theorem q1402 : (Jvm.Cond.instanceMethod ({ cls := "TroupeSums$Reader", name := "line", desc := "(I)V" } : Jvm.MethodName)) ∈ lw_all := lw_g (lw_at lw_m6 69 rfl) rfl
theorem q1403 : (Jvm.Cond.codeWith ({ cls := "TroupeSums$Reader", name := "line", desc := "(I)V" } : Jvm.MethodName) prog_5_method_13_code (5 : Nat) (Option.none : Option Jvm.ClassFile.FieldType) [((5 : Nat), (101 : Nat), (104 : Nat), (136 : Nat)), ((5 : Nat), (101 : Nat), (123 : Nat), (60 : Nat))]) ∈ lw_all := lw_g (lw_at lw_m6 70 rfl) rfl
theorem q1404 : (Jvm.Cond.classLink "TroupeSums$Reader" (136 : Nat) "TroupeSums$TooGreat") ∈ lw_all := lw_g (lw_at lw_m6 71 rfl) rfl
theorem q1405 : (Jvm.Cond.classLink "TroupeSums$Reader" (60 : Nat) "TroupeSums$Wrong") ∈ lw_all := lw_g (lw_at lw_m6 72 rfl) rfl
theorem q1406 : (Jvm.Cond.methodLink "TroupeSums$Reader" (84 : Nat) ({ cls := "TroupeSums$Reader", name := "word", desc := "()Ljava/lang/String;" } : Jvm.MethodName)) ∈ lw_all := lw_g (lw_at lw_m6 73 rfl) rfl
theorem q1407 : (Jvm.Cond.privateMethod ({ cls := "TroupeSums$Reader", name := "word", desc := "()Ljava/lang/String;" } : Jvm.MethodName)) ∈ lw_tbl := lw_at lw_m6 74 rfl
theorem q1408 : (Jvm.Cond.instanceMethod ({ cls := "TroupeSums$Reader", name := "word", desc := "()Ljava/lang/String;" } : Jvm.MethodName)) ∈ lw_all := lw_g (lw_at lw_m6 75 rfl) rfl
theorem q1409 : (Jvm.Cond.code ({ cls := "TroupeSums$Reader", name := "word", desc := "()Ljava/lang/String;" } : Jvm.MethodName) prog_5_method_8_code (3 : Nat) (Option.some (Jvm.ClassFile.FieldType.object "java/lang/String"))) ∈ lw_all := lw_g (lw_at lw_m6 76 rfl) rfl
theorem q1410 : (Jvm.Cond.classLink "TroupeSums$Reader" (73 : Nat) "java/lang/StringBuilder") ∈ lw_all := lw_g (lw_at lw_m6 77 rfl) rfl
theorem q1412 : (Jvm.Cond.methodLink "TroupeSums$Reader" (75 : Nat) ({ cls := "java/lang/StringBuilder", name := "<init>", desc := "()V" } : Jvm.MethodName)) ∈ lw_all := lw_g (lw_at lw_m6 79 rfl) rfl
theorem q1438 : (Jvm.Cond.methodLink "TroupeSums$Reader" (76 : Nat) ({ cls := "java/lang/StringBuilder", name := "append", desc := "(C)Ljava/lang/StringBuilder;" } : Jvm.MethodName)) ∈ lw_all := lw_g (lw_at lw_m6 105 rfl) rfl
theorem q1500 : (Jvm.Cond.methodLink "TroupeSums$Reader" (80 : Nat) ({ cls := "java/lang/StringBuilder", name := "toString", desc := "()Ljava/lang/String;" } : Jvm.MethodName)) ∈ lw_all := lw_g (lw_at lw_m6 167 rfl) rfl
theorem q1559 : (Jvm.Cond.stringRef "TroupeSums$Reader" (99 : Nat) "move") ∈ lw_tbl := lw_at lw_m6 226 rfl
theorem q1560 : (Jvm.Cond.methodLink "TroupeSums$Reader" (93 : Nat) ({ cls := "java/lang/String", name := "equals", desc := "(Ljava/lang/Object;)Z" } : Jvm.MethodName)) ∈ lw_all := lw_g (lw_at lw_m6 227 rfl) rfl
theorem q1561 : (Jvm.Cond.stringRef "TroupeSums$Reader" (97 : Nat) "places") ∈ lw_tbl := lw_at lw_m6 228 rfl
theorem q1562 : (Jvm.Cond.stringRef "TroupeSums$Reader" (101 : Nat) "let") ∈ lw_tbl := lw_at lw_m6 229 rfl
theorem q1563 : (Jvm.Cond.methodLink "TroupeSums$Reader" (69 : Nat) ({ cls := "TroupeSums$Reader", name := "need", desc := "(ZI)V" } : Jvm.MethodName)) ∈ lw_all := lw_g (lw_at lw_m6 230 rfl) rfl
theorem q1564 : (Jvm.Cond.privateMethod ({ cls := "TroupeSums$Reader", name := "need", desc := "(ZI)V" } : Jvm.MethodName)) ∈ lw_tbl := lw_at lw_m6 231 rfl
theorem q1565 : (Jvm.Cond.instanceMethod ({ cls := "TroupeSums$Reader", name := "need", desc := "(ZI)V" } : Jvm.MethodName)) ∈ lw_all := lw_g (lw_at lw_m6 232 rfl) rfl
theorem q1566 : (Jvm.Cond.code ({ cls := "TroupeSums$Reader", name := "need", desc := "(ZI)V" } : Jvm.MethodName) prog_5_method_5_code (3 : Nat) (Option.none : Option Jvm.ClassFile.FieldType)) ∈ lw_all := lw_g (lw_at lw_m6 233 rfl) rfl
theorem q1607 : (Jvm.Cond.methodLink "TroupeSums$Reader" (62 : Nat) ({ cls := "TroupeSums$Wrong", name := "<init>", desc := "(II)V" } : Jvm.MethodName)) ∈ lw_all := lw_g (lw_at lw_m7 34 rfl) rfl
theorem q1637 : (Jvm.Cond.methodLink "TroupeSums$Reader" (130 : Nat) ({ cls := "TroupeSums$Reader", name := "places", desc := "()V" } : Jvm.MethodName)) ∈ lw_all := lw_g (lw_at lw_m7 64 rfl) rfl
theorem q1638 : (Jvm.Cond.privateMethod ({ cls := "TroupeSums$Reader", name := "places", desc := "()V" } : Jvm.MethodName)) ∈ lw_tbl := lw_at lw_m7 65 rfl
theorem q1639 : (Jvm.Cond.instanceMethod ({ cls := "TroupeSums$Reader", name := "places", desc := "()V" } : Jvm.MethodName)) ∈ lw_all := lw_g (lw_at lw_m7 66 rfl) rfl
theorem q1640 : (Jvm.Cond.code ({ cls := "TroupeSums$Reader", name := "places", desc := "()V" } : Jvm.MethodName) prog_5_method_14_code (4 : Nat) (Option.none : Option Jvm.ClassFile.FieldType)) ∈ lw_all := lw_g (lw_at lw_m7 67 rfl) rfl
theorem q1641 : (Jvm.Cond.methodLink "TroupeSums$Reader" (141 : Nat) ({ cls := "TroupeSums$Reader", name := "number", desc := "(I)I" } : Jvm.MethodName)) ∈ lw_all := lw_g (lw_at lw_m7 68 rfl) rfl
theorem q1642 : (Jvm.Cond.privateMethod ({ cls := "TroupeSums$Reader", name := "number", desc := "(I)I" } : Jvm.MethodName)) ∈ lw_tbl := lw_at lw_m7 69 rfl
theorem q1643 : (Jvm.Cond.instanceMethod ({ cls := "TroupeSums$Reader", name := "number", desc := "(I)I" } : Jvm.MethodName)) ∈ lw_all := lw_g (lw_at lw_m7 70 rfl) rfl
theorem q1644 : (Jvm.Cond.code ({ cls := "TroupeSums$Reader", name := "number", desc := "(I)I" } : Jvm.MethodName) prog_5_method_10_code (4 : Nat) (Option.some Jvm.ClassFile.FieldType.int)) ∈ lw_all := lw_g (lw_at lw_m7 71 rfl) rfl
theorem q1645 : (Jvm.Cond.classLink "TroupeSums$Reader" (144 : Nat) "TroupeSums$Row") ∈ lw_all := lw_g (lw_at lw_m7 72 rfl) rfl
theorem q1646 : (Jvm.Cond.methodLink "TroupeSums$Reader" (146 : Nat) ({ cls := "TroupeSums$Row", name := "<init>", desc := "([I)V" } : Jvm.MethodName)) ∈ lw_all := lw_g (lw_at lw_m7 73 rfl) rfl
theorem q1647 : (Jvm.Cond.methodLink "TroupeSums$Reader" (149 : Nat) ({ cls := "java/lang/Integer", name := "valueOf", desc := "(I)Ljava/lang/Integer;" } : Jvm.MethodName)) ∈ lw_all := lw_g (lw_at lw_m7 74 rfl) rfl
theorem q1648 : (Jvm.Cond.methodLink "TroupeSums$Reader" (155 : Nat) ({ cls := "java/util/TreeMap", name := "put", desc := "(Ljava/lang/Object;Ljava/lang/Object;)Ljava/lang/Object;" } : Jvm.MethodName)) ∈ lw_all := lw_g (lw_at lw_m7 75 rfl) rfl
theorem q1649 : (Jvm.Cond.methodLink "TroupeSums$Reader" (159 : Nat) ({ cls := "TroupeSums$Reader", name := "sign", desc := "(C)V" } : Jvm.MethodName)) ∈ lw_all := lw_g (lw_at lw_m7 76 rfl) rfl
theorem q1650 : (Jvm.Cond.privateMethod ({ cls := "TroupeSums$Reader", name := "sign", desc := "(C)V" } : Jvm.MethodName)) ∈ lw_tbl := lw_at lw_m7 77 rfl
theorem q1651 : (Jvm.Cond.instanceMethod ({ cls := "TroupeSums$Reader", name := "sign", desc := "(C)V" } : Jvm.MethodName)) ∈ lw_all := lw_g (lw_at lw_m7 78 rfl) rfl
theorem q1652 : (Jvm.Cond.code ({ cls := "TroupeSums$Reader", name := "sign", desc := "(C)V" } : Jvm.MethodName) prog_5_method_7_code (2 : Nat) (Option.none : Option Jvm.ClassFile.FieldType)) ∈ lw_all := lw_g (lw_at lw_m7 79 rfl) rfl
theorem q1653 : (Jvm.Cond.methodLink "TroupeSums$Reader" (65 : Nat) ({ cls := "TroupeSums$Reader", name := "isSign", desc := "(C)Z" } : Jvm.MethodName)) ∈ lw_all := lw_g (lw_at lw_m7 80 rfl) rfl
theorem q1654 : (Jvm.Cond.privateMethod ({ cls := "TroupeSums$Reader", name := "isSign", desc := "(C)Z" } : Jvm.MethodName)) ∈ lw_tbl := lw_at lw_m7 81 rfl
theorem q1655 : (Jvm.Cond.instanceMethod ({ cls := "TroupeSums$Reader", name := "isSign", desc := "(C)Z" } : Jvm.MethodName)) ∈ lw_all := lw_g (lw_at lw_m7 82 rfl) rfl
theorem q1656 : (Jvm.Cond.code ({ cls := "TroupeSums$Reader", name := "isSign", desc := "(C)Z" } : Jvm.MethodName) prog_5_method_6_code (2 : Nat) (Option.some Jvm.ClassFile.FieldType.boolean)) ∈ lw_all := lw_g (lw_at lw_m7 83 rfl) rfl
theorem q1657 : (Jvm.Cond.methodLink "TroupeSums$Reader" (132 : Nat) ({ cls := "TroupeSums$Reader", name := "move", desc := "(I)V" } : Jvm.MethodName)) ∈ lw_all := lw_g (lw_at lw_m7 84 rfl) rfl
theorem q1658 : (Jvm.Cond.privateMethod ({ cls := "TroupeSums$Reader", name := "move", desc := "(I)V" } : Jvm.MethodName)) ∈ lw_tbl := lw_at lw_m7 85 rfl
theorem q1659 : (Jvm.Cond.instanceMethod ({ cls := "TroupeSums$Reader", name := "move", desc := "(I)V" } : Jvm.MethodName)) ∈ lw_all := lw_g (lw_at lw_m7 86 rfl) rfl
theorem q1660 : (Jvm.Cond.code ({ cls := "TroupeSums$Reader", name := "move", desc := "(I)V" } : Jvm.MethodName) prog_5_method_15_code (5 : Nat) (Option.none : Option Jvm.ClassFile.FieldType)) ∈ lw_all := lw_g (lw_at lw_m7 87 rfl) rfl
theorem q1661 : (Jvm.Cond.methodLinkNest "TroupeSums$Reader" (166 : Nat) ({ cls := "TroupeSums", name := "isOf", desc := "(JI)Z" } : Jvm.MethodName) "TroupeSums") ∈ lw_tbl := lw_at lw_m7 88 rfl
theorem q1662 : (Jvm.Cond.methodLink "TroupeSums$Reader" (170 : Nat) ({ cls := "TroupeSums$Reader", name := "grows", desc := "(LTroupeSums$Row;)Z" } : Jvm.MethodName)) ∈ lw_all := lw_g (lw_at lw_m7 89 rfl) rfl
theorem q1663 : (Jvm.Cond.privateMethod ({ cls := "TroupeSums$Reader", name := "grows", desc := "(LTroupeSums$Row;)Z" } : Jvm.MethodName)) ∈ lw_tbl := lw_at lw_m7 90 rfl
theorem q1664 : (Jvm.Cond.instanceMethod ({ cls := "TroupeSums$Reader", name := "grows", desc := "(LTroupeSums$Row;)Z" } : Jvm.MethodName)) ∈ lw_all := lw_g (lw_at lw_m7 91 rfl) rfl
theorem q1665 : (Jvm.Cond.code ({ cls := "TroupeSums$Reader", name := "grows", desc := "(LTroupeSums$Row;)Z" } : Jvm.MethodName) prog_5_method_16_code (9 : Nat) (Option.some Jvm.ClassFile.FieldType.boolean)) ∈ lw_all := lw_g (lw_at lw_m7 92 rfl) rfl
theorem q1666 : (Jvm.Cond.methodLink "TroupeSums$Reader" (174 : Nat) ({ cls := "java/util/TreeMap", name := "keySet", desc := "()Ljava/util/Set;" } : Jvm.MethodName)) ∈ lw_all := lw_g (lw_at lw_m7 93 rfl) rfl
theorem q1667 : (Jvm.Cond.interfaceEntry "TroupeSums$Reader" (178 : Nat)) ∈ lw_tbl := lw_at lw_m7 94 rfl
theorem q1668 : (Jvm.Cond.methodLink "TroupeSums$Reader" (178 : Nat) ({ cls := "java/util/Set", name := "iterator", desc := "()Ljava/util/Iterator;" } : Jvm.MethodName)) ∈ lw_all := lw_g (lw_at lw_m7 95 rfl) rfl
theorem q1669 : (Jvm.Cond.interfaceEntry "TroupeSums$Reader" (184 : Nat)) ∈ lw_tbl := lw_at lw_m7 96 rfl
theorem q1670 : (Jvm.Cond.methodLink "TroupeSums$Reader" (184 : Nat) ({ cls := "java/util/Iterator", name := "hasNext", desc := "()Z" } : Jvm.MethodName)) ∈ lw_all := lw_g (lw_at lw_m7 97 rfl) rfl
theorem q1671 : (Jvm.Cond.interfaceEntry "TroupeSums$Reader" (190 : Nat)) ∈ lw_tbl := lw_at lw_m7 98 rfl
theorem q1672 : (Jvm.Cond.methodLink "TroupeSums$Reader" (190 : Nat) ({ cls := "java/util/Iterator", name := "next", desc := "()Ljava/lang/Object;" } : Jvm.MethodName)) ∈ lw_all := lw_g (lw_at lw_m7 99 rfl) rfl
theorem q1673 : (Jvm.Cond.methodLink "TroupeSums$Reader" (193 : Nat) ({ cls := "java/util/TreeMap", name := "size", desc := "()I" } : Jvm.MethodName)) ∈ lw_all := lw_g (lw_at lw_m7 100 rfl) rfl
theorem q1674 : (Jvm.Cond.classLink "TroupeSums$Reader" (195 : Nat) "java/util/ArrayList") ∈ lw_all := lw_g (lw_at lw_m7 101 rfl) rfl
theorem q1675 : (Jvm.Cond.methodLink "TroupeSums$Reader" (197 : Nat) ({ cls := "java/util/ArrayList", name := "<init>", desc := "()V" } : Jvm.MethodName)) ∈ lw_all := lw_g (lw_at lw_m7 102 rfl) rfl
theorem q1676 : (Jvm.Cond.interfaceEntry "TroupeSums$Reader" (198 : Nat)) ∈ lw_tbl := lw_at lw_m7 103 rfl
theorem q1677 : (Jvm.Cond.methodLink "TroupeSums$Reader" (198 : Nat) ({ cls := "java/util/List", name := "add", desc := "(Ljava/lang/Object;)Z" } : Jvm.MethodName)) ∈ lw_all := lw_g (lw_at lw_m7 104 rfl) rfl
theorem q1678 : (Jvm.Cond.interfaceEntry "TroupeSums$Reader" (203 : Nat)) ∈ lw_tbl := lw_at lw_m7 105 rfl
theorem q1679 : (Jvm.Cond.methodLink "TroupeSums$Reader" (203 : Nat) ({ cls := "java/util/List", name := "iterator", desc := "()Ljava/util/Iterator;" } : Jvm.MethodName)) ∈ lw_all := lw_g (lw_at lw_m7 106 rfl) rfl
theorem q1680 : (Jvm.Cond.methodLink "TroupeSums$Reader" (204 : Nat) ({ cls := "TroupeSums$Row", name := "then", desc := "(LTroupeSums$Row;)LTroupeSums$Row;" } : Jvm.MethodName)) ∈ lw_all := lw_g (lw_at lw_m7 107 rfl) rfl
theorem q1681 : (Jvm.Cond.methodLink "TroupeSums$Reader" (134 : Nat) ({ cls := "TroupeSums$Reader", name := "let", desc := "()V" } : Jvm.MethodName)) ∈ lw_all := lw_g (lw_at lw_m7 108 rfl) rfl
theorem q1682 : (Jvm.Cond.privateMethod ({ cls := "TroupeSums$Reader", name := "let", desc := "()V" } : Jvm.MethodName)) ∈ lw_tbl := lw_at lw_m7 109 rfl
theorem q1683 : (Jvm.Cond.instanceMethod ({ cls := "TroupeSums$Reader", name := "let", desc := "()V" } : Jvm.MethodName)) ∈ lw_all := lw_g (lw_at lw_m7 110 rfl) rfl
theorem q1684 : (Jvm.Cond.codeWith ({ cls := "TroupeSums$Reader", name := "let", desc := "()V" } : Jvm.MethodName) prog_5_method_17_code (5 : Nat) (Option.none : Option Jvm.ClassFile.FieldType) [((89 : Nat), (94 : Nat), (97 : Nat), (136 : Nat))]) ∈ lw_all := lw_g (lw_at lw_m7 111 rfl) rfl
theorem q1685 : (Jvm.Cond.interfaceEntry "TroupeSums$Reader" (212 : Nat)) ∈ lw_tbl := lw_at lw_m7 112 rfl
theorem q1686 : (Jvm.Cond.methodLink "TroupeSums$Reader" (212 : Nat) ({ cls := "java/util/List", name := "size", desc := "()I" } : Jvm.MethodName)) ∈ lw_all := lw_g (lw_at lw_m7 113 rfl) rfl
theorem q1687 : (Jvm.Cond.methodLink "TroupeSums$Reader" (109 : Nat) ({ cls := "TroupeSums$Reader", name := "closes", desc := "()V" } : Jvm.MethodName)) ∈ lw_all := lw_g (lw_at lw_m7 114 rfl) rfl
theorem q1688 : (Jvm.Cond.privateMethod ({ cls := "TroupeSums$Reader", name := "closes", desc := "()V" } : Jvm.MethodName)) ∈ lw_tbl := lw_at lw_m7 115 rfl
theorem q1689 : (Jvm.Cond.instanceMethod ({ cls := "TroupeSums$Reader", name := "closes", desc := "()V" } : Jvm.MethodName)) ∈ lw_all := lw_g (lw_at lw_m7 116 rfl) rfl
theorem q1690 : (Jvm.Cond.code ({ cls := "TroupeSums$Reader", name := "closes", desc := "()V" } : Jvm.MethodName) prog_5_method_12_code (1 : Nat) (Option.none : Option Jvm.ClassFile.FieldType)) ∈ lw_all := lw_g (lw_at lw_m7 117 rfl) rfl
theorem q1691 : (Jvm.Cond.classLink "TroupeSums$Reader" (123 : Nat) "TroupeSums$Group") ∈ lw_all := lw_g (lw_at lw_m7 118 rfl) rfl
theorem q1692 : (Jvm.Cond.methodLink "TroupeSums$Reader" (127 : Nat) ({ cls := "TroupeSums$Group", name := "<init>", desc := "(ILjava/util/TreeMap;)V" } : Jvm.MethodName)) ∈ lw_all := lw_g (lw_at lw_m7 119 rfl) rfl
theorem q1693 : (Jvm.Cond.methodLink "TroupeSums$Reader" (213 : Nat) ({ cls := "TroupeSums$Reader", name := "isName", desc := "()Z" } : Jvm.MethodName)) ∈ lw_all := lw_g (lw_at lw_m7 120 rfl) rfl
theorem q1694 : (Jvm.Cond.privateMethod ({ cls := "TroupeSums$Reader", name := "isName", desc := "()Z" } : Jvm.MethodName)) ∈ lw_tbl := lw_at lw_m7 121 rfl
theorem q1695 : (Jvm.Cond.instanceMethod ({ cls := "TroupeSums$Reader", name := "isName", desc := "()Z" } : Jvm.MethodName)) ∈ lw_all := lw_g (lw_at lw_m7 122 rfl) rfl
theorem q1696 : (Jvm.Cond.code ({ cls := "TroupeSums$Reader", name := "isName", desc := "()Z" } : Jvm.MethodName) prog_5_method_9_code (3 : Nat) (Option.some Jvm.ClassFile.FieldType.boolean)) ∈ lw_all := lw_g (lw_at lw_m7 123 rfl) rfl
theorem q1697 : (Jvm.Cond.methodLink "TroupeSums$Reader" (87 : Nat) ({ cls := "java/lang/String", name := "hashCode", desc := "()I" } : Jvm.MethodName)) ∈ lw_all := lw_g (lw_at lw_m7 124 rfl) rfl
theorem q1746 : (Jvm.Cond.stringRef "TroupeSums$Reader" (91 : Nat) "") ∈ lw_tbl := lw_at lw_m7 173 rfl
theorem q1747 : (Jvm.Cond.stringRef "TroupeSums$Reader" (103 : Nat) "sort") ∈ lw_tbl := lw_at lw_m7 174 rfl
theorem q1748 : (Jvm.Cond.interfaceEntry "TroupeSums$Reader" (216 : Nat)) ∈ lw_tbl := lw_at lw_m7 175 rfl
theorem q1749 : (Jvm.Cond.methodLink "TroupeSums$Reader" (216 : Nat) ({ cls := "java/util/List", name := "contains", desc := "(Ljava/lang/Object;)Z" } : Jvm.MethodName)) ∈ lw_all := lw_g (lw_at lw_m7 176 rfl) rfl
theorem q1750 : (Jvm.Cond.methodLink "TroupeSums$Reader" (219 : Nat) ({ cls := "TroupeSums$Reader", name := "whole", desc := "()LTroupeSums$Sum;" } : Jvm.MethodName)) ∈ lw_all := lw_g (lw_at lw_m7 177 rfl) rfl
theorem q1751 : (Jvm.Cond.privateMethod ({ cls := "TroupeSums$Reader", name := "whole", desc := "()LTroupeSums$Sum;" } : Jvm.MethodName)) ∈ lw_tbl := lw_at lw_m7 178 rfl
theorem q1752 : (Jvm.Cond.instanceMethod ({ cls := "TroupeSums$Reader", name := "whole", desc := "()LTroupeSums$Sum;" } : Jvm.MethodName)) ∈ lw_all := lw_g (lw_at lw_m7 179 rfl) rfl
theorem q1753 : (Jvm.Cond.code ({ cls := "TroupeSums$Reader", name := "whole", desc := "()LTroupeSums$Sum;" } : Jvm.MethodName) prog_5_method_18_code (1 : Nat) (Option.some (Jvm.ClassFile.FieldType.object "TroupeSums$Sum"))) ∈ lw_all := lw_g (lw_at lw_m7 180 rfl) rfl
theorem q1754 : (Jvm.Cond.methodLink "TroupeSums$Reader" (242 : Nat) ({ cls := "TroupeSums$Reader", name := "any", desc := "()LTroupeSums$Sum;" } : Jvm.MethodName)) ∈ lw_all := lw_g (lw_at lw_m7 181 rfl) rfl
theorem q1755 : (Jvm.Cond.privateMethod ({ cls := "TroupeSums$Reader", name := "any", desc := "()LTroupeSums$Sum;" } : Jvm.MethodName)) ∈ lw_tbl := lw_at lw_m7 182 rfl
theorem q1756 : (Jvm.Cond.instanceMethod ({ cls := "TroupeSums$Reader", name := "any", desc := "()LTroupeSums$Sum;" } : Jvm.MethodName)) ∈ lw_all := lw_g (lw_at lw_m7 183 rfl) rfl
theorem q1757 : (Jvm.Cond.code ({ cls := "TroupeSums$Reader", name := "any", desc := "()LTroupeSums$Sum;" } : Jvm.MethodName) prog_5_method_20_code (4 : Nat) (Option.some (Jvm.ClassFile.FieldType.object "TroupeSums$Sum"))) ∈ lw_all := lw_g (lw_at lw_m7 184 rfl) rfl
theorem q1758 : (Jvm.Cond.methodLink "TroupeSums$Reader" (245 : Nat) ({ cls := "TroupeSums$Reader", name := "product", desc := "()LTroupeSums$Sum;" } : Jvm.MethodName)) ∈ lw_all := lw_g (lw_at lw_m7 185 rfl) rfl
theorem q1759 : (Jvm.Cond.privateMethod ({ cls := "TroupeSums$Reader", name := "product", desc := "()LTroupeSums$Sum;" } : Jvm.MethodName)) ∈ lw_tbl := lw_at lw_m7 186 rfl
theorem q1760 : (Jvm.Cond.instanceMethod ({ cls := "TroupeSums$Reader", name := "product", desc := "()LTroupeSums$Sum;" } : Jvm.MethodName)) ∈ lw_all := lw_g (lw_at lw_m7 187 rfl) rfl
theorem q1761 : (Jvm.Cond.code ({ cls := "TroupeSums$Reader", name := "product", desc := "()LTroupeSums$Sum;" } : Jvm.MethodName) prog_5_method_21_code (3 : Nat) (Option.some (Jvm.ClassFile.FieldType.object "TroupeSums$Sum"))) ∈ lw_all := lw_g (lw_at lw_m7 188 rfl) rfl
theorem q1762 : (Jvm.Cond.methodLink "TroupeSums$Reader" (254 : Nat) ({ cls := "TroupeSums$Reader", name := "factor", desc := "()LTroupeSums$Sum;" } : Jvm.MethodName)) ∈ lw_all := lw_g (lw_at lw_m7 189 rfl) rfl
theorem q1763 : (Jvm.Cond.privateMethod ({ cls := "TroupeSums$Reader", name := "factor", desc := "()LTroupeSums$Sum;" } : Jvm.MethodName)) ∈ lw_tbl := lw_at lw_m7 190 rfl
theorem q1764 : (Jvm.Cond.instanceMethod ({ cls := "TroupeSums$Reader", name := "factor", desc := "()LTroupeSums$Sum;" } : Jvm.MethodName)) ∈ lw_all := lw_g (lw_at lw_m7 191 rfl) rfl
theorem q1765 : (Jvm.Cond.code ({ cls := "TroupeSums$Reader", name := "factor", desc := "()LTroupeSums$Sum;" } : Jvm.MethodName) prog_5_method_24_code (3 : Nat) (Option.some (Jvm.ClassFile.FieldType.object "TroupeSums$Sum"))) ∈ lw_all := lw_g (lw_at lw_m7 192 rfl) rfl
theorem q1766 : (Jvm.Cond.methodLink "TroupeSums$Reader" (265 : Nat) ({ cls := "TroupeSums$Reader", name := "unit", desc := "()V" } : Jvm.MethodName)) ∈ lw_all := lw_g (lw_at lw_m7 193 rfl) rfl
theorem q1767 : (Jvm.Cond.privateMethod ({ cls := "TroupeSums$Reader", name := "unit", desc := "()V" } : Jvm.MethodName)) ∈ lw_tbl := lw_at lw_m7 194 rfl
theorem q1768 : (Jvm.Cond.instanceMethod ({ cls := "TroupeSums$Reader", name := "unit", desc := "()V" } : Jvm.MethodName)) ∈ lw_all := lw_g (lw_at lw_m7 195 rfl) rfl
theorem q1769 : (Jvm.Cond.code ({ cls := "TroupeSums$Reader", name := "unit", desc := "()V" } : Jvm.MethodName) prog_5_method_23_code (2 : Nat) (Option.none : Option Jvm.ClassFile.FieldType)) ∈ lw_all := lw_g (lw_at lw_m7 196 rfl) rfl
theorem q1770 : (Jvm.Cond.methodLink "TroupeSums$Reader" (268 : Nat) ({ cls := "TroupeSums$Reader", name := "none", desc := "()LTroupeSums$Sum;" } : Jvm.MethodName)) ∈ lw_all := lw_g (lw_at lw_m7 197 rfl) rfl
theorem q1771 : (Jvm.Cond.privateMethod ({ cls := "TroupeSums$Reader", name := "none", desc := "()LTroupeSums$Sum;" } : Jvm.MethodName)) ∈ lw_tbl := lw_at lw_m7 198 rfl
theorem q1772 : (Jvm.Cond.instanceMethod ({ cls := "TroupeSums$Reader", name := "none", desc := "()LTroupeSums$Sum;" } : Jvm.MethodName)) ∈ lw_all := lw_g (lw_at lw_m7 199 rfl) rfl
theorem q1773 : (Jvm.Cond.code ({ cls := "TroupeSums$Reader", name := "none", desc := "()LTroupeSums$Sum;" } : Jvm.MethodName) prog_5_method_22_code (1 : Nat) (Option.some (Jvm.ClassFile.FieldType.object "TroupeSums$Sum"))) ∈ lw_all := lw_g (lw_at lw_m7 200 rfl) rfl
theorem q1774 : (Jvm.Cond.methodLink "TroupeSums$Reader" (261 : Nat) ({ cls := "TroupeSums$Sum", name := "of", desc := "(LTroupeSums$Group;IJ)LTroupeSums$Sum;" } : Jvm.MethodName)) ∈ lw_all := lw_g (lw_at lw_m7 201 rfl) rfl
theorem q1824 : (Jvm.Cond.methodLink "TroupeSums$Reader" (248 : Nat) ({ cls := "TroupeSums$Sum", name := "plus", desc := "(LTroupeSums$Sum;I)LTroupeSums$Sum;" } : Jvm.MethodName)) ∈ lw_all := lw_g (lw_at lw_m8 11 rfl) rfl
theorem q1833 : (Jvm.Cond.methodLink "TroupeSums$Reader" (271 : Nat) ({ cls := "TroupeSums$Reader", name := "thing", desc := "()LTroupeSums$Sum;" } : Jvm.MethodName)) ∈ lw_all := lw_g (lw_at lw_m8 20 rfl) rfl
theorem q1834 : (Jvm.Cond.privateMethod ({ cls := "TroupeSums$Reader", name := "thing", desc := "()LTroupeSums$Sum;" } : Jvm.MethodName)) ∈ lw_tbl := lw_at lw_m8 21 rfl
theorem q1835 : (Jvm.Cond.instanceMethod ({ cls := "TroupeSums$Reader", name := "thing", desc := "()LTroupeSums$Sum;" } : Jvm.MethodName)) ∈ lw_all := lw_g (lw_at lw_m8 22 rfl) rfl
theorem q1836 : (Jvm.Cond.code ({ cls := "TroupeSums$Reader", name := "thing", desc := "()LTroupeSums$Sum;" } : Jvm.MethodName) prog_5_method_25_code (2 : Nat) (Option.some (Jvm.ClassFile.FieldType.object "TroupeSums$Sum"))) ∈ lw_all := lw_g (lw_at lw_m8 23 rfl) rfl
theorem q1837 : (Jvm.Cond.interfaceEntry "TroupeSums$Reader" (281 : Nat)) ∈ lw_tbl := lw_at lw_m8 24 rfl
theorem q1838 : (Jvm.Cond.methodLink "TroupeSums$Reader" (281 : Nat) ({ cls := "java/util/List", name := "indexOf", desc := "(Ljava/lang/Object;)I" } : Jvm.MethodName)) ∈ lw_all := lw_g (lw_at lw_m8 25 rfl) rfl
theorem q1844 : (Jvm.Cond.interfaceEntry "TroupeSums$Reader" (284 : Nat)) ∈ lw_tbl := lw_at lw_m8 31 rfl
theorem q1845 : (Jvm.Cond.methodLink "TroupeSums$Reader" (284 : Nat) ({ cls := "java/util/List", name := "get", desc := "(I)Ljava/lang/Object;" } : Jvm.MethodName)) ∈ lw_all := lw_g (lw_at lw_m8 32 rfl) rfl
theorem q1846 : (Jvm.Cond.classLink "TroupeSums$Reader" (249 : Nat) "TroupeSums$Sum") ∈ lw_all := lw_g (lw_at lw_m8 33 rfl) rfl
theorem q1847 : (Jvm.Cond.methodLink "TroupeSums$Reader" (274 : Nat) ({ cls := "TroupeSums$Sum", name := "power", desc := "(I)LTroupeSums$Sum;" } : Jvm.MethodName)) ∈ lw_all := lw_g (lw_at lw_m8 34 rfl) rfl
theorem q1863 : (Jvm.Cond.methodLink "TroupeSums$Reader" (257 : Nat) ({ cls := "TroupeSums$Sum", name := "times", desc := "(LTroupeSums$Sum;)LTroupeSums$Sum;" } : Jvm.MethodName)) ∈ lw_all := lw_g (lw_at lw_m8 50 rfl) rfl
theorem q1864 : (Jvm.Cond.methodLink "TroupeSums$Reader" (223 : Nat) ({ cls := "TroupeSums$Reader", name := "skips", desc := "()V" } : Jvm.MethodName)) ∈ lw_all := lw_g (lw_at lw_m8 51 rfl) rfl
theorem q1865 : (Jvm.Cond.privateMethod ({ cls := "TroupeSums$Reader", name := "skips", desc := "()V" } : Jvm.MethodName)) ∈ lw_tbl := lw_at lw_m8 52 rfl
theorem q1866 : (Jvm.Cond.instanceMethod ({ cls := "TroupeSums$Reader", name := "skips", desc := "()V" } : Jvm.MethodName)) ∈ lw_all := lw_g (lw_at lw_m8 53 rfl) rfl
theorem q1867 : (Jvm.Cond.code ({ cls := "TroupeSums$Reader", name := "skips", desc := "()V" } : Jvm.MethodName) prog_5_method_19_code (2 : Nat) (Option.none : Option Jvm.ClassFile.FieldType)) ∈ lw_all := lw_g (lw_at lw_m8 54 rfl) rfl
theorem q1876 : (Jvm.Cond.methodLink "TroupeSums$Reader" (138 : Nat) ({ cls := "TroupeSums$LineWrong", name := "<init>", desc := "(Ljava/lang/Exception;)V" } : Jvm.MethodName)) ∈ lw_all := lw_g (lw_at lw_m8 63 rfl) rfl
theorem q1882 : (Jvm.Cond.classLink "TroupeSums$Reader" (114 : Nat) "TroupeSums$TextWrong") ∈ lw_all := lw_g (lw_at lw_m8 69 rfl) rfl
theorem q1891 : (Jvm.Cond.methodLink "TroupeSums$Reader" (116 : Nat) ({ cls := "TroupeSums$TextWrong", name := "<init>", desc := "(LTroupeSums$LineWrong;)V" } : Jvm.MethodName)) ∈ lw_all := lw_g (lw_at lw_m8 78 rfl) rfl
theorem q2312 : (Jvm.Cond.instanceMethod ({ cls := "TroupeSums$Reader", name := "alone", desc := "(LTroupeSums$Troupe;)LTroupeSums$Sum;" } : Jvm.MethodName)) ∈ lw_all := lw_g (lw_at lw_m10 19 rfl) rfl
theorem q2313 : (Jvm.Cond.selects "TroupeSums$Reader" ({ cls := "TroupeSums$Reader", name := "alone", desc := "(LTroupeSums$Troupe;)LTroupeSums$Sum;" } : Jvm.MethodName) ({ cls := "TroupeSums$Reader", name := "alone", desc := "(LTroupeSums$Troupe;)LTroupeSums$Sum;" } : Jvm.MethodName)) ∈ lw_all := lw_g (lw_at lw_m10 20 rfl) rfl
theorem q2314 : (Jvm.Cond.codeWith ({ cls := "TroupeSums$Reader", name := "alone", desc := "(LTroupeSums$Troupe;)LTroupeSums$Sum;" } : Jvm.MethodName) prog_5_method_26_code (5 : Nat) (Option.some (Jvm.ClassFile.FieldType.object "TroupeSums$Sum")) [((9 : Nat), (14 : Nat), (17 : Nat), (136 : Nat)), ((5 : Nat), (50 : Nat), (51 : Nat), (136 : Nat)), ((5 : Nat), (50 : Nat), (70 : Nat), (60 : Nat))]) ∈ lw_all := lw_g (lw_at lw_m10 21 rfl) rfl
theorem q3198 : (Jvm.Cond.castable "TroupeSums$Reader" "java/lang/Object") ∈ lw_tbl := lw_at lw_m13 185 rfl
theorem in_X7 : ∀ w ∈ wsX70, w ∈ lw_all := lw_in wsX70 [1372, 1374, 1376, 1378, 1380, 1382, 1384, 1386, 1388, 1390, 1392] (by decide +kernel) (by decide +kernel)
/-! TroupeSums$Wrong -/
set_option maxRecDepth 100000
def RX8 : String := "TroupeSums$Wrong"
def TX8 : u_T := fun k => match k with
  | 0 => ("java/lang/Throwable", "cause", "Ljava/lang/Throwable;", false)
  | 1 => ("java/lang/Throwable", "stackTrace", "[Ljava/lang/StackTraceElement;", false)
  | 2 => ("java/lang/Throwable", "suppressedExceptions", "Ljava/util/List;", false)
  | 3 => ("java/lang/Throwable", "detailMessage", "Ljava/lang/String;", false)
  | 4 => ("java/lang/Throwable", "backtrace", "Ljava/lang/Object;", false)
  | 5 => ("java/lang/Throwable", "depth", "I", false)
  | 6 => ("TroupeSums$Wrong", "kind", "I", true)
  | _ => ("TroupeSums$Wrong", "place", "I", true)
def tyX8 : Nat → FieldType := fun k => match k with
  | 0 => .object "java/lang/Throwable"
  | 1 => .array (.object "java/lang/StackTraceElement")
  | 2 => .object "java/util/List"
  | 3 => .object "java/lang/String"
  | 4 => .object "java/lang/Object"
  | 5 => .int
  | 6 => .int
  | _ => .int
abbrev wsX80 : List Cond := u_ws RX8 TX8 8
theorem nmX8 : ∀ a, a < 8 → ∀ b, b < 8 → a ≠ b → (TX8 a).2.1 ≠ (TX8 b).2.1 := by decide +kernel
theorem tyX8_ok : ∀ k, k < 8 → parseFieldDescriptor (TX8 k).2.2.1 = some (tyX8 k) := by decide +kernel
abbrev cX8_init : ByteArray := prog_14_method_1_code
def yX8_init : MethodName := ⟨RX8, "<init>", "(II)V"⟩
def dkwX8_init_0 : List UInt8 := [42, 1, 1, 3, 3, 183, 0, 1, 42, 27, 181, 0, 7, 42, 28, 181, 0, 13, 177]
abbrev dktX8_init_0 : List UInt8 := dkwX8_init_0 ++ []
theorem dksX8_init_0 : cX8_init.data.toList.drop 0 = dktX8_init_0 := by decide +kernel
theorem dX8_init_0 : decode cX8_init 0 = .ok (.aload_n 0, 1) := dk_42 (dk_at dksX8_init_0 0 rfl rfl)
theorem dX8_init_1 : decode cX8_init 1 = .ok (.aconst_null, 1) := dk_1 (dk_at dksX8_init_0 1 rfl rfl)
theorem dX8_init_2 : decode cX8_init 2 = .ok (.aconst_null, 1) := dk_1 (dk_at dksX8_init_0 2 rfl rfl)
theorem dX8_init_3 : decode cX8_init 3 = .ok (.iconst 0, 1) := dk_3 (dk_at dksX8_init_0 3 rfl rfl)
theorem dX8_init_4 : decode cX8_init 4 = .ok (.iconst 0, 1) := dk_3 (dk_at dksX8_init_0 4 rfl rfl)
theorem dX8_init_5 : decode cX8_init 5 = .ok (.invokespecial 1, 3) := dk_183 0 1 (dk_at dksX8_init_0 5 rfl rfl)
theorem dX8_init_8 : decode cX8_init 8 = .ok (.aload_n 0, 1) := dk_42 (dk_at dksX8_init_0 8 rfl rfl)
theorem dX8_init_9 : decode cX8_init 9 = .ok (.iload_n 1, 1) := dk_27 (dk_at dksX8_init_0 9 rfl rfl)
theorem dX8_init_10 : decode cX8_init 10 = .ok (.putfield 7, 3) := dk_181 0 7 (dk_at dksX8_init_0 10 rfl rfl)
theorem dX8_init_13 : decode cX8_init 13 = .ok (.aload_n 0, 1) := dk_42 (dk_at dksX8_init_0 13 rfl rfl)
theorem dX8_init_14 : decode cX8_init 14 = .ok (.iload_n 2, 1) := dk_28 (dk_at dksX8_init_0 14 rfl rfl)
theorem dX8_init_15 : decode cX8_init 15 = .ok (.putfield 13, 3) := dk_181 0 13 (dk_at dksX8_init_0 15 rfl rfl)
theorem dX8_init_18 : decode cX8_init 18 = .ok (.return_, 1) := dk_177 (dk_at dksX8_init_0 18 rfl rfl)
theorem q176 : (Jvm.Cond.initialized "TroupeSums$Wrong") ∈ lw_all := lw_g (lw_at lw_m1 43 rfl) rfl
theorem q841 : (Jvm.Cond.selects "TroupeSums$Wrong" ({ cls := "java/lang/Object", name := "getClass", desc := "()Ljava/lang/Class;" } : Jvm.MethodName) ({ cls := "java/lang/Object", name := "getClass", desc := "()Ljava/lang/Class;" } : Jvm.MethodName)) ∈ lw_all := lw_g (lw_at lw_m3 228 rfl) rfl
theorem q973 : (Jvm.Cond.selects "TroupeSums$Wrong" ({ cls := "java/lang/Object", name := "equals", desc := "(Ljava/lang/Object;)Z" } : Jvm.MethodName) ({ cls := "java/lang/Object", name := "equals", desc := "(Ljava/lang/Object;)Z" } : Jvm.MethodName)) ∈ lw_all := lw_g (lw_at lw_m4 120 rfl) rfl
theorem q1567 : (Jvm.Cond.instantiable "TroupeSums$Wrong" (8 : Nat)) ∈ lw_all := lw_g (lw_at lw_m6 234 rfl) rfl
theorem q1568 : (Jvm.Cond.castable "TroupeSums$Wrong" "TroupeSums$Wrong") ∈ lw_tbl := lw_at lw_m6 235 rfl
theorem q1573 : (Jvm.Cond.selects "TroupeSums$Wrong" ({ cls := "java/lang/Throwable", name := "fillInStackTrace", desc := "(I)Ljava/lang/Throwable;" } : Jvm.MethodName) ({ cls := "java/lang/Throwable", name := "fillInStackTrace", desc := "(I)Ljava/lang/Throwable;" } : Jvm.MethodName)) ∈ lw_all := lw_g (lw_at lw_m7 0 rfl) rfl
theorem q1574 : (Jvm.Cond.selects "TroupeSums$Wrong" ({ cls := "java/lang/Throwable", name := "fillInStackTrace", desc := "()Ljava/lang/Throwable;" } : Jvm.MethodName) ({ cls := "java/lang/Throwable", name := "fillInStackTrace", desc := "()Ljava/lang/Throwable;" } : Jvm.MethodName)) ∈ lw_all := lw_g (lw_at lw_m7 1 rfl) rfl
theorem q1575 : (Jvm.Cond.lays "TroupeSums$Wrong" "java/lang/Throwable" "cause" "Ljava/lang/Throwable;") ∈ lw_all := lw_g (lw_at lw_m7 2 rfl) rfl
theorem q1577 : (Jvm.Cond.lays "TroupeSums$Wrong" "java/lang/Throwable" "stackTrace" "[Ljava/lang/StackTraceElement;") ∈ lw_all := lw_g (lw_at lw_m7 4 rfl) rfl
theorem q1579 : (Jvm.Cond.lays "TroupeSums$Wrong" "java/lang/Throwable" "suppressedExceptions" "Ljava/util/List;") ∈ lw_all := lw_g (lw_at lw_m7 6 rfl) rfl
theorem q1581 : (Jvm.Cond.lays "TroupeSums$Wrong" "java/lang/Throwable" "detailMessage" "Ljava/lang/String;") ∈ lw_all := lw_g (lw_at lw_m7 8 rfl) rfl
theorem q1583 : (Jvm.Cond.lays "TroupeSums$Wrong" "java/lang/Throwable" "backtrace" "Ljava/lang/Object;") ∈ lw_all := lw_g (lw_at lw_m7 10 rfl) rfl
theorem q1608 : (Jvm.Cond.instanceMethod ({ cls := "TroupeSums$Wrong", name := "<init>", desc := "(II)V" } : Jvm.MethodName)) ∈ lw_all := lw_g (lw_at lw_m7 35 rfl) rfl
theorem q1609 : (Jvm.Cond.code ({ cls := "TroupeSums$Wrong", name := "<init>", desc := "(II)V" } : Jvm.MethodName) prog_14_method_1_code (3 : Nat) (Option.none : Option Jvm.ClassFile.FieldType)) ∈ lw_all := lw_g (lw_at lw_m7 36 rfl) rfl
theorem q1610 : (Jvm.Cond.methodLink "TroupeSums$Wrong" (1 : Nat) ({ cls := "java/lang/Exception", name := "<init>", desc := "(Ljava/lang/String;Ljava/lang/Throwable;ZZ)V" } : Jvm.MethodName)) ∈ lw_all := lw_g (lw_at lw_m7 37 rfl) rfl
theorem q1616 : (Jvm.Cond.fieldLink "TroupeSums$Wrong" (7 : Nat) "TroupeSums$Wrong" "kind" "I") ∈ lw_all := lw_g (lw_at lw_m7 43 rfl) rfl
theorem q1618 : (Jvm.Cond.fieldLink "TroupeSums$Wrong" (13 : Nat) "TroupeSums$Wrong" "place" "I") ∈ lw_all := lw_g (lw_at lw_m7 45 rfl) rfl
theorem q1625 : (Jvm.Cond.laysFinal "TroupeSums$Wrong" "TroupeSums$Wrong" "kind" "I") ∈ lw_all := lw_g (lw_at lw_m7 52 rfl) rfl
theorem q1626 : (Jvm.Cond.soleField "TroupeSums$Wrong" "kind") ∈ lw_all := lw_g (lw_at lw_m7 53 rfl) rfl
theorem q1627 : (Jvm.Cond.laysFinal "TroupeSums$Wrong" "TroupeSums$Wrong" "place" "I") ∈ lw_all := lw_g (lw_at lw_m7 54 rfl) rfl
theorem q1628 : (Jvm.Cond.soleField "TroupeSums$Wrong" "place") ∈ lw_all := lw_g (lw_at lw_m7 55 rfl) rfl
theorem q1633 : (Jvm.Cond.lays "TroupeSums$Wrong" "java/lang/Throwable" "depth" "I") ∈ lw_all := lw_g (lw_at lw_m7 60 rfl) rfl
theorem q1636 : (Jvm.Cond.superclass "TroupeSums$Wrong" "java/lang/Exception") ∈ lw_all := lw_g (lw_at lw_m7 63 rfl) rfl
theorem q3177 : (Jvm.Cond.selects "TroupeSums$Wrong" ({ cls := "java/lang/Throwable", name := "getCause", desc := "()Ljava/lang/Throwable;" } : Jvm.MethodName) ({ cls := "java/lang/Throwable", name := "getCause", desc := "()Ljava/lang/Throwable;" } : Jvm.MethodName)) ∈ lw_all := lw_g (lw_at lw_m13 164 rfl) rfl
theorem q3201 : (Jvm.Cond.castable "TroupeSums$Wrong" "java/lang/Object") ∈ lw_tbl := lw_at lw_m13 188 rfl
theorem in_X8 : ∀ w ∈ wsX80, w ∈ lw_all := lw_in wsX80 [1575, 1577, 1579, 1581, 1583, 1633, 1625, 1627] (by decide +kernel) (by decide +kernel)
/-! TroupeSums$Sum -/
set_option maxRecDepth 100000
def RX9 : String := "TroupeSums$Sum"
def TX9 : u_T := fun k => match k with
  | 0 => ("TroupeSums$Sum", "group", "LTroupeSums$Group;", true)
  | _ => ("TroupeSums$Sum", "numbers", "[J", true)
def tyX9 : Nat → FieldType := fun k => match k with
  | 0 => .object "TroupeSums$Group"
  | _ => .array .long
abbrev wsX90 : List Cond := u_ws RX9 TX9 2
theorem nmX9 : ∀ a, a < 2 → ∀ b, b < 2 → a ≠ b → (TX9 a).2.1 ≠ (TX9 b).2.1 := by decide +kernel
theorem tyX9_ok : ∀ k, k < 2 → parseFieldDescriptor (TX9 k).2.2.1 = some (tyX9 k) := by decide +kernel
abbrev cX9_of : ByteArray := prog_10_method_3_code
def yX9_of : MethodName := ⟨RX9, "of", "(LTroupeSums$Group;IJ)LTroupeSums$Sum;"⟩
def dkwX9_of_1 : List UInt8 := [25, 4, 183, 0, 50, 176]
abbrev dktX9_of_1 : List UInt8 := dkwX9_of_1 ++ []
def dkwX9_of_0 : List UInt8 := [42, 180, 0, 38, 185, 0, 44, 1, 0, 188, 11, 58, 4, 25, 4, 27, 32, 80, 187, 0, 10, 89, 42]
abbrev dktX9_of_0 : List UInt8 := dkwX9_of_0 ++ dktX9_of_1
theorem dksX9_of_0 : cX9_of.data.toList.drop 0 = dktX9_of_0 := by decide +kernel
theorem dksX9_of_1 : cX9_of.data.toList.drop 23 = dktX9_of_1 := dk_seg dksX9_of_0 23 rfl rfl
theorem dX9_of_0 : decode cX9_of 0 = .ok (.aload_n 0, 1) := dk_42 (dk_at dksX9_of_0 0 rfl rfl)
theorem dX9_of_1 : decode cX9_of 1 = .ok (.getfield 38, 3) := dk_180 0 38 (dk_at dksX9_of_0 1 rfl rfl)
theorem dX9_of_4 : decode cX9_of 4 = .ok (.invokeinterface 44 1, 5) := by decide +kernel
theorem dX9_of_9 : decode cX9_of 9 = .ok (.newarray .long, 2) := dk_188_11 (dk_at dksX9_of_0 9 rfl rfl)
theorem dX9_of_11 : decode cX9_of 11 = .ok (.astore 4, 2) := dk_58 4 (dk_at dksX9_of_0 11 rfl rfl)
theorem dX9_of_13 : decode cX9_of 13 = .ok (.aload 4, 2) := dk_25 4 (dk_at dksX9_of_0 13 rfl rfl)
theorem dX9_of_15 : decode cX9_of 15 = .ok (.iload_n 1, 1) := dk_27 (dk_at dksX9_of_0 15 rfl rfl)
theorem dX9_of_16 : decode cX9_of 16 = .ok (.lload_n 2, 1) := dk_32 (dk_at dksX9_of_0 16 rfl rfl)
theorem dX9_of_17 : decode cX9_of 17 = .ok (.lastore, 1) := dk_80 (dk_at dksX9_of_0 17 rfl rfl)
theorem dX9_of_18 : decode cX9_of 18 = .ok (.new 10, 3) := dk_187 0 10 (dk_at dksX9_of_0 18 rfl rfl)
theorem dX9_of_21 : decode cX9_of 21 = .ok (.dup, 1) := dk_89 (dk_at dksX9_of_0 21 rfl rfl)
theorem dX9_of_22 : decode cX9_of 22 = .ok (.aload_n 0, 1) := dk_42 (dk_at dksX9_of_0 22 rfl rfl)
theorem dX9_of_23 : decode cX9_of 23 = .ok (.aload 4, 2) := dk_25 4 (dk_at dksX9_of_1 0 rfl rfl)
theorem dX9_of_25 : decode cX9_of 25 = .ok (.invokespecial 50, 3) := dk_183 0 50 (dk_at dksX9_of_1 2 rfl rfl)
theorem dX9_of_28 : decode cX9_of 28 = .ok (.areturn, 1) := dk_176 (dk_at dksX9_of_1 5 rfl rfl)
abbrev cX9_init : ByteArray := prog_10_method_1_code
def yX9_init : MethodName := ⟨RX9, "<init>", "(LTroupeSums$Group;[J)V"⟩
def dkwX9_init_3 : List UInt8 := [55, 6, 22, 6, 184, 0, 19, 132, 5, 1, 167, 255, 235, 177]
abbrev dktX9_init_3 : List UInt8 := dkwX9_init_3 ++ []
def dkwX9_init_2 : List UInt8 := [42, 182, 0, 23, 78, 45, 190, 54, 4, 3, 54, 5, 21, 5, 21, 4, 162, 0, 20, 45, 21, 5, 47]
abbrev dktX9_init_2 : List UInt8 := dkwX9_init_2 ++ dktX9_init_3
def dkwX9_init_1 : List UInt8 := [21, 5, 21, 4, 162, 0, 20, 45, 21, 5, 47, 55, 6, 22, 6, 184, 0, 19, 132, 5, 1, 167, 255, 235]
abbrev dktX9_init_1 : List UInt8 := dkwX9_init_1 ++ dktX9_init_2
def dkwX9_init_0 : List UInt8 := [42, 183, 0, 3, 42, 43, 181, 0, 9, 42, 44, 181, 0, 15, 44, 78, 45, 190, 54, 4, 3, 54, 5]
abbrev dktX9_init_0 : List UInt8 := dkwX9_init_0 ++ dktX9_init_1
theorem dksX9_init_0 : cX9_init.data.toList.drop 0 = dktX9_init_0 := by decide +kernel
theorem dksX9_init_1 : cX9_init.data.toList.drop 23 = dktX9_init_1 := dk_seg dksX9_init_0 23 rfl rfl
theorem dksX9_init_2 : cX9_init.data.toList.drop 47 = dktX9_init_2 := dk_seg dksX9_init_1 24 rfl rfl
theorem dksX9_init_3 : cX9_init.data.toList.drop 70 = dktX9_init_3 := dk_seg dksX9_init_2 23 rfl rfl
theorem dX9_init_0 : decode cX9_init 0 = .ok (.aload_n 0, 1) := dk_42 (dk_at dksX9_init_0 0 rfl rfl)
theorem dX9_init_1 : decode cX9_init 1 = .ok (.invokespecial 3, 3) := dk_183 0 3 (dk_at dksX9_init_0 1 rfl rfl)
theorem dX9_init_4 : decode cX9_init 4 = .ok (.aload_n 0, 1) := dk_42 (dk_at dksX9_init_0 4 rfl rfl)
theorem dX9_init_5 : decode cX9_init 5 = .ok (.aload_n 1, 1) := dk_43 (dk_at dksX9_init_0 5 rfl rfl)
theorem dX9_init_6 : decode cX9_init 6 = .ok (.putfield 9, 3) := dk_181 0 9 (dk_at dksX9_init_0 6 rfl rfl)
theorem dX9_init_9 : decode cX9_init 9 = .ok (.aload_n 0, 1) := dk_42 (dk_at dksX9_init_0 9 rfl rfl)
theorem dX9_init_10 : decode cX9_init 10 = .ok (.aload_n 2, 1) := dk_44 (dk_at dksX9_init_0 10 rfl rfl)
theorem dX9_init_11 : decode cX9_init 11 = .ok (.putfield 15, 3) := dk_181 0 15 (dk_at dksX9_init_0 11 rfl rfl)
theorem dX9_init_14 : decode cX9_init 14 = .ok (.aload_n 2, 1) := dk_44 (dk_at dksX9_init_0 14 rfl rfl)
theorem dX9_init_15 : decode cX9_init 15 = .ok (.astore_n 3, 1) := dk_78 (dk_at dksX9_init_0 15 rfl rfl)
theorem dX9_init_16 : decode cX9_init 16 = .ok (.aload_n 3, 1) := dk_45 (dk_at dksX9_init_0 16 rfl rfl)
theorem dX9_init_17 : decode cX9_init 17 = .ok (.arraylength, 1) := dk_190 (dk_at dksX9_init_0 17 rfl rfl)
theorem dX9_init_18 : decode cX9_init 18 = .ok (.istore 4, 2) := dk_54 4 (dk_at dksX9_init_0 18 rfl rfl)
theorem dX9_init_20 : decode cX9_init 20 = .ok (.iconst 0, 1) := dk_3 (dk_at dksX9_init_0 20 rfl rfl)
theorem dX9_init_21 : decode cX9_init 21 = .ok (.istore 5, 2) := dk_54 5 (dk_at dksX9_init_0 21 rfl rfl)
theorem dX9_init_23 : decode cX9_init 23 = .ok (.iload 5, 2) := dk_21 5 (dk_at dksX9_init_1 0 rfl rfl)
theorem dX9_init_25 : decode cX9_init 25 = .ok (.iload 4, 2) := dk_21 4 (dk_at dksX9_init_1 2 rfl rfl)
theorem dX9_init_27 : decode cX9_init 27 = .ok (.if_icmp .ge 20, 3) := dk_162 0 20 (dk_at dksX9_init_1 4 rfl rfl)
theorem dX9_init_30 : decode cX9_init 30 = .ok (.aload_n 3, 1) := dk_45 (dk_at dksX9_init_1 7 rfl rfl)
theorem dX9_init_31 : decode cX9_init 31 = .ok (.iload 5, 2) := dk_21 5 (dk_at dksX9_init_1 8 rfl rfl)
theorem dX9_init_33 : decode cX9_init 33 = .ok (.laload, 1) := dk_47 (dk_at dksX9_init_1 10 rfl rfl)
theorem dX9_init_34 : decode cX9_init 34 = .ok (.lstore 6, 2) := dk_55 6 (dk_at dksX9_init_1 11 rfl rfl)
theorem dX9_init_36 : decode cX9_init 36 = .ok (.lload 6, 2) := dk_22 6 (dk_at dksX9_init_1 13 rfl rfl)
theorem dX9_init_38 : decode cX9_init 38 = .ok (.invokestatic 19, 3) := dk_184 0 19 (dk_at dksX9_init_1 15 rfl rfl)
theorem dX9_init_41 : decode cX9_init 41 = .ok (.iinc 5 1, 3) := dk_132 5 1 (dk_at dksX9_init_1 18 rfl rfl)
theorem dX9_init_44 : decode cX9_init 44 = .ok (.goto (-21), 3) := dk_167 255 235 (dk_at dksX9_init_1 21 rfl rfl)
theorem dX9_init_47 : decode cX9_init 47 = .ok (.aload_n 0, 1) := dk_42 (dk_at dksX9_init_2 0 rfl rfl)
theorem dX9_init_48 : decode cX9_init 48 = .ok (.invokevirtual 23, 3) := dk_182 0 23 (dk_at dksX9_init_2 1 rfl rfl)
theorem dX9_init_51 : decode cX9_init 51 = .ok (.astore_n 3, 1) := dk_78 (dk_at dksX9_init_2 4 rfl rfl)
theorem dX9_init_52 : decode cX9_init 52 = .ok (.aload_n 3, 1) := dk_45 (dk_at dksX9_init_2 5 rfl rfl)
theorem dX9_init_53 : decode cX9_init 53 = .ok (.arraylength, 1) := dk_190 (dk_at dksX9_init_2 6 rfl rfl)
theorem dX9_init_54 : decode cX9_init 54 = .ok (.istore 4, 2) := dk_54 4 (dk_at dksX9_init_2 7 rfl rfl)
theorem dX9_init_56 : decode cX9_init 56 = .ok (.iconst 0, 1) := dk_3 (dk_at dksX9_init_2 9 rfl rfl)
theorem dX9_init_57 : decode cX9_init 57 = .ok (.istore 5, 2) := dk_54 5 (dk_at dksX9_init_2 10 rfl rfl)
theorem dX9_init_59 : decode cX9_init 59 = .ok (.iload 5, 2) := dk_21 5 (dk_at dksX9_init_2 12 rfl rfl)
theorem dX9_init_61 : decode cX9_init 61 = .ok (.iload 4, 2) := dk_21 4 (dk_at dksX9_init_2 14 rfl rfl)
theorem dX9_init_63 : decode cX9_init 63 = .ok (.if_icmp .ge 20, 3) := dk_162 0 20 (dk_at dksX9_init_2 16 rfl rfl)
theorem dX9_init_66 : decode cX9_init 66 = .ok (.aload_n 3, 1) := dk_45 (dk_at dksX9_init_2 19 rfl rfl)
theorem dX9_init_67 : decode cX9_init 67 = .ok (.iload 5, 2) := dk_21 5 (dk_at dksX9_init_2 20 rfl rfl)
theorem dX9_init_69 : decode cX9_init 69 = .ok (.laload, 1) := dk_47 (dk_at dksX9_init_2 22 rfl rfl)
theorem dX9_init_70 : decode cX9_init 70 = .ok (.lstore 6, 2) := dk_55 6 (dk_at dksX9_init_3 0 rfl rfl)
theorem dX9_init_72 : decode cX9_init 72 = .ok (.lload 6, 2) := dk_22 6 (dk_at dksX9_init_3 2 rfl rfl)
theorem dX9_init_74 : decode cX9_init 74 = .ok (.invokestatic 19, 3) := dk_184 0 19 (dk_at dksX9_init_3 4 rfl rfl)
theorem dX9_init_77 : decode cX9_init 77 = .ok (.iinc 5 1, 3) := dk_132 5 1 (dk_at dksX9_init_3 7 rfl rfl)
theorem dX9_init_80 : decode cX9_init 80 = .ok (.goto (-21), 3) := dk_167 255 235 (dk_at dksX9_init_3 10 rfl rfl)
theorem dX9_init_83 : decode cX9_init 83 = .ok (.return_, 1) := dk_177 (dk_at dksX9_init_3 13 rfl rfl)
abbrev cX9_bound : ByteArray := prog_10_method_2_code
def yX9_bound : MethodName := ⟨RX9, "bound", "(J)V"⟩
def dkwX9_bound_0 : List UInt8 := [30, 20, 0, 27, 20, 0, 29, 184, 0, 31, 154, 0, 11, 187, 0, 35, 89, 183, 0, 37, 191, 177]
abbrev dktX9_bound_0 : List UInt8 := dkwX9_bound_0 ++ []
theorem dksX9_bound_0 : cX9_bound.data.toList.drop 0 = dktX9_bound_0 := by decide +kernel
theorem dX9_bound_0 : decode cX9_bound 0 = .ok (.lload_n 0, 1) := dk_30 (dk_at dksX9_bound_0 0 rfl rfl)
theorem dX9_bound_1 : decode cX9_bound 1 = .ok (.ldc2_w 27, 3) := dk_20 0 27 (dk_at dksX9_bound_0 1 rfl rfl)
theorem dX9_bound_4 : decode cX9_bound 4 = .ok (.ldc2_w 29, 3) := dk_20 0 29 (dk_at dksX9_bound_0 4 rfl rfl)
theorem dX9_bound_7 : decode cX9_bound 7 = .ok (.invokestatic 31, 3) := dk_184 0 31 (dk_at dksX9_bound_0 7 rfl rfl)
theorem dX9_bound_10 : decode cX9_bound 10 = .ok (.ifCond .ne 11, 3) := dk_154 0 11 (dk_at dksX9_bound_0 10 rfl rfl)
theorem dX9_bound_13 : decode cX9_bound 13 = .ok (.new 35, 3) := dk_187 0 35 (dk_at dksX9_bound_0 13 rfl rfl)
theorem dX9_bound_16 : decode cX9_bound 16 = .ok (.dup, 1) := dk_89 (dk_at dksX9_bound_0 16 rfl rfl)
theorem dX9_bound_17 : decode cX9_bound 17 = .ok (.invokespecial 37, 3) := dk_183 0 37 (dk_at dksX9_bound_0 17 rfl rfl)
theorem dX9_bound_20 : decode cX9_bound 20 = .ok (.athrow, 1) := dk_191 (dk_at dksX9_bound_0 20 rfl rfl)
theorem dX9_bound_21 : decode cX9_bound 21 = .ok (.return_, 1) := dk_177 (dk_at dksX9_bound_0 21 rfl rfl)
abbrev cX9_marks : ByteArray := prog_10_method_4_code
def yX9_marks : MethodName := ⟨RX9, "marks", "()[J"⟩
def dkwX9_marks_0 : List UInt8 := [42, 180, 0, 9, 42, 180, 0, 15, 182, 0, 53, 176]
abbrev dktX9_marks_0 : List UInt8 := dkwX9_marks_0 ++ []
theorem dksX9_marks_0 : cX9_marks.data.toList.drop 0 = dktX9_marks_0 := by decide +kernel
theorem dX9_marks_0 : decode cX9_marks 0 = .ok (.aload_n 0, 1) := dk_42 (dk_at dksX9_marks_0 0 rfl rfl)
theorem dX9_marks_1 : decode cX9_marks 1 = .ok (.getfield 9, 3) := dk_180 0 9 (dk_at dksX9_marks_0 1 rfl rfl)
theorem dX9_marks_4 : decode cX9_marks 4 = .ok (.aload_n 0, 1) := dk_42 (dk_at dksX9_marks_0 4 rfl rfl)
theorem dX9_marks_5 : decode cX9_marks 5 = .ok (.getfield 15, 3) := dk_180 0 15 (dk_at dksX9_marks_0 5 rfl rfl)
theorem dX9_marks_8 : decode cX9_marks 8 = .ok (.invokevirtual 53, 3) := dk_182 0 53 (dk_at dksX9_marks_0 8 rfl rfl)
theorem dX9_marks_11 : decode cX9_marks 11 = .ok (.areturn, 1) := dk_176 (dk_at dksX9_marks_0 11 rfl rfl)
abbrev cX9_plus : ByteArray := prog_10_method_5_code
def yX9_plus : MethodName := ⟨RX9, "plus", "(LTroupeSums$Sum;I)LTroupeSums$Sum;"⟩
def dkwX9_plus_2 : List UInt8 := [42, 180, 0, 9, 45, 183, 0, 50, 176]
abbrev dktX9_plus_2 : List UInt8 := dkwX9_plus_2 ++ []
def dkwX9_plus_1 : List UInt8 := [92, 47, 28, 133, 43, 180, 0, 15, 21, 4, 47, 105, 97, 80, 132, 4, 1, 167, 255, 229, 187, 0, 10, 89]
abbrev dktX9_plus_1 : List UInt8 := dkwX9_plus_1 ++ dktX9_plus_2
def dkwX9_plus_0 : List UInt8 := [42, 180, 0, 15, 182, 0, 57, 192, 0, 58, 78, 3, 54, 4, 21, 4, 45, 190, 162, 0, 26, 45, 21, 4]
abbrev dktX9_plus_0 : List UInt8 := dkwX9_plus_0 ++ dktX9_plus_1
theorem dksX9_plus_0 : cX9_plus.data.toList.drop 0 = dktX9_plus_0 := by decide +kernel
theorem dksX9_plus_1 : cX9_plus.data.toList.drop 24 = dktX9_plus_1 := dk_seg dksX9_plus_0 24 rfl rfl
theorem dksX9_plus_2 : cX9_plus.data.toList.drop 48 = dktX9_plus_2 := dk_seg dksX9_plus_1 24 rfl rfl
theorem dX9_plus_0 : decode cX9_plus 0 = .ok (.aload_n 0, 1) := dk_42 (dk_at dksX9_plus_0 0 rfl rfl)
theorem dX9_plus_1 : decode cX9_plus 1 = .ok (.getfield 15, 3) := dk_180 0 15 (dk_at dksX9_plus_0 1 rfl rfl)
theorem dX9_plus_4 : decode cX9_plus 4 = .ok (.invokevirtual 57, 3) := dk_182 0 57 (dk_at dksX9_plus_0 4 rfl rfl)
theorem dX9_plus_7 : decode cX9_plus 7 = .ok (.checkcast 58, 3) := dk_192 0 58 (dk_at dksX9_plus_0 7 rfl rfl)
theorem dX9_plus_10 : decode cX9_plus 10 = .ok (.astore_n 3, 1) := dk_78 (dk_at dksX9_plus_0 10 rfl rfl)
theorem dX9_plus_11 : decode cX9_plus 11 = .ok (.iconst 0, 1) := dk_3 (dk_at dksX9_plus_0 11 rfl rfl)
theorem dX9_plus_12 : decode cX9_plus 12 = .ok (.istore 4, 2) := dk_54 4 (dk_at dksX9_plus_0 12 rfl rfl)
theorem dX9_plus_14 : decode cX9_plus 14 = .ok (.iload 4, 2) := dk_21 4 (dk_at dksX9_plus_0 14 rfl rfl)
theorem dX9_plus_16 : decode cX9_plus 16 = .ok (.aload_n 3, 1) := dk_45 (dk_at dksX9_plus_0 16 rfl rfl)
theorem dX9_plus_17 : decode cX9_plus 17 = .ok (.arraylength, 1) := dk_190 (dk_at dksX9_plus_0 17 rfl rfl)
theorem dX9_plus_18 : decode cX9_plus 18 = .ok (.if_icmp .ge 26, 3) := dk_162 0 26 (dk_at dksX9_plus_0 18 rfl rfl)
theorem dX9_plus_21 : decode cX9_plus 21 = .ok (.aload_n 3, 1) := dk_45 (dk_at dksX9_plus_0 21 rfl rfl)
theorem dX9_plus_22 : decode cX9_plus 22 = .ok (.iload 4, 2) := dk_21 4 (dk_at dksX9_plus_0 22 rfl rfl)
theorem dX9_plus_24 : decode cX9_plus 24 = .ok (.dup2, 1) := dk_92 (dk_at dksX9_plus_1 0 rfl rfl)
theorem dX9_plus_25 : decode cX9_plus 25 = .ok (.laload, 1) := dk_47 (dk_at dksX9_plus_1 1 rfl rfl)
theorem dX9_plus_26 : decode cX9_plus 26 = .ok (.iload_n 2, 1) := dk_28 (dk_at dksX9_plus_1 2 rfl rfl)
theorem dX9_plus_27 : decode cX9_plus 27 = .ok (.i2l, 1) := dk_133 (dk_at dksX9_plus_1 3 rfl rfl)
theorem dX9_plus_28 : decode cX9_plus 28 = .ok (.aload_n 1, 1) := dk_43 (dk_at dksX9_plus_1 4 rfl rfl)
theorem dX9_plus_29 : decode cX9_plus 29 = .ok (.getfield 15, 3) := dk_180 0 15 (dk_at dksX9_plus_1 5 rfl rfl)
theorem dX9_plus_32 : decode cX9_plus 32 = .ok (.iload 4, 2) := dk_21 4 (dk_at dksX9_plus_1 8 rfl rfl)
theorem dX9_plus_34 : decode cX9_plus 34 = .ok (.laload, 1) := dk_47 (dk_at dksX9_plus_1 10 rfl rfl)
theorem dX9_plus_35 : decode cX9_plus 35 = .ok (.lmul, 1) := dk_105 (dk_at dksX9_plus_1 11 rfl rfl)
theorem dX9_plus_36 : decode cX9_plus 36 = .ok (.ladd, 1) := dk_97 (dk_at dksX9_plus_1 12 rfl rfl)
theorem dX9_plus_37 : decode cX9_plus 37 = .ok (.lastore, 1) := dk_80 (dk_at dksX9_plus_1 13 rfl rfl)
theorem dX9_plus_38 : decode cX9_plus 38 = .ok (.iinc 4 1, 3) := dk_132 4 1 (dk_at dksX9_plus_1 14 rfl rfl)
theorem dX9_plus_41 : decode cX9_plus 41 = .ok (.goto (-27), 3) := dk_167 255 229 (dk_at dksX9_plus_1 17 rfl rfl)
theorem dX9_plus_44 : decode cX9_plus 44 = .ok (.new 10, 3) := dk_187 0 10 (dk_at dksX9_plus_1 20 rfl rfl)
theorem dX9_plus_47 : decode cX9_plus 47 = .ok (.dup, 1) := dk_89 (dk_at dksX9_plus_1 23 rfl rfl)
theorem dX9_plus_48 : decode cX9_plus 48 = .ok (.aload_n 0, 1) := dk_42 (dk_at dksX9_plus_2 0 rfl rfl)
theorem dX9_plus_49 : decode cX9_plus 49 = .ok (.getfield 9, 3) := dk_180 0 9 (dk_at dksX9_plus_2 1 rfl rfl)
theorem dX9_plus_52 : decode cX9_plus 52 = .ok (.aload_n 3, 1) := dk_45 (dk_at dksX9_plus_2 4 rfl rfl)
theorem dX9_plus_53 : decode cX9_plus 53 = .ok (.invokespecial 50, 3) := dk_183 0 50 (dk_at dksX9_plus_2 5 rfl rfl)
theorem dX9_plus_56 : decode cX9_plus 56 = .ok (.areturn, 1) := dk_176 (dk_at dksX9_plus_2 8 rfl rfl)
abbrev cX9_power : ByteArray := prog_10_method_7_code
def yX9_power : MethodName := ⟨RX9, "power", "(I)LTroupeSums$Sum;"⟩
def dkwX9_power_1 : List UInt8 := [62, 29, 27, 162, 0, 15, 44, 42, 182, 0, 75, 77, 132, 3, 1, 167, 255, 242, 44, 176]
abbrev dktX9_power_1 : List UInt8 := dkwX9_power_1 ++ []
def dkwX9_power_0 : List UInt8 := [42, 180, 0, 9, 42, 180, 0, 9, 180, 0, 38, 185, 0, 44, 1, 0, 4, 100, 10, 184, 0, 71, 77, 3]
abbrev dktX9_power_0 : List UInt8 := dkwX9_power_0 ++ dktX9_power_1
theorem dksX9_power_0 : cX9_power.data.toList.drop 0 = dktX9_power_0 := by decide +kernel
theorem dksX9_power_1 : cX9_power.data.toList.drop 24 = dktX9_power_1 := dk_seg dksX9_power_0 24 rfl rfl
theorem dX9_power_0 : decode cX9_power 0 = .ok (.aload_n 0, 1) := dk_42 (dk_at dksX9_power_0 0 rfl rfl)
theorem dX9_power_1 : decode cX9_power 1 = .ok (.getfield 9, 3) := dk_180 0 9 (dk_at dksX9_power_0 1 rfl rfl)
theorem dX9_power_4 : decode cX9_power 4 = .ok (.aload_n 0, 1) := dk_42 (dk_at dksX9_power_0 4 rfl rfl)
theorem dX9_power_5 : decode cX9_power 5 = .ok (.getfield 9, 3) := dk_180 0 9 (dk_at dksX9_power_0 5 rfl rfl)
theorem dX9_power_8 : decode cX9_power 8 = .ok (.getfield 38, 3) := dk_180 0 38 (dk_at dksX9_power_0 8 rfl rfl)
theorem dX9_power_11 : decode cX9_power 11 = .ok (.invokeinterface 44 1, 5) := by decide +kernel
theorem dX9_power_16 : decode cX9_power 16 = .ok (.iconst 1, 1) := dk_4 (dk_at dksX9_power_0 16 rfl rfl)
theorem dX9_power_17 : decode cX9_power 17 = .ok (.isub, 1) := dk_100 (dk_at dksX9_power_0 17 rfl rfl)
theorem dX9_power_18 : decode cX9_power 18 = .ok (.lconst 1, 1) := dk_10 (dk_at dksX9_power_0 18 rfl rfl)
theorem dX9_power_19 : decode cX9_power 19 = .ok (.invokestatic 71, 3) := dk_184 0 71 (dk_at dksX9_power_0 19 rfl rfl)
theorem dX9_power_22 : decode cX9_power 22 = .ok (.astore_n 2, 1) := dk_77 (dk_at dksX9_power_0 22 rfl rfl)
theorem dX9_power_23 : decode cX9_power 23 = .ok (.iconst 0, 1) := dk_3 (dk_at dksX9_power_0 23 rfl rfl)
theorem dX9_power_24 : decode cX9_power 24 = .ok (.istore_n 3, 1) := dk_62 (dk_at dksX9_power_1 0 rfl rfl)
theorem dX9_power_25 : decode cX9_power 25 = .ok (.iload_n 3, 1) := dk_29 (dk_at dksX9_power_1 1 rfl rfl)
theorem dX9_power_26 : decode cX9_power 26 = .ok (.iload_n 1, 1) := dk_27 (dk_at dksX9_power_1 2 rfl rfl)
theorem dX9_power_27 : decode cX9_power 27 = .ok (.if_icmp .ge 15, 3) := dk_162 0 15 (dk_at dksX9_power_1 3 rfl rfl)
theorem dX9_power_30 : decode cX9_power 30 = .ok (.aload_n 2, 1) := dk_44 (dk_at dksX9_power_1 6 rfl rfl)
theorem dX9_power_31 : decode cX9_power 31 = .ok (.aload_n 0, 1) := dk_42 (dk_at dksX9_power_1 7 rfl rfl)
theorem dX9_power_32 : decode cX9_power 32 = .ok (.invokevirtual 75, 3) := dk_182 0 75 (dk_at dksX9_power_1 8 rfl rfl)
theorem dX9_power_35 : decode cX9_power 35 = .ok (.astore_n 2, 1) := dk_77 (dk_at dksX9_power_1 11 rfl rfl)
theorem dX9_power_36 : decode cX9_power 36 = .ok (.iinc 3 1, 3) := dk_132 3 1 (dk_at dksX9_power_1 12 rfl rfl)
theorem dX9_power_39 : decode cX9_power 39 = .ok (.goto (-14), 3) := dk_167 255 242 (dk_at dksX9_power_1 15 rfl rfl)
theorem dX9_power_42 : decode cX9_power 42 = .ok (.aload_n 2, 1) := dk_44 (dk_at dksX9_power_1 18 rfl rfl)
theorem dX9_power_43 : decode cX9_power 43 = .ok (.areturn, 1) := dk_176 (dk_at dksX9_power_1 19 rfl rfl)
abbrev cX9_times : ByteArray := prog_10_method_6_code
def yX9_times : MethodName := ⟨RX9, "times", "(LTroupeSums$Sum;)LTroupeSums$Sum;"⟩
def dkwX9_times_4 : List UInt8 := [183, 0, 50, 176]
abbrev dktX9_times_4 : List UInt8 := dkwX9_times_4 ++ []
def dkwX9_times_3 : List UInt8 := [132, 4, 1, 167, 255, 196, 187, 0, 10, 89, 42, 180, 0, 9, 42, 180, 0, 9, 44, 182, 0, 68]
abbrev dktX9_times_3 : List UInt8 := dkwX9_times_3 ++ dktX9_times_4
def dkwX9_times_2 : List UInt8 := [158, 0, 11, 187, 0, 35, 89, 183, 0, 37, 191, 44, 21, 4, 92, 47, 45, 21, 4, 47, 105, 80]
abbrev dktX9_times_2 : List UInt8 := dkwX9_times_2 ++ dktX9_times_3
def dkwX9_times_1 : List UInt8 := [9, 148, 153, 0, 33, 44, 21, 4, 47, 184, 0, 62, 20, 0, 29, 45, 21, 4, 47, 184, 0, 62, 109, 148]
abbrev dktX9_times_1 : List UInt8 := dkwX9_times_1 ++ dktX9_times_2
def dkwX9_times_0 : List UInt8 := [42, 182, 0, 23, 77, 43, 182, 0, 23, 78, 3, 54, 4, 21, 4, 44, 190, 162, 0, 59, 45, 21, 4, 47]
abbrev dktX9_times_0 : List UInt8 := dkwX9_times_0 ++ dktX9_times_1
theorem dksX9_times_0 : cX9_times.data.toList.drop 0 = dktX9_times_0 := by decide +kernel
theorem dksX9_times_1 : cX9_times.data.toList.drop 24 = dktX9_times_1 := dk_seg dksX9_times_0 24 rfl rfl
theorem dksX9_times_2 : cX9_times.data.toList.drop 48 = dktX9_times_2 := dk_seg dksX9_times_1 24 rfl rfl
theorem dksX9_times_3 : cX9_times.data.toList.drop 70 = dktX9_times_3 := dk_seg dksX9_times_2 22 rfl rfl
theorem dksX9_times_4 : cX9_times.data.toList.drop 92 = dktX9_times_4 := dk_seg dksX9_times_3 22 rfl rfl
theorem dX9_times_0 : decode cX9_times 0 = .ok (.aload_n 0, 1) := dk_42 (dk_at dksX9_times_0 0 rfl rfl)
theorem dX9_times_1 : decode cX9_times 1 = .ok (.invokevirtual 23, 3) := dk_182 0 23 (dk_at dksX9_times_0 1 rfl rfl)
theorem dX9_times_4 : decode cX9_times 4 = .ok (.astore_n 2, 1) := dk_77 (dk_at dksX9_times_0 4 rfl rfl)
theorem dX9_times_5 : decode cX9_times 5 = .ok (.aload_n 1, 1) := dk_43 (dk_at dksX9_times_0 5 rfl rfl)
theorem dX9_times_6 : decode cX9_times 6 = .ok (.invokevirtual 23, 3) := dk_182 0 23 (dk_at dksX9_times_0 6 rfl rfl)
theorem dX9_times_9 : decode cX9_times 9 = .ok (.astore_n 3, 1) := dk_78 (dk_at dksX9_times_0 9 rfl rfl)
theorem dX9_times_10 : decode cX9_times 10 = .ok (.iconst 0, 1) := dk_3 (dk_at dksX9_times_0 10 rfl rfl)
theorem dX9_times_11 : decode cX9_times 11 = .ok (.istore 4, 2) := dk_54 4 (dk_at dksX9_times_0 11 rfl rfl)
theorem dX9_times_13 : decode cX9_times 13 = .ok (.iload 4, 2) := dk_21 4 (dk_at dksX9_times_0 13 rfl rfl)
theorem dX9_times_15 : decode cX9_times 15 = .ok (.aload_n 2, 1) := dk_44 (dk_at dksX9_times_0 15 rfl rfl)
theorem dX9_times_16 : decode cX9_times 16 = .ok (.arraylength, 1) := dk_190 (dk_at dksX9_times_0 16 rfl rfl)
theorem dX9_times_17 : decode cX9_times 17 = .ok (.if_icmp .ge 59, 3) := dk_162 0 59 (dk_at dksX9_times_0 17 rfl rfl)
theorem dX9_times_20 : decode cX9_times 20 = .ok (.aload_n 3, 1) := dk_45 (dk_at dksX9_times_0 20 rfl rfl)
theorem dX9_times_21 : decode cX9_times 21 = .ok (.iload 4, 2) := dk_21 4 (dk_at dksX9_times_0 21 rfl rfl)
theorem dX9_times_23 : decode cX9_times 23 = .ok (.laload, 1) := dk_47 (dk_at dksX9_times_0 23 rfl rfl)
theorem dX9_times_24 : decode cX9_times 24 = .ok (.lconst 0, 1) := dk_9 (dk_at dksX9_times_1 0 rfl rfl)
theorem dX9_times_25 : decode cX9_times 25 = .ok (.lcmp, 1) := dk_148 (dk_at dksX9_times_1 1 rfl rfl)
theorem dX9_times_26 : decode cX9_times 26 = .ok (.ifCond .eq 33, 3) := dk_153 0 33 (dk_at dksX9_times_1 2 rfl rfl)
theorem dX9_times_29 : decode cX9_times 29 = .ok (.aload_n 2, 1) := dk_44 (dk_at dksX9_times_1 5 rfl rfl)
theorem dX9_times_30 : decode cX9_times 30 = .ok (.iload 4, 2) := dk_21 4 (dk_at dksX9_times_1 6 rfl rfl)
theorem dX9_times_32 : decode cX9_times 32 = .ok (.laload, 1) := dk_47 (dk_at dksX9_times_1 8 rfl rfl)
theorem dX9_times_33 : decode cX9_times 33 = .ok (.invokestatic 62, 3) := dk_184 0 62 (dk_at dksX9_times_1 9 rfl rfl)
theorem dX9_times_36 : decode cX9_times 36 = .ok (.ldc2_w 29, 3) := dk_20 0 29 (dk_at dksX9_times_1 12 rfl rfl)
theorem dX9_times_39 : decode cX9_times 39 = .ok (.aload_n 3, 1) := dk_45 (dk_at dksX9_times_1 15 rfl rfl)
theorem dX9_times_40 : decode cX9_times 40 = .ok (.iload 4, 2) := dk_21 4 (dk_at dksX9_times_1 16 rfl rfl)
theorem dX9_times_42 : decode cX9_times 42 = .ok (.laload, 1) := dk_47 (dk_at dksX9_times_1 18 rfl rfl)
theorem dX9_times_43 : decode cX9_times 43 = .ok (.invokestatic 62, 3) := dk_184 0 62 (dk_at dksX9_times_1 19 rfl rfl)
theorem dX9_times_46 : decode cX9_times 46 = .ok (.ldiv, 1) := dk_109 (dk_at dksX9_times_1 22 rfl rfl)
theorem dX9_times_47 : decode cX9_times 47 = .ok (.lcmp, 1) := dk_148 (dk_at dksX9_times_1 23 rfl rfl)
theorem dX9_times_48 : decode cX9_times 48 = .ok (.ifCond .le 11, 3) := dk_158 0 11 (dk_at dksX9_times_2 0 rfl rfl)
theorem dX9_times_51 : decode cX9_times 51 = .ok (.new 35, 3) := dk_187 0 35 (dk_at dksX9_times_2 3 rfl rfl)
theorem dX9_times_54 : decode cX9_times 54 = .ok (.dup, 1) := dk_89 (dk_at dksX9_times_2 6 rfl rfl)
theorem dX9_times_55 : decode cX9_times 55 = .ok (.invokespecial 37, 3) := dk_183 0 37 (dk_at dksX9_times_2 7 rfl rfl)
theorem dX9_times_58 : decode cX9_times 58 = .ok (.athrow, 1) := dk_191 (dk_at dksX9_times_2 10 rfl rfl)
theorem dX9_times_59 : decode cX9_times 59 = .ok (.aload_n 2, 1) := dk_44 (dk_at dksX9_times_2 11 rfl rfl)
theorem dX9_times_60 : decode cX9_times 60 = .ok (.iload 4, 2) := dk_21 4 (dk_at dksX9_times_2 12 rfl rfl)
theorem dX9_times_62 : decode cX9_times 62 = .ok (.dup2, 1) := dk_92 (dk_at dksX9_times_2 14 rfl rfl)
theorem dX9_times_63 : decode cX9_times 63 = .ok (.laload, 1) := dk_47 (dk_at dksX9_times_2 15 rfl rfl)
theorem dX9_times_64 : decode cX9_times 64 = .ok (.aload_n 3, 1) := dk_45 (dk_at dksX9_times_2 16 rfl rfl)
theorem dX9_times_65 : decode cX9_times 65 = .ok (.iload 4, 2) := dk_21 4 (dk_at dksX9_times_2 17 rfl rfl)
theorem dX9_times_67 : decode cX9_times 67 = .ok (.laload, 1) := dk_47 (dk_at dksX9_times_2 19 rfl rfl)
theorem dX9_times_68 : decode cX9_times 68 = .ok (.lmul, 1) := dk_105 (dk_at dksX9_times_2 20 rfl rfl)
theorem dX9_times_69 : decode cX9_times 69 = .ok (.lastore, 1) := dk_80 (dk_at dksX9_times_2 21 rfl rfl)
theorem dX9_times_70 : decode cX9_times 70 = .ok (.iinc 4 1, 3) := dk_132 4 1 (dk_at dksX9_times_3 0 rfl rfl)
theorem dX9_times_73 : decode cX9_times 73 = .ok (.goto (-60), 3) := dk_167 255 196 (dk_at dksX9_times_3 3 rfl rfl)
theorem dX9_times_76 : decode cX9_times 76 = .ok (.new 10, 3) := dk_187 0 10 (dk_at dksX9_times_3 6 rfl rfl)
theorem dX9_times_79 : decode cX9_times 79 = .ok (.dup, 1) := dk_89 (dk_at dksX9_times_3 9 rfl rfl)
theorem dX9_times_80 : decode cX9_times 80 = .ok (.aload_n 0, 1) := dk_42 (dk_at dksX9_times_3 10 rfl rfl)
theorem dX9_times_81 : decode cX9_times 81 = .ok (.getfield 9, 3) := dk_180 0 9 (dk_at dksX9_times_3 11 rfl rfl)
theorem dX9_times_84 : decode cX9_times 84 = .ok (.aload_n 0, 1) := dk_42 (dk_at dksX9_times_3 14 rfl rfl)
theorem dX9_times_85 : decode cX9_times 85 = .ok (.getfield 9, 3) := dk_180 0 9 (dk_at dksX9_times_3 15 rfl rfl)
theorem dX9_times_88 : decode cX9_times 88 = .ok (.aload_n 2, 1) := dk_44 (dk_at dksX9_times_3 18 rfl rfl)
theorem dX9_times_89 : decode cX9_times 89 = .ok (.invokevirtual 68, 3) := dk_182 0 68 (dk_at dksX9_times_3 19 rfl rfl)
theorem dX9_times_92 : decode cX9_times 92 = .ok (.invokespecial 50, 3) := dk_183 0 50 (dk_at dksX9_times_4 0 rfl rfl)
theorem dX9_times_95 : decode cX9_times 95 = .ok (.areturn, 1) := dk_176 (dk_at dksX9_times_4 3 rfl rfl)
theorem q177 : (Jvm.Cond.initialized "TroupeSums$Sum") ∈ lw_all := lw_g (lw_at lw_m1 44 rfl) rfl
theorem q837 : (Jvm.Cond.selects "TroupeSums$Sum" ({ cls := "java/lang/Object", name := "getClass", desc := "()Ljava/lang/Class;" } : Jvm.MethodName) ({ cls := "java/lang/Object", name := "getClass", desc := "()Ljava/lang/Class;" } : Jvm.MethodName)) ∈ lw_all := lw_g (lw_at lw_m3 224 rfl) rfl
theorem q969 : (Jvm.Cond.selects "TroupeSums$Sum" ({ cls := "java/lang/Object", name := "equals", desc := "(Ljava/lang/Object;)Z" } : Jvm.MethodName) ({ cls := "java/lang/Object", name := "equals", desc := "(Ljava/lang/Object;)Z" } : Jvm.MethodName)) ∈ lw_all := lw_g (lw_at lw_m4 116 rfl) rfl
theorem q1193 : (Jvm.Cond.fieldLinkNest "TroupeSums$Sum" (38 : Nat) "TroupeSums$Group" "sorts" "Ljava/util/List;" "TroupeSums") ∈ lw_tbl := lw_at lw_m5 100 rfl
theorem q1775 : (Jvm.Cond.static ({ cls := "TroupeSums$Sum", name := "of", desc := "(LTroupeSums$Group;IJ)LTroupeSums$Sum;" } : Jvm.MethodName)) ∈ lw_all := lw_g (lw_at lw_m7 202 rfl) rfl
theorem q1776 : (Jvm.Cond.code ({ cls := "TroupeSums$Sum", name := "of", desc := "(LTroupeSums$Group;IJ)LTroupeSums$Sum;" } : Jvm.MethodName) prog_10_method_3_code (5 : Nat) (Option.some (Jvm.ClassFile.FieldType.object "TroupeSums$Sum"))) ∈ lw_all := lw_g (lw_at lw_m7 203 rfl) rfl
theorem q1777 : (Jvm.Cond.interfaceEntry "TroupeSums$Sum" (44 : Nat)) ∈ lw_tbl := lw_at lw_m7 204 rfl
theorem q1778 : (Jvm.Cond.methodLink "TroupeSums$Sum" (44 : Nat) ({ cls := "java/util/List", name := "size", desc := "()I" } : Jvm.MethodName)) ∈ lw_all := lw_g (lw_at lw_m7 205 rfl) rfl
theorem q1779 : (Jvm.Cond.classLink "TroupeSums$Sum" (10 : Nat) "TroupeSums$Sum") ∈ lw_all := lw_g (lw_at lw_m7 206 rfl) rfl
theorem q1780 : (Jvm.Cond.instantiable "TroupeSums$Sum" (2 : Nat)) ∈ lw_all := lw_g (lw_at lw_m7 207 rfl) rfl
theorem q1781 : (Jvm.Cond.methodLink "TroupeSums$Sum" (50 : Nat) ({ cls := "TroupeSums$Sum", name := "<init>", desc := "(LTroupeSums$Group;[J)V" } : Jvm.MethodName)) ∈ lw_all := lw_g (lw_at lw_m7 208 rfl) rfl
theorem q1782 : (Jvm.Cond.instanceMethod ({ cls := "TroupeSums$Sum", name := "<init>", desc := "(LTroupeSums$Group;[J)V" } : Jvm.MethodName)) ∈ lw_all := lw_g (lw_at lw_m7 209 rfl) rfl
theorem q1783 : (Jvm.Cond.code ({ cls := "TroupeSums$Sum", name := "<init>", desc := "(LTroupeSums$Group;[J)V" } : Jvm.MethodName) prog_10_method_1_code (8 : Nat) (Option.none : Option Jvm.ClassFile.FieldType)) ∈ lw_all := lw_g (lw_at lw_m7 210 rfl) rfl
theorem q1784 : (Jvm.Cond.methodLink "TroupeSums$Sum" (3 : Nat) ({ cls := "java/lang/Object", name := "<init>", desc := "()V" } : Jvm.MethodName)) ∈ lw_all := lw_g (lw_at lw_m7 211 rfl) rfl
theorem q1785 : (Jvm.Cond.methodLink "TroupeSums$Sum" (19 : Nat) ({ cls := "TroupeSums$Sum", name := "bound", desc := "(J)V" } : Jvm.MethodName)) ∈ lw_all := lw_g (lw_at lw_m7 212 rfl) rfl
theorem q1786 : (Jvm.Cond.static ({ cls := "TroupeSums$Sum", name := "bound", desc := "(J)V" } : Jvm.MethodName)) ∈ lw_all := lw_g (lw_at lw_m7 213 rfl) rfl
theorem q1787 : (Jvm.Cond.code ({ cls := "TroupeSums$Sum", name := "bound", desc := "(J)V" } : Jvm.MethodName) prog_10_method_2_code (2 : Nat) (Option.none : Option Jvm.ClassFile.FieldType)) ∈ lw_all := lw_g (lw_at lw_m7 214 rfl) rfl
theorem q1788 : (Jvm.Cond.constantLong "TroupeSums$Sum" (27 : Nat) (-1000000000000 : Int64)) ∈ lw_all := lw_g (lw_at lw_m7 215 rfl) rfl
theorem q1789 : (Jvm.Cond.constantLong "TroupeSums$Sum" (29 : Nat) (1000000000000 : Int64)) ∈ lw_all := lw_g (lw_at lw_m7 216 rfl) rfl
theorem q1790 : (Jvm.Cond.methodLinkNest "TroupeSums$Sum" (31 : Nat) ({ cls := "TroupeSums", name := "isIn", desc := "(JJJ)Z" } : Jvm.MethodName) "TroupeSums") ∈ lw_tbl := lw_at lw_m7 217 rfl
theorem q1793 : (Jvm.Cond.classLink "TroupeSums$Sum" (35 : Nat) "TroupeSums$TooGreat") ∈ lw_all := lw_g (lw_at lw_m7 220 rfl) rfl
theorem q1802 : (Jvm.Cond.methodLink "TroupeSums$Sum" (37 : Nat) ({ cls := "TroupeSums$TooGreat", name := "<init>", desc := "()V" } : Jvm.MethodName)) ∈ lw_all := lw_g (lw_at lw_m7 229 rfl) rfl
theorem q1808 : (Jvm.Cond.methodLink "TroupeSums$Sum" (23 : Nat) ({ cls := "TroupeSums$Sum", name := "marks", desc := "()[J" } : Jvm.MethodName)) ∈ lw_all := lw_g (lw_at lw_m7 235 rfl) rfl
theorem q1809 : (Jvm.Cond.instanceMethod ({ cls := "TroupeSums$Sum", name := "marks", desc := "()[J" } : Jvm.MethodName)) ∈ lw_all := lw_g (lw_at lw_m7 236 rfl) rfl
theorem q1810 : (Jvm.Cond.selects "TroupeSums$Sum" ({ cls := "TroupeSums$Sum", name := "marks", desc := "()[J" } : Jvm.MethodName) ({ cls := "TroupeSums$Sum", name := "marks", desc := "()[J" } : Jvm.MethodName)) ∈ lw_all := lw_g (lw_at lw_m7 237 rfl) rfl
theorem q1811 : (Jvm.Cond.code ({ cls := "TroupeSums$Sum", name := "marks", desc := "()[J" } : Jvm.MethodName) prog_10_method_4_code (1 : Nat) (Option.some (Jvm.ClassFile.FieldType.array Jvm.ClassFile.FieldType.long))) ∈ lw_all := lw_g (lw_at lw_m7 238 rfl) rfl
theorem q1812 : (Jvm.Cond.methodLink "TroupeSums$Sum" (53 : Nat) ({ cls := "TroupeSums$Group", name := "marksOf", desc := "([J)[J" } : Jvm.MethodName)) ∈ lw_all := lw_g (lw_at lw_m7 239 rfl) rfl
theorem q1816 : (Jvm.Cond.fieldLink "TroupeSums$Sum" (9 : Nat) "TroupeSums$Sum" "group" "LTroupeSums$Group;") ∈ lw_all := lw_g (lw_at lw_m8 3 rfl) rfl
theorem q1817 : (Jvm.Cond.fieldLink "TroupeSums$Sum" (15 : Nat) "TroupeSums$Sum" "numbers" "[J") ∈ lw_all := lw_g (lw_at lw_m8 4 rfl) rfl
theorem q1819 : (Jvm.Cond.laysFinal "TroupeSums$Sum" "TroupeSums$Sum" "group" "LTroupeSums$Group;") ∈ lw_all := lw_g (lw_at lw_m8 6 rfl) rfl
theorem q1820 : (Jvm.Cond.soleField "TroupeSums$Sum" "group") ∈ lw_all := lw_g (lw_at lw_m8 7 rfl) rfl
theorem q1821 : (Jvm.Cond.laysFinal "TroupeSums$Sum" "TroupeSums$Sum" "numbers" "[J") ∈ lw_all := lw_g (lw_at lw_m8 8 rfl) rfl
theorem q1822 : (Jvm.Cond.soleField "TroupeSums$Sum" "numbers") ∈ lw_all := lw_g (lw_at lw_m8 9 rfl) rfl
theorem q1823 : (Jvm.Cond.superclass "TroupeSums$Sum" "java/lang/Object") ∈ lw_all := lw_g (lw_at lw_m8 10 rfl) rfl
theorem q1825 : (Jvm.Cond.instanceMethod ({ cls := "TroupeSums$Sum", name := "plus", desc := "(LTroupeSums$Sum;I)LTroupeSums$Sum;" } : Jvm.MethodName)) ∈ lw_all := lw_g (lw_at lw_m8 12 rfl) rfl
theorem q1826 : (Jvm.Cond.selects "TroupeSums$Sum" ({ cls := "TroupeSums$Sum", name := "plus", desc := "(LTroupeSums$Sum;I)LTroupeSums$Sum;" } : Jvm.MethodName) ({ cls := "TroupeSums$Sum", name := "plus", desc := "(LTroupeSums$Sum;I)LTroupeSums$Sum;" } : Jvm.MethodName)) ∈ lw_all := lw_g (lw_at lw_m8 13 rfl) rfl
theorem q1827 : (Jvm.Cond.code ({ cls := "TroupeSums$Sum", name := "plus", desc := "(LTroupeSums$Sum;I)LTroupeSums$Sum;" } : Jvm.MethodName) prog_10_method_5_code (5 : Nat) (Option.some (Jvm.ClassFile.FieldType.object "TroupeSums$Sum"))) ∈ lw_all := lw_g (lw_at lw_m8 14 rfl) rfl
theorem q1828 : (Jvm.Cond.methodLink "TroupeSums$Sum" (57 : Nat) ({ cls := "[J", name := "clone", desc := "()Ljava/lang/Object;" } : Jvm.MethodName)) ∈ lw_all := lw_g (lw_at lw_m8 15 rfl) rfl
theorem q1832 : (Jvm.Cond.classLink "TroupeSums$Sum" (58 : Nat) "[J") ∈ lw_all := lw_g (lw_at lw_m8 19 rfl) rfl
theorem q1848 : (Jvm.Cond.instanceMethod ({ cls := "TroupeSums$Sum", name := "power", desc := "(I)LTroupeSums$Sum;" } : Jvm.MethodName)) ∈ lw_all := lw_g (lw_at lw_m8 35 rfl) rfl
theorem q1849 : (Jvm.Cond.selects "TroupeSums$Sum" ({ cls := "TroupeSums$Sum", name := "power", desc := "(I)LTroupeSums$Sum;" } : Jvm.MethodName) ({ cls := "TroupeSums$Sum", name := "power", desc := "(I)LTroupeSums$Sum;" } : Jvm.MethodName)) ∈ lw_all := lw_g (lw_at lw_m8 36 rfl) rfl
theorem q1850 : (Jvm.Cond.code ({ cls := "TroupeSums$Sum", name := "power", desc := "(I)LTroupeSums$Sum;" } : Jvm.MethodName) prog_10_method_7_code (4 : Nat) (Option.some (Jvm.ClassFile.FieldType.object "TroupeSums$Sum"))) ∈ lw_all := lw_g (lw_at lw_m8 37 rfl) rfl
theorem q1851 : (Jvm.Cond.methodLink "TroupeSums$Sum" (71 : Nat) ({ cls := "TroupeSums$Sum", name := "of", desc := "(LTroupeSums$Group;IJ)LTroupeSums$Sum;" } : Jvm.MethodName)) ∈ lw_all := lw_g (lw_at lw_m8 38 rfl) rfl
theorem q1852 : (Jvm.Cond.methodLink "TroupeSums$Sum" (75 : Nat) ({ cls := "TroupeSums$Sum", name := "times", desc := "(LTroupeSums$Sum;)LTroupeSums$Sum;" } : Jvm.MethodName)) ∈ lw_all := lw_g (lw_at lw_m8 39 rfl) rfl
theorem q1853 : (Jvm.Cond.instanceMethod ({ cls := "TroupeSums$Sum", name := "times", desc := "(LTroupeSums$Sum;)LTroupeSums$Sum;" } : Jvm.MethodName)) ∈ lw_all := lw_g (lw_at lw_m8 40 rfl) rfl
theorem q1854 : (Jvm.Cond.selects "TroupeSums$Sum" ({ cls := "TroupeSums$Sum", name := "times", desc := "(LTroupeSums$Sum;)LTroupeSums$Sum;" } : Jvm.MethodName) ({ cls := "TroupeSums$Sum", name := "times", desc := "(LTroupeSums$Sum;)LTroupeSums$Sum;" } : Jvm.MethodName)) ∈ lw_all := lw_g (lw_at lw_m8 41 rfl) rfl
theorem q1855 : (Jvm.Cond.code ({ cls := "TroupeSums$Sum", name := "times", desc := "(LTroupeSums$Sum;)LTroupeSums$Sum;" } : Jvm.MethodName) prog_10_method_6_code (5 : Nat) (Option.some (Jvm.ClassFile.FieldType.object "TroupeSums$Sum"))) ∈ lw_all := lw_g (lw_at lw_m8 42 rfl) rfl
theorem q1856 : (Jvm.Cond.methodLink "TroupeSums$Sum" (62 : Nat) ({ cls := "java/lang/Math", name := "abs", desc := "(J)J" } : Jvm.MethodName)) ∈ lw_all := lw_g (lw_at lw_m8 43 rfl) rfl
theorem q1859 : (Jvm.Cond.methodLink "TroupeSums$Sum" (68 : Nat) ({ cls := "TroupeSums$Group", name := "solved", desc := "([J)[J" } : Jvm.MethodName)) ∈ lw_all := lw_g (lw_at lw_m8 46 rfl) rfl
theorem q3204 : (Jvm.Cond.castable "TroupeSums$Sum" "java/lang/Object") ∈ lw_tbl := lw_at lw_m13 191 rfl
theorem in_X9 : ∀ w ∈ wsX90, w ∈ lw_all := lw_in wsX90 [1819, 1821] (by decide +kernel) (by decide +kernel)
/-! TroupeSums$TooGreat -/
set_option maxRecDepth 100000
def RX10 : String := "TroupeSums$TooGreat"
def TX10 : u_T := fun k => match k with
  | 0 => ("java/lang/Throwable", "cause", "Ljava/lang/Throwable;", false)
  | 1 => ("java/lang/Throwable", "stackTrace", "[Ljava/lang/StackTraceElement;", false)
  | 2 => ("java/lang/Throwable", "suppressedExceptions", "Ljava/util/List;", false)
  | 3 => ("java/lang/Throwable", "detailMessage", "Ljava/lang/String;", false)
  | 4 => ("java/lang/Throwable", "backtrace", "Ljava/lang/Object;", false)
  | _ => ("java/lang/Throwable", "depth", "I", false)
def tyX10 : Nat → FieldType := fun k => match k with
  | 0 => .object "java/lang/Throwable"
  | 1 => .array (.object "java/lang/StackTraceElement")
  | 2 => .object "java/util/List"
  | 3 => .object "java/lang/String"
  | 4 => .object "java/lang/Object"
  | _ => .int
abbrev wsX100 : List Cond := u_ws RX10 TX10 6
theorem nmX10 : ∀ a, a < 6 → ∀ b, b < 6 → a ≠ b → (TX10 a).2.1 ≠ (TX10 b).2.1 := by decide +kernel
theorem tyX10_ok : ∀ k, k < 6 → parseFieldDescriptor (TX10 k).2.2.1 = some (tyX10 k) := by decide +kernel
abbrev cX10_init : ByteArray := prog_12_method_1_code
def yX10_init : MethodName := ⟨RX10, "<init>", "()V"⟩
def dkwX10_init_0 : List UInt8 := [42, 1, 1, 3, 3, 183, 0, 1, 177]
abbrev dktX10_init_0 : List UInt8 := dkwX10_init_0 ++ []
theorem dksX10_init_0 : cX10_init.data.toList.drop 0 = dktX10_init_0 := by decide +kernel
theorem dX10_init_0 : decode cX10_init 0 = .ok (.aload_n 0, 1) := dk_42 (dk_at dksX10_init_0 0 rfl rfl)
theorem dX10_init_1 : decode cX10_init 1 = .ok (.aconst_null, 1) := dk_1 (dk_at dksX10_init_0 1 rfl rfl)
theorem dX10_init_2 : decode cX10_init 2 = .ok (.aconst_null, 1) := dk_1 (dk_at dksX10_init_0 2 rfl rfl)
theorem dX10_init_3 : decode cX10_init 3 = .ok (.iconst 0, 1) := dk_3 (dk_at dksX10_init_0 3 rfl rfl)
theorem dX10_init_4 : decode cX10_init 4 = .ok (.iconst 0, 1) := dk_3 (dk_at dksX10_init_0 4 rfl rfl)
theorem dX10_init_5 : decode cX10_init 5 = .ok (.invokespecial 1, 3) := dk_183 0 1 (dk_at dksX10_init_0 5 rfl rfl)
theorem dX10_init_8 : decode cX10_init 8 = .ok (.return_, 1) := dk_177 (dk_at dksX10_init_0 8 rfl rfl)
theorem q178 : (Jvm.Cond.initialized "TroupeSums$TooGreat") ∈ lw_all := lw_g (lw_at lw_m1 45 rfl) rfl
theorem q839 : (Jvm.Cond.selects "TroupeSums$TooGreat" ({ cls := "java/lang/Object", name := "getClass", desc := "()Ljava/lang/Class;" } : Jvm.MethodName) ({ cls := "java/lang/Object", name := "getClass", desc := "()Ljava/lang/Class;" } : Jvm.MethodName)) ∈ lw_all := lw_g (lw_at lw_m3 226 rfl) rfl
theorem q971 : (Jvm.Cond.selects "TroupeSums$TooGreat" ({ cls := "java/lang/Object", name := "equals", desc := "(Ljava/lang/Object;)Z" } : Jvm.MethodName) ({ cls := "java/lang/Object", name := "equals", desc := "(Ljava/lang/Object;)Z" } : Jvm.MethodName)) ∈ lw_all := lw_g (lw_at lw_m4 118 rfl) rfl
theorem q1599 : (Jvm.Cond.selects "TroupeSums$TooGreat" ({ cls := "java/lang/Throwable", name := "fillInStackTrace", desc := "()Ljava/lang/Throwable;" } : Jvm.MethodName) ({ cls := "java/lang/Throwable", name := "fillInStackTrace", desc := "()Ljava/lang/Throwable;" } : Jvm.MethodName)) ∈ lw_all := lw_g (lw_at lw_m7 26 rfl) rfl
theorem q1794 : (Jvm.Cond.instantiable "TroupeSums$TooGreat" (6 : Nat)) ∈ lw_all := lw_g (lw_at lw_m7 221 rfl) rfl
theorem q1795 : (Jvm.Cond.castable "TroupeSums$TooGreat" "TroupeSums$TooGreat") ∈ lw_tbl := lw_at lw_m7 222 rfl
theorem q1796 : (Jvm.Cond.selects "TroupeSums$TooGreat" ({ cls := "java/lang/Throwable", name := "fillInStackTrace", desc := "(I)Ljava/lang/Throwable;" } : Jvm.MethodName) ({ cls := "java/lang/Throwable", name := "fillInStackTrace", desc := "(I)Ljava/lang/Throwable;" } : Jvm.MethodName)) ∈ lw_all := lw_g (lw_at lw_m7 223 rfl) rfl
theorem q1797 : (Jvm.Cond.lays "TroupeSums$TooGreat" "java/lang/Throwable" "cause" "Ljava/lang/Throwable;") ∈ lw_all := lw_g (lw_at lw_m7 224 rfl) rfl
theorem q1798 : (Jvm.Cond.lays "TroupeSums$TooGreat" "java/lang/Throwable" "stackTrace" "[Ljava/lang/StackTraceElement;") ∈ lw_all := lw_g (lw_at lw_m7 225 rfl) rfl
theorem q1799 : (Jvm.Cond.lays "TroupeSums$TooGreat" "java/lang/Throwable" "suppressedExceptions" "Ljava/util/List;") ∈ lw_all := lw_g (lw_at lw_m7 226 rfl) rfl
theorem q1800 : (Jvm.Cond.lays "TroupeSums$TooGreat" "java/lang/Throwable" "detailMessage" "Ljava/lang/String;") ∈ lw_all := lw_g (lw_at lw_m7 227 rfl) rfl
theorem q1801 : (Jvm.Cond.lays "TroupeSums$TooGreat" "java/lang/Throwable" "backtrace" "Ljava/lang/Object;") ∈ lw_all := lw_g (lw_at lw_m7 228 rfl) rfl
theorem q1803 : (Jvm.Cond.instanceMethod ({ cls := "TroupeSums$TooGreat", name := "<init>", desc := "()V" } : Jvm.MethodName)) ∈ lw_all := lw_g (lw_at lw_m7 230 rfl) rfl
theorem q1804 : (Jvm.Cond.code ({ cls := "TroupeSums$TooGreat", name := "<init>", desc := "()V" } : Jvm.MethodName) prog_12_method_1_code (1 : Nat) (Option.none : Option Jvm.ClassFile.FieldType)) ∈ lw_all := lw_g (lw_at lw_m7 231 rfl) rfl
theorem q1805 : (Jvm.Cond.methodLink "TroupeSums$TooGreat" (1 : Nat) ({ cls := "java/lang/Exception", name := "<init>", desc := "(Ljava/lang/String;Ljava/lang/Throwable;ZZ)V" } : Jvm.MethodName)) ∈ lw_all := lw_g (lw_at lw_m7 232 rfl) rfl
theorem q1806 : (Jvm.Cond.lays "TroupeSums$TooGreat" "java/lang/Throwable" "depth" "I") ∈ lw_all := lw_g (lw_at lw_m7 233 rfl) rfl
theorem q1807 : (Jvm.Cond.superclass "TroupeSums$TooGreat" "java/lang/Exception") ∈ lw_all := lw_g (lw_at lw_m7 234 rfl) rfl
theorem q3176 : (Jvm.Cond.selects "TroupeSums$TooGreat" ({ cls := "java/lang/Throwable", name := "getCause", desc := "()Ljava/lang/Throwable;" } : Jvm.MethodName) ({ cls := "java/lang/Throwable", name := "getCause", desc := "()Ljava/lang/Throwable;" } : Jvm.MethodName)) ∈ lw_all := lw_g (lw_at lw_m13 163 rfl) rfl
theorem q3205 : (Jvm.Cond.castable "TroupeSums$TooGreat" "java/lang/Object") ∈ lw_tbl := lw_at lw_m13 192 rfl
theorem in_X10 : ∀ w ∈ wsX100, w ∈ lw_all := lw_in wsX100 [1797, 1798, 1799, 1800, 1801, 1806] (by decide +kernel) (by decide +kernel)
/-! TroupeSums$LineWrong -/
set_option maxRecDepth 100000
def RX11 : String := "TroupeSums$LineWrong"
def TX11 : u_T := fun k => match k with
  | 0 => ("java/lang/Throwable", "cause", "Ljava/lang/Throwable;", false)
  | 1 => ("java/lang/Throwable", "stackTrace", "[Ljava/lang/StackTraceElement;", false)
  | 2 => ("java/lang/Throwable", "suppressedExceptions", "Ljava/util/List;", false)
  | 3 => ("java/lang/Throwable", "detailMessage", "Ljava/lang/String;", false)
  | 4 => ("java/lang/Throwable", "backtrace", "Ljava/lang/Object;", false)
  | _ => ("java/lang/Throwable", "depth", "I", false)
def tyX11 : Nat → FieldType := fun k => match k with
  | 0 => .object "java/lang/Throwable"
  | 1 => .array (.object "java/lang/StackTraceElement")
  | 2 => .object "java/util/List"
  | 3 => .object "java/lang/String"
  | 4 => .object "java/lang/Object"
  | _ => .int
abbrev wsX110 : List Cond := u_ws RX11 TX11 6
theorem nmX11 : ∀ a, a < 6 → ∀ b, b < 6 → a ≠ b → (TX11 a).2.1 ≠ (TX11 b).2.1 := by decide +kernel
theorem tyX11_ok : ∀ k, k < 6 → parseFieldDescriptor (TX11 k).2.2.1 = some (tyX11 k) := by decide +kernel
abbrev cX11_init : ByteArray := prog_4_method_1_code
def yX11_init : MethodName := ⟨RX11, "<init>", "(Ljava/lang/Exception;)V"⟩
def dkwX11_init_0 : List UInt8 := [42, 1, 43, 3, 3, 183, 0, 1, 177]
abbrev dktX11_init_0 : List UInt8 := dkwX11_init_0 ++ []
theorem dksX11_init_0 : cX11_init.data.toList.drop 0 = dktX11_init_0 := by decide +kernel
theorem dX11_init_0 : decode cX11_init 0 = .ok (.aload_n 0, 1) := dk_42 (dk_at dksX11_init_0 0 rfl rfl)
theorem dX11_init_1 : decode cX11_init 1 = .ok (.aconst_null, 1) := dk_1 (dk_at dksX11_init_0 1 rfl rfl)
theorem dX11_init_2 : decode cX11_init 2 = .ok (.aload_n 1, 1) := dk_43 (dk_at dksX11_init_0 2 rfl rfl)
theorem dX11_init_3 : decode cX11_init 3 = .ok (.iconst 0, 1) := dk_3 (dk_at dksX11_init_0 3 rfl rfl)
theorem dX11_init_4 : decode cX11_init 4 = .ok (.iconst 0, 1) := dk_3 (dk_at dksX11_init_0 4 rfl rfl)
theorem dX11_init_5 : decode cX11_init 5 = .ok (.invokespecial 1, 3) := dk_183 0 1 (dk_at dksX11_init_0 5 rfl rfl)
theorem dX11_init_8 : decode cX11_init 8 = .ok (.return_, 1) := dk_177 (dk_at dksX11_init_0 8 rfl rfl)
theorem q179 : (Jvm.Cond.initialized "TroupeSums$LineWrong") ∈ lw_all := lw_g (lw_at lw_m1 46 rfl) rfl
theorem q831 : (Jvm.Cond.selects "TroupeSums$LineWrong" ({ cls := "java/lang/Object", name := "getClass", desc := "()Ljava/lang/Class;" } : Jvm.MethodName) ({ cls := "java/lang/Object", name := "getClass", desc := "()Ljava/lang/Class;" } : Jvm.MethodName)) ∈ lw_all := lw_g (lw_at lw_m3 218 rfl) rfl
theorem q963 : (Jvm.Cond.selects "TroupeSums$LineWrong" ({ cls := "java/lang/Object", name := "equals", desc := "(Ljava/lang/Object;)Z" } : Jvm.MethodName) ({ cls := "java/lang/Object", name := "equals", desc := "(Ljava/lang/Object;)Z" } : Jvm.MethodName)) ∈ lw_all := lw_g (lw_at lw_m4 110 rfl) rfl
theorem q1597 : (Jvm.Cond.selects "TroupeSums$LineWrong" ({ cls := "java/lang/Throwable", name := "fillInStackTrace", desc := "()Ljava/lang/Throwable;" } : Jvm.MethodName) ({ cls := "java/lang/Throwable", name := "fillInStackTrace", desc := "()Ljava/lang/Throwable;" } : Jvm.MethodName)) ∈ lw_all := lw_g (lw_at lw_m7 24 rfl) rfl
theorem q1868 : (Jvm.Cond.instantiable "TroupeSums$LineWrong" (6 : Nat)) ∈ lw_all := lw_g (lw_at lw_m8 55 rfl) rfl
theorem q1869 : (Jvm.Cond.castable "TroupeSums$LineWrong" "TroupeSums$LineWrong") ∈ lw_tbl := lw_at lw_m8 56 rfl
theorem q1870 : (Jvm.Cond.selects "TroupeSums$LineWrong" ({ cls := "java/lang/Throwable", name := "fillInStackTrace", desc := "(I)Ljava/lang/Throwable;" } : Jvm.MethodName) ({ cls := "java/lang/Throwable", name := "fillInStackTrace", desc := "(I)Ljava/lang/Throwable;" } : Jvm.MethodName)) ∈ lw_all := lw_g (lw_at lw_m8 57 rfl) rfl
theorem q1871 : (Jvm.Cond.lays "TroupeSums$LineWrong" "java/lang/Throwable" "cause" "Ljava/lang/Throwable;") ∈ lw_all := lw_g (lw_at lw_m8 58 rfl) rfl
theorem q1872 : (Jvm.Cond.lays "TroupeSums$LineWrong" "java/lang/Throwable" "stackTrace" "[Ljava/lang/StackTraceElement;") ∈ lw_all := lw_g (lw_at lw_m8 59 rfl) rfl
theorem q1873 : (Jvm.Cond.lays "TroupeSums$LineWrong" "java/lang/Throwable" "suppressedExceptions" "Ljava/util/List;") ∈ lw_all := lw_g (lw_at lw_m8 60 rfl) rfl
theorem q1874 : (Jvm.Cond.lays "TroupeSums$LineWrong" "java/lang/Throwable" "detailMessage" "Ljava/lang/String;") ∈ lw_all := lw_g (lw_at lw_m8 61 rfl) rfl
theorem q1875 : (Jvm.Cond.lays "TroupeSums$LineWrong" "java/lang/Throwable" "backtrace" "Ljava/lang/Object;") ∈ lw_all := lw_g (lw_at lw_m8 62 rfl) rfl
theorem q1877 : (Jvm.Cond.instanceMethod ({ cls := "TroupeSums$LineWrong", name := "<init>", desc := "(Ljava/lang/Exception;)V" } : Jvm.MethodName)) ∈ lw_all := lw_g (lw_at lw_m8 64 rfl) rfl
theorem q1878 : (Jvm.Cond.code ({ cls := "TroupeSums$LineWrong", name := "<init>", desc := "(Ljava/lang/Exception;)V" } : Jvm.MethodName) prog_4_method_1_code (2 : Nat) (Option.none : Option Jvm.ClassFile.FieldType)) ∈ lw_all := lw_g (lw_at lw_m8 65 rfl) rfl
theorem q1879 : (Jvm.Cond.methodLink "TroupeSums$LineWrong" (1 : Nat) ({ cls := "java/lang/Exception", name := "<init>", desc := "(Ljava/lang/String;Ljava/lang/Throwable;ZZ)V" } : Jvm.MethodName)) ∈ lw_all := lw_g (lw_at lw_m8 66 rfl) rfl
theorem q1880 : (Jvm.Cond.lays "TroupeSums$LineWrong" "java/lang/Throwable" "depth" "I") ∈ lw_all := lw_g (lw_at lw_m8 67 rfl) rfl
theorem q1881 : (Jvm.Cond.superclass "TroupeSums$LineWrong" "java/lang/Exception") ∈ lw_all := lw_g (lw_at lw_m8 68 rfl) rfl
theorem q2353 : (Jvm.Cond.sameMethod "TroupeSums$LineWrong" "java/lang/Throwable" "getCause" "()Ljava/lang/Throwable;") ∈ lw_all := lw_g (lw_at lw_m10 60 rfl) rfl
theorem q2354 : (Jvm.Cond.selects "TroupeSums$LineWrong" ({ cls := "TroupeSums$LineWrong", name := "getCause", desc := "()Ljava/lang/Throwable;" } : Jvm.MethodName) ({ cls := "java/lang/Throwable", name := "getCause", desc := "()Ljava/lang/Throwable;" } : Jvm.MethodName)) ∈ lw_all := lw_g (lw_at lw_m10 61 rfl) rfl
theorem q3174 : (Jvm.Cond.selects "TroupeSums$LineWrong" ({ cls := "java/lang/Throwable", name := "getCause", desc := "()Ljava/lang/Throwable;" } : Jvm.MethodName) ({ cls := "java/lang/Throwable", name := "getCause", desc := "()Ljava/lang/Throwable;" } : Jvm.MethodName)) ∈ lw_all := lw_g (lw_at lw_m13 161 rfl) rfl
theorem q3206 : (Jvm.Cond.castable "TroupeSums$LineWrong" "java/lang/Object") ∈ lw_tbl := lw_at lw_m13 193 rfl
theorem in_X11 : ∀ w ∈ wsX110, w ∈ lw_all := lw_in wsX110 [1871, 1872, 1873, 1874, 1875, 1880] (by decide +kernel) (by decide +kernel)
/-! TroupeSums$TextWrong -/
set_option maxRecDepth 100000
def RX12 : String := "TroupeSums$TextWrong"
def TX12 : u_T := fun k => match k with
  | 0 => ("java/lang/Throwable", "cause", "Ljava/lang/Throwable;", false)
  | 1 => ("java/lang/Throwable", "stackTrace", "[Ljava/lang/StackTraceElement;", false)
  | 2 => ("java/lang/Throwable", "suppressedExceptions", "Ljava/util/List;", false)
  | 3 => ("java/lang/Throwable", "detailMessage", "Ljava/lang/String;", false)
  | 4 => ("java/lang/Throwable", "backtrace", "Ljava/lang/Object;", false)
  | _ => ("java/lang/Throwable", "depth", "I", false)
def tyX12 : Nat → FieldType := fun k => match k with
  | 0 => .object "java/lang/Throwable"
  | 1 => .array (.object "java/lang/StackTraceElement")
  | 2 => .object "java/util/List"
  | 3 => .object "java/lang/String"
  | 4 => .object "java/lang/Object"
  | _ => .int
abbrev wsX120 : List Cond := u_ws RX12 TX12 6
theorem nmX12 : ∀ a, a < 6 → ∀ b, b < 6 → a ≠ b → (TX12 a).2.1 ≠ (TX12 b).2.1 := by decide +kernel
theorem tyX12_ok : ∀ k, k < 6 → parseFieldDescriptor (TX12 k).2.2.1 = some (tyX12 k) := by decide +kernel
abbrev cX12_init : ByteArray := prog_11_method_1_code
def yX12_init : MethodName := ⟨RX12, "<init>", "(LTroupeSums$LineWrong;)V"⟩
def dkwX12_init_0 : List UInt8 := [42, 1, 43, 3, 3, 183, 0, 1, 177]
abbrev dktX12_init_0 : List UInt8 := dkwX12_init_0 ++ []
theorem dksX12_init_0 : cX12_init.data.toList.drop 0 = dktX12_init_0 := by decide +kernel
theorem dX12_init_0 : decode cX12_init 0 = .ok (.aload_n 0, 1) := dk_42 (dk_at dksX12_init_0 0 rfl rfl)
theorem dX12_init_1 : decode cX12_init 1 = .ok (.aconst_null, 1) := dk_1 (dk_at dksX12_init_0 1 rfl rfl)
theorem dX12_init_2 : decode cX12_init 2 = .ok (.aload_n 1, 1) := dk_43 (dk_at dksX12_init_0 2 rfl rfl)
theorem dX12_init_3 : decode cX12_init 3 = .ok (.iconst 0, 1) := dk_3 (dk_at dksX12_init_0 3 rfl rfl)
theorem dX12_init_4 : decode cX12_init 4 = .ok (.iconst 0, 1) := dk_3 (dk_at dksX12_init_0 4 rfl rfl)
theorem dX12_init_5 : decode cX12_init 5 = .ok (.invokespecial 1, 3) := dk_183 0 1 (dk_at dksX12_init_0 5 rfl rfl)
theorem dX12_init_8 : decode cX12_init 8 = .ok (.return_, 1) := dk_177 (dk_at dksX12_init_0 8 rfl rfl)
abbrev cX12_first : ByteArray := prog_11_method_2_code
def yX12_first : MethodName := ⟨RX12, "first", "()LTroupeSums$Wrong;"⟩
def dkwX12_first_0 : List UInt8 := [42, 182, 0, 7, 182, 0, 13, 192, 0, 16, 176]
abbrev dktX12_first_0 : List UInt8 := dkwX12_first_0 ++ []
theorem dksX12_first_0 : cX12_first.data.toList.drop 0 = dktX12_first_0 := by decide +kernel
theorem dX12_first_0 : decode cX12_first 0 = .ok (.aload_n 0, 1) := dk_42 (dk_at dksX12_first_0 0 rfl rfl)
theorem dX12_first_1 : decode cX12_first 1 = .ok (.invokevirtual 7, 3) := dk_182 0 7 (dk_at dksX12_first_0 1 rfl rfl)
theorem dX12_first_4 : decode cX12_first 4 = .ok (.invokevirtual 13, 3) := dk_182 0 13 (dk_at dksX12_first_0 4 rfl rfl)
theorem dX12_first_7 : decode cX12_first 7 = .ok (.checkcast 16, 3) := dk_192 0 16 (dk_at dksX12_first_0 7 rfl rfl)
theorem dX12_first_10 : decode cX12_first 10 = .ok (.areturn, 1) := dk_176 (dk_at dksX12_first_0 10 rfl rfl)
theorem q180 : (Jvm.Cond.initialized "TroupeSums$TextWrong") ∈ lw_all := lw_g (lw_at lw_m1 47 rfl) rfl
theorem q838 : (Jvm.Cond.selects "TroupeSums$TextWrong" ({ cls := "java/lang/Object", name := "getClass", desc := "()Ljava/lang/Class;" } : Jvm.MethodName) ({ cls := "java/lang/Object", name := "getClass", desc := "()Ljava/lang/Class;" } : Jvm.MethodName)) ∈ lw_all := lw_g (lw_at lw_m3 225 rfl) rfl
theorem q970 : (Jvm.Cond.selects "TroupeSums$TextWrong" ({ cls := "java/lang/Object", name := "equals", desc := "(Ljava/lang/Object;)Z" } : Jvm.MethodName) ({ cls := "java/lang/Object", name := "equals", desc := "(Ljava/lang/Object;)Z" } : Jvm.MethodName)) ∈ lw_all := lw_g (lw_at lw_m4 117 rfl) rfl
theorem q1598 : (Jvm.Cond.selects "TroupeSums$TextWrong" ({ cls := "java/lang/Throwable", name := "fillInStackTrace", desc := "()Ljava/lang/Throwable;" } : Jvm.MethodName) ({ cls := "java/lang/Throwable", name := "fillInStackTrace", desc := "()Ljava/lang/Throwable;" } : Jvm.MethodName)) ∈ lw_all := lw_g (lw_at lw_m7 25 rfl) rfl
theorem q1883 : (Jvm.Cond.instantiable "TroupeSums$TextWrong" (6 : Nat)) ∈ lw_all := lw_g (lw_at lw_m8 70 rfl) rfl
theorem q1884 : (Jvm.Cond.castable "TroupeSums$TextWrong" "TroupeSums$TextWrong") ∈ lw_tbl := lw_at lw_m8 71 rfl
theorem q1885 : (Jvm.Cond.selects "TroupeSums$TextWrong" ({ cls := "java/lang/Throwable", name := "fillInStackTrace", desc := "(I)Ljava/lang/Throwable;" } : Jvm.MethodName) ({ cls := "java/lang/Throwable", name := "fillInStackTrace", desc := "(I)Ljava/lang/Throwable;" } : Jvm.MethodName)) ∈ lw_all := lw_g (lw_at lw_m8 72 rfl) rfl
theorem q1886 : (Jvm.Cond.lays "TroupeSums$TextWrong" "java/lang/Throwable" "cause" "Ljava/lang/Throwable;") ∈ lw_all := lw_g (lw_at lw_m8 73 rfl) rfl
theorem q1887 : (Jvm.Cond.lays "TroupeSums$TextWrong" "java/lang/Throwable" "stackTrace" "[Ljava/lang/StackTraceElement;") ∈ lw_all := lw_g (lw_at lw_m8 74 rfl) rfl
theorem q1888 : (Jvm.Cond.lays "TroupeSums$TextWrong" "java/lang/Throwable" "suppressedExceptions" "Ljava/util/List;") ∈ lw_all := lw_g (lw_at lw_m8 75 rfl) rfl
theorem q1889 : (Jvm.Cond.lays "TroupeSums$TextWrong" "java/lang/Throwable" "detailMessage" "Ljava/lang/String;") ∈ lw_all := lw_g (lw_at lw_m8 76 rfl) rfl
theorem q1890 : (Jvm.Cond.lays "TroupeSums$TextWrong" "java/lang/Throwable" "backtrace" "Ljava/lang/Object;") ∈ lw_all := lw_g (lw_at lw_m8 77 rfl) rfl
theorem q1892 : (Jvm.Cond.instanceMethod ({ cls := "TroupeSums$TextWrong", name := "<init>", desc := "(LTroupeSums$LineWrong;)V" } : Jvm.MethodName)) ∈ lw_all := lw_g (lw_at lw_m8 79 rfl) rfl
theorem q1893 : (Jvm.Cond.code ({ cls := "TroupeSums$TextWrong", name := "<init>", desc := "(LTroupeSums$LineWrong;)V" } : Jvm.MethodName) prog_11_method_1_code (2 : Nat) (Option.none : Option Jvm.ClassFile.FieldType)) ∈ lw_all := lw_g (lw_at lw_m8 80 rfl) rfl
theorem q1894 : (Jvm.Cond.methodLink "TroupeSums$TextWrong" (1 : Nat) ({ cls := "java/lang/Exception", name := "<init>", desc := "(Ljava/lang/String;Ljava/lang/Throwable;ZZ)V" } : Jvm.MethodName)) ∈ lw_all := lw_g (lw_at lw_m8 81 rfl) rfl
theorem q1895 : (Jvm.Cond.lays "TroupeSums$TextWrong" "java/lang/Throwable" "depth" "I") ∈ lw_all := lw_g (lw_at lw_m8 82 rfl) rfl
theorem q1896 : (Jvm.Cond.superclass "TroupeSums$TextWrong" "java/lang/Exception") ∈ lw_all := lw_g (lw_at lw_m8 83 rfl) rfl
theorem q1898 : (Jvm.Cond.instanceMethod ({ cls := "TroupeSums$TextWrong", name := "first", desc := "()LTroupeSums$Wrong;" } : Jvm.MethodName)) ∈ lw_all := lw_g (lw_at lw_m8 85 rfl) rfl
theorem q1899 : (Jvm.Cond.selects "TroupeSums$TextWrong" ({ cls := "TroupeSums$TextWrong", name := "first", desc := "()LTroupeSums$Wrong;" } : Jvm.MethodName) ({ cls := "TroupeSums$TextWrong", name := "first", desc := "()LTroupeSums$Wrong;" } : Jvm.MethodName)) ∈ lw_all := lw_g (lw_at lw_m8 86 rfl) rfl
theorem q1900 : (Jvm.Cond.code ({ cls := "TroupeSums$TextWrong", name := "first", desc := "()LTroupeSums$Wrong;" } : Jvm.MethodName) prog_11_method_2_code (1 : Nat) (Option.some (Jvm.ClassFile.FieldType.object "TroupeSums$Wrong"))) ∈ lw_all := lw_g (lw_at lw_m8 87 rfl) rfl
theorem q1901 : (Jvm.Cond.methodLink "TroupeSums$TextWrong" (7 : Nat) ({ cls := "TroupeSums$TextWrong", name := "getCause", desc := "()Ljava/lang/Throwable;" } : Jvm.MethodName)) ∈ lw_all := lw_g (lw_at lw_m8 88 rfl) rfl
theorem q1902 : (Jvm.Cond.sameMethod "TroupeSums$TextWrong" "java/lang/Throwable" "getCause" "()Ljava/lang/Throwable;") ∈ lw_all := lw_g (lw_at lw_m8 89 rfl) rfl
theorem q1904 : (Jvm.Cond.selects "TroupeSums$TextWrong" ({ cls := "TroupeSums$TextWrong", name := "getCause", desc := "()Ljava/lang/Throwable;" } : Jvm.MethodName) ({ cls := "java/lang/Throwable", name := "getCause", desc := "()Ljava/lang/Throwable;" } : Jvm.MethodName)) ∈ lw_all := lw_g (lw_at lw_m8 91 rfl) rfl
theorem q1907 : (Jvm.Cond.methodLink "TroupeSums$TextWrong" (13 : Nat) ({ cls := "java/lang/Throwable", name := "getCause", desc := "()Ljava/lang/Throwable;" } : Jvm.MethodName)) ∈ lw_all := lw_g (lw_at lw_m8 94 rfl) rfl
theorem q1908 : (Jvm.Cond.classLink "TroupeSums$TextWrong" (16 : Nat) "TroupeSums$Wrong") ∈ lw_all := lw_g (lw_at lw_m8 95 rfl) rfl
theorem q3175 : (Jvm.Cond.selects "TroupeSums$TextWrong" ({ cls := "java/lang/Throwable", name := "getCause", desc := "()Ljava/lang/Throwable;" } : Jvm.MethodName) ({ cls := "java/lang/Throwable", name := "getCause", desc := "()Ljava/lang/Throwable;" } : Jvm.MethodName)) ∈ lw_all := lw_g (lw_at lw_m13 162 rfl) rfl
theorem q3207 : (Jvm.Cond.castable "TroupeSums$TextWrong" "java/lang/Object") ∈ lw_tbl := lw_at lw_m13 194 rfl
theorem in_X12 : ∀ w ∈ wsX120, w ∈ lw_all := lw_in wsX120 [1886, 1887, 1888, 1889, 1890, 1895] (by decide +kernel) (by decide +kernel)
/-! TroupeSums$Seeker -/
set_option maxRecDepth 100000
def RX13 : String := "TroupeSums$Seeker"
def TX13 : u_T := fun k => match k with
  | 0 => ("TroupeSums$Seeker", "group", "LTroupeSums$Group;", true)
  | 1 => ("TroupeSums$Seeker", "row", "[J", true)
  | 2 => ("TroupeSums$Seeker", "numbers", "[J", true)
  | _ => ("TroupeSums$Seeker", "found", "Ljava/util/PriorityQueue;", true)
def tyX13 : Nat → FieldType := fun k => match k with
  | 0 => .object "TroupeSums$Group"
  | 1 => .array .long
  | 2 => .array .long
  | _ => .object "java/util/PriorityQueue"
abbrev wsX130 : List Cond := u_ws RX13 TX13 4
theorem nmX13 : ∀ a, a < 4 → ∀ b, b < 4 → a ≠ b → (TX13 a).2.1 ≠ (TX13 b).2.1 := by decide +kernel
theorem tyX13_ok : ∀ k, k < 4 → parseFieldDescriptor (TX13 k).2.2.1 = some (tyX13 k) := by decide +kernel
abbrev cX13_init : ByteArray := prog_7_method_1_code
def yX13_init : MethodName := ⟨RX13, "<init>", "(LTroupeSums$Group;)V"⟩
def dkwX13_init_2 : List UInt8 := [177]
abbrev dktX13_init_2 : List UInt8 := dkwX13_init_2 ++ []
def dkwX13_init_1 : List UInt8 := [180, 0, 20, 185, 0, 26, 1, 0, 188, 11, 181, 0, 32, 42, 42, 180, 0, 32, 190, 188, 11, 181, 0, 36]
abbrev dktX13_init_1 : List UInt8 := dkwX13_init_1 ++ dktX13_init_2
def dkwX13_init_0 : List UInt8 := [42, 183, 0, 1, 42, 187, 0, 7, 89, 183, 0, 9, 181, 0, 10, 42, 43, 181, 0, 16, 42, 43]
abbrev dktX13_init_0 : List UInt8 := dkwX13_init_0 ++ dktX13_init_1
theorem dksX13_init_0 : cX13_init.data.toList.drop 0 = dktX13_init_0 := by decide +kernel
theorem dksX13_init_1 : cX13_init.data.toList.drop 22 = dktX13_init_1 := dk_seg dksX13_init_0 22 rfl rfl
theorem dksX13_init_2 : cX13_init.data.toList.drop 46 = dktX13_init_2 := dk_seg dksX13_init_1 24 rfl rfl
theorem dX13_init_0 : decode cX13_init 0 = .ok (.aload_n 0, 1) := dk_42 (dk_at dksX13_init_0 0 rfl rfl)
theorem dX13_init_1 : decode cX13_init 1 = .ok (.invokespecial 1, 3) := dk_183 0 1 (dk_at dksX13_init_0 1 rfl rfl)
theorem dX13_init_4 : decode cX13_init 4 = .ok (.aload_n 0, 1) := dk_42 (dk_at dksX13_init_0 4 rfl rfl)
theorem dX13_init_5 : decode cX13_init 5 = .ok (.new 7, 3) := dk_187 0 7 (dk_at dksX13_init_0 5 rfl rfl)
theorem dX13_init_8 : decode cX13_init 8 = .ok (.dup, 1) := dk_89 (dk_at dksX13_init_0 8 rfl rfl)
theorem dX13_init_9 : decode cX13_init 9 = .ok (.invokespecial 9, 3) := dk_183 0 9 (dk_at dksX13_init_0 9 rfl rfl)
theorem dX13_init_12 : decode cX13_init 12 = .ok (.putfield 10, 3) := dk_181 0 10 (dk_at dksX13_init_0 12 rfl rfl)
theorem dX13_init_15 : decode cX13_init 15 = .ok (.aload_n 0, 1) := dk_42 (dk_at dksX13_init_0 15 rfl rfl)
theorem dX13_init_16 : decode cX13_init 16 = .ok (.aload_n 1, 1) := dk_43 (dk_at dksX13_init_0 16 rfl rfl)
theorem dX13_init_17 : decode cX13_init 17 = .ok (.putfield 16, 3) := dk_181 0 16 (dk_at dksX13_init_0 17 rfl rfl)
theorem dX13_init_20 : decode cX13_init 20 = .ok (.aload_n 0, 1) := dk_42 (dk_at dksX13_init_0 20 rfl rfl)
theorem dX13_init_21 : decode cX13_init 21 = .ok (.aload_n 1, 1) := dk_43 (dk_at dksX13_init_0 21 rfl rfl)
theorem dX13_init_22 : decode cX13_init 22 = .ok (.getfield 20, 3) := dk_180 0 20 (dk_at dksX13_init_1 0 rfl rfl)
theorem dX13_init_25 : decode cX13_init 25 = .ok (.invokeinterface 26 1, 5) := by decide +kernel
theorem dX13_init_30 : decode cX13_init 30 = .ok (.newarray .long, 2) := dk_188_11 (dk_at dksX13_init_1 8 rfl rfl)
theorem dX13_init_32 : decode cX13_init 32 = .ok (.putfield 32, 3) := dk_181 0 32 (dk_at dksX13_init_1 10 rfl rfl)
theorem dX13_init_35 : decode cX13_init 35 = .ok (.aload_n 0, 1) := dk_42 (dk_at dksX13_init_1 13 rfl rfl)
theorem dX13_init_36 : decode cX13_init 36 = .ok (.aload_n 0, 1) := dk_42 (dk_at dksX13_init_1 14 rfl rfl)
theorem dX13_init_37 : decode cX13_init 37 = .ok (.getfield 32, 3) := dk_180 0 32 (dk_at dksX13_init_1 15 rfl rfl)
theorem dX13_init_40 : decode cX13_init 40 = .ok (.arraylength, 1) := dk_190 (dk_at dksX13_init_1 18 rfl rfl)
theorem dX13_init_41 : decode cX13_init 41 = .ok (.newarray .long, 2) := dk_188_11 (dk_at dksX13_init_1 19 rfl rfl)
theorem dX13_init_43 : decode cX13_init 43 = .ok (.putfield 36, 3) := dk_181 0 36 (dk_at dksX13_init_1 21 rfl rfl)
theorem dX13_init_46 : decode cX13_init 46 = .ok (.return_, 1) := dk_177 (dk_at dksX13_init_2 0 rfl rfl)
abbrev cX13_all : ByteArray := prog_7_method_3_code
def yX13_all : MethodName := ⟨RX13, "all", "()Ljava/util/List;"⟩
def dkwX13_all_2 : List UInt8 := [167, 255, 229, 43, 176]
abbrev dktX13_all_2 : List UInt8 := dkwX13_all_2 ++ []
def dkwX13_all_1 : List UInt8 := [182, 0, 61, 154, 0, 23, 43, 42, 180, 0, 10, 182, 0, 65, 192, 0, 39, 185, 0, 69, 2, 0, 87]
abbrev dktX13_all_1 : List UInt8 := dkwX13_all_1 ++ dktX13_all_2
def dkwX13_all_0 : List UInt8 := [42, 42, 180, 0, 32, 190, 4, 100, 3, 182, 0, 54, 187, 0, 58, 89, 183, 0, 60, 76, 42, 180, 0, 10]
abbrev dktX13_all_0 : List UInt8 := dkwX13_all_0 ++ dktX13_all_1
theorem dksX13_all_0 : cX13_all.data.toList.drop 0 = dktX13_all_0 := by decide +kernel
theorem dksX13_all_1 : cX13_all.data.toList.drop 24 = dktX13_all_1 := dk_seg dksX13_all_0 24 rfl rfl
theorem dksX13_all_2 : cX13_all.data.toList.drop 47 = dktX13_all_2 := dk_seg dksX13_all_1 23 rfl rfl
theorem dX13_all_0 : decode cX13_all 0 = .ok (.aload_n 0, 1) := dk_42 (dk_at dksX13_all_0 0 rfl rfl)
theorem dX13_all_1 : decode cX13_all 1 = .ok (.aload_n 0, 1) := dk_42 (dk_at dksX13_all_0 1 rfl rfl)
theorem dX13_all_2 : decode cX13_all 2 = .ok (.getfield 32, 3) := dk_180 0 32 (dk_at dksX13_all_0 2 rfl rfl)
theorem dX13_all_5 : decode cX13_all 5 = .ok (.arraylength, 1) := dk_190 (dk_at dksX13_all_0 5 rfl rfl)
theorem dX13_all_6 : decode cX13_all 6 = .ok (.iconst 1, 1) := dk_4 (dk_at dksX13_all_0 6 rfl rfl)
theorem dX13_all_7 : decode cX13_all 7 = .ok (.isub, 1) := dk_100 (dk_at dksX13_all_0 7 rfl rfl)
theorem dX13_all_8 : decode cX13_all 8 = .ok (.iconst 0, 1) := dk_3 (dk_at dksX13_all_0 8 rfl rfl)
theorem dX13_all_9 : decode cX13_all 9 = .ok (.invokevirtual 54, 3) := dk_182 0 54 (dk_at dksX13_all_0 9 rfl rfl)
theorem dX13_all_12 : decode cX13_all 12 = .ok (.new 58, 3) := dk_187 0 58 (dk_at dksX13_all_0 12 rfl rfl)
theorem dX13_all_15 : decode cX13_all 15 = .ok (.dup, 1) := dk_89 (dk_at dksX13_all_0 15 rfl rfl)
theorem dX13_all_16 : decode cX13_all 16 = .ok (.invokespecial 60, 3) := dk_183 0 60 (dk_at dksX13_all_0 16 rfl rfl)
theorem dX13_all_19 : decode cX13_all 19 = .ok (.astore_n 1, 1) := dk_76 (dk_at dksX13_all_0 19 rfl rfl)
theorem dX13_all_20 : decode cX13_all 20 = .ok (.aload_n 0, 1) := dk_42 (dk_at dksX13_all_0 20 rfl rfl)
theorem dX13_all_21 : decode cX13_all 21 = .ok (.getfield 10, 3) := dk_180 0 10 (dk_at dksX13_all_0 21 rfl rfl)
theorem dX13_all_24 : decode cX13_all 24 = .ok (.invokevirtual 61, 3) := dk_182 0 61 (dk_at dksX13_all_1 0 rfl rfl)
theorem dX13_all_27 : decode cX13_all 27 = .ok (.ifCond .ne 23, 3) := dk_154 0 23 (dk_at dksX13_all_1 3 rfl rfl)
theorem dX13_all_30 : decode cX13_all 30 = .ok (.aload_n 1, 1) := dk_43 (dk_at dksX13_all_1 6 rfl rfl)
theorem dX13_all_31 : decode cX13_all 31 = .ok (.aload_n 0, 1) := dk_42 (dk_at dksX13_all_1 7 rfl rfl)
theorem dX13_all_32 : decode cX13_all 32 = .ok (.getfield 10, 3) := dk_180 0 10 (dk_at dksX13_all_1 8 rfl rfl)
theorem dX13_all_35 : decode cX13_all 35 = .ok (.invokevirtual 65, 3) := dk_182 0 65 (dk_at dksX13_all_1 11 rfl rfl)
theorem dX13_all_38 : decode cX13_all 38 = .ok (.checkcast 39, 3) := dk_192 0 39 (dk_at dksX13_all_1 14 rfl rfl)
theorem dX13_all_41 : decode cX13_all 41 = .ok (.invokeinterface 69 2, 5) := by decide +kernel
theorem dX13_all_46 : decode cX13_all 46 = .ok (.pop, 1) := dk_87 (dk_at dksX13_all_1 22 rfl rfl)
theorem dX13_all_47 : decode cX13_all 47 = .ok (.goto (-27), 3) := dk_167 255 229 (dk_at dksX13_all_2 0 rfl rfl)
theorem dX13_all_50 : decode cX13_all 50 = .ok (.aload_n 1, 1) := dk_43 (dk_at dksX13_all_2 3 rfl rfl)
theorem dX13_all_51 : decode cX13_all 51 = .ok (.areturn, 1) := dk_176 (dk_at dksX13_all_2 4 rfl rfl)
abbrev cX13_goes : ByteArray := prog_7_method_2_code
def yX13_goes : MethodName := ⟨RX13, "goes", "(II)V"⟩
def dkwX13_goes_6 : List UInt8 := [190, 4, 100, 27, 100, 120, 128, 182, 0, 54, 132, 3, 1, 167, 255, 127, 177]
abbrev dktX13_goes_6 : List UInt8 := dkwX13_goes_6 ++ []
def dkwX13_goes_5 : List UInt8 := [42, 180, 0, 16, 180, 0, 50, 27, 50, 27, 46, 133, 109, 80, 42, 27, 4, 100, 28, 29, 42, 180, 0, 32]
abbrev dktX13_goes_5 : List UInt8 := dkwX13_goes_5 ++ dktX13_goes_6
def dkwX13_goes_4 : List UInt8 := [180, 0, 50, 27, 50, 27, 46, 133, 113, 9, 148, 153, 0, 6, 167, 0, 44, 42, 180, 0, 36, 27, 22, 4]
abbrev dktX13_goes_4 : List UInt8 := dkwX13_goes_4 ++ dktX13_goes_5
def dkwX13_goes_3 : List UInt8 := [21, 6, 50, 27, 46, 133, 105, 101, 55, 4, 132, 6, 1, 167, 255, 217, 22, 4, 42, 180, 0, 16]
abbrev dktX13_goes_3 : List UInt8 := dkwX13_goes_3 ++ dktX13_goes_4
def dkwX13_goes_2 : List UInt8 := [180, 0, 32, 190, 162, 0, 35, 22, 4, 42, 180, 0, 36, 21, 6, 47, 42, 180, 0, 16, 180, 0, 50]
abbrev dktX13_goes_2 : List UInt8 := dkwX13_goes_2 ++ dktX13_goes_3
def dkwX13_goes_1 : List UInt8 := [5, 162, 0, 130, 10, 20, 0, 48, 29, 133, 105, 101, 55, 4, 27, 4, 96, 54, 6, 21, 6, 42]
abbrev dktX13_goes_1 : List UInt8 := dkwX13_goes_1 ++ dktX13_goes_2
def dkwX13_goes_0 : List UInt8 := [27, 156, 0, 20, 42, 180, 0, 10, 187, 0, 39, 89, 28, 183, 0, 41, 182, 0, 44, 87, 177, 3, 62, 29]
abbrev dktX13_goes_0 : List UInt8 := dkwX13_goes_0 ++ dktX13_goes_1
theorem dksX13_goes_0 : cX13_goes.data.toList.drop 0 = dktX13_goes_0 := by decide +kernel
theorem dksX13_goes_1 : cX13_goes.data.toList.drop 24 = dktX13_goes_1 := dk_seg dksX13_goes_0 24 rfl rfl
theorem dksX13_goes_2 : cX13_goes.data.toList.drop 46 = dktX13_goes_2 := dk_seg dksX13_goes_1 22 rfl rfl
theorem dksX13_goes_3 : cX13_goes.data.toList.drop 69 = dktX13_goes_3 := dk_seg dksX13_goes_2 23 rfl rfl
theorem dksX13_goes_4 : cX13_goes.data.toList.drop 91 = dktX13_goes_4 := dk_seg dksX13_goes_3 22 rfl rfl
theorem dksX13_goes_5 : cX13_goes.data.toList.drop 115 = dktX13_goes_5 := dk_seg dksX13_goes_4 24 rfl rfl
theorem dksX13_goes_6 : cX13_goes.data.toList.drop 139 = dktX13_goes_6 := dk_seg dksX13_goes_5 24 rfl rfl
theorem dX13_goes_0 : decode cX13_goes 0 = .ok (.iload_n 1, 1) := dk_27 (dk_at dksX13_goes_0 0 rfl rfl)
theorem dX13_goes_1 : decode cX13_goes 1 = .ok (.ifCond .ge 20, 3) := dk_156 0 20 (dk_at dksX13_goes_0 1 rfl rfl)
theorem dX13_goes_4 : decode cX13_goes 4 = .ok (.aload_n 0, 1) := dk_42 (dk_at dksX13_goes_0 4 rfl rfl)
theorem dX13_goes_5 : decode cX13_goes 5 = .ok (.getfield 10, 3) := dk_180 0 10 (dk_at dksX13_goes_0 5 rfl rfl)
theorem dX13_goes_8 : decode cX13_goes 8 = .ok (.new 39, 3) := dk_187 0 39 (dk_at dksX13_goes_0 8 rfl rfl)
theorem dX13_goes_11 : decode cX13_goes 11 = .ok (.dup, 1) := dk_89 (dk_at dksX13_goes_0 11 rfl rfl)
theorem dX13_goes_12 : decode cX13_goes 12 = .ok (.iload_n 2, 1) := dk_28 (dk_at dksX13_goes_0 12 rfl rfl)
theorem dX13_goes_13 : decode cX13_goes 13 = .ok (.invokespecial 41, 3) := dk_183 0 41 (dk_at dksX13_goes_0 13 rfl rfl)
theorem dX13_goes_16 : decode cX13_goes 16 = .ok (.invokevirtual 44, 3) := dk_182 0 44 (dk_at dksX13_goes_0 16 rfl rfl)
theorem dX13_goes_19 : decode cX13_goes 19 = .ok (.pop, 1) := dk_87 (dk_at dksX13_goes_0 19 rfl rfl)
theorem dX13_goes_20 : decode cX13_goes 20 = .ok (.return_, 1) := dk_177 (dk_at dksX13_goes_0 20 rfl rfl)
theorem dX13_goes_21 : decode cX13_goes 21 = .ok (.iconst 0, 1) := dk_3 (dk_at dksX13_goes_0 21 rfl rfl)
theorem dX13_goes_22 : decode cX13_goes 22 = .ok (.istore_n 3, 1) := dk_62 (dk_at dksX13_goes_0 22 rfl rfl)
theorem dX13_goes_23 : decode cX13_goes 23 = .ok (.iload_n 3, 1) := dk_29 (dk_at dksX13_goes_0 23 rfl rfl)
theorem dX13_goes_24 : decode cX13_goes 24 = .ok (.iconst 2, 1) := dk_5 (dk_at dksX13_goes_1 0 rfl rfl)
theorem dX13_goes_25 : decode cX13_goes 25 = .ok (.if_icmp .ge 130, 3) := dk_162 0 130 (dk_at dksX13_goes_1 1 rfl rfl)
theorem dX13_goes_28 : decode cX13_goes 28 = .ok (.lconst 1, 1) := dk_10 (dk_at dksX13_goes_1 4 rfl rfl)
theorem dX13_goes_29 : decode cX13_goes 29 = .ok (.ldc2_w 48, 3) := dk_20 0 48 (dk_at dksX13_goes_1 5 rfl rfl)
theorem dX13_goes_32 : decode cX13_goes 32 = .ok (.iload_n 3, 1) := dk_29 (dk_at dksX13_goes_1 8 rfl rfl)
theorem dX13_goes_33 : decode cX13_goes 33 = .ok (.i2l, 1) := dk_133 (dk_at dksX13_goes_1 9 rfl rfl)
theorem dX13_goes_34 : decode cX13_goes 34 = .ok (.lmul, 1) := dk_105 (dk_at dksX13_goes_1 10 rfl rfl)
theorem dX13_goes_35 : decode cX13_goes 35 = .ok (.lsub, 1) := dk_101 (dk_at dksX13_goes_1 11 rfl rfl)
theorem dX13_goes_36 : decode cX13_goes 36 = .ok (.lstore 4, 2) := dk_55 4 (dk_at dksX13_goes_1 12 rfl rfl)
theorem dX13_goes_38 : decode cX13_goes 38 = .ok (.iload_n 1, 1) := dk_27 (dk_at dksX13_goes_1 14 rfl rfl)
theorem dX13_goes_39 : decode cX13_goes 39 = .ok (.iconst 1, 1) := dk_4 (dk_at dksX13_goes_1 15 rfl rfl)
theorem dX13_goes_40 : decode cX13_goes 40 = .ok (.iadd, 1) := dk_96 (dk_at dksX13_goes_1 16 rfl rfl)
theorem dX13_goes_41 : decode cX13_goes 41 = .ok (.istore 6, 2) := dk_54 6 (dk_at dksX13_goes_1 17 rfl rfl)
theorem dX13_goes_43 : decode cX13_goes 43 = .ok (.iload 6, 2) := dk_21 6 (dk_at dksX13_goes_1 19 rfl rfl)
theorem dX13_goes_45 : decode cX13_goes 45 = .ok (.aload_n 0, 1) := dk_42 (dk_at dksX13_goes_1 21 rfl rfl)
theorem dX13_goes_46 : decode cX13_goes 46 = .ok (.getfield 32, 3) := dk_180 0 32 (dk_at dksX13_goes_2 0 rfl rfl)
theorem dX13_goes_49 : decode cX13_goes 49 = .ok (.arraylength, 1) := dk_190 (dk_at dksX13_goes_2 3 rfl rfl)
theorem dX13_goes_50 : decode cX13_goes 50 = .ok (.if_icmp .ge 35, 3) := dk_162 0 35 (dk_at dksX13_goes_2 4 rfl rfl)
theorem dX13_goes_53 : decode cX13_goes 53 = .ok (.lload 4, 2) := dk_22 4 (dk_at dksX13_goes_2 7 rfl rfl)
theorem dX13_goes_55 : decode cX13_goes 55 = .ok (.aload_n 0, 1) := dk_42 (dk_at dksX13_goes_2 9 rfl rfl)
theorem dX13_goes_56 : decode cX13_goes 56 = .ok (.getfield 36, 3) := dk_180 0 36 (dk_at dksX13_goes_2 10 rfl rfl)
theorem dX13_goes_59 : decode cX13_goes 59 = .ok (.iload 6, 2) := dk_21 6 (dk_at dksX13_goes_2 13 rfl rfl)
theorem dX13_goes_61 : decode cX13_goes 61 = .ok (.laload, 1) := dk_47 (dk_at dksX13_goes_2 15 rfl rfl)
theorem dX13_goes_62 : decode cX13_goes 62 = .ok (.aload_n 0, 1) := dk_42 (dk_at dksX13_goes_2 16 rfl rfl)
theorem dX13_goes_63 : decode cX13_goes 63 = .ok (.getfield 16, 3) := dk_180 0 16 (dk_at dksX13_goes_2 17 rfl rfl)
theorem dX13_goes_66 : decode cX13_goes 66 = .ok (.getfield 50, 3) := dk_180 0 50 (dk_at dksX13_goes_2 20 rfl rfl)
theorem dX13_goes_69 : decode cX13_goes 69 = .ok (.iload 6, 2) := dk_21 6 (dk_at dksX13_goes_3 0 rfl rfl)
theorem dX13_goes_71 : decode cX13_goes 71 = .ok (.aaload, 1) := dk_50 (dk_at dksX13_goes_3 2 rfl rfl)
theorem dX13_goes_72 : decode cX13_goes 72 = .ok (.iload_n 1, 1) := dk_27 (dk_at dksX13_goes_3 3 rfl rfl)
theorem dX13_goes_73 : decode cX13_goes 73 = .ok (.iaload, 1) := dk_46 (dk_at dksX13_goes_3 4 rfl rfl)
theorem dX13_goes_74 : decode cX13_goes 74 = .ok (.i2l, 1) := dk_133 (dk_at dksX13_goes_3 5 rfl rfl)
theorem dX13_goes_75 : decode cX13_goes 75 = .ok (.lmul, 1) := dk_105 (dk_at dksX13_goes_3 6 rfl rfl)
theorem dX13_goes_76 : decode cX13_goes 76 = .ok (.lsub, 1) := dk_101 (dk_at dksX13_goes_3 7 rfl rfl)
theorem dX13_goes_77 : decode cX13_goes 77 = .ok (.lstore 4, 2) := dk_55 4 (dk_at dksX13_goes_3 8 rfl rfl)
theorem dX13_goes_79 : decode cX13_goes 79 = .ok (.iinc 6 1, 3) := dk_132 6 1 (dk_at dksX13_goes_3 10 rfl rfl)
theorem dX13_goes_82 : decode cX13_goes 82 = .ok (.goto (-39), 3) := dk_167 255 217 (dk_at dksX13_goes_3 13 rfl rfl)
theorem dX13_goes_85 : decode cX13_goes 85 = .ok (.lload 4, 2) := dk_22 4 (dk_at dksX13_goes_3 16 rfl rfl)
theorem dX13_goes_87 : decode cX13_goes 87 = .ok (.aload_n 0, 1) := dk_42 (dk_at dksX13_goes_3 18 rfl rfl)
theorem dX13_goes_88 : decode cX13_goes 88 = .ok (.getfield 16, 3) := dk_180 0 16 (dk_at dksX13_goes_3 19 rfl rfl)
theorem dX13_goes_91 : decode cX13_goes 91 = .ok (.getfield 50, 3) := dk_180 0 50 (dk_at dksX13_goes_4 0 rfl rfl)
theorem dX13_goes_94 : decode cX13_goes 94 = .ok (.iload_n 1, 1) := dk_27 (dk_at dksX13_goes_4 3 rfl rfl)
theorem dX13_goes_95 : decode cX13_goes 95 = .ok (.aaload, 1) := dk_50 (dk_at dksX13_goes_4 4 rfl rfl)
theorem dX13_goes_96 : decode cX13_goes 96 = .ok (.iload_n 1, 1) := dk_27 (dk_at dksX13_goes_4 5 rfl rfl)
theorem dX13_goes_97 : decode cX13_goes 97 = .ok (.iaload, 1) := dk_46 (dk_at dksX13_goes_4 6 rfl rfl)
theorem dX13_goes_98 : decode cX13_goes 98 = .ok (.i2l, 1) := dk_133 (dk_at dksX13_goes_4 7 rfl rfl)
theorem dX13_goes_99 : decode cX13_goes 99 = .ok (.lrem, 1) := dk_113 (dk_at dksX13_goes_4 8 rfl rfl)
theorem dX13_goes_100 : decode cX13_goes 100 = .ok (.lconst 0, 1) := dk_9 (dk_at dksX13_goes_4 9 rfl rfl)
theorem dX13_goes_101 : decode cX13_goes 101 = .ok (.lcmp, 1) := dk_148 (dk_at dksX13_goes_4 10 rfl rfl)
theorem dX13_goes_102 : decode cX13_goes 102 = .ok (.ifCond .eq 6, 3) := dk_153 0 6 (dk_at dksX13_goes_4 11 rfl rfl)
theorem dX13_goes_105 : decode cX13_goes 105 = .ok (.goto 44, 3) := dk_167 0 44 (dk_at dksX13_goes_4 14 rfl rfl)
theorem dX13_goes_108 : decode cX13_goes 108 = .ok (.aload_n 0, 1) := dk_42 (dk_at dksX13_goes_4 17 rfl rfl)
theorem dX13_goes_109 : decode cX13_goes 109 = .ok (.getfield 36, 3) := dk_180 0 36 (dk_at dksX13_goes_4 18 rfl rfl)
theorem dX13_goes_112 : decode cX13_goes 112 = .ok (.iload_n 1, 1) := dk_27 (dk_at dksX13_goes_4 21 rfl rfl)
theorem dX13_goes_113 : decode cX13_goes 113 = .ok (.lload 4, 2) := dk_22 4 (dk_at dksX13_goes_4 22 rfl rfl)
theorem dX13_goes_115 : decode cX13_goes 115 = .ok (.aload_n 0, 1) := dk_42 (dk_at dksX13_goes_5 0 rfl rfl)
theorem dX13_goes_116 : decode cX13_goes 116 = .ok (.getfield 16, 3) := dk_180 0 16 (dk_at dksX13_goes_5 1 rfl rfl)
theorem dX13_goes_119 : decode cX13_goes 119 = .ok (.getfield 50, 3) := dk_180 0 50 (dk_at dksX13_goes_5 4 rfl rfl)
theorem dX13_goes_122 : decode cX13_goes 122 = .ok (.iload_n 1, 1) := dk_27 (dk_at dksX13_goes_5 7 rfl rfl)
theorem dX13_goes_123 : decode cX13_goes 123 = .ok (.aaload, 1) := dk_50 (dk_at dksX13_goes_5 8 rfl rfl)
theorem dX13_goes_124 : decode cX13_goes 124 = .ok (.iload_n 1, 1) := dk_27 (dk_at dksX13_goes_5 9 rfl rfl)
theorem dX13_goes_125 : decode cX13_goes 125 = .ok (.iaload, 1) := dk_46 (dk_at dksX13_goes_5 10 rfl rfl)
theorem dX13_goes_126 : decode cX13_goes 126 = .ok (.i2l, 1) := dk_133 (dk_at dksX13_goes_5 11 rfl rfl)
theorem dX13_goes_127 : decode cX13_goes 127 = .ok (.ldiv, 1) := dk_109 (dk_at dksX13_goes_5 12 rfl rfl)
theorem dX13_goes_128 : decode cX13_goes 128 = .ok (.lastore, 1) := dk_80 (dk_at dksX13_goes_5 13 rfl rfl)
theorem dX13_goes_129 : decode cX13_goes 129 = .ok (.aload_n 0, 1) := dk_42 (dk_at dksX13_goes_5 14 rfl rfl)
theorem dX13_goes_130 : decode cX13_goes 130 = .ok (.iload_n 1, 1) := dk_27 (dk_at dksX13_goes_5 15 rfl rfl)
theorem dX13_goes_131 : decode cX13_goes 131 = .ok (.iconst 1, 1) := dk_4 (dk_at dksX13_goes_5 16 rfl rfl)
theorem dX13_goes_132 : decode cX13_goes 132 = .ok (.isub, 1) := dk_100 (dk_at dksX13_goes_5 17 rfl rfl)
theorem dX13_goes_133 : decode cX13_goes 133 = .ok (.iload_n 2, 1) := dk_28 (dk_at dksX13_goes_5 18 rfl rfl)
theorem dX13_goes_134 : decode cX13_goes 134 = .ok (.iload_n 3, 1) := dk_29 (dk_at dksX13_goes_5 19 rfl rfl)
theorem dX13_goes_135 : decode cX13_goes 135 = .ok (.aload_n 0, 1) := dk_42 (dk_at dksX13_goes_5 20 rfl rfl)
theorem dX13_goes_136 : decode cX13_goes 136 = .ok (.getfield 32, 3) := dk_180 0 32 (dk_at dksX13_goes_5 21 rfl rfl)
theorem dX13_goes_139 : decode cX13_goes 139 = .ok (.arraylength, 1) := dk_190 (dk_at dksX13_goes_6 0 rfl rfl)
theorem dX13_goes_140 : decode cX13_goes 140 = .ok (.iconst 1, 1) := dk_4 (dk_at dksX13_goes_6 1 rfl rfl)
theorem dX13_goes_141 : decode cX13_goes 141 = .ok (.isub, 1) := dk_100 (dk_at dksX13_goes_6 2 rfl rfl)
theorem dX13_goes_142 : decode cX13_goes 142 = .ok (.iload_n 1, 1) := dk_27 (dk_at dksX13_goes_6 3 rfl rfl)
theorem dX13_goes_143 : decode cX13_goes 143 = .ok (.isub, 1) := dk_100 (dk_at dksX13_goes_6 4 rfl rfl)
theorem dX13_goes_144 : decode cX13_goes 144 = .ok (.ishl, 1) := dk_120 (dk_at dksX13_goes_6 5 rfl rfl)
theorem dX13_goes_145 : decode cX13_goes 145 = .ok (.ior, 1) := dk_128 (dk_at dksX13_goes_6 6 rfl rfl)
theorem dX13_goes_146 : decode cX13_goes 146 = .ok (.invokevirtual 54, 3) := dk_182 0 54 (dk_at dksX13_goes_6 7 rfl rfl)
theorem dX13_goes_149 : decode cX13_goes 149 = .ok (.iinc 3 1, 3) := dk_132 3 1 (dk_at dksX13_goes_6 10 rfl rfl)
theorem dX13_goes_152 : decode cX13_goes 152 = .ok (.goto (-129), 3) := dk_167 255 127 (dk_at dksX13_goes_6 13 rfl rfl)
theorem dX13_goes_155 : decode cX13_goes 155 = .ok (.return_, 1) := dk_177 (dk_at dksX13_goes_6 16 rfl rfl)
theorem q184 : (Jvm.Cond.initialized "TroupeSums$Seeker") ∈ lw_all := lw_g (lw_at lw_m1 51 rfl) rfl
theorem q834 : (Jvm.Cond.selects "TroupeSums$Seeker" ({ cls := "java/lang/Object", name := "getClass", desc := "()Ljava/lang/Class;" } : Jvm.MethodName) ({ cls := "java/lang/Object", name := "getClass", desc := "()Ljava/lang/Class;" } : Jvm.MethodName)) ∈ lw_all := lw_g (lw_at lw_m3 221 rfl) rfl
theorem q966 : (Jvm.Cond.selects "TroupeSums$Seeker" ({ cls := "java/lang/Object", name := "equals", desc := "(Ljava/lang/Object;)Z" } : Jvm.MethodName) ({ cls := "java/lang/Object", name := "equals", desc := "(Ljava/lang/Object;)Z" } : Jvm.MethodName)) ∈ lw_all := lw_g (lw_at lw_m4 113 rfl) rfl
theorem q1191 : (Jvm.Cond.fieldLinkNest "TroupeSums$Seeker" (20 : Nat) "TroupeSums$Group" "sorts" "Ljava/util/List;" "TroupeSums") ∈ lw_tbl := lw_at lw_m5 98 rfl
theorem q1198 : (Jvm.Cond.fieldLinkNest "TroupeSums$Seeker" (50 : Nat) "TroupeSums$Group" "marks" "[[I" "TroupeSums") ∈ lw_tbl := lw_at lw_m5 105 rfl
theorem q2196 : (Jvm.Cond.instantiable "TroupeSums$Seeker" (4 : Nat)) ∈ lw_all := lw_g (lw_at lw_m9 143 rfl) rfl
theorem q2198 : (Jvm.Cond.instanceMethod ({ cls := "TroupeSums$Seeker", name := "<init>", desc := "(LTroupeSums$Group;)V" } : Jvm.MethodName)) ∈ lw_all := lw_g (lw_at lw_m9 145 rfl) rfl
theorem q2199 : (Jvm.Cond.code ({ cls := "TroupeSums$Seeker", name := "<init>", desc := "(LTroupeSums$Group;)V" } : Jvm.MethodName) prog_7_method_1_code (2 : Nat) (Option.none : Option Jvm.ClassFile.FieldType)) ∈ lw_all := lw_g (lw_at lw_m9 146 rfl) rfl
theorem q2200 : (Jvm.Cond.methodLink "TroupeSums$Seeker" (1 : Nat) ({ cls := "java/lang/Object", name := "<init>", desc := "()V" } : Jvm.MethodName)) ∈ lw_all := lw_g (lw_at lw_m9 147 rfl) rfl
theorem q2201 : (Jvm.Cond.classLink "TroupeSums$Seeker" (7 : Nat) "java/util/PriorityQueue") ∈ lw_all := lw_g (lw_at lw_m9 148 rfl) rfl
theorem q2202 : (Jvm.Cond.methodLink "TroupeSums$Seeker" (9 : Nat) ({ cls := "java/util/PriorityQueue", name := "<init>", desc := "()V" } : Jvm.MethodName)) ∈ lw_all := lw_g (lw_at lw_m9 149 rfl) rfl
theorem q2205 : (Jvm.Cond.interfaceEntry "TroupeSums$Seeker" (26 : Nat)) ∈ lw_tbl := lw_at lw_m9 152 rfl
theorem q2206 : (Jvm.Cond.methodLink "TroupeSums$Seeker" (26 : Nat) ({ cls := "java/util/List", name := "size", desc := "()I" } : Jvm.MethodName)) ∈ lw_all := lw_g (lw_at lw_m9 153 rfl) rfl
theorem q2207 : (Jvm.Cond.fieldLink "TroupeSums$Seeker" (16 : Nat) "TroupeSums$Seeker" "group" "LTroupeSums$Group;") ∈ lw_all := lw_g (lw_at lw_m9 154 rfl) rfl
theorem q2208 : (Jvm.Cond.fieldLink "TroupeSums$Seeker" (32 : Nat) "TroupeSums$Seeker" "row" "[J") ∈ lw_all := lw_g (lw_at lw_m9 155 rfl) rfl
theorem q2209 : (Jvm.Cond.fieldLink "TroupeSums$Seeker" (36 : Nat) "TroupeSums$Seeker" "numbers" "[J") ∈ lw_all := lw_g (lw_at lw_m9 156 rfl) rfl
theorem q2210 : (Jvm.Cond.fieldLink "TroupeSums$Seeker" (10 : Nat) "TroupeSums$Seeker" "found" "Ljava/util/PriorityQueue;") ∈ lw_all := lw_g (lw_at lw_m9 157 rfl) rfl
theorem q2211 : (Jvm.Cond.laysFinal "TroupeSums$Seeker" "TroupeSums$Seeker" "group" "LTroupeSums$Group;") ∈ lw_all := lw_g (lw_at lw_m9 158 rfl) rfl
theorem q2212 : (Jvm.Cond.soleField "TroupeSums$Seeker" "group") ∈ lw_all := lw_g (lw_at lw_m9 159 rfl) rfl
theorem q2213 : (Jvm.Cond.laysFinal "TroupeSums$Seeker" "TroupeSums$Seeker" "row" "[J") ∈ lw_all := lw_g (lw_at lw_m9 160 rfl) rfl
theorem q2214 : (Jvm.Cond.soleField "TroupeSums$Seeker" "row") ∈ lw_all := lw_g (lw_at lw_m9 161 rfl) rfl
theorem q2215 : (Jvm.Cond.laysFinal "TroupeSums$Seeker" "TroupeSums$Seeker" "numbers" "[J") ∈ lw_all := lw_g (lw_at lw_m9 162 rfl) rfl
theorem q2216 : (Jvm.Cond.soleField "TroupeSums$Seeker" "numbers") ∈ lw_all := lw_g (lw_at lw_m9 163 rfl) rfl
theorem q2217 : (Jvm.Cond.laysFinal "TroupeSums$Seeker" "TroupeSums$Seeker" "found" "Ljava/util/PriorityQueue;") ∈ lw_all := lw_g (lw_at lw_m9 164 rfl) rfl
theorem q2218 : (Jvm.Cond.soleField "TroupeSums$Seeker" "found") ∈ lw_all := lw_g (lw_at lw_m9 165 rfl) rfl
theorem q2219 : (Jvm.Cond.superclass "TroupeSums$Seeker" "java/lang/Object") ∈ lw_all := lw_g (lw_at lw_m9 166 rfl) rfl
theorem q2221 : (Jvm.Cond.instanceMethod ({ cls := "TroupeSums$Seeker", name := "all", desc := "()Ljava/util/List;" } : Jvm.MethodName)) ∈ lw_all := lw_g (lw_at lw_m9 168 rfl) rfl
theorem q2222 : (Jvm.Cond.selects "TroupeSums$Seeker" ({ cls := "TroupeSums$Seeker", name := "all", desc := "()Ljava/util/List;" } : Jvm.MethodName) ({ cls := "TroupeSums$Seeker", name := "all", desc := "()Ljava/util/List;" } : Jvm.MethodName)) ∈ lw_all := lw_g (lw_at lw_m9 169 rfl) rfl
theorem q2223 : (Jvm.Cond.code ({ cls := "TroupeSums$Seeker", name := "all", desc := "()Ljava/util/List;" } : Jvm.MethodName) prog_7_method_3_code (2 : Nat) (Option.some (Jvm.ClassFile.FieldType.object "java/util/List"))) ∈ lw_all := lw_g (lw_at lw_m9 170 rfl) rfl
theorem q2224 : (Jvm.Cond.methodLink "TroupeSums$Seeker" (54 : Nat) ({ cls := "TroupeSums$Seeker", name := "goes", desc := "(II)V" } : Jvm.MethodName)) ∈ lw_all := lw_g (lw_at lw_m9 171 rfl) rfl
theorem q2225 : (Jvm.Cond.instanceMethod ({ cls := "TroupeSums$Seeker", name := "goes", desc := "(II)V" } : Jvm.MethodName)) ∈ lw_all := lw_g (lw_at lw_m9 172 rfl) rfl
theorem q2226 : (Jvm.Cond.selects "TroupeSums$Seeker" ({ cls := "TroupeSums$Seeker", name := "goes", desc := "(II)V" } : Jvm.MethodName) ({ cls := "TroupeSums$Seeker", name := "goes", desc := "(II)V" } : Jvm.MethodName)) ∈ lw_all := lw_g (lw_at lw_m9 173 rfl) rfl
theorem q2227 : (Jvm.Cond.code ({ cls := "TroupeSums$Seeker", name := "goes", desc := "(II)V" } : Jvm.MethodName) prog_7_method_2_code (7 : Nat) (Option.none : Option Jvm.ClassFile.FieldType)) ∈ lw_all := lw_g (lw_at lw_m9 174 rfl) rfl
theorem q2228 : (Jvm.Cond.classLink "TroupeSums$Seeker" (39 : Nat) "TroupeSums$Signs") ∈ lw_all := lw_g (lw_at lw_m9 175 rfl) rfl
theorem q2230 : (Jvm.Cond.methodLink "TroupeSums$Seeker" (41 : Nat) ({ cls := "TroupeSums$Signs", name := "<init>", desc := "(I)V" } : Jvm.MethodName)) ∈ lw_all := lw_g (lw_at lw_m9 177 rfl) rfl
theorem q2239 : (Jvm.Cond.methodLink "TroupeSums$Seeker" (44 : Nat) ({ cls := "java/util/PriorityQueue", name := "add", desc := "(Ljava/lang/Object;)Z" } : Jvm.MethodName)) ∈ lw_all := lw_g (lw_at lw_m9 186 rfl) rfl
theorem q2240 : (Jvm.Cond.constantLong "TroupeSums$Seeker" (48 : Nat) (2 : Int64)) ∈ lw_all := lw_g (lw_at lw_m9 187 rfl) rfl
theorem q2241 : (Jvm.Cond.classLink "TroupeSums$Seeker" (58 : Nat) "java/util/ArrayList") ∈ lw_all := lw_g (lw_at lw_m9 188 rfl) rfl
theorem q2242 : (Jvm.Cond.methodLink "TroupeSums$Seeker" (60 : Nat) ({ cls := "java/util/ArrayList", name := "<init>", desc := "()V" } : Jvm.MethodName)) ∈ lw_all := lw_g (lw_at lw_m9 189 rfl) rfl
theorem q2243 : (Jvm.Cond.methodLink "TroupeSums$Seeker" (61 : Nat) ({ cls := "java/util/PriorityQueue", name := "isEmpty", desc := "()Z" } : Jvm.MethodName)) ∈ lw_all := lw_g (lw_at lw_m9 190 rfl) rfl
theorem q2244 : (Jvm.Cond.methodLink "TroupeSums$Seeker" (65 : Nat) ({ cls := "java/util/PriorityQueue", name := "remove", desc := "()Ljava/lang/Object;" } : Jvm.MethodName)) ∈ lw_all := lw_g (lw_at lw_m9 191 rfl) rfl
theorem q2245 : (Jvm.Cond.interfaceEntry "TroupeSums$Seeker" (69 : Nat)) ∈ lw_tbl := lw_at lw_m9 192 rfl
theorem q2246 : (Jvm.Cond.methodLink "TroupeSums$Seeker" (69 : Nat) ({ cls := "java/util/List", name := "add", desc := "(Ljava/lang/Object;)Z" } : Jvm.MethodName)) ∈ lw_all := lw_g (lw_at lw_m9 193 rfl) rfl
theorem q3209 : (Jvm.Cond.castable "TroupeSums$Seeker" "java/lang/Object") ∈ lw_tbl := lw_at lw_m13 196 rfl
theorem in_X13 : ∀ w ∈ wsX130, w ∈ lw_all := lw_in wsX130 [2211, 2213, 2215, 2217] (by decide +kernel) (by decide +kernel)
/-! TroupeSums$Signs -/
set_option maxRecDepth 100000
def RX14 : String := "TroupeSums$Signs"
def TX14 : u_T := fun k => match k with
  | _ => ("TroupeSums$Signs", "bits", "I", true)
def tyX14 : Nat → FieldType := fun k => match k with
  | _ => .int
abbrev wsX140 : List Cond := u_ws RX14 TX14 1
theorem nmX14 : ∀ a, a < 1 → ∀ b, b < 1 → a ≠ b → (TX14 a).2.1 ≠ (TX14 b).2.1 := by decide +kernel
theorem tyX14_ok : ∀ k, k < 1 → parseFieldDescriptor (TX14 k).2.2.1 = some (tyX14 k) := by decide +kernel
abbrev cX14_compareTo : ByteArray := prog_8_method_3_code
def yX14_compareTo : MethodName := ⟨RX14, "compareTo", "(Ljava/lang/Object;)I"⟩
def dkwX14_compareTo_0 : List UInt8 := [42, 43, 192, 0, 8, 182, 0, 19, 172]
abbrev dktX14_compareTo_0 : List UInt8 := dkwX14_compareTo_0 ++ []
theorem dksX14_compareTo_0 : cX14_compareTo.data.toList.drop 0 = dktX14_compareTo_0 := by decide +kernel
theorem dX14_compareTo_0 : decode cX14_compareTo 0 = .ok (.aload_n 0, 1) := dk_42 (dk_at dksX14_compareTo_0 0 rfl rfl)
theorem dX14_compareTo_1 : decode cX14_compareTo 1 = .ok (.aload_n 1, 1) := dk_43 (dk_at dksX14_compareTo_0 1 rfl rfl)
theorem dX14_compareTo_2 : decode cX14_compareTo 2 = .ok (.checkcast 8, 3) := dk_192 0 8 (dk_at dksX14_compareTo_0 2 rfl rfl)
theorem dX14_compareTo_5 : decode cX14_compareTo 5 = .ok (.invokevirtual 19, 3) := dk_182 0 19 (dk_at dksX14_compareTo_0 5 rfl rfl)
theorem dX14_compareTo_8 : decode cX14_compareTo 8 = .ok (.ireturn, 1) := dk_172 (dk_at dksX14_compareTo_0 8 rfl rfl)
abbrev cX14_compareTo_2 : ByteArray := prog_8_method_2_code
def yX14_compareTo_2 : MethodName := ⟨RX14, "compareTo", "(LTroupeSums$Signs;)I"⟩
def dkwX14_compareTo_2_0 : List UInt8 := [42, 180, 0, 7, 43, 180, 0, 7, 184, 0, 13, 172]
abbrev dktX14_compareTo_2_0 : List UInt8 := dkwX14_compareTo_2_0 ++ []
theorem dksX14_compareTo_2_0 : cX14_compareTo_2.data.toList.drop 0 = dktX14_compareTo_2_0 := by decide +kernel
theorem dX14_compareTo_2_0 : decode cX14_compareTo_2 0 = .ok (.aload_n 0, 1) := dk_42 (dk_at dksX14_compareTo_2_0 0 rfl rfl)
theorem dX14_compareTo_2_1 : decode cX14_compareTo_2 1 = .ok (.getfield 7, 3) := dk_180 0 7 (dk_at dksX14_compareTo_2_0 1 rfl rfl)
theorem dX14_compareTo_2_4 : decode cX14_compareTo_2 4 = .ok (.aload_n 1, 1) := dk_43 (dk_at dksX14_compareTo_2_0 4 rfl rfl)
theorem dX14_compareTo_2_5 : decode cX14_compareTo_2 5 = .ok (.getfield 7, 3) := dk_180 0 7 (dk_at dksX14_compareTo_2_0 5 rfl rfl)
theorem dX14_compareTo_2_8 : decode cX14_compareTo_2 8 = .ok (.invokestatic 13, 3) := dk_184 0 13 (dk_at dksX14_compareTo_2_0 8 rfl rfl)
theorem dX14_compareTo_2_11 : decode cX14_compareTo_2 11 = .ok (.ireturn, 1) := dk_172 (dk_at dksX14_compareTo_2_0 11 rfl rfl)
abbrev cX14_init : ByteArray := prog_8_method_1_code
def yX14_init : MethodName := ⟨RX14, "<init>", "(I)V"⟩
def dkwX14_init_0 : List UInt8 := [42, 183, 0, 1, 42, 27, 181, 0, 7, 177]
abbrev dktX14_init_0 : List UInt8 := dkwX14_init_0 ++ []
theorem dksX14_init_0 : cX14_init.data.toList.drop 0 = dktX14_init_0 := by decide +kernel
theorem dX14_init_0 : decode cX14_init 0 = .ok (.aload_n 0, 1) := dk_42 (dk_at dksX14_init_0 0 rfl rfl)
theorem dX14_init_1 : decode cX14_init 1 = .ok (.invokespecial 1, 3) := dk_183 0 1 (dk_at dksX14_init_0 1 rfl rfl)
theorem dX14_init_4 : decode cX14_init 4 = .ok (.aload_n 0, 1) := dk_42 (dk_at dksX14_init_0 4 rfl rfl)
theorem dX14_init_5 : decode cX14_init 5 = .ok (.iload_n 1, 1) := dk_27 (dk_at dksX14_init_0 5 rfl rfl)
theorem dX14_init_6 : decode cX14_init 6 = .ok (.putfield 7, 3) := dk_181 0 7 (dk_at dksX14_init_0 6 rfl rfl)
theorem dX14_init_9 : decode cX14_init 9 = .ok (.return_, 1) := dk_177 (dk_at dksX14_init_0 9 rfl rfl)
theorem q185 : (Jvm.Cond.initialized "TroupeSums$Signs") ∈ lw_all := lw_g (lw_at lw_m1 52 rfl) rfl
theorem q356 : (Jvm.Cond.castable "TroupeSums$Signs" "java/lang/Comparable") ∈ lw_tbl := lw_at lw_m1 223 rfl
theorem q357 : (Jvm.Cond.selects "TroupeSums$Signs" ({ cls := "java/lang/Comparable", name := "compareTo", desc := "(Ljava/lang/Object;)I" } : Jvm.MethodName) ({ cls := "TroupeSums$Signs", name := "compareTo", desc := "(Ljava/lang/Object;)I" } : Jvm.MethodName)) ∈ lw_all := lw_g (lw_at lw_m1 224 rfl) rfl
theorem q358 : (Jvm.Cond.unhidden "TroupeSums$Signs" "compareTo" "(Ljava/lang/Object;)I") ∈ lw_tbl := lw_at lw_m1 225 rfl
theorem q359 : (Jvm.Cond.instanceMethod ({ cls := "TroupeSums$Signs", name := "compareTo", desc := "(Ljava/lang/Object;)I" } : Jvm.MethodName)) ∈ lw_all := lw_g (lw_at lw_m1 226 rfl) rfl
theorem q360 : (Jvm.Cond.publicMethod ({ cls := "TroupeSums$Signs", name := "compareTo", desc := "(Ljava/lang/Object;)I" } : Jvm.MethodName)) ∈ lw_tbl := lw_at lw_m1 227 rfl
theorem q361 : (Jvm.Cond.code ({ cls := "TroupeSums$Signs", name := "compareTo", desc := "(Ljava/lang/Object;)I" } : Jvm.MethodName) prog_8_method_3_code (2 : Nat) (Option.some Jvm.ClassFile.FieldType.int)) ∈ lw_all := lw_g (lw_at lw_m1 228 rfl) rfl
theorem q362 : (Jvm.Cond.classLink "TroupeSums$Signs" (8 : Nat) "TroupeSums$Signs") ∈ lw_all := lw_g (lw_at lw_m1 229 rfl) rfl
theorem q363 : (Jvm.Cond.methodLink "TroupeSums$Signs" (19 : Nat) ({ cls := "TroupeSums$Signs", name := "compareTo", desc := "(LTroupeSums$Signs;)I" } : Jvm.MethodName)) ∈ lw_all := lw_g (lw_at lw_m1 230 rfl) rfl
theorem q364 : (Jvm.Cond.instanceMethod ({ cls := "TroupeSums$Signs", name := "compareTo", desc := "(LTroupeSums$Signs;)I" } : Jvm.MethodName)) ∈ lw_all := lw_g (lw_at lw_m1 231 rfl) rfl
theorem q365 : (Jvm.Cond.selects "TroupeSums$Signs" ({ cls := "TroupeSums$Signs", name := "compareTo", desc := "(LTroupeSums$Signs;)I" } : Jvm.MethodName) ({ cls := "TroupeSums$Signs", name := "compareTo", desc := "(LTroupeSums$Signs;)I" } : Jvm.MethodName)) ∈ lw_all := lw_g (lw_at lw_m1 232 rfl) rfl
theorem q366 : (Jvm.Cond.code ({ cls := "TroupeSums$Signs", name := "compareTo", desc := "(LTroupeSums$Signs;)I" } : Jvm.MethodName) prog_8_method_2_code (2 : Nat) (Option.some Jvm.ClassFile.FieldType.int)) ∈ lw_all := lw_g (lw_at lw_m1 233 rfl) rfl
theorem q367 : (Jvm.Cond.methodLink "TroupeSums$Signs" (13 : Nat) ({ cls := "java/lang/Integer", name := "compare", desc := "(II)I" } : Jvm.MethodName)) ∈ lw_all := lw_g (lw_at lw_m1 234 rfl) rfl
theorem q835 : (Jvm.Cond.selects "TroupeSums$Signs" ({ cls := "java/lang/Object", name := "getClass", desc := "()Ljava/lang/Class;" } : Jvm.MethodName) ({ cls := "java/lang/Object", name := "getClass", desc := "()Ljava/lang/Class;" } : Jvm.MethodName)) ∈ lw_all := lw_g (lw_at lw_m3 222 rfl) rfl
theorem q967 : (Jvm.Cond.selects "TroupeSums$Signs" ({ cls := "java/lang/Object", name := "equals", desc := "(Ljava/lang/Object;)Z" } : Jvm.MethodName) ({ cls := "java/lang/Object", name := "equals", desc := "(Ljava/lang/Object;)Z" } : Jvm.MethodName)) ∈ lw_all := lw_g (lw_at lw_m4 114 rfl) rfl
theorem q2229 : (Jvm.Cond.instantiable "TroupeSums$Signs" (1 : Nat)) ∈ lw_all := lw_g (lw_at lw_m9 176 rfl) rfl
theorem q2231 : (Jvm.Cond.instanceMethod ({ cls := "TroupeSums$Signs", name := "<init>", desc := "(I)V" } : Jvm.MethodName)) ∈ lw_all := lw_g (lw_at lw_m9 178 rfl) rfl
theorem q2232 : (Jvm.Cond.code ({ cls := "TroupeSums$Signs", name := "<init>", desc := "(I)V" } : Jvm.MethodName) prog_8_method_1_code (2 : Nat) (Option.none : Option Jvm.ClassFile.FieldType)) ∈ lw_all := lw_g (lw_at lw_m9 179 rfl) rfl
theorem q2233 : (Jvm.Cond.methodLink "TroupeSums$Signs" (1 : Nat) ({ cls := "java/lang/Object", name := "<init>", desc := "()V" } : Jvm.MethodName)) ∈ lw_all := lw_g (lw_at lw_m9 180 rfl) rfl
theorem q2234 : (Jvm.Cond.fieldLink "TroupeSums$Signs" (7 : Nat) "TroupeSums$Signs" "bits" "I") ∈ lw_all := lw_g (lw_at lw_m9 181 rfl) rfl
theorem q2236 : (Jvm.Cond.laysFinal "TroupeSums$Signs" "TroupeSums$Signs" "bits" "I") ∈ lw_all := lw_g (lw_at lw_m9 183 rfl) rfl
theorem q2237 : (Jvm.Cond.soleField "TroupeSums$Signs" "bits") ∈ lw_all := lw_g (lw_at lw_m9 184 rfl) rfl
theorem q2238 : (Jvm.Cond.superclass "TroupeSums$Signs" "java/lang/Object") ∈ lw_all := lw_g (lw_at lw_m9 185 rfl) rfl
theorem q3210 : (Jvm.Cond.castable "TroupeSums$Signs" "java/lang/Object") ∈ lw_tbl := lw_at lw_m13 197 rfl
theorem in_X14 : ∀ w ∈ wsX140, w ∈ lw_all := lw_in wsX140 [2236] (by decide +kernel) (by decide +kernel)
theorem q133 : (Jvm.Cond.initialized "TroupeSumsLaw") ∈ lw_all := lw_g (lw_at lw_m1 0 rfl) rfl
set_option maxRecDepth 100000
theorem q186 : (Jvm.Cond.classLink "TroupeSumsLaw" (7 : Nat) "TroupeSums") ∈ lw_all := lw_g (lw_at lw_m1 53 rfl) rfl
theorem q188 : (Jvm.Cond.methodLink "TroupeSumsLaw" (9 : Nat) ({ cls := "TroupeSums", name := "<init>", desc := "()V" } : Jvm.MethodName)) ∈ lw_all := lw_g (lw_at lw_m1 55 rfl) rfl
theorem q1260 : (Jvm.Cond.methodLink "TroupeSumsLaw" (13 : Nat) ({ cls := "TroupeSums", name := "feed", desc := "(IIIII)I" } : Jvm.MethodName)) ∈ lw_all := lw_g (lw_at lw_m5 167 rfl) rfl
theorem q1264 : (Jvm.Cond.methodLink "TroupeSumsLaw" (18 : Nat) ({ cls := "TroupeSums", name := "end", desc := "(I)I" } : Jvm.MethodName)) ∈ lw_all := lw_g (lw_at lw_m5 171 rfl) rfl
theorem q1268 : (Jvm.Cond.methodLink "TroupeSumsLaw" (23 : Nat) ({ cls := "TroupeSums", name := "troupe", desc := "()I" } : Jvm.MethodName)) ∈ lw_all := lw_g (lw_at lw_m5 175 rfl) rfl
theorem q1927 : (Jvm.Cond.methodLink "TroupeSumsLaw" (28 : Nat) ({ cls := "TroupeSums", name := "fault", desc := "(I)I" } : Jvm.MethodName)) ∈ lw_all := lw_g (lw_at lw_m8 114 rfl) rfl
theorem q1931 : (Jvm.Cond.methodLink "TroupeSumsLaw" (32 : Nat) ({ cls := "TroupeSums", name := "about", desc := "(I)I" } : Jvm.MethodName)) ∈ lw_all := lw_g (lw_at lw_m8 118 rfl) rfl
theorem q1940 : (Jvm.Cond.methodLink "TroupeSumsLaw" (36 : Nat) ({ cls := "TroupeSums", name := "moves", desc := "(II)I" } : Jvm.MethodName)) ∈ lw_all := lw_g (lw_at lw_m8 127 rfl) rfl
theorem q1951 : (Jvm.Cond.methodLink "TroupeSumsLaw" (41 : Nat) ({ cls := "TroupeSums", name := "times", desc := "(II)I" } : Jvm.MethodName)) ∈ lw_all := lw_g (lw_at lw_m8 138 rfl) rfl
theorem q1984 : (Jvm.Cond.methodLink "TroupeSumsLaw" (45 : Nat) ({ cls := "TroupeSums", name := "order", desc := "(I)I" } : Jvm.MethodName)) ∈ lw_all := lw_g (lw_at lw_m8 171 rfl) rfl
theorem q1992 : (Jvm.Cond.methodLink "TroupeSumsLaw" (49 : Nat) ({ cls := "TroupeSums", name := "makesOf", desc := "(I)I" } : Jvm.MethodName)) ∈ lw_all := lw_g (lw_at lw_m8 179 rfl) rfl
theorem q2001 : (Jvm.Cond.methodLink "TroupeSumsLaw" (53 : Nat) ({ cls := "TroupeSums", name := "sortOf", desc := "(I)I" } : Jvm.MethodName)) ∈ lw_all := lw_g (lw_at lw_m8 188 rfl) rfl
theorem q2011 : (Jvm.Cond.methodLink "TroupeSumsLaw" (57 : Nat) ({ cls := "TroupeSums", name := "sort", desc := "(II)I" } : Jvm.MethodName)) ∈ lw_all := lw_g (lw_at lw_m8 198 rfl) rfl
theorem q2025 : (Jvm.Cond.methodLink "TroupeSumsLaw" (61 : Nat) ({ cls := "TroupeSums", name := "within", desc := "(II)I" } : Jvm.MethodName)) ∈ lw_all := lw_g (lw_at lw_m8 212 rfl) rfl
theorem q2033 : (Jvm.Cond.methodLink "TroupeSumsLaw" (65 : Nat) ({ cls := "TroupeSums", name := "mark", desc := "(II)I" } : Jvm.MethodName)) ∈ lw_all := lw_g (lw_at lw_m8 220 rfl) rfl
theorem q2037 : (Jvm.Cond.methodLink "TroupeSumsLaw" (69 : Nat) ({ cls := "TroupeSums", name := "product", desc := "(III)I" } : Jvm.MethodName)) ∈ lw_all := lw_g (lw_at lw_m8 224 rfl) rfl
theorem q2044 : (Jvm.Cond.methodLink "TroupeSumsLaw" (74 : Nat) ({ cls := "TroupeSums", name := "residue", desc := "(II)I" } : Jvm.MethodName)) ∈ lw_all := lw_g (lw_at lw_m8 231 rfl) rfl
theorem q2056 : (Jvm.Cond.methodLink "TroupeSumsLaw" (78 : Nat) ({ cls := "TroupeSums", name := "block", desc := "(II)I" } : Jvm.MethodName)) ∈ lw_all := lw_g (lw_at lw_m9 3 rfl) rfl
theorem q2065 : (Jvm.Cond.methodLink "TroupeSumsLaw" (82 : Nat) ({ cls := "TroupeSums", name := "keeper", desc := "(I)I" } : Jvm.MethodName)) ∈ lw_all := lw_g (lw_at lw_m9 12 rfl) rfl
theorem q2077 : (Jvm.Cond.methodLink "TroupeSumsLaw" (86 : Nat) ({ cls := "TroupeSums", name := "orbit", desc := "(I)I" } : Jvm.MethodName)) ∈ lw_all := lw_g (lw_at lw_m9 24 rfl) rfl
theorem q2085 : (Jvm.Cond.methodLink "TroupeSumsLaw" (90 : Nat) ({ cls := "TroupeSums", name := "coset", desc := "(II)I" } : Jvm.MethodName)) ∈ lw_all := lw_g (lw_at lw_m9 32 rfl) rfl
theorem q2093 : (Jvm.Cond.methodLink "TroupeSumsLaw" (94 : Nat) ({ cls := "TroupeSums", name := "takes", desc := "(III)I" } : Jvm.MethodName)) ∈ lw_all := lw_g (lw_at lw_m9 40 rfl) rfl
theorem q2097 : (Jvm.Cond.methodLink "TroupeSumsLaw" (98 : Nat) ({ cls := "TroupeSums", name := "moebius", desc := "(I)I" } : Jvm.MethodName)) ∈ lw_all := lw_g (lw_at lw_m9 44 rfl) rfl
theorem q2106 : (Jvm.Cond.methodLink "TroupeSumsLaw" (102 : Nat) ({ cls := "TroupeSums", name := "mixed", desc := "(I)I" } : Jvm.MethodName)) ∈ lw_all := lw_g (lw_at lw_m9 53 rfl) rfl
theorem q2118 : (Jvm.Cond.methodLink "TroupeSumsLaw" (106 : Nat) ({ cls := "TroupeSums", name := "centre", desc := "(I)I" } : Jvm.MethodName)) ∈ lw_all := lw_g (lw_at lw_m9 65 rfl) rfl
theorem q2126 : (Jvm.Cond.methodLink "TroupeSumsLaw" (110 : Nat) ({ cls := "TroupeSums", name := "pairs", desc := "(II)I" } : Jvm.MethodName)) ∈ lw_all := lw_g (lw_at lw_m9 73 rfl) rfl
theorem q2131 : (Jvm.Cond.methodLink "TroupeSumsLaw" (114 : Nat) ({ cls := "TroupeSums", name := "alike", desc := "()I" } : Jvm.MethodName)) ∈ lw_all := lw_g (lw_at lw_m9 78 rfl) rfl
theorem q2136 : (Jvm.Cond.methodLink "TroupeSumsLaw" (118 : Nat) ({ cls := "TroupeSums", name := "meet", desc := "(II)I" } : Jvm.MethodName)) ∈ lw_all := lw_g (lw_at lw_m9 83 rfl) rfl
theorem q2140 : (Jvm.Cond.methodLink "TroupeSumsLaw" (122 : Nat) ({ cls := "TroupeSums", name := "join", desc := "(II)I" } : Jvm.MethodName)) ∈ lw_all := lw_g (lw_at lw_m9 87 rfl) rfl
theorem q2145 : (Jvm.Cond.methodLink "TroupeSumsLaw" (126 : Nat) ({ cls := "TroupeSums", name := "orders", desc := "(I)I" } : Jvm.MethodName)) ∈ lw_all := lw_g (lw_at lw_m9 92 rfl) rfl
theorem q2151 : (Jvm.Cond.methodLink "TroupeSumsLaw" (130 : Nat) ({ cls := "TroupeSums", name := "likes", desc := "(I)I" } : Jvm.MethodName)) ∈ lw_all := lw_g (lw_at lw_m9 98 rfl) rfl
theorem q2159 : (Jvm.Cond.methodLink "TroupeSumsLaw" (134 : Nat) ({ cls := "TroupeSums", name := "peak", desc := "(III)I" } : Jvm.MethodName)) ∈ lw_all := lw_g (lw_at lw_m9 106 rfl) rfl
theorem q2183 : (Jvm.Cond.methodLink "TroupeSumsLaw" (138 : Nat) ({ cls := "TroupeSums", name := "local", desc := "(IIII)I" } : Jvm.MethodName)) ∈ lw_all := lw_g (lw_at lw_m9 130 rfl) rfl
theorem q2187 : (Jvm.Cond.methodLink "TroupeSumsLaw" (143 : Nat) ({ cls := "TroupeSums", name := "units", desc := "()I" } : Jvm.MethodName)) ∈ lw_all := lw_g (lw_at lw_m9 134 rfl) rfl
theorem q2247 : (Jvm.Cond.methodLink "TroupeSumsLaw" (147 : Nat) ({ cls := "TroupeSums", name := "unit", desc := "(II)I" } : Jvm.MethodName)) ∈ lw_all := lw_g (lw_at lw_m9 194 rfl) rfl
theorem q2256 : (Jvm.Cond.methodLink "TroupeSumsLaw" (151 : Nat) ({ cls := "TroupeSums", name := "named", desc := "(II)J" } : Jvm.MethodName)) ∈ lw_all := lw_g (lw_at lw_m9 203 rfl) rfl
theorem q2267 : (Jvm.Cond.methodLink "TroupeSumsLaw" (156 : Nat) ({ cls := "TroupeSums", name := "has", desc := "(I)J" } : Jvm.MethodName)) ∈ lw_all := lw_g (lw_at lw_m9 214 rfl) rfl
theorem q2271 : (Jvm.Cond.methodLink "TroupeSumsLaw" (161 : Nat) ({ cls := "TroupeSums", name := "marked", desc := "(I)J" } : Jvm.MethodName)) ∈ lw_all := lw_g (lw_at lw_m9 218 rfl) rfl
theorem q2280 : (Jvm.Cond.methodLink "TroupeSumsLaw" (165 : Nat) ({ cls := "TroupeSums", name := "character", desc := "(I)J" } : Jvm.MethodName)) ∈ lw_all := lw_g (lw_at lw_m9 227 rfl) rfl
theorem q2285 : (Jvm.Cond.methodLink "TroupeSumsLaw" (169 : Nat) ({ cls := "TroupeSums", name := "parts", desc := "()I" } : Jvm.MethodName)) ∈ lw_all := lw_g (lw_at lw_m9 232 rfl) rfl
theorem q2289 : (Jvm.Cond.methodLink "TroupeSumsLaw" (173 : Nat) ({ cls := "TroupeSums", name := "congruence", desc := "(I)J" } : Jvm.MethodName)) ∈ lw_all := lw_g (lw_at lw_m9 236 rfl) rfl
theorem q2301 : (Jvm.Cond.methodLink "TroupeSumsLaw" (177 : Nat) ({ cls := "TroupeSums", name := "is", desc := "(I)I" } : Jvm.MethodName)) ∈ lw_all := lw_g (lw_at lw_m10 8 rfl) rfl
theorem q2306 : (Jvm.Cond.methodLink "TroupeSumsLaw" (181 : Nat) ({ cls := "TroupeSums", name := "makes", desc := "()I" } : Jvm.MethodName)) ∈ lw_all := lw_g (lw_at lw_m10 13 rfl) rfl
theorem q2356 : (Jvm.Cond.methodLink "TroupeSumsLaw" (185 : Nat) ({ cls := "TroupeSums", name := "take", desc := "(II)I" } : Jvm.MethodName)) ∈ lw_all := lw_g (lw_at lw_m10 63 rfl) rfl
theorem q2375 : (Jvm.Cond.methodLink "TroupeSumsLaw" (189 : Nat) ({ cls := "TroupeSums", name := "marks", desc := "()I" } : Jvm.MethodName)) ∈ lw_all := lw_g (lw_at lw_m10 82 rfl) rfl
theorem q2388 : (Jvm.Cond.methodLink "TroupeSumsLaw" (193 : Nat) ({ cls := "TroupeSums", name := "uses", desc := "(I)I" } : Jvm.MethodName)) ∈ lw_all := lw_g (lw_at lw_m10 95 rfl) rfl
theorem q2392 : (Jvm.Cond.methodLink "TroupeSumsLaw" (197 : Nat) ({ cls := "TroupeSums", name := "grows", desc := "(III)J" } : Jvm.MethodName)) ∈ lw_all := lw_g (lw_at lw_m10 99 rfl) rfl
theorem q2401 : (Jvm.Cond.methodLink "TroupeSumsLaw" (202 : Nat) ({ cls := "TroupeSums", name := "undo", desc := "()I" } : Jvm.MethodName)) ∈ lw_all := lw_g (lw_at lw_m10 108 rfl) rfl
theorem q2420 : (Jvm.Cond.classLink "TroupeSumsLaw" (10 : Nat) "TroupeSumsModel") ∈ lw_all := lw_g (lw_at lw_m10 127 rfl) rfl
theorem q2422 : (Jvm.Cond.methodLink "TroupeSumsLaw" (12 : Nat) ({ cls := "TroupeSumsModel", name := "<init>", desc := "()V" } : Jvm.MethodName)) ∈ lw_all := lw_g (lw_at lw_m10 129 rfl) rfl
theorem q2695 : (Jvm.Cond.methodLink "TroupeSumsLaw" (17 : Nat) ({ cls := "TroupeSumsModel", name := "feed", desc := "(IIIII)I" } : Jvm.MethodName)) ∈ lw_all := lw_g (lw_at lw_m11 162 rfl) rfl
theorem q2703 : (Jvm.Cond.methodLink "TroupeSumsLaw" (22 : Nat) ({ cls := "TroupeSumsModel", name := "end", desc := "(I)I" } : Jvm.MethodName)) ∈ lw_all := lw_g (lw_at lw_m11 170 rfl) rfl
theorem q2710 : (Jvm.Cond.methodLink "TroupeSumsLaw" (27 : Nat) ({ cls := "TroupeSumsModel", name := "troupe", desc := "()I" } : Jvm.MethodName)) ∈ lw_all := lw_g (lw_at lw_m11 177 rfl) rfl
theorem q2873 : (Jvm.Cond.methodLink "TroupeSumsLaw" (31 : Nat) ({ cls := "TroupeSumsModel", name := "fault", desc := "(I)I" } : Jvm.MethodName)) ∈ lw_all := lw_g (lw_at lw_m12 100 rfl) rfl
theorem q2877 : (Jvm.Cond.methodLink "TroupeSumsLaw" (35 : Nat) ({ cls := "TroupeSumsModel", name := "about", desc := "(I)I" } : Jvm.MethodName)) ∈ lw_all := lw_g (lw_at lw_m12 104 rfl) rfl
theorem q2885 : (Jvm.Cond.methodLink "TroupeSumsLaw" (40 : Nat) ({ cls := "TroupeSumsModel", name := "moves", desc := "(II)I" } : Jvm.MethodName)) ∈ lw_all := lw_g (lw_at lw_m12 112 rfl) rfl
theorem q2893 : (Jvm.Cond.methodLink "TroupeSumsLaw" (44 : Nat) ({ cls := "TroupeSumsModel", name := "times", desc := "(II)I" } : Jvm.MethodName)) ∈ lw_all := lw_g (lw_at lw_m12 120 rfl) rfl
theorem q2897 : (Jvm.Cond.methodLink "TroupeSumsLaw" (48 : Nat) ({ cls := "TroupeSumsModel", name := "order", desc := "(I)I" } : Jvm.MethodName)) ∈ lw_all := lw_g (lw_at lw_m12 124 rfl) rfl
theorem q2905 : (Jvm.Cond.methodLink "TroupeSumsLaw" (129 : Nat) ({ cls := "TroupeSumsModel", name := "orders", desc := "(I)I" } : Jvm.MethodName)) ∈ lw_all := lw_g (lw_at lw_m12 132 rfl) rfl
theorem q2910 : (Jvm.Cond.methodLink "TroupeSumsLaw" (117 : Nat) ({ cls := "TroupeSumsModel", name := "alike", desc := "()I" } : Jvm.MethodName)) ∈ lw_all := lw_g (lw_at lw_m12 137 rfl) rfl
theorem q2914 : (Jvm.Cond.methodLink "TroupeSumsLaw" (52 : Nat) ({ cls := "TroupeSumsModel", name := "makesOf", desc := "(I)I" } : Jvm.MethodName)) ∈ lw_all := lw_g (lw_at lw_m12 141 rfl) rfl
theorem q2922 : (Jvm.Cond.methodLink "TroupeSumsLaw" (56 : Nat) ({ cls := "TroupeSumsModel", name := "sortOf", desc := "(I)I" } : Jvm.MethodName)) ∈ lw_all := lw_g (lw_at lw_m12 149 rfl) rfl
theorem q2930 : (Jvm.Cond.methodLink "TroupeSumsLaw" (60 : Nat) ({ cls := "TroupeSumsModel", name := "sort", desc := "(II)I" } : Jvm.MethodName)) ∈ lw_all := lw_g (lw_at lw_m12 157 rfl) rfl
theorem q2946 : (Jvm.Cond.methodLink "TroupeSumsLaw" (121 : Nat) ({ cls := "TroupeSumsModel", name := "meet", desc := "(II)I" } : Jvm.MethodName)) ∈ lw_all := lw_g (lw_at lw_m12 173 rfl) rfl
theorem q2950 : (Jvm.Cond.methodLink "TroupeSumsLaw" (125 : Nat) ({ cls := "TroupeSumsModel", name := "join", desc := "(II)I" } : Jvm.MethodName)) ∈ lw_all := lw_g (lw_at lw_m12 177 rfl) rfl
theorem q2954 : (Jvm.Cond.methodLink "TroupeSumsLaw" (64 : Nat) ({ cls := "TroupeSumsModel", name := "within", desc := "(II)I" } : Jvm.MethodName)) ∈ lw_all := lw_g (lw_at lw_m12 181 rfl) rfl
theorem q2958 : (Jvm.Cond.methodLink "TroupeSumsLaw" (68 : Nat) ({ cls := "TroupeSumsModel", name := "mark", desc := "(II)I" } : Jvm.MethodName)) ∈ lw_all := lw_g (lw_at lw_m12 185 rfl) rfl
theorem q2962 : (Jvm.Cond.methodLink "TroupeSumsLaw" (73 : Nat) ({ cls := "TroupeSumsModel", name := "product", desc := "(III)I" } : Jvm.MethodName)) ∈ lw_all := lw_g (lw_at lw_m12 189 rfl) rfl
theorem q2970 : (Jvm.Cond.methodLink "TroupeSumsLaw" (113 : Nat) ({ cls := "TroupeSumsModel", name := "pairs", desc := "(II)I" } : Jvm.MethodName)) ∈ lw_all := lw_g (lw_at lw_m12 197 rfl) rfl
theorem q2974 : (Jvm.Cond.methodLink "TroupeSumsLaw" (77 : Nat) ({ cls := "TroupeSumsModel", name := "residue", desc := "(II)I" } : Jvm.MethodName)) ∈ lw_all := lw_g (lw_at lw_m12 201 rfl) rfl
theorem q2985 : (Jvm.Cond.methodLink "TroupeSumsLaw" (81 : Nat) ({ cls := "TroupeSumsModel", name := "block", desc := "(II)I" } : Jvm.MethodName)) ∈ lw_all := lw_g (lw_at lw_m12 212 rfl) rfl
theorem q2993 : (Jvm.Cond.methodLink "TroupeSumsLaw" (85 : Nat) ({ cls := "TroupeSumsModel", name := "keeper", desc := "(I)I" } : Jvm.MethodName)) ∈ lw_all := lw_g (lw_at lw_m12 220 rfl) rfl
theorem q2997 : (Jvm.Cond.methodLink "TroupeSumsLaw" (89 : Nat) ({ cls := "TroupeSumsModel", name := "orbit", desc := "(I)I" } : Jvm.MethodName)) ∈ lw_all := lw_g (lw_at lw_m12 224 rfl) rfl
theorem q3001 : (Jvm.Cond.methodLink "TroupeSumsLaw" (93 : Nat) ({ cls := "TroupeSumsModel", name := "coset", desc := "(II)I" } : Jvm.MethodName)) ∈ lw_all := lw_g (lw_at lw_m12 228 rfl) rfl
theorem q3005 : (Jvm.Cond.methodLink "TroupeSumsLaw" (97 : Nat) ({ cls := "TroupeSumsModel", name := "takes", desc := "(III)I" } : Jvm.MethodName)) ∈ lw_all := lw_g (lw_at lw_m12 232 rfl) rfl
theorem q3009 : (Jvm.Cond.methodLink "TroupeSumsLaw" (101 : Nat) ({ cls := "TroupeSumsModel", name := "moebius", desc := "(I)I" } : Jvm.MethodName)) ∈ lw_all := lw_g (lw_at lw_m12 236 rfl) rfl
theorem q3014 : (Jvm.Cond.methodLink "TroupeSumsLaw" (105 : Nat) ({ cls := "TroupeSumsModel", name := "mixed", desc := "(I)I" } : Jvm.MethodName)) ∈ lw_all := lw_g (lw_at lw_m13 1 rfl) rfl
theorem q3018 : (Jvm.Cond.methodLink "TroupeSumsLaw" (109 : Nat) ({ cls := "TroupeSumsModel", name := "centre", desc := "(I)I" } : Jvm.MethodName)) ∈ lw_all := lw_g (lw_at lw_m13 5 rfl) rfl
theorem q3022 : (Jvm.Cond.methodLink "TroupeSumsLaw" (133 : Nat) ({ cls := "TroupeSumsModel", name := "likes", desc := "(I)I" } : Jvm.MethodName)) ∈ lw_all := lw_g (lw_at lw_m13 9 rfl) rfl
theorem q3026 : (Jvm.Cond.methodLink "TroupeSumsLaw" (137 : Nat) ({ cls := "TroupeSumsModel", name := "peak", desc := "(III)I" } : Jvm.MethodName)) ∈ lw_all := lw_g (lw_at lw_m13 13 rfl) rfl
theorem q3041 : (Jvm.Cond.methodLink "TroupeSumsLaw" (142 : Nat) ({ cls := "TroupeSumsModel", name := "local", desc := "(IIII)I" } : Jvm.MethodName)) ∈ lw_all := lw_g (lw_at lw_m13 28 rfl) rfl
theorem q3045 : (Jvm.Cond.methodLink "TroupeSumsLaw" (146 : Nat) ({ cls := "TroupeSumsModel", name := "units", desc := "()I" } : Jvm.MethodName)) ∈ lw_all := lw_g (lw_at lw_m13 32 rfl) rfl
theorem q3061 : (Jvm.Cond.methodLink "TroupeSumsLaw" (150 : Nat) ({ cls := "TroupeSumsModel", name := "unit", desc := "(II)I" } : Jvm.MethodName)) ∈ lw_all := lw_g (lw_at lw_m13 48 rfl) rfl
theorem q3066 : (Jvm.Cond.methodLink "TroupeSumsLaw" (205 : Nat) ({ cls := "TroupeSumsModel", name := "undo", desc := "()I" } : Jvm.MethodName)) ∈ lw_all := lw_g (lw_at lw_m13 53 rfl) rfl
theorem q3070 : (Jvm.Cond.methodLink "TroupeSumsLaw" (155 : Nat) ({ cls := "TroupeSumsModel", name := "named", desc := "(II)J" } : Jvm.MethodName)) ∈ lw_all := lw_g (lw_at lw_m13 57 rfl) rfl
theorem q3075 : (Jvm.Cond.methodLink "TroupeSumsLaw" (160 : Nat) ({ cls := "TroupeSumsModel", name := "has", desc := "(I)J" } : Jvm.MethodName)) ∈ lw_all := lw_g (lw_at lw_m13 62 rfl) rfl
theorem q3079 : (Jvm.Cond.methodLink "TroupeSumsLaw" (164 : Nat) ({ cls := "TroupeSumsModel", name := "marked", desc := "(I)J" } : Jvm.MethodName)) ∈ lw_all := lw_g (lw_at lw_m13 66 rfl) rfl
theorem q3083 : (Jvm.Cond.methodLink "TroupeSumsLaw" (168 : Nat) ({ cls := "TroupeSumsModel", name := "character", desc := "(I)J" } : Jvm.MethodName)) ∈ lw_all := lw_g (lw_at lw_m13 70 rfl) rfl
theorem q3087 : (Jvm.Cond.methodLink "TroupeSumsLaw" (172 : Nat) ({ cls := "TroupeSumsModel", name := "parts", desc := "()I" } : Jvm.MethodName)) ∈ lw_all := lw_g (lw_at lw_m13 74 rfl) rfl
theorem q3091 : (Jvm.Cond.methodLink "TroupeSumsLaw" (176 : Nat) ({ cls := "TroupeSumsModel", name := "congruence", desc := "(I)J" } : Jvm.MethodName)) ∈ lw_all := lw_g (lw_at lw_m13 78 rfl) rfl
theorem q3103 : (Jvm.Cond.methodLink "TroupeSumsLaw" (180 : Nat) ({ cls := "TroupeSumsModel", name := "is", desc := "(I)I" } : Jvm.MethodName)) ∈ lw_all := lw_g (lw_at lw_m13 90 rfl) rfl
theorem q3108 : (Jvm.Cond.methodLink "TroupeSumsLaw" (184 : Nat) ({ cls := "TroupeSumsModel", name := "makes", desc := "()I" } : Jvm.MethodName)) ∈ lw_all := lw_g (lw_at lw_m13 95 rfl) rfl
theorem q3117 : (Jvm.Cond.methodLink "TroupeSumsLaw" (188 : Nat) ({ cls := "TroupeSumsModel", name := "take", desc := "(II)I" } : Jvm.MethodName)) ∈ lw_all := lw_g (lw_at lw_m13 104 rfl) rfl
theorem q3135 : (Jvm.Cond.methodLink "TroupeSumsLaw" (192 : Nat) ({ cls := "TroupeSumsModel", name := "marks", desc := "()I" } : Jvm.MethodName)) ∈ lw_all := lw_g (lw_at lw_m13 122 rfl) rfl
theorem q3153 : (Jvm.Cond.methodLink "TroupeSumsLaw" (196 : Nat) ({ cls := "TroupeSumsModel", name := "uses", desc := "(I)I" } : Jvm.MethodName)) ∈ lw_all := lw_g (lw_at lw_m13 140 rfl) rfl
theorem q3157 : (Jvm.Cond.methodLink "TroupeSumsLaw" (201 : Nat) ({ cls := "TroupeSumsModel", name := "grows", desc := "(III)J" } : Jvm.MethodName)) ∈ lw_all := lw_g (lw_at lw_m13 144 rfl) rfl
theorem q1459 : (Jvm.Cond.sameMethod "[B" "java/lang/Object" "clone" "()Ljava/lang/Object;") ∈ lw_all := lw_g (lw_at lw_m6 126 rfl) rfl
set_option maxRecDepth 100000
theorem q1462 : (Jvm.Cond.selects "[B" ({ cls := "[B", name := "clone", desc := "()Ljava/lang/Object;" } : Jvm.MethodName) ({ cls := "java/lang/Object", name := "clone", desc := "()Ljava/lang/Object;" } : Jvm.MethodName)) ∈ lw_all := lw_g (lw_at lw_m6 129 rfl) rfl
theorem q1463 : (Jvm.Cond.castable "[B" "java/lang/Cloneable") ∈ lw_tbl := lw_at lw_m6 130 rfl
theorem q3215 : (Jvm.Cond.castable "[B" "java/lang/Object") ∈ lw_tbl := lw_at lw_m13 202 rfl
theorem q3216 : (Jvm.Cond.castable "[I" "java/lang/Object") ∈ lw_tbl := lw_at lw_m13 203 rfl
set_option maxRecDepth 100000
theorem q1829 : (Jvm.Cond.sameMethod "[J" "java/lang/Object" "clone" "()Ljava/lang/Object;") ∈ lw_all := lw_g (lw_at lw_m8 16 rfl) rfl
set_option maxRecDepth 100000
theorem q1830 : (Jvm.Cond.selects "[J" ({ cls := "[J", name := "clone", desc := "()Ljava/lang/Object;" } : Jvm.MethodName) ({ cls := "java/lang/Object", name := "clone", desc := "()Ljava/lang/Object;" } : Jvm.MethodName)) ∈ lw_all := lw_g (lw_at lw_m8 17 rfl) rfl
theorem q1831 : (Jvm.Cond.castable "[J" "java/lang/Cloneable") ∈ lw_tbl := lw_at lw_m8 18 rfl
theorem q3219 : (Jvm.Cond.castable "[J" "java/lang/Object") ∈ lw_tbl := lw_at lw_m13 206 rfl
theorem q3212 : (Jvm.Cond.sameMethod "[Ljava/lang/Object;" "java/lang/Object" "getClass" "()Ljava/lang/Class;") ∈ lw_all := lw_g (lw_at lw_m13 199 rfl) rfl
set_option maxRecDepth 100000
theorem q3213 : (Jvm.Cond.selects "[Ljava/lang/Object;" ({ cls := "java/lang/Object", name := "getClass", desc := "()Ljava/lang/Class;" } : Jvm.MethodName) ({ cls := "java/lang/Object", name := "getClass", desc := "()Ljava/lang/Class;" } : Jvm.MethodName)) ∈ lw_all := lw_g (lw_at lw_m13 200 rfl) rfl
theorem q3217 : (Jvm.Cond.castable "[Ljava/lang/Object;" "java/lang/Object") ∈ lw_tbl := lw_at lw_m13 204 rfl
theorem q3218 : (Jvm.Cond.castable "[[I" "java/lang/Object") ∈ lw_tbl := lw_at lw_m13 205 rfl
set_option maxRecDepth 100000
theorem q3220 : (Jvm.Cond.castable "[[J" "java/lang/Object") ∈ lw_tbl := lw_at lw_m13 207 rfl
set_option maxRecDepth 100000
theorem q343 : (Jvm.Cond.interfaceMethod "java/lang/Comparable" "java/lang/Comparable" "compareTo" "(Ljava/lang/Object;)I") ∈ lw_tbl := lw_at lw_m1 210 rfl
set_option maxRecDepth 100000
theorem q344 : (Jvm.Cond.declares ({ cls := "java/lang/Comparable", name := "compareTo", desc := "(Ljava/lang/Object;)I" } : Jvm.MethodName)) ∈ lw_tbl := lw_at lw_m1 211 rfl
theorem q144 : (Jvm.Cond.initialized "java/lang/Integer$IntegerCache") ∈ lw_all := lw_g (lw_at lw_m1 11 rfl) rfl
set_option maxRecDepth 100000
theorem q308 : (Jvm.Cond.laysStatic "java/lang/Integer$IntegerCache" "high" "I") ∈ lw_tbl := lw_at lw_m1 175 rfl
theorem q310 : (Jvm.Cond.laysStatic "java/lang/Integer$IntegerCache" "cache" "[Ljava/lang/Integer;") ∈ lw_tbl := lw_at lw_m1 177 rfl
theorem q162 : (Jvm.Cond.initialized "java/lang/System") ∈ lw_all := lw_g (lw_at lw_m1 29 rfl) rfl
set_option maxRecDepth 100000
theorem q866 : (Jvm.Cond.static ({ cls := "java/lang/System", name := "arraycopy", desc := "(Ljava/lang/Object;ILjava/lang/Object;II)V" } : Jvm.MethodName)) ∈ lw_all := lw_g (lw_at lw_m4 13 rfl) rfl
theorem q867 : (Jvm.Cond.native ({ cls := "java/lang/System", name := "arraycopy", desc := "(Ljava/lang/Object;ILjava/lang/Object;II)V" } : Jvm.MethodName)) ∈ lw_all := lw_g (lw_at lw_m4 14 rfl) rfl
theorem q594 : (Jvm.Cond.interfaceMethod "java/util/Comparator" "java/util/Comparator" "compare" "(Ljava/lang/Object;Ljava/lang/Object;)I") ∈ lw_tbl := lw_at lw_m2 221 rfl
set_option maxRecDepth 100000
theorem q595 : (Jvm.Cond.declares ({ cls := "java/util/Comparator", name := "compare", desc := "(Ljava/lang/Object;Ljava/lang/Object;)I" } : Jvm.MethodName)) ∈ lw_tbl := lw_at lw_m2 222 rfl
theorem q748 : (Jvm.Cond.interfaceMethod "java/util/Iterator" "java/util/Iterator" "hasNext" "()Z") ∈ lw_tbl := lw_at lw_m3 135 rfl
set_option maxRecDepth 100000
theorem q749 : (Jvm.Cond.declares ({ cls := "java/util/Iterator", name := "hasNext", desc := "()Z" } : Jvm.MethodName)) ∈ lw_tbl := lw_at lw_m3 136 rfl
theorem q764 : (Jvm.Cond.interfaceMethod "java/util/Iterator" "java/util/Iterator" "next" "()Ljava/lang/Object;") ∈ lw_tbl := lw_at lw_m3 151 rfl
theorem q765 : (Jvm.Cond.declares ({ cls := "java/util/Iterator", name := "next", desc := "()Ljava/lang/Object;" } : Jvm.MethodName)) ∈ lw_tbl := lw_at lw_m3 152 rfl
theorem q792 : (Jvm.Cond.interfaceMethod "java/util/List" "java/util/List" "add" "(Ljava/lang/Object;)Z") ∈ lw_tbl := lw_at lw_m3 179 rfl
set_option maxRecDepth 100000
theorem q793 : (Jvm.Cond.declares ({ cls := "java/util/List", name := "add", desc := "(Ljava/lang/Object;)Z" } : Jvm.MethodName)) ∈ lw_tbl := lw_at lw_m3 180 rfl
theorem q872 : (Jvm.Cond.interfaceMethod "java/util/List" "java/util/List" "size" "()I") ∈ lw_tbl := lw_at lw_m4 19 rfl
theorem q873 : (Jvm.Cond.declares ({ cls := "java/util/List", name := "size", desc := "()I" } : Jvm.MethodName)) ∈ lw_tbl := lw_at lw_m4 20 rfl
theorem q883 : (Jvm.Cond.interfaceMethod "java/util/List" "java/util/List" "get" "(I)Ljava/lang/Object;") ∈ lw_tbl := lw_at lw_m4 30 rfl
theorem q884 : (Jvm.Cond.declares ({ cls := "java/util/List", name := "get", desc := "(I)Ljava/lang/Object;" } : Jvm.MethodName)) ∈ lw_tbl := lw_at lw_m4 31 rfl
theorem q941 : (Jvm.Cond.interfaceMethod "java/util/List" "java/util/List" "contains" "(Ljava/lang/Object;)Z") ∈ lw_tbl := lw_at lw_m4 88 rfl
theorem q942 : (Jvm.Cond.declares ({ cls := "java/util/List", name := "contains", desc := "(Ljava/lang/Object;)Z" } : Jvm.MethodName)) ∈ lw_tbl := lw_at lw_m4 89 rfl
theorem q1029 : (Jvm.Cond.interfaceMethod "java/util/List" "java/util/List" "iterator" "()Ljava/util/Iterator;") ∈ lw_tbl := lw_at lw_m4 176 rfl
theorem q1030 : (Jvm.Cond.declares ({ cls := "java/util/List", name := "iterator", desc := "()Ljava/util/Iterator;" } : Jvm.MethodName)) ∈ lw_tbl := lw_at lw_m4 177 rfl
theorem q1839 : (Jvm.Cond.interfaceMethod "java/util/List" "java/util/List" "indexOf" "(Ljava/lang/Object;)I") ∈ lw_tbl := lw_at lw_m8 26 rfl
theorem q1840 : (Jvm.Cond.declares ({ cls := "java/util/List", name := "indexOf", desc := "(Ljava/lang/Object;)I" } : Jvm.MethodName)) ∈ lw_tbl := lw_at lw_m8 27 rfl
theorem q1149 : (Jvm.Cond.publicMethod ({ cls := "java/util/Map", name := "size", desc := "()I" } : Jvm.MethodName)) ∈ lw_tbl := lw_at lw_m5 56 rfl
set_option maxRecDepth 100000
theorem q1150 : (Jvm.Cond.declares ({ cls := "java/util/Map", name := "size", desc := "()I" } : Jvm.MethodName)) ∈ lw_tbl := lw_at lw_m5 57 rfl
theorem q1164 : (Jvm.Cond.declares ({ cls := "java/util/Queue", name := "poll", desc := "()Ljava/lang/Object;" } : Jvm.MethodName)) ∈ lw_tbl := lw_at lw_m5 71 rfl
set_option maxRecDepth 100000
theorem q703 : (Jvm.Cond.interfaceMethod "java/util/Set" "java/util/Set" "iterator" "()Ljava/util/Iterator;") ∈ lw_tbl := lw_at lw_m3 90 rfl
set_option maxRecDepth 100000
theorem q704 : (Jvm.Cond.declares ({ cls := "java/util/Set", name := "iterator", desc := "()Ljava/util/Iterator;" } : Jvm.MethodName)) ∈ lw_tbl := lw_at lw_m3 91 rfl
theorem q744 : (Jvm.Cond.declares ({ cls := "java/util/TreeMap$NavigableSubMap", name := "keyIterator", desc := "()Ljava/util/Iterator;" } : Jvm.MethodName)) ∈ lw_tbl := lw_at lw_m3 131 rfl
set_option maxRecDepth 100000
theorem q745 : (Jvm.Cond.selects "java/util/TreeMap$NavigableSubMap" ({ cls := "java/util/TreeMap$NavigableSubMap", name := "keyIterator", desc := "()Ljava/util/Iterator;" } : Jvm.MethodName) ({ cls := "java/util/TreeMap$NavigableSubMap", name := "keyIterator", desc := "()Ljava/util/Iterator;" } : Jvm.MethodName)) ∈ lw_all := lw_g (lw_at lw_m3 132 rfl) rfl
theorem q1718 : (Jvm.Cond.interfaceMethod "jdk/internal/access/JavaLangAccess" "jdk/internal/access/JavaLangAccess" "getUTF16Char" "([BI)C") ∈ lw_tbl := lw_at lw_m7 145 rfl
set_option maxRecDepth 100000
theorem q1719 : (Jvm.Cond.declares ({ cls := "jdk/internal/access/JavaLangAccess", name := "getUTF16Char", desc := "([BI)C" } : Jvm.MethodName)) ∈ lw_tbl := lw_at lw_m7 146 rfl
theorem q150 : (Jvm.Cond.initialized "jdk/internal/misc/UnsafeConstants") ∈ lw_all := lw_g (lw_at lw_m1 17 rfl) rfl
set_option maxRecDepth 100000
theorem q447 : (Jvm.Cond.laysStatic "jdk/internal/misc/UnsafeConstants" "BIG_ENDIAN" "Z") ∈ lw_tbl := lw_at lw_m2 74 rfl
theorem q232 : (Jvm.Cond.arrayClass Jvm.ClassFile.FieldType.byte) ∈ lw_all := lw_g (lw_at lw_m1 99 rfl) rfl
set_option maxRecDepth 100000
theorem q303 : (Jvm.Cond.arrayClass Jvm.ClassFile.FieldType.int) ∈ lw_all := lw_g (lw_at lw_m1 170 rfl) rfl
theorem q862 : (Jvm.Cond.arrayOver (Jvm.ClassFile.FieldType.object "java/lang/Object")) ∈ lw_tbl := lw_at lw_m4 9 rfl
theorem q880 : (Jvm.Cond.arrayOver (Jvm.ClassFile.FieldType.array Jvm.ClassFile.FieldType.int)) ∈ lw_tbl := lw_at lw_m4 27 rfl
theorem q1234 : (Jvm.Cond.arrayClass Jvm.ClassFile.FieldType.long) ∈ lw_all := lw_g (lw_at lw_m5 141 rfl) rfl
theorem q2172 : (Jvm.Cond.arrayOver (Jvm.ClassFile.FieldType.array Jvm.ClassFile.FieldType.long)) ∈ lw_tbl := lw_at lw_m9 119 rfl
theorem q3221 : (Jvm.Cond.arrayClass Jvm.ClassFile.FieldType.char) ∈ lw_all := lw_g (lw_at lw_m13 208 rfl) rfl
theorem q3222 : (Jvm.Cond.arrayClass Jvm.ClassFile.FieldType.short) ∈ lw_all := lw_g (lw_at lw_m13 209 rfl) rfl
