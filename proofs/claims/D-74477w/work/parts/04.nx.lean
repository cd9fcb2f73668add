set_option maxRecDepth 100000
/-! FilingChains -/
set_option maxRecDepth 100000
def RX0 : String := "FilingChains"
def TX0 : u_T := fun k => match k with
  | 0 => ("FilingChains", "office", "LFilingChains$Office;", false)
  | 1 => ("FilingChains", "past", "Ljava/util/ArrayDeque;", true)
  | 2 => ("FilingChains", "partNames", "Ljava/util/List;", false)
  | 3 => ("FilingChains", "filerNames", "Ljava/util/List;", false)
  | 4 => ("FilingChains", "filingNames", "Ljava/util/List;", false)
  | 5 => ("FilingChains", "tape", "[B", true)
  | 6 => ("FilingChains", "taped", "I", false)
  | 7 => ("FilingChains", "faultKind", "I", false)
  | 8 => ("FilingChains", "faultPlace", "I", false)
  | 9 => ("FilingChains", "lines", "I", false)
  | 10 => ("FilingChains", "foundOne", "I", false)
  | 11 => ("FilingChains", "foundOther", "I", false)
  | 12 => ("FilingChains", "octets", "[B", true)
  | _ => ("FilingChains", "written", "I", false)
def tyX0 : Nat → FieldType := fun k => match k with
  | 0 => .object "FilingChains$Office"
  | 1 => .object "java/util/ArrayDeque"
  | 2 => .object "java/util/List"
  | 3 => .object "java/util/List"
  | 4 => .object "java/util/List"
  | 5 => .array .byte
  | 6 => .int
  | 7 => .int
  | 8 => .int
  | 9 => .int
  | 10 => .int
  | 11 => .int
  | 12 => .array .byte
  | _ => .int
abbrev wsX00 : List Cond := u_ws RX0 TX0 14
set_option maxRecDepth 100000 in
theorem nmX0 : ∀ a, a < 14 → ∀ b, b < 14 → a ≠ b → (TX0 a).2.1 ≠ (TX0 b).2.1 := by decide +kernel
set_option maxRecDepth 100000 in
theorem tyX0_ok : ∀ k, k < 14 → parseFieldDescriptor (TX0 k).2.2.1 = some (tyX0 k) := by decide +kernel
abbrev cX0_init : ByteArray := prog_1_method_1_code
def yX0_init : MethodName := ⟨RX0, "<init>", "()V"⟩
def dkwX0_init_2 : List UInt8 := [42, 17, 4, 176, 188, 8, 181, 0, 39, 42, 2, 181, 0, 43, 42, 17, 0, 200, 188, 8, 181, 0, 47, 177]
abbrev dktX0_init_2 : List UInt8 := dkwX0_init_2 ++ []
def dkwX0_init_1 : List UInt8 := [181, 0, 19, 42, 184, 0, 23, 181, 0, 29, 42, 184, 0, 23, 181, 0, 33, 42, 184, 0, 23, 181, 0, 36]
abbrev dktX0_init_1 : List UInt8 := dkwX0_init_1 ++ dktX0_init_2
def dkwX0_init_0 : List UInt8 := [42, 183, 0, 3, 42, 187, 0, 9, 89, 183, 0, 11, 181, 0, 12, 42, 187, 0, 16, 89, 183, 0, 18]
abbrev dktX0_init_0 : List UInt8 := dkwX0_init_0 ++ dktX0_init_1
theorem dksX0_init_0 : cX0_init.data.toList.drop 0 = dktX0_init_0 := by decide +kernel
theorem dksX0_init_1 : cX0_init.data.toList.drop 23 = dktX0_init_1 := dk_seg dksX0_init_0 23 rfl rfl
theorem dksX0_init_2 : cX0_init.data.toList.drop 47 = dktX0_init_2 := dk_seg dksX0_init_1 24 rfl rfl
theorem dX0_init_0 : decode cX0_init 0 = .ok (.aload_n 0, 1) := dk_42 (dk_at dksX0_init_0 0 rfl rfl)
theorem dX0_init_1 : decode cX0_init 1 = .ok (.invokespecial 3, 3) := dk_183 0 3 (dk_at dksX0_init_0 1 rfl rfl)
theorem dX0_init_4 : decode cX0_init 4 = .ok (.aload_n 0, 1) := dk_42 (dk_at dksX0_init_0 4 rfl rfl)
theorem dX0_init_5 : decode cX0_init 5 = .ok (.new 9, 3) := dk_187 0 9 (dk_at dksX0_init_0 5 rfl rfl)
theorem dX0_init_8 : decode cX0_init 8 = .ok (.dup, 1) := dk_89 (dk_at dksX0_init_0 8 rfl rfl)
theorem dX0_init_9 : decode cX0_init 9 = .ok (.invokespecial 11, 3) := dk_183 0 11 (dk_at dksX0_init_0 9 rfl rfl)
theorem dX0_init_12 : decode cX0_init 12 = .ok (.putfield 12, 3) := dk_181 0 12 (dk_at dksX0_init_0 12 rfl rfl)
theorem dX0_init_15 : decode cX0_init 15 = .ok (.aload_n 0, 1) := dk_42 (dk_at dksX0_init_0 15 rfl rfl)
theorem dX0_init_16 : decode cX0_init 16 = .ok (.new 16, 3) := dk_187 0 16 (dk_at dksX0_init_0 16 rfl rfl)
theorem dX0_init_19 : decode cX0_init 19 = .ok (.dup, 1) := dk_89 (dk_at dksX0_init_0 19 rfl rfl)
theorem dX0_init_20 : decode cX0_init 20 = .ok (.invokespecial 18, 3) := dk_183 0 18 (dk_at dksX0_init_0 20 rfl rfl)
theorem dX0_init_23 : decode cX0_init 23 = .ok (.putfield 19, 3) := dk_181 0 19 (dk_at dksX0_init_1 0 rfl rfl)
theorem dX0_init_26 : decode cX0_init 26 = .ok (.aload_n 0, 1) := dk_42 (dk_at dksX0_init_1 3 rfl rfl)
theorem dX0_init_27 : decode cX0_init 27 = .ok (.invokestatic 23, 3) := dk_184 0 23 (dk_at dksX0_init_1 4 rfl rfl)
theorem dX0_init_30 : decode cX0_init 30 = .ok (.putfield 29, 3) := dk_181 0 29 (dk_at dksX0_init_1 7 rfl rfl)
theorem dX0_init_33 : decode cX0_init 33 = .ok (.aload_n 0, 1) := dk_42 (dk_at dksX0_init_1 10 rfl rfl)
theorem dX0_init_34 : decode cX0_init 34 = .ok (.invokestatic 23, 3) := dk_184 0 23 (dk_at dksX0_init_1 11 rfl rfl)
theorem dX0_init_37 : decode cX0_init 37 = .ok (.putfield 33, 3) := dk_181 0 33 (dk_at dksX0_init_1 14 rfl rfl)
theorem dX0_init_40 : decode cX0_init 40 = .ok (.aload_n 0, 1) := dk_42 (dk_at dksX0_init_1 17 rfl rfl)
theorem dX0_init_41 : decode cX0_init 41 = .ok (.invokestatic 23, 3) := dk_184 0 23 (dk_at dksX0_init_1 18 rfl rfl)
theorem dX0_init_44 : decode cX0_init 44 = .ok (.putfield 36, 3) := dk_181 0 36 (dk_at dksX0_init_1 21 rfl rfl)
theorem dX0_init_47 : decode cX0_init 47 = .ok (.aload_n 0, 1) := dk_42 (dk_at dksX0_init_2 0 rfl rfl)
theorem dX0_init_48 : decode cX0_init 48 = .ok (.sipush 1200, 3) := dk_17 4 176 (dk_at dksX0_init_2 1 rfl rfl)
theorem dX0_init_51 : decode cX0_init 51 = .ok (.newarray .byte, 2) := dk_188_8 (dk_at dksX0_init_2 4 rfl rfl)
theorem dX0_init_53 : decode cX0_init 53 = .ok (.putfield 39, 3) := dk_181 0 39 (dk_at dksX0_init_2 6 rfl rfl)
theorem dX0_init_56 : decode cX0_init 56 = .ok (.aload_n 0, 1) := dk_42 (dk_at dksX0_init_2 9 rfl rfl)
theorem dX0_init_57 : decode cX0_init 57 = .ok (.iconst (-1), 1) := dk_2 (dk_at dksX0_init_2 10 rfl rfl)
theorem dX0_init_58 : decode cX0_init 58 = .ok (.putfield 43, 3) := dk_181 0 43 (dk_at dksX0_init_2 11 rfl rfl)
theorem dX0_init_61 : decode cX0_init 61 = .ok (.aload_n 0, 1) := dk_42 (dk_at dksX0_init_2 14 rfl rfl)
theorem dX0_init_62 : decode cX0_init 62 = .ok (.sipush 200, 3) := dk_17 0 200 (dk_at dksX0_init_2 15 rfl rfl)
theorem dX0_init_65 : decode cX0_init 65 = .ok (.newarray .byte, 2) := dk_188_8 (dk_at dksX0_init_2 18 rfl rfl)
theorem dX0_init_67 : decode cX0_init 67 = .ok (.putfield 47, 3) := dk_181 0 47 (dk_at dksX0_init_2 20 rfl rfl)
theorem dX0_init_70 : decode cX0_init 70 = .ok (.return_, 1) := dk_177 (dk_at dksX0_init_2 23 rfl rfl)
abbrev cX0_feed : ByteArray := prog_1_method_8_code
def yX0_feed : MethodName := ⟨RX0, "feed", "(IIIII)I"⟩
def dkwX0_feed_2 : List UInt8 := [172]
abbrev dktX0_feed_2 : List UInt8 := dkwX0_feed_2 ++ []
def dkwX0_feed_1 : List UInt8 := [182, 0, 69, 42, 29, 182, 0, 69, 42, 21, 4, 182, 0, 69, 42, 21, 5, 182, 0, 69, 42, 180, 0, 66]
abbrev dktX0_feed_1 : List UInt8 := dkwX0_feed_1 ++ dktX0_feed_2
def dkwX0_feed_0 : List UInt8 := [42, 180, 0, 66, 16, 20, 96, 17, 4, 176, 164, 0, 5, 2, 172, 42, 27, 182, 0, 69, 42, 28]
abbrev dktX0_feed_0 : List UInt8 := dkwX0_feed_0 ++ dktX0_feed_1
theorem dksX0_feed_0 : cX0_feed.data.toList.drop 0 = dktX0_feed_0 := by decide +kernel
theorem dksX0_feed_1 : cX0_feed.data.toList.drop 22 = dktX0_feed_1 := dk_seg dksX0_feed_0 22 rfl rfl
theorem dksX0_feed_2 : cX0_feed.data.toList.drop 46 = dktX0_feed_2 := dk_seg dksX0_feed_1 24 rfl rfl
theorem dX0_feed_0 : decode cX0_feed 0 = .ok (.aload_n 0, 1) := dk_42 (dk_at dksX0_feed_0 0 rfl rfl)
theorem dX0_feed_1 : decode cX0_feed 1 = .ok (.getfield 66, 3) := dk_180 0 66 (dk_at dksX0_feed_0 1 rfl rfl)
theorem dX0_feed_4 : decode cX0_feed 4 = .ok (.bipush 20, 2) := dk_16 20 (dk_at dksX0_feed_0 4 rfl rfl)
theorem dX0_feed_6 : decode cX0_feed 6 = .ok (.iadd, 1) := dk_96 (dk_at dksX0_feed_0 6 rfl rfl)
theorem dX0_feed_7 : decode cX0_feed 7 = .ok (.sipush 1200, 3) := dk_17 4 176 (dk_at dksX0_feed_0 7 rfl rfl)
theorem dX0_feed_10 : decode cX0_feed 10 = .ok (.if_icmp .le 5, 3) := dk_164 0 5 (dk_at dksX0_feed_0 10 rfl rfl)
theorem dX0_feed_13 : decode cX0_feed 13 = .ok (.iconst (-1), 1) := dk_2 (dk_at dksX0_feed_0 13 rfl rfl)
theorem dX0_feed_14 : decode cX0_feed 14 = .ok (.ireturn, 1) := dk_172 (dk_at dksX0_feed_0 14 rfl rfl)
theorem dX0_feed_15 : decode cX0_feed 15 = .ok (.aload_n 0, 1) := dk_42 (dk_at dksX0_feed_0 15 rfl rfl)
theorem dX0_feed_16 : decode cX0_feed 16 = .ok (.iload_n 1, 1) := dk_27 (dk_at dksX0_feed_0 16 rfl rfl)
theorem dX0_feed_17 : decode cX0_feed 17 = .ok (.invokevirtual 69, 3) := dk_182 0 69 (dk_at dksX0_feed_0 17 rfl rfl)
theorem dX0_feed_20 : decode cX0_feed 20 = .ok (.aload_n 0, 1) := dk_42 (dk_at dksX0_feed_0 20 rfl rfl)
theorem dX0_feed_21 : decode cX0_feed 21 = .ok (.iload_n 2, 1) := dk_28 (dk_at dksX0_feed_0 21 rfl rfl)
theorem dX0_feed_22 : decode cX0_feed 22 = .ok (.invokevirtual 69, 3) := dk_182 0 69 (dk_at dksX0_feed_1 0 rfl rfl)
theorem dX0_feed_25 : decode cX0_feed 25 = .ok (.aload_n 0, 1) := dk_42 (dk_at dksX0_feed_1 3 rfl rfl)
theorem dX0_feed_26 : decode cX0_feed 26 = .ok (.iload_n 3, 1) := dk_29 (dk_at dksX0_feed_1 4 rfl rfl)
theorem dX0_feed_27 : decode cX0_feed 27 = .ok (.invokevirtual 69, 3) := dk_182 0 69 (dk_at dksX0_feed_1 5 rfl rfl)
theorem dX0_feed_30 : decode cX0_feed 30 = .ok (.aload_n 0, 1) := dk_42 (dk_at dksX0_feed_1 8 rfl rfl)
theorem dX0_feed_31 : decode cX0_feed 31 = .ok (.iload 4, 2) := dk_21 4 (dk_at dksX0_feed_1 9 rfl rfl)
theorem dX0_feed_33 : decode cX0_feed 33 = .ok (.invokevirtual 69, 3) := dk_182 0 69 (dk_at dksX0_feed_1 11 rfl rfl)
theorem dX0_feed_36 : decode cX0_feed 36 = .ok (.aload_n 0, 1) := dk_42 (dk_at dksX0_feed_1 14 rfl rfl)
theorem dX0_feed_37 : decode cX0_feed 37 = .ok (.iload 5, 2) := dk_21 5 (dk_at dksX0_feed_1 15 rfl rfl)
theorem dX0_feed_39 : decode cX0_feed 39 = .ok (.invokevirtual 69, 3) := dk_182 0 69 (dk_at dksX0_feed_1 17 rfl rfl)
theorem dX0_feed_42 : decode cX0_feed 42 = .ok (.aload_n 0, 1) := dk_42 (dk_at dksX0_feed_1 20 rfl rfl)
theorem dX0_feed_43 : decode cX0_feed 43 = .ok (.getfield 66, 3) := dk_180 0 66 (dk_at dksX0_feed_1 21 rfl rfl)
theorem dX0_feed_46 : decode cX0_feed 46 = .ok (.ireturn, 1) := dk_172 (dk_at dksX0_feed_2 0 rfl rfl)
abbrev cX0_push : ByteArray := prog_1_method_7_code
def yX0_push : MethodName := ⟨RX0, "push", "(I)V"⟩
def dkwX0_push_1 : List UInt8 := [180, 0, 66, 4, 96, 181, 0, 66, 132, 2, 248, 167, 255, 226, 177]
abbrev dktX0_push_1 : List UInt8 := dkwX0_push_1 ++ []
def dkwX0_push_0 : List UInt8 := [16, 24, 61, 28, 155, 0, 32, 42, 180, 0, 39, 42, 180, 0, 66, 27, 28, 122, 145, 84, 42, 89]
abbrev dktX0_push_0 : List UInt8 := dkwX0_push_0 ++ dktX0_push_1
theorem dksX0_push_0 : cX0_push.data.toList.drop 0 = dktX0_push_0 := by decide +kernel
theorem dksX0_push_1 : cX0_push.data.toList.drop 22 = dktX0_push_1 := dk_seg dksX0_push_0 22 rfl rfl
theorem dX0_push_0 : decode cX0_push 0 = .ok (.bipush 24, 2) := dk_16 24 (dk_at dksX0_push_0 0 rfl rfl)
theorem dX0_push_2 : decode cX0_push 2 = .ok (.istore_n 2, 1) := dk_61 (dk_at dksX0_push_0 2 rfl rfl)
theorem dX0_push_3 : decode cX0_push 3 = .ok (.iload_n 2, 1) := dk_28 (dk_at dksX0_push_0 3 rfl rfl)
theorem dX0_push_4 : decode cX0_push 4 = .ok (.ifCond .lt 32, 3) := dk_155 0 32 (dk_at dksX0_push_0 4 rfl rfl)
theorem dX0_push_7 : decode cX0_push 7 = .ok (.aload_n 0, 1) := dk_42 (dk_at dksX0_push_0 7 rfl rfl)
theorem dX0_push_8 : decode cX0_push 8 = .ok (.getfield 39, 3) := dk_180 0 39 (dk_at dksX0_push_0 8 rfl rfl)
theorem dX0_push_11 : decode cX0_push 11 = .ok (.aload_n 0, 1) := dk_42 (dk_at dksX0_push_0 11 rfl rfl)
theorem dX0_push_12 : decode cX0_push 12 = .ok (.getfield 66, 3) := dk_180 0 66 (dk_at dksX0_push_0 12 rfl rfl)
theorem dX0_push_15 : decode cX0_push 15 = .ok (.iload_n 1, 1) := dk_27 (dk_at dksX0_push_0 15 rfl rfl)
theorem dX0_push_16 : decode cX0_push 16 = .ok (.iload_n 2, 1) := dk_28 (dk_at dksX0_push_0 16 rfl rfl)
theorem dX0_push_17 : decode cX0_push 17 = .ok (.ishr, 1) := dk_122 (dk_at dksX0_push_0 17 rfl rfl)
theorem dX0_push_18 : decode cX0_push 18 = .ok (.i2b, 1) := dk_145 (dk_at dksX0_push_0 18 rfl rfl)
theorem dX0_push_19 : decode cX0_push 19 = .ok (.bastore, 1) := dk_84 (dk_at dksX0_push_0 19 rfl rfl)
theorem dX0_push_20 : decode cX0_push 20 = .ok (.aload_n 0, 1) := dk_42 (dk_at dksX0_push_0 20 rfl rfl)
theorem dX0_push_21 : decode cX0_push 21 = .ok (.dup, 1) := dk_89 (dk_at dksX0_push_0 21 rfl rfl)
theorem dX0_push_22 : decode cX0_push 22 = .ok (.getfield 66, 3) := dk_180 0 66 (dk_at dksX0_push_1 0 rfl rfl)
theorem dX0_push_25 : decode cX0_push 25 = .ok (.iconst 1, 1) := dk_4 (dk_at dksX0_push_1 3 rfl rfl)
theorem dX0_push_26 : decode cX0_push 26 = .ok (.iadd, 1) := dk_96 (dk_at dksX0_push_1 4 rfl rfl)
theorem dX0_push_27 : decode cX0_push 27 = .ok (.putfield 66, 3) := dk_181 0 66 (dk_at dksX0_push_1 5 rfl rfl)
theorem dX0_push_30 : decode cX0_push 30 = .ok (.iinc 2 (-8), 3) := dk_132 2 248 (dk_at dksX0_push_1 8 rfl rfl)
theorem dX0_push_33 : decode cX0_push 33 = .ok (.goto (-30), 3) := dk_167 255 226 (dk_at dksX0_push_1 11 rfl rfl)
theorem dX0_push_36 : decode cX0_push 36 = .ok (.return_, 1) := dk_177 (dk_at dksX0_push_1 14 rfl rfl)
abbrev cX0_text : ByteArray := prog_1_method_9_code
def yX0_text : MethodName := ⟨RX0, "text", "(I)I"⟩
def dkwX0_text_5 : List UInt8 := [180, 0, 114, 172]
abbrev dktX0_text_5 : List UInt8 := dkwX0_text_5 ++ []
def dkwX0_text_4 : List UInt8 := [180, 0, 105, 181, 0, 36, 42, 180, 0, 19, 182, 0, 108, 42, 44, 180, 0, 111, 181, 0, 114, 42]
abbrev dktX0_text_4 : List UInt8 := dkwX0_text_4 ++ dktX0_text_5
def dkwX0_text_3 : List UInt8 := [180, 0, 95, 181, 0, 12, 42, 44, 180, 0, 98, 181, 0, 29, 42, 44, 180, 0, 102, 181, 0, 33, 42, 44]
abbrev dktX0_text_3 : List UInt8 := dkwX0_text_3 ++ dktX0_text_4
def dkwX0_text_2 : List UInt8 := [167, 0, 22, 78, 42, 45, 180, 0, 89, 181, 0, 76, 42, 45, 180, 0, 92, 181, 0, 43, 2, 172, 42, 44]
abbrev dktX0_text_2 : List UInt8 := dkwX0_text_2 ++ dktX0_text_3
def dkwX0_text_1 : List UInt8 := [181, 0, 76, 42, 2, 181, 0, 43, 187, 0, 79, 89, 42, 27, 183, 0, 81, 77, 44, 182, 0, 84]
abbrev dktX0_text_1 : List UInt8 := dkwX0_text_1 ++ dktX0_text_2
def dkwX0_text_0 : List UInt8 := [27, 3, 42, 180, 0, 66, 184, 0, 72, 154, 0, 6, 16, 254, 172, 42, 3, 181, 0, 66, 42, 3]
abbrev dktX0_text_0 : List UInt8 := dkwX0_text_0 ++ dktX0_text_1
theorem dksX0_text_0 : cX0_text.data.toList.drop 0 = dktX0_text_0 := by decide +kernel
theorem dksX0_text_1 : cX0_text.data.toList.drop 22 = dktX0_text_1 := dk_seg dksX0_text_0 22 rfl rfl
theorem dksX0_text_2 : cX0_text.data.toList.drop 44 = dktX0_text_2 := dk_seg dksX0_text_1 22 rfl rfl
theorem dksX0_text_3 : cX0_text.data.toList.drop 68 = dktX0_text_3 := dk_seg dksX0_text_2 24 rfl rfl
theorem dksX0_text_4 : cX0_text.data.toList.drop 92 = dktX0_text_4 := dk_seg dksX0_text_3 24 rfl rfl
theorem dksX0_text_5 : cX0_text.data.toList.drop 114 = dktX0_text_5 := dk_seg dksX0_text_4 22 rfl rfl
theorem dX0_text_0 : decode cX0_text 0 = .ok (.iload_n 1, 1) := dk_27 (dk_at dksX0_text_0 0 rfl rfl)
theorem dX0_text_1 : decode cX0_text 1 = .ok (.iconst 0, 1) := dk_3 (dk_at dksX0_text_0 1 rfl rfl)
theorem dX0_text_2 : decode cX0_text 2 = .ok (.aload_n 0, 1) := dk_42 (dk_at dksX0_text_0 2 rfl rfl)
theorem dX0_text_3 : decode cX0_text 3 = .ok (.getfield 66, 3) := dk_180 0 66 (dk_at dksX0_text_0 3 rfl rfl)
theorem dX0_text_6 : decode cX0_text 6 = .ok (.invokestatic 72, 3) := dk_184 0 72 (dk_at dksX0_text_0 6 rfl rfl)
theorem dX0_text_9 : decode cX0_text 9 = .ok (.ifCond .ne 6, 3) := dk_154 0 6 (dk_at dksX0_text_0 9 rfl rfl)
theorem dX0_text_12 : decode cX0_text 12 = .ok (.bipush (-2), 2) := dk_16 254 (dk_at dksX0_text_0 12 rfl rfl)
theorem dX0_text_14 : decode cX0_text 14 = .ok (.ireturn, 1) := dk_172 (dk_at dksX0_text_0 14 rfl rfl)
theorem dX0_text_15 : decode cX0_text 15 = .ok (.aload_n 0, 1) := dk_42 (dk_at dksX0_text_0 15 rfl rfl)
theorem dX0_text_16 : decode cX0_text 16 = .ok (.iconst 0, 1) := dk_3 (dk_at dksX0_text_0 16 rfl rfl)
theorem dX0_text_17 : decode cX0_text 17 = .ok (.putfield 66, 3) := dk_181 0 66 (dk_at dksX0_text_0 17 rfl rfl)
theorem dX0_text_20 : decode cX0_text 20 = .ok (.aload_n 0, 1) := dk_42 (dk_at dksX0_text_0 20 rfl rfl)
theorem dX0_text_21 : decode cX0_text 21 = .ok (.iconst 0, 1) := dk_3 (dk_at dksX0_text_0 21 rfl rfl)
theorem dX0_text_22 : decode cX0_text 22 = .ok (.putfield 76, 3) := dk_181 0 76 (dk_at dksX0_text_1 0 rfl rfl)
theorem dX0_text_25 : decode cX0_text 25 = .ok (.aload_n 0, 1) := dk_42 (dk_at dksX0_text_1 3 rfl rfl)
theorem dX0_text_26 : decode cX0_text 26 = .ok (.iconst (-1), 1) := dk_2 (dk_at dksX0_text_1 4 rfl rfl)
theorem dX0_text_27 : decode cX0_text 27 = .ok (.putfield 43, 3) := dk_181 0 43 (dk_at dksX0_text_1 5 rfl rfl)
theorem dX0_text_30 : decode cX0_text 30 = .ok (.new 79, 3) := dk_187 0 79 (dk_at dksX0_text_1 8 rfl rfl)
theorem dX0_text_33 : decode cX0_text 33 = .ok (.dup, 1) := dk_89 (dk_at dksX0_text_1 11 rfl rfl)
theorem dX0_text_34 : decode cX0_text 34 = .ok (.aload_n 0, 1) := dk_42 (dk_at dksX0_text_1 12 rfl rfl)
theorem dX0_text_35 : decode cX0_text 35 = .ok (.iload_n 1, 1) := dk_27 (dk_at dksX0_text_1 13 rfl rfl)
theorem dX0_text_36 : decode cX0_text 36 = .ok (.invokespecial 81, 3) := dk_183 0 81 (dk_at dksX0_text_1 14 rfl rfl)
theorem dX0_text_39 : decode cX0_text 39 = .ok (.astore_n 2, 1) := dk_77 (dk_at dksX0_text_1 17 rfl rfl)
theorem dX0_text_40 : decode cX0_text 40 = .ok (.aload_n 2, 1) := dk_44 (dk_at dksX0_text_1 18 rfl rfl)
theorem dX0_text_41 : decode cX0_text 41 = .ok (.invokevirtual 84, 3) := dk_182 0 84 (dk_at dksX0_text_1 19 rfl rfl)
theorem dX0_text_44 : decode cX0_text 44 = .ok (.goto 22, 3) := dk_167 0 22 (dk_at dksX0_text_2 0 rfl rfl)
theorem dX0_text_47 : decode cX0_text 47 = .ok (.astore_n 3, 1) := dk_78 (dk_at dksX0_text_2 3 rfl rfl)
theorem dX0_text_48 : decode cX0_text 48 = .ok (.aload_n 0, 1) := dk_42 (dk_at dksX0_text_2 4 rfl rfl)
theorem dX0_text_49 : decode cX0_text 49 = .ok (.aload_n 3, 1) := dk_45 (dk_at dksX0_text_2 5 rfl rfl)
theorem dX0_text_50 : decode cX0_text 50 = .ok (.getfield 89, 3) := dk_180 0 89 (dk_at dksX0_text_2 6 rfl rfl)
theorem dX0_text_53 : decode cX0_text 53 = .ok (.putfield 76, 3) := dk_181 0 76 (dk_at dksX0_text_2 9 rfl rfl)
theorem dX0_text_56 : decode cX0_text 56 = .ok (.aload_n 0, 1) := dk_42 (dk_at dksX0_text_2 12 rfl rfl)
theorem dX0_text_57 : decode cX0_text 57 = .ok (.aload_n 3, 1) := dk_45 (dk_at dksX0_text_2 13 rfl rfl)
theorem dX0_text_58 : decode cX0_text 58 = .ok (.getfield 92, 3) := dk_180 0 92 (dk_at dksX0_text_2 14 rfl rfl)
theorem dX0_text_61 : decode cX0_text 61 = .ok (.putfield 43, 3) := dk_181 0 43 (dk_at dksX0_text_2 17 rfl rfl)
theorem dX0_text_64 : decode cX0_text 64 = .ok (.iconst (-1), 1) := dk_2 (dk_at dksX0_text_2 20 rfl rfl)
theorem dX0_text_65 : decode cX0_text 65 = .ok (.ireturn, 1) := dk_172 (dk_at dksX0_text_2 21 rfl rfl)
theorem dX0_text_66 : decode cX0_text 66 = .ok (.aload_n 0, 1) := dk_42 (dk_at dksX0_text_2 22 rfl rfl)
theorem dX0_text_67 : decode cX0_text 67 = .ok (.aload_n 2, 1) := dk_44 (dk_at dksX0_text_2 23 rfl rfl)
theorem dX0_text_68 : decode cX0_text 68 = .ok (.getfield 95, 3) := dk_180 0 95 (dk_at dksX0_text_3 0 rfl rfl)
theorem dX0_text_71 : decode cX0_text 71 = .ok (.putfield 12, 3) := dk_181 0 12 (dk_at dksX0_text_3 3 rfl rfl)
theorem dX0_text_74 : decode cX0_text 74 = .ok (.aload_n 0, 1) := dk_42 (dk_at dksX0_text_3 6 rfl rfl)
theorem dX0_text_75 : decode cX0_text 75 = .ok (.aload_n 2, 1) := dk_44 (dk_at dksX0_text_3 7 rfl rfl)
theorem dX0_text_76 : decode cX0_text 76 = .ok (.getfield 98, 3) := dk_180 0 98 (dk_at dksX0_text_3 8 rfl rfl)
theorem dX0_text_79 : decode cX0_text 79 = .ok (.putfield 29, 3) := dk_181 0 29 (dk_at dksX0_text_3 11 rfl rfl)
theorem dX0_text_82 : decode cX0_text 82 = .ok (.aload_n 0, 1) := dk_42 (dk_at dksX0_text_3 14 rfl rfl)
theorem dX0_text_83 : decode cX0_text 83 = .ok (.aload_n 2, 1) := dk_44 (dk_at dksX0_text_3 15 rfl rfl)
theorem dX0_text_84 : decode cX0_text 84 = .ok (.getfield 102, 3) := dk_180 0 102 (dk_at dksX0_text_3 16 rfl rfl)
theorem dX0_text_87 : decode cX0_text 87 = .ok (.putfield 33, 3) := dk_181 0 33 (dk_at dksX0_text_3 19 rfl rfl)
theorem dX0_text_90 : decode cX0_text 90 = .ok (.aload_n 0, 1) := dk_42 (dk_at dksX0_text_3 22 rfl rfl)
theorem dX0_text_91 : decode cX0_text 91 = .ok (.aload_n 2, 1) := dk_44 (dk_at dksX0_text_3 23 rfl rfl)
theorem dX0_text_92 : decode cX0_text 92 = .ok (.getfield 105, 3) := dk_180 0 105 (dk_at dksX0_text_4 0 rfl rfl)
theorem dX0_text_95 : decode cX0_text 95 = .ok (.putfield 36, 3) := dk_181 0 36 (dk_at dksX0_text_4 3 rfl rfl)
theorem dX0_text_98 : decode cX0_text 98 = .ok (.aload_n 0, 1) := dk_42 (dk_at dksX0_text_4 6 rfl rfl)
theorem dX0_text_99 : decode cX0_text 99 = .ok (.getfield 19, 3) := dk_180 0 19 (dk_at dksX0_text_4 7 rfl rfl)
theorem dX0_text_102 : decode cX0_text 102 = .ok (.invokevirtual 108, 3) := dk_182 0 108 (dk_at dksX0_text_4 10 rfl rfl)
theorem dX0_text_105 : decode cX0_text 105 = .ok (.aload_n 0, 1) := dk_42 (dk_at dksX0_text_4 13 rfl rfl)
theorem dX0_text_106 : decode cX0_text 106 = .ok (.aload_n 2, 1) := dk_44 (dk_at dksX0_text_4 14 rfl rfl)
theorem dX0_text_107 : decode cX0_text 107 = .ok (.getfield 111, 3) := dk_180 0 111 (dk_at dksX0_text_4 15 rfl rfl)
theorem dX0_text_110 : decode cX0_text 110 = .ok (.putfield 114, 3) := dk_181 0 114 (dk_at dksX0_text_4 18 rfl rfl)
theorem dX0_text_113 : decode cX0_text 113 = .ok (.aload_n 0, 1) := dk_42 (dk_at dksX0_text_4 21 rfl rfl)
theorem dX0_text_114 : decode cX0_text 114 = .ok (.getfield 114, 3) := dk_180 0 114 (dk_at dksX0_text_5 0 rfl rfl)
theorem dX0_text_117 : decode cX0_text 117 = .ok (.ireturn, 1) := dk_172 (dk_at dksX0_text_5 3 rfl rfl)
abbrev cX0_within : ByteArray := prog_1_method_3_code
def yX0_within : MethodName := ⟨RX0, "within", "(III)Z"⟩
def dkwX0_within_0 : List UInt8 := [26, 27, 161, 0, 12, 26, 28, 163, 0, 7, 4, 167, 0, 4, 3, 172]
abbrev dktX0_within_0 : List UInt8 := dkwX0_within_0 ++ []
theorem dksX0_within_0 : cX0_within.data.toList.drop 0 = dktX0_within_0 := by decide +kernel
theorem dX0_within_0 : decode cX0_within 0 = .ok (.iload_n 0, 1) := dk_26 (dk_at dksX0_within_0 0 rfl rfl)
theorem dX0_within_1 : decode cX0_within 1 = .ok (.iload_n 1, 1) := dk_27 (dk_at dksX0_within_0 1 rfl rfl)
theorem dX0_within_2 : decode cX0_within 2 = .ok (.if_icmp .lt 12, 3) := dk_161 0 12 (dk_at dksX0_within_0 2 rfl rfl)
theorem dX0_within_5 : decode cX0_within 5 = .ok (.iload_n 0, 1) := dk_26 (dk_at dksX0_within_0 5 rfl rfl)
theorem dX0_within_6 : decode cX0_within 6 = .ok (.iload_n 2, 1) := dk_28 (dk_at dksX0_within_0 6 rfl rfl)
theorem dX0_within_7 : decode cX0_within 7 = .ok (.if_icmp .gt 7, 3) := dk_163 0 7 (dk_at dksX0_within_0 7 rfl rfl)
theorem dX0_within_10 : decode cX0_within 10 = .ok (.iconst 1, 1) := dk_4 (dk_at dksX0_within_0 10 rfl rfl)
theorem dX0_within_11 : decode cX0_within 11 = .ok (.goto 4, 3) := dk_167 0 4 (dk_at dksX0_within_0 11 rfl rfl)
theorem dX0_within_14 : decode cX0_within 14 = .ok (.iconst 0, 1) := dk_3 (dk_at dksX0_within_0 14 rfl rfl)
theorem dX0_within_15 : decode cX0_within 15 = .ok (.ireturn, 1) := dk_172 (dk_at dksX0_within_0 15 rfl rfl)
abbrev cX0_has : ByteArray := prog_1_method_4_code
def yX0_has : MethodName := ⟨RX0, "has", "(II)Z"⟩
def dkwX0_has_0 : List UInt8 := [26, 27, 122, 4, 126, 4, 160, 0, 7, 4, 167, 0, 4, 3, 172]
abbrev dktX0_has_0 : List UInt8 := dkwX0_has_0 ++ []
theorem dksX0_has_0 : cX0_has.data.toList.drop 0 = dktX0_has_0 := by decide +kernel
theorem dX0_has_0 : decode cX0_has 0 = .ok (.iload_n 0, 1) := dk_26 (dk_at dksX0_has_0 0 rfl rfl)
theorem dX0_has_1 : decode cX0_has 1 = .ok (.iload_n 1, 1) := dk_27 (dk_at dksX0_has_0 1 rfl rfl)
theorem dX0_has_2 : decode cX0_has 2 = .ok (.ishr, 1) := dk_122 (dk_at dksX0_has_0 2 rfl rfl)
theorem dX0_has_3 : decode cX0_has 3 = .ok (.iconst 1, 1) := dk_4 (dk_at dksX0_has_0 3 rfl rfl)
theorem dX0_has_4 : decode cX0_has 4 = .ok (.iand, 1) := dk_126 (dk_at dksX0_has_0 4 rfl rfl)
theorem dX0_has_5 : decode cX0_has 5 = .ok (.iconst 1, 1) := dk_4 (dk_at dksX0_has_0 5 rfl rfl)
theorem dX0_has_6 : decode cX0_has 6 = .ok (.if_icmp .ne 7, 3) := dk_160 0 7 (dk_at dksX0_has_0 6 rfl rfl)
theorem dX0_has_9 : decode cX0_has 9 = .ok (.iconst 1, 1) := dk_4 (dk_at dksX0_has_0 9 rfl rfl)
theorem dX0_has_10 : decode cX0_has 10 = .ok (.goto 4, 3) := dk_167 0 4 (dk_at dksX0_has_0 10 rfl rfl)
theorem dX0_has_13 : decode cX0_has 13 = .ok (.iconst 0, 1) := dk_3 (dk_at dksX0_has_0 13 rfl rfl)
theorem dX0_has_14 : decode cX0_has 14 = .ok (.ireturn, 1) := dk_172 (dk_at dksX0_has_0 14 rfl rfl)
abbrev cX0_partsOf : ByteArray := prog_1_method_5_code
def yX0_partsOf : MethodName := ⟨RX0, "partsOf", "(I)Ljava/util/BitSet;"⟩
def dkwX0_partsOf_1 : List UInt8 := [153, 0, 8, 43, 28, 182, 0, 59, 132, 2, 1, 167, 255, 234, 43, 176]
abbrev dktX0_partsOf_1 : List UInt8 := dkwX0_partsOf_1 ++ []
def dkwX0_partsOf_0 : List UInt8 := [187, 0, 50, 89, 16, 16, 183, 0, 52, 76, 3, 61, 28, 16, 16, 162, 0, 22, 26, 28, 184, 0, 55]
abbrev dktX0_partsOf_0 : List UInt8 := dkwX0_partsOf_0 ++ dktX0_partsOf_1
theorem dksX0_partsOf_0 : cX0_partsOf.data.toList.drop 0 = dktX0_partsOf_0 := by decide +kernel
theorem dksX0_partsOf_1 : cX0_partsOf.data.toList.drop 23 = dktX0_partsOf_1 := dk_seg dksX0_partsOf_0 23 rfl rfl
theorem dX0_partsOf_0 : decode cX0_partsOf 0 = .ok (.new 50, 3) := dk_187 0 50 (dk_at dksX0_partsOf_0 0 rfl rfl)
theorem dX0_partsOf_3 : decode cX0_partsOf 3 = .ok (.dup, 1) := dk_89 (dk_at dksX0_partsOf_0 3 rfl rfl)
theorem dX0_partsOf_4 : decode cX0_partsOf 4 = .ok (.bipush 16, 2) := dk_16 16 (dk_at dksX0_partsOf_0 4 rfl rfl)
theorem dX0_partsOf_6 : decode cX0_partsOf 6 = .ok (.invokespecial 52, 3) := dk_183 0 52 (dk_at dksX0_partsOf_0 6 rfl rfl)
theorem dX0_partsOf_9 : decode cX0_partsOf 9 = .ok (.astore_n 1, 1) := dk_76 (dk_at dksX0_partsOf_0 9 rfl rfl)
theorem dX0_partsOf_10 : decode cX0_partsOf 10 = .ok (.iconst 0, 1) := dk_3 (dk_at dksX0_partsOf_0 10 rfl rfl)
theorem dX0_partsOf_11 : decode cX0_partsOf 11 = .ok (.istore_n 2, 1) := dk_61 (dk_at dksX0_partsOf_0 11 rfl rfl)
theorem dX0_partsOf_12 : decode cX0_partsOf 12 = .ok (.iload_n 2, 1) := dk_28 (dk_at dksX0_partsOf_0 12 rfl rfl)
theorem dX0_partsOf_13 : decode cX0_partsOf 13 = .ok (.bipush 16, 2) := dk_16 16 (dk_at dksX0_partsOf_0 13 rfl rfl)
theorem dX0_partsOf_15 : decode cX0_partsOf 15 = .ok (.if_icmp .ge 22, 3) := dk_162 0 22 (dk_at dksX0_partsOf_0 15 rfl rfl)
theorem dX0_partsOf_18 : decode cX0_partsOf 18 = .ok (.iload_n 0, 1) := dk_26 (dk_at dksX0_partsOf_0 18 rfl rfl)
theorem dX0_partsOf_19 : decode cX0_partsOf 19 = .ok (.iload_n 2, 1) := dk_28 (dk_at dksX0_partsOf_0 19 rfl rfl)
theorem dX0_partsOf_20 : decode cX0_partsOf 20 = .ok (.invokestatic 55, 3) := dk_184 0 55 (dk_at dksX0_partsOf_0 20 rfl rfl)
theorem dX0_partsOf_23 : decode cX0_partsOf 23 = .ok (.ifCond .eq 8, 3) := dk_153 0 8 (dk_at dksX0_partsOf_1 0 rfl rfl)
theorem dX0_partsOf_26 : decode cX0_partsOf 26 = .ok (.aload_n 1, 1) := dk_43 (dk_at dksX0_partsOf_1 3 rfl rfl)
theorem dX0_partsOf_27 : decode cX0_partsOf 27 = .ok (.iload_n 2, 1) := dk_28 (dk_at dksX0_partsOf_1 4 rfl rfl)
theorem dX0_partsOf_28 : decode cX0_partsOf 28 = .ok (.invokevirtual 59, 3) := dk_182 0 59 (dk_at dksX0_partsOf_1 5 rfl rfl)
theorem dX0_partsOf_31 : decode cX0_partsOf 31 = .ok (.iinc 2 1, 3) := dk_132 2 1 (dk_at dksX0_partsOf_1 8 rfl rfl)
theorem dX0_partsOf_34 : decode cX0_partsOf 34 = .ok (.goto (-22), 3) := dk_167 255 234 (dk_at dksX0_partsOf_1 11 rfl rfl)
theorem dX0_partsOf_37 : decode cX0_partsOf 37 = .ok (.aload_n 1, 1) := dk_43 (dk_at dksX0_partsOf_1 14 rfl rfl)
theorem dX0_partsOf_38 : decode cX0_partsOf 38 = .ok (.areturn, 1) := dk_176 (dk_at dksX0_partsOf_1 15 rfl rfl)
abbrev cX0_bitsOf : ByteArray := prog_1_method_6_code
def yX0_bitsOf : MethodName := ⟨RX0, "bitsOf", "(Ljava/util/BitSet;)I"⟩
def dkwX0_bitsOf_1 : List UInt8 := [182, 0, 62, 61, 167, 255, 238, 27, 172]
abbrev dktX0_bitsOf_1 : List UInt8 := dkwX0_bitsOf_1 ++ []
def dkwX0_bitsOf_0 : List UInt8 := [3, 60, 42, 3, 182, 0, 62, 61, 28, 155, 0, 20, 27, 4, 28, 120, 128, 60, 42, 28, 4, 96]
abbrev dktX0_bitsOf_0 : List UInt8 := dkwX0_bitsOf_0 ++ dktX0_bitsOf_1
theorem dksX0_bitsOf_0 : cX0_bitsOf.data.toList.drop 0 = dktX0_bitsOf_0 := by decide +kernel
theorem dksX0_bitsOf_1 : cX0_bitsOf.data.toList.drop 22 = dktX0_bitsOf_1 := dk_seg dksX0_bitsOf_0 22 rfl rfl
theorem dX0_bitsOf_0 : decode cX0_bitsOf 0 = .ok (.iconst 0, 1) := dk_3 (dk_at dksX0_bitsOf_0 0 rfl rfl)
theorem dX0_bitsOf_1 : decode cX0_bitsOf 1 = .ok (.istore_n 1, 1) := dk_60 (dk_at dksX0_bitsOf_0 1 rfl rfl)
theorem dX0_bitsOf_2 : decode cX0_bitsOf 2 = .ok (.aload_n 0, 1) := dk_42 (dk_at dksX0_bitsOf_0 2 rfl rfl)
theorem dX0_bitsOf_3 : decode cX0_bitsOf 3 = .ok (.iconst 0, 1) := dk_3 (dk_at dksX0_bitsOf_0 3 rfl rfl)
theorem dX0_bitsOf_4 : decode cX0_bitsOf 4 = .ok (.invokevirtual 62, 3) := dk_182 0 62 (dk_at dksX0_bitsOf_0 4 rfl rfl)
theorem dX0_bitsOf_7 : decode cX0_bitsOf 7 = .ok (.istore_n 2, 1) := dk_61 (dk_at dksX0_bitsOf_0 7 rfl rfl)
theorem dX0_bitsOf_8 : decode cX0_bitsOf 8 = .ok (.iload_n 2, 1) := dk_28 (dk_at dksX0_bitsOf_0 8 rfl rfl)
theorem dX0_bitsOf_9 : decode cX0_bitsOf 9 = .ok (.ifCond .lt 20, 3) := dk_155 0 20 (dk_at dksX0_bitsOf_0 9 rfl rfl)
theorem dX0_bitsOf_12 : decode cX0_bitsOf 12 = .ok (.iload_n 1, 1) := dk_27 (dk_at dksX0_bitsOf_0 12 rfl rfl)
theorem dX0_bitsOf_13 : decode cX0_bitsOf 13 = .ok (.iconst 1, 1) := dk_4 (dk_at dksX0_bitsOf_0 13 rfl rfl)
theorem dX0_bitsOf_14 : decode cX0_bitsOf 14 = .ok (.iload_n 2, 1) := dk_28 (dk_at dksX0_bitsOf_0 14 rfl rfl)
theorem dX0_bitsOf_15 : decode cX0_bitsOf 15 = .ok (.ishl, 1) := dk_120 (dk_at dksX0_bitsOf_0 15 rfl rfl)
theorem dX0_bitsOf_16 : decode cX0_bitsOf 16 = .ok (.ior, 1) := dk_128 (dk_at dksX0_bitsOf_0 16 rfl rfl)
theorem dX0_bitsOf_17 : decode cX0_bitsOf 17 = .ok (.istore_n 1, 1) := dk_60 (dk_at dksX0_bitsOf_0 17 rfl rfl)
theorem dX0_bitsOf_18 : decode cX0_bitsOf 18 = .ok (.aload_n 0, 1) := dk_42 (dk_at dksX0_bitsOf_0 18 rfl rfl)
theorem dX0_bitsOf_19 : decode cX0_bitsOf 19 = .ok (.iload_n 2, 1) := dk_28 (dk_at dksX0_bitsOf_0 19 rfl rfl)
theorem dX0_bitsOf_20 : decode cX0_bitsOf 20 = .ok (.iconst 1, 1) := dk_4 (dk_at dksX0_bitsOf_0 20 rfl rfl)
theorem dX0_bitsOf_21 : decode cX0_bitsOf 21 = .ok (.iadd, 1) := dk_96 (dk_at dksX0_bitsOf_0 21 rfl rfl)
theorem dX0_bitsOf_22 : decode cX0_bitsOf 22 = .ok (.invokevirtual 62, 3) := dk_182 0 62 (dk_at dksX0_bitsOf_1 0 rfl rfl)
theorem dX0_bitsOf_25 : decode cX0_bitsOf 25 = .ok (.istore_n 2, 1) := dk_61 (dk_at dksX0_bitsOf_1 3 rfl rfl)
theorem dX0_bitsOf_26 : decode cX0_bitsOf 26 = .ok (.goto (-18), 3) := dk_167 255 238 (dk_at dksX0_bitsOf_1 4 rfl rfl)
theorem dX0_bitsOf_29 : decode cX0_bitsOf 29 = .ok (.iload_n 1, 1) := dk_27 (dk_at dksX0_bitsOf_1 7 rfl rfl)
theorem dX0_bitsOf_30 : decode cX0_bitsOf 30 = .ok (.ireturn, 1) := dk_172 (dk_at dksX0_bitsOf_1 8 rfl rfl)
abbrev cX0_fault : ByteArray := prog_1_method_10_code
def yX0_fault : MethodName := ⟨RX0, "fault", "(I)I"⟩
def dkwX0_fault_1 : List UInt8 := [172]
abbrev dktX0_fault_1 : List UInt8 := dkwX0_fault_1 ++ []
def dkwX0_fault_0 : List UInt8 := [27, 154, 0, 10, 42, 180, 0, 76, 167, 0, 16, 27, 4, 160, 0, 10, 42, 180, 0, 43, 167, 0, 4, 2]
abbrev dktX0_fault_0 : List UInt8 := dkwX0_fault_0 ++ dktX0_fault_1
theorem dksX0_fault_0 : cX0_fault.data.toList.drop 0 = dktX0_fault_0 := by decide +kernel
theorem dksX0_fault_1 : cX0_fault.data.toList.drop 24 = dktX0_fault_1 := dk_seg dksX0_fault_0 24 rfl rfl
theorem dX0_fault_0 : decode cX0_fault 0 = .ok (.iload_n 1, 1) := dk_27 (dk_at dksX0_fault_0 0 rfl rfl)
theorem dX0_fault_1 : decode cX0_fault 1 = .ok (.ifCond .ne 10, 3) := dk_154 0 10 (dk_at dksX0_fault_0 1 rfl rfl)
theorem dX0_fault_4 : decode cX0_fault 4 = .ok (.aload_n 0, 1) := dk_42 (dk_at dksX0_fault_0 4 rfl rfl)
theorem dX0_fault_5 : decode cX0_fault 5 = .ok (.getfield 76, 3) := dk_180 0 76 (dk_at dksX0_fault_0 5 rfl rfl)
theorem dX0_fault_8 : decode cX0_fault 8 = .ok (.goto 16, 3) := dk_167 0 16 (dk_at dksX0_fault_0 8 rfl rfl)
theorem dX0_fault_11 : decode cX0_fault 11 = .ok (.iload_n 1, 1) := dk_27 (dk_at dksX0_fault_0 11 rfl rfl)
theorem dX0_fault_12 : decode cX0_fault 12 = .ok (.iconst 1, 1) := dk_4 (dk_at dksX0_fault_0 12 rfl rfl)
theorem dX0_fault_13 : decode cX0_fault 13 = .ok (.if_icmp .ne 10, 3) := dk_160 0 10 (dk_at dksX0_fault_0 13 rfl rfl)
theorem dX0_fault_16 : decode cX0_fault 16 = .ok (.aload_n 0, 1) := dk_42 (dk_at dksX0_fault_0 16 rfl rfl)
theorem dX0_fault_17 : decode cX0_fault 17 = .ok (.getfield 43, 3) := dk_180 0 43 (dk_at dksX0_fault_0 17 rfl rfl)
theorem dX0_fault_20 : decode cX0_fault 20 = .ok (.goto 4, 3) := dk_167 0 4 (dk_at dksX0_fault_0 20 rfl rfl)
theorem dX0_fault_23 : decode cX0_fault 23 = .ok (.iconst (-1), 1) := dk_2 (dk_at dksX0_fault_0 23 rfl rfl)
theorem dX0_fault_24 : decode cX0_fault 24 = .ok (.ireturn, 1) := dk_172 (dk_at dksX0_fault_1 0 rfl rfl)
abbrev cX0_date : ByteArray := prog_1_method_29_code
def yX0_date : MethodName := ⟨RX0, "date", "(II)I"⟩
def dkwX0_date_0 : List UInt8 := [42, 27, 28, 182, 0, 234, 62, 29, 156, 0, 7, 29, 167, 0, 9, 42, 27, 28, 182, 0, 224, 172]
abbrev dktX0_date_0 : List UInt8 := dkwX0_date_0 ++ []
theorem dksX0_date_0 : cX0_date.data.toList.drop 0 = dktX0_date_0 := by decide +kernel
theorem dX0_date_0 : decode cX0_date 0 = .ok (.aload_n 0, 1) := dk_42 (dk_at dksX0_date_0 0 rfl rfl)
theorem dX0_date_1 : decode cX0_date 1 = .ok (.iload_n 1, 1) := dk_27 (dk_at dksX0_date_0 1 rfl rfl)
theorem dX0_date_2 : decode cX0_date 2 = .ok (.iload_n 2, 1) := dk_28 (dk_at dksX0_date_0 2 rfl rfl)
theorem dX0_date_3 : decode cX0_date 3 = .ok (.invokevirtual 234, 3) := dk_182 0 234 (dk_at dksX0_date_0 3 rfl rfl)
theorem dX0_date_6 : decode cX0_date 6 = .ok (.istore_n 3, 1) := dk_62 (dk_at dksX0_date_0 6 rfl rfl)
theorem dX0_date_7 : decode cX0_date 7 = .ok (.iload_n 3, 1) := dk_29 (dk_at dksX0_date_0 7 rfl rfl)
theorem dX0_date_8 : decode cX0_date 8 = .ok (.ifCond .ge 7, 3) := dk_156 0 7 (dk_at dksX0_date_0 8 rfl rfl)
theorem dX0_date_11 : decode cX0_date 11 = .ok (.iload_n 3, 1) := dk_29 (dk_at dksX0_date_0 11 rfl rfl)
theorem dX0_date_12 : decode cX0_date 12 = .ok (.goto 9, 3) := dk_167 0 9 (dk_at dksX0_date_0 12 rfl rfl)
theorem dX0_date_15 : decode cX0_date 15 = .ok (.aload_n 0, 1) := dk_42 (dk_at dksX0_date_0 15 rfl rfl)
theorem dX0_date_16 : decode cX0_date 16 = .ok (.iload_n 1, 1) := dk_27 (dk_at dksX0_date_0 16 rfl rfl)
theorem dX0_date_17 : decode cX0_date 17 = .ok (.iload_n 2, 1) := dk_28 (dk_at dksX0_date_0 17 rfl rfl)
theorem dX0_date_18 : decode cX0_date 18 = .ok (.invokevirtual 224, 3) := dk_182 0 224 (dk_at dksX0_date_0 18 rfl rfl)
theorem dX0_date_21 : decode cX0_date 21 = .ok (.ireturn, 1) := dk_172 (dk_at dksX0_date_0 21 rfl rfl)
abbrev cX0_why : ByteArray := prog_1_method_28_code
def yX0_why : MethodName := ⟨RX0, "why", "(II)I"⟩
def dkwX0_why_1 : List UInt8 := [182, 0, 155, 28, 182, 0, 186, 2, 160, 0, 8, 16, 254, 167, 0, 4, 3, 172]
abbrev dktX0_why_1 : List UInt8 := dkwX0_why_1 ++ []
def dkwX0_why_0 : List UInt8 := [42, 27, 182, 0, 228, 153, 0, 10, 28, 184, 0, 231, 154, 0, 7, 2, 167, 0, 25, 42, 180, 0, 12, 27]
abbrev dktX0_why_0 : List UInt8 := dkwX0_why_0 ++ dktX0_why_1
theorem dksX0_why_0 : cX0_why.data.toList.drop 0 = dktX0_why_0 := by decide +kernel
theorem dksX0_why_1 : cX0_why.data.toList.drop 24 = dktX0_why_1 := dk_seg dksX0_why_0 24 rfl rfl
theorem dX0_why_0 : decode cX0_why 0 = .ok (.aload_n 0, 1) := dk_42 (dk_at dksX0_why_0 0 rfl rfl)
theorem dX0_why_1 : decode cX0_why 1 = .ok (.iload_n 1, 1) := dk_27 (dk_at dksX0_why_0 1 rfl rfl)
theorem dX0_why_2 : decode cX0_why 2 = .ok (.invokevirtual 228, 3) := dk_182 0 228 (dk_at dksX0_why_0 2 rfl rfl)
theorem dX0_why_5 : decode cX0_why 5 = .ok (.ifCond .eq 10, 3) := dk_153 0 10 (dk_at dksX0_why_0 5 rfl rfl)
theorem dX0_why_8 : decode cX0_why 8 = .ok (.iload_n 2, 1) := dk_28 (dk_at dksX0_why_0 8 rfl rfl)
theorem dX0_why_9 : decode cX0_why 9 = .ok (.invokestatic 231, 3) := dk_184 0 231 (dk_at dksX0_why_0 9 rfl rfl)
theorem dX0_why_12 : decode cX0_why 12 = .ok (.ifCond .ne 7, 3) := dk_154 0 7 (dk_at dksX0_why_0 12 rfl rfl)
theorem dX0_why_15 : decode cX0_why 15 = .ok (.iconst (-1), 1) := dk_2 (dk_at dksX0_why_0 15 rfl rfl)
theorem dX0_why_16 : decode cX0_why 16 = .ok (.goto 25, 3) := dk_167 0 25 (dk_at dksX0_why_0 16 rfl rfl)
theorem dX0_why_19 : decode cX0_why 19 = .ok (.aload_n 0, 1) := dk_42 (dk_at dksX0_why_0 19 rfl rfl)
theorem dX0_why_20 : decode cX0_why 20 = .ok (.getfield 12, 3) := dk_180 0 12 (dk_at dksX0_why_0 20 rfl rfl)
theorem dX0_why_23 : decode cX0_why 23 = .ok (.iload_n 1, 1) := dk_27 (dk_at dksX0_why_0 23 rfl rfl)
theorem dX0_why_24 : decode cX0_why 24 = .ok (.invokevirtual 155, 3) := dk_182 0 155 (dk_at dksX0_why_1 0 rfl rfl)
theorem dX0_why_27 : decode cX0_why 27 = .ok (.iload_n 2, 1) := dk_28 (dk_at dksX0_why_1 3 rfl rfl)
theorem dX0_why_28 : decode cX0_why 28 = .ok (.invokevirtual 186, 3) := dk_182 0 186 (dk_at dksX0_why_1 4 rfl rfl)
theorem dX0_why_31 : decode cX0_why 31 = .ok (.iconst (-1), 1) := dk_2 (dk_at dksX0_why_1 7 rfl rfl)
theorem dX0_why_32 : decode cX0_why 32 = .ok (.if_icmp .ne 8, 3) := dk_160 0 8 (dk_at dksX0_why_1 8 rfl rfl)
theorem dX0_why_35 : decode cX0_why 35 = .ok (.bipush (-2), 2) := dk_16 254 (dk_at dksX0_why_1 11 rfl rfl)
theorem dX0_why_37 : decode cX0_why 37 = .ok (.goto 4, 3) := dk_167 0 4 (dk_at dksX0_why_1 13 rfl rfl)
theorem dX0_why_40 : decode cX0_why 40 = .ok (.iconst 0, 1) := dk_3 (dk_at dksX0_why_1 16 rfl rfl)
theorem dX0_why_41 : decode cX0_why 41 = .ok (.ireturn, 1) := dk_172 (dk_at dksX0_why_1 17 rfl rfl)
abbrev cX0_isFiling : ByteArray := prog_1_method_11_code
def yX0_isFiling : MethodName := ⟨RX0, "isFiling", "(I)Z"⟩
def dkwX0_isFiling_0 : List UInt8 := [27, 42, 180, 0, 12, 180, 0, 117, 182, 0, 118, 184, 0, 124, 172]
abbrev dktX0_isFiling_0 : List UInt8 := dkwX0_isFiling_0 ++ []
theorem dksX0_isFiling_0 : cX0_isFiling.data.toList.drop 0 = dktX0_isFiling_0 := by decide +kernel
theorem dX0_isFiling_0 : decode cX0_isFiling 0 = .ok (.iload_n 1, 1) := dk_27 (dk_at dksX0_isFiling_0 0 rfl rfl)
theorem dX0_isFiling_1 : decode cX0_isFiling 1 = .ok (.aload_n 0, 1) := dk_42 (dk_at dksX0_isFiling_0 1 rfl rfl)
theorem dX0_isFiling_2 : decode cX0_isFiling 2 = .ok (.getfield 12, 3) := dk_180 0 12 (dk_at dksX0_isFiling_0 2 rfl rfl)
theorem dX0_isFiling_5 : decode cX0_isFiling 5 = .ok (.getfield 117, 3) := dk_180 0 117 (dk_at dksX0_isFiling_0 5 rfl rfl)
theorem dX0_isFiling_8 : decode cX0_isFiling 8 = .ok (.invokevirtual 118, 3) := dk_182 0 118 (dk_at dksX0_isFiling_0 8 rfl rfl)
theorem dX0_isFiling_11 : decode cX0_isFiling 11 = .ok (.invokestatic 124, 3) := dk_184 0 124 (dk_at dksX0_isFiling_0 11 rfl rfl)
theorem dX0_isFiling_14 : decode cX0_isFiling 14 = .ok (.ireturn, 1) := dk_172 (dk_at dksX0_isFiling_0 14 rfl rfl)
abbrev cX0_in : ByteArray := prog_1_method_2_code
def yX0_in : MethodName := ⟨RX0, "in", "(II)Z"⟩
def dkwX0_in_0 : List UInt8 := [26, 155, 0, 12, 26, 27, 162, 0, 7, 4, 167, 0, 4, 3, 172]
abbrev dktX0_in_0 : List UInt8 := dkwX0_in_0 ++ []
theorem dksX0_in_0 : cX0_in.data.toList.drop 0 = dktX0_in_0 := by decide +kernel
theorem dX0_in_0 : decode cX0_in 0 = .ok (.iload_n 0, 1) := dk_26 (dk_at dksX0_in_0 0 rfl rfl)
theorem dX0_in_1 : decode cX0_in 1 = .ok (.ifCond .lt 12, 3) := dk_155 0 12 (dk_at dksX0_in_0 1 rfl rfl)
theorem dX0_in_4 : decode cX0_in 4 = .ok (.iload_n 0, 1) := dk_26 (dk_at dksX0_in_0 4 rfl rfl)
theorem dX0_in_5 : decode cX0_in 5 = .ok (.iload_n 1, 1) := dk_27 (dk_at dksX0_in_0 5 rfl rfl)
theorem dX0_in_6 : decode cX0_in 6 = .ok (.if_icmp .ge 7, 3) := dk_162 0 7 (dk_at dksX0_in_0 6 rfl rfl)
theorem dX0_in_9 : decode cX0_in 9 = .ok (.iconst 1, 1) := dk_4 (dk_at dksX0_in_0 9 rfl rfl)
theorem dX0_in_10 : decode cX0_in 10 = .ok (.goto 4, 3) := dk_167 0 4 (dk_at dksX0_in_0 10 rfl rfl)
theorem dX0_in_13 : decode cX0_in 13 = .ok (.iconst 0, 1) := dk_3 (dk_at dksX0_in_0 13 rfl rfl)
theorem dX0_in_14 : decode cX0_in 14 = .ok (.ireturn, 1) := dk_172 (dk_at dksX0_in_0 14 rfl rfl)
abbrev cX0_isSet : ByteArray := prog_1_method_16_code
def yX0_isSet : MethodName := ⟨RX0, "isSet", "(I)Z"⟩
def dkwX0_isSet_0 : List UInt8 := [26, 18, 141, 184, 0, 124, 172]
abbrev dktX0_isSet_0 : List UInt8 := dkwX0_isSet_0 ++ []
theorem dksX0_isSet_0 : cX0_isSet.data.toList.drop 0 = dktX0_isSet_0 := by decide +kernel
theorem dX0_isSet_0 : decode cX0_isSet 0 = .ok (.iload_n 0, 1) := dk_26 (dk_at dksX0_isSet_0 0 rfl rfl)
theorem dX0_isSet_1 : decode cX0_isSet 1 = .ok (.ldc 141, 2) := dk_18 141 (dk_at dksX0_isSet_0 1 rfl rfl)
theorem dX0_isSet_3 : decode cX0_isSet 3 = .ok (.invokestatic 124, 3) := dk_184 0 124 (dk_at dksX0_isSet_0 3 rfl rfl)
theorem dX0_isSet_6 : decode cX0_isSet 6 = .ok (.ireturn, 1) := dk_172 (dk_at dksX0_isSet_0 6 rfl rfl)
abbrev cX0_dateOf : ByteArray := prog_1_method_26_code
def yX0_dateOf : MethodName := ⟨RX0, "dateOf", "(II)I"⟩
def dkwX0_dateOf_0 : List UInt8 := [187, 0, 214, 89, 42, 27, 28, 3, 183, 0, 216, 180, 0, 219, 172]
abbrev dktX0_dateOf_0 : List UInt8 := dkwX0_dateOf_0 ++ []
theorem dksX0_dateOf_0 : cX0_dateOf.data.toList.drop 0 = dktX0_dateOf_0 := by decide +kernel
theorem dX0_dateOf_0 : decode cX0_dateOf 0 = .ok (.new 214, 3) := dk_187 0 214 (dk_at dksX0_dateOf_0 0 rfl rfl)
theorem dX0_dateOf_3 : decode cX0_dateOf 3 = .ok (.dup, 1) := dk_89 (dk_at dksX0_dateOf_0 3 rfl rfl)
theorem dX0_dateOf_4 : decode cX0_dateOf 4 = .ok (.aload_n 0, 1) := dk_42 (dk_at dksX0_dateOf_0 4 rfl rfl)
theorem dX0_dateOf_5 : decode cX0_dateOf 5 = .ok (.iload_n 1, 1) := dk_27 (dk_at dksX0_dateOf_0 5 rfl rfl)
theorem dX0_dateOf_6 : decode cX0_dateOf 6 = .ok (.iload_n 2, 1) := dk_28 (dk_at dksX0_dateOf_0 6 rfl rfl)
theorem dX0_dateOf_7 : decode cX0_dateOf 7 = .ok (.iconst 0, 1) := dk_3 (dk_at dksX0_dateOf_0 7 rfl rfl)
theorem dX0_dateOf_8 : decode cX0_dateOf 8 = .ok (.invokespecial 216, 3) := dk_183 0 216 (dk_at dksX0_dateOf_0 8 rfl rfl)
theorem dX0_dateOf_11 : decode cX0_dateOf 11 = .ok (.getfield 219, 3) := dk_180 0 219 (dk_at dksX0_dateOf_0 11 rfl rfl)
theorem dX0_dateOf_14 : decode cX0_dateOf 14 = .ok (.ireturn, 1) := dk_172 (dk_at dksX0_dateOf_0 14 rfl rfl)
abbrev cX0_holdsFor : ByteArray := prog_1_method_23_code
def yX0_holdsFor : MethodName := ⟨RX0, "holdsFor", "(LFilingChains$Link;I)Z"⟩
def dkwX0_holdsFor_3 : List UInt8 := [172]
abbrev dktX0_holdsFor_3 : List UInt8 := dkwX0_holdsFor_3 ++ []
def dkwX0_holdsFor_2 : List UInt8 := [3, 172, 43, 180, 0, 175, 4, 159, 0, 12, 42, 45, 28, 182, 0, 193, 153, 0, 7, 4, 167, 0, 4, 3]
abbrev dktX0_holdsFor_2 : List UInt8 := dkwX0_holdsFor_2 ++ dktX0_holdsFor_3
def dkwX0_holdsFor_1 : List UInt8 := [43, 180, 0, 164, 182, 0, 155, 28, 182, 0, 186, 2, 159, 0, 12, 45, 28, 182, 0, 186, 2, 160, 0, 5]
abbrev dktX0_holdsFor_1 : List UInt8 := dkwX0_holdsFor_1 ++ dktX0_holdsFor_2
def dkwX0_holdsFor_0 : List UInt8 := [42, 180, 0, 12, 43, 180, 0, 169, 182, 0, 155, 78, 42, 43, 182, 0, 189, 153, 0, 31, 42, 180, 0, 12]
abbrev dktX0_holdsFor_0 : List UInt8 := dkwX0_holdsFor_0 ++ dktX0_holdsFor_1
theorem dksX0_holdsFor_0 : cX0_holdsFor.data.toList.drop 0 = dktX0_holdsFor_0 := by decide +kernel
theorem dksX0_holdsFor_1 : cX0_holdsFor.data.toList.drop 24 = dktX0_holdsFor_1 := dk_seg dksX0_holdsFor_0 24 rfl rfl
theorem dksX0_holdsFor_2 : cX0_holdsFor.data.toList.drop 48 = dktX0_holdsFor_2 := dk_seg dksX0_holdsFor_1 24 rfl rfl
theorem dksX0_holdsFor_3 : cX0_holdsFor.data.toList.drop 72 = dktX0_holdsFor_3 := dk_seg dksX0_holdsFor_2 24 rfl rfl
theorem dX0_holdsFor_0 : decode cX0_holdsFor 0 = .ok (.aload_n 0, 1) := dk_42 (dk_at dksX0_holdsFor_0 0 rfl rfl)
theorem dX0_holdsFor_1 : decode cX0_holdsFor 1 = .ok (.getfield 12, 3) := dk_180 0 12 (dk_at dksX0_holdsFor_0 1 rfl rfl)
theorem dX0_holdsFor_4 : decode cX0_holdsFor 4 = .ok (.aload_n 1, 1) := dk_43 (dk_at dksX0_holdsFor_0 4 rfl rfl)
theorem dX0_holdsFor_5 : decode cX0_holdsFor 5 = .ok (.getfield 169, 3) := dk_180 0 169 (dk_at dksX0_holdsFor_0 5 rfl rfl)
theorem dX0_holdsFor_8 : decode cX0_holdsFor 8 = .ok (.invokevirtual 155, 3) := dk_182 0 155 (dk_at dksX0_holdsFor_0 8 rfl rfl)
theorem dX0_holdsFor_11 : decode cX0_holdsFor 11 = .ok (.astore_n 3, 1) := dk_78 (dk_at dksX0_holdsFor_0 11 rfl rfl)
theorem dX0_holdsFor_12 : decode cX0_holdsFor 12 = .ok (.aload_n 0, 1) := dk_42 (dk_at dksX0_holdsFor_0 12 rfl rfl)
theorem dX0_holdsFor_13 : decode cX0_holdsFor 13 = .ok (.aload_n 1, 1) := dk_43 (dk_at dksX0_holdsFor_0 13 rfl rfl)
theorem dX0_holdsFor_14 : decode cX0_holdsFor 14 = .ok (.invokevirtual 189, 3) := dk_182 0 189 (dk_at dksX0_holdsFor_0 14 rfl rfl)
theorem dX0_holdsFor_17 : decode cX0_holdsFor 17 = .ok (.ifCond .eq 31, 3) := dk_153 0 31 (dk_at dksX0_holdsFor_0 17 rfl rfl)
theorem dX0_holdsFor_20 : decode cX0_holdsFor 20 = .ok (.aload_n 0, 1) := dk_42 (dk_at dksX0_holdsFor_0 20 rfl rfl)
theorem dX0_holdsFor_21 : decode cX0_holdsFor 21 = .ok (.getfield 12, 3) := dk_180 0 12 (dk_at dksX0_holdsFor_0 21 rfl rfl)
theorem dX0_holdsFor_24 : decode cX0_holdsFor 24 = .ok (.aload_n 1, 1) := dk_43 (dk_at dksX0_holdsFor_1 0 rfl rfl)
theorem dX0_holdsFor_25 : decode cX0_holdsFor 25 = .ok (.getfield 164, 3) := dk_180 0 164 (dk_at dksX0_holdsFor_1 1 rfl rfl)
theorem dX0_holdsFor_28 : decode cX0_holdsFor 28 = .ok (.invokevirtual 155, 3) := dk_182 0 155 (dk_at dksX0_holdsFor_1 4 rfl rfl)
theorem dX0_holdsFor_31 : decode cX0_holdsFor 31 = .ok (.iload_n 2, 1) := dk_28 (dk_at dksX0_holdsFor_1 7 rfl rfl)
theorem dX0_holdsFor_32 : decode cX0_holdsFor 32 = .ok (.invokevirtual 186, 3) := dk_182 0 186 (dk_at dksX0_holdsFor_1 8 rfl rfl)
theorem dX0_holdsFor_35 : decode cX0_holdsFor 35 = .ok (.iconst (-1), 1) := dk_2 (dk_at dksX0_holdsFor_1 11 rfl rfl)
theorem dX0_holdsFor_36 : decode cX0_holdsFor 36 = .ok (.if_icmp .eq 12, 3) := dk_159 0 12 (dk_at dksX0_holdsFor_1 12 rfl rfl)
theorem dX0_holdsFor_39 : decode cX0_holdsFor 39 = .ok (.aload_n 3, 1) := dk_45 (dk_at dksX0_holdsFor_1 15 rfl rfl)
theorem dX0_holdsFor_40 : decode cX0_holdsFor 40 = .ok (.iload_n 2, 1) := dk_28 (dk_at dksX0_holdsFor_1 16 rfl rfl)
theorem dX0_holdsFor_41 : decode cX0_holdsFor 41 = .ok (.invokevirtual 186, 3) := dk_182 0 186 (dk_at dksX0_holdsFor_1 17 rfl rfl)
theorem dX0_holdsFor_44 : decode cX0_holdsFor 44 = .ok (.iconst (-1), 1) := dk_2 (dk_at dksX0_holdsFor_1 20 rfl rfl)
theorem dX0_holdsFor_45 : decode cX0_holdsFor 45 = .ok (.if_icmp .ne 5, 3) := dk_160 0 5 (dk_at dksX0_holdsFor_1 21 rfl rfl)
theorem dX0_holdsFor_48 : decode cX0_holdsFor 48 = .ok (.iconst 0, 1) := dk_3 (dk_at dksX0_holdsFor_2 0 rfl rfl)
theorem dX0_holdsFor_49 : decode cX0_holdsFor 49 = .ok (.ireturn, 1) := dk_172 (dk_at dksX0_holdsFor_2 1 rfl rfl)
theorem dX0_holdsFor_50 : decode cX0_holdsFor 50 = .ok (.aload_n 1, 1) := dk_43 (dk_at dksX0_holdsFor_2 2 rfl rfl)
theorem dX0_holdsFor_51 : decode cX0_holdsFor 51 = .ok (.getfield 175, 3) := dk_180 0 175 (dk_at dksX0_holdsFor_2 3 rfl rfl)
theorem dX0_holdsFor_54 : decode cX0_holdsFor 54 = .ok (.iconst 1, 1) := dk_4 (dk_at dksX0_holdsFor_2 6 rfl rfl)
theorem dX0_holdsFor_55 : decode cX0_holdsFor 55 = .ok (.if_icmp .eq 12, 3) := dk_159 0 12 (dk_at dksX0_holdsFor_2 7 rfl rfl)
theorem dX0_holdsFor_58 : decode cX0_holdsFor 58 = .ok (.aload_n 0, 1) := dk_42 (dk_at dksX0_holdsFor_2 10 rfl rfl)
theorem dX0_holdsFor_59 : decode cX0_holdsFor 59 = .ok (.aload_n 3, 1) := dk_45 (dk_at dksX0_holdsFor_2 11 rfl rfl)
theorem dX0_holdsFor_60 : decode cX0_holdsFor 60 = .ok (.iload_n 2, 1) := dk_28 (dk_at dksX0_holdsFor_2 12 rfl rfl)
theorem dX0_holdsFor_61 : decode cX0_holdsFor 61 = .ok (.invokevirtual 193, 3) := dk_182 0 193 (dk_at dksX0_holdsFor_2 13 rfl rfl)
theorem dX0_holdsFor_64 : decode cX0_holdsFor 64 = .ok (.ifCond .eq 7, 3) := dk_153 0 7 (dk_at dksX0_holdsFor_2 16 rfl rfl)
theorem dX0_holdsFor_67 : decode cX0_holdsFor 67 = .ok (.iconst 1, 1) := dk_4 (dk_at dksX0_holdsFor_2 19 rfl rfl)
theorem dX0_holdsFor_68 : decode cX0_holdsFor 68 = .ok (.goto 4, 3) := dk_167 0 4 (dk_at dksX0_holdsFor_2 20 rfl rfl)
theorem dX0_holdsFor_71 : decode cX0_holdsFor 71 = .ok (.iconst 0, 1) := dk_3 (dk_at dksX0_holdsFor_2 23 rfl rfl)
theorem dX0_holdsFor_72 : decode cX0_holdsFor 72 = .ok (.ireturn, 1) := dk_172 (dk_at dksX0_holdsFor_3 0 rfl rfl)
abbrev cX0_isGood : ByteArray := prog_1_method_21_code
def yX0_isGood : MethodName := ⟨RX0, "isGood", "(LFilingChains$Link;)Z"⟩
def dkwX0_isGood_3 : List UInt8 := [46, 163, 0, 7, 4, 167, 0, 15, 3, 167, 0, 11, 45, 44, 180, 0, 172, 182, 0, 182, 172]
abbrev dktX0_isGood_3 : List UInt8 := dkwX0_isGood_3 ++ []
def dkwX0_isGood_2 : List UInt8 := [43, 180, 0, 175, 154, 0, 32, 44, 180, 0, 172, 45, 180, 0, 172, 100, 42, 180, 0, 12, 180, 0, 178, 3]
abbrev dktX0_isGood_2 : List UInt8 := dkwX0_isGood_2 ++ dktX0_isGood_3
def dkwX0_isGood_1 : List UInt8 := [44, 180, 0, 159, 45, 180, 0, 159, 160, 0, 14, 44, 180, 0, 172, 45, 180, 0, 172, 162, 0, 5, 3, 172]
abbrev dktX0_isGood_1 : List UInt8 := dkwX0_isGood_1 ++ dktX0_isGood_2
def dkwX0_isGood_0 : List UInt8 := [42, 180, 0, 12, 43, 180, 0, 164, 182, 0, 155, 77, 42, 180, 0, 12, 43, 180, 0, 169, 182, 0, 155, 78]
abbrev dktX0_isGood_0 : List UInt8 := dkwX0_isGood_0 ++ dktX0_isGood_1
theorem dksX0_isGood_0 : cX0_isGood.data.toList.drop 0 = dktX0_isGood_0 := by decide +kernel
theorem dksX0_isGood_1 : cX0_isGood.data.toList.drop 24 = dktX0_isGood_1 := dk_seg dksX0_isGood_0 24 rfl rfl
theorem dksX0_isGood_2 : cX0_isGood.data.toList.drop 48 = dktX0_isGood_2 := dk_seg dksX0_isGood_1 24 rfl rfl
theorem dksX0_isGood_3 : cX0_isGood.data.toList.drop 72 = dktX0_isGood_3 := dk_seg dksX0_isGood_2 24 rfl rfl
theorem dX0_isGood_0 : decode cX0_isGood 0 = .ok (.aload_n 0, 1) := dk_42 (dk_at dksX0_isGood_0 0 rfl rfl)
theorem dX0_isGood_1 : decode cX0_isGood 1 = .ok (.getfield 12, 3) := dk_180 0 12 (dk_at dksX0_isGood_0 1 rfl rfl)
theorem dX0_isGood_4 : decode cX0_isGood 4 = .ok (.aload_n 1, 1) := dk_43 (dk_at dksX0_isGood_0 4 rfl rfl)
theorem dX0_isGood_5 : decode cX0_isGood 5 = .ok (.getfield 164, 3) := dk_180 0 164 (dk_at dksX0_isGood_0 5 rfl rfl)
theorem dX0_isGood_8 : decode cX0_isGood 8 = .ok (.invokevirtual 155, 3) := dk_182 0 155 (dk_at dksX0_isGood_0 8 rfl rfl)
theorem dX0_isGood_11 : decode cX0_isGood 11 = .ok (.astore_n 2, 1) := dk_77 (dk_at dksX0_isGood_0 11 rfl rfl)
theorem dX0_isGood_12 : decode cX0_isGood 12 = .ok (.aload_n 0, 1) := dk_42 (dk_at dksX0_isGood_0 12 rfl rfl)
theorem dX0_isGood_13 : decode cX0_isGood 13 = .ok (.getfield 12, 3) := dk_180 0 12 (dk_at dksX0_isGood_0 13 rfl rfl)
theorem dX0_isGood_16 : decode cX0_isGood 16 = .ok (.aload_n 1, 1) := dk_43 (dk_at dksX0_isGood_0 16 rfl rfl)
theorem dX0_isGood_17 : decode cX0_isGood 17 = .ok (.getfield 169, 3) := dk_180 0 169 (dk_at dksX0_isGood_0 17 rfl rfl)
theorem dX0_isGood_20 : decode cX0_isGood 20 = .ok (.invokevirtual 155, 3) := dk_182 0 155 (dk_at dksX0_isGood_0 20 rfl rfl)
theorem dX0_isGood_23 : decode cX0_isGood 23 = .ok (.astore_n 3, 1) := dk_78 (dk_at dksX0_isGood_0 23 rfl rfl)
theorem dX0_isGood_24 : decode cX0_isGood 24 = .ok (.aload_n 2, 1) := dk_44 (dk_at dksX0_isGood_1 0 rfl rfl)
theorem dX0_isGood_25 : decode cX0_isGood 25 = .ok (.getfield 159, 3) := dk_180 0 159 (dk_at dksX0_isGood_1 1 rfl rfl)
theorem dX0_isGood_28 : decode cX0_isGood 28 = .ok (.aload_n 3, 1) := dk_45 (dk_at dksX0_isGood_1 4 rfl rfl)
theorem dX0_isGood_29 : decode cX0_isGood 29 = .ok (.getfield 159, 3) := dk_180 0 159 (dk_at dksX0_isGood_1 5 rfl rfl)
theorem dX0_isGood_32 : decode cX0_isGood 32 = .ok (.if_icmp .ne 14, 3) := dk_160 0 14 (dk_at dksX0_isGood_1 8 rfl rfl)
theorem dX0_isGood_35 : decode cX0_isGood 35 = .ok (.aload_n 2, 1) := dk_44 (dk_at dksX0_isGood_1 11 rfl rfl)
theorem dX0_isGood_36 : decode cX0_isGood 36 = .ok (.getfield 172, 3) := dk_180 0 172 (dk_at dksX0_isGood_1 12 rfl rfl)
theorem dX0_isGood_39 : decode cX0_isGood 39 = .ok (.aload_n 3, 1) := dk_45 (dk_at dksX0_isGood_1 15 rfl rfl)
theorem dX0_isGood_40 : decode cX0_isGood 40 = .ok (.getfield 172, 3) := dk_180 0 172 (dk_at dksX0_isGood_1 16 rfl rfl)
theorem dX0_isGood_43 : decode cX0_isGood 43 = .ok (.if_icmp .ge 5, 3) := dk_162 0 5 (dk_at dksX0_isGood_1 19 rfl rfl)
theorem dX0_isGood_46 : decode cX0_isGood 46 = .ok (.iconst 0, 1) := dk_3 (dk_at dksX0_isGood_1 22 rfl rfl)
theorem dX0_isGood_47 : decode cX0_isGood 47 = .ok (.ireturn, 1) := dk_172 (dk_at dksX0_isGood_1 23 rfl rfl)
theorem dX0_isGood_48 : decode cX0_isGood 48 = .ok (.aload_n 1, 1) := dk_43 (dk_at dksX0_isGood_2 0 rfl rfl)
theorem dX0_isGood_49 : decode cX0_isGood 49 = .ok (.getfield 175, 3) := dk_180 0 175 (dk_at dksX0_isGood_2 1 rfl rfl)
theorem dX0_isGood_52 : decode cX0_isGood 52 = .ok (.ifCond .ne 32, 3) := dk_154 0 32 (dk_at dksX0_isGood_2 4 rfl rfl)
theorem dX0_isGood_55 : decode cX0_isGood 55 = .ok (.aload_n 2, 1) := dk_44 (dk_at dksX0_isGood_2 7 rfl rfl)
theorem dX0_isGood_56 : decode cX0_isGood 56 = .ok (.getfield 172, 3) := dk_180 0 172 (dk_at dksX0_isGood_2 8 rfl rfl)
theorem dX0_isGood_59 : decode cX0_isGood 59 = .ok (.aload_n 3, 1) := dk_45 (dk_at dksX0_isGood_2 11 rfl rfl)
theorem dX0_isGood_60 : decode cX0_isGood 60 = .ok (.getfield 172, 3) := dk_180 0 172 (dk_at dksX0_isGood_2 12 rfl rfl)
theorem dX0_isGood_63 : decode cX0_isGood 63 = .ok (.isub, 1) := dk_100 (dk_at dksX0_isGood_2 15 rfl rfl)
theorem dX0_isGood_64 : decode cX0_isGood 64 = .ok (.aload_n 0, 1) := dk_42 (dk_at dksX0_isGood_2 16 rfl rfl)
theorem dX0_isGood_65 : decode cX0_isGood 65 = .ok (.getfield 12, 3) := dk_180 0 12 (dk_at dksX0_isGood_2 17 rfl rfl)
theorem dX0_isGood_68 : decode cX0_isGood 68 = .ok (.getfield 178, 3) := dk_180 0 178 (dk_at dksX0_isGood_2 20 rfl rfl)
theorem dX0_isGood_71 : decode cX0_isGood 71 = .ok (.iconst 0, 1) := dk_3 (dk_at dksX0_isGood_2 23 rfl rfl)
theorem dX0_isGood_72 : decode cX0_isGood 72 = .ok (.iaload, 1) := dk_46 (dk_at dksX0_isGood_3 0 rfl rfl)
theorem dX0_isGood_73 : decode cX0_isGood 73 = .ok (.if_icmp .gt 7, 3) := dk_163 0 7 (dk_at dksX0_isGood_3 1 rfl rfl)
theorem dX0_isGood_76 : decode cX0_isGood 76 = .ok (.iconst 1, 1) := dk_4 (dk_at dksX0_isGood_3 4 rfl rfl)
theorem dX0_isGood_77 : decode cX0_isGood 77 = .ok (.goto 15, 3) := dk_167 0 15 (dk_at dksX0_isGood_3 5 rfl rfl)
theorem dX0_isGood_80 : decode cX0_isGood 80 = .ok (.iconst 0, 1) := dk_3 (dk_at dksX0_isGood_3 8 rfl rfl)
theorem dX0_isGood_81 : decode cX0_isGood 81 = .ok (.goto 11, 3) := dk_167 0 11 (dk_at dksX0_isGood_3 9 rfl rfl)
theorem dX0_isGood_84 : decode cX0_isGood 84 = .ok (.aload_n 3, 1) := dk_45 (dk_at dksX0_isGood_3 12 rfl rfl)
theorem dX0_isGood_85 : decode cX0_isGood 85 = .ok (.aload_n 2, 1) := dk_44 (dk_at dksX0_isGood_3 13 rfl rfl)
theorem dX0_isGood_86 : decode cX0_isGood 86 = .ok (.getfield 172, 3) := dk_180 0 172 (dk_at dksX0_isGood_3 14 rfl rfl)
theorem dX0_isGood_89 : decode cX0_isGood 89 = .ok (.invokevirtual 182, 3) := dk_182 0 182 (dk_at dksX0_isGood_3 17 rfl rfl)
theorem dX0_isGood_92 : decode cX0_isGood 92 = .ok (.ireturn, 1) := dk_172 (dk_at dksX0_isGood_3 20 rfl rfl)
abbrev cX0_isFirst : ByteArray := prog_1_method_22_code
def yX0_isFirst : MethodName := ⟨RX0, "isFirst", "(LFilingChains$Filing;I)Z"⟩
def dkwX0_isFirst_3 : List UInt8 := [3, 172, 132, 4, 1, 167, 255, 189, 4, 172]
abbrev dktX0_isFirst_3 : List UInt8 := dkwX0_isFirst_3 ++ []
def dkwX0_isFirst_2 : List UInt8 := [25, 5, 28, 182, 0, 186, 167, 0, 4, 2, 54, 6, 21, 6, 2, 159, 0, 11, 21, 6, 29, 162, 0, 5]
abbrev dktX0_isFirst_2 : List UInt8 := dkwX0_isFirst_2 ++ dktX0_isFirst_3
def dkwX0_isFirst_1 : List UInt8 := [42, 180, 0, 12, 21, 4, 182, 0, 155, 58, 5, 25, 5, 180, 0, 159, 43, 180, 0, 159, 160, 0, 12]
abbrev dktX0_isFirst_1 : List UInt8 := dkwX0_isFirst_1 ++ dktX0_isFirst_2
def dkwX0_isFirst_0 : List UInt8 := [43, 28, 182, 0, 186, 62, 3, 54, 4, 21, 4, 42, 180, 0, 12, 180, 0, 117, 182, 0, 118, 162, 0, 58]
abbrev dktX0_isFirst_0 : List UInt8 := dkwX0_isFirst_0 ++ dktX0_isFirst_1
theorem dksX0_isFirst_0 : cX0_isFirst.data.toList.drop 0 = dktX0_isFirst_0 := by decide +kernel
theorem dksX0_isFirst_1 : cX0_isFirst.data.toList.drop 24 = dktX0_isFirst_1 := dk_seg dksX0_isFirst_0 24 rfl rfl
theorem dksX0_isFirst_2 : cX0_isFirst.data.toList.drop 47 = dktX0_isFirst_2 := dk_seg dksX0_isFirst_1 23 rfl rfl
theorem dksX0_isFirst_3 : cX0_isFirst.data.toList.drop 71 = dktX0_isFirst_3 := dk_seg dksX0_isFirst_2 24 rfl rfl
theorem dX0_isFirst_0 : decode cX0_isFirst 0 = .ok (.aload_n 1, 1) := dk_43 (dk_at dksX0_isFirst_0 0 rfl rfl)
theorem dX0_isFirst_1 : decode cX0_isFirst 1 = .ok (.iload_n 2, 1) := dk_28 (dk_at dksX0_isFirst_0 1 rfl rfl)
theorem dX0_isFirst_2 : decode cX0_isFirst 2 = .ok (.invokevirtual 186, 3) := dk_182 0 186 (dk_at dksX0_isFirst_0 2 rfl rfl)
theorem dX0_isFirst_5 : decode cX0_isFirst 5 = .ok (.istore_n 3, 1) := dk_62 (dk_at dksX0_isFirst_0 5 rfl rfl)
theorem dX0_isFirst_6 : decode cX0_isFirst 6 = .ok (.iconst 0, 1) := dk_3 (dk_at dksX0_isFirst_0 6 rfl rfl)
theorem dX0_isFirst_7 : decode cX0_isFirst 7 = .ok (.istore 4, 2) := dk_54 4 (dk_at dksX0_isFirst_0 7 rfl rfl)
theorem dX0_isFirst_9 : decode cX0_isFirst 9 = .ok (.iload 4, 2) := dk_21 4 (dk_at dksX0_isFirst_0 9 rfl rfl)
theorem dX0_isFirst_11 : decode cX0_isFirst 11 = .ok (.aload_n 0, 1) := dk_42 (dk_at dksX0_isFirst_0 11 rfl rfl)
theorem dX0_isFirst_12 : decode cX0_isFirst 12 = .ok (.getfield 12, 3) := dk_180 0 12 (dk_at dksX0_isFirst_0 12 rfl rfl)
theorem dX0_isFirst_15 : decode cX0_isFirst 15 = .ok (.getfield 117, 3) := dk_180 0 117 (dk_at dksX0_isFirst_0 15 rfl rfl)
theorem dX0_isFirst_18 : decode cX0_isFirst 18 = .ok (.invokevirtual 118, 3) := dk_182 0 118 (dk_at dksX0_isFirst_0 18 rfl rfl)
theorem dX0_isFirst_21 : decode cX0_isFirst 21 = .ok (.if_icmp .ge 58, 3) := dk_162 0 58 (dk_at dksX0_isFirst_0 21 rfl rfl)
theorem dX0_isFirst_24 : decode cX0_isFirst 24 = .ok (.aload_n 0, 1) := dk_42 (dk_at dksX0_isFirst_1 0 rfl rfl)
theorem dX0_isFirst_25 : decode cX0_isFirst 25 = .ok (.getfield 12, 3) := dk_180 0 12 (dk_at dksX0_isFirst_1 1 rfl rfl)
theorem dX0_isFirst_28 : decode cX0_isFirst 28 = .ok (.iload 4, 2) := dk_21 4 (dk_at dksX0_isFirst_1 4 rfl rfl)
theorem dX0_isFirst_30 : decode cX0_isFirst 30 = .ok (.invokevirtual 155, 3) := dk_182 0 155 (dk_at dksX0_isFirst_1 6 rfl rfl)
theorem dX0_isFirst_33 : decode cX0_isFirst 33 = .ok (.astore 5, 2) := dk_58 5 (dk_at dksX0_isFirst_1 9 rfl rfl)
theorem dX0_isFirst_35 : decode cX0_isFirst 35 = .ok (.aload 5, 2) := dk_25 5 (dk_at dksX0_isFirst_1 11 rfl rfl)
theorem dX0_isFirst_37 : decode cX0_isFirst 37 = .ok (.getfield 159, 3) := dk_180 0 159 (dk_at dksX0_isFirst_1 13 rfl rfl)
theorem dX0_isFirst_40 : decode cX0_isFirst 40 = .ok (.aload_n 1, 1) := dk_43 (dk_at dksX0_isFirst_1 16 rfl rfl)
theorem dX0_isFirst_41 : decode cX0_isFirst 41 = .ok (.getfield 159, 3) := dk_180 0 159 (dk_at dksX0_isFirst_1 17 rfl rfl)
theorem dX0_isFirst_44 : decode cX0_isFirst 44 = .ok (.if_icmp .ne 12, 3) := dk_160 0 12 (dk_at dksX0_isFirst_1 20 rfl rfl)
theorem dX0_isFirst_47 : decode cX0_isFirst 47 = .ok (.aload 5, 2) := dk_25 5 (dk_at dksX0_isFirst_2 0 rfl rfl)
theorem dX0_isFirst_49 : decode cX0_isFirst 49 = .ok (.iload_n 2, 1) := dk_28 (dk_at dksX0_isFirst_2 2 rfl rfl)
theorem dX0_isFirst_50 : decode cX0_isFirst 50 = .ok (.invokevirtual 186, 3) := dk_182 0 186 (dk_at dksX0_isFirst_2 3 rfl rfl)
theorem dX0_isFirst_53 : decode cX0_isFirst 53 = .ok (.goto 4, 3) := dk_167 0 4 (dk_at dksX0_isFirst_2 6 rfl rfl)
theorem dX0_isFirst_56 : decode cX0_isFirst 56 = .ok (.iconst (-1), 1) := dk_2 (dk_at dksX0_isFirst_2 9 rfl rfl)
theorem dX0_isFirst_57 : decode cX0_isFirst 57 = .ok (.istore 6, 2) := dk_54 6 (dk_at dksX0_isFirst_2 10 rfl rfl)
theorem dX0_isFirst_59 : decode cX0_isFirst 59 = .ok (.iload 6, 2) := dk_21 6 (dk_at dksX0_isFirst_2 12 rfl rfl)
theorem dX0_isFirst_61 : decode cX0_isFirst 61 = .ok (.iconst (-1), 1) := dk_2 (dk_at dksX0_isFirst_2 14 rfl rfl)
theorem dX0_isFirst_62 : decode cX0_isFirst 62 = .ok (.if_icmp .eq 11, 3) := dk_159 0 11 (dk_at dksX0_isFirst_2 15 rfl rfl)
theorem dX0_isFirst_65 : decode cX0_isFirst 65 = .ok (.iload 6, 2) := dk_21 6 (dk_at dksX0_isFirst_2 18 rfl rfl)
theorem dX0_isFirst_67 : decode cX0_isFirst 67 = .ok (.iload_n 3, 1) := dk_29 (dk_at dksX0_isFirst_2 20 rfl rfl)
theorem dX0_isFirst_68 : decode cX0_isFirst 68 = .ok (.if_icmp .ge 5, 3) := dk_162 0 5 (dk_at dksX0_isFirst_2 21 rfl rfl)
theorem dX0_isFirst_71 : decode cX0_isFirst 71 = .ok (.iconst 0, 1) := dk_3 (dk_at dksX0_isFirst_3 0 rfl rfl)
theorem dX0_isFirst_72 : decode cX0_isFirst 72 = .ok (.ireturn, 1) := dk_172 (dk_at dksX0_isFirst_3 1 rfl rfl)
theorem dX0_isFirst_73 : decode cX0_isFirst 73 = .ok (.iinc 4 1, 3) := dk_132 4 1 (dk_at dksX0_isFirst_3 2 rfl rfl)
theorem dX0_isFirst_76 : decode cX0_isFirst 76 = .ok (.goto (-67), 3) := dk_167 255 189 (dk_at dksX0_isFirst_3 5 rfl rfl)
theorem dX0_isFirst_79 : decode cX0_isFirst 79 = .ok (.iconst 1, 1) := dk_4 (dk_at dksX0_isFirst_3 8 rfl rfl)
theorem dX0_isFirst_80 : decode cX0_isFirst 80 = .ok (.ireturn, 1) := dk_172 (dk_at dksX0_isFirst_3 9 rfl rfl)
abbrev cX0_dater : ByteArray := prog_1_method_30_code
def yX0_dater : MethodName := ⟨RX0, "dater", "(II)I"⟩
def dkwX0_dater_1 : List UInt8 := [183, 0, 216, 180, 0, 237, 172]
abbrev dktX0_dater_1 : List UInt8 := dkwX0_dater_1 ++ []
def dkwX0_dater_0 : List UInt8 := [42, 27, 28, 182, 0, 234, 62, 29, 156, 0, 7, 29, 167, 0, 17, 187, 0, 214, 89, 42, 27, 28, 3]
abbrev dktX0_dater_0 : List UInt8 := dkwX0_dater_0 ++ dktX0_dater_1
theorem dksX0_dater_0 : cX0_dater.data.toList.drop 0 = dktX0_dater_0 := by decide +kernel
theorem dksX0_dater_1 : cX0_dater.data.toList.drop 23 = dktX0_dater_1 := dk_seg dksX0_dater_0 23 rfl rfl
theorem dX0_dater_0 : decode cX0_dater 0 = .ok (.aload_n 0, 1) := dk_42 (dk_at dksX0_dater_0 0 rfl rfl)
theorem dX0_dater_1 : decode cX0_dater 1 = .ok (.iload_n 1, 1) := dk_27 (dk_at dksX0_dater_0 1 rfl rfl)
theorem dX0_dater_2 : decode cX0_dater 2 = .ok (.iload_n 2, 1) := dk_28 (dk_at dksX0_dater_0 2 rfl rfl)
theorem dX0_dater_3 : decode cX0_dater 3 = .ok (.invokevirtual 234, 3) := dk_182 0 234 (dk_at dksX0_dater_0 3 rfl rfl)
theorem dX0_dater_6 : decode cX0_dater 6 = .ok (.istore_n 3, 1) := dk_62 (dk_at dksX0_dater_0 6 rfl rfl)
theorem dX0_dater_7 : decode cX0_dater 7 = .ok (.iload_n 3, 1) := dk_29 (dk_at dksX0_dater_0 7 rfl rfl)
theorem dX0_dater_8 : decode cX0_dater 8 = .ok (.ifCond .ge 7, 3) := dk_156 0 7 (dk_at dksX0_dater_0 8 rfl rfl)
theorem dX0_dater_11 : decode cX0_dater 11 = .ok (.iload_n 3, 1) := dk_29 (dk_at dksX0_dater_0 11 rfl rfl)
theorem dX0_dater_12 : decode cX0_dater 12 = .ok (.goto 17, 3) := dk_167 0 17 (dk_at dksX0_dater_0 12 rfl rfl)
theorem dX0_dater_15 : decode cX0_dater 15 = .ok (.new 214, 3) := dk_187 0 214 (dk_at dksX0_dater_0 15 rfl rfl)
theorem dX0_dater_18 : decode cX0_dater 18 = .ok (.dup, 1) := dk_89 (dk_at dksX0_dater_0 18 rfl rfl)
theorem dX0_dater_19 : decode cX0_dater 19 = .ok (.aload_n 0, 1) := dk_42 (dk_at dksX0_dater_0 19 rfl rfl)
theorem dX0_dater_20 : decode cX0_dater 20 = .ok (.iload_n 1, 1) := dk_27 (dk_at dksX0_dater_0 20 rfl rfl)
theorem dX0_dater_21 : decode cX0_dater 21 = .ok (.iload_n 2, 1) := dk_28 (dk_at dksX0_dater_0 21 rfl rfl)
theorem dX0_dater_22 : decode cX0_dater 22 = .ok (.iconst 0, 1) := dk_3 (dk_at dksX0_dater_0 22 rfl rfl)
theorem dX0_dater_23 : decode cX0_dater 23 = .ok (.invokespecial 216, 3) := dk_183 0 216 (dk_at dksX0_dater_1 0 rfl rfl)
theorem dX0_dater_26 : decode cX0_dater 26 = .ok (.getfield 237, 3) := dk_180 0 237 (dk_at dksX0_dater_1 3 rfl rfl)
theorem dX0_dater_29 : decode cX0_dater 29 = .ok (.ireturn, 1) := dk_172 (dk_at dksX0_dater_1 6 rfl rfl)
abbrev cX0_way : ByteArray := prog_1_method_31_code
def yX0_way : MethodName := ⟨RX0, "way", "(III)I"⟩
def dkwX0_way_3 : List UInt8 := [185, 0, 243, 2, 0, 192, 0, 165, 182, 0, 244, 167, 0, 5, 16, 253, 172]
abbrev dktX0_way_3 : List UInt8 := dkwX0_way_3 ++ []
def dkwX0_way_2 : List UInt8 := [185, 0, 127, 1, 0, 167, 0, 34, 29, 25, 5, 185, 0, 127, 1, 0, 162, 0, 21, 42, 25, 5, 29]
abbrev dktX0_way_2 : List UInt8 := dkwX0_way_2 ++ dktX0_way_3
def dkwX0_way_1 : List UInt8 := [172, 187, 0, 214, 89, 42, 27, 28, 3, 183, 0, 216, 182, 0, 240, 58, 5, 29, 2, 160, 0, 13, 25, 5]
abbrev dktX0_way_1 : List UInt8 := dkwX0_way_1 ++ dktX0_way_2
def dkwX0_way_0 : List UInt8 := [29, 2, 162, 0, 7, 2, 167, 0, 9, 42, 27, 28, 182, 0, 234, 54, 4, 21, 4, 156, 0, 6, 21, 4]
abbrev dktX0_way_0 : List UInt8 := dkwX0_way_0 ++ dktX0_way_1
theorem dksX0_way_0 : cX0_way.data.toList.drop 0 = dktX0_way_0 := by decide +kernel
theorem dksX0_way_1 : cX0_way.data.toList.drop 24 = dktX0_way_1 := dk_seg dksX0_way_0 24 rfl rfl
theorem dksX0_way_2 : cX0_way.data.toList.drop 48 = dktX0_way_2 := dk_seg dksX0_way_1 24 rfl rfl
theorem dksX0_way_3 : cX0_way.data.toList.drop 71 = dktX0_way_3 := dk_seg dksX0_way_2 23 rfl rfl
theorem dX0_way_0 : decode cX0_way 0 = .ok (.iload_n 3, 1) := dk_29 (dk_at dksX0_way_0 0 rfl rfl)
theorem dX0_way_1 : decode cX0_way 1 = .ok (.iconst (-1), 1) := dk_2 (dk_at dksX0_way_0 1 rfl rfl)
theorem dX0_way_2 : decode cX0_way 2 = .ok (.if_icmp .ge 7, 3) := dk_162 0 7 (dk_at dksX0_way_0 2 rfl rfl)
theorem dX0_way_5 : decode cX0_way 5 = .ok (.iconst (-1), 1) := dk_2 (dk_at dksX0_way_0 5 rfl rfl)
theorem dX0_way_6 : decode cX0_way 6 = .ok (.goto 9, 3) := dk_167 0 9 (dk_at dksX0_way_0 6 rfl rfl)
theorem dX0_way_9 : decode cX0_way 9 = .ok (.aload_n 0, 1) := dk_42 (dk_at dksX0_way_0 9 rfl rfl)
theorem dX0_way_10 : decode cX0_way 10 = .ok (.iload_n 1, 1) := dk_27 (dk_at dksX0_way_0 10 rfl rfl)
theorem dX0_way_11 : decode cX0_way 11 = .ok (.iload_n 2, 1) := dk_28 (dk_at dksX0_way_0 11 rfl rfl)
theorem dX0_way_12 : decode cX0_way 12 = .ok (.invokevirtual 234, 3) := dk_182 0 234 (dk_at dksX0_way_0 12 rfl rfl)
theorem dX0_way_15 : decode cX0_way 15 = .ok (.istore 4, 2) := dk_54 4 (dk_at dksX0_way_0 15 rfl rfl)
theorem dX0_way_17 : decode cX0_way 17 = .ok (.iload 4, 2) := dk_21 4 (dk_at dksX0_way_0 17 rfl rfl)
theorem dX0_way_19 : decode cX0_way 19 = .ok (.ifCond .ge 6, 3) := dk_156 0 6 (dk_at dksX0_way_0 19 rfl rfl)
theorem dX0_way_22 : decode cX0_way 22 = .ok (.iload 4, 2) := dk_21 4 (dk_at dksX0_way_0 22 rfl rfl)
theorem dX0_way_24 : decode cX0_way 24 = .ok (.ireturn, 1) := dk_172 (dk_at dksX0_way_1 0 rfl rfl)
theorem dX0_way_25 : decode cX0_way 25 = .ok (.new 214, 3) := dk_187 0 214 (dk_at dksX0_way_1 1 rfl rfl)
theorem dX0_way_28 : decode cX0_way 28 = .ok (.dup, 1) := dk_89 (dk_at dksX0_way_1 4 rfl rfl)
theorem dX0_way_29 : decode cX0_way 29 = .ok (.aload_n 0, 1) := dk_42 (dk_at dksX0_way_1 5 rfl rfl)
theorem dX0_way_30 : decode cX0_way 30 = .ok (.iload_n 1, 1) := dk_27 (dk_at dksX0_way_1 6 rfl rfl)
theorem dX0_way_31 : decode cX0_way 31 = .ok (.iload_n 2, 1) := dk_28 (dk_at dksX0_way_1 7 rfl rfl)
theorem dX0_way_32 : decode cX0_way 32 = .ok (.iconst 0, 1) := dk_3 (dk_at dksX0_way_1 8 rfl rfl)
theorem dX0_way_33 : decode cX0_way 33 = .ok (.invokespecial 216, 3) := dk_183 0 216 (dk_at dksX0_way_1 9 rfl rfl)
theorem dX0_way_36 : decode cX0_way 36 = .ok (.invokevirtual 240, 3) := dk_182 0 240 (dk_at dksX0_way_1 12 rfl rfl)
theorem dX0_way_39 : decode cX0_way 39 = .ok (.astore 5, 2) := dk_58 5 (dk_at dksX0_way_1 15 rfl rfl)
theorem dX0_way_41 : decode cX0_way 41 = .ok (.iload_n 3, 1) := dk_29 (dk_at dksX0_way_1 17 rfl rfl)
theorem dX0_way_42 : decode cX0_way 42 = .ok (.iconst (-1), 1) := dk_2 (dk_at dksX0_way_1 18 rfl rfl)
theorem dX0_way_43 : decode cX0_way 43 = .ok (.if_icmp .ne 13, 3) := dk_160 0 13 (dk_at dksX0_way_1 19 rfl rfl)
theorem dX0_way_46 : decode cX0_way 46 = .ok (.aload 5, 2) := dk_25 5 (dk_at dksX0_way_1 22 rfl rfl)
theorem dX0_way_48 : decode cX0_way 48 = .ok (.invokeinterface 127 1, 5) := by decide +kernel
theorem dX0_way_53 : decode cX0_way 53 = .ok (.goto 34, 3) := dk_167 0 34 (dk_at dksX0_way_2 5 rfl rfl)
theorem dX0_way_56 : decode cX0_way 56 = .ok (.iload_n 3, 1) := dk_29 (dk_at dksX0_way_2 8 rfl rfl)
theorem dX0_way_57 : decode cX0_way 57 = .ok (.aload 5, 2) := dk_25 5 (dk_at dksX0_way_2 9 rfl rfl)
theorem dX0_way_59 : decode cX0_way 59 = .ok (.invokeinterface 127 1, 5) := by decide +kernel
theorem dX0_way_64 : decode cX0_way 64 = .ok (.if_icmp .ge 21, 3) := dk_162 0 21 (dk_at dksX0_way_2 16 rfl rfl)
theorem dX0_way_67 : decode cX0_way 67 = .ok (.aload_n 0, 1) := dk_42 (dk_at dksX0_way_2 19 rfl rfl)
theorem dX0_way_68 : decode cX0_way 68 = .ok (.aload 5, 2) := dk_25 5 (dk_at dksX0_way_2 20 rfl rfl)
theorem dX0_way_70 : decode cX0_way 70 = .ok (.iload_n 3, 1) := dk_29 (dk_at dksX0_way_2 22 rfl rfl)
theorem dX0_way_71 : decode cX0_way 71 = .ok (.invokeinterface 243 2, 5) := by decide +kernel
theorem dX0_way_76 : decode cX0_way 76 = .ok (.checkcast 165, 3) := dk_192 0 165 (dk_at dksX0_way_3 5 rfl rfl)
theorem dX0_way_79 : decode cX0_way 79 = .ok (.invokevirtual 244, 3) := dk_182 0 244 (dk_at dksX0_way_3 8 rfl rfl)
theorem dX0_way_82 : decode cX0_way 82 = .ok (.goto 5, 3) := dk_167 0 5 (dk_at dksX0_way_3 11 rfl rfl)
theorem dX0_way_85 : decode cX0_way 85 = .ok (.bipush (-3), 2) := dk_16 253 (dk_at dksX0_way_3 14 rfl rfl)
theorem dX0_way_87 : decode cX0_way 87 = .ok (.ireturn, 1) := dk_172 (dk_at dksX0_way_3 16 rfl rfl)
abbrev cX0_numberOf : ByteArray := prog_1_method_25_code
def yX0_numberOf : MethodName := ⟨RX0, "numberOf", "(LFilingChains$Link;)I"⟩
def dkwX0_numberOf_2 : List UInt8 := [2, 172]
abbrev dktX0_numberOf_2 : List UInt8 := dkwX0_numberOf_2 ++ []
def dkwX0_numberOf_1 : List UInt8 := [185, 0, 210, 1, 0, 192, 0, 165, 58, 4, 25, 4, 43, 166, 0, 5, 28, 172, 132, 2, 1, 167, 255, 225]
abbrev dktX0_numberOf_1 : List UInt8 := dkwX0_numberOf_1 ++ dktX0_numberOf_2
def dkwX0_numberOf_0 : List UInt8 := [3, 61, 42, 180, 0, 12, 180, 0, 128, 182, 0, 200, 78, 45, 185, 0, 204, 1, 0, 153, 0, 28, 45]
abbrev dktX0_numberOf_0 : List UInt8 := dkwX0_numberOf_0 ++ dktX0_numberOf_1
theorem dksX0_numberOf_0 : cX0_numberOf.data.toList.drop 0 = dktX0_numberOf_0 := by decide +kernel
theorem dksX0_numberOf_1 : cX0_numberOf.data.toList.drop 23 = dktX0_numberOf_1 := dk_seg dksX0_numberOf_0 23 rfl rfl
theorem dksX0_numberOf_2 : cX0_numberOf.data.toList.drop 47 = dktX0_numberOf_2 := dk_seg dksX0_numberOf_1 24 rfl rfl
theorem dX0_numberOf_0 : decode cX0_numberOf 0 = .ok (.iconst 0, 1) := dk_3 (dk_at dksX0_numberOf_0 0 rfl rfl)
theorem dX0_numberOf_1 : decode cX0_numberOf 1 = .ok (.istore_n 2, 1) := dk_61 (dk_at dksX0_numberOf_0 1 rfl rfl)
theorem dX0_numberOf_2 : decode cX0_numberOf 2 = .ok (.aload_n 0, 1) := dk_42 (dk_at dksX0_numberOf_0 2 rfl rfl)
theorem dX0_numberOf_3 : decode cX0_numberOf 3 = .ok (.getfield 12, 3) := dk_180 0 12 (dk_at dksX0_numberOf_0 3 rfl rfl)
theorem dX0_numberOf_6 : decode cX0_numberOf 6 = .ok (.getfield 128, 3) := dk_180 0 128 (dk_at dksX0_numberOf_0 6 rfl rfl)
theorem dX0_numberOf_9 : decode cX0_numberOf 9 = .ok (.invokevirtual 200, 3) := dk_182 0 200 (dk_at dksX0_numberOf_0 9 rfl rfl)
theorem dX0_numberOf_12 : decode cX0_numberOf 12 = .ok (.astore_n 3, 1) := dk_78 (dk_at dksX0_numberOf_0 12 rfl rfl)
theorem dX0_numberOf_13 : decode cX0_numberOf 13 = .ok (.aload_n 3, 1) := dk_45 (dk_at dksX0_numberOf_0 13 rfl rfl)
theorem dX0_numberOf_14 : decode cX0_numberOf 14 = .ok (.invokeinterface 204 1, 5) := by decide +kernel
theorem dX0_numberOf_19 : decode cX0_numberOf 19 = .ok (.ifCond .eq 28, 3) := dk_153 0 28 (dk_at dksX0_numberOf_0 19 rfl rfl)
theorem dX0_numberOf_22 : decode cX0_numberOf 22 = .ok (.aload_n 3, 1) := dk_45 (dk_at dksX0_numberOf_0 22 rfl rfl)
theorem dX0_numberOf_23 : decode cX0_numberOf 23 = .ok (.invokeinterface 210 1, 5) := by decide +kernel
theorem dX0_numberOf_28 : decode cX0_numberOf 28 = .ok (.checkcast 165, 3) := dk_192 0 165 (dk_at dksX0_numberOf_1 5 rfl rfl)
theorem dX0_numberOf_31 : decode cX0_numberOf 31 = .ok (.astore 4, 2) := dk_58 4 (dk_at dksX0_numberOf_1 8 rfl rfl)
theorem dX0_numberOf_33 : decode cX0_numberOf 33 = .ok (.aload 4, 2) := dk_25 4 (dk_at dksX0_numberOf_1 10 rfl rfl)
theorem dX0_numberOf_35 : decode cX0_numberOf 35 = .ok (.aload_n 1, 1) := dk_43 (dk_at dksX0_numberOf_1 12 rfl rfl)
theorem dX0_numberOf_36 : decode cX0_numberOf 36 = .ok (.if_acmp .ne 5, 3) := dk_166 0 5 (dk_at dksX0_numberOf_1 13 rfl rfl)
theorem dX0_numberOf_39 : decode cX0_numberOf 39 = .ok (.iload_n 2, 1) := dk_28 (dk_at dksX0_numberOf_1 16 rfl rfl)
theorem dX0_numberOf_40 : decode cX0_numberOf 40 = .ok (.ireturn, 1) := dk_172 (dk_at dksX0_numberOf_1 17 rfl rfl)
theorem dX0_numberOf_41 : decode cX0_numberOf 41 = .ok (.iinc 2 1, 3) := dk_132 2 1 (dk_at dksX0_numberOf_1 18 rfl rfl)
theorem dX0_numberOf_44 : decode cX0_numberOf 44 = .ok (.goto (-31), 3) := dk_167 255 225 (dk_at dksX0_numberOf_1 21 rfl rfl)
theorem dX0_numberOf_47 : decode cX0_numberOf 47 = .ok (.iconst (-1), 1) := dk_2 (dk_at dksX0_numberOf_2 0 rfl rfl)
theorem dX0_numberOf_48 : decode cX0_numberOf 48 = .ok (.ireturn, 1) := dk_172 (dk_at dksX0_numberOf_2 1 rfl rfl)
abbrev cX0_needed : ByteArray := prog_1_method_33_code
def yX0_needed : MethodName := ⟨RX0, "needed", "(II)I"⟩
def dkwX0_needed_0 : List UInt8 := [42, 27, 28, 182, 0, 234, 62, 29, 156, 0, 7, 29, 167, 0, 9, 42, 27, 28, 182, 0, 248, 172]
abbrev dktX0_needed_0 : List UInt8 := dkwX0_needed_0 ++ []
theorem dksX0_needed_0 : cX0_needed.data.toList.drop 0 = dktX0_needed_0 := by decide +kernel
theorem dX0_needed_0 : decode cX0_needed 0 = .ok (.aload_n 0, 1) := dk_42 (dk_at dksX0_needed_0 0 rfl rfl)
theorem dX0_needed_1 : decode cX0_needed 1 = .ok (.iload_n 1, 1) := dk_27 (dk_at dksX0_needed_0 1 rfl rfl)
theorem dX0_needed_2 : decode cX0_needed 2 = .ok (.iload_n 2, 1) := dk_28 (dk_at dksX0_needed_0 2 rfl rfl)
theorem dX0_needed_3 : decode cX0_needed 3 = .ok (.invokevirtual 234, 3) := dk_182 0 234 (dk_at dksX0_needed_0 3 rfl rfl)
theorem dX0_needed_6 : decode cX0_needed 6 = .ok (.istore_n 3, 1) := dk_62 (dk_at dksX0_needed_0 6 rfl rfl)
theorem dX0_needed_7 : decode cX0_needed 7 = .ok (.iload_n 3, 1) := dk_29 (dk_at dksX0_needed_0 7 rfl rfl)
theorem dX0_needed_8 : decode cX0_needed 8 = .ok (.ifCond .ge 7, 3) := dk_156 0 7 (dk_at dksX0_needed_0 8 rfl rfl)
theorem dX0_needed_11 : decode cX0_needed 11 = .ok (.iload_n 3, 1) := dk_29 (dk_at dksX0_needed_0 11 rfl rfl)
theorem dX0_needed_12 : decode cX0_needed 12 = .ok (.goto 9, 3) := dk_167 0 9 (dk_at dksX0_needed_0 12 rfl rfl)
theorem dX0_needed_15 : decode cX0_needed 15 = .ok (.aload_n 0, 1) := dk_42 (dk_at dksX0_needed_0 15 rfl rfl)
theorem dX0_needed_16 : decode cX0_needed 16 = .ok (.iload_n 1, 1) := dk_27 (dk_at dksX0_needed_0 16 rfl rfl)
theorem dX0_needed_17 : decode cX0_needed 17 = .ok (.iload_n 2, 1) := dk_28 (dk_at dksX0_needed_0 17 rfl rfl)
theorem dX0_needed_18 : decode cX0_needed 18 = .ok (.invokevirtual 248, 3) := dk_182 0 248 (dk_at dksX0_needed_0 18 rfl rfl)
theorem dX0_needed_21 : decode cX0_needed 21 = .ok (.ireturn, 1) := dk_172 (dk_at dksX0_needed_0 21 rfl rfl)
abbrev cX0_neededOf : ByteArray := prog_1_method_32_code
def yX0_neededOf : MethodName := ⟨RX0, "neededOf", "(II)I"⟩
def dkwX0_neededOf_2 : List UInt8 := [164, 0, 12, 21, 4, 4, 21, 5, 120, 128, 54, 4, 132, 5, 1, 167, 255, 208, 21, 4, 172]
abbrev dktX0_neededOf_2 : List UInt8 := dkwX0_neededOf_2 ++ []
def dkwX0_neededOf_1 : List UInt8 := [182, 0, 132, 162, 0, 39, 187, 0, 214, 89, 42, 27, 28, 4, 21, 5, 120, 183, 0, 216, 180, 0, 219, 29]
abbrev dktX0_neededOf_1 : List UInt8 := dkwX0_neededOf_1 ++ dktX0_neededOf_2
def dkwX0_neededOf_0 : List UInt8 := [42, 27, 28, 182, 0, 224, 62, 3, 54, 4, 3, 54, 5, 21, 5, 42, 180, 0, 12, 180, 0, 128]
abbrev dktX0_neededOf_0 : List UInt8 := dkwX0_neededOf_0 ++ dktX0_neededOf_1
theorem dksX0_neededOf_0 : cX0_neededOf.data.toList.drop 0 = dktX0_neededOf_0 := by decide +kernel
theorem dksX0_neededOf_1 : cX0_neededOf.data.toList.drop 22 = dktX0_neededOf_1 := dk_seg dksX0_neededOf_0 22 rfl rfl
theorem dksX0_neededOf_2 : cX0_neededOf.data.toList.drop 46 = dktX0_neededOf_2 := dk_seg dksX0_neededOf_1 24 rfl rfl
theorem dX0_neededOf_0 : decode cX0_neededOf 0 = .ok (.aload_n 0, 1) := dk_42 (dk_at dksX0_neededOf_0 0 rfl rfl)
theorem dX0_neededOf_1 : decode cX0_neededOf 1 = .ok (.iload_n 1, 1) := dk_27 (dk_at dksX0_neededOf_0 1 rfl rfl)
theorem dX0_neededOf_2 : decode cX0_neededOf 2 = .ok (.iload_n 2, 1) := dk_28 (dk_at dksX0_neededOf_0 2 rfl rfl)
theorem dX0_neededOf_3 : decode cX0_neededOf 3 = .ok (.invokevirtual 224, 3) := dk_182 0 224 (dk_at dksX0_neededOf_0 3 rfl rfl)
theorem dX0_neededOf_6 : decode cX0_neededOf 6 = .ok (.istore_n 3, 1) := dk_62 (dk_at dksX0_neededOf_0 6 rfl rfl)
theorem dX0_neededOf_7 : decode cX0_neededOf 7 = .ok (.iconst 0, 1) := dk_3 (dk_at dksX0_neededOf_0 7 rfl rfl)
theorem dX0_neededOf_8 : decode cX0_neededOf 8 = .ok (.istore 4, 2) := dk_54 4 (dk_at dksX0_neededOf_0 8 rfl rfl)
theorem dX0_neededOf_10 : decode cX0_neededOf 10 = .ok (.iconst 0, 1) := dk_3 (dk_at dksX0_neededOf_0 10 rfl rfl)
theorem dX0_neededOf_11 : decode cX0_neededOf 11 = .ok (.istore 5, 2) := dk_54 5 (dk_at dksX0_neededOf_0 11 rfl rfl)
theorem dX0_neededOf_13 : decode cX0_neededOf 13 = .ok (.iload 5, 2) := dk_21 5 (dk_at dksX0_neededOf_0 13 rfl rfl)
theorem dX0_neededOf_15 : decode cX0_neededOf 15 = .ok (.aload_n 0, 1) := dk_42 (dk_at dksX0_neededOf_0 15 rfl rfl)
theorem dX0_neededOf_16 : decode cX0_neededOf 16 = .ok (.getfield 12, 3) := dk_180 0 12 (dk_at dksX0_neededOf_0 16 rfl rfl)
theorem dX0_neededOf_19 : decode cX0_neededOf 19 = .ok (.getfield 128, 3) := dk_180 0 128 (dk_at dksX0_neededOf_0 19 rfl rfl)
theorem dX0_neededOf_22 : decode cX0_neededOf 22 = .ok (.invokevirtual 132, 3) := dk_182 0 132 (dk_at dksX0_neededOf_1 0 rfl rfl)
theorem dX0_neededOf_25 : decode cX0_neededOf 25 = .ok (.if_icmp .ge 39, 3) := dk_162 0 39 (dk_at dksX0_neededOf_1 3 rfl rfl)
theorem dX0_neededOf_28 : decode cX0_neededOf 28 = .ok (.new 214, 3) := dk_187 0 214 (dk_at dksX0_neededOf_1 6 rfl rfl)
theorem dX0_neededOf_31 : decode cX0_neededOf 31 = .ok (.dup, 1) := dk_89 (dk_at dksX0_neededOf_1 9 rfl rfl)
theorem dX0_neededOf_32 : decode cX0_neededOf 32 = .ok (.aload_n 0, 1) := dk_42 (dk_at dksX0_neededOf_1 10 rfl rfl)
theorem dX0_neededOf_33 : decode cX0_neededOf 33 = .ok (.iload_n 1, 1) := dk_27 (dk_at dksX0_neededOf_1 11 rfl rfl)
theorem dX0_neededOf_34 : decode cX0_neededOf 34 = .ok (.iload_n 2, 1) := dk_28 (dk_at dksX0_neededOf_1 12 rfl rfl)
theorem dX0_neededOf_35 : decode cX0_neededOf 35 = .ok (.iconst 1, 1) := dk_4 (dk_at dksX0_neededOf_1 13 rfl rfl)
theorem dX0_neededOf_36 : decode cX0_neededOf 36 = .ok (.iload 5, 2) := dk_21 5 (dk_at dksX0_neededOf_1 14 rfl rfl)
theorem dX0_neededOf_38 : decode cX0_neededOf 38 = .ok (.ishl, 1) := dk_120 (dk_at dksX0_neededOf_1 16 rfl rfl)
theorem dX0_neededOf_39 : decode cX0_neededOf 39 = .ok (.invokespecial 216, 3) := dk_183 0 216 (dk_at dksX0_neededOf_1 17 rfl rfl)
theorem dX0_neededOf_42 : decode cX0_neededOf 42 = .ok (.getfield 219, 3) := dk_180 0 219 (dk_at dksX0_neededOf_1 20 rfl rfl)
theorem dX0_neededOf_45 : decode cX0_neededOf 45 = .ok (.iload_n 3, 1) := dk_29 (dk_at dksX0_neededOf_1 23 rfl rfl)
theorem dX0_neededOf_46 : decode cX0_neededOf 46 = .ok (.if_icmp .le 12, 3) := dk_164 0 12 (dk_at dksX0_neededOf_2 0 rfl rfl)
theorem dX0_neededOf_49 : decode cX0_neededOf 49 = .ok (.iload 4, 2) := dk_21 4 (dk_at dksX0_neededOf_2 3 rfl rfl)
theorem dX0_neededOf_51 : decode cX0_neededOf 51 = .ok (.iconst 1, 1) := dk_4 (dk_at dksX0_neededOf_2 5 rfl rfl)
theorem dX0_neededOf_52 : decode cX0_neededOf 52 = .ok (.iload 5, 2) := dk_21 5 (dk_at dksX0_neededOf_2 6 rfl rfl)
theorem dX0_neededOf_54 : decode cX0_neededOf 54 = .ok (.ishl, 1) := dk_120 (dk_at dksX0_neededOf_2 8 rfl rfl)
theorem dX0_neededOf_55 : decode cX0_neededOf 55 = .ok (.ior, 1) := dk_128 (dk_at dksX0_neededOf_2 9 rfl rfl)
theorem dX0_neededOf_56 : decode cX0_neededOf 56 = .ok (.istore 4, 2) := dk_54 4 (dk_at dksX0_neededOf_2 10 rfl rfl)
theorem dX0_neededOf_58 : decode cX0_neededOf 58 = .ok (.iinc 5 1, 3) := dk_132 5 1 (dk_at dksX0_neededOf_2 12 rfl rfl)
theorem dX0_neededOf_61 : decode cX0_neededOf 61 = .ok (.goto (-48), 3) := dk_167 255 208 (dk_at dksX0_neededOf_2 15 rfl rfl)
theorem dX0_neededOf_64 : decode cX0_neededOf 64 = .ok (.iload 4, 2) := dk_21 4 (dk_at dksX0_neededOf_2 18 rfl rfl)
theorem dX0_neededOf_66 : decode cX0_neededOf 66 = .ok (.ireturn, 1) := dk_172 (dk_at dksX0_neededOf_2 20 rfl rfl)
abbrev cX0_last : ByteArray := prog_1_method_34_code
def yX0_last : MethodName := ⟨RX0, "last", "(II)I"⟩
def dkwX0_last_7 : List UInt8 := [21, 5, 172]
abbrev dktX0_last_7 : List UInt8 := dkwX0_last_7 ++ []
def dkwX0_last_6 : List UInt8 := [180, 0, 169, 21, 5, 162, 0, 11, 25, 8, 180, 0, 169, 167, 0, 5, 21, 5, 54, 5, 167, 255, 136]
abbrev dktX0_last_6 : List UInt8 := dkwX0_last_6 ++ dktX0_last_7
def dkwX0_last_5 : List UInt8 := [182, 0, 155, 180, 0, 172, 54, 11, 21, 10, 21, 11, 163, 0, 20, 21, 10, 21, 11, 160, 0, 21, 25, 8]
abbrev dktX0_last_5 : List UInt8 := dkwX0_last_5 ++ dktX0_last_6
def dkwX0_last_4 : List UInt8 := [180, 0, 172, 54, 10, 21, 5, 16, 253, 160, 0, 7, 2, 167, 0, 15, 42, 180, 0, 12, 21, 5]
abbrev dktX0_last_4 : List UInt8 := dkwX0_last_4 ++ dktX0_last_5
def dkwX0_last_3 : List UInt8 := [132, 6, 1, 21, 9, 154, 0, 6, 167, 255, 217, 42, 180, 0, 12, 25, 8, 180, 0, 169, 182, 0, 155]
abbrev dktX0_last_3 : List UInt8 := dkwX0_last_3 ++ dktX0_last_4
def dkwX0_last_2 : List UInt8 := [153, 0, 116, 25, 7, 185, 0, 210, 1, 0, 192, 0, 165, 58, 8, 21, 4, 21, 6, 184, 0, 55, 54, 9]
abbrev dktX0_last_2 : List UInt8 := dkwX0_last_2 ++ dktX0_last_3
def dkwX0_last_1 : List UInt8 := [54, 5, 3, 54, 6, 42, 180, 0, 12, 180, 0, 128, 182, 0, 200, 58, 7, 25, 7, 185, 0, 204, 1, 0]
abbrev dktX0_last_1 : List UInt8 := dkwX0_last_1 ++ dktX0_last_2
def dkwX0_last_0 : List UInt8 := [42, 27, 28, 182, 0, 234, 62, 29, 156, 0, 5, 29, 172, 42, 27, 28, 182, 0, 248, 54, 4, 16, 253]
abbrev dktX0_last_0 : List UInt8 := dkwX0_last_0 ++ dktX0_last_1
theorem dksX0_last_0 : cX0_last.data.toList.drop 0 = dktX0_last_0 := by decide +kernel
theorem dksX0_last_1 : cX0_last.data.toList.drop 23 = dktX0_last_1 := dk_seg dksX0_last_0 23 rfl rfl
theorem dksX0_last_2 : cX0_last.data.toList.drop 47 = dktX0_last_2 := dk_seg dksX0_last_1 24 rfl rfl
theorem dksX0_last_3 : cX0_last.data.toList.drop 71 = dktX0_last_3 := dk_seg dksX0_last_2 24 rfl rfl
theorem dksX0_last_4 : cX0_last.data.toList.drop 94 = dktX0_last_4 := dk_seg dksX0_last_3 23 rfl rfl
theorem dksX0_last_5 : cX0_last.data.toList.drop 116 = dktX0_last_5 := dk_seg dksX0_last_4 22 rfl rfl
theorem dksX0_last_6 : cX0_last.data.toList.drop 140 = dktX0_last_6 := dk_seg dksX0_last_5 24 rfl rfl
theorem dksX0_last_7 : cX0_last.data.toList.drop 163 = dktX0_last_7 := dk_seg dksX0_last_6 23 rfl rfl
theorem dX0_last_0 : decode cX0_last 0 = .ok (.aload_n 0, 1) := dk_42 (dk_at dksX0_last_0 0 rfl rfl)
theorem dX0_last_1 : decode cX0_last 1 = .ok (.iload_n 1, 1) := dk_27 (dk_at dksX0_last_0 1 rfl rfl)
theorem dX0_last_2 : decode cX0_last 2 = .ok (.iload_n 2, 1) := dk_28 (dk_at dksX0_last_0 2 rfl rfl)
theorem dX0_last_3 : decode cX0_last 3 = .ok (.invokevirtual 234, 3) := dk_182 0 234 (dk_at dksX0_last_0 3 rfl rfl)
theorem dX0_last_6 : decode cX0_last 6 = .ok (.istore_n 3, 1) := dk_62 (dk_at dksX0_last_0 6 rfl rfl)
theorem dX0_last_7 : decode cX0_last 7 = .ok (.iload_n 3, 1) := dk_29 (dk_at dksX0_last_0 7 rfl rfl)
theorem dX0_last_8 : decode cX0_last 8 = .ok (.ifCond .ge 5, 3) := dk_156 0 5 (dk_at dksX0_last_0 8 rfl rfl)
theorem dX0_last_11 : decode cX0_last 11 = .ok (.iload_n 3, 1) := dk_29 (dk_at dksX0_last_0 11 rfl rfl)
theorem dX0_last_12 : decode cX0_last 12 = .ok (.ireturn, 1) := dk_172 (dk_at dksX0_last_0 12 rfl rfl)
theorem dX0_last_13 : decode cX0_last 13 = .ok (.aload_n 0, 1) := dk_42 (dk_at dksX0_last_0 13 rfl rfl)
theorem dX0_last_14 : decode cX0_last 14 = .ok (.iload_n 1, 1) := dk_27 (dk_at dksX0_last_0 14 rfl rfl)
theorem dX0_last_15 : decode cX0_last 15 = .ok (.iload_n 2, 1) := dk_28 (dk_at dksX0_last_0 15 rfl rfl)
theorem dX0_last_16 : decode cX0_last 16 = .ok (.invokevirtual 248, 3) := dk_182 0 248 (dk_at dksX0_last_0 16 rfl rfl)
theorem dX0_last_19 : decode cX0_last 19 = .ok (.istore 4, 2) := dk_54 4 (dk_at dksX0_last_0 19 rfl rfl)
theorem dX0_last_21 : decode cX0_last 21 = .ok (.bipush (-3), 2) := dk_16 253 (dk_at dksX0_last_0 21 rfl rfl)
theorem dX0_last_23 : decode cX0_last 23 = .ok (.istore 5, 2) := dk_54 5 (dk_at dksX0_last_1 0 rfl rfl)
theorem dX0_last_25 : decode cX0_last 25 = .ok (.iconst 0, 1) := dk_3 (dk_at dksX0_last_1 2 rfl rfl)
theorem dX0_last_26 : decode cX0_last 26 = .ok (.istore 6, 2) := dk_54 6 (dk_at dksX0_last_1 3 rfl rfl)
theorem dX0_last_28 : decode cX0_last 28 = .ok (.aload_n 0, 1) := dk_42 (dk_at dksX0_last_1 5 rfl rfl)
theorem dX0_last_29 : decode cX0_last 29 = .ok (.getfield 12, 3) := dk_180 0 12 (dk_at dksX0_last_1 6 rfl rfl)
theorem dX0_last_32 : decode cX0_last 32 = .ok (.getfield 128, 3) := dk_180 0 128 (dk_at dksX0_last_1 9 rfl rfl)
theorem dX0_last_35 : decode cX0_last 35 = .ok (.invokevirtual 200, 3) := dk_182 0 200 (dk_at dksX0_last_1 12 rfl rfl)
theorem dX0_last_38 : decode cX0_last 38 = .ok (.astore 7, 2) := dk_58 7 (dk_at dksX0_last_1 15 rfl rfl)
theorem dX0_last_40 : decode cX0_last 40 = .ok (.aload 7, 2) := dk_25 7 (dk_at dksX0_last_1 17 rfl rfl)
theorem dX0_last_42 : decode cX0_last 42 = .ok (.invokeinterface 204 1, 5) := by decide +kernel
theorem dX0_last_47 : decode cX0_last 47 = .ok (.ifCond .eq 116, 3) := dk_153 0 116 (dk_at dksX0_last_2 0 rfl rfl)
theorem dX0_last_50 : decode cX0_last 50 = .ok (.aload 7, 2) := dk_25 7 (dk_at dksX0_last_2 3 rfl rfl)
theorem dX0_last_52 : decode cX0_last 52 = .ok (.invokeinterface 210 1, 5) := by decide +kernel
theorem dX0_last_57 : decode cX0_last 57 = .ok (.checkcast 165, 3) := dk_192 0 165 (dk_at dksX0_last_2 10 rfl rfl)
theorem dX0_last_60 : decode cX0_last 60 = .ok (.astore 8, 2) := dk_58 8 (dk_at dksX0_last_2 13 rfl rfl)
theorem dX0_last_62 : decode cX0_last 62 = .ok (.iload 4, 2) := dk_21 4 (dk_at dksX0_last_2 15 rfl rfl)
theorem dX0_last_64 : decode cX0_last 64 = .ok (.iload 6, 2) := dk_21 6 (dk_at dksX0_last_2 17 rfl rfl)
theorem dX0_last_66 : decode cX0_last 66 = .ok (.invokestatic 55, 3) := dk_184 0 55 (dk_at dksX0_last_2 19 rfl rfl)
theorem dX0_last_69 : decode cX0_last 69 = .ok (.istore 9, 2) := dk_54 9 (dk_at dksX0_last_2 22 rfl rfl)
theorem dX0_last_71 : decode cX0_last 71 = .ok (.iinc 6 1, 3) := dk_132 6 1 (dk_at dksX0_last_3 0 rfl rfl)
theorem dX0_last_74 : decode cX0_last 74 = .ok (.iload 9, 2) := dk_21 9 (dk_at dksX0_last_3 3 rfl rfl)
theorem dX0_last_76 : decode cX0_last 76 = .ok (.ifCond .ne 6, 3) := dk_154 0 6 (dk_at dksX0_last_3 5 rfl rfl)
theorem dX0_last_79 : decode cX0_last 79 = .ok (.goto (-39), 3) := dk_167 255 217 (dk_at dksX0_last_3 8 rfl rfl)
theorem dX0_last_82 : decode cX0_last 82 = .ok (.aload_n 0, 1) := dk_42 (dk_at dksX0_last_3 11 rfl rfl)
theorem dX0_last_83 : decode cX0_last 83 = .ok (.getfield 12, 3) := dk_180 0 12 (dk_at dksX0_last_3 12 rfl rfl)
theorem dX0_last_86 : decode cX0_last 86 = .ok (.aload 8, 2) := dk_25 8 (dk_at dksX0_last_3 15 rfl rfl)
theorem dX0_last_88 : decode cX0_last 88 = .ok (.getfield 169, 3) := dk_180 0 169 (dk_at dksX0_last_3 17 rfl rfl)
theorem dX0_last_91 : decode cX0_last 91 = .ok (.invokevirtual 155, 3) := dk_182 0 155 (dk_at dksX0_last_3 20 rfl rfl)
theorem dX0_last_94 : decode cX0_last 94 = .ok (.getfield 172, 3) := dk_180 0 172 (dk_at dksX0_last_4 0 rfl rfl)
theorem dX0_last_97 : decode cX0_last 97 = .ok (.istore 10, 2) := dk_54 10 (dk_at dksX0_last_4 3 rfl rfl)
theorem dX0_last_99 : decode cX0_last 99 = .ok (.iload 5, 2) := dk_21 5 (dk_at dksX0_last_4 5 rfl rfl)
theorem dX0_last_101 : decode cX0_last 101 = .ok (.bipush (-3), 2) := dk_16 253 (dk_at dksX0_last_4 7 rfl rfl)
theorem dX0_last_103 : decode cX0_last 103 = .ok (.if_icmp .ne 7, 3) := dk_160 0 7 (dk_at dksX0_last_4 9 rfl rfl)
theorem dX0_last_106 : decode cX0_last 106 = .ok (.iconst (-1), 1) := dk_2 (dk_at dksX0_last_4 12 rfl rfl)
theorem dX0_last_107 : decode cX0_last 107 = .ok (.goto 15, 3) := dk_167 0 15 (dk_at dksX0_last_4 13 rfl rfl)
theorem dX0_last_110 : decode cX0_last 110 = .ok (.aload_n 0, 1) := dk_42 (dk_at dksX0_last_4 16 rfl rfl)
theorem dX0_last_111 : decode cX0_last 111 = .ok (.getfield 12, 3) := dk_180 0 12 (dk_at dksX0_last_4 17 rfl rfl)
theorem dX0_last_114 : decode cX0_last 114 = .ok (.iload 5, 2) := dk_21 5 (dk_at dksX0_last_4 20 rfl rfl)
theorem dX0_last_116 : decode cX0_last 116 = .ok (.invokevirtual 155, 3) := dk_182 0 155 (dk_at dksX0_last_5 0 rfl rfl)
theorem dX0_last_119 : decode cX0_last 119 = .ok (.getfield 172, 3) := dk_180 0 172 (dk_at dksX0_last_5 3 rfl rfl)
theorem dX0_last_122 : decode cX0_last 122 = .ok (.istore 11, 2) := dk_54 11 (dk_at dksX0_last_5 6 rfl rfl)
theorem dX0_last_124 : decode cX0_last 124 = .ok (.iload 10, 2) := dk_21 10 (dk_at dksX0_last_5 8 rfl rfl)
theorem dX0_last_126 : decode cX0_last 126 = .ok (.iload 11, 2) := dk_21 11 (dk_at dksX0_last_5 10 rfl rfl)
theorem dX0_last_128 : decode cX0_last 128 = .ok (.if_icmp .gt 20, 3) := dk_163 0 20 (dk_at dksX0_last_5 12 rfl rfl)
theorem dX0_last_131 : decode cX0_last 131 = .ok (.iload 10, 2) := dk_21 10 (dk_at dksX0_last_5 15 rfl rfl)
theorem dX0_last_133 : decode cX0_last 133 = .ok (.iload 11, 2) := dk_21 11 (dk_at dksX0_last_5 17 rfl rfl)
theorem dX0_last_135 : decode cX0_last 135 = .ok (.if_icmp .ne 21, 3) := dk_160 0 21 (dk_at dksX0_last_5 19 rfl rfl)
theorem dX0_last_138 : decode cX0_last 138 = .ok (.aload 8, 2) := dk_25 8 (dk_at dksX0_last_5 22 rfl rfl)
theorem dX0_last_140 : decode cX0_last 140 = .ok (.getfield 169, 3) := dk_180 0 169 (dk_at dksX0_last_6 0 rfl rfl)
theorem dX0_last_143 : decode cX0_last 143 = .ok (.iload 5, 2) := dk_21 5 (dk_at dksX0_last_6 3 rfl rfl)
theorem dX0_last_145 : decode cX0_last 145 = .ok (.if_icmp .ge 11, 3) := dk_162 0 11 (dk_at dksX0_last_6 5 rfl rfl)
theorem dX0_last_148 : decode cX0_last 148 = .ok (.aload 8, 2) := dk_25 8 (dk_at dksX0_last_6 8 rfl rfl)
theorem dX0_last_150 : decode cX0_last 150 = .ok (.getfield 169, 3) := dk_180 0 169 (dk_at dksX0_last_6 10 rfl rfl)
theorem dX0_last_153 : decode cX0_last 153 = .ok (.goto 5, 3) := dk_167 0 5 (dk_at dksX0_last_6 13 rfl rfl)
theorem dX0_last_156 : decode cX0_last 156 = .ok (.iload 5, 2) := dk_21 5 (dk_at dksX0_last_6 16 rfl rfl)
theorem dX0_last_158 : decode cX0_last 158 = .ok (.istore 5, 2) := dk_54 5 (dk_at dksX0_last_6 18 rfl rfl)
theorem dX0_last_160 : decode cX0_last 160 = .ok (.goto (-120), 3) := dk_167 255 136 (dk_at dksX0_last_6 20 rfl rfl)
theorem dX0_last_163 : decode cX0_last 163 = .ok (.iload 5, 2) := dk_21 5 (dk_at dksX0_last_7 0 rfl rfl)
theorem dX0_last_165 : decode cX0_last 165 = .ok (.ireturn, 1) := dk_172 (dk_at dksX0_last_7 2 rfl rfl)
abbrev cX0_without : ByteArray := prog_1_method_35_code
def yX0_without : MethodName := ⟨RX0, "without", "(III)I"⟩
def dkwX0_without_1 : List UInt8 := [28, 29, 183, 0, 216, 180, 0, 219, 172]
abbrev dktX0_without_1 : List UInt8 := dkwX0_without_1 ++ []
def dkwX0_without_0 : List UInt8 := [42, 27, 28, 182, 0, 234, 54, 4, 21, 4, 156, 0, 8, 21, 4, 167, 0, 17, 187, 0, 214, 89, 42, 27]
abbrev dktX0_without_0 : List UInt8 := dkwX0_without_0 ++ dktX0_without_1
theorem dksX0_without_0 : cX0_without.data.toList.drop 0 = dktX0_without_0 := by decide +kernel
theorem dksX0_without_1 : cX0_without.data.toList.drop 24 = dktX0_without_1 := dk_seg dksX0_without_0 24 rfl rfl
theorem dX0_without_0 : decode cX0_without 0 = .ok (.aload_n 0, 1) := dk_42 (dk_at dksX0_without_0 0 rfl rfl)
theorem dX0_without_1 : decode cX0_without 1 = .ok (.iload_n 1, 1) := dk_27 (dk_at dksX0_without_0 1 rfl rfl)
theorem dX0_without_2 : decode cX0_without 2 = .ok (.iload_n 2, 1) := dk_28 (dk_at dksX0_without_0 2 rfl rfl)
theorem dX0_without_3 : decode cX0_without 3 = .ok (.invokevirtual 234, 3) := dk_182 0 234 (dk_at dksX0_without_0 3 rfl rfl)
theorem dX0_without_6 : decode cX0_without 6 = .ok (.istore 4, 2) := dk_54 4 (dk_at dksX0_without_0 6 rfl rfl)
theorem dX0_without_8 : decode cX0_without 8 = .ok (.iload 4, 2) := dk_21 4 (dk_at dksX0_without_0 8 rfl rfl)
theorem dX0_without_10 : decode cX0_without 10 = .ok (.ifCond .ge 8, 3) := dk_156 0 8 (dk_at dksX0_without_0 10 rfl rfl)
theorem dX0_without_13 : decode cX0_without 13 = .ok (.iload 4, 2) := dk_21 4 (dk_at dksX0_without_0 13 rfl rfl)
theorem dX0_without_15 : decode cX0_without 15 = .ok (.goto 17, 3) := dk_167 0 17 (dk_at dksX0_without_0 15 rfl rfl)
theorem dX0_without_18 : decode cX0_without 18 = .ok (.new 214, 3) := dk_187 0 214 (dk_at dksX0_without_0 18 rfl rfl)
theorem dX0_without_21 : decode cX0_without 21 = .ok (.dup, 1) := dk_89 (dk_at dksX0_without_0 21 rfl rfl)
theorem dX0_without_22 : decode cX0_without 22 = .ok (.aload_n 0, 1) := dk_42 (dk_at dksX0_without_0 22 rfl rfl)
theorem dX0_without_23 : decode cX0_without 23 = .ok (.iload_n 1, 1) := dk_27 (dk_at dksX0_without_0 23 rfl rfl)
theorem dX0_without_24 : decode cX0_without 24 = .ok (.iload_n 2, 1) := dk_28 (dk_at dksX0_without_1 0 rfl rfl)
theorem dX0_without_25 : decode cX0_without 25 = .ok (.iload_n 3, 1) := dk_29 (dk_at dksX0_without_1 1 rfl rfl)
theorem dX0_without_26 : decode cX0_without 26 = .ok (.invokespecial 216, 3) := dk_183 0 216 (dk_at dksX0_without_1 2 rfl rfl)
theorem dX0_without_29 : decode cX0_without 29 = .ok (.getfield 219, 3) := dk_180 0 219 (dk_at dksX0_without_1 5 rfl rfl)
theorem dX0_without_32 : decode cX0_without 32 = .ok (.ireturn, 1) := dk_172 (dk_at dksX0_without_1 8 rfl rfl)
abbrev cX0_leastTerm : ByteArray := prog_1_method_37_code
def yX0_leastTerm : MethodName := ⟨RX0, "leastTerm", "(II)I"⟩
def dkwX0_leastTerm_3 : List UInt8 := [180, 0, 178, 3, 21, 6, 79, 167, 255, 226, 42, 180, 0, 12, 180, 0, 178, 3, 21, 5, 79, 21, 6, 172]
abbrev dktX0_leastTerm_3 : List UInt8 := dkwX0_leastTerm_3 ++ []
def dkwX0_leastTerm_2 : List UInt8 := [27, 28, 182, 0, 224, 21, 4, 159, 0, 25, 42, 21, 6, 182, 1, 0, 54, 6, 42, 180, 0, 12]
abbrev dktX0_leastTerm_2 : List UInt8 := dkwX0_leastTerm_2 ++ dktX0_leastTerm_3
def dkwX0_leastTerm_1 : List UInt8 := [180, 0, 12, 180, 0, 178, 3, 46, 54, 5, 3, 54, 6, 42, 180, 0, 12, 180, 0, 178, 3, 3, 79, 42]
abbrev dktX0_leastTerm_1 : List UInt8 := dkwX0_leastTerm_1 ++ dktX0_leastTerm_2
def dkwX0_leastTerm_0 : List UInt8 := [42, 27, 28, 182, 0, 234, 62, 29, 156, 0, 5, 29, 172, 42, 27, 28, 182, 0, 224, 54, 4, 42]
abbrev dktX0_leastTerm_0 : List UInt8 := dkwX0_leastTerm_0 ++ dktX0_leastTerm_1
theorem dksX0_leastTerm_0 : cX0_leastTerm.data.toList.drop 0 = dktX0_leastTerm_0 := by decide +kernel
theorem dksX0_leastTerm_1 : cX0_leastTerm.data.toList.drop 22 = dktX0_leastTerm_1 := dk_seg dksX0_leastTerm_0 22 rfl rfl
theorem dksX0_leastTerm_2 : cX0_leastTerm.data.toList.drop 46 = dktX0_leastTerm_2 := dk_seg dksX0_leastTerm_1 24 rfl rfl
theorem dksX0_leastTerm_3 : cX0_leastTerm.data.toList.drop 68 = dktX0_leastTerm_3 := dk_seg dksX0_leastTerm_2 22 rfl rfl
theorem dX0_leastTerm_0 : decode cX0_leastTerm 0 = .ok (.aload_n 0, 1) := dk_42 (dk_at dksX0_leastTerm_0 0 rfl rfl)
theorem dX0_leastTerm_1 : decode cX0_leastTerm 1 = .ok (.iload_n 1, 1) := dk_27 (dk_at dksX0_leastTerm_0 1 rfl rfl)
theorem dX0_leastTerm_2 : decode cX0_leastTerm 2 = .ok (.iload_n 2, 1) := dk_28 (dk_at dksX0_leastTerm_0 2 rfl rfl)
theorem dX0_leastTerm_3 : decode cX0_leastTerm 3 = .ok (.invokevirtual 234, 3) := dk_182 0 234 (dk_at dksX0_leastTerm_0 3 rfl rfl)
theorem dX0_leastTerm_6 : decode cX0_leastTerm 6 = .ok (.istore_n 3, 1) := dk_62 (dk_at dksX0_leastTerm_0 6 rfl rfl)
theorem dX0_leastTerm_7 : decode cX0_leastTerm 7 = .ok (.iload_n 3, 1) := dk_29 (dk_at dksX0_leastTerm_0 7 rfl rfl)
theorem dX0_leastTerm_8 : decode cX0_leastTerm 8 = .ok (.ifCond .ge 5, 3) := dk_156 0 5 (dk_at dksX0_leastTerm_0 8 rfl rfl)
theorem dX0_leastTerm_11 : decode cX0_leastTerm 11 = .ok (.iload_n 3, 1) := dk_29 (dk_at dksX0_leastTerm_0 11 rfl rfl)
theorem dX0_leastTerm_12 : decode cX0_leastTerm 12 = .ok (.ireturn, 1) := dk_172 (dk_at dksX0_leastTerm_0 12 rfl rfl)
theorem dX0_leastTerm_13 : decode cX0_leastTerm 13 = .ok (.aload_n 0, 1) := dk_42 (dk_at dksX0_leastTerm_0 13 rfl rfl)
theorem dX0_leastTerm_14 : decode cX0_leastTerm 14 = .ok (.iload_n 1, 1) := dk_27 (dk_at dksX0_leastTerm_0 14 rfl rfl)
theorem dX0_leastTerm_15 : decode cX0_leastTerm 15 = .ok (.iload_n 2, 1) := dk_28 (dk_at dksX0_leastTerm_0 15 rfl rfl)
theorem dX0_leastTerm_16 : decode cX0_leastTerm 16 = .ok (.invokevirtual 224, 3) := dk_182 0 224 (dk_at dksX0_leastTerm_0 16 rfl rfl)
theorem dX0_leastTerm_19 : decode cX0_leastTerm 19 = .ok (.istore 4, 2) := dk_54 4 (dk_at dksX0_leastTerm_0 19 rfl rfl)
theorem dX0_leastTerm_21 : decode cX0_leastTerm 21 = .ok (.aload_n 0, 1) := dk_42 (dk_at dksX0_leastTerm_0 21 rfl rfl)
theorem dX0_leastTerm_22 : decode cX0_leastTerm 22 = .ok (.getfield 12, 3) := dk_180 0 12 (dk_at dksX0_leastTerm_1 0 rfl rfl)
theorem dX0_leastTerm_25 : decode cX0_leastTerm 25 = .ok (.getfield 178, 3) := dk_180 0 178 (dk_at dksX0_leastTerm_1 3 rfl rfl)
theorem dX0_leastTerm_28 : decode cX0_leastTerm 28 = .ok (.iconst 0, 1) := dk_3 (dk_at dksX0_leastTerm_1 6 rfl rfl)
theorem dX0_leastTerm_29 : decode cX0_leastTerm 29 = .ok (.iaload, 1) := dk_46 (dk_at dksX0_leastTerm_1 7 rfl rfl)
theorem dX0_leastTerm_30 : decode cX0_leastTerm 30 = .ok (.istore 5, 2) := dk_54 5 (dk_at dksX0_leastTerm_1 8 rfl rfl)
theorem dX0_leastTerm_32 : decode cX0_leastTerm 32 = .ok (.iconst 0, 1) := dk_3 (dk_at dksX0_leastTerm_1 10 rfl rfl)
theorem dX0_leastTerm_33 : decode cX0_leastTerm 33 = .ok (.istore 6, 2) := dk_54 6 (dk_at dksX0_leastTerm_1 11 rfl rfl)
theorem dX0_leastTerm_35 : decode cX0_leastTerm 35 = .ok (.aload_n 0, 1) := dk_42 (dk_at dksX0_leastTerm_1 13 rfl rfl)
theorem dX0_leastTerm_36 : decode cX0_leastTerm 36 = .ok (.getfield 12, 3) := dk_180 0 12 (dk_at dksX0_leastTerm_1 14 rfl rfl)
theorem dX0_leastTerm_39 : decode cX0_leastTerm 39 = .ok (.getfield 178, 3) := dk_180 0 178 (dk_at dksX0_leastTerm_1 17 rfl rfl)
theorem dX0_leastTerm_42 : decode cX0_leastTerm 42 = .ok (.iconst 0, 1) := dk_3 (dk_at dksX0_leastTerm_1 20 rfl rfl)
theorem dX0_leastTerm_43 : decode cX0_leastTerm 43 = .ok (.iconst 0, 1) := dk_3 (dk_at dksX0_leastTerm_1 21 rfl rfl)
theorem dX0_leastTerm_44 : decode cX0_leastTerm 44 = .ok (.iastore, 1) := dk_79 (dk_at dksX0_leastTerm_1 22 rfl rfl)
theorem dX0_leastTerm_45 : decode cX0_leastTerm 45 = .ok (.aload_n 0, 1) := dk_42 (dk_at dksX0_leastTerm_1 23 rfl rfl)
theorem dX0_leastTerm_46 : decode cX0_leastTerm 46 = .ok (.iload_n 1, 1) := dk_27 (dk_at dksX0_leastTerm_2 0 rfl rfl)
theorem dX0_leastTerm_47 : decode cX0_leastTerm 47 = .ok (.iload_n 2, 1) := dk_28 (dk_at dksX0_leastTerm_2 1 rfl rfl)
theorem dX0_leastTerm_48 : decode cX0_leastTerm 48 = .ok (.invokevirtual 224, 3) := dk_182 0 224 (dk_at dksX0_leastTerm_2 2 rfl rfl)
theorem dX0_leastTerm_51 : decode cX0_leastTerm 51 = .ok (.iload 4, 2) := dk_21 4 (dk_at dksX0_leastTerm_2 5 rfl rfl)
theorem dX0_leastTerm_53 : decode cX0_leastTerm 53 = .ok (.if_icmp .eq 25, 3) := dk_159 0 25 (dk_at dksX0_leastTerm_2 7 rfl rfl)
theorem dX0_leastTerm_56 : decode cX0_leastTerm 56 = .ok (.aload_n 0, 1) := dk_42 (dk_at dksX0_leastTerm_2 10 rfl rfl)
theorem dX0_leastTerm_57 : decode cX0_leastTerm 57 = .ok (.iload 6, 2) := dk_21 6 (dk_at dksX0_leastTerm_2 11 rfl rfl)
theorem dX0_leastTerm_59 : decode cX0_leastTerm 59 = .ok (.invokevirtual 256, 3) := dk_182 1 0 (dk_at dksX0_leastTerm_2 13 rfl rfl)
theorem dX0_leastTerm_62 : decode cX0_leastTerm 62 = .ok (.istore 6, 2) := dk_54 6 (dk_at dksX0_leastTerm_2 16 rfl rfl)
theorem dX0_leastTerm_64 : decode cX0_leastTerm 64 = .ok (.aload_n 0, 1) := dk_42 (dk_at dksX0_leastTerm_2 18 rfl rfl)
theorem dX0_leastTerm_65 : decode cX0_leastTerm 65 = .ok (.getfield 12, 3) := dk_180 0 12 (dk_at dksX0_leastTerm_2 19 rfl rfl)
theorem dX0_leastTerm_68 : decode cX0_leastTerm 68 = .ok (.getfield 178, 3) := dk_180 0 178 (dk_at dksX0_leastTerm_3 0 rfl rfl)
theorem dX0_leastTerm_71 : decode cX0_leastTerm 71 = .ok (.iconst 0, 1) := dk_3 (dk_at dksX0_leastTerm_3 3 rfl rfl)
theorem dX0_leastTerm_72 : decode cX0_leastTerm 72 = .ok (.iload 6, 2) := dk_21 6 (dk_at dksX0_leastTerm_3 4 rfl rfl)
theorem dX0_leastTerm_74 : decode cX0_leastTerm 74 = .ok (.iastore, 1) := dk_79 (dk_at dksX0_leastTerm_3 6 rfl rfl)
theorem dX0_leastTerm_75 : decode cX0_leastTerm 75 = .ok (.goto (-30), 3) := dk_167 255 226 (dk_at dksX0_leastTerm_3 7 rfl rfl)
theorem dX0_leastTerm_78 : decode cX0_leastTerm 78 = .ok (.aload_n 0, 1) := dk_42 (dk_at dksX0_leastTerm_3 10 rfl rfl)
theorem dX0_leastTerm_79 : decode cX0_leastTerm 79 = .ok (.getfield 12, 3) := dk_180 0 12 (dk_at dksX0_leastTerm_3 11 rfl rfl)
theorem dX0_leastTerm_82 : decode cX0_leastTerm 82 = .ok (.getfield 178, 3) := dk_180 0 178 (dk_at dksX0_leastTerm_3 14 rfl rfl)
theorem dX0_leastTerm_85 : decode cX0_leastTerm 85 = .ok (.iconst 0, 1) := dk_3 (dk_at dksX0_leastTerm_3 17 rfl rfl)
theorem dX0_leastTerm_86 : decode cX0_leastTerm 86 = .ok (.iload 5, 2) := dk_21 5 (dk_at dksX0_leastTerm_3 18 rfl rfl)
theorem dX0_leastTerm_88 : decode cX0_leastTerm 88 = .ok (.iastore, 1) := dk_79 (dk_at dksX0_leastTerm_3 20 rfl rfl)
theorem dX0_leastTerm_89 : decode cX0_leastTerm 89 = .ok (.iload 6, 2) := dk_21 6 (dk_at dksX0_leastTerm_3 21 rfl rfl)
theorem dX0_leastTerm_91 : decode cX0_leastTerm 91 = .ok (.ireturn, 1) := dk_172 (dk_at dksX0_leastTerm_3 23 rfl rfl)
abbrev cX0_nextTerm : ByteArray := prog_1_method_36_code
def yX0_nextTerm : MethodName := ⟨RX0, "nextTerm", "(I)I"⟩
def dkwX0_nextTerm_4 : List UInt8 := [167, 255, 178, 28, 172]
abbrev dktX0_nextTerm_4 : List UInt8 := dkwX0_nextTerm_4 ++ []
def dkwX0_nextTerm_3 : List UInt8 := [180, 0, 175, 154, 0, 18, 21, 5, 27, 164, 0, 12, 28, 21, 5, 184, 0, 251, 167, 0, 4, 28, 61]
abbrev dktX0_nextTerm_3 : List UInt8 := dkwX0_nextTerm_3 ++ dktX0_nextTerm_4
def dkwX0_nextTerm_2 : List UInt8 := [180, 0, 172, 42, 180, 0, 12, 25, 4, 180, 0, 169, 182, 0, 155, 180, 0, 172, 100, 54, 5, 25, 4]
abbrev dktX0_nextTerm_2 : List UInt8 := dkwX0_nextTerm_2 ++ dktX0_nextTerm_3
def dkwX0_nextTerm_1 : List UInt8 := [45, 185, 0, 210, 1, 0, 192, 0, 165, 58, 4, 42, 180, 0, 12, 25, 4, 180, 0, 164, 182, 0, 155]
abbrev dktX0_nextTerm_1 : List UInt8 := dkwX0_nextTerm_1 ++ dktX0_nextTerm_2
def dkwX0_nextTerm_0 : List UInt8 := [17, 39, 15, 61, 42, 180, 0, 12, 180, 0, 128, 182, 0, 200, 78, 45, 185, 0, 204, 1, 0, 153, 0, 75]
abbrev dktX0_nextTerm_0 : List UInt8 := dkwX0_nextTerm_0 ++ dktX0_nextTerm_1
theorem dksX0_nextTerm_0 : cX0_nextTerm.data.toList.drop 0 = dktX0_nextTerm_0 := by decide +kernel
theorem dksX0_nextTerm_1 : cX0_nextTerm.data.toList.drop 24 = dktX0_nextTerm_1 := dk_seg dksX0_nextTerm_0 24 rfl rfl
theorem dksX0_nextTerm_2 : cX0_nextTerm.data.toList.drop 47 = dktX0_nextTerm_2 := dk_seg dksX0_nextTerm_1 23 rfl rfl
theorem dksX0_nextTerm_3 : cX0_nextTerm.data.toList.drop 70 = dktX0_nextTerm_3 := dk_seg dksX0_nextTerm_2 23 rfl rfl
theorem dksX0_nextTerm_4 : cX0_nextTerm.data.toList.drop 93 = dktX0_nextTerm_4 := dk_seg dksX0_nextTerm_3 23 rfl rfl
theorem dX0_nextTerm_0 : decode cX0_nextTerm 0 = .ok (.sipush 9999, 3) := dk_17 39 15 (dk_at dksX0_nextTerm_0 0 rfl rfl)
theorem dX0_nextTerm_3 : decode cX0_nextTerm 3 = .ok (.istore_n 2, 1) := dk_61 (dk_at dksX0_nextTerm_0 3 rfl rfl)
theorem dX0_nextTerm_4 : decode cX0_nextTerm 4 = .ok (.aload_n 0, 1) := dk_42 (dk_at dksX0_nextTerm_0 4 rfl rfl)
theorem dX0_nextTerm_5 : decode cX0_nextTerm 5 = .ok (.getfield 12, 3) := dk_180 0 12 (dk_at dksX0_nextTerm_0 5 rfl rfl)
theorem dX0_nextTerm_8 : decode cX0_nextTerm 8 = .ok (.getfield 128, 3) := dk_180 0 128 (dk_at dksX0_nextTerm_0 8 rfl rfl)
theorem dX0_nextTerm_11 : decode cX0_nextTerm 11 = .ok (.invokevirtual 200, 3) := dk_182 0 200 (dk_at dksX0_nextTerm_0 11 rfl rfl)
theorem dX0_nextTerm_14 : decode cX0_nextTerm 14 = .ok (.astore_n 3, 1) := dk_78 (dk_at dksX0_nextTerm_0 14 rfl rfl)
theorem dX0_nextTerm_15 : decode cX0_nextTerm 15 = .ok (.aload_n 3, 1) := dk_45 (dk_at dksX0_nextTerm_0 15 rfl rfl)
theorem dX0_nextTerm_16 : decode cX0_nextTerm 16 = .ok (.invokeinterface 204 1, 5) := by decide +kernel
theorem dX0_nextTerm_21 : decode cX0_nextTerm 21 = .ok (.ifCond .eq 75, 3) := dk_153 0 75 (dk_at dksX0_nextTerm_0 21 rfl rfl)
theorem dX0_nextTerm_24 : decode cX0_nextTerm 24 = .ok (.aload_n 3, 1) := dk_45 (dk_at dksX0_nextTerm_1 0 rfl rfl)
theorem dX0_nextTerm_25 : decode cX0_nextTerm 25 = .ok (.invokeinterface 210 1, 5) := by decide +kernel
theorem dX0_nextTerm_30 : decode cX0_nextTerm 30 = .ok (.checkcast 165, 3) := dk_192 0 165 (dk_at dksX0_nextTerm_1 6 rfl rfl)
theorem dX0_nextTerm_33 : decode cX0_nextTerm 33 = .ok (.astore 4, 2) := dk_58 4 (dk_at dksX0_nextTerm_1 9 rfl rfl)
theorem dX0_nextTerm_35 : decode cX0_nextTerm 35 = .ok (.aload_n 0, 1) := dk_42 (dk_at dksX0_nextTerm_1 11 rfl rfl)
theorem dX0_nextTerm_36 : decode cX0_nextTerm 36 = .ok (.getfield 12, 3) := dk_180 0 12 (dk_at dksX0_nextTerm_1 12 rfl rfl)
theorem dX0_nextTerm_39 : decode cX0_nextTerm 39 = .ok (.aload 4, 2) := dk_25 4 (dk_at dksX0_nextTerm_1 15 rfl rfl)
theorem dX0_nextTerm_41 : decode cX0_nextTerm 41 = .ok (.getfield 164, 3) := dk_180 0 164 (dk_at dksX0_nextTerm_1 17 rfl rfl)
theorem dX0_nextTerm_44 : decode cX0_nextTerm 44 = .ok (.invokevirtual 155, 3) := dk_182 0 155 (dk_at dksX0_nextTerm_1 20 rfl rfl)
theorem dX0_nextTerm_47 : decode cX0_nextTerm 47 = .ok (.getfield 172, 3) := dk_180 0 172 (dk_at dksX0_nextTerm_2 0 rfl rfl)
theorem dX0_nextTerm_50 : decode cX0_nextTerm 50 = .ok (.aload_n 0, 1) := dk_42 (dk_at dksX0_nextTerm_2 3 rfl rfl)
theorem dX0_nextTerm_51 : decode cX0_nextTerm 51 = .ok (.getfield 12, 3) := dk_180 0 12 (dk_at dksX0_nextTerm_2 4 rfl rfl)
theorem dX0_nextTerm_54 : decode cX0_nextTerm 54 = .ok (.aload 4, 2) := dk_25 4 (dk_at dksX0_nextTerm_2 7 rfl rfl)
theorem dX0_nextTerm_56 : decode cX0_nextTerm 56 = .ok (.getfield 169, 3) := dk_180 0 169 (dk_at dksX0_nextTerm_2 9 rfl rfl)
theorem dX0_nextTerm_59 : decode cX0_nextTerm 59 = .ok (.invokevirtual 155, 3) := dk_182 0 155 (dk_at dksX0_nextTerm_2 12 rfl rfl)
theorem dX0_nextTerm_62 : decode cX0_nextTerm 62 = .ok (.getfield 172, 3) := dk_180 0 172 (dk_at dksX0_nextTerm_2 15 rfl rfl)
theorem dX0_nextTerm_65 : decode cX0_nextTerm 65 = .ok (.isub, 1) := dk_100 (dk_at dksX0_nextTerm_2 18 rfl rfl)
theorem dX0_nextTerm_66 : decode cX0_nextTerm 66 = .ok (.istore 5, 2) := dk_54 5 (dk_at dksX0_nextTerm_2 19 rfl rfl)
theorem dX0_nextTerm_68 : decode cX0_nextTerm 68 = .ok (.aload 4, 2) := dk_25 4 (dk_at dksX0_nextTerm_2 21 rfl rfl)
theorem dX0_nextTerm_70 : decode cX0_nextTerm 70 = .ok (.getfield 175, 3) := dk_180 0 175 (dk_at dksX0_nextTerm_3 0 rfl rfl)
theorem dX0_nextTerm_73 : decode cX0_nextTerm 73 = .ok (.ifCond .ne 18, 3) := dk_154 0 18 (dk_at dksX0_nextTerm_3 3 rfl rfl)
theorem dX0_nextTerm_76 : decode cX0_nextTerm 76 = .ok (.iload 5, 2) := dk_21 5 (dk_at dksX0_nextTerm_3 6 rfl rfl)
theorem dX0_nextTerm_78 : decode cX0_nextTerm 78 = .ok (.iload_n 1, 1) := dk_27 (dk_at dksX0_nextTerm_3 8 rfl rfl)
theorem dX0_nextTerm_79 : decode cX0_nextTerm 79 = .ok (.if_icmp .le 12, 3) := dk_164 0 12 (dk_at dksX0_nextTerm_3 9 rfl rfl)
theorem dX0_nextTerm_82 : decode cX0_nextTerm 82 = .ok (.iload_n 2, 1) := dk_28 (dk_at dksX0_nextTerm_3 12 rfl rfl)
theorem dX0_nextTerm_83 : decode cX0_nextTerm 83 = .ok (.iload 5, 2) := dk_21 5 (dk_at dksX0_nextTerm_3 13 rfl rfl)
theorem dX0_nextTerm_85 : decode cX0_nextTerm 85 = .ok (.invokestatic 251, 3) := dk_184 0 251 (dk_at dksX0_nextTerm_3 15 rfl rfl)
theorem dX0_nextTerm_88 : decode cX0_nextTerm 88 = .ok (.goto 4, 3) := dk_167 0 4 (dk_at dksX0_nextTerm_3 18 rfl rfl)
theorem dX0_nextTerm_91 : decode cX0_nextTerm 91 = .ok (.iload_n 2, 1) := dk_28 (dk_at dksX0_nextTerm_3 21 rfl rfl)
theorem dX0_nextTerm_92 : decode cX0_nextTerm 92 = .ok (.istore_n 2, 1) := dk_61 (dk_at dksX0_nextTerm_3 22 rfl rfl)
theorem dX0_nextTerm_93 : decode cX0_nextTerm 93 = .ok (.goto (-78), 3) := dk_167 255 178 (dk_at dksX0_nextTerm_4 0 rfl rfl)
theorem dX0_nextTerm_96 : decode cX0_nextTerm 96 = .ok (.iload_n 2, 1) := dk_28 (dk_at dksX0_nextTerm_4 3 rfl rfl)
theorem dX0_nextTerm_97 : decode cX0_nextTerm 97 = .ok (.ireturn, 1) := dk_172 (dk_at dksX0_nextTerm_4 4 rfl rfl)
abbrev cX0_harm : ByteArray := prog_1_method_40_code
def yX0_harm : MethodName := ⟨RX0, "harm", "(I)I"⟩
def dkwX0_harm_3 : List UInt8 := [42, 42, 182, 1, 8, 44, 182, 1, 12, 172]
abbrev dktX0_harm_3 : List UInt8 := dkwX0_harm_3 ++ []
def dkwX0_harm_2 : List UInt8 := [42, 29, 182, 0, 148, 180, 0, 222, 4, 27, 120, 183, 0, 216, 180, 0, 219, 79, 132, 3, 1, 167, 255, 206]
abbrev dktX0_harm_2 : List UInt8 := dkwX0_harm_2 ++ dktX0_harm_3
def dkwX0_harm_1 : List UInt8 := [180, 0, 135, 182, 0, 118, 162, 0, 42, 44, 29, 187, 0, 214, 89, 42, 42, 29, 182, 0, 148, 180, 0, 152]
abbrev dktX0_harm_1 : List UInt8 := dkwX0_harm_1 ++ dktX0_harm_2
def dkwX0_harm_0 : List UInt8 := [42, 27, 182, 1, 5, 154, 0, 5, 2, 172, 16, 16, 188, 10, 77, 3, 62, 29, 42, 180, 0, 12]
abbrev dktX0_harm_0 : List UInt8 := dkwX0_harm_0 ++ dktX0_harm_1
theorem dksX0_harm_0 : cX0_harm.data.toList.drop 0 = dktX0_harm_0 := by decide +kernel
theorem dksX0_harm_1 : cX0_harm.data.toList.drop 22 = dktX0_harm_1 := dk_seg dksX0_harm_0 22 rfl rfl
theorem dksX0_harm_2 : cX0_harm.data.toList.drop 46 = dktX0_harm_2 := dk_seg dksX0_harm_1 24 rfl rfl
theorem dksX0_harm_3 : cX0_harm.data.toList.drop 70 = dktX0_harm_3 := dk_seg dksX0_harm_2 24 rfl rfl
theorem dX0_harm_0 : decode cX0_harm 0 = .ok (.aload_n 0, 1) := dk_42 (dk_at dksX0_harm_0 0 rfl rfl)
theorem dX0_harm_1 : decode cX0_harm 1 = .ok (.iload_n 1, 1) := dk_27 (dk_at dksX0_harm_0 1 rfl rfl)
theorem dX0_harm_2 : decode cX0_harm 2 = .ok (.invokevirtual 261, 3) := dk_182 1 5 (dk_at dksX0_harm_0 2 rfl rfl)
theorem dX0_harm_5 : decode cX0_harm 5 = .ok (.ifCond .ne 5, 3) := dk_154 0 5 (dk_at dksX0_harm_0 5 rfl rfl)
theorem dX0_harm_8 : decode cX0_harm 8 = .ok (.iconst (-1), 1) := dk_2 (dk_at dksX0_harm_0 8 rfl rfl)
theorem dX0_harm_9 : decode cX0_harm 9 = .ok (.ireturn, 1) := dk_172 (dk_at dksX0_harm_0 9 rfl rfl)
theorem dX0_harm_10 : decode cX0_harm 10 = .ok (.bipush 16, 2) := dk_16 16 (dk_at dksX0_harm_0 10 rfl rfl)
theorem dX0_harm_12 : decode cX0_harm 12 = .ok (.newarray .int, 2) := dk_188_10 (dk_at dksX0_harm_0 12 rfl rfl)
theorem dX0_harm_14 : decode cX0_harm 14 = .ok (.astore_n 2, 1) := dk_77 (dk_at dksX0_harm_0 14 rfl rfl)
theorem dX0_harm_15 : decode cX0_harm 15 = .ok (.iconst 0, 1) := dk_3 (dk_at dksX0_harm_0 15 rfl rfl)
theorem dX0_harm_16 : decode cX0_harm 16 = .ok (.istore_n 3, 1) := dk_62 (dk_at dksX0_harm_0 16 rfl rfl)
theorem dX0_harm_17 : decode cX0_harm 17 = .ok (.iload_n 3, 1) := dk_29 (dk_at dksX0_harm_0 17 rfl rfl)
theorem dX0_harm_18 : decode cX0_harm 18 = .ok (.aload_n 0, 1) := dk_42 (dk_at dksX0_harm_0 18 rfl rfl)
theorem dX0_harm_19 : decode cX0_harm 19 = .ok (.getfield 12, 3) := dk_180 0 12 (dk_at dksX0_harm_0 19 rfl rfl)
theorem dX0_harm_22 : decode cX0_harm 22 = .ok (.getfield 135, 3) := dk_180 0 135 (dk_at dksX0_harm_1 0 rfl rfl)
theorem dX0_harm_25 : decode cX0_harm 25 = .ok (.invokevirtual 118, 3) := dk_182 0 118 (dk_at dksX0_harm_1 3 rfl rfl)
theorem dX0_harm_28 : decode cX0_harm 28 = .ok (.if_icmp .ge 42, 3) := dk_162 0 42 (dk_at dksX0_harm_1 6 rfl rfl)
theorem dX0_harm_31 : decode cX0_harm 31 = .ok (.aload_n 2, 1) := dk_44 (dk_at dksX0_harm_1 9 rfl rfl)
theorem dX0_harm_32 : decode cX0_harm 32 = .ok (.iload_n 3, 1) := dk_29 (dk_at dksX0_harm_1 10 rfl rfl)
theorem dX0_harm_33 : decode cX0_harm 33 = .ok (.new 214, 3) := dk_187 0 214 (dk_at dksX0_harm_1 11 rfl rfl)
theorem dX0_harm_36 : decode cX0_harm 36 = .ok (.dup, 1) := dk_89 (dk_at dksX0_harm_1 14 rfl rfl)
theorem dX0_harm_37 : decode cX0_harm 37 = .ok (.aload_n 0, 1) := dk_42 (dk_at dksX0_harm_1 15 rfl rfl)
theorem dX0_harm_38 : decode cX0_harm 38 = .ok (.aload_n 0, 1) := dk_42 (dk_at dksX0_harm_1 16 rfl rfl)
theorem dX0_harm_39 : decode cX0_harm 39 = .ok (.iload_n 3, 1) := dk_29 (dk_at dksX0_harm_1 17 rfl rfl)
theorem dX0_harm_40 : decode cX0_harm 40 = .ok (.invokevirtual 148, 3) := dk_182 0 148 (dk_at dksX0_harm_1 18 rfl rfl)
theorem dX0_harm_43 : decode cX0_harm 43 = .ok (.getfield 152, 3) := dk_180 0 152 (dk_at dksX0_harm_1 21 rfl rfl)
theorem dX0_harm_46 : decode cX0_harm 46 = .ok (.aload_n 0, 1) := dk_42 (dk_at dksX0_harm_2 0 rfl rfl)
theorem dX0_harm_47 : decode cX0_harm 47 = .ok (.iload_n 3, 1) := dk_29 (dk_at dksX0_harm_2 1 rfl rfl)
theorem dX0_harm_48 : decode cX0_harm 48 = .ok (.invokevirtual 148, 3) := dk_182 0 148 (dk_at dksX0_harm_2 2 rfl rfl)
theorem dX0_harm_51 : decode cX0_harm 51 = .ok (.getfield 222, 3) := dk_180 0 222 (dk_at dksX0_harm_2 5 rfl rfl)
theorem dX0_harm_54 : decode cX0_harm 54 = .ok (.iconst 1, 1) := dk_4 (dk_at dksX0_harm_2 8 rfl rfl)
theorem dX0_harm_55 : decode cX0_harm 55 = .ok (.iload_n 1, 1) := dk_27 (dk_at dksX0_harm_2 9 rfl rfl)
theorem dX0_harm_56 : decode cX0_harm 56 = .ok (.ishl, 1) := dk_120 (dk_at dksX0_harm_2 10 rfl rfl)
theorem dX0_harm_57 : decode cX0_harm 57 = .ok (.invokespecial 216, 3) := dk_183 0 216 (dk_at dksX0_harm_2 11 rfl rfl)
theorem dX0_harm_60 : decode cX0_harm 60 = .ok (.getfield 219, 3) := dk_180 0 219 (dk_at dksX0_harm_2 14 rfl rfl)
theorem dX0_harm_63 : decode cX0_harm 63 = .ok (.iastore, 1) := dk_79 (dk_at dksX0_harm_2 17 rfl rfl)
theorem dX0_harm_64 : decode cX0_harm 64 = .ok (.iinc 3 1, 3) := dk_132 3 1 (dk_at dksX0_harm_2 18 rfl rfl)
theorem dX0_harm_67 : decode cX0_harm 67 = .ok (.goto (-50), 3) := dk_167 255 206 (dk_at dksX0_harm_2 21 rfl rfl)
theorem dX0_harm_70 : decode cX0_harm 70 = .ok (.aload_n 0, 1) := dk_42 (dk_at dksX0_harm_3 0 rfl rfl)
theorem dX0_harm_71 : decode cX0_harm 71 = .ok (.aload_n 0, 1) := dk_42 (dk_at dksX0_harm_3 1 rfl rfl)
theorem dX0_harm_72 : decode cX0_harm 72 = .ok (.invokevirtual 264, 3) := dk_182 1 8 (dk_at dksX0_harm_3 2 rfl rfl)
theorem dX0_harm_75 : decode cX0_harm 75 = .ok (.aload_n 2, 1) := dk_44 (dk_at dksX0_harm_3 5 rfl rfl)
theorem dX0_harm_76 : decode cX0_harm 76 = .ok (.invokevirtual 268, 3) := dk_182 1 12 (dk_at dksX0_harm_3 6 rfl rfl)
theorem dX0_harm_79 : decode cX0_harm 79 = .ok (.ireturn, 1) := dk_172 (dk_at dksX0_harm_3 9 rfl rfl)
abbrev cX0_isLink : ByteArray := prog_1_method_13_code
def yX0_isLink : MethodName := ⟨RX0, "isLink", "(I)Z"⟩
def dkwX0_isLink_0 : List UInt8 := [27, 42, 180, 0, 12, 180, 0, 128, 182, 0, 132, 184, 0, 124, 172]
abbrev dktX0_isLink_0 : List UInt8 := dkwX0_isLink_0 ++ []
theorem dksX0_isLink_0 : cX0_isLink.data.toList.drop 0 = dktX0_isLink_0 := by decide +kernel
theorem dX0_isLink_0 : decode cX0_isLink 0 = .ok (.iload_n 1, 1) := dk_27 (dk_at dksX0_isLink_0 0 rfl rfl)
theorem dX0_isLink_1 : decode cX0_isLink 1 = .ok (.aload_n 0, 1) := dk_42 (dk_at dksX0_isLink_0 1 rfl rfl)
theorem dX0_isLink_2 : decode cX0_isLink 2 = .ok (.getfield 12, 3) := dk_180 0 12 (dk_at dksX0_isLink_0 2 rfl rfl)
theorem dX0_isLink_5 : decode cX0_isLink 5 = .ok (.getfield 128, 3) := dk_180 0 128 (dk_at dksX0_isLink_0 5 rfl rfl)
theorem dX0_isLink_8 : decode cX0_isLink 8 = .ok (.invokevirtual 132, 3) := dk_182 0 132 (dk_at dksX0_isLink_0 8 rfl rfl)
theorem dX0_isLink_11 : decode cX0_isLink 11 = .ok (.invokestatic 124, 3) := dk_184 0 124 (dk_at dksX0_isLink_0 11 rfl rfl)
theorem dX0_isLink_14 : decode cX0_isLink 14 = .ok (.ireturn, 1) := dk_172 (dk_at dksX0_isLink_0 14 rfl rfl)
abbrev cX0_claimOf : ByteArray := prog_1_method_19_code
def yX0_claimOf : MethodName := ⟨RX0, "claimOf", "(I)LFilingChains$Claim;"⟩
def dkwX0_claimOf_0 : List UInt8 := [42, 180, 0, 12, 180, 0, 135, 27, 182, 0, 142, 192, 0, 146, 176]
abbrev dktX0_claimOf_0 : List UInt8 := dkwX0_claimOf_0 ++ []
theorem dksX0_claimOf_0 : cX0_claimOf.data.toList.drop 0 = dktX0_claimOf_0 := by decide +kernel
theorem dX0_claimOf_0 : decode cX0_claimOf 0 = .ok (.aload_n 0, 1) := dk_42 (dk_at dksX0_claimOf_0 0 rfl rfl)
theorem dX0_claimOf_1 : decode cX0_claimOf 1 = .ok (.getfield 12, 3) := dk_180 0 12 (dk_at dksX0_claimOf_0 1 rfl rfl)
theorem dX0_claimOf_4 : decode cX0_claimOf 4 = .ok (.getfield 135, 3) := dk_180 0 135 (dk_at dksX0_claimOf_0 4 rfl rfl)
theorem dX0_claimOf_7 : decode cX0_claimOf 7 = .ok (.iload_n 1, 1) := dk_27 (dk_at dksX0_claimOf_0 7 rfl rfl)
theorem dX0_claimOf_8 : decode cX0_claimOf 8 = .ok (.invokevirtual 142, 3) := dk_182 0 142 (dk_at dksX0_claimOf_0 8 rfl rfl)
theorem dX0_claimOf_11 : decode cX0_claimOf 11 = .ok (.checkcast 146, 3) := dk_192 0 146 (dk_at dksX0_claimOf_0 11 rfl rfl)
theorem dX0_claimOf_14 : decode cX0_claimOf 14 = .ok (.areturn, 1) := dk_176 (dk_at dksX0_claimOf_0 14 rfl rfl)
abbrev cX0_dates : ByteArray := prog_1_method_38_code
def yX0_dates : MethodName := ⟨RX0, "dates", "()[I"⟩
def dkwX0_dates_1 : List UInt8 := [28, 182, 1, 3, 79, 132, 2, 1, 167, 255, 231, 43, 176]
abbrev dktX0_dates_1 : List UInt8 := dkwX0_dates_1 ++ []
def dkwX0_dates_0 : List UInt8 := [16, 16, 188, 10, 76, 3, 61, 28, 42, 180, 0, 12, 180, 0, 135, 182, 0, 118, 162, 0, 17, 43, 28, 42]
abbrev dktX0_dates_0 : List UInt8 := dkwX0_dates_0 ++ dktX0_dates_1
theorem dksX0_dates_0 : cX0_dates.data.toList.drop 0 = dktX0_dates_0 := by decide +kernel
theorem dksX0_dates_1 : cX0_dates.data.toList.drop 24 = dktX0_dates_1 := dk_seg dksX0_dates_0 24 rfl rfl
theorem dX0_dates_0 : decode cX0_dates 0 = .ok (.bipush 16, 2) := dk_16 16 (dk_at dksX0_dates_0 0 rfl rfl)
theorem dX0_dates_2 : decode cX0_dates 2 = .ok (.newarray .int, 2) := dk_188_10 (dk_at dksX0_dates_0 2 rfl rfl)
theorem dX0_dates_4 : decode cX0_dates 4 = .ok (.astore_n 1, 1) := dk_76 (dk_at dksX0_dates_0 4 rfl rfl)
theorem dX0_dates_5 : decode cX0_dates 5 = .ok (.iconst 0, 1) := dk_3 (dk_at dksX0_dates_0 5 rfl rfl)
theorem dX0_dates_6 : decode cX0_dates 6 = .ok (.istore_n 2, 1) := dk_61 (dk_at dksX0_dates_0 6 rfl rfl)
theorem dX0_dates_7 : decode cX0_dates 7 = .ok (.iload_n 2, 1) := dk_28 (dk_at dksX0_dates_0 7 rfl rfl)
theorem dX0_dates_8 : decode cX0_dates 8 = .ok (.aload_n 0, 1) := dk_42 (dk_at dksX0_dates_0 8 rfl rfl)
theorem dX0_dates_9 : decode cX0_dates 9 = .ok (.getfield 12, 3) := dk_180 0 12 (dk_at dksX0_dates_0 9 rfl rfl)
theorem dX0_dates_12 : decode cX0_dates 12 = .ok (.getfield 135, 3) := dk_180 0 135 (dk_at dksX0_dates_0 12 rfl rfl)
theorem dX0_dates_15 : decode cX0_dates 15 = .ok (.invokevirtual 118, 3) := dk_182 0 118 (dk_at dksX0_dates_0 15 rfl rfl)
theorem dX0_dates_18 : decode cX0_dates 18 = .ok (.if_icmp .ge 17, 3) := dk_162 0 17 (dk_at dksX0_dates_0 18 rfl rfl)
theorem dX0_dates_21 : decode cX0_dates 21 = .ok (.aload_n 1, 1) := dk_43 (dk_at dksX0_dates_0 21 rfl rfl)
theorem dX0_dates_22 : decode cX0_dates 22 = .ok (.iload_n 2, 1) := dk_28 (dk_at dksX0_dates_0 22 rfl rfl)
theorem dX0_dates_23 : decode cX0_dates 23 = .ok (.aload_n 0, 1) := dk_42 (dk_at dksX0_dates_0 23 rfl rfl)
theorem dX0_dates_24 : decode cX0_dates 24 = .ok (.iload_n 2, 1) := dk_28 (dk_at dksX0_dates_1 0 rfl rfl)
theorem dX0_dates_25 : decode cX0_dates 25 = .ok (.invokevirtual 259, 3) := dk_182 1 3 (dk_at dksX0_dates_1 1 rfl rfl)
theorem dX0_dates_28 : decode cX0_dates 28 = .ok (.iastore, 1) := dk_79 (dk_at dksX0_dates_1 4 rfl rfl)
theorem dX0_dates_29 : decode cX0_dates 29 = .ok (.iinc 2 1, 3) := dk_132 2 1 (dk_at dksX0_dates_1 5 rfl rfl)
theorem dX0_dates_32 : decode cX0_dates 32 = .ok (.goto (-25), 3) := dk_167 255 231 (dk_at dksX0_dates_1 8 rfl rfl)
theorem dX0_dates_35 : decode cX0_dates 35 = .ok (.aload_n 1, 1) := dk_43 (dk_at dksX0_dates_1 11 rfl rfl)
theorem dX0_dates_36 : decode cX0_dates 36 = .ok (.areturn, 1) := dk_176 (dk_at dksX0_dates_1 12 rfl rfl)
abbrev cX0_dateOf_2 : ByteArray := prog_1_method_27_code
def yX0_dateOf_2 : MethodName := ⟨RX0, "dateOf", "(I)I"⟩
def dkwX0_dateOf_2_0 : List UInt8 := [42, 42, 27, 182, 0, 148, 180, 0, 152, 42, 27, 182, 0, 148, 180, 0, 222, 182, 0, 224, 172]
abbrev dktX0_dateOf_2_0 : List UInt8 := dkwX0_dateOf_2_0 ++ []
theorem dksX0_dateOf_2_0 : cX0_dateOf_2.data.toList.drop 0 = dktX0_dateOf_2_0 := by decide +kernel
theorem dX0_dateOf_2_0 : decode cX0_dateOf_2 0 = .ok (.aload_n 0, 1) := dk_42 (dk_at dksX0_dateOf_2_0 0 rfl rfl)
theorem dX0_dateOf_2_1 : decode cX0_dateOf_2 1 = .ok (.aload_n 0, 1) := dk_42 (dk_at dksX0_dateOf_2_0 1 rfl rfl)
theorem dX0_dateOf_2_2 : decode cX0_dateOf_2 2 = .ok (.iload_n 1, 1) := dk_27 (dk_at dksX0_dateOf_2_0 2 rfl rfl)
theorem dX0_dateOf_2_3 : decode cX0_dateOf_2 3 = .ok (.invokevirtual 148, 3) := dk_182 0 148 (dk_at dksX0_dateOf_2_0 3 rfl rfl)
theorem dX0_dateOf_2_6 : decode cX0_dateOf_2 6 = .ok (.getfield 152, 3) := dk_180 0 152 (dk_at dksX0_dateOf_2_0 6 rfl rfl)
theorem dX0_dateOf_2_9 : decode cX0_dateOf_2 9 = .ok (.aload_n 0, 1) := dk_42 (dk_at dksX0_dateOf_2_0 9 rfl rfl)
theorem dX0_dateOf_2_10 : decode cX0_dateOf_2 10 = .ok (.iload_n 1, 1) := dk_27 (dk_at dksX0_dateOf_2_0 10 rfl rfl)
theorem dX0_dateOf_2_11 : decode cX0_dateOf_2 11 = .ok (.invokevirtual 148, 3) := dk_182 0 148 (dk_at dksX0_dateOf_2_0 11 rfl rfl)
theorem dX0_dateOf_2_14 : decode cX0_dateOf_2 14 = .ok (.getfield 222, 3) := dk_180 0 222 (dk_at dksX0_dateOf_2_0 14 rfl rfl)
theorem dX0_dateOf_2_17 : decode cX0_dateOf_2 17 = .ok (.invokevirtual 224, 3) := dk_182 0 224 (dk_at dksX0_dateOf_2_0 17 rfl rfl)
theorem dX0_dateOf_2_20 : decode cX0_dateOf_2 20 = .ok (.ireturn, 1) := dk_172 (dk_at dksX0_dateOf_2_0 20 rfl rfl)
abbrev cX0_laterThan : ByteArray := prog_1_method_39_code
def yX0_laterThan : MethodName := ⟨RX0, "laterThan", "([I[I)I"⟩
def dkwX0_laterThan_2 : List UInt8 := [29, 172]
abbrev dktX0_laterThan_2 : List UInt8 := dkwX0_laterThan_2 ++ []
def dkwX0_laterThan_1 : List UInt8 := [46, 43, 21, 4, 46, 164, 0, 10, 4, 21, 4, 120, 167, 0, 4, 3, 128, 62, 132, 4, 1, 167, 255, 216]
abbrev dktX0_laterThan_1 : List UInt8 := dkwX0_laterThan_1 ++ dktX0_laterThan_2
def dkwX0_laterThan_0 : List UInt8 := [3, 62, 3, 54, 4, 21, 4, 42, 180, 0, 12, 180, 0, 135, 182, 0, 118, 162, 0, 31, 29, 44, 21, 4]
abbrev dktX0_laterThan_0 : List UInt8 := dkwX0_laterThan_0 ++ dktX0_laterThan_1
theorem dksX0_laterThan_0 : cX0_laterThan.data.toList.drop 0 = dktX0_laterThan_0 := by decide +kernel
theorem dksX0_laterThan_1 : cX0_laterThan.data.toList.drop 24 = dktX0_laterThan_1 := dk_seg dksX0_laterThan_0 24 rfl rfl
theorem dksX0_laterThan_2 : cX0_laterThan.data.toList.drop 48 = dktX0_laterThan_2 := dk_seg dksX0_laterThan_1 24 rfl rfl
theorem dX0_laterThan_0 : decode cX0_laterThan 0 = .ok (.iconst 0, 1) := dk_3 (dk_at dksX0_laterThan_0 0 rfl rfl)
theorem dX0_laterThan_1 : decode cX0_laterThan 1 = .ok (.istore_n 3, 1) := dk_62 (dk_at dksX0_laterThan_0 1 rfl rfl)
theorem dX0_laterThan_2 : decode cX0_laterThan 2 = .ok (.iconst 0, 1) := dk_3 (dk_at dksX0_laterThan_0 2 rfl rfl)
theorem dX0_laterThan_3 : decode cX0_laterThan 3 = .ok (.istore 4, 2) := dk_54 4 (dk_at dksX0_laterThan_0 3 rfl rfl)
theorem dX0_laterThan_5 : decode cX0_laterThan 5 = .ok (.iload 4, 2) := dk_21 4 (dk_at dksX0_laterThan_0 5 rfl rfl)
theorem dX0_laterThan_7 : decode cX0_laterThan 7 = .ok (.aload_n 0, 1) := dk_42 (dk_at dksX0_laterThan_0 7 rfl rfl)
theorem dX0_laterThan_8 : decode cX0_laterThan 8 = .ok (.getfield 12, 3) := dk_180 0 12 (dk_at dksX0_laterThan_0 8 rfl rfl)
theorem dX0_laterThan_11 : decode cX0_laterThan 11 = .ok (.getfield 135, 3) := dk_180 0 135 (dk_at dksX0_laterThan_0 11 rfl rfl)
theorem dX0_laterThan_14 : decode cX0_laterThan 14 = .ok (.invokevirtual 118, 3) := dk_182 0 118 (dk_at dksX0_laterThan_0 14 rfl rfl)
theorem dX0_laterThan_17 : decode cX0_laterThan 17 = .ok (.if_icmp .ge 31, 3) := dk_162 0 31 (dk_at dksX0_laterThan_0 17 rfl rfl)
theorem dX0_laterThan_20 : decode cX0_laterThan 20 = .ok (.iload_n 3, 1) := dk_29 (dk_at dksX0_laterThan_0 20 rfl rfl)
theorem dX0_laterThan_21 : decode cX0_laterThan 21 = .ok (.aload_n 2, 1) := dk_44 (dk_at dksX0_laterThan_0 21 rfl rfl)
theorem dX0_laterThan_22 : decode cX0_laterThan 22 = .ok (.iload 4, 2) := dk_21 4 (dk_at dksX0_laterThan_0 22 rfl rfl)
theorem dX0_laterThan_24 : decode cX0_laterThan 24 = .ok (.iaload, 1) := dk_46 (dk_at dksX0_laterThan_1 0 rfl rfl)
theorem dX0_laterThan_25 : decode cX0_laterThan 25 = .ok (.aload_n 1, 1) := dk_43 (dk_at dksX0_laterThan_1 1 rfl rfl)
theorem dX0_laterThan_26 : decode cX0_laterThan 26 = .ok (.iload 4, 2) := dk_21 4 (dk_at dksX0_laterThan_1 2 rfl rfl)
theorem dX0_laterThan_28 : decode cX0_laterThan 28 = .ok (.iaload, 1) := dk_46 (dk_at dksX0_laterThan_1 4 rfl rfl)
theorem dX0_laterThan_29 : decode cX0_laterThan 29 = .ok (.if_icmp .le 10, 3) := dk_164 0 10 (dk_at dksX0_laterThan_1 5 rfl rfl)
theorem dX0_laterThan_32 : decode cX0_laterThan 32 = .ok (.iconst 1, 1) := dk_4 (dk_at dksX0_laterThan_1 8 rfl rfl)
theorem dX0_laterThan_33 : decode cX0_laterThan 33 = .ok (.iload 4, 2) := dk_21 4 (dk_at dksX0_laterThan_1 9 rfl rfl)
theorem dX0_laterThan_35 : decode cX0_laterThan 35 = .ok (.ishl, 1) := dk_120 (dk_at dksX0_laterThan_1 11 rfl rfl)
theorem dX0_laterThan_36 : decode cX0_laterThan 36 = .ok (.goto 4, 3) := dk_167 0 4 (dk_at dksX0_laterThan_1 12 rfl rfl)
theorem dX0_laterThan_39 : decode cX0_laterThan 39 = .ok (.iconst 0, 1) := dk_3 (dk_at dksX0_laterThan_1 15 rfl rfl)
theorem dX0_laterThan_40 : decode cX0_laterThan 40 = .ok (.ior, 1) := dk_128 (dk_at dksX0_laterThan_1 16 rfl rfl)
theorem dX0_laterThan_41 : decode cX0_laterThan 41 = .ok (.istore_n 3, 1) := dk_62 (dk_at dksX0_laterThan_1 17 rfl rfl)
theorem dX0_laterThan_42 : decode cX0_laterThan 42 = .ok (.iinc 4 1, 3) := dk_132 4 1 (dk_at dksX0_laterThan_1 18 rfl rfl)
theorem dX0_laterThan_45 : decode cX0_laterThan 45 = .ok (.goto (-40), 3) := dk_167 255 216 (dk_at dksX0_laterThan_1 21 rfl rfl)
theorem dX0_laterThan_48 : decode cX0_laterThan 48 = .ok (.iload_n 3, 1) := dk_29 (dk_at dksX0_laterThan_2 0 rfl rfl)
theorem dX0_laterThan_49 : decode cX0_laterThan 49 = .ok (.ireturn, 1) := dk_172 (dk_at dksX0_laterThan_2 1 rfl rfl)
abbrev cX0_slip : ByteArray := prog_1_method_41_code
def yX0_slip : MethodName := ⟨RX0, "slip", "(II)I"⟩
def dkwX0_slip_3 : List UInt8 := [181, 0, 172, 21, 5, 172]
abbrev dktX0_slip_3 : List UInt8 := dkwX0_slip_3 ++ []
def dkwX0_slip_2 : List UInt8 := [181, 0, 172, 42, 45, 42, 182, 1, 8, 182, 1, 12, 54, 5, 25, 4, 89, 180, 0, 172, 28, 100]
abbrev dktX0_slip_2 : List UInt8 := dkwX0_slip_2 ++ dktX0_slip_3
def dkwX0_slip_1 : List UInt8 := [182, 1, 8, 78, 42, 180, 0, 12, 27, 182, 0, 155, 58, 4, 25, 4, 89, 180, 0, 172, 28, 96]
abbrev dktX0_slip_1 : List UInt8 := dkwX0_slip_1 ++ dktX0_slip_2
def dkwX0_slip_0 : List UInt8 := [42, 27, 182, 0, 228, 153, 0, 14, 28, 4, 17, 3, 231, 184, 0, 72, 154, 0, 5, 2, 172, 42]
abbrev dktX0_slip_0 : List UInt8 := dkwX0_slip_0 ++ dktX0_slip_1
theorem dksX0_slip_0 : cX0_slip.data.toList.drop 0 = dktX0_slip_0 := by decide +kernel
theorem dksX0_slip_1 : cX0_slip.data.toList.drop 22 = dktX0_slip_1 := dk_seg dksX0_slip_0 22 rfl rfl
theorem dksX0_slip_2 : cX0_slip.data.toList.drop 44 = dktX0_slip_2 := dk_seg dksX0_slip_1 22 rfl rfl
theorem dksX0_slip_3 : cX0_slip.data.toList.drop 66 = dktX0_slip_3 := dk_seg dksX0_slip_2 22 rfl rfl
theorem dX0_slip_0 : decode cX0_slip 0 = .ok (.aload_n 0, 1) := dk_42 (dk_at dksX0_slip_0 0 rfl rfl)
theorem dX0_slip_1 : decode cX0_slip 1 = .ok (.iload_n 1, 1) := dk_27 (dk_at dksX0_slip_0 1 rfl rfl)
theorem dX0_slip_2 : decode cX0_slip 2 = .ok (.invokevirtual 228, 3) := dk_182 0 228 (dk_at dksX0_slip_0 2 rfl rfl)
theorem dX0_slip_5 : decode cX0_slip 5 = .ok (.ifCond .eq 14, 3) := dk_153 0 14 (dk_at dksX0_slip_0 5 rfl rfl)
theorem dX0_slip_8 : decode cX0_slip 8 = .ok (.iload_n 2, 1) := dk_28 (dk_at dksX0_slip_0 8 rfl rfl)
theorem dX0_slip_9 : decode cX0_slip 9 = .ok (.iconst 1, 1) := dk_4 (dk_at dksX0_slip_0 9 rfl rfl)
theorem dX0_slip_10 : decode cX0_slip 10 = .ok (.sipush 999, 3) := dk_17 3 231 (dk_at dksX0_slip_0 10 rfl rfl)
theorem dX0_slip_13 : decode cX0_slip 13 = .ok (.invokestatic 72, 3) := dk_184 0 72 (dk_at dksX0_slip_0 13 rfl rfl)
theorem dX0_slip_16 : decode cX0_slip 16 = .ok (.ifCond .ne 5, 3) := dk_154 0 5 (dk_at dksX0_slip_0 16 rfl rfl)
theorem dX0_slip_19 : decode cX0_slip 19 = .ok (.iconst (-1), 1) := dk_2 (dk_at dksX0_slip_0 19 rfl rfl)
theorem dX0_slip_20 : decode cX0_slip 20 = .ok (.ireturn, 1) := dk_172 (dk_at dksX0_slip_0 20 rfl rfl)
theorem dX0_slip_21 : decode cX0_slip 21 = .ok (.aload_n 0, 1) := dk_42 (dk_at dksX0_slip_0 21 rfl rfl)
theorem dX0_slip_22 : decode cX0_slip 22 = .ok (.invokevirtual 264, 3) := dk_182 1 8 (dk_at dksX0_slip_1 0 rfl rfl)
theorem dX0_slip_25 : decode cX0_slip 25 = .ok (.astore_n 3, 1) := dk_78 (dk_at dksX0_slip_1 3 rfl rfl)
theorem dX0_slip_26 : decode cX0_slip 26 = .ok (.aload_n 0, 1) := dk_42 (dk_at dksX0_slip_1 4 rfl rfl)
theorem dX0_slip_27 : decode cX0_slip 27 = .ok (.getfield 12, 3) := dk_180 0 12 (dk_at dksX0_slip_1 5 rfl rfl)
theorem dX0_slip_30 : decode cX0_slip 30 = .ok (.iload_n 1, 1) := dk_27 (dk_at dksX0_slip_1 8 rfl rfl)
theorem dX0_slip_31 : decode cX0_slip 31 = .ok (.invokevirtual 155, 3) := dk_182 0 155 (dk_at dksX0_slip_1 9 rfl rfl)
theorem dX0_slip_34 : decode cX0_slip 34 = .ok (.astore 4, 2) := dk_58 4 (dk_at dksX0_slip_1 12 rfl rfl)
theorem dX0_slip_36 : decode cX0_slip 36 = .ok (.aload 4, 2) := dk_25 4 (dk_at dksX0_slip_1 14 rfl rfl)
theorem dX0_slip_38 : decode cX0_slip 38 = .ok (.dup, 1) := dk_89 (dk_at dksX0_slip_1 16 rfl rfl)
theorem dX0_slip_39 : decode cX0_slip 39 = .ok (.getfield 172, 3) := dk_180 0 172 (dk_at dksX0_slip_1 17 rfl rfl)
theorem dX0_slip_42 : decode cX0_slip 42 = .ok (.iload_n 2, 1) := dk_28 (dk_at dksX0_slip_1 20 rfl rfl)
theorem dX0_slip_43 : decode cX0_slip 43 = .ok (.iadd, 1) := dk_96 (dk_at dksX0_slip_1 21 rfl rfl)
theorem dX0_slip_44 : decode cX0_slip 44 = .ok (.putfield 172, 3) := dk_181 0 172 (dk_at dksX0_slip_2 0 rfl rfl)
theorem dX0_slip_47 : decode cX0_slip 47 = .ok (.aload_n 0, 1) := dk_42 (dk_at dksX0_slip_2 3 rfl rfl)
theorem dX0_slip_48 : decode cX0_slip 48 = .ok (.aload_n 3, 1) := dk_45 (dk_at dksX0_slip_2 4 rfl rfl)
theorem dX0_slip_49 : decode cX0_slip 49 = .ok (.aload_n 0, 1) := dk_42 (dk_at dksX0_slip_2 5 rfl rfl)
theorem dX0_slip_50 : decode cX0_slip 50 = .ok (.invokevirtual 264, 3) := dk_182 1 8 (dk_at dksX0_slip_2 6 rfl rfl)
theorem dX0_slip_53 : decode cX0_slip 53 = .ok (.invokevirtual 268, 3) := dk_182 1 12 (dk_at dksX0_slip_2 9 rfl rfl)
theorem dX0_slip_56 : decode cX0_slip 56 = .ok (.istore 5, 2) := dk_54 5 (dk_at dksX0_slip_2 12 rfl rfl)
theorem dX0_slip_58 : decode cX0_slip 58 = .ok (.aload 4, 2) := dk_25 4 (dk_at dksX0_slip_2 14 rfl rfl)
theorem dX0_slip_60 : decode cX0_slip 60 = .ok (.dup, 1) := dk_89 (dk_at dksX0_slip_2 16 rfl rfl)
theorem dX0_slip_61 : decode cX0_slip 61 = .ok (.getfield 172, 3) := dk_180 0 172 (dk_at dksX0_slip_2 17 rfl rfl)
theorem dX0_slip_64 : decode cX0_slip 64 = .ok (.iload_n 2, 1) := dk_28 (dk_at dksX0_slip_2 20 rfl rfl)
theorem dX0_slip_65 : decode cX0_slip 65 = .ok (.isub, 1) := dk_100 (dk_at dksX0_slip_2 21 rfl rfl)
theorem dX0_slip_66 : decode cX0_slip 66 = .ok (.putfield 172, 3) := dk_181 0 172 (dk_at dksX0_slip_3 0 rfl rfl)
theorem dX0_slip_69 : decode cX0_slip 69 = .ok (.iload 5, 2) := dk_21 5 (dk_at dksX0_slip_3 3 rfl rfl)
theorem dX0_slip_71 : decode cX0_slip 71 = .ok (.ireturn, 1) := dk_172 (dk_at dksX0_slip_3 5 rfl rfl)
abbrev cX0_count : ByteArray := prog_1_method_44_code
def yX0_count : MethodName := ⟨RX0, "count", "(I)I"⟩
def dkwX0_count_6 : List UInt8 := [180, 0, 66, 172, 2, 172]
abbrev dktX0_count_6 : List UInt8 := dkwX0_count_6 ++ []
def dkwX0_count_5 : List UInt8 := [182, 0, 118, 172, 42, 182, 1, 23, 172, 42, 182, 1, 26, 172, 42, 180, 0, 19, 182, 1, 29, 172, 42]
abbrev dktX0_count_5 : List UInt8 := dkwX0_count_5 ++ dktX0_count_6
def dkwX0_count_4 : List UInt8 := [182, 0, 132, 172, 42, 180, 0, 12, 180, 0, 135, 182, 0, 118, 172, 42, 180, 0, 12, 180, 0, 138]
abbrev dktX0_count_4 : List UInt8 := dkwX0_count_4 ++ dktX0_count_5
def dkwX0_count_3 : List UInt8 := [185, 0, 127, 1, 0, 172, 42, 180, 0, 12, 180, 0, 117, 182, 0, 118, 172, 42, 180, 0, 12, 180, 0, 128]
abbrev dktX0_count_3 : List UInt8 := dkwX0_count_3 ++ dktX0_count_4
def dkwX0_count_2 : List UInt8 := [42, 180, 0, 12, 180, 0, 178, 27, 46, 172, 42, 180, 0, 29, 185, 0, 127, 1, 0, 172, 42, 180, 0, 33]
abbrev dktX0_count_2 : List UInt8 := dkwX0_count_2 ++ dktX0_count_3
def dkwX0_count_1 : List UInt8 := [170, 0, 0, 0, 0, 0, 168, 0, 0, 0, 0, 0, 0, 0, 13, 0, 0, 0, 71, 0, 0, 0, 71, 0, 0, 0, 71, 0, 0, 0, 71, 0, 0, 0, 81, 0, 0, 0, 91, 0, 0, 0, 101, 0, 0, 0, 112, 0, 0, 0, 123, 0, 0, 0, 134, 0, 0, 0, 145, 0, 0, 0, 150, 0, 0, 0, 155, 0, 0, 0, 163]
abbrev dktX0_count_1 : List UInt8 := dkwX0_count_1 ++ dktX0_count_2
def dkwX0_count_0 : List UInt8 := [27]
abbrev dktX0_count_0 : List UInt8 := dkwX0_count_0 ++ dktX0_count_1
theorem dksX0_count_0 : cX0_count.data.toList.drop 0 = dktX0_count_0 := by decide +kernel
theorem dksX0_count_1 : cX0_count.data.toList.drop 1 = dktX0_count_1 := dk_seg dksX0_count_0 1 rfl rfl
theorem dksX0_count_2 : cX0_count.data.toList.drop 72 = dktX0_count_2 := dk_seg dksX0_count_1 71 rfl rfl
theorem dksX0_count_3 : cX0_count.data.toList.drop 96 = dktX0_count_3 := dk_seg dksX0_count_2 24 rfl rfl
theorem dksX0_count_4 : cX0_count.data.toList.drop 120 = dktX0_count_4 := dk_seg dksX0_count_3 24 rfl rfl
theorem dksX0_count_5 : cX0_count.data.toList.drop 142 = dktX0_count_5 := dk_seg dksX0_count_4 22 rfl rfl
theorem dksX0_count_6 : cX0_count.data.toList.drop 165 = dktX0_count_6 := dk_seg dksX0_count_5 23 rfl rfl
theorem dX0_count_0 : decode cX0_count 0 = .ok (.iload_n 1, 1) := dk_27 (dk_at dksX0_count_0 0 rfl rfl)
theorem dX0_count_1 : decode cX0_count 1 = .ok (.tableswitch 168 0 13 #[71, 71, 71, 71, 81, 91, 101, 112, 123, 134, 145, 150, 155, 163], 71) := by decide +kernel
theorem dX0_count_72 : decode cX0_count 72 = .ok (.aload_n 0, 1) := dk_42 (dk_at dksX0_count_2 0 rfl rfl)
theorem dX0_count_73 : decode cX0_count 73 = .ok (.getfield 12, 3) := dk_180 0 12 (dk_at dksX0_count_2 1 rfl rfl)
theorem dX0_count_76 : decode cX0_count 76 = .ok (.getfield 178, 3) := dk_180 0 178 (dk_at dksX0_count_2 4 rfl rfl)
theorem dX0_count_79 : decode cX0_count 79 = .ok (.iload_n 1, 1) := dk_27 (dk_at dksX0_count_2 7 rfl rfl)
theorem dX0_count_80 : decode cX0_count 80 = .ok (.iaload, 1) := dk_46 (dk_at dksX0_count_2 8 rfl rfl)
theorem dX0_count_81 : decode cX0_count 81 = .ok (.ireturn, 1) := dk_172 (dk_at dksX0_count_2 9 rfl rfl)
theorem dX0_count_82 : decode cX0_count 82 = .ok (.aload_n 0, 1) := dk_42 (dk_at dksX0_count_2 10 rfl rfl)
theorem dX0_count_83 : decode cX0_count 83 = .ok (.getfield 29, 3) := dk_180 0 29 (dk_at dksX0_count_2 11 rfl rfl)
theorem dX0_count_86 : decode cX0_count 86 = .ok (.invokeinterface 127 1, 5) := by decide +kernel
theorem dX0_count_91 : decode cX0_count 91 = .ok (.ireturn, 1) := dk_172 (dk_at dksX0_count_2 19 rfl rfl)
theorem dX0_count_92 : decode cX0_count 92 = .ok (.aload_n 0, 1) := dk_42 (dk_at dksX0_count_2 20 rfl rfl)
theorem dX0_count_93 : decode cX0_count 93 = .ok (.getfield 33, 3) := dk_180 0 33 (dk_at dksX0_count_2 21 rfl rfl)
theorem dX0_count_96 : decode cX0_count 96 = .ok (.invokeinterface 127 1, 5) := by decide +kernel
theorem dX0_count_101 : decode cX0_count 101 = .ok (.ireturn, 1) := dk_172 (dk_at dksX0_count_3 5 rfl rfl)
theorem dX0_count_102 : decode cX0_count 102 = .ok (.aload_n 0, 1) := dk_42 (dk_at dksX0_count_3 6 rfl rfl)
theorem dX0_count_103 : decode cX0_count 103 = .ok (.getfield 12, 3) := dk_180 0 12 (dk_at dksX0_count_3 7 rfl rfl)
theorem dX0_count_106 : decode cX0_count 106 = .ok (.getfield 117, 3) := dk_180 0 117 (dk_at dksX0_count_3 10 rfl rfl)
theorem dX0_count_109 : decode cX0_count 109 = .ok (.invokevirtual 118, 3) := dk_182 0 118 (dk_at dksX0_count_3 13 rfl rfl)
theorem dX0_count_112 : decode cX0_count 112 = .ok (.ireturn, 1) := dk_172 (dk_at dksX0_count_3 16 rfl rfl)
theorem dX0_count_113 : decode cX0_count 113 = .ok (.aload_n 0, 1) := dk_42 (dk_at dksX0_count_3 17 rfl rfl)
theorem dX0_count_114 : decode cX0_count 114 = .ok (.getfield 12, 3) := dk_180 0 12 (dk_at dksX0_count_3 18 rfl rfl)
theorem dX0_count_117 : decode cX0_count 117 = .ok (.getfield 128, 3) := dk_180 0 128 (dk_at dksX0_count_3 21 rfl rfl)
theorem dX0_count_120 : decode cX0_count 120 = .ok (.invokevirtual 132, 3) := dk_182 0 132 (dk_at dksX0_count_4 0 rfl rfl)
theorem dX0_count_123 : decode cX0_count 123 = .ok (.ireturn, 1) := dk_172 (dk_at dksX0_count_4 3 rfl rfl)
theorem dX0_count_124 : decode cX0_count 124 = .ok (.aload_n 0, 1) := dk_42 (dk_at dksX0_count_4 4 rfl rfl)
theorem dX0_count_125 : decode cX0_count 125 = .ok (.getfield 12, 3) := dk_180 0 12 (dk_at dksX0_count_4 5 rfl rfl)
theorem dX0_count_128 : decode cX0_count 128 = .ok (.getfield 135, 3) := dk_180 0 135 (dk_at dksX0_count_4 8 rfl rfl)
theorem dX0_count_131 : decode cX0_count 131 = .ok (.invokevirtual 118, 3) := dk_182 0 118 (dk_at dksX0_count_4 11 rfl rfl)
theorem dX0_count_134 : decode cX0_count 134 = .ok (.ireturn, 1) := dk_172 (dk_at dksX0_count_4 14 rfl rfl)
theorem dX0_count_135 : decode cX0_count 135 = .ok (.aload_n 0, 1) := dk_42 (dk_at dksX0_count_4 15 rfl rfl)
theorem dX0_count_136 : decode cX0_count 136 = .ok (.getfield 12, 3) := dk_180 0 12 (dk_at dksX0_count_4 16 rfl rfl)
theorem dX0_count_139 : decode cX0_count 139 = .ok (.getfield 138, 3) := dk_180 0 138 (dk_at dksX0_count_4 19 rfl rfl)
theorem dX0_count_142 : decode cX0_count 142 = .ok (.invokevirtual 118, 3) := dk_182 0 118 (dk_at dksX0_count_5 0 rfl rfl)
theorem dX0_count_145 : decode cX0_count 145 = .ok (.ireturn, 1) := dk_172 (dk_at dksX0_count_5 3 rfl rfl)
theorem dX0_count_146 : decode cX0_count 146 = .ok (.aload_n 0, 1) := dk_42 (dk_at dksX0_count_5 4 rfl rfl)
theorem dX0_count_147 : decode cX0_count 147 = .ok (.invokevirtual 279, 3) := dk_182 1 23 (dk_at dksX0_count_5 5 rfl rfl)
theorem dX0_count_150 : decode cX0_count 150 = .ok (.ireturn, 1) := dk_172 (dk_at dksX0_count_5 8 rfl rfl)
theorem dX0_count_151 : decode cX0_count 151 = .ok (.aload_n 0, 1) := dk_42 (dk_at dksX0_count_5 9 rfl rfl)
theorem dX0_count_152 : decode cX0_count 152 = .ok (.invokevirtual 282, 3) := dk_182 1 26 (dk_at dksX0_count_5 10 rfl rfl)
theorem dX0_count_155 : decode cX0_count 155 = .ok (.ireturn, 1) := dk_172 (dk_at dksX0_count_5 13 rfl rfl)
theorem dX0_count_156 : decode cX0_count 156 = .ok (.aload_n 0, 1) := dk_42 (dk_at dksX0_count_5 14 rfl rfl)
theorem dX0_count_157 : decode cX0_count 157 = .ok (.getfield 19, 3) := dk_180 0 19 (dk_at dksX0_count_5 15 rfl rfl)
theorem dX0_count_160 : decode cX0_count 160 = .ok (.invokevirtual 285, 3) := dk_182 1 29 (dk_at dksX0_count_5 18 rfl rfl)
theorem dX0_count_163 : decode cX0_count 163 = .ok (.ireturn, 1) := dk_172 (dk_at dksX0_count_5 21 rfl rfl)
theorem dX0_count_164 : decode cX0_count 164 = .ok (.aload_n 0, 1) := dk_42 (dk_at dksX0_count_5 22 rfl rfl)
theorem dX0_count_165 : decode cX0_count 165 = .ok (.getfield 66, 3) := dk_180 0 66 (dk_at dksX0_count_6 0 rfl rfl)
theorem dX0_count_168 : decode cX0_count 168 = .ok (.ireturn, 1) := dk_172 (dk_at dksX0_count_6 3 rfl rfl)
theorem dX0_count_169 : decode cX0_count 169 = .ok (.iconst (-1), 1) := dk_2 (dk_at dksX0_count_6 4 rfl rfl)
theorem dX0_count_170 : decode cX0_count 170 = .ok (.ireturn, 1) := dk_172 (dk_at dksX0_count_6 5 rfl rfl)
abbrev cX0_holding : ByteArray := prog_1_method_42_code
def yX0_holding : MethodName := ⟨RX0, "holding", "()I"⟩
def dkwX0_holding_2 : List UInt8 := [60, 167, 255, 221, 27, 172]
abbrev dktX0_holding_2 : List UInt8 := dkwX0_holding_2 ++ []
def dkwX0_holding_1 : List UInt8 := [185, 0, 210, 1, 0, 192, 0, 165, 78, 27, 42, 45, 182, 0, 189, 153, 0, 7, 4, 167, 0, 4, 3, 96]
abbrev dktX0_holding_1 : List UInt8 := dkwX0_holding_1 ++ dktX0_holding_2
def dkwX0_holding_0 : List UInt8 := [3, 60, 42, 180, 0, 12, 180, 0, 128, 182, 0, 200, 77, 44, 185, 0, 204, 1, 0, 153, 0, 32, 44]
abbrev dktX0_holding_0 : List UInt8 := dkwX0_holding_0 ++ dktX0_holding_1
theorem dksX0_holding_0 : cX0_holding.data.toList.drop 0 = dktX0_holding_0 := by decide +kernel
theorem dksX0_holding_1 : cX0_holding.data.toList.drop 23 = dktX0_holding_1 := dk_seg dksX0_holding_0 23 rfl rfl
theorem dksX0_holding_2 : cX0_holding.data.toList.drop 47 = dktX0_holding_2 := dk_seg dksX0_holding_1 24 rfl rfl
theorem dX0_holding_0 : decode cX0_holding 0 = .ok (.iconst 0, 1) := dk_3 (dk_at dksX0_holding_0 0 rfl rfl)
theorem dX0_holding_1 : decode cX0_holding 1 = .ok (.istore_n 1, 1) := dk_60 (dk_at dksX0_holding_0 1 rfl rfl)
theorem dX0_holding_2 : decode cX0_holding 2 = .ok (.aload_n 0, 1) := dk_42 (dk_at dksX0_holding_0 2 rfl rfl)
theorem dX0_holding_3 : decode cX0_holding 3 = .ok (.getfield 12, 3) := dk_180 0 12 (dk_at dksX0_holding_0 3 rfl rfl)
theorem dX0_holding_6 : decode cX0_holding 6 = .ok (.getfield 128, 3) := dk_180 0 128 (dk_at dksX0_holding_0 6 rfl rfl)
theorem dX0_holding_9 : decode cX0_holding 9 = .ok (.invokevirtual 200, 3) := dk_182 0 200 (dk_at dksX0_holding_0 9 rfl rfl)
theorem dX0_holding_12 : decode cX0_holding 12 = .ok (.astore_n 2, 1) := dk_77 (dk_at dksX0_holding_0 12 rfl rfl)
theorem dX0_holding_13 : decode cX0_holding 13 = .ok (.aload_n 2, 1) := dk_44 (dk_at dksX0_holding_0 13 rfl rfl)
theorem dX0_holding_14 : decode cX0_holding 14 = .ok (.invokeinterface 204 1, 5) := by decide +kernel
theorem dX0_holding_19 : decode cX0_holding 19 = .ok (.ifCond .eq 32, 3) := dk_153 0 32 (dk_at dksX0_holding_0 19 rfl rfl)
theorem dX0_holding_22 : decode cX0_holding 22 = .ok (.aload_n 2, 1) := dk_44 (dk_at dksX0_holding_0 22 rfl rfl)
theorem dX0_holding_23 : decode cX0_holding 23 = .ok (.invokeinterface 210 1, 5) := by decide +kernel
theorem dX0_holding_28 : decode cX0_holding 28 = .ok (.checkcast 165, 3) := dk_192 0 165 (dk_at dksX0_holding_1 5 rfl rfl)
theorem dX0_holding_31 : decode cX0_holding 31 = .ok (.astore_n 3, 1) := dk_78 (dk_at dksX0_holding_1 8 rfl rfl)
theorem dX0_holding_32 : decode cX0_holding 32 = .ok (.iload_n 1, 1) := dk_27 (dk_at dksX0_holding_1 9 rfl rfl)
theorem dX0_holding_33 : decode cX0_holding 33 = .ok (.aload_n 0, 1) := dk_42 (dk_at dksX0_holding_1 10 rfl rfl)
theorem dX0_holding_34 : decode cX0_holding 34 = .ok (.aload_n 3, 1) := dk_45 (dk_at dksX0_holding_1 11 rfl rfl)
theorem dX0_holding_35 : decode cX0_holding 35 = .ok (.invokevirtual 189, 3) := dk_182 0 189 (dk_at dksX0_holding_1 12 rfl rfl)
theorem dX0_holding_38 : decode cX0_holding 38 = .ok (.ifCond .eq 7, 3) := dk_153 0 7 (dk_at dksX0_holding_1 15 rfl rfl)
theorem dX0_holding_41 : decode cX0_holding 41 = .ok (.iconst 1, 1) := dk_4 (dk_at dksX0_holding_1 18 rfl rfl)
theorem dX0_holding_42 : decode cX0_holding 42 = .ok (.goto 4, 3) := dk_167 0 4 (dk_at dksX0_holding_1 19 rfl rfl)
theorem dX0_holding_45 : decode cX0_holding 45 = .ok (.iconst 0, 1) := dk_3 (dk_at dksX0_holding_1 22 rfl rfl)
theorem dX0_holding_46 : decode cX0_holding 46 = .ok (.iadd, 1) := dk_96 (dk_at dksX0_holding_1 23 rfl rfl)
theorem dX0_holding_47 : decode cX0_holding 47 = .ok (.istore_n 1, 1) := dk_60 (dk_at dksX0_holding_2 0 rfl rfl)
theorem dX0_holding_48 : decode cX0_holding 48 = .ok (.goto (-35), 3) := dk_167 255 221 (dk_at dksX0_holding_2 1 rfl rfl)
theorem dX0_holding_51 : decode cX0_holding 51 = .ok (.iload_n 1, 1) := dk_27 (dk_at dksX0_holding_2 4 rfl rfl)
theorem dX0_holding_52 : decode cX0_holding 52 = .ok (.ireturn, 1) := dk_172 (dk_at dksX0_holding_2 5 rfl rfl)
abbrev cX0_barredMany : ByteArray := prog_1_method_43_code
def yX0_barredMany : MethodName := ⟨RX0, "barredMany", "()I"⟩
def dkwX0_barredMany_1 : List UInt8 := [180, 1, 20, 158, 0, 7, 4, 167, 0, 4, 3, 96, 60, 132, 2, 1, 167, 255, 220, 27, 172]
abbrev dktX0_barredMany_1 : List UInt8 := dkwX0_barredMany_1 ++ []
def dkwX0_barredMany_0 : List UInt8 := [3, 60, 3, 61, 28, 42, 180, 0, 12, 180, 0, 135, 182, 0, 118, 162, 0, 28, 27, 42, 28, 182, 1, 16]
abbrev dktX0_barredMany_0 : List UInt8 := dkwX0_barredMany_0 ++ dktX0_barredMany_1
theorem dksX0_barredMany_0 : cX0_barredMany.data.toList.drop 0 = dktX0_barredMany_0 := by decide +kernel
theorem dksX0_barredMany_1 : cX0_barredMany.data.toList.drop 24 = dktX0_barredMany_1 := dk_seg dksX0_barredMany_0 24 rfl rfl
theorem dX0_barredMany_0 : decode cX0_barredMany 0 = .ok (.iconst 0, 1) := dk_3 (dk_at dksX0_barredMany_0 0 rfl rfl)
theorem dX0_barredMany_1 : decode cX0_barredMany 1 = .ok (.istore_n 1, 1) := dk_60 (dk_at dksX0_barredMany_0 1 rfl rfl)
theorem dX0_barredMany_2 : decode cX0_barredMany 2 = .ok (.iconst 0, 1) := dk_3 (dk_at dksX0_barredMany_0 2 rfl rfl)
theorem dX0_barredMany_3 : decode cX0_barredMany 3 = .ok (.istore_n 2, 1) := dk_61 (dk_at dksX0_barredMany_0 3 rfl rfl)
theorem dX0_barredMany_4 : decode cX0_barredMany 4 = .ok (.iload_n 2, 1) := dk_28 (dk_at dksX0_barredMany_0 4 rfl rfl)
theorem dX0_barredMany_5 : decode cX0_barredMany 5 = .ok (.aload_n 0, 1) := dk_42 (dk_at dksX0_barredMany_0 5 rfl rfl)
theorem dX0_barredMany_6 : decode cX0_barredMany 6 = .ok (.getfield 12, 3) := dk_180 0 12 (dk_at dksX0_barredMany_0 6 rfl rfl)
theorem dX0_barredMany_9 : decode cX0_barredMany 9 = .ok (.getfield 135, 3) := dk_180 0 135 (dk_at dksX0_barredMany_0 9 rfl rfl)
theorem dX0_barredMany_12 : decode cX0_barredMany 12 = .ok (.invokevirtual 118, 3) := dk_182 0 118 (dk_at dksX0_barredMany_0 12 rfl rfl)
theorem dX0_barredMany_15 : decode cX0_barredMany 15 = .ok (.if_icmp .ge 28, 3) := dk_162 0 28 (dk_at dksX0_barredMany_0 15 rfl rfl)
theorem dX0_barredMany_18 : decode cX0_barredMany 18 = .ok (.iload_n 1, 1) := dk_27 (dk_at dksX0_barredMany_0 18 rfl rfl)
theorem dX0_barredMany_19 : decode cX0_barredMany 19 = .ok (.aload_n 0, 1) := dk_42 (dk_at dksX0_barredMany_0 19 rfl rfl)
theorem dX0_barredMany_20 : decode cX0_barredMany 20 = .ok (.iload_n 2, 1) := dk_28 (dk_at dksX0_barredMany_0 20 rfl rfl)
theorem dX0_barredMany_21 : decode cX0_barredMany 21 = .ok (.invokevirtual 272, 3) := dk_182 1 16 (dk_at dksX0_barredMany_0 21 rfl rfl)
theorem dX0_barredMany_24 : decode cX0_barredMany 24 = .ok (.getfield 276, 3) := dk_180 1 20 (dk_at dksX0_barredMany_1 0 rfl rfl)
theorem dX0_barredMany_27 : decode cX0_barredMany 27 = .ok (.ifCond .le 7, 3) := dk_158 0 7 (dk_at dksX0_barredMany_1 3 rfl rfl)
theorem dX0_barredMany_30 : decode cX0_barredMany 30 = .ok (.iconst 1, 1) := dk_4 (dk_at dksX0_barredMany_1 6 rfl rfl)
theorem dX0_barredMany_31 : decode cX0_barredMany 31 = .ok (.goto 4, 3) := dk_167 0 4 (dk_at dksX0_barredMany_1 7 rfl rfl)
theorem dX0_barredMany_34 : decode cX0_barredMany 34 = .ok (.iconst 0, 1) := dk_3 (dk_at dksX0_barredMany_1 10 rfl rfl)
theorem dX0_barredMany_35 : decode cX0_barredMany 35 = .ok (.iadd, 1) := dk_96 (dk_at dksX0_barredMany_1 11 rfl rfl)
theorem dX0_barredMany_36 : decode cX0_barredMany 36 = .ok (.istore_n 1, 1) := dk_60 (dk_at dksX0_barredMany_1 12 rfl rfl)
theorem dX0_barredMany_37 : decode cX0_barredMany 37 = .ok (.iinc 2 1, 3) := dk_132 2 1 (dk_at dksX0_barredMany_1 13 rfl rfl)
theorem dX0_barredMany_40 : decode cX0_barredMany 40 = .ok (.goto (-36), 3) := dk_167 255 220 (dk_at dksX0_barredMany_1 16 rfl rfl)
theorem dX0_barredMany_43 : decode cX0_barredMany 43 = .ok (.iload_n 1, 1) := dk_27 (dk_at dksX0_barredMany_1 19 rfl rfl)
theorem dX0_barredMany_44 : decode cX0_barredMany 44 = .ok (.ireturn, 1) := dk_172 (dk_at dksX0_barredMany_1 20 rfl rfl)
abbrev cX0_barOf : ByteArray := prog_1_method_61_code
def yX0_barOf : MethodName := ⟨RX0, "barOf", "(I)LFilingChains$Bar;"⟩
def dkwX0_barOf_0 : List UInt8 := [42, 42, 27, 182, 0, 148, 180, 0, 222, 42, 27, 182, 1, 145, 42, 27, 182, 1, 3, 182, 1, 148, 176]
abbrev dktX0_barOf_0 : List UInt8 := dkwX0_barOf_0 ++ []
theorem dksX0_barOf_0 : cX0_barOf.data.toList.drop 0 = dktX0_barOf_0 := by decide +kernel
theorem dX0_barOf_0 : decode cX0_barOf 0 = .ok (.aload_n 0, 1) := dk_42 (dk_at dksX0_barOf_0 0 rfl rfl)
theorem dX0_barOf_1 : decode cX0_barOf 1 = .ok (.aload_n 0, 1) := dk_42 (dk_at dksX0_barOf_0 1 rfl rfl)
theorem dX0_barOf_2 : decode cX0_barOf 2 = .ok (.iload_n 1, 1) := dk_27 (dk_at dksX0_barOf_0 2 rfl rfl)
theorem dX0_barOf_3 : decode cX0_barOf 3 = .ok (.invokevirtual 148, 3) := dk_182 0 148 (dk_at dksX0_barOf_0 3 rfl rfl)
theorem dX0_barOf_6 : decode cX0_barOf 6 = .ok (.getfield 222, 3) := dk_180 0 222 (dk_at dksX0_barOf_0 6 rfl rfl)
theorem dX0_barOf_9 : decode cX0_barOf 9 = .ok (.aload_n 0, 1) := dk_42 (dk_at dksX0_barOf_0 9 rfl rfl)
theorem dX0_barOf_10 : decode cX0_barOf 10 = .ok (.iload_n 1, 1) := dk_27 (dk_at dksX0_barOf_0 10 rfl rfl)
theorem dX0_barOf_11 : decode cX0_barOf 11 = .ok (.invokevirtual 401, 3) := dk_182 1 145 (dk_at dksX0_barOf_0 11 rfl rfl)
theorem dX0_barOf_14 : decode cX0_barOf 14 = .ok (.aload_n 0, 1) := dk_42 (dk_at dksX0_barOf_0 14 rfl rfl)
theorem dX0_barOf_15 : decode cX0_barOf 15 = .ok (.iload_n 1, 1) := dk_27 (dk_at dksX0_barOf_0 15 rfl rfl)
theorem dX0_barOf_16 : decode cX0_barOf 16 = .ok (.invokevirtual 259, 3) := dk_182 1 3 (dk_at dksX0_barOf_0 16 rfl rfl)
theorem dX0_barOf_19 : decode cX0_barOf 19 = .ok (.invokevirtual 404, 3) := dk_182 1 148 (dk_at dksX0_barOf_0 19 rfl rfl)
theorem dX0_barOf_22 : decode cX0_barOf 22 = .ok (.areturn, 1) := dk_176 (dk_at dksX0_barOf_0 22 rfl rfl)
abbrev cX0_filerOf : ByteArray := prog_1_method_20_code
def yX0_filerOf : MethodName := ⟨RX0, "filerOf", "(I)I"⟩
def dkwX0_filerOf_0 : List UInt8 := [42, 180, 0, 12, 42, 27, 182, 0, 148, 180, 0, 152, 182, 0, 155, 180, 0, 159, 172]
abbrev dktX0_filerOf_0 : List UInt8 := dkwX0_filerOf_0 ++ []
theorem dksX0_filerOf_0 : cX0_filerOf.data.toList.drop 0 = dktX0_filerOf_0 := by decide +kernel
theorem dX0_filerOf_0 : decode cX0_filerOf 0 = .ok (.aload_n 0, 1) := dk_42 (dk_at dksX0_filerOf_0 0 rfl rfl)
theorem dX0_filerOf_1 : decode cX0_filerOf 1 = .ok (.getfield 12, 3) := dk_180 0 12 (dk_at dksX0_filerOf_0 1 rfl rfl)
theorem dX0_filerOf_4 : decode cX0_filerOf 4 = .ok (.aload_n 0, 1) := dk_42 (dk_at dksX0_filerOf_0 4 rfl rfl)
theorem dX0_filerOf_5 : decode cX0_filerOf 5 = .ok (.iload_n 1, 1) := dk_27 (dk_at dksX0_filerOf_0 5 rfl rfl)
theorem dX0_filerOf_6 : decode cX0_filerOf 6 = .ok (.invokevirtual 148, 3) := dk_182 0 148 (dk_at dksX0_filerOf_0 6 rfl rfl)
theorem dX0_filerOf_9 : decode cX0_filerOf 9 = .ok (.getfield 152, 3) := dk_180 0 152 (dk_at dksX0_filerOf_0 9 rfl rfl)
theorem dX0_filerOf_12 : decode cX0_filerOf 12 = .ok (.invokevirtual 155, 3) := dk_182 0 155 (dk_at dksX0_filerOf_0 12 rfl rfl)
theorem dX0_filerOf_15 : decode cX0_filerOf 15 = .ok (.getfield 159, 3) := dk_180 0 159 (dk_at dksX0_filerOf_0 15 rfl rfl)
theorem dX0_filerOf_18 : decode cX0_filerOf 18 = .ok (.ireturn, 1) := dk_172 (dk_at dksX0_filerOf_0 18 rfl rfl)
abbrev cX0_barBy : ByteArray := prog_1_method_60_code
def yX0_barBy : MethodName := ⟨RX0, "barBy", "(III)LFilingChains$Bar;"⟩
def dkwX0_barBy_6 : List UInt8 := [16, 254, 183, 1, 139, 176]
abbrev dktX0_barBy_6 : List UInt8 := dkwX0_barBy_6 ++ []
def dkwX0_barBy_5 : List UInt8 := [187, 1, 21, 89, 6, 25, 6, 180, 1, 142, 16, 254, 183, 1, 139, 176, 187, 1, 21, 89, 3, 16, 254]
abbrev dktX0_barBy_5 : List UInt8 := dkwX0_barBy_5 ++ dktX0_barBy_6
def dkwX0_barBy_4 : List UInt8 := [16, 254, 159, 255, 207, 42, 25, 6, 180, 1, 142, 27, 182, 0, 224, 29, 161, 0, 6, 167, 255, 190]
abbrev dktX0_barBy_4 : List UInt8 := dkwX0_barBy_4 ++ dktX0_barBy_5
def dkwX0_barBy_3 : List UInt8 := [180, 0, 159, 28, 159, 255, 228, 25, 6, 27, 182, 0, 186, 2, 159, 255, 218, 42, 25, 6, 182, 1, 89]
abbrev dktX0_barBy_3 : List UInt8 := dkwX0_barBy_3 ++ dktX0_barBy_4
def dkwX0_barBy_2 : List UInt8 := [25, 5, 185, 0, 204, 1, 0, 153, 0, 78, 25, 5, 185, 0, 210, 1, 0, 192, 0, 160, 58, 6, 25, 6]
abbrev dktX0_barBy_2 : List UInt8 := dkwX0_barBy_2 ++ dktX0_barBy_3
def dkwX0_barBy_1 : List UInt8 := [180, 1, 132, 42, 180, 1, 123, 183, 1, 139, 176, 42, 180, 0, 12, 180, 0, 117, 182, 1, 74, 58, 5]
abbrev dktX0_barBy_1 : List UInt8 := dkwX0_barBy_1 ++ dktX0_barBy_2
def dkwX0_barBy_0 : List UInt8 := [42, 27, 28, 29, 3, 182, 1, 135, 54, 4, 21, 4, 158, 0, 21, 187, 1, 21, 89, 21, 4, 42]
abbrev dktX0_barBy_0 : List UInt8 := dkwX0_barBy_0 ++ dktX0_barBy_1
theorem dksX0_barBy_0 : cX0_barBy.data.toList.drop 0 = dktX0_barBy_0 := by decide +kernel
theorem dksX0_barBy_1 : cX0_barBy.data.toList.drop 22 = dktX0_barBy_1 := dk_seg dksX0_barBy_0 22 rfl rfl
theorem dksX0_barBy_2 : cX0_barBy.data.toList.drop 45 = dktX0_barBy_2 := dk_seg dksX0_barBy_1 23 rfl rfl
theorem dksX0_barBy_3 : cX0_barBy.data.toList.drop 69 = dktX0_barBy_3 := dk_seg dksX0_barBy_2 24 rfl rfl
theorem dksX0_barBy_4 : cX0_barBy.data.toList.drop 92 = dktX0_barBy_4 := dk_seg dksX0_barBy_3 23 rfl rfl
theorem dksX0_barBy_5 : cX0_barBy.data.toList.drop 114 = dktX0_barBy_5 := dk_seg dksX0_barBy_4 22 rfl rfl
theorem dksX0_barBy_6 : cX0_barBy.data.toList.drop 137 = dktX0_barBy_6 := dk_seg dksX0_barBy_5 23 rfl rfl
theorem dX0_barBy_0 : decode cX0_barBy 0 = .ok (.aload_n 0, 1) := dk_42 (dk_at dksX0_barBy_0 0 rfl rfl)
theorem dX0_barBy_1 : decode cX0_barBy 1 = .ok (.iload_n 1, 1) := dk_27 (dk_at dksX0_barBy_0 1 rfl rfl)
theorem dX0_barBy_2 : decode cX0_barBy 2 = .ok (.iload_n 2, 1) := dk_28 (dk_at dksX0_barBy_0 2 rfl rfl)
theorem dX0_barBy_3 : decode cX0_barBy 3 = .ok (.iload_n 3, 1) := dk_29 (dk_at dksX0_barBy_0 3 rfl rfl)
theorem dX0_barBy_4 : decode cX0_barBy 4 = .ok (.iconst 0, 1) := dk_3 (dk_at dksX0_barBy_0 4 rfl rfl)
theorem dX0_barBy_5 : decode cX0_barBy 5 = .ok (.invokevirtual 391, 3) := dk_182 1 135 (dk_at dksX0_barBy_0 5 rfl rfl)
theorem dX0_barBy_8 : decode cX0_barBy 8 = .ok (.istore 4, 2) := dk_54 4 (dk_at dksX0_barBy_0 8 rfl rfl)
theorem dX0_barBy_10 : decode cX0_barBy 10 = .ok (.iload 4, 2) := dk_21 4 (dk_at dksX0_barBy_0 10 rfl rfl)
theorem dX0_barBy_12 : decode cX0_barBy 12 = .ok (.ifCond .le 21, 3) := dk_158 0 21 (dk_at dksX0_barBy_0 12 rfl rfl)
theorem dX0_barBy_15 : decode cX0_barBy 15 = .ok (.new 277, 3) := dk_187 1 21 (dk_at dksX0_barBy_0 15 rfl rfl)
theorem dX0_barBy_18 : decode cX0_barBy 18 = .ok (.dup, 1) := dk_89 (dk_at dksX0_barBy_0 18 rfl rfl)
theorem dX0_barBy_19 : decode cX0_barBy 19 = .ok (.iload 4, 2) := dk_21 4 (dk_at dksX0_barBy_0 19 rfl rfl)
theorem dX0_barBy_21 : decode cX0_barBy 21 = .ok (.aload_n 0, 1) := dk_42 (dk_at dksX0_barBy_0 21 rfl rfl)
theorem dX0_barBy_22 : decode cX0_barBy 22 = .ok (.getfield 388, 3) := dk_180 1 132 (dk_at dksX0_barBy_1 0 rfl rfl)
theorem dX0_barBy_25 : decode cX0_barBy 25 = .ok (.aload_n 0, 1) := dk_42 (dk_at dksX0_barBy_1 3 rfl rfl)
theorem dX0_barBy_26 : decode cX0_barBy 26 = .ok (.getfield 379, 3) := dk_180 1 123 (dk_at dksX0_barBy_1 4 rfl rfl)
theorem dX0_barBy_29 : decode cX0_barBy 29 = .ok (.invokespecial 395, 3) := dk_183 1 139 (dk_at dksX0_barBy_1 7 rfl rfl)
theorem dX0_barBy_32 : decode cX0_barBy 32 = .ok (.areturn, 1) := dk_176 (dk_at dksX0_barBy_1 10 rfl rfl)
theorem dX0_barBy_33 : decode cX0_barBy 33 = .ok (.aload_n 0, 1) := dk_42 (dk_at dksX0_barBy_1 11 rfl rfl)
theorem dX0_barBy_34 : decode cX0_barBy 34 = .ok (.getfield 12, 3) := dk_180 0 12 (dk_at dksX0_barBy_1 12 rfl rfl)
theorem dX0_barBy_37 : decode cX0_barBy 37 = .ok (.getfield 117, 3) := dk_180 0 117 (dk_at dksX0_barBy_1 15 rfl rfl)
theorem dX0_barBy_40 : decode cX0_barBy 40 = .ok (.invokevirtual 330, 3) := dk_182 1 74 (dk_at dksX0_barBy_1 18 rfl rfl)
theorem dX0_barBy_43 : decode cX0_barBy 43 = .ok (.astore 5, 2) := dk_58 5 (dk_at dksX0_barBy_1 21 rfl rfl)
theorem dX0_barBy_45 : decode cX0_barBy 45 = .ok (.aload 5, 2) := dk_25 5 (dk_at dksX0_barBy_2 0 rfl rfl)
theorem dX0_barBy_47 : decode cX0_barBy 47 = .ok (.invokeinterface 204 1, 5) := by decide +kernel
theorem dX0_barBy_52 : decode cX0_barBy 52 = .ok (.ifCond .eq 78, 3) := dk_153 0 78 (dk_at dksX0_barBy_2 7 rfl rfl)
theorem dX0_barBy_55 : decode cX0_barBy 55 = .ok (.aload 5, 2) := dk_25 5 (dk_at dksX0_barBy_2 10 rfl rfl)
theorem dX0_barBy_57 : decode cX0_barBy 57 = .ok (.invokeinterface 210 1, 5) := by decide +kernel
theorem dX0_barBy_62 : decode cX0_barBy 62 = .ok (.checkcast 160, 3) := dk_192 0 160 (dk_at dksX0_barBy_2 17 rfl rfl)
theorem dX0_barBy_65 : decode cX0_barBy 65 = .ok (.astore 6, 2) := dk_58 6 (dk_at dksX0_barBy_2 20 rfl rfl)
theorem dX0_barBy_67 : decode cX0_barBy 67 = .ok (.aload 6, 2) := dk_25 6 (dk_at dksX0_barBy_2 22 rfl rfl)
theorem dX0_barBy_69 : decode cX0_barBy 69 = .ok (.getfield 159, 3) := dk_180 0 159 (dk_at dksX0_barBy_3 0 rfl rfl)
theorem dX0_barBy_72 : decode cX0_barBy 72 = .ok (.iload_n 2, 1) := dk_28 (dk_at dksX0_barBy_3 3 rfl rfl)
theorem dX0_barBy_73 : decode cX0_barBy 73 = .ok (.if_icmp .eq (-28), 3) := dk_159 255 228 (dk_at dksX0_barBy_3 4 rfl rfl)
theorem dX0_barBy_76 : decode cX0_barBy 76 = .ok (.aload 6, 2) := dk_25 6 (dk_at dksX0_barBy_3 7 rfl rfl)
theorem dX0_barBy_78 : decode cX0_barBy 78 = .ok (.iload_n 1, 1) := dk_27 (dk_at dksX0_barBy_3 9 rfl rfl)
theorem dX0_barBy_79 : decode cX0_barBy 79 = .ok (.invokevirtual 186, 3) := dk_182 0 186 (dk_at dksX0_barBy_3 10 rfl rfl)
theorem dX0_barBy_82 : decode cX0_barBy 82 = .ok (.iconst (-1), 1) := dk_2 (dk_at dksX0_barBy_3 13 rfl rfl)
theorem dX0_barBy_83 : decode cX0_barBy 83 = .ok (.if_icmp .eq (-38), 3) := dk_159 255 218 (dk_at dksX0_barBy_3 14 rfl rfl)
theorem dX0_barBy_86 : decode cX0_barBy 86 = .ok (.aload_n 0, 1) := dk_42 (dk_at dksX0_barBy_3 17 rfl rfl)
theorem dX0_barBy_87 : decode cX0_barBy 87 = .ok (.aload 6, 2) := dk_25 6 (dk_at dksX0_barBy_3 18 rfl rfl)
theorem dX0_barBy_89 : decode cX0_barBy 89 = .ok (.invokevirtual 345, 3) := dk_182 1 89 (dk_at dksX0_barBy_3 20 rfl rfl)
theorem dX0_barBy_92 : decode cX0_barBy 92 = .ok (.bipush (-2), 2) := dk_16 254 (dk_at dksX0_barBy_4 0 rfl rfl)
theorem dX0_barBy_94 : decode cX0_barBy 94 = .ok (.if_icmp .eq (-49), 3) := dk_159 255 207 (dk_at dksX0_barBy_4 2 rfl rfl)
theorem dX0_barBy_97 : decode cX0_barBy 97 = .ok (.aload_n 0, 1) := dk_42 (dk_at dksX0_barBy_4 5 rfl rfl)
theorem dX0_barBy_98 : decode cX0_barBy 98 = .ok (.aload 6, 2) := dk_25 6 (dk_at dksX0_barBy_4 6 rfl rfl)
theorem dX0_barBy_100 : decode cX0_barBy 100 = .ok (.getfield 398, 3) := dk_180 1 142 (dk_at dksX0_barBy_4 8 rfl rfl)
theorem dX0_barBy_103 : decode cX0_barBy 103 = .ok (.iload_n 1, 1) := dk_27 (dk_at dksX0_barBy_4 11 rfl rfl)
theorem dX0_barBy_104 : decode cX0_barBy 104 = .ok (.invokevirtual 224, 3) := dk_182 0 224 (dk_at dksX0_barBy_4 12 rfl rfl)
theorem dX0_barBy_107 : decode cX0_barBy 107 = .ok (.iload_n 3, 1) := dk_29 (dk_at dksX0_barBy_4 15 rfl rfl)
theorem dX0_barBy_108 : decode cX0_barBy 108 = .ok (.if_icmp .lt 6, 3) := dk_161 0 6 (dk_at dksX0_barBy_4 16 rfl rfl)
theorem dX0_barBy_111 : decode cX0_barBy 111 = .ok (.goto (-66), 3) := dk_167 255 190 (dk_at dksX0_barBy_4 19 rfl rfl)
theorem dX0_barBy_114 : decode cX0_barBy 114 = .ok (.new 277, 3) := dk_187 1 21 (dk_at dksX0_barBy_5 0 rfl rfl)
theorem dX0_barBy_117 : decode cX0_barBy 117 = .ok (.dup, 1) := dk_89 (dk_at dksX0_barBy_5 3 rfl rfl)
theorem dX0_barBy_118 : decode cX0_barBy 118 = .ok (.iconst 3, 1) := dk_6 (dk_at dksX0_barBy_5 4 rfl rfl)
theorem dX0_barBy_119 : decode cX0_barBy 119 = .ok (.aload 6, 2) := dk_25 6 (dk_at dksX0_barBy_5 5 rfl rfl)
theorem dX0_barBy_121 : decode cX0_barBy 121 = .ok (.getfield 398, 3) := dk_180 1 142 (dk_at dksX0_barBy_5 7 rfl rfl)
theorem dX0_barBy_124 : decode cX0_barBy 124 = .ok (.bipush (-2), 2) := dk_16 254 (dk_at dksX0_barBy_5 10 rfl rfl)
theorem dX0_barBy_126 : decode cX0_barBy 126 = .ok (.invokespecial 395, 3) := dk_183 1 139 (dk_at dksX0_barBy_5 12 rfl rfl)
theorem dX0_barBy_129 : decode cX0_barBy 129 = .ok (.areturn, 1) := dk_176 (dk_at dksX0_barBy_5 15 rfl rfl)
theorem dX0_barBy_130 : decode cX0_barBy 130 = .ok (.new 277, 3) := dk_187 1 21 (dk_at dksX0_barBy_5 16 rfl rfl)
theorem dX0_barBy_133 : decode cX0_barBy 133 = .ok (.dup, 1) := dk_89 (dk_at dksX0_barBy_5 19 rfl rfl)
theorem dX0_barBy_134 : decode cX0_barBy 134 = .ok (.iconst 0, 1) := dk_3 (dk_at dksX0_barBy_5 20 rfl rfl)
theorem dX0_barBy_135 : decode cX0_barBy 135 = .ok (.bipush (-2), 2) := dk_16 254 (dk_at dksX0_barBy_5 21 rfl rfl)
theorem dX0_barBy_137 : decode cX0_barBy 137 = .ok (.bipush (-2), 2) := dk_16 254 (dk_at dksX0_barBy_6 0 rfl rfl)
theorem dX0_barBy_139 : decode cX0_barBy 139 = .ok (.invokespecial 395, 3) := dk_183 1 139 (dk_at dksX0_barBy_6 2 rfl rfl)
theorem dX0_barBy_142 : decode cX0_barBy 142 = .ok (.areturn, 1) := dk_176 (dk_at dksX0_barBy_6 5 rfl rfl)
abbrev cX0_barShown : ByteArray := prog_1_method_59_code
def yX0_barShown : MethodName := ⟨RX0, "barShown", "(IIII)I"⟩
def dkwX0_barShown_11 : List UInt8 := [181, 1, 123, 5, 172, 132, 7, 1, 167, 255, 155, 132, 6, 1, 167, 255, 97, 3, 172]
abbrev dktX0_barShown_11 : List UInt8 := dkwX0_barShown_11 ++ []
def dkwX0_barShown_10 : List UInt8 := [180, 1, 118, 128, 2, 130, 126, 153, 0, 6, 167, 0, 17, 42, 21, 6, 181, 1, 132, 42, 21, 7]
abbrev dktX0_barShown_10 : List UInt8 := dkwX0_barShown_10 ++ dktX0_barShown_11
def dkwX0_barShown_9 : List UInt8 := [185, 0, 243, 2, 0, 192, 1, 114, 180, 1, 118, 25, 5, 21, 7, 185, 0, 243, 2, 0, 192, 1, 114]
abbrev dktX0_barShown_9 : List UInt8 := dkwX0_barShown_9 ++ dktX0_barShown_10
def dkwX0_barShown_8 : List UInt8 := [185, 0, 243, 2, 0, 192, 1, 114, 28, 29, 182, 1, 129, 153, 0, 58, 27, 25, 5, 21, 6]
abbrev dktX0_barShown_8 : List UInt8 := dkwX0_barShown_8 ++ dktX0_barShown_9
def dkwX0_barShown_7 : List UInt8 := [185, 0, 127, 1, 0, 162, 0, 95, 21, 4, 21, 7, 184, 0, 55, 154, 0, 79, 42, 25, 5, 21, 7]
abbrev dktX0_barShown_7 : List UInt8 := dkwX0_barShown_7 ++ dktX0_barShown_8
def dkwX0_barShown_6 : List UInt8 := [192, 1, 114, 28, 29, 182, 1, 129, 154, 0, 6, 167, 0, 113, 21, 6, 4, 96, 54, 7, 21, 7, 25, 5]
abbrev dktX0_barShown_6 : List UInt8 := dkwX0_barShown_6 ++ dktX0_barShown_7
def dkwX0_barShown_5 : List UInt8 := [162, 0, 153, 21, 4, 21, 6, 184, 0, 55, 154, 0, 137, 42, 25, 5, 21, 6, 185, 0, 243, 2, 0]
abbrev dktX0_barShown_5 : List UInt8 := dkwX0_barShown_5 ++ dktX0_barShown_6
def dkwX0_barShown_4 : List UInt8 := [181, 1, 132, 4, 172, 132, 6, 1, 167, 255, 180, 3, 54, 6, 21, 6, 25, 5, 185, 0, 127, 1, 0]
abbrev dktX0_barShown_4 : List UInt8 := dkwX0_barShown_4 ++ dktX0_barShown_5
def dkwX0_barShown_3 : List UInt8 := [185, 0, 243, 2, 0, 192, 1, 114, 28, 29, 182, 1, 129, 154, 0, 6, 167, 0, 11, 42, 21, 6]
abbrev dktX0_barShown_3 : List UInt8 := dkwX0_barShown_3 ++ dktX0_barShown_4
def dkwX0_barShown_2 : List UInt8 := [185, 0, 243, 2, 0, 192, 1, 114, 27, 182, 1, 126, 153, 0, 35, 42, 25, 5, 21, 6]
abbrev dktX0_barShown_2 : List UInt8 := dkwX0_barShown_2 ++ dktX0_barShown_3
def dkwX0_barShown_1 : List UInt8 := [185, 0, 127, 1, 0, 162, 0, 70, 21, 4, 21, 6, 184, 0, 55, 154, 0, 54, 25, 5, 21, 6]
abbrev dktX0_barShown_1 : List UInt8 := dkwX0_barShown_1 ++ dktX0_barShown_2
def dkwX0_barShown_0 : List UInt8 := [42, 180, 0, 12, 180, 0, 138, 58, 5, 42, 16, 254, 181, 1, 123, 3, 54, 6, 21, 6, 25, 5]
abbrev dktX0_barShown_0 : List UInt8 := dkwX0_barShown_0 ++ dktX0_barShown_1
theorem dksX0_barShown_0 : cX0_barShown.data.toList.drop 0 = dktX0_barShown_0 := by decide +kernel
theorem dksX0_barShown_1 : cX0_barShown.data.toList.drop 22 = dktX0_barShown_1 := dk_seg dksX0_barShown_0 22 rfl rfl
theorem dksX0_barShown_2 : cX0_barShown.data.toList.drop 44 = dktX0_barShown_2 := dk_seg dksX0_barShown_1 22 rfl rfl
theorem dksX0_barShown_3 : cX0_barShown.data.toList.drop 64 = dktX0_barShown_3 := dk_seg dksX0_barShown_2 20 rfl rfl
theorem dksX0_barShown_4 : cX0_barShown.data.toList.drop 86 = dktX0_barShown_4 := dk_seg dksX0_barShown_3 22 rfl rfl
theorem dksX0_barShown_5 : cX0_barShown.data.toList.drop 109 = dktX0_barShown_5 := dk_seg dksX0_barShown_4 23 rfl rfl
theorem dksX0_barShown_6 : cX0_barShown.data.toList.drop 132 = dktX0_barShown_6 := dk_seg dksX0_barShown_5 23 rfl rfl
theorem dksX0_barShown_7 : cX0_barShown.data.toList.drop 156 = dktX0_barShown_7 := dk_seg dksX0_barShown_6 24 rfl rfl
theorem dksX0_barShown_8 : cX0_barShown.data.toList.drop 179 = dktX0_barShown_8 := dk_seg dksX0_barShown_7 23 rfl rfl
theorem dksX0_barShown_9 : cX0_barShown.data.toList.drop 200 = dktX0_barShown_9 := dk_seg dksX0_barShown_8 21 rfl rfl
theorem dksX0_barShown_10 : cX0_barShown.data.toList.drop 223 = dktX0_barShown_10 := dk_seg dksX0_barShown_9 23 rfl rfl
theorem dksX0_barShown_11 : cX0_barShown.data.toList.drop 245 = dktX0_barShown_11 := dk_seg dksX0_barShown_10 22 rfl rfl
theorem dX0_barShown_0 : decode cX0_barShown 0 = .ok (.aload_n 0, 1) := dk_42 (dk_at dksX0_barShown_0 0 rfl rfl)
theorem dX0_barShown_1 : decode cX0_barShown 1 = .ok (.getfield 12, 3) := dk_180 0 12 (dk_at dksX0_barShown_0 1 rfl rfl)
theorem dX0_barShown_4 : decode cX0_barShown 4 = .ok (.getfield 138, 3) := dk_180 0 138 (dk_at dksX0_barShown_0 4 rfl rfl)
theorem dX0_barShown_7 : decode cX0_barShown 7 = .ok (.astore 5, 2) := dk_58 5 (dk_at dksX0_barShown_0 7 rfl rfl)
theorem dX0_barShown_9 : decode cX0_barShown 9 = .ok (.aload_n 0, 1) := dk_42 (dk_at dksX0_barShown_0 9 rfl rfl)
theorem dX0_barShown_10 : decode cX0_barShown 10 = .ok (.bipush (-2), 2) := dk_16 254 (dk_at dksX0_barShown_0 10 rfl rfl)
theorem dX0_barShown_12 : decode cX0_barShown 12 = .ok (.putfield 379, 3) := dk_181 1 123 (dk_at dksX0_barShown_0 12 rfl rfl)
theorem dX0_barShown_15 : decode cX0_barShown 15 = .ok (.iconst 0, 1) := dk_3 (dk_at dksX0_barShown_0 15 rfl rfl)
theorem dX0_barShown_16 : decode cX0_barShown 16 = .ok (.istore 6, 2) := dk_54 6 (dk_at dksX0_barShown_0 16 rfl rfl)
theorem dX0_barShown_18 : decode cX0_barShown 18 = .ok (.iload 6, 2) := dk_21 6 (dk_at dksX0_barShown_0 18 rfl rfl)
theorem dX0_barShown_20 : decode cX0_barShown 20 = .ok (.aload 5, 2) := dk_25 5 (dk_at dksX0_barShown_0 20 rfl rfl)
theorem dX0_barShown_22 : decode cX0_barShown 22 = .ok (.invokeinterface 127 1, 5) := by decide +kernel
theorem dX0_barShown_27 : decode cX0_barShown 27 = .ok (.if_icmp .ge 70, 3) := dk_162 0 70 (dk_at dksX0_barShown_1 5 rfl rfl)
theorem dX0_barShown_30 : decode cX0_barShown 30 = .ok (.iload 4, 2) := dk_21 4 (dk_at dksX0_barShown_1 8 rfl rfl)
theorem dX0_barShown_32 : decode cX0_barShown 32 = .ok (.iload 6, 2) := dk_21 6 (dk_at dksX0_barShown_1 10 rfl rfl)
theorem dX0_barShown_34 : decode cX0_barShown 34 = .ok (.invokestatic 55, 3) := dk_184 0 55 (dk_at dksX0_barShown_1 12 rfl rfl)
theorem dX0_barShown_37 : decode cX0_barShown 37 = .ok (.ifCond .ne 54, 3) := dk_154 0 54 (dk_at dksX0_barShown_1 15 rfl rfl)
theorem dX0_barShown_40 : decode cX0_barShown 40 = .ok (.aload 5, 2) := dk_25 5 (dk_at dksX0_barShown_1 18 rfl rfl)
theorem dX0_barShown_42 : decode cX0_barShown 42 = .ok (.iload 6, 2) := dk_21 6 (dk_at dksX0_barShown_1 20 rfl rfl)
theorem dX0_barShown_44 : decode cX0_barShown 44 = .ok (.invokeinterface 243 2, 5) := by decide +kernel
theorem dX0_barShown_49 : decode cX0_barShown 49 = .ok (.checkcast 370, 3) := dk_192 1 114 (dk_at dksX0_barShown_2 5 rfl rfl)
theorem dX0_barShown_52 : decode cX0_barShown 52 = .ok (.iload_n 1, 1) := dk_27 (dk_at dksX0_barShown_2 8 rfl rfl)
theorem dX0_barShown_53 : decode cX0_barShown 53 = .ok (.invokevirtual 382, 3) := dk_182 1 126 (dk_at dksX0_barShown_2 9 rfl rfl)
theorem dX0_barShown_56 : decode cX0_barShown 56 = .ok (.ifCond .eq 35, 3) := dk_153 0 35 (dk_at dksX0_barShown_2 12 rfl rfl)
theorem dX0_barShown_59 : decode cX0_barShown 59 = .ok (.aload_n 0, 1) := dk_42 (dk_at dksX0_barShown_2 15 rfl rfl)
theorem dX0_barShown_60 : decode cX0_barShown 60 = .ok (.aload 5, 2) := dk_25 5 (dk_at dksX0_barShown_2 16 rfl rfl)
theorem dX0_barShown_62 : decode cX0_barShown 62 = .ok (.iload 6, 2) := dk_21 6 (dk_at dksX0_barShown_2 18 rfl rfl)
theorem dX0_barShown_64 : decode cX0_barShown 64 = .ok (.invokeinterface 243 2, 5) := by decide +kernel
theorem dX0_barShown_69 : decode cX0_barShown 69 = .ok (.checkcast 370, 3) := dk_192 1 114 (dk_at dksX0_barShown_3 5 rfl rfl)
theorem dX0_barShown_72 : decode cX0_barShown 72 = .ok (.iload_n 2, 1) := dk_28 (dk_at dksX0_barShown_3 8 rfl rfl)
theorem dX0_barShown_73 : decode cX0_barShown 73 = .ok (.iload_n 3, 1) := dk_29 (dk_at dksX0_barShown_3 9 rfl rfl)
theorem dX0_barShown_74 : decode cX0_barShown 74 = .ok (.invokevirtual 385, 3) := dk_182 1 129 (dk_at dksX0_barShown_3 10 rfl rfl)
theorem dX0_barShown_77 : decode cX0_barShown 77 = .ok (.ifCond .ne 6, 3) := dk_154 0 6 (dk_at dksX0_barShown_3 13 rfl rfl)
theorem dX0_barShown_80 : decode cX0_barShown 80 = .ok (.goto 11, 3) := dk_167 0 11 (dk_at dksX0_barShown_3 16 rfl rfl)
theorem dX0_barShown_83 : decode cX0_barShown 83 = .ok (.aload_n 0, 1) := dk_42 (dk_at dksX0_barShown_3 19 rfl rfl)
theorem dX0_barShown_84 : decode cX0_barShown 84 = .ok (.iload 6, 2) := dk_21 6 (dk_at dksX0_barShown_3 20 rfl rfl)
theorem dX0_barShown_86 : decode cX0_barShown 86 = .ok (.putfield 388, 3) := dk_181 1 132 (dk_at dksX0_barShown_4 0 rfl rfl)
theorem dX0_barShown_89 : decode cX0_barShown 89 = .ok (.iconst 1, 1) := dk_4 (dk_at dksX0_barShown_4 3 rfl rfl)
theorem dX0_barShown_90 : decode cX0_barShown 90 = .ok (.ireturn, 1) := dk_172 (dk_at dksX0_barShown_4 4 rfl rfl)
theorem dX0_barShown_91 : decode cX0_barShown 91 = .ok (.iinc 6 1, 3) := dk_132 6 1 (dk_at dksX0_barShown_4 5 rfl rfl)
theorem dX0_barShown_94 : decode cX0_barShown 94 = .ok (.goto (-76), 3) := dk_167 255 180 (dk_at dksX0_barShown_4 8 rfl rfl)
theorem dX0_barShown_97 : decode cX0_barShown 97 = .ok (.iconst 0, 1) := dk_3 (dk_at dksX0_barShown_4 11 rfl rfl)
theorem dX0_barShown_98 : decode cX0_barShown 98 = .ok (.istore 6, 2) := dk_54 6 (dk_at dksX0_barShown_4 12 rfl rfl)
theorem dX0_barShown_100 : decode cX0_barShown 100 = .ok (.iload 6, 2) := dk_21 6 (dk_at dksX0_barShown_4 14 rfl rfl)
theorem dX0_barShown_102 : decode cX0_barShown 102 = .ok (.aload 5, 2) := dk_25 5 (dk_at dksX0_barShown_4 16 rfl rfl)
theorem dX0_barShown_104 : decode cX0_barShown 104 = .ok (.invokeinterface 127 1, 5) := by decide +kernel
theorem dX0_barShown_109 : decode cX0_barShown 109 = .ok (.if_icmp .ge 153, 3) := dk_162 0 153 (dk_at dksX0_barShown_5 0 rfl rfl)
theorem dX0_barShown_112 : decode cX0_barShown 112 = .ok (.iload 4, 2) := dk_21 4 (dk_at dksX0_barShown_5 3 rfl rfl)
theorem dX0_barShown_114 : decode cX0_barShown 114 = .ok (.iload 6, 2) := dk_21 6 (dk_at dksX0_barShown_5 5 rfl rfl)
theorem dX0_barShown_116 : decode cX0_barShown 116 = .ok (.invokestatic 55, 3) := dk_184 0 55 (dk_at dksX0_barShown_5 7 rfl rfl)
theorem dX0_barShown_119 : decode cX0_barShown 119 = .ok (.ifCond .ne 137, 3) := dk_154 0 137 (dk_at dksX0_barShown_5 10 rfl rfl)
theorem dX0_barShown_122 : decode cX0_barShown 122 = .ok (.aload_n 0, 1) := dk_42 (dk_at dksX0_barShown_5 13 rfl rfl)
theorem dX0_barShown_123 : decode cX0_barShown 123 = .ok (.aload 5, 2) := dk_25 5 (dk_at dksX0_barShown_5 14 rfl rfl)
theorem dX0_barShown_125 : decode cX0_barShown 125 = .ok (.iload 6, 2) := dk_21 6 (dk_at dksX0_barShown_5 16 rfl rfl)
theorem dX0_barShown_127 : decode cX0_barShown 127 = .ok (.invokeinterface 243 2, 5) := by decide +kernel
theorem dX0_barShown_132 : decode cX0_barShown 132 = .ok (.checkcast 370, 3) := dk_192 1 114 (dk_at dksX0_barShown_6 0 rfl rfl)
theorem dX0_barShown_135 : decode cX0_barShown 135 = .ok (.iload_n 2, 1) := dk_28 (dk_at dksX0_barShown_6 3 rfl rfl)
theorem dX0_barShown_136 : decode cX0_barShown 136 = .ok (.iload_n 3, 1) := dk_29 (dk_at dksX0_barShown_6 4 rfl rfl)
theorem dX0_barShown_137 : decode cX0_barShown 137 = .ok (.invokevirtual 385, 3) := dk_182 1 129 (dk_at dksX0_barShown_6 5 rfl rfl)
theorem dX0_barShown_140 : decode cX0_barShown 140 = .ok (.ifCond .ne 6, 3) := dk_154 0 6 (dk_at dksX0_barShown_6 8 rfl rfl)
theorem dX0_barShown_143 : decode cX0_barShown 143 = .ok (.goto 113, 3) := dk_167 0 113 (dk_at dksX0_barShown_6 11 rfl rfl)
theorem dX0_barShown_146 : decode cX0_barShown 146 = .ok (.iload 6, 2) := dk_21 6 (dk_at dksX0_barShown_6 14 rfl rfl)
theorem dX0_barShown_148 : decode cX0_barShown 148 = .ok (.iconst 1, 1) := dk_4 (dk_at dksX0_barShown_6 16 rfl rfl)
theorem dX0_barShown_149 : decode cX0_barShown 149 = .ok (.iadd, 1) := dk_96 (dk_at dksX0_barShown_6 17 rfl rfl)
theorem dX0_barShown_150 : decode cX0_barShown 150 = .ok (.istore 7, 2) := dk_54 7 (dk_at dksX0_barShown_6 18 rfl rfl)
theorem dX0_barShown_152 : decode cX0_barShown 152 = .ok (.iload 7, 2) := dk_21 7 (dk_at dksX0_barShown_6 20 rfl rfl)
theorem dX0_barShown_154 : decode cX0_barShown 154 = .ok (.aload 5, 2) := dk_25 5 (dk_at dksX0_barShown_6 22 rfl rfl)
theorem dX0_barShown_156 : decode cX0_barShown 156 = .ok (.invokeinterface 127 1, 5) := by decide +kernel
theorem dX0_barShown_161 : decode cX0_barShown 161 = .ok (.if_icmp .ge 95, 3) := dk_162 0 95 (dk_at dksX0_barShown_7 5 rfl rfl)
theorem dX0_barShown_164 : decode cX0_barShown 164 = .ok (.iload 4, 2) := dk_21 4 (dk_at dksX0_barShown_7 8 rfl rfl)
theorem dX0_barShown_166 : decode cX0_barShown 166 = .ok (.iload 7, 2) := dk_21 7 (dk_at dksX0_barShown_7 10 rfl rfl)
theorem dX0_barShown_168 : decode cX0_barShown 168 = .ok (.invokestatic 55, 3) := dk_184 0 55 (dk_at dksX0_barShown_7 12 rfl rfl)
theorem dX0_barShown_171 : decode cX0_barShown 171 = .ok (.ifCond .ne 79, 3) := dk_154 0 79 (dk_at dksX0_barShown_7 15 rfl rfl)
theorem dX0_barShown_174 : decode cX0_barShown 174 = .ok (.aload_n 0, 1) := dk_42 (dk_at dksX0_barShown_7 18 rfl rfl)
theorem dX0_barShown_175 : decode cX0_barShown 175 = .ok (.aload 5, 2) := dk_25 5 (dk_at dksX0_barShown_7 19 rfl rfl)
theorem dX0_barShown_177 : decode cX0_barShown 177 = .ok (.iload 7, 2) := dk_21 7 (dk_at dksX0_barShown_7 21 rfl rfl)
theorem dX0_barShown_179 : decode cX0_barShown 179 = .ok (.invokeinterface 243 2, 5) := by decide +kernel
theorem dX0_barShown_184 : decode cX0_barShown 184 = .ok (.checkcast 370, 3) := dk_192 1 114 (dk_at dksX0_barShown_8 5 rfl rfl)
theorem dX0_barShown_187 : decode cX0_barShown 187 = .ok (.iload_n 2, 1) := dk_28 (dk_at dksX0_barShown_8 8 rfl rfl)
theorem dX0_barShown_188 : decode cX0_barShown 188 = .ok (.iload_n 3, 1) := dk_29 (dk_at dksX0_barShown_8 9 rfl rfl)
theorem dX0_barShown_189 : decode cX0_barShown 189 = .ok (.invokevirtual 385, 3) := dk_182 1 129 (dk_at dksX0_barShown_8 10 rfl rfl)
theorem dX0_barShown_192 : decode cX0_barShown 192 = .ok (.ifCond .eq 58, 3) := dk_153 0 58 (dk_at dksX0_barShown_8 13 rfl rfl)
theorem dX0_barShown_195 : decode cX0_barShown 195 = .ok (.iload_n 1, 1) := dk_27 (dk_at dksX0_barShown_8 16 rfl rfl)
theorem dX0_barShown_196 : decode cX0_barShown 196 = .ok (.aload 5, 2) := dk_25 5 (dk_at dksX0_barShown_8 17 rfl rfl)
theorem dX0_barShown_198 : decode cX0_barShown 198 = .ok (.iload 6, 2) := dk_21 6 (dk_at dksX0_barShown_8 19 rfl rfl)
theorem dX0_barShown_200 : decode cX0_barShown 200 = .ok (.invokeinterface 243 2, 5) := by decide +kernel
theorem dX0_barShown_205 : decode cX0_barShown 205 = .ok (.checkcast 370, 3) := dk_192 1 114 (dk_at dksX0_barShown_9 5 rfl rfl)
theorem dX0_barShown_208 : decode cX0_barShown 208 = .ok (.getfield 374, 3) := dk_180 1 118 (dk_at dksX0_barShown_9 8 rfl rfl)
theorem dX0_barShown_211 : decode cX0_barShown 211 = .ok (.aload 5, 2) := dk_25 5 (dk_at dksX0_barShown_9 11 rfl rfl)
theorem dX0_barShown_213 : decode cX0_barShown 213 = .ok (.iload 7, 2) := dk_21 7 (dk_at dksX0_barShown_9 13 rfl rfl)
theorem dX0_barShown_215 : decode cX0_barShown 215 = .ok (.invokeinterface 243 2, 5) := by decide +kernel
theorem dX0_barShown_220 : decode cX0_barShown 220 = .ok (.checkcast 370, 3) := dk_192 1 114 (dk_at dksX0_barShown_9 20 rfl rfl)
theorem dX0_barShown_223 : decode cX0_barShown 223 = .ok (.getfield 374, 3) := dk_180 1 118 (dk_at dksX0_barShown_10 0 rfl rfl)
theorem dX0_barShown_226 : decode cX0_barShown 226 = .ok (.ior, 1) := dk_128 (dk_at dksX0_barShown_10 3 rfl rfl)
theorem dX0_barShown_227 : decode cX0_barShown 227 = .ok (.iconst (-1), 1) := dk_2 (dk_at dksX0_barShown_10 4 rfl rfl)
theorem dX0_barShown_228 : decode cX0_barShown 228 = .ok (.ixor, 1) := dk_130 (dk_at dksX0_barShown_10 5 rfl rfl)
theorem dX0_barShown_229 : decode cX0_barShown 229 = .ok (.iand, 1) := dk_126 (dk_at dksX0_barShown_10 6 rfl rfl)
theorem dX0_barShown_230 : decode cX0_barShown 230 = .ok (.ifCond .eq 6, 3) := dk_153 0 6 (dk_at dksX0_barShown_10 7 rfl rfl)
theorem dX0_barShown_233 : decode cX0_barShown 233 = .ok (.goto 17, 3) := dk_167 0 17 (dk_at dksX0_barShown_10 10 rfl rfl)
theorem dX0_barShown_236 : decode cX0_barShown 236 = .ok (.aload_n 0, 1) := dk_42 (dk_at dksX0_barShown_10 13 rfl rfl)
theorem dX0_barShown_237 : decode cX0_barShown 237 = .ok (.iload 6, 2) := dk_21 6 (dk_at dksX0_barShown_10 14 rfl rfl)
theorem dX0_barShown_239 : decode cX0_barShown 239 = .ok (.putfield 388, 3) := dk_181 1 132 (dk_at dksX0_barShown_10 16 rfl rfl)
theorem dX0_barShown_242 : decode cX0_barShown 242 = .ok (.aload_n 0, 1) := dk_42 (dk_at dksX0_barShown_10 19 rfl rfl)
theorem dX0_barShown_243 : decode cX0_barShown 243 = .ok (.iload 7, 2) := dk_21 7 (dk_at dksX0_barShown_10 20 rfl rfl)
theorem dX0_barShown_245 : decode cX0_barShown 245 = .ok (.putfield 379, 3) := dk_181 1 123 (dk_at dksX0_barShown_11 0 rfl rfl)
theorem dX0_barShown_248 : decode cX0_barShown 248 = .ok (.iconst 2, 1) := dk_5 (dk_at dksX0_barShown_11 3 rfl rfl)
theorem dX0_barShown_249 : decode cX0_barShown 249 = .ok (.ireturn, 1) := dk_172 (dk_at dksX0_barShown_11 4 rfl rfl)
theorem dX0_barShown_250 : decode cX0_barShown 250 = .ok (.iinc 7 1, 3) := dk_132 7 1 (dk_at dksX0_barShown_11 5 rfl rfl)
theorem dX0_barShown_253 : decode cX0_barShown 253 = .ok (.goto (-101), 3) := dk_167 255 155 (dk_at dksX0_barShown_11 8 rfl rfl)
theorem dX0_barShown_256 : decode cX0_barShown 256 = .ok (.iinc 6 1, 3) := dk_132 6 1 (dk_at dksX0_barShown_11 11 rfl rfl)
theorem dX0_barShown_259 : decode cX0_barShown 259 = .ok (.goto (-159), 3) := dk_167 255 97 (dk_at dksX0_barShown_11 14 rfl rfl)
theorem dX0_barShown_262 : decode cX0_barShown 262 = .ok (.iconst 0, 1) := dk_3 (dk_at dksX0_barShown_11 17 rfl rfl)
theorem dX0_barShown_263 : decode cX0_barShown 263 = .ok (.ireturn, 1) := dk_172 (dk_at dksX0_barShown_11 18 rfl rfl)
abbrev cX0_counts : ByteArray := prog_1_method_58_code
def yX0_counts : MethodName := ⟨RX0, "counts", "(LFilingChains$Thing;II)Z"⟩
def dkwX0_counts_0 : List UInt8 := [43, 180, 1, 117, 29, 162, 0, 17, 42, 43, 28, 29, 182, 1, 119, 154, 0, 7, 4, 167, 0, 4, 3, 172]
abbrev dktX0_counts_0 : List UInt8 := dkwX0_counts_0 ++ []
theorem dksX0_counts_0 : cX0_counts.data.toList.drop 0 = dktX0_counts_0 := by decide +kernel
theorem dX0_counts_0 : decode cX0_counts 0 = .ok (.aload_n 1, 1) := dk_43 (dk_at dksX0_counts_0 0 rfl rfl)
theorem dX0_counts_1 : decode cX0_counts 1 = .ok (.getfield 373, 3) := dk_180 1 117 (dk_at dksX0_counts_0 1 rfl rfl)
theorem dX0_counts_4 : decode cX0_counts 4 = .ok (.iload_n 3, 1) := dk_29 (dk_at dksX0_counts_0 4 rfl rfl)
theorem dX0_counts_5 : decode cX0_counts 5 = .ok (.if_icmp .ge 17, 3) := dk_162 0 17 (dk_at dksX0_counts_0 5 rfl rfl)
theorem dX0_counts_8 : decode cX0_counts 8 = .ok (.aload_n 0, 1) := dk_42 (dk_at dksX0_counts_0 8 rfl rfl)
theorem dX0_counts_9 : decode cX0_counts 9 = .ok (.aload_n 1, 1) := dk_43 (dk_at dksX0_counts_0 9 rfl rfl)
theorem dX0_counts_10 : decode cX0_counts 10 = .ok (.iload_n 2, 1) := dk_28 (dk_at dksX0_counts_0 10 rfl rfl)
theorem dX0_counts_11 : decode cX0_counts 11 = .ok (.iload_n 3, 1) := dk_29 (dk_at dksX0_counts_0 11 rfl rfl)
theorem dX0_counts_12 : decode cX0_counts 12 = .ok (.invokevirtual 375, 3) := dk_182 1 119 (dk_at dksX0_counts_0 12 rfl rfl)
theorem dX0_counts_15 : decode cX0_counts 15 = .ok (.ifCond .ne 7, 3) := dk_154 0 7 (dk_at dksX0_counts_0 15 rfl rfl)
theorem dX0_counts_18 : decode cX0_counts 18 = .ok (.iconst 1, 1) := dk_4 (dk_at dksX0_counts_0 18 rfl rfl)
theorem dX0_counts_19 : decode cX0_counts 19 = .ok (.goto 4, 3) := dk_167 0 4 (dk_at dksX0_counts_0 19 rfl rfl)
theorem dX0_counts_22 : decode cX0_counts 22 = .ok (.iconst 0, 1) := dk_3 (dk_at dksX0_counts_0 22 rfl rfl)
theorem dX0_counts_23 : decode cX0_counts 23 = .ok (.ireturn, 1) := dk_172 (dk_at dksX0_counts_0 23 rfl rfl)
abbrev cX0_isGraced : ByteArray := prog_1_method_57_code
def yX0_isGraced : MethodName := ⟨RX0, "isGraced", "(LFilingChains$Thing;II)Z"⟩
def dkwX0_isGraced_1 : List UInt8 := [163, 0, 7, 4, 167, 0, 4, 3, 172]
abbrev dktX0_isGraced_1 : List UInt8 := dkwX0_isGraced_1 ++ []
def dkwX0_isGraced_0 : List UInt8 := [43, 180, 1, 116, 28, 160, 0, 25, 29, 43, 180, 1, 117, 100, 42, 180, 0, 12, 180, 0, 178, 4, 46]
abbrev dktX0_isGraced_0 : List UInt8 := dkwX0_isGraced_0 ++ dktX0_isGraced_1
theorem dksX0_isGraced_0 : cX0_isGraced.data.toList.drop 0 = dktX0_isGraced_0 := by decide +kernel
theorem dksX0_isGraced_1 : cX0_isGraced.data.toList.drop 23 = dktX0_isGraced_1 := dk_seg dksX0_isGraced_0 23 rfl rfl
theorem dX0_isGraced_0 : decode cX0_isGraced 0 = .ok (.aload_n 1, 1) := dk_43 (dk_at dksX0_isGraced_0 0 rfl rfl)
theorem dX0_isGraced_1 : decode cX0_isGraced 1 = .ok (.getfield 372, 3) := dk_180 1 116 (dk_at dksX0_isGraced_0 1 rfl rfl)
theorem dX0_isGraced_4 : decode cX0_isGraced 4 = .ok (.iload_n 2, 1) := dk_28 (dk_at dksX0_isGraced_0 4 rfl rfl)
theorem dX0_isGraced_5 : decode cX0_isGraced 5 = .ok (.if_icmp .ne 25, 3) := dk_160 0 25 (dk_at dksX0_isGraced_0 5 rfl rfl)
theorem dX0_isGraced_8 : decode cX0_isGraced 8 = .ok (.iload_n 3, 1) := dk_29 (dk_at dksX0_isGraced_0 8 rfl rfl)
theorem dX0_isGraced_9 : decode cX0_isGraced 9 = .ok (.aload_n 1, 1) := dk_43 (dk_at dksX0_isGraced_0 9 rfl rfl)
theorem dX0_isGraced_10 : decode cX0_isGraced 10 = .ok (.getfield 373, 3) := dk_180 1 117 (dk_at dksX0_isGraced_0 10 rfl rfl)
theorem dX0_isGraced_13 : decode cX0_isGraced 13 = .ok (.isub, 1) := dk_100 (dk_at dksX0_isGraced_0 13 rfl rfl)
theorem dX0_isGraced_14 : decode cX0_isGraced 14 = .ok (.aload_n 0, 1) := dk_42 (dk_at dksX0_isGraced_0 14 rfl rfl)
theorem dX0_isGraced_15 : decode cX0_isGraced 15 = .ok (.getfield 12, 3) := dk_180 0 12 (dk_at dksX0_isGraced_0 15 rfl rfl)
theorem dX0_isGraced_18 : decode cX0_isGraced 18 = .ok (.getfield 178, 3) := dk_180 0 178 (dk_at dksX0_isGraced_0 18 rfl rfl)
theorem dX0_isGraced_21 : decode cX0_isGraced 21 = .ok (.iconst 1, 1) := dk_4 (dk_at dksX0_isGraced_0 21 rfl rfl)
theorem dX0_isGraced_22 : decode cX0_isGraced 22 = .ok (.iaload, 1) := dk_46 (dk_at dksX0_isGraced_0 22 rfl rfl)
theorem dX0_isGraced_23 : decode cX0_isGraced 23 = .ok (.if_icmp .gt 7, 3) := dk_163 0 7 (dk_at dksX0_isGraced_1 0 rfl rfl)
theorem dX0_isGraced_26 : decode cX0_isGraced 26 = .ok (.iconst 1, 1) := dk_4 (dk_at dksX0_isGraced_1 3 rfl rfl)
theorem dX0_isGraced_27 : decode cX0_isGraced 27 = .ok (.goto 4, 3) := dk_167 0 4 (dk_at dksX0_isGraced_1 4 rfl rfl)
theorem dX0_isGraced_30 : decode cX0_isGraced 30 = .ok (.iconst 0, 1) := dk_3 (dk_at dksX0_isGraced_1 7 rfl rfl)
theorem dX0_isGraced_31 : decode cX0_isGraced 31 = .ok (.ireturn, 1) := dk_172 (dk_at dksX0_isGraced_1 8 rfl rfl)
abbrev cX0_opens : ByteArray := prog_1_method_46_code
def yX0_opens : MethodName := ⟨RX0, "opens", "(LFilingChains$Filing;)I"⟩
def dkwX0_opens_1 : List UInt8 := [167, 0, 5, 16, 254, 172]
abbrev dktX0_opens_1 : List UInt8 := dkwX0_opens_1 ++ []
def dkwX0_opens_0 : List UInt8 := [43, 180, 0, 172, 42, 180, 0, 12, 180, 0, 178, 5, 46, 96, 61, 43, 28, 182, 0, 182, 153, 0, 7, 28]
abbrev dktX0_opens_0 : List UInt8 := dkwX0_opens_0 ++ dktX0_opens_1
theorem dksX0_opens_0 : cX0_opens.data.toList.drop 0 = dktX0_opens_0 := by decide +kernel
theorem dksX0_opens_1 : cX0_opens.data.toList.drop 24 = dktX0_opens_1 := dk_seg dksX0_opens_0 24 rfl rfl
theorem dX0_opens_0 : decode cX0_opens 0 = .ok (.aload_n 1, 1) := dk_43 (dk_at dksX0_opens_0 0 rfl rfl)
theorem dX0_opens_1 : decode cX0_opens 1 = .ok (.getfield 172, 3) := dk_180 0 172 (dk_at dksX0_opens_0 1 rfl rfl)
theorem dX0_opens_4 : decode cX0_opens 4 = .ok (.aload_n 0, 1) := dk_42 (dk_at dksX0_opens_0 4 rfl rfl)
theorem dX0_opens_5 : decode cX0_opens 5 = .ok (.getfield 12, 3) := dk_180 0 12 (dk_at dksX0_opens_0 5 rfl rfl)
theorem dX0_opens_8 : decode cX0_opens 8 = .ok (.getfield 178, 3) := dk_180 0 178 (dk_at dksX0_opens_0 8 rfl rfl)
theorem dX0_opens_11 : decode cX0_opens 11 = .ok (.iconst 2, 1) := dk_5 (dk_at dksX0_opens_0 11 rfl rfl)
theorem dX0_opens_12 : decode cX0_opens 12 = .ok (.iaload, 1) := dk_46 (dk_at dksX0_opens_0 12 rfl rfl)
theorem dX0_opens_13 : decode cX0_opens 13 = .ok (.iadd, 1) := dk_96 (dk_at dksX0_opens_0 13 rfl rfl)
theorem dX0_opens_14 : decode cX0_opens 14 = .ok (.istore_n 2, 1) := dk_61 (dk_at dksX0_opens_0 14 rfl rfl)
theorem dX0_opens_15 : decode cX0_opens 15 = .ok (.aload_n 1, 1) := dk_43 (dk_at dksX0_opens_0 15 rfl rfl)
theorem dX0_opens_16 : decode cX0_opens 16 = .ok (.iload_n 2, 1) := dk_28 (dk_at dksX0_opens_0 16 rfl rfl)
theorem dX0_opens_17 : decode cX0_opens 17 = .ok (.invokevirtual 182, 3) := dk_182 0 182 (dk_at dksX0_opens_0 17 rfl rfl)
theorem dX0_opens_20 : decode cX0_opens 20 = .ok (.ifCond .eq 7, 3) := dk_153 0 7 (dk_at dksX0_opens_0 20 rfl rfl)
theorem dX0_opens_23 : decode cX0_opens 23 = .ok (.iload_n 2, 1) := dk_28 (dk_at dksX0_opens_0 23 rfl rfl)
theorem dX0_opens_24 : decode cX0_opens 24 = .ok (.goto 5, 3) := dk_167 0 5 (dk_at dksX0_opens_1 0 rfl rfl)
theorem dX0_opens_27 : decode cX0_opens 27 = .ok (.bipush (-2), 2) := dk_16 254 (dk_at dksX0_opens_1 3 rfl rfl)
theorem dX0_opens_29 : decode cX0_opens 29 = .ok (.ireturn, 1) := dk_172 (dk_at dksX0_opens_1 5 rfl rfl)
abbrev cX0_letter : ByteArray := prog_1_method_45_code
def yX0_letter : MethodName := ⟨RX0, "letter", "(III)I"⟩
def dkwX0_letter_4 : List UInt8 := [96, 167, 0, 4, 3, 172]
abbrev dktX0_letter_4 : List UInt8 := dkwX0_letter_4 ++ []
def dkwX0_letter_3 : List UInt8 := [192, 1, 30, 58, 5, 29, 25, 5, 182, 1, 32, 162, 0, 17, 25, 5, 29, 182, 1, 35, 16, 97, 100, 4]
abbrev dktX0_letter_3 : List UInt8 := dkwX0_letter_3 ++ dktX0_letter_4
def dkwX0_letter_2 : List UInt8 := [28, 25, 4, 185, 0, 127, 1, 0, 184, 0, 124, 154, 0, 5, 2, 172, 25, 4, 28, 185, 0, 243, 2, 0]
abbrev dktX0_letter_2 : List UInt8 := dkwX0_letter_2 ++ dktX0_letter_3
def dkwX0_letter_1 : List UInt8 := [180, 0, 29, 167, 0, 19, 27, 4, 160, 0, 10, 42, 180, 0, 33, 167, 0, 7, 42, 180, 0, 36, 58, 4]
abbrev dktX0_letter_1 : List UInt8 := dkwX0_letter_1 ++ dktX0_letter_2
def dkwX0_letter_0 : List UInt8 := [27, 6, 184, 0, 124, 153, 0, 12, 29, 16, 6, 184, 0, 124, 154, 0, 5, 2, 172, 27, 154, 0, 10, 42]
abbrev dktX0_letter_0 : List UInt8 := dkwX0_letter_0 ++ dktX0_letter_1
theorem dksX0_letter_0 : cX0_letter.data.toList.drop 0 = dktX0_letter_0 := by decide +kernel
theorem dksX0_letter_1 : cX0_letter.data.toList.drop 24 = dktX0_letter_1 := dk_seg dksX0_letter_0 24 rfl rfl
theorem dksX0_letter_2 : cX0_letter.data.toList.drop 48 = dktX0_letter_2 := dk_seg dksX0_letter_1 24 rfl rfl
theorem dksX0_letter_3 : cX0_letter.data.toList.drop 72 = dktX0_letter_3 := dk_seg dksX0_letter_2 24 rfl rfl
theorem dksX0_letter_4 : cX0_letter.data.toList.drop 96 = dktX0_letter_4 := dk_seg dksX0_letter_3 24 rfl rfl
theorem dX0_letter_0 : decode cX0_letter 0 = .ok (.iload_n 1, 1) := dk_27 (dk_at dksX0_letter_0 0 rfl rfl)
theorem dX0_letter_1 : decode cX0_letter 1 = .ok (.iconst 3, 1) := dk_6 (dk_at dksX0_letter_0 1 rfl rfl)
theorem dX0_letter_2 : decode cX0_letter 2 = .ok (.invokestatic 124, 3) := dk_184 0 124 (dk_at dksX0_letter_0 2 rfl rfl)
theorem dX0_letter_5 : decode cX0_letter 5 = .ok (.ifCond .eq 12, 3) := dk_153 0 12 (dk_at dksX0_letter_0 5 rfl rfl)
theorem dX0_letter_8 : decode cX0_letter 8 = .ok (.iload_n 3, 1) := dk_29 (dk_at dksX0_letter_0 8 rfl rfl)
theorem dX0_letter_9 : decode cX0_letter 9 = .ok (.bipush 6, 2) := dk_16 6 (dk_at dksX0_letter_0 9 rfl rfl)
theorem dX0_letter_11 : decode cX0_letter 11 = .ok (.invokestatic 124, 3) := dk_184 0 124 (dk_at dksX0_letter_0 11 rfl rfl)
theorem dX0_letter_14 : decode cX0_letter 14 = .ok (.ifCond .ne 5, 3) := dk_154 0 5 (dk_at dksX0_letter_0 14 rfl rfl)
theorem dX0_letter_17 : decode cX0_letter 17 = .ok (.iconst (-1), 1) := dk_2 (dk_at dksX0_letter_0 17 rfl rfl)
theorem dX0_letter_18 : decode cX0_letter 18 = .ok (.ireturn, 1) := dk_172 (dk_at dksX0_letter_0 18 rfl rfl)
theorem dX0_letter_19 : decode cX0_letter 19 = .ok (.iload_n 1, 1) := dk_27 (dk_at dksX0_letter_0 19 rfl rfl)
theorem dX0_letter_20 : decode cX0_letter 20 = .ok (.ifCond .ne 10, 3) := dk_154 0 10 (dk_at dksX0_letter_0 20 rfl rfl)
theorem dX0_letter_23 : decode cX0_letter 23 = .ok (.aload_n 0, 1) := dk_42 (dk_at dksX0_letter_0 23 rfl rfl)
theorem dX0_letter_24 : decode cX0_letter 24 = .ok (.getfield 29, 3) := dk_180 0 29 (dk_at dksX0_letter_1 0 rfl rfl)
theorem dX0_letter_27 : decode cX0_letter 27 = .ok (.goto 19, 3) := dk_167 0 19 (dk_at dksX0_letter_1 3 rfl rfl)
theorem dX0_letter_30 : decode cX0_letter 30 = .ok (.iload_n 1, 1) := dk_27 (dk_at dksX0_letter_1 6 rfl rfl)
theorem dX0_letter_31 : decode cX0_letter 31 = .ok (.iconst 1, 1) := dk_4 (dk_at dksX0_letter_1 7 rfl rfl)
theorem dX0_letter_32 : decode cX0_letter 32 = .ok (.if_icmp .ne 10, 3) := dk_160 0 10 (dk_at dksX0_letter_1 8 rfl rfl)
theorem dX0_letter_35 : decode cX0_letter 35 = .ok (.aload_n 0, 1) := dk_42 (dk_at dksX0_letter_1 11 rfl rfl)
theorem dX0_letter_36 : decode cX0_letter 36 = .ok (.getfield 33, 3) := dk_180 0 33 (dk_at dksX0_letter_1 12 rfl rfl)
theorem dX0_letter_39 : decode cX0_letter 39 = .ok (.goto 7, 3) := dk_167 0 7 (dk_at dksX0_letter_1 15 rfl rfl)
theorem dX0_letter_42 : decode cX0_letter 42 = .ok (.aload_n 0, 1) := dk_42 (dk_at dksX0_letter_1 18 rfl rfl)
theorem dX0_letter_43 : decode cX0_letter 43 = .ok (.getfield 36, 3) := dk_180 0 36 (dk_at dksX0_letter_1 19 rfl rfl)
theorem dX0_letter_46 : decode cX0_letter 46 = .ok (.astore 4, 2) := dk_58 4 (dk_at dksX0_letter_1 22 rfl rfl)
theorem dX0_letter_48 : decode cX0_letter 48 = .ok (.iload_n 2, 1) := dk_28 (dk_at dksX0_letter_2 0 rfl rfl)
theorem dX0_letter_49 : decode cX0_letter 49 = .ok (.aload 4, 2) := dk_25 4 (dk_at dksX0_letter_2 1 rfl rfl)
theorem dX0_letter_51 : decode cX0_letter 51 = .ok (.invokeinterface 127 1, 5) := by decide +kernel
theorem dX0_letter_56 : decode cX0_letter 56 = .ok (.invokestatic 124, 3) := dk_184 0 124 (dk_at dksX0_letter_2 8 rfl rfl)
theorem dX0_letter_59 : decode cX0_letter 59 = .ok (.ifCond .ne 5, 3) := dk_154 0 5 (dk_at dksX0_letter_2 11 rfl rfl)
theorem dX0_letter_62 : decode cX0_letter 62 = .ok (.iconst (-1), 1) := dk_2 (dk_at dksX0_letter_2 14 rfl rfl)
theorem dX0_letter_63 : decode cX0_letter 63 = .ok (.ireturn, 1) := dk_172 (dk_at dksX0_letter_2 15 rfl rfl)
theorem dX0_letter_64 : decode cX0_letter 64 = .ok (.aload 4, 2) := dk_25 4 (dk_at dksX0_letter_2 16 rfl rfl)
theorem dX0_letter_66 : decode cX0_letter 66 = .ok (.iload_n 2, 1) := dk_28 (dk_at dksX0_letter_2 18 rfl rfl)
theorem dX0_letter_67 : decode cX0_letter 67 = .ok (.invokeinterface 243 2, 5) := by decide +kernel
theorem dX0_letter_72 : decode cX0_letter 72 = .ok (.checkcast 286, 3) := dk_192 1 30 (dk_at dksX0_letter_3 0 rfl rfl)
theorem dX0_letter_75 : decode cX0_letter 75 = .ok (.astore 5, 2) := dk_58 5 (dk_at dksX0_letter_3 3 rfl rfl)
theorem dX0_letter_77 : decode cX0_letter 77 = .ok (.iload_n 3, 1) := dk_29 (dk_at dksX0_letter_3 5 rfl rfl)
theorem dX0_letter_78 : decode cX0_letter 78 = .ok (.aload 5, 2) := dk_25 5 (dk_at dksX0_letter_3 6 rfl rfl)
theorem dX0_letter_80 : decode cX0_letter 80 = .ok (.invokevirtual 288, 3) := dk_182 1 32 (dk_at dksX0_letter_3 8 rfl rfl)
theorem dX0_letter_83 : decode cX0_letter 83 = .ok (.if_icmp .ge 17, 3) := dk_162 0 17 (dk_at dksX0_letter_3 11 rfl rfl)
theorem dX0_letter_86 : decode cX0_letter 86 = .ok (.aload 5, 2) := dk_25 5 (dk_at dksX0_letter_3 14 rfl rfl)
theorem dX0_letter_88 : decode cX0_letter 88 = .ok (.iload_n 3, 1) := dk_29 (dk_at dksX0_letter_3 16 rfl rfl)
theorem dX0_letter_89 : decode cX0_letter 89 = .ok (.invokevirtual 291, 3) := dk_182 1 35 (dk_at dksX0_letter_3 17 rfl rfl)
theorem dX0_letter_92 : decode cX0_letter 92 = .ok (.bipush 97, 2) := dk_16 97 (dk_at dksX0_letter_3 20 rfl rfl)
theorem dX0_letter_94 : decode cX0_letter 94 = .ok (.isub, 1) := dk_100 (dk_at dksX0_letter_3 22 rfl rfl)
theorem dX0_letter_95 : decode cX0_letter 95 = .ok (.iconst 1, 1) := dk_4 (dk_at dksX0_letter_3 23 rfl rfl)
theorem dX0_letter_96 : decode cX0_letter 96 = .ok (.iadd, 1) := dk_96 (dk_at dksX0_letter_4 0 rfl rfl)
theorem dX0_letter_97 : decode cX0_letter 97 = .ok (.goto 4, 3) := dk_167 0 4 (dk_at dksX0_letter_4 1 rfl rfl)
theorem dX0_letter_100 : decode cX0_letter 100 = .ok (.iconst 0, 1) := dk_3 (dk_at dksX0_letter_4 4 rfl rfl)
theorem dX0_letter_101 : decode cX0_letter 101 = .ok (.ireturn, 1) := dk_172 (dk_at dksX0_letter_4 5 rfl rfl)
abbrev cX0_filing : ByteArray := prog_1_method_50_code
def yX0_filing : MethodName := ⟨RX0, "filing", "(II)I"⟩
def dkwX0_filing_5 : List UInt8 := [46, 96, 172, 2, 172]
abbrev dktX0_filing_5 : List UInt8 := dkwX0_filing_5 ++ []
def dkwX0_filing_4 : List UInt8 := [45, 182, 1, 89, 172, 42, 27, 182, 1, 93, 172, 42, 27, 182, 1, 93, 42, 180, 0, 12, 180, 0, 178, 6]
abbrev dktX0_filing_4 : List UInt8 := dkwX0_filing_4 ++ dktX0_filing_5
def dkwX0_filing_3 : List UInt8 := [180, 0, 197, 172, 45, 182, 1, 75, 172, 45, 180, 1, 78, 184, 1, 82, 172, 42, 27, 182, 1, 86, 172, 42]
abbrev dktX0_filing_3 : List UInt8 := dkwX0_filing_3 ++ dktX0_filing_4
def dkwX0_filing_2 : List UInt8 := [45, 180, 0, 159, 172, 45, 180, 0, 172, 172, 45, 180, 0, 197, 2, 160, 0, 8, 16, 254, 167, 0, 7, 45]
abbrev dktX0_filing_2 : List UInt8 := dkwX0_filing_2 ++ dktX0_filing_3
def dkwX0_filing_1 : List UInt8 := [170, 0, 0, 0, 0, 0, 0, 127, 0, 0, 0, 0, 0, 0, 0, 8, 0, 0, 0, 52, 0, 0, 0, 57, 0, 0, 0, 62, 0, 0, 0, 80, 0, 0, 0, 85, 0, 0, 0, 93, 0, 0, 0, 99, 0, 0, 0, 105, 0, 0, 0, 111]
abbrev dktX0_filing_1 : List UInt8 := dkwX0_filing_1 ++ dktX0_filing_2
def dkwX0_filing_0 : List UInt8 := [42, 27, 182, 0, 228, 154, 0, 5, 2, 172, 42, 180, 0, 12, 27, 182, 0, 155, 78, 28]
abbrev dktX0_filing_0 : List UInt8 := dkwX0_filing_0 ++ dktX0_filing_1
theorem dksX0_filing_0 : cX0_filing.data.toList.drop 0 = dktX0_filing_0 := by decide +kernel
theorem dksX0_filing_1 : cX0_filing.data.toList.drop 20 = dktX0_filing_1 := dk_seg dksX0_filing_0 20 rfl rfl
theorem dksX0_filing_2 : cX0_filing.data.toList.drop 72 = dktX0_filing_2 := dk_seg dksX0_filing_1 52 rfl rfl
theorem dksX0_filing_3 : cX0_filing.data.toList.drop 96 = dktX0_filing_3 := dk_seg dksX0_filing_2 24 rfl rfl
theorem dksX0_filing_4 : cX0_filing.data.toList.drop 120 = dktX0_filing_4 := dk_seg dksX0_filing_3 24 rfl rfl
theorem dksX0_filing_5 : cX0_filing.data.toList.drop 144 = dktX0_filing_5 := dk_seg dksX0_filing_4 24 rfl rfl
theorem dX0_filing_0 : decode cX0_filing 0 = .ok (.aload_n 0, 1) := dk_42 (dk_at dksX0_filing_0 0 rfl rfl)
theorem dX0_filing_1 : decode cX0_filing 1 = .ok (.iload_n 1, 1) := dk_27 (dk_at dksX0_filing_0 1 rfl rfl)
theorem dX0_filing_2 : decode cX0_filing 2 = .ok (.invokevirtual 228, 3) := dk_182 0 228 (dk_at dksX0_filing_0 2 rfl rfl)
theorem dX0_filing_5 : decode cX0_filing 5 = .ok (.ifCond .ne 5, 3) := dk_154 0 5 (dk_at dksX0_filing_0 5 rfl rfl)
theorem dX0_filing_8 : decode cX0_filing 8 = .ok (.iconst (-1), 1) := dk_2 (dk_at dksX0_filing_0 8 rfl rfl)
theorem dX0_filing_9 : decode cX0_filing 9 = .ok (.ireturn, 1) := dk_172 (dk_at dksX0_filing_0 9 rfl rfl)
theorem dX0_filing_10 : decode cX0_filing 10 = .ok (.aload_n 0, 1) := dk_42 (dk_at dksX0_filing_0 10 rfl rfl)
theorem dX0_filing_11 : decode cX0_filing 11 = .ok (.getfield 12, 3) := dk_180 0 12 (dk_at dksX0_filing_0 11 rfl rfl)
theorem dX0_filing_14 : decode cX0_filing 14 = .ok (.iload_n 1, 1) := dk_27 (dk_at dksX0_filing_0 14 rfl rfl)
theorem dX0_filing_15 : decode cX0_filing 15 = .ok (.invokevirtual 155, 3) := dk_182 0 155 (dk_at dksX0_filing_0 15 rfl rfl)
theorem dX0_filing_18 : decode cX0_filing 18 = .ok (.astore_n 3, 1) := dk_78 (dk_at dksX0_filing_0 18 rfl rfl)
theorem dX0_filing_19 : decode cX0_filing 19 = .ok (.iload_n 2, 1) := dk_28 (dk_at dksX0_filing_0 19 rfl rfl)
theorem dX0_filing_20 : decode cX0_filing 20 = .ok (.tableswitch 127 0 8 #[52, 57, 62, 80, 85, 93, 99, 105, 111], 52) := by decide +kernel
theorem dX0_filing_72 : decode cX0_filing 72 = .ok (.aload_n 3, 1) := dk_45 (dk_at dksX0_filing_2 0 rfl rfl)
theorem dX0_filing_73 : decode cX0_filing 73 = .ok (.getfield 159, 3) := dk_180 0 159 (dk_at dksX0_filing_2 1 rfl rfl)
theorem dX0_filing_76 : decode cX0_filing 76 = .ok (.ireturn, 1) := dk_172 (dk_at dksX0_filing_2 4 rfl rfl)
theorem dX0_filing_77 : decode cX0_filing 77 = .ok (.aload_n 3, 1) := dk_45 (dk_at dksX0_filing_2 5 rfl rfl)
theorem dX0_filing_78 : decode cX0_filing 78 = .ok (.getfield 172, 3) := dk_180 0 172 (dk_at dksX0_filing_2 6 rfl rfl)
theorem dX0_filing_81 : decode cX0_filing 81 = .ok (.ireturn, 1) := dk_172 (dk_at dksX0_filing_2 9 rfl rfl)
theorem dX0_filing_82 : decode cX0_filing 82 = .ok (.aload_n 3, 1) := dk_45 (dk_at dksX0_filing_2 10 rfl rfl)
theorem dX0_filing_83 : decode cX0_filing 83 = .ok (.getfield 197, 3) := dk_180 0 197 (dk_at dksX0_filing_2 11 rfl rfl)
theorem dX0_filing_86 : decode cX0_filing 86 = .ok (.iconst (-1), 1) := dk_2 (dk_at dksX0_filing_2 14 rfl rfl)
theorem dX0_filing_87 : decode cX0_filing 87 = .ok (.if_icmp .ne 8, 3) := dk_160 0 8 (dk_at dksX0_filing_2 15 rfl rfl)
theorem dX0_filing_90 : decode cX0_filing 90 = .ok (.bipush (-2), 2) := dk_16 254 (dk_at dksX0_filing_2 18 rfl rfl)
theorem dX0_filing_92 : decode cX0_filing 92 = .ok (.goto 7, 3) := dk_167 0 7 (dk_at dksX0_filing_2 20 rfl rfl)
theorem dX0_filing_95 : decode cX0_filing 95 = .ok (.aload_n 3, 1) := dk_45 (dk_at dksX0_filing_2 23 rfl rfl)
theorem dX0_filing_96 : decode cX0_filing 96 = .ok (.getfield 197, 3) := dk_180 0 197 (dk_at dksX0_filing_3 0 rfl rfl)
theorem dX0_filing_99 : decode cX0_filing 99 = .ok (.ireturn, 1) := dk_172 (dk_at dksX0_filing_3 3 rfl rfl)
theorem dX0_filing_100 : decode cX0_filing 100 = .ok (.aload_n 3, 1) := dk_45 (dk_at dksX0_filing_3 4 rfl rfl)
theorem dX0_filing_101 : decode cX0_filing 101 = .ok (.invokevirtual 331, 3) := dk_182 1 75 (dk_at dksX0_filing_3 5 rfl rfl)
theorem dX0_filing_104 : decode cX0_filing 104 = .ok (.ireturn, 1) := dk_172 (dk_at dksX0_filing_3 8 rfl rfl)
theorem dX0_filing_105 : decode cX0_filing 105 = .ok (.aload_n 3, 1) := dk_45 (dk_at dksX0_filing_3 9 rfl rfl)
theorem dX0_filing_106 : decode cX0_filing 106 = .ok (.getfield 334, 3) := dk_180 1 78 (dk_at dksX0_filing_3 10 rfl rfl)
theorem dX0_filing_109 : decode cX0_filing 109 = .ok (.invokestatic 338, 3) := dk_184 1 82 (dk_at dksX0_filing_3 13 rfl rfl)
theorem dX0_filing_112 : decode cX0_filing 112 = .ok (.ireturn, 1) := dk_172 (dk_at dksX0_filing_3 16 rfl rfl)
theorem dX0_filing_113 : decode cX0_filing 113 = .ok (.aload_n 0, 1) := dk_42 (dk_at dksX0_filing_3 17 rfl rfl)
theorem dX0_filing_114 : decode cX0_filing 114 = .ok (.iload_n 1, 1) := dk_27 (dk_at dksX0_filing_3 18 rfl rfl)
theorem dX0_filing_115 : decode cX0_filing 115 = .ok (.invokevirtual 342, 3) := dk_182 1 86 (dk_at dksX0_filing_3 19 rfl rfl)
theorem dX0_filing_118 : decode cX0_filing 118 = .ok (.ireturn, 1) := dk_172 (dk_at dksX0_filing_3 22 rfl rfl)
theorem dX0_filing_119 : decode cX0_filing 119 = .ok (.aload_n 0, 1) := dk_42 (dk_at dksX0_filing_3 23 rfl rfl)
theorem dX0_filing_120 : decode cX0_filing 120 = .ok (.aload_n 3, 1) := dk_45 (dk_at dksX0_filing_4 0 rfl rfl)
theorem dX0_filing_121 : decode cX0_filing 121 = .ok (.invokevirtual 345, 3) := dk_182 1 89 (dk_at dksX0_filing_4 1 rfl rfl)
theorem dX0_filing_124 : decode cX0_filing 124 = .ok (.ireturn, 1) := dk_172 (dk_at dksX0_filing_4 4 rfl rfl)
theorem dX0_filing_125 : decode cX0_filing 125 = .ok (.aload_n 0, 1) := dk_42 (dk_at dksX0_filing_4 5 rfl rfl)
theorem dX0_filing_126 : decode cX0_filing 126 = .ok (.iload_n 1, 1) := dk_27 (dk_at dksX0_filing_4 6 rfl rfl)
theorem dX0_filing_127 : decode cX0_filing 127 = .ok (.invokevirtual 349, 3) := dk_182 1 93 (dk_at dksX0_filing_4 7 rfl rfl)
theorem dX0_filing_130 : decode cX0_filing 130 = .ok (.ireturn, 1) := dk_172 (dk_at dksX0_filing_4 10 rfl rfl)
theorem dX0_filing_131 : decode cX0_filing 131 = .ok (.aload_n 0, 1) := dk_42 (dk_at dksX0_filing_4 11 rfl rfl)
theorem dX0_filing_132 : decode cX0_filing 132 = .ok (.iload_n 1, 1) := dk_27 (dk_at dksX0_filing_4 12 rfl rfl)
theorem dX0_filing_133 : decode cX0_filing 133 = .ok (.invokevirtual 349, 3) := dk_182 1 93 (dk_at dksX0_filing_4 13 rfl rfl)
theorem dX0_filing_136 : decode cX0_filing 136 = .ok (.aload_n 0, 1) := dk_42 (dk_at dksX0_filing_4 16 rfl rfl)
theorem dX0_filing_137 : decode cX0_filing 137 = .ok (.getfield 12, 3) := dk_180 0 12 (dk_at dksX0_filing_4 17 rfl rfl)
theorem dX0_filing_140 : decode cX0_filing 140 = .ok (.getfield 178, 3) := dk_180 0 178 (dk_at dksX0_filing_4 20 rfl rfl)
theorem dX0_filing_143 : decode cX0_filing 143 = .ok (.iconst 3, 1) := dk_6 (dk_at dksX0_filing_4 23 rfl rfl)
theorem dX0_filing_144 : decode cX0_filing 144 = .ok (.iaload, 1) := dk_46 (dk_at dksX0_filing_5 0 rfl rfl)
theorem dX0_filing_145 : decode cX0_filing 145 = .ok (.iadd, 1) := dk_96 (dk_at dksX0_filing_5 1 rfl rfl)
theorem dX0_filing_146 : decode cX0_filing 146 = .ok (.ireturn, 1) := dk_172 (dk_at dksX0_filing_5 2 rfl rfl)
theorem dX0_filing_147 : decode cX0_filing 147 = .ok (.iconst (-1), 1) := dk_2 (dk_at dksX0_filing_5 3 rfl rfl)
theorem dX0_filing_148 : decode cX0_filing 148 = .ok (.ireturn, 1) := dk_172 (dk_at dksX0_filing_5 4 rfl rfl)
abbrev cX0_claimsOf : ByteArray := prog_1_method_49_code
def yX0_claimsOf : MethodName := ⟨RX0, "claimsOf", "(I)I"⟩
def dkwX0_claimsOf_2 : List UInt8 := [3, 96, 61, 167, 255, 219, 28, 172]
abbrev dktX0_claimsOf_2 : List UInt8 := dkwX0_claimsOf_2 ++ []
def dkwX0_claimsOf_1 : List UInt8 := [185, 0, 210, 1, 0, 192, 0, 146, 58, 4, 28, 25, 4, 180, 0, 152, 27, 160, 0, 7, 4, 167, 0, 4]
abbrev dktX0_claimsOf_1 : List UInt8 := dkwX0_claimsOf_1 ++ dktX0_claimsOf_2
def dkwX0_claimsOf_0 : List UInt8 := [3, 61, 42, 180, 0, 12, 180, 0, 135, 182, 1, 74, 78, 45, 185, 0, 204, 1, 0, 153, 0, 34, 45]
abbrev dktX0_claimsOf_0 : List UInt8 := dkwX0_claimsOf_0 ++ dktX0_claimsOf_1
theorem dksX0_claimsOf_0 : cX0_claimsOf.data.toList.drop 0 = dktX0_claimsOf_0 := by decide +kernel
theorem dksX0_claimsOf_1 : cX0_claimsOf.data.toList.drop 23 = dktX0_claimsOf_1 := dk_seg dksX0_claimsOf_0 23 rfl rfl
theorem dksX0_claimsOf_2 : cX0_claimsOf.data.toList.drop 47 = dktX0_claimsOf_2 := dk_seg dksX0_claimsOf_1 24 rfl rfl
theorem dX0_claimsOf_0 : decode cX0_claimsOf 0 = .ok (.iconst 0, 1) := dk_3 (dk_at dksX0_claimsOf_0 0 rfl rfl)
theorem dX0_claimsOf_1 : decode cX0_claimsOf 1 = .ok (.istore_n 2, 1) := dk_61 (dk_at dksX0_claimsOf_0 1 rfl rfl)
theorem dX0_claimsOf_2 : decode cX0_claimsOf 2 = .ok (.aload_n 0, 1) := dk_42 (dk_at dksX0_claimsOf_0 2 rfl rfl)
theorem dX0_claimsOf_3 : decode cX0_claimsOf 3 = .ok (.getfield 12, 3) := dk_180 0 12 (dk_at dksX0_claimsOf_0 3 rfl rfl)
theorem dX0_claimsOf_6 : decode cX0_claimsOf 6 = .ok (.getfield 135, 3) := dk_180 0 135 (dk_at dksX0_claimsOf_0 6 rfl rfl)
theorem dX0_claimsOf_9 : decode cX0_claimsOf 9 = .ok (.invokevirtual 330, 3) := dk_182 1 74 (dk_at dksX0_claimsOf_0 9 rfl rfl)
theorem dX0_claimsOf_12 : decode cX0_claimsOf 12 = .ok (.astore_n 3, 1) := dk_78 (dk_at dksX0_claimsOf_0 12 rfl rfl)
theorem dX0_claimsOf_13 : decode cX0_claimsOf 13 = .ok (.aload_n 3, 1) := dk_45 (dk_at dksX0_claimsOf_0 13 rfl rfl)
theorem dX0_claimsOf_14 : decode cX0_claimsOf 14 = .ok (.invokeinterface 204 1, 5) := by decide +kernel
theorem dX0_claimsOf_19 : decode cX0_claimsOf 19 = .ok (.ifCond .eq 34, 3) := dk_153 0 34 (dk_at dksX0_claimsOf_0 19 rfl rfl)
theorem dX0_claimsOf_22 : decode cX0_claimsOf 22 = .ok (.aload_n 3, 1) := dk_45 (dk_at dksX0_claimsOf_0 22 rfl rfl)
theorem dX0_claimsOf_23 : decode cX0_claimsOf 23 = .ok (.invokeinterface 210 1, 5) := by decide +kernel
theorem dX0_claimsOf_28 : decode cX0_claimsOf 28 = .ok (.checkcast 146, 3) := dk_192 0 146 (dk_at dksX0_claimsOf_1 5 rfl rfl)
theorem dX0_claimsOf_31 : decode cX0_claimsOf 31 = .ok (.astore 4, 2) := dk_58 4 (dk_at dksX0_claimsOf_1 8 rfl rfl)
theorem dX0_claimsOf_33 : decode cX0_claimsOf 33 = .ok (.iload_n 2, 1) := dk_28 (dk_at dksX0_claimsOf_1 10 rfl rfl)
theorem dX0_claimsOf_34 : decode cX0_claimsOf 34 = .ok (.aload 4, 2) := dk_25 4 (dk_at dksX0_claimsOf_1 11 rfl rfl)
theorem dX0_claimsOf_36 : decode cX0_claimsOf 36 = .ok (.getfield 152, 3) := dk_180 0 152 (dk_at dksX0_claimsOf_1 13 rfl rfl)
theorem dX0_claimsOf_39 : decode cX0_claimsOf 39 = .ok (.iload_n 1, 1) := dk_27 (dk_at dksX0_claimsOf_1 16 rfl rfl)
theorem dX0_claimsOf_40 : decode cX0_claimsOf 40 = .ok (.if_icmp .ne 7, 3) := dk_160 0 7 (dk_at dksX0_claimsOf_1 17 rfl rfl)
theorem dX0_claimsOf_43 : decode cX0_claimsOf 43 = .ok (.iconst 1, 1) := dk_4 (dk_at dksX0_claimsOf_1 20 rfl rfl)
theorem dX0_claimsOf_44 : decode cX0_claimsOf 44 = .ok (.goto 4, 3) := dk_167 0 4 (dk_at dksX0_claimsOf_1 21 rfl rfl)
theorem dX0_claimsOf_47 : decode cX0_claimsOf 47 = .ok (.iconst 0, 1) := dk_3 (dk_at dksX0_claimsOf_2 0 rfl rfl)
theorem dX0_claimsOf_48 : decode cX0_claimsOf 48 = .ok (.iadd, 1) := dk_96 (dk_at dksX0_claimsOf_2 1 rfl rfl)
theorem dX0_claimsOf_49 : decode cX0_claimsOf 49 = .ok (.istore_n 2, 1) := dk_61 (dk_at dksX0_claimsOf_2 2 rfl rfl)
theorem dX0_claimsOf_50 : decode cX0_claimsOf 50 = .ok (.goto (-37), 3) := dk_167 255 219 (dk_at dksX0_claimsOf_2 3 rfl rfl)
theorem dX0_claimsOf_53 : decode cX0_claimsOf 53 = .ok (.iload_n 2, 1) := dk_28 (dk_at dksX0_claimsOf_2 6 rfl rfl)
theorem dX0_claimsOf_54 : decode cX0_claimsOf 54 = .ok (.ireturn, 1) := dk_172 (dk_at dksX0_claimsOf_2 7 rfl rfl)
abbrev cX0_oldest : ByteArray := prog_1_method_48_code
def yX0_oldest : MethodName := ⟨RX0, "oldest", "(I)I"⟩
def dkwX0_oldest_2 : List UInt8 := [21, 4, 4, 96, 182, 0, 62, 54, 4, 167, 255, 221, 44, 184, 1, 69, 192, 1, 40, 182, 1, 55, 172]
abbrev dktX0_oldest_2 : List UInt8 := dkwX0_oldest_2 ++ []
def dkwX0_oldest_1 : List UInt8 := [155, 0, 36, 44, 42, 180, 0, 12, 21, 4, 182, 0, 155, 180, 0, 172, 184, 1, 39, 182, 1, 65, 87, 45]
abbrev dktX0_oldest_1 : List UInt8 := dkwX0_oldest_1 ++ dktX0_oldest_2
def dkwX0_oldest_0 : List UInt8 := [187, 0, 119, 89, 183, 1, 60, 77, 42, 27, 182, 1, 61, 78, 45, 3, 182, 0, 62, 54, 4, 21, 4]
abbrev dktX0_oldest_0 : List UInt8 := dkwX0_oldest_0 ++ dktX0_oldest_1
theorem dksX0_oldest_0 : cX0_oldest.data.toList.drop 0 = dktX0_oldest_0 := by decide +kernel
theorem dksX0_oldest_1 : cX0_oldest.data.toList.drop 23 = dktX0_oldest_1 := dk_seg dksX0_oldest_0 23 rfl rfl
theorem dksX0_oldest_2 : cX0_oldest.data.toList.drop 47 = dktX0_oldest_2 := dk_seg dksX0_oldest_1 24 rfl rfl
theorem dX0_oldest_0 : decode cX0_oldest 0 = .ok (.new 119, 3) := dk_187 0 119 (dk_at dksX0_oldest_0 0 rfl rfl)
theorem dX0_oldest_3 : decode cX0_oldest 3 = .ok (.dup, 1) := dk_89 (dk_at dksX0_oldest_0 3 rfl rfl)
theorem dX0_oldest_4 : decode cX0_oldest 4 = .ok (.invokespecial 316, 3) := dk_183 1 60 (dk_at dksX0_oldest_0 4 rfl rfl)
theorem dX0_oldest_7 : decode cX0_oldest 7 = .ok (.astore_n 2, 1) := dk_77 (dk_at dksX0_oldest_0 7 rfl rfl)
theorem dX0_oldest_8 : decode cX0_oldest 8 = .ok (.aload_n 0, 1) := dk_42 (dk_at dksX0_oldest_0 8 rfl rfl)
theorem dX0_oldest_9 : decode cX0_oldest 9 = .ok (.iload_n 1, 1) := dk_27 (dk_at dksX0_oldest_0 9 rfl rfl)
theorem dX0_oldest_10 : decode cX0_oldest 10 = .ok (.invokevirtual 317, 3) := dk_182 1 61 (dk_at dksX0_oldest_0 10 rfl rfl)
theorem dX0_oldest_13 : decode cX0_oldest 13 = .ok (.astore_n 3, 1) := dk_78 (dk_at dksX0_oldest_0 13 rfl rfl)
theorem dX0_oldest_14 : decode cX0_oldest 14 = .ok (.aload_n 3, 1) := dk_45 (dk_at dksX0_oldest_0 14 rfl rfl)
theorem dX0_oldest_15 : decode cX0_oldest 15 = .ok (.iconst 0, 1) := dk_3 (dk_at dksX0_oldest_0 15 rfl rfl)
theorem dX0_oldest_16 : decode cX0_oldest 16 = .ok (.invokevirtual 62, 3) := dk_182 0 62 (dk_at dksX0_oldest_0 16 rfl rfl)
theorem dX0_oldest_19 : decode cX0_oldest 19 = .ok (.istore 4, 2) := dk_54 4 (dk_at dksX0_oldest_0 19 rfl rfl)
theorem dX0_oldest_21 : decode cX0_oldest 21 = .ok (.iload 4, 2) := dk_21 4 (dk_at dksX0_oldest_0 21 rfl rfl)
theorem dX0_oldest_23 : decode cX0_oldest 23 = .ok (.ifCond .lt 36, 3) := dk_155 0 36 (dk_at dksX0_oldest_1 0 rfl rfl)
theorem dX0_oldest_26 : decode cX0_oldest 26 = .ok (.aload_n 2, 1) := dk_44 (dk_at dksX0_oldest_1 3 rfl rfl)
theorem dX0_oldest_27 : decode cX0_oldest 27 = .ok (.aload_n 0, 1) := dk_42 (dk_at dksX0_oldest_1 4 rfl rfl)
theorem dX0_oldest_28 : decode cX0_oldest 28 = .ok (.getfield 12, 3) := dk_180 0 12 (dk_at dksX0_oldest_1 5 rfl rfl)
theorem dX0_oldest_31 : decode cX0_oldest 31 = .ok (.iload 4, 2) := dk_21 4 (dk_at dksX0_oldest_1 8 rfl rfl)
theorem dX0_oldest_33 : decode cX0_oldest 33 = .ok (.invokevirtual 155, 3) := dk_182 0 155 (dk_at dksX0_oldest_1 10 rfl rfl)
theorem dX0_oldest_36 : decode cX0_oldest 36 = .ok (.getfield 172, 3) := dk_180 0 172 (dk_at dksX0_oldest_1 13 rfl rfl)
theorem dX0_oldest_39 : decode cX0_oldest 39 = .ok (.invokestatic 295, 3) := dk_184 1 39 (dk_at dksX0_oldest_1 16 rfl rfl)
theorem dX0_oldest_42 : decode cX0_oldest 42 = .ok (.invokevirtual 321, 3) := dk_182 1 65 (dk_at dksX0_oldest_1 19 rfl rfl)
theorem dX0_oldest_45 : decode cX0_oldest 45 = .ok (.pop, 1) := dk_87 (dk_at dksX0_oldest_1 22 rfl rfl)
theorem dX0_oldest_46 : decode cX0_oldest 46 = .ok (.aload_n 3, 1) := dk_45 (dk_at dksX0_oldest_1 23 rfl rfl)
theorem dX0_oldest_47 : decode cX0_oldest 47 = .ok (.iload 4, 2) := dk_21 4 (dk_at dksX0_oldest_2 0 rfl rfl)
theorem dX0_oldest_49 : decode cX0_oldest 49 = .ok (.iconst 1, 1) := dk_4 (dk_at dksX0_oldest_2 2 rfl rfl)
theorem dX0_oldest_50 : decode cX0_oldest 50 = .ok (.iadd, 1) := dk_96 (dk_at dksX0_oldest_2 3 rfl rfl)
theorem dX0_oldest_51 : decode cX0_oldest 51 = .ok (.invokevirtual 62, 3) := dk_182 0 62 (dk_at dksX0_oldest_2 4 rfl rfl)
theorem dX0_oldest_54 : decode cX0_oldest 54 = .ok (.istore 4, 2) := dk_54 4 (dk_at dksX0_oldest_2 7 rfl rfl)
theorem dX0_oldest_56 : decode cX0_oldest 56 = .ok (.goto (-35), 3) := dk_167 255 221 (dk_at dksX0_oldest_2 9 rfl rfl)
theorem dX0_oldest_59 : decode cX0_oldest 59 = .ok (.aload_n 2, 1) := dk_44 (dk_at dksX0_oldest_2 12 rfl rfl)
theorem dX0_oldest_60 : decode cX0_oldest 60 = .ok (.invokestatic 325, 3) := dk_184 1 69 (dk_at dksX0_oldest_2 13 rfl rfl)
theorem dX0_oldest_63 : decode cX0_oldest 63 = .ok (.checkcast 296, 3) := dk_192 1 40 (dk_at dksX0_oldest_2 16 rfl rfl)
theorem dX0_oldest_66 : decode cX0_oldest 66 = .ok (.invokevirtual 311, 3) := dk_182 1 55 (dk_at dksX0_oldest_2 19 rfl rfl)
theorem dX0_oldest_69 : decode cX0_oldest 69 = .ok (.ireturn, 1) := dk_172 (dk_at dksX0_oldest_2 22 rfl rfl)
abbrev cX0_elders : ByteArray := prog_1_method_47_code
def yX0_elders : MethodName := ⟨RX0, "elders", "(I)Ljava/util/BitSet;"⟩
def dkwX0_elders_6 : List UInt8 := [184, 1, 39, 182, 1, 45, 167, 255, 170, 167, 255, 136, 44, 176]
abbrev dktX0_elders_6 : List UInt8 := dkwX0_elders_6 ++ []
def dkwX0_elders_5 : List UInt8 := [182, 0, 189, 154, 0, 6, 167, 255, 194, 44, 25, 6, 180, 0, 169, 182, 0, 59, 45, 25, 6, 180, 0, 169]
abbrev dktX0_elders_5 : List UInt8 := dkwX0_elders_5 ++ dktX0_elders_6
def dkwX0_elders_4 : List UInt8 := [180, 0, 164, 21, 4, 160, 255, 218, 44, 25, 6, 180, 0, 169, 182, 1, 58, 154, 255, 206, 42, 25, 6]
abbrev dktX0_elders_4 : List UInt8 := dkwX0_elders_4 ++ dktX0_elders_5
def dkwX0_elders_3 : List UInt8 := [25, 5, 185, 0, 210, 1, 0, 192, 0, 165, 58, 6, 25, 6, 180, 0, 175, 4, 160, 255, 228, 25, 6]
abbrev dktX0_elders_3 : List UInt8 := dkwX0_elders_3 ++ dktX0_elders_4
def dkwX0_elders_2 : List UInt8 := [54, 4, 42, 180, 0, 12, 180, 0, 128, 182, 0, 200, 58, 5, 25, 5, 185, 0, 204, 1, 0, 153, 0, 82]
abbrev dktX0_elders_2 : List UInt8 := dkwX0_elders_2 ++ dktX0_elders_3
def dkwX0_elders_1 : List UInt8 := [27, 184, 1, 39, 182, 1, 45, 45, 182, 1, 49, 154, 0, 119, 45, 182, 1, 52, 192, 1, 40, 182, 1, 55]
abbrev dktX0_elders_1 : List UInt8 := dkwX0_elders_1 ++ dktX0_elders_2
def dkwX0_elders_0 : List UInt8 := [187, 0, 50, 89, 16, 14, 183, 0, 52, 77, 187, 0, 16, 89, 183, 0, 18, 78, 44, 27, 182, 0, 59, 45]
abbrev dktX0_elders_0 : List UInt8 := dkwX0_elders_0 ++ dktX0_elders_1
theorem dksX0_elders_0 : cX0_elders.data.toList.drop 0 = dktX0_elders_0 := by decide +kernel
theorem dksX0_elders_1 : cX0_elders.data.toList.drop 24 = dktX0_elders_1 := dk_seg dksX0_elders_0 24 rfl rfl
theorem dksX0_elders_2 : cX0_elders.data.toList.drop 48 = dktX0_elders_2 := dk_seg dksX0_elders_1 24 rfl rfl
theorem dksX0_elders_3 : cX0_elders.data.toList.drop 72 = dktX0_elders_3 := dk_seg dksX0_elders_2 24 rfl rfl
theorem dksX0_elders_4 : cX0_elders.data.toList.drop 95 = dktX0_elders_4 := dk_seg dksX0_elders_3 23 rfl rfl
theorem dksX0_elders_5 : cX0_elders.data.toList.drop 118 = dktX0_elders_5 := dk_seg dksX0_elders_4 23 rfl rfl
theorem dksX0_elders_6 : cX0_elders.data.toList.drop 142 = dktX0_elders_6 := dk_seg dksX0_elders_5 24 rfl rfl
theorem dX0_elders_0 : decode cX0_elders 0 = .ok (.new 50, 3) := dk_187 0 50 (dk_at dksX0_elders_0 0 rfl rfl)
theorem dX0_elders_3 : decode cX0_elders 3 = .ok (.dup, 1) := dk_89 (dk_at dksX0_elders_0 3 rfl rfl)
theorem dX0_elders_4 : decode cX0_elders 4 = .ok (.bipush 14, 2) := dk_16 14 (dk_at dksX0_elders_0 4 rfl rfl)
theorem dX0_elders_6 : decode cX0_elders 6 = .ok (.invokespecial 52, 3) := dk_183 0 52 (dk_at dksX0_elders_0 6 rfl rfl)
theorem dX0_elders_9 : decode cX0_elders 9 = .ok (.astore_n 2, 1) := dk_77 (dk_at dksX0_elders_0 9 rfl rfl)
theorem dX0_elders_10 : decode cX0_elders 10 = .ok (.new 16, 3) := dk_187 0 16 (dk_at dksX0_elders_0 10 rfl rfl)
theorem dX0_elders_13 : decode cX0_elders 13 = .ok (.dup, 1) := dk_89 (dk_at dksX0_elders_0 13 rfl rfl)
theorem dX0_elders_14 : decode cX0_elders 14 = .ok (.invokespecial 18, 3) := dk_183 0 18 (dk_at dksX0_elders_0 14 rfl rfl)
theorem dX0_elders_17 : decode cX0_elders 17 = .ok (.astore_n 3, 1) := dk_78 (dk_at dksX0_elders_0 17 rfl rfl)
theorem dX0_elders_18 : decode cX0_elders 18 = .ok (.aload_n 2, 1) := dk_44 (dk_at dksX0_elders_0 18 rfl rfl)
theorem dX0_elders_19 : decode cX0_elders 19 = .ok (.iload_n 1, 1) := dk_27 (dk_at dksX0_elders_0 19 rfl rfl)
theorem dX0_elders_20 : decode cX0_elders 20 = .ok (.invokevirtual 59, 3) := dk_182 0 59 (dk_at dksX0_elders_0 20 rfl rfl)
theorem dX0_elders_23 : decode cX0_elders 23 = .ok (.aload_n 3, 1) := dk_45 (dk_at dksX0_elders_0 23 rfl rfl)
theorem dX0_elders_24 : decode cX0_elders 24 = .ok (.iload_n 1, 1) := dk_27 (dk_at dksX0_elders_1 0 rfl rfl)
theorem dX0_elders_25 : decode cX0_elders 25 = .ok (.invokestatic 295, 3) := dk_184 1 39 (dk_at dksX0_elders_1 1 rfl rfl)
theorem dX0_elders_28 : decode cX0_elders 28 = .ok (.invokevirtual 301, 3) := dk_182 1 45 (dk_at dksX0_elders_1 4 rfl rfl)
theorem dX0_elders_31 : decode cX0_elders 31 = .ok (.aload_n 3, 1) := dk_45 (dk_at dksX0_elders_1 7 rfl rfl)
theorem dX0_elders_32 : decode cX0_elders 32 = .ok (.invokevirtual 305, 3) := dk_182 1 49 (dk_at dksX0_elders_1 8 rfl rfl)
theorem dX0_elders_35 : decode cX0_elders 35 = .ok (.ifCond .ne 119, 3) := dk_154 0 119 (dk_at dksX0_elders_1 11 rfl rfl)
theorem dX0_elders_38 : decode cX0_elders 38 = .ok (.aload_n 3, 1) := dk_45 (dk_at dksX0_elders_1 14 rfl rfl)
theorem dX0_elders_39 : decode cX0_elders 39 = .ok (.invokevirtual 308, 3) := dk_182 1 52 (dk_at dksX0_elders_1 15 rfl rfl)
theorem dX0_elders_42 : decode cX0_elders 42 = .ok (.checkcast 296, 3) := dk_192 1 40 (dk_at dksX0_elders_1 18 rfl rfl)
theorem dX0_elders_45 : decode cX0_elders 45 = .ok (.invokevirtual 311, 3) := dk_182 1 55 (dk_at dksX0_elders_1 21 rfl rfl)
theorem dX0_elders_48 : decode cX0_elders 48 = .ok (.istore 4, 2) := dk_54 4 (dk_at dksX0_elders_2 0 rfl rfl)
theorem dX0_elders_50 : decode cX0_elders 50 = .ok (.aload_n 0, 1) := dk_42 (dk_at dksX0_elders_2 2 rfl rfl)
theorem dX0_elders_51 : decode cX0_elders 51 = .ok (.getfield 12, 3) := dk_180 0 12 (dk_at dksX0_elders_2 3 rfl rfl)
theorem dX0_elders_54 : decode cX0_elders 54 = .ok (.getfield 128, 3) := dk_180 0 128 (dk_at dksX0_elders_2 6 rfl rfl)
theorem dX0_elders_57 : decode cX0_elders 57 = .ok (.invokevirtual 200, 3) := dk_182 0 200 (dk_at dksX0_elders_2 9 rfl rfl)
theorem dX0_elders_60 : decode cX0_elders 60 = .ok (.astore 5, 2) := dk_58 5 (dk_at dksX0_elders_2 12 rfl rfl)
theorem dX0_elders_62 : decode cX0_elders 62 = .ok (.aload 5, 2) := dk_25 5 (dk_at dksX0_elders_2 14 rfl rfl)
theorem dX0_elders_64 : decode cX0_elders 64 = .ok (.invokeinterface 204 1, 5) := by decide +kernel
theorem dX0_elders_69 : decode cX0_elders 69 = .ok (.ifCond .eq 82, 3) := dk_153 0 82 (dk_at dksX0_elders_2 21 rfl rfl)
theorem dX0_elders_72 : decode cX0_elders 72 = .ok (.aload 5, 2) := dk_25 5 (dk_at dksX0_elders_3 0 rfl rfl)
theorem dX0_elders_74 : decode cX0_elders 74 = .ok (.invokeinterface 210 1, 5) := by decide +kernel
theorem dX0_elders_79 : decode cX0_elders 79 = .ok (.checkcast 165, 3) := dk_192 0 165 (dk_at dksX0_elders_3 7 rfl rfl)
theorem dX0_elders_82 : decode cX0_elders 82 = .ok (.astore 6, 2) := dk_58 6 (dk_at dksX0_elders_3 10 rfl rfl)
theorem dX0_elders_84 : decode cX0_elders 84 = .ok (.aload 6, 2) := dk_25 6 (dk_at dksX0_elders_3 12 rfl rfl)
theorem dX0_elders_86 : decode cX0_elders 86 = .ok (.getfield 175, 3) := dk_180 0 175 (dk_at dksX0_elders_3 14 rfl rfl)
theorem dX0_elders_89 : decode cX0_elders 89 = .ok (.iconst 1, 1) := dk_4 (dk_at dksX0_elders_3 17 rfl rfl)
theorem dX0_elders_90 : decode cX0_elders 90 = .ok (.if_icmp .ne (-28), 3) := dk_160 255 228 (dk_at dksX0_elders_3 18 rfl rfl)
theorem dX0_elders_93 : decode cX0_elders 93 = .ok (.aload 6, 2) := dk_25 6 (dk_at dksX0_elders_3 21 rfl rfl)
theorem dX0_elders_95 : decode cX0_elders 95 = .ok (.getfield 164, 3) := dk_180 0 164 (dk_at dksX0_elders_4 0 rfl rfl)
theorem dX0_elders_98 : decode cX0_elders 98 = .ok (.iload 4, 2) := dk_21 4 (dk_at dksX0_elders_4 3 rfl rfl)
theorem dX0_elders_100 : decode cX0_elders 100 = .ok (.if_icmp .ne (-38), 3) := dk_160 255 218 (dk_at dksX0_elders_4 5 rfl rfl)
theorem dX0_elders_103 : decode cX0_elders 103 = .ok (.aload_n 2, 1) := dk_44 (dk_at dksX0_elders_4 8 rfl rfl)
theorem dX0_elders_104 : decode cX0_elders 104 = .ok (.aload 6, 2) := dk_25 6 (dk_at dksX0_elders_4 9 rfl rfl)
theorem dX0_elders_106 : decode cX0_elders 106 = .ok (.getfield 169, 3) := dk_180 0 169 (dk_at dksX0_elders_4 11 rfl rfl)
theorem dX0_elders_109 : decode cX0_elders 109 = .ok (.invokevirtual 314, 3) := dk_182 1 58 (dk_at dksX0_elders_4 14 rfl rfl)
theorem dX0_elders_112 : decode cX0_elders 112 = .ok (.ifCond .ne (-50), 3) := dk_154 255 206 (dk_at dksX0_elders_4 17 rfl rfl)
theorem dX0_elders_115 : decode cX0_elders 115 = .ok (.aload_n 0, 1) := dk_42 (dk_at dksX0_elders_4 20 rfl rfl)
theorem dX0_elders_116 : decode cX0_elders 116 = .ok (.aload 6, 2) := dk_25 6 (dk_at dksX0_elders_4 21 rfl rfl)
theorem dX0_elders_118 : decode cX0_elders 118 = .ok (.invokevirtual 189, 3) := dk_182 0 189 (dk_at dksX0_elders_5 0 rfl rfl)
theorem dX0_elders_121 : decode cX0_elders 121 = .ok (.ifCond .ne 6, 3) := dk_154 0 6 (dk_at dksX0_elders_5 3 rfl rfl)
theorem dX0_elders_124 : decode cX0_elders 124 = .ok (.goto (-62), 3) := dk_167 255 194 (dk_at dksX0_elders_5 6 rfl rfl)
theorem dX0_elders_127 : decode cX0_elders 127 = .ok (.aload_n 2, 1) := dk_44 (dk_at dksX0_elders_5 9 rfl rfl)
theorem dX0_elders_128 : decode cX0_elders 128 = .ok (.aload 6, 2) := dk_25 6 (dk_at dksX0_elders_5 10 rfl rfl)
theorem dX0_elders_130 : decode cX0_elders 130 = .ok (.getfield 169, 3) := dk_180 0 169 (dk_at dksX0_elders_5 12 rfl rfl)
theorem dX0_elders_133 : decode cX0_elders 133 = .ok (.invokevirtual 59, 3) := dk_182 0 59 (dk_at dksX0_elders_5 15 rfl rfl)
theorem dX0_elders_136 : decode cX0_elders 136 = .ok (.aload_n 3, 1) := dk_45 (dk_at dksX0_elders_5 18 rfl rfl)
theorem dX0_elders_137 : decode cX0_elders 137 = .ok (.aload 6, 2) := dk_25 6 (dk_at dksX0_elders_5 19 rfl rfl)
theorem dX0_elders_139 : decode cX0_elders 139 = .ok (.getfield 169, 3) := dk_180 0 169 (dk_at dksX0_elders_5 21 rfl rfl)
theorem dX0_elders_142 : decode cX0_elders 142 = .ok (.invokestatic 295, 3) := dk_184 1 39 (dk_at dksX0_elders_6 0 rfl rfl)
theorem dX0_elders_145 : decode cX0_elders 145 = .ok (.invokevirtual 301, 3) := dk_182 1 45 (dk_at dksX0_elders_6 3 rfl rfl)
theorem dX0_elders_148 : decode cX0_elders 148 = .ok (.goto (-86), 3) := dk_167 255 170 (dk_at dksX0_elders_6 6 rfl rfl)
theorem dX0_elders_151 : decode cX0_elders 151 = .ok (.goto (-120), 3) := dk_167 255 136 (dk_at dksX0_elders_6 9 rfl rfl)
theorem dX0_elders_154 : decode cX0_elders 154 = .ok (.aload_n 2, 1) := dk_44 (dk_at dksX0_elders_6 12 rfl rfl)
theorem dX0_elders_155 : decode cX0_elders 155 = .ok (.areturn, 1) := dk_176 (dk_at dksX0_elders_6 13 rfl rfl)
abbrev cX0_bears : ByteArray := prog_1_method_51_code
def yX0_bears : MethodName := ⟨RX0, "bears", "(II)I"⟩
def dkwX0_bears_1 : List UInt8 := [182, 0, 186, 172]
abbrev dktX0_bears_1 : List UInt8 := dkwX0_bears_1 ++ []
def dkwX0_bears_0 : List UInt8 := [42, 27, 28, 182, 0, 234, 62, 29, 156, 0, 7, 29, 167, 0, 15, 42, 180, 0, 12, 27, 182, 0, 155, 28]
abbrev dktX0_bears_0 : List UInt8 := dkwX0_bears_0 ++ dktX0_bears_1
theorem dksX0_bears_0 : cX0_bears.data.toList.drop 0 = dktX0_bears_0 := by decide +kernel
theorem dksX0_bears_1 : cX0_bears.data.toList.drop 24 = dktX0_bears_1 := dk_seg dksX0_bears_0 24 rfl rfl
theorem dX0_bears_0 : decode cX0_bears 0 = .ok (.aload_n 0, 1) := dk_42 (dk_at dksX0_bears_0 0 rfl rfl)
theorem dX0_bears_1 : decode cX0_bears 1 = .ok (.iload_n 1, 1) := dk_27 (dk_at dksX0_bears_0 1 rfl rfl)
theorem dX0_bears_2 : decode cX0_bears 2 = .ok (.iload_n 2, 1) := dk_28 (dk_at dksX0_bears_0 2 rfl rfl)
theorem dX0_bears_3 : decode cX0_bears 3 = .ok (.invokevirtual 234, 3) := dk_182 0 234 (dk_at dksX0_bears_0 3 rfl rfl)
theorem dX0_bears_6 : decode cX0_bears 6 = .ok (.istore_n 3, 1) := dk_62 (dk_at dksX0_bears_0 6 rfl rfl)
theorem dX0_bears_7 : decode cX0_bears 7 = .ok (.iload_n 3, 1) := dk_29 (dk_at dksX0_bears_0 7 rfl rfl)
theorem dX0_bears_8 : decode cX0_bears 8 = .ok (.ifCond .ge 7, 3) := dk_156 0 7 (dk_at dksX0_bears_0 8 rfl rfl)
theorem dX0_bears_11 : decode cX0_bears 11 = .ok (.iload_n 3, 1) := dk_29 (dk_at dksX0_bears_0 11 rfl rfl)
theorem dX0_bears_12 : decode cX0_bears 12 = .ok (.goto 15, 3) := dk_167 0 15 (dk_at dksX0_bears_0 12 rfl rfl)
theorem dX0_bears_15 : decode cX0_bears 15 = .ok (.aload_n 0, 1) := dk_42 (dk_at dksX0_bears_0 15 rfl rfl)
theorem dX0_bears_16 : decode cX0_bears 16 = .ok (.getfield 12, 3) := dk_180 0 12 (dk_at dksX0_bears_0 16 rfl rfl)
theorem dX0_bears_19 : decode cX0_bears 19 = .ok (.iload_n 1, 1) := dk_27 (dk_at dksX0_bears_0 19 rfl rfl)
theorem dX0_bears_20 : decode cX0_bears 20 = .ok (.invokevirtual 155, 3) := dk_182 0 155 (dk_at dksX0_bears_0 20 rfl rfl)
theorem dX0_bears_23 : decode cX0_bears 23 = .ok (.iload_n 2, 1) := dk_28 (dk_at dksX0_bears_0 23 rfl rfl)
theorem dX0_bears_24 : decode cX0_bears 24 = .ok (.invokevirtual 186, 3) := dk_182 0 186 (dk_at dksX0_bears_1 0 rfl rfl)
theorem dX0_bears_27 : decode cX0_bears 27 = .ok (.ireturn, 1) := dk_172 (dk_at dksX0_bears_1 3 rfl rfl)
abbrev cX0_linked : ByteArray := prog_1_method_52_code
def yX0_linked : MethodName := ⟨RX0, "linked", "(II)I"⟩
def dkwX0_linked_3 : List UInt8 := [153, 0, 7, 4, 167, 0, 8, 3, 167, 0, 4, 2, 172]
abbrev dktX0_linked_3 : List UInt8 := dkwX0_linked_3 ++ []
def dkwX0_linked_2 : List UInt8 := [28, 5, 160, 0, 10, 45, 180, 0, 169, 167, 0, 25, 28, 6, 160, 0, 19, 42, 45, 182, 0, 189]
abbrev dktX0_linked_2 : List UInt8 := dkwX0_linked_2 ++ dktX0_linked_3
def dkwX0_linked_1 : List UInt8 := [78, 28, 154, 0, 10, 45, 180, 0, 175, 167, 0, 49, 28, 4, 160, 0, 10, 45, 180, 0, 164, 167, 0, 37]
abbrev dktX0_linked_1 : List UInt8 := dkwX0_linked_1 ++ dktX0_linked_2
def dkwX0_linked_0 : List UInt8 := [42, 27, 182, 1, 5, 154, 0, 5, 2, 172, 42, 180, 0, 12, 180, 0, 128, 27, 182, 1, 96, 192, 0, 165]
abbrev dktX0_linked_0 : List UInt8 := dkwX0_linked_0 ++ dktX0_linked_1
theorem dksX0_linked_0 : cX0_linked.data.toList.drop 0 = dktX0_linked_0 := by decide +kernel
theorem dksX0_linked_1 : cX0_linked.data.toList.drop 24 = dktX0_linked_1 := dk_seg dksX0_linked_0 24 rfl rfl
theorem dksX0_linked_2 : cX0_linked.data.toList.drop 48 = dktX0_linked_2 := dk_seg dksX0_linked_1 24 rfl rfl
theorem dksX0_linked_3 : cX0_linked.data.toList.drop 70 = dktX0_linked_3 := dk_seg dksX0_linked_2 22 rfl rfl
theorem dX0_linked_0 : decode cX0_linked 0 = .ok (.aload_n 0, 1) := dk_42 (dk_at dksX0_linked_0 0 rfl rfl)
theorem dX0_linked_1 : decode cX0_linked 1 = .ok (.iload_n 1, 1) := dk_27 (dk_at dksX0_linked_0 1 rfl rfl)
theorem dX0_linked_2 : decode cX0_linked 2 = .ok (.invokevirtual 261, 3) := dk_182 1 5 (dk_at dksX0_linked_0 2 rfl rfl)
theorem dX0_linked_5 : decode cX0_linked 5 = .ok (.ifCond .ne 5, 3) := dk_154 0 5 (dk_at dksX0_linked_0 5 rfl rfl)
theorem dX0_linked_8 : decode cX0_linked 8 = .ok (.iconst (-1), 1) := dk_2 (dk_at dksX0_linked_0 8 rfl rfl)
theorem dX0_linked_9 : decode cX0_linked 9 = .ok (.ireturn, 1) := dk_172 (dk_at dksX0_linked_0 9 rfl rfl)
theorem dX0_linked_10 : decode cX0_linked 10 = .ok (.aload_n 0, 1) := dk_42 (dk_at dksX0_linked_0 10 rfl rfl)
theorem dX0_linked_11 : decode cX0_linked 11 = .ok (.getfield 12, 3) := dk_180 0 12 (dk_at dksX0_linked_0 11 rfl rfl)
theorem dX0_linked_14 : decode cX0_linked 14 = .ok (.getfield 128, 3) := dk_180 0 128 (dk_at dksX0_linked_0 14 rfl rfl)
theorem dX0_linked_17 : decode cX0_linked 17 = .ok (.iload_n 1, 1) := dk_27 (dk_at dksX0_linked_0 17 rfl rfl)
theorem dX0_linked_18 : decode cX0_linked 18 = .ok (.invokevirtual 352, 3) := dk_182 1 96 (dk_at dksX0_linked_0 18 rfl rfl)
theorem dX0_linked_21 : decode cX0_linked 21 = .ok (.checkcast 165, 3) := dk_192 0 165 (dk_at dksX0_linked_0 21 rfl rfl)
theorem dX0_linked_24 : decode cX0_linked 24 = .ok (.astore_n 3, 1) := dk_78 (dk_at dksX0_linked_1 0 rfl rfl)
theorem dX0_linked_25 : decode cX0_linked 25 = .ok (.iload_n 2, 1) := dk_28 (dk_at dksX0_linked_1 1 rfl rfl)
theorem dX0_linked_26 : decode cX0_linked 26 = .ok (.ifCond .ne 10, 3) := dk_154 0 10 (dk_at dksX0_linked_1 2 rfl rfl)
theorem dX0_linked_29 : decode cX0_linked 29 = .ok (.aload_n 3, 1) := dk_45 (dk_at dksX0_linked_1 5 rfl rfl)
theorem dX0_linked_30 : decode cX0_linked 30 = .ok (.getfield 175, 3) := dk_180 0 175 (dk_at dksX0_linked_1 6 rfl rfl)
theorem dX0_linked_33 : decode cX0_linked 33 = .ok (.goto 49, 3) := dk_167 0 49 (dk_at dksX0_linked_1 9 rfl rfl)
theorem dX0_linked_36 : decode cX0_linked 36 = .ok (.iload_n 2, 1) := dk_28 (dk_at dksX0_linked_1 12 rfl rfl)
theorem dX0_linked_37 : decode cX0_linked 37 = .ok (.iconst 1, 1) := dk_4 (dk_at dksX0_linked_1 13 rfl rfl)
theorem dX0_linked_38 : decode cX0_linked 38 = .ok (.if_icmp .ne 10, 3) := dk_160 0 10 (dk_at dksX0_linked_1 14 rfl rfl)
theorem dX0_linked_41 : decode cX0_linked 41 = .ok (.aload_n 3, 1) := dk_45 (dk_at dksX0_linked_1 17 rfl rfl)
theorem dX0_linked_42 : decode cX0_linked 42 = .ok (.getfield 164, 3) := dk_180 0 164 (dk_at dksX0_linked_1 18 rfl rfl)
theorem dX0_linked_45 : decode cX0_linked 45 = .ok (.goto 37, 3) := dk_167 0 37 (dk_at dksX0_linked_1 21 rfl rfl)
theorem dX0_linked_48 : decode cX0_linked 48 = .ok (.iload_n 2, 1) := dk_28 (dk_at dksX0_linked_2 0 rfl rfl)
theorem dX0_linked_49 : decode cX0_linked 49 = .ok (.iconst 2, 1) := dk_5 (dk_at dksX0_linked_2 1 rfl rfl)
theorem dX0_linked_50 : decode cX0_linked 50 = .ok (.if_icmp .ne 10, 3) := dk_160 0 10 (dk_at dksX0_linked_2 2 rfl rfl)
theorem dX0_linked_53 : decode cX0_linked 53 = .ok (.aload_n 3, 1) := dk_45 (dk_at dksX0_linked_2 5 rfl rfl)
theorem dX0_linked_54 : decode cX0_linked 54 = .ok (.getfield 169, 3) := dk_180 0 169 (dk_at dksX0_linked_2 6 rfl rfl)
theorem dX0_linked_57 : decode cX0_linked 57 = .ok (.goto 25, 3) := dk_167 0 25 (dk_at dksX0_linked_2 9 rfl rfl)
theorem dX0_linked_60 : decode cX0_linked 60 = .ok (.iload_n 2, 1) := dk_28 (dk_at dksX0_linked_2 12 rfl rfl)
theorem dX0_linked_61 : decode cX0_linked 61 = .ok (.iconst 3, 1) := dk_6 (dk_at dksX0_linked_2 13 rfl rfl)
theorem dX0_linked_62 : decode cX0_linked 62 = .ok (.if_icmp .ne 19, 3) := dk_160 0 19 (dk_at dksX0_linked_2 14 rfl rfl)
theorem dX0_linked_65 : decode cX0_linked 65 = .ok (.aload_n 0, 1) := dk_42 (dk_at dksX0_linked_2 17 rfl rfl)
theorem dX0_linked_66 : decode cX0_linked 66 = .ok (.aload_n 3, 1) := dk_45 (dk_at dksX0_linked_2 18 rfl rfl)
theorem dX0_linked_67 : decode cX0_linked 67 = .ok (.invokevirtual 189, 3) := dk_182 0 189 (dk_at dksX0_linked_2 19 rfl rfl)
theorem dX0_linked_70 : decode cX0_linked 70 = .ok (.ifCond .eq 7, 3) := dk_153 0 7 (dk_at dksX0_linked_3 0 rfl rfl)
theorem dX0_linked_73 : decode cX0_linked 73 = .ok (.iconst 1, 1) := dk_4 (dk_at dksX0_linked_3 3 rfl rfl)
theorem dX0_linked_74 : decode cX0_linked 74 = .ok (.goto 8, 3) := dk_167 0 8 (dk_at dksX0_linked_3 4 rfl rfl)
theorem dX0_linked_77 : decode cX0_linked 77 = .ok (.iconst 0, 1) := dk_3 (dk_at dksX0_linked_3 7 rfl rfl)
theorem dX0_linked_78 : decode cX0_linked 78 = .ok (.goto 4, 3) := dk_167 0 4 (dk_at dksX0_linked_3 8 rfl rfl)
theorem dX0_linked_81 : decode cX0_linked 81 = .ok (.iconst (-1), 1) := dk_2 (dk_at dksX0_linked_3 11 rfl rfl)
theorem dX0_linked_82 : decode cX0_linked 82 = .ok (.ireturn, 1) := dk_172 (dk_at dksX0_linked_3 12 rfl rfl)
abbrev cX0_slack : ByteArray := prog_1_method_53_code
def yX0_slack : MethodName := ⟨RX0, "slack", "(I)I"⟩
def dkwX0_slack_1 : List UInt8 := [182, 1, 97, 167, 0, 6, 19, 1, 100, 172]
abbrev dktX0_slack_1 : List UInt8 := dkwX0_slack_1 ++ []
def dkwX0_slack_0 : List UInt8 := [42, 27, 182, 1, 5, 153, 0, 24, 42, 42, 180, 0, 12, 180, 0, 128, 27, 182, 1, 96, 192, 0, 165]
abbrev dktX0_slack_0 : List UInt8 := dkwX0_slack_0 ++ dktX0_slack_1
theorem dksX0_slack_0 : cX0_slack.data.toList.drop 0 = dktX0_slack_0 := by decide +kernel
theorem dksX0_slack_1 : cX0_slack.data.toList.drop 23 = dktX0_slack_1 := dk_seg dksX0_slack_0 23 rfl rfl
theorem dX0_slack_0 : decode cX0_slack 0 = .ok (.aload_n 0, 1) := dk_42 (dk_at dksX0_slack_0 0 rfl rfl)
theorem dX0_slack_1 : decode cX0_slack 1 = .ok (.iload_n 1, 1) := dk_27 (dk_at dksX0_slack_0 1 rfl rfl)
theorem dX0_slack_2 : decode cX0_slack 2 = .ok (.invokevirtual 261, 3) := dk_182 1 5 (dk_at dksX0_slack_0 2 rfl rfl)
theorem dX0_slack_5 : decode cX0_slack 5 = .ok (.ifCond .eq 24, 3) := dk_153 0 24 (dk_at dksX0_slack_0 5 rfl rfl)
theorem dX0_slack_8 : decode cX0_slack 8 = .ok (.aload_n 0, 1) := dk_42 (dk_at dksX0_slack_0 8 rfl rfl)
theorem dX0_slack_9 : decode cX0_slack 9 = .ok (.aload_n 0, 1) := dk_42 (dk_at dksX0_slack_0 9 rfl rfl)
theorem dX0_slack_10 : decode cX0_slack 10 = .ok (.getfield 12, 3) := dk_180 0 12 (dk_at dksX0_slack_0 10 rfl rfl)
theorem dX0_slack_13 : decode cX0_slack 13 = .ok (.getfield 128, 3) := dk_180 0 128 (dk_at dksX0_slack_0 13 rfl rfl)
theorem dX0_slack_16 : decode cX0_slack 16 = .ok (.iload_n 1, 1) := dk_27 (dk_at dksX0_slack_0 16 rfl rfl)
theorem dX0_slack_17 : decode cX0_slack 17 = .ok (.invokevirtual 352, 3) := dk_182 1 96 (dk_at dksX0_slack_0 17 rfl rfl)
theorem dX0_slack_20 : decode cX0_slack 20 = .ok (.checkcast 165, 3) := dk_192 0 165 (dk_at dksX0_slack_0 20 rfl rfl)
theorem dX0_slack_23 : decode cX0_slack 23 = .ok (.invokevirtual 353, 3) := dk_182 1 97 (dk_at dksX0_slack_1 0 rfl rfl)
theorem dX0_slack_26 : decode cX0_slack 26 = .ok (.goto 6, 3) := dk_167 0 6 (dk_at dksX0_slack_1 3 rfl rfl)
theorem dX0_slack_29 : decode cX0_slack 29 = .ok (.ldc_w 356, 3) := dk_19 1 100 (dk_at dksX0_slack_1 6 rfl rfl)
theorem dX0_slack_32 : decode cX0_slack 32 = .ok (.ireturn, 1) := dk_172 (dk_at dksX0_slack_1 9 rfl rfl)
abbrev cX0_slackOf : ByteArray := prog_1_method_24_code
def yX0_slackOf : MethodName := ⟨RX0, "slackOf", "(LFilingChains$Link;)I"⟩
def dkwX0_slackOf_3 : List UInt8 := [180, 0, 172, 100, 172]
abbrev dktX0_slackOf_3 : List UInt8 := dkwX0_slackOf_3 ++ []
def dkwX0_slackOf_2 : List UInt8 := [100, 100, 167, 0, 26, 45, 180, 0, 197, 2, 160, 0, 9, 17, 39, 15, 167, 0, 12, 45, 180, 0, 197, 44]
abbrev dktX0_slackOf_2 : List UInt8 := dkwX0_slackOf_2 ++ dktX0_slackOf_3
def dkwX0_slackOf_1 : List UInt8 := [43, 180, 0, 175, 154, 0, 25, 42, 180, 0, 12, 180, 0, 178, 3, 46, 44, 180, 0, 172, 45, 180, 0, 172]
abbrev dktX0_slackOf_1 : List UInt8 := dkwX0_slackOf_1 ++ dktX0_slackOf_2
def dkwX0_slackOf_0 : List UInt8 := [42, 180, 0, 12, 43, 180, 0, 164, 182, 0, 155, 77, 42, 180, 0, 12, 43, 180, 0, 169, 182, 0, 155, 78]
abbrev dktX0_slackOf_0 : List UInt8 := dkwX0_slackOf_0 ++ dktX0_slackOf_1
theorem dksX0_slackOf_0 : cX0_slackOf.data.toList.drop 0 = dktX0_slackOf_0 := by decide +kernel
theorem dksX0_slackOf_1 : cX0_slackOf.data.toList.drop 24 = dktX0_slackOf_1 := dk_seg dksX0_slackOf_0 24 rfl rfl
theorem dksX0_slackOf_2 : cX0_slackOf.data.toList.drop 48 = dktX0_slackOf_2 := dk_seg dksX0_slackOf_1 24 rfl rfl
theorem dksX0_slackOf_3 : cX0_slackOf.data.toList.drop 72 = dktX0_slackOf_3 := dk_seg dksX0_slackOf_2 24 rfl rfl
theorem dX0_slackOf_0 : decode cX0_slackOf 0 = .ok (.aload_n 0, 1) := dk_42 (dk_at dksX0_slackOf_0 0 rfl rfl)
theorem dX0_slackOf_1 : decode cX0_slackOf 1 = .ok (.getfield 12, 3) := dk_180 0 12 (dk_at dksX0_slackOf_0 1 rfl rfl)
theorem dX0_slackOf_4 : decode cX0_slackOf 4 = .ok (.aload_n 1, 1) := dk_43 (dk_at dksX0_slackOf_0 4 rfl rfl)
theorem dX0_slackOf_5 : decode cX0_slackOf 5 = .ok (.getfield 164, 3) := dk_180 0 164 (dk_at dksX0_slackOf_0 5 rfl rfl)
theorem dX0_slackOf_8 : decode cX0_slackOf 8 = .ok (.invokevirtual 155, 3) := dk_182 0 155 (dk_at dksX0_slackOf_0 8 rfl rfl)
theorem dX0_slackOf_11 : decode cX0_slackOf 11 = .ok (.astore_n 2, 1) := dk_77 (dk_at dksX0_slackOf_0 11 rfl rfl)
theorem dX0_slackOf_12 : decode cX0_slackOf 12 = .ok (.aload_n 0, 1) := dk_42 (dk_at dksX0_slackOf_0 12 rfl rfl)
theorem dX0_slackOf_13 : decode cX0_slackOf 13 = .ok (.getfield 12, 3) := dk_180 0 12 (dk_at dksX0_slackOf_0 13 rfl rfl)
theorem dX0_slackOf_16 : decode cX0_slackOf 16 = .ok (.aload_n 1, 1) := dk_43 (dk_at dksX0_slackOf_0 16 rfl rfl)
theorem dX0_slackOf_17 : decode cX0_slackOf 17 = .ok (.getfield 169, 3) := dk_180 0 169 (dk_at dksX0_slackOf_0 17 rfl rfl)
theorem dX0_slackOf_20 : decode cX0_slackOf 20 = .ok (.invokevirtual 155, 3) := dk_182 0 155 (dk_at dksX0_slackOf_0 20 rfl rfl)
theorem dX0_slackOf_23 : decode cX0_slackOf 23 = .ok (.astore_n 3, 1) := dk_78 (dk_at dksX0_slackOf_0 23 rfl rfl)
theorem dX0_slackOf_24 : decode cX0_slackOf 24 = .ok (.aload_n 1, 1) := dk_43 (dk_at dksX0_slackOf_1 0 rfl rfl)
theorem dX0_slackOf_25 : decode cX0_slackOf 25 = .ok (.getfield 175, 3) := dk_180 0 175 (dk_at dksX0_slackOf_1 1 rfl rfl)
theorem dX0_slackOf_28 : decode cX0_slackOf 28 = .ok (.ifCond .ne 25, 3) := dk_154 0 25 (dk_at dksX0_slackOf_1 4 rfl rfl)
theorem dX0_slackOf_31 : decode cX0_slackOf 31 = .ok (.aload_n 0, 1) := dk_42 (dk_at dksX0_slackOf_1 7 rfl rfl)
theorem dX0_slackOf_32 : decode cX0_slackOf 32 = .ok (.getfield 12, 3) := dk_180 0 12 (dk_at dksX0_slackOf_1 8 rfl rfl)
theorem dX0_slackOf_35 : decode cX0_slackOf 35 = .ok (.getfield 178, 3) := dk_180 0 178 (dk_at dksX0_slackOf_1 11 rfl rfl)
theorem dX0_slackOf_38 : decode cX0_slackOf 38 = .ok (.iconst 0, 1) := dk_3 (dk_at dksX0_slackOf_1 14 rfl rfl)
theorem dX0_slackOf_39 : decode cX0_slackOf 39 = .ok (.iaload, 1) := dk_46 (dk_at dksX0_slackOf_1 15 rfl rfl)
theorem dX0_slackOf_40 : decode cX0_slackOf 40 = .ok (.aload_n 2, 1) := dk_44 (dk_at dksX0_slackOf_1 16 rfl rfl)
theorem dX0_slackOf_41 : decode cX0_slackOf 41 = .ok (.getfield 172, 3) := dk_180 0 172 (dk_at dksX0_slackOf_1 17 rfl rfl)
theorem dX0_slackOf_44 : decode cX0_slackOf 44 = .ok (.aload_n 3, 1) := dk_45 (dk_at dksX0_slackOf_1 20 rfl rfl)
theorem dX0_slackOf_45 : decode cX0_slackOf 45 = .ok (.getfield 172, 3) := dk_180 0 172 (dk_at dksX0_slackOf_1 21 rfl rfl)
theorem dX0_slackOf_48 : decode cX0_slackOf 48 = .ok (.isub, 1) := dk_100 (dk_at dksX0_slackOf_2 0 rfl rfl)
theorem dX0_slackOf_49 : decode cX0_slackOf 49 = .ok (.isub, 1) := dk_100 (dk_at dksX0_slackOf_2 1 rfl rfl)
theorem dX0_slackOf_50 : decode cX0_slackOf 50 = .ok (.goto 26, 3) := dk_167 0 26 (dk_at dksX0_slackOf_2 2 rfl rfl)
theorem dX0_slackOf_53 : decode cX0_slackOf 53 = .ok (.aload_n 3, 1) := dk_45 (dk_at dksX0_slackOf_2 5 rfl rfl)
theorem dX0_slackOf_54 : decode cX0_slackOf 54 = .ok (.getfield 197, 3) := dk_180 0 197 (dk_at dksX0_slackOf_2 6 rfl rfl)
theorem dX0_slackOf_57 : decode cX0_slackOf 57 = .ok (.iconst (-1), 1) := dk_2 (dk_at dksX0_slackOf_2 9 rfl rfl)
theorem dX0_slackOf_58 : decode cX0_slackOf 58 = .ok (.if_icmp .ne 9, 3) := dk_160 0 9 (dk_at dksX0_slackOf_2 10 rfl rfl)
theorem dX0_slackOf_61 : decode cX0_slackOf 61 = .ok (.sipush 9999, 3) := dk_17 39 15 (dk_at dksX0_slackOf_2 13 rfl rfl)
theorem dX0_slackOf_64 : decode cX0_slackOf 64 = .ok (.goto 12, 3) := dk_167 0 12 (dk_at dksX0_slackOf_2 16 rfl rfl)
theorem dX0_slackOf_67 : decode cX0_slackOf 67 = .ok (.aload_n 3, 1) := dk_45 (dk_at dksX0_slackOf_2 19 rfl rfl)
theorem dX0_slackOf_68 : decode cX0_slackOf 68 = .ok (.getfield 197, 3) := dk_180 0 197 (dk_at dksX0_slackOf_2 20 rfl rfl)
theorem dX0_slackOf_71 : decode cX0_slackOf 71 = .ok (.aload_n 2, 1) := dk_44 (dk_at dksX0_slackOf_2 23 rfl rfl)
theorem dX0_slackOf_72 : decode cX0_slackOf 72 = .ok (.getfield 172, 3) := dk_180 0 172 (dk_at dksX0_slackOf_3 0 rfl rfl)
theorem dX0_slackOf_75 : decode cX0_slackOf 75 = .ok (.isub, 1) := dk_100 (dk_at dksX0_slackOf_3 3 rfl rfl)
theorem dX0_slackOf_76 : decode cX0_slackOf 76 = .ok (.ireturn, 1) := dk_172 (dk_at dksX0_slackOf_3 4 rfl rfl)
abbrev cX0_holds : ByteArray := prog_1_method_54_code
def yX0_holds : MethodName := ⟨RX0, "holds", "(II)I"⟩
def dkwX0_holds_1 : List UInt8 := [180, 0, 128, 27, 182, 1, 96, 192, 0, 165, 28, 182, 1, 101, 153, 0, 7, 4, 167, 0, 4, 3, 172]
abbrev dktX0_holds_1 : List UInt8 := dkwX0_holds_1 ++ []
def dkwX0_holds_0 : List UInt8 := [42, 27, 182, 1, 5, 153, 0, 10, 28, 184, 0, 231, 154, 0, 7, 2, 167, 0, 30, 42, 42, 180, 0, 12]
abbrev dktX0_holds_0 : List UInt8 := dkwX0_holds_0 ++ dktX0_holds_1
theorem dksX0_holds_0 : cX0_holds.data.toList.drop 0 = dktX0_holds_0 := by decide +kernel
theorem dksX0_holds_1 : cX0_holds.data.toList.drop 24 = dktX0_holds_1 := dk_seg dksX0_holds_0 24 rfl rfl
theorem dX0_holds_0 : decode cX0_holds 0 = .ok (.aload_n 0, 1) := dk_42 (dk_at dksX0_holds_0 0 rfl rfl)
theorem dX0_holds_1 : decode cX0_holds 1 = .ok (.iload_n 1, 1) := dk_27 (dk_at dksX0_holds_0 1 rfl rfl)
theorem dX0_holds_2 : decode cX0_holds 2 = .ok (.invokevirtual 261, 3) := dk_182 1 5 (dk_at dksX0_holds_0 2 rfl rfl)
theorem dX0_holds_5 : decode cX0_holds 5 = .ok (.ifCond .eq 10, 3) := dk_153 0 10 (dk_at dksX0_holds_0 5 rfl rfl)
theorem dX0_holds_8 : decode cX0_holds 8 = .ok (.iload_n 2, 1) := dk_28 (dk_at dksX0_holds_0 8 rfl rfl)
theorem dX0_holds_9 : decode cX0_holds 9 = .ok (.invokestatic 231, 3) := dk_184 0 231 (dk_at dksX0_holds_0 9 rfl rfl)
theorem dX0_holds_12 : decode cX0_holds 12 = .ok (.ifCond .ne 7, 3) := dk_154 0 7 (dk_at dksX0_holds_0 12 rfl rfl)
theorem dX0_holds_15 : decode cX0_holds 15 = .ok (.iconst (-1), 1) := dk_2 (dk_at dksX0_holds_0 15 rfl rfl)
theorem dX0_holds_16 : decode cX0_holds 16 = .ok (.goto 30, 3) := dk_167 0 30 (dk_at dksX0_holds_0 16 rfl rfl)
theorem dX0_holds_19 : decode cX0_holds 19 = .ok (.aload_n 0, 1) := dk_42 (dk_at dksX0_holds_0 19 rfl rfl)
theorem dX0_holds_20 : decode cX0_holds 20 = .ok (.aload_n 0, 1) := dk_42 (dk_at dksX0_holds_0 20 rfl rfl)
theorem dX0_holds_21 : decode cX0_holds 21 = .ok (.getfield 12, 3) := dk_180 0 12 (dk_at dksX0_holds_0 21 rfl rfl)
theorem dX0_holds_24 : decode cX0_holds 24 = .ok (.getfield 128, 3) := dk_180 0 128 (dk_at dksX0_holds_1 0 rfl rfl)
theorem dX0_holds_27 : decode cX0_holds 27 = .ok (.iload_n 1, 1) := dk_27 (dk_at dksX0_holds_1 3 rfl rfl)
theorem dX0_holds_28 : decode cX0_holds 28 = .ok (.invokevirtual 352, 3) := dk_182 1 96 (dk_at dksX0_holds_1 4 rfl rfl)
theorem dX0_holds_31 : decode cX0_holds 31 = .ok (.checkcast 165, 3) := dk_192 0 165 (dk_at dksX0_holds_1 7 rfl rfl)
theorem dX0_holds_34 : decode cX0_holds 34 = .ok (.iload_n 2, 1) := dk_28 (dk_at dksX0_holds_1 10 rfl rfl)
theorem dX0_holds_35 : decode cX0_holds 35 = .ok (.invokevirtual 357, 3) := dk_182 1 101 (dk_at dksX0_holds_1 11 rfl rfl)
theorem dX0_holds_38 : decode cX0_holds 38 = .ok (.ifCond .eq 7, 3) := dk_153 0 7 (dk_at dksX0_holds_1 14 rfl rfl)
theorem dX0_holds_41 : decode cX0_holds 41 = .ok (.iconst 1, 1) := dk_4 (dk_at dksX0_holds_1 17 rfl rfl)
theorem dX0_holds_42 : decode cX0_holds 42 = .ok (.goto 4, 3) := dk_167 0 4 (dk_at dksX0_holds_1 18 rfl rfl)
theorem dX0_holds_45 : decode cX0_holds 45 = .ok (.iconst 0, 1) := dk_3 (dk_at dksX0_holds_1 21 rfl rfl)
theorem dX0_holds_46 : decode cX0_holds 46 = .ok (.ireturn, 1) := dk_172 (dk_at dksX0_holds_1 22 rfl rfl)
abbrev cX0_claim : ByteArray := prog_1_method_55_code
def yX0_claim : MethodName := ⟨RX0, "claim", "(II)I"⟩
def dkwX0_claim_3 : List UInt8 := [42, 27, 182, 1, 108, 172, 42, 27, 182, 1, 16, 180, 1, 20, 172, 2, 172]
abbrev dktX0_claim_3 : List UInt8 := dkwX0_claim_3 ++ []
def dkwX0_claim_2 : List UInt8 := [42, 27, 182, 0, 148, 180, 0, 152, 172, 42, 27, 182, 0, 148, 180, 0, 222, 172, 42, 27, 182, 1, 3, 172]
abbrev dktX0_claim_2 : List UInt8 := dkwX0_claim_2 ++ dktX0_claim_3
def dkwX0_claim_1 : List UInt8 := [170, 0, 0, 0, 72, 0, 0, 0, 0, 0, 0, 0, 4, 0, 0, 0, 33, 0, 0, 0, 42, 0, 0, 0, 51, 0, 0, 0, 57, 0, 0, 0, 63]
abbrev dktX0_claim_1 : List UInt8 := dkwX0_claim_1 ++ dktX0_claim_2
def dkwX0_claim_0 : List UInt8 := [42, 27, 182, 1, 105, 154, 0, 5, 2, 172, 28]
abbrev dktX0_claim_0 : List UInt8 := dkwX0_claim_0 ++ dktX0_claim_1
theorem dksX0_claim_0 : cX0_claim.data.toList.drop 0 = dktX0_claim_0 := by decide +kernel
theorem dksX0_claim_1 : cX0_claim.data.toList.drop 11 = dktX0_claim_1 := dk_seg dksX0_claim_0 11 rfl rfl
theorem dksX0_claim_2 : cX0_claim.data.toList.drop 44 = dktX0_claim_2 := dk_seg dksX0_claim_1 33 rfl rfl
theorem dksX0_claim_3 : cX0_claim.data.toList.drop 68 = dktX0_claim_3 := dk_seg dksX0_claim_2 24 rfl rfl
theorem dX0_claim_0 : decode cX0_claim 0 = .ok (.aload_n 0, 1) := dk_42 (dk_at dksX0_claim_0 0 rfl rfl)
theorem dX0_claim_1 : decode cX0_claim 1 = .ok (.iload_n 1, 1) := dk_27 (dk_at dksX0_claim_0 1 rfl rfl)
theorem dX0_claim_2 : decode cX0_claim 2 = .ok (.invokevirtual 361, 3) := dk_182 1 105 (dk_at dksX0_claim_0 2 rfl rfl)
theorem dX0_claim_5 : decode cX0_claim 5 = .ok (.ifCond .ne 5, 3) := dk_154 0 5 (dk_at dksX0_claim_0 5 rfl rfl)
theorem dX0_claim_8 : decode cX0_claim 8 = .ok (.iconst (-1), 1) := dk_2 (dk_at dksX0_claim_0 8 rfl rfl)
theorem dX0_claim_9 : decode cX0_claim 9 = .ok (.ireturn, 1) := dk_172 (dk_at dksX0_claim_0 9 rfl rfl)
theorem dX0_claim_10 : decode cX0_claim 10 = .ok (.iload_n 2, 1) := dk_28 (dk_at dksX0_claim_0 10 rfl rfl)
theorem dX0_claim_11 : decode cX0_claim 11 = .ok (.tableswitch 72 0 4 #[33, 42, 51, 57, 63], 33) := by decide +kernel
theorem dX0_claim_44 : decode cX0_claim 44 = .ok (.aload_n 0, 1) := dk_42 (dk_at dksX0_claim_2 0 rfl rfl)
theorem dX0_claim_45 : decode cX0_claim 45 = .ok (.iload_n 1, 1) := dk_27 (dk_at dksX0_claim_2 1 rfl rfl)
theorem dX0_claim_46 : decode cX0_claim 46 = .ok (.invokevirtual 148, 3) := dk_182 0 148 (dk_at dksX0_claim_2 2 rfl rfl)
theorem dX0_claim_49 : decode cX0_claim 49 = .ok (.getfield 152, 3) := dk_180 0 152 (dk_at dksX0_claim_2 5 rfl rfl)
theorem dX0_claim_52 : decode cX0_claim 52 = .ok (.ireturn, 1) := dk_172 (dk_at dksX0_claim_2 8 rfl rfl)
theorem dX0_claim_53 : decode cX0_claim 53 = .ok (.aload_n 0, 1) := dk_42 (dk_at dksX0_claim_2 9 rfl rfl)
theorem dX0_claim_54 : decode cX0_claim 54 = .ok (.iload_n 1, 1) := dk_27 (dk_at dksX0_claim_2 10 rfl rfl)
theorem dX0_claim_55 : decode cX0_claim 55 = .ok (.invokevirtual 148, 3) := dk_182 0 148 (dk_at dksX0_claim_2 11 rfl rfl)
theorem dX0_claim_58 : decode cX0_claim 58 = .ok (.getfield 222, 3) := dk_180 0 222 (dk_at dksX0_claim_2 14 rfl rfl)
theorem dX0_claim_61 : decode cX0_claim 61 = .ok (.ireturn, 1) := dk_172 (dk_at dksX0_claim_2 17 rfl rfl)
theorem dX0_claim_62 : decode cX0_claim 62 = .ok (.aload_n 0, 1) := dk_42 (dk_at dksX0_claim_2 18 rfl rfl)
theorem dX0_claim_63 : decode cX0_claim 63 = .ok (.iload_n 1, 1) := dk_27 (dk_at dksX0_claim_2 19 rfl rfl)
theorem dX0_claim_64 : decode cX0_claim 64 = .ok (.invokevirtual 259, 3) := dk_182 1 3 (dk_at dksX0_claim_2 20 rfl rfl)
theorem dX0_claim_67 : decode cX0_claim 67 = .ok (.ireturn, 1) := dk_172 (dk_at dksX0_claim_2 23 rfl rfl)
theorem dX0_claim_68 : decode cX0_claim 68 = .ok (.aload_n 0, 1) := dk_42 (dk_at dksX0_claim_3 0 rfl rfl)
theorem dX0_claim_69 : decode cX0_claim 69 = .ok (.iload_n 1, 1) := dk_27 (dk_at dksX0_claim_3 1 rfl rfl)
theorem dX0_claim_70 : decode cX0_claim 70 = .ok (.invokevirtual 364, 3) := dk_182 1 108 (dk_at dksX0_claim_3 2 rfl rfl)
theorem dX0_claim_73 : decode cX0_claim 73 = .ok (.ireturn, 1) := dk_172 (dk_at dksX0_claim_3 5 rfl rfl)
theorem dX0_claim_74 : decode cX0_claim 74 = .ok (.aload_n 0, 1) := dk_42 (dk_at dksX0_claim_3 6 rfl rfl)
theorem dX0_claim_75 : decode cX0_claim 75 = .ok (.iload_n 1, 1) := dk_27 (dk_at dksX0_claim_3 7 rfl rfl)
theorem dX0_claim_76 : decode cX0_claim 76 = .ok (.invokevirtual 272, 3) := dk_182 1 16 (dk_at dksX0_claim_3 8 rfl rfl)
theorem dX0_claim_79 : decode cX0_claim 79 = .ok (.getfield 276, 3) := dk_180 1 20 (dk_at dksX0_claim_3 11 rfl rfl)
theorem dX0_claim_82 : decode cX0_claim 82 = .ok (.ireturn, 1) := dk_172 (dk_at dksX0_claim_3 14 rfl rfl)
theorem dX0_claim_83 : decode cX0_claim 83 = .ok (.iconst (-1), 1) := dk_2 (dk_at dksX0_claim_3 15 rfl rfl)
theorem dX0_claim_84 : decode cX0_claim 84 = .ok (.ireturn, 1) := dk_172 (dk_at dksX0_claim_3 16 rfl rfl)
abbrev cX0_isClaim : ByteArray := prog_1_method_14_code
def yX0_isClaim : MethodName := ⟨RX0, "isClaim", "(I)Z"⟩
def dkwX0_isClaim_0 : List UInt8 := [27, 42, 180, 0, 12, 180, 0, 135, 182, 0, 118, 184, 0, 124, 172]
abbrev dktX0_isClaim_0 : List UInt8 := dkwX0_isClaim_0 ++ []
theorem dksX0_isClaim_0 : cX0_isClaim.data.toList.drop 0 = dktX0_isClaim_0 := by decide +kernel
theorem dX0_isClaim_0 : decode cX0_isClaim 0 = .ok (.iload_n 1, 1) := dk_27 (dk_at dksX0_isClaim_0 0 rfl rfl)
theorem dX0_isClaim_1 : decode cX0_isClaim 1 = .ok (.aload_n 0, 1) := dk_42 (dk_at dksX0_isClaim_0 1 rfl rfl)
theorem dX0_isClaim_2 : decode cX0_isClaim 2 = .ok (.getfield 12, 3) := dk_180 0 12 (dk_at dksX0_isClaim_0 2 rfl rfl)
theorem dX0_isClaim_5 : decode cX0_isClaim 5 = .ok (.getfield 135, 3) := dk_180 0 135 (dk_at dksX0_isClaim_0 5 rfl rfl)
theorem dX0_isClaim_8 : decode cX0_isClaim 8 = .ok (.invokevirtual 118, 3) := dk_182 0 118 (dk_at dksX0_isClaim_0 8 rfl rfl)
theorem dX0_isClaim_11 : decode cX0_isClaim 11 = .ok (.invokestatic 124, 3) := dk_184 0 124 (dk_at dksX0_isClaim_0 11 rfl rfl)
theorem dX0_isClaim_14 : decode cX0_isClaim 14 = .ok (.ireturn, 1) := dk_172 (dk_at dksX0_isClaim_0 14 rfl rfl)
abbrev cX0_marginOf : ByteArray := prog_1_method_62_code
def yX0_marginOf : MethodName := ⟨RX0, "marginOf", "(I)I"⟩
def dkwX0_marginOf_5 : List UInt8 := [100, 184, 0, 251, 54, 4, 167, 255, 161, 21, 4, 172]
abbrev dktX0_marginOf_5 : List UInt8 := dkwX0_marginOf_5 ++ []
def dkwX0_marginOf_4 : List UInt8 := [167, 0, 8, 25, 6, 180, 1, 117, 54, 7, 28, 21, 7, 164, 0, 6, 16, 254, 172, 21, 4, 21, 7, 28]
abbrev dktX0_marginOf_4 : List UInt8 := dkwX0_marginOf_4 ++ dktX0_marginOf_5
def dkwX0_marginOf_3 : List UInt8 := [25, 6, 180, 1, 116, 29, 160, 0, 21, 25, 6, 180, 1, 117, 42, 180, 0, 12, 180, 0, 178, 4, 46, 96]
abbrev dktX0_marginOf_3 : List UInt8 := dkwX0_marginOf_3 ++ dktX0_marginOf_4
def dkwX0_marginOf_2 : List UInt8 := [192, 1, 114, 58, 6, 25, 6, 42, 27, 182, 0, 148, 180, 0, 222, 182, 1, 126, 154, 0, 6, 167, 255, 218]
abbrev dktX0_marginOf_2 : List UInt8 := dkwX0_marginOf_2 ++ dktX0_marginOf_3
def dkwX0_marginOf_1 : List UInt8 := [182, 1, 74, 58, 5, 25, 5, 185, 0, 204, 1, 0, 153, 0, 91, 25, 5, 185, 0, 210, 1, 0]
abbrev dktX0_marginOf_1 : List UInt8 := dkwX0_marginOf_1 ++ dktX0_marginOf_2
def dkwX0_marginOf_0 : List UInt8 := [42, 27, 182, 1, 3, 61, 42, 27, 182, 1, 145, 62, 17, 39, 15, 54, 4, 42, 180, 0, 12, 180, 0, 138]
abbrev dktX0_marginOf_0 : List UInt8 := dkwX0_marginOf_0 ++ dktX0_marginOf_1
theorem dksX0_marginOf_0 : cX0_marginOf.data.toList.drop 0 = dktX0_marginOf_0 := by decide +kernel
theorem dksX0_marginOf_1 : cX0_marginOf.data.toList.drop 24 = dktX0_marginOf_1 := dk_seg dksX0_marginOf_0 24 rfl rfl
theorem dksX0_marginOf_2 : cX0_marginOf.data.toList.drop 46 = dktX0_marginOf_2 := dk_seg dksX0_marginOf_1 22 rfl rfl
theorem dksX0_marginOf_3 : cX0_marginOf.data.toList.drop 70 = dktX0_marginOf_3 := dk_seg dksX0_marginOf_2 24 rfl rfl
theorem dksX0_marginOf_4 : cX0_marginOf.data.toList.drop 94 = dktX0_marginOf_4 := dk_seg dksX0_marginOf_3 24 rfl rfl
theorem dksX0_marginOf_5 : cX0_marginOf.data.toList.drop 118 = dktX0_marginOf_5 := dk_seg dksX0_marginOf_4 24 rfl rfl
theorem dX0_marginOf_0 : decode cX0_marginOf 0 = .ok (.aload_n 0, 1) := dk_42 (dk_at dksX0_marginOf_0 0 rfl rfl)
theorem dX0_marginOf_1 : decode cX0_marginOf 1 = .ok (.iload_n 1, 1) := dk_27 (dk_at dksX0_marginOf_0 1 rfl rfl)
theorem dX0_marginOf_2 : decode cX0_marginOf 2 = .ok (.invokevirtual 259, 3) := dk_182 1 3 (dk_at dksX0_marginOf_0 2 rfl rfl)
theorem dX0_marginOf_5 : decode cX0_marginOf 5 = .ok (.istore_n 2, 1) := dk_61 (dk_at dksX0_marginOf_0 5 rfl rfl)
theorem dX0_marginOf_6 : decode cX0_marginOf 6 = .ok (.aload_n 0, 1) := dk_42 (dk_at dksX0_marginOf_0 6 rfl rfl)
theorem dX0_marginOf_7 : decode cX0_marginOf 7 = .ok (.iload_n 1, 1) := dk_27 (dk_at dksX0_marginOf_0 7 rfl rfl)
theorem dX0_marginOf_8 : decode cX0_marginOf 8 = .ok (.invokevirtual 401, 3) := dk_182 1 145 (dk_at dksX0_marginOf_0 8 rfl rfl)
theorem dX0_marginOf_11 : decode cX0_marginOf 11 = .ok (.istore_n 3, 1) := dk_62 (dk_at dksX0_marginOf_0 11 rfl rfl)
theorem dX0_marginOf_12 : decode cX0_marginOf 12 = .ok (.sipush 9999, 3) := dk_17 39 15 (dk_at dksX0_marginOf_0 12 rfl rfl)
theorem dX0_marginOf_15 : decode cX0_marginOf 15 = .ok (.istore 4, 2) := dk_54 4 (dk_at dksX0_marginOf_0 15 rfl rfl)
theorem dX0_marginOf_17 : decode cX0_marginOf 17 = .ok (.aload_n 0, 1) := dk_42 (dk_at dksX0_marginOf_0 17 rfl rfl)
theorem dX0_marginOf_18 : decode cX0_marginOf 18 = .ok (.getfield 12, 3) := dk_180 0 12 (dk_at dksX0_marginOf_0 18 rfl rfl)
theorem dX0_marginOf_21 : decode cX0_marginOf 21 = .ok (.getfield 138, 3) := dk_180 0 138 (dk_at dksX0_marginOf_0 21 rfl rfl)
theorem dX0_marginOf_24 : decode cX0_marginOf 24 = .ok (.invokevirtual 330, 3) := dk_182 1 74 (dk_at dksX0_marginOf_1 0 rfl rfl)
theorem dX0_marginOf_27 : decode cX0_marginOf 27 = .ok (.astore 5, 2) := dk_58 5 (dk_at dksX0_marginOf_1 3 rfl rfl)
theorem dX0_marginOf_29 : decode cX0_marginOf 29 = .ok (.aload 5, 2) := dk_25 5 (dk_at dksX0_marginOf_1 5 rfl rfl)
theorem dX0_marginOf_31 : decode cX0_marginOf 31 = .ok (.invokeinterface 204 1, 5) := by decide +kernel
theorem dX0_marginOf_36 : decode cX0_marginOf 36 = .ok (.ifCond .eq 91, 3) := dk_153 0 91 (dk_at dksX0_marginOf_1 12 rfl rfl)
theorem dX0_marginOf_39 : decode cX0_marginOf 39 = .ok (.aload 5, 2) := dk_25 5 (dk_at dksX0_marginOf_1 15 rfl rfl)
theorem dX0_marginOf_41 : decode cX0_marginOf 41 = .ok (.invokeinterface 210 1, 5) := by decide +kernel
theorem dX0_marginOf_46 : decode cX0_marginOf 46 = .ok (.checkcast 370, 3) := dk_192 1 114 (dk_at dksX0_marginOf_2 0 rfl rfl)
theorem dX0_marginOf_49 : decode cX0_marginOf 49 = .ok (.astore 6, 2) := dk_58 6 (dk_at dksX0_marginOf_2 3 rfl rfl)
theorem dX0_marginOf_51 : decode cX0_marginOf 51 = .ok (.aload 6, 2) := dk_25 6 (dk_at dksX0_marginOf_2 5 rfl rfl)
theorem dX0_marginOf_53 : decode cX0_marginOf 53 = .ok (.aload_n 0, 1) := dk_42 (dk_at dksX0_marginOf_2 7 rfl rfl)
theorem dX0_marginOf_54 : decode cX0_marginOf 54 = .ok (.iload_n 1, 1) := dk_27 (dk_at dksX0_marginOf_2 8 rfl rfl)
theorem dX0_marginOf_55 : decode cX0_marginOf 55 = .ok (.invokevirtual 148, 3) := dk_182 0 148 (dk_at dksX0_marginOf_2 9 rfl rfl)
theorem dX0_marginOf_58 : decode cX0_marginOf 58 = .ok (.getfield 222, 3) := dk_180 0 222 (dk_at dksX0_marginOf_2 12 rfl rfl)
theorem dX0_marginOf_61 : decode cX0_marginOf 61 = .ok (.invokevirtual 382, 3) := dk_182 1 126 (dk_at dksX0_marginOf_2 15 rfl rfl)
theorem dX0_marginOf_64 : decode cX0_marginOf 64 = .ok (.ifCond .ne 6, 3) := dk_154 0 6 (dk_at dksX0_marginOf_2 18 rfl rfl)
theorem dX0_marginOf_67 : decode cX0_marginOf 67 = .ok (.goto (-38), 3) := dk_167 255 218 (dk_at dksX0_marginOf_2 21 rfl rfl)
theorem dX0_marginOf_70 : decode cX0_marginOf 70 = .ok (.aload 6, 2) := dk_25 6 (dk_at dksX0_marginOf_3 0 rfl rfl)
theorem dX0_marginOf_72 : decode cX0_marginOf 72 = .ok (.getfield 372, 3) := dk_180 1 116 (dk_at dksX0_marginOf_3 2 rfl rfl)
theorem dX0_marginOf_75 : decode cX0_marginOf 75 = .ok (.iload_n 3, 1) := dk_29 (dk_at dksX0_marginOf_3 5 rfl rfl)
theorem dX0_marginOf_76 : decode cX0_marginOf 76 = .ok (.if_icmp .ne 21, 3) := dk_160 0 21 (dk_at dksX0_marginOf_3 6 rfl rfl)
theorem dX0_marginOf_79 : decode cX0_marginOf 79 = .ok (.aload 6, 2) := dk_25 6 (dk_at dksX0_marginOf_3 9 rfl rfl)
theorem dX0_marginOf_81 : decode cX0_marginOf 81 = .ok (.getfield 373, 3) := dk_180 1 117 (dk_at dksX0_marginOf_3 11 rfl rfl)
theorem dX0_marginOf_84 : decode cX0_marginOf 84 = .ok (.aload_n 0, 1) := dk_42 (dk_at dksX0_marginOf_3 14 rfl rfl)
theorem dX0_marginOf_85 : decode cX0_marginOf 85 = .ok (.getfield 12, 3) := dk_180 0 12 (dk_at dksX0_marginOf_3 15 rfl rfl)
theorem dX0_marginOf_88 : decode cX0_marginOf 88 = .ok (.getfield 178, 3) := dk_180 0 178 (dk_at dksX0_marginOf_3 18 rfl rfl)
theorem dX0_marginOf_91 : decode cX0_marginOf 91 = .ok (.iconst 1, 1) := dk_4 (dk_at dksX0_marginOf_3 21 rfl rfl)
theorem dX0_marginOf_92 : decode cX0_marginOf 92 = .ok (.iaload, 1) := dk_46 (dk_at dksX0_marginOf_3 22 rfl rfl)
theorem dX0_marginOf_93 : decode cX0_marginOf 93 = .ok (.iadd, 1) := dk_96 (dk_at dksX0_marginOf_3 23 rfl rfl)
theorem dX0_marginOf_94 : decode cX0_marginOf 94 = .ok (.goto 8, 3) := dk_167 0 8 (dk_at dksX0_marginOf_4 0 rfl rfl)
theorem dX0_marginOf_97 : decode cX0_marginOf 97 = .ok (.aload 6, 2) := dk_25 6 (dk_at dksX0_marginOf_4 3 rfl rfl)
theorem dX0_marginOf_99 : decode cX0_marginOf 99 = .ok (.getfield 373, 3) := dk_180 1 117 (dk_at dksX0_marginOf_4 5 rfl rfl)
theorem dX0_marginOf_102 : decode cX0_marginOf 102 = .ok (.istore 7, 2) := dk_54 7 (dk_at dksX0_marginOf_4 8 rfl rfl)
theorem dX0_marginOf_104 : decode cX0_marginOf 104 = .ok (.iload_n 2, 1) := dk_28 (dk_at dksX0_marginOf_4 10 rfl rfl)
theorem dX0_marginOf_105 : decode cX0_marginOf 105 = .ok (.iload 7, 2) := dk_21 7 (dk_at dksX0_marginOf_4 11 rfl rfl)
theorem dX0_marginOf_107 : decode cX0_marginOf 107 = .ok (.if_icmp .le 6, 3) := dk_164 0 6 (dk_at dksX0_marginOf_4 13 rfl rfl)
theorem dX0_marginOf_110 : decode cX0_marginOf 110 = .ok (.bipush (-2), 2) := dk_16 254 (dk_at dksX0_marginOf_4 16 rfl rfl)
theorem dX0_marginOf_112 : decode cX0_marginOf 112 = .ok (.ireturn, 1) := dk_172 (dk_at dksX0_marginOf_4 18 rfl rfl)
theorem dX0_marginOf_113 : decode cX0_marginOf 113 = .ok (.iload 4, 2) := dk_21 4 (dk_at dksX0_marginOf_4 19 rfl rfl)
theorem dX0_marginOf_115 : decode cX0_marginOf 115 = .ok (.iload 7, 2) := dk_21 7 (dk_at dksX0_marginOf_4 21 rfl rfl)
theorem dX0_marginOf_117 : decode cX0_marginOf 117 = .ok (.iload_n 2, 1) := dk_28 (dk_at dksX0_marginOf_4 23 rfl rfl)
theorem dX0_marginOf_118 : decode cX0_marginOf 118 = .ok (.isub, 1) := dk_100 (dk_at dksX0_marginOf_5 0 rfl rfl)
theorem dX0_marginOf_119 : decode cX0_marginOf 119 = .ok (.invokestatic 251, 3) := dk_184 0 251 (dk_at dksX0_marginOf_5 1 rfl rfl)
theorem dX0_marginOf_122 : decode cX0_marginOf 122 = .ok (.istore 4, 2) := dk_54 4 (dk_at dksX0_marginOf_5 4 rfl rfl)
theorem dX0_marginOf_124 : decode cX0_marginOf 124 = .ok (.goto (-95), 3) := dk_167 255 161 (dk_at dksX0_marginOf_5 6 rfl rfl)
theorem dX0_marginOf_127 : decode cX0_marginOf 127 = .ok (.iload 4, 2) := dk_21 4 (dk_at dksX0_marginOf_5 9 rfl rfl)
theorem dX0_marginOf_129 : decode cX0_marginOf 129 = .ok (.ireturn, 1) := dk_172 (dk_at dksX0_marginOf_5 11 rfl rfl)
abbrev cX0_shown : ByteArray := prog_1_method_56_code
def yX0_shown : MethodName := ⟨RX0, "shown", "(II)I"⟩
def dkwX0_shown_2 : List UInt8 := [28, 5, 160, 0, 10, 45, 180, 1, 118, 167, 0, 4, 2, 172]
abbrev dktX0_shown_2 : List UInt8 := dkwX0_shown_2 ++ []
def dkwX0_shown_1 : List UInt8 := [78, 28, 154, 0, 10, 45, 180, 1, 116, 167, 0, 28, 28, 4, 160, 0, 10, 45, 180, 1, 117, 167, 0, 16]
abbrev dktX0_shown_1 : List UInt8 := dkwX0_shown_1 ++ dktX0_shown_2
def dkwX0_shown_0 : List UInt8 := [42, 27, 182, 1, 111, 154, 0, 5, 2, 172, 42, 180, 0, 12, 180, 0, 138, 27, 182, 0, 142, 192, 1, 114]
abbrev dktX0_shown_0 : List UInt8 := dkwX0_shown_0 ++ dktX0_shown_1
theorem dksX0_shown_0 : cX0_shown.data.toList.drop 0 = dktX0_shown_0 := by decide +kernel
theorem dksX0_shown_1 : cX0_shown.data.toList.drop 24 = dktX0_shown_1 := dk_seg dksX0_shown_0 24 rfl rfl
theorem dksX0_shown_2 : cX0_shown.data.toList.drop 48 = dktX0_shown_2 := dk_seg dksX0_shown_1 24 rfl rfl
theorem dX0_shown_0 : decode cX0_shown 0 = .ok (.aload_n 0, 1) := dk_42 (dk_at dksX0_shown_0 0 rfl rfl)
theorem dX0_shown_1 : decode cX0_shown 1 = .ok (.iload_n 1, 1) := dk_27 (dk_at dksX0_shown_0 1 rfl rfl)
theorem dX0_shown_2 : decode cX0_shown 2 = .ok (.invokevirtual 367, 3) := dk_182 1 111 (dk_at dksX0_shown_0 2 rfl rfl)
theorem dX0_shown_5 : decode cX0_shown 5 = .ok (.ifCond .ne 5, 3) := dk_154 0 5 (dk_at dksX0_shown_0 5 rfl rfl)
theorem dX0_shown_8 : decode cX0_shown 8 = .ok (.iconst (-1), 1) := dk_2 (dk_at dksX0_shown_0 8 rfl rfl)
theorem dX0_shown_9 : decode cX0_shown 9 = .ok (.ireturn, 1) := dk_172 (dk_at dksX0_shown_0 9 rfl rfl)
theorem dX0_shown_10 : decode cX0_shown 10 = .ok (.aload_n 0, 1) := dk_42 (dk_at dksX0_shown_0 10 rfl rfl)
theorem dX0_shown_11 : decode cX0_shown 11 = .ok (.getfield 12, 3) := dk_180 0 12 (dk_at dksX0_shown_0 11 rfl rfl)
theorem dX0_shown_14 : decode cX0_shown 14 = .ok (.getfield 138, 3) := dk_180 0 138 (dk_at dksX0_shown_0 14 rfl rfl)
theorem dX0_shown_17 : decode cX0_shown 17 = .ok (.iload_n 1, 1) := dk_27 (dk_at dksX0_shown_0 17 rfl rfl)
theorem dX0_shown_18 : decode cX0_shown 18 = .ok (.invokevirtual 142, 3) := dk_182 0 142 (dk_at dksX0_shown_0 18 rfl rfl)
theorem dX0_shown_21 : decode cX0_shown 21 = .ok (.checkcast 370, 3) := dk_192 1 114 (dk_at dksX0_shown_0 21 rfl rfl)
theorem dX0_shown_24 : decode cX0_shown 24 = .ok (.astore_n 3, 1) := dk_78 (dk_at dksX0_shown_1 0 rfl rfl)
theorem dX0_shown_25 : decode cX0_shown 25 = .ok (.iload_n 2, 1) := dk_28 (dk_at dksX0_shown_1 1 rfl rfl)
theorem dX0_shown_26 : decode cX0_shown 26 = .ok (.ifCond .ne 10, 3) := dk_154 0 10 (dk_at dksX0_shown_1 2 rfl rfl)
theorem dX0_shown_29 : decode cX0_shown 29 = .ok (.aload_n 3, 1) := dk_45 (dk_at dksX0_shown_1 5 rfl rfl)
theorem dX0_shown_30 : decode cX0_shown 30 = .ok (.getfield 372, 3) := dk_180 1 116 (dk_at dksX0_shown_1 6 rfl rfl)
theorem dX0_shown_33 : decode cX0_shown 33 = .ok (.goto 28, 3) := dk_167 0 28 (dk_at dksX0_shown_1 9 rfl rfl)
theorem dX0_shown_36 : decode cX0_shown 36 = .ok (.iload_n 2, 1) := dk_28 (dk_at dksX0_shown_1 12 rfl rfl)
theorem dX0_shown_37 : decode cX0_shown 37 = .ok (.iconst 1, 1) := dk_4 (dk_at dksX0_shown_1 13 rfl rfl)
theorem dX0_shown_38 : decode cX0_shown 38 = .ok (.if_icmp .ne 10, 3) := dk_160 0 10 (dk_at dksX0_shown_1 14 rfl rfl)
theorem dX0_shown_41 : decode cX0_shown 41 = .ok (.aload_n 3, 1) := dk_45 (dk_at dksX0_shown_1 17 rfl rfl)
theorem dX0_shown_42 : decode cX0_shown 42 = .ok (.getfield 373, 3) := dk_180 1 117 (dk_at dksX0_shown_1 18 rfl rfl)
theorem dX0_shown_45 : decode cX0_shown 45 = .ok (.goto 16, 3) := dk_167 0 16 (dk_at dksX0_shown_1 21 rfl rfl)
theorem dX0_shown_48 : decode cX0_shown 48 = .ok (.iload_n 2, 1) := dk_28 (dk_at dksX0_shown_2 0 rfl rfl)
theorem dX0_shown_49 : decode cX0_shown 49 = .ok (.iconst 2, 1) := dk_5 (dk_at dksX0_shown_2 1 rfl rfl)
theorem dX0_shown_50 : decode cX0_shown 50 = .ok (.if_icmp .ne 10, 3) := dk_160 0 10 (dk_at dksX0_shown_2 2 rfl rfl)
theorem dX0_shown_53 : decode cX0_shown 53 = .ok (.aload_n 3, 1) := dk_45 (dk_at dksX0_shown_2 5 rfl rfl)
theorem dX0_shown_54 : decode cX0_shown 54 = .ok (.getfield 374, 3) := dk_180 1 118 (dk_at dksX0_shown_2 6 rfl rfl)
theorem dX0_shown_57 : decode cX0_shown 57 = .ok (.goto 4, 3) := dk_167 0 4 (dk_at dksX0_shown_2 9 rfl rfl)
theorem dX0_shown_60 : decode cX0_shown 60 = .ok (.iconst (-1), 1) := dk_2 (dk_at dksX0_shown_2 12 rfl rfl)
theorem dX0_shown_61 : decode cX0_shown 61 = .ok (.ireturn, 1) := dk_172 (dk_at dksX0_shown_2 13 rfl rfl)
abbrev cX0_isThing : ByteArray := prog_1_method_15_code
def yX0_isThing : MethodName := ⟨RX0, "isThing", "(I)Z"⟩
def dkwX0_isThing_0 : List UInt8 := [27, 42, 180, 0, 12, 180, 0, 138, 182, 0, 118, 184, 0, 124, 172]
abbrev dktX0_isThing_0 : List UInt8 := dkwX0_isThing_0 ++ []
theorem dksX0_isThing_0 : cX0_isThing.data.toList.drop 0 = dktX0_isThing_0 := by decide +kernel
theorem dX0_isThing_0 : decode cX0_isThing 0 = .ok (.iload_n 1, 1) := dk_27 (dk_at dksX0_isThing_0 0 rfl rfl)
theorem dX0_isThing_1 : decode cX0_isThing 1 = .ok (.aload_n 0, 1) := dk_42 (dk_at dksX0_isThing_0 1 rfl rfl)
theorem dX0_isThing_2 : decode cX0_isThing 2 = .ok (.getfield 12, 3) := dk_180 0 12 (dk_at dksX0_isThing_0 2 rfl rfl)
theorem dX0_isThing_5 : decode cX0_isThing 5 = .ok (.getfield 138, 3) := dk_180 0 138 (dk_at dksX0_isThing_0 5 rfl rfl)
theorem dX0_isThing_8 : decode cX0_isThing 8 = .ok (.invokevirtual 118, 3) := dk_182 0 118 (dk_at dksX0_isThing_0 8 rfl rfl)
theorem dX0_isThing_11 : decode cX0_isThing 11 = .ok (.invokestatic 124, 3) := dk_184 0 124 (dk_at dksX0_isThing_0 11 rfl rfl)
theorem dX0_isThing_14 : decode cX0_isThing 14 = .ok (.ireturn, 1) := dk_172 (dk_at dksX0_isThing_0 14 rfl rfl)
abbrev cX0_bars : ByteArray := prog_1_method_63_code
def yX0_bars : MethodName := ⟨RX0, "bars", "(II)I"⟩
def dkwX0_bars_3 : List UInt8 := [182, 1, 145, 21, 4, 182, 1, 119, 153, 0, 7, 5, 167, 0, 4, 4, 172]
abbrev dktX0_bars_3 : List UInt8 := dkwX0_bars_3 ++ []
def dkwX0_bars_2 : List UInt8 := [180, 0, 222, 182, 1, 126, 153, 0, 12, 45, 180, 1, 117, 21, 4, 161, 0, 5, 3, 172, 42, 45, 42, 27]
abbrev dktX0_bars_2 : List UInt8 := dkwX0_bars_2 ++ dktX0_bars_3
def dkwX0_bars_1 : List UInt8 := [180, 0, 138, 28, 182, 0, 142, 192, 1, 114, 78, 42, 27, 182, 1, 3, 54, 4, 45, 42, 27, 182, 0, 148]
abbrev dktX0_bars_1 : List UInt8 := dkwX0_bars_1 ++ dktX0_bars_2
def dkwX0_bars_0 : List UInt8 := [42, 27, 182, 1, 105, 153, 0, 11, 42, 28, 182, 1, 111, 154, 0, 5, 2, 172, 42, 180, 0, 12]
abbrev dktX0_bars_0 : List UInt8 := dkwX0_bars_0 ++ dktX0_bars_1
theorem dksX0_bars_0 : cX0_bars.data.toList.drop 0 = dktX0_bars_0 := by decide +kernel
theorem dksX0_bars_1 : cX0_bars.data.toList.drop 22 = dktX0_bars_1 := dk_seg dksX0_bars_0 22 rfl rfl
theorem dksX0_bars_2 : cX0_bars.data.toList.drop 46 = dktX0_bars_2 := dk_seg dksX0_bars_1 24 rfl rfl
theorem dksX0_bars_3 : cX0_bars.data.toList.drop 70 = dktX0_bars_3 := dk_seg dksX0_bars_2 24 rfl rfl
theorem dX0_bars_0 : decode cX0_bars 0 = .ok (.aload_n 0, 1) := dk_42 (dk_at dksX0_bars_0 0 rfl rfl)
theorem dX0_bars_1 : decode cX0_bars 1 = .ok (.iload_n 1, 1) := dk_27 (dk_at dksX0_bars_0 1 rfl rfl)
theorem dX0_bars_2 : decode cX0_bars 2 = .ok (.invokevirtual 361, 3) := dk_182 1 105 (dk_at dksX0_bars_0 2 rfl rfl)
theorem dX0_bars_5 : decode cX0_bars 5 = .ok (.ifCond .eq 11, 3) := dk_153 0 11 (dk_at dksX0_bars_0 5 rfl rfl)
theorem dX0_bars_8 : decode cX0_bars 8 = .ok (.aload_n 0, 1) := dk_42 (dk_at dksX0_bars_0 8 rfl rfl)
theorem dX0_bars_9 : decode cX0_bars 9 = .ok (.iload_n 2, 1) := dk_28 (dk_at dksX0_bars_0 9 rfl rfl)
theorem dX0_bars_10 : decode cX0_bars 10 = .ok (.invokevirtual 367, 3) := dk_182 1 111 (dk_at dksX0_bars_0 10 rfl rfl)
theorem dX0_bars_13 : decode cX0_bars 13 = .ok (.ifCond .ne 5, 3) := dk_154 0 5 (dk_at dksX0_bars_0 13 rfl rfl)
theorem dX0_bars_16 : decode cX0_bars 16 = .ok (.iconst (-1), 1) := dk_2 (dk_at dksX0_bars_0 16 rfl rfl)
theorem dX0_bars_17 : decode cX0_bars 17 = .ok (.ireturn, 1) := dk_172 (dk_at dksX0_bars_0 17 rfl rfl)
theorem dX0_bars_18 : decode cX0_bars 18 = .ok (.aload_n 0, 1) := dk_42 (dk_at dksX0_bars_0 18 rfl rfl)
theorem dX0_bars_19 : decode cX0_bars 19 = .ok (.getfield 12, 3) := dk_180 0 12 (dk_at dksX0_bars_0 19 rfl rfl)
theorem dX0_bars_22 : decode cX0_bars 22 = .ok (.getfield 138, 3) := dk_180 0 138 (dk_at dksX0_bars_1 0 rfl rfl)
theorem dX0_bars_25 : decode cX0_bars 25 = .ok (.iload_n 2, 1) := dk_28 (dk_at dksX0_bars_1 3 rfl rfl)
theorem dX0_bars_26 : decode cX0_bars 26 = .ok (.invokevirtual 142, 3) := dk_182 0 142 (dk_at dksX0_bars_1 4 rfl rfl)
theorem dX0_bars_29 : decode cX0_bars 29 = .ok (.checkcast 370, 3) := dk_192 1 114 (dk_at dksX0_bars_1 7 rfl rfl)
theorem dX0_bars_32 : decode cX0_bars 32 = .ok (.astore_n 3, 1) := dk_78 (dk_at dksX0_bars_1 10 rfl rfl)
theorem dX0_bars_33 : decode cX0_bars 33 = .ok (.aload_n 0, 1) := dk_42 (dk_at dksX0_bars_1 11 rfl rfl)
theorem dX0_bars_34 : decode cX0_bars 34 = .ok (.iload_n 1, 1) := dk_27 (dk_at dksX0_bars_1 12 rfl rfl)
theorem dX0_bars_35 : decode cX0_bars 35 = .ok (.invokevirtual 259, 3) := dk_182 1 3 (dk_at dksX0_bars_1 13 rfl rfl)
theorem dX0_bars_38 : decode cX0_bars 38 = .ok (.istore 4, 2) := dk_54 4 (dk_at dksX0_bars_1 16 rfl rfl)
theorem dX0_bars_40 : decode cX0_bars 40 = .ok (.aload_n 3, 1) := dk_45 (dk_at dksX0_bars_1 18 rfl rfl)
theorem dX0_bars_41 : decode cX0_bars 41 = .ok (.aload_n 0, 1) := dk_42 (dk_at dksX0_bars_1 19 rfl rfl)
theorem dX0_bars_42 : decode cX0_bars 42 = .ok (.iload_n 1, 1) := dk_27 (dk_at dksX0_bars_1 20 rfl rfl)
theorem dX0_bars_43 : decode cX0_bars 43 = .ok (.invokevirtual 148, 3) := dk_182 0 148 (dk_at dksX0_bars_1 21 rfl rfl)
theorem dX0_bars_46 : decode cX0_bars 46 = .ok (.getfield 222, 3) := dk_180 0 222 (dk_at dksX0_bars_2 0 rfl rfl)
theorem dX0_bars_49 : decode cX0_bars 49 = .ok (.invokevirtual 382, 3) := dk_182 1 126 (dk_at dksX0_bars_2 3 rfl rfl)
theorem dX0_bars_52 : decode cX0_bars 52 = .ok (.ifCond .eq 12, 3) := dk_153 0 12 (dk_at dksX0_bars_2 6 rfl rfl)
theorem dX0_bars_55 : decode cX0_bars 55 = .ok (.aload_n 3, 1) := dk_45 (dk_at dksX0_bars_2 9 rfl rfl)
theorem dX0_bars_56 : decode cX0_bars 56 = .ok (.getfield 373, 3) := dk_180 1 117 (dk_at dksX0_bars_2 10 rfl rfl)
theorem dX0_bars_59 : decode cX0_bars 59 = .ok (.iload 4, 2) := dk_21 4 (dk_at dksX0_bars_2 13 rfl rfl)
theorem dX0_bars_61 : decode cX0_bars 61 = .ok (.if_icmp .lt 5, 3) := dk_161 0 5 (dk_at dksX0_bars_2 15 rfl rfl)
theorem dX0_bars_64 : decode cX0_bars 64 = .ok (.iconst 0, 1) := dk_3 (dk_at dksX0_bars_2 18 rfl rfl)
theorem dX0_bars_65 : decode cX0_bars 65 = .ok (.ireturn, 1) := dk_172 (dk_at dksX0_bars_2 19 rfl rfl)
theorem dX0_bars_66 : decode cX0_bars 66 = .ok (.aload_n 0, 1) := dk_42 (dk_at dksX0_bars_2 20 rfl rfl)
theorem dX0_bars_67 : decode cX0_bars 67 = .ok (.aload_n 3, 1) := dk_45 (dk_at dksX0_bars_2 21 rfl rfl)
theorem dX0_bars_68 : decode cX0_bars 68 = .ok (.aload_n 0, 1) := dk_42 (dk_at dksX0_bars_2 22 rfl rfl)
theorem dX0_bars_69 : decode cX0_bars 69 = .ok (.iload_n 1, 1) := dk_27 (dk_at dksX0_bars_2 23 rfl rfl)
theorem dX0_bars_70 : decode cX0_bars 70 = .ok (.invokevirtual 401, 3) := dk_182 1 145 (dk_at dksX0_bars_3 0 rfl rfl)
theorem dX0_bars_73 : decode cX0_bars 73 = .ok (.iload 4, 2) := dk_21 4 (dk_at dksX0_bars_3 3 rfl rfl)
theorem dX0_bars_75 : decode cX0_bars 75 = .ok (.invokevirtual 375, 3) := dk_182 1 119 (dk_at dksX0_bars_3 5 rfl rfl)
theorem dX0_bars_78 : decode cX0_bars 78 = .ok (.ifCond .eq 7, 3) := dk_153 0 7 (dk_at dksX0_bars_3 8 rfl rfl)
theorem dX0_bars_81 : decode cX0_bars 81 = .ok (.iconst 2, 1) := dk_5 (dk_at dksX0_bars_3 11 rfl rfl)
theorem dX0_bars_82 : decode cX0_bars 82 = .ok (.goto 4, 3) := dk_167 0 4 (dk_at dksX0_bars_3 12 rfl rfl)
theorem dX0_bars_85 : decode cX0_bars 85 = .ok (.iconst 1, 1) := dk_4 (dk_at dksX0_bars_3 15 rfl rfl)
theorem dX0_bars_86 : decode cX0_bars 86 = .ok (.ireturn, 1) := dk_172 (dk_at dksX0_bars_3 16 rfl rfl)
abbrev cX0_bar : ByteArray := prog_1_method_64_code
def yX0_bar : MethodName := ⟨RX0, "bar", "(II)I"⟩
def dkwX0_bar_2 : List UInt8 := [180, 1, 155, 172]
abbrev dktX0_bar_2 : List UInt8 := dkwX0_bar_2 ++ []
def dkwX0_bar_1 : List UInt8 := [28, 154, 0, 10, 45, 180, 1, 20, 167, 0, 19, 28, 4, 160, 0, 10, 45, 180, 1, 152, 167, 0, 7, 45]
abbrev dktX0_bar_1 : List UInt8 := dkwX0_bar_1 ++ dktX0_bar_2
def dkwX0_bar_0 : List UInt8 := [42, 27, 182, 1, 105, 153, 0, 11, 28, 6, 184, 0, 124, 154, 0, 5, 2, 172, 42, 27, 182, 1, 16, 78]
abbrev dktX0_bar_0 : List UInt8 := dkwX0_bar_0 ++ dktX0_bar_1
theorem dksX0_bar_0 : cX0_bar.data.toList.drop 0 = dktX0_bar_0 := by decide +kernel
theorem dksX0_bar_1 : cX0_bar.data.toList.drop 24 = dktX0_bar_1 := dk_seg dksX0_bar_0 24 rfl rfl
theorem dksX0_bar_2 : cX0_bar.data.toList.drop 48 = dktX0_bar_2 := dk_seg dksX0_bar_1 24 rfl rfl
theorem dX0_bar_0 : decode cX0_bar 0 = .ok (.aload_n 0, 1) := dk_42 (dk_at dksX0_bar_0 0 rfl rfl)
theorem dX0_bar_1 : decode cX0_bar 1 = .ok (.iload_n 1, 1) := dk_27 (dk_at dksX0_bar_0 1 rfl rfl)
theorem dX0_bar_2 : decode cX0_bar 2 = .ok (.invokevirtual 361, 3) := dk_182 1 105 (dk_at dksX0_bar_0 2 rfl rfl)
theorem dX0_bar_5 : decode cX0_bar 5 = .ok (.ifCond .eq 11, 3) := dk_153 0 11 (dk_at dksX0_bar_0 5 rfl rfl)
theorem dX0_bar_8 : decode cX0_bar 8 = .ok (.iload_n 2, 1) := dk_28 (dk_at dksX0_bar_0 8 rfl rfl)
theorem dX0_bar_9 : decode cX0_bar 9 = .ok (.iconst 3, 1) := dk_6 (dk_at dksX0_bar_0 9 rfl rfl)
theorem dX0_bar_10 : decode cX0_bar 10 = .ok (.invokestatic 124, 3) := dk_184 0 124 (dk_at dksX0_bar_0 10 rfl rfl)
theorem dX0_bar_13 : decode cX0_bar 13 = .ok (.ifCond .ne 5, 3) := dk_154 0 5 (dk_at dksX0_bar_0 13 rfl rfl)
theorem dX0_bar_16 : decode cX0_bar 16 = .ok (.iconst (-1), 1) := dk_2 (dk_at dksX0_bar_0 16 rfl rfl)
theorem dX0_bar_17 : decode cX0_bar 17 = .ok (.ireturn, 1) := dk_172 (dk_at dksX0_bar_0 17 rfl rfl)
theorem dX0_bar_18 : decode cX0_bar 18 = .ok (.aload_n 0, 1) := dk_42 (dk_at dksX0_bar_0 18 rfl rfl)
theorem dX0_bar_19 : decode cX0_bar 19 = .ok (.iload_n 1, 1) := dk_27 (dk_at dksX0_bar_0 19 rfl rfl)
theorem dX0_bar_20 : decode cX0_bar 20 = .ok (.invokevirtual 272, 3) := dk_182 1 16 (dk_at dksX0_bar_0 20 rfl rfl)
theorem dX0_bar_23 : decode cX0_bar 23 = .ok (.astore_n 3, 1) := dk_78 (dk_at dksX0_bar_0 23 rfl rfl)
theorem dX0_bar_24 : decode cX0_bar 24 = .ok (.iload_n 2, 1) := dk_28 (dk_at dksX0_bar_1 0 rfl rfl)
theorem dX0_bar_25 : decode cX0_bar 25 = .ok (.ifCond .ne 10, 3) := dk_154 0 10 (dk_at dksX0_bar_1 1 rfl rfl)
theorem dX0_bar_28 : decode cX0_bar 28 = .ok (.aload_n 3, 1) := dk_45 (dk_at dksX0_bar_1 4 rfl rfl)
theorem dX0_bar_29 : decode cX0_bar 29 = .ok (.getfield 276, 3) := dk_180 1 20 (dk_at dksX0_bar_1 5 rfl rfl)
theorem dX0_bar_32 : decode cX0_bar 32 = .ok (.goto 19, 3) := dk_167 0 19 (dk_at dksX0_bar_1 8 rfl rfl)
theorem dX0_bar_35 : decode cX0_bar 35 = .ok (.iload_n 2, 1) := dk_28 (dk_at dksX0_bar_1 11 rfl rfl)
theorem dX0_bar_36 : decode cX0_bar 36 = .ok (.iconst 1, 1) := dk_4 (dk_at dksX0_bar_1 12 rfl rfl)
theorem dX0_bar_37 : decode cX0_bar 37 = .ok (.if_icmp .ne 10, 3) := dk_160 0 10 (dk_at dksX0_bar_1 13 rfl rfl)
theorem dX0_bar_40 : decode cX0_bar 40 = .ok (.aload_n 3, 1) := dk_45 (dk_at dksX0_bar_1 16 rfl rfl)
theorem dX0_bar_41 : decode cX0_bar 41 = .ok (.getfield 408, 3) := dk_180 1 152 (dk_at dksX0_bar_1 17 rfl rfl)
theorem dX0_bar_44 : decode cX0_bar 44 = .ok (.goto 7, 3) := dk_167 0 7 (dk_at dksX0_bar_1 20 rfl rfl)
theorem dX0_bar_47 : decode cX0_bar 47 = .ok (.aload_n 3, 1) := dk_45 (dk_at dksX0_bar_1 23 rfl rfl)
theorem dX0_bar_48 : decode cX0_bar 48 = .ok (.getfield 411, 3) := dk_180 1 155 (dk_at dksX0_bar_2 0 rfl rfl)
theorem dX0_bar_51 : decode cX0_bar 51 = .ok (.ireturn, 1) := dk_172 (dk_at dksX0_bar_2 3 rfl rfl)
abbrev cX0_graced : ByteArray := prog_1_method_65_code
def yX0_graced : MethodName := ⟨RX0, "graced", "(I)I"⟩
def dkwX0_graced_2 : List UInt8 := [128, 61, 132, 3, 1, 167, 255, 219, 28, 172]
abbrev dktX0_graced_2 : List UInt8 := dkwX0_graced_2 ++ []
def dkwX0_graced_1 : List UInt8 := [182, 0, 118, 162, 0, 29, 28, 42, 27, 29, 182, 1, 158, 5, 160, 0, 9, 4, 29, 120, 167, 0, 4, 3]
abbrev dktX0_graced_1 : List UInt8 := dkwX0_graced_1 ++ dktX0_graced_2
def dkwX0_graced_0 : List UInt8 := [42, 27, 182, 1, 105, 154, 0, 5, 2, 172, 3, 61, 3, 62, 29, 42, 180, 0, 12, 180, 0, 138]
abbrev dktX0_graced_0 : List UInt8 := dkwX0_graced_0 ++ dktX0_graced_1
theorem dksX0_graced_0 : cX0_graced.data.toList.drop 0 = dktX0_graced_0 := by decide +kernel
theorem dksX0_graced_1 : cX0_graced.data.toList.drop 22 = dktX0_graced_1 := dk_seg dksX0_graced_0 22 rfl rfl
theorem dksX0_graced_2 : cX0_graced.data.toList.drop 46 = dktX0_graced_2 := dk_seg dksX0_graced_1 24 rfl rfl
theorem dX0_graced_0 : decode cX0_graced 0 = .ok (.aload_n 0, 1) := dk_42 (dk_at dksX0_graced_0 0 rfl rfl)
theorem dX0_graced_1 : decode cX0_graced 1 = .ok (.iload_n 1, 1) := dk_27 (dk_at dksX0_graced_0 1 rfl rfl)
theorem dX0_graced_2 : decode cX0_graced 2 = .ok (.invokevirtual 361, 3) := dk_182 1 105 (dk_at dksX0_graced_0 2 rfl rfl)
theorem dX0_graced_5 : decode cX0_graced 5 = .ok (.ifCond .ne 5, 3) := dk_154 0 5 (dk_at dksX0_graced_0 5 rfl rfl)
theorem dX0_graced_8 : decode cX0_graced 8 = .ok (.iconst (-1), 1) := dk_2 (dk_at dksX0_graced_0 8 rfl rfl)
theorem dX0_graced_9 : decode cX0_graced 9 = .ok (.ireturn, 1) := dk_172 (dk_at dksX0_graced_0 9 rfl rfl)
theorem dX0_graced_10 : decode cX0_graced 10 = .ok (.iconst 0, 1) := dk_3 (dk_at dksX0_graced_0 10 rfl rfl)
theorem dX0_graced_11 : decode cX0_graced 11 = .ok (.istore_n 2, 1) := dk_61 (dk_at dksX0_graced_0 11 rfl rfl)
theorem dX0_graced_12 : decode cX0_graced 12 = .ok (.iconst 0, 1) := dk_3 (dk_at dksX0_graced_0 12 rfl rfl)
theorem dX0_graced_13 : decode cX0_graced 13 = .ok (.istore_n 3, 1) := dk_62 (dk_at dksX0_graced_0 13 rfl rfl)
theorem dX0_graced_14 : decode cX0_graced 14 = .ok (.iload_n 3, 1) := dk_29 (dk_at dksX0_graced_0 14 rfl rfl)
theorem dX0_graced_15 : decode cX0_graced 15 = .ok (.aload_n 0, 1) := dk_42 (dk_at dksX0_graced_0 15 rfl rfl)
theorem dX0_graced_16 : decode cX0_graced 16 = .ok (.getfield 12, 3) := dk_180 0 12 (dk_at dksX0_graced_0 16 rfl rfl)
theorem dX0_graced_19 : decode cX0_graced 19 = .ok (.getfield 138, 3) := dk_180 0 138 (dk_at dksX0_graced_0 19 rfl rfl)
theorem dX0_graced_22 : decode cX0_graced 22 = .ok (.invokevirtual 118, 3) := dk_182 0 118 (dk_at dksX0_graced_1 0 rfl rfl)
theorem dX0_graced_25 : decode cX0_graced 25 = .ok (.if_icmp .ge 29, 3) := dk_162 0 29 (dk_at dksX0_graced_1 3 rfl rfl)
theorem dX0_graced_28 : decode cX0_graced 28 = .ok (.iload_n 2, 1) := dk_28 (dk_at dksX0_graced_1 6 rfl rfl)
theorem dX0_graced_29 : decode cX0_graced 29 = .ok (.aload_n 0, 1) := dk_42 (dk_at dksX0_graced_1 7 rfl rfl)
theorem dX0_graced_30 : decode cX0_graced 30 = .ok (.iload_n 1, 1) := dk_27 (dk_at dksX0_graced_1 8 rfl rfl)
theorem dX0_graced_31 : decode cX0_graced 31 = .ok (.iload_n 3, 1) := dk_29 (dk_at dksX0_graced_1 9 rfl rfl)
theorem dX0_graced_32 : decode cX0_graced 32 = .ok (.invokevirtual 414, 3) := dk_182 1 158 (dk_at dksX0_graced_1 10 rfl rfl)
theorem dX0_graced_35 : decode cX0_graced 35 = .ok (.iconst 2, 1) := dk_5 (dk_at dksX0_graced_1 13 rfl rfl)
theorem dX0_graced_36 : decode cX0_graced 36 = .ok (.if_icmp .ne 9, 3) := dk_160 0 9 (dk_at dksX0_graced_1 14 rfl rfl)
theorem dX0_graced_39 : decode cX0_graced 39 = .ok (.iconst 1, 1) := dk_4 (dk_at dksX0_graced_1 17 rfl rfl)
theorem dX0_graced_40 : decode cX0_graced 40 = .ok (.iload_n 3, 1) := dk_29 (dk_at dksX0_graced_1 18 rfl rfl)
theorem dX0_graced_41 : decode cX0_graced 41 = .ok (.ishl, 1) := dk_120 (dk_at dksX0_graced_1 19 rfl rfl)
theorem dX0_graced_42 : decode cX0_graced 42 = .ok (.goto 4, 3) := dk_167 0 4 (dk_at dksX0_graced_1 20 rfl rfl)
theorem dX0_graced_45 : decode cX0_graced 45 = .ok (.iconst 0, 1) := dk_3 (dk_at dksX0_graced_1 23 rfl rfl)
theorem dX0_graced_46 : decode cX0_graced 46 = .ok (.ior, 1) := dk_128 (dk_at dksX0_graced_2 0 rfl rfl)
theorem dX0_graced_47 : decode cX0_graced 47 = .ok (.istore_n 2, 1) := dk_61 (dk_at dksX0_graced_2 1 rfl rfl)
theorem dX0_graced_48 : decode cX0_graced 48 = .ok (.iinc 3 1, 3) := dk_132 3 1 (dk_at dksX0_graced_2 2 rfl rfl)
theorem dX0_graced_51 : decode cX0_graced 51 = .ok (.goto (-37), 3) := dk_167 255 219 (dk_at dksX0_graced_2 5 rfl rfl)
theorem dX0_graced_54 : decode cX0_graced 54 = .ok (.iload_n 2, 1) := dk_28 (dk_at dksX0_graced_2 8 rfl rfl)
theorem dX0_graced_55 : decode cX0_graced 55 = .ok (.ireturn, 1) := dk_172 (dk_at dksX0_graced_2 9 rfl rfl)
abbrev cX0_guard : ByteArray := prog_1_method_66_code
def yX0_guard : MethodName := ⟨RX0, "guard", "(II)I"⟩
def dkwX0_guard_4 : List UInt8 := [54, 4, 132, 5, 1, 167, 255, 187, 28, 154, 0, 11, 21, 4, 184, 1, 161, 167, 0, 5, 21, 4, 172]
abbrev dktX0_guard_4 : List UInt8 := dkwX0_guard_4 ++ []
def dkwX0_guard_3 : List UInt8 := [27, 182, 0, 148, 180, 0, 222, 42, 27, 182, 1, 145, 29, 21, 5, 182, 1, 135, 154, 0, 7, 21, 5]
abbrev dktX0_guard_3 : List UInt8 := dkwX0_guard_3 ++ dktX0_guard_4
def dkwX0_guard_2 : List UInt8 := [21, 4, 2, 159, 0, 19, 21, 5, 184, 1, 161, 21, 4, 184, 1, 161, 161, 0, 6, 167, 0, 30, 42, 42]
abbrev dktX0_guard_2 : List UInt8 := dkwX0_guard_2 ++ dktX0_guard_3
def dkwX0_guard_1 : List UInt8 := [2, 54, 4, 3, 54, 5, 21, 5, 4, 42, 180, 0, 12, 180, 0, 138, 182, 0, 118, 120, 162, 0, 58]
abbrev dktX0_guard_1 : List UInt8 := dkwX0_guard_1 ++ dktX0_guard_2
def dkwX0_guard_0 : List UInt8 := [42, 27, 182, 1, 105, 153, 0, 11, 28, 5, 184, 0, 124, 154, 0, 5, 2, 172, 42, 27, 182, 1, 3, 62]
abbrev dktX0_guard_0 : List UInt8 := dkwX0_guard_0 ++ dktX0_guard_1
theorem dksX0_guard_0 : cX0_guard.data.toList.drop 0 = dktX0_guard_0 := by decide +kernel
theorem dksX0_guard_1 : cX0_guard.data.toList.drop 24 = dktX0_guard_1 := dk_seg dksX0_guard_0 24 rfl rfl
theorem dksX0_guard_2 : cX0_guard.data.toList.drop 47 = dktX0_guard_2 := dk_seg dksX0_guard_1 23 rfl rfl
theorem dksX0_guard_3 : cX0_guard.data.toList.drop 71 = dktX0_guard_3 := dk_seg dksX0_guard_2 24 rfl rfl
theorem dksX0_guard_4 : cX0_guard.data.toList.drop 94 = dktX0_guard_4 := dk_seg dksX0_guard_3 23 rfl rfl
theorem dX0_guard_0 : decode cX0_guard 0 = .ok (.aload_n 0, 1) := dk_42 (dk_at dksX0_guard_0 0 rfl rfl)
theorem dX0_guard_1 : decode cX0_guard 1 = .ok (.iload_n 1, 1) := dk_27 (dk_at dksX0_guard_0 1 rfl rfl)
theorem dX0_guard_2 : decode cX0_guard 2 = .ok (.invokevirtual 361, 3) := dk_182 1 105 (dk_at dksX0_guard_0 2 rfl rfl)
theorem dX0_guard_5 : decode cX0_guard 5 = .ok (.ifCond .eq 11, 3) := dk_153 0 11 (dk_at dksX0_guard_0 5 rfl rfl)
theorem dX0_guard_8 : decode cX0_guard 8 = .ok (.iload_n 2, 1) := dk_28 (dk_at dksX0_guard_0 8 rfl rfl)
theorem dX0_guard_9 : decode cX0_guard 9 = .ok (.iconst 2, 1) := dk_5 (dk_at dksX0_guard_0 9 rfl rfl)
theorem dX0_guard_10 : decode cX0_guard 10 = .ok (.invokestatic 124, 3) := dk_184 0 124 (dk_at dksX0_guard_0 10 rfl rfl)
theorem dX0_guard_13 : decode cX0_guard 13 = .ok (.ifCond .ne 5, 3) := dk_154 0 5 (dk_at dksX0_guard_0 13 rfl rfl)
theorem dX0_guard_16 : decode cX0_guard 16 = .ok (.iconst (-1), 1) := dk_2 (dk_at dksX0_guard_0 16 rfl rfl)
theorem dX0_guard_17 : decode cX0_guard 17 = .ok (.ireturn, 1) := dk_172 (dk_at dksX0_guard_0 17 rfl rfl)
theorem dX0_guard_18 : decode cX0_guard 18 = .ok (.aload_n 0, 1) := dk_42 (dk_at dksX0_guard_0 18 rfl rfl)
theorem dX0_guard_19 : decode cX0_guard 19 = .ok (.iload_n 1, 1) := dk_27 (dk_at dksX0_guard_0 19 rfl rfl)
theorem dX0_guard_20 : decode cX0_guard 20 = .ok (.invokevirtual 259, 3) := dk_182 1 3 (dk_at dksX0_guard_0 20 rfl rfl)
theorem dX0_guard_23 : decode cX0_guard 23 = .ok (.istore_n 3, 1) := dk_62 (dk_at dksX0_guard_0 23 rfl rfl)
theorem dX0_guard_24 : decode cX0_guard 24 = .ok (.iconst (-1), 1) := dk_2 (dk_at dksX0_guard_1 0 rfl rfl)
theorem dX0_guard_25 : decode cX0_guard 25 = .ok (.istore 4, 2) := dk_54 4 (dk_at dksX0_guard_1 1 rfl rfl)
theorem dX0_guard_27 : decode cX0_guard 27 = .ok (.iconst 0, 1) := dk_3 (dk_at dksX0_guard_1 3 rfl rfl)
theorem dX0_guard_28 : decode cX0_guard 28 = .ok (.istore 5, 2) := dk_54 5 (dk_at dksX0_guard_1 4 rfl rfl)
theorem dX0_guard_30 : decode cX0_guard 30 = .ok (.iload 5, 2) := dk_21 5 (dk_at dksX0_guard_1 6 rfl rfl)
theorem dX0_guard_32 : decode cX0_guard 32 = .ok (.iconst 1, 1) := dk_4 (dk_at dksX0_guard_1 8 rfl rfl)
theorem dX0_guard_33 : decode cX0_guard 33 = .ok (.aload_n 0, 1) := dk_42 (dk_at dksX0_guard_1 9 rfl rfl)
theorem dX0_guard_34 : decode cX0_guard 34 = .ok (.getfield 12, 3) := dk_180 0 12 (dk_at dksX0_guard_1 10 rfl rfl)
theorem dX0_guard_37 : decode cX0_guard 37 = .ok (.getfield 138, 3) := dk_180 0 138 (dk_at dksX0_guard_1 13 rfl rfl)
theorem dX0_guard_40 : decode cX0_guard 40 = .ok (.invokevirtual 118, 3) := dk_182 0 118 (dk_at dksX0_guard_1 16 rfl rfl)
theorem dX0_guard_43 : decode cX0_guard 43 = .ok (.ishl, 1) := dk_120 (dk_at dksX0_guard_1 19 rfl rfl)
theorem dX0_guard_44 : decode cX0_guard 44 = .ok (.if_icmp .ge 58, 3) := dk_162 0 58 (dk_at dksX0_guard_1 20 rfl rfl)
theorem dX0_guard_47 : decode cX0_guard 47 = .ok (.iload 4, 2) := dk_21 4 (dk_at dksX0_guard_2 0 rfl rfl)
theorem dX0_guard_49 : decode cX0_guard 49 = .ok (.iconst (-1), 1) := dk_2 (dk_at dksX0_guard_2 2 rfl rfl)
theorem dX0_guard_50 : decode cX0_guard 50 = .ok (.if_icmp .eq 19, 3) := dk_159 0 19 (dk_at dksX0_guard_2 3 rfl rfl)
theorem dX0_guard_53 : decode cX0_guard 53 = .ok (.iload 5, 2) := dk_21 5 (dk_at dksX0_guard_2 6 rfl rfl)
theorem dX0_guard_55 : decode cX0_guard 55 = .ok (.invokestatic 417, 3) := dk_184 1 161 (dk_at dksX0_guard_2 8 rfl rfl)
theorem dX0_guard_58 : decode cX0_guard 58 = .ok (.iload 4, 2) := dk_21 4 (dk_at dksX0_guard_2 11 rfl rfl)
theorem dX0_guard_60 : decode cX0_guard 60 = .ok (.invokestatic 417, 3) := dk_184 1 161 (dk_at dksX0_guard_2 13 rfl rfl)
theorem dX0_guard_63 : decode cX0_guard 63 = .ok (.if_icmp .lt 6, 3) := dk_161 0 6 (dk_at dksX0_guard_2 16 rfl rfl)
theorem dX0_guard_66 : decode cX0_guard 66 = .ok (.goto 30, 3) := dk_167 0 30 (dk_at dksX0_guard_2 19 rfl rfl)
theorem dX0_guard_69 : decode cX0_guard 69 = .ok (.aload_n 0, 1) := dk_42 (dk_at dksX0_guard_2 22 rfl rfl)
theorem dX0_guard_70 : decode cX0_guard 70 = .ok (.aload_n 0, 1) := dk_42 (dk_at dksX0_guard_2 23 rfl rfl)
theorem dX0_guard_71 : decode cX0_guard 71 = .ok (.iload_n 1, 1) := dk_27 (dk_at dksX0_guard_3 0 rfl rfl)
theorem dX0_guard_72 : decode cX0_guard 72 = .ok (.invokevirtual 148, 3) := dk_182 0 148 (dk_at dksX0_guard_3 1 rfl rfl)
theorem dX0_guard_75 : decode cX0_guard 75 = .ok (.getfield 222, 3) := dk_180 0 222 (dk_at dksX0_guard_3 4 rfl rfl)
theorem dX0_guard_78 : decode cX0_guard 78 = .ok (.aload_n 0, 1) := dk_42 (dk_at dksX0_guard_3 7 rfl rfl)
theorem dX0_guard_79 : decode cX0_guard 79 = .ok (.iload_n 1, 1) := dk_27 (dk_at dksX0_guard_3 8 rfl rfl)
theorem dX0_guard_80 : decode cX0_guard 80 = .ok (.invokevirtual 401, 3) := dk_182 1 145 (dk_at dksX0_guard_3 9 rfl rfl)
theorem dX0_guard_83 : decode cX0_guard 83 = .ok (.iload_n 3, 1) := dk_29 (dk_at dksX0_guard_3 12 rfl rfl)
theorem dX0_guard_84 : decode cX0_guard 84 = .ok (.iload 5, 2) := dk_21 5 (dk_at dksX0_guard_3 13 rfl rfl)
theorem dX0_guard_86 : decode cX0_guard 86 = .ok (.invokevirtual 391, 3) := dk_182 1 135 (dk_at dksX0_guard_3 15 rfl rfl)
theorem dX0_guard_89 : decode cX0_guard 89 = .ok (.ifCond .ne 7, 3) := dk_154 0 7 (dk_at dksX0_guard_3 18 rfl rfl)
theorem dX0_guard_92 : decode cX0_guard 92 = .ok (.iload 5, 2) := dk_21 5 (dk_at dksX0_guard_3 21 rfl rfl)
theorem dX0_guard_94 : decode cX0_guard 94 = .ok (.istore 4, 2) := dk_54 4 (dk_at dksX0_guard_4 0 rfl rfl)
theorem dX0_guard_96 : decode cX0_guard 96 = .ok (.iinc 5 1, 3) := dk_132 5 1 (dk_at dksX0_guard_4 2 rfl rfl)
theorem dX0_guard_99 : decode cX0_guard 99 = .ok (.goto (-69), 3) := dk_167 255 187 (dk_at dksX0_guard_4 5 rfl rfl)
theorem dX0_guard_102 : decode cX0_guard 102 = .ok (.iload_n 2, 1) := dk_28 (dk_at dksX0_guard_4 8 rfl rfl)
theorem dX0_guard_103 : decode cX0_guard 103 = .ok (.ifCond .ne 11, 3) := dk_154 0 11 (dk_at dksX0_guard_4 9 rfl rfl)
theorem dX0_guard_106 : decode cX0_guard 106 = .ok (.iload 4, 2) := dk_21 4 (dk_at dksX0_guard_4 12 rfl rfl)
theorem dX0_guard_108 : decode cX0_guard 108 = .ok (.invokestatic 417, 3) := dk_184 1 161 (dk_at dksX0_guard_4 14 rfl rfl)
theorem dX0_guard_111 : decode cX0_guard 111 = .ok (.goto 5, 3) := dk_167 0 5 (dk_at dksX0_guard_4 17 rfl rfl)
theorem dX0_guard_114 : decode cX0_guard 114 = .ok (.iload 4, 2) := dk_21 4 (dk_at dksX0_guard_4 20 rfl rfl)
theorem dX0_guard_116 : decode cX0_guard 116 = .ok (.ireturn, 1) := dk_172 (dk_at dksX0_guard_4 22 rfl rfl)
abbrev cX0_alone : ByteArray := prog_1_method_67_code
def yX0_alone : MethodName := ⟨RX0, "alone", "(III)I"⟩
def dkwX0_alone_1 : List UInt8 := [27, 29, 182, 1, 148, 180, 1, 20, 167, 0, 4, 2, 172]
abbrev dktX0_alone_1 : List UInt8 := dkwX0_alone_1 ++ []
def dkwX0_alone_0 : List UInt8 := [42, 27, 182, 1, 164, 153, 0, 30, 28, 184, 0, 231, 153, 0, 23, 29, 184, 1, 167, 153, 0, 16, 42, 28]
abbrev dktX0_alone_0 : List UInt8 := dkwX0_alone_0 ++ dktX0_alone_1
theorem dksX0_alone_0 : cX0_alone.data.toList.drop 0 = dktX0_alone_0 := by decide +kernel
theorem dksX0_alone_1 : cX0_alone.data.toList.drop 24 = dktX0_alone_1 := dk_seg dksX0_alone_0 24 rfl rfl
theorem dX0_alone_0 : decode cX0_alone 0 = .ok (.aload_n 0, 1) := dk_42 (dk_at dksX0_alone_0 0 rfl rfl)
theorem dX0_alone_1 : decode cX0_alone 1 = .ok (.iload_n 1, 1) := dk_27 (dk_at dksX0_alone_0 1 rfl rfl)
theorem dX0_alone_2 : decode cX0_alone 2 = .ok (.invokevirtual 420, 3) := dk_182 1 164 (dk_at dksX0_alone_0 2 rfl rfl)
theorem dX0_alone_5 : decode cX0_alone 5 = .ok (.ifCond .eq 30, 3) := dk_153 0 30 (dk_at dksX0_alone_0 5 rfl rfl)
theorem dX0_alone_8 : decode cX0_alone 8 = .ok (.iload_n 2, 1) := dk_28 (dk_at dksX0_alone_0 8 rfl rfl)
theorem dX0_alone_9 : decode cX0_alone 9 = .ok (.invokestatic 231, 3) := dk_184 0 231 (dk_at dksX0_alone_0 9 rfl rfl)
theorem dX0_alone_12 : decode cX0_alone 12 = .ok (.ifCond .eq 23, 3) := dk_153 0 23 (dk_at dksX0_alone_0 12 rfl rfl)
theorem dX0_alone_15 : decode cX0_alone 15 = .ok (.iload_n 3, 1) := dk_29 (dk_at dksX0_alone_0 15 rfl rfl)
theorem dX0_alone_16 : decode cX0_alone 16 = .ok (.invokestatic 423, 3) := dk_184 1 167 (dk_at dksX0_alone_0 16 rfl rfl)
theorem dX0_alone_19 : decode cX0_alone 19 = .ok (.ifCond .eq 16, 3) := dk_153 0 16 (dk_at dksX0_alone_0 19 rfl rfl)
theorem dX0_alone_22 : decode cX0_alone 22 = .ok (.aload_n 0, 1) := dk_42 (dk_at dksX0_alone_0 22 rfl rfl)
theorem dX0_alone_23 : decode cX0_alone 23 = .ok (.iload_n 2, 1) := dk_28 (dk_at dksX0_alone_0 23 rfl rfl)
theorem dX0_alone_24 : decode cX0_alone 24 = .ok (.iload_n 1, 1) := dk_27 (dk_at dksX0_alone_1 0 rfl rfl)
theorem dX0_alone_25 : decode cX0_alone 25 = .ok (.iload_n 3, 1) := dk_29 (dk_at dksX0_alone_1 1 rfl rfl)
theorem dX0_alone_26 : decode cX0_alone 26 = .ok (.invokevirtual 404, 3) := dk_182 1 148 (dk_at dksX0_alone_1 2 rfl rfl)
theorem dX0_alone_29 : decode cX0_alone 29 = .ok (.getfield 276, 3) := dk_180 1 20 (dk_at dksX0_alone_1 5 rfl rfl)
theorem dX0_alone_32 : decode cX0_alone 32 = .ok (.goto 4, 3) := dk_167 0 4 (dk_at dksX0_alone_1 8 rfl rfl)
theorem dX0_alone_35 : decode cX0_alone 35 = .ok (.iconst (-1), 1) := dk_2 (dk_at dksX0_alone_1 11 rfl rfl)
theorem dX0_alone_36 : decode cX0_alone 36 = .ok (.ireturn, 1) := dk_172 (dk_at dksX0_alone_1 12 rfl rfl)
abbrev cX0_isFiler : ByteArray := prog_1_method_12_code
def yX0_isFiler : MethodName := ⟨RX0, "isFiler", "(I)Z"⟩
def dkwX0_isFiler_0 : List UInt8 := [27, 42, 180, 0, 33, 185, 0, 127, 1, 0, 184, 0, 124, 172]
abbrev dktX0_isFiler_0 : List UInt8 := dkwX0_isFiler_0 ++ []
theorem dksX0_isFiler_0 : cX0_isFiler.data.toList.drop 0 = dktX0_isFiler_0 := by decide +kernel
theorem dX0_isFiler_0 : decode cX0_isFiler 0 = .ok (.iload_n 1, 1) := dk_27 (dk_at dksX0_isFiler_0 0 rfl rfl)
theorem dX0_isFiler_1 : decode cX0_isFiler 1 = .ok (.aload_n 0, 1) := dk_42 (dk_at dksX0_isFiler_0 1 rfl rfl)
theorem dX0_isFiler_2 : decode cX0_isFiler 2 = .ok (.getfield 33, 3) := dk_180 0 33 (dk_at dksX0_isFiler_0 2 rfl rfl)
theorem dX0_isFiler_5 : decode cX0_isFiler 5 = .ok (.invokeinterface 127 1, 5) := by decide +kernel
theorem dX0_isFiler_10 : decode cX0_isFiler 10 = .ok (.invokestatic 124, 3) := dk_184 0 124 (dk_at dksX0_isFiler_0 10 rfl rfl)
theorem dX0_isFiler_13 : decode cX0_isFiler 13 = .ok (.ireturn, 1) := dk_172 (dk_at dksX0_isFiler_0 13 rfl rfl)
abbrev cX0_isDay : ByteArray := prog_1_method_17_code
def yX0_isDay : MethodName := ⟨RX0, "isDay", "(I)Z"⟩
def dkwX0_isDay_0 : List UInt8 := [26, 3, 17, 39, 15, 184, 0, 72, 172]
abbrev dktX0_isDay_0 : List UInt8 := dkwX0_isDay_0 ++ []
theorem dksX0_isDay_0 : cX0_isDay.data.toList.drop 0 = dktX0_isDay_0 := by decide +kernel
theorem dX0_isDay_0 : decode cX0_isDay 0 = .ok (.iload_n 0, 1) := dk_26 (dk_at dksX0_isDay_0 0 rfl rfl)
theorem dX0_isDay_1 : decode cX0_isDay 1 = .ok (.iconst 0, 1) := dk_3 (dk_at dksX0_isDay_0 1 rfl rfl)
theorem dX0_isDay_2 : decode cX0_isDay 2 = .ok (.sipush 9999, 3) := dk_17 39 15 (dk_at dksX0_isDay_0 2 rfl rfl)
theorem dX0_isDay_5 : decode cX0_isDay 5 = .ok (.invokestatic 72, 3) := dk_184 0 72 (dk_at dksX0_isDay_0 5 rfl rfl)
theorem dX0_isDay_8 : decode cX0_isDay 8 = .ok (.ireturn, 1) := dk_172 (dk_at dksX0_isDay_0 8 rfl rfl)
abbrev cX0_latest : ByteArray := prog_1_method_68_code
def yX0_latest : MethodName := ⟨RX0, "latest", "(II)I"⟩
def dkwX0_latest_2 : List UInt8 := [180, 1, 20, 154, 0, 9, 21, 5, 62, 167, 0, 9, 21, 5, 4, 100, 54, 4, 167, 255, 214, 29, 172]
abbrev dktX0_latest_2 : List UInt8 := dkwX0_latest_2 ++ []
def dkwX0_latest_1 : List UInt8 := [29, 21, 4, 162, 0, 42, 29, 21, 4, 96, 4, 96, 5, 108, 54, 5, 42, 28, 27, 21, 5, 182, 1, 148]
abbrev dktX0_latest_1 : List UInt8 := dkwX0_latest_1 ++ dktX0_latest_2
def dkwX0_latest_0 : List UInt8 := [42, 27, 182, 1, 164, 153, 0, 10, 28, 184, 0, 231, 154, 0, 5, 2, 172, 3, 62, 17, 39, 15, 54, 4]
abbrev dktX0_latest_0 : List UInt8 := dkwX0_latest_0 ++ dktX0_latest_1
theorem dksX0_latest_0 : cX0_latest.data.toList.drop 0 = dktX0_latest_0 := by decide +kernel
theorem dksX0_latest_1 : cX0_latest.data.toList.drop 24 = dktX0_latest_1 := dk_seg dksX0_latest_0 24 rfl rfl
theorem dksX0_latest_2 : cX0_latest.data.toList.drop 48 = dktX0_latest_2 := dk_seg dksX0_latest_1 24 rfl rfl
theorem dX0_latest_0 : decode cX0_latest 0 = .ok (.aload_n 0, 1) := dk_42 (dk_at dksX0_latest_0 0 rfl rfl)
theorem dX0_latest_1 : decode cX0_latest 1 = .ok (.iload_n 1, 1) := dk_27 (dk_at dksX0_latest_0 1 rfl rfl)
theorem dX0_latest_2 : decode cX0_latest 2 = .ok (.invokevirtual 420, 3) := dk_182 1 164 (dk_at dksX0_latest_0 2 rfl rfl)
theorem dX0_latest_5 : decode cX0_latest 5 = .ok (.ifCond .eq 10, 3) := dk_153 0 10 (dk_at dksX0_latest_0 5 rfl rfl)
theorem dX0_latest_8 : decode cX0_latest 8 = .ok (.iload_n 2, 1) := dk_28 (dk_at dksX0_latest_0 8 rfl rfl)
theorem dX0_latest_9 : decode cX0_latest 9 = .ok (.invokestatic 231, 3) := dk_184 0 231 (dk_at dksX0_latest_0 9 rfl rfl)
theorem dX0_latest_12 : decode cX0_latest 12 = .ok (.ifCond .ne 5, 3) := dk_154 0 5 (dk_at dksX0_latest_0 12 rfl rfl)
theorem dX0_latest_15 : decode cX0_latest 15 = .ok (.iconst (-1), 1) := dk_2 (dk_at dksX0_latest_0 15 rfl rfl)
theorem dX0_latest_16 : decode cX0_latest 16 = .ok (.ireturn, 1) := dk_172 (dk_at dksX0_latest_0 16 rfl rfl)
theorem dX0_latest_17 : decode cX0_latest 17 = .ok (.iconst 0, 1) := dk_3 (dk_at dksX0_latest_0 17 rfl rfl)
theorem dX0_latest_18 : decode cX0_latest 18 = .ok (.istore_n 3, 1) := dk_62 (dk_at dksX0_latest_0 18 rfl rfl)
theorem dX0_latest_19 : decode cX0_latest 19 = .ok (.sipush 9999, 3) := dk_17 39 15 (dk_at dksX0_latest_0 19 rfl rfl)
theorem dX0_latest_22 : decode cX0_latest 22 = .ok (.istore 4, 2) := dk_54 4 (dk_at dksX0_latest_0 22 rfl rfl)
theorem dX0_latest_24 : decode cX0_latest 24 = .ok (.iload_n 3, 1) := dk_29 (dk_at dksX0_latest_1 0 rfl rfl)
theorem dX0_latest_25 : decode cX0_latest 25 = .ok (.iload 4, 2) := dk_21 4 (dk_at dksX0_latest_1 1 rfl rfl)
theorem dX0_latest_27 : decode cX0_latest 27 = .ok (.if_icmp .ge 42, 3) := dk_162 0 42 (dk_at dksX0_latest_1 3 rfl rfl)
theorem dX0_latest_30 : decode cX0_latest 30 = .ok (.iload_n 3, 1) := dk_29 (dk_at dksX0_latest_1 6 rfl rfl)
theorem dX0_latest_31 : decode cX0_latest 31 = .ok (.iload 4, 2) := dk_21 4 (dk_at dksX0_latest_1 7 rfl rfl)
theorem dX0_latest_33 : decode cX0_latest 33 = .ok (.iadd, 1) := dk_96 (dk_at dksX0_latest_1 9 rfl rfl)
theorem dX0_latest_34 : decode cX0_latest 34 = .ok (.iconst 1, 1) := dk_4 (dk_at dksX0_latest_1 10 rfl rfl)
theorem dX0_latest_35 : decode cX0_latest 35 = .ok (.iadd, 1) := dk_96 (dk_at dksX0_latest_1 11 rfl rfl)
theorem dX0_latest_36 : decode cX0_latest 36 = .ok (.iconst 2, 1) := dk_5 (dk_at dksX0_latest_1 12 rfl rfl)
theorem dX0_latest_37 : decode cX0_latest 37 = .ok (.idiv, 1) := dk_108 (dk_at dksX0_latest_1 13 rfl rfl)
theorem dX0_latest_38 : decode cX0_latest 38 = .ok (.istore 5, 2) := dk_54 5 (dk_at dksX0_latest_1 14 rfl rfl)
theorem dX0_latest_40 : decode cX0_latest 40 = .ok (.aload_n 0, 1) := dk_42 (dk_at dksX0_latest_1 16 rfl rfl)
theorem dX0_latest_41 : decode cX0_latest 41 = .ok (.iload_n 2, 1) := dk_28 (dk_at dksX0_latest_1 17 rfl rfl)
theorem dX0_latest_42 : decode cX0_latest 42 = .ok (.iload_n 1, 1) := dk_27 (dk_at dksX0_latest_1 18 rfl rfl)
theorem dX0_latest_43 : decode cX0_latest 43 = .ok (.iload 5, 2) := dk_21 5 (dk_at dksX0_latest_1 19 rfl rfl)
theorem dX0_latest_45 : decode cX0_latest 45 = .ok (.invokevirtual 404, 3) := dk_182 1 148 (dk_at dksX0_latest_1 21 rfl rfl)
theorem dX0_latest_48 : decode cX0_latest 48 = .ok (.getfield 276, 3) := dk_180 1 20 (dk_at dksX0_latest_2 0 rfl rfl)
theorem dX0_latest_51 : decode cX0_latest 51 = .ok (.ifCond .ne 9, 3) := dk_154 0 9 (dk_at dksX0_latest_2 3 rfl rfl)
theorem dX0_latest_54 : decode cX0_latest 54 = .ok (.iload 5, 2) := dk_21 5 (dk_at dksX0_latest_2 6 rfl rfl)
theorem dX0_latest_56 : decode cX0_latest 56 = .ok (.istore_n 3, 1) := dk_62 (dk_at dksX0_latest_2 8 rfl rfl)
theorem dX0_latest_57 : decode cX0_latest 57 = .ok (.goto 9, 3) := dk_167 0 9 (dk_at dksX0_latest_2 9 rfl rfl)
theorem dX0_latest_60 : decode cX0_latest 60 = .ok (.iload 5, 2) := dk_21 5 (dk_at dksX0_latest_2 12 rfl rfl)
theorem dX0_latest_62 : decode cX0_latest 62 = .ok (.iconst 1, 1) := dk_4 (dk_at dksX0_latest_2 14 rfl rfl)
theorem dX0_latest_63 : decode cX0_latest 63 = .ok (.isub, 1) := dk_100 (dk_at dksX0_latest_2 15 rfl rfl)
theorem dX0_latest_64 : decode cX0_latest 64 = .ok (.istore 4, 2) := dk_54 4 (dk_at dksX0_latest_2 16 rfl rfl)
theorem dX0_latest_66 : decode cX0_latest 66 = .ok (.goto (-42), 3) := dk_167 255 214 (dk_at dksX0_latest_2 18 rfl rfl)
theorem dX0_latest_69 : decode cX0_latest 69 = .ok (.iload_n 3, 1) := dk_29 (dk_at dksX0_latest_2 21 rfl rfl)
theorem dX0_latest_70 : decode cX0_latest 70 = .ok (.ireturn, 1) := dk_172 (dk_at dksX0_latest_2 22 rfl rfl)
abbrev cX0_order : ByteArray := prog_1_method_70_code
def yX0_order : MethodName := ⟨RX0, "order", "(II)I"⟩
def dkwX0_order_2 : List UInt8 := [192, 1, 40, 182, 1, 55, 167, 0, 5, 16, 254, 172]
abbrev dktX0_order_2 : List UInt8 := dkwX0_order_2 ++ []
def dkwX0_order_1 : List UInt8 := [160, 0, 10, 45, 182, 0, 132, 167, 0, 27, 28, 45, 182, 0, 132, 162, 0, 17, 45, 28, 182, 1, 96]
abbrev dktX0_order_1 : List UInt8 := dkwX0_order_1 ++ dktX0_order_2
def dkwX0_order_0 : List UInt8 := [27, 184, 0, 231, 153, 0, 8, 28, 2, 162, 0, 5, 2, 172, 42, 27, 182, 1, 174, 78, 28, 2]
abbrev dktX0_order_0 : List UInt8 := dkwX0_order_0 ++ dktX0_order_1
theorem dksX0_order_0 : cX0_order.data.toList.drop 0 = dktX0_order_0 := by decide +kernel
theorem dksX0_order_1 : cX0_order.data.toList.drop 22 = dktX0_order_1 := dk_seg dksX0_order_0 22 rfl rfl
theorem dksX0_order_2 : cX0_order.data.toList.drop 45 = dktX0_order_2 := dk_seg dksX0_order_1 23 rfl rfl
theorem dX0_order_0 : decode cX0_order 0 = .ok (.iload_n 1, 1) := dk_27 (dk_at dksX0_order_0 0 rfl rfl)
theorem dX0_order_1 : decode cX0_order 1 = .ok (.invokestatic 231, 3) := dk_184 0 231 (dk_at dksX0_order_0 1 rfl rfl)
theorem dX0_order_4 : decode cX0_order 4 = .ok (.ifCond .eq 8, 3) := dk_153 0 8 (dk_at dksX0_order_0 4 rfl rfl)
theorem dX0_order_7 : decode cX0_order 7 = .ok (.iload_n 2, 1) := dk_28 (dk_at dksX0_order_0 7 rfl rfl)
theorem dX0_order_8 : decode cX0_order 8 = .ok (.iconst (-1), 1) := dk_2 (dk_at dksX0_order_0 8 rfl rfl)
theorem dX0_order_9 : decode cX0_order 9 = .ok (.if_icmp .ge 5, 3) := dk_162 0 5 (dk_at dksX0_order_0 9 rfl rfl)
theorem dX0_order_12 : decode cX0_order 12 = .ok (.iconst (-1), 1) := dk_2 (dk_at dksX0_order_0 12 rfl rfl)
theorem dX0_order_13 : decode cX0_order 13 = .ok (.ireturn, 1) := dk_172 (dk_at dksX0_order_0 13 rfl rfl)
theorem dX0_order_14 : decode cX0_order 14 = .ok (.aload_n 0, 1) := dk_42 (dk_at dksX0_order_0 14 rfl rfl)
theorem dX0_order_15 : decode cX0_order 15 = .ok (.iload_n 1, 1) := dk_27 (dk_at dksX0_order_0 15 rfl rfl)
theorem dX0_order_16 : decode cX0_order 16 = .ok (.invokevirtual 430, 3) := dk_182 1 174 (dk_at dksX0_order_0 16 rfl rfl)
theorem dX0_order_19 : decode cX0_order 19 = .ok (.astore_n 3, 1) := dk_78 (dk_at dksX0_order_0 19 rfl rfl)
theorem dX0_order_20 : decode cX0_order 20 = .ok (.iload_n 2, 1) := dk_28 (dk_at dksX0_order_0 20 rfl rfl)
theorem dX0_order_21 : decode cX0_order 21 = .ok (.iconst (-1), 1) := dk_2 (dk_at dksX0_order_0 21 rfl rfl)
theorem dX0_order_22 : decode cX0_order 22 = .ok (.if_icmp .ne 10, 3) := dk_160 0 10 (dk_at dksX0_order_1 0 rfl rfl)
theorem dX0_order_25 : decode cX0_order 25 = .ok (.aload_n 3, 1) := dk_45 (dk_at dksX0_order_1 3 rfl rfl)
theorem dX0_order_26 : decode cX0_order 26 = .ok (.invokevirtual 132, 3) := dk_182 0 132 (dk_at dksX0_order_1 4 rfl rfl)
theorem dX0_order_29 : decode cX0_order 29 = .ok (.goto 27, 3) := dk_167 0 27 (dk_at dksX0_order_1 7 rfl rfl)
theorem dX0_order_32 : decode cX0_order 32 = .ok (.iload_n 2, 1) := dk_28 (dk_at dksX0_order_1 10 rfl rfl)
theorem dX0_order_33 : decode cX0_order 33 = .ok (.aload_n 3, 1) := dk_45 (dk_at dksX0_order_1 11 rfl rfl)
theorem dX0_order_34 : decode cX0_order 34 = .ok (.invokevirtual 132, 3) := dk_182 0 132 (dk_at dksX0_order_1 12 rfl rfl)
theorem dX0_order_37 : decode cX0_order 37 = .ok (.if_icmp .ge 17, 3) := dk_162 0 17 (dk_at dksX0_order_1 15 rfl rfl)
theorem dX0_order_40 : decode cX0_order 40 = .ok (.aload_n 3, 1) := dk_45 (dk_at dksX0_order_1 18 rfl rfl)
theorem dX0_order_41 : decode cX0_order 41 = .ok (.iload_n 2, 1) := dk_28 (dk_at dksX0_order_1 19 rfl rfl)
theorem dX0_order_42 : decode cX0_order 42 = .ok (.invokevirtual 352, 3) := dk_182 1 96 (dk_at dksX0_order_1 20 rfl rfl)
theorem dX0_order_45 : decode cX0_order 45 = .ok (.checkcast 296, 3) := dk_192 1 40 (dk_at dksX0_order_2 0 rfl rfl)
theorem dX0_order_48 : decode cX0_order 48 = .ok (.invokevirtual 311, 3) := dk_182 1 55 (dk_at dksX0_order_2 3 rfl rfl)
theorem dX0_order_51 : decode cX0_order 51 = .ok (.goto 5, 3) := dk_167 0 5 (dk_at dksX0_order_2 6 rfl rfl)
theorem dX0_order_54 : decode cX0_order 54 = .ok (.bipush (-2), 2) := dk_16 254 (dk_at dksX0_order_2 9 rfl rfl)
theorem dX0_order_56 : decode cX0_order 56 = .ok (.ireturn, 1) := dk_172 (dk_at dksX0_order_2 11 rfl rfl)
abbrev cX0_ordered : ByteArray := prog_1_method_69_code
def yX0_ordered : MethodName := ⟨RX0, "ordered", "(I)Ljava/util/LinkedList;"⟩
def dkwX0_ordered_5 : List UInt8 := [182, 1, 171, 132, 4, 1, 167, 255, 153, 44, 176]
abbrev dktX0_ordered_5 : List UInt8 := dkwX0_ordered_5 ++ []
def dkwX0_ordered_4 : List UInt8 := [163, 0, 7, 4, 167, 0, 4, 3, 96, 54, 5, 167, 255, 210, 44, 21, 5, 21, 4, 184, 1, 39]
abbrev dktX0_ordered_4 : List UInt8 := dkwX0_ordered_4 ++ dktX0_ordered_5
def dkwX0_ordered_3 : List UInt8 := [185, 0, 210, 1, 0, 192, 1, 40, 182, 1, 55, 54, 7, 21, 5, 45, 21, 7, 46, 45, 21, 4, 46]
abbrev dktX0_ordered_3 : List UInt8 := dkwX0_ordered_3 ++ dktX0_ordered_4
def dkwX0_ordered_2 : List UInt8 := [167, 0, 72, 3, 54, 5, 44, 182, 0, 200, 58, 6, 25, 6, 185, 0, 204, 1, 0, 153, 0, 42, 25, 6]
abbrev dktX0_ordered_2 : List UInt8 := dkwX0_ordered_2 ++ dktX0_ordered_3
def dkwX0_ordered_1 : List UInt8 := [180, 0, 135, 182, 0, 118, 162, 0, 94, 42, 21, 4, 182, 0, 148, 180, 0, 222, 27, 159, 0, 6]
abbrev dktX0_ordered_1 : List UInt8 := dkwX0_ordered_1 ++ dktX0_ordered_2
def dkwX0_ordered_0 : List UInt8 := [187, 0, 133, 89, 183, 1, 170, 77, 42, 182, 1, 8, 78, 3, 54, 4, 21, 4, 42, 180, 0, 12]
abbrev dktX0_ordered_0 : List UInt8 := dkwX0_ordered_0 ++ dktX0_ordered_1
theorem dksX0_ordered_0 : cX0_ordered.data.toList.drop 0 = dktX0_ordered_0 := by decide +kernel
theorem dksX0_ordered_1 : cX0_ordered.data.toList.drop 22 = dktX0_ordered_1 := dk_seg dksX0_ordered_0 22 rfl rfl
theorem dksX0_ordered_2 : cX0_ordered.data.toList.drop 44 = dktX0_ordered_2 := dk_seg dksX0_ordered_1 22 rfl rfl
theorem dksX0_ordered_3 : cX0_ordered.data.toList.drop 68 = dktX0_ordered_3 := dk_seg dksX0_ordered_2 24 rfl rfl
theorem dksX0_ordered_4 : cX0_ordered.data.toList.drop 91 = dktX0_ordered_4 := dk_seg dksX0_ordered_3 23 rfl rfl
theorem dksX0_ordered_5 : cX0_ordered.data.toList.drop 113 = dktX0_ordered_5 := dk_seg dksX0_ordered_4 22 rfl rfl
theorem dX0_ordered_0 : decode cX0_ordered 0 = .ok (.new 133, 3) := dk_187 0 133 (dk_at dksX0_ordered_0 0 rfl rfl)
theorem dX0_ordered_3 : decode cX0_ordered 3 = .ok (.dup, 1) := dk_89 (dk_at dksX0_ordered_0 3 rfl rfl)
theorem dX0_ordered_4 : decode cX0_ordered 4 = .ok (.invokespecial 426, 3) := dk_183 1 170 (dk_at dksX0_ordered_0 4 rfl rfl)
theorem dX0_ordered_7 : decode cX0_ordered 7 = .ok (.astore_n 2, 1) := dk_77 (dk_at dksX0_ordered_0 7 rfl rfl)
theorem dX0_ordered_8 : decode cX0_ordered 8 = .ok (.aload_n 0, 1) := dk_42 (dk_at dksX0_ordered_0 8 rfl rfl)
theorem dX0_ordered_9 : decode cX0_ordered 9 = .ok (.invokevirtual 264, 3) := dk_182 1 8 (dk_at dksX0_ordered_0 9 rfl rfl)
theorem dX0_ordered_12 : decode cX0_ordered 12 = .ok (.astore_n 3, 1) := dk_78 (dk_at dksX0_ordered_0 12 rfl rfl)
theorem dX0_ordered_13 : decode cX0_ordered 13 = .ok (.iconst 0, 1) := dk_3 (dk_at dksX0_ordered_0 13 rfl rfl)
theorem dX0_ordered_14 : decode cX0_ordered 14 = .ok (.istore 4, 2) := dk_54 4 (dk_at dksX0_ordered_0 14 rfl rfl)
theorem dX0_ordered_16 : decode cX0_ordered 16 = .ok (.iload 4, 2) := dk_21 4 (dk_at dksX0_ordered_0 16 rfl rfl)
theorem dX0_ordered_18 : decode cX0_ordered 18 = .ok (.aload_n 0, 1) := dk_42 (dk_at dksX0_ordered_0 18 rfl rfl)
theorem dX0_ordered_19 : decode cX0_ordered 19 = .ok (.getfield 12, 3) := dk_180 0 12 (dk_at dksX0_ordered_0 19 rfl rfl)
theorem dX0_ordered_22 : decode cX0_ordered 22 = .ok (.getfield 135, 3) := dk_180 0 135 (dk_at dksX0_ordered_1 0 rfl rfl)
theorem dX0_ordered_25 : decode cX0_ordered 25 = .ok (.invokevirtual 118, 3) := dk_182 0 118 (dk_at dksX0_ordered_1 3 rfl rfl)
theorem dX0_ordered_28 : decode cX0_ordered 28 = .ok (.if_icmp .ge 94, 3) := dk_162 0 94 (dk_at dksX0_ordered_1 6 rfl rfl)
theorem dX0_ordered_31 : decode cX0_ordered 31 = .ok (.aload_n 0, 1) := dk_42 (dk_at dksX0_ordered_1 9 rfl rfl)
theorem dX0_ordered_32 : decode cX0_ordered 32 = .ok (.iload 4, 2) := dk_21 4 (dk_at dksX0_ordered_1 10 rfl rfl)
theorem dX0_ordered_34 : decode cX0_ordered 34 = .ok (.invokevirtual 148, 3) := dk_182 0 148 (dk_at dksX0_ordered_1 12 rfl rfl)
theorem dX0_ordered_37 : decode cX0_ordered 37 = .ok (.getfield 222, 3) := dk_180 0 222 (dk_at dksX0_ordered_1 15 rfl rfl)
theorem dX0_ordered_40 : decode cX0_ordered 40 = .ok (.iload_n 1, 1) := dk_27 (dk_at dksX0_ordered_1 18 rfl rfl)
theorem dX0_ordered_41 : decode cX0_ordered 41 = .ok (.if_icmp .eq 6, 3) := dk_159 0 6 (dk_at dksX0_ordered_1 19 rfl rfl)
theorem dX0_ordered_44 : decode cX0_ordered 44 = .ok (.goto 72, 3) := dk_167 0 72 (dk_at dksX0_ordered_2 0 rfl rfl)
theorem dX0_ordered_47 : decode cX0_ordered 47 = .ok (.iconst 0, 1) := dk_3 (dk_at dksX0_ordered_2 3 rfl rfl)
theorem dX0_ordered_48 : decode cX0_ordered 48 = .ok (.istore 5, 2) := dk_54 5 (dk_at dksX0_ordered_2 4 rfl rfl)
theorem dX0_ordered_50 : decode cX0_ordered 50 = .ok (.aload_n 2, 1) := dk_44 (dk_at dksX0_ordered_2 6 rfl rfl)
theorem dX0_ordered_51 : decode cX0_ordered 51 = .ok (.invokevirtual 200, 3) := dk_182 0 200 (dk_at dksX0_ordered_2 7 rfl rfl)
theorem dX0_ordered_54 : decode cX0_ordered 54 = .ok (.astore 6, 2) := dk_58 6 (dk_at dksX0_ordered_2 10 rfl rfl)
theorem dX0_ordered_56 : decode cX0_ordered 56 = .ok (.aload 6, 2) := dk_25 6 (dk_at dksX0_ordered_2 12 rfl rfl)
theorem dX0_ordered_58 : decode cX0_ordered 58 = .ok (.invokeinterface 204 1, 5) := by decide +kernel
theorem dX0_ordered_63 : decode cX0_ordered 63 = .ok (.ifCond .eq 42, 3) := dk_153 0 42 (dk_at dksX0_ordered_2 19 rfl rfl)
theorem dX0_ordered_66 : decode cX0_ordered 66 = .ok (.aload 6, 2) := dk_25 6 (dk_at dksX0_ordered_2 22 rfl rfl)
theorem dX0_ordered_68 : decode cX0_ordered 68 = .ok (.invokeinterface 210 1, 5) := by decide +kernel
theorem dX0_ordered_73 : decode cX0_ordered 73 = .ok (.checkcast 296, 3) := dk_192 1 40 (dk_at dksX0_ordered_3 5 rfl rfl)
theorem dX0_ordered_76 : decode cX0_ordered 76 = .ok (.invokevirtual 311, 3) := dk_182 1 55 (dk_at dksX0_ordered_3 8 rfl rfl)
theorem dX0_ordered_79 : decode cX0_ordered 79 = .ok (.istore 7, 2) := dk_54 7 (dk_at dksX0_ordered_3 11 rfl rfl)
theorem dX0_ordered_81 : decode cX0_ordered 81 = .ok (.iload 5, 2) := dk_21 5 (dk_at dksX0_ordered_3 13 rfl rfl)
theorem dX0_ordered_83 : decode cX0_ordered 83 = .ok (.aload_n 3, 1) := dk_45 (dk_at dksX0_ordered_3 15 rfl rfl)
theorem dX0_ordered_84 : decode cX0_ordered 84 = .ok (.iload 7, 2) := dk_21 7 (dk_at dksX0_ordered_3 16 rfl rfl)
theorem dX0_ordered_86 : decode cX0_ordered 86 = .ok (.iaload, 1) := dk_46 (dk_at dksX0_ordered_3 18 rfl rfl)
theorem dX0_ordered_87 : decode cX0_ordered 87 = .ok (.aload_n 3, 1) := dk_45 (dk_at dksX0_ordered_3 19 rfl rfl)
theorem dX0_ordered_88 : decode cX0_ordered 88 = .ok (.iload 4, 2) := dk_21 4 (dk_at dksX0_ordered_3 20 rfl rfl)
theorem dX0_ordered_90 : decode cX0_ordered 90 = .ok (.iaload, 1) := dk_46 (dk_at dksX0_ordered_3 22 rfl rfl)
theorem dX0_ordered_91 : decode cX0_ordered 91 = .ok (.if_icmp .gt 7, 3) := dk_163 0 7 (dk_at dksX0_ordered_4 0 rfl rfl)
theorem dX0_ordered_94 : decode cX0_ordered 94 = .ok (.iconst 1, 1) := dk_4 (dk_at dksX0_ordered_4 3 rfl rfl)
theorem dX0_ordered_95 : decode cX0_ordered 95 = .ok (.goto 4, 3) := dk_167 0 4 (dk_at dksX0_ordered_4 4 rfl rfl)
theorem dX0_ordered_98 : decode cX0_ordered 98 = .ok (.iconst 0, 1) := dk_3 (dk_at dksX0_ordered_4 7 rfl rfl)
theorem dX0_ordered_99 : decode cX0_ordered 99 = .ok (.iadd, 1) := dk_96 (dk_at dksX0_ordered_4 8 rfl rfl)
theorem dX0_ordered_100 : decode cX0_ordered 100 = .ok (.istore 5, 2) := dk_54 5 (dk_at dksX0_ordered_4 9 rfl rfl)
theorem dX0_ordered_102 : decode cX0_ordered 102 = .ok (.goto (-46), 3) := dk_167 255 210 (dk_at dksX0_ordered_4 11 rfl rfl)
theorem dX0_ordered_105 : decode cX0_ordered 105 = .ok (.aload_n 2, 1) := dk_44 (dk_at dksX0_ordered_4 14 rfl rfl)
theorem dX0_ordered_106 : decode cX0_ordered 106 = .ok (.iload 5, 2) := dk_21 5 (dk_at dksX0_ordered_4 15 rfl rfl)
theorem dX0_ordered_108 : decode cX0_ordered 108 = .ok (.iload 4, 2) := dk_21 4 (dk_at dksX0_ordered_4 17 rfl rfl)
theorem dX0_ordered_110 : decode cX0_ordered 110 = .ok (.invokestatic 295, 3) := dk_184 1 39 (dk_at dksX0_ordered_4 19 rfl rfl)
theorem dX0_ordered_113 : decode cX0_ordered 113 = .ok (.invokevirtual 427, 3) := dk_182 1 171 (dk_at dksX0_ordered_5 0 rfl rfl)
theorem dX0_ordered_116 : decode cX0_ordered 116 = .ok (.iinc 4 1, 3) := dk_132 4 1 (dk_at dksX0_ordered_5 3 rfl rfl)
theorem dX0_ordered_119 : decode cX0_ordered 119 = .ok (.goto (-103), 3) := dk_167 255 153 (dk_at dksX0_ordered_5 6 rfl rfl)
theorem dX0_ordered_122 : decode cX0_ordered 122 = .ok (.aload_n 2, 1) := dk_44 (dk_at dksX0_ordered_5 9 rfl rfl)
theorem dX0_ordered_123 : decode cX0_ordered 123 = .ok (.areturn, 1) := dk_176 (dk_at dksX0_ordered_5 10 rfl rfl)
abbrev cX0_rival : ByteArray := prog_1_method_71_code
def yX0_rival : MethodName := ⟨RX0, "rival", "(I)I"⟩
def dkwX0_rival_5 : List UInt8 := [29, 162, 0, 16, 44, 182, 1, 182, 192, 1, 40, 182, 1, 55, 167, 0, 5, 16, 253, 172]
abbrev dktX0_rival_5 : List UInt8 := dkwX0_rival_5 ++ []
def dkwX0_rival_4 : List UInt8 := [182, 1, 3, 29, 164, 0, 6, 16, 254, 172, 42, 44, 182, 1, 182, 192, 1, 40, 182, 1, 55, 182, 1, 3]
abbrev dktX0_rival_4 : List UInt8 := dkwX0_rival_4 ++ dktX0_rival_5
def dkwX0_rival_3 : List UInt8 := [27, 182, 1, 3, 62, 44, 182, 1, 181, 154, 0, 21, 42, 44, 182, 1, 182, 192, 1, 40, 182, 1, 55]
abbrev dktX0_rival_3 : List UInt8 := dkwX0_rival_3 ++ dktX0_rival_4
def dkwX0_rival_2 : List UInt8 := [182, 1, 55, 182, 1, 145, 42, 27, 182, 1, 145, 160, 255, 226, 45, 185, 1, 178, 1, 0, 167, 255, 217, 42]
abbrev dktX0_rival_2 : List UInt8 := dkwX0_rival_2 ++ dktX0_rival_3
def dkwX0_rival_1 : List UInt8 := [182, 0, 200, 78, 45, 185, 0, 204, 1, 0, 153, 0, 36, 42, 45, 185, 0, 210, 1, 0, 192, 1, 40]
abbrev dktX0_rival_1 : List UInt8 := dkwX0_rival_1 ++ dktX0_rival_2
def dkwX0_rival_0 : List UInt8 := [42, 27, 182, 1, 105, 154, 0, 5, 2, 172, 42, 42, 27, 182, 0, 148, 180, 0, 222, 182, 1, 174, 77, 44]
abbrev dktX0_rival_0 : List UInt8 := dkwX0_rival_0 ++ dktX0_rival_1
theorem dksX0_rival_0 : cX0_rival.data.toList.drop 0 = dktX0_rival_0 := by decide +kernel
theorem dksX0_rival_1 : cX0_rival.data.toList.drop 24 = dktX0_rival_1 := dk_seg dksX0_rival_0 24 rfl rfl
theorem dksX0_rival_2 : cX0_rival.data.toList.drop 47 = dktX0_rival_2 := dk_seg dksX0_rival_1 23 rfl rfl
theorem dksX0_rival_3 : cX0_rival.data.toList.drop 71 = dktX0_rival_3 := dk_seg dksX0_rival_2 24 rfl rfl
theorem dksX0_rival_4 : cX0_rival.data.toList.drop 94 = dktX0_rival_4 := dk_seg dksX0_rival_3 23 rfl rfl
theorem dksX0_rival_5 : cX0_rival.data.toList.drop 118 = dktX0_rival_5 := dk_seg dksX0_rival_4 24 rfl rfl
theorem dX0_rival_0 : decode cX0_rival 0 = .ok (.aload_n 0, 1) := dk_42 (dk_at dksX0_rival_0 0 rfl rfl)
theorem dX0_rival_1 : decode cX0_rival 1 = .ok (.iload_n 1, 1) := dk_27 (dk_at dksX0_rival_0 1 rfl rfl)
theorem dX0_rival_2 : decode cX0_rival 2 = .ok (.invokevirtual 361, 3) := dk_182 1 105 (dk_at dksX0_rival_0 2 rfl rfl)
theorem dX0_rival_5 : decode cX0_rival 5 = .ok (.ifCond .ne 5, 3) := dk_154 0 5 (dk_at dksX0_rival_0 5 rfl rfl)
theorem dX0_rival_8 : decode cX0_rival 8 = .ok (.iconst (-1), 1) := dk_2 (dk_at dksX0_rival_0 8 rfl rfl)
theorem dX0_rival_9 : decode cX0_rival 9 = .ok (.ireturn, 1) := dk_172 (dk_at dksX0_rival_0 9 rfl rfl)
theorem dX0_rival_10 : decode cX0_rival 10 = .ok (.aload_n 0, 1) := dk_42 (dk_at dksX0_rival_0 10 rfl rfl)
theorem dX0_rival_11 : decode cX0_rival 11 = .ok (.aload_n 0, 1) := dk_42 (dk_at dksX0_rival_0 11 rfl rfl)
theorem dX0_rival_12 : decode cX0_rival 12 = .ok (.iload_n 1, 1) := dk_27 (dk_at dksX0_rival_0 12 rfl rfl)
theorem dX0_rival_13 : decode cX0_rival 13 = .ok (.invokevirtual 148, 3) := dk_182 0 148 (dk_at dksX0_rival_0 13 rfl rfl)
theorem dX0_rival_16 : decode cX0_rival 16 = .ok (.getfield 222, 3) := dk_180 0 222 (dk_at dksX0_rival_0 16 rfl rfl)
theorem dX0_rival_19 : decode cX0_rival 19 = .ok (.invokevirtual 430, 3) := dk_182 1 174 (dk_at dksX0_rival_0 19 rfl rfl)
theorem dX0_rival_22 : decode cX0_rival 22 = .ok (.astore_n 2, 1) := dk_77 (dk_at dksX0_rival_0 22 rfl rfl)
theorem dX0_rival_23 : decode cX0_rival 23 = .ok (.aload_n 2, 1) := dk_44 (dk_at dksX0_rival_0 23 rfl rfl)
theorem dX0_rival_24 : decode cX0_rival 24 = .ok (.invokevirtual 200, 3) := dk_182 0 200 (dk_at dksX0_rival_1 0 rfl rfl)
theorem dX0_rival_27 : decode cX0_rival 27 = .ok (.astore_n 3, 1) := dk_78 (dk_at dksX0_rival_1 3 rfl rfl)
theorem dX0_rival_28 : decode cX0_rival 28 = .ok (.aload_n 3, 1) := dk_45 (dk_at dksX0_rival_1 4 rfl rfl)
theorem dX0_rival_29 : decode cX0_rival 29 = .ok (.invokeinterface 204 1, 5) := by decide +kernel
theorem dX0_rival_34 : decode cX0_rival 34 = .ok (.ifCond .eq 36, 3) := dk_153 0 36 (dk_at dksX0_rival_1 10 rfl rfl)
theorem dX0_rival_37 : decode cX0_rival 37 = .ok (.aload_n 0, 1) := dk_42 (dk_at dksX0_rival_1 13 rfl rfl)
theorem dX0_rival_38 : decode cX0_rival 38 = .ok (.aload_n 3, 1) := dk_45 (dk_at dksX0_rival_1 14 rfl rfl)
theorem dX0_rival_39 : decode cX0_rival 39 = .ok (.invokeinterface 210 1, 5) := by decide +kernel
theorem dX0_rival_44 : decode cX0_rival 44 = .ok (.checkcast 296, 3) := dk_192 1 40 (dk_at dksX0_rival_1 20 rfl rfl)
theorem dX0_rival_47 : decode cX0_rival 47 = .ok (.invokevirtual 311, 3) := dk_182 1 55 (dk_at dksX0_rival_2 0 rfl rfl)
theorem dX0_rival_50 : decode cX0_rival 50 = .ok (.invokevirtual 401, 3) := dk_182 1 145 (dk_at dksX0_rival_2 3 rfl rfl)
theorem dX0_rival_53 : decode cX0_rival 53 = .ok (.aload_n 0, 1) := dk_42 (dk_at dksX0_rival_2 6 rfl rfl)
theorem dX0_rival_54 : decode cX0_rival 54 = .ok (.iload_n 1, 1) := dk_27 (dk_at dksX0_rival_2 7 rfl rfl)
theorem dX0_rival_55 : decode cX0_rival 55 = .ok (.invokevirtual 401, 3) := dk_182 1 145 (dk_at dksX0_rival_2 8 rfl rfl)
theorem dX0_rival_58 : decode cX0_rival 58 = .ok (.if_icmp .ne (-30), 3) := dk_160 255 226 (dk_at dksX0_rival_2 11 rfl rfl)
theorem dX0_rival_61 : decode cX0_rival 61 = .ok (.aload_n 3, 1) := dk_45 (dk_at dksX0_rival_2 14 rfl rfl)
theorem dX0_rival_62 : decode cX0_rival 62 = .ok (.invokeinterface 434 1, 5) := by decide +kernel
theorem dX0_rival_67 : decode cX0_rival 67 = .ok (.goto (-39), 3) := dk_167 255 217 (dk_at dksX0_rival_2 20 rfl rfl)
theorem dX0_rival_70 : decode cX0_rival 70 = .ok (.aload_n 0, 1) := dk_42 (dk_at dksX0_rival_2 23 rfl rfl)
theorem dX0_rival_71 : decode cX0_rival 71 = .ok (.iload_n 1, 1) := dk_27 (dk_at dksX0_rival_3 0 rfl rfl)
theorem dX0_rival_72 : decode cX0_rival 72 = .ok (.invokevirtual 259, 3) := dk_182 1 3 (dk_at dksX0_rival_3 1 rfl rfl)
theorem dX0_rival_75 : decode cX0_rival 75 = .ok (.istore_n 3, 1) := dk_62 (dk_at dksX0_rival_3 4 rfl rfl)
theorem dX0_rival_76 : decode cX0_rival 76 = .ok (.aload_n 2, 1) := dk_44 (dk_at dksX0_rival_3 5 rfl rfl)
theorem dX0_rival_77 : decode cX0_rival 77 = .ok (.invokevirtual 437, 3) := dk_182 1 181 (dk_at dksX0_rival_3 6 rfl rfl)
theorem dX0_rival_80 : decode cX0_rival 80 = .ok (.ifCond .ne 21, 3) := dk_154 0 21 (dk_at dksX0_rival_3 9 rfl rfl)
theorem dX0_rival_83 : decode cX0_rival 83 = .ok (.aload_n 0, 1) := dk_42 (dk_at dksX0_rival_3 12 rfl rfl)
theorem dX0_rival_84 : decode cX0_rival 84 = .ok (.aload_n 2, 1) := dk_44 (dk_at dksX0_rival_3 13 rfl rfl)
theorem dX0_rival_85 : decode cX0_rival 85 = .ok (.invokevirtual 438, 3) := dk_182 1 182 (dk_at dksX0_rival_3 14 rfl rfl)
theorem dX0_rival_88 : decode cX0_rival 88 = .ok (.checkcast 296, 3) := dk_192 1 40 (dk_at dksX0_rival_3 17 rfl rfl)
theorem dX0_rival_91 : decode cX0_rival 91 = .ok (.invokevirtual 311, 3) := dk_182 1 55 (dk_at dksX0_rival_3 20 rfl rfl)
theorem dX0_rival_94 : decode cX0_rival 94 = .ok (.invokevirtual 259, 3) := dk_182 1 3 (dk_at dksX0_rival_4 0 rfl rfl)
theorem dX0_rival_97 : decode cX0_rival 97 = .ok (.iload_n 3, 1) := dk_29 (dk_at dksX0_rival_4 3 rfl rfl)
theorem dX0_rival_98 : decode cX0_rival 98 = .ok (.if_icmp .le 6, 3) := dk_164 0 6 (dk_at dksX0_rival_4 4 rfl rfl)
theorem dX0_rival_101 : decode cX0_rival 101 = .ok (.bipush (-2), 2) := dk_16 254 (dk_at dksX0_rival_4 7 rfl rfl)
theorem dX0_rival_103 : decode cX0_rival 103 = .ok (.ireturn, 1) := dk_172 (dk_at dksX0_rival_4 9 rfl rfl)
theorem dX0_rival_104 : decode cX0_rival 104 = .ok (.aload_n 0, 1) := dk_42 (dk_at dksX0_rival_4 10 rfl rfl)
theorem dX0_rival_105 : decode cX0_rival 105 = .ok (.aload_n 2, 1) := dk_44 (dk_at dksX0_rival_4 11 rfl rfl)
theorem dX0_rival_106 : decode cX0_rival 106 = .ok (.invokevirtual 438, 3) := dk_182 1 182 (dk_at dksX0_rival_4 12 rfl rfl)
theorem dX0_rival_109 : decode cX0_rival 109 = .ok (.checkcast 296, 3) := dk_192 1 40 (dk_at dksX0_rival_4 15 rfl rfl)
theorem dX0_rival_112 : decode cX0_rival 112 = .ok (.invokevirtual 311, 3) := dk_182 1 55 (dk_at dksX0_rival_4 18 rfl rfl)
theorem dX0_rival_115 : decode cX0_rival 115 = .ok (.invokevirtual 259, 3) := dk_182 1 3 (dk_at dksX0_rival_4 21 rfl rfl)
theorem dX0_rival_118 : decode cX0_rival 118 = .ok (.iload_n 3, 1) := dk_29 (dk_at dksX0_rival_5 0 rfl rfl)
theorem dX0_rival_119 : decode cX0_rival 119 = .ok (.if_icmp .ge 16, 3) := dk_162 0 16 (dk_at dksX0_rival_5 1 rfl rfl)
theorem dX0_rival_122 : decode cX0_rival 122 = .ok (.aload_n 2, 1) := dk_44 (dk_at dksX0_rival_5 4 rfl rfl)
theorem dX0_rival_123 : decode cX0_rival 123 = .ok (.invokevirtual 438, 3) := dk_182 1 182 (dk_at dksX0_rival_5 5 rfl rfl)
theorem dX0_rival_126 : decode cX0_rival 126 = .ok (.checkcast 296, 3) := dk_192 1 40 (dk_at dksX0_rival_5 8 rfl rfl)
theorem dX0_rival_129 : decode cX0_rival 129 = .ok (.invokevirtual 311, 3) := dk_182 1 55 (dk_at dksX0_rival_5 11 rfl rfl)
theorem dX0_rival_132 : decode cX0_rival 132 = .ok (.goto 5, 3) := dk_167 0 5 (dk_at dksX0_rival_5 14 rfl rfl)
theorem dX0_rival_135 : decode cX0_rival 135 = .ok (.bipush (-3), 2) := dk_16 253 (dk_at dksX0_rival_5 17 rfl rfl)
theorem dX0_rival_137 : decode cX0_rival 137 = .ok (.ireturn, 1) := dk_172 (dk_at dksX0_rival_5 19 rfl rfl)
abbrev cX0_family : ByteArray := prog_1_method_72_code
def yX0_family : MethodName := ⟨RX0, "family", "(I)I"⟩
def dkwX0_family_4 : List UInt8 := [180, 0, 169, 120, 128, 128, 61, 167, 255, 192, 167, 255, 170, 28, 172]
abbrev dktX0_family_4 : List UInt8 := dkwX0_family_4 ++ []
def dkwX0_family_3 : List UInt8 := [25, 5, 180, 0, 169, 184, 0, 55, 153, 0, 21, 28, 4, 25, 5, 180, 0, 164, 120, 4, 25, 5]
abbrev dktX0_family_3 : List UInt8 := dkwX0_family_3 ++ dktX0_family_4
def dkwX0_family_2 : List UInt8 := [185, 0, 210, 1, 0, 192, 0, 165, 58, 5, 28, 25, 5, 180, 0, 164, 184, 0, 55, 154, 0, 15, 28]
abbrev dktX0_family_2 : List UInt8 := dkwX0_family_2 ++ dktX0_family_3
def dkwX0_family_1 : List UInt8 := [180, 0, 12, 180, 0, 128, 182, 0, 200, 58, 4, 25, 4, 185, 0, 204, 1, 0, 153, 0, 60, 25, 4]
abbrev dktX0_family_1 : List UInt8 := dkwX0_family_1 ++ dktX0_family_2
def dkwX0_family_0 : List UInt8 := [42, 27, 182, 0, 228, 154, 0, 5, 2, 172, 4, 27, 120, 61, 3, 62, 29, 28, 159, 0, 87, 28, 62, 42]
abbrev dktX0_family_0 : List UInt8 := dkwX0_family_0 ++ dktX0_family_1
theorem dksX0_family_0 : cX0_family.data.toList.drop 0 = dktX0_family_0 := by decide +kernel
theorem dksX0_family_1 : cX0_family.data.toList.drop 24 = dktX0_family_1 := dk_seg dksX0_family_0 24 rfl rfl
theorem dksX0_family_2 : cX0_family.data.toList.drop 47 = dktX0_family_2 := dk_seg dksX0_family_1 23 rfl rfl
theorem dksX0_family_3 : cX0_family.data.toList.drop 70 = dktX0_family_3 := dk_seg dksX0_family_2 23 rfl rfl
theorem dksX0_family_4 : cX0_family.data.toList.drop 92 = dktX0_family_4 := dk_seg dksX0_family_3 22 rfl rfl
theorem dX0_family_0 : decode cX0_family 0 = .ok (.aload_n 0, 1) := dk_42 (dk_at dksX0_family_0 0 rfl rfl)
theorem dX0_family_1 : decode cX0_family 1 = .ok (.iload_n 1, 1) := dk_27 (dk_at dksX0_family_0 1 rfl rfl)
theorem dX0_family_2 : decode cX0_family 2 = .ok (.invokevirtual 228, 3) := dk_182 0 228 (dk_at dksX0_family_0 2 rfl rfl)
theorem dX0_family_5 : decode cX0_family 5 = .ok (.ifCond .ne 5, 3) := dk_154 0 5 (dk_at dksX0_family_0 5 rfl rfl)
theorem dX0_family_8 : decode cX0_family 8 = .ok (.iconst (-1), 1) := dk_2 (dk_at dksX0_family_0 8 rfl rfl)
theorem dX0_family_9 : decode cX0_family 9 = .ok (.ireturn, 1) := dk_172 (dk_at dksX0_family_0 9 rfl rfl)
theorem dX0_family_10 : decode cX0_family 10 = .ok (.iconst 1, 1) := dk_4 (dk_at dksX0_family_0 10 rfl rfl)
theorem dX0_family_11 : decode cX0_family 11 = .ok (.iload_n 1, 1) := dk_27 (dk_at dksX0_family_0 11 rfl rfl)
theorem dX0_family_12 : decode cX0_family 12 = .ok (.ishl, 1) := dk_120 (dk_at dksX0_family_0 12 rfl rfl)
theorem dX0_family_13 : decode cX0_family 13 = .ok (.istore_n 2, 1) := dk_61 (dk_at dksX0_family_0 13 rfl rfl)
theorem dX0_family_14 : decode cX0_family 14 = .ok (.iconst 0, 1) := dk_3 (dk_at dksX0_family_0 14 rfl rfl)
theorem dX0_family_15 : decode cX0_family 15 = .ok (.istore_n 3, 1) := dk_62 (dk_at dksX0_family_0 15 rfl rfl)
theorem dX0_family_16 : decode cX0_family 16 = .ok (.iload_n 3, 1) := dk_29 (dk_at dksX0_family_0 16 rfl rfl)
theorem dX0_family_17 : decode cX0_family 17 = .ok (.iload_n 2, 1) := dk_28 (dk_at dksX0_family_0 17 rfl rfl)
theorem dX0_family_18 : decode cX0_family 18 = .ok (.if_icmp .eq 87, 3) := dk_159 0 87 (dk_at dksX0_family_0 18 rfl rfl)
theorem dX0_family_21 : decode cX0_family 21 = .ok (.iload_n 2, 1) := dk_28 (dk_at dksX0_family_0 21 rfl rfl)
theorem dX0_family_22 : decode cX0_family 22 = .ok (.istore_n 3, 1) := dk_62 (dk_at dksX0_family_0 22 rfl rfl)
theorem dX0_family_23 : decode cX0_family 23 = .ok (.aload_n 0, 1) := dk_42 (dk_at dksX0_family_0 23 rfl rfl)
theorem dX0_family_24 : decode cX0_family 24 = .ok (.getfield 12, 3) := dk_180 0 12 (dk_at dksX0_family_1 0 rfl rfl)
theorem dX0_family_27 : decode cX0_family 27 = .ok (.getfield 128, 3) := dk_180 0 128 (dk_at dksX0_family_1 3 rfl rfl)
theorem dX0_family_30 : decode cX0_family 30 = .ok (.invokevirtual 200, 3) := dk_182 0 200 (dk_at dksX0_family_1 6 rfl rfl)
theorem dX0_family_33 : decode cX0_family 33 = .ok (.astore 4, 2) := dk_58 4 (dk_at dksX0_family_1 9 rfl rfl)
theorem dX0_family_35 : decode cX0_family 35 = .ok (.aload 4, 2) := dk_25 4 (dk_at dksX0_family_1 11 rfl rfl)
theorem dX0_family_37 : decode cX0_family 37 = .ok (.invokeinterface 204 1, 5) := by decide +kernel
theorem dX0_family_42 : decode cX0_family 42 = .ok (.ifCond .eq 60, 3) := dk_153 0 60 (dk_at dksX0_family_1 18 rfl rfl)
theorem dX0_family_45 : decode cX0_family 45 = .ok (.aload 4, 2) := dk_25 4 (dk_at dksX0_family_1 21 rfl rfl)
theorem dX0_family_47 : decode cX0_family 47 = .ok (.invokeinterface 210 1, 5) := by decide +kernel
theorem dX0_family_52 : decode cX0_family 52 = .ok (.checkcast 165, 3) := dk_192 0 165 (dk_at dksX0_family_2 5 rfl rfl)
theorem dX0_family_55 : decode cX0_family 55 = .ok (.astore 5, 2) := dk_58 5 (dk_at dksX0_family_2 8 rfl rfl)
theorem dX0_family_57 : decode cX0_family 57 = .ok (.iload_n 2, 1) := dk_28 (dk_at dksX0_family_2 10 rfl rfl)
theorem dX0_family_58 : decode cX0_family 58 = .ok (.aload 5, 2) := dk_25 5 (dk_at dksX0_family_2 11 rfl rfl)
theorem dX0_family_60 : decode cX0_family 60 = .ok (.getfield 164, 3) := dk_180 0 164 (dk_at dksX0_family_2 13 rfl rfl)
theorem dX0_family_63 : decode cX0_family 63 = .ok (.invokestatic 55, 3) := dk_184 0 55 (dk_at dksX0_family_2 16 rfl rfl)
theorem dX0_family_66 : decode cX0_family 66 = .ok (.ifCond .ne 15, 3) := dk_154 0 15 (dk_at dksX0_family_2 19 rfl rfl)
theorem dX0_family_69 : decode cX0_family 69 = .ok (.iload_n 2, 1) := dk_28 (dk_at dksX0_family_2 22 rfl rfl)
theorem dX0_family_70 : decode cX0_family 70 = .ok (.aload 5, 2) := dk_25 5 (dk_at dksX0_family_3 0 rfl rfl)
theorem dX0_family_72 : decode cX0_family 72 = .ok (.getfield 169, 3) := dk_180 0 169 (dk_at dksX0_family_3 2 rfl rfl)
theorem dX0_family_75 : decode cX0_family 75 = .ok (.invokestatic 55, 3) := dk_184 0 55 (dk_at dksX0_family_3 5 rfl rfl)
theorem dX0_family_78 : decode cX0_family 78 = .ok (.ifCond .eq 21, 3) := dk_153 0 21 (dk_at dksX0_family_3 8 rfl rfl)
theorem dX0_family_81 : decode cX0_family 81 = .ok (.iload_n 2, 1) := dk_28 (dk_at dksX0_family_3 11 rfl rfl)
theorem dX0_family_82 : decode cX0_family 82 = .ok (.iconst 1, 1) := dk_4 (dk_at dksX0_family_3 12 rfl rfl)
theorem dX0_family_83 : decode cX0_family 83 = .ok (.aload 5, 2) := dk_25 5 (dk_at dksX0_family_3 13 rfl rfl)
theorem dX0_family_85 : decode cX0_family 85 = .ok (.getfield 164, 3) := dk_180 0 164 (dk_at dksX0_family_3 15 rfl rfl)
theorem dX0_family_88 : decode cX0_family 88 = .ok (.ishl, 1) := dk_120 (dk_at dksX0_family_3 18 rfl rfl)
theorem dX0_family_89 : decode cX0_family 89 = .ok (.iconst 1, 1) := dk_4 (dk_at dksX0_family_3 19 rfl rfl)
theorem dX0_family_90 : decode cX0_family 90 = .ok (.aload 5, 2) := dk_25 5 (dk_at dksX0_family_3 20 rfl rfl)
theorem dX0_family_92 : decode cX0_family 92 = .ok (.getfield 169, 3) := dk_180 0 169 (dk_at dksX0_family_4 0 rfl rfl)
theorem dX0_family_95 : decode cX0_family 95 = .ok (.ishl, 1) := dk_120 (dk_at dksX0_family_4 3 rfl rfl)
theorem dX0_family_96 : decode cX0_family 96 = .ok (.ior, 1) := dk_128 (dk_at dksX0_family_4 4 rfl rfl)
theorem dX0_family_97 : decode cX0_family 97 = .ok (.ior, 1) := dk_128 (dk_at dksX0_family_4 5 rfl rfl)
theorem dX0_family_98 : decode cX0_family 98 = .ok (.istore_n 2, 1) := dk_61 (dk_at dksX0_family_4 6 rfl rfl)
theorem dX0_family_99 : decode cX0_family 99 = .ok (.goto (-64), 3) := dk_167 255 192 (dk_at dksX0_family_4 7 rfl rfl)
theorem dX0_family_102 : decode cX0_family 102 = .ok (.goto (-86), 3) := dk_167 255 170 (dk_at dksX0_family_4 10 rfl rfl)
theorem dX0_family_105 : decode cX0_family 105 = .ok (.iload_n 2, 1) := dk_28 (dk_at dksX0_family_4 13 rfl rfl)
theorem dX0_family_106 : decode cX0_family 106 = .ok (.ireturn, 1) := dk_172 (dk_at dksX0_family_4 14 rfl rfl)
abbrev cX0_depth : ByteArray := prog_1_method_74_code
def yX0_depth : MethodName := ⟨RX0, "depth", "(I)I"⟩
def dkwX0_depth_1 : List UInt8 := [167, 0, 4, 2, 172]
abbrev dktX0_depth_1 : List UInt8 := dkwX0_depth_1 ++ []
def dkwX0_depth_0 : List UInt8 := [42, 27, 182, 0, 228, 153, 0, 20, 42, 27, 187, 0, 50, 89, 16, 14, 183, 0, 52, 182, 1, 185]
abbrev dktX0_depth_0 : List UInt8 := dkwX0_depth_0 ++ dktX0_depth_1
theorem dksX0_depth_0 : cX0_depth.data.toList.drop 0 = dktX0_depth_0 := by decide +kernel
theorem dksX0_depth_1 : cX0_depth.data.toList.drop 22 = dktX0_depth_1 := dk_seg dksX0_depth_0 22 rfl rfl
theorem dX0_depth_0 : decode cX0_depth 0 = .ok (.aload_n 0, 1) := dk_42 (dk_at dksX0_depth_0 0 rfl rfl)
theorem dX0_depth_1 : decode cX0_depth 1 = .ok (.iload_n 1, 1) := dk_27 (dk_at dksX0_depth_0 1 rfl rfl)
theorem dX0_depth_2 : decode cX0_depth 2 = .ok (.invokevirtual 228, 3) := dk_182 0 228 (dk_at dksX0_depth_0 2 rfl rfl)
theorem dX0_depth_5 : decode cX0_depth 5 = .ok (.ifCond .eq 20, 3) := dk_153 0 20 (dk_at dksX0_depth_0 5 rfl rfl)
theorem dX0_depth_8 : decode cX0_depth 8 = .ok (.aload_n 0, 1) := dk_42 (dk_at dksX0_depth_0 8 rfl rfl)
theorem dX0_depth_9 : decode cX0_depth 9 = .ok (.iload_n 1, 1) := dk_27 (dk_at dksX0_depth_0 9 rfl rfl)
theorem dX0_depth_10 : decode cX0_depth 10 = .ok (.new 50, 3) := dk_187 0 50 (dk_at dksX0_depth_0 10 rfl rfl)
theorem dX0_depth_13 : decode cX0_depth 13 = .ok (.dup, 1) := dk_89 (dk_at dksX0_depth_0 13 rfl rfl)
theorem dX0_depth_14 : decode cX0_depth 14 = .ok (.bipush 14, 2) := dk_16 14 (dk_at dksX0_depth_0 14 rfl rfl)
theorem dX0_depth_16 : decode cX0_depth 16 = .ok (.invokespecial 52, 3) := dk_183 0 52 (dk_at dksX0_depth_0 16 rfl rfl)
theorem dX0_depth_19 : decode cX0_depth 19 = .ok (.invokevirtual 441, 3) := dk_182 1 185 (dk_at dksX0_depth_0 19 rfl rfl)
theorem dX0_depth_22 : decode cX0_depth 22 = .ok (.goto 4, 3) := dk_167 0 4 (dk_at dksX0_depth_1 0 rfl rfl)
theorem dX0_depth_25 : decode cX0_depth 25 = .ok (.iconst (-1), 1) := dk_2 (dk_at dksX0_depth_1 3 rfl rfl)
theorem dX0_depth_26 : decode cX0_depth 26 = .ok (.ireturn, 1) := dk_172 (dk_at dksX0_depth_1 4 rfl rfl)
abbrev cX0_deepest : ByteArray := prog_1_method_73_code
def yX0_deepest : MethodName := ⟨RX0, "deepest", "(ILjava/util/BitSet;)I"⟩
def dkwX0_deepest_4 : List UInt8 := [167, 255, 187, 44, 27, 182, 1, 192, 29, 172]
abbrev dktX0_deepest_4 : List UInt8 := dkwX0_deepest_4 ++ []
def dkwX0_deepest_3 : List UInt8 := [182, 0, 189, 153, 0, 20, 29, 4, 42, 25, 5, 180, 0, 169, 44, 182, 1, 185, 96, 184, 1, 189, 62]
abbrev dktX0_deepest_3 : List UInt8 := dkwX0_deepest_3 ++ dktX0_deepest_4
def dkwX0_deepest_2 : List UInt8 := [180, 0, 164, 27, 160, 0, 41, 44, 25, 5, 180, 0, 169, 182, 1, 58, 154, 0, 29, 42, 25, 5]
abbrev dktX0_deepest_2 : List UInt8 := dkwX0_deepest_2 ++ dktX0_deepest_3
def dkwX0_deepest_1 : List UInt8 := [185, 0, 204, 1, 0, 153, 0, 65, 25, 4, 185, 0, 210, 1, 0, 192, 0, 165, 58, 5, 25, 5]
abbrev dktX0_deepest_1 : List UInt8 := dkwX0_deepest_1 ++ dktX0_deepest_2
def dkwX0_deepest_0 : List UInt8 := [3, 62, 44, 27, 182, 0, 59, 42, 180, 0, 12, 180, 0, 128, 182, 0, 200, 58, 4, 25, 4]
abbrev dktX0_deepest_0 : List UInt8 := dkwX0_deepest_0 ++ dktX0_deepest_1
theorem dksX0_deepest_0 : cX0_deepest.data.toList.drop 0 = dktX0_deepest_0 := by decide +kernel
theorem dksX0_deepest_1 : cX0_deepest.data.toList.drop 21 = dktX0_deepest_1 := dk_seg dksX0_deepest_0 21 rfl rfl
theorem dksX0_deepest_2 : cX0_deepest.data.toList.drop 43 = dktX0_deepest_2 := dk_seg dksX0_deepest_1 22 rfl rfl
theorem dksX0_deepest_3 : cX0_deepest.data.toList.drop 65 = dktX0_deepest_3 := dk_seg dksX0_deepest_2 22 rfl rfl
theorem dksX0_deepest_4 : cX0_deepest.data.toList.drop 88 = dktX0_deepest_4 := dk_seg dksX0_deepest_3 23 rfl rfl
theorem dX0_deepest_0 : decode cX0_deepest 0 = .ok (.iconst 0, 1) := dk_3 (dk_at dksX0_deepest_0 0 rfl rfl)
theorem dX0_deepest_1 : decode cX0_deepest 1 = .ok (.istore_n 3, 1) := dk_62 (dk_at dksX0_deepest_0 1 rfl rfl)
theorem dX0_deepest_2 : decode cX0_deepest 2 = .ok (.aload_n 2, 1) := dk_44 (dk_at dksX0_deepest_0 2 rfl rfl)
theorem dX0_deepest_3 : decode cX0_deepest 3 = .ok (.iload_n 1, 1) := dk_27 (dk_at dksX0_deepest_0 3 rfl rfl)
theorem dX0_deepest_4 : decode cX0_deepest 4 = .ok (.invokevirtual 59, 3) := dk_182 0 59 (dk_at dksX0_deepest_0 4 rfl rfl)
theorem dX0_deepest_7 : decode cX0_deepest 7 = .ok (.aload_n 0, 1) := dk_42 (dk_at dksX0_deepest_0 7 rfl rfl)
theorem dX0_deepest_8 : decode cX0_deepest 8 = .ok (.getfield 12, 3) := dk_180 0 12 (dk_at dksX0_deepest_0 8 rfl rfl)
theorem dX0_deepest_11 : decode cX0_deepest 11 = .ok (.getfield 128, 3) := dk_180 0 128 (dk_at dksX0_deepest_0 11 rfl rfl)
theorem dX0_deepest_14 : decode cX0_deepest 14 = .ok (.invokevirtual 200, 3) := dk_182 0 200 (dk_at dksX0_deepest_0 14 rfl rfl)
theorem dX0_deepest_17 : decode cX0_deepest 17 = .ok (.astore 4, 2) := dk_58 4 (dk_at dksX0_deepest_0 17 rfl rfl)
theorem dX0_deepest_19 : decode cX0_deepest 19 = .ok (.aload 4, 2) := dk_25 4 (dk_at dksX0_deepest_0 19 rfl rfl)
theorem dX0_deepest_21 : decode cX0_deepest 21 = .ok (.invokeinterface 204 1, 5) := by decide +kernel
theorem dX0_deepest_26 : decode cX0_deepest 26 = .ok (.ifCond .eq 65, 3) := dk_153 0 65 (dk_at dksX0_deepest_1 5 rfl rfl)
theorem dX0_deepest_29 : decode cX0_deepest 29 = .ok (.aload 4, 2) := dk_25 4 (dk_at dksX0_deepest_1 8 rfl rfl)
theorem dX0_deepest_31 : decode cX0_deepest 31 = .ok (.invokeinterface 210 1, 5) := by decide +kernel
theorem dX0_deepest_36 : decode cX0_deepest 36 = .ok (.checkcast 165, 3) := dk_192 0 165 (dk_at dksX0_deepest_1 15 rfl rfl)
theorem dX0_deepest_39 : decode cX0_deepest 39 = .ok (.astore 5, 2) := dk_58 5 (dk_at dksX0_deepest_1 18 rfl rfl)
theorem dX0_deepest_41 : decode cX0_deepest 41 = .ok (.aload 5, 2) := dk_25 5 (dk_at dksX0_deepest_1 20 rfl rfl)
theorem dX0_deepest_43 : decode cX0_deepest 43 = .ok (.getfield 164, 3) := dk_180 0 164 (dk_at dksX0_deepest_2 0 rfl rfl)
theorem dX0_deepest_46 : decode cX0_deepest 46 = .ok (.iload_n 1, 1) := dk_27 (dk_at dksX0_deepest_2 3 rfl rfl)
theorem dX0_deepest_47 : decode cX0_deepest 47 = .ok (.if_icmp .ne 41, 3) := dk_160 0 41 (dk_at dksX0_deepest_2 4 rfl rfl)
theorem dX0_deepest_50 : decode cX0_deepest 50 = .ok (.aload_n 2, 1) := dk_44 (dk_at dksX0_deepest_2 7 rfl rfl)
theorem dX0_deepest_51 : decode cX0_deepest 51 = .ok (.aload 5, 2) := dk_25 5 (dk_at dksX0_deepest_2 8 rfl rfl)
theorem dX0_deepest_53 : decode cX0_deepest 53 = .ok (.getfield 169, 3) := dk_180 0 169 (dk_at dksX0_deepest_2 10 rfl rfl)
theorem dX0_deepest_56 : decode cX0_deepest 56 = .ok (.invokevirtual 314, 3) := dk_182 1 58 (dk_at dksX0_deepest_2 13 rfl rfl)
theorem dX0_deepest_59 : decode cX0_deepest 59 = .ok (.ifCond .ne 29, 3) := dk_154 0 29 (dk_at dksX0_deepest_2 16 rfl rfl)
theorem dX0_deepest_62 : decode cX0_deepest 62 = .ok (.aload_n 0, 1) := dk_42 (dk_at dksX0_deepest_2 19 rfl rfl)
theorem dX0_deepest_63 : decode cX0_deepest 63 = .ok (.aload 5, 2) := dk_25 5 (dk_at dksX0_deepest_2 20 rfl rfl)
theorem dX0_deepest_65 : decode cX0_deepest 65 = .ok (.invokevirtual 189, 3) := dk_182 0 189 (dk_at dksX0_deepest_3 0 rfl rfl)
theorem dX0_deepest_68 : decode cX0_deepest 68 = .ok (.ifCond .eq 20, 3) := dk_153 0 20 (dk_at dksX0_deepest_3 3 rfl rfl)
theorem dX0_deepest_71 : decode cX0_deepest 71 = .ok (.iload_n 3, 1) := dk_29 (dk_at dksX0_deepest_3 6 rfl rfl)
theorem dX0_deepest_72 : decode cX0_deepest 72 = .ok (.iconst 1, 1) := dk_4 (dk_at dksX0_deepest_3 7 rfl rfl)
theorem dX0_deepest_73 : decode cX0_deepest 73 = .ok (.aload_n 0, 1) := dk_42 (dk_at dksX0_deepest_3 8 rfl rfl)
theorem dX0_deepest_74 : decode cX0_deepest 74 = .ok (.aload 5, 2) := dk_25 5 (dk_at dksX0_deepest_3 9 rfl rfl)
theorem dX0_deepest_76 : decode cX0_deepest 76 = .ok (.getfield 169, 3) := dk_180 0 169 (dk_at dksX0_deepest_3 11 rfl rfl)
theorem dX0_deepest_79 : decode cX0_deepest 79 = .ok (.aload_n 2, 1) := dk_44 (dk_at dksX0_deepest_3 14 rfl rfl)
theorem dX0_deepest_80 : decode cX0_deepest 80 = .ok (.invokevirtual 441, 3) := dk_182 1 185 (dk_at dksX0_deepest_3 15 rfl rfl)
theorem dX0_deepest_83 : decode cX0_deepest 83 = .ok (.iadd, 1) := dk_96 (dk_at dksX0_deepest_3 18 rfl rfl)
theorem dX0_deepest_84 : decode cX0_deepest 84 = .ok (.invokestatic 445, 3) := dk_184 1 189 (dk_at dksX0_deepest_3 19 rfl rfl)
theorem dX0_deepest_87 : decode cX0_deepest 87 = .ok (.istore_n 3, 1) := dk_62 (dk_at dksX0_deepest_3 22 rfl rfl)
theorem dX0_deepest_88 : decode cX0_deepest 88 = .ok (.goto (-69), 3) := dk_167 255 187 (dk_at dksX0_deepest_4 0 rfl rfl)
theorem dX0_deepest_91 : decode cX0_deepest 91 = .ok (.aload_n 2, 1) := dk_44 (dk_at dksX0_deepest_4 3 rfl rfl)
theorem dX0_deepest_92 : decode cX0_deepest 92 = .ok (.iload_n 1, 1) := dk_27 (dk_at dksX0_deepest_4 4 rfl rfl)
theorem dX0_deepest_93 : decode cX0_deepest 93 = .ok (.invokevirtual 448, 3) := dk_182 1 192 (dk_at dksX0_deepest_4 5 rfl rfl)
theorem dX0_deepest_96 : decode cX0_deepest 96 = .ok (.iload_n 3, 1) := dk_29 (dk_at dksX0_deepest_4 8 rfl rfl)
theorem dX0_deepest_97 : decode cX0_deepest 97 = .ok (.ireturn, 1) := dk_172 (dk_at dksX0_deepest_4 9 rfl rfl)
abbrev cX0_heirs : ByteArray := prog_1_method_75_code
def yX0_heirs : MethodName := ⟨RX0, "heirs", "(II)I"⟩
def dkwX0_heirs_3 : List UInt8 := [132, 4, 1, 167, 255, 206, 29, 172]
abbrev dktX0_heirs_3 : List UInt8 := dkwX0_heirs_3 ++ []
def dkwX0_heirs_2 : List UInt8 := [183, 0, 216, 180, 1, 194, 27, 46, 2, 160, 0, 7, 3, 167, 0, 7, 4, 21, 4, 120, 128, 62]
abbrev dktX0_heirs_2 : List UInt8 := dkwX0_heirs_2 ++ dktX0_heirs_3
def dkwX0_heirs_1 : List UInt8 := [42, 180, 0, 12, 180, 0, 117, 182, 0, 118, 162, 0, 41, 29, 187, 0, 214, 89, 42, 21, 4, 28, 3]
abbrev dktX0_heirs_1 : List UInt8 := dkwX0_heirs_1 ++ dktX0_heirs_2
def dkwX0_heirs_0 : List UInt8 := [42, 27, 182, 0, 228, 153, 0, 10, 28, 184, 0, 231, 154, 0, 5, 2, 172, 3, 62, 3, 54, 4, 21, 4]
abbrev dktX0_heirs_0 : List UInt8 := dkwX0_heirs_0 ++ dktX0_heirs_1
theorem dksX0_heirs_0 : cX0_heirs.data.toList.drop 0 = dktX0_heirs_0 := by decide +kernel
theorem dksX0_heirs_1 : cX0_heirs.data.toList.drop 24 = dktX0_heirs_1 := dk_seg dksX0_heirs_0 24 rfl rfl
theorem dksX0_heirs_2 : cX0_heirs.data.toList.drop 47 = dktX0_heirs_2 := dk_seg dksX0_heirs_1 23 rfl rfl
theorem dksX0_heirs_3 : cX0_heirs.data.toList.drop 69 = dktX0_heirs_3 := dk_seg dksX0_heirs_2 22 rfl rfl
theorem dX0_heirs_0 : decode cX0_heirs 0 = .ok (.aload_n 0, 1) := dk_42 (dk_at dksX0_heirs_0 0 rfl rfl)
theorem dX0_heirs_1 : decode cX0_heirs 1 = .ok (.iload_n 1, 1) := dk_27 (dk_at dksX0_heirs_0 1 rfl rfl)
theorem dX0_heirs_2 : decode cX0_heirs 2 = .ok (.invokevirtual 228, 3) := dk_182 0 228 (dk_at dksX0_heirs_0 2 rfl rfl)
theorem dX0_heirs_5 : decode cX0_heirs 5 = .ok (.ifCond .eq 10, 3) := dk_153 0 10 (dk_at dksX0_heirs_0 5 rfl rfl)
theorem dX0_heirs_8 : decode cX0_heirs 8 = .ok (.iload_n 2, 1) := dk_28 (dk_at dksX0_heirs_0 8 rfl rfl)
theorem dX0_heirs_9 : decode cX0_heirs 9 = .ok (.invokestatic 231, 3) := dk_184 0 231 (dk_at dksX0_heirs_0 9 rfl rfl)
theorem dX0_heirs_12 : decode cX0_heirs 12 = .ok (.ifCond .ne 5, 3) := dk_154 0 5 (dk_at dksX0_heirs_0 12 rfl rfl)
theorem dX0_heirs_15 : decode cX0_heirs 15 = .ok (.iconst (-1), 1) := dk_2 (dk_at dksX0_heirs_0 15 rfl rfl)
theorem dX0_heirs_16 : decode cX0_heirs 16 = .ok (.ireturn, 1) := dk_172 (dk_at dksX0_heirs_0 16 rfl rfl)
theorem dX0_heirs_17 : decode cX0_heirs 17 = .ok (.iconst 0, 1) := dk_3 (dk_at dksX0_heirs_0 17 rfl rfl)
theorem dX0_heirs_18 : decode cX0_heirs 18 = .ok (.istore_n 3, 1) := dk_62 (dk_at dksX0_heirs_0 18 rfl rfl)
theorem dX0_heirs_19 : decode cX0_heirs 19 = .ok (.iconst 0, 1) := dk_3 (dk_at dksX0_heirs_0 19 rfl rfl)
theorem dX0_heirs_20 : decode cX0_heirs 20 = .ok (.istore 4, 2) := dk_54 4 (dk_at dksX0_heirs_0 20 rfl rfl)
theorem dX0_heirs_22 : decode cX0_heirs 22 = .ok (.iload 4, 2) := dk_21 4 (dk_at dksX0_heirs_0 22 rfl rfl)
theorem dX0_heirs_24 : decode cX0_heirs 24 = .ok (.aload_n 0, 1) := dk_42 (dk_at dksX0_heirs_1 0 rfl rfl)
theorem dX0_heirs_25 : decode cX0_heirs 25 = .ok (.getfield 12, 3) := dk_180 0 12 (dk_at dksX0_heirs_1 1 rfl rfl)
theorem dX0_heirs_28 : decode cX0_heirs 28 = .ok (.getfield 117, 3) := dk_180 0 117 (dk_at dksX0_heirs_1 4 rfl rfl)
theorem dX0_heirs_31 : decode cX0_heirs 31 = .ok (.invokevirtual 118, 3) := dk_182 0 118 (dk_at dksX0_heirs_1 7 rfl rfl)
theorem dX0_heirs_34 : decode cX0_heirs 34 = .ok (.if_icmp .ge 41, 3) := dk_162 0 41 (dk_at dksX0_heirs_1 10 rfl rfl)
theorem dX0_heirs_37 : decode cX0_heirs 37 = .ok (.iload_n 3, 1) := dk_29 (dk_at dksX0_heirs_1 13 rfl rfl)
theorem dX0_heirs_38 : decode cX0_heirs 38 = .ok (.new 214, 3) := dk_187 0 214 (dk_at dksX0_heirs_1 14 rfl rfl)
theorem dX0_heirs_41 : decode cX0_heirs 41 = .ok (.dup, 1) := dk_89 (dk_at dksX0_heirs_1 17 rfl rfl)
theorem dX0_heirs_42 : decode cX0_heirs 42 = .ok (.aload_n 0, 1) := dk_42 (dk_at dksX0_heirs_1 18 rfl rfl)
theorem dX0_heirs_43 : decode cX0_heirs 43 = .ok (.iload 4, 2) := dk_21 4 (dk_at dksX0_heirs_1 19 rfl rfl)
theorem dX0_heirs_45 : decode cX0_heirs 45 = .ok (.iload_n 2, 1) := dk_28 (dk_at dksX0_heirs_1 21 rfl rfl)
theorem dX0_heirs_46 : decode cX0_heirs 46 = .ok (.iconst 0, 1) := dk_3 (dk_at dksX0_heirs_1 22 rfl rfl)
theorem dX0_heirs_47 : decode cX0_heirs 47 = .ok (.invokespecial 216, 3) := dk_183 0 216 (dk_at dksX0_heirs_2 0 rfl rfl)
theorem dX0_heirs_50 : decode cX0_heirs 50 = .ok (.getfield 450, 3) := dk_180 1 194 (dk_at dksX0_heirs_2 3 rfl rfl)
theorem dX0_heirs_53 : decode cX0_heirs 53 = .ok (.iload_n 1, 1) := dk_27 (dk_at dksX0_heirs_2 6 rfl rfl)
theorem dX0_heirs_54 : decode cX0_heirs 54 = .ok (.iaload, 1) := dk_46 (dk_at dksX0_heirs_2 7 rfl rfl)
theorem dX0_heirs_55 : decode cX0_heirs 55 = .ok (.iconst (-1), 1) := dk_2 (dk_at dksX0_heirs_2 8 rfl rfl)
theorem dX0_heirs_56 : decode cX0_heirs 56 = .ok (.if_icmp .ne 7, 3) := dk_160 0 7 (dk_at dksX0_heirs_2 9 rfl rfl)
theorem dX0_heirs_59 : decode cX0_heirs 59 = .ok (.iconst 0, 1) := dk_3 (dk_at dksX0_heirs_2 12 rfl rfl)
theorem dX0_heirs_60 : decode cX0_heirs 60 = .ok (.goto 7, 3) := dk_167 0 7 (dk_at dksX0_heirs_2 13 rfl rfl)
theorem dX0_heirs_63 : decode cX0_heirs 63 = .ok (.iconst 1, 1) := dk_4 (dk_at dksX0_heirs_2 16 rfl rfl)
theorem dX0_heirs_64 : decode cX0_heirs 64 = .ok (.iload 4, 2) := dk_21 4 (dk_at dksX0_heirs_2 17 rfl rfl)
theorem dX0_heirs_66 : decode cX0_heirs 66 = .ok (.ishl, 1) := dk_120 (dk_at dksX0_heirs_2 19 rfl rfl)
theorem dX0_heirs_67 : decode cX0_heirs 67 = .ok (.ior, 1) := dk_128 (dk_at dksX0_heirs_2 20 rfl rfl)
theorem dX0_heirs_68 : decode cX0_heirs 68 = .ok (.istore_n 3, 1) := dk_62 (dk_at dksX0_heirs_2 21 rfl rfl)
theorem dX0_heirs_69 : decode cX0_heirs 69 = .ok (.iinc 4 1, 3) := dk_132 4 1 (dk_at dksX0_heirs_3 0 rfl rfl)
theorem dX0_heirs_72 : decode cX0_heirs 72 = .ok (.goto (-50), 3) := dk_167 255 206 (dk_at dksX0_heirs_3 3 rfl rfl)
theorem dX0_heirs_75 : decode cX0_heirs 75 = .ok (.iload_n 3, 1) := dk_29 (dk_at dksX0_heirs_3 6 rfl rfl)
theorem dX0_heirs_76 : decode cX0_heirs 76 = .ok (.ireturn, 1) := dk_172 (dk_at dksX0_heirs_3 7 rfl rfl)
abbrev cX0_first : ByteArray := prog_1_method_76_code
def yX0_first : MethodName := ⟨RX0, "first", "(II)I"⟩
def dkwX0_first_6 : List UInt8 := [180, 0, 12, 29, 182, 0, 155, 180, 0, 159, 172]
abbrev dktX0_first_6 : List UInt8 := dkwX0_first_6 ++ []
def dkwX0_first_5 : List UInt8 := [167, 0, 32, 28, 154, 0, 7, 29, 167, 0, 24, 28, 4, 160, 0, 8, 21, 4, 167, 0, 14, 42]
abbrev dktX0_first_5 : List UInt8 := dkwX0_first_5 ++ dktX0_first_6
def dkwX0_first_4 : List UInt8 := [167, 255, 196, 25, 6, 180, 1, 142, 62, 21, 7, 54, 4, 167, 255, 183, 29, 16, 254, 160, 0, 8, 16, 254]
abbrev dktX0_first_4 : List UInt8 := dkwX0_first_4 ++ dktX0_first_5
def dkwX0_first_3 : List UInt8 := [25, 6, 180, 1, 142, 27, 182, 0, 224, 54, 7, 29, 16, 254, 159, 0, 13, 21, 7, 21, 4, 161, 0, 6]
abbrev dktX0_first_3 : List UInt8 := dkwX0_first_3 ++ dktX0_first_4
def dkwX0_first_2 : List UInt8 := [185, 0, 210, 1, 0, 192, 0, 160, 58, 6, 25, 6, 27, 182, 0, 186, 2, 160, 0, 6, 167, 255, 224, 42]
abbrev dktX0_first_2 : List UInt8 := dkwX0_first_2 ++ dktX0_first_3
def dkwX0_first_1 : List UInt8 := [180, 0, 12, 180, 0, 117, 182, 1, 74, 58, 5, 25, 5, 185, 0, 204, 1, 0, 153, 0, 69, 25, 5]
abbrev dktX0_first_1 : List UInt8 := dkwX0_first_1 ++ dktX0_first_2
def dkwX0_first_0 : List UInt8 := [27, 184, 0, 231, 153, 0, 11, 28, 6, 184, 0, 124, 154, 0, 5, 2, 172, 16, 254, 62, 3, 54, 4, 42]
abbrev dktX0_first_0 : List UInt8 := dkwX0_first_0 ++ dktX0_first_1
theorem dksX0_first_0 : cX0_first.data.toList.drop 0 = dktX0_first_0 := by decide +kernel
theorem dksX0_first_1 : cX0_first.data.toList.drop 24 = dktX0_first_1 := dk_seg dksX0_first_0 24 rfl rfl
theorem dksX0_first_2 : cX0_first.data.toList.drop 47 = dktX0_first_2 := dk_seg dksX0_first_1 23 rfl rfl
theorem dksX0_first_3 : cX0_first.data.toList.drop 71 = dktX0_first_3 := dk_seg dksX0_first_2 24 rfl rfl
theorem dksX0_first_4 : cX0_first.data.toList.drop 95 = dktX0_first_4 := dk_seg dksX0_first_3 24 rfl rfl
theorem dksX0_first_5 : cX0_first.data.toList.drop 119 = dktX0_first_5 := dk_seg dksX0_first_4 24 rfl rfl
theorem dksX0_first_6 : cX0_first.data.toList.drop 141 = dktX0_first_6 := dk_seg dksX0_first_5 22 rfl rfl
theorem dX0_first_0 : decode cX0_first 0 = .ok (.iload_n 1, 1) := dk_27 (dk_at dksX0_first_0 0 rfl rfl)
theorem dX0_first_1 : decode cX0_first 1 = .ok (.invokestatic 231, 3) := dk_184 0 231 (dk_at dksX0_first_0 1 rfl rfl)
theorem dX0_first_4 : decode cX0_first 4 = .ok (.ifCond .eq 11, 3) := dk_153 0 11 (dk_at dksX0_first_0 4 rfl rfl)
theorem dX0_first_7 : decode cX0_first 7 = .ok (.iload_n 2, 1) := dk_28 (dk_at dksX0_first_0 7 rfl rfl)
theorem dX0_first_8 : decode cX0_first 8 = .ok (.iconst 3, 1) := dk_6 (dk_at dksX0_first_0 8 rfl rfl)
theorem dX0_first_9 : decode cX0_first 9 = .ok (.invokestatic 124, 3) := dk_184 0 124 (dk_at dksX0_first_0 9 rfl rfl)
theorem dX0_first_12 : decode cX0_first 12 = .ok (.ifCond .ne 5, 3) := dk_154 0 5 (dk_at dksX0_first_0 12 rfl rfl)
theorem dX0_first_15 : decode cX0_first 15 = .ok (.iconst (-1), 1) := dk_2 (dk_at dksX0_first_0 15 rfl rfl)
theorem dX0_first_16 : decode cX0_first 16 = .ok (.ireturn, 1) := dk_172 (dk_at dksX0_first_0 16 rfl rfl)
theorem dX0_first_17 : decode cX0_first 17 = .ok (.bipush (-2), 2) := dk_16 254 (dk_at dksX0_first_0 17 rfl rfl)
theorem dX0_first_19 : decode cX0_first 19 = .ok (.istore_n 3, 1) := dk_62 (dk_at dksX0_first_0 19 rfl rfl)
theorem dX0_first_20 : decode cX0_first 20 = .ok (.iconst 0, 1) := dk_3 (dk_at dksX0_first_0 20 rfl rfl)
theorem dX0_first_21 : decode cX0_first 21 = .ok (.istore 4, 2) := dk_54 4 (dk_at dksX0_first_0 21 rfl rfl)
theorem dX0_first_23 : decode cX0_first 23 = .ok (.aload_n 0, 1) := dk_42 (dk_at dksX0_first_0 23 rfl rfl)
theorem dX0_first_24 : decode cX0_first 24 = .ok (.getfield 12, 3) := dk_180 0 12 (dk_at dksX0_first_1 0 rfl rfl)
theorem dX0_first_27 : decode cX0_first 27 = .ok (.getfield 117, 3) := dk_180 0 117 (dk_at dksX0_first_1 3 rfl rfl)
theorem dX0_first_30 : decode cX0_first 30 = .ok (.invokevirtual 330, 3) := dk_182 1 74 (dk_at dksX0_first_1 6 rfl rfl)
theorem dX0_first_33 : decode cX0_first 33 = .ok (.astore 5, 2) := dk_58 5 (dk_at dksX0_first_1 9 rfl rfl)
theorem dX0_first_35 : decode cX0_first 35 = .ok (.aload 5, 2) := dk_25 5 (dk_at dksX0_first_1 11 rfl rfl)
theorem dX0_first_37 : decode cX0_first 37 = .ok (.invokeinterface 204 1, 5) := by decide +kernel
theorem dX0_first_42 : decode cX0_first 42 = .ok (.ifCond .eq 69, 3) := dk_153 0 69 (dk_at dksX0_first_1 18 rfl rfl)
theorem dX0_first_45 : decode cX0_first 45 = .ok (.aload 5, 2) := dk_25 5 (dk_at dksX0_first_1 21 rfl rfl)
theorem dX0_first_47 : decode cX0_first 47 = .ok (.invokeinterface 210 1, 5) := by decide +kernel
theorem dX0_first_52 : decode cX0_first 52 = .ok (.checkcast 160, 3) := dk_192 0 160 (dk_at dksX0_first_2 5 rfl rfl)
theorem dX0_first_55 : decode cX0_first 55 = .ok (.astore 6, 2) := dk_58 6 (dk_at dksX0_first_2 8 rfl rfl)
theorem dX0_first_57 : decode cX0_first 57 = .ok (.aload 6, 2) := dk_25 6 (dk_at dksX0_first_2 10 rfl rfl)
theorem dX0_first_59 : decode cX0_first 59 = .ok (.iload_n 1, 1) := dk_27 (dk_at dksX0_first_2 12 rfl rfl)
theorem dX0_first_60 : decode cX0_first 60 = .ok (.invokevirtual 186, 3) := dk_182 0 186 (dk_at dksX0_first_2 13 rfl rfl)
theorem dX0_first_63 : decode cX0_first 63 = .ok (.iconst (-1), 1) := dk_2 (dk_at dksX0_first_2 16 rfl rfl)
theorem dX0_first_64 : decode cX0_first 64 = .ok (.if_icmp .ne 6, 3) := dk_160 0 6 (dk_at dksX0_first_2 17 rfl rfl)
theorem dX0_first_67 : decode cX0_first 67 = .ok (.goto (-32), 3) := dk_167 255 224 (dk_at dksX0_first_2 20 rfl rfl)
theorem dX0_first_70 : decode cX0_first 70 = .ok (.aload_n 0, 1) := dk_42 (dk_at dksX0_first_2 23 rfl rfl)
theorem dX0_first_71 : decode cX0_first 71 = .ok (.aload 6, 2) := dk_25 6 (dk_at dksX0_first_3 0 rfl rfl)
theorem dX0_first_73 : decode cX0_first 73 = .ok (.getfield 398, 3) := dk_180 1 142 (dk_at dksX0_first_3 2 rfl rfl)
theorem dX0_first_76 : decode cX0_first 76 = .ok (.iload_n 1, 1) := dk_27 (dk_at dksX0_first_3 5 rfl rfl)
theorem dX0_first_77 : decode cX0_first 77 = .ok (.invokevirtual 224, 3) := dk_182 0 224 (dk_at dksX0_first_3 6 rfl rfl)
theorem dX0_first_80 : decode cX0_first 80 = .ok (.istore 7, 2) := dk_54 7 (dk_at dksX0_first_3 9 rfl rfl)
theorem dX0_first_82 : decode cX0_first 82 = .ok (.iload_n 3, 1) := dk_29 (dk_at dksX0_first_3 11 rfl rfl)
theorem dX0_first_83 : decode cX0_first 83 = .ok (.bipush (-2), 2) := dk_16 254 (dk_at dksX0_first_3 12 rfl rfl)
theorem dX0_first_85 : decode cX0_first 85 = .ok (.if_icmp .eq 13, 3) := dk_159 0 13 (dk_at dksX0_first_3 14 rfl rfl)
theorem dX0_first_88 : decode cX0_first 88 = .ok (.iload 7, 2) := dk_21 7 (dk_at dksX0_first_3 17 rfl rfl)
theorem dX0_first_90 : decode cX0_first 90 = .ok (.iload 4, 2) := dk_21 4 (dk_at dksX0_first_3 19 rfl rfl)
theorem dX0_first_92 : decode cX0_first 92 = .ok (.if_icmp .lt 6, 3) := dk_161 0 6 (dk_at dksX0_first_3 21 rfl rfl)
theorem dX0_first_95 : decode cX0_first 95 = .ok (.goto (-60), 3) := dk_167 255 196 (dk_at dksX0_first_4 0 rfl rfl)
theorem dX0_first_98 : decode cX0_first 98 = .ok (.aload 6, 2) := dk_25 6 (dk_at dksX0_first_4 3 rfl rfl)
theorem dX0_first_100 : decode cX0_first 100 = .ok (.getfield 398, 3) := dk_180 1 142 (dk_at dksX0_first_4 5 rfl rfl)
theorem dX0_first_103 : decode cX0_first 103 = .ok (.istore_n 3, 1) := dk_62 (dk_at dksX0_first_4 8 rfl rfl)
theorem dX0_first_104 : decode cX0_first 104 = .ok (.iload 7, 2) := dk_21 7 (dk_at dksX0_first_4 9 rfl rfl)
theorem dX0_first_106 : decode cX0_first 106 = .ok (.istore 4, 2) := dk_54 4 (dk_at dksX0_first_4 11 rfl rfl)
theorem dX0_first_108 : decode cX0_first 108 = .ok (.goto (-73), 3) := dk_167 255 183 (dk_at dksX0_first_4 13 rfl rfl)
theorem dX0_first_111 : decode cX0_first 111 = .ok (.iload_n 3, 1) := dk_29 (dk_at dksX0_first_4 16 rfl rfl)
theorem dX0_first_112 : decode cX0_first 112 = .ok (.bipush (-2), 2) := dk_16 254 (dk_at dksX0_first_4 17 rfl rfl)
theorem dX0_first_114 : decode cX0_first 114 = .ok (.if_icmp .ne 8, 3) := dk_160 0 8 (dk_at dksX0_first_4 19 rfl rfl)
theorem dX0_first_117 : decode cX0_first 117 = .ok (.bipush (-2), 2) := dk_16 254 (dk_at dksX0_first_4 22 rfl rfl)
theorem dX0_first_119 : decode cX0_first 119 = .ok (.goto 32, 3) := dk_167 0 32 (dk_at dksX0_first_5 0 rfl rfl)
theorem dX0_first_122 : decode cX0_first 122 = .ok (.iload_n 2, 1) := dk_28 (dk_at dksX0_first_5 3 rfl rfl)
theorem dX0_first_123 : decode cX0_first 123 = .ok (.ifCond .ne 7, 3) := dk_154 0 7 (dk_at dksX0_first_5 4 rfl rfl)
theorem dX0_first_126 : decode cX0_first 126 = .ok (.iload_n 3, 1) := dk_29 (dk_at dksX0_first_5 7 rfl rfl)
theorem dX0_first_127 : decode cX0_first 127 = .ok (.goto 24, 3) := dk_167 0 24 (dk_at dksX0_first_5 8 rfl rfl)
theorem dX0_first_130 : decode cX0_first 130 = .ok (.iload_n 2, 1) := dk_28 (dk_at dksX0_first_5 11 rfl rfl)
theorem dX0_first_131 : decode cX0_first 131 = .ok (.iconst 1, 1) := dk_4 (dk_at dksX0_first_5 12 rfl rfl)
theorem dX0_first_132 : decode cX0_first 132 = .ok (.if_icmp .ne 8, 3) := dk_160 0 8 (dk_at dksX0_first_5 13 rfl rfl)
theorem dX0_first_135 : decode cX0_first 135 = .ok (.iload 4, 2) := dk_21 4 (dk_at dksX0_first_5 16 rfl rfl)
theorem dX0_first_137 : decode cX0_first 137 = .ok (.goto 14, 3) := dk_167 0 14 (dk_at dksX0_first_5 18 rfl rfl)
theorem dX0_first_140 : decode cX0_first 140 = .ok (.aload_n 0, 1) := dk_42 (dk_at dksX0_first_5 21 rfl rfl)
theorem dX0_first_141 : decode cX0_first 141 = .ok (.getfield 12, 3) := dk_180 0 12 (dk_at dksX0_first_6 0 rfl rfl)
theorem dX0_first_144 : decode cX0_first 144 = .ok (.iload_n 3, 1) := dk_29 (dk_at dksX0_first_6 3 rfl rfl)
theorem dX0_first_145 : decode cX0_first 145 = .ok (.invokevirtual 155, 3) := dk_182 0 155 (dk_at dksX0_first_6 4 rfl rfl)
theorem dX0_first_148 : decode cX0_first 148 = .ok (.getfield 159, 3) := dk_180 0 159 (dk_at dksX0_first_6 7 rfl rfl)
theorem dX0_first_151 : decode cX0_first 151 = .ok (.ireturn, 1) := dk_172 (dk_at dksX0_first_6 10 rfl rfl)
abbrev cX0_twins : ByteArray := prog_1_method_77_code
def yX0_twins : MethodName := ⟨RX0, "twins", "(I)I"⟩
def dkwX0_twins_3 : List UInt8 := [61, 132, 3, 1, 167, 255, 196, 28, 172]
abbrev dktX0_twins_3 : List UInt8 := dkwX0_twins_3 ++ []
def dkwX0_twins_2 : List UInt8 := [180, 0, 222, 160, 0, 22, 42, 29, 182, 1, 145, 42, 27, 182, 1, 145, 160, 0, 9, 28, 4, 29, 120, 128]
abbrev dktX0_twins_2 : List UInt8 := dkwX0_twins_2 ++ dktX0_twins_3
def dkwX0_twins_1 : List UInt8 := [182, 0, 118, 162, 0, 52, 29, 27, 159, 0, 41, 42, 29, 182, 0, 148, 180, 0, 222, 42, 27, 182, 0, 148]
abbrev dktX0_twins_1 : List UInt8 := dkwX0_twins_1 ++ dktX0_twins_2
def dkwX0_twins_0 : List UInt8 := [42, 27, 182, 1, 105, 154, 0, 5, 2, 172, 3, 61, 3, 62, 29, 42, 180, 0, 12, 180, 0, 135]
abbrev dktX0_twins_0 : List UInt8 := dkwX0_twins_0 ++ dktX0_twins_1
theorem dksX0_twins_0 : cX0_twins.data.toList.drop 0 = dktX0_twins_0 := by decide +kernel
theorem dksX0_twins_1 : cX0_twins.data.toList.drop 22 = dktX0_twins_1 := dk_seg dksX0_twins_0 22 rfl rfl
theorem dksX0_twins_2 : cX0_twins.data.toList.drop 46 = dktX0_twins_2 := dk_seg dksX0_twins_1 24 rfl rfl
theorem dksX0_twins_3 : cX0_twins.data.toList.drop 70 = dktX0_twins_3 := dk_seg dksX0_twins_2 24 rfl rfl
theorem dX0_twins_0 : decode cX0_twins 0 = .ok (.aload_n 0, 1) := dk_42 (dk_at dksX0_twins_0 0 rfl rfl)
theorem dX0_twins_1 : decode cX0_twins 1 = .ok (.iload_n 1, 1) := dk_27 (dk_at dksX0_twins_0 1 rfl rfl)
theorem dX0_twins_2 : decode cX0_twins 2 = .ok (.invokevirtual 361, 3) := dk_182 1 105 (dk_at dksX0_twins_0 2 rfl rfl)
theorem dX0_twins_5 : decode cX0_twins 5 = .ok (.ifCond .ne 5, 3) := dk_154 0 5 (dk_at dksX0_twins_0 5 rfl rfl)
theorem dX0_twins_8 : decode cX0_twins 8 = .ok (.iconst (-1), 1) := dk_2 (dk_at dksX0_twins_0 8 rfl rfl)
theorem dX0_twins_9 : decode cX0_twins 9 = .ok (.ireturn, 1) := dk_172 (dk_at dksX0_twins_0 9 rfl rfl)
theorem dX0_twins_10 : decode cX0_twins 10 = .ok (.iconst 0, 1) := dk_3 (dk_at dksX0_twins_0 10 rfl rfl)
theorem dX0_twins_11 : decode cX0_twins 11 = .ok (.istore_n 2, 1) := dk_61 (dk_at dksX0_twins_0 11 rfl rfl)
theorem dX0_twins_12 : decode cX0_twins 12 = .ok (.iconst 0, 1) := dk_3 (dk_at dksX0_twins_0 12 rfl rfl)
theorem dX0_twins_13 : decode cX0_twins 13 = .ok (.istore_n 3, 1) := dk_62 (dk_at dksX0_twins_0 13 rfl rfl)
theorem dX0_twins_14 : decode cX0_twins 14 = .ok (.iload_n 3, 1) := dk_29 (dk_at dksX0_twins_0 14 rfl rfl)
theorem dX0_twins_15 : decode cX0_twins 15 = .ok (.aload_n 0, 1) := dk_42 (dk_at dksX0_twins_0 15 rfl rfl)
theorem dX0_twins_16 : decode cX0_twins 16 = .ok (.getfield 12, 3) := dk_180 0 12 (dk_at dksX0_twins_0 16 rfl rfl)
theorem dX0_twins_19 : decode cX0_twins 19 = .ok (.getfield 135, 3) := dk_180 0 135 (dk_at dksX0_twins_0 19 rfl rfl)
theorem dX0_twins_22 : decode cX0_twins 22 = .ok (.invokevirtual 118, 3) := dk_182 0 118 (dk_at dksX0_twins_1 0 rfl rfl)
theorem dX0_twins_25 : decode cX0_twins 25 = .ok (.if_icmp .ge 52, 3) := dk_162 0 52 (dk_at dksX0_twins_1 3 rfl rfl)
theorem dX0_twins_28 : decode cX0_twins 28 = .ok (.iload_n 3, 1) := dk_29 (dk_at dksX0_twins_1 6 rfl rfl)
theorem dX0_twins_29 : decode cX0_twins 29 = .ok (.iload_n 1, 1) := dk_27 (dk_at dksX0_twins_1 7 rfl rfl)
theorem dX0_twins_30 : decode cX0_twins 30 = .ok (.if_icmp .eq 41, 3) := dk_159 0 41 (dk_at dksX0_twins_1 8 rfl rfl)
theorem dX0_twins_33 : decode cX0_twins 33 = .ok (.aload_n 0, 1) := dk_42 (dk_at dksX0_twins_1 11 rfl rfl)
theorem dX0_twins_34 : decode cX0_twins 34 = .ok (.iload_n 3, 1) := dk_29 (dk_at dksX0_twins_1 12 rfl rfl)
theorem dX0_twins_35 : decode cX0_twins 35 = .ok (.invokevirtual 148, 3) := dk_182 0 148 (dk_at dksX0_twins_1 13 rfl rfl)
theorem dX0_twins_38 : decode cX0_twins 38 = .ok (.getfield 222, 3) := dk_180 0 222 (dk_at dksX0_twins_1 16 rfl rfl)
theorem dX0_twins_41 : decode cX0_twins 41 = .ok (.aload_n 0, 1) := dk_42 (dk_at dksX0_twins_1 19 rfl rfl)
theorem dX0_twins_42 : decode cX0_twins 42 = .ok (.iload_n 1, 1) := dk_27 (dk_at dksX0_twins_1 20 rfl rfl)
theorem dX0_twins_43 : decode cX0_twins 43 = .ok (.invokevirtual 148, 3) := dk_182 0 148 (dk_at dksX0_twins_1 21 rfl rfl)
theorem dX0_twins_46 : decode cX0_twins 46 = .ok (.getfield 222, 3) := dk_180 0 222 (dk_at dksX0_twins_2 0 rfl rfl)
theorem dX0_twins_49 : decode cX0_twins 49 = .ok (.if_icmp .ne 22, 3) := dk_160 0 22 (dk_at dksX0_twins_2 3 rfl rfl)
theorem dX0_twins_52 : decode cX0_twins 52 = .ok (.aload_n 0, 1) := dk_42 (dk_at dksX0_twins_2 6 rfl rfl)
theorem dX0_twins_53 : decode cX0_twins 53 = .ok (.iload_n 3, 1) := dk_29 (dk_at dksX0_twins_2 7 rfl rfl)
theorem dX0_twins_54 : decode cX0_twins 54 = .ok (.invokevirtual 401, 3) := dk_182 1 145 (dk_at dksX0_twins_2 8 rfl rfl)
theorem dX0_twins_57 : decode cX0_twins 57 = .ok (.aload_n 0, 1) := dk_42 (dk_at dksX0_twins_2 11 rfl rfl)
theorem dX0_twins_58 : decode cX0_twins 58 = .ok (.iload_n 1, 1) := dk_27 (dk_at dksX0_twins_2 12 rfl rfl)
theorem dX0_twins_59 : decode cX0_twins 59 = .ok (.invokevirtual 401, 3) := dk_182 1 145 (dk_at dksX0_twins_2 13 rfl rfl)
theorem dX0_twins_62 : decode cX0_twins 62 = .ok (.if_icmp .ne 9, 3) := dk_160 0 9 (dk_at dksX0_twins_2 16 rfl rfl)
theorem dX0_twins_65 : decode cX0_twins 65 = .ok (.iload_n 2, 1) := dk_28 (dk_at dksX0_twins_2 19 rfl rfl)
theorem dX0_twins_66 : decode cX0_twins 66 = .ok (.iconst 1, 1) := dk_4 (dk_at dksX0_twins_2 20 rfl rfl)
theorem dX0_twins_67 : decode cX0_twins 67 = .ok (.iload_n 3, 1) := dk_29 (dk_at dksX0_twins_2 21 rfl rfl)
theorem dX0_twins_68 : decode cX0_twins 68 = .ok (.ishl, 1) := dk_120 (dk_at dksX0_twins_2 22 rfl rfl)
theorem dX0_twins_69 : decode cX0_twins 69 = .ok (.ior, 1) := dk_128 (dk_at dksX0_twins_2 23 rfl rfl)
theorem dX0_twins_70 : decode cX0_twins 70 = .ok (.istore_n 2, 1) := dk_61 (dk_at dksX0_twins_3 0 rfl rfl)
theorem dX0_twins_71 : decode cX0_twins 71 = .ok (.iinc 3 1, 3) := dk_132 3 1 (dk_at dksX0_twins_3 1 rfl rfl)
theorem dX0_twins_74 : decode cX0_twins 74 = .ok (.goto (-60), 3) := dk_167 255 196 (dk_at dksX0_twins_3 4 rfl rfl)
theorem dX0_twins_77 : decode cX0_twins 77 = .ok (.iload_n 2, 1) := dk_28 (dk_at dksX0_twins_3 7 rfl rfl)
theorem dX0_twins_78 : decode cX0_twins 78 = .ok (.ireturn, 1) := dk_172 (dk_at dksX0_twins_3 8 rfl rfl)
abbrev cX0_window : ByteArray := prog_1_method_78_code
def yX0_window : MethodName := ⟨RX0, "window", "(II)I"⟩
def dkwX0_window_2 : List UInt8 := [167, 0, 20, 45, 180, 0, 197, 2, 160, 0, 8, 16, 254, 167, 0, 7, 45, 180, 0, 197, 172]
abbrev dktX0_window_2 : List UInt8 := dkwX0_window_2 ++ []
def dkwX0_window_1 : List UInt8 := [182, 0, 155, 78, 28, 154, 0, 20, 45, 180, 0, 172, 42, 180, 0, 12, 180, 0, 178, 3, 46, 96]
abbrev dktX0_window_1 : List UInt8 := dkwX0_window_1 ++ dktX0_window_2
def dkwX0_window_0 : List UInt8 := [42, 27, 182, 0, 228, 153, 0, 11, 28, 5, 184, 0, 124, 154, 0, 5, 2, 172, 42, 180, 0, 12, 27]
abbrev dktX0_window_0 : List UInt8 := dkwX0_window_0 ++ dktX0_window_1
theorem dksX0_window_0 : cX0_window.data.toList.drop 0 = dktX0_window_0 := by decide +kernel
theorem dksX0_window_1 : cX0_window.data.toList.drop 23 = dktX0_window_1 := dk_seg dksX0_window_0 23 rfl rfl
theorem dksX0_window_2 : cX0_window.data.toList.drop 45 = dktX0_window_2 := dk_seg dksX0_window_1 22 rfl rfl
theorem dX0_window_0 : decode cX0_window 0 = .ok (.aload_n 0, 1) := dk_42 (dk_at dksX0_window_0 0 rfl rfl)
theorem dX0_window_1 : decode cX0_window 1 = .ok (.iload_n 1, 1) := dk_27 (dk_at dksX0_window_0 1 rfl rfl)
theorem dX0_window_2 : decode cX0_window 2 = .ok (.invokevirtual 228, 3) := dk_182 0 228 (dk_at dksX0_window_0 2 rfl rfl)
theorem dX0_window_5 : decode cX0_window 5 = .ok (.ifCond .eq 11, 3) := dk_153 0 11 (dk_at dksX0_window_0 5 rfl rfl)
theorem dX0_window_8 : decode cX0_window 8 = .ok (.iload_n 2, 1) := dk_28 (dk_at dksX0_window_0 8 rfl rfl)
theorem dX0_window_9 : decode cX0_window 9 = .ok (.iconst 2, 1) := dk_5 (dk_at dksX0_window_0 9 rfl rfl)
theorem dX0_window_10 : decode cX0_window 10 = .ok (.invokestatic 124, 3) := dk_184 0 124 (dk_at dksX0_window_0 10 rfl rfl)
theorem dX0_window_13 : decode cX0_window 13 = .ok (.ifCond .ne 5, 3) := dk_154 0 5 (dk_at dksX0_window_0 13 rfl rfl)
theorem dX0_window_16 : decode cX0_window 16 = .ok (.iconst (-1), 1) := dk_2 (dk_at dksX0_window_0 16 rfl rfl)
theorem dX0_window_17 : decode cX0_window 17 = .ok (.ireturn, 1) := dk_172 (dk_at dksX0_window_0 17 rfl rfl)
theorem dX0_window_18 : decode cX0_window 18 = .ok (.aload_n 0, 1) := dk_42 (dk_at dksX0_window_0 18 rfl rfl)
theorem dX0_window_19 : decode cX0_window 19 = .ok (.getfield 12, 3) := dk_180 0 12 (dk_at dksX0_window_0 19 rfl rfl)
theorem dX0_window_22 : decode cX0_window 22 = .ok (.iload_n 1, 1) := dk_27 (dk_at dksX0_window_0 22 rfl rfl)
theorem dX0_window_23 : decode cX0_window 23 = .ok (.invokevirtual 155, 3) := dk_182 0 155 (dk_at dksX0_window_1 0 rfl rfl)
theorem dX0_window_26 : decode cX0_window 26 = .ok (.astore_n 3, 1) := dk_78 (dk_at dksX0_window_1 3 rfl rfl)
theorem dX0_window_27 : decode cX0_window 27 = .ok (.iload_n 2, 1) := dk_28 (dk_at dksX0_window_1 4 rfl rfl)
theorem dX0_window_28 : decode cX0_window 28 = .ok (.ifCond .ne 20, 3) := dk_154 0 20 (dk_at dksX0_window_1 5 rfl rfl)
theorem dX0_window_31 : decode cX0_window 31 = .ok (.aload_n 3, 1) := dk_45 (dk_at dksX0_window_1 8 rfl rfl)
theorem dX0_window_32 : decode cX0_window 32 = .ok (.getfield 172, 3) := dk_180 0 172 (dk_at dksX0_window_1 9 rfl rfl)
theorem dX0_window_35 : decode cX0_window 35 = .ok (.aload_n 0, 1) := dk_42 (dk_at dksX0_window_1 12 rfl rfl)
theorem dX0_window_36 : decode cX0_window 36 = .ok (.getfield 12, 3) := dk_180 0 12 (dk_at dksX0_window_1 13 rfl rfl)
theorem dX0_window_39 : decode cX0_window 39 = .ok (.getfield 178, 3) := dk_180 0 178 (dk_at dksX0_window_1 16 rfl rfl)
theorem dX0_window_42 : decode cX0_window 42 = .ok (.iconst 0, 1) := dk_3 (dk_at dksX0_window_1 19 rfl rfl)
theorem dX0_window_43 : decode cX0_window 43 = .ok (.iaload, 1) := dk_46 (dk_at dksX0_window_1 20 rfl rfl)
theorem dX0_window_44 : decode cX0_window 44 = .ok (.iadd, 1) := dk_96 (dk_at dksX0_window_1 21 rfl rfl)
theorem dX0_window_45 : decode cX0_window 45 = .ok (.goto 20, 3) := dk_167 0 20 (dk_at dksX0_window_2 0 rfl rfl)
theorem dX0_window_48 : decode cX0_window 48 = .ok (.aload_n 3, 1) := dk_45 (dk_at dksX0_window_2 3 rfl rfl)
theorem dX0_window_49 : decode cX0_window 49 = .ok (.getfield 197, 3) := dk_180 0 197 (dk_at dksX0_window_2 4 rfl rfl)
theorem dX0_window_52 : decode cX0_window 52 = .ok (.iconst (-1), 1) := dk_2 (dk_at dksX0_window_2 7 rfl rfl)
theorem dX0_window_53 : decode cX0_window 53 = .ok (.if_icmp .ne 8, 3) := dk_160 0 8 (dk_at dksX0_window_2 8 rfl rfl)
theorem dX0_window_56 : decode cX0_window 56 = .ok (.bipush (-2), 2) := dk_16 254 (dk_at dksX0_window_2 11 rfl rfl)
theorem dX0_window_58 : decode cX0_window 58 = .ok (.goto 7, 3) := dk_167 0 7 (dk_at dksX0_window_2 13 rfl rfl)
theorem dX0_window_61 : decode cX0_window 61 = .ok (.aload_n 3, 1) := dk_45 (dk_at dksX0_window_2 16 rfl rfl)
theorem dX0_window_62 : decode cX0_window 62 = .ok (.getfield 197, 3) := dk_180 0 197 (dk_at dksX0_window_2 17 rfl rfl)
theorem dX0_window_65 : decode cX0_window 65 = .ok (.ireturn, 1) := dk_172 (dk_at dksX0_window_2 20 rfl rfl)
abbrev cX0_nearest : ByteArray := prog_1_method_79_code
def yX0_nearest : MethodName := ⟨RX0, "nearest", "(II)I"⟩
def dkwX0_nearest_7 : List UInt8 := [167, 0, 5, 21, 4, 172]
abbrev dktX0_nearest_7 : List UInt8 := dkwX0_nearest_7 ++ []
def dkwX0_nearest_6 : List UInt8 := [132, 5, 1, 167, 255, 144, 29, 16, 254, 160, 0, 8, 16, 254, 167, 0, 13, 28, 154, 0, 7, 29]
abbrev dktX0_nearest_6 : List UInt8 := dkwX0_nearest_6 ++ dktX0_nearest_7
def dkwX0_nearest_5 : List UInt8 := [182, 0, 142, 192, 1, 114, 180, 1, 117, 161, 0, 6, 167, 0, 10, 21, 5, 62, 21, 6, 54, 4]
abbrev dktX0_nearest_5 : List UInt8 := dkwX0_nearest_5 ++ dktX0_nearest_6
def dkwX0_nearest_4 : List UInt8 := [180, 0, 138, 21, 5, 182, 0, 142, 192, 1, 114, 180, 1, 117, 42, 180, 0, 12, 180, 0, 138, 29]
abbrev dktX0_nearest_4 : List UInt8 := dkwX0_nearest_4 ++ dktX0_nearest_5
def dkwX0_nearest_3 : List UInt8 := [184, 1, 161, 54, 6, 21, 6, 21, 4, 161, 0, 58, 21, 6, 21, 4, 160, 0, 44, 42, 180, 0, 12]
abbrev dktX0_nearest_3 : List UInt8 := dkwX0_nearest_3 ++ dktX0_nearest_4
def dkwX0_nearest_2 : List UInt8 := [180, 0, 138, 21, 5, 182, 0, 142, 192, 1, 114, 180, 1, 118, 42, 27, 182, 0, 148, 180, 0, 222, 126]
abbrev dktX0_nearest_2 : List UInt8 := dkwX0_nearest_2 ++ dktX0_nearest_3
def dkwX0_nearest_1 : List UInt8 := [3, 54, 5, 21, 5, 42, 180, 0, 12, 180, 0, 138, 182, 0, 118, 162, 0, 103, 42, 180, 0, 12]
abbrev dktX0_nearest_1 : List UInt8 := dkwX0_nearest_1 ++ dktX0_nearest_2
def dkwX0_nearest_0 : List UInt8 := [42, 27, 182, 1, 105, 153, 0, 11, 28, 5, 184, 0, 124, 154, 0, 5, 2, 172, 16, 254, 62, 2, 54, 4]
abbrev dktX0_nearest_0 : List UInt8 := dkwX0_nearest_0 ++ dktX0_nearest_1
theorem dksX0_nearest_0 : cX0_nearest.data.toList.drop 0 = dktX0_nearest_0 := by decide +kernel
theorem dksX0_nearest_1 : cX0_nearest.data.toList.drop 24 = dktX0_nearest_1 := dk_seg dksX0_nearest_0 24 rfl rfl
theorem dksX0_nearest_2 : cX0_nearest.data.toList.drop 46 = dktX0_nearest_2 := dk_seg dksX0_nearest_1 22 rfl rfl
theorem dksX0_nearest_3 : cX0_nearest.data.toList.drop 69 = dktX0_nearest_3 := dk_seg dksX0_nearest_2 23 rfl rfl
theorem dksX0_nearest_4 : cX0_nearest.data.toList.drop 92 = dktX0_nearest_4 := dk_seg dksX0_nearest_3 23 rfl rfl
theorem dksX0_nearest_5 : cX0_nearest.data.toList.drop 114 = dktX0_nearest_5 := dk_seg dksX0_nearest_4 22 rfl rfl
theorem dksX0_nearest_6 : cX0_nearest.data.toList.drop 136 = dktX0_nearest_6 := dk_seg dksX0_nearest_5 22 rfl rfl
theorem dksX0_nearest_7 : cX0_nearest.data.toList.drop 158 = dktX0_nearest_7 := dk_seg dksX0_nearest_6 22 rfl rfl
theorem dX0_nearest_0 : decode cX0_nearest 0 = .ok (.aload_n 0, 1) := dk_42 (dk_at dksX0_nearest_0 0 rfl rfl)
theorem dX0_nearest_1 : decode cX0_nearest 1 = .ok (.iload_n 1, 1) := dk_27 (dk_at dksX0_nearest_0 1 rfl rfl)
theorem dX0_nearest_2 : decode cX0_nearest 2 = .ok (.invokevirtual 361, 3) := dk_182 1 105 (dk_at dksX0_nearest_0 2 rfl rfl)
theorem dX0_nearest_5 : decode cX0_nearest 5 = .ok (.ifCond .eq 11, 3) := dk_153 0 11 (dk_at dksX0_nearest_0 5 rfl rfl)
theorem dX0_nearest_8 : decode cX0_nearest 8 = .ok (.iload_n 2, 1) := dk_28 (dk_at dksX0_nearest_0 8 rfl rfl)
theorem dX0_nearest_9 : decode cX0_nearest 9 = .ok (.iconst 2, 1) := dk_5 (dk_at dksX0_nearest_0 9 rfl rfl)
theorem dX0_nearest_10 : decode cX0_nearest 10 = .ok (.invokestatic 124, 3) := dk_184 0 124 (dk_at dksX0_nearest_0 10 rfl rfl)
theorem dX0_nearest_13 : decode cX0_nearest 13 = .ok (.ifCond .ne 5, 3) := dk_154 0 5 (dk_at dksX0_nearest_0 13 rfl rfl)
theorem dX0_nearest_16 : decode cX0_nearest 16 = .ok (.iconst (-1), 1) := dk_2 (dk_at dksX0_nearest_0 16 rfl rfl)
theorem dX0_nearest_17 : decode cX0_nearest 17 = .ok (.ireturn, 1) := dk_172 (dk_at dksX0_nearest_0 17 rfl rfl)
theorem dX0_nearest_18 : decode cX0_nearest 18 = .ok (.bipush (-2), 2) := dk_16 254 (dk_at dksX0_nearest_0 18 rfl rfl)
theorem dX0_nearest_20 : decode cX0_nearest 20 = .ok (.istore_n 3, 1) := dk_62 (dk_at dksX0_nearest_0 20 rfl rfl)
theorem dX0_nearest_21 : decode cX0_nearest 21 = .ok (.iconst (-1), 1) := dk_2 (dk_at dksX0_nearest_0 21 rfl rfl)
theorem dX0_nearest_22 : decode cX0_nearest 22 = .ok (.istore 4, 2) := dk_54 4 (dk_at dksX0_nearest_0 22 rfl rfl)
theorem dX0_nearest_24 : decode cX0_nearest 24 = .ok (.iconst 0, 1) := dk_3 (dk_at dksX0_nearest_1 0 rfl rfl)
theorem dX0_nearest_25 : decode cX0_nearest 25 = .ok (.istore 5, 2) := dk_54 5 (dk_at dksX0_nearest_1 1 rfl rfl)
theorem dX0_nearest_27 : decode cX0_nearest 27 = .ok (.iload 5, 2) := dk_21 5 (dk_at dksX0_nearest_1 3 rfl rfl)
theorem dX0_nearest_29 : decode cX0_nearest 29 = .ok (.aload_n 0, 1) := dk_42 (dk_at dksX0_nearest_1 5 rfl rfl)
theorem dX0_nearest_30 : decode cX0_nearest 30 = .ok (.getfield 12, 3) := dk_180 0 12 (dk_at dksX0_nearest_1 6 rfl rfl)
theorem dX0_nearest_33 : decode cX0_nearest 33 = .ok (.getfield 138, 3) := dk_180 0 138 (dk_at dksX0_nearest_1 9 rfl rfl)
theorem dX0_nearest_36 : decode cX0_nearest 36 = .ok (.invokevirtual 118, 3) := dk_182 0 118 (dk_at dksX0_nearest_1 12 rfl rfl)
theorem dX0_nearest_39 : decode cX0_nearest 39 = .ok (.if_icmp .ge 103, 3) := dk_162 0 103 (dk_at dksX0_nearest_1 15 rfl rfl)
theorem dX0_nearest_42 : decode cX0_nearest 42 = .ok (.aload_n 0, 1) := dk_42 (dk_at dksX0_nearest_1 18 rfl rfl)
theorem dX0_nearest_43 : decode cX0_nearest 43 = .ok (.getfield 12, 3) := dk_180 0 12 (dk_at dksX0_nearest_1 19 rfl rfl)
theorem dX0_nearest_46 : decode cX0_nearest 46 = .ok (.getfield 138, 3) := dk_180 0 138 (dk_at dksX0_nearest_2 0 rfl rfl)
theorem dX0_nearest_49 : decode cX0_nearest 49 = .ok (.iload 5, 2) := dk_21 5 (dk_at dksX0_nearest_2 3 rfl rfl)
theorem dX0_nearest_51 : decode cX0_nearest 51 = .ok (.invokevirtual 142, 3) := dk_182 0 142 (dk_at dksX0_nearest_2 5 rfl rfl)
theorem dX0_nearest_54 : decode cX0_nearest 54 = .ok (.checkcast 370, 3) := dk_192 1 114 (dk_at dksX0_nearest_2 8 rfl rfl)
theorem dX0_nearest_57 : decode cX0_nearest 57 = .ok (.getfield 374, 3) := dk_180 1 118 (dk_at dksX0_nearest_2 11 rfl rfl)
theorem dX0_nearest_60 : decode cX0_nearest 60 = .ok (.aload_n 0, 1) := dk_42 (dk_at dksX0_nearest_2 14 rfl rfl)
theorem dX0_nearest_61 : decode cX0_nearest 61 = .ok (.iload_n 1, 1) := dk_27 (dk_at dksX0_nearest_2 15 rfl rfl)
theorem dX0_nearest_62 : decode cX0_nearest 62 = .ok (.invokevirtual 148, 3) := dk_182 0 148 (dk_at dksX0_nearest_2 16 rfl rfl)
theorem dX0_nearest_65 : decode cX0_nearest 65 = .ok (.getfield 222, 3) := dk_180 0 222 (dk_at dksX0_nearest_2 19 rfl rfl)
theorem dX0_nearest_68 : decode cX0_nearest 68 = .ok (.iand, 1) := dk_126 (dk_at dksX0_nearest_2 22 rfl rfl)
theorem dX0_nearest_69 : decode cX0_nearest 69 = .ok (.invokestatic 417, 3) := dk_184 1 161 (dk_at dksX0_nearest_3 0 rfl rfl)
theorem dX0_nearest_72 : decode cX0_nearest 72 = .ok (.istore 6, 2) := dk_54 6 (dk_at dksX0_nearest_3 3 rfl rfl)
theorem dX0_nearest_74 : decode cX0_nearest 74 = .ok (.iload 6, 2) := dk_21 6 (dk_at dksX0_nearest_3 5 rfl rfl)
theorem dX0_nearest_76 : decode cX0_nearest 76 = .ok (.iload 4, 2) := dk_21 4 (dk_at dksX0_nearest_3 7 rfl rfl)
theorem dX0_nearest_78 : decode cX0_nearest 78 = .ok (.if_icmp .lt 58, 3) := dk_161 0 58 (dk_at dksX0_nearest_3 9 rfl rfl)
theorem dX0_nearest_81 : decode cX0_nearest 81 = .ok (.iload 6, 2) := dk_21 6 (dk_at dksX0_nearest_3 12 rfl rfl)
theorem dX0_nearest_83 : decode cX0_nearest 83 = .ok (.iload 4, 2) := dk_21 4 (dk_at dksX0_nearest_3 14 rfl rfl)
theorem dX0_nearest_85 : decode cX0_nearest 85 = .ok (.if_icmp .ne 44, 3) := dk_160 0 44 (dk_at dksX0_nearest_3 16 rfl rfl)
theorem dX0_nearest_88 : decode cX0_nearest 88 = .ok (.aload_n 0, 1) := dk_42 (dk_at dksX0_nearest_3 19 rfl rfl)
theorem dX0_nearest_89 : decode cX0_nearest 89 = .ok (.getfield 12, 3) := dk_180 0 12 (dk_at dksX0_nearest_3 20 rfl rfl)
theorem dX0_nearest_92 : decode cX0_nearest 92 = .ok (.getfield 138, 3) := dk_180 0 138 (dk_at dksX0_nearest_4 0 rfl rfl)
theorem dX0_nearest_95 : decode cX0_nearest 95 = .ok (.iload 5, 2) := dk_21 5 (dk_at dksX0_nearest_4 3 rfl rfl)
theorem dX0_nearest_97 : decode cX0_nearest 97 = .ok (.invokevirtual 142, 3) := dk_182 0 142 (dk_at dksX0_nearest_4 5 rfl rfl)
theorem dX0_nearest_100 : decode cX0_nearest 100 = .ok (.checkcast 370, 3) := dk_192 1 114 (dk_at dksX0_nearest_4 8 rfl rfl)
theorem dX0_nearest_103 : decode cX0_nearest 103 = .ok (.getfield 373, 3) := dk_180 1 117 (dk_at dksX0_nearest_4 11 rfl rfl)
theorem dX0_nearest_106 : decode cX0_nearest 106 = .ok (.aload_n 0, 1) := dk_42 (dk_at dksX0_nearest_4 14 rfl rfl)
theorem dX0_nearest_107 : decode cX0_nearest 107 = .ok (.getfield 12, 3) := dk_180 0 12 (dk_at dksX0_nearest_4 15 rfl rfl)
theorem dX0_nearest_110 : decode cX0_nearest 110 = .ok (.getfield 138, 3) := dk_180 0 138 (dk_at dksX0_nearest_4 18 rfl rfl)
theorem dX0_nearest_113 : decode cX0_nearest 113 = .ok (.iload_n 3, 1) := dk_29 (dk_at dksX0_nearest_4 21 rfl rfl)
theorem dX0_nearest_114 : decode cX0_nearest 114 = .ok (.invokevirtual 142, 3) := dk_182 0 142 (dk_at dksX0_nearest_5 0 rfl rfl)
theorem dX0_nearest_117 : decode cX0_nearest 117 = .ok (.checkcast 370, 3) := dk_192 1 114 (dk_at dksX0_nearest_5 3 rfl rfl)
theorem dX0_nearest_120 : decode cX0_nearest 120 = .ok (.getfield 373, 3) := dk_180 1 117 (dk_at dksX0_nearest_5 6 rfl rfl)
theorem dX0_nearest_123 : decode cX0_nearest 123 = .ok (.if_icmp .lt 6, 3) := dk_161 0 6 (dk_at dksX0_nearest_5 9 rfl rfl)
theorem dX0_nearest_126 : decode cX0_nearest 126 = .ok (.goto 10, 3) := dk_167 0 10 (dk_at dksX0_nearest_5 12 rfl rfl)
theorem dX0_nearest_129 : decode cX0_nearest 129 = .ok (.iload 5, 2) := dk_21 5 (dk_at dksX0_nearest_5 15 rfl rfl)
theorem dX0_nearest_131 : decode cX0_nearest 131 = .ok (.istore_n 3, 1) := dk_62 (dk_at dksX0_nearest_5 17 rfl rfl)
theorem dX0_nearest_132 : decode cX0_nearest 132 = .ok (.iload 6, 2) := dk_21 6 (dk_at dksX0_nearest_5 18 rfl rfl)
theorem dX0_nearest_134 : decode cX0_nearest 134 = .ok (.istore 4, 2) := dk_54 4 (dk_at dksX0_nearest_5 20 rfl rfl)
theorem dX0_nearest_136 : decode cX0_nearest 136 = .ok (.iinc 5 1, 3) := dk_132 5 1 (dk_at dksX0_nearest_6 0 rfl rfl)
theorem dX0_nearest_139 : decode cX0_nearest 139 = .ok (.goto (-112), 3) := dk_167 255 144 (dk_at dksX0_nearest_6 3 rfl rfl)
theorem dX0_nearest_142 : decode cX0_nearest 142 = .ok (.iload_n 3, 1) := dk_29 (dk_at dksX0_nearest_6 6 rfl rfl)
theorem dX0_nearest_143 : decode cX0_nearest 143 = .ok (.bipush (-2), 2) := dk_16 254 (dk_at dksX0_nearest_6 7 rfl rfl)
theorem dX0_nearest_145 : decode cX0_nearest 145 = .ok (.if_icmp .ne 8, 3) := dk_160 0 8 (dk_at dksX0_nearest_6 9 rfl rfl)
theorem dX0_nearest_148 : decode cX0_nearest 148 = .ok (.bipush (-2), 2) := dk_16 254 (dk_at dksX0_nearest_6 12 rfl rfl)
theorem dX0_nearest_150 : decode cX0_nearest 150 = .ok (.goto 13, 3) := dk_167 0 13 (dk_at dksX0_nearest_6 14 rfl rfl)
theorem dX0_nearest_153 : decode cX0_nearest 153 = .ok (.iload_n 2, 1) := dk_28 (dk_at dksX0_nearest_6 17 rfl rfl)
theorem dX0_nearest_154 : decode cX0_nearest 154 = .ok (.ifCond .ne 7, 3) := dk_154 0 7 (dk_at dksX0_nearest_6 18 rfl rfl)
theorem dX0_nearest_157 : decode cX0_nearest 157 = .ok (.iload_n 3, 1) := dk_29 (dk_at dksX0_nearest_6 21 rfl rfl)
theorem dX0_nearest_158 : decode cX0_nearest 158 = .ok (.goto 5, 3) := dk_167 0 5 (dk_at dksX0_nearest_7 0 rfl rfl)
theorem dX0_nearest_161 : decode cX0_nearest 161 = .ok (.iload 4, 2) := dk_21 4 (dk_at dksX0_nearest_7 3 rfl rfl)
theorem dX0_nearest_163 : decode cX0_nearest 163 = .ok (.ireturn, 1) := dk_172 (dk_at dksX0_nearest_7 5 rfl rfl)
abbrev cX0_late : ByteArray := prog_1_method_80_code
def yX0_late : MethodName := ⟨RX0, "late", "(I)I"⟩
def dkwX0_late_3 : List UInt8 := [21, 4, 4, 21, 5, 120, 128, 54, 4, 132, 5, 1, 167, 255, 202, 21, 4, 172]
abbrev dktX0_late_3 : List UInt8 := dkwX0_late_3 ++ []
def dkwX0_late_2 : List UInt8 := [42, 44, 180, 0, 152, 44, 180, 0, 222, 4, 21, 5, 120, 2, 130, 126, 182, 0, 224, 29, 162, 0, 12]
abbrev dktX0_late_2 : List UInt8 := dkwX0_late_2 ++ dktX0_late_3
def dkwX0_late_1 : List UInt8 := [54, 4, 3, 54, 5, 21, 5, 16, 16, 162, 0, 53, 44, 180, 0, 222, 21, 5, 184, 0, 55, 153, 0, 35]
abbrev dktX0_late_1 : List UInt8 := dkwX0_late_1 ++ dktX0_late_2
def dkwX0_late_0 : List UInt8 := [42, 27, 182, 1, 105, 154, 0, 5, 2, 172, 42, 27, 182, 0, 148, 77, 42, 27, 182, 1, 3, 62, 3]
abbrev dktX0_late_0 : List UInt8 := dkwX0_late_0 ++ dktX0_late_1
theorem dksX0_late_0 : cX0_late.data.toList.drop 0 = dktX0_late_0 := by decide +kernel
theorem dksX0_late_1 : cX0_late.data.toList.drop 23 = dktX0_late_1 := dk_seg dksX0_late_0 23 rfl rfl
theorem dksX0_late_2 : cX0_late.data.toList.drop 47 = dktX0_late_2 := dk_seg dksX0_late_1 24 rfl rfl
theorem dksX0_late_3 : cX0_late.data.toList.drop 70 = dktX0_late_3 := dk_seg dksX0_late_2 23 rfl rfl
theorem dX0_late_0 : decode cX0_late 0 = .ok (.aload_n 0, 1) := dk_42 (dk_at dksX0_late_0 0 rfl rfl)
theorem dX0_late_1 : decode cX0_late 1 = .ok (.iload_n 1, 1) := dk_27 (dk_at dksX0_late_0 1 rfl rfl)
theorem dX0_late_2 : decode cX0_late 2 = .ok (.invokevirtual 361, 3) := dk_182 1 105 (dk_at dksX0_late_0 2 rfl rfl)
theorem dX0_late_5 : decode cX0_late 5 = .ok (.ifCond .ne 5, 3) := dk_154 0 5 (dk_at dksX0_late_0 5 rfl rfl)
theorem dX0_late_8 : decode cX0_late 8 = .ok (.iconst (-1), 1) := dk_2 (dk_at dksX0_late_0 8 rfl rfl)
theorem dX0_late_9 : decode cX0_late 9 = .ok (.ireturn, 1) := dk_172 (dk_at dksX0_late_0 9 rfl rfl)
theorem dX0_late_10 : decode cX0_late 10 = .ok (.aload_n 0, 1) := dk_42 (dk_at dksX0_late_0 10 rfl rfl)
theorem dX0_late_11 : decode cX0_late 11 = .ok (.iload_n 1, 1) := dk_27 (dk_at dksX0_late_0 11 rfl rfl)
theorem dX0_late_12 : decode cX0_late 12 = .ok (.invokevirtual 148, 3) := dk_182 0 148 (dk_at dksX0_late_0 12 rfl rfl)
theorem dX0_late_15 : decode cX0_late 15 = .ok (.astore_n 2, 1) := dk_77 (dk_at dksX0_late_0 15 rfl rfl)
theorem dX0_late_16 : decode cX0_late 16 = .ok (.aload_n 0, 1) := dk_42 (dk_at dksX0_late_0 16 rfl rfl)
theorem dX0_late_17 : decode cX0_late 17 = .ok (.iload_n 1, 1) := dk_27 (dk_at dksX0_late_0 17 rfl rfl)
theorem dX0_late_18 : decode cX0_late 18 = .ok (.invokevirtual 259, 3) := dk_182 1 3 (dk_at dksX0_late_0 18 rfl rfl)
theorem dX0_late_21 : decode cX0_late 21 = .ok (.istore_n 3, 1) := dk_62 (dk_at dksX0_late_0 21 rfl rfl)
theorem dX0_late_22 : decode cX0_late 22 = .ok (.iconst 0, 1) := dk_3 (dk_at dksX0_late_0 22 rfl rfl)
theorem dX0_late_23 : decode cX0_late 23 = .ok (.istore 4, 2) := dk_54 4 (dk_at dksX0_late_1 0 rfl rfl)
theorem dX0_late_25 : decode cX0_late 25 = .ok (.iconst 0, 1) := dk_3 (dk_at dksX0_late_1 2 rfl rfl)
theorem dX0_late_26 : decode cX0_late 26 = .ok (.istore 5, 2) := dk_54 5 (dk_at dksX0_late_1 3 rfl rfl)
theorem dX0_late_28 : decode cX0_late 28 = .ok (.iload 5, 2) := dk_21 5 (dk_at dksX0_late_1 5 rfl rfl)
theorem dX0_late_30 : decode cX0_late 30 = .ok (.bipush 16, 2) := dk_16 16 (dk_at dksX0_late_1 7 rfl rfl)
theorem dX0_late_32 : decode cX0_late 32 = .ok (.if_icmp .ge 53, 3) := dk_162 0 53 (dk_at dksX0_late_1 9 rfl rfl)
theorem dX0_late_35 : decode cX0_late 35 = .ok (.aload_n 2, 1) := dk_44 (dk_at dksX0_late_1 12 rfl rfl)
theorem dX0_late_36 : decode cX0_late 36 = .ok (.getfield 222, 3) := dk_180 0 222 (dk_at dksX0_late_1 13 rfl rfl)
theorem dX0_late_39 : decode cX0_late 39 = .ok (.iload 5, 2) := dk_21 5 (dk_at dksX0_late_1 16 rfl rfl)
theorem dX0_late_41 : decode cX0_late 41 = .ok (.invokestatic 55, 3) := dk_184 0 55 (dk_at dksX0_late_1 18 rfl rfl)
theorem dX0_late_44 : decode cX0_late 44 = .ok (.ifCond .eq 35, 3) := dk_153 0 35 (dk_at dksX0_late_1 21 rfl rfl)
theorem dX0_late_47 : decode cX0_late 47 = .ok (.aload_n 0, 1) := dk_42 (dk_at dksX0_late_2 0 rfl rfl)
theorem dX0_late_48 : decode cX0_late 48 = .ok (.aload_n 2, 1) := dk_44 (dk_at dksX0_late_2 1 rfl rfl)
theorem dX0_late_49 : decode cX0_late 49 = .ok (.getfield 152, 3) := dk_180 0 152 (dk_at dksX0_late_2 2 rfl rfl)
theorem dX0_late_52 : decode cX0_late 52 = .ok (.aload_n 2, 1) := dk_44 (dk_at dksX0_late_2 5 rfl rfl)
theorem dX0_late_53 : decode cX0_late 53 = .ok (.getfield 222, 3) := dk_180 0 222 (dk_at dksX0_late_2 6 rfl rfl)
theorem dX0_late_56 : decode cX0_late 56 = .ok (.iconst 1, 1) := dk_4 (dk_at dksX0_late_2 9 rfl rfl)
theorem dX0_late_57 : decode cX0_late 57 = .ok (.iload 5, 2) := dk_21 5 (dk_at dksX0_late_2 10 rfl rfl)
theorem dX0_late_59 : decode cX0_late 59 = .ok (.ishl, 1) := dk_120 (dk_at dksX0_late_2 12 rfl rfl)
theorem dX0_late_60 : decode cX0_late 60 = .ok (.iconst (-1), 1) := dk_2 (dk_at dksX0_late_2 13 rfl rfl)
theorem dX0_late_61 : decode cX0_late 61 = .ok (.ixor, 1) := dk_130 (dk_at dksX0_late_2 14 rfl rfl)
theorem dX0_late_62 : decode cX0_late 62 = .ok (.iand, 1) := dk_126 (dk_at dksX0_late_2 15 rfl rfl)
theorem dX0_late_63 : decode cX0_late 63 = .ok (.invokevirtual 224, 3) := dk_182 0 224 (dk_at dksX0_late_2 16 rfl rfl)
theorem dX0_late_66 : decode cX0_late 66 = .ok (.iload_n 3, 1) := dk_29 (dk_at dksX0_late_2 19 rfl rfl)
theorem dX0_late_67 : decode cX0_late 67 = .ok (.if_icmp .ge 12, 3) := dk_162 0 12 (dk_at dksX0_late_2 20 rfl rfl)
theorem dX0_late_70 : decode cX0_late 70 = .ok (.iload 4, 2) := dk_21 4 (dk_at dksX0_late_3 0 rfl rfl)
theorem dX0_late_72 : decode cX0_late 72 = .ok (.iconst 1, 1) := dk_4 (dk_at dksX0_late_3 2 rfl rfl)
theorem dX0_late_73 : decode cX0_late 73 = .ok (.iload 5, 2) := dk_21 5 (dk_at dksX0_late_3 3 rfl rfl)
theorem dX0_late_75 : decode cX0_late 75 = .ok (.ishl, 1) := dk_120 (dk_at dksX0_late_3 5 rfl rfl)
theorem dX0_late_76 : decode cX0_late 76 = .ok (.ior, 1) := dk_128 (dk_at dksX0_late_3 6 rfl rfl)
theorem dX0_late_77 : decode cX0_late 77 = .ok (.istore 4, 2) := dk_54 4 (dk_at dksX0_late_3 7 rfl rfl)
theorem dX0_late_79 : decode cX0_late 79 = .ok (.iinc 5 1, 3) := dk_132 5 1 (dk_at dksX0_late_3 9 rfl rfl)
theorem dX0_late_82 : decode cX0_late 82 = .ok (.goto (-54), 3) := dk_167 255 202 (dk_at dksX0_late_3 12 rfl rfl)
theorem dX0_late_85 : decode cX0_late 85 = .ok (.iload 4, 2) := dk_21 4 (dk_at dksX0_late_3 15 rfl rfl)
theorem dX0_late_87 : decode cX0_late 87 = .ok (.ireturn, 1) := dk_172 (dk_at dksX0_late_3 17 rfl rfl)
abbrev cX0_ending : ByteArray := prog_1_method_81_code
def yX0_ending : MethodName := ⟨RX0, "ending", "(II)I"⟩
def dkwX0_ending_3 : List UInt8 := [25, 4, 21, 5, 181, 0, 197, 21, 6, 172]
abbrev dktX0_ending_3 : List UInt8 := dkwX0_ending_3 ++ []
def dkwX0_ending_2 : List UInt8 := [25, 4, 180, 0, 197, 54, 5, 25, 4, 28, 181, 0, 197, 42, 45, 42, 182, 1, 8, 182, 1, 12, 54, 6]
abbrev dktX0_ending_2 : List UInt8 := dkwX0_ending_2 ++ dktX0_ending_3
def dkwX0_ending_1 : List UInt8 := [184, 0, 72, 154, 0, 5, 2, 172, 42, 182, 1, 8, 78, 42, 180, 0, 12, 27, 182, 0, 155, 58, 4]
abbrev dktX0_ending_1 : List UInt8 := dkwX0_ending_1 ++ dktX0_ending_2
def dkwX0_ending_0 : List UInt8 := [42, 27, 182, 0, 228, 153, 0, 24, 28, 42, 180, 0, 12, 27, 182, 0, 155, 180, 0, 172, 17, 39, 15]
abbrev dktX0_ending_0 : List UInt8 := dkwX0_ending_0 ++ dktX0_ending_1
theorem dksX0_ending_0 : cX0_ending.data.toList.drop 0 = dktX0_ending_0 := by decide +kernel
theorem dksX0_ending_1 : cX0_ending.data.toList.drop 23 = dktX0_ending_1 := dk_seg dksX0_ending_0 23 rfl rfl
theorem dksX0_ending_2 : cX0_ending.data.toList.drop 46 = dktX0_ending_2 := dk_seg dksX0_ending_1 23 rfl rfl
theorem dksX0_ending_3 : cX0_ending.data.toList.drop 70 = dktX0_ending_3 := dk_seg dksX0_ending_2 24 rfl rfl
theorem dX0_ending_0 : decode cX0_ending 0 = .ok (.aload_n 0, 1) := dk_42 (dk_at dksX0_ending_0 0 rfl rfl)
theorem dX0_ending_1 : decode cX0_ending 1 = .ok (.iload_n 1, 1) := dk_27 (dk_at dksX0_ending_0 1 rfl rfl)
theorem dX0_ending_2 : decode cX0_ending 2 = .ok (.invokevirtual 228, 3) := dk_182 0 228 (dk_at dksX0_ending_0 2 rfl rfl)
theorem dX0_ending_5 : decode cX0_ending 5 = .ok (.ifCond .eq 24, 3) := dk_153 0 24 (dk_at dksX0_ending_0 5 rfl rfl)
theorem dX0_ending_8 : decode cX0_ending 8 = .ok (.iload_n 2, 1) := dk_28 (dk_at dksX0_ending_0 8 rfl rfl)
theorem dX0_ending_9 : decode cX0_ending 9 = .ok (.aload_n 0, 1) := dk_42 (dk_at dksX0_ending_0 9 rfl rfl)
theorem dX0_ending_10 : decode cX0_ending 10 = .ok (.getfield 12, 3) := dk_180 0 12 (dk_at dksX0_ending_0 10 rfl rfl)
theorem dX0_ending_13 : decode cX0_ending 13 = .ok (.iload_n 1, 1) := dk_27 (dk_at dksX0_ending_0 13 rfl rfl)
theorem dX0_ending_14 : decode cX0_ending 14 = .ok (.invokevirtual 155, 3) := dk_182 0 155 (dk_at dksX0_ending_0 14 rfl rfl)
theorem dX0_ending_17 : decode cX0_ending 17 = .ok (.getfield 172, 3) := dk_180 0 172 (dk_at dksX0_ending_0 17 rfl rfl)
theorem dX0_ending_20 : decode cX0_ending 20 = .ok (.sipush 9999, 3) := dk_17 39 15 (dk_at dksX0_ending_0 20 rfl rfl)
theorem dX0_ending_23 : decode cX0_ending 23 = .ok (.invokestatic 72, 3) := dk_184 0 72 (dk_at dksX0_ending_1 0 rfl rfl)
theorem dX0_ending_26 : decode cX0_ending 26 = .ok (.ifCond .ne 5, 3) := dk_154 0 5 (dk_at dksX0_ending_1 3 rfl rfl)
theorem dX0_ending_29 : decode cX0_ending 29 = .ok (.iconst (-1), 1) := dk_2 (dk_at dksX0_ending_1 6 rfl rfl)
theorem dX0_ending_30 : decode cX0_ending 30 = .ok (.ireturn, 1) := dk_172 (dk_at dksX0_ending_1 7 rfl rfl)
theorem dX0_ending_31 : decode cX0_ending 31 = .ok (.aload_n 0, 1) := dk_42 (dk_at dksX0_ending_1 8 rfl rfl)
theorem dX0_ending_32 : decode cX0_ending 32 = .ok (.invokevirtual 264, 3) := dk_182 1 8 (dk_at dksX0_ending_1 9 rfl rfl)
theorem dX0_ending_35 : decode cX0_ending 35 = .ok (.astore_n 3, 1) := dk_78 (dk_at dksX0_ending_1 12 rfl rfl)
theorem dX0_ending_36 : decode cX0_ending 36 = .ok (.aload_n 0, 1) := dk_42 (dk_at dksX0_ending_1 13 rfl rfl)
theorem dX0_ending_37 : decode cX0_ending 37 = .ok (.getfield 12, 3) := dk_180 0 12 (dk_at dksX0_ending_1 14 rfl rfl)
theorem dX0_ending_40 : decode cX0_ending 40 = .ok (.iload_n 1, 1) := dk_27 (dk_at dksX0_ending_1 17 rfl rfl)
theorem dX0_ending_41 : decode cX0_ending 41 = .ok (.invokevirtual 155, 3) := dk_182 0 155 (dk_at dksX0_ending_1 18 rfl rfl)
theorem dX0_ending_44 : decode cX0_ending 44 = .ok (.astore 4, 2) := dk_58 4 (dk_at dksX0_ending_1 21 rfl rfl)
theorem dX0_ending_46 : decode cX0_ending 46 = .ok (.aload 4, 2) := dk_25 4 (dk_at dksX0_ending_2 0 rfl rfl)
theorem dX0_ending_48 : decode cX0_ending 48 = .ok (.getfield 197, 3) := dk_180 0 197 (dk_at dksX0_ending_2 2 rfl rfl)
theorem dX0_ending_51 : decode cX0_ending 51 = .ok (.istore 5, 2) := dk_54 5 (dk_at dksX0_ending_2 5 rfl rfl)
theorem dX0_ending_53 : decode cX0_ending 53 = .ok (.aload 4, 2) := dk_25 4 (dk_at dksX0_ending_2 7 rfl rfl)
theorem dX0_ending_55 : decode cX0_ending 55 = .ok (.iload_n 2, 1) := dk_28 (dk_at dksX0_ending_2 9 rfl rfl)
theorem dX0_ending_56 : decode cX0_ending 56 = .ok (.putfield 197, 3) := dk_181 0 197 (dk_at dksX0_ending_2 10 rfl rfl)
theorem dX0_ending_59 : decode cX0_ending 59 = .ok (.aload_n 0, 1) := dk_42 (dk_at dksX0_ending_2 13 rfl rfl)
theorem dX0_ending_60 : decode cX0_ending 60 = .ok (.aload_n 3, 1) := dk_45 (dk_at dksX0_ending_2 14 rfl rfl)
theorem dX0_ending_61 : decode cX0_ending 61 = .ok (.aload_n 0, 1) := dk_42 (dk_at dksX0_ending_2 15 rfl rfl)
theorem dX0_ending_62 : decode cX0_ending 62 = .ok (.invokevirtual 264, 3) := dk_182 1 8 (dk_at dksX0_ending_2 16 rfl rfl)
theorem dX0_ending_65 : decode cX0_ending 65 = .ok (.invokevirtual 268, 3) := dk_182 1 12 (dk_at dksX0_ending_2 19 rfl rfl)
theorem dX0_ending_68 : decode cX0_ending 68 = .ok (.istore 6, 2) := dk_54 6 (dk_at dksX0_ending_2 22 rfl rfl)
theorem dX0_ending_70 : decode cX0_ending 70 = .ok (.aload 4, 2) := dk_25 4 (dk_at dksX0_ending_3 0 rfl rfl)
theorem dX0_ending_72 : decode cX0_ending 72 = .ok (.iload 5, 2) := dk_21 5 (dk_at dksX0_ending_3 2 rfl rfl)
theorem dX0_ending_74 : decode cX0_ending 74 = .ok (.putfield 197, 3) := dk_181 0 197 (dk_at dksX0_ending_3 4 rfl rfl)
theorem dX0_ending_77 : decode cX0_ending 77 = .ok (.iload 6, 2) := dk_21 6 (dk_at dksX0_ending_3 7 rfl rfl)
theorem dX0_ending_79 : decode cX0_ending 79 = .ok (.ireturn, 1) := dk_172 (dk_at dksX0_ending_3 9 rfl rfl)
abbrev cX0_broken : ByteArray := prog_1_method_82_code
def yX0_broken : MethodName := ⟨RX0, "broken", "()I"⟩
def dkwX0_broken_2 : List UInt8 := [167, 0, 6, 4, 28, 120, 128, 60, 132, 2, 1, 167, 255, 214, 27, 172]
abbrev dktX0_broken_2 : List UInt8 := dkwX0_broken_2 ++ []
def dkwX0_broken_1 : List UInt8 := [45, 185, 0, 210, 1, 0, 192, 0, 165, 58, 4, 27, 42, 25, 4, 182, 0, 189, 153, 0, 7, 3]
abbrev dktX0_broken_1 : List UInt8 := dkwX0_broken_1 ++ dktX0_broken_2
def dkwX0_broken_0 : List UInt8 := [3, 60, 3, 61, 42, 180, 0, 12, 180, 0, 128, 182, 0, 200, 78, 45, 185, 0, 204, 1, 0, 153, 0, 39]
abbrev dktX0_broken_0 : List UInt8 := dkwX0_broken_0 ++ dktX0_broken_1
theorem dksX0_broken_0 : cX0_broken.data.toList.drop 0 = dktX0_broken_0 := by decide +kernel
theorem dksX0_broken_1 : cX0_broken.data.toList.drop 24 = dktX0_broken_1 := dk_seg dksX0_broken_0 24 rfl rfl
theorem dksX0_broken_2 : cX0_broken.data.toList.drop 46 = dktX0_broken_2 := dk_seg dksX0_broken_1 22 rfl rfl
theorem dX0_broken_0 : decode cX0_broken 0 = .ok (.iconst 0, 1) := dk_3 (dk_at dksX0_broken_0 0 rfl rfl)
theorem dX0_broken_1 : decode cX0_broken 1 = .ok (.istore_n 1, 1) := dk_60 (dk_at dksX0_broken_0 1 rfl rfl)
theorem dX0_broken_2 : decode cX0_broken 2 = .ok (.iconst 0, 1) := dk_3 (dk_at dksX0_broken_0 2 rfl rfl)
theorem dX0_broken_3 : decode cX0_broken 3 = .ok (.istore_n 2, 1) := dk_61 (dk_at dksX0_broken_0 3 rfl rfl)
theorem dX0_broken_4 : decode cX0_broken 4 = .ok (.aload_n 0, 1) := dk_42 (dk_at dksX0_broken_0 4 rfl rfl)
theorem dX0_broken_5 : decode cX0_broken 5 = .ok (.getfield 12, 3) := dk_180 0 12 (dk_at dksX0_broken_0 5 rfl rfl)
theorem dX0_broken_8 : decode cX0_broken 8 = .ok (.getfield 128, 3) := dk_180 0 128 (dk_at dksX0_broken_0 8 rfl rfl)
theorem dX0_broken_11 : decode cX0_broken 11 = .ok (.invokevirtual 200, 3) := dk_182 0 200 (dk_at dksX0_broken_0 11 rfl rfl)
theorem dX0_broken_14 : decode cX0_broken 14 = .ok (.astore_n 3, 1) := dk_78 (dk_at dksX0_broken_0 14 rfl rfl)
theorem dX0_broken_15 : decode cX0_broken 15 = .ok (.aload_n 3, 1) := dk_45 (dk_at dksX0_broken_0 15 rfl rfl)
theorem dX0_broken_16 : decode cX0_broken 16 = .ok (.invokeinterface 204 1, 5) := by decide +kernel
theorem dX0_broken_21 : decode cX0_broken 21 = .ok (.ifCond .eq 39, 3) := dk_153 0 39 (dk_at dksX0_broken_0 21 rfl rfl)
theorem dX0_broken_24 : decode cX0_broken 24 = .ok (.aload_n 3, 1) := dk_45 (dk_at dksX0_broken_1 0 rfl rfl)
theorem dX0_broken_25 : decode cX0_broken 25 = .ok (.invokeinterface 210 1, 5) := by decide +kernel
theorem dX0_broken_30 : decode cX0_broken 30 = .ok (.checkcast 165, 3) := dk_192 0 165 (dk_at dksX0_broken_1 6 rfl rfl)
theorem dX0_broken_33 : decode cX0_broken 33 = .ok (.astore 4, 2) := dk_58 4 (dk_at dksX0_broken_1 9 rfl rfl)
theorem dX0_broken_35 : decode cX0_broken 35 = .ok (.iload_n 1, 1) := dk_27 (dk_at dksX0_broken_1 11 rfl rfl)
theorem dX0_broken_36 : decode cX0_broken 36 = .ok (.aload_n 0, 1) := dk_42 (dk_at dksX0_broken_1 12 rfl rfl)
theorem dX0_broken_37 : decode cX0_broken 37 = .ok (.aload 4, 2) := dk_25 4 (dk_at dksX0_broken_1 13 rfl rfl)
theorem dX0_broken_39 : decode cX0_broken 39 = .ok (.invokevirtual 189, 3) := dk_182 0 189 (dk_at dksX0_broken_1 15 rfl rfl)
theorem dX0_broken_42 : decode cX0_broken 42 = .ok (.ifCond .eq 7, 3) := dk_153 0 7 (dk_at dksX0_broken_1 18 rfl rfl)
theorem dX0_broken_45 : decode cX0_broken 45 = .ok (.iconst 0, 1) := dk_3 (dk_at dksX0_broken_1 21 rfl rfl)
theorem dX0_broken_46 : decode cX0_broken 46 = .ok (.goto 6, 3) := dk_167 0 6 (dk_at dksX0_broken_2 0 rfl rfl)
theorem dX0_broken_49 : decode cX0_broken 49 = .ok (.iconst 1, 1) := dk_4 (dk_at dksX0_broken_2 3 rfl rfl)
theorem dX0_broken_50 : decode cX0_broken 50 = .ok (.iload_n 2, 1) := dk_28 (dk_at dksX0_broken_2 4 rfl rfl)
theorem dX0_broken_51 : decode cX0_broken 51 = .ok (.ishl, 1) := dk_120 (dk_at dksX0_broken_2 5 rfl rfl)
theorem dX0_broken_52 : decode cX0_broken 52 = .ok (.ior, 1) := dk_128 (dk_at dksX0_broken_2 6 rfl rfl)
theorem dX0_broken_53 : decode cX0_broken 53 = .ok (.istore_n 1, 1) := dk_60 (dk_at dksX0_broken_2 7 rfl rfl)
theorem dX0_broken_54 : decode cX0_broken 54 = .ok (.iinc 2 1, 3) := dk_132 2 1 (dk_at dksX0_broken_2 8 rfl rfl)
theorem dX0_broken_57 : decode cX0_broken 57 = .ok (.goto (-42), 3) := dk_167 255 214 (dk_at dksX0_broken_2 11 rfl rfl)
theorem dX0_broken_60 : decode cX0_broken 60 = .ok (.iload_n 1, 1) := dk_27 (dk_at dksX0_broken_2 14 rfl rfl)
theorem dX0_broken_61 : decode cX0_broken 61 = .ok (.ireturn, 1) := dk_172 (dk_at dksX0_broken_2 15 rfl rfl)
abbrev cX0_tight : ByteArray := prog_1_method_83_code
def yX0_tight : MethodName := ⟨RX0, "tight", "(I)I"⟩
def dkwX0_tight_5 : List UInt8 := [167, 0, 4, 29, 172]
abbrev dktX0_tight_5 : List UInt8 := dkwX0_tight_5 ++ []
def dkwX0_tight_4 : List UInt8 := [132, 4, 1, 167, 255, 196, 28, 16, 254, 160, 0, 8, 16, 254, 167, 0, 12, 27, 154, 0, 7, 28]
abbrev dktX0_tight_4 : List UInt8 := dkwX0_tight_4 ++ dktX0_tight_5
def dkwX0_tight_3 : List UInt8 := [159, 0, 13, 42, 25, 6, 182, 1, 97, 29, 162, 0, 13, 21, 4, 61, 42, 25, 6, 182, 1, 97, 62]
abbrev dktX0_tight_3 : List UInt8 := dkwX0_tight_3 ++ dktX0_tight_4
def dkwX0_tight_2 : List UInt8 := [185, 0, 210, 1, 0, 192, 0, 165, 58, 6, 42, 25, 6, 182, 0, 189, 153, 0, 29, 28, 16, 254]
abbrev dktX0_tight_2 : List UInt8 := dkwX0_tight_2 ++ dktX0_tight_3
def dkwX0_tight_1 : List UInt8 := [180, 0, 128, 182, 0, 200, 58, 5, 25, 5, 185, 0, 204, 1, 0, 153, 0, 56, 25, 5]
abbrev dktX0_tight_1 : List UInt8 := dkwX0_tight_1 ++ dktX0_tight_2
def dkwX0_tight_0 : List UInt8 := [27, 5, 184, 0, 124, 154, 0, 5, 2, 172, 16, 254, 61, 3, 62, 3, 54, 4, 42, 180, 0, 12]
abbrev dktX0_tight_0 : List UInt8 := dkwX0_tight_0 ++ dktX0_tight_1
theorem dksX0_tight_0 : cX0_tight.data.toList.drop 0 = dktX0_tight_0 := by decide +kernel
theorem dksX0_tight_1 : cX0_tight.data.toList.drop 22 = dktX0_tight_1 := dk_seg dksX0_tight_0 22 rfl rfl
theorem dksX0_tight_2 : cX0_tight.data.toList.drop 42 = dktX0_tight_2 := dk_seg dksX0_tight_1 20 rfl rfl
theorem dksX0_tight_3 : cX0_tight.data.toList.drop 64 = dktX0_tight_3 := dk_seg dksX0_tight_2 22 rfl rfl
theorem dksX0_tight_4 : cX0_tight.data.toList.drop 87 = dktX0_tight_4 := dk_seg dksX0_tight_3 23 rfl rfl
theorem dksX0_tight_5 : cX0_tight.data.toList.drop 109 = dktX0_tight_5 := dk_seg dksX0_tight_4 22 rfl rfl
theorem dX0_tight_0 : decode cX0_tight 0 = .ok (.iload_n 1, 1) := dk_27 (dk_at dksX0_tight_0 0 rfl rfl)
theorem dX0_tight_1 : decode cX0_tight 1 = .ok (.iconst 2, 1) := dk_5 (dk_at dksX0_tight_0 1 rfl rfl)
theorem dX0_tight_2 : decode cX0_tight 2 = .ok (.invokestatic 124, 3) := dk_184 0 124 (dk_at dksX0_tight_0 2 rfl rfl)
theorem dX0_tight_5 : decode cX0_tight 5 = .ok (.ifCond .ne 5, 3) := dk_154 0 5 (dk_at dksX0_tight_0 5 rfl rfl)
theorem dX0_tight_8 : decode cX0_tight 8 = .ok (.iconst (-1), 1) := dk_2 (dk_at dksX0_tight_0 8 rfl rfl)
theorem dX0_tight_9 : decode cX0_tight 9 = .ok (.ireturn, 1) := dk_172 (dk_at dksX0_tight_0 9 rfl rfl)
theorem dX0_tight_10 : decode cX0_tight 10 = .ok (.bipush (-2), 2) := dk_16 254 (dk_at dksX0_tight_0 10 rfl rfl)
theorem dX0_tight_12 : decode cX0_tight 12 = .ok (.istore_n 2, 1) := dk_61 (dk_at dksX0_tight_0 12 rfl rfl)
theorem dX0_tight_13 : decode cX0_tight 13 = .ok (.iconst 0, 1) := dk_3 (dk_at dksX0_tight_0 13 rfl rfl)
theorem dX0_tight_14 : decode cX0_tight 14 = .ok (.istore_n 3, 1) := dk_62 (dk_at dksX0_tight_0 14 rfl rfl)
theorem dX0_tight_15 : decode cX0_tight 15 = .ok (.iconst 0, 1) := dk_3 (dk_at dksX0_tight_0 15 rfl rfl)
theorem dX0_tight_16 : decode cX0_tight 16 = .ok (.istore 4, 2) := dk_54 4 (dk_at dksX0_tight_0 16 rfl rfl)
theorem dX0_tight_18 : decode cX0_tight 18 = .ok (.aload_n 0, 1) := dk_42 (dk_at dksX0_tight_0 18 rfl rfl)
theorem dX0_tight_19 : decode cX0_tight 19 = .ok (.getfield 12, 3) := dk_180 0 12 (dk_at dksX0_tight_0 19 rfl rfl)
theorem dX0_tight_22 : decode cX0_tight 22 = .ok (.getfield 128, 3) := dk_180 0 128 (dk_at dksX0_tight_1 0 rfl rfl)
theorem dX0_tight_25 : decode cX0_tight 25 = .ok (.invokevirtual 200, 3) := dk_182 0 200 (dk_at dksX0_tight_1 3 rfl rfl)
theorem dX0_tight_28 : decode cX0_tight 28 = .ok (.astore 5, 2) := dk_58 5 (dk_at dksX0_tight_1 6 rfl rfl)
theorem dX0_tight_30 : decode cX0_tight 30 = .ok (.aload 5, 2) := dk_25 5 (dk_at dksX0_tight_1 8 rfl rfl)
theorem dX0_tight_32 : decode cX0_tight 32 = .ok (.invokeinterface 204 1, 5) := by decide +kernel
theorem dX0_tight_37 : decode cX0_tight 37 = .ok (.ifCond .eq 56, 3) := dk_153 0 56 (dk_at dksX0_tight_1 15 rfl rfl)
theorem dX0_tight_40 : decode cX0_tight 40 = .ok (.aload 5, 2) := dk_25 5 (dk_at dksX0_tight_1 18 rfl rfl)
theorem dX0_tight_42 : decode cX0_tight 42 = .ok (.invokeinterface 210 1, 5) := by decide +kernel
theorem dX0_tight_47 : decode cX0_tight 47 = .ok (.checkcast 165, 3) := dk_192 0 165 (dk_at dksX0_tight_2 5 rfl rfl)
theorem dX0_tight_50 : decode cX0_tight 50 = .ok (.astore 6, 2) := dk_58 6 (dk_at dksX0_tight_2 8 rfl rfl)
theorem dX0_tight_52 : decode cX0_tight 52 = .ok (.aload_n 0, 1) := dk_42 (dk_at dksX0_tight_2 10 rfl rfl)
theorem dX0_tight_53 : decode cX0_tight 53 = .ok (.aload 6, 2) := dk_25 6 (dk_at dksX0_tight_2 11 rfl rfl)
theorem dX0_tight_55 : decode cX0_tight 55 = .ok (.invokevirtual 189, 3) := dk_182 0 189 (dk_at dksX0_tight_2 13 rfl rfl)
theorem dX0_tight_58 : decode cX0_tight 58 = .ok (.ifCond .eq 29, 3) := dk_153 0 29 (dk_at dksX0_tight_2 16 rfl rfl)
theorem dX0_tight_61 : decode cX0_tight 61 = .ok (.iload_n 2, 1) := dk_28 (dk_at dksX0_tight_2 19 rfl rfl)
theorem dX0_tight_62 : decode cX0_tight 62 = .ok (.bipush (-2), 2) := dk_16 254 (dk_at dksX0_tight_2 20 rfl rfl)
theorem dX0_tight_64 : decode cX0_tight 64 = .ok (.if_icmp .eq 13, 3) := dk_159 0 13 (dk_at dksX0_tight_3 0 rfl rfl)
theorem dX0_tight_67 : decode cX0_tight 67 = .ok (.aload_n 0, 1) := dk_42 (dk_at dksX0_tight_3 3 rfl rfl)
theorem dX0_tight_68 : decode cX0_tight 68 = .ok (.aload 6, 2) := dk_25 6 (dk_at dksX0_tight_3 4 rfl rfl)
theorem dX0_tight_70 : decode cX0_tight 70 = .ok (.invokevirtual 353, 3) := dk_182 1 97 (dk_at dksX0_tight_3 6 rfl rfl)
theorem dX0_tight_73 : decode cX0_tight 73 = .ok (.iload_n 3, 1) := dk_29 (dk_at dksX0_tight_3 9 rfl rfl)
theorem dX0_tight_74 : decode cX0_tight 74 = .ok (.if_icmp .ge 13, 3) := dk_162 0 13 (dk_at dksX0_tight_3 10 rfl rfl)
theorem dX0_tight_77 : decode cX0_tight 77 = .ok (.iload 4, 2) := dk_21 4 (dk_at dksX0_tight_3 13 rfl rfl)
theorem dX0_tight_79 : decode cX0_tight 79 = .ok (.istore_n 2, 1) := dk_61 (dk_at dksX0_tight_3 15 rfl rfl)
theorem dX0_tight_80 : decode cX0_tight 80 = .ok (.aload_n 0, 1) := dk_42 (dk_at dksX0_tight_3 16 rfl rfl)
theorem dX0_tight_81 : decode cX0_tight 81 = .ok (.aload 6, 2) := dk_25 6 (dk_at dksX0_tight_3 17 rfl rfl)
theorem dX0_tight_83 : decode cX0_tight 83 = .ok (.invokevirtual 353, 3) := dk_182 1 97 (dk_at dksX0_tight_3 19 rfl rfl)
theorem dX0_tight_86 : decode cX0_tight 86 = .ok (.istore_n 3, 1) := dk_62 (dk_at dksX0_tight_3 22 rfl rfl)
theorem dX0_tight_87 : decode cX0_tight 87 = .ok (.iinc 4 1, 3) := dk_132 4 1 (dk_at dksX0_tight_4 0 rfl rfl)
theorem dX0_tight_90 : decode cX0_tight 90 = .ok (.goto (-60), 3) := dk_167 255 196 (dk_at dksX0_tight_4 3 rfl rfl)
theorem dX0_tight_93 : decode cX0_tight 93 = .ok (.iload_n 2, 1) := dk_28 (dk_at dksX0_tight_4 6 rfl rfl)
theorem dX0_tight_94 : decode cX0_tight 94 = .ok (.bipush (-2), 2) := dk_16 254 (dk_at dksX0_tight_4 7 rfl rfl)
theorem dX0_tight_96 : decode cX0_tight 96 = .ok (.if_icmp .ne 8, 3) := dk_160 0 8 (dk_at dksX0_tight_4 9 rfl rfl)
theorem dX0_tight_99 : decode cX0_tight 99 = .ok (.bipush (-2), 2) := dk_16 254 (dk_at dksX0_tight_4 12 rfl rfl)
theorem dX0_tight_101 : decode cX0_tight 101 = .ok (.goto 12, 3) := dk_167 0 12 (dk_at dksX0_tight_4 14 rfl rfl)
theorem dX0_tight_104 : decode cX0_tight 104 = .ok (.iload_n 1, 1) := dk_27 (dk_at dksX0_tight_4 17 rfl rfl)
theorem dX0_tight_105 : decode cX0_tight 105 = .ok (.ifCond .ne 7, 3) := dk_154 0 7 (dk_at dksX0_tight_4 18 rfl rfl)
theorem dX0_tight_108 : decode cX0_tight 108 = .ok (.iload_n 2, 1) := dk_28 (dk_at dksX0_tight_4 21 rfl rfl)
theorem dX0_tight_109 : decode cX0_tight 109 = .ok (.goto 4, 3) := dk_167 0 4 (dk_at dksX0_tight_5 0 rfl rfl)
theorem dX0_tight_112 : decode cX0_tight 112 = .ok (.iload_n 3, 1) := dk_29 (dk_at dksX0_tight_5 3 rfl rfl)
theorem dX0_tight_113 : decode cX0_tight 113 = .ok (.ireturn, 1) := dk_172 (dk_at dksX0_tight_5 4 rfl rfl)
abbrev cX0_write : ByteArray := prog_1_method_86_code
def yX0_write : MethodName := ⟨RX0, "write", "(I)I"⟩
def dkwX0_write_6 : List UInt8 := [180, 0, 219, 182, 1, 217, 182, 1, 220, 182, 1, 204, 42, 180, 1, 197, 172]
abbrev dktX0_write_6 : List UInt8 := dkwX0_write_6 ++ []
def dkwX0_write_5 : List UInt8 := [167, 255, 207, 42, 16, 61, 182, 1, 200, 42, 187, 1, 208, 89, 183, 1, 210, 19, 1, 211, 182, 1, 213, 45]
abbrev dktX0_write_5 : List UInt8 := dkwX0_write_5 ++ dktX0_write_6
def dkwX0_write_4 : List UInt8 := [182, 1, 200, 42, 42, 180, 0, 36, 25, 5, 180, 0, 169, 185, 0, 243, 2, 0, 192, 1, 30, 182, 1, 204]
abbrev dktX0_write_4 : List UInt8 := dkwX0_write_4 ++ dktX0_write_5
def dkwX0_write_3 : List UInt8 := [185, 0, 204, 1, 0, 153, 0, 45, 25, 4, 185, 0, 210, 1, 0, 192, 0, 165, 58, 5, 42, 16, 60]
abbrev dktX0_write_3 : List UInt8 := dkwX0_write_3 ++ dktX0_write_4
def dkwX0_write_2 : List UInt8 := [185, 0, 243, 2, 0, 192, 1, 30, 182, 1, 204, 45, 182, 0, 240, 185, 1, 207, 1, 0, 58, 4, 25, 4]
abbrev dktX0_write_2 : List UInt8 := dkwX0_write_2 ++ dktX0_write_3
def dkwX0_write_1 : List UInt8 := [89, 42, 44, 180, 0, 152, 44, 180, 0, 222, 3, 183, 0, 216, 78, 42, 42, 180, 0, 36, 44, 180, 0, 152]
abbrev dktX0_write_1 : List UInt8 := dkwX0_write_1 ++ dktX0_write_2
def dkwX0_write_0 : List UInt8 := [42, 27, 182, 1, 105, 154, 0, 5, 2, 172, 42, 3, 181, 1, 197, 42, 27, 182, 0, 148, 77, 187, 0, 214]
abbrev dktX0_write_0 : List UInt8 := dkwX0_write_0 ++ dktX0_write_1
theorem dksX0_write_0 : cX0_write.data.toList.drop 0 = dktX0_write_0 := by decide +kernel
theorem dksX0_write_1 : cX0_write.data.toList.drop 24 = dktX0_write_1 := dk_seg dksX0_write_0 24 rfl rfl
theorem dksX0_write_2 : cX0_write.data.toList.drop 48 = dktX0_write_2 := dk_seg dksX0_write_1 24 rfl rfl
theorem dksX0_write_3 : cX0_write.data.toList.drop 72 = dktX0_write_3 := dk_seg dksX0_write_2 24 rfl rfl
theorem dksX0_write_4 : cX0_write.data.toList.drop 95 = dktX0_write_4 := dk_seg dksX0_write_3 23 rfl rfl
theorem dksX0_write_5 : cX0_write.data.toList.drop 119 = dktX0_write_5 := dk_seg dksX0_write_4 24 rfl rfl
theorem dksX0_write_6 : cX0_write.data.toList.drop 143 = dktX0_write_6 := dk_seg dksX0_write_5 24 rfl rfl
theorem dX0_write_0 : decode cX0_write 0 = .ok (.aload_n 0, 1) := dk_42 (dk_at dksX0_write_0 0 rfl rfl)
theorem dX0_write_1 : decode cX0_write 1 = .ok (.iload_n 1, 1) := dk_27 (dk_at dksX0_write_0 1 rfl rfl)
theorem dX0_write_2 : decode cX0_write 2 = .ok (.invokevirtual 361, 3) := dk_182 1 105 (dk_at dksX0_write_0 2 rfl rfl)
theorem dX0_write_5 : decode cX0_write 5 = .ok (.ifCond .ne 5, 3) := dk_154 0 5 (dk_at dksX0_write_0 5 rfl rfl)
theorem dX0_write_8 : decode cX0_write 8 = .ok (.iconst (-1), 1) := dk_2 (dk_at dksX0_write_0 8 rfl rfl)
theorem dX0_write_9 : decode cX0_write 9 = .ok (.ireturn, 1) := dk_172 (dk_at dksX0_write_0 9 rfl rfl)
theorem dX0_write_10 : decode cX0_write 10 = .ok (.aload_n 0, 1) := dk_42 (dk_at dksX0_write_0 10 rfl rfl)
theorem dX0_write_11 : decode cX0_write 11 = .ok (.iconst 0, 1) := dk_3 (dk_at dksX0_write_0 11 rfl rfl)
theorem dX0_write_12 : decode cX0_write 12 = .ok (.putfield 453, 3) := dk_181 1 197 (dk_at dksX0_write_0 12 rfl rfl)
theorem dX0_write_15 : decode cX0_write 15 = .ok (.aload_n 0, 1) := dk_42 (dk_at dksX0_write_0 15 rfl rfl)
theorem dX0_write_16 : decode cX0_write 16 = .ok (.iload_n 1, 1) := dk_27 (dk_at dksX0_write_0 16 rfl rfl)
theorem dX0_write_17 : decode cX0_write 17 = .ok (.invokevirtual 148, 3) := dk_182 0 148 (dk_at dksX0_write_0 17 rfl rfl)
theorem dX0_write_20 : decode cX0_write 20 = .ok (.astore_n 2, 1) := dk_77 (dk_at dksX0_write_0 20 rfl rfl)
theorem dX0_write_21 : decode cX0_write 21 = .ok (.new 214, 3) := dk_187 0 214 (dk_at dksX0_write_0 21 rfl rfl)
theorem dX0_write_24 : decode cX0_write 24 = .ok (.dup, 1) := dk_89 (dk_at dksX0_write_1 0 rfl rfl)
theorem dX0_write_25 : decode cX0_write 25 = .ok (.aload_n 0, 1) := dk_42 (dk_at dksX0_write_1 1 rfl rfl)
theorem dX0_write_26 : decode cX0_write 26 = .ok (.aload_n 2, 1) := dk_44 (dk_at dksX0_write_1 2 rfl rfl)
theorem dX0_write_27 : decode cX0_write 27 = .ok (.getfield 152, 3) := dk_180 0 152 (dk_at dksX0_write_1 3 rfl rfl)
theorem dX0_write_30 : decode cX0_write 30 = .ok (.aload_n 2, 1) := dk_44 (dk_at dksX0_write_1 6 rfl rfl)
theorem dX0_write_31 : decode cX0_write 31 = .ok (.getfield 222, 3) := dk_180 0 222 (dk_at dksX0_write_1 7 rfl rfl)
theorem dX0_write_34 : decode cX0_write 34 = .ok (.iconst 0, 1) := dk_3 (dk_at dksX0_write_1 10 rfl rfl)
theorem dX0_write_35 : decode cX0_write 35 = .ok (.invokespecial 216, 3) := dk_183 0 216 (dk_at dksX0_write_1 11 rfl rfl)
theorem dX0_write_38 : decode cX0_write 38 = .ok (.astore_n 3, 1) := dk_78 (dk_at dksX0_write_1 14 rfl rfl)
theorem dX0_write_39 : decode cX0_write 39 = .ok (.aload_n 0, 1) := dk_42 (dk_at dksX0_write_1 15 rfl rfl)
theorem dX0_write_40 : decode cX0_write 40 = .ok (.aload_n 0, 1) := dk_42 (dk_at dksX0_write_1 16 rfl rfl)
theorem dX0_write_41 : decode cX0_write 41 = .ok (.getfield 36, 3) := dk_180 0 36 (dk_at dksX0_write_1 17 rfl rfl)
theorem dX0_write_44 : decode cX0_write 44 = .ok (.aload_n 2, 1) := dk_44 (dk_at dksX0_write_1 20 rfl rfl)
theorem dX0_write_45 : decode cX0_write 45 = .ok (.getfield 152, 3) := dk_180 0 152 (dk_at dksX0_write_1 21 rfl rfl)
theorem dX0_write_48 : decode cX0_write 48 = .ok (.invokeinterface 243 2, 5) := by decide +kernel
theorem dX0_write_53 : decode cX0_write 53 = .ok (.checkcast 286, 3) := dk_192 1 30 (dk_at dksX0_write_2 5 rfl rfl)
theorem dX0_write_56 : decode cX0_write 56 = .ok (.invokevirtual 460, 3) := dk_182 1 204 (dk_at dksX0_write_2 8 rfl rfl)
theorem dX0_write_59 : decode cX0_write 59 = .ok (.aload_n 3, 1) := dk_45 (dk_at dksX0_write_2 11 rfl rfl)
theorem dX0_write_60 : decode cX0_write 60 = .ok (.invokevirtual 240, 3) := dk_182 0 240 (dk_at dksX0_write_2 12 rfl rfl)
theorem dX0_write_63 : decode cX0_write 63 = .ok (.invokeinterface 463 1, 5) := by decide +kernel
theorem dX0_write_68 : decode cX0_write 68 = .ok (.astore 4, 2) := dk_58 4 (dk_at dksX0_write_2 20 rfl rfl)
theorem dX0_write_70 : decode cX0_write 70 = .ok (.aload 4, 2) := dk_25 4 (dk_at dksX0_write_2 22 rfl rfl)
theorem dX0_write_72 : decode cX0_write 72 = .ok (.invokeinterface 204 1, 5) := by decide +kernel
theorem dX0_write_77 : decode cX0_write 77 = .ok (.ifCond .eq 45, 3) := dk_153 0 45 (dk_at dksX0_write_3 5 rfl rfl)
theorem dX0_write_80 : decode cX0_write 80 = .ok (.aload 4, 2) := dk_25 4 (dk_at dksX0_write_3 8 rfl rfl)
theorem dX0_write_82 : decode cX0_write 82 = .ok (.invokeinterface 210 1, 5) := by decide +kernel
theorem dX0_write_87 : decode cX0_write 87 = .ok (.checkcast 165, 3) := dk_192 0 165 (dk_at dksX0_write_3 15 rfl rfl)
theorem dX0_write_90 : decode cX0_write 90 = .ok (.astore 5, 2) := dk_58 5 (dk_at dksX0_write_3 18 rfl rfl)
theorem dX0_write_92 : decode cX0_write 92 = .ok (.aload_n 0, 1) := dk_42 (dk_at dksX0_write_3 20 rfl rfl)
theorem dX0_write_93 : decode cX0_write 93 = .ok (.bipush 60, 2) := dk_16 60 (dk_at dksX0_write_3 21 rfl rfl)
theorem dX0_write_95 : decode cX0_write 95 = .ok (.invokevirtual 456, 3) := dk_182 1 200 (dk_at dksX0_write_4 0 rfl rfl)
theorem dX0_write_98 : decode cX0_write 98 = .ok (.aload_n 0, 1) := dk_42 (dk_at dksX0_write_4 3 rfl rfl)
theorem dX0_write_99 : decode cX0_write 99 = .ok (.aload_n 0, 1) := dk_42 (dk_at dksX0_write_4 4 rfl rfl)
theorem dX0_write_100 : decode cX0_write 100 = .ok (.getfield 36, 3) := dk_180 0 36 (dk_at dksX0_write_4 5 rfl rfl)
theorem dX0_write_103 : decode cX0_write 103 = .ok (.aload 5, 2) := dk_25 5 (dk_at dksX0_write_4 8 rfl rfl)
theorem dX0_write_105 : decode cX0_write 105 = .ok (.getfield 169, 3) := dk_180 0 169 (dk_at dksX0_write_4 10 rfl rfl)
theorem dX0_write_108 : decode cX0_write 108 = .ok (.invokeinterface 243 2, 5) := by decide +kernel
theorem dX0_write_113 : decode cX0_write 113 = .ok (.checkcast 286, 3) := dk_192 1 30 (dk_at dksX0_write_4 18 rfl rfl)
theorem dX0_write_116 : decode cX0_write 116 = .ok (.invokevirtual 460, 3) := dk_182 1 204 (dk_at dksX0_write_4 21 rfl rfl)
theorem dX0_write_119 : decode cX0_write 119 = .ok (.goto (-49), 3) := dk_167 255 207 (dk_at dksX0_write_5 0 rfl rfl)
theorem dX0_write_122 : decode cX0_write 122 = .ok (.aload_n 0, 1) := dk_42 (dk_at dksX0_write_5 3 rfl rfl)
theorem dX0_write_123 : decode cX0_write 123 = .ok (.bipush 61, 2) := dk_16 61 (dk_at dksX0_write_5 4 rfl rfl)
theorem dX0_write_125 : decode cX0_write 125 = .ok (.invokevirtual 456, 3) := dk_182 1 200 (dk_at dksX0_write_5 6 rfl rfl)
theorem dX0_write_128 : decode cX0_write 128 = .ok (.aload_n 0, 1) := dk_42 (dk_at dksX0_write_5 9 rfl rfl)
theorem dX0_write_129 : decode cX0_write 129 = .ok (.new 464, 3) := dk_187 1 208 (dk_at dksX0_write_5 10 rfl rfl)
theorem dX0_write_132 : decode cX0_write 132 = .ok (.dup, 1) := dk_89 (dk_at dksX0_write_5 13 rfl rfl)
theorem dX0_write_133 : decode cX0_write 133 = .ok (.invokespecial 466, 3) := dk_183 1 210 (dk_at dksX0_write_5 14 rfl rfl)
theorem dX0_write_136 : decode cX0_write 136 = .ok (.ldc_w 467, 3) := dk_19 1 211 (dk_at dksX0_write_5 17 rfl rfl)
theorem dX0_write_139 : decode cX0_write 139 = .ok (.invokevirtual 469, 3) := dk_182 1 213 (dk_at dksX0_write_5 20 rfl rfl)
theorem dX0_write_142 : decode cX0_write 142 = .ok (.aload_n 3, 1) := dk_45 (dk_at dksX0_write_5 23 rfl rfl)
theorem dX0_write_143 : decode cX0_write 143 = .ok (.getfield 219, 3) := dk_180 0 219 (dk_at dksX0_write_6 0 rfl rfl)
theorem dX0_write_146 : decode cX0_write 146 = .ok (.invokevirtual 473, 3) := dk_182 1 217 (dk_at dksX0_write_6 3 rfl rfl)
theorem dX0_write_149 : decode cX0_write 149 = .ok (.invokevirtual 476, 3) := dk_182 1 220 (dk_at dksX0_write_6 6 rfl rfl)
theorem dX0_write_152 : decode cX0_write 152 = .ok (.invokevirtual 460, 3) := dk_182 1 204 (dk_at dksX0_write_6 9 rfl rfl)
theorem dX0_write_155 : decode cX0_write 155 = .ok (.aload_n 0, 1) := dk_42 (dk_at dksX0_write_6 12 rfl rfl)
theorem dX0_write_156 : decode cX0_write 156 = .ok (.getfield 453, 3) := dk_180 1 197 (dk_at dksX0_write_6 13 rfl rfl)
theorem dX0_write_159 : decode cX0_write 159 = .ok (.ireturn, 1) := dk_172 (dk_at dksX0_write_6 16 rfl rfl)
abbrev cX0_writes : ByteArray := prog_1_method_85_code
def yX0_writes : MethodName := ⟨RX0, "writes", "(Ljava/lang/String;)V"⟩
def dkwX0_writes_1 : List UInt8 := [167, 255, 236, 177]
abbrev dktX0_writes_1 : List UInt8 := dkwX0_writes_1 ++ []
def dkwX0_writes_0 : List UInt8 := [3, 61, 28, 43, 182, 1, 32, 162, 0, 18, 42, 43, 28, 182, 1, 35, 182, 1, 200, 132, 2, 1]
abbrev dktX0_writes_0 : List UInt8 := dkwX0_writes_0 ++ dktX0_writes_1
theorem dksX0_writes_0 : cX0_writes.data.toList.drop 0 = dktX0_writes_0 := by decide +kernel
theorem dksX0_writes_1 : cX0_writes.data.toList.drop 22 = dktX0_writes_1 := dk_seg dksX0_writes_0 22 rfl rfl
theorem dX0_writes_0 : decode cX0_writes 0 = .ok (.iconst 0, 1) := dk_3 (dk_at dksX0_writes_0 0 rfl rfl)
theorem dX0_writes_1 : decode cX0_writes 1 = .ok (.istore_n 2, 1) := dk_61 (dk_at dksX0_writes_0 1 rfl rfl)
theorem dX0_writes_2 : decode cX0_writes 2 = .ok (.iload_n 2, 1) := dk_28 (dk_at dksX0_writes_0 2 rfl rfl)
theorem dX0_writes_3 : decode cX0_writes 3 = .ok (.aload_n 1, 1) := dk_43 (dk_at dksX0_writes_0 3 rfl rfl)
theorem dX0_writes_4 : decode cX0_writes 4 = .ok (.invokevirtual 288, 3) := dk_182 1 32 (dk_at dksX0_writes_0 4 rfl rfl)
theorem dX0_writes_7 : decode cX0_writes 7 = .ok (.if_icmp .ge 18, 3) := dk_162 0 18 (dk_at dksX0_writes_0 7 rfl rfl)
theorem dX0_writes_10 : decode cX0_writes 10 = .ok (.aload_n 0, 1) := dk_42 (dk_at dksX0_writes_0 10 rfl rfl)
theorem dX0_writes_11 : decode cX0_writes 11 = .ok (.aload_n 1, 1) := dk_43 (dk_at dksX0_writes_0 11 rfl rfl)
theorem dX0_writes_12 : decode cX0_writes 12 = .ok (.iload_n 2, 1) := dk_28 (dk_at dksX0_writes_0 12 rfl rfl)
theorem dX0_writes_13 : decode cX0_writes 13 = .ok (.invokevirtual 291, 3) := dk_182 1 35 (dk_at dksX0_writes_0 13 rfl rfl)
theorem dX0_writes_16 : decode cX0_writes 16 = .ok (.invokevirtual 456, 3) := dk_182 1 200 (dk_at dksX0_writes_0 16 rfl rfl)
theorem dX0_writes_19 : decode cX0_writes 19 = .ok (.iinc 2 1, 3) := dk_132 2 1 (dk_at dksX0_writes_0 19 rfl rfl)
theorem dX0_writes_22 : decode cX0_writes 22 = .ok (.goto (-20), 3) := dk_167 255 236 (dk_at dksX0_writes_1 0 rfl rfl)
theorem dX0_writes_25 : decode cX0_writes 25 = .ok (.return_, 1) := dk_177 (dk_at dksX0_writes_1 3 rfl rfl)
abbrev cX0_writes_2 : ByteArray := prog_1_method_84_code
def yX0_writes_2 : MethodName := ⟨RX0, "writes", "(C)V"⟩
def dkwX0_writes_2_0 : List UInt8 := [42, 180, 0, 47, 42, 180, 1, 197, 27, 145, 84, 42, 89, 180, 1, 197, 4, 96, 181, 1, 197, 177]
abbrev dktX0_writes_2_0 : List UInt8 := dkwX0_writes_2_0 ++ []
theorem dksX0_writes_2_0 : cX0_writes_2.data.toList.drop 0 = dktX0_writes_2_0 := by decide +kernel
theorem dX0_writes_2_0 : decode cX0_writes_2 0 = .ok (.aload_n 0, 1) := dk_42 (dk_at dksX0_writes_2_0 0 rfl rfl)
theorem dX0_writes_2_1 : decode cX0_writes_2 1 = .ok (.getfield 47, 3) := dk_180 0 47 (dk_at dksX0_writes_2_0 1 rfl rfl)
theorem dX0_writes_2_4 : decode cX0_writes_2 4 = .ok (.aload_n 0, 1) := dk_42 (dk_at dksX0_writes_2_0 4 rfl rfl)
theorem dX0_writes_2_5 : decode cX0_writes_2 5 = .ok (.getfield 453, 3) := dk_180 1 197 (dk_at dksX0_writes_2_0 5 rfl rfl)
theorem dX0_writes_2_8 : decode cX0_writes_2 8 = .ok (.iload_n 1, 1) := dk_27 (dk_at dksX0_writes_2_0 8 rfl rfl)
theorem dX0_writes_2_9 : decode cX0_writes_2 9 = .ok (.i2b, 1) := dk_145 (dk_at dksX0_writes_2_0 9 rfl rfl)
theorem dX0_writes_2_10 : decode cX0_writes_2 10 = .ok (.bastore, 1) := dk_84 (dk_at dksX0_writes_2_0 10 rfl rfl)
theorem dX0_writes_2_11 : decode cX0_writes_2 11 = .ok (.aload_n 0, 1) := dk_42 (dk_at dksX0_writes_2_0 11 rfl rfl)
theorem dX0_writes_2_12 : decode cX0_writes_2 12 = .ok (.dup, 1) := dk_89 (dk_at dksX0_writes_2_0 12 rfl rfl)
theorem dX0_writes_2_13 : decode cX0_writes_2 13 = .ok (.getfield 453, 3) := dk_180 1 197 (dk_at dksX0_writes_2_0 13 rfl rfl)
theorem dX0_writes_2_16 : decode cX0_writes_2 16 = .ok (.iconst 1, 1) := dk_4 (dk_at dksX0_writes_2_0 16 rfl rfl)
theorem dX0_writes_2_17 : decode cX0_writes_2 17 = .ok (.iadd, 1) := dk_96 (dk_at dksX0_writes_2_0 17 rfl rfl)
theorem dX0_writes_2_18 : decode cX0_writes_2 18 = .ok (.putfield 453, 3) := dk_181 1 197 (dk_at dksX0_writes_2_0 18 rfl rfl)
theorem dX0_writes_2_21 : decode cX0_writes_2 21 = .ok (.return_, 1) := dk_177 (dk_at dksX0_writes_2_0 21 rfl rfl)
abbrev cX0_octet : ByteArray := prog_1_method_87_code
def yX0_octet : MethodName := ⟨RX0, "octet", "(I)I"⟩
def dkwX0_octet_1 : List UInt8 := [2, 172]
abbrev dktX0_octet_1 : List UInt8 := dkwX0_octet_1 ++ []
def dkwX0_octet_0 : List UInt8 := [27, 42, 180, 1, 197, 184, 0, 124, 153, 0, 16, 42, 180, 0, 47, 27, 51, 17, 0, 255, 126, 167, 0, 4]
abbrev dktX0_octet_0 : List UInt8 := dkwX0_octet_0 ++ dktX0_octet_1
theorem dksX0_octet_0 : cX0_octet.data.toList.drop 0 = dktX0_octet_0 := by decide +kernel
theorem dksX0_octet_1 : cX0_octet.data.toList.drop 24 = dktX0_octet_1 := dk_seg dksX0_octet_0 24 rfl rfl
theorem dX0_octet_0 : decode cX0_octet 0 = .ok (.iload_n 1, 1) := dk_27 (dk_at dksX0_octet_0 0 rfl rfl)
theorem dX0_octet_1 : decode cX0_octet 1 = .ok (.aload_n 0, 1) := dk_42 (dk_at dksX0_octet_0 1 rfl rfl)
theorem dX0_octet_2 : decode cX0_octet 2 = .ok (.getfield 453, 3) := dk_180 1 197 (dk_at dksX0_octet_0 2 rfl rfl)
theorem dX0_octet_5 : decode cX0_octet 5 = .ok (.invokestatic 124, 3) := dk_184 0 124 (dk_at dksX0_octet_0 5 rfl rfl)
theorem dX0_octet_8 : decode cX0_octet 8 = .ok (.ifCond .eq 16, 3) := dk_153 0 16 (dk_at dksX0_octet_0 8 rfl rfl)
theorem dX0_octet_11 : decode cX0_octet 11 = .ok (.aload_n 0, 1) := dk_42 (dk_at dksX0_octet_0 11 rfl rfl)
theorem dX0_octet_12 : decode cX0_octet 12 = .ok (.getfield 47, 3) := dk_180 0 47 (dk_at dksX0_octet_0 12 rfl rfl)
theorem dX0_octet_15 : decode cX0_octet 15 = .ok (.iload_n 1, 1) := dk_27 (dk_at dksX0_octet_0 15 rfl rfl)
theorem dX0_octet_16 : decode cX0_octet 16 = .ok (.baload, 1) := dk_51 (dk_at dksX0_octet_0 16 rfl rfl)
theorem dX0_octet_17 : decode cX0_octet 17 = .ok (.sipush 255, 3) := dk_17 0 255 (dk_at dksX0_octet_0 17 rfl rfl)
theorem dX0_octet_20 : decode cX0_octet 20 = .ok (.iand, 1) := dk_126 (dk_at dksX0_octet_0 20 rfl rfl)
theorem dX0_octet_21 : decode cX0_octet 21 = .ok (.goto 4, 3) := dk_167 0 4 (dk_at dksX0_octet_0 21 rfl rfl)
theorem dX0_octet_24 : decode cX0_octet 24 = .ok (.iconst (-1), 1) := dk_2 (dk_at dksX0_octet_1 0 rfl rfl)
theorem dX0_octet_25 : decode cX0_octet 25 = .ok (.ireturn, 1) := dk_172 (dk_at dksX0_octet_1 1 rfl rfl)
abbrev cX0_link : ByteArray := prog_1_method_89_code
def yX0_link : MethodName := ⟨RX0, "link", "(III)I"⟩
def dkwX0_link_4 : List UInt8 := [27, 28, 29, 183, 1, 237, 182, 1, 238, 87, 42, 180, 0, 12, 180, 0, 128, 182, 0, 132, 4, 100, 172]
abbrev dktX0_link_4 : List UInt8 := dkwX0_link_4 ++ []
def dkwX0_link_3 : List UInt8 := [182, 1, 231, 153, 0, 6, 16, 253, 172, 42, 182, 1, 234, 42, 180, 0, 12, 180, 0, 128, 187, 0, 165, 89]
abbrev dktX0_link_3 : List UInt8 := dkwX0_link_3 ++ dktX0_link_4
def dkwX0_link_2 : List UInt8 := [159, 0, 28, 42, 180, 0, 12, 28, 29, 182, 1, 228, 153, 0, 16, 42, 180, 0, 12, 27, 28, 29]
abbrev dktX0_link_2 : List UInt8 := dkwX0_link_2 ++ dktX0_link_3
def dkwX0_link_1 : List UInt8 := [2, 172, 42, 180, 0, 12, 180, 0, 128, 182, 0, 132, 16, 20, 160, 0, 6, 16, 254, 172, 28, 29]
abbrev dktX0_link_1 : List UInt8 := dkwX0_link_1 ++ dktX0_link_2
def dkwX0_link_0 : List UInt8 := [27, 5, 184, 0, 124, 153, 0, 19, 42, 28, 182, 0, 228, 153, 0, 11, 42, 29, 182, 0, 228, 154, 0, 5]
abbrev dktX0_link_0 : List UInt8 := dkwX0_link_0 ++ dktX0_link_1
theorem dksX0_link_0 : cX0_link.data.toList.drop 0 = dktX0_link_0 := by decide +kernel
theorem dksX0_link_1 : cX0_link.data.toList.drop 24 = dktX0_link_1 := dk_seg dksX0_link_0 24 rfl rfl
theorem dksX0_link_2 : cX0_link.data.toList.drop 46 = dktX0_link_2 := dk_seg dksX0_link_1 22 rfl rfl
theorem dksX0_link_3 : cX0_link.data.toList.drop 68 = dktX0_link_3 := dk_seg dksX0_link_2 22 rfl rfl
theorem dksX0_link_4 : cX0_link.data.toList.drop 92 = dktX0_link_4 := dk_seg dksX0_link_3 24 rfl rfl
theorem dX0_link_0 : decode cX0_link 0 = .ok (.iload_n 1, 1) := dk_27 (dk_at dksX0_link_0 0 rfl rfl)
theorem dX0_link_1 : decode cX0_link 1 = .ok (.iconst 2, 1) := dk_5 (dk_at dksX0_link_0 1 rfl rfl)
theorem dX0_link_2 : decode cX0_link 2 = .ok (.invokestatic 124, 3) := dk_184 0 124 (dk_at dksX0_link_0 2 rfl rfl)
theorem dX0_link_5 : decode cX0_link 5 = .ok (.ifCond .eq 19, 3) := dk_153 0 19 (dk_at dksX0_link_0 5 rfl rfl)
theorem dX0_link_8 : decode cX0_link 8 = .ok (.aload_n 0, 1) := dk_42 (dk_at dksX0_link_0 8 rfl rfl)
theorem dX0_link_9 : decode cX0_link 9 = .ok (.iload_n 2, 1) := dk_28 (dk_at dksX0_link_0 9 rfl rfl)
theorem dX0_link_10 : decode cX0_link 10 = .ok (.invokevirtual 228, 3) := dk_182 0 228 (dk_at dksX0_link_0 10 rfl rfl)
theorem dX0_link_13 : decode cX0_link 13 = .ok (.ifCond .eq 11, 3) := dk_153 0 11 (dk_at dksX0_link_0 13 rfl rfl)
theorem dX0_link_16 : decode cX0_link 16 = .ok (.aload_n 0, 1) := dk_42 (dk_at dksX0_link_0 16 rfl rfl)
theorem dX0_link_17 : decode cX0_link 17 = .ok (.iload_n 3, 1) := dk_29 (dk_at dksX0_link_0 17 rfl rfl)
theorem dX0_link_18 : decode cX0_link 18 = .ok (.invokevirtual 228, 3) := dk_182 0 228 (dk_at dksX0_link_0 18 rfl rfl)
theorem dX0_link_21 : decode cX0_link 21 = .ok (.ifCond .ne 5, 3) := dk_154 0 5 (dk_at dksX0_link_0 21 rfl rfl)
theorem dX0_link_24 : decode cX0_link 24 = .ok (.iconst (-1), 1) := dk_2 (dk_at dksX0_link_1 0 rfl rfl)
theorem dX0_link_25 : decode cX0_link 25 = .ok (.ireturn, 1) := dk_172 (dk_at dksX0_link_1 1 rfl rfl)
theorem dX0_link_26 : decode cX0_link 26 = .ok (.aload_n 0, 1) := dk_42 (dk_at dksX0_link_1 2 rfl rfl)
theorem dX0_link_27 : decode cX0_link 27 = .ok (.getfield 12, 3) := dk_180 0 12 (dk_at dksX0_link_1 3 rfl rfl)
theorem dX0_link_30 : decode cX0_link 30 = .ok (.getfield 128, 3) := dk_180 0 128 (dk_at dksX0_link_1 6 rfl rfl)
theorem dX0_link_33 : decode cX0_link 33 = .ok (.invokevirtual 132, 3) := dk_182 0 132 (dk_at dksX0_link_1 9 rfl rfl)
theorem dX0_link_36 : decode cX0_link 36 = .ok (.bipush 20, 2) := dk_16 20 (dk_at dksX0_link_1 12 rfl rfl)
theorem dX0_link_38 : decode cX0_link 38 = .ok (.if_icmp .ne 6, 3) := dk_160 0 6 (dk_at dksX0_link_1 14 rfl rfl)
theorem dX0_link_41 : decode cX0_link 41 = .ok (.bipush (-2), 2) := dk_16 254 (dk_at dksX0_link_1 17 rfl rfl)
theorem dX0_link_43 : decode cX0_link 43 = .ok (.ireturn, 1) := dk_172 (dk_at dksX0_link_1 19 rfl rfl)
theorem dX0_link_44 : decode cX0_link 44 = .ok (.iload_n 2, 1) := dk_28 (dk_at dksX0_link_1 20 rfl rfl)
theorem dX0_link_45 : decode cX0_link 45 = .ok (.iload_n 3, 1) := dk_29 (dk_at dksX0_link_1 21 rfl rfl)
theorem dX0_link_46 : decode cX0_link 46 = .ok (.if_icmp .eq 28, 3) := dk_159 0 28 (dk_at dksX0_link_2 0 rfl rfl)
theorem dX0_link_49 : decode cX0_link 49 = .ok (.aload_n 0, 1) := dk_42 (dk_at dksX0_link_2 3 rfl rfl)
theorem dX0_link_50 : decode cX0_link 50 = .ok (.getfield 12, 3) := dk_180 0 12 (dk_at dksX0_link_2 4 rfl rfl)
theorem dX0_link_53 : decode cX0_link 53 = .ok (.iload_n 2, 1) := dk_28 (dk_at dksX0_link_2 7 rfl rfl)
theorem dX0_link_54 : decode cX0_link 54 = .ok (.iload_n 3, 1) := dk_29 (dk_at dksX0_link_2 8 rfl rfl)
theorem dX0_link_55 : decode cX0_link 55 = .ok (.invokevirtual 484, 3) := dk_182 1 228 (dk_at dksX0_link_2 9 rfl rfl)
theorem dX0_link_58 : decode cX0_link 58 = .ok (.ifCond .eq 16, 3) := dk_153 0 16 (dk_at dksX0_link_2 12 rfl rfl)
theorem dX0_link_61 : decode cX0_link 61 = .ok (.aload_n 0, 1) := dk_42 (dk_at dksX0_link_2 15 rfl rfl)
theorem dX0_link_62 : decode cX0_link 62 = .ok (.getfield 12, 3) := dk_180 0 12 (dk_at dksX0_link_2 16 rfl rfl)
theorem dX0_link_65 : decode cX0_link 65 = .ok (.iload_n 1, 1) := dk_27 (dk_at dksX0_link_2 19 rfl rfl)
theorem dX0_link_66 : decode cX0_link 66 = .ok (.iload_n 2, 1) := dk_28 (dk_at dksX0_link_2 20 rfl rfl)
theorem dX0_link_67 : decode cX0_link 67 = .ok (.iload_n 3, 1) := dk_29 (dk_at dksX0_link_2 21 rfl rfl)
theorem dX0_link_68 : decode cX0_link 68 = .ok (.invokevirtual 487, 3) := dk_182 1 231 (dk_at dksX0_link_3 0 rfl rfl)
theorem dX0_link_71 : decode cX0_link 71 = .ok (.ifCond .eq 6, 3) := dk_153 0 6 (dk_at dksX0_link_3 3 rfl rfl)
theorem dX0_link_74 : decode cX0_link 74 = .ok (.bipush (-3), 2) := dk_16 253 (dk_at dksX0_link_3 6 rfl rfl)
theorem dX0_link_76 : decode cX0_link 76 = .ok (.ireturn, 1) := dk_172 (dk_at dksX0_link_3 8 rfl rfl)
theorem dX0_link_77 : decode cX0_link 77 = .ok (.aload_n 0, 1) := dk_42 (dk_at dksX0_link_3 9 rfl rfl)
theorem dX0_link_78 : decode cX0_link 78 = .ok (.invokevirtual 490, 3) := dk_182 1 234 (dk_at dksX0_link_3 10 rfl rfl)
theorem dX0_link_81 : decode cX0_link 81 = .ok (.aload_n 0, 1) := dk_42 (dk_at dksX0_link_3 13 rfl rfl)
theorem dX0_link_82 : decode cX0_link 82 = .ok (.getfield 12, 3) := dk_180 0 12 (dk_at dksX0_link_3 14 rfl rfl)
theorem dX0_link_85 : decode cX0_link 85 = .ok (.getfield 128, 3) := dk_180 0 128 (dk_at dksX0_link_3 17 rfl rfl)
theorem dX0_link_88 : decode cX0_link 88 = .ok (.new 165, 3) := dk_187 0 165 (dk_at dksX0_link_3 20 rfl rfl)
theorem dX0_link_91 : decode cX0_link 91 = .ok (.dup, 1) := dk_89 (dk_at dksX0_link_3 23 rfl rfl)
theorem dX0_link_92 : decode cX0_link 92 = .ok (.iload_n 1, 1) := dk_27 (dk_at dksX0_link_4 0 rfl rfl)
theorem dX0_link_93 : decode cX0_link 93 = .ok (.iload_n 2, 1) := dk_28 (dk_at dksX0_link_4 1 rfl rfl)
theorem dX0_link_94 : decode cX0_link 94 = .ok (.iload_n 3, 1) := dk_29 (dk_at dksX0_link_4 2 rfl rfl)
theorem dX0_link_95 : decode cX0_link 95 = .ok (.invokespecial 493, 3) := dk_183 1 237 (dk_at dksX0_link_4 3 rfl rfl)
theorem dX0_link_98 : decode cX0_link 98 = .ok (.invokevirtual 494, 3) := dk_182 1 238 (dk_at dksX0_link_4 6 rfl rfl)
theorem dX0_link_101 : decode cX0_link 101 = .ok (.pop, 1) := dk_87 (dk_at dksX0_link_4 9 rfl rfl)
theorem dX0_link_102 : decode cX0_link 102 = .ok (.aload_n 0, 1) := dk_42 (dk_at dksX0_link_4 10 rfl rfl)
theorem dX0_link_103 : decode cX0_link 103 = .ok (.getfield 12, 3) := dk_180 0 12 (dk_at dksX0_link_4 11 rfl rfl)
theorem dX0_link_106 : decode cX0_link 106 = .ok (.getfield 128, 3) := dk_180 0 128 (dk_at dksX0_link_4 14 rfl rfl)
theorem dX0_link_109 : decode cX0_link 109 = .ok (.invokevirtual 132, 3) := dk_182 0 132 (dk_at dksX0_link_4 17 rfl rfl)
theorem dX0_link_112 : decode cX0_link 112 = .ok (.iconst 1, 1) := dk_4 (dk_at dksX0_link_4 20 rfl rfl)
theorem dX0_link_113 : decode cX0_link 113 = .ok (.isub, 1) := dk_100 (dk_at dksX0_link_4 21 rfl rfl)
theorem dX0_link_114 : decode cX0_link 114 = .ok (.ireturn, 1) := dk_172 (dk_at dksX0_link_4 22 rfl rfl)
abbrev cX0_acts : ByteArray := prog_1_method_88_code
def yX0_acts : MethodName := ⟨RX0, "acts", "()V"⟩
def dkwX0_acts_1 : List UInt8 := [42, 180, 0, 12, 182, 1, 224, 182, 1, 45, 177]
abbrev dktX0_acts_1 : List UInt8 := dkwX0_acts_1 ++ []
def dkwX0_acts_0 : List UInt8 := [42, 180, 0, 19, 182, 1, 29, 16, 12, 160, 0, 11, 42, 180, 0, 19, 182, 1, 52, 87, 42, 180, 0, 19]
abbrev dktX0_acts_0 : List UInt8 := dkwX0_acts_0 ++ dktX0_acts_1
theorem dksX0_acts_0 : cX0_acts.data.toList.drop 0 = dktX0_acts_0 := by decide +kernel
theorem dksX0_acts_1 : cX0_acts.data.toList.drop 24 = dktX0_acts_1 := dk_seg dksX0_acts_0 24 rfl rfl
theorem dX0_acts_0 : decode cX0_acts 0 = .ok (.aload_n 0, 1) := dk_42 (dk_at dksX0_acts_0 0 rfl rfl)
theorem dX0_acts_1 : decode cX0_acts 1 = .ok (.getfield 19, 3) := dk_180 0 19 (dk_at dksX0_acts_0 1 rfl rfl)
theorem dX0_acts_4 : decode cX0_acts 4 = .ok (.invokevirtual 285, 3) := dk_182 1 29 (dk_at dksX0_acts_0 4 rfl rfl)
theorem dX0_acts_7 : decode cX0_acts 7 = .ok (.bipush 12, 2) := dk_16 12 (dk_at dksX0_acts_0 7 rfl rfl)
theorem dX0_acts_9 : decode cX0_acts 9 = .ok (.if_icmp .ne 11, 3) := dk_160 0 11 (dk_at dksX0_acts_0 9 rfl rfl)
theorem dX0_acts_12 : decode cX0_acts 12 = .ok (.aload_n 0, 1) := dk_42 (dk_at dksX0_acts_0 12 rfl rfl)
theorem dX0_acts_13 : decode cX0_acts 13 = .ok (.getfield 19, 3) := dk_180 0 19 (dk_at dksX0_acts_0 13 rfl rfl)
theorem dX0_acts_16 : decode cX0_acts 16 = .ok (.invokevirtual 308, 3) := dk_182 1 52 (dk_at dksX0_acts_0 16 rfl rfl)
theorem dX0_acts_19 : decode cX0_acts 19 = .ok (.pop, 1) := dk_87 (dk_at dksX0_acts_0 19 rfl rfl)
theorem dX0_acts_20 : decode cX0_acts 20 = .ok (.aload_n 0, 1) := dk_42 (dk_at dksX0_acts_0 20 rfl rfl)
theorem dX0_acts_21 : decode cX0_acts 21 = .ok (.getfield 19, 3) := dk_180 0 19 (dk_at dksX0_acts_0 21 rfl rfl)
theorem dX0_acts_24 : decode cX0_acts 24 = .ok (.aload_n 0, 1) := dk_42 (dk_at dksX0_acts_1 0 rfl rfl)
theorem dX0_acts_25 : decode cX0_acts 25 = .ok (.getfield 12, 3) := dk_180 0 12 (dk_at dksX0_acts_1 1 rfl rfl)
theorem dX0_acts_28 : decode cX0_acts 28 = .ok (.invokevirtual 480, 3) := dk_182 1 224 (dk_at dksX0_acts_1 4 rfl rfl)
theorem dX0_acts_31 : decode cX0_acts 31 = .ok (.invokevirtual 301, 3) := dk_182 1 45 (dk_at dksX0_acts_1 7 rfl rfl)
theorem dX0_acts_34 : decode cX0_acts 34 = .ok (.return_, 1) := dk_177 (dk_at dksX0_acts_1 10 rfl rfl)
abbrev cX0_cut : ByteArray := prog_1_method_90_code
def yX0_cut : MethodName := ⟨RX0, "cut", "(I)Z"⟩
def dkwX0_cut_2 : List UInt8 := [185, 1, 178, 1, 0, 4, 172]
abbrev dktX0_cut_2 : List UInt8 := dkwX0_cut_2 ++ []
def dkwX0_cut_1 : List UInt8 := [77, 3, 62, 29, 27, 163, 0, 16, 44, 185, 0, 210, 1, 0, 87, 132, 3, 1, 167, 255, 241, 44]
abbrev dktX0_cut_1 : List UInt8 := dkwX0_cut_1 ++ dktX0_cut_2
def dkwX0_cut_0 : List UInt8 := [42, 27, 182, 1, 5, 154, 0, 5, 3, 172, 42, 182, 1, 234, 42, 180, 0, 12, 180, 0, 128, 182, 0, 200]
abbrev dktX0_cut_0 : List UInt8 := dkwX0_cut_0 ++ dktX0_cut_1
theorem dksX0_cut_0 : cX0_cut.data.toList.drop 0 = dktX0_cut_0 := by decide +kernel
theorem dksX0_cut_1 : cX0_cut.data.toList.drop 24 = dktX0_cut_1 := dk_seg dksX0_cut_0 24 rfl rfl
theorem dksX0_cut_2 : cX0_cut.data.toList.drop 46 = dktX0_cut_2 := dk_seg dksX0_cut_1 22 rfl rfl
theorem dX0_cut_0 : decode cX0_cut 0 = .ok (.aload_n 0, 1) := dk_42 (dk_at dksX0_cut_0 0 rfl rfl)
theorem dX0_cut_1 : decode cX0_cut 1 = .ok (.iload_n 1, 1) := dk_27 (dk_at dksX0_cut_0 1 rfl rfl)
theorem dX0_cut_2 : decode cX0_cut 2 = .ok (.invokevirtual 261, 3) := dk_182 1 5 (dk_at dksX0_cut_0 2 rfl rfl)
theorem dX0_cut_5 : decode cX0_cut 5 = .ok (.ifCond .ne 5, 3) := dk_154 0 5 (dk_at dksX0_cut_0 5 rfl rfl)
theorem dX0_cut_8 : decode cX0_cut 8 = .ok (.iconst 0, 1) := dk_3 (dk_at dksX0_cut_0 8 rfl rfl)
theorem dX0_cut_9 : decode cX0_cut 9 = .ok (.ireturn, 1) := dk_172 (dk_at dksX0_cut_0 9 rfl rfl)
theorem dX0_cut_10 : decode cX0_cut 10 = .ok (.aload_n 0, 1) := dk_42 (dk_at dksX0_cut_0 10 rfl rfl)
theorem dX0_cut_11 : decode cX0_cut 11 = .ok (.invokevirtual 490, 3) := dk_182 1 234 (dk_at dksX0_cut_0 11 rfl rfl)
theorem dX0_cut_14 : decode cX0_cut 14 = .ok (.aload_n 0, 1) := dk_42 (dk_at dksX0_cut_0 14 rfl rfl)
theorem dX0_cut_15 : decode cX0_cut 15 = .ok (.getfield 12, 3) := dk_180 0 12 (dk_at dksX0_cut_0 15 rfl rfl)
theorem dX0_cut_18 : decode cX0_cut 18 = .ok (.getfield 128, 3) := dk_180 0 128 (dk_at dksX0_cut_0 18 rfl rfl)
theorem dX0_cut_21 : decode cX0_cut 21 = .ok (.invokevirtual 200, 3) := dk_182 0 200 (dk_at dksX0_cut_0 21 rfl rfl)
theorem dX0_cut_24 : decode cX0_cut 24 = .ok (.astore_n 2, 1) := dk_77 (dk_at dksX0_cut_1 0 rfl rfl)
theorem dX0_cut_25 : decode cX0_cut 25 = .ok (.iconst 0, 1) := dk_3 (dk_at dksX0_cut_1 1 rfl rfl)
theorem dX0_cut_26 : decode cX0_cut 26 = .ok (.istore_n 3, 1) := dk_62 (dk_at dksX0_cut_1 2 rfl rfl)
theorem dX0_cut_27 : decode cX0_cut 27 = .ok (.iload_n 3, 1) := dk_29 (dk_at dksX0_cut_1 3 rfl rfl)
theorem dX0_cut_28 : decode cX0_cut 28 = .ok (.iload_n 1, 1) := dk_27 (dk_at dksX0_cut_1 4 rfl rfl)
theorem dX0_cut_29 : decode cX0_cut 29 = .ok (.if_icmp .gt 16, 3) := dk_163 0 16 (dk_at dksX0_cut_1 5 rfl rfl)
theorem dX0_cut_32 : decode cX0_cut 32 = .ok (.aload_n 2, 1) := dk_44 (dk_at dksX0_cut_1 8 rfl rfl)
theorem dX0_cut_33 : decode cX0_cut 33 = .ok (.invokeinterface 210 1, 5) := by decide +kernel
theorem dX0_cut_38 : decode cX0_cut 38 = .ok (.pop, 1) := dk_87 (dk_at dksX0_cut_1 14 rfl rfl)
theorem dX0_cut_39 : decode cX0_cut 39 = .ok (.iinc 3 1, 3) := dk_132 3 1 (dk_at dksX0_cut_1 15 rfl rfl)
theorem dX0_cut_42 : decode cX0_cut 42 = .ok (.goto (-15), 3) := dk_167 255 241 (dk_at dksX0_cut_1 18 rfl rfl)
theorem dX0_cut_45 : decode cX0_cut 45 = .ok (.aload_n 2, 1) := dk_44 (dk_at dksX0_cut_1 21 rfl rfl)
theorem dX0_cut_46 : decode cX0_cut 46 = .ok (.invokeinterface 434 1, 5) := by decide +kernel
theorem dX0_cut_51 : decode cX0_cut 51 = .ok (.iconst 1, 1) := dk_4 (dk_at dksX0_cut_2 5 rfl rfl)
theorem dX0_cut_52 : decode cX0_cut 52 = .ok (.ireturn, 1) := dk_172 (dk_at dksX0_cut_2 6 rfl rfl)
abbrev cX0_end : ByteArray := prog_1_method_91_code
def yX0_end : MethodName := ⟨RX0, "end", "(II)Z"⟩
def dkwX0_end_3 : List UInt8 := [3, 172, 42, 182, 1, 234, 42, 180, 0, 12, 27, 182, 0, 155, 29, 181, 0, 197, 4, 172]
abbrev dktX0_end_3 : List UInt8 := dkwX0_end_3 ++ []
def dkwX0_end_2 : List UInt8 := [182, 0, 155, 180, 0, 172, 161, 0, 18, 42, 180, 0, 12, 27, 182, 0, 155, 180, 0, 197, 29, 160, 0, 5]
abbrev dktX0_end_2 : List UInt8 := dkwX0_end_2 ++ dktX0_end_3
def dkwX0_end_1 : List UInt8 := [16, 254, 160, 0, 7, 2, 167, 0, 4, 28, 62, 29, 2, 159, 0, 18, 29, 42, 180, 0, 12, 27]
abbrev dktX0_end_1 : List UInt8 := dkwX0_end_1 ++ dktX0_end_2
def dkwX0_end_0 : List UInt8 := [42, 27, 182, 0, 228, 153, 0, 16, 28, 16, 254, 159, 0, 12, 28, 184, 1, 167, 154, 0, 5, 3, 172, 28]
abbrev dktX0_end_0 : List UInt8 := dkwX0_end_0 ++ dktX0_end_1
theorem dksX0_end_0 : cX0_end.data.toList.drop 0 = dktX0_end_0 := by decide +kernel
theorem dksX0_end_1 : cX0_end.data.toList.drop 24 = dktX0_end_1 := dk_seg dksX0_end_0 24 rfl rfl
theorem dksX0_end_2 : cX0_end.data.toList.drop 46 = dktX0_end_2 := dk_seg dksX0_end_1 22 rfl rfl
theorem dksX0_end_3 : cX0_end.data.toList.drop 70 = dktX0_end_3 := dk_seg dksX0_end_2 24 rfl rfl
theorem dX0_end_0 : decode cX0_end 0 = .ok (.aload_n 0, 1) := dk_42 (dk_at dksX0_end_0 0 rfl rfl)
theorem dX0_end_1 : decode cX0_end 1 = .ok (.iload_n 1, 1) := dk_27 (dk_at dksX0_end_0 1 rfl rfl)
theorem dX0_end_2 : decode cX0_end 2 = .ok (.invokevirtual 228, 3) := dk_182 0 228 (dk_at dksX0_end_0 2 rfl rfl)
theorem dX0_end_5 : decode cX0_end 5 = .ok (.ifCond .eq 16, 3) := dk_153 0 16 (dk_at dksX0_end_0 5 rfl rfl)
theorem dX0_end_8 : decode cX0_end 8 = .ok (.iload_n 2, 1) := dk_28 (dk_at dksX0_end_0 8 rfl rfl)
theorem dX0_end_9 : decode cX0_end 9 = .ok (.bipush (-2), 2) := dk_16 254 (dk_at dksX0_end_0 9 rfl rfl)
theorem dX0_end_11 : decode cX0_end 11 = .ok (.if_icmp .eq 12, 3) := dk_159 0 12 (dk_at dksX0_end_0 11 rfl rfl)
theorem dX0_end_14 : decode cX0_end 14 = .ok (.iload_n 2, 1) := dk_28 (dk_at dksX0_end_0 14 rfl rfl)
theorem dX0_end_15 : decode cX0_end 15 = .ok (.invokestatic 423, 3) := dk_184 1 167 (dk_at dksX0_end_0 15 rfl rfl)
theorem dX0_end_18 : decode cX0_end 18 = .ok (.ifCond .ne 5, 3) := dk_154 0 5 (dk_at dksX0_end_0 18 rfl rfl)
theorem dX0_end_21 : decode cX0_end 21 = .ok (.iconst 0, 1) := dk_3 (dk_at dksX0_end_0 21 rfl rfl)
theorem dX0_end_22 : decode cX0_end 22 = .ok (.ireturn, 1) := dk_172 (dk_at dksX0_end_0 22 rfl rfl)
theorem dX0_end_23 : decode cX0_end 23 = .ok (.iload_n 2, 1) := dk_28 (dk_at dksX0_end_0 23 rfl rfl)
theorem dX0_end_24 : decode cX0_end 24 = .ok (.bipush (-2), 2) := dk_16 254 (dk_at dksX0_end_1 0 rfl rfl)
theorem dX0_end_26 : decode cX0_end 26 = .ok (.if_icmp .ne 7, 3) := dk_160 0 7 (dk_at dksX0_end_1 2 rfl rfl)
theorem dX0_end_29 : decode cX0_end 29 = .ok (.iconst (-1), 1) := dk_2 (dk_at dksX0_end_1 5 rfl rfl)
theorem dX0_end_30 : decode cX0_end 30 = .ok (.goto 4, 3) := dk_167 0 4 (dk_at dksX0_end_1 6 rfl rfl)
theorem dX0_end_33 : decode cX0_end 33 = .ok (.iload_n 2, 1) := dk_28 (dk_at dksX0_end_1 9 rfl rfl)
theorem dX0_end_34 : decode cX0_end 34 = .ok (.istore_n 3, 1) := dk_62 (dk_at dksX0_end_1 10 rfl rfl)
theorem dX0_end_35 : decode cX0_end 35 = .ok (.iload_n 3, 1) := dk_29 (dk_at dksX0_end_1 11 rfl rfl)
theorem dX0_end_36 : decode cX0_end 36 = .ok (.iconst (-1), 1) := dk_2 (dk_at dksX0_end_1 12 rfl rfl)
theorem dX0_end_37 : decode cX0_end 37 = .ok (.if_icmp .eq 18, 3) := dk_159 0 18 (dk_at dksX0_end_1 13 rfl rfl)
theorem dX0_end_40 : decode cX0_end 40 = .ok (.iload_n 3, 1) := dk_29 (dk_at dksX0_end_1 16 rfl rfl)
theorem dX0_end_41 : decode cX0_end 41 = .ok (.aload_n 0, 1) := dk_42 (dk_at dksX0_end_1 17 rfl rfl)
theorem dX0_end_42 : decode cX0_end 42 = .ok (.getfield 12, 3) := dk_180 0 12 (dk_at dksX0_end_1 18 rfl rfl)
theorem dX0_end_45 : decode cX0_end 45 = .ok (.iload_n 1, 1) := dk_27 (dk_at dksX0_end_1 21 rfl rfl)
theorem dX0_end_46 : decode cX0_end 46 = .ok (.invokevirtual 155, 3) := dk_182 0 155 (dk_at dksX0_end_2 0 rfl rfl)
theorem dX0_end_49 : decode cX0_end 49 = .ok (.getfield 172, 3) := dk_180 0 172 (dk_at dksX0_end_2 3 rfl rfl)
theorem dX0_end_52 : decode cX0_end 52 = .ok (.if_icmp .lt 18, 3) := dk_161 0 18 (dk_at dksX0_end_2 6 rfl rfl)
theorem dX0_end_55 : decode cX0_end 55 = .ok (.aload_n 0, 1) := dk_42 (dk_at dksX0_end_2 9 rfl rfl)
theorem dX0_end_56 : decode cX0_end 56 = .ok (.getfield 12, 3) := dk_180 0 12 (dk_at dksX0_end_2 10 rfl rfl)
theorem dX0_end_59 : decode cX0_end 59 = .ok (.iload_n 1, 1) := dk_27 (dk_at dksX0_end_2 13 rfl rfl)
theorem dX0_end_60 : decode cX0_end 60 = .ok (.invokevirtual 155, 3) := dk_182 0 155 (dk_at dksX0_end_2 14 rfl rfl)
theorem dX0_end_63 : decode cX0_end 63 = .ok (.getfield 197, 3) := dk_180 0 197 (dk_at dksX0_end_2 17 rfl rfl)
theorem dX0_end_66 : decode cX0_end 66 = .ok (.iload_n 3, 1) := dk_29 (dk_at dksX0_end_2 20 rfl rfl)
theorem dX0_end_67 : decode cX0_end 67 = .ok (.if_icmp .ne 5, 3) := dk_160 0 5 (dk_at dksX0_end_2 21 rfl rfl)
theorem dX0_end_70 : decode cX0_end 70 = .ok (.iconst 0, 1) := dk_3 (dk_at dksX0_end_3 0 rfl rfl)
theorem dX0_end_71 : decode cX0_end 71 = .ok (.ireturn, 1) := dk_172 (dk_at dksX0_end_3 1 rfl rfl)
theorem dX0_end_72 : decode cX0_end 72 = .ok (.aload_n 0, 1) := dk_42 (dk_at dksX0_end_3 2 rfl rfl)
theorem dX0_end_73 : decode cX0_end 73 = .ok (.invokevirtual 490, 3) := dk_182 1 234 (dk_at dksX0_end_3 3 rfl rfl)
theorem dX0_end_76 : decode cX0_end 76 = .ok (.aload_n 0, 1) := dk_42 (dk_at dksX0_end_3 6 rfl rfl)
theorem dX0_end_77 : decode cX0_end 77 = .ok (.getfield 12, 3) := dk_180 0 12 (dk_at dksX0_end_3 7 rfl rfl)
theorem dX0_end_80 : decode cX0_end 80 = .ok (.iload_n 1, 1) := dk_27 (dk_at dksX0_end_3 10 rfl rfl)
theorem dX0_end_81 : decode cX0_end 81 = .ok (.invokevirtual 155, 3) := dk_182 0 155 (dk_at dksX0_end_3 11 rfl rfl)
theorem dX0_end_84 : decode cX0_end 84 = .ok (.iload_n 3, 1) := dk_29 (dk_at dksX0_end_3 14 rfl rfl)
theorem dX0_end_85 : decode cX0_end 85 = .ok (.putfield 197, 3) := dk_181 0 197 (dk_at dksX0_end_3 15 rfl rfl)
theorem dX0_end_88 : decode cX0_end 88 = .ok (.iconst 1, 1) := dk_4 (dk_at dksX0_end_3 18 rfl rfl)
theorem dX0_end_89 : decode cX0_end 89 = .ok (.ireturn, 1) := dk_172 (dk_at dksX0_end_3 19 rfl rfl)
abbrev cX0_add : ByteArray := prog_1_method_92_code
def yX0_add : MethodName := ⟨RX0, "add", "(III)I"⟩
def dkwX0_add_4 : List UInt8 := [182, 1, 75, 184, 1, 161, 172]
abbrev dktX0_add_4 : List UInt8 := dkwX0_add_4 ++ []
def dkwX0_add_3 : List UInt8 := [182, 1, 234, 42, 180, 0, 12, 27, 182, 0, 155, 58, 4, 25, 4, 28, 29, 182, 1, 242, 25, 4]
abbrev dktX0_add_3 : List UInt8 := dkwX0_add_3 ++ dktX0_add_4
def dkwX0_add_2 : List UInt8 := [16, 254, 172, 42, 180, 0, 12, 27, 182, 0, 155, 182, 1, 75, 29, 126, 153, 0, 6, 16, 253, 172, 42]
abbrev dktX0_add_2 : List UInt8 := dkwX0_add_2 ++ dktX0_add_3
def dkwX0_add_1 : List UInt8 := [2, 130, 126, 153, 0, 5, 2, 172, 28, 42, 180, 0, 12, 27, 182, 0, 155, 180, 0, 172, 163, 0, 6]
abbrev dktX0_add_1 : List UInt8 := dkwX0_add_1 ++ dktX0_add_2
def dkwX0_add_0 : List UInt8 := [42, 27, 182, 0, 228, 153, 0, 25, 28, 184, 1, 167, 153, 0, 18, 29, 153, 0, 14, 29, 42, 182, 1, 239]
abbrev dktX0_add_0 : List UInt8 := dkwX0_add_0 ++ dktX0_add_1
theorem dksX0_add_0 : cX0_add.data.toList.drop 0 = dktX0_add_0 := by decide +kernel
theorem dksX0_add_1 : cX0_add.data.toList.drop 24 = dktX0_add_1 := dk_seg dksX0_add_0 24 rfl rfl
theorem dksX0_add_2 : cX0_add.data.toList.drop 47 = dktX0_add_2 := dk_seg dksX0_add_1 23 rfl rfl
theorem dksX0_add_3 : cX0_add.data.toList.drop 70 = dktX0_add_3 := dk_seg dksX0_add_2 23 rfl rfl
theorem dksX0_add_4 : cX0_add.data.toList.drop 92 = dktX0_add_4 := dk_seg dksX0_add_3 22 rfl rfl
theorem dX0_add_0 : decode cX0_add 0 = .ok (.aload_n 0, 1) := dk_42 (dk_at dksX0_add_0 0 rfl rfl)
theorem dX0_add_1 : decode cX0_add 1 = .ok (.iload_n 1, 1) := dk_27 (dk_at dksX0_add_0 1 rfl rfl)
theorem dX0_add_2 : decode cX0_add 2 = .ok (.invokevirtual 228, 3) := dk_182 0 228 (dk_at dksX0_add_0 2 rfl rfl)
theorem dX0_add_5 : decode cX0_add 5 = .ok (.ifCond .eq 25, 3) := dk_153 0 25 (dk_at dksX0_add_0 5 rfl rfl)
theorem dX0_add_8 : decode cX0_add 8 = .ok (.iload_n 2, 1) := dk_28 (dk_at dksX0_add_0 8 rfl rfl)
theorem dX0_add_9 : decode cX0_add 9 = .ok (.invokestatic 423, 3) := dk_184 1 167 (dk_at dksX0_add_0 9 rfl rfl)
theorem dX0_add_12 : decode cX0_add 12 = .ok (.ifCond .eq 18, 3) := dk_153 0 18 (dk_at dksX0_add_0 12 rfl rfl)
theorem dX0_add_15 : decode cX0_add 15 = .ok (.iload_n 3, 1) := dk_29 (dk_at dksX0_add_0 15 rfl rfl)
theorem dX0_add_16 : decode cX0_add 16 = .ok (.ifCond .eq 14, 3) := dk_153 0 14 (dk_at dksX0_add_0 16 rfl rfl)
theorem dX0_add_19 : decode cX0_add 19 = .ok (.iload_n 3, 1) := dk_29 (dk_at dksX0_add_0 19 rfl rfl)
theorem dX0_add_20 : decode cX0_add 20 = .ok (.aload_n 0, 1) := dk_42 (dk_at dksX0_add_0 20 rfl rfl)
theorem dX0_add_21 : decode cX0_add 21 = .ok (.invokevirtual 495, 3) := dk_182 1 239 (dk_at dksX0_add_0 21 rfl rfl)
theorem dX0_add_24 : decode cX0_add 24 = .ok (.iconst (-1), 1) := dk_2 (dk_at dksX0_add_1 0 rfl rfl)
theorem dX0_add_25 : decode cX0_add 25 = .ok (.ixor, 1) := dk_130 (dk_at dksX0_add_1 1 rfl rfl)
theorem dX0_add_26 : decode cX0_add 26 = .ok (.iand, 1) := dk_126 (dk_at dksX0_add_1 2 rfl rfl)
theorem dX0_add_27 : decode cX0_add 27 = .ok (.ifCond .eq 5, 3) := dk_153 0 5 (dk_at dksX0_add_1 3 rfl rfl)
theorem dX0_add_30 : decode cX0_add 30 = .ok (.iconst (-1), 1) := dk_2 (dk_at dksX0_add_1 6 rfl rfl)
theorem dX0_add_31 : decode cX0_add 31 = .ok (.ireturn, 1) := dk_172 (dk_at dksX0_add_1 7 rfl rfl)
theorem dX0_add_32 : decode cX0_add 32 = .ok (.iload_n 2, 1) := dk_28 (dk_at dksX0_add_1 8 rfl rfl)
theorem dX0_add_33 : decode cX0_add 33 = .ok (.aload_n 0, 1) := dk_42 (dk_at dksX0_add_1 9 rfl rfl)
theorem dX0_add_34 : decode cX0_add 34 = .ok (.getfield 12, 3) := dk_180 0 12 (dk_at dksX0_add_1 10 rfl rfl)
theorem dX0_add_37 : decode cX0_add 37 = .ok (.iload_n 1, 1) := dk_27 (dk_at dksX0_add_1 13 rfl rfl)
theorem dX0_add_38 : decode cX0_add 38 = .ok (.invokevirtual 155, 3) := dk_182 0 155 (dk_at dksX0_add_1 14 rfl rfl)
theorem dX0_add_41 : decode cX0_add 41 = .ok (.getfield 172, 3) := dk_180 0 172 (dk_at dksX0_add_1 17 rfl rfl)
theorem dX0_add_44 : decode cX0_add 44 = .ok (.if_icmp .gt 6, 3) := dk_163 0 6 (dk_at dksX0_add_1 20 rfl rfl)
theorem dX0_add_47 : decode cX0_add 47 = .ok (.bipush (-2), 2) := dk_16 254 (dk_at dksX0_add_2 0 rfl rfl)
theorem dX0_add_49 : decode cX0_add 49 = .ok (.ireturn, 1) := dk_172 (dk_at dksX0_add_2 2 rfl rfl)
theorem dX0_add_50 : decode cX0_add 50 = .ok (.aload_n 0, 1) := dk_42 (dk_at dksX0_add_2 3 rfl rfl)
theorem dX0_add_51 : decode cX0_add 51 = .ok (.getfield 12, 3) := dk_180 0 12 (dk_at dksX0_add_2 4 rfl rfl)
theorem dX0_add_54 : decode cX0_add 54 = .ok (.iload_n 1, 1) := dk_27 (dk_at dksX0_add_2 7 rfl rfl)
theorem dX0_add_55 : decode cX0_add 55 = .ok (.invokevirtual 155, 3) := dk_182 0 155 (dk_at dksX0_add_2 8 rfl rfl)
theorem dX0_add_58 : decode cX0_add 58 = .ok (.invokevirtual 331, 3) := dk_182 1 75 (dk_at dksX0_add_2 11 rfl rfl)
theorem dX0_add_61 : decode cX0_add 61 = .ok (.iload_n 3, 1) := dk_29 (dk_at dksX0_add_2 14 rfl rfl)
theorem dX0_add_62 : decode cX0_add 62 = .ok (.iand, 1) := dk_126 (dk_at dksX0_add_2 15 rfl rfl)
theorem dX0_add_63 : decode cX0_add 63 = .ok (.ifCond .eq 6, 3) := dk_153 0 6 (dk_at dksX0_add_2 16 rfl rfl)
theorem dX0_add_66 : decode cX0_add 66 = .ok (.bipush (-3), 2) := dk_16 253 (dk_at dksX0_add_2 19 rfl rfl)
theorem dX0_add_68 : decode cX0_add 68 = .ok (.ireturn, 1) := dk_172 (dk_at dksX0_add_2 21 rfl rfl)
theorem dX0_add_69 : decode cX0_add 69 = .ok (.aload_n 0, 1) := dk_42 (dk_at dksX0_add_2 22 rfl rfl)
theorem dX0_add_70 : decode cX0_add 70 = .ok (.invokevirtual 490, 3) := dk_182 1 234 (dk_at dksX0_add_3 0 rfl rfl)
theorem dX0_add_73 : decode cX0_add 73 = .ok (.aload_n 0, 1) := dk_42 (dk_at dksX0_add_3 3 rfl rfl)
theorem dX0_add_74 : decode cX0_add 74 = .ok (.getfield 12, 3) := dk_180 0 12 (dk_at dksX0_add_3 4 rfl rfl)
theorem dX0_add_77 : decode cX0_add 77 = .ok (.iload_n 1, 1) := dk_27 (dk_at dksX0_add_3 7 rfl rfl)
theorem dX0_add_78 : decode cX0_add 78 = .ok (.invokevirtual 155, 3) := dk_182 0 155 (dk_at dksX0_add_3 8 rfl rfl)
theorem dX0_add_81 : decode cX0_add 81 = .ok (.astore 4, 2) := dk_58 4 (dk_at dksX0_add_3 11 rfl rfl)
theorem dX0_add_83 : decode cX0_add 83 = .ok (.aload 4, 2) := dk_25 4 (dk_at dksX0_add_3 13 rfl rfl)
theorem dX0_add_85 : decode cX0_add 85 = .ok (.iload_n 2, 1) := dk_28 (dk_at dksX0_add_3 15 rfl rfl)
theorem dX0_add_86 : decode cX0_add 86 = .ok (.iload_n 3, 1) := dk_29 (dk_at dksX0_add_3 16 rfl rfl)
theorem dX0_add_87 : decode cX0_add 87 = .ok (.invokevirtual 498, 3) := dk_182 1 242 (dk_at dksX0_add_3 17 rfl rfl)
theorem dX0_add_90 : decode cX0_add 90 = .ok (.aload 4, 2) := dk_25 4 (dk_at dksX0_add_3 20 rfl rfl)
theorem dX0_add_92 : decode cX0_add 92 = .ok (.invokevirtual 331, 3) := dk_182 1 75 (dk_at dksX0_add_4 0 rfl rfl)
theorem dX0_add_95 : decode cX0_add 95 = .ok (.invokestatic 417, 3) := dk_184 1 161 (dk_at dksX0_add_4 3 rfl rfl)
theorem dX0_add_98 : decode cX0_add 98 = .ok (.ireturn, 1) := dk_172 (dk_at dksX0_add_4 6 rfl rfl)
abbrev cX0_partMask : ByteArray := prog_1_method_18_code
def yX0_partMask : MethodName := ⟨RX0, "partMask", "()I"⟩
def dkwX0_partMask_0 : List UInt8 := [4, 42, 180, 0, 29, 185, 0, 127, 1, 0, 120, 4, 100, 172]
abbrev dktX0_partMask_0 : List UInt8 := dkwX0_partMask_0 ++ []
theorem dksX0_partMask_0 : cX0_partMask.data.toList.drop 0 = dktX0_partMask_0 := by decide +kernel
theorem dX0_partMask_0 : decode cX0_partMask 0 = .ok (.iconst 1, 1) := dk_4 (dk_at dksX0_partMask_0 0 rfl rfl)
theorem dX0_partMask_1 : decode cX0_partMask 1 = .ok (.aload_n 0, 1) := dk_42 (dk_at dksX0_partMask_0 1 rfl rfl)
theorem dX0_partMask_2 : decode cX0_partMask 2 = .ok (.getfield 29, 3) := dk_180 0 29 (dk_at dksX0_partMask_0 2 rfl rfl)
theorem dX0_partMask_5 : decode cX0_partMask 5 = .ok (.invokeinterface 127 1, 5) := by decide +kernel
theorem dX0_partMask_10 : decode cX0_partMask 10 = .ok (.ishl, 1) := dk_120 (dk_at dksX0_partMask_0 10 rfl rfl)
theorem dX0_partMask_11 : decode cX0_partMask 11 = .ok (.iconst 1, 1) := dk_4 (dk_at dksX0_partMask_0 11 rfl rfl)
theorem dX0_partMask_12 : decode cX0_partMask 12 = .ok (.isub, 1) := dk_100 (dk_at dksX0_partMask_0 12 rfl rfl)
theorem dX0_partMask_13 : decode cX0_partMask 13 = .ok (.ireturn, 1) := dk_172 (dk_at dksX0_partMask_0 13 rfl rfl)
abbrev cX0_show : ByteArray := prog_1_method_93_code
def yX0_show : MethodName := ⟨RX0, "show", "(III)I"⟩
def dkwX0_show_3 : List UInt8 := [182, 1, 65, 87, 42, 180, 0, 12, 180, 0, 138, 182, 0, 118, 4, 100, 172]
abbrev dktX0_show_3 : List UInt8 := dkwX0_show_3 ++ []
def dkwX0_show_2 : List UInt8 := [16, 254, 172, 42, 182, 1, 234, 42, 180, 0, 12, 180, 0, 138, 187, 1, 114, 89, 27, 28, 29, 183, 1, 246]
abbrev dktX0_show_2 : List UInt8 := dkwX0_show_2 ++ dktX0_show_3
def dkwX0_show_1 : List UInt8 := [2, 130, 126, 153, 0, 5, 2, 172, 42, 180, 0, 12, 180, 0, 138, 182, 0, 118, 16, 14, 160, 0, 6]
abbrev dktX0_show_1 : List UInt8 := dkwX0_show_1 ++ dktX0_show_2
def dkwX0_show_0 : List UInt8 := [42, 27, 182, 1, 164, 153, 0, 25, 28, 184, 1, 167, 153, 0, 18, 29, 153, 0, 14, 29, 42, 182, 1, 239]
abbrev dktX0_show_0 : List UInt8 := dkwX0_show_0 ++ dktX0_show_1
theorem dksX0_show_0 : cX0_show.data.toList.drop 0 = dktX0_show_0 := by decide +kernel
theorem dksX0_show_1 : cX0_show.data.toList.drop 24 = dktX0_show_1 := dk_seg dksX0_show_0 24 rfl rfl
theorem dksX0_show_2 : cX0_show.data.toList.drop 47 = dktX0_show_2 := dk_seg dksX0_show_1 23 rfl rfl
theorem dksX0_show_3 : cX0_show.data.toList.drop 71 = dktX0_show_3 := dk_seg dksX0_show_2 24 rfl rfl
theorem dX0_show_0 : decode cX0_show 0 = .ok (.aload_n 0, 1) := dk_42 (dk_at dksX0_show_0 0 rfl rfl)
theorem dX0_show_1 : decode cX0_show 1 = .ok (.iload_n 1, 1) := dk_27 (dk_at dksX0_show_0 1 rfl rfl)
theorem dX0_show_2 : decode cX0_show 2 = .ok (.invokevirtual 420, 3) := dk_182 1 164 (dk_at dksX0_show_0 2 rfl rfl)
theorem dX0_show_5 : decode cX0_show 5 = .ok (.ifCond .eq 25, 3) := dk_153 0 25 (dk_at dksX0_show_0 5 rfl rfl)
theorem dX0_show_8 : decode cX0_show 8 = .ok (.iload_n 2, 1) := dk_28 (dk_at dksX0_show_0 8 rfl rfl)
theorem dX0_show_9 : decode cX0_show 9 = .ok (.invokestatic 423, 3) := dk_184 1 167 (dk_at dksX0_show_0 9 rfl rfl)
theorem dX0_show_12 : decode cX0_show 12 = .ok (.ifCond .eq 18, 3) := dk_153 0 18 (dk_at dksX0_show_0 12 rfl rfl)
theorem dX0_show_15 : decode cX0_show 15 = .ok (.iload_n 3, 1) := dk_29 (dk_at dksX0_show_0 15 rfl rfl)
theorem dX0_show_16 : decode cX0_show 16 = .ok (.ifCond .eq 14, 3) := dk_153 0 14 (dk_at dksX0_show_0 16 rfl rfl)
theorem dX0_show_19 : decode cX0_show 19 = .ok (.iload_n 3, 1) := dk_29 (dk_at dksX0_show_0 19 rfl rfl)
theorem dX0_show_20 : decode cX0_show 20 = .ok (.aload_n 0, 1) := dk_42 (dk_at dksX0_show_0 20 rfl rfl)
theorem dX0_show_21 : decode cX0_show 21 = .ok (.invokevirtual 495, 3) := dk_182 1 239 (dk_at dksX0_show_0 21 rfl rfl)
theorem dX0_show_24 : decode cX0_show 24 = .ok (.iconst (-1), 1) := dk_2 (dk_at dksX0_show_1 0 rfl rfl)
theorem dX0_show_25 : decode cX0_show 25 = .ok (.ixor, 1) := dk_130 (dk_at dksX0_show_1 1 rfl rfl)
theorem dX0_show_26 : decode cX0_show 26 = .ok (.iand, 1) := dk_126 (dk_at dksX0_show_1 2 rfl rfl)
theorem dX0_show_27 : decode cX0_show 27 = .ok (.ifCond .eq 5, 3) := dk_153 0 5 (dk_at dksX0_show_1 3 rfl rfl)
theorem dX0_show_30 : decode cX0_show 30 = .ok (.iconst (-1), 1) := dk_2 (dk_at dksX0_show_1 6 rfl rfl)
theorem dX0_show_31 : decode cX0_show 31 = .ok (.ireturn, 1) := dk_172 (dk_at dksX0_show_1 7 rfl rfl)
theorem dX0_show_32 : decode cX0_show 32 = .ok (.aload_n 0, 1) := dk_42 (dk_at dksX0_show_1 8 rfl rfl)
theorem dX0_show_33 : decode cX0_show 33 = .ok (.getfield 12, 3) := dk_180 0 12 (dk_at dksX0_show_1 9 rfl rfl)
theorem dX0_show_36 : decode cX0_show 36 = .ok (.getfield 138, 3) := dk_180 0 138 (dk_at dksX0_show_1 12 rfl rfl)
theorem dX0_show_39 : decode cX0_show 39 = .ok (.invokevirtual 118, 3) := dk_182 0 118 (dk_at dksX0_show_1 15 rfl rfl)
theorem dX0_show_42 : decode cX0_show 42 = .ok (.bipush 14, 2) := dk_16 14 (dk_at dksX0_show_1 18 rfl rfl)
theorem dX0_show_44 : decode cX0_show 44 = .ok (.if_icmp .ne 6, 3) := dk_160 0 6 (dk_at dksX0_show_1 20 rfl rfl)
theorem dX0_show_47 : decode cX0_show 47 = .ok (.bipush (-2), 2) := dk_16 254 (dk_at dksX0_show_2 0 rfl rfl)
theorem dX0_show_49 : decode cX0_show 49 = .ok (.ireturn, 1) := dk_172 (dk_at dksX0_show_2 2 rfl rfl)
theorem dX0_show_50 : decode cX0_show 50 = .ok (.aload_n 0, 1) := dk_42 (dk_at dksX0_show_2 3 rfl rfl)
theorem dX0_show_51 : decode cX0_show 51 = .ok (.invokevirtual 490, 3) := dk_182 1 234 (dk_at dksX0_show_2 4 rfl rfl)
theorem dX0_show_54 : decode cX0_show 54 = .ok (.aload_n 0, 1) := dk_42 (dk_at dksX0_show_2 7 rfl rfl)
theorem dX0_show_55 : decode cX0_show 55 = .ok (.getfield 12, 3) := dk_180 0 12 (dk_at dksX0_show_2 8 rfl rfl)
theorem dX0_show_58 : decode cX0_show 58 = .ok (.getfield 138, 3) := dk_180 0 138 (dk_at dksX0_show_2 11 rfl rfl)
theorem dX0_show_61 : decode cX0_show 61 = .ok (.new 370, 3) := dk_187 1 114 (dk_at dksX0_show_2 14 rfl rfl)
theorem dX0_show_64 : decode cX0_show 64 = .ok (.dup, 1) := dk_89 (dk_at dksX0_show_2 17 rfl rfl)
theorem dX0_show_65 : decode cX0_show 65 = .ok (.iload_n 1, 1) := dk_27 (dk_at dksX0_show_2 18 rfl rfl)
theorem dX0_show_66 : decode cX0_show 66 = .ok (.iload_n 2, 1) := dk_28 (dk_at dksX0_show_2 19 rfl rfl)
theorem dX0_show_67 : decode cX0_show 67 = .ok (.iload_n 3, 1) := dk_29 (dk_at dksX0_show_2 20 rfl rfl)
theorem dX0_show_68 : decode cX0_show 68 = .ok (.invokespecial 502, 3) := dk_183 1 246 (dk_at dksX0_show_2 21 rfl rfl)
theorem dX0_show_71 : decode cX0_show 71 = .ok (.invokevirtual 321, 3) := dk_182 1 65 (dk_at dksX0_show_3 0 rfl rfl)
theorem dX0_show_74 : decode cX0_show 74 = .ok (.pop, 1) := dk_87 (dk_at dksX0_show_3 3 rfl rfl)
theorem dX0_show_75 : decode cX0_show 75 = .ok (.aload_n 0, 1) := dk_42 (dk_at dksX0_show_3 4 rfl rfl)
theorem dX0_show_76 : decode cX0_show 76 = .ok (.getfield 12, 3) := dk_180 0 12 (dk_at dksX0_show_3 5 rfl rfl)
theorem dX0_show_79 : decode cX0_show 79 = .ok (.getfield 138, 3) := dk_180 0 138 (dk_at dksX0_show_3 8 rfl rfl)
theorem dX0_show_82 : decode cX0_show 82 = .ok (.invokevirtual 118, 3) := dk_182 0 118 (dk_at dksX0_show_3 11 rfl rfl)
theorem dX0_show_85 : decode cX0_show 85 = .ok (.iconst 1, 1) := dk_4 (dk_at dksX0_show_3 14 rfl rfl)
theorem dX0_show_86 : decode cX0_show 86 = .ok (.isub, 1) := dk_100 (dk_at dksX0_show_3 15 rfl rfl)
theorem dX0_show_87 : decode cX0_show 87 = .ok (.ireturn, 1) := dk_172 (dk_at dksX0_show_3 16 rfl rfl)
abbrev cX0_move : ByteArray := prog_1_method_94_code
def yX0_move : MethodName := ⟨RX0, "move", "(II)I"⟩
def dkwX0_move_3 : List UInt8 := [182, 0, 155, 28, 181, 0, 172, 29, 172]
abbrev dktX0_move_3 : List UInt8 := dkwX0_move_3 ++ []
def dkwX0_move_2 : List UInt8 := [16, 254, 172, 42, 182, 1, 234, 42, 180, 0, 12, 27, 182, 0, 155, 180, 0, 172, 62, 42, 180, 0, 12, 27]
abbrev dktX0_move_2 : List UInt8 := dkwX0_move_2 ++ dktX0_move_3
def dkwX0_move_1 : List UInt8 := [180, 0, 172, 28, 160, 0, 5, 2, 172, 42, 180, 0, 12, 27, 182, 0, 155, 28, 182, 0, 182, 154, 0, 6]
abbrev dktX0_move_1 : List UInt8 := dkwX0_move_1 ++ dktX0_move_2
def dkwX0_move_0 : List UInt8 := [42, 27, 182, 0, 228, 153, 0, 25, 28, 184, 1, 167, 153, 0, 18, 42, 180, 0, 12, 27, 182, 0, 155]
abbrev dktX0_move_0 : List UInt8 := dkwX0_move_0 ++ dktX0_move_1
theorem dksX0_move_0 : cX0_move.data.toList.drop 0 = dktX0_move_0 := by decide +kernel
theorem dksX0_move_1 : cX0_move.data.toList.drop 23 = dktX0_move_1 := dk_seg dksX0_move_0 23 rfl rfl
theorem dksX0_move_2 : cX0_move.data.toList.drop 47 = dktX0_move_2 := dk_seg dksX0_move_1 24 rfl rfl
theorem dksX0_move_3 : cX0_move.data.toList.drop 71 = dktX0_move_3 := dk_seg dksX0_move_2 24 rfl rfl
theorem dX0_move_0 : decode cX0_move 0 = .ok (.aload_n 0, 1) := dk_42 (dk_at dksX0_move_0 0 rfl rfl)
theorem dX0_move_1 : decode cX0_move 1 = .ok (.iload_n 1, 1) := dk_27 (dk_at dksX0_move_0 1 rfl rfl)
theorem dX0_move_2 : decode cX0_move 2 = .ok (.invokevirtual 228, 3) := dk_182 0 228 (dk_at dksX0_move_0 2 rfl rfl)
theorem dX0_move_5 : decode cX0_move 5 = .ok (.ifCond .eq 25, 3) := dk_153 0 25 (dk_at dksX0_move_0 5 rfl rfl)
theorem dX0_move_8 : decode cX0_move 8 = .ok (.iload_n 2, 1) := dk_28 (dk_at dksX0_move_0 8 rfl rfl)
theorem dX0_move_9 : decode cX0_move 9 = .ok (.invokestatic 423, 3) := dk_184 1 167 (dk_at dksX0_move_0 9 rfl rfl)
theorem dX0_move_12 : decode cX0_move 12 = .ok (.ifCond .eq 18, 3) := dk_153 0 18 (dk_at dksX0_move_0 12 rfl rfl)
theorem dX0_move_15 : decode cX0_move 15 = .ok (.aload_n 0, 1) := dk_42 (dk_at dksX0_move_0 15 rfl rfl)
theorem dX0_move_16 : decode cX0_move 16 = .ok (.getfield 12, 3) := dk_180 0 12 (dk_at dksX0_move_0 16 rfl rfl)
theorem dX0_move_19 : decode cX0_move 19 = .ok (.iload_n 1, 1) := dk_27 (dk_at dksX0_move_0 19 rfl rfl)
theorem dX0_move_20 : decode cX0_move 20 = .ok (.invokevirtual 155, 3) := dk_182 0 155 (dk_at dksX0_move_0 20 rfl rfl)
theorem dX0_move_23 : decode cX0_move 23 = .ok (.getfield 172, 3) := dk_180 0 172 (dk_at dksX0_move_1 0 rfl rfl)
theorem dX0_move_26 : decode cX0_move 26 = .ok (.iload_n 2, 1) := dk_28 (dk_at dksX0_move_1 3 rfl rfl)
theorem dX0_move_27 : decode cX0_move 27 = .ok (.if_icmp .ne 5, 3) := dk_160 0 5 (dk_at dksX0_move_1 4 rfl rfl)
theorem dX0_move_30 : decode cX0_move 30 = .ok (.iconst (-1), 1) := dk_2 (dk_at dksX0_move_1 7 rfl rfl)
theorem dX0_move_31 : decode cX0_move 31 = .ok (.ireturn, 1) := dk_172 (dk_at dksX0_move_1 8 rfl rfl)
theorem dX0_move_32 : decode cX0_move 32 = .ok (.aload_n 0, 1) := dk_42 (dk_at dksX0_move_1 9 rfl rfl)
theorem dX0_move_33 : decode cX0_move 33 = .ok (.getfield 12, 3) := dk_180 0 12 (dk_at dksX0_move_1 10 rfl rfl)
theorem dX0_move_36 : decode cX0_move 36 = .ok (.iload_n 1, 1) := dk_27 (dk_at dksX0_move_1 13 rfl rfl)
theorem dX0_move_37 : decode cX0_move 37 = .ok (.invokevirtual 155, 3) := dk_182 0 155 (dk_at dksX0_move_1 14 rfl rfl)
theorem dX0_move_40 : decode cX0_move 40 = .ok (.iload_n 2, 1) := dk_28 (dk_at dksX0_move_1 17 rfl rfl)
theorem dX0_move_41 : decode cX0_move 41 = .ok (.invokevirtual 182, 3) := dk_182 0 182 (dk_at dksX0_move_1 18 rfl rfl)
theorem dX0_move_44 : decode cX0_move 44 = .ok (.ifCond .ne 6, 3) := dk_154 0 6 (dk_at dksX0_move_1 21 rfl rfl)
theorem dX0_move_47 : decode cX0_move 47 = .ok (.bipush (-2), 2) := dk_16 254 (dk_at dksX0_move_2 0 rfl rfl)
theorem dX0_move_49 : decode cX0_move 49 = .ok (.ireturn, 1) := dk_172 (dk_at dksX0_move_2 2 rfl rfl)
theorem dX0_move_50 : decode cX0_move 50 = .ok (.aload_n 0, 1) := dk_42 (dk_at dksX0_move_2 3 rfl rfl)
theorem dX0_move_51 : decode cX0_move 51 = .ok (.invokevirtual 490, 3) := dk_182 1 234 (dk_at dksX0_move_2 4 rfl rfl)
theorem dX0_move_54 : decode cX0_move 54 = .ok (.aload_n 0, 1) := dk_42 (dk_at dksX0_move_2 7 rfl rfl)
theorem dX0_move_55 : decode cX0_move 55 = .ok (.getfield 12, 3) := dk_180 0 12 (dk_at dksX0_move_2 8 rfl rfl)
theorem dX0_move_58 : decode cX0_move 58 = .ok (.iload_n 1, 1) := dk_27 (dk_at dksX0_move_2 11 rfl rfl)
theorem dX0_move_59 : decode cX0_move 59 = .ok (.invokevirtual 155, 3) := dk_182 0 155 (dk_at dksX0_move_2 12 rfl rfl)
theorem dX0_move_62 : decode cX0_move 62 = .ok (.getfield 172, 3) := dk_180 0 172 (dk_at dksX0_move_2 15 rfl rfl)
theorem dX0_move_65 : decode cX0_move 65 = .ok (.istore_n 3, 1) := dk_62 (dk_at dksX0_move_2 18 rfl rfl)
theorem dX0_move_66 : decode cX0_move 66 = .ok (.aload_n 0, 1) := dk_42 (dk_at dksX0_move_2 19 rfl rfl)
theorem dX0_move_67 : decode cX0_move 67 = .ok (.getfield 12, 3) := dk_180 0 12 (dk_at dksX0_move_2 20 rfl rfl)
theorem dX0_move_70 : decode cX0_move 70 = .ok (.iload_n 1, 1) := dk_27 (dk_at dksX0_move_2 23 rfl rfl)
theorem dX0_move_71 : decode cX0_move 71 = .ok (.invokevirtual 155, 3) := dk_182 0 155 (dk_at dksX0_move_3 0 rfl rfl)
theorem dX0_move_74 : decode cX0_move 74 = .ok (.iload_n 2, 1) := dk_28 (dk_at dksX0_move_3 3 rfl rfl)
theorem dX0_move_75 : decode cX0_move 75 = .ok (.putfield 172, 3) := dk_181 0 172 (dk_at dksX0_move_3 4 rfl rfl)
theorem dX0_move_78 : decode cX0_move 78 = .ok (.iload_n 3, 1) := dk_29 (dk_at dksX0_move_3 7 rfl rfl)
theorem dX0_move_79 : decode cX0_move 79 = .ok (.ireturn, 1) := dk_172 (dk_at dksX0_move_3 8 rfl rfl)
abbrev cX0_rule : ByteArray := prog_1_method_95_code
def yX0_rule : MethodName := ⟨RX0, "rule", "(II)I"⟩
def dkwX0_rule_2 : List UInt8 := [180, 0, 178, 27, 28, 79, 29, 172]
abbrev dktX0_rule_2 : List UInt8 := dkwX0_rule_2 ++ []
def dkwX0_rule_1 : List UInt8 := [28, 160, 0, 5, 2, 172, 42, 182, 1, 234, 42, 180, 0, 12, 180, 0, 178, 27, 46, 62, 42, 180, 0, 12]
abbrev dktX0_rule_1 : List UInt8 := dkwX0_rule_1 ++ dktX0_rule_2
def dkwX0_rule_0 : List UInt8 := [27, 7, 184, 0, 124, 153, 0, 23, 28, 184, 1, 167, 153, 0, 16, 42, 180, 0, 12, 180, 0, 178, 27, 46]
abbrev dktX0_rule_0 : List UInt8 := dkwX0_rule_0 ++ dktX0_rule_1
theorem dksX0_rule_0 : cX0_rule.data.toList.drop 0 = dktX0_rule_0 := by decide +kernel
theorem dksX0_rule_1 : cX0_rule.data.toList.drop 24 = dktX0_rule_1 := dk_seg dksX0_rule_0 24 rfl rfl
theorem dksX0_rule_2 : cX0_rule.data.toList.drop 48 = dktX0_rule_2 := dk_seg dksX0_rule_1 24 rfl rfl
theorem dX0_rule_0 : decode cX0_rule 0 = .ok (.iload_n 1, 1) := dk_27 (dk_at dksX0_rule_0 0 rfl rfl)
theorem dX0_rule_1 : decode cX0_rule 1 = .ok (.iconst 4, 1) := dk_7 (dk_at dksX0_rule_0 1 rfl rfl)
theorem dX0_rule_2 : decode cX0_rule 2 = .ok (.invokestatic 124, 3) := dk_184 0 124 (dk_at dksX0_rule_0 2 rfl rfl)
theorem dX0_rule_5 : decode cX0_rule 5 = .ok (.ifCond .eq 23, 3) := dk_153 0 23 (dk_at dksX0_rule_0 5 rfl rfl)
theorem dX0_rule_8 : decode cX0_rule 8 = .ok (.iload_n 2, 1) := dk_28 (dk_at dksX0_rule_0 8 rfl rfl)
theorem dX0_rule_9 : decode cX0_rule 9 = .ok (.invokestatic 423, 3) := dk_184 1 167 (dk_at dksX0_rule_0 9 rfl rfl)
theorem dX0_rule_12 : decode cX0_rule 12 = .ok (.ifCond .eq 16, 3) := dk_153 0 16 (dk_at dksX0_rule_0 12 rfl rfl)
theorem dX0_rule_15 : decode cX0_rule 15 = .ok (.aload_n 0, 1) := dk_42 (dk_at dksX0_rule_0 15 rfl rfl)
theorem dX0_rule_16 : decode cX0_rule 16 = .ok (.getfield 12, 3) := dk_180 0 12 (dk_at dksX0_rule_0 16 rfl rfl)
theorem dX0_rule_19 : decode cX0_rule 19 = .ok (.getfield 178, 3) := dk_180 0 178 (dk_at dksX0_rule_0 19 rfl rfl)
theorem dX0_rule_22 : decode cX0_rule 22 = .ok (.iload_n 1, 1) := dk_27 (dk_at dksX0_rule_0 22 rfl rfl)
theorem dX0_rule_23 : decode cX0_rule 23 = .ok (.iaload, 1) := dk_46 (dk_at dksX0_rule_0 23 rfl rfl)
theorem dX0_rule_24 : decode cX0_rule 24 = .ok (.iload_n 2, 1) := dk_28 (dk_at dksX0_rule_1 0 rfl rfl)
theorem dX0_rule_25 : decode cX0_rule 25 = .ok (.if_icmp .ne 5, 3) := dk_160 0 5 (dk_at dksX0_rule_1 1 rfl rfl)
theorem dX0_rule_28 : decode cX0_rule 28 = .ok (.iconst (-1), 1) := dk_2 (dk_at dksX0_rule_1 4 rfl rfl)
theorem dX0_rule_29 : decode cX0_rule 29 = .ok (.ireturn, 1) := dk_172 (dk_at dksX0_rule_1 5 rfl rfl)
theorem dX0_rule_30 : decode cX0_rule 30 = .ok (.aload_n 0, 1) := dk_42 (dk_at dksX0_rule_1 6 rfl rfl)
theorem dX0_rule_31 : decode cX0_rule 31 = .ok (.invokevirtual 490, 3) := dk_182 1 234 (dk_at dksX0_rule_1 7 rfl rfl)
theorem dX0_rule_34 : decode cX0_rule 34 = .ok (.aload_n 0, 1) := dk_42 (dk_at dksX0_rule_1 10 rfl rfl)
theorem dX0_rule_35 : decode cX0_rule 35 = .ok (.getfield 12, 3) := dk_180 0 12 (dk_at dksX0_rule_1 11 rfl rfl)
theorem dX0_rule_38 : decode cX0_rule 38 = .ok (.getfield 178, 3) := dk_180 0 178 (dk_at dksX0_rule_1 14 rfl rfl)
theorem dX0_rule_41 : decode cX0_rule 41 = .ok (.iload_n 1, 1) := dk_27 (dk_at dksX0_rule_1 17 rfl rfl)
theorem dX0_rule_42 : decode cX0_rule 42 = .ok (.iaload, 1) := dk_46 (dk_at dksX0_rule_1 18 rfl rfl)
theorem dX0_rule_43 : decode cX0_rule 43 = .ok (.istore_n 3, 1) := dk_62 (dk_at dksX0_rule_1 19 rfl rfl)
theorem dX0_rule_44 : decode cX0_rule 44 = .ok (.aload_n 0, 1) := dk_42 (dk_at dksX0_rule_1 20 rfl rfl)
theorem dX0_rule_45 : decode cX0_rule 45 = .ok (.getfield 12, 3) := dk_180 0 12 (dk_at dksX0_rule_1 21 rfl rfl)
theorem dX0_rule_48 : decode cX0_rule 48 = .ok (.getfield 178, 3) := dk_180 0 178 (dk_at dksX0_rule_2 0 rfl rfl)
theorem dX0_rule_51 : decode cX0_rule 51 = .ok (.iload_n 1, 1) := dk_27 (dk_at dksX0_rule_2 3 rfl rfl)
theorem dX0_rule_52 : decode cX0_rule 52 = .ok (.iload_n 2, 1) := dk_28 (dk_at dksX0_rule_2 4 rfl rfl)
theorem dX0_rule_53 : decode cX0_rule 53 = .ok (.iastore, 1) := dk_79 (dk_at dksX0_rule_2 5 rfl rfl)
theorem dX0_rule_54 : decode cX0_rule 54 = .ok (.iload_n 3, 1) := dk_29 (dk_at dksX0_rule_2 6 rfl rfl)
theorem dX0_rule_55 : decode cX0_rule 55 = .ok (.ireturn, 1) := dk_172 (dk_at dksX0_rule_2 7 rfl rfl)
abbrev cX0_undo : ByteArray := prog_1_method_96_code
def yX0_undo : MethodName := ⟨RX0, "undo", "()I"⟩
def dkwX0_undo_1 : List UInt8 := [181, 0, 12, 42, 180, 0, 19, 182, 1, 29, 172]
abbrev dktX0_undo_1 : List UInt8 := dkwX0_undo_1 ++ []
def dkwX0_undo_0 : List UInt8 := [42, 180, 0, 19, 182, 1, 49, 153, 0, 5, 2, 172, 42, 42, 180, 0, 19, 182, 1, 247, 192, 0, 9]
abbrev dktX0_undo_0 : List UInt8 := dkwX0_undo_0 ++ dktX0_undo_1
theorem dksX0_undo_0 : cX0_undo.data.toList.drop 0 = dktX0_undo_0 := by decide +kernel
theorem dksX0_undo_1 : cX0_undo.data.toList.drop 23 = dktX0_undo_1 := dk_seg dksX0_undo_0 23 rfl rfl
theorem dX0_undo_0 : decode cX0_undo 0 = .ok (.aload_n 0, 1) := dk_42 (dk_at dksX0_undo_0 0 rfl rfl)
theorem dX0_undo_1 : decode cX0_undo 1 = .ok (.getfield 19, 3) := dk_180 0 19 (dk_at dksX0_undo_0 1 rfl rfl)
theorem dX0_undo_4 : decode cX0_undo 4 = .ok (.invokevirtual 305, 3) := dk_182 1 49 (dk_at dksX0_undo_0 4 rfl rfl)
theorem dX0_undo_7 : decode cX0_undo 7 = .ok (.ifCond .eq 5, 3) := dk_153 0 5 (dk_at dksX0_undo_0 7 rfl rfl)
theorem dX0_undo_10 : decode cX0_undo 10 = .ok (.iconst (-1), 1) := dk_2 (dk_at dksX0_undo_0 10 rfl rfl)
theorem dX0_undo_11 : decode cX0_undo 11 = .ok (.ireturn, 1) := dk_172 (dk_at dksX0_undo_0 11 rfl rfl)
theorem dX0_undo_12 : decode cX0_undo 12 = .ok (.aload_n 0, 1) := dk_42 (dk_at dksX0_undo_0 12 rfl rfl)
theorem dX0_undo_13 : decode cX0_undo 13 = .ok (.aload_n 0, 1) := dk_42 (dk_at dksX0_undo_0 13 rfl rfl)
theorem dX0_undo_14 : decode cX0_undo 14 = .ok (.getfield 19, 3) := dk_180 0 19 (dk_at dksX0_undo_0 14 rfl rfl)
theorem dX0_undo_17 : decode cX0_undo 17 = .ok (.invokevirtual 503, 3) := dk_182 1 247 (dk_at dksX0_undo_0 17 rfl rfl)
theorem dX0_undo_20 : decode cX0_undo 20 = .ok (.checkcast 9, 3) := dk_192 0 9 (dk_at dksX0_undo_0 20 rfl rfl)
theorem dX0_undo_23 : decode cX0_undo 23 = .ok (.putfield 12, 3) := dk_181 0 12 (dk_at dksX0_undo_1 0 rfl rfl)
theorem dX0_undo_26 : decode cX0_undo 26 = .ok (.aload_n 0, 1) := dk_42 (dk_at dksX0_undo_1 3 rfl rfl)
theorem dX0_undo_27 : decode cX0_undo 27 = .ok (.getfield 19, 3) := dk_180 0 19 (dk_at dksX0_undo_1 4 rfl rfl)
theorem dX0_undo_30 : decode cX0_undo 30 = .ok (.invokevirtual 285, 3) := dk_182 1 29 (dk_at dksX0_undo_1 7 rfl rfl)
theorem dX0_undo_33 : decode cX0_undo 33 = .ok (.ireturn, 1) := dk_172 (dk_at dksX0_undo_1 10 rfl rfl)
theorem q164 : (Jvm.Cond.initialized "FilingChains") ∈ lw_all := lw_g (lw_at lw_m1 1 rfl) rfl
theorem q221 : (Jvm.Cond.instantiable "FilingChains" (14 : Nat)) ∈ lw_all := lw_g (lw_at lw_m1 58 rfl) rfl
theorem q223 : (Jvm.Cond.instanceMethod ({ cls := "FilingChains", name := "<init>", desc := "()V" } : Jvm.MethodName)) ∈ lw_all := lw_g (lw_at lw_m1 60 rfl) rfl
theorem q224 : (Jvm.Cond.code ({ cls := "FilingChains", name := "<init>", desc := "()V" } : Jvm.MethodName) prog_1_method_1_code (1 : Nat) (Option.none : Option Jvm.ClassFile.FieldType)) ∈ lw_all := lw_g (lw_at lw_m1 61 rfl) rfl
theorem q225 : (Jvm.Cond.methodLink "FilingChains" (3 : Nat) ({ cls := "java/lang/Object", name := "<init>", desc := "()V" } : Jvm.MethodName)) ∈ lw_all := lw_g (lw_at lw_m1 62 rfl) rfl
theorem q228 : (Jvm.Cond.classLink "FilingChains" (9 : Nat) "FilingChains$Office") ∈ lw_all := lw_g (lw_at lw_m1 65 rfl) rfl
theorem q230 : (Jvm.Cond.methodLinkNest "FilingChains" (11 : Nat) ({ cls := "FilingChains$Office", name := "<init>", desc := "()V" } : Jvm.MethodName) "FilingChains") ∈ lw_tbl := lw_at lw_m1 67 rfl
theorem q291 : (Jvm.Cond.fieldLinkNest "FilingChains" (178 : Nat) "FilingChains$Office" "limits" "[I" "FilingChains") ∈ lw_tbl := lw_at lw_m1 128 rfl
theorem q294 : (Jvm.Cond.fieldLinkNest "FilingChains" (117 : Nat) "FilingChains$Office" "filings" "Ljava/util/ArrayList;" "FilingChains") ∈ lw_tbl := lw_at lw_m1 131 rfl
theorem q298 : (Jvm.Cond.fieldLinkNest "FilingChains" (128 : Nat) "FilingChains$Office" "links" "Ljava/util/LinkedList;" "FilingChains") ∈ lw_tbl := lw_at lw_m1 135 rfl
theorem q301 : (Jvm.Cond.fieldLinkNest "FilingChains" (135 : Nat) "FilingChains$Office" "claims" "Ljava/util/ArrayList;" "FilingChains") ∈ lw_tbl := lw_at lw_m1 138 rfl
theorem q304 : (Jvm.Cond.fieldLinkNest "FilingChains" (138 : Nat) "FilingChains$Office" "things" "Ljava/util/ArrayList;" "FilingChains") ∈ lw_tbl := lw_at lw_m1 141 rfl
theorem q317 : (Jvm.Cond.classLink "FilingChains" (16 : Nat) "java/util/ArrayDeque") ∈ lw_all := lw_g (lw_at lw_m1 154 rfl) rfl
theorem q319 : (Jvm.Cond.methodLink "FilingChains" (18 : Nat) ({ cls := "java/util/ArrayDeque", name := "<init>", desc := "()V" } : Jvm.MethodName)) ∈ lw_all := lw_g (lw_at lw_m1 156 rfl) rfl
theorem q337 : (Jvm.Cond.methodLink "FilingChains" (23 : Nat) ({ cls := "java/util/List", name := "of", desc := "()Ljava/util/List;" } : Jvm.MethodName)) ∈ lw_all := lw_g (lw_at lw_m1 174 rfl) rfl
theorem q342 : (Jvm.Cond.fieldLink "FilingChains" (12 : Nat) "FilingChains" "office" "LFilingChains$Office;") ∈ lw_all := lw_g (lw_at lw_m1 179 rfl) rfl
theorem q344 : (Jvm.Cond.fieldLink "FilingChains" (19 : Nat) "FilingChains" "past" "Ljava/util/ArrayDeque;") ∈ lw_all := lw_g (lw_at lw_m1 181 rfl) rfl
theorem q345 : (Jvm.Cond.fieldLink "FilingChains" (29 : Nat) "FilingChains" "partNames" "Ljava/util/List;") ∈ lw_all := lw_g (lw_at lw_m1 182 rfl) rfl
theorem q346 : (Jvm.Cond.fieldLink "FilingChains" (33 : Nat) "FilingChains" "filerNames" "Ljava/util/List;") ∈ lw_all := lw_g (lw_at lw_m1 183 rfl) rfl
theorem q347 : (Jvm.Cond.fieldLink "FilingChains" (36 : Nat) "FilingChains" "filingNames" "Ljava/util/List;") ∈ lw_all := lw_g (lw_at lw_m1 184 rfl) rfl
theorem q348 : (Jvm.Cond.fieldLink "FilingChains" (39 : Nat) "FilingChains" "tape" "[B") ∈ lw_all := lw_g (lw_at lw_m1 185 rfl) rfl
theorem q350 : (Jvm.Cond.fieldLink "FilingChains" (66 : Nat) "FilingChains" "taped" "I") ∈ lw_all := lw_g (lw_at lw_m1 187 rfl) rfl
theorem q351 : (Jvm.Cond.fieldLink "FilingChains" (76 : Nat) "FilingChains" "faultKind" "I") ∈ lw_all := lw_g (lw_at lw_m1 188 rfl) rfl
theorem q352 : (Jvm.Cond.fieldLink "FilingChains" (43 : Nat) "FilingChains" "faultPlace" "I") ∈ lw_all := lw_g (lw_at lw_m1 189 rfl) rfl
theorem q353 : (Jvm.Cond.fieldLink "FilingChains" (114 : Nat) "FilingChains" "lines" "I") ∈ lw_all := lw_g (lw_at lw_m1 190 rfl) rfl
theorem q354 : (Jvm.Cond.fieldLink "FilingChains" (388 : Nat) "FilingChains" "foundOne" "I") ∈ lw_all := lw_g (lw_at lw_m1 191 rfl) rfl
theorem q355 : (Jvm.Cond.fieldLink "FilingChains" (379 : Nat) "FilingChains" "foundOther" "I") ∈ lw_all := lw_g (lw_at lw_m1 192 rfl) rfl
theorem q356 : (Jvm.Cond.fieldLink "FilingChains" (47 : Nat) "FilingChains" "octets" "[B") ∈ lw_all := lw_g (lw_at lw_m1 193 rfl) rfl
theorem q357 : (Jvm.Cond.fieldLink "FilingChains" (453 : Nat) "FilingChains" "written" "I") ∈ lw_all := lw_g (lw_at lw_m1 194 rfl) rfl
theorem q358 : (Jvm.Cond.lays "FilingChains" "FilingChains" "office" "LFilingChains$Office;") ∈ lw_all := lw_g (lw_at lw_m1 195 rfl) rfl
theorem q359 : (Jvm.Cond.soleField "FilingChains" "office") ∈ lw_all := lw_g (lw_at lw_m1 196 rfl) rfl
theorem q360 : (Jvm.Cond.laysFinal "FilingChains" "FilingChains" "past" "Ljava/util/ArrayDeque;") ∈ lw_all := lw_g (lw_at lw_m1 197 rfl) rfl
theorem q361 : (Jvm.Cond.soleField "FilingChains" "past") ∈ lw_all := lw_g (lw_at lw_m1 198 rfl) rfl
theorem q362 : (Jvm.Cond.lays "FilingChains" "FilingChains" "partNames" "Ljava/util/List;") ∈ lw_all := lw_g (lw_at lw_m1 199 rfl) rfl
theorem q363 : (Jvm.Cond.soleField "FilingChains" "partNames") ∈ lw_all := lw_g (lw_at lw_m1 200 rfl) rfl
theorem q364 : (Jvm.Cond.lays "FilingChains" "FilingChains" "filerNames" "Ljava/util/List;") ∈ lw_all := lw_g (lw_at lw_m1 201 rfl) rfl
theorem q365 : (Jvm.Cond.soleField "FilingChains" "filerNames") ∈ lw_all := lw_g (lw_at lw_m1 202 rfl) rfl
theorem q366 : (Jvm.Cond.lays "FilingChains" "FilingChains" "filingNames" "Ljava/util/List;") ∈ lw_all := lw_g (lw_at lw_m1 203 rfl) rfl
theorem q367 : (Jvm.Cond.soleField "FilingChains" "filingNames") ∈ lw_all := lw_g (lw_at lw_m1 204 rfl) rfl
theorem q368 : (Jvm.Cond.laysFinal "FilingChains" "FilingChains" "tape" "[B") ∈ lw_all := lw_g (lw_at lw_m1 205 rfl) rfl
theorem q369 : (Jvm.Cond.soleField "FilingChains" "tape") ∈ lw_all := lw_g (lw_at lw_m1 206 rfl) rfl
theorem q370 : (Jvm.Cond.lays "FilingChains" "FilingChains" "taped" "I") ∈ lw_all := lw_g (lw_at lw_m1 207 rfl) rfl
theorem q371 : (Jvm.Cond.soleField "FilingChains" "taped") ∈ lw_all := lw_g (lw_at lw_m1 208 rfl) rfl
theorem q372 : (Jvm.Cond.lays "FilingChains" "FilingChains" "faultKind" "I") ∈ lw_all := lw_g (lw_at lw_m1 209 rfl) rfl
theorem q373 : (Jvm.Cond.soleField "FilingChains" "faultKind") ∈ lw_all := lw_g (lw_at lw_m1 210 rfl) rfl
theorem q374 : (Jvm.Cond.lays "FilingChains" "FilingChains" "faultPlace" "I") ∈ lw_all := lw_g (lw_at lw_m1 211 rfl) rfl
theorem q375 : (Jvm.Cond.soleField "FilingChains" "faultPlace") ∈ lw_all := lw_g (lw_at lw_m1 212 rfl) rfl
theorem q376 : (Jvm.Cond.lays "FilingChains" "FilingChains" "lines" "I") ∈ lw_all := lw_g (lw_at lw_m1 213 rfl) rfl
theorem q377 : (Jvm.Cond.soleField "FilingChains" "lines") ∈ lw_all := lw_g (lw_at lw_m1 214 rfl) rfl
theorem q378 : (Jvm.Cond.lays "FilingChains" "FilingChains" "foundOne" "I") ∈ lw_all := lw_g (lw_at lw_m1 215 rfl) rfl
theorem q379 : (Jvm.Cond.soleField "FilingChains" "foundOne") ∈ lw_all := lw_g (lw_at lw_m1 216 rfl) rfl
theorem q380 : (Jvm.Cond.lays "FilingChains" "FilingChains" "foundOther" "I") ∈ lw_all := lw_g (lw_at lw_m1 217 rfl) rfl
theorem q381 : (Jvm.Cond.soleField "FilingChains" "foundOther") ∈ lw_all := lw_g (lw_at lw_m1 218 rfl) rfl
theorem q382 : (Jvm.Cond.laysFinal "FilingChains" "FilingChains" "octets" "[B") ∈ lw_all := lw_g (lw_at lw_m1 219 rfl) rfl
theorem q383 : (Jvm.Cond.soleField "FilingChains" "octets") ∈ lw_all := lw_g (lw_at lw_m1 220 rfl) rfl
theorem q384 : (Jvm.Cond.lays "FilingChains" "FilingChains" "written" "I") ∈ lw_all := lw_g (lw_at lw_m1 221 rfl) rfl
theorem q385 : (Jvm.Cond.soleField "FilingChains" "written") ∈ lw_all := lw_g (lw_at lw_m1 222 rfl) rfl
theorem q386 : (Jvm.Cond.superclass "FilingChains" "java/lang/Object") ∈ lw_all := lw_g (lw_at lw_m1 223 rfl) rfl
theorem q389 : (Jvm.Cond.instanceMethod ({ cls := "FilingChains", name := "feed", desc := "(IIIII)I" } : Jvm.MethodName)) ∈ lw_all := lw_g (lw_at lw_m1 226 rfl) rfl
theorem q390 : (Jvm.Cond.selects "FilingChains" ({ cls := "FilingChains", name := "feed", desc := "(IIIII)I" } : Jvm.MethodName) ({ cls := "FilingChains", name := "feed", desc := "(IIIII)I" } : Jvm.MethodName)) ∈ lw_all := lw_g (lw_at lw_m1 227 rfl) rfl
theorem q391 : (Jvm.Cond.code ({ cls := "FilingChains", name := "feed", desc := "(IIIII)I" } : Jvm.MethodName) prog_1_method_8_code (6 : Nat) (Option.some Jvm.ClassFile.FieldType.int)) ∈ lw_all := lw_g (lw_at lw_m1 228 rfl) rfl
theorem q392 : (Jvm.Cond.methodLink "FilingChains" (69 : Nat) ({ cls := "FilingChains", name := "push", desc := "(I)V" } : Jvm.MethodName)) ∈ lw_all := lw_g (lw_at lw_m1 229 rfl) rfl
theorem q393 : (Jvm.Cond.privateMethod ({ cls := "FilingChains", name := "push", desc := "(I)V" } : Jvm.MethodName)) ∈ lw_tbl := lw_at lw_m1 230 rfl
theorem q394 : (Jvm.Cond.instanceMethod ({ cls := "FilingChains", name := "push", desc := "(I)V" } : Jvm.MethodName)) ∈ lw_all := lw_g (lw_at lw_m1 231 rfl) rfl
theorem q395 : (Jvm.Cond.code ({ cls := "FilingChains", name := "push", desc := "(I)V" } : Jvm.MethodName) prog_1_method_7_code (3 : Nat) (Option.none : Option Jvm.ClassFile.FieldType)) ∈ lw_all := lw_g (lw_at lw_m1 232 rfl) rfl
theorem q397 : (Jvm.Cond.instanceMethod ({ cls := "FilingChains", name := "text", desc := "(I)I" } : Jvm.MethodName)) ∈ lw_all := lw_g (lw_at lw_m1 234 rfl) rfl
theorem q398 : (Jvm.Cond.selects "FilingChains" ({ cls := "FilingChains", name := "text", desc := "(I)I" } : Jvm.MethodName) ({ cls := "FilingChains", name := "text", desc := "(I)I" } : Jvm.MethodName)) ∈ lw_all := lw_g (lw_at lw_m1 235 rfl) rfl
theorem q399 : (Jvm.Cond.codeWith ({ cls := "FilingChains", name := "text", desc := "(I)I" } : Jvm.MethodName) prog_1_method_9_code (4 : Nat) (Option.some Jvm.ClassFile.FieldType.int) [((40 : Nat), (44 : Nat), (47 : Nat), (87 : Nat))]) ∈ lw_all := lw_g (lw_at lw_m1 236 rfl) rfl
theorem q400 : (Jvm.Cond.classLink "FilingChains" (87 : Nat) "FilingChains$Fault") ∈ lw_all := lw_g (lw_at lw_m1 237 rfl) rfl
theorem q401 : (Jvm.Cond.methodLink "FilingChains" (72 : Nat) ({ cls := "FilingChains", name := "within", desc := "(III)Z" } : Jvm.MethodName)) ∈ lw_all := lw_g (lw_at lw_m1 238 rfl) rfl
theorem q402 : (Jvm.Cond.static ({ cls := "FilingChains", name := "within", desc := "(III)Z" } : Jvm.MethodName)) ∈ lw_all := lw_g (lw_at lw_m1 239 rfl) rfl
theorem q403 : (Jvm.Cond.code ({ cls := "FilingChains", name := "within", desc := "(III)Z" } : Jvm.MethodName) prog_1_method_3_code (3 : Nat) (Option.some Jvm.ClassFile.FieldType.boolean)) ∈ lw_all := lw_g (lw_at lw_m2 0 rfl) rfl
theorem q404 : (Jvm.Cond.classLink "FilingChains" (79 : Nat) "FilingChains$Reader") ∈ lw_all := lw_g (lw_at lw_m2 1 rfl) rfl
theorem q406 : (Jvm.Cond.methodLink "FilingChains" (81 : Nat) ({ cls := "FilingChains$Reader", name := "<init>", desc := "(LFilingChains;I)V" } : Jvm.MethodName)) ∈ lw_all := lw_g (lw_at lw_m2 3 rfl) rfl
theorem q434 : (Jvm.Cond.selects "FilingChains" ({ cls := "java/lang/Object", name := "getClass", desc := "()Ljava/lang/Class;" } : Jvm.MethodName) ({ cls := "java/lang/Object", name := "getClass", desc := "()Ljava/lang/Class;" } : Jvm.MethodName)) ∈ lw_all := lw_g (lw_at lw_m2 31 rfl) rfl
theorem q519 : (Jvm.Cond.fieldLinkNest "FilingChains" (95 : Nat) "FilingChains$Reader" "o" "LFilingChains$Office;" "FilingChains") ∈ lw_tbl := lw_at lw_m2 116 rfl
theorem q523 : (Jvm.Cond.fieldLinkNest "FilingChains" (98 : Nat) "FilingChains$Reader" "parts" "Ljava/util/ArrayList;" "FilingChains") ∈ lw_tbl := lw_at lw_m2 120 rfl
theorem q525 : (Jvm.Cond.fieldLinkNest "FilingChains" (102 : Nat) "FilingChains$Reader" "filers" "Ljava/util/ArrayList;" "FilingChains") ∈ lw_tbl := lw_at lw_m2 122 rfl
theorem q527 : (Jvm.Cond.fieldLinkNest "FilingChains" (105 : Nat) "FilingChains$Reader" "filings" "Ljava/util/ArrayList;" "FilingChains") ∈ lw_tbl := lw_at lw_m2 124 rfl
theorem q531 : (Jvm.Cond.fieldLinkNest "FilingChains" (111 : Nat) "FilingChains$Reader" "read" "I" "FilingChains") ∈ lw_tbl := lw_at lw_m2 128 rfl
theorem q559 : (Jvm.Cond.methodLink "FilingChains" (84 : Nat) ({ cls := "FilingChains$Reader", name := "reads", desc := "()V" } : Jvm.MethodName)) ∈ lw_all := lw_g (lw_at lw_m2 156 rfl) rfl
theorem q646 : (Jvm.Cond.fieldLinkNest "FilingChains" (89 : Nat) "FilingChains$Fault" "kind" "I" "FilingChains") ∈ lw_tbl := lw_at lw_m3 3 rfl
theorem q648 : (Jvm.Cond.fieldLinkNest "FilingChains" (92 : Nat) "FilingChains$Fault" "place" "I" "FilingChains") ∈ lw_tbl := lw_at lw_m3 5 rfl
theorem q871 : (Jvm.Cond.selects "FilingChains" ({ cls := "java/lang/Object", name := "equals", desc := "(Ljava/lang/Object;)Z" } : Jvm.MethodName) ({ cls := "java/lang/Object", name := "equals", desc := "(Ljava/lang/Object;)Z" } : Jvm.MethodName)) ∈ lw_all := lw_g (lw_at lw_m3 228 rfl) rfl
theorem q978 : (Jvm.Cond.static ({ cls := "FilingChains", name := "has", desc := "(II)Z" } : Jvm.MethodName)) ∈ lw_all := lw_g (lw_at lw_m4 95 rfl) rfl
theorem q979 : (Jvm.Cond.code ({ cls := "FilingChains", name := "has", desc := "(II)Z" } : Jvm.MethodName) prog_1_method_4_code (2 : Nat) (Option.some Jvm.ClassFile.FieldType.boolean)) ∈ lw_all := lw_g (lw_at lw_m4 96 rfl) rfl
theorem q1071 : (Jvm.Cond.static ({ cls := "FilingChains", name := "partsOf", desc := "(I)Ljava/util/BitSet;" } : Jvm.MethodName)) ∈ lw_all := lw_g (lw_at lw_m4 188 rfl) rfl
theorem q1072 : (Jvm.Cond.code ({ cls := "FilingChains", name := "partsOf", desc := "(I)Ljava/util/BitSet;" } : Jvm.MethodName) prog_1_method_5_code (3 : Nat) (Option.some (Jvm.ClassFile.FieldType.object "java/util/BitSet"))) ∈ lw_all := lw_g (lw_at lw_m4 189 rfl) rfl
theorem q1073 : (Jvm.Cond.classLink "FilingChains" (50 : Nat) "java/util/BitSet") ∈ lw_all := lw_g (lw_at lw_m4 190 rfl) rfl
theorem q1074 : (Jvm.Cond.methodLink "FilingChains" (52 : Nat) ({ cls := "java/util/BitSet", name := "<init>", desc := "(I)V" } : Jvm.MethodName)) ∈ lw_all := lw_g (lw_at lw_m4 191 rfl) rfl
theorem q1075 : (Jvm.Cond.methodLink "FilingChains" (55 : Nat) ({ cls := "FilingChains", name := "has", desc := "(II)Z" } : Jvm.MethodName)) ∈ lw_all := lw_g (lw_at lw_m4 192 rfl) rfl
theorem q1076 : (Jvm.Cond.methodLink "FilingChains" (59 : Nat) ({ cls := "java/util/BitSet", name := "set", desc := "(I)V" } : Jvm.MethodName)) ∈ lw_all := lw_g (lw_at lw_m4 193 rfl) rfl
theorem q1105 : (Jvm.Cond.fieldLinkNest "FilingChains" (398 : Nat) "FilingChains$Filing" "number" "I" "FilingChains") ∈ lw_tbl := lw_at lw_m4 222 rfl
theorem q1107 : (Jvm.Cond.fieldLinkNest "FilingChains" (159 : Nat) "FilingChains$Filing" "filer" "I" "FilingChains") ∈ lw_tbl := lw_at lw_m4 224 rfl
theorem q1110 : (Jvm.Cond.fieldLinkNest "FilingChains" (334 : Nat) "FilingChains$Filing" "told" "Ljava/util/BitSet;" "FilingChains") ∈ lw_tbl := lw_at lw_m4 227 rfl
theorem q1115 : (Jvm.Cond.fieldLinkNest "FilingChains" (172 : Nat) "FilingChains$Filing" "day" "I" "FilingChains") ∈ lw_tbl := lw_at lw_m4 232 rfl
theorem q1118 : (Jvm.Cond.fieldLinkNest "FilingChains" (197 : Nat) "FilingChains$Filing" "ends" "I" "FilingChains") ∈ lw_tbl := lw_at lw_m4 235 rfl
theorem q1160 : (Jvm.Cond.static ({ cls := "FilingChains", name := "bitsOf", desc := "(Ljava/util/BitSet;)I" } : Jvm.MethodName)) ∈ lw_all := lw_g (lw_at lw_m5 37 rfl) rfl
theorem q1161 : (Jvm.Cond.code ({ cls := "FilingChains", name := "bitsOf", desc := "(Ljava/util/BitSet;)I" } : Jvm.MethodName) prog_1_method_6_code (3 : Nat) (Option.some Jvm.ClassFile.FieldType.int)) ∈ lw_all := lw_g (lw_at lw_m5 38 rfl) rfl
theorem q1162 : (Jvm.Cond.methodLink "FilingChains" (62 : Nat) ({ cls := "java/util/BitSet", name := "nextSetBit", desc := "(I)I" } : Jvm.MethodName)) ∈ lw_all := lw_g (lw_at lw_m5 39 rfl) rfl
theorem q1540 : (Jvm.Cond.fieldLinkNest "FilingChains" (175 : Nat) "FilingChains$Link" "sort" "I" "FilingChains") ∈ lw_tbl := lw_at lw_m6 177 rfl
theorem q1543 : (Jvm.Cond.fieldLinkNest "FilingChains" (164 : Nat) "FilingChains$Link" "child" "I" "FilingChains") ∈ lw_tbl := lw_at lw_m6 180 rfl
theorem q1546 : (Jvm.Cond.fieldLinkNest "FilingChains" (169 : Nat) "FilingChains$Link" "parent" "I" "FilingChains") ∈ lw_tbl := lw_at lw_m6 183 rfl
theorem q1598 : (Jvm.Cond.fieldLinkNest "FilingChains" (152 : Nat) "FilingChains$Claim" "filing" "I" "FilingChains") ∈ lw_tbl := lw_at lw_m6 235 rfl
theorem q1600 : (Jvm.Cond.fieldLinkNest "FilingChains" (222 : Nat) "FilingChains$Claim" "set" "I" "FilingChains") ∈ lw_tbl := lw_at lw_m6 237 rfl
theorem q1617 : (Jvm.Cond.fieldLinkNest "FilingChains" (372 : Nat) "FilingChains$Thing" "filer" "I" "FilingChains") ∈ lw_tbl := lw_at lw_m7 14 rfl
theorem q1619 : (Jvm.Cond.fieldLinkNest "FilingChains" (373 : Nat) "FilingChains$Thing" "day" "I" "FilingChains") ∈ lw_tbl := lw_at lw_m7 16 rfl
theorem q1621 : (Jvm.Cond.fieldLinkNest "FilingChains" (374 : Nat) "FilingChains$Thing" "set" "I" "FilingChains") ∈ lw_tbl := lw_at lw_m7 18 rfl
theorem q1629 : (Jvm.Cond.methodLink "FilingChains" (108 : Nat) ({ cls := "java/util/ArrayDeque", name := "clear", desc := "()V" } : Jvm.MethodName)) ∈ lw_all := lw_g (lw_at lw_m7 26 rfl) rfl
theorem q1637 : (Jvm.Cond.instanceMethod ({ cls := "FilingChains", name := "fault", desc := "(I)I" } : Jvm.MethodName)) ∈ lw_all := lw_g (lw_at lw_m7 34 rfl) rfl
theorem q1638 : (Jvm.Cond.selects "FilingChains" ({ cls := "FilingChains", name := "fault", desc := "(I)I" } : Jvm.MethodName) ({ cls := "FilingChains", name := "fault", desc := "(I)I" } : Jvm.MethodName)) ∈ lw_all := lw_g (lw_at lw_m7 35 rfl) rfl
theorem q1639 : (Jvm.Cond.code ({ cls := "FilingChains", name := "fault", desc := "(I)I" } : Jvm.MethodName) prog_1_method_10_code (2 : Nat) (Option.some Jvm.ClassFile.FieldType.int)) ∈ lw_all := lw_g (lw_at lw_m7 36 rfl) rfl
theorem q1641 : (Jvm.Cond.instanceMethod ({ cls := "FilingChains", name := "date", desc := "(II)I" } : Jvm.MethodName)) ∈ lw_all := lw_g (lw_at lw_m7 38 rfl) rfl
theorem q1642 : (Jvm.Cond.selects "FilingChains" ({ cls := "FilingChains", name := "date", desc := "(II)I" } : Jvm.MethodName) ({ cls := "FilingChains", name := "date", desc := "(II)I" } : Jvm.MethodName)) ∈ lw_all := lw_g (lw_at lw_m7 39 rfl) rfl
theorem q1643 : (Jvm.Cond.code ({ cls := "FilingChains", name := "date", desc := "(II)I" } : Jvm.MethodName) prog_1_method_29_code (4 : Nat) (Option.some Jvm.ClassFile.FieldType.int)) ∈ lw_all := lw_g (lw_at lw_m7 40 rfl) rfl
theorem q1644 : (Jvm.Cond.methodLink "FilingChains" (234 : Nat) ({ cls := "FilingChains", name := "why", desc := "(II)I" } : Jvm.MethodName)) ∈ lw_all := lw_g (lw_at lw_m7 41 rfl) rfl
theorem q1645 : (Jvm.Cond.privateMethod ({ cls := "FilingChains", name := "why", desc := "(II)I" } : Jvm.MethodName)) ∈ lw_tbl := lw_at lw_m7 42 rfl
theorem q1646 : (Jvm.Cond.instanceMethod ({ cls := "FilingChains", name := "why", desc := "(II)I" } : Jvm.MethodName)) ∈ lw_all := lw_g (lw_at lw_m7 43 rfl) rfl
theorem q1647 : (Jvm.Cond.code ({ cls := "FilingChains", name := "why", desc := "(II)I" } : Jvm.MethodName) prog_1_method_28_code (3 : Nat) (Option.some Jvm.ClassFile.FieldType.int)) ∈ lw_all := lw_g (lw_at lw_m7 44 rfl) rfl
theorem q1648 : (Jvm.Cond.methodLink "FilingChains" (228 : Nat) ({ cls := "FilingChains", name := "isFiling", desc := "(I)Z" } : Jvm.MethodName)) ∈ lw_all := lw_g (lw_at lw_m7 45 rfl) rfl
theorem q1649 : (Jvm.Cond.privateMethod ({ cls := "FilingChains", name := "isFiling", desc := "(I)Z" } : Jvm.MethodName)) ∈ lw_tbl := lw_at lw_m7 46 rfl
theorem q1650 : (Jvm.Cond.instanceMethod ({ cls := "FilingChains", name := "isFiling", desc := "(I)Z" } : Jvm.MethodName)) ∈ lw_all := lw_g (lw_at lw_m7 47 rfl) rfl
theorem q1651 : (Jvm.Cond.code ({ cls := "FilingChains", name := "isFiling", desc := "(I)Z" } : Jvm.MethodName) prog_1_method_11_code (2 : Nat) (Option.some Jvm.ClassFile.FieldType.boolean)) ∈ lw_all := lw_g (lw_at lw_m7 48 rfl) rfl
theorem q1652 : (Jvm.Cond.methodLink "FilingChains" (118 : Nat) ({ cls := "java/util/ArrayList", name := "size", desc := "()I" } : Jvm.MethodName)) ∈ lw_all := lw_g (lw_at lw_m7 49 rfl) rfl
theorem q1653 : (Jvm.Cond.methodLink "FilingChains" (124 : Nat) ({ cls := "FilingChains", name := "in", desc := "(II)Z" } : Jvm.MethodName)) ∈ lw_all := lw_g (lw_at lw_m7 50 rfl) rfl
theorem q1654 : (Jvm.Cond.static ({ cls := "FilingChains", name := "in", desc := "(II)Z" } : Jvm.MethodName)) ∈ lw_all := lw_g (lw_at lw_m7 51 rfl) rfl
theorem q1655 : (Jvm.Cond.code ({ cls := "FilingChains", name := "in", desc := "(II)Z" } : Jvm.MethodName) prog_1_method_2_code (2 : Nat) (Option.some Jvm.ClassFile.FieldType.boolean)) ∈ lw_all := lw_g (lw_at lw_m7 52 rfl) rfl
theorem q1656 : (Jvm.Cond.methodLink "FilingChains" (231 : Nat) ({ cls := "FilingChains", name := "isSet", desc := "(I)Z" } : Jvm.MethodName)) ∈ lw_all := lw_g (lw_at lw_m7 53 rfl) rfl
theorem q1657 : (Jvm.Cond.static ({ cls := "FilingChains", name := "isSet", desc := "(I)Z" } : Jvm.MethodName)) ∈ lw_all := lw_g (lw_at lw_m7 54 rfl) rfl
theorem q1658 : (Jvm.Cond.code ({ cls := "FilingChains", name := "isSet", desc := "(I)Z" } : Jvm.MethodName) prog_1_method_16_code (1 : Nat) (Option.some Jvm.ClassFile.FieldType.boolean)) ∈ lw_all := lw_g (lw_at lw_m7 55 rfl) rfl
theorem q1659 : (Jvm.Cond.constant "FilingChains" (141 : Nat) (65536 : Int32)) ∈ lw_all := lw_g (lw_at lw_m7 56 rfl) rfl
theorem q1660 : (Jvm.Cond.methodLink "FilingChains" (155 : Nat) ({ cls := "FilingChains$Office", name := "filed", desc := "(I)LFilingChains$Filing;" } : Jvm.MethodName)) ∈ lw_all := lw_g (lw_at lw_m7 57 rfl) rfl
theorem q1661 : (Jvm.Cond.methodLink "FilingChains" (186 : Nat) ({ cls := "FilingChains$Filing", name := "borne", desc := "(I)I" } : Jvm.MethodName)) ∈ lw_all := lw_g (lw_at lw_m7 58 rfl) rfl
theorem q1670 : (Jvm.Cond.methodLink "FilingChains" (224 : Nat) ({ cls := "FilingChains", name := "dateOf", desc := "(II)I" } : Jvm.MethodName)) ∈ lw_all := lw_g (lw_at lw_m7 67 rfl) rfl
theorem q1671 : (Jvm.Cond.privateMethod ({ cls := "FilingChains", name := "dateOf", desc := "(II)I" } : Jvm.MethodName)) ∈ lw_tbl := lw_at lw_m7 68 rfl
theorem q1672 : (Jvm.Cond.instanceMethod ({ cls := "FilingChains", name := "dateOf", desc := "(II)I" } : Jvm.MethodName)) ∈ lw_all := lw_g (lw_at lw_m7 69 rfl) rfl
theorem q1673 : (Jvm.Cond.code ({ cls := "FilingChains", name := "dateOf", desc := "(II)I" } : Jvm.MethodName) prog_1_method_26_code (3 : Nat) (Option.some Jvm.ClassFile.FieldType.int)) ∈ lw_all := lw_g (lw_at lw_m7 70 rfl) rfl
theorem q1674 : (Jvm.Cond.classLink "FilingChains" (214 : Nat) "FilingChains$Search") ∈ lw_all := lw_g (lw_at lw_m7 71 rfl) rfl
theorem q1676 : (Jvm.Cond.methodLink "FilingChains" (216 : Nat) ({ cls := "FilingChains$Search", name := "<init>", desc := "(LFilingChains;III)V" } : Jvm.MethodName)) ∈ lw_all := lw_g (lw_at lw_m7 73 rfl) rfl
theorem q1690 : (Jvm.Cond.privateMethod ({ cls := "FilingChains", name := "holdsFor", desc := "(LFilingChains$Link;I)Z" } : Jvm.MethodName)) ∈ lw_tbl := lw_at lw_m7 87 rfl
theorem q1691 : (Jvm.Cond.instanceMethod ({ cls := "FilingChains", name := "holdsFor", desc := "(LFilingChains$Link;I)Z" } : Jvm.MethodName)) ∈ lw_all := lw_g (lw_at lw_m7 88 rfl) rfl
theorem q1692 : (Jvm.Cond.code ({ cls := "FilingChains", name := "holdsFor", desc := "(LFilingChains$Link;I)Z" } : Jvm.MethodName) prog_1_method_23_code (4 : Nat) (Option.some Jvm.ClassFile.FieldType.boolean)) ∈ lw_all := lw_g (lw_at lw_m7 89 rfl) rfl
theorem q1693 : (Jvm.Cond.methodLink "FilingChains" (189 : Nat) ({ cls := "FilingChains", name := "isGood", desc := "(LFilingChains$Link;)Z" } : Jvm.MethodName)) ∈ lw_all := lw_g (lw_at lw_m7 90 rfl) rfl
theorem q1694 : (Jvm.Cond.privateMethod ({ cls := "FilingChains", name := "isGood", desc := "(LFilingChains$Link;)Z" } : Jvm.MethodName)) ∈ lw_tbl := lw_at lw_m7 91 rfl
theorem q1695 : (Jvm.Cond.instanceMethod ({ cls := "FilingChains", name := "isGood", desc := "(LFilingChains$Link;)Z" } : Jvm.MethodName)) ∈ lw_all := lw_g (lw_at lw_m7 92 rfl) rfl
theorem q1696 : (Jvm.Cond.code ({ cls := "FilingChains", name := "isGood", desc := "(LFilingChains$Link;)Z" } : Jvm.MethodName) prog_1_method_21_code (4 : Nat) (Option.some Jvm.ClassFile.FieldType.boolean)) ∈ lw_all := lw_g (lw_at lw_m7 93 rfl) rfl
theorem q1697 : (Jvm.Cond.methodLink "FilingChains" (182 : Nat) ({ cls := "FilingChains$Filing", name := "isPending", desc := "(I)Z" } : Jvm.MethodName)) ∈ lw_all := lw_g (lw_at lw_m7 94 rfl) rfl
theorem q1701 : (Jvm.Cond.methodLink "FilingChains" (193 : Nat) ({ cls := "FilingChains", name := "isFirst", desc := "(LFilingChains$Filing;I)Z" } : Jvm.MethodName)) ∈ lw_all := lw_g (lw_at lw_m7 98 rfl) rfl
theorem q1702 : (Jvm.Cond.privateMethod ({ cls := "FilingChains", name := "isFirst", desc := "(LFilingChains$Filing;I)Z" } : Jvm.MethodName)) ∈ lw_tbl := lw_at lw_m7 99 rfl
theorem q1703 : (Jvm.Cond.instanceMethod ({ cls := "FilingChains", name := "isFirst", desc := "(LFilingChains$Filing;I)Z" } : Jvm.MethodName)) ∈ lw_all := lw_g (lw_at lw_m7 100 rfl) rfl
theorem q1704 : (Jvm.Cond.code ({ cls := "FilingChains", name := "isFirst", desc := "(LFilingChains$Filing;I)Z" } : Jvm.MethodName) prog_1_method_22_code (7 : Nat) (Option.some Jvm.ClassFile.FieldType.boolean)) ∈ lw_all := lw_g (lw_at lw_m7 101 rfl) rfl
theorem q1774 : (Jvm.Cond.fieldLinkNest "FilingChains" (450 : Nat) "FilingChains$Search" "far" "[I" "FilingChains") ∈ lw_tbl := lw_at lw_m7 171 rfl
theorem q1779 : (Jvm.Cond.fieldLinkNest "FilingChains" (219 : Nat) "FilingChains$Search" "date" "I" "FilingChains") ∈ lw_tbl := lw_at lw_m7 176 rfl
theorem q1781 : (Jvm.Cond.fieldLinkNest "FilingChains" (237 : Nat) "FilingChains$Search" "dater" "I" "FilingChains") ∈ lw_tbl := lw_at lw_m7 178 rfl
theorem q1799 : (Jvm.Cond.instanceMethod ({ cls := "FilingChains", name := "dater", desc := "(II)I" } : Jvm.MethodName)) ∈ lw_all := lw_g (lw_at lw_m7 196 rfl) rfl
theorem q1800 : (Jvm.Cond.selects "FilingChains" ({ cls := "FilingChains", name := "dater", desc := "(II)I" } : Jvm.MethodName) ({ cls := "FilingChains", name := "dater", desc := "(II)I" } : Jvm.MethodName)) ∈ lw_all := lw_g (lw_at lw_m7 197 rfl) rfl
theorem q1801 : (Jvm.Cond.code ({ cls := "FilingChains", name := "dater", desc := "(II)I" } : Jvm.MethodName) prog_1_method_30_code (4 : Nat) (Option.some Jvm.ClassFile.FieldType.int)) ∈ lw_all := lw_g (lw_at lw_m7 198 rfl) rfl
theorem q1803 : (Jvm.Cond.instanceMethod ({ cls := "FilingChains", name := "way", desc := "(III)I" } : Jvm.MethodName)) ∈ lw_all := lw_g (lw_at lw_m7 200 rfl) rfl
theorem q1804 : (Jvm.Cond.selects "FilingChains" ({ cls := "FilingChains", name := "way", desc := "(III)I" } : Jvm.MethodName) ({ cls := "FilingChains", name := "way", desc := "(III)I" } : Jvm.MethodName)) ∈ lw_all := lw_g (lw_at lw_m7 201 rfl) rfl
theorem q1805 : (Jvm.Cond.code ({ cls := "FilingChains", name := "way", desc := "(III)I" } : Jvm.MethodName) prog_1_method_31_code (6 : Nat) (Option.some Jvm.ClassFile.FieldType.int)) ∈ lw_all := lw_g (lw_at lw_m7 202 rfl) rfl
theorem q1806 : (Jvm.Cond.methodLink "FilingChains" (240 : Nat) ({ cls := "FilingChains$Search", name := "row", desc := "()Ljava/util/List;" } : Jvm.MethodName)) ∈ lw_all := lw_g (lw_at lw_m7 203 rfl) rfl
theorem q1829 : (Jvm.Cond.interfaceEntry "FilingChains" (127 : Nat)) ∈ lw_tbl := lw_at lw_m7 226 rfl
theorem q1830 : (Jvm.Cond.methodLink "FilingChains" (127 : Nat) ({ cls := "java/util/List", name := "size", desc := "()I" } : Jvm.MethodName)) ∈ lw_all := lw_g (lw_at lw_m7 227 rfl) rfl
theorem q1831 : (Jvm.Cond.interfaceEntry "FilingChains" (243 : Nat)) ∈ lw_tbl := lw_at lw_m7 228 rfl
theorem q1832 : (Jvm.Cond.methodLink "FilingChains" (243 : Nat) ({ cls := "java/util/List", name := "get", desc := "(I)Ljava/lang/Object;" } : Jvm.MethodName)) ∈ lw_all := lw_g (lw_at lw_m7 229 rfl) rfl
theorem q1833 : (Jvm.Cond.classLink "FilingChains" (165 : Nat) "FilingChains$Link") ∈ lw_all := lw_g (lw_at lw_m7 230 rfl) rfl
theorem q1834 : (Jvm.Cond.methodLink "FilingChains" (244 : Nat) ({ cls := "FilingChains", name := "numberOf", desc := "(LFilingChains$Link;)I" } : Jvm.MethodName)) ∈ lw_all := lw_g (lw_at lw_m7 231 rfl) rfl
theorem q1835 : (Jvm.Cond.privateMethod ({ cls := "FilingChains", name := "numberOf", desc := "(LFilingChains$Link;)I" } : Jvm.MethodName)) ∈ lw_tbl := lw_at lw_m7 232 rfl
theorem q1836 : (Jvm.Cond.instanceMethod ({ cls := "FilingChains", name := "numberOf", desc := "(LFilingChains$Link;)I" } : Jvm.MethodName)) ∈ lw_all := lw_g (lw_at lw_m7 233 rfl) rfl
theorem q1837 : (Jvm.Cond.code ({ cls := "FilingChains", name := "numberOf", desc := "(LFilingChains$Link;)I" } : Jvm.MethodName) prog_1_method_25_code (5 : Nat) (Option.some Jvm.ClassFile.FieldType.int)) ∈ lw_all := lw_g (lw_at lw_m7 234 rfl) rfl
theorem q1838 : (Jvm.Cond.methodLink "FilingChains" (200 : Nat) ({ cls := "java/util/LinkedList", name := "iterator", desc := "()Ljava/util/Iterator;" } : Jvm.MethodName)) ∈ lw_all := lw_g (lw_at lw_m7 235 rfl) rfl
theorem q1839 : (Jvm.Cond.interfaceEntry "FilingChains" (204 : Nat)) ∈ lw_tbl := lw_at lw_m7 236 rfl
theorem q1840 : (Jvm.Cond.methodLink "FilingChains" (204 : Nat) ({ cls := "java/util/Iterator", name := "hasNext", desc := "()Z" } : Jvm.MethodName)) ∈ lw_all := lw_g (lw_at lw_m7 237 rfl) rfl
theorem q1841 : (Jvm.Cond.interfaceEntry "FilingChains" (210 : Nat)) ∈ lw_tbl := lw_at lw_m7 238 rfl
theorem q1842 : (Jvm.Cond.methodLink "FilingChains" (210 : Nat) ({ cls := "java/util/Iterator", name := "next", desc := "()Ljava/lang/Object;" } : Jvm.MethodName)) ∈ lw_all := lw_g (lw_at lw_m7 239 rfl) rfl
theorem q1844 : (Jvm.Cond.instanceMethod ({ cls := "FilingChains", name := "needed", desc := "(II)I" } : Jvm.MethodName)) ∈ lw_all := lw_g (lw_at lw_m8 1 rfl) rfl
theorem q1845 : (Jvm.Cond.selects "FilingChains" ({ cls := "FilingChains", name := "needed", desc := "(II)I" } : Jvm.MethodName) ({ cls := "FilingChains", name := "needed", desc := "(II)I" } : Jvm.MethodName)) ∈ lw_all := lw_g (lw_at lw_m8 2 rfl) rfl
theorem q1846 : (Jvm.Cond.code ({ cls := "FilingChains", name := "needed", desc := "(II)I" } : Jvm.MethodName) prog_1_method_33_code (4 : Nat) (Option.some Jvm.ClassFile.FieldType.int)) ∈ lw_all := lw_g (lw_at lw_m8 3 rfl) rfl
theorem q1847 : (Jvm.Cond.methodLink "FilingChains" (248 : Nat) ({ cls := "FilingChains", name := "neededOf", desc := "(II)I" } : Jvm.MethodName)) ∈ lw_all := lw_g (lw_at lw_m8 4 rfl) rfl
theorem q1848 : (Jvm.Cond.privateMethod ({ cls := "FilingChains", name := "neededOf", desc := "(II)I" } : Jvm.MethodName)) ∈ lw_tbl := lw_at lw_m8 5 rfl
theorem q1849 : (Jvm.Cond.instanceMethod ({ cls := "FilingChains", name := "neededOf", desc := "(II)I" } : Jvm.MethodName)) ∈ lw_all := lw_g (lw_at lw_m8 6 rfl) rfl
theorem q1850 : (Jvm.Cond.code ({ cls := "FilingChains", name := "neededOf", desc := "(II)I" } : Jvm.MethodName) prog_1_method_32_code (6 : Nat) (Option.some Jvm.ClassFile.FieldType.int)) ∈ lw_all := lw_g (lw_at lw_m8 7 rfl) rfl
theorem q1851 : (Jvm.Cond.methodLink "FilingChains" (132 : Nat) ({ cls := "java/util/LinkedList", name := "size", desc := "()I" } : Jvm.MethodName)) ∈ lw_all := lw_g (lw_at lw_m8 8 rfl) rfl
theorem q1853 : (Jvm.Cond.instanceMethod ({ cls := "FilingChains", name := "last", desc := "(II)I" } : Jvm.MethodName)) ∈ lw_all := lw_g (lw_at lw_m8 10 rfl) rfl
theorem q1854 : (Jvm.Cond.selects "FilingChains" ({ cls := "FilingChains", name := "last", desc := "(II)I" } : Jvm.MethodName) ({ cls := "FilingChains", name := "last", desc := "(II)I" } : Jvm.MethodName)) ∈ lw_all := lw_g (lw_at lw_m8 11 rfl) rfl
theorem q1855 : (Jvm.Cond.code ({ cls := "FilingChains", name := "last", desc := "(II)I" } : Jvm.MethodName) prog_1_method_34_code (12 : Nat) (Option.some Jvm.ClassFile.FieldType.int)) ∈ lw_all := lw_g (lw_at lw_m8 12 rfl) rfl
theorem q1857 : (Jvm.Cond.instanceMethod ({ cls := "FilingChains", name := "without", desc := "(III)I" } : Jvm.MethodName)) ∈ lw_all := lw_g (lw_at lw_m8 14 rfl) rfl
theorem q1858 : (Jvm.Cond.selects "FilingChains" ({ cls := "FilingChains", name := "without", desc := "(III)I" } : Jvm.MethodName) ({ cls := "FilingChains", name := "without", desc := "(III)I" } : Jvm.MethodName)) ∈ lw_all := lw_g (lw_at lw_m8 15 rfl) rfl
theorem q1859 : (Jvm.Cond.code ({ cls := "FilingChains", name := "without", desc := "(III)I" } : Jvm.MethodName) prog_1_method_35_code (5 : Nat) (Option.some Jvm.ClassFile.FieldType.int)) ∈ lw_all := lw_g (lw_at lw_m8 16 rfl) rfl
theorem q1861 : (Jvm.Cond.instanceMethod ({ cls := "FilingChains", name := "leastTerm", desc := "(II)I" } : Jvm.MethodName)) ∈ lw_all := lw_g (lw_at lw_m8 18 rfl) rfl
theorem q1862 : (Jvm.Cond.selects "FilingChains" ({ cls := "FilingChains", name := "leastTerm", desc := "(II)I" } : Jvm.MethodName) ({ cls := "FilingChains", name := "leastTerm", desc := "(II)I" } : Jvm.MethodName)) ∈ lw_all := lw_g (lw_at lw_m8 19 rfl) rfl
theorem q1863 : (Jvm.Cond.code ({ cls := "FilingChains", name := "leastTerm", desc := "(II)I" } : Jvm.MethodName) prog_1_method_37_code (7 : Nat) (Option.some Jvm.ClassFile.FieldType.int)) ∈ lw_all := lw_g (lw_at lw_m8 20 rfl) rfl
theorem q1864 : (Jvm.Cond.methodLink "FilingChains" (256 : Nat) ({ cls := "FilingChains", name := "nextTerm", desc := "(I)I" } : Jvm.MethodName)) ∈ lw_all := lw_g (lw_at lw_m8 21 rfl) rfl
theorem q1865 : (Jvm.Cond.privateMethod ({ cls := "FilingChains", name := "nextTerm", desc := "(I)I" } : Jvm.MethodName)) ∈ lw_tbl := lw_at lw_m8 22 rfl
theorem q1866 : (Jvm.Cond.instanceMethod ({ cls := "FilingChains", name := "nextTerm", desc := "(I)I" } : Jvm.MethodName)) ∈ lw_all := lw_g (lw_at lw_m8 23 rfl) rfl
theorem q1867 : (Jvm.Cond.code ({ cls := "FilingChains", name := "nextTerm", desc := "(I)I" } : Jvm.MethodName) prog_1_method_36_code (6 : Nat) (Option.some Jvm.ClassFile.FieldType.int)) ∈ lw_all := lw_g (lw_at lw_m8 24 rfl) rfl
theorem q1868 : (Jvm.Cond.methodLink "FilingChains" (251 : Nat) ({ cls := "java/lang/Math", name := "min", desc := "(II)I" } : Jvm.MethodName)) ∈ lw_all := lw_g (lw_at lw_m8 25 rfl) rfl
theorem q1870 : (Jvm.Cond.instanceMethod ({ cls := "FilingChains", name := "harm", desc := "(I)I" } : Jvm.MethodName)) ∈ lw_all := lw_g (lw_at lw_m8 27 rfl) rfl
theorem q1871 : (Jvm.Cond.selects "FilingChains" ({ cls := "FilingChains", name := "harm", desc := "(I)I" } : Jvm.MethodName) ({ cls := "FilingChains", name := "harm", desc := "(I)I" } : Jvm.MethodName)) ∈ lw_all := lw_g (lw_at lw_m8 28 rfl) rfl
theorem q1872 : (Jvm.Cond.code ({ cls := "FilingChains", name := "harm", desc := "(I)I" } : Jvm.MethodName) prog_1_method_40_code (4 : Nat) (Option.some Jvm.ClassFile.FieldType.int)) ∈ lw_all := lw_g (lw_at lw_m8 29 rfl) rfl
theorem q1873 : (Jvm.Cond.methodLink "FilingChains" (261 : Nat) ({ cls := "FilingChains", name := "isLink", desc := "(I)Z" } : Jvm.MethodName)) ∈ lw_all := lw_g (lw_at lw_m8 30 rfl) rfl
theorem q1874 : (Jvm.Cond.privateMethod ({ cls := "FilingChains", name := "isLink", desc := "(I)Z" } : Jvm.MethodName)) ∈ lw_tbl := lw_at lw_m8 31 rfl
theorem q1875 : (Jvm.Cond.instanceMethod ({ cls := "FilingChains", name := "isLink", desc := "(I)Z" } : Jvm.MethodName)) ∈ lw_all := lw_g (lw_at lw_m8 32 rfl) rfl
theorem q1876 : (Jvm.Cond.code ({ cls := "FilingChains", name := "isLink", desc := "(I)Z" } : Jvm.MethodName) prog_1_method_13_code (2 : Nat) (Option.some Jvm.ClassFile.FieldType.boolean)) ∈ lw_all := lw_g (lw_at lw_m8 33 rfl) rfl
theorem q1877 : (Jvm.Cond.methodLink "FilingChains" (148 : Nat) ({ cls := "FilingChains", name := "claimOf", desc := "(I)LFilingChains$Claim;" } : Jvm.MethodName)) ∈ lw_all := lw_g (lw_at lw_m8 34 rfl) rfl
theorem q1878 : (Jvm.Cond.privateMethod ({ cls := "FilingChains", name := "claimOf", desc := "(I)LFilingChains$Claim;" } : Jvm.MethodName)) ∈ lw_tbl := lw_at lw_m8 35 rfl
theorem q1879 : (Jvm.Cond.instanceMethod ({ cls := "FilingChains", name := "claimOf", desc := "(I)LFilingChains$Claim;" } : Jvm.MethodName)) ∈ lw_all := lw_g (lw_at lw_m8 36 rfl) rfl
theorem q1880 : (Jvm.Cond.code ({ cls := "FilingChains", name := "claimOf", desc := "(I)LFilingChains$Claim;" } : Jvm.MethodName) prog_1_method_19_code (2 : Nat) (Option.some (Jvm.ClassFile.FieldType.object "FilingChains$Claim"))) ∈ lw_all := lw_g (lw_at lw_m8 37 rfl) rfl
theorem q1881 : (Jvm.Cond.methodLink "FilingChains" (142 : Nat) ({ cls := "java/util/ArrayList", name := "get", desc := "(I)Ljava/lang/Object;" } : Jvm.MethodName)) ∈ lw_all := lw_g (lw_at lw_m8 38 rfl) rfl
theorem q1882 : (Jvm.Cond.classLink "FilingChains" (146 : Nat) "FilingChains$Claim") ∈ lw_all := lw_g (lw_at lw_m8 39 rfl) rfl
theorem q1883 : (Jvm.Cond.methodLink "FilingChains" (264 : Nat) ({ cls := "FilingChains", name := "dates", desc := "()[I" } : Jvm.MethodName)) ∈ lw_all := lw_g (lw_at lw_m8 40 rfl) rfl
theorem q1884 : (Jvm.Cond.privateMethod ({ cls := "FilingChains", name := "dates", desc := "()[I" } : Jvm.MethodName)) ∈ lw_tbl := lw_at lw_m8 41 rfl
theorem q1885 : (Jvm.Cond.instanceMethod ({ cls := "FilingChains", name := "dates", desc := "()[I" } : Jvm.MethodName)) ∈ lw_all := lw_g (lw_at lw_m8 42 rfl) rfl
theorem q1886 : (Jvm.Cond.code ({ cls := "FilingChains", name := "dates", desc := "()[I" } : Jvm.MethodName) prog_1_method_38_code (3 : Nat) (Option.some (Jvm.ClassFile.FieldType.array Jvm.ClassFile.FieldType.int))) ∈ lw_all := lw_g (lw_at lw_m8 43 rfl) rfl
theorem q1887 : (Jvm.Cond.methodLink "FilingChains" (259 : Nat) ({ cls := "FilingChains", name := "dateOf", desc := "(I)I" } : Jvm.MethodName)) ∈ lw_all := lw_g (lw_at lw_m8 44 rfl) rfl
theorem q1888 : (Jvm.Cond.privateMethod ({ cls := "FilingChains", name := "dateOf", desc := "(I)I" } : Jvm.MethodName)) ∈ lw_tbl := lw_at lw_m8 45 rfl
theorem q1889 : (Jvm.Cond.instanceMethod ({ cls := "FilingChains", name := "dateOf", desc := "(I)I" } : Jvm.MethodName)) ∈ lw_all := lw_g (lw_at lw_m8 46 rfl) rfl
theorem q1890 : (Jvm.Cond.code ({ cls := "FilingChains", name := "dateOf", desc := "(I)I" } : Jvm.MethodName) prog_1_method_27_code (2 : Nat) (Option.some Jvm.ClassFile.FieldType.int)) ∈ lw_all := lw_g (lw_at lw_m8 47 rfl) rfl
theorem q1891 : (Jvm.Cond.methodLink "FilingChains" (268 : Nat) ({ cls := "FilingChains", name := "laterThan", desc := "([I[I)I" } : Jvm.MethodName)) ∈ lw_all := lw_g (lw_at lw_m8 48 rfl) rfl
theorem q1892 : (Jvm.Cond.privateMethod ({ cls := "FilingChains", name := "laterThan", desc := "([I[I)I" } : Jvm.MethodName)) ∈ lw_tbl := lw_at lw_m8 49 rfl
theorem q1893 : (Jvm.Cond.instanceMethod ({ cls := "FilingChains", name := "laterThan", desc := "([I[I)I" } : Jvm.MethodName)) ∈ lw_all := lw_g (lw_at lw_m8 50 rfl) rfl
theorem q1894 : (Jvm.Cond.code ({ cls := "FilingChains", name := "laterThan", desc := "([I[I)I" } : Jvm.MethodName) prog_1_method_39_code (5 : Nat) (Option.some Jvm.ClassFile.FieldType.int)) ∈ lw_all := lw_g (lw_at lw_m8 51 rfl) rfl
theorem q1896 : (Jvm.Cond.instanceMethod ({ cls := "FilingChains", name := "slip", desc := "(II)I" } : Jvm.MethodName)) ∈ lw_all := lw_g (lw_at lw_m8 53 rfl) rfl
theorem q1897 : (Jvm.Cond.selects "FilingChains" ({ cls := "FilingChains", name := "slip", desc := "(II)I" } : Jvm.MethodName) ({ cls := "FilingChains", name := "slip", desc := "(II)I" } : Jvm.MethodName)) ∈ lw_all := lw_g (lw_at lw_m8 54 rfl) rfl
theorem q1898 : (Jvm.Cond.code ({ cls := "FilingChains", name := "slip", desc := "(II)I" } : Jvm.MethodName) prog_1_method_41_code (6 : Nat) (Option.some Jvm.ClassFile.FieldType.int)) ∈ lw_all := lw_g (lw_at lw_m8 55 rfl) rfl
theorem q1900 : (Jvm.Cond.instanceMethod ({ cls := "FilingChains", name := "count", desc := "(I)I" } : Jvm.MethodName)) ∈ lw_all := lw_g (lw_at lw_m8 57 rfl) rfl
theorem q1901 : (Jvm.Cond.selects "FilingChains" ({ cls := "FilingChains", name := "count", desc := "(I)I" } : Jvm.MethodName) ({ cls := "FilingChains", name := "count", desc := "(I)I" } : Jvm.MethodName)) ∈ lw_all := lw_g (lw_at lw_m8 58 rfl) rfl
theorem q1902 : (Jvm.Cond.code ({ cls := "FilingChains", name := "count", desc := "(I)I" } : Jvm.MethodName) prog_1_method_44_code (2 : Nat) (Option.some Jvm.ClassFile.FieldType.int)) ∈ lw_all := lw_g (lw_at lw_m8 59 rfl) rfl
theorem q1903 : (Jvm.Cond.methodLink "FilingChains" (279 : Nat) ({ cls := "FilingChains", name := "holding", desc := "()I" } : Jvm.MethodName)) ∈ lw_all := lw_g (lw_at lw_m8 60 rfl) rfl
theorem q1904 : (Jvm.Cond.privateMethod ({ cls := "FilingChains", name := "holding", desc := "()I" } : Jvm.MethodName)) ∈ lw_tbl := lw_at lw_m8 61 rfl
theorem q1905 : (Jvm.Cond.instanceMethod ({ cls := "FilingChains", name := "holding", desc := "()I" } : Jvm.MethodName)) ∈ lw_all := lw_g (lw_at lw_m8 62 rfl) rfl
theorem q1906 : (Jvm.Cond.code ({ cls := "FilingChains", name := "holding", desc := "()I" } : Jvm.MethodName) prog_1_method_42_code (4 : Nat) (Option.some Jvm.ClassFile.FieldType.int)) ∈ lw_all := lw_g (lw_at lw_m8 63 rfl) rfl
theorem q1907 : (Jvm.Cond.methodLink "FilingChains" (282 : Nat) ({ cls := "FilingChains", name := "barredMany", desc := "()I" } : Jvm.MethodName)) ∈ lw_all := lw_g (lw_at lw_m8 64 rfl) rfl
theorem q1908 : (Jvm.Cond.privateMethod ({ cls := "FilingChains", name := "barredMany", desc := "()I" } : Jvm.MethodName)) ∈ lw_tbl := lw_at lw_m8 65 rfl
theorem q1909 : (Jvm.Cond.instanceMethod ({ cls := "FilingChains", name := "barredMany", desc := "()I" } : Jvm.MethodName)) ∈ lw_all := lw_g (lw_at lw_m8 66 rfl) rfl
theorem q1910 : (Jvm.Cond.code ({ cls := "FilingChains", name := "barredMany", desc := "()I" } : Jvm.MethodName) prog_1_method_43_code (3 : Nat) (Option.some Jvm.ClassFile.FieldType.int)) ∈ lw_all := lw_g (lw_at lw_m8 67 rfl) rfl
theorem q1911 : (Jvm.Cond.methodLink "FilingChains" (272 : Nat) ({ cls := "FilingChains", name := "barOf", desc := "(I)LFilingChains$Bar;" } : Jvm.MethodName)) ∈ lw_all := lw_g (lw_at lw_m8 68 rfl) rfl
theorem q1912 : (Jvm.Cond.privateMethod ({ cls := "FilingChains", name := "barOf", desc := "(I)LFilingChains$Bar;" } : Jvm.MethodName)) ∈ lw_tbl := lw_at lw_m8 69 rfl
theorem q1913 : (Jvm.Cond.instanceMethod ({ cls := "FilingChains", name := "barOf", desc := "(I)LFilingChains$Bar;" } : Jvm.MethodName)) ∈ lw_all := lw_g (lw_at lw_m8 70 rfl) rfl
theorem q1914 : (Jvm.Cond.code ({ cls := "FilingChains", name := "barOf", desc := "(I)LFilingChains$Bar;" } : Jvm.MethodName) prog_1_method_61_code (2 : Nat) (Option.some (Jvm.ClassFile.FieldType.object "FilingChains$Bar"))) ∈ lw_all := lw_g (lw_at lw_m8 71 rfl) rfl
theorem q1915 : (Jvm.Cond.methodLink "FilingChains" (401 : Nat) ({ cls := "FilingChains", name := "filerOf", desc := "(I)I" } : Jvm.MethodName)) ∈ lw_all := lw_g (lw_at lw_m8 72 rfl) rfl
theorem q1916 : (Jvm.Cond.privateMethod ({ cls := "FilingChains", name := "filerOf", desc := "(I)I" } : Jvm.MethodName)) ∈ lw_tbl := lw_at lw_m8 73 rfl
theorem q1917 : (Jvm.Cond.instanceMethod ({ cls := "FilingChains", name := "filerOf", desc := "(I)I" } : Jvm.MethodName)) ∈ lw_all := lw_g (lw_at lw_m8 74 rfl) rfl
theorem q1918 : (Jvm.Cond.code ({ cls := "FilingChains", name := "filerOf", desc := "(I)I" } : Jvm.MethodName) prog_1_method_20_code (2 : Nat) (Option.some Jvm.ClassFile.FieldType.int)) ∈ lw_all := lw_g (lw_at lw_m8 75 rfl) rfl
theorem q1919 : (Jvm.Cond.methodLink "FilingChains" (404 : Nat) ({ cls := "FilingChains", name := "barBy", desc := "(III)LFilingChains$Bar;" } : Jvm.MethodName)) ∈ lw_all := lw_g (lw_at lw_m8 76 rfl) rfl
theorem q1920 : (Jvm.Cond.privateMethod ({ cls := "FilingChains", name := "barBy", desc := "(III)LFilingChains$Bar;" } : Jvm.MethodName)) ∈ lw_tbl := lw_at lw_m8 77 rfl
theorem q1921 : (Jvm.Cond.instanceMethod ({ cls := "FilingChains", name := "barBy", desc := "(III)LFilingChains$Bar;" } : Jvm.MethodName)) ∈ lw_all := lw_g (lw_at lw_m8 78 rfl) rfl
theorem q1922 : (Jvm.Cond.code ({ cls := "FilingChains", name := "barBy", desc := "(III)LFilingChains$Bar;" } : Jvm.MethodName) prog_1_method_60_code (7 : Nat) (Option.some (Jvm.ClassFile.FieldType.object "FilingChains$Bar"))) ∈ lw_all := lw_g (lw_at lw_m8 79 rfl) rfl
theorem q1923 : (Jvm.Cond.methodLink "FilingChains" (391 : Nat) ({ cls := "FilingChains", name := "barShown", desc := "(IIII)I" } : Jvm.MethodName)) ∈ lw_all := lw_g (lw_at lw_m8 80 rfl) rfl
theorem q1924 : (Jvm.Cond.privateMethod ({ cls := "FilingChains", name := "barShown", desc := "(IIII)I" } : Jvm.MethodName)) ∈ lw_tbl := lw_at lw_m8 81 rfl
theorem q1925 : (Jvm.Cond.instanceMethod ({ cls := "FilingChains", name := "barShown", desc := "(IIII)I" } : Jvm.MethodName)) ∈ lw_all := lw_g (lw_at lw_m8 82 rfl) rfl
theorem q1926 : (Jvm.Cond.code ({ cls := "FilingChains", name := "barShown", desc := "(IIII)I" } : Jvm.MethodName) prog_1_method_59_code (8 : Nat) (Option.some Jvm.ClassFile.FieldType.int)) ∈ lw_all := lw_g (lw_at lw_m8 83 rfl) rfl
theorem q1927 : (Jvm.Cond.classLink "FilingChains" (370 : Nat) "FilingChains$Thing") ∈ lw_all := lw_g (lw_at lw_m8 84 rfl) rfl
theorem q1928 : (Jvm.Cond.methodLink "FilingChains" (382 : Nat) ({ cls := "FilingChains$Thing", name := "hasAll", desc := "(I)Z" } : Jvm.MethodName)) ∈ lw_all := lw_g (lw_at lw_m8 85 rfl) rfl
theorem q1932 : (Jvm.Cond.methodLink "FilingChains" (385 : Nat) ({ cls := "FilingChains", name := "counts", desc := "(LFilingChains$Thing;II)Z" } : Jvm.MethodName)) ∈ lw_all := lw_g (lw_at lw_m8 89 rfl) rfl
theorem q1933 : (Jvm.Cond.privateMethod ({ cls := "FilingChains", name := "counts", desc := "(LFilingChains$Thing;II)Z" } : Jvm.MethodName)) ∈ lw_tbl := lw_at lw_m8 90 rfl
theorem q1934 : (Jvm.Cond.instanceMethod ({ cls := "FilingChains", name := "counts", desc := "(LFilingChains$Thing;II)Z" } : Jvm.MethodName)) ∈ lw_all := lw_g (lw_at lw_m8 91 rfl) rfl
theorem q1935 : (Jvm.Cond.code ({ cls := "FilingChains", name := "counts", desc := "(LFilingChains$Thing;II)Z" } : Jvm.MethodName) prog_1_method_58_code (4 : Nat) (Option.some Jvm.ClassFile.FieldType.boolean)) ∈ lw_all := lw_g (lw_at lw_m8 92 rfl) rfl
theorem q1936 : (Jvm.Cond.methodLink "FilingChains" (375 : Nat) ({ cls := "FilingChains", name := "isGraced", desc := "(LFilingChains$Thing;II)Z" } : Jvm.MethodName)) ∈ lw_all := lw_g (lw_at lw_m8 93 rfl) rfl
theorem q1937 : (Jvm.Cond.privateMethod ({ cls := "FilingChains", name := "isGraced", desc := "(LFilingChains$Thing;II)Z" } : Jvm.MethodName)) ∈ lw_tbl := lw_at lw_m8 94 rfl
theorem q1938 : (Jvm.Cond.instanceMethod ({ cls := "FilingChains", name := "isGraced", desc := "(LFilingChains$Thing;II)Z" } : Jvm.MethodName)) ∈ lw_all := lw_g (lw_at lw_m8 95 rfl) rfl
theorem q1939 : (Jvm.Cond.code ({ cls := "FilingChains", name := "isGraced", desc := "(LFilingChains$Thing;II)Z" } : Jvm.MethodName) prog_1_method_57_code (4 : Nat) (Option.some Jvm.ClassFile.FieldType.boolean)) ∈ lw_all := lw_g (lw_at lw_m8 96 rfl) rfl
theorem q1940 : (Jvm.Cond.classLink "FilingChains" (277 : Nat) "FilingChains$Bar") ∈ lw_all := lw_g (lw_at lw_m8 97 rfl) rfl
theorem q1942 : (Jvm.Cond.methodLink "FilingChains" (395 : Nat) ({ cls := "FilingChains$Bar", name := "<init>", desc := "(III)V" } : Jvm.MethodName)) ∈ lw_all := lw_g (lw_at lw_m8 99 rfl) rfl
theorem q1947 : (Jvm.Cond.fieldLinkNest "FilingChains" (276 : Nat) "FilingChains$Bar" "sort" "I" "FilingChains") ∈ lw_tbl := lw_at lw_m8 104 rfl
theorem q1949 : (Jvm.Cond.fieldLinkNest "FilingChains" (408 : Nat) "FilingChains$Bar" "one" "I" "FilingChains") ∈ lw_tbl := lw_at lw_m8 106 rfl
theorem q1951 : (Jvm.Cond.fieldLinkNest "FilingChains" (411 : Nat) "FilingChains$Bar" "other" "I" "FilingChains") ∈ lw_tbl := lw_at lw_m8 108 rfl
theorem q1959 : (Jvm.Cond.methodLink "FilingChains" (330 : Nat) ({ cls := "java/util/ArrayList", name := "iterator", desc := "()Ljava/util/Iterator;" } : Jvm.MethodName)) ∈ lw_all := lw_g (lw_at lw_m8 116 rfl) rfl
theorem q1960 : (Jvm.Cond.classLink "FilingChains" (160 : Nat) "FilingChains$Filing") ∈ lw_all := lw_g (lw_at lw_m8 117 rfl) rfl
theorem q1961 : (Jvm.Cond.methodLink "FilingChains" (345 : Nat) ({ cls := "FilingChains", name := "opens", desc := "(LFilingChains$Filing;)I" } : Jvm.MethodName)) ∈ lw_all := lw_g (lw_at lw_m8 118 rfl) rfl
theorem q1962 : (Jvm.Cond.privateMethod ({ cls := "FilingChains", name := "opens", desc := "(LFilingChains$Filing;)I" } : Jvm.MethodName)) ∈ lw_tbl := lw_at lw_m8 119 rfl
theorem q1963 : (Jvm.Cond.instanceMethod ({ cls := "FilingChains", name := "opens", desc := "(LFilingChains$Filing;)I" } : Jvm.MethodName)) ∈ lw_all := lw_g (lw_at lw_m8 120 rfl) rfl
theorem q1964 : (Jvm.Cond.code ({ cls := "FilingChains", name := "opens", desc := "(LFilingChains$Filing;)I" } : Jvm.MethodName) prog_1_method_46_code (3 : Nat) (Option.some Jvm.ClassFile.FieldType.int)) ∈ lw_all := lw_g (lw_at lw_m8 121 rfl) rfl
theorem q1965 : (Jvm.Cond.methodLink "FilingChains" (285 : Nat) ({ cls := "java/util/ArrayDeque", name := "size", desc := "()I" } : Jvm.MethodName)) ∈ lw_all := lw_g (lw_at lw_m8 122 rfl) rfl
theorem q1973 : (Jvm.Cond.instanceMethod ({ cls := "FilingChains", name := "letter", desc := "(III)I" } : Jvm.MethodName)) ∈ lw_all := lw_g (lw_at lw_m8 130 rfl) rfl
theorem q1974 : (Jvm.Cond.selects "FilingChains" ({ cls := "FilingChains", name := "letter", desc := "(III)I" } : Jvm.MethodName) ({ cls := "FilingChains", name := "letter", desc := "(III)I" } : Jvm.MethodName)) ∈ lw_all := lw_g (lw_at lw_m8 131 rfl) rfl
theorem q1975 : (Jvm.Cond.code ({ cls := "FilingChains", name := "letter", desc := "(III)I" } : Jvm.MethodName) prog_1_method_45_code (6 : Nat) (Option.some Jvm.ClassFile.FieldType.int)) ∈ lw_all := lw_g (lw_at lw_m8 132 rfl) rfl
theorem q1976 : (Jvm.Cond.classLink "FilingChains" (286 : Nat) "java/lang/String") ∈ lw_all := lw_g (lw_at lw_m8 133 rfl) rfl
theorem q1977 : (Jvm.Cond.methodLink "FilingChains" (288 : Nat) ({ cls := "java/lang/String", name := "length", desc := "()I" } : Jvm.MethodName)) ∈ lw_all := lw_g (lw_at lw_m8 134 rfl) rfl
theorem q1978 : (Jvm.Cond.methodLink "FilingChains" (291 : Nat) ({ cls := "java/lang/String", name := "charAt", desc := "(I)C" } : Jvm.MethodName)) ∈ lw_all := lw_g (lw_at lw_m8 135 rfl) rfl
theorem q1994 : (Jvm.Cond.instanceMethod ({ cls := "FilingChains", name := "filing", desc := "(II)I" } : Jvm.MethodName)) ∈ lw_all := lw_g (lw_at lw_m8 151 rfl) rfl
theorem q1995 : (Jvm.Cond.selects "FilingChains" ({ cls := "FilingChains", name := "filing", desc := "(II)I" } : Jvm.MethodName) ({ cls := "FilingChains", name := "filing", desc := "(II)I" } : Jvm.MethodName)) ∈ lw_all := lw_g (lw_at lw_m8 152 rfl) rfl
theorem q1996 : (Jvm.Cond.code ({ cls := "FilingChains", name := "filing", desc := "(II)I" } : Jvm.MethodName) prog_1_method_50_code (4 : Nat) (Option.some Jvm.ClassFile.FieldType.int)) ∈ lw_all := lw_g (lw_at lw_m8 153 rfl) rfl
theorem q1997 : (Jvm.Cond.methodLink "FilingChains" (331 : Nat) ({ cls := "FilingChains$Filing", name := "all", desc := "()I" } : Jvm.MethodName)) ∈ lw_all := lw_g (lw_at lw_m8 154 rfl) rfl
theorem q1998 : (Jvm.Cond.methodLink "FilingChains" (338 : Nat) ({ cls := "FilingChains", name := "bitsOf", desc := "(Ljava/util/BitSet;)I" } : Jvm.MethodName)) ∈ lw_all := lw_g (lw_at lw_m8 155 rfl) rfl
theorem q1999 : (Jvm.Cond.methodLink "FilingChains" (342 : Nat) ({ cls := "FilingChains", name := "claimsOf", desc := "(I)I" } : Jvm.MethodName)) ∈ lw_all := lw_g (lw_at lw_m8 156 rfl) rfl
theorem q2000 : (Jvm.Cond.privateMethod ({ cls := "FilingChains", name := "claimsOf", desc := "(I)I" } : Jvm.MethodName)) ∈ lw_tbl := lw_at lw_m8 157 rfl
theorem q2001 : (Jvm.Cond.instanceMethod ({ cls := "FilingChains", name := "claimsOf", desc := "(I)I" } : Jvm.MethodName)) ∈ lw_all := lw_g (lw_at lw_m8 158 rfl) rfl
theorem q2002 : (Jvm.Cond.code ({ cls := "FilingChains", name := "claimsOf", desc := "(I)I" } : Jvm.MethodName) prog_1_method_49_code (5 : Nat) (Option.some Jvm.ClassFile.FieldType.int)) ∈ lw_all := lw_g (lw_at lw_m8 159 rfl) rfl
theorem q2003 : (Jvm.Cond.methodLink "FilingChains" (349 : Nat) ({ cls := "FilingChains", name := "oldest", desc := "(I)I" } : Jvm.MethodName)) ∈ lw_all := lw_g (lw_at lw_m8 160 rfl) rfl
theorem q2004 : (Jvm.Cond.privateMethod ({ cls := "FilingChains", name := "oldest", desc := "(I)I" } : Jvm.MethodName)) ∈ lw_tbl := lw_at lw_m8 161 rfl
theorem q2005 : (Jvm.Cond.instanceMethod ({ cls := "FilingChains", name := "oldest", desc := "(I)I" } : Jvm.MethodName)) ∈ lw_all := lw_g (lw_at lw_m8 162 rfl) rfl
theorem q2006 : (Jvm.Cond.code ({ cls := "FilingChains", name := "oldest", desc := "(I)I" } : Jvm.MethodName) prog_1_method_48_code (5 : Nat) (Option.some Jvm.ClassFile.FieldType.int)) ∈ lw_all := lw_g (lw_at lw_m8 163 rfl) rfl
theorem q2007 : (Jvm.Cond.classLink "FilingChains" (119 : Nat) "java/util/ArrayList") ∈ lw_all := lw_g (lw_at lw_m8 164 rfl) rfl
theorem q2008 : (Jvm.Cond.methodLink "FilingChains" (316 : Nat) ({ cls := "java/util/ArrayList", name := "<init>", desc := "()V" } : Jvm.MethodName)) ∈ lw_all := lw_g (lw_at lw_m8 165 rfl) rfl
theorem q2009 : (Jvm.Cond.methodLink "FilingChains" (317 : Nat) ({ cls := "FilingChains", name := "elders", desc := "(I)Ljava/util/BitSet;" } : Jvm.MethodName)) ∈ lw_all := lw_g (lw_at lw_m8 166 rfl) rfl
theorem q2010 : (Jvm.Cond.privateMethod ({ cls := "FilingChains", name := "elders", desc := "(I)Ljava/util/BitSet;" } : Jvm.MethodName)) ∈ lw_tbl := lw_at lw_m8 167 rfl
theorem q2011 : (Jvm.Cond.instanceMethod ({ cls := "FilingChains", name := "elders", desc := "(I)Ljava/util/BitSet;" } : Jvm.MethodName)) ∈ lw_all := lw_g (lw_at lw_m8 168 rfl) rfl
theorem q2012 : (Jvm.Cond.code ({ cls := "FilingChains", name := "elders", desc := "(I)Ljava/util/BitSet;" } : Jvm.MethodName) prog_1_method_47_code (7 : Nat) (Option.some (Jvm.ClassFile.FieldType.object "java/util/BitSet"))) ∈ lw_all := lw_g (lw_at lw_m8 169 rfl) rfl
theorem q2013 : (Jvm.Cond.methodLink "FilingChains" (295 : Nat) ({ cls := "java/lang/Integer", name := "valueOf", desc := "(I)Ljava/lang/Integer;" } : Jvm.MethodName)) ∈ lw_all := lw_g (lw_at lw_m8 170 rfl) rfl
theorem q2014 : (Jvm.Cond.methodLink "FilingChains" (301 : Nat) ({ cls := "java/util/ArrayDeque", name := "addLast", desc := "(Ljava/lang/Object;)V" } : Jvm.MethodName)) ∈ lw_all := lw_g (lw_at lw_m8 171 rfl) rfl
theorem q2015 : (Jvm.Cond.methodLink "FilingChains" (305 : Nat) ({ cls := "java/util/ArrayDeque", name := "isEmpty", desc := "()Z" } : Jvm.MethodName)) ∈ lw_all := lw_g (lw_at lw_m8 172 rfl) rfl
theorem q2016 : (Jvm.Cond.methodLink "FilingChains" (308 : Nat) ({ cls := "java/util/ArrayDeque", name := "removeFirst", desc := "()Ljava/lang/Object;" } : Jvm.MethodName)) ∈ lw_all := lw_g (lw_at lw_m8 173 rfl) rfl
theorem q2017 : (Jvm.Cond.classLink "FilingChains" (296 : Nat) "java/lang/Integer") ∈ lw_all := lw_g (lw_at lw_m8 174 rfl) rfl
theorem q2018 : (Jvm.Cond.methodLink "FilingChains" (311 : Nat) ({ cls := "java/lang/Integer", name := "intValue", desc := "()I" } : Jvm.MethodName)) ∈ lw_all := lw_g (lw_at lw_m8 175 rfl) rfl
theorem q2019 : (Jvm.Cond.methodLink "FilingChains" (314 : Nat) ({ cls := "java/util/BitSet", name := "get", desc := "(I)Z" } : Jvm.MethodName)) ∈ lw_all := lw_g (lw_at lw_m8 176 rfl) rfl
theorem q2020 : (Jvm.Cond.methodLink "FilingChains" (321 : Nat) ({ cls := "java/util/ArrayList", name := "add", desc := "(Ljava/lang/Object;)Z" } : Jvm.MethodName)) ∈ lw_all := lw_g (lw_at lw_m8 177 rfl) rfl
theorem q2021 : (Jvm.Cond.methodLink "FilingChains" (325 : Nat) ({ cls := "java/util/Collections", name := "min", desc := "(Ljava/util/Collection;)Ljava/lang/Object;" } : Jvm.MethodName)) ∈ lw_all := lw_g (lw_at lw_m8 178 rfl) rfl
theorem q2289 : (Jvm.Cond.instanceMethod ({ cls := "FilingChains", name := "bears", desc := "(II)I" } : Jvm.MethodName)) ∈ lw_all := lw_g (lw_at lw_m9 206 rfl) rfl
theorem q2290 : (Jvm.Cond.selects "FilingChains" ({ cls := "FilingChains", name := "bears", desc := "(II)I" } : Jvm.MethodName) ({ cls := "FilingChains", name := "bears", desc := "(II)I" } : Jvm.MethodName)) ∈ lw_all := lw_g (lw_at lw_m9 207 rfl) rfl
theorem q2291 : (Jvm.Cond.code ({ cls := "FilingChains", name := "bears", desc := "(II)I" } : Jvm.MethodName) prog_1_method_51_code (4 : Nat) (Option.some Jvm.ClassFile.FieldType.int)) ∈ lw_all := lw_g (lw_at lw_m9 208 rfl) rfl
theorem q2293 : (Jvm.Cond.instanceMethod ({ cls := "FilingChains", name := "linked", desc := "(II)I" } : Jvm.MethodName)) ∈ lw_all := lw_g (lw_at lw_m9 210 rfl) rfl
theorem q2294 : (Jvm.Cond.selects "FilingChains" ({ cls := "FilingChains", name := "linked", desc := "(II)I" } : Jvm.MethodName) ({ cls := "FilingChains", name := "linked", desc := "(II)I" } : Jvm.MethodName)) ∈ lw_all := lw_g (lw_at lw_m9 211 rfl) rfl
theorem q2295 : (Jvm.Cond.code ({ cls := "FilingChains", name := "linked", desc := "(II)I" } : Jvm.MethodName) prog_1_method_52_code (4 : Nat) (Option.some Jvm.ClassFile.FieldType.int)) ∈ lw_all := lw_g (lw_at lw_m9 212 rfl) rfl
theorem q2296 : (Jvm.Cond.methodLink "FilingChains" (352 : Nat) ({ cls := "java/util/LinkedList", name := "get", desc := "(I)Ljava/lang/Object;" } : Jvm.MethodName)) ∈ lw_all := lw_g (lw_at lw_m9 213 rfl) rfl
theorem q2298 : (Jvm.Cond.instanceMethod ({ cls := "FilingChains", name := "slack", desc := "(I)I" } : Jvm.MethodName)) ∈ lw_all := lw_g (lw_at lw_m9 215 rfl) rfl
theorem q2299 : (Jvm.Cond.selects "FilingChains" ({ cls := "FilingChains", name := "slack", desc := "(I)I" } : Jvm.MethodName) ({ cls := "FilingChains", name := "slack", desc := "(I)I" } : Jvm.MethodName)) ∈ lw_all := lw_g (lw_at lw_m9 216 rfl) rfl
theorem q2300 : (Jvm.Cond.code ({ cls := "FilingChains", name := "slack", desc := "(I)I" } : Jvm.MethodName) prog_1_method_53_code (2 : Nat) (Option.some Jvm.ClassFile.FieldType.int)) ∈ lw_all := lw_g (lw_at lw_m9 217 rfl) rfl
theorem q2301 : (Jvm.Cond.methodLink "FilingChains" (353 : Nat) ({ cls := "FilingChains", name := "slackOf", desc := "(LFilingChains$Link;)I" } : Jvm.MethodName)) ∈ lw_all := lw_g (lw_at lw_m9 218 rfl) rfl
theorem q2302 : (Jvm.Cond.privateMethod ({ cls := "FilingChains", name := "slackOf", desc := "(LFilingChains$Link;)I" } : Jvm.MethodName)) ∈ lw_tbl := lw_at lw_m9 219 rfl
theorem q2303 : (Jvm.Cond.instanceMethod ({ cls := "FilingChains", name := "slackOf", desc := "(LFilingChains$Link;)I" } : Jvm.MethodName)) ∈ lw_all := lw_g (lw_at lw_m9 220 rfl) rfl
theorem q2304 : (Jvm.Cond.code ({ cls := "FilingChains", name := "slackOf", desc := "(LFilingChains$Link;)I" } : Jvm.MethodName) prog_1_method_24_code (4 : Nat) (Option.some Jvm.ClassFile.FieldType.int)) ∈ lw_all := lw_g (lw_at lw_m9 221 rfl) rfl
theorem q2305 : (Jvm.Cond.constant "FilingChains" (356 : Nat) (-100000 : Int32)) ∈ lw_all := lw_g (lw_at lw_m9 222 rfl) rfl
theorem q2307 : (Jvm.Cond.instanceMethod ({ cls := "FilingChains", name := "holds", desc := "(II)I" } : Jvm.MethodName)) ∈ lw_all := lw_g (lw_at lw_m9 224 rfl) rfl
theorem q2308 : (Jvm.Cond.selects "FilingChains" ({ cls := "FilingChains", name := "holds", desc := "(II)I" } : Jvm.MethodName) ({ cls := "FilingChains", name := "holds", desc := "(II)I" } : Jvm.MethodName)) ∈ lw_all := lw_g (lw_at lw_m9 225 rfl) rfl
theorem q2309 : (Jvm.Cond.code ({ cls := "FilingChains", name := "holds", desc := "(II)I" } : Jvm.MethodName) prog_1_method_54_code (3 : Nat) (Option.some Jvm.ClassFile.FieldType.int)) ∈ lw_all := lw_g (lw_at lw_m9 226 rfl) rfl
theorem q2310 : (Jvm.Cond.methodLink "FilingChains" (357 : Nat) ({ cls := "FilingChains", name := "holdsFor", desc := "(LFilingChains$Link;I)Z" } : Jvm.MethodName)) ∈ lw_all := lw_g (lw_at lw_m9 227 rfl) rfl
theorem q2312 : (Jvm.Cond.instanceMethod ({ cls := "FilingChains", name := "claim", desc := "(II)I" } : Jvm.MethodName)) ∈ lw_all := lw_g (lw_at lw_m9 229 rfl) rfl
theorem q2313 : (Jvm.Cond.selects "FilingChains" ({ cls := "FilingChains", name := "claim", desc := "(II)I" } : Jvm.MethodName) ({ cls := "FilingChains", name := "claim", desc := "(II)I" } : Jvm.MethodName)) ∈ lw_all := lw_g (lw_at lw_m9 230 rfl) rfl
theorem q2314 : (Jvm.Cond.code ({ cls := "FilingChains", name := "claim", desc := "(II)I" } : Jvm.MethodName) prog_1_method_55_code (3 : Nat) (Option.some Jvm.ClassFile.FieldType.int)) ∈ lw_all := lw_g (lw_at lw_m9 231 rfl) rfl
theorem q2315 : (Jvm.Cond.methodLink "FilingChains" (361 : Nat) ({ cls := "FilingChains", name := "isClaim", desc := "(I)Z" } : Jvm.MethodName)) ∈ lw_all := lw_g (lw_at lw_m9 232 rfl) rfl
theorem q2316 : (Jvm.Cond.privateMethod ({ cls := "FilingChains", name := "isClaim", desc := "(I)Z" } : Jvm.MethodName)) ∈ lw_tbl := lw_at lw_m9 233 rfl
theorem q2317 : (Jvm.Cond.instanceMethod ({ cls := "FilingChains", name := "isClaim", desc := "(I)Z" } : Jvm.MethodName)) ∈ lw_all := lw_g (lw_at lw_m9 234 rfl) rfl
theorem q2318 : (Jvm.Cond.code ({ cls := "FilingChains", name := "isClaim", desc := "(I)Z" } : Jvm.MethodName) prog_1_method_14_code (2 : Nat) (Option.some Jvm.ClassFile.FieldType.boolean)) ∈ lw_all := lw_g (lw_at lw_m9 235 rfl) rfl
theorem q2319 : (Jvm.Cond.methodLink "FilingChains" (364 : Nat) ({ cls := "FilingChains", name := "marginOf", desc := "(I)I" } : Jvm.MethodName)) ∈ lw_all := lw_g (lw_at lw_m9 236 rfl) rfl
theorem q2320 : (Jvm.Cond.privateMethod ({ cls := "FilingChains", name := "marginOf", desc := "(I)I" } : Jvm.MethodName)) ∈ lw_tbl := lw_at lw_m9 237 rfl
theorem q2321 : (Jvm.Cond.instanceMethod ({ cls := "FilingChains", name := "marginOf", desc := "(I)I" } : Jvm.MethodName)) ∈ lw_all := lw_g (lw_at lw_m9 238 rfl) rfl
theorem q2322 : (Jvm.Cond.code ({ cls := "FilingChains", name := "marginOf", desc := "(I)I" } : Jvm.MethodName) prog_1_method_62_code (8 : Nat) (Option.some Jvm.ClassFile.FieldType.int)) ∈ lw_all := lw_g (lw_at lw_m9 239 rfl) rfl
theorem q2324 : (Jvm.Cond.instanceMethod ({ cls := "FilingChains", name := "shown", desc := "(II)I" } : Jvm.MethodName)) ∈ lw_all := lw_g (lw_at lw_m10 1 rfl) rfl
theorem q2325 : (Jvm.Cond.selects "FilingChains" ({ cls := "FilingChains", name := "shown", desc := "(II)I" } : Jvm.MethodName) ({ cls := "FilingChains", name := "shown", desc := "(II)I" } : Jvm.MethodName)) ∈ lw_all := lw_g (lw_at lw_m10 2 rfl) rfl
theorem q2326 : (Jvm.Cond.code ({ cls := "FilingChains", name := "shown", desc := "(II)I" } : Jvm.MethodName) prog_1_method_56_code (4 : Nat) (Option.some Jvm.ClassFile.FieldType.int)) ∈ lw_all := lw_g (lw_at lw_m10 3 rfl) rfl
theorem q2327 : (Jvm.Cond.methodLink "FilingChains" (367 : Nat) ({ cls := "FilingChains", name := "isThing", desc := "(I)Z" } : Jvm.MethodName)) ∈ lw_all := lw_g (lw_at lw_m10 4 rfl) rfl
theorem q2328 : (Jvm.Cond.privateMethod ({ cls := "FilingChains", name := "isThing", desc := "(I)Z" } : Jvm.MethodName)) ∈ lw_tbl := lw_at lw_m10 5 rfl
theorem q2329 : (Jvm.Cond.instanceMethod ({ cls := "FilingChains", name := "isThing", desc := "(I)Z" } : Jvm.MethodName)) ∈ lw_all := lw_g (lw_at lw_m10 6 rfl) rfl
theorem q2330 : (Jvm.Cond.code ({ cls := "FilingChains", name := "isThing", desc := "(I)Z" } : Jvm.MethodName) prog_1_method_15_code (2 : Nat) (Option.some Jvm.ClassFile.FieldType.boolean)) ∈ lw_all := lw_g (lw_at lw_m10 7 rfl) rfl
theorem q2332 : (Jvm.Cond.instanceMethod ({ cls := "FilingChains", name := "bars", desc := "(II)I" } : Jvm.MethodName)) ∈ lw_all := lw_g (lw_at lw_m10 9 rfl) rfl
theorem q2333 : (Jvm.Cond.selects "FilingChains" ({ cls := "FilingChains", name := "bars", desc := "(II)I" } : Jvm.MethodName) ({ cls := "FilingChains", name := "bars", desc := "(II)I" } : Jvm.MethodName)) ∈ lw_all := lw_g (lw_at lw_m10 10 rfl) rfl
theorem q2334 : (Jvm.Cond.code ({ cls := "FilingChains", name := "bars", desc := "(II)I" } : Jvm.MethodName) prog_1_method_63_code (5 : Nat) (Option.some Jvm.ClassFile.FieldType.int)) ∈ lw_all := lw_g (lw_at lw_m10 11 rfl) rfl
theorem q2336 : (Jvm.Cond.instanceMethod ({ cls := "FilingChains", name := "bar", desc := "(II)I" } : Jvm.MethodName)) ∈ lw_all := lw_g (lw_at lw_m10 13 rfl) rfl
theorem q2337 : (Jvm.Cond.selects "FilingChains" ({ cls := "FilingChains", name := "bar", desc := "(II)I" } : Jvm.MethodName) ({ cls := "FilingChains", name := "bar", desc := "(II)I" } : Jvm.MethodName)) ∈ lw_all := lw_g (lw_at lw_m10 14 rfl) rfl
theorem q2338 : (Jvm.Cond.code ({ cls := "FilingChains", name := "bar", desc := "(II)I" } : Jvm.MethodName) prog_1_method_64_code (4 : Nat) (Option.some Jvm.ClassFile.FieldType.int)) ∈ lw_all := lw_g (lw_at lw_m10 15 rfl) rfl
theorem q2340 : (Jvm.Cond.instanceMethod ({ cls := "FilingChains", name := "graced", desc := "(I)I" } : Jvm.MethodName)) ∈ lw_all := lw_g (lw_at lw_m10 17 rfl) rfl
theorem q2341 : (Jvm.Cond.selects "FilingChains" ({ cls := "FilingChains", name := "graced", desc := "(I)I" } : Jvm.MethodName) ({ cls := "FilingChains", name := "graced", desc := "(I)I" } : Jvm.MethodName)) ∈ lw_all := lw_g (lw_at lw_m10 18 rfl) rfl
theorem q2342 : (Jvm.Cond.code ({ cls := "FilingChains", name := "graced", desc := "(I)I" } : Jvm.MethodName) prog_1_method_65_code (4 : Nat) (Option.some Jvm.ClassFile.FieldType.int)) ∈ lw_all := lw_g (lw_at lw_m10 19 rfl) rfl
theorem q2343 : (Jvm.Cond.methodLink "FilingChains" (414 : Nat) ({ cls := "FilingChains", name := "bars", desc := "(II)I" } : Jvm.MethodName)) ∈ lw_all := lw_g (lw_at lw_m10 20 rfl) rfl
theorem q2345 : (Jvm.Cond.instanceMethod ({ cls := "FilingChains", name := "guard", desc := "(II)I" } : Jvm.MethodName)) ∈ lw_all := lw_g (lw_at lw_m10 22 rfl) rfl
theorem q2346 : (Jvm.Cond.selects "FilingChains" ({ cls := "FilingChains", name := "guard", desc := "(II)I" } : Jvm.MethodName) ({ cls := "FilingChains", name := "guard", desc := "(II)I" } : Jvm.MethodName)) ∈ lw_all := lw_g (lw_at lw_m10 23 rfl) rfl
theorem q2347 : (Jvm.Cond.code ({ cls := "FilingChains", name := "guard", desc := "(II)I" } : Jvm.MethodName) prog_1_method_66_code (6 : Nat) (Option.some Jvm.ClassFile.FieldType.int)) ∈ lw_all := lw_g (lw_at lw_m10 24 rfl) rfl
theorem q2348 : (Jvm.Cond.methodLink "FilingChains" (417 : Nat) ({ cls := "java/lang/Integer", name := "bitCount", desc := "(I)I" } : Jvm.MethodName)) ∈ lw_all := lw_g (lw_at lw_m10 25 rfl) rfl
theorem q2355 : (Jvm.Cond.instanceMethod ({ cls := "FilingChains", name := "alone", desc := "(III)I" } : Jvm.MethodName)) ∈ lw_all := lw_g (lw_at lw_m10 32 rfl) rfl
theorem q2356 : (Jvm.Cond.selects "FilingChains" ({ cls := "FilingChains", name := "alone", desc := "(III)I" } : Jvm.MethodName) ({ cls := "FilingChains", name := "alone", desc := "(III)I" } : Jvm.MethodName)) ∈ lw_all := lw_g (lw_at lw_m10 33 rfl) rfl
theorem q2357 : (Jvm.Cond.code ({ cls := "FilingChains", name := "alone", desc := "(III)I" } : Jvm.MethodName) prog_1_method_67_code (4 : Nat) (Option.some Jvm.ClassFile.FieldType.int)) ∈ lw_all := lw_g (lw_at lw_m10 34 rfl) rfl
theorem q2358 : (Jvm.Cond.methodLink "FilingChains" (420 : Nat) ({ cls := "FilingChains", name := "isFiler", desc := "(I)Z" } : Jvm.MethodName)) ∈ lw_all := lw_g (lw_at lw_m10 35 rfl) rfl
theorem q2359 : (Jvm.Cond.privateMethod ({ cls := "FilingChains", name := "isFiler", desc := "(I)Z" } : Jvm.MethodName)) ∈ lw_tbl := lw_at lw_m10 36 rfl
theorem q2360 : (Jvm.Cond.instanceMethod ({ cls := "FilingChains", name := "isFiler", desc := "(I)Z" } : Jvm.MethodName)) ∈ lw_all := lw_g (lw_at lw_m10 37 rfl) rfl
theorem q2361 : (Jvm.Cond.code ({ cls := "FilingChains", name := "isFiler", desc := "(I)Z" } : Jvm.MethodName) prog_1_method_12_code (2 : Nat) (Option.some Jvm.ClassFile.FieldType.boolean)) ∈ lw_all := lw_g (lw_at lw_m10 38 rfl) rfl
theorem q2362 : (Jvm.Cond.methodLink "FilingChains" (423 : Nat) ({ cls := "FilingChains", name := "isDay", desc := "(I)Z" } : Jvm.MethodName)) ∈ lw_all := lw_g (lw_at lw_m10 39 rfl) rfl
theorem q2363 : (Jvm.Cond.static ({ cls := "FilingChains", name := "isDay", desc := "(I)Z" } : Jvm.MethodName)) ∈ lw_all := lw_g (lw_at lw_m10 40 rfl) rfl
theorem q2364 : (Jvm.Cond.code ({ cls := "FilingChains", name := "isDay", desc := "(I)Z" } : Jvm.MethodName) prog_1_method_17_code (1 : Nat) (Option.some Jvm.ClassFile.FieldType.boolean)) ∈ lw_all := lw_g (lw_at lw_m10 41 rfl) rfl
theorem q2366 : (Jvm.Cond.instanceMethod ({ cls := "FilingChains", name := "latest", desc := "(II)I" } : Jvm.MethodName)) ∈ lw_all := lw_g (lw_at lw_m10 43 rfl) rfl
theorem q2367 : (Jvm.Cond.selects "FilingChains" ({ cls := "FilingChains", name := "latest", desc := "(II)I" } : Jvm.MethodName) ({ cls := "FilingChains", name := "latest", desc := "(II)I" } : Jvm.MethodName)) ∈ lw_all := lw_g (lw_at lw_m10 44 rfl) rfl
theorem q2368 : (Jvm.Cond.code ({ cls := "FilingChains", name := "latest", desc := "(II)I" } : Jvm.MethodName) prog_1_method_68_code (6 : Nat) (Option.some Jvm.ClassFile.FieldType.int)) ∈ lw_all := lw_g (lw_at lw_m10 45 rfl) rfl
theorem q2370 : (Jvm.Cond.instanceMethod ({ cls := "FilingChains", name := "order", desc := "(II)I" } : Jvm.MethodName)) ∈ lw_all := lw_g (lw_at lw_m10 47 rfl) rfl
theorem q2371 : (Jvm.Cond.selects "FilingChains" ({ cls := "FilingChains", name := "order", desc := "(II)I" } : Jvm.MethodName) ({ cls := "FilingChains", name := "order", desc := "(II)I" } : Jvm.MethodName)) ∈ lw_all := lw_g (lw_at lw_m10 48 rfl) rfl
theorem q2372 : (Jvm.Cond.code ({ cls := "FilingChains", name := "order", desc := "(II)I" } : Jvm.MethodName) prog_1_method_70_code (4 : Nat) (Option.some Jvm.ClassFile.FieldType.int)) ∈ lw_all := lw_g (lw_at lw_m10 49 rfl) rfl
theorem q2373 : (Jvm.Cond.methodLink "FilingChains" (430 : Nat) ({ cls := "FilingChains", name := "ordered", desc := "(I)Ljava/util/LinkedList;" } : Jvm.MethodName)) ∈ lw_all := lw_g (lw_at lw_m10 50 rfl) rfl
theorem q2374 : (Jvm.Cond.privateMethod ({ cls := "FilingChains", name := "ordered", desc := "(I)Ljava/util/LinkedList;" } : Jvm.MethodName)) ∈ lw_tbl := lw_at lw_m10 51 rfl
theorem q2375 : (Jvm.Cond.instanceMethod ({ cls := "FilingChains", name := "ordered", desc := "(I)Ljava/util/LinkedList;" } : Jvm.MethodName)) ∈ lw_all := lw_g (lw_at lw_m10 52 rfl) rfl
theorem q2376 : (Jvm.Cond.code ({ cls := "FilingChains", name := "ordered", desc := "(I)Ljava/util/LinkedList;" } : Jvm.MethodName) prog_1_method_69_code (8 : Nat) (Option.some (Jvm.ClassFile.FieldType.object "java/util/LinkedList"))) ∈ lw_all := lw_g (lw_at lw_m10 53 rfl) rfl
theorem q2377 : (Jvm.Cond.classLink "FilingChains" (133 : Nat) "java/util/LinkedList") ∈ lw_all := lw_g (lw_at lw_m10 54 rfl) rfl
theorem q2378 : (Jvm.Cond.methodLink "FilingChains" (426 : Nat) ({ cls := "java/util/LinkedList", name := "<init>", desc := "()V" } : Jvm.MethodName)) ∈ lw_all := lw_g (lw_at lw_m10 55 rfl) rfl
theorem q2379 : (Jvm.Cond.methodLink "FilingChains" (427 : Nat) ({ cls := "java/util/LinkedList", name := "add", desc := "(ILjava/lang/Object;)V" } : Jvm.MethodName)) ∈ lw_all := lw_g (lw_at lw_m10 56 rfl) rfl
theorem q2388 : (Jvm.Cond.instanceMethod ({ cls := "FilingChains", name := "rival", desc := "(I)I" } : Jvm.MethodName)) ∈ lw_all := lw_g (lw_at lw_m10 65 rfl) rfl
theorem q2389 : (Jvm.Cond.selects "FilingChains" ({ cls := "FilingChains", name := "rival", desc := "(I)I" } : Jvm.MethodName) ({ cls := "FilingChains", name := "rival", desc := "(I)I" } : Jvm.MethodName)) ∈ lw_all := lw_g (lw_at lw_m10 66 rfl) rfl
theorem q2390 : (Jvm.Cond.code ({ cls := "FilingChains", name := "rival", desc := "(I)I" } : Jvm.MethodName) prog_1_method_71_code (4 : Nat) (Option.some Jvm.ClassFile.FieldType.int)) ∈ lw_all := lw_g (lw_at lw_m10 67 rfl) rfl
theorem q2391 : (Jvm.Cond.interfaceEntry "FilingChains" (434 : Nat)) ∈ lw_tbl := lw_at lw_m10 68 rfl
theorem q2392 : (Jvm.Cond.methodLink "FilingChains" (434 : Nat) ({ cls := "java/util/Iterator", name := "remove", desc := "()V" } : Jvm.MethodName)) ∈ lw_all := lw_g (lw_at lw_m10 69 rfl) rfl
theorem q2489 : (Jvm.Cond.methodLink "FilingChains" (437 : Nat) ({ cls := "java/util/LinkedList", name := "isEmpty", desc := "()Z" } : Jvm.MethodName)) ∈ lw_all := lw_g (lw_at lw_m10 166 rfl) rfl
theorem q2496 : (Jvm.Cond.methodLink "FilingChains" (438 : Nat) ({ cls := "java/util/LinkedList", name := "getFirst", desc := "()Ljava/lang/Object;" } : Jvm.MethodName)) ∈ lw_all := lw_g (lw_at lw_m10 173 rfl) rfl
theorem q2501 : (Jvm.Cond.instanceMethod ({ cls := "FilingChains", name := "family", desc := "(I)I" } : Jvm.MethodName)) ∈ lw_all := lw_g (lw_at lw_m10 178 rfl) rfl
theorem q2502 : (Jvm.Cond.selects "FilingChains" ({ cls := "FilingChains", name := "family", desc := "(I)I" } : Jvm.MethodName) ({ cls := "FilingChains", name := "family", desc := "(I)I" } : Jvm.MethodName)) ∈ lw_all := lw_g (lw_at lw_m10 179 rfl) rfl
theorem q2503 : (Jvm.Cond.code ({ cls := "FilingChains", name := "family", desc := "(I)I" } : Jvm.MethodName) prog_1_method_72_code (6 : Nat) (Option.some Jvm.ClassFile.FieldType.int)) ∈ lw_all := lw_g (lw_at lw_m10 180 rfl) rfl
theorem q2505 : (Jvm.Cond.instanceMethod ({ cls := "FilingChains", name := "depth", desc := "(I)I" } : Jvm.MethodName)) ∈ lw_all := lw_g (lw_at lw_m10 182 rfl) rfl
theorem q2506 : (Jvm.Cond.selects "FilingChains" ({ cls := "FilingChains", name := "depth", desc := "(I)I" } : Jvm.MethodName) ({ cls := "FilingChains", name := "depth", desc := "(I)I" } : Jvm.MethodName)) ∈ lw_all := lw_g (lw_at lw_m10 183 rfl) rfl
theorem q2507 : (Jvm.Cond.code ({ cls := "FilingChains", name := "depth", desc := "(I)I" } : Jvm.MethodName) prog_1_method_74_code (2 : Nat) (Option.some Jvm.ClassFile.FieldType.int)) ∈ lw_all := lw_g (lw_at lw_m10 184 rfl) rfl
theorem q2508 : (Jvm.Cond.methodLink "FilingChains" (441 : Nat) ({ cls := "FilingChains", name := "deepest", desc := "(ILjava/util/BitSet;)I" } : Jvm.MethodName)) ∈ lw_all := lw_g (lw_at lw_m10 185 rfl) rfl
theorem q2509 : (Jvm.Cond.privateMethod ({ cls := "FilingChains", name := "deepest", desc := "(ILjava/util/BitSet;)I" } : Jvm.MethodName)) ∈ lw_tbl := lw_at lw_m10 186 rfl
theorem q2510 : (Jvm.Cond.instanceMethod ({ cls := "FilingChains", name := "deepest", desc := "(ILjava/util/BitSet;)I" } : Jvm.MethodName)) ∈ lw_all := lw_g (lw_at lw_m10 187 rfl) rfl
theorem q2511 : (Jvm.Cond.code ({ cls := "FilingChains", name := "deepest", desc := "(ILjava/util/BitSet;)I" } : Jvm.MethodName) prog_1_method_73_code (6 : Nat) (Option.some Jvm.ClassFile.FieldType.int)) ∈ lw_all := lw_g (lw_at lw_m10 188 rfl) rfl
theorem q2512 : (Jvm.Cond.methodLink "FilingChains" (445 : Nat) ({ cls := "java/lang/Math", name := "max", desc := "(II)I" } : Jvm.MethodName)) ∈ lw_all := lw_g (lw_at lw_m10 189 rfl) rfl
theorem q2513 : (Jvm.Cond.methodLink "FilingChains" (448 : Nat) ({ cls := "java/util/BitSet", name := "clear", desc := "(I)V" } : Jvm.MethodName)) ∈ lw_all := lw_g (lw_at lw_m10 190 rfl) rfl
theorem q2522 : (Jvm.Cond.instanceMethod ({ cls := "FilingChains", name := "heirs", desc := "(II)I" } : Jvm.MethodName)) ∈ lw_all := lw_g (lw_at lw_m10 199 rfl) rfl
theorem q2523 : (Jvm.Cond.selects "FilingChains" ({ cls := "FilingChains", name := "heirs", desc := "(II)I" } : Jvm.MethodName) ({ cls := "FilingChains", name := "heirs", desc := "(II)I" } : Jvm.MethodName)) ∈ lw_all := lw_g (lw_at lw_m10 200 rfl) rfl
theorem q2524 : (Jvm.Cond.code ({ cls := "FilingChains", name := "heirs", desc := "(II)I" } : Jvm.MethodName) prog_1_method_75_code (5 : Nat) (Option.some Jvm.ClassFile.FieldType.int)) ∈ lw_all := lw_g (lw_at lw_m10 201 rfl) rfl
theorem q2526 : (Jvm.Cond.instanceMethod ({ cls := "FilingChains", name := "first", desc := "(II)I" } : Jvm.MethodName)) ∈ lw_all := lw_g (lw_at lw_m10 203 rfl) rfl
theorem q2527 : (Jvm.Cond.selects "FilingChains" ({ cls := "FilingChains", name := "first", desc := "(II)I" } : Jvm.MethodName) ({ cls := "FilingChains", name := "first", desc := "(II)I" } : Jvm.MethodName)) ∈ lw_all := lw_g (lw_at lw_m10 204 rfl) rfl
theorem q2528 : (Jvm.Cond.code ({ cls := "FilingChains", name := "first", desc := "(II)I" } : Jvm.MethodName) prog_1_method_76_code (8 : Nat) (Option.some Jvm.ClassFile.FieldType.int)) ∈ lw_all := lw_g (lw_at lw_m10 205 rfl) rfl
theorem q2530 : (Jvm.Cond.instanceMethod ({ cls := "FilingChains", name := "twins", desc := "(I)I" } : Jvm.MethodName)) ∈ lw_all := lw_g (lw_at lw_m10 207 rfl) rfl
theorem q2531 : (Jvm.Cond.selects "FilingChains" ({ cls := "FilingChains", name := "twins", desc := "(I)I" } : Jvm.MethodName) ({ cls := "FilingChains", name := "twins", desc := "(I)I" } : Jvm.MethodName)) ∈ lw_all := lw_g (lw_at lw_m10 208 rfl) rfl
theorem q2532 : (Jvm.Cond.code ({ cls := "FilingChains", name := "twins", desc := "(I)I" } : Jvm.MethodName) prog_1_method_77_code (4 : Nat) (Option.some Jvm.ClassFile.FieldType.int)) ∈ lw_all := lw_g (lw_at lw_m10 209 rfl) rfl
theorem q2534 : (Jvm.Cond.instanceMethod ({ cls := "FilingChains", name := "window", desc := "(II)I" } : Jvm.MethodName)) ∈ lw_all := lw_g (lw_at lw_m10 211 rfl) rfl
theorem q2535 : (Jvm.Cond.selects "FilingChains" ({ cls := "FilingChains", name := "window", desc := "(II)I" } : Jvm.MethodName) ({ cls := "FilingChains", name := "window", desc := "(II)I" } : Jvm.MethodName)) ∈ lw_all := lw_g (lw_at lw_m10 212 rfl) rfl
theorem q2536 : (Jvm.Cond.code ({ cls := "FilingChains", name := "window", desc := "(II)I" } : Jvm.MethodName) prog_1_method_78_code (4 : Nat) (Option.some Jvm.ClassFile.FieldType.int)) ∈ lw_all := lw_g (lw_at lw_m10 213 rfl) rfl
theorem q2538 : (Jvm.Cond.instanceMethod ({ cls := "FilingChains", name := "nearest", desc := "(II)I" } : Jvm.MethodName)) ∈ lw_all := lw_g (lw_at lw_m10 215 rfl) rfl
theorem q2539 : (Jvm.Cond.selects "FilingChains" ({ cls := "FilingChains", name := "nearest", desc := "(II)I" } : Jvm.MethodName) ({ cls := "FilingChains", name := "nearest", desc := "(II)I" } : Jvm.MethodName)) ∈ lw_all := lw_g (lw_at lw_m10 216 rfl) rfl
theorem q2540 : (Jvm.Cond.code ({ cls := "FilingChains", name := "nearest", desc := "(II)I" } : Jvm.MethodName) prog_1_method_79_code (7 : Nat) (Option.some Jvm.ClassFile.FieldType.int)) ∈ lw_all := lw_g (lw_at lw_m10 217 rfl) rfl
theorem q2542 : (Jvm.Cond.instanceMethod ({ cls := "FilingChains", name := "late", desc := "(I)I" } : Jvm.MethodName)) ∈ lw_all := lw_g (lw_at lw_m10 219 rfl) rfl
theorem q2543 : (Jvm.Cond.selects "FilingChains" ({ cls := "FilingChains", name := "late", desc := "(I)I" } : Jvm.MethodName) ({ cls := "FilingChains", name := "late", desc := "(I)I" } : Jvm.MethodName)) ∈ lw_all := lw_g (lw_at lw_m10 220 rfl) rfl
theorem q2544 : (Jvm.Cond.code ({ cls := "FilingChains", name := "late", desc := "(I)I" } : Jvm.MethodName) prog_1_method_80_code (6 : Nat) (Option.some Jvm.ClassFile.FieldType.int)) ∈ lw_all := lw_g (lw_at lw_m10 221 rfl) rfl
theorem q2546 : (Jvm.Cond.instanceMethod ({ cls := "FilingChains", name := "ending", desc := "(II)I" } : Jvm.MethodName)) ∈ lw_all := lw_g (lw_at lw_m10 223 rfl) rfl
theorem q2547 : (Jvm.Cond.selects "FilingChains" ({ cls := "FilingChains", name := "ending", desc := "(II)I" } : Jvm.MethodName) ({ cls := "FilingChains", name := "ending", desc := "(II)I" } : Jvm.MethodName)) ∈ lw_all := lw_g (lw_at lw_m10 224 rfl) rfl
theorem q2548 : (Jvm.Cond.code ({ cls := "FilingChains", name := "ending", desc := "(II)I" } : Jvm.MethodName) prog_1_method_81_code (7 : Nat) (Option.some Jvm.ClassFile.FieldType.int)) ∈ lw_all := lw_g (lw_at lw_m10 225 rfl) rfl
theorem q2550 : (Jvm.Cond.instanceMethod ({ cls := "FilingChains", name := "broken", desc := "()I" } : Jvm.MethodName)) ∈ lw_all := lw_g (lw_at lw_m10 227 rfl) rfl
theorem q2551 : (Jvm.Cond.selects "FilingChains" ({ cls := "FilingChains", name := "broken", desc := "()I" } : Jvm.MethodName) ({ cls := "FilingChains", name := "broken", desc := "()I" } : Jvm.MethodName)) ∈ lw_all := lw_g (lw_at lw_m10 228 rfl) rfl
theorem q2552 : (Jvm.Cond.code ({ cls := "FilingChains", name := "broken", desc := "()I" } : Jvm.MethodName) prog_1_method_82_code (5 : Nat) (Option.some Jvm.ClassFile.FieldType.int)) ∈ lw_all := lw_g (lw_at lw_m10 229 rfl) rfl
theorem q2554 : (Jvm.Cond.instanceMethod ({ cls := "FilingChains", name := "tight", desc := "(I)I" } : Jvm.MethodName)) ∈ lw_all := lw_g (lw_at lw_m10 231 rfl) rfl
theorem q2555 : (Jvm.Cond.selects "FilingChains" ({ cls := "FilingChains", name := "tight", desc := "(I)I" } : Jvm.MethodName) ({ cls := "FilingChains", name := "tight", desc := "(I)I" } : Jvm.MethodName)) ∈ lw_all := lw_g (lw_at lw_m10 232 rfl) rfl
theorem q2556 : (Jvm.Cond.code ({ cls := "FilingChains", name := "tight", desc := "(I)I" } : Jvm.MethodName) prog_1_method_83_code (7 : Nat) (Option.some Jvm.ClassFile.FieldType.int)) ∈ lw_all := lw_g (lw_at lw_m10 233 rfl) rfl
theorem q2558 : (Jvm.Cond.instanceMethod ({ cls := "FilingChains", name := "write", desc := "(I)I" } : Jvm.MethodName)) ∈ lw_all := lw_g (lw_at lw_m10 235 rfl) rfl
theorem q2559 : (Jvm.Cond.selects "FilingChains" ({ cls := "FilingChains", name := "write", desc := "(I)I" } : Jvm.MethodName) ({ cls := "FilingChains", name := "write", desc := "(I)I" } : Jvm.MethodName)) ∈ lw_all := lw_g (lw_at lw_m10 236 rfl) rfl
theorem q2560 : (Jvm.Cond.code ({ cls := "FilingChains", name := "write", desc := "(I)I" } : Jvm.MethodName) prog_1_method_86_code (6 : Nat) (Option.some Jvm.ClassFile.FieldType.int)) ∈ lw_all := lw_g (lw_at lw_m10 237 rfl) rfl
theorem q2561 : (Jvm.Cond.methodLink "FilingChains" (460 : Nat) ({ cls := "FilingChains", name := "writes", desc := "(Ljava/lang/String;)V" } : Jvm.MethodName)) ∈ lw_all := lw_g (lw_at lw_m10 238 rfl) rfl
theorem q2562 : (Jvm.Cond.privateMethod ({ cls := "FilingChains", name := "writes", desc := "(Ljava/lang/String;)V" } : Jvm.MethodName)) ∈ lw_tbl := lw_at lw_m10 239 rfl
theorem q2563 : (Jvm.Cond.instanceMethod ({ cls := "FilingChains", name := "writes", desc := "(Ljava/lang/String;)V" } : Jvm.MethodName)) ∈ lw_all := lw_g (lw_at lw_m11 0 rfl) rfl
theorem q2564 : (Jvm.Cond.code ({ cls := "FilingChains", name := "writes", desc := "(Ljava/lang/String;)V" } : Jvm.MethodName) prog_1_method_85_code (3 : Nat) (Option.none : Option Jvm.ClassFile.FieldType)) ∈ lw_all := lw_g (lw_at lw_m11 1 rfl) rfl
theorem q2565 : (Jvm.Cond.methodLink "FilingChains" (456 : Nat) ({ cls := "FilingChains", name := "writes", desc := "(C)V" } : Jvm.MethodName)) ∈ lw_all := lw_g (lw_at lw_m11 2 rfl) rfl
theorem q2566 : (Jvm.Cond.privateMethod ({ cls := "FilingChains", name := "writes", desc := "(C)V" } : Jvm.MethodName)) ∈ lw_tbl := lw_at lw_m11 3 rfl
theorem q2567 : (Jvm.Cond.instanceMethod ({ cls := "FilingChains", name := "writes", desc := "(C)V" } : Jvm.MethodName)) ∈ lw_all := lw_g (lw_at lw_m11 4 rfl) rfl
theorem q2568 : (Jvm.Cond.code ({ cls := "FilingChains", name := "writes", desc := "(C)V" } : Jvm.MethodName) prog_1_method_84_code (2 : Nat) (Option.none : Option Jvm.ClassFile.FieldType)) ∈ lw_all := lw_g (lw_at lw_m11 5 rfl) rfl
theorem q2569 : (Jvm.Cond.interfaceEntry "FilingChains" (463 : Nat)) ∈ lw_tbl := lw_at lw_m11 6 rfl
theorem q2570 : (Jvm.Cond.methodLink "FilingChains" (463 : Nat) ({ cls := "java/util/List", name := "iterator", desc := "()Ljava/util/Iterator;" } : Jvm.MethodName)) ∈ lw_all := lw_g (lw_at lw_m11 7 rfl) rfl
theorem q2577 : (Jvm.Cond.classLink "FilingChains" (464 : Nat) "java/lang/StringBuilder") ∈ lw_all := lw_g (lw_at lw_m11 14 rfl) rfl
theorem q2578 : (Jvm.Cond.methodLink "FilingChains" (466 : Nat) ({ cls := "java/lang/StringBuilder", name := "<init>", desc := "()V" } : Jvm.MethodName)) ∈ lw_all := lw_g (lw_at lw_m11 15 rfl) rfl
theorem q2579 : (Jvm.Cond.stringRef "FilingChains" (467 : Nat) "") ∈ lw_tbl := lw_at lw_m11 16 rfl
theorem q2580 : (Jvm.Cond.methodLink "FilingChains" (469 : Nat) ({ cls := "java/lang/StringBuilder", name := "append", desc := "(Ljava/lang/String;)Ljava/lang/StringBuilder;" } : Jvm.MethodName)) ∈ lw_all := lw_g (lw_at lw_m11 17 rfl) rfl
theorem q2581 : (Jvm.Cond.methodLink "FilingChains" (473 : Nat) ({ cls := "java/lang/StringBuilder", name := "append", desc := "(I)Ljava/lang/StringBuilder;" } : Jvm.MethodName)) ∈ lw_all := lw_g (lw_at lw_m11 18 rfl) rfl
theorem q2606 : (Jvm.Cond.methodLink "FilingChains" (476 : Nat) ({ cls := "java/lang/StringBuilder", name := "toString", desc := "()Ljava/lang/String;" } : Jvm.MethodName)) ∈ lw_all := lw_g (lw_at lw_m11 43 rfl) rfl
theorem q2608 : (Jvm.Cond.instanceMethod ({ cls := "FilingChains", name := "octet", desc := "(I)I" } : Jvm.MethodName)) ∈ lw_all := lw_g (lw_at lw_m11 45 rfl) rfl
theorem q2609 : (Jvm.Cond.selects "FilingChains" ({ cls := "FilingChains", name := "octet", desc := "(I)I" } : Jvm.MethodName) ({ cls := "FilingChains", name := "octet", desc := "(I)I" } : Jvm.MethodName)) ∈ lw_all := lw_g (lw_at lw_m11 46 rfl) rfl
theorem q2610 : (Jvm.Cond.code ({ cls := "FilingChains", name := "octet", desc := "(I)I" } : Jvm.MethodName) prog_1_method_87_code (2 : Nat) (Option.some Jvm.ClassFile.FieldType.int)) ∈ lw_all := lw_g (lw_at lw_m11 47 rfl) rfl
theorem q2612 : (Jvm.Cond.instanceMethod ({ cls := "FilingChains", name := "link", desc := "(III)I" } : Jvm.MethodName)) ∈ lw_all := lw_g (lw_at lw_m11 49 rfl) rfl
theorem q2613 : (Jvm.Cond.selects "FilingChains" ({ cls := "FilingChains", name := "link", desc := "(III)I" } : Jvm.MethodName) ({ cls := "FilingChains", name := "link", desc := "(III)I" } : Jvm.MethodName)) ∈ lw_all := lw_g (lw_at lw_m11 50 rfl) rfl
theorem q2614 : (Jvm.Cond.code ({ cls := "FilingChains", name := "link", desc := "(III)I" } : Jvm.MethodName) prog_1_method_89_code (4 : Nat) (Option.some Jvm.ClassFile.FieldType.int)) ∈ lw_all := lw_g (lw_at lw_m11 51 rfl) rfl
theorem q2615 : (Jvm.Cond.methodLink "FilingChains" (484 : Nat) ({ cls := "FilingChains$Office", name := "isLater", desc := "(II)Z" } : Jvm.MethodName)) ∈ lw_all := lw_g (lw_at lw_m11 52 rfl) rfl
theorem q2616 : (Jvm.Cond.methodLink "FilingChains" (487 : Nat) ({ cls := "FilingChains$Office", name := "hasLink", desc := "(III)Z" } : Jvm.MethodName)) ∈ lw_all := lw_g (lw_at lw_m11 53 rfl) rfl
theorem q2617 : (Jvm.Cond.methodLink "FilingChains" (490 : Nat) ({ cls := "FilingChains", name := "acts", desc := "()V" } : Jvm.MethodName)) ∈ lw_all := lw_g (lw_at lw_m11 54 rfl) rfl
theorem q2618 : (Jvm.Cond.privateMethod ({ cls := "FilingChains", name := "acts", desc := "()V" } : Jvm.MethodName)) ∈ lw_tbl := lw_at lw_m11 55 rfl
theorem q2619 : (Jvm.Cond.instanceMethod ({ cls := "FilingChains", name := "acts", desc := "()V" } : Jvm.MethodName)) ∈ lw_all := lw_g (lw_at lw_m11 56 rfl) rfl
theorem q2620 : (Jvm.Cond.code ({ cls := "FilingChains", name := "acts", desc := "()V" } : Jvm.MethodName) prog_1_method_88_code (1 : Nat) (Option.none : Option Jvm.ClassFile.FieldType)) ∈ lw_all := lw_g (lw_at lw_m11 57 rfl) rfl
theorem q2621 : (Jvm.Cond.methodLink "FilingChains" (480 : Nat) ({ cls := "FilingChains$Office", name := "copy", desc := "()LFilingChains$Office;" } : Jvm.MethodName)) ∈ lw_all := lw_g (lw_at lw_m11 58 rfl) rfl
theorem q2640 : (Jvm.Cond.methodLink "FilingChains" (493 : Nat) ({ cls := "FilingChains$Link", name := "<init>", desc := "(III)V" } : Jvm.MethodName)) ∈ lw_all := lw_g (lw_at lw_m11 77 rfl) rfl
theorem q2641 : (Jvm.Cond.methodLink "FilingChains" (494 : Nat) ({ cls := "java/util/LinkedList", name := "add", desc := "(Ljava/lang/Object;)Z" } : Jvm.MethodName)) ∈ lw_all := lw_g (lw_at lw_m11 78 rfl) rfl
theorem q2643 : (Jvm.Cond.instanceMethod ({ cls := "FilingChains", name := "cut", desc := "(I)Z" } : Jvm.MethodName)) ∈ lw_all := lw_g (lw_at lw_m11 80 rfl) rfl
theorem q2644 : (Jvm.Cond.selects "FilingChains" ({ cls := "FilingChains", name := "cut", desc := "(I)Z" } : Jvm.MethodName) ({ cls := "FilingChains", name := "cut", desc := "(I)Z" } : Jvm.MethodName)) ∈ lw_all := lw_g (lw_at lw_m11 81 rfl) rfl
theorem q2645 : (Jvm.Cond.code ({ cls := "FilingChains", name := "cut", desc := "(I)Z" } : Jvm.MethodName) prog_1_method_90_code (4 : Nat) (Option.some Jvm.ClassFile.FieldType.boolean)) ∈ lw_all := lw_g (lw_at lw_m11 82 rfl) rfl
theorem q2647 : (Jvm.Cond.instanceMethod ({ cls := "FilingChains", name := "end", desc := "(II)Z" } : Jvm.MethodName)) ∈ lw_all := lw_g (lw_at lw_m11 84 rfl) rfl
theorem q2648 : (Jvm.Cond.selects "FilingChains" ({ cls := "FilingChains", name := "end", desc := "(II)Z" } : Jvm.MethodName) ({ cls := "FilingChains", name := "end", desc := "(II)Z" } : Jvm.MethodName)) ∈ lw_all := lw_g (lw_at lw_m11 85 rfl) rfl
theorem q2649 : (Jvm.Cond.code ({ cls := "FilingChains", name := "end", desc := "(II)Z" } : Jvm.MethodName) prog_1_method_91_code (4 : Nat) (Option.some Jvm.ClassFile.FieldType.boolean)) ∈ lw_all := lw_g (lw_at lw_m11 86 rfl) rfl
theorem q2651 : (Jvm.Cond.instanceMethod ({ cls := "FilingChains", name := "add", desc := "(III)I" } : Jvm.MethodName)) ∈ lw_all := lw_g (lw_at lw_m11 88 rfl) rfl
theorem q2652 : (Jvm.Cond.selects "FilingChains" ({ cls := "FilingChains", name := "add", desc := "(III)I" } : Jvm.MethodName) ({ cls := "FilingChains", name := "add", desc := "(III)I" } : Jvm.MethodName)) ∈ lw_all := lw_g (lw_at lw_m11 89 rfl) rfl
theorem q2653 : (Jvm.Cond.code ({ cls := "FilingChains", name := "add", desc := "(III)I" } : Jvm.MethodName) prog_1_method_92_code (5 : Nat) (Option.some Jvm.ClassFile.FieldType.int)) ∈ lw_all := lw_g (lw_at lw_m11 90 rfl) rfl
theorem q2654 : (Jvm.Cond.methodLink "FilingChains" (495 : Nat) ({ cls := "FilingChains", name := "partMask", desc := "()I" } : Jvm.MethodName)) ∈ lw_all := lw_g (lw_at lw_m11 91 rfl) rfl
theorem q2655 : (Jvm.Cond.privateMethod ({ cls := "FilingChains", name := "partMask", desc := "()I" } : Jvm.MethodName)) ∈ lw_tbl := lw_at lw_m11 92 rfl
theorem q2656 : (Jvm.Cond.instanceMethod ({ cls := "FilingChains", name := "partMask", desc := "()I" } : Jvm.MethodName)) ∈ lw_all := lw_g (lw_at lw_m11 93 rfl) rfl
theorem q2657 : (Jvm.Cond.code ({ cls := "FilingChains", name := "partMask", desc := "()I" } : Jvm.MethodName) prog_1_method_18_code (1 : Nat) (Option.some Jvm.ClassFile.FieldType.int)) ∈ lw_all := lw_g (lw_at lw_m11 94 rfl) rfl
theorem q2658 : (Jvm.Cond.methodLink "FilingChains" (498 : Nat) ({ cls := "FilingChains$Filing", name := "adds", desc := "(II)V" } : Jvm.MethodName)) ∈ lw_all := lw_g (lw_at lw_m11 95 rfl) rfl
theorem q2660 : (Jvm.Cond.instanceMethod ({ cls := "FilingChains", name := "show", desc := "(III)I" } : Jvm.MethodName)) ∈ lw_all := lw_g (lw_at lw_m11 97 rfl) rfl
theorem q2661 : (Jvm.Cond.selects "FilingChains" ({ cls := "FilingChains", name := "show", desc := "(III)I" } : Jvm.MethodName) ({ cls := "FilingChains", name := "show", desc := "(III)I" } : Jvm.MethodName)) ∈ lw_all := lw_g (lw_at lw_m11 98 rfl) rfl
theorem q2662 : (Jvm.Cond.code ({ cls := "FilingChains", name := "show", desc := "(III)I" } : Jvm.MethodName) prog_1_method_93_code (4 : Nat) (Option.some Jvm.ClassFile.FieldType.int)) ∈ lw_all := lw_g (lw_at lw_m11 99 rfl) rfl
theorem q2663 : (Jvm.Cond.methodLink "FilingChains" (502 : Nat) ({ cls := "FilingChains$Thing", name := "<init>", desc := "(III)V" } : Jvm.MethodName)) ∈ lw_all := lw_g (lw_at lw_m11 100 rfl) rfl
theorem q2665 : (Jvm.Cond.instanceMethod ({ cls := "FilingChains", name := "move", desc := "(II)I" } : Jvm.MethodName)) ∈ lw_all := lw_g (lw_at lw_m11 102 rfl) rfl
theorem q2666 : (Jvm.Cond.selects "FilingChains" ({ cls := "FilingChains", name := "move", desc := "(II)I" } : Jvm.MethodName) ({ cls := "FilingChains", name := "move", desc := "(II)I" } : Jvm.MethodName)) ∈ lw_all := lw_g (lw_at lw_m11 103 rfl) rfl
theorem q2667 : (Jvm.Cond.code ({ cls := "FilingChains", name := "move", desc := "(II)I" } : Jvm.MethodName) prog_1_method_94_code (4 : Nat) (Option.some Jvm.ClassFile.FieldType.int)) ∈ lw_all := lw_g (lw_at lw_m11 104 rfl) rfl
theorem q2669 : (Jvm.Cond.instanceMethod ({ cls := "FilingChains", name := "rule", desc := "(II)I" } : Jvm.MethodName)) ∈ lw_all := lw_g (lw_at lw_m11 106 rfl) rfl
theorem q2670 : (Jvm.Cond.selects "FilingChains" ({ cls := "FilingChains", name := "rule", desc := "(II)I" } : Jvm.MethodName) ({ cls := "FilingChains", name := "rule", desc := "(II)I" } : Jvm.MethodName)) ∈ lw_all := lw_g (lw_at lw_m11 107 rfl) rfl
theorem q2671 : (Jvm.Cond.code ({ cls := "FilingChains", name := "rule", desc := "(II)I" } : Jvm.MethodName) prog_1_method_95_code (4 : Nat) (Option.some Jvm.ClassFile.FieldType.int)) ∈ lw_all := lw_g (lw_at lw_m11 108 rfl) rfl
theorem q2673 : (Jvm.Cond.instanceMethod ({ cls := "FilingChains", name := "undo", desc := "()I" } : Jvm.MethodName)) ∈ lw_all := lw_g (lw_at lw_m11 110 rfl) rfl
theorem q2674 : (Jvm.Cond.selects "FilingChains" ({ cls := "FilingChains", name := "undo", desc := "()I" } : Jvm.MethodName) ({ cls := "FilingChains", name := "undo", desc := "()I" } : Jvm.MethodName)) ∈ lw_all := lw_g (lw_at lw_m11 111 rfl) rfl
theorem q2675 : (Jvm.Cond.code ({ cls := "FilingChains", name := "undo", desc := "()I" } : Jvm.MethodName) prog_1_method_96_code (1 : Nat) (Option.some Jvm.ClassFile.FieldType.int)) ∈ lw_all := lw_g (lw_at lw_m11 112 rfl) rfl
theorem q2676 : (Jvm.Cond.methodLink "FilingChains" (503 : Nat) ({ cls := "java/util/ArrayDeque", name := "removeLast", desc := "()Ljava/lang/Object;" } : Jvm.MethodName)) ∈ lw_all := lw_g (lw_at lw_m11 113 rfl) rfl
theorem q3428 : (Jvm.Cond.castable "FilingChains" "java/lang/Object") ∈ lw_tbl := lw_at lw_m14 145 rfl
theorem in_X0 : ∀ w ∈ wsX00, w ∈ lw_all := lw_in wsX00 [358, 360, 362, 364, 366, 368, 370, 372, 374, 376, 378, 380, 382, 384] (by decide +kernel) (by decide +kernel)

/-! FilingChains$Office -/
set_option maxRecDepth 100000
def RX1 : String := "FilingChains$Office"
def TX1 : u_T := fun k => match k with
  | 0 => ("FilingChains$Office", "limits", "[I", true)
  | 1 => ("FilingChains$Office", "filings", "Ljava/util/ArrayList;", true)
  | 2 => ("FilingChains$Office", "links", "Ljava/util/LinkedList;", true)
  | 3 => ("FilingChains$Office", "claims", "Ljava/util/ArrayList;", true)
  | _ => ("FilingChains$Office", "things", "Ljava/util/ArrayList;", true)
def tyX1 : Nat → FieldType := fun k => match k with
  | 0 => .array .int
  | 1 => .object "java/util/ArrayList"
  | 2 => .object "java/util/LinkedList"
  | 3 => .object "java/util/ArrayList"
  | _ => .object "java/util/ArrayList"
abbrev wsX10 : List Cond := u_ws RX1 TX1 5
theorem nmX1 : ∀ a, a < 5 → ∀ b, b < 5 → a ≠ b → (TX1 a).2.1 ≠ (TX1 b).2.1 := by decide +kernel
theorem tyX1_ok : ∀ k, k < 5 → parseFieldDescriptor (TX1 k).2.2.1 = some (tyX1 k) := by decide +kernel
abbrev cX1_init : ByteArray := prog_7_method_1_code
def yX1_init : MethodName := ⟨RX1, "<init>", "()V"⟩
def dkwX1_init_3 : List UInt8 := [187, 0, 15, 89, 183, 0, 17, 181, 0, 32, 177]
abbrev dktX1_init_3 : List UInt8 := dkwX1_init_3 ++ []
def dkwX1_init_2 : List UInt8 := [42, 187, 0, 22, 89, 183, 0, 24, 181, 0, 25, 42, 187, 0, 15, 89, 183, 0, 17, 181, 0, 29, 42]
abbrev dktX1_init_2 : List UInt8 := dkwX1_init_2 ++ dktX1_init_3
def dkwX1_init_1 : List UInt8 := [17, 2, 28, 79, 89, 6, 17, 28, 132, 79, 181, 0, 9, 42, 187, 0, 15, 89, 183, 0, 17, 181, 0, 18]
abbrev dktX1_init_1 : List UInt8 := dkwX1_init_1 ++ dktX1_init_2
def dkwX1_init_0 : List UInt8 := [42, 183, 0, 3, 42, 7, 188, 10, 89, 3, 17, 1, 109, 79, 89, 4, 17, 1, 109, 79, 89, 5]
abbrev dktX1_init_0 : List UInt8 := dkwX1_init_0 ++ dktX1_init_1
theorem dksX1_init_0 : cX1_init.data.toList.drop 0 = dktX1_init_0 := by decide +kernel
theorem dksX1_init_1 : cX1_init.data.toList.drop 22 = dktX1_init_1 := dk_seg dksX1_init_0 22 rfl rfl
theorem dksX1_init_2 : cX1_init.data.toList.drop 46 = dktX1_init_2 := dk_seg dksX1_init_1 24 rfl rfl
theorem dksX1_init_3 : cX1_init.data.toList.drop 69 = dktX1_init_3 := dk_seg dksX1_init_2 23 rfl rfl
theorem dX1_init_0 : decode cX1_init 0 = .ok (.aload_n 0, 1) := dk_42 (dk_at dksX1_init_0 0 rfl rfl)
theorem dX1_init_1 : decode cX1_init 1 = .ok (.invokespecial 3, 3) := dk_183 0 3 (dk_at dksX1_init_0 1 rfl rfl)
theorem dX1_init_4 : decode cX1_init 4 = .ok (.aload_n 0, 1) := dk_42 (dk_at dksX1_init_0 4 rfl rfl)
theorem dX1_init_5 : decode cX1_init 5 = .ok (.iconst 4, 1) := dk_7 (dk_at dksX1_init_0 5 rfl rfl)
theorem dX1_init_6 : decode cX1_init 6 = .ok (.newarray .int, 2) := dk_188_10 (dk_at dksX1_init_0 6 rfl rfl)
theorem dX1_init_8 : decode cX1_init 8 = .ok (.dup, 1) := dk_89 (dk_at dksX1_init_0 8 rfl rfl)
theorem dX1_init_9 : decode cX1_init 9 = .ok (.iconst 0, 1) := dk_3 (dk_at dksX1_init_0 9 rfl rfl)
theorem dX1_init_10 : decode cX1_init 10 = .ok (.sipush 365, 3) := dk_17 1 109 (dk_at dksX1_init_0 10 rfl rfl)
theorem dX1_init_13 : decode cX1_init 13 = .ok (.iastore, 1) := dk_79 (dk_at dksX1_init_0 13 rfl rfl)
theorem dX1_init_14 : decode cX1_init 14 = .ok (.dup, 1) := dk_89 (dk_at dksX1_init_0 14 rfl rfl)
theorem dX1_init_15 : decode cX1_init 15 = .ok (.iconst 1, 1) := dk_4 (dk_at dksX1_init_0 15 rfl rfl)
theorem dX1_init_16 : decode cX1_init 16 = .ok (.sipush 365, 3) := dk_17 1 109 (dk_at dksX1_init_0 16 rfl rfl)
theorem dX1_init_19 : decode cX1_init 19 = .ok (.iastore, 1) := dk_79 (dk_at dksX1_init_0 19 rfl rfl)
theorem dX1_init_20 : decode cX1_init 20 = .ok (.dup, 1) := dk_89 (dk_at dksX1_init_0 20 rfl rfl)
theorem dX1_init_21 : decode cX1_init 21 = .ok (.iconst 2, 1) := dk_5 (dk_at dksX1_init_0 21 rfl rfl)
theorem dX1_init_22 : decode cX1_init 22 = .ok (.sipush 540, 3) := dk_17 2 28 (dk_at dksX1_init_1 0 rfl rfl)
theorem dX1_init_25 : decode cX1_init 25 = .ok (.iastore, 1) := dk_79 (dk_at dksX1_init_1 3 rfl rfl)
theorem dX1_init_26 : decode cX1_init 26 = .ok (.dup, 1) := dk_89 (dk_at dksX1_init_1 4 rfl rfl)
theorem dX1_init_27 : decode cX1_init 27 = .ok (.iconst 3, 1) := dk_6 (dk_at dksX1_init_1 5 rfl rfl)
theorem dX1_init_28 : decode cX1_init 28 = .ok (.sipush 7300, 3) := dk_17 28 132 (dk_at dksX1_init_1 6 rfl rfl)
theorem dX1_init_31 : decode cX1_init 31 = .ok (.iastore, 1) := dk_79 (dk_at dksX1_init_1 9 rfl rfl)
theorem dX1_init_32 : decode cX1_init 32 = .ok (.putfield 9, 3) := dk_181 0 9 (dk_at dksX1_init_1 10 rfl rfl)
theorem dX1_init_35 : decode cX1_init 35 = .ok (.aload_n 0, 1) := dk_42 (dk_at dksX1_init_1 13 rfl rfl)
theorem dX1_init_36 : decode cX1_init 36 = .ok (.new 15, 3) := dk_187 0 15 (dk_at dksX1_init_1 14 rfl rfl)
theorem dX1_init_39 : decode cX1_init 39 = .ok (.dup, 1) := dk_89 (dk_at dksX1_init_1 17 rfl rfl)
theorem dX1_init_40 : decode cX1_init 40 = .ok (.invokespecial 17, 3) := dk_183 0 17 (dk_at dksX1_init_1 18 rfl rfl)
theorem dX1_init_43 : decode cX1_init 43 = .ok (.putfield 18, 3) := dk_181 0 18 (dk_at dksX1_init_1 21 rfl rfl)
theorem dX1_init_46 : decode cX1_init 46 = .ok (.aload_n 0, 1) := dk_42 (dk_at dksX1_init_2 0 rfl rfl)
theorem dX1_init_47 : decode cX1_init 47 = .ok (.new 22, 3) := dk_187 0 22 (dk_at dksX1_init_2 1 rfl rfl)
theorem dX1_init_50 : decode cX1_init 50 = .ok (.dup, 1) := dk_89 (dk_at dksX1_init_2 4 rfl rfl)
theorem dX1_init_51 : decode cX1_init 51 = .ok (.invokespecial 24, 3) := dk_183 0 24 (dk_at dksX1_init_2 5 rfl rfl)
theorem dX1_init_54 : decode cX1_init 54 = .ok (.putfield 25, 3) := dk_181 0 25 (dk_at dksX1_init_2 8 rfl rfl)
theorem dX1_init_57 : decode cX1_init 57 = .ok (.aload_n 0, 1) := dk_42 (dk_at dksX1_init_2 11 rfl rfl)
theorem dX1_init_58 : decode cX1_init 58 = .ok (.new 15, 3) := dk_187 0 15 (dk_at dksX1_init_2 12 rfl rfl)
theorem dX1_init_61 : decode cX1_init 61 = .ok (.dup, 1) := dk_89 (dk_at dksX1_init_2 15 rfl rfl)
theorem dX1_init_62 : decode cX1_init 62 = .ok (.invokespecial 17, 3) := dk_183 0 17 (dk_at dksX1_init_2 16 rfl rfl)
theorem dX1_init_65 : decode cX1_init 65 = .ok (.putfield 29, 3) := dk_181 0 29 (dk_at dksX1_init_2 19 rfl rfl)
theorem dX1_init_68 : decode cX1_init 68 = .ok (.aload_n 0, 1) := dk_42 (dk_at dksX1_init_2 22 rfl rfl)
theorem dX1_init_69 : decode cX1_init 69 = .ok (.new 15, 3) := dk_187 0 15 (dk_at dksX1_init_3 0 rfl rfl)
theorem dX1_init_72 : decode cX1_init 72 = .ok (.dup, 1) := dk_89 (dk_at dksX1_init_3 3 rfl rfl)
theorem dX1_init_73 : decode cX1_init 73 = .ok (.invokespecial 17, 3) := dk_183 0 17 (dk_at dksX1_init_3 4 rfl rfl)
theorem dX1_init_76 : decode cX1_init 76 = .ok (.putfield 32, 3) := dk_181 0 32 (dk_at dksX1_init_3 7 rfl rfl)
theorem dX1_init_79 : decode cX1_init 79 = .ok (.return_, 1) := dk_177 (dk_at dksX1_init_3 10 rfl rfl)
abbrev cX1_filed : ByteArray := prog_7_method_3_code
def yX1_filed : MethodName := ⟨RX1, "filed", "(I)LFilingChains$Filing;"⟩
def dkwX1_filed_0 : List UInt8 := [42, 180, 0, 18, 27, 182, 0, 74, 192, 0, 56, 176]
abbrev dktX1_filed_0 : List UInt8 := dkwX1_filed_0 ++ []
theorem dksX1_filed_0 : cX1_filed.data.toList.drop 0 = dktX1_filed_0 := by decide +kernel
theorem dX1_filed_0 : decode cX1_filed 0 = .ok (.aload_n 0, 1) := dk_42 (dk_at dksX1_filed_0 0 rfl rfl)
theorem dX1_filed_1 : decode cX1_filed 1 = .ok (.getfield 18, 3) := dk_180 0 18 (dk_at dksX1_filed_0 1 rfl rfl)
theorem dX1_filed_4 : decode cX1_filed 4 = .ok (.iload_n 1, 1) := dk_27 (dk_at dksX1_filed_0 4 rfl rfl)
theorem dX1_filed_5 : decode cX1_filed 5 = .ok (.invokevirtual 74, 3) := dk_182 0 74 (dk_at dksX1_filed_0 5 rfl rfl)
theorem dX1_filed_8 : decode cX1_filed 8 = .ok (.checkcast 56, 3) := dk_192 0 56 (dk_at dksX1_filed_0 8 rfl rfl)
theorem dX1_filed_11 : decode cX1_filed 11 = .ok (.areturn, 1) := dk_176 (dk_at dksX1_filed_0 11 rfl rfl)
abbrev cX1_hasLink : ByteArray := prog_7_method_4_code
def yX1_hasLink : MethodName := ⟨RX1, "hasLink", "(III)Z"⟩
def dkwX1_hasLink_2 : List UInt8 := [167, 255, 221, 3, 172]
abbrev dktX1_hasLink_2 : List UInt8 := dkwX1_hasLink_2 ++ []
def dkwX1_hasLink_1 : List UInt8 := [185, 0, 52, 1, 0, 192, 0, 67, 58, 5, 25, 5, 27, 28, 29, 182, 0, 78, 153, 0, 5, 4, 172]
abbrev dktX1_hasLink_1 : List UInt8 := dkwX1_hasLink_1 ++ dktX1_hasLink_2
def dkwX1_hasLink_0 : List UInt8 := [42, 180, 0, 25, 182, 0, 66, 58, 4, 25, 4, 185, 0, 46, 1, 0, 153, 0, 31, 25, 4]
abbrev dktX1_hasLink_0 : List UInt8 := dkwX1_hasLink_0 ++ dktX1_hasLink_1
theorem dksX1_hasLink_0 : cX1_hasLink.data.toList.drop 0 = dktX1_hasLink_0 := by decide +kernel
theorem dksX1_hasLink_1 : cX1_hasLink.data.toList.drop 21 = dktX1_hasLink_1 := dk_seg dksX1_hasLink_0 21 rfl rfl
theorem dksX1_hasLink_2 : cX1_hasLink.data.toList.drop 44 = dktX1_hasLink_2 := dk_seg dksX1_hasLink_1 23 rfl rfl
theorem dX1_hasLink_0 : decode cX1_hasLink 0 = .ok (.aload_n 0, 1) := dk_42 (dk_at dksX1_hasLink_0 0 rfl rfl)
theorem dX1_hasLink_1 : decode cX1_hasLink 1 = .ok (.getfield 25, 3) := dk_180 0 25 (dk_at dksX1_hasLink_0 1 rfl rfl)
theorem dX1_hasLink_4 : decode cX1_hasLink 4 = .ok (.invokevirtual 66, 3) := dk_182 0 66 (dk_at dksX1_hasLink_0 4 rfl rfl)
theorem dX1_hasLink_7 : decode cX1_hasLink 7 = .ok (.astore 4, 2) := dk_58 4 (dk_at dksX1_hasLink_0 7 rfl rfl)
theorem dX1_hasLink_9 : decode cX1_hasLink 9 = .ok (.aload 4, 2) := dk_25 4 (dk_at dksX1_hasLink_0 9 rfl rfl)
theorem dX1_hasLink_11 : decode cX1_hasLink 11 = .ok (.invokeinterface 46 1, 5) := by decide +kernel
theorem dX1_hasLink_16 : decode cX1_hasLink 16 = .ok (.ifCond .eq 31, 3) := dk_153 0 31 (dk_at dksX1_hasLink_0 16 rfl rfl)
theorem dX1_hasLink_19 : decode cX1_hasLink 19 = .ok (.aload 4, 2) := dk_25 4 (dk_at dksX1_hasLink_0 19 rfl rfl)
theorem dX1_hasLink_21 : decode cX1_hasLink 21 = .ok (.invokeinterface 52 1, 5) := by decide +kernel
theorem dX1_hasLink_26 : decode cX1_hasLink 26 = .ok (.checkcast 67, 3) := dk_192 0 67 (dk_at dksX1_hasLink_1 5 rfl rfl)
theorem dX1_hasLink_29 : decode cX1_hasLink 29 = .ok (.astore 5, 2) := dk_58 5 (dk_at dksX1_hasLink_1 8 rfl rfl)
theorem dX1_hasLink_31 : decode cX1_hasLink 31 = .ok (.aload 5, 2) := dk_25 5 (dk_at dksX1_hasLink_1 10 rfl rfl)
theorem dX1_hasLink_33 : decode cX1_hasLink 33 = .ok (.iload_n 1, 1) := dk_27 (dk_at dksX1_hasLink_1 12 rfl rfl)
theorem dX1_hasLink_34 : decode cX1_hasLink 34 = .ok (.iload_n 2, 1) := dk_28 (dk_at dksX1_hasLink_1 13 rfl rfl)
theorem dX1_hasLink_35 : decode cX1_hasLink 35 = .ok (.iload_n 3, 1) := dk_29 (dk_at dksX1_hasLink_1 14 rfl rfl)
theorem dX1_hasLink_36 : decode cX1_hasLink 36 = .ok (.invokevirtual 78, 3) := dk_182 0 78 (dk_at dksX1_hasLink_1 15 rfl rfl)
theorem dX1_hasLink_39 : decode cX1_hasLink 39 = .ok (.ifCond .eq 5, 3) := dk_153 0 5 (dk_at dksX1_hasLink_1 18 rfl rfl)
theorem dX1_hasLink_42 : decode cX1_hasLink 42 = .ok (.iconst 1, 1) := dk_4 (dk_at dksX1_hasLink_1 21 rfl rfl)
theorem dX1_hasLink_43 : decode cX1_hasLink 43 = .ok (.ireturn, 1) := dk_172 (dk_at dksX1_hasLink_1 22 rfl rfl)
theorem dX1_hasLink_44 : decode cX1_hasLink 44 = .ok (.goto (-35), 3) := dk_167 255 221 (dk_at dksX1_hasLink_2 0 rfl rfl)
theorem dX1_hasLink_47 : decode cX1_hasLink 47 = .ok (.iconst 0, 1) := dk_3 (dk_at dksX1_hasLink_2 3 rfl rfl)
theorem dX1_hasLink_48 : decode cX1_hasLink 48 = .ok (.ireturn, 1) := dk_172 (dk_at dksX1_hasLink_2 4 rfl rfl)
abbrev cX1_isLater : ByteArray := prog_7_method_5_code
def yX1_isLater : MethodName := ⟨RX1, "isLater", "(II)Z"⟩
def dkwX1_isLater_1 : List UInt8 := [172]
abbrev dktX1_isLater_1 : List UInt8 := dkwX1_isLater_1 ++ []
def dkwX1_isLater_0 : List UInt8 := [42, 27, 182, 0, 82, 180, 0, 86, 42, 28, 182, 0, 82, 180, 0, 86, 161, 0, 7, 4, 167, 0, 4, 3]
abbrev dktX1_isLater_0 : List UInt8 := dkwX1_isLater_0 ++ dktX1_isLater_1
theorem dksX1_isLater_0 : cX1_isLater.data.toList.drop 0 = dktX1_isLater_0 := by decide +kernel
theorem dksX1_isLater_1 : cX1_isLater.data.toList.drop 24 = dktX1_isLater_1 := dk_seg dksX1_isLater_0 24 rfl rfl
theorem dX1_isLater_0 : decode cX1_isLater 0 = .ok (.aload_n 0, 1) := dk_42 (dk_at dksX1_isLater_0 0 rfl rfl)
theorem dX1_isLater_1 : decode cX1_isLater 1 = .ok (.iload_n 1, 1) := dk_27 (dk_at dksX1_isLater_0 1 rfl rfl)
theorem dX1_isLater_2 : decode cX1_isLater 2 = .ok (.invokevirtual 82, 3) := dk_182 0 82 (dk_at dksX1_isLater_0 2 rfl rfl)
theorem dX1_isLater_5 : decode cX1_isLater 5 = .ok (.getfield 86, 3) := dk_180 0 86 (dk_at dksX1_isLater_0 5 rfl rfl)
theorem dX1_isLater_8 : decode cX1_isLater 8 = .ok (.aload_n 0, 1) := dk_42 (dk_at dksX1_isLater_0 8 rfl rfl)
theorem dX1_isLater_9 : decode cX1_isLater 9 = .ok (.iload_n 2, 1) := dk_28 (dk_at dksX1_isLater_0 9 rfl rfl)
theorem dX1_isLater_10 : decode cX1_isLater 10 = .ok (.invokevirtual 82, 3) := dk_182 0 82 (dk_at dksX1_isLater_0 10 rfl rfl)
theorem dX1_isLater_13 : decode cX1_isLater 13 = .ok (.getfield 86, 3) := dk_180 0 86 (dk_at dksX1_isLater_0 13 rfl rfl)
theorem dX1_isLater_16 : decode cX1_isLater 16 = .ok (.if_icmp .lt 7, 3) := dk_161 0 7 (dk_at dksX1_isLater_0 16 rfl rfl)
theorem dX1_isLater_19 : decode cX1_isLater 19 = .ok (.iconst 1, 1) := dk_4 (dk_at dksX1_isLater_0 19 rfl rfl)
theorem dX1_isLater_20 : decode cX1_isLater 20 = .ok (.goto 4, 3) := dk_167 0 4 (dk_at dksX1_isLater_0 20 rfl rfl)
theorem dX1_isLater_23 : decode cX1_isLater 23 = .ok (.iconst 0, 1) := dk_3 (dk_at dksX1_isLater_0 23 rfl rfl)
theorem dX1_isLater_24 : decode cX1_isLater 24 = .ok (.ireturn, 1) := dk_172 (dk_at dksX1_isLater_1 0 rfl rfl)
abbrev cX1_copy : ByteArray := prog_7_method_2_code
def yX1_copy : MethodName := ⟨RX1, "copy", "()LFilingChains$Office;"⟩
def dkwX1_copy_7 : List UInt8 := [44, 185, 0, 52, 1, 0, 192, 0, 72, 78, 43, 180, 0, 32, 45, 182, 0, 62, 87, 167, 255, 228, 43, 176]
abbrev dktX1_copy_7 : List UInt8 := dkwX1_copy_7 ++ []
def dkwX1_copy_6 : List UInt8 := [182, 0, 62, 87, 167, 255, 228, 42, 180, 0, 32, 182, 0, 42, 77, 44, 185, 0, 46, 1, 0, 153, 0, 25]
abbrev dktX1_copy_6 : List UInt8 := dkwX1_copy_6 ++ dktX1_copy_7
def dkwX1_copy_5 : List UInt8 := [185, 0, 46, 1, 0, 153, 0, 25, 44, 185, 0, 52, 1, 0, 192, 0, 70, 78, 43, 180, 0, 29, 45]
abbrev dktX1_copy_5 : List UInt8 := dkwX1_copy_5 ++ dktX1_copy_6
def dkwX1_copy_4 : List UInt8 := [180, 0, 25, 45, 182, 0, 69, 87, 167, 255, 228, 42, 180, 0, 29, 182, 0, 42, 77, 44]
abbrev dktX1_copy_4 : List UInt8 := dkwX1_copy_4 ++ dktX1_copy_5
def dkwX1_copy_3 : List UInt8 := [182, 0, 66, 77, 44, 185, 0, 46, 1, 0, 153, 0, 25, 44, 185, 0, 52, 1, 0, 192, 0, 67, 78, 43]
abbrev dktX1_copy_3 : List UInt8 := dkwX1_copy_3 ++ dktX1_copy_4
def dkwX1_copy_2 : List UInt8 := [192, 0, 56, 78, 43, 180, 0, 18, 45, 182, 0, 58, 182, 0, 62, 87, 167, 255, 225, 42, 180, 0, 25]
abbrev dktX1_copy_2 : List UInt8 := dkwX1_copy_2 ++ dktX1_copy_3
def dkwX1_copy_1 : List UInt8 := [180, 0, 18, 182, 0, 42, 77, 44, 185, 0, 46, 1, 0, 153, 0, 28, 44, 185, 0, 52, 1, 0]
abbrev dktX1_copy_1 : List UInt8 := dkwX1_copy_1 ++ dktX1_copy_2
def dkwX1_copy_0 : List UInt8 := [187, 0, 10, 89, 183, 0, 35, 76, 42, 180, 0, 9, 3, 43, 180, 0, 9, 3, 7, 184, 0, 36, 42]
abbrev dktX1_copy_0 : List UInt8 := dkwX1_copy_0 ++ dktX1_copy_1
theorem dksX1_copy_0 : cX1_copy.data.toList.drop 0 = dktX1_copy_0 := by decide +kernel
theorem dksX1_copy_1 : cX1_copy.data.toList.drop 23 = dktX1_copy_1 := dk_seg dksX1_copy_0 23 rfl rfl
theorem dksX1_copy_2 : cX1_copy.data.toList.drop 45 = dktX1_copy_2 := dk_seg dksX1_copy_1 22 rfl rfl
theorem dksX1_copy_3 : cX1_copy.data.toList.drop 68 = dktX1_copy_3 := dk_seg dksX1_copy_2 23 rfl rfl
theorem dksX1_copy_4 : cX1_copy.data.toList.drop 92 = dktX1_copy_4 := dk_seg dksX1_copy_3 24 rfl rfl
theorem dksX1_copy_5 : cX1_copy.data.toList.drop 112 = dktX1_copy_5 := dk_seg dksX1_copy_4 20 rfl rfl
theorem dksX1_copy_6 : cX1_copy.data.toList.drop 135 = dktX1_copy_6 := dk_seg dksX1_copy_5 23 rfl rfl
theorem dksX1_copy_7 : cX1_copy.data.toList.drop 159 = dktX1_copy_7 := dk_seg dksX1_copy_6 24 rfl rfl
theorem dX1_copy_0 : decode cX1_copy 0 = .ok (.new 10, 3) := dk_187 0 10 (dk_at dksX1_copy_0 0 rfl rfl)
theorem dX1_copy_3 : decode cX1_copy 3 = .ok (.dup, 1) := dk_89 (dk_at dksX1_copy_0 3 rfl rfl)
theorem dX1_copy_4 : decode cX1_copy 4 = .ok (.invokespecial 35, 3) := dk_183 0 35 (dk_at dksX1_copy_0 4 rfl rfl)
theorem dX1_copy_7 : decode cX1_copy 7 = .ok (.astore_n 1, 1) := dk_76 (dk_at dksX1_copy_0 7 rfl rfl)
theorem dX1_copy_8 : decode cX1_copy 8 = .ok (.aload_n 0, 1) := dk_42 (dk_at dksX1_copy_0 8 rfl rfl)
theorem dX1_copy_9 : decode cX1_copy 9 = .ok (.getfield 9, 3) := dk_180 0 9 (dk_at dksX1_copy_0 9 rfl rfl)
theorem dX1_copy_12 : decode cX1_copy 12 = .ok (.iconst 0, 1) := dk_3 (dk_at dksX1_copy_0 12 rfl rfl)
theorem dX1_copy_13 : decode cX1_copy 13 = .ok (.aload_n 1, 1) := dk_43 (dk_at dksX1_copy_0 13 rfl rfl)
theorem dX1_copy_14 : decode cX1_copy 14 = .ok (.getfield 9, 3) := dk_180 0 9 (dk_at dksX1_copy_0 14 rfl rfl)
theorem dX1_copy_17 : decode cX1_copy 17 = .ok (.iconst 0, 1) := dk_3 (dk_at dksX1_copy_0 17 rfl rfl)
theorem dX1_copy_18 : decode cX1_copy 18 = .ok (.iconst 4, 1) := dk_7 (dk_at dksX1_copy_0 18 rfl rfl)
theorem dX1_copy_19 : decode cX1_copy 19 = .ok (.invokestatic 36, 3) := dk_184 0 36 (dk_at dksX1_copy_0 19 rfl rfl)
theorem dX1_copy_22 : decode cX1_copy 22 = .ok (.aload_n 0, 1) := dk_42 (dk_at dksX1_copy_0 22 rfl rfl)
theorem dX1_copy_23 : decode cX1_copy 23 = .ok (.getfield 18, 3) := dk_180 0 18 (dk_at dksX1_copy_1 0 rfl rfl)
theorem dX1_copy_26 : decode cX1_copy 26 = .ok (.invokevirtual 42, 3) := dk_182 0 42 (dk_at dksX1_copy_1 3 rfl rfl)
theorem dX1_copy_29 : decode cX1_copy 29 = .ok (.astore_n 2, 1) := dk_77 (dk_at dksX1_copy_1 6 rfl rfl)
theorem dX1_copy_30 : decode cX1_copy 30 = .ok (.aload_n 2, 1) := dk_44 (dk_at dksX1_copy_1 7 rfl rfl)
theorem dX1_copy_31 : decode cX1_copy 31 = .ok (.invokeinterface 46 1, 5) := by decide +kernel
theorem dX1_copy_36 : decode cX1_copy 36 = .ok (.ifCond .eq 28, 3) := dk_153 0 28 (dk_at dksX1_copy_1 13 rfl rfl)
theorem dX1_copy_39 : decode cX1_copy 39 = .ok (.aload_n 2, 1) := dk_44 (dk_at dksX1_copy_1 16 rfl rfl)
theorem dX1_copy_40 : decode cX1_copy 40 = .ok (.invokeinterface 52 1, 5) := by decide +kernel
theorem dX1_copy_45 : decode cX1_copy 45 = .ok (.checkcast 56, 3) := dk_192 0 56 (dk_at dksX1_copy_2 0 rfl rfl)
theorem dX1_copy_48 : decode cX1_copy 48 = .ok (.astore_n 3, 1) := dk_78 (dk_at dksX1_copy_2 3 rfl rfl)
theorem dX1_copy_49 : decode cX1_copy 49 = .ok (.aload_n 1, 1) := dk_43 (dk_at dksX1_copy_2 4 rfl rfl)
theorem dX1_copy_50 : decode cX1_copy 50 = .ok (.getfield 18, 3) := dk_180 0 18 (dk_at dksX1_copy_2 5 rfl rfl)
theorem dX1_copy_53 : decode cX1_copy 53 = .ok (.aload_n 3, 1) := dk_45 (dk_at dksX1_copy_2 8 rfl rfl)
theorem dX1_copy_54 : decode cX1_copy 54 = .ok (.invokevirtual 58, 3) := dk_182 0 58 (dk_at dksX1_copy_2 9 rfl rfl)
theorem dX1_copy_57 : decode cX1_copy 57 = .ok (.invokevirtual 62, 3) := dk_182 0 62 (dk_at dksX1_copy_2 12 rfl rfl)
theorem dX1_copy_60 : decode cX1_copy 60 = .ok (.pop, 1) := dk_87 (dk_at dksX1_copy_2 15 rfl rfl)
theorem dX1_copy_61 : decode cX1_copy 61 = .ok (.goto (-31), 3) := dk_167 255 225 (dk_at dksX1_copy_2 16 rfl rfl)
theorem dX1_copy_64 : decode cX1_copy 64 = .ok (.aload_n 0, 1) := dk_42 (dk_at dksX1_copy_2 19 rfl rfl)
theorem dX1_copy_65 : decode cX1_copy 65 = .ok (.getfield 25, 3) := dk_180 0 25 (dk_at dksX1_copy_2 20 rfl rfl)
theorem dX1_copy_68 : decode cX1_copy 68 = .ok (.invokevirtual 66, 3) := dk_182 0 66 (dk_at dksX1_copy_3 0 rfl rfl)
theorem dX1_copy_71 : decode cX1_copy 71 = .ok (.astore_n 2, 1) := dk_77 (dk_at dksX1_copy_3 3 rfl rfl)
theorem dX1_copy_72 : decode cX1_copy 72 = .ok (.aload_n 2, 1) := dk_44 (dk_at dksX1_copy_3 4 rfl rfl)
theorem dX1_copy_73 : decode cX1_copy 73 = .ok (.invokeinterface 46 1, 5) := by decide +kernel
theorem dX1_copy_78 : decode cX1_copy 78 = .ok (.ifCond .eq 25, 3) := dk_153 0 25 (dk_at dksX1_copy_3 10 rfl rfl)
theorem dX1_copy_81 : decode cX1_copy 81 = .ok (.aload_n 2, 1) := dk_44 (dk_at dksX1_copy_3 13 rfl rfl)
theorem dX1_copy_82 : decode cX1_copy 82 = .ok (.invokeinterface 52 1, 5) := by decide +kernel
theorem dX1_copy_87 : decode cX1_copy 87 = .ok (.checkcast 67, 3) := dk_192 0 67 (dk_at dksX1_copy_3 19 rfl rfl)
theorem dX1_copy_90 : decode cX1_copy 90 = .ok (.astore_n 3, 1) := dk_78 (dk_at dksX1_copy_3 22 rfl rfl)
theorem dX1_copy_91 : decode cX1_copy 91 = .ok (.aload_n 1, 1) := dk_43 (dk_at dksX1_copy_3 23 rfl rfl)
theorem dX1_copy_92 : decode cX1_copy 92 = .ok (.getfield 25, 3) := dk_180 0 25 (dk_at dksX1_copy_4 0 rfl rfl)
theorem dX1_copy_95 : decode cX1_copy 95 = .ok (.aload_n 3, 1) := dk_45 (dk_at dksX1_copy_4 3 rfl rfl)
theorem dX1_copy_96 : decode cX1_copy 96 = .ok (.invokevirtual 69, 3) := dk_182 0 69 (dk_at dksX1_copy_4 4 rfl rfl)
theorem dX1_copy_99 : decode cX1_copy 99 = .ok (.pop, 1) := dk_87 (dk_at dksX1_copy_4 7 rfl rfl)
theorem dX1_copy_100 : decode cX1_copy 100 = .ok (.goto (-28), 3) := dk_167 255 228 (dk_at dksX1_copy_4 8 rfl rfl)
theorem dX1_copy_103 : decode cX1_copy 103 = .ok (.aload_n 0, 1) := dk_42 (dk_at dksX1_copy_4 11 rfl rfl)
theorem dX1_copy_104 : decode cX1_copy 104 = .ok (.getfield 29, 3) := dk_180 0 29 (dk_at dksX1_copy_4 12 rfl rfl)
theorem dX1_copy_107 : decode cX1_copy 107 = .ok (.invokevirtual 42, 3) := dk_182 0 42 (dk_at dksX1_copy_4 15 rfl rfl)
theorem dX1_copy_110 : decode cX1_copy 110 = .ok (.astore_n 2, 1) := dk_77 (dk_at dksX1_copy_4 18 rfl rfl)
theorem dX1_copy_111 : decode cX1_copy 111 = .ok (.aload_n 2, 1) := dk_44 (dk_at dksX1_copy_4 19 rfl rfl)
theorem dX1_copy_112 : decode cX1_copy 112 = .ok (.invokeinterface 46 1, 5) := by decide +kernel
theorem dX1_copy_117 : decode cX1_copy 117 = .ok (.ifCond .eq 25, 3) := dk_153 0 25 (dk_at dksX1_copy_5 5 rfl rfl)
theorem dX1_copy_120 : decode cX1_copy 120 = .ok (.aload_n 2, 1) := dk_44 (dk_at dksX1_copy_5 8 rfl rfl)
theorem dX1_copy_121 : decode cX1_copy 121 = .ok (.invokeinterface 52 1, 5) := by decide +kernel
theorem dX1_copy_126 : decode cX1_copy 126 = .ok (.checkcast 70, 3) := dk_192 0 70 (dk_at dksX1_copy_5 14 rfl rfl)
theorem dX1_copy_129 : decode cX1_copy 129 = .ok (.astore_n 3, 1) := dk_78 (dk_at dksX1_copy_5 17 rfl rfl)
theorem dX1_copy_130 : decode cX1_copy 130 = .ok (.aload_n 1, 1) := dk_43 (dk_at dksX1_copy_5 18 rfl rfl)
theorem dX1_copy_131 : decode cX1_copy 131 = .ok (.getfield 29, 3) := dk_180 0 29 (dk_at dksX1_copy_5 19 rfl rfl)
theorem dX1_copy_134 : decode cX1_copy 134 = .ok (.aload_n 3, 1) := dk_45 (dk_at dksX1_copy_5 22 rfl rfl)
theorem dX1_copy_135 : decode cX1_copy 135 = .ok (.invokevirtual 62, 3) := dk_182 0 62 (dk_at dksX1_copy_6 0 rfl rfl)
theorem dX1_copy_138 : decode cX1_copy 138 = .ok (.pop, 1) := dk_87 (dk_at dksX1_copy_6 3 rfl rfl)
theorem dX1_copy_139 : decode cX1_copy 139 = .ok (.goto (-28), 3) := dk_167 255 228 (dk_at dksX1_copy_6 4 rfl rfl)
theorem dX1_copy_142 : decode cX1_copy 142 = .ok (.aload_n 0, 1) := dk_42 (dk_at dksX1_copy_6 7 rfl rfl)
theorem dX1_copy_143 : decode cX1_copy 143 = .ok (.getfield 32, 3) := dk_180 0 32 (dk_at dksX1_copy_6 8 rfl rfl)
theorem dX1_copy_146 : decode cX1_copy 146 = .ok (.invokevirtual 42, 3) := dk_182 0 42 (dk_at dksX1_copy_6 11 rfl rfl)
theorem dX1_copy_149 : decode cX1_copy 149 = .ok (.astore_n 2, 1) := dk_77 (dk_at dksX1_copy_6 14 rfl rfl)
theorem dX1_copy_150 : decode cX1_copy 150 = .ok (.aload_n 2, 1) := dk_44 (dk_at dksX1_copy_6 15 rfl rfl)
theorem dX1_copy_151 : decode cX1_copy 151 = .ok (.invokeinterface 46 1, 5) := by decide +kernel
theorem dX1_copy_156 : decode cX1_copy 156 = .ok (.ifCond .eq 25, 3) := dk_153 0 25 (dk_at dksX1_copy_6 21 rfl rfl)
theorem dX1_copy_159 : decode cX1_copy 159 = .ok (.aload_n 2, 1) := dk_44 (dk_at dksX1_copy_7 0 rfl rfl)
theorem dX1_copy_160 : decode cX1_copy 160 = .ok (.invokeinterface 52 1, 5) := by decide +kernel
theorem dX1_copy_165 : decode cX1_copy 165 = .ok (.checkcast 72, 3) := dk_192 0 72 (dk_at dksX1_copy_7 6 rfl rfl)
theorem dX1_copy_168 : decode cX1_copy 168 = .ok (.astore_n 3, 1) := dk_78 (dk_at dksX1_copy_7 9 rfl rfl)
theorem dX1_copy_169 : decode cX1_copy 169 = .ok (.aload_n 1, 1) := dk_43 (dk_at dksX1_copy_7 10 rfl rfl)
theorem dX1_copy_170 : decode cX1_copy 170 = .ok (.getfield 32, 3) := dk_180 0 32 (dk_at dksX1_copy_7 11 rfl rfl)
theorem dX1_copy_173 : decode cX1_copy 173 = .ok (.aload_n 3, 1) := dk_45 (dk_at dksX1_copy_7 14 rfl rfl)
theorem dX1_copy_174 : decode cX1_copy 174 = .ok (.invokevirtual 62, 3) := dk_182 0 62 (dk_at dksX1_copy_7 15 rfl rfl)
theorem dX1_copy_177 : decode cX1_copy 177 = .ok (.pop, 1) := dk_87 (dk_at dksX1_copy_7 18 rfl rfl)
theorem dX1_copy_178 : decode cX1_copy 178 = .ok (.goto (-28), 3) := dk_167 255 228 (dk_at dksX1_copy_7 19 rfl rfl)
theorem dX1_copy_181 : decode cX1_copy 181 = .ok (.aload_n 1, 1) := dk_43 (dk_at dksX1_copy_7 22 rfl rfl)
theorem dX1_copy_182 : decode cX1_copy 182 = .ok (.areturn, 1) := dk_176 (dk_at dksX1_copy_7 23 rfl rfl)
theorem q165 : (Jvm.Cond.initialized "FilingChains$Office") ∈ lw_all := lw_g (lw_at lw_m1 2 rfl) rfl
theorem q229 : (Jvm.Cond.instantiable "FilingChains$Office" (5 : Nat)) ∈ lw_all := lw_g (lw_at lw_m1 66 rfl) rfl
theorem q231 : (Jvm.Cond.instanceMethod ({ cls := "FilingChains$Office", name := "<init>", desc := "()V" } : Jvm.MethodName)) ∈ lw_all := lw_g (lw_at lw_m1 68 rfl) rfl
theorem q232 : (Jvm.Cond.code ({ cls := "FilingChains$Office", name := "<init>", desc := "()V" } : Jvm.MethodName) prog_7_method_1_code (1 : Nat) (Option.none : Option Jvm.ClassFile.FieldType)) ∈ lw_all := lw_g (lw_at lw_m1 69 rfl) rfl
theorem q233 : (Jvm.Cond.methodLink "FilingChains$Office" (3 : Nat) ({ cls := "java/lang/Object", name := "<init>", desc := "()V" } : Jvm.MethodName)) ∈ lw_all := lw_g (lw_at lw_m1 70 rfl) rfl
theorem q234 : (Jvm.Cond.classLink "FilingChains$Office" (15 : Nat) "java/util/ArrayList") ∈ lw_all := lw_g (lw_at lw_m1 71 rfl) rfl
theorem q236 : (Jvm.Cond.methodLink "FilingChains$Office" (17 : Nat) ({ cls := "java/util/ArrayList", name := "<init>", desc := "()V" } : Jvm.MethodName)) ∈ lw_all := lw_g (lw_at lw_m1 73 rfl) rfl
theorem q268 : (Jvm.Cond.classLink "FilingChains$Office" (22 : Nat) "java/util/LinkedList") ∈ lw_all := lw_g (lw_at lw_m1 105 rfl) rfl
theorem q270 : (Jvm.Cond.methodLink "FilingChains$Office" (24 : Nat) ({ cls := "java/util/LinkedList", name := "<init>", desc := "()V" } : Jvm.MethodName)) ∈ lw_all := lw_g (lw_at lw_m1 107 rfl) rfl
theorem q289 : (Jvm.Cond.fieldLink "FilingChains$Office" (9 : Nat) "FilingChains$Office" "limits" "[I") ∈ lw_all := lw_g (lw_at lw_m1 126 rfl) rfl
theorem q292 : (Jvm.Cond.fieldLink "FilingChains$Office" (18 : Nat) "FilingChains$Office" "filings" "Ljava/util/ArrayList;") ∈ lw_all := lw_g (lw_at lw_m1 129 rfl) rfl
theorem q296 : (Jvm.Cond.fieldLink "FilingChains$Office" (25 : Nat) "FilingChains$Office" "links" "Ljava/util/LinkedList;") ∈ lw_all := lw_g (lw_at lw_m1 133 rfl) rfl
theorem q300 : (Jvm.Cond.fieldLink "FilingChains$Office" (29 : Nat) "FilingChains$Office" "claims" "Ljava/util/ArrayList;") ∈ lw_all := lw_g (lw_at lw_m1 137 rfl) rfl
theorem q303 : (Jvm.Cond.fieldLink "FilingChains$Office" (32 : Nat) "FilingChains$Office" "things" "Ljava/util/ArrayList;") ∈ lw_all := lw_g (lw_at lw_m1 140 rfl) rfl
theorem q306 : (Jvm.Cond.laysFinal "FilingChains$Office" "FilingChains$Office" "limits" "[I") ∈ lw_all := lw_g (lw_at lw_m1 143 rfl) rfl
theorem q307 : (Jvm.Cond.soleField "FilingChains$Office" "limits") ∈ lw_all := lw_g (lw_at lw_m1 144 rfl) rfl
theorem q308 : (Jvm.Cond.laysFinal "FilingChains$Office" "FilingChains$Office" "filings" "Ljava/util/ArrayList;") ∈ lw_all := lw_g (lw_at lw_m1 145 rfl) rfl
theorem q309 : (Jvm.Cond.soleField "FilingChains$Office" "filings") ∈ lw_all := lw_g (lw_at lw_m1 146 rfl) rfl
theorem q310 : (Jvm.Cond.laysFinal "FilingChains$Office" "FilingChains$Office" "links" "Ljava/util/LinkedList;") ∈ lw_all := lw_g (lw_at lw_m1 147 rfl) rfl
theorem q311 : (Jvm.Cond.soleField "FilingChains$Office" "links") ∈ lw_all := lw_g (lw_at lw_m1 148 rfl) rfl
theorem q312 : (Jvm.Cond.laysFinal "FilingChains$Office" "FilingChains$Office" "claims" "Ljava/util/ArrayList;") ∈ lw_all := lw_g (lw_at lw_m1 149 rfl) rfl
theorem q313 : (Jvm.Cond.soleField "FilingChains$Office" "claims") ∈ lw_all := lw_g (lw_at lw_m1 150 rfl) rfl
theorem q314 : (Jvm.Cond.laysFinal "FilingChains$Office" "FilingChains$Office" "things" "Ljava/util/ArrayList;") ∈ lw_all := lw_g (lw_at lw_m1 151 rfl) rfl
theorem q315 : (Jvm.Cond.soleField "FilingChains$Office" "things") ∈ lw_all := lw_g (lw_at lw_m1 152 rfl) rfl
theorem q316 : (Jvm.Cond.superclass "FilingChains$Office" "java/lang/Object") ∈ lw_all := lw_g (lw_at lw_m1 153 rfl) rfl
theorem q440 : (Jvm.Cond.selects "FilingChains$Office" ({ cls := "java/lang/Object", name := "getClass", desc := "()Ljava/lang/Class;" } : Jvm.MethodName) ({ cls := "java/lang/Object", name := "getClass", desc := "()Ljava/lang/Class;" } : Jvm.MethodName)) ∈ lw_all := lw_g (lw_at lw_m2 37 rfl) rfl
theorem q877 : (Jvm.Cond.selects "FilingChains$Office" ({ cls := "java/lang/Object", name := "equals", desc := "(Ljava/lang/Object;)Z" } : Jvm.MethodName) ({ cls := "java/lang/Object", name := "equals", desc := "(Ljava/lang/Object;)Z" } : Jvm.MethodName)) ∈ lw_all := lw_g (lw_at lw_m3 234 rfl) rfl
theorem q1113 : (Jvm.Cond.fieldLinkNest "FilingChains$Office" (86 : Nat) "FilingChains$Filing" "day" "I" "FilingChains") ∈ lw_tbl := lw_at lw_m4 230 rfl
theorem q1139 : (Jvm.Cond.instanceMethod ({ cls := "FilingChains$Office", name := "filed", desc := "(I)LFilingChains$Filing;" } : Jvm.MethodName)) ∈ lw_all := lw_g (lw_at lw_m5 16 rfl) rfl
theorem q1140 : (Jvm.Cond.selects "FilingChains$Office" ({ cls := "FilingChains$Office", name := "filed", desc := "(I)LFilingChains$Filing;" } : Jvm.MethodName) ({ cls := "FilingChains$Office", name := "filed", desc := "(I)LFilingChains$Filing;" } : Jvm.MethodName)) ∈ lw_all := lw_g (lw_at lw_m5 17 rfl) rfl
theorem q1141 : (Jvm.Cond.code ({ cls := "FilingChains$Office", name := "filed", desc := "(I)LFilingChains$Filing;" } : Jvm.MethodName) prog_7_method_3_code (2 : Nat) (Option.some (Jvm.ClassFile.FieldType.object "FilingChains$Filing"))) ∈ lw_all := lw_g (lw_at lw_m5 18 rfl) rfl
theorem q1142 : (Jvm.Cond.methodLink "FilingChains$Office" (74 : Nat) ({ cls := "java/util/ArrayList", name := "get", desc := "(I)Ljava/lang/Object;" } : Jvm.MethodName)) ∈ lw_all := lw_g (lw_at lw_m5 19 rfl) rfl
theorem q1154 : (Jvm.Cond.classLink "FilingChains$Office" (56 : Nat) "FilingChains$Filing") ∈ lw_all := lw_g (lw_at lw_m5 31 rfl) rfl
theorem q1191 : (Jvm.Cond.instanceMethod ({ cls := "FilingChains$Office", name := "hasLink", desc := "(III)Z" } : Jvm.MethodName)) ∈ lw_all := lw_g (lw_at lw_m5 68 rfl) rfl
theorem q1192 : (Jvm.Cond.selects "FilingChains$Office" ({ cls := "FilingChains$Office", name := "hasLink", desc := "(III)Z" } : Jvm.MethodName) ({ cls := "FilingChains$Office", name := "hasLink", desc := "(III)Z" } : Jvm.MethodName)) ∈ lw_all := lw_g (lw_at lw_m5 69 rfl) rfl
theorem q1193 : (Jvm.Cond.code ({ cls := "FilingChains$Office", name := "hasLink", desc := "(III)Z" } : Jvm.MethodName) prog_7_method_4_code (6 : Nat) (Option.some Jvm.ClassFile.FieldType.boolean)) ∈ lw_all := lw_g (lw_at lw_m5 70 rfl) rfl
theorem q1194 : (Jvm.Cond.methodLink "FilingChains$Office" (66 : Nat) ({ cls := "java/util/LinkedList", name := "iterator", desc := "()Ljava/util/Iterator;" } : Jvm.MethodName)) ∈ lw_all := lw_g (lw_at lw_m5 71 rfl) rfl
theorem q1281 : (Jvm.Cond.interfaceEntry "FilingChains$Office" (46 : Nat)) ∈ lw_tbl := lw_at lw_m5 158 rfl
theorem q1282 : (Jvm.Cond.methodLink "FilingChains$Office" (46 : Nat) ({ cls := "java/util/Iterator", name := "hasNext", desc := "()Z" } : Jvm.MethodName)) ∈ lw_all := lw_g (lw_at lw_m5 159 rfl) rfl
theorem q1323 : (Jvm.Cond.interfaceEntry "FilingChains$Office" (52 : Nat)) ∈ lw_tbl := lw_at lw_m5 200 rfl
theorem q1324 : (Jvm.Cond.methodLink "FilingChains$Office" (52 : Nat) ({ cls := "java/util/Iterator", name := "next", desc := "()Ljava/lang/Object;" } : Jvm.MethodName)) ∈ lw_all := lw_g (lw_at lw_m5 201 rfl) rfl
theorem q1523 : (Jvm.Cond.classLink "FilingChains$Office" (67 : Nat) "FilingChains$Link") ∈ lw_all := lw_g (lw_at lw_m6 160 rfl) rfl
theorem q1524 : (Jvm.Cond.methodLink "FilingChains$Office" (78 : Nat) ({ cls := "FilingChains$Link", name := "is", desc := "(III)Z" } : Jvm.MethodName)) ∈ lw_all := lw_g (lw_at lw_m6 161 rfl) rfl
theorem q1529 : (Jvm.Cond.instanceMethod ({ cls := "FilingChains$Office", name := "isLater", desc := "(II)Z" } : Jvm.MethodName)) ∈ lw_all := lw_g (lw_at lw_m6 166 rfl) rfl
theorem q1530 : (Jvm.Cond.selects "FilingChains$Office" ({ cls := "FilingChains$Office", name := "isLater", desc := "(II)Z" } : Jvm.MethodName) ({ cls := "FilingChains$Office", name := "isLater", desc := "(II)Z" } : Jvm.MethodName)) ∈ lw_all := lw_g (lw_at lw_m6 167 rfl) rfl
theorem q1531 : (Jvm.Cond.code ({ cls := "FilingChains$Office", name := "isLater", desc := "(II)Z" } : Jvm.MethodName) prog_7_method_5_code (3 : Nat) (Option.some Jvm.ClassFile.FieldType.boolean)) ∈ lw_all := lw_g (lw_at lw_m6 168 rfl) rfl
theorem q1532 : (Jvm.Cond.methodLink "FilingChains$Office" (82 : Nat) ({ cls := "FilingChains$Office", name := "filed", desc := "(I)LFilingChains$Filing;" } : Jvm.MethodName)) ∈ lw_all := lw_g (lw_at lw_m6 169 rfl) rfl
theorem q2622 : (Jvm.Cond.instanceMethod ({ cls := "FilingChains$Office", name := "copy", desc := "()LFilingChains$Office;" } : Jvm.MethodName)) ∈ lw_all := lw_g (lw_at lw_m11 59 rfl) rfl
theorem q2623 : (Jvm.Cond.selects "FilingChains$Office" ({ cls := "FilingChains$Office", name := "copy", desc := "()LFilingChains$Office;" } : Jvm.MethodName) ({ cls := "FilingChains$Office", name := "copy", desc := "()LFilingChains$Office;" } : Jvm.MethodName)) ∈ lw_all := lw_g (lw_at lw_m11 60 rfl) rfl
theorem q2624 : (Jvm.Cond.code ({ cls := "FilingChains$Office", name := "copy", desc := "()LFilingChains$Office;" } : Jvm.MethodName) prog_7_method_2_code (4 : Nat) (Option.some (Jvm.ClassFile.FieldType.object "FilingChains$Office"))) ∈ lw_all := lw_g (lw_at lw_m11 61 rfl) rfl
theorem q2625 : (Jvm.Cond.classLink "FilingChains$Office" (10 : Nat) "FilingChains$Office") ∈ lw_all := lw_g (lw_at lw_m11 62 rfl) rfl
theorem q2626 : (Jvm.Cond.methodLink "FilingChains$Office" (35 : Nat) ({ cls := "FilingChains$Office", name := "<init>", desc := "()V" } : Jvm.MethodName)) ∈ lw_all := lw_g (lw_at lw_m11 63 rfl) rfl
theorem q2627 : (Jvm.Cond.methodLink "FilingChains$Office" (36 : Nat) ({ cls := "java/lang/System", name := "arraycopy", desc := "(Ljava/lang/Object;ILjava/lang/Object;II)V" } : Jvm.MethodName)) ∈ lw_all := lw_g (lw_at lw_m11 64 rfl) rfl
theorem q2628 : (Jvm.Cond.methodLink "FilingChains$Office" (42 : Nat) ({ cls := "java/util/ArrayList", name := "iterator", desc := "()Ljava/util/Iterator;" } : Jvm.MethodName)) ∈ lw_all := lw_g (lw_at lw_m11 65 rfl) rfl
theorem q2629 : (Jvm.Cond.methodLink "FilingChains$Office" (58 : Nat) ({ cls := "FilingChains$Filing", name := "copy", desc := "()LFilingChains$Filing;" } : Jvm.MethodName)) ∈ lw_all := lw_g (lw_at lw_m11 66 rfl) rfl
theorem q2636 : (Jvm.Cond.methodLink "FilingChains$Office" (62 : Nat) ({ cls := "java/util/ArrayList", name := "add", desc := "(Ljava/lang/Object;)Z" } : Jvm.MethodName)) ∈ lw_all := lw_g (lw_at lw_m11 73 rfl) rfl
theorem q2637 : (Jvm.Cond.methodLink "FilingChains$Office" (69 : Nat) ({ cls := "java/util/LinkedList", name := "add", desc := "(Ljava/lang/Object;)Z" } : Jvm.MethodName)) ∈ lw_all := lw_g (lw_at lw_m11 74 rfl) rfl
theorem q2638 : (Jvm.Cond.classLink "FilingChains$Office" (70 : Nat) "FilingChains$Claim") ∈ lw_all := lw_g (lw_at lw_m11 75 rfl) rfl
theorem q2639 : (Jvm.Cond.classLink "FilingChains$Office" (72 : Nat) "FilingChains$Thing") ∈ lw_all := lw_g (lw_at lw_m11 76 rfl) rfl
theorem q3429 : (Jvm.Cond.castable "FilingChains$Office" "java/lang/Object") ∈ lw_tbl := lw_at lw_m14 146 rfl
theorem in_X1 : ∀ w ∈ wsX10, w ∈ lw_all := lw_in wsX10 [306, 308, 310, 312, 314] (by decide +kernel) (by decide +kernel)

/-! FilingChains$Reader -/
set_option maxRecDepth 100000
def RX3 : String := "FilingChains$Reader"
def TX3 : u_T := fun k => match k with
  | 0 => ("FilingChains$Reader", "size", "I", true)
  | 1 => ("FilingChains$Reader", "o", "LFilingChains$Office;", true)
  | 2 => ("FilingChains$Reader", "words", "Ljava/util/List;", true)
  | 3 => ("FilingChains$Reader", "more", "Ljava/util/List;", true)
  | 4 => ("FilingChains$Reader", "parts", "Ljava/util/ArrayList;", true)
  | 5 => ("FilingChains$Reader", "filers", "Ljava/util/ArrayList;", true)
  | 6 => ("FilingChains$Reader", "filings", "Ljava/util/ArrayList;", true)
  | 7 => ("FilingChains$Reader", "at", "I", false)
  | 8 => ("FilingChains$Reader", "place", "I", false)
  | 9 => ("FilingChains$Reader", "told", "I", false)
  | 10 => ("FilingChains$Reader", "read", "I", false)
  | _ => ("FilingChains$Reader", "this$0", "LFilingChains;", true)
def tyX3 : Nat → FieldType := fun k => match k with
  | 0 => .int
  | 1 => .object "FilingChains$Office"
  | 2 => .object "java/util/List"
  | 3 => .object "java/util/List"
  | 4 => .object "java/util/ArrayList"
  | 5 => .object "java/util/ArrayList"
  | 6 => .object "java/util/ArrayList"
  | 7 => .int
  | 8 => .int
  | 9 => .int
  | 10 => .int
  | _ => .object "FilingChains"
abbrev wsX30 : List Cond := u_ws RX3 TX3 12
theorem nmX3 : ∀ a, a < 12 → ∀ b, b < 12 → a ≠ b → (TX3 a).2.1 ≠ (TX3 b).2.1 := by decide +kernel
theorem tyX3_ok : ∀ k, k < 12 → parseFieldDescriptor (TX3 k).2.2.1 = some (tyX3 k) := by decide +kernel
abbrev cX3_init : ByteArray := prog_8_method_1_code
def yX3_init : MethodName := ⟨RX3, "<init>", "(LFilingChains;I)V"⟩
def dkwX3_init_4 : List UInt8 := [181, 0, 77, 177]
abbrev dktX3_init_4 : List UInt8 := dkwX3_init_4 ++ []
def dkwX3_init_3 : List UInt8 := [42, 187, 0, 64, 89, 183, 0, 66, 181, 0, 71, 42, 187, 0, 64, 89, 183, 0, 66, 181, 0, 74, 42, 28]
abbrev dktX3_init_3 : List UInt8 := dkwX3_init_3 ++ dktX3_init_4
def dkwX3_init_2 : List UInt8 := [42, 18, 52, 18, 54, 18, 56, 184, 0, 58, 181, 0, 61, 42, 187, 0, 64, 89, 183, 0, 66, 181, 0, 67]
abbrev dktX3_init_2 : List UInt8 := dkwX3_init_2 ++ dktX3_init_3
def dkwX3_init_1 : List UInt8 := [18, 24, 18, 26, 18, 28, 18, 30, 18, 32, 18, 34, 18, 36, 18, 38, 18, 40, 184, 0, 42, 181, 0, 48]
abbrev dktX3_init_1 : List UInt8 := dkwX3_init_1 ++ dktX3_init_2
def dkwX3_init_0 : List UInt8 := [42, 43, 181, 0, 3, 42, 183, 0, 9, 42, 187, 0, 15, 89, 183, 0, 17, 181, 0, 18, 42, 18, 22]
abbrev dktX3_init_0 : List UInt8 := dkwX3_init_0 ++ dktX3_init_1
theorem dksX3_init_0 : cX3_init.data.toList.drop 0 = dktX3_init_0 := by decide +kernel
theorem dksX3_init_1 : cX3_init.data.toList.drop 23 = dktX3_init_1 := dk_seg dksX3_init_0 23 rfl rfl
theorem dksX3_init_2 : cX3_init.data.toList.drop 47 = dktX3_init_2 := dk_seg dksX3_init_1 24 rfl rfl
theorem dksX3_init_3 : cX3_init.data.toList.drop 71 = dktX3_init_3 := dk_seg dksX3_init_2 24 rfl rfl
theorem dksX3_init_4 : cX3_init.data.toList.drop 95 = dktX3_init_4 := dk_seg dksX3_init_3 24 rfl rfl
theorem dX3_init_0 : decode cX3_init 0 = .ok (.aload_n 0, 1) := dk_42 (dk_at dksX3_init_0 0 rfl rfl)
theorem dX3_init_1 : decode cX3_init 1 = .ok (.aload_n 1, 1) := dk_43 (dk_at dksX3_init_0 1 rfl rfl)
theorem dX3_init_2 : decode cX3_init 2 = .ok (.putfield 3, 3) := dk_181 0 3 (dk_at dksX3_init_0 2 rfl rfl)
theorem dX3_init_5 : decode cX3_init 5 = .ok (.aload_n 0, 1) := dk_42 (dk_at dksX3_init_0 5 rfl rfl)
theorem dX3_init_6 : decode cX3_init 6 = .ok (.invokespecial 9, 3) := dk_183 0 9 (dk_at dksX3_init_0 6 rfl rfl)
theorem dX3_init_9 : decode cX3_init 9 = .ok (.aload_n 0, 1) := dk_42 (dk_at dksX3_init_0 9 rfl rfl)
theorem dX3_init_10 : decode cX3_init 10 = .ok (.new 15, 3) := dk_187 0 15 (dk_at dksX3_init_0 10 rfl rfl)
theorem dX3_init_13 : decode cX3_init 13 = .ok (.dup, 1) := dk_89 (dk_at dksX3_init_0 13 rfl rfl)
theorem dX3_init_14 : decode cX3_init 14 = .ok (.invokespecial 17, 3) := dk_183 0 17 (dk_at dksX3_init_0 14 rfl rfl)
theorem dX3_init_17 : decode cX3_init 17 = .ok (.putfield 18, 3) := dk_181 0 18 (dk_at dksX3_init_0 17 rfl rfl)
theorem dX3_init_20 : decode cX3_init 20 = .ok (.aload_n 0, 1) := dk_42 (dk_at dksX3_init_0 20 rfl rfl)
theorem dX3_init_21 : decode cX3_init 21 = .ok (.ldc 22, 2) := dk_18 22 (dk_at dksX3_init_0 21 rfl rfl)
theorem dX3_init_23 : decode cX3_init 23 = .ok (.ldc 24, 2) := dk_18 24 (dk_at dksX3_init_1 0 rfl rfl)
theorem dX3_init_25 : decode cX3_init 25 = .ok (.ldc 26, 2) := dk_18 26 (dk_at dksX3_init_1 2 rfl rfl)
theorem dX3_init_27 : decode cX3_init 27 = .ok (.ldc 28, 2) := dk_18 28 (dk_at dksX3_init_1 4 rfl rfl)
theorem dX3_init_29 : decode cX3_init 29 = .ok (.ldc 30, 2) := dk_18 30 (dk_at dksX3_init_1 6 rfl rfl)
theorem dX3_init_31 : decode cX3_init 31 = .ok (.ldc 32, 2) := dk_18 32 (dk_at dksX3_init_1 8 rfl rfl)
theorem dX3_init_33 : decode cX3_init 33 = .ok (.ldc 34, 2) := dk_18 34 (dk_at dksX3_init_1 10 rfl rfl)
theorem dX3_init_35 : decode cX3_init 35 = .ok (.ldc 36, 2) := dk_18 36 (dk_at dksX3_init_1 12 rfl rfl)
theorem dX3_init_37 : decode cX3_init 37 = .ok (.ldc 38, 2) := dk_18 38 (dk_at dksX3_init_1 14 rfl rfl)
theorem dX3_init_39 : decode cX3_init 39 = .ok (.ldc 40, 2) := dk_18 40 (dk_at dksX3_init_1 16 rfl rfl)
theorem dX3_init_41 : decode cX3_init 41 = .ok (.invokestatic 42, 3) := dk_184 0 42 (dk_at dksX3_init_1 18 rfl rfl)
theorem dX3_init_44 : decode cX3_init 44 = .ok (.putfield 48, 3) := dk_181 0 48 (dk_at dksX3_init_1 21 rfl rfl)
theorem dX3_init_47 : decode cX3_init 47 = .ok (.aload_n 0, 1) := dk_42 (dk_at dksX3_init_2 0 rfl rfl)
theorem dX3_init_48 : decode cX3_init 48 = .ok (.ldc 52, 2) := dk_18 52 (dk_at dksX3_init_2 1 rfl rfl)
theorem dX3_init_50 : decode cX3_init 50 = .ok (.ldc 54, 2) := dk_18 54 (dk_at dksX3_init_2 3 rfl rfl)
theorem dX3_init_52 : decode cX3_init 52 = .ok (.ldc 56, 2) := dk_18 56 (dk_at dksX3_init_2 5 rfl rfl)
theorem dX3_init_54 : decode cX3_init 54 = .ok (.invokestatic 58, 3) := dk_184 0 58 (dk_at dksX3_init_2 7 rfl rfl)
theorem dX3_init_57 : decode cX3_init 57 = .ok (.putfield 61, 3) := dk_181 0 61 (dk_at dksX3_init_2 10 rfl rfl)
theorem dX3_init_60 : decode cX3_init 60 = .ok (.aload_n 0, 1) := dk_42 (dk_at dksX3_init_2 13 rfl rfl)
theorem dX3_init_61 : decode cX3_init 61 = .ok (.new 64, 3) := dk_187 0 64 (dk_at dksX3_init_2 14 rfl rfl)
theorem dX3_init_64 : decode cX3_init 64 = .ok (.dup, 1) := dk_89 (dk_at dksX3_init_2 17 rfl rfl)
theorem dX3_init_65 : decode cX3_init 65 = .ok (.invokespecial 66, 3) := dk_183 0 66 (dk_at dksX3_init_2 18 rfl rfl)
theorem dX3_init_68 : decode cX3_init 68 = .ok (.putfield 67, 3) := dk_181 0 67 (dk_at dksX3_init_2 21 rfl rfl)
theorem dX3_init_71 : decode cX3_init 71 = .ok (.aload_n 0, 1) := dk_42 (dk_at dksX3_init_3 0 rfl rfl)
theorem dX3_init_72 : decode cX3_init 72 = .ok (.new 64, 3) := dk_187 0 64 (dk_at dksX3_init_3 1 rfl rfl)
theorem dX3_init_75 : decode cX3_init 75 = .ok (.dup, 1) := dk_89 (dk_at dksX3_init_3 4 rfl rfl)
theorem dX3_init_76 : decode cX3_init 76 = .ok (.invokespecial 66, 3) := dk_183 0 66 (dk_at dksX3_init_3 5 rfl rfl)
theorem dX3_init_79 : decode cX3_init 79 = .ok (.putfield 71, 3) := dk_181 0 71 (dk_at dksX3_init_3 8 rfl rfl)
theorem dX3_init_82 : decode cX3_init 82 = .ok (.aload_n 0, 1) := dk_42 (dk_at dksX3_init_3 11 rfl rfl)
theorem dX3_init_83 : decode cX3_init 83 = .ok (.new 64, 3) := dk_187 0 64 (dk_at dksX3_init_3 12 rfl rfl)
theorem dX3_init_86 : decode cX3_init 86 = .ok (.dup, 1) := dk_89 (dk_at dksX3_init_3 15 rfl rfl)
theorem dX3_init_87 : decode cX3_init 87 = .ok (.invokespecial 66, 3) := dk_183 0 66 (dk_at dksX3_init_3 16 rfl rfl)
theorem dX3_init_90 : decode cX3_init 90 = .ok (.putfield 74, 3) := dk_181 0 74 (dk_at dksX3_init_3 19 rfl rfl)
theorem dX3_init_93 : decode cX3_init 93 = .ok (.aload_n 0, 1) := dk_42 (dk_at dksX3_init_3 22 rfl rfl)
theorem dX3_init_94 : decode cX3_init 94 = .ok (.iload_n 2, 1) := dk_28 (dk_at dksX3_init_3 23 rfl rfl)
theorem dX3_init_95 : decode cX3_init 95 = .ok (.putfield 77, 3) := dk_181 0 77 (dk_at dksX3_init_4 0 rfl rfl)
theorem dX3_init_98 : decode cX3_init 98 = .ok (.return_, 1) := dk_177 (dk_at dksX3_init_4 3 rfl rfl)
abbrev cX3_reads : ByteArray := prog_8_method_23_code
def yX3_reads : MethodName := ⟨RX3, "reads", "()V"⟩
def dkwX3_reads_1 : List UInt8 := [167, 255, 236, 177]
abbrev dktX3_reads_1 : List UInt8 := dkwX3_reads_1 ++ []
def dkwX3_reads_0 : List UInt8 := [42, 182, 0, 111, 42, 42, 180, 0, 101, 182, 0, 85, 2, 159, 0, 14, 42, 182, 1, 5, 42, 182, 0, 111]
abbrev dktX3_reads_0 : List UInt8 := dkwX3_reads_0 ++ dktX3_reads_1
theorem dksX3_reads_0 : cX3_reads.data.toList.drop 0 = dktX3_reads_0 := by decide +kernel
theorem dksX3_reads_1 : cX3_reads.data.toList.drop 24 = dktX3_reads_1 := dk_seg dksX3_reads_0 24 rfl rfl
theorem dX3_reads_0 : decode cX3_reads 0 = .ok (.aload_n 0, 1) := dk_42 (dk_at dksX3_reads_0 0 rfl rfl)
theorem dX3_reads_1 : decode cX3_reads 1 = .ok (.invokevirtual 111, 3) := dk_182 0 111 (dk_at dksX3_reads_0 1 rfl rfl)
theorem dX3_reads_4 : decode cX3_reads 4 = .ok (.aload_n 0, 1) := dk_42 (dk_at dksX3_reads_0 4 rfl rfl)
theorem dX3_reads_5 : decode cX3_reads 5 = .ok (.aload_n 0, 1) := dk_42 (dk_at dksX3_reads_0 5 rfl rfl)
theorem dX3_reads_6 : decode cX3_reads 6 = .ok (.getfield 101, 3) := dk_180 0 101 (dk_at dksX3_reads_0 6 rfl rfl)
theorem dX3_reads_9 : decode cX3_reads 9 = .ok (.invokevirtual 85, 3) := dk_182 0 85 (dk_at dksX3_reads_0 9 rfl rfl)
theorem dX3_reads_12 : decode cX3_reads 12 = .ok (.iconst (-1), 1) := dk_2 (dk_at dksX3_reads_0 12 rfl rfl)
theorem dX3_reads_13 : decode cX3_reads 13 = .ok (.if_icmp .eq 14, 3) := dk_159 0 14 (dk_at dksX3_reads_0 13 rfl rfl)
theorem dX3_reads_16 : decode cX3_reads 16 = .ok (.aload_n 0, 1) := dk_42 (dk_at dksX3_reads_0 16 rfl rfl)
theorem dX3_reads_17 : decode cX3_reads 17 = .ok (.invokevirtual 261, 3) := dk_182 1 5 (dk_at dksX3_reads_0 17 rfl rfl)
theorem dX3_reads_20 : decode cX3_reads 20 = .ok (.aload_n 0, 1) := dk_42 (dk_at dksX3_reads_0 20 rfl rfl)
theorem dX3_reads_21 : decode cX3_reads 21 = .ok (.invokevirtual 111, 3) := dk_182 0 111 (dk_at dksX3_reads_0 21 rfl rfl)
theorem dX3_reads_24 : decode cX3_reads 24 = .ok (.goto (-20), 3) := dk_167 255 236 (dk_at dksX3_reads_1 0 rfl rfl)
theorem dX3_reads_27 : decode cX3_reads 27 = .ok (.return_, 1) := dk_177 (dk_at dksX3_reads_1 3 rfl rfl)
abbrev cX3_passes : ByteArray := prog_8_method_6_code
def yX3_passes : MethodName := ⟨RX3, "passes", "()V"⟩
def dkwX3_passes_2 : List UInt8 := [177]
abbrev dktX3_passes_2 : List UInt8 := dkwX3_passes_2 ++ []
def dkwX3_passes_1 : List UInt8 := [160, 0, 16, 42, 89, 180, 0, 101, 4, 96, 181, 0, 101, 167, 255, 220, 42, 42, 180, 0, 101, 181, 0, 95]
abbrev dktX3_passes_1 : List UInt8 := dkwX3_passes_1 ++ dktX3_passes_2
def dkwX3_passes_0 : List UInt8 := [42, 42, 180, 0, 101, 182, 0, 85, 16, 32, 159, 0, 16, 42, 42, 180, 0, 101, 182, 0, 85, 16, 10]
abbrev dktX3_passes_0 : List UInt8 := dkwX3_passes_0 ++ dktX3_passes_1
theorem dksX3_passes_0 : cX3_passes.data.toList.drop 0 = dktX3_passes_0 := by decide +kernel
theorem dksX3_passes_1 : cX3_passes.data.toList.drop 23 = dktX3_passes_1 := dk_seg dksX3_passes_0 23 rfl rfl
theorem dksX3_passes_2 : cX3_passes.data.toList.drop 47 = dktX3_passes_2 := dk_seg dksX3_passes_1 24 rfl rfl
theorem dX3_passes_0 : decode cX3_passes 0 = .ok (.aload_n 0, 1) := dk_42 (dk_at dksX3_passes_0 0 rfl rfl)
theorem dX3_passes_1 : decode cX3_passes 1 = .ok (.aload_n 0, 1) := dk_42 (dk_at dksX3_passes_0 1 rfl rfl)
theorem dX3_passes_2 : decode cX3_passes 2 = .ok (.getfield 101, 3) := dk_180 0 101 (dk_at dksX3_passes_0 2 rfl rfl)
theorem dX3_passes_5 : decode cX3_passes 5 = .ok (.invokevirtual 85, 3) := dk_182 0 85 (dk_at dksX3_passes_0 5 rfl rfl)
theorem dX3_passes_8 : decode cX3_passes 8 = .ok (.bipush 32, 2) := dk_16 32 (dk_at dksX3_passes_0 8 rfl rfl)
theorem dX3_passes_10 : decode cX3_passes 10 = .ok (.if_icmp .eq 16, 3) := dk_159 0 16 (dk_at dksX3_passes_0 10 rfl rfl)
theorem dX3_passes_13 : decode cX3_passes 13 = .ok (.aload_n 0, 1) := dk_42 (dk_at dksX3_passes_0 13 rfl rfl)
theorem dX3_passes_14 : decode cX3_passes 14 = .ok (.aload_n 0, 1) := dk_42 (dk_at dksX3_passes_0 14 rfl rfl)
theorem dX3_passes_15 : decode cX3_passes 15 = .ok (.getfield 101, 3) := dk_180 0 101 (dk_at dksX3_passes_0 15 rfl rfl)
theorem dX3_passes_18 : decode cX3_passes 18 = .ok (.invokevirtual 85, 3) := dk_182 0 85 (dk_at dksX3_passes_0 18 rfl rfl)
theorem dX3_passes_21 : decode cX3_passes 21 = .ok (.bipush 10, 2) := dk_16 10 (dk_at dksX3_passes_0 21 rfl rfl)
theorem dX3_passes_23 : decode cX3_passes 23 = .ok (.if_icmp .ne 16, 3) := dk_160 0 16 (dk_at dksX3_passes_1 0 rfl rfl)
theorem dX3_passes_26 : decode cX3_passes 26 = .ok (.aload_n 0, 1) := dk_42 (dk_at dksX3_passes_1 3 rfl rfl)
theorem dX3_passes_27 : decode cX3_passes 27 = .ok (.dup, 1) := dk_89 (dk_at dksX3_passes_1 4 rfl rfl)
theorem dX3_passes_28 : decode cX3_passes 28 = .ok (.getfield 101, 3) := dk_180 0 101 (dk_at dksX3_passes_1 5 rfl rfl)
theorem dX3_passes_31 : decode cX3_passes 31 = .ok (.iconst 1, 1) := dk_4 (dk_at dksX3_passes_1 8 rfl rfl)
theorem dX3_passes_32 : decode cX3_passes 32 = .ok (.iadd, 1) := dk_96 (dk_at dksX3_passes_1 9 rfl rfl)
theorem dX3_passes_33 : decode cX3_passes 33 = .ok (.putfield 101, 3) := dk_181 0 101 (dk_at dksX3_passes_1 10 rfl rfl)
theorem dX3_passes_36 : decode cX3_passes 36 = .ok (.goto (-36), 3) := dk_167 255 220 (dk_at dksX3_passes_1 13 rfl rfl)
theorem dX3_passes_39 : decode cX3_passes 39 = .ok (.aload_n 0, 1) := dk_42 (dk_at dksX3_passes_1 16 rfl rfl)
theorem dX3_passes_40 : decode cX3_passes 40 = .ok (.aload_n 0, 1) := dk_42 (dk_at dksX3_passes_1 17 rfl rfl)
theorem dX3_passes_41 : decode cX3_passes 41 = .ok (.getfield 101, 3) := dk_180 0 101 (dk_at dksX3_passes_1 18 rfl rfl)
theorem dX3_passes_44 : decode cX3_passes 44 = .ok (.putfield 95, 3) := dk_181 0 95 (dk_at dksX3_passes_1 21 rfl rfl)
theorem dX3_passes_47 : decode cX3_passes 47 = .ok (.return_, 1) := dk_177 (dk_at dksX3_passes_2 0 rfl rfl)
abbrev cX3_here : ByteArray := prog_8_method_2_code
def yX3_here : MethodName := ⟨RX3, "here", "(I)I"⟩
def dkwX3_here_1 : List UInt8 := [2, 172]
abbrev dktX3_here_1 : List UInt8 := dkwX3_here_1 ++ []
def dkwX3_here_0 : List UInt8 := [27, 42, 180, 0, 77, 162, 0, 19, 42, 180, 0, 3, 180, 0, 81, 27, 51, 17, 0, 255, 126, 167, 0, 4]
abbrev dktX3_here_0 : List UInt8 := dkwX3_here_0 ++ dktX3_here_1
theorem dksX3_here_0 : cX3_here.data.toList.drop 0 = dktX3_here_0 := by decide +kernel
theorem dksX3_here_1 : cX3_here.data.toList.drop 24 = dktX3_here_1 := dk_seg dksX3_here_0 24 rfl rfl
theorem dX3_here_0 : decode cX3_here 0 = .ok (.iload_n 1, 1) := dk_27 (dk_at dksX3_here_0 0 rfl rfl)
theorem dX3_here_1 : decode cX3_here 1 = .ok (.aload_n 0, 1) := dk_42 (dk_at dksX3_here_0 1 rfl rfl)
theorem dX3_here_2 : decode cX3_here 2 = .ok (.getfield 77, 3) := dk_180 0 77 (dk_at dksX3_here_0 2 rfl rfl)
theorem dX3_here_5 : decode cX3_here 5 = .ok (.if_icmp .ge 19, 3) := dk_162 0 19 (dk_at dksX3_here_0 5 rfl rfl)
theorem dX3_here_8 : decode cX3_here 8 = .ok (.aload_n 0, 1) := dk_42 (dk_at dksX3_here_0 8 rfl rfl)
theorem dX3_here_9 : decode cX3_here 9 = .ok (.getfield 3, 3) := dk_180 0 3 (dk_at dksX3_here_0 9 rfl rfl)
theorem dX3_here_12 : decode cX3_here 12 = .ok (.getfield 81, 3) := dk_180 0 81 (dk_at dksX3_here_0 12 rfl rfl)
theorem dX3_here_15 : decode cX3_here 15 = .ok (.iload_n 1, 1) := dk_27 (dk_at dksX3_here_0 15 rfl rfl)
theorem dX3_here_16 : decode cX3_here 16 = .ok (.baload, 1) := dk_51 (dk_at dksX3_here_0 16 rfl rfl)
theorem dX3_here_17 : decode cX3_here 17 = .ok (.sipush 255, 3) := dk_17 0 255 (dk_at dksX3_here_0 17 rfl rfl)
theorem dX3_here_20 : decode cX3_here 20 = .ok (.iand, 1) := dk_126 (dk_at dksX3_here_0 20 rfl rfl)
theorem dX3_here_21 : decode cX3_here 21 = .ok (.goto 4, 3) := dk_167 0 4 (dk_at dksX3_here_0 21 rfl rfl)
theorem dX3_here_24 : decode cX3_here 24 = .ok (.iconst (-1), 1) := dk_2 (dk_at dksX3_here_1 0 rfl rfl)
theorem dX3_here_25 : decode cX3_here 25 = .ok (.ireturn, 1) := dk_172 (dk_at dksX3_here_1 1 rfl rfl)
abbrev cX3_line : ByteArray := prog_8_method_22_code
def yX3_line : MethodName := ⟨RX3, "line", "()V"⟩
def dkwX3_line_11 : List UInt8 := [180, 1, 2, 4, 96, 181, 1, 2, 177]
abbrev dktX3_line_11 : List UInt8 := dkwX3_line_11 ++ []
def dkwX3_line_10 : List UInt8 := [182, 0, 255, 42, 42, 182, 0, 151, 4, 182, 0, 118, 42, 89, 180, 0, 101, 4, 96, 181, 0, 101, 42, 89]
abbrev dktX3_line_10 : List UInt8 := dkwX3_line_10 ++ dktX3_line_11
def dkwX3_line_9 : List UInt8 := [100, 182, 0, 246, 167, 0, 21, 42, 182, 0, 249, 167, 0, 14, 42, 182, 0, 252, 167, 0, 7, 42]
abbrev dktX3_line_9 : List UInt8 := dkwX3_line_9 ++ dktX3_line_10
def dkwX3_line_8 : List UInt8 := [182, 0, 175, 167, 0, 46, 42, 182, 0, 240, 167, 0, 39, 42, 182, 0, 243, 167, 0, 32, 42, 28, 16, 8]
abbrev dktX3_line_8 : List UInt8 := dkwX3_line_8 ++ dktX3_line_9
def dkwX3_line_7 : List UInt8 := [182, 0, 173, 16, 6, 162, 0, 7, 4, 167, 0, 4, 3, 7, 182, 0, 118, 42, 42, 180, 0, 71]
abbrev dktX3_line_7 : List UInt8 := dkwX3_line_7 ++ dktX3_line_8
def dkwX3_line_6 : List UInt8 := [167, 0, 4, 3, 7, 182, 0, 118, 42, 42, 180, 0, 67, 182, 0, 175, 167, 0, 79, 42, 42, 180, 0, 71]
abbrev dktX3_line_6 : List UInt8 := dkwX3_line_6 ++ dktX3_line_7
def dkwX3_line_5 : List UInt8 := [42, 28, 182, 0, 236, 167, 0, 112, 42, 42, 180, 0, 67, 182, 0, 173, 16, 16, 162, 0, 7, 4]
abbrev dktX3_line_5 : List UInt8 := dkwX3_line_5 ++ dktX3_line_6
def dkwX3_line_4 : List UInt8 := [170, 0, 0, 0, 174, 0, 0, 0, 0, 0, 0, 0, 11, 0, 0, 0, 61, 0, 0, 0, 61, 0, 0, 0, 61, 0, 0, 0, 61, 0, 0, 0, 69, 0, 0, 0, 102, 0, 0, 0, 135, 0, 0, 0, 142, 0, 0, 0, 149, 0, 0, 0, 149, 0, 0, 0, 160, 0, 0, 0, 167]
abbrev dktX3_line_4 : List UInt8 := dkwX3_line_4 ++ dktX3_line_5
def dkwX3_line_3 : List UInt8 := [185, 0, 234, 2, 0, 96]
abbrev dktX3_line_3 : List UInt8 := dkwX3_line_3 ++ dktX3_line_4
def dkwX3_line_2 : List UInt8 := [155, 0, 7, 28, 167, 0, 23, 42, 180, 0, 48, 185, 0, 235, 1, 0, 42, 180, 0, 61, 43]
abbrev dktX3_line_2 : List UInt8 := dkwX3_line_2 ++ dktX3_line_3
def dkwX3_line_1 : List UInt8 := [180, 0, 61, 43, 185, 0, 136, 2, 0, 153, 0, 7, 4, 167, 0, 4, 3, 4, 182, 0, 118, 28]
abbrev dktX3_line_1 : List UInt8 := dkwX3_line_1 ++ dktX3_line_2
def dkwX3_line_0 : List UInt8 := [42, 182, 0, 133, 76, 42, 180, 0, 48, 43, 185, 0, 234, 2, 0, 61, 42, 28, 156, 0, 16, 42]
abbrev dktX3_line_0 : List UInt8 := dkwX3_line_0 ++ dktX3_line_1
theorem dksX3_line_0 : cX3_line.data.toList.drop 0 = dktX3_line_0 := by decide +kernel
theorem dksX3_line_1 : cX3_line.data.toList.drop 22 = dktX3_line_1 := dk_seg dksX3_line_0 22 rfl rfl
theorem dksX3_line_2 : cX3_line.data.toList.drop 44 = dktX3_line_2 := dk_seg dksX3_line_1 22 rfl rfl
theorem dksX3_line_3 : cX3_line.data.toList.drop 65 = dktX3_line_3 := dk_seg dksX3_line_2 21 rfl rfl
theorem dksX3_line_4 : cX3_line.data.toList.drop 71 = dktX3_line_4 := dk_seg dksX3_line_3 6 rfl rfl
theorem dksX3_line_5 : cX3_line.data.toList.drop 132 = dktX3_line_5 := dk_seg dksX3_line_4 61 rfl rfl
theorem dksX3_line_6 : cX3_line.data.toList.drop 154 = dktX3_line_6 := dk_seg dksX3_line_5 22 rfl rfl
theorem dksX3_line_7 : cX3_line.data.toList.drop 178 = dktX3_line_7 := dk_seg dksX3_line_6 24 rfl rfl
theorem dksX3_line_8 : cX3_line.data.toList.drop 200 = dktX3_line_8 := dk_seg dksX3_line_7 22 rfl rfl
theorem dksX3_line_9 : cX3_line.data.toList.drop 224 = dktX3_line_9 := dk_seg dksX3_line_8 24 rfl rfl
theorem dksX3_line_10 : cX3_line.data.toList.drop 246 = dktX3_line_10 := dk_seg dksX3_line_9 22 rfl rfl
theorem dksX3_line_11 : cX3_line.data.toList.drop 270 = dktX3_line_11 := dk_seg dksX3_line_10 24 rfl rfl
theorem dX3_line_0 : decode cX3_line 0 = .ok (.aload_n 0, 1) := dk_42 (dk_at dksX3_line_0 0 rfl rfl)
theorem dX3_line_1 : decode cX3_line 1 = .ok (.invokevirtual 133, 3) := dk_182 0 133 (dk_at dksX3_line_0 1 rfl rfl)
theorem dX3_line_4 : decode cX3_line 4 = .ok (.astore_n 1, 1) := dk_76 (dk_at dksX3_line_0 4 rfl rfl)
theorem dX3_line_5 : decode cX3_line 5 = .ok (.aload_n 0, 1) := dk_42 (dk_at dksX3_line_0 5 rfl rfl)
theorem dX3_line_6 : decode cX3_line 6 = .ok (.getfield 48, 3) := dk_180 0 48 (dk_at dksX3_line_0 6 rfl rfl)
theorem dX3_line_9 : decode cX3_line 9 = .ok (.aload_n 1, 1) := dk_43 (dk_at dksX3_line_0 9 rfl rfl)
theorem dX3_line_10 : decode cX3_line 10 = .ok (.invokeinterface 234 2, 5) := by decide +kernel
theorem dX3_line_15 : decode cX3_line 15 = .ok (.istore_n 2, 1) := dk_61 (dk_at dksX3_line_0 15 rfl rfl)
theorem dX3_line_16 : decode cX3_line 16 = .ok (.aload_n 0, 1) := dk_42 (dk_at dksX3_line_0 16 rfl rfl)
theorem dX3_line_17 : decode cX3_line 17 = .ok (.iload_n 2, 1) := dk_28 (dk_at dksX3_line_0 17 rfl rfl)
theorem dX3_line_18 : decode cX3_line 18 = .ok (.ifCond .ge 16, 3) := dk_156 0 16 (dk_at dksX3_line_0 18 rfl rfl)
theorem dX3_line_21 : decode cX3_line 21 = .ok (.aload_n 0, 1) := dk_42 (dk_at dksX3_line_0 21 rfl rfl)
theorem dX3_line_22 : decode cX3_line 22 = .ok (.getfield 61, 3) := dk_180 0 61 (dk_at dksX3_line_1 0 rfl rfl)
theorem dX3_line_25 : decode cX3_line 25 = .ok (.aload_n 1, 1) := dk_43 (dk_at dksX3_line_1 3 rfl rfl)
theorem dX3_line_26 : decode cX3_line 26 = .ok (.invokeinterface 136 2, 5) := by decide +kernel
theorem dX3_line_31 : decode cX3_line 31 = .ok (.ifCond .eq 7, 3) := dk_153 0 7 (dk_at dksX3_line_1 9 rfl rfl)
theorem dX3_line_34 : decode cX3_line 34 = .ok (.iconst 1, 1) := dk_4 (dk_at dksX3_line_1 12 rfl rfl)
theorem dX3_line_35 : decode cX3_line 35 = .ok (.goto 4, 3) := dk_167 0 4 (dk_at dksX3_line_1 13 rfl rfl)
theorem dX3_line_38 : decode cX3_line 38 = .ok (.iconst 0, 1) := dk_3 (dk_at dksX3_line_1 16 rfl rfl)
theorem dX3_line_39 : decode cX3_line 39 = .ok (.iconst 1, 1) := dk_4 (dk_at dksX3_line_1 17 rfl rfl)
theorem dX3_line_40 : decode cX3_line 40 = .ok (.invokevirtual 118, 3) := dk_182 0 118 (dk_at dksX3_line_1 18 rfl rfl)
theorem dX3_line_43 : decode cX3_line 43 = .ok (.iload_n 2, 1) := dk_28 (dk_at dksX3_line_1 21 rfl rfl)
theorem dX3_line_44 : decode cX3_line 44 = .ok (.ifCond .lt 7, 3) := dk_155 0 7 (dk_at dksX3_line_2 0 rfl rfl)
theorem dX3_line_47 : decode cX3_line 47 = .ok (.iload_n 2, 1) := dk_28 (dk_at dksX3_line_2 3 rfl rfl)
theorem dX3_line_48 : decode cX3_line 48 = .ok (.goto 23, 3) := dk_167 0 23 (dk_at dksX3_line_2 4 rfl rfl)
theorem dX3_line_51 : decode cX3_line 51 = .ok (.aload_n 0, 1) := dk_42 (dk_at dksX3_line_2 7 rfl rfl)
theorem dX3_line_52 : decode cX3_line 52 = .ok (.getfield 48, 3) := dk_180 0 48 (dk_at dksX3_line_2 8 rfl rfl)
theorem dX3_line_55 : decode cX3_line 55 = .ok (.invokeinterface 235 1, 5) := by decide +kernel
theorem dX3_line_60 : decode cX3_line 60 = .ok (.aload_n 0, 1) := dk_42 (dk_at dksX3_line_2 16 rfl rfl)
theorem dX3_line_61 : decode cX3_line 61 = .ok (.getfield 61, 3) := dk_180 0 61 (dk_at dksX3_line_2 17 rfl rfl)
theorem dX3_line_64 : decode cX3_line 64 = .ok (.aload_n 1, 1) := dk_43 (dk_at dksX3_line_2 20 rfl rfl)
theorem dX3_line_65 : decode cX3_line 65 = .ok (.invokeinterface 234 2, 5) := by decide +kernel
theorem dX3_line_70 : decode cX3_line 70 = .ok (.iadd, 1) := dk_96 (dk_at dksX3_line_3 5 rfl rfl)
theorem dX3_line_71 : decode cX3_line 71 = .ok (.tableswitch 174 0 11 #[61, 61, 61, 61, 69, 102, 135, 142, 149, 149, 160, 167], 61) := by decide +kernel
theorem dX3_line_132 : decode cX3_line 132 = .ok (.aload_n 0, 1) := dk_42 (dk_at dksX3_line_5 0 rfl rfl)
theorem dX3_line_133 : decode cX3_line 133 = .ok (.iload_n 2, 1) := dk_28 (dk_at dksX3_line_5 1 rfl rfl)
theorem dX3_line_134 : decode cX3_line 134 = .ok (.invokevirtual 236, 3) := dk_182 0 236 (dk_at dksX3_line_5 2 rfl rfl)
theorem dX3_line_137 : decode cX3_line 137 = .ok (.goto 112, 3) := dk_167 0 112 (dk_at dksX3_line_5 5 rfl rfl)
theorem dX3_line_140 : decode cX3_line 140 = .ok (.aload_n 0, 1) := dk_42 (dk_at dksX3_line_5 8 rfl rfl)
theorem dX3_line_141 : decode cX3_line 141 = .ok (.aload_n 0, 1) := dk_42 (dk_at dksX3_line_5 9 rfl rfl)
theorem dX3_line_142 : decode cX3_line 142 = .ok (.getfield 67, 3) := dk_180 0 67 (dk_at dksX3_line_5 10 rfl rfl)
theorem dX3_line_145 : decode cX3_line 145 = .ok (.invokevirtual 173, 3) := dk_182 0 173 (dk_at dksX3_line_5 13 rfl rfl)
theorem dX3_line_148 : decode cX3_line 148 = .ok (.bipush 16, 2) := dk_16 16 (dk_at dksX3_line_5 16 rfl rfl)
theorem dX3_line_150 : decode cX3_line 150 = .ok (.if_icmp .ge 7, 3) := dk_162 0 7 (dk_at dksX3_line_5 18 rfl rfl)
theorem dX3_line_153 : decode cX3_line 153 = .ok (.iconst 1, 1) := dk_4 (dk_at dksX3_line_5 21 rfl rfl)
theorem dX3_line_154 : decode cX3_line 154 = .ok (.goto 4, 3) := dk_167 0 4 (dk_at dksX3_line_6 0 rfl rfl)
theorem dX3_line_157 : decode cX3_line 157 = .ok (.iconst 0, 1) := dk_3 (dk_at dksX3_line_6 3 rfl rfl)
theorem dX3_line_158 : decode cX3_line 158 = .ok (.iconst 4, 1) := dk_7 (dk_at dksX3_line_6 4 rfl rfl)
theorem dX3_line_159 : decode cX3_line 159 = .ok (.invokevirtual 118, 3) := dk_182 0 118 (dk_at dksX3_line_6 5 rfl rfl)
theorem dX3_line_162 : decode cX3_line 162 = .ok (.aload_n 0, 1) := dk_42 (dk_at dksX3_line_6 8 rfl rfl)
theorem dX3_line_163 : decode cX3_line 163 = .ok (.aload_n 0, 1) := dk_42 (dk_at dksX3_line_6 9 rfl rfl)
theorem dX3_line_164 : decode cX3_line 164 = .ok (.getfield 67, 3) := dk_180 0 67 (dk_at dksX3_line_6 10 rfl rfl)
theorem dX3_line_167 : decode cX3_line 167 = .ok (.invokevirtual 175, 3) := dk_182 0 175 (dk_at dksX3_line_6 13 rfl rfl)
theorem dX3_line_170 : decode cX3_line 170 = .ok (.goto 79, 3) := dk_167 0 79 (dk_at dksX3_line_6 16 rfl rfl)
theorem dX3_line_173 : decode cX3_line 173 = .ok (.aload_n 0, 1) := dk_42 (dk_at dksX3_line_6 19 rfl rfl)
theorem dX3_line_174 : decode cX3_line 174 = .ok (.aload_n 0, 1) := dk_42 (dk_at dksX3_line_6 20 rfl rfl)
theorem dX3_line_175 : decode cX3_line 175 = .ok (.getfield 71, 3) := dk_180 0 71 (dk_at dksX3_line_6 21 rfl rfl)
theorem dX3_line_178 : decode cX3_line 178 = .ok (.invokevirtual 173, 3) := dk_182 0 173 (dk_at dksX3_line_7 0 rfl rfl)
theorem dX3_line_181 : decode cX3_line 181 = .ok (.bipush 6, 2) := dk_16 6 (dk_at dksX3_line_7 3 rfl rfl)
theorem dX3_line_183 : decode cX3_line 183 = .ok (.if_icmp .ge 7, 3) := dk_162 0 7 (dk_at dksX3_line_7 5 rfl rfl)
theorem dX3_line_186 : decode cX3_line 186 = .ok (.iconst 1, 1) := dk_4 (dk_at dksX3_line_7 8 rfl rfl)
theorem dX3_line_187 : decode cX3_line 187 = .ok (.goto 4, 3) := dk_167 0 4 (dk_at dksX3_line_7 9 rfl rfl)
theorem dX3_line_190 : decode cX3_line 190 = .ok (.iconst 0, 1) := dk_3 (dk_at dksX3_line_7 12 rfl rfl)
theorem dX3_line_191 : decode cX3_line 191 = .ok (.iconst 4, 1) := dk_7 (dk_at dksX3_line_7 13 rfl rfl)
theorem dX3_line_192 : decode cX3_line 192 = .ok (.invokevirtual 118, 3) := dk_182 0 118 (dk_at dksX3_line_7 14 rfl rfl)
theorem dX3_line_195 : decode cX3_line 195 = .ok (.aload_n 0, 1) := dk_42 (dk_at dksX3_line_7 17 rfl rfl)
theorem dX3_line_196 : decode cX3_line 196 = .ok (.aload_n 0, 1) := dk_42 (dk_at dksX3_line_7 18 rfl rfl)
theorem dX3_line_197 : decode cX3_line 197 = .ok (.getfield 71, 3) := dk_180 0 71 (dk_at dksX3_line_7 19 rfl rfl)
theorem dX3_line_200 : decode cX3_line 200 = .ok (.invokevirtual 175, 3) := dk_182 0 175 (dk_at dksX3_line_8 0 rfl rfl)
theorem dX3_line_203 : decode cX3_line 203 = .ok (.goto 46, 3) := dk_167 0 46 (dk_at dksX3_line_8 3 rfl rfl)
theorem dX3_line_206 : decode cX3_line 206 = .ok (.aload_n 0, 1) := dk_42 (dk_at dksX3_line_8 6 rfl rfl)
theorem dX3_line_207 : decode cX3_line 207 = .ok (.invokevirtual 240, 3) := dk_182 0 240 (dk_at dksX3_line_8 7 rfl rfl)
theorem dX3_line_210 : decode cX3_line 210 = .ok (.goto 39, 3) := dk_167 0 39 (dk_at dksX3_line_8 10 rfl rfl)
theorem dX3_line_213 : decode cX3_line 213 = .ok (.aload_n 0, 1) := dk_42 (dk_at dksX3_line_8 13 rfl rfl)
theorem dX3_line_214 : decode cX3_line 214 = .ok (.invokevirtual 243, 3) := dk_182 0 243 (dk_at dksX3_line_8 14 rfl rfl)
theorem dX3_line_217 : decode cX3_line 217 = .ok (.goto 32, 3) := dk_167 0 32 (dk_at dksX3_line_8 17 rfl rfl)
theorem dX3_line_220 : decode cX3_line 220 = .ok (.aload_n 0, 1) := dk_42 (dk_at dksX3_line_8 20 rfl rfl)
theorem dX3_line_221 : decode cX3_line 221 = .ok (.iload_n 2, 1) := dk_28 (dk_at dksX3_line_8 21 rfl rfl)
theorem dX3_line_222 : decode cX3_line 222 = .ok (.bipush 8, 2) := dk_16 8 (dk_at dksX3_line_8 22 rfl rfl)
theorem dX3_line_224 : decode cX3_line 224 = .ok (.isub, 1) := dk_100 (dk_at dksX3_line_9 0 rfl rfl)
theorem dX3_line_225 : decode cX3_line 225 = .ok (.invokevirtual 246, 3) := dk_182 0 246 (dk_at dksX3_line_9 1 rfl rfl)
theorem dX3_line_228 : decode cX3_line 228 = .ok (.goto 21, 3) := dk_167 0 21 (dk_at dksX3_line_9 4 rfl rfl)
theorem dX3_line_231 : decode cX3_line 231 = .ok (.aload_n 0, 1) := dk_42 (dk_at dksX3_line_9 7 rfl rfl)
theorem dX3_line_232 : decode cX3_line 232 = .ok (.invokevirtual 249, 3) := dk_182 0 249 (dk_at dksX3_line_9 8 rfl rfl)
theorem dX3_line_235 : decode cX3_line 235 = .ok (.goto 14, 3) := dk_167 0 14 (dk_at dksX3_line_9 11 rfl rfl)
theorem dX3_line_238 : decode cX3_line 238 = .ok (.aload_n 0, 1) := dk_42 (dk_at dksX3_line_9 14 rfl rfl)
theorem dX3_line_239 : decode cX3_line 239 = .ok (.invokevirtual 252, 3) := dk_182 0 252 (dk_at dksX3_line_9 15 rfl rfl)
theorem dX3_line_242 : decode cX3_line 242 = .ok (.goto 7, 3) := dk_167 0 7 (dk_at dksX3_line_9 18 rfl rfl)
theorem dX3_line_245 : decode cX3_line 245 = .ok (.aload_n 0, 1) := dk_42 (dk_at dksX3_line_9 21 rfl rfl)
theorem dX3_line_246 : decode cX3_line 246 = .ok (.invokevirtual 255, 3) := dk_182 0 255 (dk_at dksX3_line_10 0 rfl rfl)
theorem dX3_line_249 : decode cX3_line 249 = .ok (.aload_n 0, 1) := dk_42 (dk_at dksX3_line_10 3 rfl rfl)
theorem dX3_line_250 : decode cX3_line 250 = .ok (.aload_n 0, 1) := dk_42 (dk_at dksX3_line_10 4 rfl rfl)
theorem dX3_line_251 : decode cX3_line 251 = .ok (.invokevirtual 151, 3) := dk_182 0 151 (dk_at dksX3_line_10 5 rfl rfl)
theorem dX3_line_254 : decode cX3_line 254 = .ok (.iconst 1, 1) := dk_4 (dk_at dksX3_line_10 8 rfl rfl)
theorem dX3_line_255 : decode cX3_line 255 = .ok (.invokevirtual 118, 3) := dk_182 0 118 (dk_at dksX3_line_10 9 rfl rfl)
theorem dX3_line_258 : decode cX3_line 258 = .ok (.aload_n 0, 1) := dk_42 (dk_at dksX3_line_10 12 rfl rfl)
theorem dX3_line_259 : decode cX3_line 259 = .ok (.dup, 1) := dk_89 (dk_at dksX3_line_10 13 rfl rfl)
theorem dX3_line_260 : decode cX3_line 260 = .ok (.getfield 101, 3) := dk_180 0 101 (dk_at dksX3_line_10 14 rfl rfl)
theorem dX3_line_263 : decode cX3_line 263 = .ok (.iconst 1, 1) := dk_4 (dk_at dksX3_line_10 17 rfl rfl)
theorem dX3_line_264 : decode cX3_line 264 = .ok (.iadd, 1) := dk_96 (dk_at dksX3_line_10 18 rfl rfl)
theorem dX3_line_265 : decode cX3_line 265 = .ok (.putfield 101, 3) := dk_181 0 101 (dk_at dksX3_line_10 19 rfl rfl)
theorem dX3_line_268 : decode cX3_line 268 = .ok (.aload_n 0, 1) := dk_42 (dk_at dksX3_line_10 22 rfl rfl)
theorem dX3_line_269 : decode cX3_line 269 = .ok (.dup, 1) := dk_89 (dk_at dksX3_line_10 23 rfl rfl)
theorem dX3_line_270 : decode cX3_line 270 = .ok (.getfield 258, 3) := dk_180 1 2 (dk_at dksX3_line_11 0 rfl rfl)
theorem dX3_line_273 : decode cX3_line 273 = .ok (.iconst 1, 1) := dk_4 (dk_at dksX3_line_11 3 rfl rfl)
theorem dX3_line_274 : decode cX3_line 274 = .ok (.iadd, 1) := dk_96 (dk_at dksX3_line_11 4 rfl rfl)
theorem dX3_line_275 : decode cX3_line 275 = .ok (.putfield 258, 3) := dk_181 1 2 (dk_at dksX3_line_11 5 rfl rfl)
theorem dX3_line_278 : decode cX3_line 278 = .ok (.return_, 1) := dk_177 (dk_at dksX3_line_11 8 rfl rfl)
abbrev cX3_word : ByteArray := prog_8_method_8_code
def yX3_word : MethodName := ⟨RX3, "word", "()Ljava/lang/String;"⟩
def dkwX3_word_4 : List UInt8 := [167, 255, 224, 44, 182, 0, 129, 176]
abbrev dktX3_word_4 : List UInt8 := dkwX3_word_4 ++ []
def dkwX3_word_3 : List UInt8 := [44, 42, 42, 180, 0, 101, 182, 0, 85, 146, 182, 0, 125, 87, 42, 89, 180, 0, 101, 4, 96, 181, 0, 101]
abbrev dktX3_word_3 : List UInt8 := dkwX3_word_3 ++ dktX3_word_4
def dkwX3_word_2 : List UInt8 := [167, 0, 4, 3, 4, 182, 0, 118, 187, 0, 122, 89, 183, 0, 124, 77, 42, 180, 0, 101, 27, 162, 0, 30]
abbrev dktX3_word_2 : List UInt8 := dkwX3_word_2 ++ dktX3_word_3
def dkwX3_word_1 : List UInt8 := [27, 42, 180, 0, 101, 100, 4, 16, 6, 184, 0, 89, 153, 0, 14, 42, 182, 0, 114, 153, 0, 7, 4]
abbrev dktX3_word_1 : List UInt8 := dkwX3_word_1 ++ dktX3_word_2
def dkwX3_word_0 : List UInt8 := [42, 182, 0, 111, 42, 180, 0, 101, 60, 42, 27, 182, 0, 104, 153, 0, 9, 132, 1, 1, 167, 255, 245, 42]
abbrev dktX3_word_0 : List UInt8 := dkwX3_word_0 ++ dktX3_word_1
theorem dksX3_word_0 : cX3_word.data.toList.drop 0 = dktX3_word_0 := by decide +kernel
theorem dksX3_word_1 : cX3_word.data.toList.drop 24 = dktX3_word_1 := dk_seg dksX3_word_0 24 rfl rfl
theorem dksX3_word_2 : cX3_word.data.toList.drop 47 = dktX3_word_2 := dk_seg dksX3_word_1 23 rfl rfl
theorem dksX3_word_3 : cX3_word.data.toList.drop 71 = dktX3_word_3 := dk_seg dksX3_word_2 24 rfl rfl
theorem dksX3_word_4 : cX3_word.data.toList.drop 95 = dktX3_word_4 := dk_seg dksX3_word_3 24 rfl rfl
theorem dX3_word_0 : decode cX3_word 0 = .ok (.aload_n 0, 1) := dk_42 (dk_at dksX3_word_0 0 rfl rfl)
theorem dX3_word_1 : decode cX3_word 1 = .ok (.invokevirtual 111, 3) := dk_182 0 111 (dk_at dksX3_word_0 1 rfl rfl)
theorem dX3_word_4 : decode cX3_word 4 = .ok (.aload_n 0, 1) := dk_42 (dk_at dksX3_word_0 4 rfl rfl)
theorem dX3_word_5 : decode cX3_word 5 = .ok (.getfield 101, 3) := dk_180 0 101 (dk_at dksX3_word_0 5 rfl rfl)
theorem dX3_word_8 : decode cX3_word 8 = .ok (.istore_n 1, 1) := dk_60 (dk_at dksX3_word_0 8 rfl rfl)
theorem dX3_word_9 : decode cX3_word 9 = .ok (.aload_n 0, 1) := dk_42 (dk_at dksX3_word_0 9 rfl rfl)
theorem dX3_word_10 : decode cX3_word 10 = .ok (.iload_n 1, 1) := dk_27 (dk_at dksX3_word_0 10 rfl rfl)
theorem dX3_word_11 : decode cX3_word 11 = .ok (.invokevirtual 104, 3) := dk_182 0 104 (dk_at dksX3_word_0 11 rfl rfl)
theorem dX3_word_14 : decode cX3_word 14 = .ok (.ifCond .eq 9, 3) := dk_153 0 9 (dk_at dksX3_word_0 14 rfl rfl)
theorem dX3_word_17 : decode cX3_word 17 = .ok (.iinc 1 1, 3) := dk_132 1 1 (dk_at dksX3_word_0 17 rfl rfl)
theorem dX3_word_20 : decode cX3_word 20 = .ok (.goto (-11), 3) := dk_167 255 245 (dk_at dksX3_word_0 20 rfl rfl)
theorem dX3_word_23 : decode cX3_word 23 = .ok (.aload_n 0, 1) := dk_42 (dk_at dksX3_word_0 23 rfl rfl)
theorem dX3_word_24 : decode cX3_word 24 = .ok (.iload_n 1, 1) := dk_27 (dk_at dksX3_word_1 0 rfl rfl)
theorem dX3_word_25 : decode cX3_word 25 = .ok (.aload_n 0, 1) := dk_42 (dk_at dksX3_word_1 1 rfl rfl)
theorem dX3_word_26 : decode cX3_word 26 = .ok (.getfield 101, 3) := dk_180 0 101 (dk_at dksX3_word_1 2 rfl rfl)
theorem dX3_word_29 : decode cX3_word 29 = .ok (.isub, 1) := dk_100 (dk_at dksX3_word_1 5 rfl rfl)
theorem dX3_word_30 : decode cX3_word 30 = .ok (.iconst 1, 1) := dk_4 (dk_at dksX3_word_1 6 rfl rfl)
theorem dX3_word_31 : decode cX3_word 31 = .ok (.bipush 6, 2) := dk_16 6 (dk_at dksX3_word_1 7 rfl rfl)
theorem dX3_word_33 : decode cX3_word 33 = .ok (.invokestatic 89, 3) := dk_184 0 89 (dk_at dksX3_word_1 9 rfl rfl)
theorem dX3_word_36 : decode cX3_word 36 = .ok (.ifCond .eq 14, 3) := dk_153 0 14 (dk_at dksX3_word_1 12 rfl rfl)
theorem dX3_word_39 : decode cX3_word 39 = .ok (.aload_n 0, 1) := dk_42 (dk_at dksX3_word_1 15 rfl rfl)
theorem dX3_word_40 : decode cX3_word 40 = .ok (.invokevirtual 114, 3) := dk_182 0 114 (dk_at dksX3_word_1 16 rfl rfl)
theorem dX3_word_43 : decode cX3_word 43 = .ok (.ifCond .eq 7, 3) := dk_153 0 7 (dk_at dksX3_word_1 19 rfl rfl)
theorem dX3_word_46 : decode cX3_word 46 = .ok (.iconst 1, 1) := dk_4 (dk_at dksX3_word_1 22 rfl rfl)
theorem dX3_word_47 : decode cX3_word 47 = .ok (.goto 4, 3) := dk_167 0 4 (dk_at dksX3_word_2 0 rfl rfl)
theorem dX3_word_50 : decode cX3_word 50 = .ok (.iconst 0, 1) := dk_3 (dk_at dksX3_word_2 3 rfl rfl)
theorem dX3_word_51 : decode cX3_word 51 = .ok (.iconst 1, 1) := dk_4 (dk_at dksX3_word_2 4 rfl rfl)
theorem dX3_word_52 : decode cX3_word 52 = .ok (.invokevirtual 118, 3) := dk_182 0 118 (dk_at dksX3_word_2 5 rfl rfl)
theorem dX3_word_55 : decode cX3_word 55 = .ok (.new 122, 3) := dk_187 0 122 (dk_at dksX3_word_2 8 rfl rfl)
theorem dX3_word_58 : decode cX3_word 58 = .ok (.dup, 1) := dk_89 (dk_at dksX3_word_2 11 rfl rfl)
theorem dX3_word_59 : decode cX3_word 59 = .ok (.invokespecial 124, 3) := dk_183 0 124 (dk_at dksX3_word_2 12 rfl rfl)
theorem dX3_word_62 : decode cX3_word 62 = .ok (.astore_n 2, 1) := dk_77 (dk_at dksX3_word_2 15 rfl rfl)
theorem dX3_word_63 : decode cX3_word 63 = .ok (.aload_n 0, 1) := dk_42 (dk_at dksX3_word_2 16 rfl rfl)
theorem dX3_word_64 : decode cX3_word 64 = .ok (.getfield 101, 3) := dk_180 0 101 (dk_at dksX3_word_2 17 rfl rfl)
theorem dX3_word_67 : decode cX3_word 67 = .ok (.iload_n 1, 1) := dk_27 (dk_at dksX3_word_2 20 rfl rfl)
theorem dX3_word_68 : decode cX3_word 68 = .ok (.if_icmp .ge 30, 3) := dk_162 0 30 (dk_at dksX3_word_2 21 rfl rfl)
theorem dX3_word_71 : decode cX3_word 71 = .ok (.aload_n 2, 1) := dk_44 (dk_at dksX3_word_3 0 rfl rfl)
theorem dX3_word_72 : decode cX3_word 72 = .ok (.aload_n 0, 1) := dk_42 (dk_at dksX3_word_3 1 rfl rfl)
theorem dX3_word_73 : decode cX3_word 73 = .ok (.aload_n 0, 1) := dk_42 (dk_at dksX3_word_3 2 rfl rfl)
theorem dX3_word_74 : decode cX3_word 74 = .ok (.getfield 101, 3) := dk_180 0 101 (dk_at dksX3_word_3 3 rfl rfl)
theorem dX3_word_77 : decode cX3_word 77 = .ok (.invokevirtual 85, 3) := dk_182 0 85 (dk_at dksX3_word_3 6 rfl rfl)
theorem dX3_word_80 : decode cX3_word 80 = .ok (.i2c, 1) := dk_146 (dk_at dksX3_word_3 9 rfl rfl)
theorem dX3_word_81 : decode cX3_word 81 = .ok (.invokevirtual 125, 3) := dk_182 0 125 (dk_at dksX3_word_3 10 rfl rfl)
theorem dX3_word_84 : decode cX3_word 84 = .ok (.pop, 1) := dk_87 (dk_at dksX3_word_3 13 rfl rfl)
theorem dX3_word_85 : decode cX3_word 85 = .ok (.aload_n 0, 1) := dk_42 (dk_at dksX3_word_3 14 rfl rfl)
theorem dX3_word_86 : decode cX3_word 86 = .ok (.dup, 1) := dk_89 (dk_at dksX3_word_3 15 rfl rfl)
theorem dX3_word_87 : decode cX3_word 87 = .ok (.getfield 101, 3) := dk_180 0 101 (dk_at dksX3_word_3 16 rfl rfl)
theorem dX3_word_90 : decode cX3_word 90 = .ok (.iconst 1, 1) := dk_4 (dk_at dksX3_word_3 19 rfl rfl)
theorem dX3_word_91 : decode cX3_word 91 = .ok (.iadd, 1) := dk_96 (dk_at dksX3_word_3 20 rfl rfl)
theorem dX3_word_92 : decode cX3_word 92 = .ok (.putfield 101, 3) := dk_181 0 101 (dk_at dksX3_word_3 21 rfl rfl)
theorem dX3_word_95 : decode cX3_word 95 = .ok (.goto (-32), 3) := dk_167 255 224 (dk_at dksX3_word_4 0 rfl rfl)
theorem dX3_word_98 : decode cX3_word 98 = .ok (.aload_n 2, 1) := dk_44 (dk_at dksX3_word_4 3 rfl rfl)
theorem dX3_word_99 : decode cX3_word 99 = .ok (.invokevirtual 129, 3) := dk_182 0 129 (dk_at dksX3_word_4 4 rfl rfl)
theorem dX3_word_102 : decode cX3_word 102 = .ok (.areturn, 1) := dk_176 (dk_at dksX3_word_4 7 rfl rfl)
abbrev cX3_isLetter : ByteArray := prog_8_method_3_code
def yX3_isLetter : MethodName := ⟨RX3, "isLetter", "(I)Z"⟩
def dkwX3_isLetter_0 : List UInt8 := [42, 27, 182, 0, 85, 16, 97, 16, 122, 184, 0, 89, 172]
abbrev dktX3_isLetter_0 : List UInt8 := dkwX3_isLetter_0 ++ []
theorem dksX3_isLetter_0 : cX3_isLetter.data.toList.drop 0 = dktX3_isLetter_0 := by decide +kernel
theorem dX3_isLetter_0 : decode cX3_isLetter 0 = .ok (.aload_n 0, 1) := dk_42 (dk_at dksX3_isLetter_0 0 rfl rfl)
theorem dX3_isLetter_1 : decode cX3_isLetter 1 = .ok (.iload_n 1, 1) := dk_27 (dk_at dksX3_isLetter_0 1 rfl rfl)
theorem dX3_isLetter_2 : decode cX3_isLetter 2 = .ok (.invokevirtual 85, 3) := dk_182 0 85 (dk_at dksX3_isLetter_0 2 rfl rfl)
theorem dX3_isLetter_5 : decode cX3_isLetter 5 = .ok (.bipush 97, 2) := dk_16 97 (dk_at dksX3_isLetter_0 5 rfl rfl)
theorem dX3_isLetter_7 : decode cX3_isLetter 7 = .ok (.bipush 122, 2) := dk_16 122 (dk_at dksX3_isLetter_0 7 rfl rfl)
theorem dX3_isLetter_9 : decode cX3_isLetter 9 = .ok (.invokestatic 89, 3) := dk_184 0 89 (dk_at dksX3_isLetter_0 9 rfl rfl)
theorem dX3_isLetter_12 : decode cX3_isLetter 12 = .ok (.ireturn, 1) := dk_172 (dk_at dksX3_isLetter_0 12 rfl rfl)
abbrev cX3_isParted : ByteArray := prog_8_method_7_code
def yX3_isParted : MethodName := ⟨RX3, "isParted", "()Z"⟩
def dkwX3_isParted_1 : List UInt8 := [180, 0, 95, 4, 100, 182, 0, 108, 154, 0, 7, 4, 167, 0, 4, 3, 172]
abbrev dktX3_isParted_1 : List UInt8 := dkwX3_isParted_1 ++ []
def dkwX3_isParted_0 : List UInt8 := [42, 180, 0, 95, 153, 0, 29, 42, 42, 180, 0, 95, 4, 100, 182, 0, 104, 154, 0, 20, 42, 42]
abbrev dktX3_isParted_0 : List UInt8 := dkwX3_isParted_0 ++ dktX3_isParted_1
theorem dksX3_isParted_0 : cX3_isParted.data.toList.drop 0 = dktX3_isParted_0 := by decide +kernel
theorem dksX3_isParted_1 : cX3_isParted.data.toList.drop 22 = dktX3_isParted_1 := dk_seg dksX3_isParted_0 22 rfl rfl
theorem dX3_isParted_0 : decode cX3_isParted 0 = .ok (.aload_n 0, 1) := dk_42 (dk_at dksX3_isParted_0 0 rfl rfl)
theorem dX3_isParted_1 : decode cX3_isParted 1 = .ok (.getfield 95, 3) := dk_180 0 95 (dk_at dksX3_isParted_0 1 rfl rfl)
theorem dX3_isParted_4 : decode cX3_isParted 4 = .ok (.ifCond .eq 29, 3) := dk_153 0 29 (dk_at dksX3_isParted_0 4 rfl rfl)
theorem dX3_isParted_7 : decode cX3_isParted 7 = .ok (.aload_n 0, 1) := dk_42 (dk_at dksX3_isParted_0 7 rfl rfl)
theorem dX3_isParted_8 : decode cX3_isParted 8 = .ok (.aload_n 0, 1) := dk_42 (dk_at dksX3_isParted_0 8 rfl rfl)
theorem dX3_isParted_9 : decode cX3_isParted 9 = .ok (.getfield 95, 3) := dk_180 0 95 (dk_at dksX3_isParted_0 9 rfl rfl)
theorem dX3_isParted_12 : decode cX3_isParted 12 = .ok (.iconst 1, 1) := dk_4 (dk_at dksX3_isParted_0 12 rfl rfl)
theorem dX3_isParted_13 : decode cX3_isParted 13 = .ok (.isub, 1) := dk_100 (dk_at dksX3_isParted_0 13 rfl rfl)
theorem dX3_isParted_14 : decode cX3_isParted 14 = .ok (.invokevirtual 104, 3) := dk_182 0 104 (dk_at dksX3_isParted_0 14 rfl rfl)
theorem dX3_isParted_17 : decode cX3_isParted 17 = .ok (.ifCond .ne 20, 3) := dk_154 0 20 (dk_at dksX3_isParted_0 17 rfl rfl)
theorem dX3_isParted_20 : decode cX3_isParted 20 = .ok (.aload_n 0, 1) := dk_42 (dk_at dksX3_isParted_0 20 rfl rfl)
theorem dX3_isParted_21 : decode cX3_isParted 21 = .ok (.aload_n 0, 1) := dk_42 (dk_at dksX3_isParted_0 21 rfl rfl)
theorem dX3_isParted_22 : decode cX3_isParted 22 = .ok (.getfield 95, 3) := dk_180 0 95 (dk_at dksX3_isParted_1 0 rfl rfl)
theorem dX3_isParted_25 : decode cX3_isParted 25 = .ok (.iconst 1, 1) := dk_4 (dk_at dksX3_isParted_1 3 rfl rfl)
theorem dX3_isParted_26 : decode cX3_isParted 26 = .ok (.isub, 1) := dk_100 (dk_at dksX3_isParted_1 4 rfl rfl)
theorem dX3_isParted_27 : decode cX3_isParted 27 = .ok (.invokevirtual 108, 3) := dk_182 0 108 (dk_at dksX3_isParted_1 5 rfl rfl)
theorem dX3_isParted_30 : decode cX3_isParted 30 = .ok (.ifCond .ne 7, 3) := dk_154 0 7 (dk_at dksX3_isParted_1 8 rfl rfl)
theorem dX3_isParted_33 : decode cX3_isParted 33 = .ok (.iconst 1, 1) := dk_4 (dk_at dksX3_isParted_1 11 rfl rfl)
theorem dX3_isParted_34 : decode cX3_isParted 34 = .ok (.goto 4, 3) := dk_167 0 4 (dk_at dksX3_isParted_1 12 rfl rfl)
theorem dX3_isParted_37 : decode cX3_isParted 37 = .ok (.iconst 0, 1) := dk_3 (dk_at dksX3_isParted_1 15 rfl rfl)
theorem dX3_isParted_38 : decode cX3_isParted 38 = .ok (.ireturn, 1) := dk_172 (dk_at dksX3_isParted_1 16 rfl rfl)
abbrev cX3_isDigit : ByteArray := prog_8_method_4_code
def yX3_isDigit : MethodName := ⟨RX3, "isDigit", "(I)Z"⟩
def dkwX3_isDigit_0 : List UInt8 := [42, 27, 182, 0, 85, 16, 48, 16, 57, 184, 0, 89, 172]
abbrev dktX3_isDigit_0 : List UInt8 := dkwX3_isDigit_0 ++ []
theorem dksX3_isDigit_0 : cX3_isDigit.data.toList.drop 0 = dktX3_isDigit_0 := by decide +kernel
theorem dX3_isDigit_0 : decode cX3_isDigit 0 = .ok (.aload_n 0, 1) := dk_42 (dk_at dksX3_isDigit_0 0 rfl rfl)
theorem dX3_isDigit_1 : decode cX3_isDigit 1 = .ok (.iload_n 1, 1) := dk_27 (dk_at dksX3_isDigit_0 1 rfl rfl)
theorem dX3_isDigit_2 : decode cX3_isDigit 2 = .ok (.invokevirtual 85, 3) := dk_182 0 85 (dk_at dksX3_isDigit_0 2 rfl rfl)
theorem dX3_isDigit_5 : decode cX3_isDigit 5 = .ok (.bipush 48, 2) := dk_16 48 (dk_at dksX3_isDigit_0 5 rfl rfl)
theorem dX3_isDigit_7 : decode cX3_isDigit 7 = .ok (.bipush 57, 2) := dk_16 57 (dk_at dksX3_isDigit_0 7 rfl rfl)
theorem dX3_isDigit_9 : decode cX3_isDigit 9 = .ok (.invokestatic 89, 3) := dk_184 0 89 (dk_at dksX3_isDigit_0 9 rfl rfl)
theorem dX3_isDigit_12 : decode cX3_isDigit 12 = .ok (.ireturn, 1) := dk_172 (dk_at dksX3_isDigit_0 12 rfl rfl)
abbrev cX3_must : ByteArray := prog_8_method_5_code
def yX3_must : MethodName := ⟨RX3, "must", "(ZI)V"⟩
def dkwX3_must_0 : List UInt8 := [27, 154, 0, 16, 187, 0, 93, 89, 28, 42, 180, 0, 95, 183, 0, 98, 191, 177]
abbrev dktX3_must_0 : List UInt8 := dkwX3_must_0 ++ []
theorem dksX3_must_0 : cX3_must.data.toList.drop 0 = dktX3_must_0 := by decide +kernel
theorem dX3_must_0 : decode cX3_must 0 = .ok (.iload_n 1, 1) := dk_27 (dk_at dksX3_must_0 0 rfl rfl)
theorem dX3_must_1 : decode cX3_must 1 = .ok (.ifCond .ne 16, 3) := dk_154 0 16 (dk_at dksX3_must_0 1 rfl rfl)
theorem dX3_must_4 : decode cX3_must 4 = .ok (.new 93, 3) := dk_187 0 93 (dk_at dksX3_must_0 4 rfl rfl)
theorem dX3_must_7 : decode cX3_must 7 = .ok (.dup, 1) := dk_89 (dk_at dksX3_must_0 7 rfl rfl)
theorem dX3_must_8 : decode cX3_must 8 = .ok (.iload_n 2, 1) := dk_28 (dk_at dksX3_must_0 8 rfl rfl)
theorem dX3_must_9 : decode cX3_must 9 = .ok (.aload_n 0, 1) := dk_42 (dk_at dksX3_must_0 9 rfl rfl)
theorem dX3_must_10 : decode cX3_must 10 = .ok (.getfield 95, 3) := dk_180 0 95 (dk_at dksX3_must_0 10 rfl rfl)
theorem dX3_must_13 : decode cX3_must 13 = .ok (.invokespecial 98, 3) := dk_183 0 98 (dk_at dksX3_must_0 13 rfl rfl)
theorem dX3_must_16 : decode cX3_must 16 = .ok (.athrow, 1) := dk_191 (dk_at dksX3_must_0 16 rfl rfl)
theorem dX3_must_17 : decode cX3_must 17 = .ok (.return_, 1) := dk_177 (dk_at dksX3_must_0 17 rfl rfl)
abbrev cX3_limit : ByteArray := prog_8_method_15_code
def yX3_limit : MethodName := ⟨RX3, "limit", "(I)V"⟩
def dkwX3_limit_1 : List UInt8 := [180, 0, 162, 4, 27, 120, 128, 181, 0, 162, 42, 180, 0, 18, 180, 0, 165, 27, 42, 182, 0, 169, 79, 177]
abbrev dktX3_limit_1 : List UInt8 := dkwX3_limit_1 ++ []
def dkwX3_limit_0 : List UInt8 := [42, 42, 180, 0, 162, 27, 184, 0, 158, 154, 0, 7, 4, 167, 0, 4, 3, 5, 182, 0, 118, 42, 89]
abbrev dktX3_limit_0 : List UInt8 := dkwX3_limit_0 ++ dktX3_limit_1
theorem dksX3_limit_0 : cX3_limit.data.toList.drop 0 = dktX3_limit_0 := by decide +kernel
theorem dksX3_limit_1 : cX3_limit.data.toList.drop 23 = dktX3_limit_1 := dk_seg dksX3_limit_0 23 rfl rfl
theorem dX3_limit_0 : decode cX3_limit 0 = .ok (.aload_n 0, 1) := dk_42 (dk_at dksX3_limit_0 0 rfl rfl)
theorem dX3_limit_1 : decode cX3_limit 1 = .ok (.aload_n 0, 1) := dk_42 (dk_at dksX3_limit_0 1 rfl rfl)
theorem dX3_limit_2 : decode cX3_limit 2 = .ok (.getfield 162, 3) := dk_180 0 162 (dk_at dksX3_limit_0 2 rfl rfl)
theorem dX3_limit_5 : decode cX3_limit 5 = .ok (.iload_n 1, 1) := dk_27 (dk_at dksX3_limit_0 5 rfl rfl)
theorem dX3_limit_6 : decode cX3_limit 6 = .ok (.invokestatic 158, 3) := dk_184 0 158 (dk_at dksX3_limit_0 6 rfl rfl)
theorem dX3_limit_9 : decode cX3_limit 9 = .ok (.ifCond .ne 7, 3) := dk_154 0 7 (dk_at dksX3_limit_0 9 rfl rfl)
theorem dX3_limit_12 : decode cX3_limit 12 = .ok (.iconst 1, 1) := dk_4 (dk_at dksX3_limit_0 12 rfl rfl)
theorem dX3_limit_13 : decode cX3_limit 13 = .ok (.goto 4, 3) := dk_167 0 4 (dk_at dksX3_limit_0 13 rfl rfl)
theorem dX3_limit_16 : decode cX3_limit 16 = .ok (.iconst 0, 1) := dk_3 (dk_at dksX3_limit_0 16 rfl rfl)
theorem dX3_limit_17 : decode cX3_limit 17 = .ok (.iconst 2, 1) := dk_5 (dk_at dksX3_limit_0 17 rfl rfl)
theorem dX3_limit_18 : decode cX3_limit 18 = .ok (.invokevirtual 118, 3) := dk_182 0 118 (dk_at dksX3_limit_0 18 rfl rfl)
theorem dX3_limit_21 : decode cX3_limit 21 = .ok (.aload_n 0, 1) := dk_42 (dk_at dksX3_limit_0 21 rfl rfl)
theorem dX3_limit_22 : decode cX3_limit 22 = .ok (.dup, 1) := dk_89 (dk_at dksX3_limit_0 22 rfl rfl)
theorem dX3_limit_23 : decode cX3_limit 23 = .ok (.getfield 162, 3) := dk_180 0 162 (dk_at dksX3_limit_1 0 rfl rfl)
theorem dX3_limit_26 : decode cX3_limit 26 = .ok (.iconst 1, 1) := dk_4 (dk_at dksX3_limit_1 3 rfl rfl)
theorem dX3_limit_27 : decode cX3_limit 27 = .ok (.iload_n 1, 1) := dk_27 (dk_at dksX3_limit_1 4 rfl rfl)
theorem dX3_limit_28 : decode cX3_limit 28 = .ok (.ishl, 1) := dk_120 (dk_at dksX3_limit_1 5 rfl rfl)
theorem dX3_limit_29 : decode cX3_limit 29 = .ok (.ior, 1) := dk_128 (dk_at dksX3_limit_1 6 rfl rfl)
theorem dX3_limit_30 : decode cX3_limit 30 = .ok (.putfield 162, 3) := dk_181 0 162 (dk_at dksX3_limit_1 7 rfl rfl)
theorem dX3_limit_33 : decode cX3_limit 33 = .ok (.aload_n 0, 1) := dk_42 (dk_at dksX3_limit_1 10 rfl rfl)
theorem dX3_limit_34 : decode cX3_limit 34 = .ok (.getfield 18, 3) := dk_180 0 18 (dk_at dksX3_limit_1 11 rfl rfl)
theorem dX3_limit_37 : decode cX3_limit 37 = .ok (.getfield 165, 3) := dk_180 0 165 (dk_at dksX3_limit_1 14 rfl rfl)
theorem dX3_limit_40 : decode cX3_limit 40 = .ok (.iload_n 1, 1) := dk_27 (dk_at dksX3_limit_1 17 rfl rfl)
theorem dX3_limit_41 : decode cX3_limit 41 = .ok (.aload_n 0, 1) := dk_42 (dk_at dksX3_limit_1 18 rfl rfl)
theorem dX3_limit_42 : decode cX3_limit 42 = .ok (.invokevirtual 169, 3) := dk_182 0 169 (dk_at dksX3_limit_1 19 rfl rfl)
theorem dX3_limit_45 : decode cX3_limit 45 = .ok (.iastore, 1) := dk_79 (dk_at dksX3_limit_1 22 rfl rfl)
theorem dX3_limit_46 : decode cX3_limit 46 = .ok (.return_, 1) := dk_177 (dk_at dksX3_limit_1 23 rfl rfl)
abbrev cX3_number : ByteArray := prog_8_method_9_code
def yX3_number : MethodName := ⟨RX3, "number", "()I"⟩
def dkwX3_number_3 : List UInt8 := [182, 0, 114, 153, 0, 7, 4, 167, 0, 4, 3, 4, 182, 0, 118, 42, 27, 181, 0, 101, 28, 172]
abbrev dktX3_number_3 : List UInt8 := dkwX3_number_3 ++ []
def dkwX3_number_2 : List UInt8 := [132, 1, 1, 167, 255, 217, 42, 27, 42, 180, 0, 101, 100, 4, 7, 184, 0, 89, 153, 0, 14, 42]
abbrev dktX3_number_2 : List UInt8 := dkwX3_number_2 ++ dktX3_number_3
def dkwX3_number_1 : List UInt8 := [100, 7, 162, 0, 19, 16, 10, 28, 104, 42, 27, 182, 0, 85, 96, 16, 48, 100, 167, 0, 4, 28, 61]
abbrev dktX3_number_1 : List UInt8 := dkwX3_number_1 ++ dktX3_number_2
def dkwX3_number_0 : List UInt8 := [42, 182, 0, 111, 42, 180, 0, 101, 60, 3, 61, 42, 27, 182, 0, 108, 153, 0, 37, 27, 42, 180, 0, 101]
abbrev dktX3_number_0 : List UInt8 := dkwX3_number_0 ++ dktX3_number_1
theorem dksX3_number_0 : cX3_number.data.toList.drop 0 = dktX3_number_0 := by decide +kernel
theorem dksX3_number_1 : cX3_number.data.toList.drop 24 = dktX3_number_1 := dk_seg dksX3_number_0 24 rfl rfl
theorem dksX3_number_2 : cX3_number.data.toList.drop 47 = dktX3_number_2 := dk_seg dksX3_number_1 23 rfl rfl
theorem dksX3_number_3 : cX3_number.data.toList.drop 69 = dktX3_number_3 := dk_seg dksX3_number_2 22 rfl rfl
theorem dX3_number_0 : decode cX3_number 0 = .ok (.aload_n 0, 1) := dk_42 (dk_at dksX3_number_0 0 rfl rfl)
theorem dX3_number_1 : decode cX3_number 1 = .ok (.invokevirtual 111, 3) := dk_182 0 111 (dk_at dksX3_number_0 1 rfl rfl)
theorem dX3_number_4 : decode cX3_number 4 = .ok (.aload_n 0, 1) := dk_42 (dk_at dksX3_number_0 4 rfl rfl)
theorem dX3_number_5 : decode cX3_number 5 = .ok (.getfield 101, 3) := dk_180 0 101 (dk_at dksX3_number_0 5 rfl rfl)
theorem dX3_number_8 : decode cX3_number 8 = .ok (.istore_n 1, 1) := dk_60 (dk_at dksX3_number_0 8 rfl rfl)
theorem dX3_number_9 : decode cX3_number 9 = .ok (.iconst 0, 1) := dk_3 (dk_at dksX3_number_0 9 rfl rfl)
theorem dX3_number_10 : decode cX3_number 10 = .ok (.istore_n 2, 1) := dk_61 (dk_at dksX3_number_0 10 rfl rfl)
theorem dX3_number_11 : decode cX3_number 11 = .ok (.aload_n 0, 1) := dk_42 (dk_at dksX3_number_0 11 rfl rfl)
theorem dX3_number_12 : decode cX3_number 12 = .ok (.iload_n 1, 1) := dk_27 (dk_at dksX3_number_0 12 rfl rfl)
theorem dX3_number_13 : decode cX3_number 13 = .ok (.invokevirtual 108, 3) := dk_182 0 108 (dk_at dksX3_number_0 13 rfl rfl)
theorem dX3_number_16 : decode cX3_number 16 = .ok (.ifCond .eq 37, 3) := dk_153 0 37 (dk_at dksX3_number_0 16 rfl rfl)
theorem dX3_number_19 : decode cX3_number 19 = .ok (.iload_n 1, 1) := dk_27 (dk_at dksX3_number_0 19 rfl rfl)
theorem dX3_number_20 : decode cX3_number 20 = .ok (.aload_n 0, 1) := dk_42 (dk_at dksX3_number_0 20 rfl rfl)
theorem dX3_number_21 : decode cX3_number 21 = .ok (.getfield 101, 3) := dk_180 0 101 (dk_at dksX3_number_0 21 rfl rfl)
theorem dX3_number_24 : decode cX3_number 24 = .ok (.isub, 1) := dk_100 (dk_at dksX3_number_1 0 rfl rfl)
theorem dX3_number_25 : decode cX3_number 25 = .ok (.iconst 4, 1) := dk_7 (dk_at dksX3_number_1 1 rfl rfl)
theorem dX3_number_26 : decode cX3_number 26 = .ok (.if_icmp .ge 19, 3) := dk_162 0 19 (dk_at dksX3_number_1 2 rfl rfl)
theorem dX3_number_29 : decode cX3_number 29 = .ok (.bipush 10, 2) := dk_16 10 (dk_at dksX3_number_1 5 rfl rfl)
theorem dX3_number_31 : decode cX3_number 31 = .ok (.iload_n 2, 1) := dk_28 (dk_at dksX3_number_1 7 rfl rfl)
theorem dX3_number_32 : decode cX3_number 32 = .ok (.imul, 1) := dk_104 (dk_at dksX3_number_1 8 rfl rfl)
theorem dX3_number_33 : decode cX3_number 33 = .ok (.aload_n 0, 1) := dk_42 (dk_at dksX3_number_1 9 rfl rfl)
theorem dX3_number_34 : decode cX3_number 34 = .ok (.iload_n 1, 1) := dk_27 (dk_at dksX3_number_1 10 rfl rfl)
theorem dX3_number_35 : decode cX3_number 35 = .ok (.invokevirtual 85, 3) := dk_182 0 85 (dk_at dksX3_number_1 11 rfl rfl)
theorem dX3_number_38 : decode cX3_number 38 = .ok (.iadd, 1) := dk_96 (dk_at dksX3_number_1 14 rfl rfl)
theorem dX3_number_39 : decode cX3_number 39 = .ok (.bipush 48, 2) := dk_16 48 (dk_at dksX3_number_1 15 rfl rfl)
theorem dX3_number_41 : decode cX3_number 41 = .ok (.isub, 1) := dk_100 (dk_at dksX3_number_1 17 rfl rfl)
theorem dX3_number_42 : decode cX3_number 42 = .ok (.goto 4, 3) := dk_167 0 4 (dk_at dksX3_number_1 18 rfl rfl)
theorem dX3_number_45 : decode cX3_number 45 = .ok (.iload_n 2, 1) := dk_28 (dk_at dksX3_number_1 21 rfl rfl)
theorem dX3_number_46 : decode cX3_number 46 = .ok (.istore_n 2, 1) := dk_61 (dk_at dksX3_number_1 22 rfl rfl)
theorem dX3_number_47 : decode cX3_number 47 = .ok (.iinc 1 1, 3) := dk_132 1 1 (dk_at dksX3_number_2 0 rfl rfl)
theorem dX3_number_50 : decode cX3_number 50 = .ok (.goto (-39), 3) := dk_167 255 217 (dk_at dksX3_number_2 3 rfl rfl)
theorem dX3_number_53 : decode cX3_number 53 = .ok (.aload_n 0, 1) := dk_42 (dk_at dksX3_number_2 6 rfl rfl)
theorem dX3_number_54 : decode cX3_number 54 = .ok (.iload_n 1, 1) := dk_27 (dk_at dksX3_number_2 7 rfl rfl)
theorem dX3_number_55 : decode cX3_number 55 = .ok (.aload_n 0, 1) := dk_42 (dk_at dksX3_number_2 8 rfl rfl)
theorem dX3_number_56 : decode cX3_number 56 = .ok (.getfield 101, 3) := dk_180 0 101 (dk_at dksX3_number_2 9 rfl rfl)
theorem dX3_number_59 : decode cX3_number 59 = .ok (.isub, 1) := dk_100 (dk_at dksX3_number_2 12 rfl rfl)
theorem dX3_number_60 : decode cX3_number 60 = .ok (.iconst 1, 1) := dk_4 (dk_at dksX3_number_2 13 rfl rfl)
theorem dX3_number_61 : decode cX3_number 61 = .ok (.iconst 4, 1) := dk_7 (dk_at dksX3_number_2 14 rfl rfl)
theorem dX3_number_62 : decode cX3_number 62 = .ok (.invokestatic 89, 3) := dk_184 0 89 (dk_at dksX3_number_2 15 rfl rfl)
theorem dX3_number_65 : decode cX3_number 65 = .ok (.ifCond .eq 14, 3) := dk_153 0 14 (dk_at dksX3_number_2 18 rfl rfl)
theorem dX3_number_68 : decode cX3_number 68 = .ok (.aload_n 0, 1) := dk_42 (dk_at dksX3_number_2 21 rfl rfl)
theorem dX3_number_69 : decode cX3_number 69 = .ok (.invokevirtual 114, 3) := dk_182 0 114 (dk_at dksX3_number_3 0 rfl rfl)
theorem dX3_number_72 : decode cX3_number 72 = .ok (.ifCond .eq 7, 3) := dk_153 0 7 (dk_at dksX3_number_3 3 rfl rfl)
theorem dX3_number_75 : decode cX3_number 75 = .ok (.iconst 1, 1) := dk_4 (dk_at dksX3_number_3 6 rfl rfl)
theorem dX3_number_76 : decode cX3_number 76 = .ok (.goto 4, 3) := dk_167 0 4 (dk_at dksX3_number_3 7 rfl rfl)
theorem dX3_number_79 : decode cX3_number 79 = .ok (.iconst 0, 1) := dk_3 (dk_at dksX3_number_3 10 rfl rfl)
theorem dX3_number_80 : decode cX3_number 80 = .ok (.iconst 1, 1) := dk_4 (dk_at dksX3_number_3 11 rfl rfl)
theorem dX3_number_81 : decode cX3_number 81 = .ok (.invokevirtual 118, 3) := dk_182 0 118 (dk_at dksX3_number_3 12 rfl rfl)
theorem dX3_number_84 : decode cX3_number 84 = .ok (.aload_n 0, 1) := dk_42 (dk_at dksX3_number_3 15 rfl rfl)
theorem dX3_number_85 : decode cX3_number 85 = .ok (.iload_n 1, 1) := dk_27 (dk_at dksX3_number_3 16 rfl rfl)
theorem dX3_number_86 : decode cX3_number 86 = .ok (.putfield 101, 3) := dk_181 0 101 (dk_at dksX3_number_3 17 rfl rfl)
theorem dX3_number_89 : decode cX3_number 89 = .ok (.iload_n 2, 1) := dk_28 (dk_at dksX3_number_3 20 rfl rfl)
theorem dX3_number_90 : decode cX3_number 90 = .ok (.ireturn, 1) := dk_172 (dk_at dksX3_number_3 21 rfl rfl)
abbrev cX3_names : ByteArray := prog_8_method_11_code
def yX3_names : MethodName := ⟨RX3, "names", "(Ljava/util/ArrayList;)V"⟩
def dkwX3_names_2 : List UInt8 := [182, 0, 118, 43, 44, 182, 0, 144, 87, 177]
abbrev dktX3_names_2 : List UInt8 := dkwX3_names_2 ++ []
def dkwX3_names_1 : List UInt8 := [182, 0, 143, 154, 0, 18, 42, 180, 0, 74, 44, 182, 0, 143, 154, 0, 7, 4, 167, 0, 4, 3, 5]
abbrev dktX3_names_1 : List UInt8 := dkwX3_names_1 ++ dktX3_names_2
def dkwX3_names_0 : List UInt8 := [42, 182, 0, 140, 77, 42, 42, 180, 0, 67, 44, 182, 0, 143, 154, 0, 29, 42, 180, 0, 71, 44]
abbrev dktX3_names_0 : List UInt8 := dkwX3_names_0 ++ dktX3_names_1
theorem dksX3_names_0 : cX3_names.data.toList.drop 0 = dktX3_names_0 := by decide +kernel
theorem dksX3_names_1 : cX3_names.data.toList.drop 22 = dktX3_names_1 := dk_seg dksX3_names_0 22 rfl rfl
theorem dksX3_names_2 : cX3_names.data.toList.drop 45 = dktX3_names_2 := dk_seg dksX3_names_1 23 rfl rfl
theorem dX3_names_0 : decode cX3_names 0 = .ok (.aload_n 0, 1) := dk_42 (dk_at dksX3_names_0 0 rfl rfl)
theorem dX3_names_1 : decode cX3_names 1 = .ok (.invokevirtual 140, 3) := dk_182 0 140 (dk_at dksX3_names_0 1 rfl rfl)
theorem dX3_names_4 : decode cX3_names 4 = .ok (.astore_n 2, 1) := dk_77 (dk_at dksX3_names_0 4 rfl rfl)
theorem dX3_names_5 : decode cX3_names 5 = .ok (.aload_n 0, 1) := dk_42 (dk_at dksX3_names_0 5 rfl rfl)
theorem dX3_names_6 : decode cX3_names 6 = .ok (.aload_n 0, 1) := dk_42 (dk_at dksX3_names_0 6 rfl rfl)
theorem dX3_names_7 : decode cX3_names 7 = .ok (.getfield 67, 3) := dk_180 0 67 (dk_at dksX3_names_0 7 rfl rfl)
theorem dX3_names_10 : decode cX3_names 10 = .ok (.aload_n 2, 1) := dk_44 (dk_at dksX3_names_0 10 rfl rfl)
theorem dX3_names_11 : decode cX3_names 11 = .ok (.invokevirtual 143, 3) := dk_182 0 143 (dk_at dksX3_names_0 11 rfl rfl)
theorem dX3_names_14 : decode cX3_names 14 = .ok (.ifCond .ne 29, 3) := dk_154 0 29 (dk_at dksX3_names_0 14 rfl rfl)
theorem dX3_names_17 : decode cX3_names 17 = .ok (.aload_n 0, 1) := dk_42 (dk_at dksX3_names_0 17 rfl rfl)
theorem dX3_names_18 : decode cX3_names 18 = .ok (.getfield 71, 3) := dk_180 0 71 (dk_at dksX3_names_0 18 rfl rfl)
theorem dX3_names_21 : decode cX3_names 21 = .ok (.aload_n 2, 1) := dk_44 (dk_at dksX3_names_0 21 rfl rfl)
theorem dX3_names_22 : decode cX3_names 22 = .ok (.invokevirtual 143, 3) := dk_182 0 143 (dk_at dksX3_names_1 0 rfl rfl)
theorem dX3_names_25 : decode cX3_names 25 = .ok (.ifCond .ne 18, 3) := dk_154 0 18 (dk_at dksX3_names_1 3 rfl rfl)
theorem dX3_names_28 : decode cX3_names 28 = .ok (.aload_n 0, 1) := dk_42 (dk_at dksX3_names_1 6 rfl rfl)
theorem dX3_names_29 : decode cX3_names 29 = .ok (.getfield 74, 3) := dk_180 0 74 (dk_at dksX3_names_1 7 rfl rfl)
theorem dX3_names_32 : decode cX3_names 32 = .ok (.aload_n 2, 1) := dk_44 (dk_at dksX3_names_1 10 rfl rfl)
theorem dX3_names_33 : decode cX3_names 33 = .ok (.invokevirtual 143, 3) := dk_182 0 143 (dk_at dksX3_names_1 11 rfl rfl)
theorem dX3_names_36 : decode cX3_names 36 = .ok (.ifCond .ne 7, 3) := dk_154 0 7 (dk_at dksX3_names_1 14 rfl rfl)
theorem dX3_names_39 : decode cX3_names 39 = .ok (.iconst 1, 1) := dk_4 (dk_at dksX3_names_1 17 rfl rfl)
theorem dX3_names_40 : decode cX3_names 40 = .ok (.goto 4, 3) := dk_167 0 4 (dk_at dksX3_names_1 18 rfl rfl)
theorem dX3_names_43 : decode cX3_names 43 = .ok (.iconst 0, 1) := dk_3 (dk_at dksX3_names_1 21 rfl rfl)
theorem dX3_names_44 : decode cX3_names 44 = .ok (.iconst 2, 1) := dk_5 (dk_at dksX3_names_1 22 rfl rfl)
theorem dX3_names_45 : decode cX3_names 45 = .ok (.invokevirtual 118, 3) := dk_182 0 118 (dk_at dksX3_names_2 0 rfl rfl)
theorem dX3_names_48 : decode cX3_names 48 = .ok (.aload_n 1, 1) := dk_43 (dk_at dksX3_names_2 3 rfl rfl)
theorem dX3_names_49 : decode cX3_names 49 = .ok (.aload_n 2, 1) := dk_44 (dk_at dksX3_names_2 4 rfl rfl)
theorem dX3_names_50 : decode cX3_names 50 = .ok (.invokevirtual 144, 3) := dk_182 0 144 (dk_at dksX3_names_2 5 rfl rfl)
theorem dX3_names_53 : decode cX3_names 53 = .ok (.pop, 1) := dk_87 (dk_at dksX3_names_2 8 rfl rfl)
theorem dX3_names_54 : decode cX3_names 54 = .ok (.return_, 1) := dk_177 (dk_at dksX3_names_2 9 rfl rfl)
abbrev cX3_name : ByteArray := prog_8_method_10_code
def yX3_name : MethodName := ⟨RX3, "name", "()Ljava/lang/String;"⟩
def dkwX3_name_1 : List UInt8 := [185, 0, 136, 2, 0, 154, 0, 7, 4, 167, 0, 4, 3, 4, 182, 0, 118, 43, 176]
abbrev dktX3_name_1 : List UInt8 := dkwX3_name_1 ++ []
def dkwX3_name_0 : List UInt8 := [42, 182, 0, 133, 76, 42, 42, 180, 0, 48, 43, 185, 0, 136, 2, 0, 154, 0, 20, 42, 180, 0, 61, 43]
abbrev dktX3_name_0 : List UInt8 := dkwX3_name_0 ++ dktX3_name_1
theorem dksX3_name_0 : cX3_name.data.toList.drop 0 = dktX3_name_0 := by decide +kernel
theorem dksX3_name_1 : cX3_name.data.toList.drop 24 = dktX3_name_1 := dk_seg dksX3_name_0 24 rfl rfl
theorem dX3_name_0 : decode cX3_name 0 = .ok (.aload_n 0, 1) := dk_42 (dk_at dksX3_name_0 0 rfl rfl)
theorem dX3_name_1 : decode cX3_name 1 = .ok (.invokevirtual 133, 3) := dk_182 0 133 (dk_at dksX3_name_0 1 rfl rfl)
theorem dX3_name_4 : decode cX3_name 4 = .ok (.astore_n 1, 1) := dk_76 (dk_at dksX3_name_0 4 rfl rfl)
theorem dX3_name_5 : decode cX3_name 5 = .ok (.aload_n 0, 1) := dk_42 (dk_at dksX3_name_0 5 rfl rfl)
theorem dX3_name_6 : decode cX3_name 6 = .ok (.aload_n 0, 1) := dk_42 (dk_at dksX3_name_0 6 rfl rfl)
theorem dX3_name_7 : decode cX3_name 7 = .ok (.getfield 48, 3) := dk_180 0 48 (dk_at dksX3_name_0 7 rfl rfl)
theorem dX3_name_10 : decode cX3_name 10 = .ok (.aload_n 1, 1) := dk_43 (dk_at dksX3_name_0 10 rfl rfl)
theorem dX3_name_11 : decode cX3_name 11 = .ok (.invokeinterface 136 2, 5) := by decide +kernel
theorem dX3_name_16 : decode cX3_name 16 = .ok (.ifCond .ne 20, 3) := dk_154 0 20 (dk_at dksX3_name_0 16 rfl rfl)
theorem dX3_name_19 : decode cX3_name 19 = .ok (.aload_n 0, 1) := dk_42 (dk_at dksX3_name_0 19 rfl rfl)
theorem dX3_name_20 : decode cX3_name 20 = .ok (.getfield 61, 3) := dk_180 0 61 (dk_at dksX3_name_0 20 rfl rfl)
theorem dX3_name_23 : decode cX3_name 23 = .ok (.aload_n 1, 1) := dk_43 (dk_at dksX3_name_0 23 rfl rfl)
theorem dX3_name_24 : decode cX3_name 24 = .ok (.invokeinterface 136 2, 5) := by decide +kernel
theorem dX3_name_29 : decode cX3_name 29 = .ok (.ifCond .ne 7, 3) := dk_154 0 7 (dk_at dksX3_name_1 5 rfl rfl)
theorem dX3_name_32 : decode cX3_name 32 = .ok (.iconst 1, 1) := dk_4 (dk_at dksX3_name_1 8 rfl rfl)
theorem dX3_name_33 : decode cX3_name 33 = .ok (.goto 4, 3) := dk_167 0 4 (dk_at dksX3_name_1 9 rfl rfl)
theorem dX3_name_36 : decode cX3_name 36 = .ok (.iconst 0, 1) := dk_3 (dk_at dksX3_name_1 12 rfl rfl)
theorem dX3_name_37 : decode cX3_name 37 = .ok (.iconst 1, 1) := dk_4 (dk_at dksX3_name_1 13 rfl rfl)
theorem dX3_name_38 : decode cX3_name 38 = .ok (.invokevirtual 118, 3) := dk_182 0 118 (dk_at dksX3_name_1 14 rfl rfl)
theorem dX3_name_41 : decode cX3_name 41 = .ok (.aload_n 1, 1) := dk_43 (dk_at dksX3_name_1 17 rfl rfl)
theorem dX3_name_42 : decode cX3_name 42 = .ok (.areturn, 1) := dk_176 (dk_at dksX3_name_1 18 rfl rfl)
abbrev cX3_filingLine : ByteArray := prog_8_method_16_code
def yX3_filingLine : MethodName := ⟨RX3, "filingLine", "()V"⟩
def dkwX3_filingLine_3 : List UInt8 := [182, 0, 183, 183, 0, 186, 182, 0, 144, 87, 177]
abbrev dktX3_filingLine_3 : List UInt8 := dkwX3_filingLine_3 ++ []
def dkwX3_filingLine_2 : List UInt8 := [180, 0, 179, 187, 0, 180, 89, 42, 180, 0, 18, 180, 0, 179, 182, 0, 173, 27, 28, 42, 3, 18, 182]
abbrev dktX3_filingLine_2 : List UInt8 := dkwX3_filingLine_2 ++ dktX3_filingLine_3
def dkwX3_filingLine_1 : List UInt8 := [180, 0, 74, 182, 0, 175, 42, 42, 180, 0, 71, 182, 0, 154, 60, 42, 182, 0, 169, 61, 42, 180, 0, 18]
abbrev dktX3_filingLine_1 : List UInt8 := dkwX3_filingLine_1 ++ dktX3_filingLine_2
def dkwX3_filingLine_0 : List UInt8 := [42, 42, 180, 0, 74, 182, 0, 173, 16, 14, 162, 0, 7, 4, 167, 0, 4, 3, 7, 182, 0, 118, 42, 42]
abbrev dktX3_filingLine_0 : List UInt8 := dkwX3_filingLine_0 ++ dktX3_filingLine_1
theorem dksX3_filingLine_0 : cX3_filingLine.data.toList.drop 0 = dktX3_filingLine_0 := by decide +kernel
theorem dksX3_filingLine_1 : cX3_filingLine.data.toList.drop 24 = dktX3_filingLine_1 := dk_seg dksX3_filingLine_0 24 rfl rfl
theorem dksX3_filingLine_2 : cX3_filingLine.data.toList.drop 48 = dktX3_filingLine_2 := dk_seg dksX3_filingLine_1 24 rfl rfl
theorem dksX3_filingLine_3 : cX3_filingLine.data.toList.drop 71 = dktX3_filingLine_3 := dk_seg dksX3_filingLine_2 23 rfl rfl
theorem dX3_filingLine_0 : decode cX3_filingLine 0 = .ok (.aload_n 0, 1) := dk_42 (dk_at dksX3_filingLine_0 0 rfl rfl)
theorem dX3_filingLine_1 : decode cX3_filingLine 1 = .ok (.aload_n 0, 1) := dk_42 (dk_at dksX3_filingLine_0 1 rfl rfl)
theorem dX3_filingLine_2 : decode cX3_filingLine 2 = .ok (.getfield 74, 3) := dk_180 0 74 (dk_at dksX3_filingLine_0 2 rfl rfl)
theorem dX3_filingLine_5 : decode cX3_filingLine 5 = .ok (.invokevirtual 173, 3) := dk_182 0 173 (dk_at dksX3_filingLine_0 5 rfl rfl)
theorem dX3_filingLine_8 : decode cX3_filingLine 8 = .ok (.bipush 14, 2) := dk_16 14 (dk_at dksX3_filingLine_0 8 rfl rfl)
theorem dX3_filingLine_10 : decode cX3_filingLine 10 = .ok (.if_icmp .ge 7, 3) := dk_162 0 7 (dk_at dksX3_filingLine_0 10 rfl rfl)
theorem dX3_filingLine_13 : decode cX3_filingLine 13 = .ok (.iconst 1, 1) := dk_4 (dk_at dksX3_filingLine_0 13 rfl rfl)
theorem dX3_filingLine_14 : decode cX3_filingLine 14 = .ok (.goto 4, 3) := dk_167 0 4 (dk_at dksX3_filingLine_0 14 rfl rfl)
theorem dX3_filingLine_17 : decode cX3_filingLine 17 = .ok (.iconst 0, 1) := dk_3 (dk_at dksX3_filingLine_0 17 rfl rfl)
theorem dX3_filingLine_18 : decode cX3_filingLine 18 = .ok (.iconst 4, 1) := dk_7 (dk_at dksX3_filingLine_0 18 rfl rfl)
theorem dX3_filingLine_19 : decode cX3_filingLine 19 = .ok (.invokevirtual 118, 3) := dk_182 0 118 (dk_at dksX3_filingLine_0 19 rfl rfl)
theorem dX3_filingLine_22 : decode cX3_filingLine 22 = .ok (.aload_n 0, 1) := dk_42 (dk_at dksX3_filingLine_0 22 rfl rfl)
theorem dX3_filingLine_23 : decode cX3_filingLine 23 = .ok (.aload_n 0, 1) := dk_42 (dk_at dksX3_filingLine_0 23 rfl rfl)
theorem dX3_filingLine_24 : decode cX3_filingLine 24 = .ok (.getfield 74, 3) := dk_180 0 74 (dk_at dksX3_filingLine_1 0 rfl rfl)
theorem dX3_filingLine_27 : decode cX3_filingLine 27 = .ok (.invokevirtual 175, 3) := dk_182 0 175 (dk_at dksX3_filingLine_1 3 rfl rfl)
theorem dX3_filingLine_30 : decode cX3_filingLine 30 = .ok (.aload_n 0, 1) := dk_42 (dk_at dksX3_filingLine_1 6 rfl rfl)
theorem dX3_filingLine_31 : decode cX3_filingLine 31 = .ok (.aload_n 0, 1) := dk_42 (dk_at dksX3_filingLine_1 7 rfl rfl)
theorem dX3_filingLine_32 : decode cX3_filingLine 32 = .ok (.getfield 71, 3) := dk_180 0 71 (dk_at dksX3_filingLine_1 8 rfl rfl)
theorem dX3_filingLine_35 : decode cX3_filingLine 35 = .ok (.invokevirtual 154, 3) := dk_182 0 154 (dk_at dksX3_filingLine_1 11 rfl rfl)
theorem dX3_filingLine_38 : decode cX3_filingLine 38 = .ok (.istore_n 1, 1) := dk_60 (dk_at dksX3_filingLine_1 14 rfl rfl)
theorem dX3_filingLine_39 : decode cX3_filingLine 39 = .ok (.aload_n 0, 1) := dk_42 (dk_at dksX3_filingLine_1 15 rfl rfl)
theorem dX3_filingLine_40 : decode cX3_filingLine 40 = .ok (.invokevirtual 169, 3) := dk_182 0 169 (dk_at dksX3_filingLine_1 16 rfl rfl)
theorem dX3_filingLine_43 : decode cX3_filingLine 43 = .ok (.istore_n 2, 1) := dk_61 (dk_at dksX3_filingLine_1 19 rfl rfl)
theorem dX3_filingLine_44 : decode cX3_filingLine 44 = .ok (.aload_n 0, 1) := dk_42 (dk_at dksX3_filingLine_1 20 rfl rfl)
theorem dX3_filingLine_45 : decode cX3_filingLine 45 = .ok (.getfield 18, 3) := dk_180 0 18 (dk_at dksX3_filingLine_1 21 rfl rfl)
theorem dX3_filingLine_48 : decode cX3_filingLine 48 = .ok (.getfield 179, 3) := dk_180 0 179 (dk_at dksX3_filingLine_2 0 rfl rfl)
theorem dX3_filingLine_51 : decode cX3_filingLine 51 = .ok (.new 180, 3) := dk_187 0 180 (dk_at dksX3_filingLine_2 3 rfl rfl)
theorem dX3_filingLine_54 : decode cX3_filingLine 54 = .ok (.dup, 1) := dk_89 (dk_at dksX3_filingLine_2 6 rfl rfl)
theorem dX3_filingLine_55 : decode cX3_filingLine 55 = .ok (.aload_n 0, 1) := dk_42 (dk_at dksX3_filingLine_2 7 rfl rfl)
theorem dX3_filingLine_56 : decode cX3_filingLine 56 = .ok (.getfield 18, 3) := dk_180 0 18 (dk_at dksX3_filingLine_2 8 rfl rfl)
theorem dX3_filingLine_59 : decode cX3_filingLine 59 = .ok (.getfield 179, 3) := dk_180 0 179 (dk_at dksX3_filingLine_2 11 rfl rfl)
theorem dX3_filingLine_62 : decode cX3_filingLine 62 = .ok (.invokevirtual 173, 3) := dk_182 0 173 (dk_at dksX3_filingLine_2 14 rfl rfl)
theorem dX3_filingLine_65 : decode cX3_filingLine 65 = .ok (.iload_n 1, 1) := dk_27 (dk_at dksX3_filingLine_2 17 rfl rfl)
theorem dX3_filingLine_66 : decode cX3_filingLine 66 = .ok (.iload_n 2, 1) := dk_28 (dk_at dksX3_filingLine_2 18 rfl rfl)
theorem dX3_filingLine_67 : decode cX3_filingLine 67 = .ok (.aload_n 0, 1) := dk_42 (dk_at dksX3_filingLine_2 19 rfl rfl)
theorem dX3_filingLine_68 : decode cX3_filingLine 68 = .ok (.iconst 0, 1) := dk_3 (dk_at dksX3_filingLine_2 20 rfl rfl)
theorem dX3_filingLine_69 : decode cX3_filingLine 69 = .ok (.ldc 182, 2) := dk_18 182 (dk_at dksX3_filingLine_2 21 rfl rfl)
theorem dX3_filingLine_71 : decode cX3_filingLine 71 = .ok (.invokevirtual 183, 3) := dk_182 0 183 (dk_at dksX3_filingLine_3 0 rfl rfl)
theorem dX3_filingLine_74 : decode cX3_filingLine 74 = .ok (.invokespecial 186, 3) := dk_183 0 186 (dk_at dksX3_filingLine_3 3 rfl rfl)
theorem dX3_filingLine_77 : decode cX3_filingLine 77 = .ok (.invokevirtual 144, 3) := dk_182 0 144 (dk_at dksX3_filingLine_3 6 rfl rfl)
theorem dX3_filingLine_80 : decode cX3_filingLine 80 = .ok (.pop, 1) := dk_87 (dk_at dksX3_filingLine_3 9 rfl rfl)
theorem dX3_filingLine_81 : decode cX3_filingLine 81 = .ok (.return_, 1) := dk_177 (dk_at dksX3_filingLine_3 10 rfl rfl)
abbrev cX3_known : ByteArray := prog_8_method_12_code
def yX3_known : MethodName := ⟨RX3, "known", "(Ljava/util/ArrayList;)I"⟩
def dkwX3_known_1 : List UInt8 := [172]
abbrev dktX3_known_1 : List UInt8 := dkwX3_known_1 ++ []
def dkwX3_known_0 : List UInt8 := [43, 42, 182, 0, 140, 182, 0, 147, 61, 42, 28, 155, 0, 7, 4, 167, 0, 4, 3, 6, 182, 0, 118, 28]
abbrev dktX3_known_0 : List UInt8 := dkwX3_known_0 ++ dktX3_known_1
theorem dksX3_known_0 : cX3_known.data.toList.drop 0 = dktX3_known_0 := by decide +kernel
theorem dksX3_known_1 : cX3_known.data.toList.drop 24 = dktX3_known_1 := dk_seg dksX3_known_0 24 rfl rfl
theorem dX3_known_0 : decode cX3_known 0 = .ok (.aload_n 1, 1) := dk_43 (dk_at dksX3_known_0 0 rfl rfl)
theorem dX3_known_1 : decode cX3_known 1 = .ok (.aload_n 0, 1) := dk_42 (dk_at dksX3_known_0 1 rfl rfl)
theorem dX3_known_2 : decode cX3_known 2 = .ok (.invokevirtual 140, 3) := dk_182 0 140 (dk_at dksX3_known_0 2 rfl rfl)
theorem dX3_known_5 : decode cX3_known 5 = .ok (.invokevirtual 147, 3) := dk_182 0 147 (dk_at dksX3_known_0 5 rfl rfl)
theorem dX3_known_8 : decode cX3_known 8 = .ok (.istore_n 2, 1) := dk_61 (dk_at dksX3_known_0 8 rfl rfl)
theorem dX3_known_9 : decode cX3_known 9 = .ok (.aload_n 0, 1) := dk_42 (dk_at dksX3_known_0 9 rfl rfl)
theorem dX3_known_10 : decode cX3_known 10 = .ok (.iload_n 2, 1) := dk_28 (dk_at dksX3_known_0 10 rfl rfl)
theorem dX3_known_11 : decode cX3_known 11 = .ok (.ifCond .lt 7, 3) := dk_155 0 7 (dk_at dksX3_known_0 11 rfl rfl)
theorem dX3_known_14 : decode cX3_known 14 = .ok (.iconst 1, 1) := dk_4 (dk_at dksX3_known_0 14 rfl rfl)
theorem dX3_known_15 : decode cX3_known 15 = .ok (.goto 4, 3) := dk_167 0 4 (dk_at dksX3_known_0 15 rfl rfl)
theorem dX3_known_18 : decode cX3_known 18 = .ok (.iconst 0, 1) := dk_3 (dk_at dksX3_known_0 18 rfl rfl)
theorem dX3_known_19 : decode cX3_known 19 = .ok (.iconst 3, 1) := dk_6 (dk_at dksX3_known_0 19 rfl rfl)
theorem dX3_known_20 : decode cX3_known 20 = .ok (.invokevirtual 118, 3) := dk_182 0 118 (dk_at dksX3_known_0 20 rfl rfl)
theorem dX3_known_23 : decode cX3_known 23 = .ok (.iload_n 2, 1) := dk_28 (dk_at dksX3_known_0 23 rfl rfl)
theorem dX3_known_24 : decode cX3_known 24 = .ok (.ireturn, 1) := dk_172 (dk_at dksX3_known_1 0 rfl rfl)
abbrev cX3_parts : ByteArray := prog_8_method_14_code
def yX3_parts : MethodName := ⟨RX3, "parts", "(II)I"⟩
def dkwX3_parts_3 : List UInt8 := [21, 4, 120, 128, 62, 167, 255, 185, 29, 172]
abbrev dktX3_parts_3 : List UInt8 := dkwX3_parts_3 ++ []
def dkwX3_parts_2 : List UInt8 := [154, 0, 16, 28, 21, 4, 184, 0, 158, 153, 0, 7, 4, 167, 0, 4, 3, 8, 182, 0, 118, 29, 4]
abbrev dktX3_parts_2 : List UInt8 := dkwX3_parts_2 ++ dktX3_parts_3
def dkwX3_parts_1 : List UInt8 := [184, 0, 158, 154, 0, 7, 4, 167, 0, 4, 3, 5, 182, 0, 118, 42, 27, 21, 4, 184, 0, 158]
abbrev dktX3_parts_1 : List UInt8 := dkwX3_parts_1 ++ dktX3_parts_2
def dkwX3_parts_0 : List UInt8 := [3, 62, 42, 182, 0, 151, 154, 0, 70, 42, 42, 180, 0, 67, 182, 0, 154, 54, 4, 42, 29, 21, 4]
abbrev dktX3_parts_0 : List UInt8 := dkwX3_parts_0 ++ dktX3_parts_1
theorem dksX3_parts_0 : cX3_parts.data.toList.drop 0 = dktX3_parts_0 := by decide +kernel
theorem dksX3_parts_1 : cX3_parts.data.toList.drop 23 = dktX3_parts_1 := dk_seg dksX3_parts_0 23 rfl rfl
theorem dksX3_parts_2 : cX3_parts.data.toList.drop 45 = dktX3_parts_2 := dk_seg dksX3_parts_1 22 rfl rfl
theorem dksX3_parts_3 : cX3_parts.data.toList.drop 68 = dktX3_parts_3 := dk_seg dksX3_parts_2 23 rfl rfl
theorem dX3_parts_0 : decode cX3_parts 0 = .ok (.iconst 0, 1) := dk_3 (dk_at dksX3_parts_0 0 rfl rfl)
theorem dX3_parts_1 : decode cX3_parts 1 = .ok (.istore_n 3, 1) := dk_62 (dk_at dksX3_parts_0 1 rfl rfl)
theorem dX3_parts_2 : decode cX3_parts 2 = .ok (.aload_n 0, 1) := dk_42 (dk_at dksX3_parts_0 2 rfl rfl)
theorem dX3_parts_3 : decode cX3_parts 3 = .ok (.invokevirtual 151, 3) := dk_182 0 151 (dk_at dksX3_parts_0 3 rfl rfl)
theorem dX3_parts_6 : decode cX3_parts 6 = .ok (.ifCond .ne 70, 3) := dk_154 0 70 (dk_at dksX3_parts_0 6 rfl rfl)
theorem dX3_parts_9 : decode cX3_parts 9 = .ok (.aload_n 0, 1) := dk_42 (dk_at dksX3_parts_0 9 rfl rfl)
theorem dX3_parts_10 : decode cX3_parts 10 = .ok (.aload_n 0, 1) := dk_42 (dk_at dksX3_parts_0 10 rfl rfl)
theorem dX3_parts_11 : decode cX3_parts 11 = .ok (.getfield 67, 3) := dk_180 0 67 (dk_at dksX3_parts_0 11 rfl rfl)
theorem dX3_parts_14 : decode cX3_parts 14 = .ok (.invokevirtual 154, 3) := dk_182 0 154 (dk_at dksX3_parts_0 14 rfl rfl)
theorem dX3_parts_17 : decode cX3_parts 17 = .ok (.istore 4, 2) := dk_54 4 (dk_at dksX3_parts_0 17 rfl rfl)
theorem dX3_parts_19 : decode cX3_parts 19 = .ok (.aload_n 0, 1) := dk_42 (dk_at dksX3_parts_0 19 rfl rfl)
theorem dX3_parts_20 : decode cX3_parts 20 = .ok (.iload_n 3, 1) := dk_29 (dk_at dksX3_parts_0 20 rfl rfl)
theorem dX3_parts_21 : decode cX3_parts 21 = .ok (.iload 4, 2) := dk_21 4 (dk_at dksX3_parts_0 21 rfl rfl)
theorem dX3_parts_23 : decode cX3_parts 23 = .ok (.invokestatic 158, 3) := dk_184 0 158 (dk_at dksX3_parts_1 0 rfl rfl)
theorem dX3_parts_26 : decode cX3_parts 26 = .ok (.ifCond .ne 7, 3) := dk_154 0 7 (dk_at dksX3_parts_1 3 rfl rfl)
theorem dX3_parts_29 : decode cX3_parts 29 = .ok (.iconst 1, 1) := dk_4 (dk_at dksX3_parts_1 6 rfl rfl)
theorem dX3_parts_30 : decode cX3_parts 30 = .ok (.goto 4, 3) := dk_167 0 4 (dk_at dksX3_parts_1 7 rfl rfl)
theorem dX3_parts_33 : decode cX3_parts 33 = .ok (.iconst 0, 1) := dk_3 (dk_at dksX3_parts_1 10 rfl rfl)
theorem dX3_parts_34 : decode cX3_parts 34 = .ok (.iconst 2, 1) := dk_5 (dk_at dksX3_parts_1 11 rfl rfl)
theorem dX3_parts_35 : decode cX3_parts 35 = .ok (.invokevirtual 118, 3) := dk_182 0 118 (dk_at dksX3_parts_1 12 rfl rfl)
theorem dX3_parts_38 : decode cX3_parts 38 = .ok (.aload_n 0, 1) := dk_42 (dk_at dksX3_parts_1 15 rfl rfl)
theorem dX3_parts_39 : decode cX3_parts 39 = .ok (.iload_n 1, 1) := dk_27 (dk_at dksX3_parts_1 16 rfl rfl)
theorem dX3_parts_40 : decode cX3_parts 40 = .ok (.iload 4, 2) := dk_21 4 (dk_at dksX3_parts_1 17 rfl rfl)
theorem dX3_parts_42 : decode cX3_parts 42 = .ok (.invokestatic 158, 3) := dk_184 0 158 (dk_at dksX3_parts_1 19 rfl rfl)
theorem dX3_parts_45 : decode cX3_parts 45 = .ok (.ifCond .ne 16, 3) := dk_154 0 16 (dk_at dksX3_parts_2 0 rfl rfl)
theorem dX3_parts_48 : decode cX3_parts 48 = .ok (.iload_n 2, 1) := dk_28 (dk_at dksX3_parts_2 3 rfl rfl)
theorem dX3_parts_49 : decode cX3_parts 49 = .ok (.iload 4, 2) := dk_21 4 (dk_at dksX3_parts_2 4 rfl rfl)
theorem dX3_parts_51 : decode cX3_parts 51 = .ok (.invokestatic 158, 3) := dk_184 0 158 (dk_at dksX3_parts_2 6 rfl rfl)
theorem dX3_parts_54 : decode cX3_parts 54 = .ok (.ifCond .eq 7, 3) := dk_153 0 7 (dk_at dksX3_parts_2 9 rfl rfl)
theorem dX3_parts_57 : decode cX3_parts 57 = .ok (.iconst 1, 1) := dk_4 (dk_at dksX3_parts_2 12 rfl rfl)
theorem dX3_parts_58 : decode cX3_parts 58 = .ok (.goto 4, 3) := dk_167 0 4 (dk_at dksX3_parts_2 13 rfl rfl)
theorem dX3_parts_61 : decode cX3_parts 61 = .ok (.iconst 0, 1) := dk_3 (dk_at dksX3_parts_2 16 rfl rfl)
theorem dX3_parts_62 : decode cX3_parts 62 = .ok (.iconst 5, 1) := dk_8 (dk_at dksX3_parts_2 17 rfl rfl)
theorem dX3_parts_63 : decode cX3_parts 63 = .ok (.invokevirtual 118, 3) := dk_182 0 118 (dk_at dksX3_parts_2 18 rfl rfl)
theorem dX3_parts_66 : decode cX3_parts 66 = .ok (.iload_n 3, 1) := dk_29 (dk_at dksX3_parts_2 21 rfl rfl)
theorem dX3_parts_67 : decode cX3_parts 67 = .ok (.iconst 1, 1) := dk_4 (dk_at dksX3_parts_2 22 rfl rfl)
theorem dX3_parts_68 : decode cX3_parts 68 = .ok (.iload 4, 2) := dk_21 4 (dk_at dksX3_parts_3 0 rfl rfl)
theorem dX3_parts_70 : decode cX3_parts 70 = .ok (.ishl, 1) := dk_120 (dk_at dksX3_parts_3 2 rfl rfl)
theorem dX3_parts_71 : decode cX3_parts 71 = .ok (.ior, 1) := dk_128 (dk_at dksX3_parts_3 3 rfl rfl)
theorem dX3_parts_72 : decode cX3_parts 72 = .ok (.istore_n 3, 1) := dk_62 (dk_at dksX3_parts_3 4 rfl rfl)
theorem dX3_parts_73 : decode cX3_parts 73 = .ok (.goto (-71), 3) := dk_167 255 185 (dk_at dksX3_parts_3 5 rfl rfl)
theorem dX3_parts_76 : decode cX3_parts 76 = .ok (.iload_n 3, 1) := dk_29 (dk_at dksX3_parts_3 8 rfl rfl)
theorem dX3_parts_77 : decode cX3_parts 77 = .ok (.ireturn, 1) := dk_172 (dk_at dksX3_parts_3 9 rfl rfl)
abbrev cX3_isSemicolon : ByteArray := prog_8_method_13_code
def yX3_isSemicolon : MethodName := ⟨RX3, "isSemicolon", "()Z"⟩
def dkwX3_isSemicolon_0 : List UInt8 := [42, 182, 0, 111, 42, 42, 180, 0, 101, 182, 0, 85, 16, 59, 160, 0, 7, 4, 167, 0, 4, 3, 172]
abbrev dktX3_isSemicolon_0 : List UInt8 := dkwX3_isSemicolon_0 ++ []
theorem dksX3_isSemicolon_0 : cX3_isSemicolon.data.toList.drop 0 = dktX3_isSemicolon_0 := by decide +kernel
theorem dX3_isSemicolon_0 : decode cX3_isSemicolon 0 = .ok (.aload_n 0, 1) := dk_42 (dk_at dksX3_isSemicolon_0 0 rfl rfl)
theorem dX3_isSemicolon_1 : decode cX3_isSemicolon 1 = .ok (.invokevirtual 111, 3) := dk_182 0 111 (dk_at dksX3_isSemicolon_0 1 rfl rfl)
theorem dX3_isSemicolon_4 : decode cX3_isSemicolon 4 = .ok (.aload_n 0, 1) := dk_42 (dk_at dksX3_isSemicolon_0 4 rfl rfl)
theorem dX3_isSemicolon_5 : decode cX3_isSemicolon 5 = .ok (.aload_n 0, 1) := dk_42 (dk_at dksX3_isSemicolon_0 5 rfl rfl)
theorem dX3_isSemicolon_6 : decode cX3_isSemicolon 6 = .ok (.getfield 101, 3) := dk_180 0 101 (dk_at dksX3_isSemicolon_0 6 rfl rfl)
theorem dX3_isSemicolon_9 : decode cX3_isSemicolon 9 = .ok (.invokevirtual 85, 3) := dk_182 0 85 (dk_at dksX3_isSemicolon_0 9 rfl rfl)
theorem dX3_isSemicolon_12 : decode cX3_isSemicolon 12 = .ok (.bipush 59, 2) := dk_16 59 (dk_at dksX3_isSemicolon_0 12 rfl rfl)
theorem dX3_isSemicolon_14 : decode cX3_isSemicolon 14 = .ok (.if_icmp .ne 7, 3) := dk_160 0 7 (dk_at dksX3_isSemicolon_0 14 rfl rfl)
theorem dX3_isSemicolon_17 : decode cX3_isSemicolon 17 = .ok (.iconst 1, 1) := dk_4 (dk_at dksX3_isSemicolon_0 17 rfl rfl)
theorem dX3_isSemicolon_18 : decode cX3_isSemicolon 18 = .ok (.goto 4, 3) := dk_167 0 4 (dk_at dksX3_isSemicolon_0 18 rfl rfl)
theorem dX3_isSemicolon_21 : decode cX3_isSemicolon 21 = .ok (.iconst 0, 1) := dk_3 (dk_at dksX3_isSemicolon_0 21 rfl rfl)
theorem dX3_isSemicolon_22 : decode cX3_isSemicolon 22 = .ok (.ireturn, 1) := dk_172 (dk_at dksX3_isSemicolon_0 22 rfl rfl)
abbrev cX3_addsLine : ByteArray := prog_8_method_17_code
def yX3_addsLine : MethodName := ⟨RX3, "addsLine", "()V"⟩
def dkwX3_addsLine_3 : List UInt8 := [177]
abbrev dktX3_addsLine_3 : List UInt8 := dkwX3_addsLine_3 ++ []
def dkwX3_addsLine_2 : List UInt8 := [182, 0, 183, 62, 42, 29, 153, 0, 7, 4, 167, 0, 4, 3, 8, 182, 0, 118, 43, 28, 29, 182, 0, 199]
abbrev dktX3_addsLine_2 : List UInt8 := dkwX3_addsLine_2 ++ dktX3_addsLine_3
def dkwX3_addsLine_1 : List UInt8 := [180, 0, 193, 164, 0, 7, 4, 167, 0, 4, 3, 8, 182, 0, 118, 42, 43, 182, 0, 196, 18, 182]
abbrev dktX3_addsLine_1 : List UInt8 := dkwX3_addsLine_1 ++ dktX3_addsLine_2
def dkwX3_addsLine_0 : List UInt8 := [42, 180, 0, 18, 42, 42, 180, 0, 74, 182, 0, 154, 182, 0, 189, 76, 42, 182, 0, 169, 61, 42, 28, 43]
abbrev dktX3_addsLine_0 : List UInt8 := dkwX3_addsLine_0 ++ dktX3_addsLine_1
theorem dksX3_addsLine_0 : cX3_addsLine.data.toList.drop 0 = dktX3_addsLine_0 := by decide +kernel
theorem dksX3_addsLine_1 : cX3_addsLine.data.toList.drop 24 = dktX3_addsLine_1 := dk_seg dksX3_addsLine_0 24 rfl rfl
theorem dksX3_addsLine_2 : cX3_addsLine.data.toList.drop 46 = dktX3_addsLine_2 := dk_seg dksX3_addsLine_1 22 rfl rfl
theorem dksX3_addsLine_3 : cX3_addsLine.data.toList.drop 70 = dktX3_addsLine_3 := dk_seg dksX3_addsLine_2 24 rfl rfl
theorem dX3_addsLine_0 : decode cX3_addsLine 0 = .ok (.aload_n 0, 1) := dk_42 (dk_at dksX3_addsLine_0 0 rfl rfl)
theorem dX3_addsLine_1 : decode cX3_addsLine 1 = .ok (.getfield 18, 3) := dk_180 0 18 (dk_at dksX3_addsLine_0 1 rfl rfl)
theorem dX3_addsLine_4 : decode cX3_addsLine 4 = .ok (.aload_n 0, 1) := dk_42 (dk_at dksX3_addsLine_0 4 rfl rfl)
theorem dX3_addsLine_5 : decode cX3_addsLine 5 = .ok (.aload_n 0, 1) := dk_42 (dk_at dksX3_addsLine_0 5 rfl rfl)
theorem dX3_addsLine_6 : decode cX3_addsLine 6 = .ok (.getfield 74, 3) := dk_180 0 74 (dk_at dksX3_addsLine_0 6 rfl rfl)
theorem dX3_addsLine_9 : decode cX3_addsLine 9 = .ok (.invokevirtual 154, 3) := dk_182 0 154 (dk_at dksX3_addsLine_0 9 rfl rfl)
theorem dX3_addsLine_12 : decode cX3_addsLine 12 = .ok (.invokevirtual 189, 3) := dk_182 0 189 (dk_at dksX3_addsLine_0 12 rfl rfl)
theorem dX3_addsLine_15 : decode cX3_addsLine 15 = .ok (.astore_n 1, 1) := dk_76 (dk_at dksX3_addsLine_0 15 rfl rfl)
theorem dX3_addsLine_16 : decode cX3_addsLine 16 = .ok (.aload_n 0, 1) := dk_42 (dk_at dksX3_addsLine_0 16 rfl rfl)
theorem dX3_addsLine_17 : decode cX3_addsLine 17 = .ok (.invokevirtual 169, 3) := dk_182 0 169 (dk_at dksX3_addsLine_0 17 rfl rfl)
theorem dX3_addsLine_20 : decode cX3_addsLine 20 = .ok (.istore_n 2, 1) := dk_61 (dk_at dksX3_addsLine_0 20 rfl rfl)
theorem dX3_addsLine_21 : decode cX3_addsLine 21 = .ok (.aload_n 0, 1) := dk_42 (dk_at dksX3_addsLine_0 21 rfl rfl)
theorem dX3_addsLine_22 : decode cX3_addsLine 22 = .ok (.iload_n 2, 1) := dk_28 (dk_at dksX3_addsLine_0 22 rfl rfl)
theorem dX3_addsLine_23 : decode cX3_addsLine 23 = .ok (.aload_n 1, 1) := dk_43 (dk_at dksX3_addsLine_0 23 rfl rfl)
theorem dX3_addsLine_24 : decode cX3_addsLine 24 = .ok (.getfield 193, 3) := dk_180 0 193 (dk_at dksX3_addsLine_1 0 rfl rfl)
theorem dX3_addsLine_27 : decode cX3_addsLine 27 = .ok (.if_icmp .le 7, 3) := dk_164 0 7 (dk_at dksX3_addsLine_1 3 rfl rfl)
theorem dX3_addsLine_30 : decode cX3_addsLine 30 = .ok (.iconst 1, 1) := dk_4 (dk_at dksX3_addsLine_1 6 rfl rfl)
theorem dX3_addsLine_31 : decode cX3_addsLine 31 = .ok (.goto 4, 3) := dk_167 0 4 (dk_at dksX3_addsLine_1 7 rfl rfl)
theorem dX3_addsLine_34 : decode cX3_addsLine 34 = .ok (.iconst 0, 1) := dk_3 (dk_at dksX3_addsLine_1 10 rfl rfl)
theorem dX3_addsLine_35 : decode cX3_addsLine 35 = .ok (.iconst 5, 1) := dk_8 (dk_at dksX3_addsLine_1 11 rfl rfl)
theorem dX3_addsLine_36 : decode cX3_addsLine 36 = .ok (.invokevirtual 118, 3) := dk_182 0 118 (dk_at dksX3_addsLine_1 12 rfl rfl)
theorem dX3_addsLine_39 : decode cX3_addsLine 39 = .ok (.aload_n 0, 1) := dk_42 (dk_at dksX3_addsLine_1 15 rfl rfl)
theorem dX3_addsLine_40 : decode cX3_addsLine 40 = .ok (.aload_n 1, 1) := dk_43 (dk_at dksX3_addsLine_1 16 rfl rfl)
theorem dX3_addsLine_41 : decode cX3_addsLine 41 = .ok (.invokevirtual 196, 3) := dk_182 0 196 (dk_at dksX3_addsLine_1 17 rfl rfl)
theorem dX3_addsLine_44 : decode cX3_addsLine 44 = .ok (.ldc 182, 2) := dk_18 182 (dk_at dksX3_addsLine_1 20 rfl rfl)
theorem dX3_addsLine_46 : decode cX3_addsLine 46 = .ok (.invokevirtual 183, 3) := dk_182 0 183 (dk_at dksX3_addsLine_2 0 rfl rfl)
theorem dX3_addsLine_49 : decode cX3_addsLine 49 = .ok (.istore_n 3, 1) := dk_62 (dk_at dksX3_addsLine_2 3 rfl rfl)
theorem dX3_addsLine_50 : decode cX3_addsLine 50 = .ok (.aload_n 0, 1) := dk_42 (dk_at dksX3_addsLine_2 4 rfl rfl)
theorem dX3_addsLine_51 : decode cX3_addsLine 51 = .ok (.iload_n 3, 1) := dk_29 (dk_at dksX3_addsLine_2 5 rfl rfl)
theorem dX3_addsLine_52 : decode cX3_addsLine 52 = .ok (.ifCond .eq 7, 3) := dk_153 0 7 (dk_at dksX3_addsLine_2 6 rfl rfl)
theorem dX3_addsLine_55 : decode cX3_addsLine 55 = .ok (.iconst 1, 1) := dk_4 (dk_at dksX3_addsLine_2 9 rfl rfl)
theorem dX3_addsLine_56 : decode cX3_addsLine 56 = .ok (.goto 4, 3) := dk_167 0 4 (dk_at dksX3_addsLine_2 10 rfl rfl)
theorem dX3_addsLine_59 : decode cX3_addsLine 59 = .ok (.iconst 0, 1) := dk_3 (dk_at dksX3_addsLine_2 13 rfl rfl)
theorem dX3_addsLine_60 : decode cX3_addsLine 60 = .ok (.iconst 5, 1) := dk_8 (dk_at dksX3_addsLine_2 14 rfl rfl)
theorem dX3_addsLine_61 : decode cX3_addsLine 61 = .ok (.invokevirtual 118, 3) := dk_182 0 118 (dk_at dksX3_addsLine_2 15 rfl rfl)
theorem dX3_addsLine_64 : decode cX3_addsLine 64 = .ok (.aload_n 1, 1) := dk_43 (dk_at dksX3_addsLine_2 18 rfl rfl)
theorem dX3_addsLine_65 : decode cX3_addsLine 65 = .ok (.iload_n 2, 1) := dk_28 (dk_at dksX3_addsLine_2 19 rfl rfl)
theorem dX3_addsLine_66 : decode cX3_addsLine 66 = .ok (.iload_n 3, 1) := dk_29 (dk_at dksX3_addsLine_2 20 rfl rfl)
theorem dX3_addsLine_67 : decode cX3_addsLine 67 = .ok (.invokevirtual 199, 3) := dk_182 0 199 (dk_at dksX3_addsLine_2 21 rfl rfl)
theorem dX3_addsLine_70 : decode cX3_addsLine 70 = .ok (.return_, 1) := dk_177 (dk_at dksX3_addsLine_3 0 rfl rfl)
abbrev cX3_linkLine : ByteArray := prog_8_method_18_code
def yX3_linkLine : MethodName := ⟨RX3, "linkLine", "(I)V"⟩
def dkwX3_linkLine_4 : List UInt8 := [42, 180, 0, 18, 180, 0, 201, 187, 0, 214, 89, 27, 28, 29, 183, 0, 216, 182, 0, 219, 87, 177]
abbrev dktX3_linkLine_4 : List UInt8 := dkwX3_linkLine_4 ++ []
def dkwX3_linkLine_3 : List UInt8 := [159, 0, 19, 42, 180, 0, 18, 28, 29, 182, 0, 211, 153, 0, 7, 4, 167, 0, 4, 3, 8, 182, 0, 118]
abbrev dktX3_linkLine_3 : List UInt8 := dkwX3_linkLine_3 ++ dktX3_linkLine_4
def dkwX3_linkLine_2 : List UInt8 := [180, 0, 18, 27, 28, 29, 182, 0, 208, 154, 0, 7, 4, 167, 0, 4, 3, 5, 182, 0, 118, 42, 28, 29]
abbrev dktX3_linkLine_2 : List UInt8 := dkwX3_linkLine_2 ++ dktX3_linkLine_3
def dkwX3_linkLine_1 : List UInt8 := [182, 0, 118, 42, 42, 180, 0, 74, 182, 0, 154, 61, 42, 42, 180, 0, 74, 182, 0, 154, 62, 42, 42]
abbrev dktX3_linkLine_1 : List UInt8 := dkwX3_linkLine_1 ++ dktX3_linkLine_2
def dkwX3_linkLine_0 : List UInt8 := [42, 42, 180, 0, 18, 180, 0, 201, 182, 0, 205, 16, 20, 162, 0, 7, 4, 167, 0, 4, 3, 7]
abbrev dktX3_linkLine_0 : List UInt8 := dkwX3_linkLine_0 ++ dktX3_linkLine_1
theorem dksX3_linkLine_0 : cX3_linkLine.data.toList.drop 0 = dktX3_linkLine_0 := by decide +kernel
theorem dksX3_linkLine_1 : cX3_linkLine.data.toList.drop 22 = dktX3_linkLine_1 := dk_seg dksX3_linkLine_0 22 rfl rfl
theorem dksX3_linkLine_2 : cX3_linkLine.data.toList.drop 45 = dktX3_linkLine_2 := dk_seg dksX3_linkLine_1 23 rfl rfl
theorem dksX3_linkLine_3 : cX3_linkLine.data.toList.drop 69 = dktX3_linkLine_3 := dk_seg dksX3_linkLine_2 24 rfl rfl
theorem dksX3_linkLine_4 : cX3_linkLine.data.toList.drop 93 = dktX3_linkLine_4 := dk_seg dksX3_linkLine_3 24 rfl rfl
theorem dX3_linkLine_0 : decode cX3_linkLine 0 = .ok (.aload_n 0, 1) := dk_42 (dk_at dksX3_linkLine_0 0 rfl rfl)
theorem dX3_linkLine_1 : decode cX3_linkLine 1 = .ok (.aload_n 0, 1) := dk_42 (dk_at dksX3_linkLine_0 1 rfl rfl)
theorem dX3_linkLine_2 : decode cX3_linkLine 2 = .ok (.getfield 18, 3) := dk_180 0 18 (dk_at dksX3_linkLine_0 2 rfl rfl)
theorem dX3_linkLine_5 : decode cX3_linkLine 5 = .ok (.getfield 201, 3) := dk_180 0 201 (dk_at dksX3_linkLine_0 5 rfl rfl)
theorem dX3_linkLine_8 : decode cX3_linkLine 8 = .ok (.invokevirtual 205, 3) := dk_182 0 205 (dk_at dksX3_linkLine_0 8 rfl rfl)
theorem dX3_linkLine_11 : decode cX3_linkLine 11 = .ok (.bipush 20, 2) := dk_16 20 (dk_at dksX3_linkLine_0 11 rfl rfl)
theorem dX3_linkLine_13 : decode cX3_linkLine 13 = .ok (.if_icmp .ge 7, 3) := dk_162 0 7 (dk_at dksX3_linkLine_0 13 rfl rfl)
theorem dX3_linkLine_16 : decode cX3_linkLine 16 = .ok (.iconst 1, 1) := dk_4 (dk_at dksX3_linkLine_0 16 rfl rfl)
theorem dX3_linkLine_17 : decode cX3_linkLine 17 = .ok (.goto 4, 3) := dk_167 0 4 (dk_at dksX3_linkLine_0 17 rfl rfl)
theorem dX3_linkLine_20 : decode cX3_linkLine 20 = .ok (.iconst 0, 1) := dk_3 (dk_at dksX3_linkLine_0 20 rfl rfl)
theorem dX3_linkLine_21 : decode cX3_linkLine 21 = .ok (.iconst 4, 1) := dk_7 (dk_at dksX3_linkLine_0 21 rfl rfl)
theorem dX3_linkLine_22 : decode cX3_linkLine 22 = .ok (.invokevirtual 118, 3) := dk_182 0 118 (dk_at dksX3_linkLine_1 0 rfl rfl)
theorem dX3_linkLine_25 : decode cX3_linkLine 25 = .ok (.aload_n 0, 1) := dk_42 (dk_at dksX3_linkLine_1 3 rfl rfl)
theorem dX3_linkLine_26 : decode cX3_linkLine 26 = .ok (.aload_n 0, 1) := dk_42 (dk_at dksX3_linkLine_1 4 rfl rfl)
theorem dX3_linkLine_27 : decode cX3_linkLine 27 = .ok (.getfield 74, 3) := dk_180 0 74 (dk_at dksX3_linkLine_1 5 rfl rfl)
theorem dX3_linkLine_30 : decode cX3_linkLine 30 = .ok (.invokevirtual 154, 3) := dk_182 0 154 (dk_at dksX3_linkLine_1 8 rfl rfl)
theorem dX3_linkLine_33 : decode cX3_linkLine 33 = .ok (.istore_n 2, 1) := dk_61 (dk_at dksX3_linkLine_1 11 rfl rfl)
theorem dX3_linkLine_34 : decode cX3_linkLine 34 = .ok (.aload_n 0, 1) := dk_42 (dk_at dksX3_linkLine_1 12 rfl rfl)
theorem dX3_linkLine_35 : decode cX3_linkLine 35 = .ok (.aload_n 0, 1) := dk_42 (dk_at dksX3_linkLine_1 13 rfl rfl)
theorem dX3_linkLine_36 : decode cX3_linkLine 36 = .ok (.getfield 74, 3) := dk_180 0 74 (dk_at dksX3_linkLine_1 14 rfl rfl)
theorem dX3_linkLine_39 : decode cX3_linkLine 39 = .ok (.invokevirtual 154, 3) := dk_182 0 154 (dk_at dksX3_linkLine_1 17 rfl rfl)
theorem dX3_linkLine_42 : decode cX3_linkLine 42 = .ok (.istore_n 3, 1) := dk_62 (dk_at dksX3_linkLine_1 20 rfl rfl)
theorem dX3_linkLine_43 : decode cX3_linkLine 43 = .ok (.aload_n 0, 1) := dk_42 (dk_at dksX3_linkLine_1 21 rfl rfl)
theorem dX3_linkLine_44 : decode cX3_linkLine 44 = .ok (.aload_n 0, 1) := dk_42 (dk_at dksX3_linkLine_1 22 rfl rfl)
theorem dX3_linkLine_45 : decode cX3_linkLine 45 = .ok (.getfield 18, 3) := dk_180 0 18 (dk_at dksX3_linkLine_2 0 rfl rfl)
theorem dX3_linkLine_48 : decode cX3_linkLine 48 = .ok (.iload_n 1, 1) := dk_27 (dk_at dksX3_linkLine_2 3 rfl rfl)
theorem dX3_linkLine_49 : decode cX3_linkLine 49 = .ok (.iload_n 2, 1) := dk_28 (dk_at dksX3_linkLine_2 4 rfl rfl)
theorem dX3_linkLine_50 : decode cX3_linkLine 50 = .ok (.iload_n 3, 1) := dk_29 (dk_at dksX3_linkLine_2 5 rfl rfl)
theorem dX3_linkLine_51 : decode cX3_linkLine 51 = .ok (.invokevirtual 208, 3) := dk_182 0 208 (dk_at dksX3_linkLine_2 6 rfl rfl)
theorem dX3_linkLine_54 : decode cX3_linkLine 54 = .ok (.ifCond .ne 7, 3) := dk_154 0 7 (dk_at dksX3_linkLine_2 9 rfl rfl)
theorem dX3_linkLine_57 : decode cX3_linkLine 57 = .ok (.iconst 1, 1) := dk_4 (dk_at dksX3_linkLine_2 12 rfl rfl)
theorem dX3_linkLine_58 : decode cX3_linkLine 58 = .ok (.goto 4, 3) := dk_167 0 4 (dk_at dksX3_linkLine_2 13 rfl rfl)
theorem dX3_linkLine_61 : decode cX3_linkLine 61 = .ok (.iconst 0, 1) := dk_3 (dk_at dksX3_linkLine_2 16 rfl rfl)
theorem dX3_linkLine_62 : decode cX3_linkLine 62 = .ok (.iconst 2, 1) := dk_5 (dk_at dksX3_linkLine_2 17 rfl rfl)
theorem dX3_linkLine_63 : decode cX3_linkLine 63 = .ok (.invokevirtual 118, 3) := dk_182 0 118 (dk_at dksX3_linkLine_2 18 rfl rfl)
theorem dX3_linkLine_66 : decode cX3_linkLine 66 = .ok (.aload_n 0, 1) := dk_42 (dk_at dksX3_linkLine_2 21 rfl rfl)
theorem dX3_linkLine_67 : decode cX3_linkLine 67 = .ok (.iload_n 2, 1) := dk_28 (dk_at dksX3_linkLine_2 22 rfl rfl)
theorem dX3_linkLine_68 : decode cX3_linkLine 68 = .ok (.iload_n 3, 1) := dk_29 (dk_at dksX3_linkLine_2 23 rfl rfl)
theorem dX3_linkLine_69 : decode cX3_linkLine 69 = .ok (.if_icmp .eq 19, 3) := dk_159 0 19 (dk_at dksX3_linkLine_3 0 rfl rfl)
theorem dX3_linkLine_72 : decode cX3_linkLine 72 = .ok (.aload_n 0, 1) := dk_42 (dk_at dksX3_linkLine_3 3 rfl rfl)
theorem dX3_linkLine_73 : decode cX3_linkLine 73 = .ok (.getfield 18, 3) := dk_180 0 18 (dk_at dksX3_linkLine_3 4 rfl rfl)
theorem dX3_linkLine_76 : decode cX3_linkLine 76 = .ok (.iload_n 2, 1) := dk_28 (dk_at dksX3_linkLine_3 7 rfl rfl)
theorem dX3_linkLine_77 : decode cX3_linkLine 77 = .ok (.iload_n 3, 1) := dk_29 (dk_at dksX3_linkLine_3 8 rfl rfl)
theorem dX3_linkLine_78 : decode cX3_linkLine 78 = .ok (.invokevirtual 211, 3) := dk_182 0 211 (dk_at dksX3_linkLine_3 9 rfl rfl)
theorem dX3_linkLine_81 : decode cX3_linkLine 81 = .ok (.ifCond .eq 7, 3) := dk_153 0 7 (dk_at dksX3_linkLine_3 12 rfl rfl)
theorem dX3_linkLine_84 : decode cX3_linkLine 84 = .ok (.iconst 1, 1) := dk_4 (dk_at dksX3_linkLine_3 15 rfl rfl)
theorem dX3_linkLine_85 : decode cX3_linkLine 85 = .ok (.goto 4, 3) := dk_167 0 4 (dk_at dksX3_linkLine_3 16 rfl rfl)
theorem dX3_linkLine_88 : decode cX3_linkLine 88 = .ok (.iconst 0, 1) := dk_3 (dk_at dksX3_linkLine_3 19 rfl rfl)
theorem dX3_linkLine_89 : decode cX3_linkLine 89 = .ok (.iconst 5, 1) := dk_8 (dk_at dksX3_linkLine_3 20 rfl rfl)
theorem dX3_linkLine_90 : decode cX3_linkLine 90 = .ok (.invokevirtual 118, 3) := dk_182 0 118 (dk_at dksX3_linkLine_3 21 rfl rfl)
theorem dX3_linkLine_93 : decode cX3_linkLine 93 = .ok (.aload_n 0, 1) := dk_42 (dk_at dksX3_linkLine_4 0 rfl rfl)
theorem dX3_linkLine_94 : decode cX3_linkLine 94 = .ok (.getfield 18, 3) := dk_180 0 18 (dk_at dksX3_linkLine_4 1 rfl rfl)
theorem dX3_linkLine_97 : decode cX3_linkLine 97 = .ok (.getfield 201, 3) := dk_180 0 201 (dk_at dksX3_linkLine_4 4 rfl rfl)
theorem dX3_linkLine_100 : decode cX3_linkLine 100 = .ok (.new 214, 3) := dk_187 0 214 (dk_at dksX3_linkLine_4 7 rfl rfl)
theorem dX3_linkLine_103 : decode cX3_linkLine 103 = .ok (.dup, 1) := dk_89 (dk_at dksX3_linkLine_4 10 rfl rfl)
theorem dX3_linkLine_104 : decode cX3_linkLine 104 = .ok (.iload_n 1, 1) := dk_27 (dk_at dksX3_linkLine_4 11 rfl rfl)
theorem dX3_linkLine_105 : decode cX3_linkLine 105 = .ok (.iload_n 2, 1) := dk_28 (dk_at dksX3_linkLine_4 12 rfl rfl)
theorem dX3_linkLine_106 : decode cX3_linkLine 106 = .ok (.iload_n 3, 1) := dk_29 (dk_at dksX3_linkLine_4 13 rfl rfl)
theorem dX3_linkLine_107 : decode cX3_linkLine 107 = .ok (.invokespecial 216, 3) := dk_183 0 216 (dk_at dksX3_linkLine_4 14 rfl rfl)
theorem dX3_linkLine_110 : decode cX3_linkLine 110 = .ok (.invokevirtual 219, 3) := dk_182 0 219 (dk_at dksX3_linkLine_4 17 rfl rfl)
theorem dX3_linkLine_113 : decode cX3_linkLine 113 = .ok (.pop, 1) := dk_87 (dk_at dksX3_linkLine_4 20 rfl rfl)
theorem dX3_linkLine_114 : decode cX3_linkLine 114 = .ok (.return_, 1) := dk_177 (dk_at dksX3_linkLine_4 21 rfl rfl)
abbrev cX3_endsLine : ByteArray := prog_8_method_19_code
def yX3_endsLine : MethodName := ⟨RX3, "endsLine", "()V"⟩
def dkwX3_endsLine_2 : List UInt8 := [161, 0, 7, 4, 167, 0, 4, 3, 8, 182, 0, 118, 43, 28, 181, 0, 220, 177]
abbrev dktX3_endsLine_2 : List UInt8 := dkwX3_endsLine_2 ++ []
def dkwX3_endsLine_1 : List UInt8 := [160, 0, 7, 4, 167, 0, 4, 3, 5, 182, 0, 118, 42, 182, 0, 169, 61, 42, 28, 43, 180, 0, 193]
abbrev dktX3_endsLine_1 : List UInt8 := dkwX3_endsLine_1 ++ dktX3_endsLine_2
def dkwX3_endsLine_0 : List UInt8 := [42, 180, 0, 18, 42, 42, 180, 0, 74, 182, 0, 154, 182, 0, 189, 76, 42, 43, 180, 0, 220, 2]
abbrev dktX3_endsLine_0 : List UInt8 := dkwX3_endsLine_0 ++ dktX3_endsLine_1
theorem dksX3_endsLine_0 : cX3_endsLine.data.toList.drop 0 = dktX3_endsLine_0 := by decide +kernel
theorem dksX3_endsLine_1 : cX3_endsLine.data.toList.drop 22 = dktX3_endsLine_1 := dk_seg dksX3_endsLine_0 22 rfl rfl
theorem dksX3_endsLine_2 : cX3_endsLine.data.toList.drop 45 = dktX3_endsLine_2 := dk_seg dksX3_endsLine_1 23 rfl rfl
theorem dX3_endsLine_0 : decode cX3_endsLine 0 = .ok (.aload_n 0, 1) := dk_42 (dk_at dksX3_endsLine_0 0 rfl rfl)
theorem dX3_endsLine_1 : decode cX3_endsLine 1 = .ok (.getfield 18, 3) := dk_180 0 18 (dk_at dksX3_endsLine_0 1 rfl rfl)
theorem dX3_endsLine_4 : decode cX3_endsLine 4 = .ok (.aload_n 0, 1) := dk_42 (dk_at dksX3_endsLine_0 4 rfl rfl)
theorem dX3_endsLine_5 : decode cX3_endsLine 5 = .ok (.aload_n 0, 1) := dk_42 (dk_at dksX3_endsLine_0 5 rfl rfl)
theorem dX3_endsLine_6 : decode cX3_endsLine 6 = .ok (.getfield 74, 3) := dk_180 0 74 (dk_at dksX3_endsLine_0 6 rfl rfl)
theorem dX3_endsLine_9 : decode cX3_endsLine 9 = .ok (.invokevirtual 154, 3) := dk_182 0 154 (dk_at dksX3_endsLine_0 9 rfl rfl)
theorem dX3_endsLine_12 : decode cX3_endsLine 12 = .ok (.invokevirtual 189, 3) := dk_182 0 189 (dk_at dksX3_endsLine_0 12 rfl rfl)
theorem dX3_endsLine_15 : decode cX3_endsLine 15 = .ok (.astore_n 1, 1) := dk_76 (dk_at dksX3_endsLine_0 15 rfl rfl)
theorem dX3_endsLine_16 : decode cX3_endsLine 16 = .ok (.aload_n 0, 1) := dk_42 (dk_at dksX3_endsLine_0 16 rfl rfl)
theorem dX3_endsLine_17 : decode cX3_endsLine 17 = .ok (.aload_n 1, 1) := dk_43 (dk_at dksX3_endsLine_0 17 rfl rfl)
theorem dX3_endsLine_18 : decode cX3_endsLine 18 = .ok (.getfield 220, 3) := dk_180 0 220 (dk_at dksX3_endsLine_0 18 rfl rfl)
theorem dX3_endsLine_21 : decode cX3_endsLine 21 = .ok (.iconst (-1), 1) := dk_2 (dk_at dksX3_endsLine_0 21 rfl rfl)
theorem dX3_endsLine_22 : decode cX3_endsLine 22 = .ok (.if_icmp .ne 7, 3) := dk_160 0 7 (dk_at dksX3_endsLine_1 0 rfl rfl)
theorem dX3_endsLine_25 : decode cX3_endsLine 25 = .ok (.iconst 1, 1) := dk_4 (dk_at dksX3_endsLine_1 3 rfl rfl)
theorem dX3_endsLine_26 : decode cX3_endsLine 26 = .ok (.goto 4, 3) := dk_167 0 4 (dk_at dksX3_endsLine_1 4 rfl rfl)
theorem dX3_endsLine_29 : decode cX3_endsLine 29 = .ok (.iconst 0, 1) := dk_3 (dk_at dksX3_endsLine_1 7 rfl rfl)
theorem dX3_endsLine_30 : decode cX3_endsLine 30 = .ok (.iconst 2, 1) := dk_5 (dk_at dksX3_endsLine_1 8 rfl rfl)
theorem dX3_endsLine_31 : decode cX3_endsLine 31 = .ok (.invokevirtual 118, 3) := dk_182 0 118 (dk_at dksX3_endsLine_1 9 rfl rfl)
theorem dX3_endsLine_34 : decode cX3_endsLine 34 = .ok (.aload_n 0, 1) := dk_42 (dk_at dksX3_endsLine_1 12 rfl rfl)
theorem dX3_endsLine_35 : decode cX3_endsLine 35 = .ok (.invokevirtual 169, 3) := dk_182 0 169 (dk_at dksX3_endsLine_1 13 rfl rfl)
theorem dX3_endsLine_38 : decode cX3_endsLine 38 = .ok (.istore_n 2, 1) := dk_61 (dk_at dksX3_endsLine_1 16 rfl rfl)
theorem dX3_endsLine_39 : decode cX3_endsLine 39 = .ok (.aload_n 0, 1) := dk_42 (dk_at dksX3_endsLine_1 17 rfl rfl)
theorem dX3_endsLine_40 : decode cX3_endsLine 40 = .ok (.iload_n 2, 1) := dk_28 (dk_at dksX3_endsLine_1 18 rfl rfl)
theorem dX3_endsLine_41 : decode cX3_endsLine 41 = .ok (.aload_n 1, 1) := dk_43 (dk_at dksX3_endsLine_1 19 rfl rfl)
theorem dX3_endsLine_42 : decode cX3_endsLine 42 = .ok (.getfield 193, 3) := dk_180 0 193 (dk_at dksX3_endsLine_1 20 rfl rfl)
theorem dX3_endsLine_45 : decode cX3_endsLine 45 = .ok (.if_icmp .lt 7, 3) := dk_161 0 7 (dk_at dksX3_endsLine_2 0 rfl rfl)
theorem dX3_endsLine_48 : decode cX3_endsLine 48 = .ok (.iconst 1, 1) := dk_4 (dk_at dksX3_endsLine_2 3 rfl rfl)
theorem dX3_endsLine_49 : decode cX3_endsLine 49 = .ok (.goto 4, 3) := dk_167 0 4 (dk_at dksX3_endsLine_2 4 rfl rfl)
theorem dX3_endsLine_52 : decode cX3_endsLine 52 = .ok (.iconst 0, 1) := dk_3 (dk_at dksX3_endsLine_2 7 rfl rfl)
theorem dX3_endsLine_53 : decode cX3_endsLine 53 = .ok (.iconst 5, 1) := dk_8 (dk_at dksX3_endsLine_2 8 rfl rfl)
theorem dX3_endsLine_54 : decode cX3_endsLine 54 = .ok (.invokevirtual 118, 3) := dk_182 0 118 (dk_at dksX3_endsLine_2 9 rfl rfl)
theorem dX3_endsLine_57 : decode cX3_endsLine 57 = .ok (.aload_n 1, 1) := dk_43 (dk_at dksX3_endsLine_2 12 rfl rfl)
theorem dX3_endsLine_58 : decode cX3_endsLine 58 = .ok (.iload_n 2, 1) := dk_28 (dk_at dksX3_endsLine_2 13 rfl rfl)
theorem dX3_endsLine_59 : decode cX3_endsLine 59 = .ok (.putfield 220, 3) := dk_181 0 220 (dk_at dksX3_endsLine_2 14 rfl rfl)
theorem dX3_endsLine_62 : decode cX3_endsLine 62 = .ok (.return_, 1) := dk_177 (dk_at dksX3_endsLine_2 17 rfl rfl)
abbrev cX3_claimLine : ByteArray := prog_8_method_20_code
def yX3_claimLine : MethodName := ⟨RX3, "claimLine", "()V"⟩
def dkwX3_claimLine_3 : List UInt8 := [180, 0, 18, 180, 0, 222, 187, 0, 225, 89, 27, 28, 183, 0, 227, 182, 0, 144, 87, 177]
abbrev dktX3_claimLine_3 : List UInt8 := dkwX3_claimLine_3 ++ []
def dkwX3_claimLine_2 : List UInt8 := [182, 0, 196, 182, 0, 183, 61, 42, 28, 153, 0, 7, 4, 167, 0, 4, 3, 8, 182, 0, 118, 42]
abbrev dktX3_claimLine_2 : List UInt8 := dkwX3_claimLine_2 ++ dktX3_claimLine_3
def dkwX3_claimLine_1 : List UInt8 := [182, 0, 118, 42, 42, 180, 0, 74, 182, 0, 154, 60, 42, 3, 42, 180, 0, 18, 27, 182, 0, 189]
abbrev dktX3_claimLine_1 : List UInt8 := dkwX3_claimLine_1 ++ dktX3_claimLine_2
def dkwX3_claimLine_0 : List UInt8 := [42, 42, 180, 0, 18, 180, 0, 222, 182, 0, 173, 16, 16, 162, 0, 7, 4, 167, 0, 4, 3, 7]
abbrev dktX3_claimLine_0 : List UInt8 := dkwX3_claimLine_0 ++ dktX3_claimLine_1
theorem dksX3_claimLine_0 : cX3_claimLine.data.toList.drop 0 = dktX3_claimLine_0 := by decide +kernel
theorem dksX3_claimLine_1 : cX3_claimLine.data.toList.drop 22 = dktX3_claimLine_1 := dk_seg dksX3_claimLine_0 22 rfl rfl
theorem dksX3_claimLine_2 : cX3_claimLine.data.toList.drop 44 = dktX3_claimLine_2 := dk_seg dksX3_claimLine_1 22 rfl rfl
theorem dksX3_claimLine_3 : cX3_claimLine.data.toList.drop 66 = dktX3_claimLine_3 := dk_seg dksX3_claimLine_2 22 rfl rfl
theorem dX3_claimLine_0 : decode cX3_claimLine 0 = .ok (.aload_n 0, 1) := dk_42 (dk_at dksX3_claimLine_0 0 rfl rfl)
theorem dX3_claimLine_1 : decode cX3_claimLine 1 = .ok (.aload_n 0, 1) := dk_42 (dk_at dksX3_claimLine_0 1 rfl rfl)
theorem dX3_claimLine_2 : decode cX3_claimLine 2 = .ok (.getfield 18, 3) := dk_180 0 18 (dk_at dksX3_claimLine_0 2 rfl rfl)
theorem dX3_claimLine_5 : decode cX3_claimLine 5 = .ok (.getfield 222, 3) := dk_180 0 222 (dk_at dksX3_claimLine_0 5 rfl rfl)
theorem dX3_claimLine_8 : decode cX3_claimLine 8 = .ok (.invokevirtual 173, 3) := dk_182 0 173 (dk_at dksX3_claimLine_0 8 rfl rfl)
theorem dX3_claimLine_11 : decode cX3_claimLine 11 = .ok (.bipush 16, 2) := dk_16 16 (dk_at dksX3_claimLine_0 11 rfl rfl)
theorem dX3_claimLine_13 : decode cX3_claimLine 13 = .ok (.if_icmp .ge 7, 3) := dk_162 0 7 (dk_at dksX3_claimLine_0 13 rfl rfl)
theorem dX3_claimLine_16 : decode cX3_claimLine 16 = .ok (.iconst 1, 1) := dk_4 (dk_at dksX3_claimLine_0 16 rfl rfl)
theorem dX3_claimLine_17 : decode cX3_claimLine 17 = .ok (.goto 4, 3) := dk_167 0 4 (dk_at dksX3_claimLine_0 17 rfl rfl)
theorem dX3_claimLine_20 : decode cX3_claimLine 20 = .ok (.iconst 0, 1) := dk_3 (dk_at dksX3_claimLine_0 20 rfl rfl)
theorem dX3_claimLine_21 : decode cX3_claimLine 21 = .ok (.iconst 4, 1) := dk_7 (dk_at dksX3_claimLine_0 21 rfl rfl)
theorem dX3_claimLine_22 : decode cX3_claimLine 22 = .ok (.invokevirtual 118, 3) := dk_182 0 118 (dk_at dksX3_claimLine_1 0 rfl rfl)
theorem dX3_claimLine_25 : decode cX3_claimLine 25 = .ok (.aload_n 0, 1) := dk_42 (dk_at dksX3_claimLine_1 3 rfl rfl)
theorem dX3_claimLine_26 : decode cX3_claimLine 26 = .ok (.aload_n 0, 1) := dk_42 (dk_at dksX3_claimLine_1 4 rfl rfl)
theorem dX3_claimLine_27 : decode cX3_claimLine 27 = .ok (.getfield 74, 3) := dk_180 0 74 (dk_at dksX3_claimLine_1 5 rfl rfl)
theorem dX3_claimLine_30 : decode cX3_claimLine 30 = .ok (.invokevirtual 154, 3) := dk_182 0 154 (dk_at dksX3_claimLine_1 8 rfl rfl)
theorem dX3_claimLine_33 : decode cX3_claimLine 33 = .ok (.istore_n 1, 1) := dk_60 (dk_at dksX3_claimLine_1 11 rfl rfl)
theorem dX3_claimLine_34 : decode cX3_claimLine 34 = .ok (.aload_n 0, 1) := dk_42 (dk_at dksX3_claimLine_1 12 rfl rfl)
theorem dX3_claimLine_35 : decode cX3_claimLine 35 = .ok (.iconst 0, 1) := dk_3 (dk_at dksX3_claimLine_1 13 rfl rfl)
theorem dX3_claimLine_36 : decode cX3_claimLine 36 = .ok (.aload_n 0, 1) := dk_42 (dk_at dksX3_claimLine_1 14 rfl rfl)
theorem dX3_claimLine_37 : decode cX3_claimLine 37 = .ok (.getfield 18, 3) := dk_180 0 18 (dk_at dksX3_claimLine_1 15 rfl rfl)
theorem dX3_claimLine_40 : decode cX3_claimLine 40 = .ok (.iload_n 1, 1) := dk_27 (dk_at dksX3_claimLine_1 18 rfl rfl)
theorem dX3_claimLine_41 : decode cX3_claimLine 41 = .ok (.invokevirtual 189, 3) := dk_182 0 189 (dk_at dksX3_claimLine_1 19 rfl rfl)
theorem dX3_claimLine_44 : decode cX3_claimLine 44 = .ok (.invokevirtual 196, 3) := dk_182 0 196 (dk_at dksX3_claimLine_2 0 rfl rfl)
theorem dX3_claimLine_47 : decode cX3_claimLine 47 = .ok (.invokevirtual 183, 3) := dk_182 0 183 (dk_at dksX3_claimLine_2 3 rfl rfl)
theorem dX3_claimLine_50 : decode cX3_claimLine 50 = .ok (.istore_n 2, 1) := dk_61 (dk_at dksX3_claimLine_2 6 rfl rfl)
theorem dX3_claimLine_51 : decode cX3_claimLine 51 = .ok (.aload_n 0, 1) := dk_42 (dk_at dksX3_claimLine_2 7 rfl rfl)
theorem dX3_claimLine_52 : decode cX3_claimLine 52 = .ok (.iload_n 2, 1) := dk_28 (dk_at dksX3_claimLine_2 8 rfl rfl)
theorem dX3_claimLine_53 : decode cX3_claimLine 53 = .ok (.ifCond .eq 7, 3) := dk_153 0 7 (dk_at dksX3_claimLine_2 9 rfl rfl)
theorem dX3_claimLine_56 : decode cX3_claimLine 56 = .ok (.iconst 1, 1) := dk_4 (dk_at dksX3_claimLine_2 12 rfl rfl)
theorem dX3_claimLine_57 : decode cX3_claimLine 57 = .ok (.goto 4, 3) := dk_167 0 4 (dk_at dksX3_claimLine_2 13 rfl rfl)
theorem dX3_claimLine_60 : decode cX3_claimLine 60 = .ok (.iconst 0, 1) := dk_3 (dk_at dksX3_claimLine_2 16 rfl rfl)
theorem dX3_claimLine_61 : decode cX3_claimLine 61 = .ok (.iconst 5, 1) := dk_8 (dk_at dksX3_claimLine_2 17 rfl rfl)
theorem dX3_claimLine_62 : decode cX3_claimLine 62 = .ok (.invokevirtual 118, 3) := dk_182 0 118 (dk_at dksX3_claimLine_2 18 rfl rfl)
theorem dX3_claimLine_65 : decode cX3_claimLine 65 = .ok (.aload_n 0, 1) := dk_42 (dk_at dksX3_claimLine_2 21 rfl rfl)
theorem dX3_claimLine_66 : decode cX3_claimLine 66 = .ok (.getfield 18, 3) := dk_180 0 18 (dk_at dksX3_claimLine_3 0 rfl rfl)
theorem dX3_claimLine_69 : decode cX3_claimLine 69 = .ok (.getfield 222, 3) := dk_180 0 222 (dk_at dksX3_claimLine_3 3 rfl rfl)
theorem dX3_claimLine_72 : decode cX3_claimLine 72 = .ok (.new 225, 3) := dk_187 0 225 (dk_at dksX3_claimLine_3 6 rfl rfl)
theorem dX3_claimLine_75 : decode cX3_claimLine 75 = .ok (.dup, 1) := dk_89 (dk_at dksX3_claimLine_3 9 rfl rfl)
theorem dX3_claimLine_76 : decode cX3_claimLine 76 = .ok (.iload_n 1, 1) := dk_27 (dk_at dksX3_claimLine_3 10 rfl rfl)
theorem dX3_claimLine_77 : decode cX3_claimLine 77 = .ok (.iload_n 2, 1) := dk_28 (dk_at dksX3_claimLine_3 11 rfl rfl)
theorem dX3_claimLine_78 : decode cX3_claimLine 78 = .ok (.invokespecial 227, 3) := dk_183 0 227 (dk_at dksX3_claimLine_3 12 rfl rfl)
theorem dX3_claimLine_81 : decode cX3_claimLine 81 = .ok (.invokevirtual 144, 3) := dk_182 0 144 (dk_at dksX3_claimLine_3 15 rfl rfl)
theorem dX3_claimLine_84 : decode cX3_claimLine 84 = .ok (.pop, 1) := dk_87 (dk_at dksX3_claimLine_3 18 rfl rfl)
theorem dX3_claimLine_85 : decode cX3_claimLine 85 = .ok (.return_, 1) := dk_177 (dk_at dksX3_claimLine_3 19 rfl rfl)
abbrev cX3_shownLine : ByteArray := prog_8_method_21_code
def yX3_shownLine : MethodName := ⟨RX3, "shownLine", "()V"⟩
def dkwX3_shownLine_3 : List UInt8 := [187, 0, 231, 89, 27, 28, 29, 183, 0, 233, 182, 0, 144, 87, 177]
abbrev dktX3_shownLine_3 : List UInt8 := dkwX3_shownLine_3 ++ []
def dkwX3_shownLine_2 : List UInt8 := [62, 42, 29, 153, 0, 7, 4, 167, 0, 4, 3, 8, 182, 0, 118, 42, 180, 0, 18, 180, 0, 228]
abbrev dktX3_shownLine_2 : List UInt8 := dkwX3_shownLine_2 ++ dktX3_shownLine_3
def dkwX3_shownLine_1 : List UInt8 := [182, 0, 118, 42, 42, 180, 0, 71, 182, 0, 154, 60, 42, 182, 0, 169, 61, 42, 3, 18, 182, 182, 0, 183]
abbrev dktX3_shownLine_1 : List UInt8 := dkwX3_shownLine_1 ++ dktX3_shownLine_2
def dkwX3_shownLine_0 : List UInt8 := [42, 42, 180, 0, 18, 180, 0, 228, 182, 0, 173, 16, 14, 162, 0, 7, 4, 167, 0, 4, 3, 7]
abbrev dktX3_shownLine_0 : List UInt8 := dkwX3_shownLine_0 ++ dktX3_shownLine_1
theorem dksX3_shownLine_0 : cX3_shownLine.data.toList.drop 0 = dktX3_shownLine_0 := by decide +kernel
theorem dksX3_shownLine_1 : cX3_shownLine.data.toList.drop 22 = dktX3_shownLine_1 := dk_seg dksX3_shownLine_0 22 rfl rfl
theorem dksX3_shownLine_2 : cX3_shownLine.data.toList.drop 46 = dktX3_shownLine_2 := dk_seg dksX3_shownLine_1 24 rfl rfl
theorem dksX3_shownLine_3 : cX3_shownLine.data.toList.drop 68 = dktX3_shownLine_3 := dk_seg dksX3_shownLine_2 22 rfl rfl
theorem dX3_shownLine_0 : decode cX3_shownLine 0 = .ok (.aload_n 0, 1) := dk_42 (dk_at dksX3_shownLine_0 0 rfl rfl)
theorem dX3_shownLine_1 : decode cX3_shownLine 1 = .ok (.aload_n 0, 1) := dk_42 (dk_at dksX3_shownLine_0 1 rfl rfl)
theorem dX3_shownLine_2 : decode cX3_shownLine 2 = .ok (.getfield 18, 3) := dk_180 0 18 (dk_at dksX3_shownLine_0 2 rfl rfl)
theorem dX3_shownLine_5 : decode cX3_shownLine 5 = .ok (.getfield 228, 3) := dk_180 0 228 (dk_at dksX3_shownLine_0 5 rfl rfl)
theorem dX3_shownLine_8 : decode cX3_shownLine 8 = .ok (.invokevirtual 173, 3) := dk_182 0 173 (dk_at dksX3_shownLine_0 8 rfl rfl)
theorem dX3_shownLine_11 : decode cX3_shownLine 11 = .ok (.bipush 14, 2) := dk_16 14 (dk_at dksX3_shownLine_0 11 rfl rfl)
theorem dX3_shownLine_13 : decode cX3_shownLine 13 = .ok (.if_icmp .ge 7, 3) := dk_162 0 7 (dk_at dksX3_shownLine_0 13 rfl rfl)
theorem dX3_shownLine_16 : decode cX3_shownLine 16 = .ok (.iconst 1, 1) := dk_4 (dk_at dksX3_shownLine_0 16 rfl rfl)
theorem dX3_shownLine_17 : decode cX3_shownLine 17 = .ok (.goto 4, 3) := dk_167 0 4 (dk_at dksX3_shownLine_0 17 rfl rfl)
theorem dX3_shownLine_20 : decode cX3_shownLine 20 = .ok (.iconst 0, 1) := dk_3 (dk_at dksX3_shownLine_0 20 rfl rfl)
theorem dX3_shownLine_21 : decode cX3_shownLine 21 = .ok (.iconst 4, 1) := dk_7 (dk_at dksX3_shownLine_0 21 rfl rfl)
theorem dX3_shownLine_22 : decode cX3_shownLine 22 = .ok (.invokevirtual 118, 3) := dk_182 0 118 (dk_at dksX3_shownLine_1 0 rfl rfl)
theorem dX3_shownLine_25 : decode cX3_shownLine 25 = .ok (.aload_n 0, 1) := dk_42 (dk_at dksX3_shownLine_1 3 rfl rfl)
theorem dX3_shownLine_26 : decode cX3_shownLine 26 = .ok (.aload_n 0, 1) := dk_42 (dk_at dksX3_shownLine_1 4 rfl rfl)
theorem dX3_shownLine_27 : decode cX3_shownLine 27 = .ok (.getfield 71, 3) := dk_180 0 71 (dk_at dksX3_shownLine_1 5 rfl rfl)
theorem dX3_shownLine_30 : decode cX3_shownLine 30 = .ok (.invokevirtual 154, 3) := dk_182 0 154 (dk_at dksX3_shownLine_1 8 rfl rfl)
theorem dX3_shownLine_33 : decode cX3_shownLine 33 = .ok (.istore_n 1, 1) := dk_60 (dk_at dksX3_shownLine_1 11 rfl rfl)
theorem dX3_shownLine_34 : decode cX3_shownLine 34 = .ok (.aload_n 0, 1) := dk_42 (dk_at dksX3_shownLine_1 12 rfl rfl)
theorem dX3_shownLine_35 : decode cX3_shownLine 35 = .ok (.invokevirtual 169, 3) := dk_182 0 169 (dk_at dksX3_shownLine_1 13 rfl rfl)
theorem dX3_shownLine_38 : decode cX3_shownLine 38 = .ok (.istore_n 2, 1) := dk_61 (dk_at dksX3_shownLine_1 16 rfl rfl)
theorem dX3_shownLine_39 : decode cX3_shownLine 39 = .ok (.aload_n 0, 1) := dk_42 (dk_at dksX3_shownLine_1 17 rfl rfl)
theorem dX3_shownLine_40 : decode cX3_shownLine 40 = .ok (.iconst 0, 1) := dk_3 (dk_at dksX3_shownLine_1 18 rfl rfl)
theorem dX3_shownLine_41 : decode cX3_shownLine 41 = .ok (.ldc 182, 2) := dk_18 182 (dk_at dksX3_shownLine_1 19 rfl rfl)
theorem dX3_shownLine_43 : decode cX3_shownLine 43 = .ok (.invokevirtual 183, 3) := dk_182 0 183 (dk_at dksX3_shownLine_1 21 rfl rfl)
theorem dX3_shownLine_46 : decode cX3_shownLine 46 = .ok (.istore_n 3, 1) := dk_62 (dk_at dksX3_shownLine_2 0 rfl rfl)
theorem dX3_shownLine_47 : decode cX3_shownLine 47 = .ok (.aload_n 0, 1) := dk_42 (dk_at dksX3_shownLine_2 1 rfl rfl)
theorem dX3_shownLine_48 : decode cX3_shownLine 48 = .ok (.iload_n 3, 1) := dk_29 (dk_at dksX3_shownLine_2 2 rfl rfl)
theorem dX3_shownLine_49 : decode cX3_shownLine 49 = .ok (.ifCond .eq 7, 3) := dk_153 0 7 (dk_at dksX3_shownLine_2 3 rfl rfl)
theorem dX3_shownLine_52 : decode cX3_shownLine 52 = .ok (.iconst 1, 1) := dk_4 (dk_at dksX3_shownLine_2 6 rfl rfl)
theorem dX3_shownLine_53 : decode cX3_shownLine 53 = .ok (.goto 4, 3) := dk_167 0 4 (dk_at dksX3_shownLine_2 7 rfl rfl)
theorem dX3_shownLine_56 : decode cX3_shownLine 56 = .ok (.iconst 0, 1) := dk_3 (dk_at dksX3_shownLine_2 10 rfl rfl)
theorem dX3_shownLine_57 : decode cX3_shownLine 57 = .ok (.iconst 5, 1) := dk_8 (dk_at dksX3_shownLine_2 11 rfl rfl)
theorem dX3_shownLine_58 : decode cX3_shownLine 58 = .ok (.invokevirtual 118, 3) := dk_182 0 118 (dk_at dksX3_shownLine_2 12 rfl rfl)
theorem dX3_shownLine_61 : decode cX3_shownLine 61 = .ok (.aload_n 0, 1) := dk_42 (dk_at dksX3_shownLine_2 15 rfl rfl)
theorem dX3_shownLine_62 : decode cX3_shownLine 62 = .ok (.getfield 18, 3) := dk_180 0 18 (dk_at dksX3_shownLine_2 16 rfl rfl)
theorem dX3_shownLine_65 : decode cX3_shownLine 65 = .ok (.getfield 228, 3) := dk_180 0 228 (dk_at dksX3_shownLine_2 19 rfl rfl)
theorem dX3_shownLine_68 : decode cX3_shownLine 68 = .ok (.new 231, 3) := dk_187 0 231 (dk_at dksX3_shownLine_3 0 rfl rfl)
theorem dX3_shownLine_71 : decode cX3_shownLine 71 = .ok (.dup, 1) := dk_89 (dk_at dksX3_shownLine_3 3 rfl rfl)
theorem dX3_shownLine_72 : decode cX3_shownLine 72 = .ok (.iload_n 1, 1) := dk_27 (dk_at dksX3_shownLine_3 4 rfl rfl)
theorem dX3_shownLine_73 : decode cX3_shownLine 73 = .ok (.iload_n 2, 1) := dk_28 (dk_at dksX3_shownLine_3 5 rfl rfl)
theorem dX3_shownLine_74 : decode cX3_shownLine 74 = .ok (.iload_n 3, 1) := dk_29 (dk_at dksX3_shownLine_3 6 rfl rfl)
theorem dX3_shownLine_75 : decode cX3_shownLine 75 = .ok (.invokespecial 233, 3) := dk_183 0 233 (dk_at dksX3_shownLine_3 7 rfl rfl)
theorem dX3_shownLine_78 : decode cX3_shownLine 78 = .ok (.invokevirtual 144, 3) := dk_182 0 144 (dk_at dksX3_shownLine_3 10 rfl rfl)
theorem dX3_shownLine_81 : decode cX3_shownLine 81 = .ok (.pop, 1) := dk_87 (dk_at dksX3_shownLine_3 13 rfl rfl)
theorem dX3_shownLine_82 : decode cX3_shownLine 82 = .ok (.return_, 1) := dk_177 (dk_at dksX3_shownLine_3 14 rfl rfl)
theorem q175 : (Jvm.Cond.initialized "FilingChains$Reader") ∈ lw_all := lw_g (lw_at lw_m1 12 rfl) rfl
theorem q290 : (Jvm.Cond.fieldLinkNest "FilingChains$Reader" (165 : Nat) "FilingChains$Office" "limits" "[I" "FilingChains") ∈ lw_tbl := lw_at lw_m1 127 rfl
theorem q295 : (Jvm.Cond.fieldLinkNest "FilingChains$Reader" (179 : Nat) "FilingChains$Office" "filings" "Ljava/util/ArrayList;" "FilingChains") ∈ lw_tbl := lw_at lw_m1 132 rfl
theorem q299 : (Jvm.Cond.fieldLinkNest "FilingChains$Reader" (201 : Nat) "FilingChains$Office" "links" "Ljava/util/LinkedList;" "FilingChains") ∈ lw_tbl := lw_at lw_m1 136 rfl
theorem q302 : (Jvm.Cond.fieldLinkNest "FilingChains$Reader" (222 : Nat) "FilingChains$Office" "claims" "Ljava/util/ArrayList;" "FilingChains") ∈ lw_tbl := lw_at lw_m1 139 rfl
theorem q305 : (Jvm.Cond.fieldLinkNest "FilingChains$Reader" (228 : Nat) "FilingChains$Office" "things" "Ljava/util/ArrayList;" "FilingChains") ∈ lw_tbl := lw_at lw_m1 142 rfl
theorem q349 : (Jvm.Cond.fieldLinkNest "FilingChains$Reader" (81 : Nat) "FilingChains" "tape" "[B" "FilingChains") ∈ lw_tbl := lw_at lw_m1 186 rfl
theorem q405 : (Jvm.Cond.instantiable "FilingChains$Reader" (12 : Nat)) ∈ lw_all := lw_g (lw_at lw_m2 2 rfl) rfl
theorem q407 : (Jvm.Cond.instanceMethod ({ cls := "FilingChains$Reader", name := "<init>", desc := "(LFilingChains;I)V" } : Jvm.MethodName)) ∈ lw_all := lw_g (lw_at lw_m2 4 rfl) rfl
theorem q408 : (Jvm.Cond.code ({ cls := "FilingChains$Reader", name := "<init>", desc := "(LFilingChains;I)V" } : Jvm.MethodName) prog_8_method_1_code (3 : Nat) (Option.none : Option Jvm.ClassFile.FieldType)) ∈ lw_all := lw_g (lw_at lw_m2 5 rfl) rfl
theorem q409 : (Jvm.Cond.methodLink "FilingChains$Reader" (9 : Nat) ({ cls := "java/lang/Object", name := "<init>", desc := "()V" } : Jvm.MethodName)) ∈ lw_all := lw_g (lw_at lw_m2 6 rfl) rfl
theorem q410 : (Jvm.Cond.classLink "FilingChains$Reader" (15 : Nat) "FilingChains$Office") ∈ lw_all := lw_g (lw_at lw_m2 7 rfl) rfl
theorem q411 : (Jvm.Cond.methodLinkNest "FilingChains$Reader" (17 : Nat) ({ cls := "FilingChains$Office", name := "<init>", desc := "()V" } : Jvm.MethodName) "FilingChains") ∈ lw_tbl := lw_at lw_m2 8 rfl
theorem q412 : (Jvm.Cond.stringRef "FilingChains$Reader" (22 : Nat) "term") ∈ lw_tbl := lw_at lw_m2 9 rfl
theorem q413 : (Jvm.Cond.stringRef "FilingChains$Reader" (24 : Nat) "grace") ∈ lw_tbl := lw_at lw_m2 10 rfl
theorem q414 : (Jvm.Cond.stringRef "FilingChains$Reader" (26 : Nat) "shelf") ∈ lw_tbl := lw_at lw_m2 11 rfl
theorem q415 : (Jvm.Cond.stringRef "FilingChains$Reader" (28 : Nat) "life") ∈ lw_tbl := lw_at lw_m2 12 rfl
theorem q416 : (Jvm.Cond.stringRef "FilingChains$Reader" (30 : Nat) "part") ∈ lw_tbl := lw_at lw_m2 13 rfl
theorem q417 : (Jvm.Cond.stringRef "FilingChains$Reader" (32 : Nat) "filer") ∈ lw_tbl := lw_at lw_m2 14 rfl
theorem q418 : (Jvm.Cond.stringRef "FilingChains$Reader" (34 : Nat) "filing") ∈ lw_tbl := lw_at lw_m2 15 rfl
theorem q419 : (Jvm.Cond.stringRef "FilingChains$Reader" (36 : Nat) "adds") ∈ lw_tbl := lw_at lw_m2 16 rfl
theorem q420 : (Jvm.Cond.stringRef "FilingChains$Reader" (38 : Nat) "from") ∈ lw_tbl := lw_at lw_m2 17 rfl
theorem q421 : (Jvm.Cond.stringRef "FilingChains$Reader" (40 : Nat) "goes") ∈ lw_tbl := lw_at lw_m2 18 rfl
theorem q422 : (Jvm.Cond.methodLink "FilingChains$Reader" (42 : Nat) ({ cls := "java/util/List", name := "of", desc := "(Ljava/lang/Object;Ljava/lang/Object;Ljava/lang/Object;Ljava/lang/Object;Ljava/lang/Object;Ljava/lang/Object;Ljava/lang/Object;Ljava/lang/Object;Ljava/lang/Object;Ljava/lang/Object;)Ljava/util/List;" } : Jvm.MethodName)) ∈ lw_all := lw_g (lw_at lw_m2 19 rfl) rfl
theorem q441 : (Jvm.Cond.selects "FilingChains$Reader" ({ cls := "java/lang/Object", name := "getClass", desc := "()Ljava/lang/Class;" } : Jvm.MethodName) ({ cls := "java/lang/Object", name := "getClass", desc := "()Ljava/lang/Class;" } : Jvm.MethodName)) ∈ lw_all := lw_g (lw_at lw_m2 38 rfl) rfl
theorem q509 : (Jvm.Cond.stringRef "FilingChains$Reader" (52 : Nat) "ends") ∈ lw_tbl := lw_at lw_m2 106 rfl
theorem q510 : (Jvm.Cond.stringRef "FilingChains$Reader" (54 : Nat) "claim") ∈ lw_tbl := lw_at lw_m2 107 rfl
theorem q511 : (Jvm.Cond.stringRef "FilingChains$Reader" (56 : Nat) "shown") ∈ lw_tbl := lw_at lw_m2 108 rfl
theorem q512 : (Jvm.Cond.methodLink "FilingChains$Reader" (58 : Nat) ({ cls := "java/util/List", name := "of", desc := "(Ljava/lang/Object;Ljava/lang/Object;Ljava/lang/Object;)Ljava/util/List;" } : Jvm.MethodName)) ∈ lw_all := lw_g (lw_at lw_m2 109 rfl) rfl
theorem q515 : (Jvm.Cond.classLink "FilingChains$Reader" (64 : Nat) "java/util/ArrayList") ∈ lw_all := lw_g (lw_at lw_m2 112 rfl) rfl
theorem q516 : (Jvm.Cond.methodLink "FilingChains$Reader" (66 : Nat) ({ cls := "java/util/ArrayList", name := "<init>", desc := "()V" } : Jvm.MethodName)) ∈ lw_all := lw_g (lw_at lw_m2 113 rfl) rfl
theorem q517 : (Jvm.Cond.fieldLink "FilingChains$Reader" (77 : Nat) "FilingChains$Reader" "size" "I") ∈ lw_all := lw_g (lw_at lw_m2 114 rfl) rfl
theorem q518 : (Jvm.Cond.fieldLink "FilingChains$Reader" (18 : Nat) "FilingChains$Reader" "o" "LFilingChains$Office;") ∈ lw_all := lw_g (lw_at lw_m2 115 rfl) rfl
theorem q520 : (Jvm.Cond.fieldLink "FilingChains$Reader" (48 : Nat) "FilingChains$Reader" "words" "Ljava/util/List;") ∈ lw_all := lw_g (lw_at lw_m2 117 rfl) rfl
theorem q521 : (Jvm.Cond.fieldLink "FilingChains$Reader" (61 : Nat) "FilingChains$Reader" "more" "Ljava/util/List;") ∈ lw_all := lw_g (lw_at lw_m2 118 rfl) rfl
theorem q522 : (Jvm.Cond.fieldLink "FilingChains$Reader" (67 : Nat) "FilingChains$Reader" "parts" "Ljava/util/ArrayList;") ∈ lw_all := lw_g (lw_at lw_m2 119 rfl) rfl
theorem q524 : (Jvm.Cond.fieldLink "FilingChains$Reader" (71 : Nat) "FilingChains$Reader" "filers" "Ljava/util/ArrayList;") ∈ lw_all := lw_g (lw_at lw_m2 121 rfl) rfl
theorem q526 : (Jvm.Cond.fieldLink "FilingChains$Reader" (74 : Nat) "FilingChains$Reader" "filings" "Ljava/util/ArrayList;") ∈ lw_all := lw_g (lw_at lw_m2 123 rfl) rfl
theorem q528 : (Jvm.Cond.fieldLink "FilingChains$Reader" (101 : Nat) "FilingChains$Reader" "at" "I") ∈ lw_all := lw_g (lw_at lw_m2 125 rfl) rfl
theorem q529 : (Jvm.Cond.fieldLink "FilingChains$Reader" (95 : Nat) "FilingChains$Reader" "place" "I") ∈ lw_all := lw_g (lw_at lw_m2 126 rfl) rfl
theorem q530 : (Jvm.Cond.fieldLink "FilingChains$Reader" (162 : Nat) "FilingChains$Reader" "told" "I") ∈ lw_all := lw_g (lw_at lw_m2 127 rfl) rfl
theorem q532 : (Jvm.Cond.fieldLink "FilingChains$Reader" (258 : Nat) "FilingChains$Reader" "read" "I") ∈ lw_all := lw_g (lw_at lw_m2 129 rfl) rfl
theorem q533 : (Jvm.Cond.fieldLink "FilingChains$Reader" (3 : Nat) "FilingChains$Reader" "this$0" "LFilingChains;") ∈ lw_all := lw_g (lw_at lw_m2 130 rfl) rfl
theorem q534 : (Jvm.Cond.laysFinal "FilingChains$Reader" "FilingChains$Reader" "size" "I") ∈ lw_all := lw_g (lw_at lw_m2 131 rfl) rfl
theorem q535 : (Jvm.Cond.soleField "FilingChains$Reader" "size") ∈ lw_all := lw_g (lw_at lw_m2 132 rfl) rfl
theorem q536 : (Jvm.Cond.laysFinal "FilingChains$Reader" "FilingChains$Reader" "o" "LFilingChains$Office;") ∈ lw_all := lw_g (lw_at lw_m2 133 rfl) rfl
theorem q537 : (Jvm.Cond.soleField "FilingChains$Reader" "o") ∈ lw_all := lw_g (lw_at lw_m2 134 rfl) rfl
theorem q538 : (Jvm.Cond.laysFinal "FilingChains$Reader" "FilingChains$Reader" "words" "Ljava/util/List;") ∈ lw_all := lw_g (lw_at lw_m2 135 rfl) rfl
theorem q539 : (Jvm.Cond.soleField "FilingChains$Reader" "words") ∈ lw_all := lw_g (lw_at lw_m2 136 rfl) rfl
theorem q540 : (Jvm.Cond.laysFinal "FilingChains$Reader" "FilingChains$Reader" "more" "Ljava/util/List;") ∈ lw_all := lw_g (lw_at lw_m2 137 rfl) rfl
theorem q541 : (Jvm.Cond.soleField "FilingChains$Reader" "more") ∈ lw_all := lw_g (lw_at lw_m2 138 rfl) rfl
theorem q542 : (Jvm.Cond.laysFinal "FilingChains$Reader" "FilingChains$Reader" "parts" "Ljava/util/ArrayList;") ∈ lw_all := lw_g (lw_at lw_m2 139 rfl) rfl
theorem q543 : (Jvm.Cond.soleField "FilingChains$Reader" "parts") ∈ lw_all := lw_g (lw_at lw_m2 140 rfl) rfl
theorem q544 : (Jvm.Cond.laysFinal "FilingChains$Reader" "FilingChains$Reader" "filers" "Ljava/util/ArrayList;") ∈ lw_all := lw_g (lw_at lw_m2 141 rfl) rfl
theorem q545 : (Jvm.Cond.soleField "FilingChains$Reader" "filers") ∈ lw_all := lw_g (lw_at lw_m2 142 rfl) rfl
theorem q546 : (Jvm.Cond.laysFinal "FilingChains$Reader" "FilingChains$Reader" "filings" "Ljava/util/ArrayList;") ∈ lw_all := lw_g (lw_at lw_m2 143 rfl) rfl
theorem q547 : (Jvm.Cond.soleField "FilingChains$Reader" "filings") ∈ lw_all := lw_g (lw_at lw_m2 144 rfl) rfl
theorem q548 : (Jvm.Cond.lays "FilingChains$Reader" "FilingChains$Reader" "at" "I") ∈ lw_all := lw_g (lw_at lw_m2 145 rfl) rfl
theorem q549 : (Jvm.Cond.soleField "FilingChains$Reader" "at") ∈ lw_all := lw_g (lw_at lw_m2 146 rfl) rfl
theorem q550 : (Jvm.Cond.lays "FilingChains$Reader" "FilingChains$Reader" "place" "I") ∈ lw_all := lw_g (lw_at lw_m2 147 rfl) rfl
theorem q551 : (Jvm.Cond.soleField "FilingChains$Reader" "place") ∈ lw_all := lw_g (lw_at lw_m2 148 rfl) rfl
theorem q552 : (Jvm.Cond.lays "FilingChains$Reader" "FilingChains$Reader" "told" "I") ∈ lw_all := lw_g (lw_at lw_m2 149 rfl) rfl
theorem q553 : (Jvm.Cond.soleField "FilingChains$Reader" "told") ∈ lw_all := lw_g (lw_at lw_m2 150 rfl) rfl
theorem q554 : (Jvm.Cond.lays "FilingChains$Reader" "FilingChains$Reader" "read" "I") ∈ lw_all := lw_g (lw_at lw_m2 151 rfl) rfl
theorem q555 : (Jvm.Cond.soleField "FilingChains$Reader" "read") ∈ lw_all := lw_g (lw_at lw_m2 152 rfl) rfl
theorem q556 : (Jvm.Cond.laysFinal "FilingChains$Reader" "FilingChains$Reader" "this$0" "LFilingChains;") ∈ lw_all := lw_g (lw_at lw_m2 153 rfl) rfl
theorem q557 : (Jvm.Cond.soleField "FilingChains$Reader" "this$0") ∈ lw_all := lw_g (lw_at lw_m2 154 rfl) rfl
theorem q558 : (Jvm.Cond.superclass "FilingChains$Reader" "java/lang/Object") ∈ lw_all := lw_g (lw_at lw_m2 155 rfl) rfl
theorem q560 : (Jvm.Cond.instanceMethod ({ cls := "FilingChains$Reader", name := "reads", desc := "()V" } : Jvm.MethodName)) ∈ lw_all := lw_g (lw_at lw_m2 157 rfl) rfl
theorem q561 : (Jvm.Cond.selects "FilingChains$Reader" ({ cls := "FilingChains$Reader", name := "reads", desc := "()V" } : Jvm.MethodName) ({ cls := "FilingChains$Reader", name := "reads", desc := "()V" } : Jvm.MethodName)) ∈ lw_all := lw_g (lw_at lw_m2 158 rfl) rfl
theorem q562 : (Jvm.Cond.code ({ cls := "FilingChains$Reader", name := "reads", desc := "()V" } : Jvm.MethodName) prog_8_method_23_code (1 : Nat) (Option.none : Option Jvm.ClassFile.FieldType)) ∈ lw_all := lw_g (lw_at lw_m2 159 rfl) rfl
theorem q563 : (Jvm.Cond.methodLink "FilingChains$Reader" (111 : Nat) ({ cls := "FilingChains$Reader", name := "passes", desc := "()V" } : Jvm.MethodName)) ∈ lw_all := lw_g (lw_at lw_m2 160 rfl) rfl
theorem q564 : (Jvm.Cond.privateMethod ({ cls := "FilingChains$Reader", name := "passes", desc := "()V" } : Jvm.MethodName)) ∈ lw_tbl := lw_at lw_m2 161 rfl
theorem q565 : (Jvm.Cond.instanceMethod ({ cls := "FilingChains$Reader", name := "passes", desc := "()V" } : Jvm.MethodName)) ∈ lw_all := lw_g (lw_at lw_m2 162 rfl) rfl
theorem q566 : (Jvm.Cond.code ({ cls := "FilingChains$Reader", name := "passes", desc := "()V" } : Jvm.MethodName) prog_8_method_6_code (1 : Nat) (Option.none : Option Jvm.ClassFile.FieldType)) ∈ lw_all := lw_g (lw_at lw_m2 163 rfl) rfl
theorem q567 : (Jvm.Cond.methodLink "FilingChains$Reader" (85 : Nat) ({ cls := "FilingChains$Reader", name := "here", desc := "(I)I" } : Jvm.MethodName)) ∈ lw_all := lw_g (lw_at lw_m2 164 rfl) rfl
theorem q568 : (Jvm.Cond.privateMethod ({ cls := "FilingChains$Reader", name := "here", desc := "(I)I" } : Jvm.MethodName)) ∈ lw_tbl := lw_at lw_m2 165 rfl
theorem q569 : (Jvm.Cond.instanceMethod ({ cls := "FilingChains$Reader", name := "here", desc := "(I)I" } : Jvm.MethodName)) ∈ lw_all := lw_g (lw_at lw_m2 166 rfl) rfl
theorem q570 : (Jvm.Cond.code ({ cls := "FilingChains$Reader", name := "here", desc := "(I)I" } : Jvm.MethodName) prog_8_method_2_code (2 : Nat) (Option.some Jvm.ClassFile.FieldType.int)) ∈ lw_all := lw_g (lw_at lw_m2 167 rfl) rfl
theorem q571 : (Jvm.Cond.methodLink "FilingChains$Reader" (261 : Nat) ({ cls := "FilingChains$Reader", name := "line", desc := "()V" } : Jvm.MethodName)) ∈ lw_all := lw_g (lw_at lw_m2 168 rfl) rfl
theorem q572 : (Jvm.Cond.privateMethod ({ cls := "FilingChains$Reader", name := "line", desc := "()V" } : Jvm.MethodName)) ∈ lw_tbl := lw_at lw_m2 169 rfl
theorem q573 : (Jvm.Cond.instanceMethod ({ cls := "FilingChains$Reader", name := "line", desc := "()V" } : Jvm.MethodName)) ∈ lw_all := lw_g (lw_at lw_m2 170 rfl) rfl
theorem q574 : (Jvm.Cond.code ({ cls := "FilingChains$Reader", name := "line", desc := "()V" } : Jvm.MethodName) prog_8_method_22_code (3 : Nat) (Option.none : Option Jvm.ClassFile.FieldType)) ∈ lw_all := lw_g (lw_at lw_m2 171 rfl) rfl
theorem q575 : (Jvm.Cond.methodLink "FilingChains$Reader" (133 : Nat) ({ cls := "FilingChains$Reader", name := "word", desc := "()Ljava/lang/String;" } : Jvm.MethodName)) ∈ lw_all := lw_g (lw_at lw_m2 172 rfl) rfl
theorem q576 : (Jvm.Cond.privateMethod ({ cls := "FilingChains$Reader", name := "word", desc := "()Ljava/lang/String;" } : Jvm.MethodName)) ∈ lw_tbl := lw_at lw_m2 173 rfl
theorem q577 : (Jvm.Cond.instanceMethod ({ cls := "FilingChains$Reader", name := "word", desc := "()Ljava/lang/String;" } : Jvm.MethodName)) ∈ lw_all := lw_g (lw_at lw_m2 174 rfl) rfl
theorem q578 : (Jvm.Cond.code ({ cls := "FilingChains$Reader", name := "word", desc := "()Ljava/lang/String;" } : Jvm.MethodName) prog_8_method_8_code (3 : Nat) (Option.some (Jvm.ClassFile.FieldType.object "java/lang/String"))) ∈ lw_all := lw_g (lw_at lw_m2 175 rfl) rfl
theorem q579 : (Jvm.Cond.methodLink "FilingChains$Reader" (104 : Nat) ({ cls := "FilingChains$Reader", name := "isLetter", desc := "(I)Z" } : Jvm.MethodName)) ∈ lw_all := lw_g (lw_at lw_m2 176 rfl) rfl
theorem q580 : (Jvm.Cond.privateMethod ({ cls := "FilingChains$Reader", name := "isLetter", desc := "(I)Z" } : Jvm.MethodName)) ∈ lw_tbl := lw_at lw_m2 177 rfl
theorem q581 : (Jvm.Cond.instanceMethod ({ cls := "FilingChains$Reader", name := "isLetter", desc := "(I)Z" } : Jvm.MethodName)) ∈ lw_all := lw_g (lw_at lw_m2 178 rfl) rfl
theorem q582 : (Jvm.Cond.code ({ cls := "FilingChains$Reader", name := "isLetter", desc := "(I)Z" } : Jvm.MethodName) prog_8_method_3_code (2 : Nat) (Option.some Jvm.ClassFile.FieldType.boolean)) ∈ lw_all := lw_g (lw_at lw_m2 179 rfl) rfl
theorem q583 : (Jvm.Cond.methodLinkNest "FilingChains$Reader" (89 : Nat) ({ cls := "FilingChains", name := "within", desc := "(III)Z" } : Jvm.MethodName) "FilingChains") ∈ lw_tbl := lw_at lw_m2 180 rfl
theorem q584 : (Jvm.Cond.methodLink "FilingChains$Reader" (114 : Nat) ({ cls := "FilingChains$Reader", name := "isParted", desc := "()Z" } : Jvm.MethodName)) ∈ lw_all := lw_g (lw_at lw_m2 181 rfl) rfl
theorem q585 : (Jvm.Cond.privateMethod ({ cls := "FilingChains$Reader", name := "isParted", desc := "()Z" } : Jvm.MethodName)) ∈ lw_tbl := lw_at lw_m2 182 rfl
theorem q586 : (Jvm.Cond.instanceMethod ({ cls := "FilingChains$Reader", name := "isParted", desc := "()Z" } : Jvm.MethodName)) ∈ lw_all := lw_g (lw_at lw_m2 183 rfl) rfl
theorem q587 : (Jvm.Cond.code ({ cls := "FilingChains$Reader", name := "isParted", desc := "()Z" } : Jvm.MethodName) prog_8_method_7_code (1 : Nat) (Option.some Jvm.ClassFile.FieldType.boolean)) ∈ lw_all := lw_g (lw_at lw_m2 184 rfl) rfl
theorem q588 : (Jvm.Cond.methodLink "FilingChains$Reader" (108 : Nat) ({ cls := "FilingChains$Reader", name := "isDigit", desc := "(I)Z" } : Jvm.MethodName)) ∈ lw_all := lw_g (lw_at lw_m2 185 rfl) rfl
theorem q589 : (Jvm.Cond.privateMethod ({ cls := "FilingChains$Reader", name := "isDigit", desc := "(I)Z" } : Jvm.MethodName)) ∈ lw_tbl := lw_at lw_m2 186 rfl
theorem q590 : (Jvm.Cond.instanceMethod ({ cls := "FilingChains$Reader", name := "isDigit", desc := "(I)Z" } : Jvm.MethodName)) ∈ lw_all := lw_g (lw_at lw_m2 187 rfl) rfl
theorem q591 : (Jvm.Cond.code ({ cls := "FilingChains$Reader", name := "isDigit", desc := "(I)Z" } : Jvm.MethodName) prog_8_method_4_code (2 : Nat) (Option.some Jvm.ClassFile.FieldType.boolean)) ∈ lw_all := lw_g (lw_at lw_m2 188 rfl) rfl
theorem q592 : (Jvm.Cond.methodLink "FilingChains$Reader" (118 : Nat) ({ cls := "FilingChains$Reader", name := "must", desc := "(ZI)V" } : Jvm.MethodName)) ∈ lw_all := lw_g (lw_at lw_m2 189 rfl) rfl
theorem q593 : (Jvm.Cond.privateMethod ({ cls := "FilingChains$Reader", name := "must", desc := "(ZI)V" } : Jvm.MethodName)) ∈ lw_tbl := lw_at lw_m2 190 rfl
theorem q594 : (Jvm.Cond.instanceMethod ({ cls := "FilingChains$Reader", name := "must", desc := "(ZI)V" } : Jvm.MethodName)) ∈ lw_all := lw_g (lw_at lw_m2 191 rfl) rfl
theorem q595 : (Jvm.Cond.code ({ cls := "FilingChains$Reader", name := "must", desc := "(ZI)V" } : Jvm.MethodName) prog_8_method_5_code (3 : Nat) (Option.none : Option Jvm.ClassFile.FieldType)) ∈ lw_all := lw_g (lw_at lw_m2 192 rfl) rfl
theorem q596 : (Jvm.Cond.classLink "FilingChains$Reader" (93 : Nat) "FilingChains$Fault") ∈ lw_all := lw_g (lw_at lw_m2 193 rfl) rfl
theorem q636 : (Jvm.Cond.methodLink "FilingChains$Reader" (98 : Nat) ({ cls := "FilingChains$Fault", name := "<init>", desc := "(II)V" } : Jvm.MethodName)) ∈ lw_all := lw_g (lw_at lw_m2 233 rfl) rfl
theorem q666 : (Jvm.Cond.classLink "FilingChains$Reader" (122 : Nat) "java/lang/StringBuilder") ∈ lw_all := lw_g (lw_at lw_m3 23 rfl) rfl
theorem q668 : (Jvm.Cond.methodLink "FilingChains$Reader" (124 : Nat) ({ cls := "java/lang/StringBuilder", name := "<init>", desc := "()V" } : Jvm.MethodName)) ∈ lw_all := lw_g (lw_at lw_m3 25 rfl) rfl
theorem q697 : (Jvm.Cond.methodLink "FilingChains$Reader" (125 : Nat) ({ cls := "java/lang/StringBuilder", name := "append", desc := "(C)Ljava/lang/StringBuilder;" } : Jvm.MethodName)) ∈ lw_all := lw_g (lw_at lw_m3 54 rfl) rfl
theorem q792 : (Jvm.Cond.methodLink "FilingChains$Reader" (129 : Nat) ({ cls := "java/lang/StringBuilder", name := "toString", desc := "()Ljava/lang/String;" } : Jvm.MethodName)) ∈ lw_all := lw_g (lw_at lw_m3 149 rfl) rfl
theorem q853 : (Jvm.Cond.interfaceEntry "FilingChains$Reader" (234 : Nat)) ∈ lw_tbl := lw_at lw_m3 210 rfl
theorem q854 : (Jvm.Cond.methodLink "FilingChains$Reader" (234 : Nat) ({ cls := "java/util/List", name := "indexOf", desc := "(Ljava/lang/Object;)I" } : Jvm.MethodName)) ∈ lw_all := lw_g (lw_at lw_m3 211 rfl) rfl
theorem q878 : (Jvm.Cond.selects "FilingChains$Reader" ({ cls := "java/lang/Object", name := "equals", desc := "(Ljava/lang/Object;)Z" } : Jvm.MethodName) ({ cls := "java/lang/Object", name := "equals", desc := "(Ljava/lang/Object;)Z" } : Jvm.MethodName)) ∈ lw_all := lw_g (lw_at lw_m3 235 rfl) rfl
theorem q925 : (Jvm.Cond.interfaceEntry "FilingChains$Reader" (136 : Nat)) ∈ lw_tbl := lw_at lw_m4 42 rfl
theorem q926 : (Jvm.Cond.methodLink "FilingChains$Reader" (136 : Nat) ({ cls := "java/util/List", name := "contains", desc := "(Ljava/lang/Object;)Z" } : Jvm.MethodName)) ∈ lw_all := lw_g (lw_at lw_m4 43 rfl) rfl
theorem q949 : (Jvm.Cond.interfaceEntry "FilingChains$Reader" (235 : Nat)) ∈ lw_tbl := lw_at lw_m4 66 rfl
theorem q950 : (Jvm.Cond.methodLink "FilingChains$Reader" (235 : Nat) ({ cls := "java/util/List", name := "size", desc := "()I" } : Jvm.MethodName)) ∈ lw_all := lw_g (lw_at lw_m4 67 rfl) rfl
theorem q973 : (Jvm.Cond.methodLink "FilingChains$Reader" (236 : Nat) ({ cls := "FilingChains$Reader", name := "limit", desc := "(I)V" } : Jvm.MethodName)) ∈ lw_all := lw_g (lw_at lw_m4 90 rfl) rfl
theorem q974 : (Jvm.Cond.privateMethod ({ cls := "FilingChains$Reader", name := "limit", desc := "(I)V" } : Jvm.MethodName)) ∈ lw_tbl := lw_at lw_m4 91 rfl
theorem q975 : (Jvm.Cond.instanceMethod ({ cls := "FilingChains$Reader", name := "limit", desc := "(I)V" } : Jvm.MethodName)) ∈ lw_all := lw_g (lw_at lw_m4 92 rfl) rfl
theorem q976 : (Jvm.Cond.code ({ cls := "FilingChains$Reader", name := "limit", desc := "(I)V" } : Jvm.MethodName) prog_8_method_15_code (2 : Nat) (Option.none : Option Jvm.ClassFile.FieldType)) ∈ lw_all := lw_g (lw_at lw_m4 93 rfl) rfl
theorem q977 : (Jvm.Cond.methodLinkNest "FilingChains$Reader" (158 : Nat) ({ cls := "FilingChains", name := "has", desc := "(II)Z" } : Jvm.MethodName) "FilingChains") ∈ lw_tbl := lw_at lw_m4 94 rfl
theorem q980 : (Jvm.Cond.methodLink "FilingChains$Reader" (169 : Nat) ({ cls := "FilingChains$Reader", name := "number", desc := "()I" } : Jvm.MethodName)) ∈ lw_all := lw_g (lw_at lw_m4 97 rfl) rfl
theorem q981 : (Jvm.Cond.privateMethod ({ cls := "FilingChains$Reader", name := "number", desc := "()I" } : Jvm.MethodName)) ∈ lw_tbl := lw_at lw_m4 98 rfl
theorem q982 : (Jvm.Cond.instanceMethod ({ cls := "FilingChains$Reader", name := "number", desc := "()I" } : Jvm.MethodName)) ∈ lw_all := lw_g (lw_at lw_m4 99 rfl) rfl
theorem q983 : (Jvm.Cond.code ({ cls := "FilingChains$Reader", name := "number", desc := "()I" } : Jvm.MethodName) prog_8_method_9_code (3 : Nat) (Option.some Jvm.ClassFile.FieldType.int)) ∈ lw_all := lw_g (lw_at lw_m4 100 rfl) rfl
theorem q984 : (Jvm.Cond.methodLink "FilingChains$Reader" (173 : Nat) ({ cls := "java/util/ArrayList", name := "size", desc := "()I" } : Jvm.MethodName)) ∈ lw_all := lw_g (lw_at lw_m4 101 rfl) rfl
theorem q985 : (Jvm.Cond.methodLink "FilingChains$Reader" (175 : Nat) ({ cls := "FilingChains$Reader", name := "names", desc := "(Ljava/util/ArrayList;)V" } : Jvm.MethodName)) ∈ lw_all := lw_g (lw_at lw_m4 102 rfl) rfl
theorem q986 : (Jvm.Cond.privateMethod ({ cls := "FilingChains$Reader", name := "names", desc := "(Ljava/util/ArrayList;)V" } : Jvm.MethodName)) ∈ lw_tbl := lw_at lw_m4 103 rfl
theorem q987 : (Jvm.Cond.instanceMethod ({ cls := "FilingChains$Reader", name := "names", desc := "(Ljava/util/ArrayList;)V" } : Jvm.MethodName)) ∈ lw_all := lw_g (lw_at lw_m4 104 rfl) rfl
theorem q988 : (Jvm.Cond.code ({ cls := "FilingChains$Reader", name := "names", desc := "(Ljava/util/ArrayList;)V" } : Jvm.MethodName) prog_8_method_11_code (3 : Nat) (Option.none : Option Jvm.ClassFile.FieldType)) ∈ lw_all := lw_g (lw_at lw_m4 105 rfl) rfl
theorem q989 : (Jvm.Cond.methodLink "FilingChains$Reader" (140 : Nat) ({ cls := "FilingChains$Reader", name := "name", desc := "()Ljava/lang/String;" } : Jvm.MethodName)) ∈ lw_all := lw_g (lw_at lw_m4 106 rfl) rfl
theorem q990 : (Jvm.Cond.privateMethod ({ cls := "FilingChains$Reader", name := "name", desc := "()Ljava/lang/String;" } : Jvm.MethodName)) ∈ lw_tbl := lw_at lw_m4 107 rfl
theorem q991 : (Jvm.Cond.instanceMethod ({ cls := "FilingChains$Reader", name := "name", desc := "()Ljava/lang/String;" } : Jvm.MethodName)) ∈ lw_all := lw_g (lw_at lw_m4 108 rfl) rfl
theorem q992 : (Jvm.Cond.code ({ cls := "FilingChains$Reader", name := "name", desc := "()Ljava/lang/String;" } : Jvm.MethodName) prog_8_method_10_code (2 : Nat) (Option.some (Jvm.ClassFile.FieldType.object "java/lang/String"))) ∈ lw_all := lw_g (lw_at lw_m4 109 rfl) rfl
theorem q993 : (Jvm.Cond.methodLink "FilingChains$Reader" (143 : Nat) ({ cls := "java/util/ArrayList", name := "contains", desc := "(Ljava/lang/Object;)Z" } : Jvm.MethodName)) ∈ lw_all := lw_g (lw_at lw_m4 110 rfl) rfl
theorem q994 : (Jvm.Cond.methodLink "FilingChains$Reader" (144 : Nat) ({ cls := "java/util/ArrayList", name := "add", desc := "(Ljava/lang/Object;)Z" } : Jvm.MethodName)) ∈ lw_all := lw_g (lw_at lw_m4 111 rfl) rfl
theorem q1022 : (Jvm.Cond.methodLink "FilingChains$Reader" (240 : Nat) ({ cls := "FilingChains$Reader", name := "filingLine", desc := "()V" } : Jvm.MethodName)) ∈ lw_all := lw_g (lw_at lw_m4 139 rfl) rfl
theorem q1023 : (Jvm.Cond.privateMethod ({ cls := "FilingChains$Reader", name := "filingLine", desc := "()V" } : Jvm.MethodName)) ∈ lw_tbl := lw_at lw_m4 140 rfl
theorem q1024 : (Jvm.Cond.instanceMethod ({ cls := "FilingChains$Reader", name := "filingLine", desc := "()V" } : Jvm.MethodName)) ∈ lw_all := lw_g (lw_at lw_m4 141 rfl) rfl
theorem q1025 : (Jvm.Cond.code ({ cls := "FilingChains$Reader", name := "filingLine", desc := "()V" } : Jvm.MethodName) prog_8_method_16_code (3 : Nat) (Option.none : Option Jvm.ClassFile.FieldType)) ∈ lw_all := lw_g (lw_at lw_m4 142 rfl) rfl
theorem q1026 : (Jvm.Cond.methodLink "FilingChains$Reader" (154 : Nat) ({ cls := "FilingChains$Reader", name := "known", desc := "(Ljava/util/ArrayList;)I" } : Jvm.MethodName)) ∈ lw_all := lw_g (lw_at lw_m4 143 rfl) rfl
theorem q1027 : (Jvm.Cond.privateMethod ({ cls := "FilingChains$Reader", name := "known", desc := "(Ljava/util/ArrayList;)I" } : Jvm.MethodName)) ∈ lw_tbl := lw_at lw_m4 144 rfl
theorem q1028 : (Jvm.Cond.instanceMethod ({ cls := "FilingChains$Reader", name := "known", desc := "(Ljava/util/ArrayList;)I" } : Jvm.MethodName)) ∈ lw_all := lw_g (lw_at lw_m4 145 rfl) rfl
theorem q1029 : (Jvm.Cond.code ({ cls := "FilingChains$Reader", name := "known", desc := "(Ljava/util/ArrayList;)I" } : Jvm.MethodName) prog_8_method_12_code (3 : Nat) (Option.some Jvm.ClassFile.FieldType.int)) ∈ lw_all := lw_g (lw_at lw_m4 146 rfl) rfl
theorem q1030 : (Jvm.Cond.methodLink "FilingChains$Reader" (147 : Nat) ({ cls := "java/util/ArrayList", name := "indexOf", desc := "(Ljava/lang/Object;)I" } : Jvm.MethodName)) ∈ lw_all := lw_g (lw_at lw_m4 147 rfl) rfl
theorem q1031 : (Jvm.Cond.classLink "FilingChains$Reader" (180 : Nat) "FilingChains$Filing") ∈ lw_all := lw_g (lw_at lw_m4 148 rfl) rfl
theorem q1033 : (Jvm.Cond.constant "FilingChains$Reader" (182 : Nat) (65535 : Int32)) ∈ lw_all := lw_g (lw_at lw_m4 150 rfl) rfl
theorem q1034 : (Jvm.Cond.methodLink "FilingChains$Reader" (183 : Nat) ({ cls := "FilingChains$Reader", name := "parts", desc := "(II)I" } : Jvm.MethodName)) ∈ lw_all := lw_g (lw_at lw_m4 151 rfl) rfl
theorem q1035 : (Jvm.Cond.privateMethod ({ cls := "FilingChains$Reader", name := "parts", desc := "(II)I" } : Jvm.MethodName)) ∈ lw_tbl := lw_at lw_m4 152 rfl
theorem q1036 : (Jvm.Cond.instanceMethod ({ cls := "FilingChains$Reader", name := "parts", desc := "(II)I" } : Jvm.MethodName)) ∈ lw_all := lw_g (lw_at lw_m4 153 rfl) rfl
theorem q1037 : (Jvm.Cond.code ({ cls := "FilingChains$Reader", name := "parts", desc := "(II)I" } : Jvm.MethodName) prog_8_method_14_code (5 : Nat) (Option.some Jvm.ClassFile.FieldType.int)) ∈ lw_all := lw_g (lw_at lw_m4 154 rfl) rfl
theorem q1038 : (Jvm.Cond.methodLink "FilingChains$Reader" (151 : Nat) ({ cls := "FilingChains$Reader", name := "isSemicolon", desc := "()Z" } : Jvm.MethodName)) ∈ lw_all := lw_g (lw_at lw_m4 155 rfl) rfl
theorem q1039 : (Jvm.Cond.privateMethod ({ cls := "FilingChains$Reader", name := "isSemicolon", desc := "()Z" } : Jvm.MethodName)) ∈ lw_tbl := lw_at lw_m4 156 rfl
theorem q1040 : (Jvm.Cond.instanceMethod ({ cls := "FilingChains$Reader", name := "isSemicolon", desc := "()Z" } : Jvm.MethodName)) ∈ lw_all := lw_g (lw_at lw_m4 157 rfl) rfl
theorem q1041 : (Jvm.Cond.code ({ cls := "FilingChains$Reader", name := "isSemicolon", desc := "()Z" } : Jvm.MethodName) prog_8_method_13_code (1 : Nat) (Option.some Jvm.ClassFile.FieldType.boolean)) ∈ lw_all := lw_g (lw_at lw_m4 158 rfl) rfl
theorem q1042 : (Jvm.Cond.methodLink "FilingChains$Reader" (186 : Nat) ({ cls := "FilingChains$Filing", name := "<init>", desc := "(IIII)V" } : Jvm.MethodName)) ∈ lw_all := lw_g (lw_at lw_m4 159 rfl) rfl
theorem q1114 : (Jvm.Cond.fieldLinkNest "FilingChains$Reader" (193 : Nat) "FilingChains$Filing" "day" "I" "FilingChains") ∈ lw_tbl := lw_at lw_m4 231 rfl
theorem q1117 : (Jvm.Cond.fieldLinkNest "FilingChains$Reader" (220 : Nat) "FilingChains$Filing" "ends" "I" "FilingChains") ∈ lw_tbl := lw_at lw_m4 234 rfl
theorem q1134 : (Jvm.Cond.methodLink "FilingChains$Reader" (243 : Nat) ({ cls := "FilingChains$Reader", name := "addsLine", desc := "()V" } : Jvm.MethodName)) ∈ lw_all := lw_g (lw_at lw_m5 11 rfl) rfl
theorem q1135 : (Jvm.Cond.privateMethod ({ cls := "FilingChains$Reader", name := "addsLine", desc := "()V" } : Jvm.MethodName)) ∈ lw_tbl := lw_at lw_m5 12 rfl
theorem q1136 : (Jvm.Cond.instanceMethod ({ cls := "FilingChains$Reader", name := "addsLine", desc := "()V" } : Jvm.MethodName)) ∈ lw_all := lw_g (lw_at lw_m5 13 rfl) rfl
theorem q1137 : (Jvm.Cond.code ({ cls := "FilingChains$Reader", name := "addsLine", desc := "()V" } : Jvm.MethodName) prog_8_method_17_code (4 : Nat) (Option.none : Option Jvm.ClassFile.FieldType)) ∈ lw_all := lw_g (lw_at lw_m5 14 rfl) rfl
theorem q1138 : (Jvm.Cond.methodLink "FilingChains$Reader" (189 : Nat) ({ cls := "FilingChains$Office", name := "filed", desc := "(I)LFilingChains$Filing;" } : Jvm.MethodName)) ∈ lw_all := lw_g (lw_at lw_m5 15 rfl) rfl
theorem q1155 : (Jvm.Cond.methodLink "FilingChains$Reader" (196 : Nat) ({ cls := "FilingChains$Filing", name := "all", desc := "()I" } : Jvm.MethodName)) ∈ lw_all := lw_g (lw_at lw_m5 32 rfl) rfl
theorem q1174 : (Jvm.Cond.methodLink "FilingChains$Reader" (199 : Nat) ({ cls := "FilingChains$Filing", name := "adds", desc := "(II)V" } : Jvm.MethodName)) ∈ lw_all := lw_g (lw_at lw_m5 51 rfl) rfl
theorem q1185 : (Jvm.Cond.methodLink "FilingChains$Reader" (246 : Nat) ({ cls := "FilingChains$Reader", name := "linkLine", desc := "(I)V" } : Jvm.MethodName)) ∈ lw_all := lw_g (lw_at lw_m5 62 rfl) rfl
theorem q1186 : (Jvm.Cond.privateMethod ({ cls := "FilingChains$Reader", name := "linkLine", desc := "(I)V" } : Jvm.MethodName)) ∈ lw_tbl := lw_at lw_m5 63 rfl
theorem q1187 : (Jvm.Cond.instanceMethod ({ cls := "FilingChains$Reader", name := "linkLine", desc := "(I)V" } : Jvm.MethodName)) ∈ lw_all := lw_g (lw_at lw_m5 64 rfl) rfl
theorem q1188 : (Jvm.Cond.code ({ cls := "FilingChains$Reader", name := "linkLine", desc := "(I)V" } : Jvm.MethodName) prog_8_method_18_code (4 : Nat) (Option.none : Option Jvm.ClassFile.FieldType)) ∈ lw_all := lw_g (lw_at lw_m5 65 rfl) rfl
theorem q1189 : (Jvm.Cond.methodLink "FilingChains$Reader" (205 : Nat) ({ cls := "java/util/LinkedList", name := "size", desc := "()I" } : Jvm.MethodName)) ∈ lw_all := lw_g (lw_at lw_m5 66 rfl) rfl
theorem q1190 : (Jvm.Cond.methodLink "FilingChains$Reader" (208 : Nat) ({ cls := "FilingChains$Office", name := "hasLink", desc := "(III)Z" } : Jvm.MethodName)) ∈ lw_all := lw_g (lw_at lw_m5 67 rfl) rfl
theorem q1528 : (Jvm.Cond.methodLink "FilingChains$Reader" (211 : Nat) ({ cls := "FilingChains$Office", name := "isLater", desc := "(II)Z" } : Jvm.MethodName)) ∈ lw_all := lw_g (lw_at lw_m6 165 rfl) rfl
theorem q1533 : (Jvm.Cond.classLink "FilingChains$Reader" (214 : Nat) "FilingChains$Link") ∈ lw_all := lw_g (lw_at lw_m6 170 rfl) rfl
theorem q1535 : (Jvm.Cond.methodLink "FilingChains$Reader" (216 : Nat) ({ cls := "FilingChains$Link", name := "<init>", desc := "(III)V" } : Jvm.MethodName)) ∈ lw_all := lw_g (lw_at lw_m6 172 rfl) rfl
theorem q1554 : (Jvm.Cond.methodLink "FilingChains$Reader" (219 : Nat) ({ cls := "java/util/LinkedList", name := "add", desc := "(Ljava/lang/Object;)Z" } : Jvm.MethodName)) ∈ lw_all := lw_g (lw_at lw_m6 191 rfl) rfl
theorem q1583 : (Jvm.Cond.methodLink "FilingChains$Reader" (249 : Nat) ({ cls := "FilingChains$Reader", name := "endsLine", desc := "()V" } : Jvm.MethodName)) ∈ lw_all := lw_g (lw_at lw_m6 220 rfl) rfl
theorem q1584 : (Jvm.Cond.privateMethod ({ cls := "FilingChains$Reader", name := "endsLine", desc := "()V" } : Jvm.MethodName)) ∈ lw_tbl := lw_at lw_m6 221 rfl
theorem q1585 : (Jvm.Cond.instanceMethod ({ cls := "FilingChains$Reader", name := "endsLine", desc := "()V" } : Jvm.MethodName)) ∈ lw_all := lw_g (lw_at lw_m6 222 rfl) rfl
theorem q1586 : (Jvm.Cond.code ({ cls := "FilingChains$Reader", name := "endsLine", desc := "()V" } : Jvm.MethodName) prog_8_method_19_code (3 : Nat) (Option.none : Option Jvm.ClassFile.FieldType)) ∈ lw_all := lw_g (lw_at lw_m6 223 rfl) rfl
theorem q1587 : (Jvm.Cond.methodLink "FilingChains$Reader" (252 : Nat) ({ cls := "FilingChains$Reader", name := "claimLine", desc := "()V" } : Jvm.MethodName)) ∈ lw_all := lw_g (lw_at lw_m6 224 rfl) rfl
theorem q1588 : (Jvm.Cond.privateMethod ({ cls := "FilingChains$Reader", name := "claimLine", desc := "()V" } : Jvm.MethodName)) ∈ lw_tbl := lw_at lw_m6 225 rfl
theorem q1589 : (Jvm.Cond.instanceMethod ({ cls := "FilingChains$Reader", name := "claimLine", desc := "()V" } : Jvm.MethodName)) ∈ lw_all := lw_g (lw_at lw_m6 226 rfl) rfl
theorem q1590 : (Jvm.Cond.code ({ cls := "FilingChains$Reader", name := "claimLine", desc := "()V" } : Jvm.MethodName) prog_8_method_20_code (3 : Nat) (Option.none : Option Jvm.ClassFile.FieldType)) ∈ lw_all := lw_g (lw_at lw_m6 227 rfl) rfl
theorem q1591 : (Jvm.Cond.classLink "FilingChains$Reader" (225 : Nat) "FilingChains$Claim") ∈ lw_all := lw_g (lw_at lw_m6 228 rfl) rfl
theorem q1593 : (Jvm.Cond.methodLink "FilingChains$Reader" (227 : Nat) ({ cls := "FilingChains$Claim", name := "<init>", desc := "(II)V" } : Jvm.MethodName)) ∈ lw_all := lw_g (lw_at lw_m6 230 rfl) rfl
theorem q1606 : (Jvm.Cond.methodLink "FilingChains$Reader" (255 : Nat) ({ cls := "FilingChains$Reader", name := "shownLine", desc := "()V" } : Jvm.MethodName)) ∈ lw_all := lw_g (lw_at lw_m7 3 rfl) rfl
theorem q1607 : (Jvm.Cond.privateMethod ({ cls := "FilingChains$Reader", name := "shownLine", desc := "()V" } : Jvm.MethodName)) ∈ lw_tbl := lw_at lw_m7 4 rfl
theorem q1608 : (Jvm.Cond.instanceMethod ({ cls := "FilingChains$Reader", name := "shownLine", desc := "()V" } : Jvm.MethodName)) ∈ lw_all := lw_g (lw_at lw_m7 5 rfl) rfl
theorem q1609 : (Jvm.Cond.code ({ cls := "FilingChains$Reader", name := "shownLine", desc := "()V" } : Jvm.MethodName) prog_8_method_21_code (4 : Nat) (Option.none : Option Jvm.ClassFile.FieldType)) ∈ lw_all := lw_g (lw_at lw_m7 6 rfl) rfl
theorem q1610 : (Jvm.Cond.classLink "FilingChains$Reader" (231 : Nat) "FilingChains$Thing") ∈ lw_all := lw_g (lw_at lw_m7 7 rfl) rfl
theorem q1612 : (Jvm.Cond.methodLink "FilingChains$Reader" (233 : Nat) ({ cls := "FilingChains$Thing", name := "<init>", desc := "(III)V" } : Jvm.MethodName)) ∈ lw_all := lw_g (lw_at lw_m7 9 rfl) rfl
theorem q3435 : (Jvm.Cond.castable "FilingChains$Reader" "java/lang/Object") ∈ lw_tbl := lw_at lw_m14 152 rfl
theorem in_X3 : ∀ w ∈ wsX30, w ∈ lw_all := lw_in wsX30 [534, 536, 538, 540, 542, 544, 546, 548, 550, 552, 554, 556] (by decide +kernel) (by decide +kernel)

/-! FilingChains$Fault -/
set_option maxRecDepth 100000
def RX4 : String := "FilingChains$Fault"
def TX4 : u_T := fun k => match k with
  | 0 => ("java/lang/Throwable", "cause", "Ljava/lang/Throwable;", false)
  | 1 => ("java/lang/Throwable", "stackTrace", "[Ljava/lang/StackTraceElement;", false)
  | 2 => ("java/lang/Throwable", "suppressedExceptions", "Ljava/util/List;", false)
  | 3 => ("java/lang/Throwable", "detailMessage", "Ljava/lang/String;", false)
  | 4 => ("java/lang/Throwable", "backtrace", "Ljava/lang/Object;", false)
  | 5 => ("java/lang/Throwable", "depth", "I", false)
  | 6 => ("FilingChains$Fault", "kind", "I", true)
  | _ => ("FilingChains$Fault", "place", "I", true)
def tyX4 : Nat → FieldType := fun k => match k with
  | 0 => .object "java/lang/Throwable"
  | 1 => .array (.object "java/lang/StackTraceElement")
  | 2 => .object "java/util/List"
  | 3 => .object "java/lang/String"
  | 4 => .object "java/lang/Object"
  | 5 => .int
  | 6 => .int
  | _ => .int
abbrev wsX40 : List Cond := u_ws RX4 TX4 8
theorem nmX4 : ∀ a, a < 8 → ∀ b, b < 8 → a ≠ b → (TX4 a).2.1 ≠ (TX4 b).2.1 := by decide +kernel
theorem tyX4_ok : ∀ k, k < 8 → parseFieldDescriptor (TX4 k).2.2.1 = some (tyX4 k) := by decide +kernel
abbrev cX4_init : ByteArray := prog_4_method_1_code
def yX4_init : MethodName := ⟨RX4, "<init>", "(II)V"⟩
def dkwX4_init_0 : List UInt8 := [42, 1, 1, 3, 3, 183, 0, 1, 42, 27, 181, 0, 7, 42, 28, 181, 0, 13, 177]
abbrev dktX4_init_0 : List UInt8 := dkwX4_init_0 ++ []
theorem dksX4_init_0 : cX4_init.data.toList.drop 0 = dktX4_init_0 := by decide +kernel
theorem dX4_init_0 : decode cX4_init 0 = .ok (.aload_n 0, 1) := dk_42 (dk_at dksX4_init_0 0 rfl rfl)
theorem dX4_init_1 : decode cX4_init 1 = .ok (.aconst_null, 1) := dk_1 (dk_at dksX4_init_0 1 rfl rfl)
theorem dX4_init_2 : decode cX4_init 2 = .ok (.aconst_null, 1) := dk_1 (dk_at dksX4_init_0 2 rfl rfl)
theorem dX4_init_3 : decode cX4_init 3 = .ok (.iconst 0, 1) := dk_3 (dk_at dksX4_init_0 3 rfl rfl)
theorem dX4_init_4 : decode cX4_init 4 = .ok (.iconst 0, 1) := dk_3 (dk_at dksX4_init_0 4 rfl rfl)
theorem dX4_init_5 : decode cX4_init 5 = .ok (.invokespecial 1, 3) := dk_183 0 1 (dk_at dksX4_init_0 5 rfl rfl)
theorem dX4_init_8 : decode cX4_init 8 = .ok (.aload_n 0, 1) := dk_42 (dk_at dksX4_init_0 8 rfl rfl)
theorem dX4_init_9 : decode cX4_init 9 = .ok (.iload_n 1, 1) := dk_27 (dk_at dksX4_init_0 9 rfl rfl)
theorem dX4_init_10 : decode cX4_init 10 = .ok (.putfield 7, 3) := dk_181 0 7 (dk_at dksX4_init_0 10 rfl rfl)
theorem dX4_init_13 : decode cX4_init 13 = .ok (.aload_n 0, 1) := dk_42 (dk_at dksX4_init_0 13 rfl rfl)
theorem dX4_init_14 : decode cX4_init 14 = .ok (.iload_n 2, 1) := dk_28 (dk_at dksX4_init_0 14 rfl rfl)
theorem dX4_init_15 : decode cX4_init 15 = .ok (.putfield 13, 3) := dk_181 0 13 (dk_at dksX4_init_0 15 rfl rfl)
theorem dX4_init_18 : decode cX4_init 18 = .ok (.return_, 1) := dk_177 (dk_at dksX4_init_0 18 rfl rfl)
theorem q183 : (Jvm.Cond.initialized "FilingChains$Fault") ∈ lw_all := lw_g (lw_at lw_m1 20 rfl) rfl
theorem q437 : (Jvm.Cond.selects "FilingChains$Fault" ({ cls := "java/lang/Object", name := "getClass", desc := "()Ljava/lang/Class;" } : Jvm.MethodName) ({ cls := "java/lang/Object", name := "getClass", desc := "()Ljava/lang/Class;" } : Jvm.MethodName)) ∈ lw_all := lw_g (lw_at lw_m2 34 rfl) rfl
theorem q597 : (Jvm.Cond.instantiable "FilingChains$Fault" (8 : Nat)) ∈ lw_all := lw_g (lw_at lw_m2 194 rfl) rfl
theorem q598 : (Jvm.Cond.castable "FilingChains$Fault" "FilingChains$Fault") ∈ lw_tbl := lw_at lw_m2 195 rfl
theorem q603 : (Jvm.Cond.selects "FilingChains$Fault" ({ cls := "java/lang/Throwable", name := "fillInStackTrace", desc := "(I)Ljava/lang/Throwable;" } : Jvm.MethodName) ({ cls := "java/lang/Throwable", name := "fillInStackTrace", desc := "(I)Ljava/lang/Throwable;" } : Jvm.MethodName)) ∈ lw_all := lw_g (lw_at lw_m2 200 rfl) rfl
theorem q604 : (Jvm.Cond.selects "FilingChains$Fault" ({ cls := "java/lang/Throwable", name := "fillInStackTrace", desc := "()Ljava/lang/Throwable;" } : Jvm.MethodName) ({ cls := "java/lang/Throwable", name := "fillInStackTrace", desc := "()Ljava/lang/Throwable;" } : Jvm.MethodName)) ∈ lw_all := lw_g (lw_at lw_m2 201 rfl) rfl
theorem q605 : (Jvm.Cond.lays "FilingChains$Fault" "java/lang/Throwable" "cause" "Ljava/lang/Throwable;") ∈ lw_all := lw_g (lw_at lw_m2 202 rfl) rfl
theorem q607 : (Jvm.Cond.lays "FilingChains$Fault" "java/lang/Throwable" "stackTrace" "[Ljava/lang/StackTraceElement;") ∈ lw_all := lw_g (lw_at lw_m2 204 rfl) rfl
theorem q609 : (Jvm.Cond.lays "FilingChains$Fault" "java/lang/Throwable" "suppressedExceptions" "Ljava/util/List;") ∈ lw_all := lw_g (lw_at lw_m2 206 rfl) rfl
theorem q611 : (Jvm.Cond.lays "FilingChains$Fault" "java/lang/Throwable" "detailMessage" "Ljava/lang/String;") ∈ lw_all := lw_g (lw_at lw_m2 208 rfl) rfl
theorem q613 : (Jvm.Cond.lays "FilingChains$Fault" "java/lang/Throwable" "backtrace" "Ljava/lang/Object;") ∈ lw_all := lw_g (lw_at lw_m2 210 rfl) rfl
theorem q637 : (Jvm.Cond.instanceMethod ({ cls := "FilingChains$Fault", name := "<init>", desc := "(II)V" } : Jvm.MethodName)) ∈ lw_all := lw_g (lw_at lw_m2 234 rfl) rfl
theorem q638 : (Jvm.Cond.code ({ cls := "FilingChains$Fault", name := "<init>", desc := "(II)V" } : Jvm.MethodName) prog_4_method_1_code (3 : Nat) (Option.none : Option Jvm.ClassFile.FieldType)) ∈ lw_all := lw_g (lw_at lw_m2 235 rfl) rfl
theorem q639 : (Jvm.Cond.methodLink "FilingChains$Fault" (1 : Nat) ({ cls := "java/lang/Exception", name := "<init>", desc := "(Ljava/lang/String;Ljava/lang/Throwable;ZZ)V" } : Jvm.MethodName)) ∈ lw_all := lw_g (lw_at lw_m2 236 rfl) rfl
theorem q645 : (Jvm.Cond.fieldLink "FilingChains$Fault" (7 : Nat) "FilingChains$Fault" "kind" "I") ∈ lw_all := lw_g (lw_at lw_m3 2 rfl) rfl
theorem q647 : (Jvm.Cond.fieldLink "FilingChains$Fault" (13 : Nat) "FilingChains$Fault" "place" "I") ∈ lw_all := lw_g (lw_at lw_m3 4 rfl) rfl
theorem q654 : (Jvm.Cond.laysFinal "FilingChains$Fault" "FilingChains$Fault" "kind" "I") ∈ lw_all := lw_g (lw_at lw_m3 11 rfl) rfl
theorem q655 : (Jvm.Cond.soleField "FilingChains$Fault" "kind") ∈ lw_all := lw_g (lw_at lw_m3 12 rfl) rfl
theorem q656 : (Jvm.Cond.laysFinal "FilingChains$Fault" "FilingChains$Fault" "place" "I") ∈ lw_all := lw_g (lw_at lw_m3 13 rfl) rfl
theorem q657 : (Jvm.Cond.soleField "FilingChains$Fault" "place") ∈ lw_all := lw_g (lw_at lw_m3 14 rfl) rfl
theorem q662 : (Jvm.Cond.lays "FilingChains$Fault" "java/lang/Throwable" "depth" "I") ∈ lw_all := lw_g (lw_at lw_m3 19 rfl) rfl
theorem q665 : (Jvm.Cond.superclass "FilingChains$Fault" "java/lang/Exception") ∈ lw_all := lw_g (lw_at lw_m3 22 rfl) rfl
theorem q874 : (Jvm.Cond.selects "FilingChains$Fault" ({ cls := "java/lang/Object", name := "equals", desc := "(Ljava/lang/Object;)Z" } : Jvm.MethodName) ({ cls := "java/lang/Object", name := "equals", desc := "(Ljava/lang/Object;)Z" } : Jvm.MethodName)) ∈ lw_all := lw_g (lw_at lw_m3 231 rfl) rfl
theorem q1379 : (Jvm.Cond.selects "FilingChains$Fault" ({ cls := "java/lang/Throwable", name := "toString", desc := "()Ljava/lang/String;" } : Jvm.MethodName) ({ cls := "java/lang/Throwable", name := "toString", desc := "()Ljava/lang/String;" } : Jvm.MethodName)) ∈ lw_all := lw_g (lw_at lw_m6 16 rfl) rfl
theorem q1388 : (Jvm.Cond.selects "FilingChains$Fault" ({ cls := "java/lang/Throwable", name := "getLocalizedMessage", desc := "()Ljava/lang/String;" } : Jvm.MethodName) ({ cls := "java/lang/Throwable", name := "getLocalizedMessage", desc := "()Ljava/lang/String;" } : Jvm.MethodName)) ∈ lw_all := lw_g (lw_at lw_m6 25 rfl) rfl
theorem q1396 : (Jvm.Cond.selects "FilingChains$Fault" ({ cls := "java/lang/Throwable", name := "getMessage", desc := "()Ljava/lang/String;" } : Jvm.MethodName) ({ cls := "java/lang/Throwable", name := "getMessage", desc := "()Ljava/lang/String;" } : Jvm.MethodName)) ∈ lw_all := lw_g (lw_at lw_m6 33 rfl) rfl
theorem q3437 : (Jvm.Cond.castable "FilingChains$Fault" "java/lang/Object") ∈ lw_tbl := lw_at lw_m14 154 rfl
theorem in_X4 : ∀ w ∈ wsX40, w ∈ lw_all := lw_in wsX40 [605, 607, 609, 611, 613, 662, 654, 656] (by decide +kernel) (by decide +kernel)

/-! FilingChains$Filing -/
set_option maxRecDepth 100000
def RX5 : String := "FilingChains$Filing"
def TX5 : u_T := fun k => match k with
  | 0 => ("FilingChains$Filing", "number", "I", true)
  | 1 => ("FilingChains$Filing", "filer", "I", true)
  | 2 => ("FilingChains$Filing", "since", "[I", true)
  | 3 => ("FilingChains$Filing", "told", "Ljava/util/BitSet;", true)
  | 4 => ("FilingChains$Filing", "added", "Ljava/util/BitSet;", true)
  | 5 => ("FilingChains$Filing", "day", "I", false)
  | _ => ("FilingChains$Filing", "ends", "I", false)
def tyX5 : Nat → FieldType := fun k => match k with
  | 0 => .int
  | 1 => .int
  | 2 => .array .int
  | 3 => .object "java/util/BitSet"
  | 4 => .object "java/util/BitSet"
  | 5 => .int
  | _ => .int
abbrev wsX50 : List Cond := u_ws RX5 TX5 7
theorem nmX5 : ∀ a, a < 7 → ∀ b, b < 7 → a ≠ b → (TX5 a).2.1 ≠ (TX5 b).2.1 := by decide +kernel
theorem tyX5_ok : ∀ k, k < 7 → parseFieldDescriptor (TX5 k).2.2.1 = some (tyX5 k) := by decide +kernel
abbrev cX5_init : ByteArray := prog_5_method_1_code
def yX5_init : MethodName := ⟨RX5, "<init>", "(IIII)V"⟩
def dkwX5_init_2 : List UInt8 := [21, 4, 184, 0, 37, 181, 0, 41, 177]
abbrev dktX5_init_2 : List UInt8 := dkwX5_init_2 ++ []
def dkwX5_init_1 : List UInt8 := [181, 0, 20, 42, 2, 181, 0, 24, 42, 27, 181, 0, 28, 42, 28, 181, 0, 31, 42, 29, 181, 0, 34, 42]
abbrev dktX5_init_1 : List UInt8 := dkwX5_init_1 ++ dktX5_init_2
def dkwX5_init_0 : List UInt8 := [42, 183, 0, 3, 42, 16, 16, 188, 10, 181, 0, 9, 42, 187, 0, 15, 89, 16, 16, 183, 0, 17]
abbrev dktX5_init_0 : List UInt8 := dkwX5_init_0 ++ dktX5_init_1
theorem dksX5_init_0 : cX5_init.data.toList.drop 0 = dktX5_init_0 := by decide +kernel
theorem dksX5_init_1 : cX5_init.data.toList.drop 22 = dktX5_init_1 := dk_seg dksX5_init_0 22 rfl rfl
theorem dksX5_init_2 : cX5_init.data.toList.drop 46 = dktX5_init_2 := dk_seg dksX5_init_1 24 rfl rfl
theorem dX5_init_0 : decode cX5_init 0 = .ok (.aload_n 0, 1) := dk_42 (dk_at dksX5_init_0 0 rfl rfl)
theorem dX5_init_1 : decode cX5_init 1 = .ok (.invokespecial 3, 3) := dk_183 0 3 (dk_at dksX5_init_0 1 rfl rfl)
theorem dX5_init_4 : decode cX5_init 4 = .ok (.aload_n 0, 1) := dk_42 (dk_at dksX5_init_0 4 rfl rfl)
theorem dX5_init_5 : decode cX5_init 5 = .ok (.bipush 16, 2) := dk_16 16 (dk_at dksX5_init_0 5 rfl rfl)
theorem dX5_init_7 : decode cX5_init 7 = .ok (.newarray .int, 2) := dk_188_10 (dk_at dksX5_init_0 7 rfl rfl)
theorem dX5_init_9 : decode cX5_init 9 = .ok (.putfield 9, 3) := dk_181 0 9 (dk_at dksX5_init_0 9 rfl rfl)
theorem dX5_init_12 : decode cX5_init 12 = .ok (.aload_n 0, 1) := dk_42 (dk_at dksX5_init_0 12 rfl rfl)
theorem dX5_init_13 : decode cX5_init 13 = .ok (.new 15, 3) := dk_187 0 15 (dk_at dksX5_init_0 13 rfl rfl)
theorem dX5_init_16 : decode cX5_init 16 = .ok (.dup, 1) := dk_89 (dk_at dksX5_init_0 16 rfl rfl)
theorem dX5_init_17 : decode cX5_init 17 = .ok (.bipush 16, 2) := dk_16 16 (dk_at dksX5_init_0 17 rfl rfl)
theorem dX5_init_19 : decode cX5_init 19 = .ok (.invokespecial 17, 3) := dk_183 0 17 (dk_at dksX5_init_0 19 rfl rfl)
theorem dX5_init_22 : decode cX5_init 22 = .ok (.putfield 20, 3) := dk_181 0 20 (dk_at dksX5_init_1 0 rfl rfl)
theorem dX5_init_25 : decode cX5_init 25 = .ok (.aload_n 0, 1) := dk_42 (dk_at dksX5_init_1 3 rfl rfl)
theorem dX5_init_26 : decode cX5_init 26 = .ok (.iconst (-1), 1) := dk_2 (dk_at dksX5_init_1 4 rfl rfl)
theorem dX5_init_27 : decode cX5_init 27 = .ok (.putfield 24, 3) := dk_181 0 24 (dk_at dksX5_init_1 5 rfl rfl)
theorem dX5_init_30 : decode cX5_init 30 = .ok (.aload_n 0, 1) := dk_42 (dk_at dksX5_init_1 8 rfl rfl)
theorem dX5_init_31 : decode cX5_init 31 = .ok (.iload_n 1, 1) := dk_27 (dk_at dksX5_init_1 9 rfl rfl)
theorem dX5_init_32 : decode cX5_init 32 = .ok (.putfield 28, 3) := dk_181 0 28 (dk_at dksX5_init_1 10 rfl rfl)
theorem dX5_init_35 : decode cX5_init 35 = .ok (.aload_n 0, 1) := dk_42 (dk_at dksX5_init_1 13 rfl rfl)
theorem dX5_init_36 : decode cX5_init 36 = .ok (.iload_n 2, 1) := dk_28 (dk_at dksX5_init_1 14 rfl rfl)
theorem dX5_init_37 : decode cX5_init 37 = .ok (.putfield 31, 3) := dk_181 0 31 (dk_at dksX5_init_1 15 rfl rfl)
theorem dX5_init_40 : decode cX5_init 40 = .ok (.aload_n 0, 1) := dk_42 (dk_at dksX5_init_1 18 rfl rfl)
theorem dX5_init_41 : decode cX5_init 41 = .ok (.iload_n 3, 1) := dk_29 (dk_at dksX5_init_1 19 rfl rfl)
theorem dX5_init_42 : decode cX5_init 42 = .ok (.putfield 34, 3) := dk_181 0 34 (dk_at dksX5_init_1 20 rfl rfl)
theorem dX5_init_45 : decode cX5_init 45 = .ok (.aload_n 0, 1) := dk_42 (dk_at dksX5_init_1 23 rfl rfl)
theorem dX5_init_46 : decode cX5_init 46 = .ok (.iload 4, 2) := dk_21 4 (dk_at dksX5_init_2 0 rfl rfl)
theorem dX5_init_48 : decode cX5_init 48 = .ok (.invokestatic 37, 3) := dk_184 0 37 (dk_at dksX5_init_2 2 rfl rfl)
theorem dX5_init_51 : decode cX5_init 51 = .ok (.putfield 41, 3) := dk_181 0 41 (dk_at dksX5_init_2 5 rfl rfl)
theorem dX5_init_54 : decode cX5_init 54 = .ok (.return_, 1) := dk_177 (dk_at dksX5_init_2 8 rfl rfl)
abbrev cX5_all : ByteArray := prog_5_method_4_code
def yX5_all : MethodName := ⟨RX5, "all", "()I"⟩
def dkwX5_all_0 : List UInt8 := [42, 180, 0, 41, 184, 0, 44, 42, 180, 0, 20, 184, 0, 44, 128, 172]
abbrev dktX5_all_0 : List UInt8 := dkwX5_all_0 ++ []
theorem dksX5_all_0 : cX5_all.data.toList.drop 0 = dktX5_all_0 := by decide +kernel
theorem dX5_all_0 : decode cX5_all 0 = .ok (.aload_n 0, 1) := dk_42 (dk_at dksX5_all_0 0 rfl rfl)
theorem dX5_all_1 : decode cX5_all 1 = .ok (.getfield 41, 3) := dk_180 0 41 (dk_at dksX5_all_0 1 rfl rfl)
theorem dX5_all_4 : decode cX5_all 4 = .ok (.invokestatic 44, 3) := dk_184 0 44 (dk_at dksX5_all_0 4 rfl rfl)
theorem dX5_all_7 : decode cX5_all 7 = .ok (.aload_n 0, 1) := dk_42 (dk_at dksX5_all_0 7 rfl rfl)
theorem dX5_all_8 : decode cX5_all 8 = .ok (.getfield 20, 3) := dk_180 0 20 (dk_at dksX5_all_0 8 rfl rfl)
theorem dX5_all_11 : decode cX5_all 11 = .ok (.invokestatic 44, 3) := dk_184 0 44 (dk_at dksX5_all_0 11 rfl rfl)
theorem dX5_all_14 : decode cX5_all 14 = .ok (.ior, 1) := dk_128 (dk_at dksX5_all_0 14 rfl rfl)
theorem dX5_all_15 : decode cX5_all 15 = .ok (.ireturn, 1) := dk_172 (dk_at dksX5_all_0 15 rfl rfl)
abbrev cX5_adds : ByteArray := prog_5_method_3_code
def yX5_adds : MethodName := ⟨RX5, "adds", "(II)V"⟩
def dkwX5_adds_2 : List UInt8 := [167, 255, 223, 177]
abbrev dktX5_adds_2 : List UInt8 := dkwX5_adds_2 ++ []
def dkwX5_adds_1 : List UInt8 := [28, 29, 184, 0, 61, 153, 0, 7, 27, 167, 0, 9, 42, 180, 0, 9, 29, 46, 79, 132, 3, 1]
abbrev dktX5_adds_1 : List UInt8 := dkwX5_adds_1 ++ dktX5_adds_2
def dkwX5_adds_0 : List UInt8 := [42, 180, 0, 20, 28, 184, 0, 37, 182, 0, 51, 3, 62, 29, 16, 16, 162, 0, 33, 42, 180, 0, 9, 29]
abbrev dktX5_adds_0 : List UInt8 := dkwX5_adds_0 ++ dktX5_adds_1
theorem dksX5_adds_0 : cX5_adds.data.toList.drop 0 = dktX5_adds_0 := by decide +kernel
theorem dksX5_adds_1 : cX5_adds.data.toList.drop 24 = dktX5_adds_1 := dk_seg dksX5_adds_0 24 rfl rfl
theorem dksX5_adds_2 : cX5_adds.data.toList.drop 46 = dktX5_adds_2 := dk_seg dksX5_adds_1 22 rfl rfl
theorem dX5_adds_0 : decode cX5_adds 0 = .ok (.aload_n 0, 1) := dk_42 (dk_at dksX5_adds_0 0 rfl rfl)
theorem dX5_adds_1 : decode cX5_adds 1 = .ok (.getfield 20, 3) := dk_180 0 20 (dk_at dksX5_adds_0 1 rfl rfl)
theorem dX5_adds_4 : decode cX5_adds 4 = .ok (.iload_n 2, 1) := dk_28 (dk_at dksX5_adds_0 4 rfl rfl)
theorem dX5_adds_5 : decode cX5_adds 5 = .ok (.invokestatic 37, 3) := dk_184 0 37 (dk_at dksX5_adds_0 5 rfl rfl)
theorem dX5_adds_8 : decode cX5_adds 8 = .ok (.invokevirtual 51, 3) := dk_182 0 51 (dk_at dksX5_adds_0 8 rfl rfl)
theorem dX5_adds_11 : decode cX5_adds 11 = .ok (.iconst 0, 1) := dk_3 (dk_at dksX5_adds_0 11 rfl rfl)
theorem dX5_adds_12 : decode cX5_adds 12 = .ok (.istore_n 3, 1) := dk_62 (dk_at dksX5_adds_0 12 rfl rfl)
theorem dX5_adds_13 : decode cX5_adds 13 = .ok (.iload_n 3, 1) := dk_29 (dk_at dksX5_adds_0 13 rfl rfl)
theorem dX5_adds_14 : decode cX5_adds 14 = .ok (.bipush 16, 2) := dk_16 16 (dk_at dksX5_adds_0 14 rfl rfl)
theorem dX5_adds_16 : decode cX5_adds 16 = .ok (.if_icmp .ge 33, 3) := dk_162 0 33 (dk_at dksX5_adds_0 16 rfl rfl)
theorem dX5_adds_19 : decode cX5_adds 19 = .ok (.aload_n 0, 1) := dk_42 (dk_at dksX5_adds_0 19 rfl rfl)
theorem dX5_adds_20 : decode cX5_adds 20 = .ok (.getfield 9, 3) := dk_180 0 9 (dk_at dksX5_adds_0 20 rfl rfl)
theorem dX5_adds_23 : decode cX5_adds 23 = .ok (.iload_n 3, 1) := dk_29 (dk_at dksX5_adds_0 23 rfl rfl)
theorem dX5_adds_24 : decode cX5_adds 24 = .ok (.iload_n 2, 1) := dk_28 (dk_at dksX5_adds_1 0 rfl rfl)
theorem dX5_adds_25 : decode cX5_adds 25 = .ok (.iload_n 3, 1) := dk_29 (dk_at dksX5_adds_1 1 rfl rfl)
theorem dX5_adds_26 : decode cX5_adds 26 = .ok (.invokestatic 61, 3) := dk_184 0 61 (dk_at dksX5_adds_1 2 rfl rfl)
theorem dX5_adds_29 : decode cX5_adds 29 = .ok (.ifCond .eq 7, 3) := dk_153 0 7 (dk_at dksX5_adds_1 5 rfl rfl)
theorem dX5_adds_32 : decode cX5_adds 32 = .ok (.iload_n 1, 1) := dk_27 (dk_at dksX5_adds_1 8 rfl rfl)
theorem dX5_adds_33 : decode cX5_adds 33 = .ok (.goto 9, 3) := dk_167 0 9 (dk_at dksX5_adds_1 9 rfl rfl)
theorem dX5_adds_36 : decode cX5_adds 36 = .ok (.aload_n 0, 1) := dk_42 (dk_at dksX5_adds_1 12 rfl rfl)
theorem dX5_adds_37 : decode cX5_adds 37 = .ok (.getfield 9, 3) := dk_180 0 9 (dk_at dksX5_adds_1 13 rfl rfl)
theorem dX5_adds_40 : decode cX5_adds 40 = .ok (.iload_n 3, 1) := dk_29 (dk_at dksX5_adds_1 16 rfl rfl)
theorem dX5_adds_41 : decode cX5_adds 41 = .ok (.iaload, 1) := dk_46 (dk_at dksX5_adds_1 17 rfl rfl)
theorem dX5_adds_42 : decode cX5_adds 42 = .ok (.iastore, 1) := dk_79 (dk_at dksX5_adds_1 18 rfl rfl)
theorem dX5_adds_43 : decode cX5_adds 43 = .ok (.iinc 3 1, 3) := dk_132 3 1 (dk_at dksX5_adds_1 19 rfl rfl)
theorem dX5_adds_46 : decode cX5_adds 46 = .ok (.goto (-33), 3) := dk_167 255 223 (dk_at dksX5_adds_2 0 rfl rfl)
theorem dX5_adds_49 : decode cX5_adds 49 = .ok (.return_, 1) := dk_177 (dk_at dksX5_adds_2 3 rfl rfl)
abbrev cX5_borne : ByteArray := prog_5_method_5_code
def yX5_borne : MethodName := ⟨RX5, "borne", "(I)I"⟩
def dkwX5_borne_2 : List UInt8 := [2, 172, 28, 42, 180, 0, 9, 29, 46, 184, 0, 69, 61, 132, 3, 1, 167, 255, 201, 28, 172]
abbrev dktX5_borne_2 : List UInt8 := dkwX5_borne_2 ++ []
def dkwX5_borne_1 : List UInt8 := [180, 0, 41, 29, 182, 0, 65, 153, 0, 6, 167, 0, 27, 42, 180, 0, 20, 29, 182, 0, 65, 154, 0, 5]
abbrev dktX5_borne_1 : List UInt8 := dkwX5_borne_1 ++ dktX5_borne_2
def dkwX5_borne_0 : List UInt8 := [42, 180, 0, 34, 61, 3, 62, 29, 16, 16, 162, 0, 55, 27, 29, 184, 0, 61, 153, 0, 41, 42]
abbrev dktX5_borne_0 : List UInt8 := dkwX5_borne_0 ++ dktX5_borne_1
theorem dksX5_borne_0 : cX5_borne.data.toList.drop 0 = dktX5_borne_0 := by decide +kernel
theorem dksX5_borne_1 : cX5_borne.data.toList.drop 22 = dktX5_borne_1 := dk_seg dksX5_borne_0 22 rfl rfl
theorem dksX5_borne_2 : cX5_borne.data.toList.drop 46 = dktX5_borne_2 := dk_seg dksX5_borne_1 24 rfl rfl
theorem dX5_borne_0 : decode cX5_borne 0 = .ok (.aload_n 0, 1) := dk_42 (dk_at dksX5_borne_0 0 rfl rfl)
theorem dX5_borne_1 : decode cX5_borne 1 = .ok (.getfield 34, 3) := dk_180 0 34 (dk_at dksX5_borne_0 1 rfl rfl)
theorem dX5_borne_4 : decode cX5_borne 4 = .ok (.istore_n 2, 1) := dk_61 (dk_at dksX5_borne_0 4 rfl rfl)
theorem dX5_borne_5 : decode cX5_borne 5 = .ok (.iconst 0, 1) := dk_3 (dk_at dksX5_borne_0 5 rfl rfl)
theorem dX5_borne_6 : decode cX5_borne 6 = .ok (.istore_n 3, 1) := dk_62 (dk_at dksX5_borne_0 6 rfl rfl)
theorem dX5_borne_7 : decode cX5_borne 7 = .ok (.iload_n 3, 1) := dk_29 (dk_at dksX5_borne_0 7 rfl rfl)
theorem dX5_borne_8 : decode cX5_borne 8 = .ok (.bipush 16, 2) := dk_16 16 (dk_at dksX5_borne_0 8 rfl rfl)
theorem dX5_borne_10 : decode cX5_borne 10 = .ok (.if_icmp .ge 55, 3) := dk_162 0 55 (dk_at dksX5_borne_0 10 rfl rfl)
theorem dX5_borne_13 : decode cX5_borne 13 = .ok (.iload_n 1, 1) := dk_27 (dk_at dksX5_borne_0 13 rfl rfl)
theorem dX5_borne_14 : decode cX5_borne 14 = .ok (.iload_n 3, 1) := dk_29 (dk_at dksX5_borne_0 14 rfl rfl)
theorem dX5_borne_15 : decode cX5_borne 15 = .ok (.invokestatic 61, 3) := dk_184 0 61 (dk_at dksX5_borne_0 15 rfl rfl)
theorem dX5_borne_18 : decode cX5_borne 18 = .ok (.ifCond .eq 41, 3) := dk_153 0 41 (dk_at dksX5_borne_0 18 rfl rfl)
theorem dX5_borne_21 : decode cX5_borne 21 = .ok (.aload_n 0, 1) := dk_42 (dk_at dksX5_borne_0 21 rfl rfl)
theorem dX5_borne_22 : decode cX5_borne 22 = .ok (.getfield 41, 3) := dk_180 0 41 (dk_at dksX5_borne_1 0 rfl rfl)
theorem dX5_borne_25 : decode cX5_borne 25 = .ok (.iload_n 3, 1) := dk_29 (dk_at dksX5_borne_1 3 rfl rfl)
theorem dX5_borne_26 : decode cX5_borne 26 = .ok (.invokevirtual 65, 3) := dk_182 0 65 (dk_at dksX5_borne_1 4 rfl rfl)
theorem dX5_borne_29 : decode cX5_borne 29 = .ok (.ifCond .eq 6, 3) := dk_153 0 6 (dk_at dksX5_borne_1 7 rfl rfl)
theorem dX5_borne_32 : decode cX5_borne 32 = .ok (.goto 27, 3) := dk_167 0 27 (dk_at dksX5_borne_1 10 rfl rfl)
theorem dX5_borne_35 : decode cX5_borne 35 = .ok (.aload_n 0, 1) := dk_42 (dk_at dksX5_borne_1 13 rfl rfl)
theorem dX5_borne_36 : decode cX5_borne 36 = .ok (.getfield 20, 3) := dk_180 0 20 (dk_at dksX5_borne_1 14 rfl rfl)
theorem dX5_borne_39 : decode cX5_borne 39 = .ok (.iload_n 3, 1) := dk_29 (dk_at dksX5_borne_1 17 rfl rfl)
theorem dX5_borne_40 : decode cX5_borne 40 = .ok (.invokevirtual 65, 3) := dk_182 0 65 (dk_at dksX5_borne_1 18 rfl rfl)
theorem dX5_borne_43 : decode cX5_borne 43 = .ok (.ifCond .ne 5, 3) := dk_154 0 5 (dk_at dksX5_borne_1 21 rfl rfl)
theorem dX5_borne_46 : decode cX5_borne 46 = .ok (.iconst (-1), 1) := dk_2 (dk_at dksX5_borne_2 0 rfl rfl)
theorem dX5_borne_47 : decode cX5_borne 47 = .ok (.ireturn, 1) := dk_172 (dk_at dksX5_borne_2 1 rfl rfl)
theorem dX5_borne_48 : decode cX5_borne 48 = .ok (.iload_n 2, 1) := dk_28 (dk_at dksX5_borne_2 2 rfl rfl)
theorem dX5_borne_49 : decode cX5_borne 49 = .ok (.aload_n 0, 1) := dk_42 (dk_at dksX5_borne_2 3 rfl rfl)
theorem dX5_borne_50 : decode cX5_borne 50 = .ok (.getfield 9, 3) := dk_180 0 9 (dk_at dksX5_borne_2 4 rfl rfl)
theorem dX5_borne_53 : decode cX5_borne 53 = .ok (.iload_n 3, 1) := dk_29 (dk_at dksX5_borne_2 7 rfl rfl)
theorem dX5_borne_54 : decode cX5_borne 54 = .ok (.iaload, 1) := dk_46 (dk_at dksX5_borne_2 8 rfl rfl)
theorem dX5_borne_55 : decode cX5_borne 55 = .ok (.invokestatic 69, 3) := dk_184 0 69 (dk_at dksX5_borne_2 9 rfl rfl)
theorem dX5_borne_58 : decode cX5_borne 58 = .ok (.istore_n 2, 1) := dk_61 (dk_at dksX5_borne_2 12 rfl rfl)
theorem dX5_borne_59 : decode cX5_borne 59 = .ok (.iinc 3 1, 3) := dk_132 3 1 (dk_at dksX5_borne_2 13 rfl rfl)
theorem dX5_borne_62 : decode cX5_borne 62 = .ok (.goto (-55), 3) := dk_167 255 201 (dk_at dksX5_borne_2 16 rfl rfl)
theorem dX5_borne_65 : decode cX5_borne 65 = .ok (.iload_n 2, 1) := dk_28 (dk_at dksX5_borne_2 19 rfl rfl)
theorem dX5_borne_66 : decode cX5_borne 66 = .ok (.ireturn, 1) := dk_172 (dk_at dksX5_borne_2 20 rfl rfl)
abbrev cX5_isPending : ByteArray := prog_5_method_6_code
def yX5_isPending : MethodName := ⟨RX5, "isPending", "(I)Z"⟩
def dkwX5_isPending_0 : List UInt8 := [42, 180, 0, 24, 2, 159, 0, 11, 27, 42, 180, 0, 24, 163, 0, 7, 4, 167, 0, 4, 3, 172]
abbrev dktX5_isPending_0 : List UInt8 := dkwX5_isPending_0 ++ []
theorem dksX5_isPending_0 : cX5_isPending.data.toList.drop 0 = dktX5_isPending_0 := by decide +kernel
theorem dX5_isPending_0 : decode cX5_isPending 0 = .ok (.aload_n 0, 1) := dk_42 (dk_at dksX5_isPending_0 0 rfl rfl)
theorem dX5_isPending_1 : decode cX5_isPending 1 = .ok (.getfield 24, 3) := dk_180 0 24 (dk_at dksX5_isPending_0 1 rfl rfl)
theorem dX5_isPending_4 : decode cX5_isPending 4 = .ok (.iconst (-1), 1) := dk_2 (dk_at dksX5_isPending_0 4 rfl rfl)
theorem dX5_isPending_5 : decode cX5_isPending 5 = .ok (.if_icmp .eq 11, 3) := dk_159 0 11 (dk_at dksX5_isPending_0 5 rfl rfl)
theorem dX5_isPending_8 : decode cX5_isPending 8 = .ok (.iload_n 1, 1) := dk_27 (dk_at dksX5_isPending_0 8 rfl rfl)
theorem dX5_isPending_9 : decode cX5_isPending 9 = .ok (.aload_n 0, 1) := dk_42 (dk_at dksX5_isPending_0 9 rfl rfl)
theorem dX5_isPending_10 : decode cX5_isPending 10 = .ok (.getfield 24, 3) := dk_180 0 24 (dk_at dksX5_isPending_0 10 rfl rfl)
theorem dX5_isPending_13 : decode cX5_isPending 13 = .ok (.if_icmp .gt 7, 3) := dk_163 0 7 (dk_at dksX5_isPending_0 13 rfl rfl)
theorem dX5_isPending_16 : decode cX5_isPending 16 = .ok (.iconst 1, 1) := dk_4 (dk_at dksX5_isPending_0 16 rfl rfl)
theorem dX5_isPending_17 : decode cX5_isPending 17 = .ok (.goto 4, 3) := dk_167 0 4 (dk_at dksX5_isPending_0 17 rfl rfl)
theorem dX5_isPending_20 : decode cX5_isPending 20 = .ok (.iconst 0, 1) := dk_3 (dk_at dksX5_isPending_0 20 rfl rfl)
theorem dX5_isPending_21 : decode cX5_isPending 21 = .ok (.ireturn, 1) := dk_172 (dk_at dksX5_isPending_0 21 rfl rfl)
abbrev cX5_copy : ByteArray := prog_5_method_2_code
def yX5_copy : MethodName := ⟨RX5, "copy", "()LFilingChains$Filing;"⟩
def dkwX5_copy_2 : List UInt8 := [3, 16, 16, 184, 0, 55, 43, 42, 180, 0, 24, 181, 0, 24, 43, 176]
abbrev dktX5_copy_2 : List UInt8 := dkwX5_copy_2 ++ []
def dkwX5_copy_1 : List UInt8 := [183, 0, 48, 76, 43, 180, 0, 20, 42, 180, 0, 20, 182, 0, 51, 42, 180, 0, 9, 3, 43, 180, 0, 9]
abbrev dktX5_copy_1 : List UInt8 := dkwX5_copy_1 ++ dktX5_copy_2
def dkwX5_copy_0 : List UInt8 := [187, 0, 10, 89, 42, 180, 0, 28, 42, 180, 0, 31, 42, 180, 0, 34, 42, 180, 0, 41, 184, 0, 44]
abbrev dktX5_copy_0 : List UInt8 := dkwX5_copy_0 ++ dktX5_copy_1
theorem dksX5_copy_0 : cX5_copy.data.toList.drop 0 = dktX5_copy_0 := by decide +kernel
theorem dksX5_copy_1 : cX5_copy.data.toList.drop 23 = dktX5_copy_1 := dk_seg dksX5_copy_0 23 rfl rfl
theorem dksX5_copy_2 : cX5_copy.data.toList.drop 47 = dktX5_copy_2 := dk_seg dksX5_copy_1 24 rfl rfl
theorem dX5_copy_0 : decode cX5_copy 0 = .ok (.new 10, 3) := dk_187 0 10 (dk_at dksX5_copy_0 0 rfl rfl)
theorem dX5_copy_3 : decode cX5_copy 3 = .ok (.dup, 1) := dk_89 (dk_at dksX5_copy_0 3 rfl rfl)
theorem dX5_copy_4 : decode cX5_copy 4 = .ok (.aload_n 0, 1) := dk_42 (dk_at dksX5_copy_0 4 rfl rfl)
theorem dX5_copy_5 : decode cX5_copy 5 = .ok (.getfield 28, 3) := dk_180 0 28 (dk_at dksX5_copy_0 5 rfl rfl)
theorem dX5_copy_8 : decode cX5_copy 8 = .ok (.aload_n 0, 1) := dk_42 (dk_at dksX5_copy_0 8 rfl rfl)
theorem dX5_copy_9 : decode cX5_copy 9 = .ok (.getfield 31, 3) := dk_180 0 31 (dk_at dksX5_copy_0 9 rfl rfl)
theorem dX5_copy_12 : decode cX5_copy 12 = .ok (.aload_n 0, 1) := dk_42 (dk_at dksX5_copy_0 12 rfl rfl)
theorem dX5_copy_13 : decode cX5_copy 13 = .ok (.getfield 34, 3) := dk_180 0 34 (dk_at dksX5_copy_0 13 rfl rfl)
theorem dX5_copy_16 : decode cX5_copy 16 = .ok (.aload_n 0, 1) := dk_42 (dk_at dksX5_copy_0 16 rfl rfl)
theorem dX5_copy_17 : decode cX5_copy 17 = .ok (.getfield 41, 3) := dk_180 0 41 (dk_at dksX5_copy_0 17 rfl rfl)
theorem dX5_copy_20 : decode cX5_copy 20 = .ok (.invokestatic 44, 3) := dk_184 0 44 (dk_at dksX5_copy_0 20 rfl rfl)
theorem dX5_copy_23 : decode cX5_copy 23 = .ok (.invokespecial 48, 3) := dk_183 0 48 (dk_at dksX5_copy_1 0 rfl rfl)
theorem dX5_copy_26 : decode cX5_copy 26 = .ok (.astore_n 1, 1) := dk_76 (dk_at dksX5_copy_1 3 rfl rfl)
theorem dX5_copy_27 : decode cX5_copy 27 = .ok (.aload_n 1, 1) := dk_43 (dk_at dksX5_copy_1 4 rfl rfl)
theorem dX5_copy_28 : decode cX5_copy 28 = .ok (.getfield 20, 3) := dk_180 0 20 (dk_at dksX5_copy_1 5 rfl rfl)
theorem dX5_copy_31 : decode cX5_copy 31 = .ok (.aload_n 0, 1) := dk_42 (dk_at dksX5_copy_1 8 rfl rfl)
theorem dX5_copy_32 : decode cX5_copy 32 = .ok (.getfield 20, 3) := dk_180 0 20 (dk_at dksX5_copy_1 9 rfl rfl)
theorem dX5_copy_35 : decode cX5_copy 35 = .ok (.invokevirtual 51, 3) := dk_182 0 51 (dk_at dksX5_copy_1 12 rfl rfl)
theorem dX5_copy_38 : decode cX5_copy 38 = .ok (.aload_n 0, 1) := dk_42 (dk_at dksX5_copy_1 15 rfl rfl)
theorem dX5_copy_39 : decode cX5_copy 39 = .ok (.getfield 9, 3) := dk_180 0 9 (dk_at dksX5_copy_1 16 rfl rfl)
theorem dX5_copy_42 : decode cX5_copy 42 = .ok (.iconst 0, 1) := dk_3 (dk_at dksX5_copy_1 19 rfl rfl)
theorem dX5_copy_43 : decode cX5_copy 43 = .ok (.aload_n 1, 1) := dk_43 (dk_at dksX5_copy_1 20 rfl rfl)
theorem dX5_copy_44 : decode cX5_copy 44 = .ok (.getfield 9, 3) := dk_180 0 9 (dk_at dksX5_copy_1 21 rfl rfl)
theorem dX5_copy_47 : decode cX5_copy 47 = .ok (.iconst 0, 1) := dk_3 (dk_at dksX5_copy_2 0 rfl rfl)
theorem dX5_copy_48 : decode cX5_copy 48 = .ok (.bipush 16, 2) := dk_16 16 (dk_at dksX5_copy_2 1 rfl rfl)
theorem dX5_copy_50 : decode cX5_copy 50 = .ok (.invokestatic 55, 3) := dk_184 0 55 (dk_at dksX5_copy_2 3 rfl rfl)
theorem dX5_copy_53 : decode cX5_copy 53 = .ok (.aload_n 1, 1) := dk_43 (dk_at dksX5_copy_2 6 rfl rfl)
theorem dX5_copy_54 : decode cX5_copy 54 = .ok (.aload_n 0, 1) := dk_42 (dk_at dksX5_copy_2 7 rfl rfl)
theorem dX5_copy_55 : decode cX5_copy 55 = .ok (.getfield 24, 3) := dk_180 0 24 (dk_at dksX5_copy_2 8 rfl rfl)
theorem dX5_copy_58 : decode cX5_copy 58 = .ok (.putfield 24, 3) := dk_181 0 24 (dk_at dksX5_copy_2 11 rfl rfl)
theorem dX5_copy_61 : decode cX5_copy 61 = .ok (.aload_n 1, 1) := dk_43 (dk_at dksX5_copy_2 14 rfl rfl)
theorem dX5_copy_62 : decode cX5_copy 62 = .ok (.areturn, 1) := dk_176 (dk_at dksX5_copy_2 15 rfl rfl)
theorem q194 : (Jvm.Cond.initialized "FilingChains$Filing") ∈ lw_all := lw_g (lw_at lw_m1 31 rfl) rfl
theorem q438 : (Jvm.Cond.selects "FilingChains$Filing" ({ cls := "java/lang/Object", name := "getClass", desc := "()Ljava/lang/Class;" } : Jvm.MethodName) ({ cls := "java/lang/Object", name := "getClass", desc := "()Ljava/lang/Class;" } : Jvm.MethodName)) ∈ lw_all := lw_g (lw_at lw_m2 35 rfl) rfl
theorem q875 : (Jvm.Cond.selects "FilingChains$Filing" ({ cls := "java/lang/Object", name := "equals", desc := "(Ljava/lang/Object;)Z" } : Jvm.MethodName) ({ cls := "java/lang/Object", name := "equals", desc := "(Ljava/lang/Object;)Z" } : Jvm.MethodName)) ∈ lw_all := lw_g (lw_at lw_m3 232 rfl) rfl
theorem q1032 : (Jvm.Cond.instantiable "FilingChains$Filing" (7 : Nat)) ∈ lw_all := lw_g (lw_at lw_m4 149 rfl) rfl
theorem q1043 : (Jvm.Cond.instanceMethod ({ cls := "FilingChains$Filing", name := "<init>", desc := "(IIII)V" } : Jvm.MethodName)) ∈ lw_all := lw_g (lw_at lw_m4 160 rfl) rfl
theorem q1044 : (Jvm.Cond.code ({ cls := "FilingChains$Filing", name := "<init>", desc := "(IIII)V" } : Jvm.MethodName) prog_5_method_1_code (5 : Nat) (Option.none : Option Jvm.ClassFile.FieldType)) ∈ lw_all := lw_g (lw_at lw_m4 161 rfl) rfl
theorem q1045 : (Jvm.Cond.methodLink "FilingChains$Filing" (3 : Nat) ({ cls := "java/lang/Object", name := "<init>", desc := "()V" } : Jvm.MethodName)) ∈ lw_all := lw_g (lw_at lw_m4 162 rfl) rfl
theorem q1046 : (Jvm.Cond.classLink "FilingChains$Filing" (15 : Nat) "java/util/BitSet") ∈ lw_all := lw_g (lw_at lw_m4 163 rfl) rfl
theorem q1048 : (Jvm.Cond.methodLink "FilingChains$Filing" (17 : Nat) ({ cls := "java/util/BitSet", name := "<init>", desc := "(I)V" } : Jvm.MethodName)) ∈ lw_all := lw_g (lw_at lw_m4 165 rfl) rfl
theorem q1070 : (Jvm.Cond.methodLinkNest "FilingChains$Filing" (37 : Nat) ({ cls := "FilingChains", name := "partsOf", desc := "(I)Ljava/util/BitSet;" } : Jvm.MethodName) "FilingChains") ∈ lw_tbl := lw_at lw_m4 187 rfl
theorem q1103 : (Jvm.Cond.fieldLink "FilingChains$Filing" (28 : Nat) "FilingChains$Filing" "number" "I") ∈ lw_all := lw_g (lw_at lw_m4 220 rfl) rfl
theorem q1106 : (Jvm.Cond.fieldLink "FilingChains$Filing" (31 : Nat) "FilingChains$Filing" "filer" "I") ∈ lw_all := lw_g (lw_at lw_m4 223 rfl) rfl
theorem q1108 : (Jvm.Cond.fieldLink "FilingChains$Filing" (9 : Nat) "FilingChains$Filing" "since" "[I") ∈ lw_all := lw_g (lw_at lw_m4 225 rfl) rfl
theorem q1109 : (Jvm.Cond.fieldLink "FilingChains$Filing" (41 : Nat) "FilingChains$Filing" "told" "Ljava/util/BitSet;") ∈ lw_all := lw_g (lw_at lw_m4 226 rfl) rfl
theorem q1111 : (Jvm.Cond.fieldLink "FilingChains$Filing" (20 : Nat) "FilingChains$Filing" "added" "Ljava/util/BitSet;") ∈ lw_all := lw_g (lw_at lw_m4 228 rfl) rfl
theorem q1112 : (Jvm.Cond.fieldLink "FilingChains$Filing" (34 : Nat) "FilingChains$Filing" "day" "I") ∈ lw_all := lw_g (lw_at lw_m4 229 rfl) rfl
theorem q1116 : (Jvm.Cond.fieldLink "FilingChains$Filing" (24 : Nat) "FilingChains$Filing" "ends" "I") ∈ lw_all := lw_g (lw_at lw_m4 233 rfl) rfl
theorem q1119 : (Jvm.Cond.laysFinal "FilingChains$Filing" "FilingChains$Filing" "number" "I") ∈ lw_all := lw_g (lw_at lw_m4 236 rfl) rfl
theorem q1120 : (Jvm.Cond.soleField "FilingChains$Filing" "number") ∈ lw_all := lw_g (lw_at lw_m4 237 rfl) rfl
theorem q1121 : (Jvm.Cond.laysFinal "FilingChains$Filing" "FilingChains$Filing" "filer" "I") ∈ lw_all := lw_g (lw_at lw_m4 238 rfl) rfl
theorem q1122 : (Jvm.Cond.soleField "FilingChains$Filing" "filer") ∈ lw_all := lw_g (lw_at lw_m4 239 rfl) rfl
theorem q1123 : (Jvm.Cond.laysFinal "FilingChains$Filing" "FilingChains$Filing" "since" "[I") ∈ lw_all := lw_g (lw_at lw_m5 0 rfl) rfl
theorem q1124 : (Jvm.Cond.soleField "FilingChains$Filing" "since") ∈ lw_all := lw_g (lw_at lw_m5 1 rfl) rfl
theorem q1125 : (Jvm.Cond.laysFinal "FilingChains$Filing" "FilingChains$Filing" "told" "Ljava/util/BitSet;") ∈ lw_all := lw_g (lw_at lw_m5 2 rfl) rfl
theorem q1126 : (Jvm.Cond.soleField "FilingChains$Filing" "told") ∈ lw_all := lw_g (lw_at lw_m5 3 rfl) rfl
theorem q1127 : (Jvm.Cond.laysFinal "FilingChains$Filing" "FilingChains$Filing" "added" "Ljava/util/BitSet;") ∈ lw_all := lw_g (lw_at lw_m5 4 rfl) rfl
theorem q1128 : (Jvm.Cond.soleField "FilingChains$Filing" "added") ∈ lw_all := lw_g (lw_at lw_m5 5 rfl) rfl
theorem q1129 : (Jvm.Cond.lays "FilingChains$Filing" "FilingChains$Filing" "day" "I") ∈ lw_all := lw_g (lw_at lw_m5 6 rfl) rfl
theorem q1130 : (Jvm.Cond.soleField "FilingChains$Filing" "day") ∈ lw_all := lw_g (lw_at lw_m5 7 rfl) rfl
theorem q1131 : (Jvm.Cond.lays "FilingChains$Filing" "FilingChains$Filing" "ends" "I") ∈ lw_all := lw_g (lw_at lw_m5 8 rfl) rfl
theorem q1132 : (Jvm.Cond.soleField "FilingChains$Filing" "ends") ∈ lw_all := lw_g (lw_at lw_m5 9 rfl) rfl
theorem q1133 : (Jvm.Cond.superclass "FilingChains$Filing" "java/lang/Object") ∈ lw_all := lw_g (lw_at lw_m5 10 rfl) rfl
theorem q1156 : (Jvm.Cond.instanceMethod ({ cls := "FilingChains$Filing", name := "all", desc := "()I" } : Jvm.MethodName)) ∈ lw_all := lw_g (lw_at lw_m5 33 rfl) rfl
theorem q1157 : (Jvm.Cond.selects "FilingChains$Filing" ({ cls := "FilingChains$Filing", name := "all", desc := "()I" } : Jvm.MethodName) ({ cls := "FilingChains$Filing", name := "all", desc := "()I" } : Jvm.MethodName)) ∈ lw_all := lw_g (lw_at lw_m5 34 rfl) rfl
theorem q1158 : (Jvm.Cond.code ({ cls := "FilingChains$Filing", name := "all", desc := "()I" } : Jvm.MethodName) prog_5_method_4_code (1 : Nat) (Option.some Jvm.ClassFile.FieldType.int)) ∈ lw_all := lw_g (lw_at lw_m5 35 rfl) rfl
theorem q1159 : (Jvm.Cond.methodLinkNest "FilingChains$Filing" (44 : Nat) ({ cls := "FilingChains", name := "bitsOf", desc := "(Ljava/util/BitSet;)I" } : Jvm.MethodName) "FilingChains") ∈ lw_tbl := lw_at lw_m5 36 rfl
theorem q1175 : (Jvm.Cond.instanceMethod ({ cls := "FilingChains$Filing", name := "adds", desc := "(II)V" } : Jvm.MethodName)) ∈ lw_all := lw_g (lw_at lw_m5 52 rfl) rfl
theorem q1176 : (Jvm.Cond.selects "FilingChains$Filing" ({ cls := "FilingChains$Filing", name := "adds", desc := "(II)V" } : Jvm.MethodName) ({ cls := "FilingChains$Filing", name := "adds", desc := "(II)V" } : Jvm.MethodName)) ∈ lw_all := lw_g (lw_at lw_m5 53 rfl) rfl
theorem q1177 : (Jvm.Cond.code ({ cls := "FilingChains$Filing", name := "adds", desc := "(II)V" } : Jvm.MethodName) prog_5_method_3_code (4 : Nat) (Option.none : Option Jvm.ClassFile.FieldType)) ∈ lw_all := lw_g (lw_at lw_m5 54 rfl) rfl
theorem q1178 : (Jvm.Cond.methodLink "FilingChains$Filing" (51 : Nat) ({ cls := "java/util/BitSet", name := "or", desc := "(Ljava/util/BitSet;)V" } : Jvm.MethodName)) ∈ lw_all := lw_g (lw_at lw_m5 55 rfl) rfl
theorem q1184 : (Jvm.Cond.methodLinkNest "FilingChains$Filing" (61 : Nat) ({ cls := "FilingChains", name := "has", desc := "(II)Z" } : Jvm.MethodName) "FilingChains") ∈ lw_tbl := lw_at lw_m5 61 rfl
theorem q1662 : (Jvm.Cond.instanceMethod ({ cls := "FilingChains$Filing", name := "borne", desc := "(I)I" } : Jvm.MethodName)) ∈ lw_all := lw_g (lw_at lw_m7 59 rfl) rfl
theorem q1663 : (Jvm.Cond.selects "FilingChains$Filing" ({ cls := "FilingChains$Filing", name := "borne", desc := "(I)I" } : Jvm.MethodName) ({ cls := "FilingChains$Filing", name := "borne", desc := "(I)I" } : Jvm.MethodName)) ∈ lw_all := lw_g (lw_at lw_m7 60 rfl) rfl
theorem q1664 : (Jvm.Cond.code ({ cls := "FilingChains$Filing", name := "borne", desc := "(I)I" } : Jvm.MethodName) prog_5_method_5_code (4 : Nat) (Option.some Jvm.ClassFile.FieldType.int)) ∈ lw_all := lw_g (lw_at lw_m7 61 rfl) rfl
theorem q1665 : (Jvm.Cond.methodLink "FilingChains$Filing" (65 : Nat) ({ cls := "java/util/BitSet", name := "get", desc := "(I)Z" } : Jvm.MethodName)) ∈ lw_all := lw_g (lw_at lw_m7 62 rfl) rfl
theorem q1669 : (Jvm.Cond.methodLink "FilingChains$Filing" (69 : Nat) ({ cls := "java/lang/Math", name := "max", desc := "(II)I" } : Jvm.MethodName)) ∈ lw_all := lw_g (lw_at lw_m7 66 rfl) rfl
theorem q1698 : (Jvm.Cond.instanceMethod ({ cls := "FilingChains$Filing", name := "isPending", desc := "(I)Z" } : Jvm.MethodName)) ∈ lw_all := lw_g (lw_at lw_m7 95 rfl) rfl
theorem q1699 : (Jvm.Cond.selects "FilingChains$Filing" ({ cls := "FilingChains$Filing", name := "isPending", desc := "(I)Z" } : Jvm.MethodName) ({ cls := "FilingChains$Filing", name := "isPending", desc := "(I)Z" } : Jvm.MethodName)) ∈ lw_all := lw_g (lw_at lw_m7 96 rfl) rfl
theorem q1700 : (Jvm.Cond.code ({ cls := "FilingChains$Filing", name := "isPending", desc := "(I)Z" } : Jvm.MethodName) prog_5_method_6_code (2 : Nat) (Option.some Jvm.ClassFile.FieldType.boolean)) ∈ lw_all := lw_g (lw_at lw_m7 97 rfl) rfl
theorem q2630 : (Jvm.Cond.instanceMethod ({ cls := "FilingChains$Filing", name := "copy", desc := "()LFilingChains$Filing;" } : Jvm.MethodName)) ∈ lw_all := lw_g (lw_at lw_m11 67 rfl) rfl
theorem q2631 : (Jvm.Cond.selects "FilingChains$Filing" ({ cls := "FilingChains$Filing", name := "copy", desc := "()LFilingChains$Filing;" } : Jvm.MethodName) ({ cls := "FilingChains$Filing", name := "copy", desc := "()LFilingChains$Filing;" } : Jvm.MethodName)) ∈ lw_all := lw_g (lw_at lw_m11 68 rfl) rfl
theorem q2632 : (Jvm.Cond.code ({ cls := "FilingChains$Filing", name := "copy", desc := "()LFilingChains$Filing;" } : Jvm.MethodName) prog_5_method_2_code (2 : Nat) (Option.some (Jvm.ClassFile.FieldType.object "FilingChains$Filing"))) ∈ lw_all := lw_g (lw_at lw_m11 69 rfl) rfl
theorem q2633 : (Jvm.Cond.classLink "FilingChains$Filing" (10 : Nat) "FilingChains$Filing") ∈ lw_all := lw_g (lw_at lw_m11 70 rfl) rfl
theorem q2634 : (Jvm.Cond.methodLink "FilingChains$Filing" (48 : Nat) ({ cls := "FilingChains$Filing", name := "<init>", desc := "(IIII)V" } : Jvm.MethodName)) ∈ lw_all := lw_g (lw_at lw_m11 71 rfl) rfl
theorem q2635 : (Jvm.Cond.methodLink "FilingChains$Filing" (55 : Nat) ({ cls := "java/lang/System", name := "arraycopy", desc := "(Ljava/lang/Object;ILjava/lang/Object;II)V" } : Jvm.MethodName)) ∈ lw_all := lw_g (lw_at lw_m11 72 rfl) rfl
theorem q3440 : (Jvm.Cond.castable "FilingChains$Filing" "java/lang/Object") ∈ lw_tbl := lw_at lw_m14 157 rfl
theorem in_X5 : ∀ w ∈ wsX50, w ∈ lw_all := lw_in wsX50 [1119, 1121, 1123, 1125, 1127, 1129, 1131] (by decide +kernel) (by decide +kernel)

/-! FilingChains$Link -/
set_option maxRecDepth 100000
def RX6 : String := "FilingChains$Link"
def TX6 : u_T := fun k => match k with
  | 0 => ("FilingChains$Link", "sort", "I", true)
  | 1 => ("FilingChains$Link", "child", "I", true)
  | _ => ("FilingChains$Link", "parent", "I", true)
def tyX6 : Nat → FieldType := fun k => match k with
  | 0 => .int
  | 1 => .int
  | _ => .int
abbrev wsX60 : List Cond := u_ws RX6 TX6 3
theorem nmX6 : ∀ a, a < 3 → ∀ b, b < 3 → a ≠ b → (TX6 a).2.1 ≠ (TX6 b).2.1 := by decide +kernel
theorem tyX6_ok : ∀ k, k < 3 → parseFieldDescriptor (TX6 k).2.2.1 = some (tyX6 k) := by decide +kernel
abbrev cX6_is : ByteArray := prog_6_method_2_code
def yX6_is : MethodName := ⟨RX6, "is", "(III)Z"⟩
def dkwX6_is_1 : List UInt8 := [4, 167, 0, 4, 3, 172]
abbrev dktX6_is_1 : List UInt8 := dkwX6_is_1 ++ []
def dkwX6_is_0 : List UInt8 := [42, 180, 0, 7, 27, 160, 0, 23, 42, 180, 0, 13, 28, 160, 0, 15, 42, 180, 0, 16, 29, 160, 0, 7]
abbrev dktX6_is_0 : List UInt8 := dkwX6_is_0 ++ dktX6_is_1
theorem dksX6_is_0 : cX6_is.data.toList.drop 0 = dktX6_is_0 := by decide +kernel
theorem dksX6_is_1 : cX6_is.data.toList.drop 24 = dktX6_is_1 := dk_seg dksX6_is_0 24 rfl rfl
theorem dX6_is_0 : decode cX6_is 0 = .ok (.aload_n 0, 1) := dk_42 (dk_at dksX6_is_0 0 rfl rfl)
theorem dX6_is_1 : decode cX6_is 1 = .ok (.getfield 7, 3) := dk_180 0 7 (dk_at dksX6_is_0 1 rfl rfl)
theorem dX6_is_4 : decode cX6_is 4 = .ok (.iload_n 1, 1) := dk_27 (dk_at dksX6_is_0 4 rfl rfl)
theorem dX6_is_5 : decode cX6_is 5 = .ok (.if_icmp .ne 23, 3) := dk_160 0 23 (dk_at dksX6_is_0 5 rfl rfl)
theorem dX6_is_8 : decode cX6_is 8 = .ok (.aload_n 0, 1) := dk_42 (dk_at dksX6_is_0 8 rfl rfl)
theorem dX6_is_9 : decode cX6_is 9 = .ok (.getfield 13, 3) := dk_180 0 13 (dk_at dksX6_is_0 9 rfl rfl)
theorem dX6_is_12 : decode cX6_is 12 = .ok (.iload_n 2, 1) := dk_28 (dk_at dksX6_is_0 12 rfl rfl)
theorem dX6_is_13 : decode cX6_is 13 = .ok (.if_icmp .ne 15, 3) := dk_160 0 15 (dk_at dksX6_is_0 13 rfl rfl)
theorem dX6_is_16 : decode cX6_is 16 = .ok (.aload_n 0, 1) := dk_42 (dk_at dksX6_is_0 16 rfl rfl)
theorem dX6_is_17 : decode cX6_is 17 = .ok (.getfield 16, 3) := dk_180 0 16 (dk_at dksX6_is_0 17 rfl rfl)
theorem dX6_is_20 : decode cX6_is 20 = .ok (.iload_n 3, 1) := dk_29 (dk_at dksX6_is_0 20 rfl rfl)
theorem dX6_is_21 : decode cX6_is 21 = .ok (.if_icmp .ne 7, 3) := dk_160 0 7 (dk_at dksX6_is_0 21 rfl rfl)
theorem dX6_is_24 : decode cX6_is 24 = .ok (.iconst 1, 1) := dk_4 (dk_at dksX6_is_1 0 rfl rfl)
theorem dX6_is_25 : decode cX6_is 25 = .ok (.goto 4, 3) := dk_167 0 4 (dk_at dksX6_is_1 1 rfl rfl)
theorem dX6_is_28 : decode cX6_is 28 = .ok (.iconst 0, 1) := dk_3 (dk_at dksX6_is_1 4 rfl rfl)
theorem dX6_is_29 : decode cX6_is 29 = .ok (.ireturn, 1) := dk_172 (dk_at dksX6_is_1 5 rfl rfl)
abbrev cX6_init : ByteArray := prog_6_method_1_code
def yX6_init : MethodName := ⟨RX6, "<init>", "(III)V"⟩
def dkwX6_init_0 : List UInt8 := [42, 183, 0, 1, 42, 27, 181, 0, 7, 42, 28, 181, 0, 13, 42, 29, 181, 0, 16, 177]
abbrev dktX6_init_0 : List UInt8 := dkwX6_init_0 ++ []
theorem dksX6_init_0 : cX6_init.data.toList.drop 0 = dktX6_init_0 := by decide +kernel
theorem dX6_init_0 : decode cX6_init 0 = .ok (.aload_n 0, 1) := dk_42 (dk_at dksX6_init_0 0 rfl rfl)
theorem dX6_init_1 : decode cX6_init 1 = .ok (.invokespecial 1, 3) := dk_183 0 1 (dk_at dksX6_init_0 1 rfl rfl)
theorem dX6_init_4 : decode cX6_init 4 = .ok (.aload_n 0, 1) := dk_42 (dk_at dksX6_init_0 4 rfl rfl)
theorem dX6_init_5 : decode cX6_init 5 = .ok (.iload_n 1, 1) := dk_27 (dk_at dksX6_init_0 5 rfl rfl)
theorem dX6_init_6 : decode cX6_init 6 = .ok (.putfield 7, 3) := dk_181 0 7 (dk_at dksX6_init_0 6 rfl rfl)
theorem dX6_init_9 : decode cX6_init 9 = .ok (.aload_n 0, 1) := dk_42 (dk_at dksX6_init_0 9 rfl rfl)
theorem dX6_init_10 : decode cX6_init 10 = .ok (.iload_n 2, 1) := dk_28 (dk_at dksX6_init_0 10 rfl rfl)
theorem dX6_init_11 : decode cX6_init 11 = .ok (.putfield 13, 3) := dk_181 0 13 (dk_at dksX6_init_0 11 rfl rfl)
theorem dX6_init_14 : decode cX6_init 14 = .ok (.aload_n 0, 1) := dk_42 (dk_at dksX6_init_0 14 rfl rfl)
theorem dX6_init_15 : decode cX6_init 15 = .ok (.iload_n 3, 1) := dk_29 (dk_at dksX6_init_0 15 rfl rfl)
theorem dX6_init_16 : decode cX6_init 16 = .ok (.putfield 16, 3) := dk_181 0 16 (dk_at dksX6_init_0 16 rfl rfl)
theorem dX6_init_19 : decode cX6_init 19 = .ok (.return_, 1) := dk_177 (dk_at dksX6_init_0 19 rfl rfl)
theorem q206 : (Jvm.Cond.initialized "FilingChains$Link") ∈ lw_all := lw_g (lw_at lw_m1 43 rfl) rfl
theorem q439 : (Jvm.Cond.selects "FilingChains$Link" ({ cls := "java/lang/Object", name := "getClass", desc := "()Ljava/lang/Class;" } : Jvm.MethodName) ({ cls := "java/lang/Object", name := "getClass", desc := "()Ljava/lang/Class;" } : Jvm.MethodName)) ∈ lw_all := lw_g (lw_at lw_m2 36 rfl) rfl
theorem q876 : (Jvm.Cond.selects "FilingChains$Link" ({ cls := "java/lang/Object", name := "equals", desc := "(Ljava/lang/Object;)Z" } : Jvm.MethodName) ({ cls := "java/lang/Object", name := "equals", desc := "(Ljava/lang/Object;)Z" } : Jvm.MethodName)) ∈ lw_all := lw_g (lw_at lw_m3 233 rfl) rfl
theorem q1525 : (Jvm.Cond.instanceMethod ({ cls := "FilingChains$Link", name := "is", desc := "(III)Z" } : Jvm.MethodName)) ∈ lw_all := lw_g (lw_at lw_m6 162 rfl) rfl
theorem q1526 : (Jvm.Cond.selects "FilingChains$Link" ({ cls := "FilingChains$Link", name := "is", desc := "(III)Z" } : Jvm.MethodName) ({ cls := "FilingChains$Link", name := "is", desc := "(III)Z" } : Jvm.MethodName)) ∈ lw_all := lw_g (lw_at lw_m6 163 rfl) rfl
theorem q1527 : (Jvm.Cond.code ({ cls := "FilingChains$Link", name := "is", desc := "(III)Z" } : Jvm.MethodName) prog_6_method_2_code (4 : Nat) (Option.some Jvm.ClassFile.FieldType.boolean)) ∈ lw_all := lw_g (lw_at lw_m6 164 rfl) rfl
theorem q1534 : (Jvm.Cond.instantiable "FilingChains$Link" (3 : Nat)) ∈ lw_all := lw_g (lw_at lw_m6 171 rfl) rfl
theorem q1536 : (Jvm.Cond.instanceMethod ({ cls := "FilingChains$Link", name := "<init>", desc := "(III)V" } : Jvm.MethodName)) ∈ lw_all := lw_g (lw_at lw_m6 173 rfl) rfl
theorem q1537 : (Jvm.Cond.code ({ cls := "FilingChains$Link", name := "<init>", desc := "(III)V" } : Jvm.MethodName) prog_6_method_1_code (4 : Nat) (Option.none : Option Jvm.ClassFile.FieldType)) ∈ lw_all := lw_g (lw_at lw_m6 174 rfl) rfl
theorem q1538 : (Jvm.Cond.methodLink "FilingChains$Link" (1 : Nat) ({ cls := "java/lang/Object", name := "<init>", desc := "()V" } : Jvm.MethodName)) ∈ lw_all := lw_g (lw_at lw_m6 175 rfl) rfl
theorem q1539 : (Jvm.Cond.fieldLink "FilingChains$Link" (7 : Nat) "FilingChains$Link" "sort" "I") ∈ lw_all := lw_g (lw_at lw_m6 176 rfl) rfl
theorem q1541 : (Jvm.Cond.fieldLink "FilingChains$Link" (13 : Nat) "FilingChains$Link" "child" "I") ∈ lw_all := lw_g (lw_at lw_m6 178 rfl) rfl
theorem q1544 : (Jvm.Cond.fieldLink "FilingChains$Link" (16 : Nat) "FilingChains$Link" "parent" "I") ∈ lw_all := lw_g (lw_at lw_m6 181 rfl) rfl
theorem q1547 : (Jvm.Cond.laysFinal "FilingChains$Link" "FilingChains$Link" "sort" "I") ∈ lw_all := lw_g (lw_at lw_m6 184 rfl) rfl
theorem q1548 : (Jvm.Cond.soleField "FilingChains$Link" "sort") ∈ lw_all := lw_g (lw_at lw_m6 185 rfl) rfl
theorem q1549 : (Jvm.Cond.laysFinal "FilingChains$Link" "FilingChains$Link" "child" "I") ∈ lw_all := lw_g (lw_at lw_m6 186 rfl) rfl
theorem q1550 : (Jvm.Cond.soleField "FilingChains$Link" "child") ∈ lw_all := lw_g (lw_at lw_m6 187 rfl) rfl
theorem q1551 : (Jvm.Cond.laysFinal "FilingChains$Link" "FilingChains$Link" "parent" "I") ∈ lw_all := lw_g (lw_at lw_m6 188 rfl) rfl
theorem q1552 : (Jvm.Cond.soleField "FilingChains$Link" "parent") ∈ lw_all := lw_g (lw_at lw_m6 189 rfl) rfl
theorem q1553 : (Jvm.Cond.superclass "FilingChains$Link" "java/lang/Object") ∈ lw_all := lw_g (lw_at lw_m6 190 rfl) rfl
theorem q3446 : (Jvm.Cond.castable "FilingChains$Link" "java/lang/Object") ∈ lw_tbl := lw_at lw_m14 163 rfl
theorem in_X6 : ∀ w ∈ wsX60, w ∈ lw_all := lw_in wsX60 [1547, 1549, 1551] (by decide +kernel) (by decide +kernel)

/-! FilingChains$Claim -/
set_option maxRecDepth 100000
def RX7 : String := "FilingChains$Claim"
def TX7 : u_T := fun k => match k with
  | 0 => ("FilingChains$Claim", "filing", "I", true)
  | _ => ("FilingChains$Claim", "set", "I", true)
def tyX7 : Nat → FieldType := fun k => match k with
  | 0 => .int
  | _ => .int
abbrev wsX70 : List Cond := u_ws RX7 TX7 2
theorem nmX7 : ∀ a, a < 2 → ∀ b, b < 2 → a ≠ b → (TX7 a).2.1 ≠ (TX7 b).2.1 := by decide +kernel
theorem tyX7_ok : ∀ k, k < 2 → parseFieldDescriptor (TX7 k).2.2.1 = some (tyX7 k) := by decide +kernel
abbrev cX7_init : ByteArray := prog_3_method_1_code
def yX7_init : MethodName := ⟨RX7, "<init>", "(II)V"⟩
def dkwX7_init_0 : List UInt8 := [42, 183, 0, 1, 42, 27, 181, 0, 7, 42, 28, 181, 0, 13, 177]
abbrev dktX7_init_0 : List UInt8 := dkwX7_init_0 ++ []
theorem dksX7_init_0 : cX7_init.data.toList.drop 0 = dktX7_init_0 := by decide +kernel
theorem dX7_init_0 : decode cX7_init 0 = .ok (.aload_n 0, 1) := dk_42 (dk_at dksX7_init_0 0 rfl rfl)
theorem dX7_init_1 : decode cX7_init 1 = .ok (.invokespecial 1, 3) := dk_183 0 1 (dk_at dksX7_init_0 1 rfl rfl)
theorem dX7_init_4 : decode cX7_init 4 = .ok (.aload_n 0, 1) := dk_42 (dk_at dksX7_init_0 4 rfl rfl)
theorem dX7_init_5 : decode cX7_init 5 = .ok (.iload_n 1, 1) := dk_27 (dk_at dksX7_init_0 5 rfl rfl)
theorem dX7_init_6 : decode cX7_init 6 = .ok (.putfield 7, 3) := dk_181 0 7 (dk_at dksX7_init_0 6 rfl rfl)
theorem dX7_init_9 : decode cX7_init 9 = .ok (.aload_n 0, 1) := dk_42 (dk_at dksX7_init_0 9 rfl rfl)
theorem dX7_init_10 : decode cX7_init 10 = .ok (.iload_n 2, 1) := dk_28 (dk_at dksX7_init_0 10 rfl rfl)
theorem dX7_init_11 : decode cX7_init 11 = .ok (.putfield 13, 3) := dk_181 0 13 (dk_at dksX7_init_0 11 rfl rfl)
theorem dX7_init_14 : decode cX7_init 14 = .ok (.return_, 1) := dk_177 (dk_at dksX7_init_0 14 rfl rfl)
theorem q208 : (Jvm.Cond.initialized "FilingChains$Claim") ∈ lw_all := lw_g (lw_at lw_m1 45 rfl) rfl
theorem q436 : (Jvm.Cond.selects "FilingChains$Claim" ({ cls := "java/lang/Object", name := "getClass", desc := "()Ljava/lang/Class;" } : Jvm.MethodName) ({ cls := "java/lang/Object", name := "getClass", desc := "()Ljava/lang/Class;" } : Jvm.MethodName)) ∈ lw_all := lw_g (lw_at lw_m2 33 rfl) rfl
theorem q873 : (Jvm.Cond.selects "FilingChains$Claim" ({ cls := "java/lang/Object", name := "equals", desc := "(Ljava/lang/Object;)Z" } : Jvm.MethodName) ({ cls := "java/lang/Object", name := "equals", desc := "(Ljava/lang/Object;)Z" } : Jvm.MethodName)) ∈ lw_all := lw_g (lw_at lw_m3 230 rfl) rfl
theorem q1592 : (Jvm.Cond.instantiable "FilingChains$Claim" (2 : Nat)) ∈ lw_all := lw_g (lw_at lw_m6 229 rfl) rfl
theorem q1594 : (Jvm.Cond.instanceMethod ({ cls := "FilingChains$Claim", name := "<init>", desc := "(II)V" } : Jvm.MethodName)) ∈ lw_all := lw_g (lw_at lw_m6 231 rfl) rfl
theorem q1595 : (Jvm.Cond.code ({ cls := "FilingChains$Claim", name := "<init>", desc := "(II)V" } : Jvm.MethodName) prog_3_method_1_code (3 : Nat) (Option.none : Option Jvm.ClassFile.FieldType)) ∈ lw_all := lw_g (lw_at lw_m6 232 rfl) rfl
theorem q1596 : (Jvm.Cond.methodLink "FilingChains$Claim" (1 : Nat) ({ cls := "java/lang/Object", name := "<init>", desc := "()V" } : Jvm.MethodName)) ∈ lw_all := lw_g (lw_at lw_m6 233 rfl) rfl
theorem q1597 : (Jvm.Cond.fieldLink "FilingChains$Claim" (7 : Nat) "FilingChains$Claim" "filing" "I") ∈ lw_all := lw_g (lw_at lw_m6 234 rfl) rfl
theorem q1599 : (Jvm.Cond.fieldLink "FilingChains$Claim" (13 : Nat) "FilingChains$Claim" "set" "I") ∈ lw_all := lw_g (lw_at lw_m6 236 rfl) rfl
theorem q1601 : (Jvm.Cond.laysFinal "FilingChains$Claim" "FilingChains$Claim" "filing" "I") ∈ lw_all := lw_g (lw_at lw_m6 238 rfl) rfl
theorem q1602 : (Jvm.Cond.soleField "FilingChains$Claim" "filing") ∈ lw_all := lw_g (lw_at lw_m6 239 rfl) rfl
theorem q1603 : (Jvm.Cond.laysFinal "FilingChains$Claim" "FilingChains$Claim" "set" "I") ∈ lw_all := lw_g (lw_at lw_m7 0 rfl) rfl
theorem q1604 : (Jvm.Cond.soleField "FilingChains$Claim" "set") ∈ lw_all := lw_g (lw_at lw_m7 1 rfl) rfl
theorem q1605 : (Jvm.Cond.superclass "FilingChains$Claim" "java/lang/Object") ∈ lw_all := lw_g (lw_at lw_m7 2 rfl) rfl
theorem q3448 : (Jvm.Cond.castable "FilingChains$Claim" "java/lang/Object") ∈ lw_tbl := lw_at lw_m14 165 rfl
theorem in_X7 : ∀ w ∈ wsX70, w ∈ lw_all := lw_in wsX70 [1601, 1603] (by decide +kernel) (by decide +kernel)

/-! FilingChains$Thing -/
set_option maxRecDepth 100000
def RX8 : String := "FilingChains$Thing"
def TX8 : u_T := fun k => match k with
  | 0 => ("FilingChains$Thing", "filer", "I", true)
  | 1 => ("FilingChains$Thing", "day", "I", true)
  | _ => ("FilingChains$Thing", "set", "I", true)
def tyX8 : Nat → FieldType := fun k => match k with
  | 0 => .int
  | 1 => .int
  | _ => .int
abbrev wsX80 : List Cond := u_ws RX8 TX8 3
theorem nmX8 : ∀ a, a < 3 → ∀ b, b < 3 → a ≠ b → (TX8 a).2.1 ≠ (TX8 b).2.1 := by decide +kernel
theorem tyX8_ok : ∀ k, k < 3 → parseFieldDescriptor (TX8 k).2.2.1 = some (tyX8 k) := by decide +kernel
abbrev cX8_init : ByteArray := prog_10_method_1_code
def yX8_init : MethodName := ⟨RX8, "<init>", "(III)V"⟩
def dkwX8_init_0 : List UInt8 := [42, 183, 0, 1, 42, 27, 181, 0, 7, 42, 28, 181, 0, 13, 42, 29, 181, 0, 16, 177]
abbrev dktX8_init_0 : List UInt8 := dkwX8_init_0 ++ []
theorem dksX8_init_0 : cX8_init.data.toList.drop 0 = dktX8_init_0 := by decide +kernel
theorem dX8_init_0 : decode cX8_init 0 = .ok (.aload_n 0, 1) := dk_42 (dk_at dksX8_init_0 0 rfl rfl)
theorem dX8_init_1 : decode cX8_init 1 = .ok (.invokespecial 1, 3) := dk_183 0 1 (dk_at dksX8_init_0 1 rfl rfl)
theorem dX8_init_4 : decode cX8_init 4 = .ok (.aload_n 0, 1) := dk_42 (dk_at dksX8_init_0 4 rfl rfl)
theorem dX8_init_5 : decode cX8_init 5 = .ok (.iload_n 1, 1) := dk_27 (dk_at dksX8_init_0 5 rfl rfl)
theorem dX8_init_6 : decode cX8_init 6 = .ok (.putfield 7, 3) := dk_181 0 7 (dk_at dksX8_init_0 6 rfl rfl)
theorem dX8_init_9 : decode cX8_init 9 = .ok (.aload_n 0, 1) := dk_42 (dk_at dksX8_init_0 9 rfl rfl)
theorem dX8_init_10 : decode cX8_init 10 = .ok (.iload_n 2, 1) := dk_28 (dk_at dksX8_init_0 10 rfl rfl)
theorem dX8_init_11 : decode cX8_init 11 = .ok (.putfield 13, 3) := dk_181 0 13 (dk_at dksX8_init_0 11 rfl rfl)
theorem dX8_init_14 : decode cX8_init 14 = .ok (.aload_n 0, 1) := dk_42 (dk_at dksX8_init_0 14 rfl rfl)
theorem dX8_init_15 : decode cX8_init 15 = .ok (.iload_n 3, 1) := dk_29 (dk_at dksX8_init_0 15 rfl rfl)
theorem dX8_init_16 : decode cX8_init 16 = .ok (.putfield 16, 3) := dk_181 0 16 (dk_at dksX8_init_0 16 rfl rfl)
theorem dX8_init_19 : decode cX8_init 19 = .ok (.return_, 1) := dk_177 (dk_at dksX8_init_0 19 rfl rfl)
abbrev cX8_hasAll : ByteArray := prog_10_method_2_code
def yX8_hasAll : MethodName := ⟨RX8, "hasAll", "(I)Z"⟩
def dkwX8_hasAll_0 : List UInt8 := [27, 42, 180, 0, 16, 2, 130, 126, 154, 0, 7, 4, 167, 0, 4, 3, 172]
abbrev dktX8_hasAll_0 : List UInt8 := dkwX8_hasAll_0 ++ []
theorem dksX8_hasAll_0 : cX8_hasAll.data.toList.drop 0 = dktX8_hasAll_0 := by decide +kernel
theorem dX8_hasAll_0 : decode cX8_hasAll 0 = .ok (.iload_n 1, 1) := dk_27 (dk_at dksX8_hasAll_0 0 rfl rfl)
theorem dX8_hasAll_1 : decode cX8_hasAll 1 = .ok (.aload_n 0, 1) := dk_42 (dk_at dksX8_hasAll_0 1 rfl rfl)
theorem dX8_hasAll_2 : decode cX8_hasAll 2 = .ok (.getfield 16, 3) := dk_180 0 16 (dk_at dksX8_hasAll_0 2 rfl rfl)
theorem dX8_hasAll_5 : decode cX8_hasAll 5 = .ok (.iconst (-1), 1) := dk_2 (dk_at dksX8_hasAll_0 5 rfl rfl)
theorem dX8_hasAll_6 : decode cX8_hasAll 6 = .ok (.ixor, 1) := dk_130 (dk_at dksX8_hasAll_0 6 rfl rfl)
theorem dX8_hasAll_7 : decode cX8_hasAll 7 = .ok (.iand, 1) := dk_126 (dk_at dksX8_hasAll_0 7 rfl rfl)
theorem dX8_hasAll_8 : decode cX8_hasAll 8 = .ok (.ifCond .ne 7, 3) := dk_154 0 7 (dk_at dksX8_hasAll_0 8 rfl rfl)
theorem dX8_hasAll_11 : decode cX8_hasAll 11 = .ok (.iconst 1, 1) := dk_4 (dk_at dksX8_hasAll_0 11 rfl rfl)
theorem dX8_hasAll_12 : decode cX8_hasAll 12 = .ok (.goto 4, 3) := dk_167 0 4 (dk_at dksX8_hasAll_0 12 rfl rfl)
theorem dX8_hasAll_15 : decode cX8_hasAll 15 = .ok (.iconst 0, 1) := dk_3 (dk_at dksX8_hasAll_0 15 rfl rfl)
theorem dX8_hasAll_16 : decode cX8_hasAll 16 = .ok (.ireturn, 1) := dk_172 (dk_at dksX8_hasAll_0 16 rfl rfl)
theorem q209 : (Jvm.Cond.initialized "FilingChains$Thing") ∈ lw_all := lw_g (lw_at lw_m1 46 rfl) rfl
theorem q443 : (Jvm.Cond.selects "FilingChains$Thing" ({ cls := "java/lang/Object", name := "getClass", desc := "()Ljava/lang/Class;" } : Jvm.MethodName) ({ cls := "java/lang/Object", name := "getClass", desc := "()Ljava/lang/Class;" } : Jvm.MethodName)) ∈ lw_all := lw_g (lw_at lw_m2 40 rfl) rfl
theorem q880 : (Jvm.Cond.selects "FilingChains$Thing" ({ cls := "java/lang/Object", name := "equals", desc := "(Ljava/lang/Object;)Z" } : Jvm.MethodName) ({ cls := "java/lang/Object", name := "equals", desc := "(Ljava/lang/Object;)Z" } : Jvm.MethodName)) ∈ lw_all := lw_g (lw_at lw_m3 237 rfl) rfl
theorem q1611 : (Jvm.Cond.instantiable "FilingChains$Thing" (3 : Nat)) ∈ lw_all := lw_g (lw_at lw_m7 8 rfl) rfl
theorem q1613 : (Jvm.Cond.instanceMethod ({ cls := "FilingChains$Thing", name := "<init>", desc := "(III)V" } : Jvm.MethodName)) ∈ lw_all := lw_g (lw_at lw_m7 10 rfl) rfl
theorem q1614 : (Jvm.Cond.code ({ cls := "FilingChains$Thing", name := "<init>", desc := "(III)V" } : Jvm.MethodName) prog_10_method_1_code (4 : Nat) (Option.none : Option Jvm.ClassFile.FieldType)) ∈ lw_all := lw_g (lw_at lw_m7 11 rfl) rfl
theorem q1615 : (Jvm.Cond.methodLink "FilingChains$Thing" (1 : Nat) ({ cls := "java/lang/Object", name := "<init>", desc := "()V" } : Jvm.MethodName)) ∈ lw_all := lw_g (lw_at lw_m7 12 rfl) rfl
theorem q1616 : (Jvm.Cond.fieldLink "FilingChains$Thing" (7 : Nat) "FilingChains$Thing" "filer" "I") ∈ lw_all := lw_g (lw_at lw_m7 13 rfl) rfl
theorem q1618 : (Jvm.Cond.fieldLink "FilingChains$Thing" (13 : Nat) "FilingChains$Thing" "day" "I") ∈ lw_all := lw_g (lw_at lw_m7 15 rfl) rfl
theorem q1620 : (Jvm.Cond.fieldLink "FilingChains$Thing" (16 : Nat) "FilingChains$Thing" "set" "I") ∈ lw_all := lw_g (lw_at lw_m7 17 rfl) rfl
theorem q1622 : (Jvm.Cond.laysFinal "FilingChains$Thing" "FilingChains$Thing" "filer" "I") ∈ lw_all := lw_g (lw_at lw_m7 19 rfl) rfl
theorem q1623 : (Jvm.Cond.soleField "FilingChains$Thing" "filer") ∈ lw_all := lw_g (lw_at lw_m7 20 rfl) rfl
theorem q1624 : (Jvm.Cond.laysFinal "FilingChains$Thing" "FilingChains$Thing" "day" "I") ∈ lw_all := lw_g (lw_at lw_m7 21 rfl) rfl
theorem q1625 : (Jvm.Cond.soleField "FilingChains$Thing" "day") ∈ lw_all := lw_g (lw_at lw_m7 22 rfl) rfl
theorem q1626 : (Jvm.Cond.laysFinal "FilingChains$Thing" "FilingChains$Thing" "set" "I") ∈ lw_all := lw_g (lw_at lw_m7 23 rfl) rfl
theorem q1627 : (Jvm.Cond.soleField "FilingChains$Thing" "set") ∈ lw_all := lw_g (lw_at lw_m7 24 rfl) rfl
theorem q1628 : (Jvm.Cond.superclass "FilingChains$Thing" "java/lang/Object") ∈ lw_all := lw_g (lw_at lw_m7 25 rfl) rfl
theorem q1929 : (Jvm.Cond.instanceMethod ({ cls := "FilingChains$Thing", name := "hasAll", desc := "(I)Z" } : Jvm.MethodName)) ∈ lw_all := lw_g (lw_at lw_m8 86 rfl) rfl
theorem q1930 : (Jvm.Cond.selects "FilingChains$Thing" ({ cls := "FilingChains$Thing", name := "hasAll", desc := "(I)Z" } : Jvm.MethodName) ({ cls := "FilingChains$Thing", name := "hasAll", desc := "(I)Z" } : Jvm.MethodName)) ∈ lw_all := lw_g (lw_at lw_m8 87 rfl) rfl
theorem q1931 : (Jvm.Cond.code ({ cls := "FilingChains$Thing", name := "hasAll", desc := "(I)Z" } : Jvm.MethodName) prog_10_method_2_code (2 : Nat) (Option.some Jvm.ClassFile.FieldType.boolean)) ∈ lw_all := lw_g (lw_at lw_m8 88 rfl) rfl
theorem q3449 : (Jvm.Cond.castable "FilingChains$Thing" "java/lang/Object") ∈ lw_tbl := lw_at lw_m14 166 rfl
theorem in_X8 : ∀ w ∈ wsX80, w ∈ lw_all := lw_in wsX80 [1622, 1624, 1626] (by decide +kernel) (by decide +kernel)

/-! FilingChains$Search -/
set_option maxRecDepth 100000
def RX9 : String := "FilingChains$Search"
def TX9 : u_T := fun k => match k with
  | 0 => ("FilingChains$Search", "far", "[I", true)
  | 1 => ("FilingChains$Search", "good", "Ljava/util/ArrayList;", true)
  | 2 => ("FilingChains$Search", "set", "I", true)
  | 3 => ("FilingChains$Search", "from", "I", true)
  | 4 => ("FilingChains$Search", "date", "I", false)
  | 5 => ("FilingChains$Search", "dater", "I", false)
  | _ => ("FilingChains$Search", "this$0", "LFilingChains;", true)
def tyX9 : Nat → FieldType := fun k => match k with
  | 0 => .array .int
  | 1 => .object "java/util/ArrayList"
  | 2 => .int
  | 3 => .int
  | 4 => .int
  | 5 => .int
  | _ => .object "FilingChains"
abbrev wsX90 : List Cond := u_ws RX9 TX9 7
theorem nmX9 : ∀ a, a < 7 → ∀ b, b < 7 → a ≠ b → (TX9 a).2.1 ≠ (TX9 b).2.1 := by decide +kernel
theorem tyX9_ok : ∀ k, k < 7 → parseFieldDescriptor (TX9 k).2.2.1 = some (tyX9 k) := by decide +kernel
abbrev cX9_init : ByteArray := prog_9_method_1_code
def yX9_init : MethodName := ⟨RX9, "<init>", "(LFilingChains;III)V"⟩
def dkwX9_init_5 : List UInt8 := [182, 0, 75, 87, 132, 5, 1, 167, 255, 201, 42, 182, 0, 79, 177]
abbrev dktX9_init_5 : List UInt8 := dkwX9_init_5 ++ []
def dkwX9_init_4 : List UInt8 := [184, 0, 67, 154, 0, 23, 43, 25, 7, 29, 182, 0, 71, 153, 0, 13, 42, 180, 0, 22, 25, 7]
abbrev dktX9_init_4 : List UInt8 := dkwX9_init_4 ++ dktX9_init_5
def dkwX9_init_3 : List UInt8 := [185, 0, 55, 1, 0, 153, 0, 51, 25, 6, 185, 0, 61, 1, 0, 192, 0, 65, 58, 7, 21, 4, 21, 5]
abbrev dktX9_init_3 : List UInt8 := dkwX9_init_3 ++ dktX9_init_4
def dkwX9_init_2 : List UInt8 := [181, 0, 36, 3, 54, 5, 43, 180, 0, 39, 180, 0, 43, 182, 0, 49, 58, 6, 25, 6]
abbrev dktX9_init_2 : List UInt8 := dkwX9_init_2 ++ dktX9_init_3
def dkwX9_init_1 : List UInt8 := [183, 0, 21, 181, 0, 22, 42, 2, 181, 0, 26, 42, 2, 181, 0, 30, 42, 28, 181, 0, 33, 42, 29]
abbrev dktX9_init_1 : List UInt8 := dkwX9_init_1 ++ dktX9_init_2
def dkwX9_init_0 : List UInt8 := [42, 43, 181, 0, 3, 42, 183, 0, 9, 42, 16, 14, 188, 10, 181, 0, 15, 42, 187, 0, 19, 89]
abbrev dktX9_init_0 : List UInt8 := dkwX9_init_0 ++ dktX9_init_1
theorem dksX9_init_0 : cX9_init.data.toList.drop 0 = dktX9_init_0 := by decide +kernel
theorem dksX9_init_1 : cX9_init.data.toList.drop 22 = dktX9_init_1 := dk_seg dksX9_init_0 22 rfl rfl
theorem dksX9_init_2 : cX9_init.data.toList.drop 45 = dktX9_init_2 := dk_seg dksX9_init_1 23 rfl rfl
theorem dksX9_init_3 : cX9_init.data.toList.drop 65 = dktX9_init_3 := dk_seg dksX9_init_2 20 rfl rfl
theorem dksX9_init_4 : cX9_init.data.toList.drop 89 = dktX9_init_4 := dk_seg dksX9_init_3 24 rfl rfl
theorem dksX9_init_5 : cX9_init.data.toList.drop 111 = dktX9_init_5 := dk_seg dksX9_init_4 22 rfl rfl
theorem dX9_init_0 : decode cX9_init 0 = .ok (.aload_n 0, 1) := dk_42 (dk_at dksX9_init_0 0 rfl rfl)
theorem dX9_init_1 : decode cX9_init 1 = .ok (.aload_n 1, 1) := dk_43 (dk_at dksX9_init_0 1 rfl rfl)
theorem dX9_init_2 : decode cX9_init 2 = .ok (.putfield 3, 3) := dk_181 0 3 (dk_at dksX9_init_0 2 rfl rfl)
theorem dX9_init_5 : decode cX9_init 5 = .ok (.aload_n 0, 1) := dk_42 (dk_at dksX9_init_0 5 rfl rfl)
theorem dX9_init_6 : decode cX9_init 6 = .ok (.invokespecial 9, 3) := dk_183 0 9 (dk_at dksX9_init_0 6 rfl rfl)
theorem dX9_init_9 : decode cX9_init 9 = .ok (.aload_n 0, 1) := dk_42 (dk_at dksX9_init_0 9 rfl rfl)
theorem dX9_init_10 : decode cX9_init 10 = .ok (.bipush 14, 2) := dk_16 14 (dk_at dksX9_init_0 10 rfl rfl)
theorem dX9_init_12 : decode cX9_init 12 = .ok (.newarray .int, 2) := dk_188_10 (dk_at dksX9_init_0 12 rfl rfl)
theorem dX9_init_14 : decode cX9_init 14 = .ok (.putfield 15, 3) := dk_181 0 15 (dk_at dksX9_init_0 14 rfl rfl)
theorem dX9_init_17 : decode cX9_init 17 = .ok (.aload_n 0, 1) := dk_42 (dk_at dksX9_init_0 17 rfl rfl)
theorem dX9_init_18 : decode cX9_init 18 = .ok (.new 19, 3) := dk_187 0 19 (dk_at dksX9_init_0 18 rfl rfl)
theorem dX9_init_21 : decode cX9_init 21 = .ok (.dup, 1) := dk_89 (dk_at dksX9_init_0 21 rfl rfl)
theorem dX9_init_22 : decode cX9_init 22 = .ok (.invokespecial 21, 3) := dk_183 0 21 (dk_at dksX9_init_1 0 rfl rfl)
theorem dX9_init_25 : decode cX9_init 25 = .ok (.putfield 22, 3) := dk_181 0 22 (dk_at dksX9_init_1 3 rfl rfl)
theorem dX9_init_28 : decode cX9_init 28 = .ok (.aload_n 0, 1) := dk_42 (dk_at dksX9_init_1 6 rfl rfl)
theorem dX9_init_29 : decode cX9_init 29 = .ok (.iconst (-1), 1) := dk_2 (dk_at dksX9_init_1 7 rfl rfl)
theorem dX9_init_30 : decode cX9_init 30 = .ok (.putfield 26, 3) := dk_181 0 26 (dk_at dksX9_init_1 8 rfl rfl)
theorem dX9_init_33 : decode cX9_init 33 = .ok (.aload_n 0, 1) := dk_42 (dk_at dksX9_init_1 11 rfl rfl)
theorem dX9_init_34 : decode cX9_init 34 = .ok (.iconst (-1), 1) := dk_2 (dk_at dksX9_init_1 12 rfl rfl)
theorem dX9_init_35 : decode cX9_init 35 = .ok (.putfield 30, 3) := dk_181 0 30 (dk_at dksX9_init_1 13 rfl rfl)
theorem dX9_init_38 : decode cX9_init 38 = .ok (.aload_n 0, 1) := dk_42 (dk_at dksX9_init_1 16 rfl rfl)
theorem dX9_init_39 : decode cX9_init 39 = .ok (.iload_n 2, 1) := dk_28 (dk_at dksX9_init_1 17 rfl rfl)
theorem dX9_init_40 : decode cX9_init 40 = .ok (.putfield 33, 3) := dk_181 0 33 (dk_at dksX9_init_1 18 rfl rfl)
theorem dX9_init_43 : decode cX9_init 43 = .ok (.aload_n 0, 1) := dk_42 (dk_at dksX9_init_1 21 rfl rfl)
theorem dX9_init_44 : decode cX9_init 44 = .ok (.iload_n 3, 1) := dk_29 (dk_at dksX9_init_1 22 rfl rfl)
theorem dX9_init_45 : decode cX9_init 45 = .ok (.putfield 36, 3) := dk_181 0 36 (dk_at dksX9_init_2 0 rfl rfl)
theorem dX9_init_48 : decode cX9_init 48 = .ok (.iconst 0, 1) := dk_3 (dk_at dksX9_init_2 3 rfl rfl)
theorem dX9_init_49 : decode cX9_init 49 = .ok (.istore 5, 2) := dk_54 5 (dk_at dksX9_init_2 4 rfl rfl)
theorem dX9_init_51 : decode cX9_init 51 = .ok (.aload_n 1, 1) := dk_43 (dk_at dksX9_init_2 6 rfl rfl)
theorem dX9_init_52 : decode cX9_init 52 = .ok (.getfield 39, 3) := dk_180 0 39 (dk_at dksX9_init_2 7 rfl rfl)
theorem dX9_init_55 : decode cX9_init 55 = .ok (.getfield 43, 3) := dk_180 0 43 (dk_at dksX9_init_2 10 rfl rfl)
theorem dX9_init_58 : decode cX9_init 58 = .ok (.invokevirtual 49, 3) := dk_182 0 49 (dk_at dksX9_init_2 13 rfl rfl)
theorem dX9_init_61 : decode cX9_init 61 = .ok (.astore 6, 2) := dk_58 6 (dk_at dksX9_init_2 16 rfl rfl)
theorem dX9_init_63 : decode cX9_init 63 = .ok (.aload 6, 2) := dk_25 6 (dk_at dksX9_init_2 18 rfl rfl)
theorem dX9_init_65 : decode cX9_init 65 = .ok (.invokeinterface 55 1, 5) := by decide +kernel
theorem dX9_init_70 : decode cX9_init 70 = .ok (.ifCond .eq 51, 3) := dk_153 0 51 (dk_at dksX9_init_3 5 rfl rfl)
theorem dX9_init_73 : decode cX9_init 73 = .ok (.aload 6, 2) := dk_25 6 (dk_at dksX9_init_3 8 rfl rfl)
theorem dX9_init_75 : decode cX9_init 75 = .ok (.invokeinterface 61 1, 5) := by decide +kernel
theorem dX9_init_80 : decode cX9_init 80 = .ok (.checkcast 65, 3) := dk_192 0 65 (dk_at dksX9_init_3 15 rfl rfl)
theorem dX9_init_83 : decode cX9_init 83 = .ok (.astore 7, 2) := dk_58 7 (dk_at dksX9_init_3 18 rfl rfl)
theorem dX9_init_85 : decode cX9_init 85 = .ok (.iload 4, 2) := dk_21 4 (dk_at dksX9_init_3 20 rfl rfl)
theorem dX9_init_87 : decode cX9_init 87 = .ok (.iload 5, 2) := dk_21 5 (dk_at dksX9_init_3 22 rfl rfl)
theorem dX9_init_89 : decode cX9_init 89 = .ok (.invokestatic 67, 3) := dk_184 0 67 (dk_at dksX9_init_4 0 rfl rfl)
theorem dX9_init_92 : decode cX9_init 92 = .ok (.ifCond .ne 23, 3) := dk_154 0 23 (dk_at dksX9_init_4 3 rfl rfl)
theorem dX9_init_95 : decode cX9_init 95 = .ok (.aload_n 1, 1) := dk_43 (dk_at dksX9_init_4 6 rfl rfl)
theorem dX9_init_96 : decode cX9_init 96 = .ok (.aload 7, 2) := dk_25 7 (dk_at dksX9_init_4 7 rfl rfl)
theorem dX9_init_98 : decode cX9_init 98 = .ok (.iload_n 3, 1) := dk_29 (dk_at dksX9_init_4 9 rfl rfl)
theorem dX9_init_99 : decode cX9_init 99 = .ok (.invokevirtual 71, 3) := dk_182 0 71 (dk_at dksX9_init_4 10 rfl rfl)
theorem dX9_init_102 : decode cX9_init 102 = .ok (.ifCond .eq 13, 3) := dk_153 0 13 (dk_at dksX9_init_4 13 rfl rfl)
theorem dX9_init_105 : decode cX9_init 105 = .ok (.aload_n 0, 1) := dk_42 (dk_at dksX9_init_4 16 rfl rfl)
theorem dX9_init_106 : decode cX9_init 106 = .ok (.getfield 22, 3) := dk_180 0 22 (dk_at dksX9_init_4 17 rfl rfl)
theorem dX9_init_109 : decode cX9_init 109 = .ok (.aload 7, 2) := dk_25 7 (dk_at dksX9_init_4 20 rfl rfl)
theorem dX9_init_111 : decode cX9_init 111 = .ok (.invokevirtual 75, 3) := dk_182 0 75 (dk_at dksX9_init_5 0 rfl rfl)
theorem dX9_init_114 : decode cX9_init 114 = .ok (.pop, 1) := dk_87 (dk_at dksX9_init_5 3 rfl rfl)
theorem dX9_init_115 : decode cX9_init 115 = .ok (.iinc 5 1, 3) := dk_132 5 1 (dk_at dksX9_init_5 4 rfl rfl)
theorem dX9_init_118 : decode cX9_init 118 = .ok (.goto (-55), 3) := dk_167 255 201 (dk_at dksX9_init_5 7 rfl rfl)
theorem dX9_init_121 : decode cX9_init 121 = .ok (.aload_n 0, 1) := dk_42 (dk_at dksX9_init_5 10 rfl rfl)
theorem dX9_init_122 : decode cX9_init 122 = .ok (.invokevirtual 79, 3) := dk_182 0 79 (dk_at dksX9_init_5 11 rfl rfl)
theorem dX9_init_125 : decode cX9_init 125 = .ok (.return_, 1) := dk_177 (dk_at dksX9_init_5 14 rfl rfl)
abbrev cX9_goes : ByteArray := prog_9_method_2_code
def yX9_goes : MethodName := ⟨RX9, "goes", "()V"⟩
def dkwX9_goes_10 : List UInt8 := [177]
abbrev dktX9_goes_10 : List UInt8 := dkwX9_goes_10 ++ []
def dkwX9_goes_9 : List UInt8 := [159, 0, 18, 42, 42, 180, 0, 3, 180, 0, 39, 28, 182, 0, 82, 182, 0, 131, 132, 2, 1, 167, 255, 211]
abbrev dktX9_goes_9 : List UInt8 := dkwX9_goes_9 ++ dktX9_goes_10
def dkwX9_goes_8 : List UInt8 := [42, 180, 0, 3, 180, 0, 39, 180, 0, 128, 182, 0, 115, 162, 0, 34, 42, 180, 0, 15, 28, 46, 2]
abbrev dktX9_goes_8 : List UInt8 := dkwX9_goes_8 ++ dktX9_goes_9
def dkwX9_goes_7 : List UInt8 := [43, 25, 4, 180, 0, 125, 184, 0, 95, 182, 0, 101, 132, 3, 1, 167, 255, 173, 167, 255, 150, 3, 61, 28]
abbrev dktX9_goes_7 : List UInt8 := dkwX9_goes_7 ++ dktX9_goes_8
def dkwX9_goes_6 : List UInt8 := [159, 0, 6, 167, 0, 33, 42, 180, 0, 15, 25, 4, 180, 0, 125, 42, 180, 0, 15, 28, 46, 4, 96, 79]
abbrev dktX9_goes_6 : List UInt8 := dkwX9_goes_6 ++ dktX9_goes_7
def dkwX9_goes_5 : List UInt8 := [58, 4, 25, 4, 180, 0, 122, 28, 160, 0, 50, 42, 180, 0, 15, 25, 4, 180, 0, 125, 46, 2]
abbrev dktX9_goes_5 : List UInt8 := dkwX9_goes_5 ++ dktX9_goes_6
def dkwX9_goes_4 : List UInt8 := [3, 62, 29, 42, 180, 0, 22, 182, 0, 115, 162, 0, 78, 42, 180, 0, 22, 29, 182, 0, 118, 192, 0, 65]
abbrev dktX9_goes_4 : List UInt8 := dkwX9_goes_4 ++ dktX9_goes_5
def dkwX9_goes_3 : List UInt8 := [184, 0, 95, 182, 0, 101, 43, 182, 0, 105, 154, 0, 105, 43, 182, 0, 108, 192, 0, 96, 182, 0, 111, 61]
abbrev dktX9_goes_3 : List UInt8 := dkwX9_goes_3 ++ dktX9_goes_4
def dkwX9_goes_2 : List UInt8 := [177, 187, 0, 92, 89, 183, 0, 94, 76, 42, 180, 0, 15, 42, 180, 0, 33, 3, 79, 43, 42, 180, 0, 33]
abbrev dktX9_goes_2 : List UInt8 := dkwX9_goes_2 ++ dktX9_goes_3
def dkwX9_goes_1 : List UInt8 := [180, 0, 3, 180, 0, 39, 42, 180, 0, 33, 182, 0, 82, 42, 180, 0, 36, 182, 0, 86, 2, 160, 0, 4]
abbrev dktX9_goes_1 : List UInt8 := dkwX9_goes_1 ++ dktX9_goes_2
def dkwX9_goes_0 : List UInt8 := [3, 60, 27, 16, 14, 162, 0, 16, 42, 180, 0, 15, 27, 2, 79, 132, 1, 1, 167, 255, 240, 42]
abbrev dktX9_goes_0 : List UInt8 := dkwX9_goes_0 ++ dktX9_goes_1
theorem dksX9_goes_0 : cX9_goes.data.toList.drop 0 = dktX9_goes_0 := by decide +kernel
theorem dksX9_goes_1 : cX9_goes.data.toList.drop 22 = dktX9_goes_1 := dk_seg dksX9_goes_0 22 rfl rfl
theorem dksX9_goes_2 : cX9_goes.data.toList.drop 46 = dktX9_goes_2 := dk_seg dksX9_goes_1 24 rfl rfl
theorem dksX9_goes_3 : cX9_goes.data.toList.drop 70 = dktX9_goes_3 := dk_seg dksX9_goes_2 24 rfl rfl
theorem dksX9_goes_4 : cX9_goes.data.toList.drop 94 = dktX9_goes_4 := dk_seg dksX9_goes_3 24 rfl rfl
theorem dksX9_goes_5 : cX9_goes.data.toList.drop 118 = dktX9_goes_5 := dk_seg dksX9_goes_4 24 rfl rfl
theorem dksX9_goes_6 : cX9_goes.data.toList.drop 140 = dktX9_goes_6 := dk_seg dksX9_goes_5 22 rfl rfl
theorem dksX9_goes_7 : cX9_goes.data.toList.drop 164 = dktX9_goes_7 := dk_seg dksX9_goes_6 24 rfl rfl
theorem dksX9_goes_8 : cX9_goes.data.toList.drop 188 = dktX9_goes_8 := dk_seg dksX9_goes_7 24 rfl rfl
theorem dksX9_goes_9 : cX9_goes.data.toList.drop 211 = dktX9_goes_9 := dk_seg dksX9_goes_8 23 rfl rfl
theorem dksX9_goes_10 : cX9_goes.data.toList.drop 235 = dktX9_goes_10 := dk_seg dksX9_goes_9 24 rfl rfl
theorem dX9_goes_0 : decode cX9_goes 0 = .ok (.iconst 0, 1) := dk_3 (dk_at dksX9_goes_0 0 rfl rfl)
theorem dX9_goes_1 : decode cX9_goes 1 = .ok (.istore_n 1, 1) := dk_60 (dk_at dksX9_goes_0 1 rfl rfl)
theorem dX9_goes_2 : decode cX9_goes 2 = .ok (.iload_n 1, 1) := dk_27 (dk_at dksX9_goes_0 2 rfl rfl)
theorem dX9_goes_3 : decode cX9_goes 3 = .ok (.bipush 14, 2) := dk_16 14 (dk_at dksX9_goes_0 3 rfl rfl)
theorem dX9_goes_5 : decode cX9_goes 5 = .ok (.if_icmp .ge 16, 3) := dk_162 0 16 (dk_at dksX9_goes_0 5 rfl rfl)
theorem dX9_goes_8 : decode cX9_goes 8 = .ok (.aload_n 0, 1) := dk_42 (dk_at dksX9_goes_0 8 rfl rfl)
theorem dX9_goes_9 : decode cX9_goes 9 = .ok (.getfield 15, 3) := dk_180 0 15 (dk_at dksX9_goes_0 9 rfl rfl)
theorem dX9_goes_12 : decode cX9_goes 12 = .ok (.iload_n 1, 1) := dk_27 (dk_at dksX9_goes_0 12 rfl rfl)
theorem dX9_goes_13 : decode cX9_goes 13 = .ok (.iconst (-1), 1) := dk_2 (dk_at dksX9_goes_0 13 rfl rfl)
theorem dX9_goes_14 : decode cX9_goes 14 = .ok (.iastore, 1) := dk_79 (dk_at dksX9_goes_0 14 rfl rfl)
theorem dX9_goes_15 : decode cX9_goes 15 = .ok (.iinc 1 1, 3) := dk_132 1 1 (dk_at dksX9_goes_0 15 rfl rfl)
theorem dX9_goes_18 : decode cX9_goes 18 = .ok (.goto (-16), 3) := dk_167 255 240 (dk_at dksX9_goes_0 18 rfl rfl)
theorem dX9_goes_21 : decode cX9_goes 21 = .ok (.aload_n 0, 1) := dk_42 (dk_at dksX9_goes_0 21 rfl rfl)
theorem dX9_goes_22 : decode cX9_goes 22 = .ok (.getfield 3, 3) := dk_180 0 3 (dk_at dksX9_goes_1 0 rfl rfl)
theorem dX9_goes_25 : decode cX9_goes 25 = .ok (.getfield 39, 3) := dk_180 0 39 (dk_at dksX9_goes_1 3 rfl rfl)
theorem dX9_goes_28 : decode cX9_goes 28 = .ok (.aload_n 0, 1) := dk_42 (dk_at dksX9_goes_1 6 rfl rfl)
theorem dX9_goes_29 : decode cX9_goes 29 = .ok (.getfield 33, 3) := dk_180 0 33 (dk_at dksX9_goes_1 7 rfl rfl)
theorem dX9_goes_32 : decode cX9_goes 32 = .ok (.invokevirtual 82, 3) := dk_182 0 82 (dk_at dksX9_goes_1 10 rfl rfl)
theorem dX9_goes_35 : decode cX9_goes 35 = .ok (.aload_n 0, 1) := dk_42 (dk_at dksX9_goes_1 13 rfl rfl)
theorem dX9_goes_36 : decode cX9_goes 36 = .ok (.getfield 36, 3) := dk_180 0 36 (dk_at dksX9_goes_1 14 rfl rfl)
theorem dX9_goes_39 : decode cX9_goes 39 = .ok (.invokevirtual 86, 3) := dk_182 0 86 (dk_at dksX9_goes_1 17 rfl rfl)
theorem dX9_goes_42 : decode cX9_goes 42 = .ok (.iconst (-1), 1) := dk_2 (dk_at dksX9_goes_1 20 rfl rfl)
theorem dX9_goes_43 : decode cX9_goes 43 = .ok (.if_icmp .ne 4, 3) := dk_160 0 4 (dk_at dksX9_goes_1 21 rfl rfl)
theorem dX9_goes_46 : decode cX9_goes 46 = .ok (.return_, 1) := dk_177 (dk_at dksX9_goes_2 0 rfl rfl)
theorem dX9_goes_47 : decode cX9_goes 47 = .ok (.new 92, 3) := dk_187 0 92 (dk_at dksX9_goes_2 1 rfl rfl)
theorem dX9_goes_50 : decode cX9_goes 50 = .ok (.dup, 1) := dk_89 (dk_at dksX9_goes_2 4 rfl rfl)
theorem dX9_goes_51 : decode cX9_goes 51 = .ok (.invokespecial 94, 3) := dk_183 0 94 (dk_at dksX9_goes_2 5 rfl rfl)
theorem dX9_goes_54 : decode cX9_goes 54 = .ok (.astore_n 1, 1) := dk_76 (dk_at dksX9_goes_2 8 rfl rfl)
theorem dX9_goes_55 : decode cX9_goes 55 = .ok (.aload_n 0, 1) := dk_42 (dk_at dksX9_goes_2 9 rfl rfl)
theorem dX9_goes_56 : decode cX9_goes 56 = .ok (.getfield 15, 3) := dk_180 0 15 (dk_at dksX9_goes_2 10 rfl rfl)
theorem dX9_goes_59 : decode cX9_goes 59 = .ok (.aload_n 0, 1) := dk_42 (dk_at dksX9_goes_2 13 rfl rfl)
theorem dX9_goes_60 : decode cX9_goes 60 = .ok (.getfield 33, 3) := dk_180 0 33 (dk_at dksX9_goes_2 14 rfl rfl)
theorem dX9_goes_63 : decode cX9_goes 63 = .ok (.iconst 0, 1) := dk_3 (dk_at dksX9_goes_2 17 rfl rfl)
theorem dX9_goes_64 : decode cX9_goes 64 = .ok (.iastore, 1) := dk_79 (dk_at dksX9_goes_2 18 rfl rfl)
theorem dX9_goes_65 : decode cX9_goes 65 = .ok (.aload_n 1, 1) := dk_43 (dk_at dksX9_goes_2 19 rfl rfl)
theorem dX9_goes_66 : decode cX9_goes 66 = .ok (.aload_n 0, 1) := dk_42 (dk_at dksX9_goes_2 20 rfl rfl)
theorem dX9_goes_67 : decode cX9_goes 67 = .ok (.getfield 33, 3) := dk_180 0 33 (dk_at dksX9_goes_2 21 rfl rfl)
theorem dX9_goes_70 : decode cX9_goes 70 = .ok (.invokestatic 95, 3) := dk_184 0 95 (dk_at dksX9_goes_3 0 rfl rfl)
theorem dX9_goes_73 : decode cX9_goes 73 = .ok (.invokevirtual 101, 3) := dk_182 0 101 (dk_at dksX9_goes_3 3 rfl rfl)
theorem dX9_goes_76 : decode cX9_goes 76 = .ok (.aload_n 1, 1) := dk_43 (dk_at dksX9_goes_3 6 rfl rfl)
theorem dX9_goes_77 : decode cX9_goes 77 = .ok (.invokevirtual 105, 3) := dk_182 0 105 (dk_at dksX9_goes_3 7 rfl rfl)
theorem dX9_goes_80 : decode cX9_goes 80 = .ok (.ifCond .ne 105, 3) := dk_154 0 105 (dk_at dksX9_goes_3 10 rfl rfl)
theorem dX9_goes_83 : decode cX9_goes 83 = .ok (.aload_n 1, 1) := dk_43 (dk_at dksX9_goes_3 13 rfl rfl)
theorem dX9_goes_84 : decode cX9_goes 84 = .ok (.invokevirtual 108, 3) := dk_182 0 108 (dk_at dksX9_goes_3 14 rfl rfl)
theorem dX9_goes_87 : decode cX9_goes 87 = .ok (.checkcast 96, 3) := dk_192 0 96 (dk_at dksX9_goes_3 17 rfl rfl)
theorem dX9_goes_90 : decode cX9_goes 90 = .ok (.invokevirtual 111, 3) := dk_182 0 111 (dk_at dksX9_goes_3 20 rfl rfl)
theorem dX9_goes_93 : decode cX9_goes 93 = .ok (.istore_n 2, 1) := dk_61 (dk_at dksX9_goes_3 23 rfl rfl)
theorem dX9_goes_94 : decode cX9_goes 94 = .ok (.iconst 0, 1) := dk_3 (dk_at dksX9_goes_4 0 rfl rfl)
theorem dX9_goes_95 : decode cX9_goes 95 = .ok (.istore_n 3, 1) := dk_62 (dk_at dksX9_goes_4 1 rfl rfl)
theorem dX9_goes_96 : decode cX9_goes 96 = .ok (.iload_n 3, 1) := dk_29 (dk_at dksX9_goes_4 2 rfl rfl)
theorem dX9_goes_97 : decode cX9_goes 97 = .ok (.aload_n 0, 1) := dk_42 (dk_at dksX9_goes_4 3 rfl rfl)
theorem dX9_goes_98 : decode cX9_goes 98 = .ok (.getfield 22, 3) := dk_180 0 22 (dk_at dksX9_goes_4 4 rfl rfl)
theorem dX9_goes_101 : decode cX9_goes 101 = .ok (.invokevirtual 115, 3) := dk_182 0 115 (dk_at dksX9_goes_4 7 rfl rfl)
theorem dX9_goes_104 : decode cX9_goes 104 = .ok (.if_icmp .ge 78, 3) := dk_162 0 78 (dk_at dksX9_goes_4 10 rfl rfl)
theorem dX9_goes_107 : decode cX9_goes 107 = .ok (.aload_n 0, 1) := dk_42 (dk_at dksX9_goes_4 13 rfl rfl)
theorem dX9_goes_108 : decode cX9_goes 108 = .ok (.getfield 22, 3) := dk_180 0 22 (dk_at dksX9_goes_4 14 rfl rfl)
theorem dX9_goes_111 : decode cX9_goes 111 = .ok (.iload_n 3, 1) := dk_29 (dk_at dksX9_goes_4 17 rfl rfl)
theorem dX9_goes_112 : decode cX9_goes 112 = .ok (.invokevirtual 118, 3) := dk_182 0 118 (dk_at dksX9_goes_4 18 rfl rfl)
theorem dX9_goes_115 : decode cX9_goes 115 = .ok (.checkcast 65, 3) := dk_192 0 65 (dk_at dksX9_goes_4 21 rfl rfl)
theorem dX9_goes_118 : decode cX9_goes 118 = .ok (.astore 4, 2) := dk_58 4 (dk_at dksX9_goes_5 0 rfl rfl)
theorem dX9_goes_120 : decode cX9_goes 120 = .ok (.aload 4, 2) := dk_25 4 (dk_at dksX9_goes_5 2 rfl rfl)
theorem dX9_goes_122 : decode cX9_goes 122 = .ok (.getfield 122, 3) := dk_180 0 122 (dk_at dksX9_goes_5 4 rfl rfl)
theorem dX9_goes_125 : decode cX9_goes 125 = .ok (.iload_n 2, 1) := dk_28 (dk_at dksX9_goes_5 7 rfl rfl)
theorem dX9_goes_126 : decode cX9_goes 126 = .ok (.if_icmp .ne 50, 3) := dk_160 0 50 (dk_at dksX9_goes_5 8 rfl rfl)
theorem dX9_goes_129 : decode cX9_goes 129 = .ok (.aload_n 0, 1) := dk_42 (dk_at dksX9_goes_5 11 rfl rfl)
theorem dX9_goes_130 : decode cX9_goes 130 = .ok (.getfield 15, 3) := dk_180 0 15 (dk_at dksX9_goes_5 12 rfl rfl)
theorem dX9_goes_133 : decode cX9_goes 133 = .ok (.aload 4, 2) := dk_25 4 (dk_at dksX9_goes_5 15 rfl rfl)
theorem dX9_goes_135 : decode cX9_goes 135 = .ok (.getfield 125, 3) := dk_180 0 125 (dk_at dksX9_goes_5 17 rfl rfl)
theorem dX9_goes_138 : decode cX9_goes 138 = .ok (.iaload, 1) := dk_46 (dk_at dksX9_goes_5 20 rfl rfl)
theorem dX9_goes_139 : decode cX9_goes 139 = .ok (.iconst (-1), 1) := dk_2 (dk_at dksX9_goes_5 21 rfl rfl)
theorem dX9_goes_140 : decode cX9_goes 140 = .ok (.if_icmp .eq 6, 3) := dk_159 0 6 (dk_at dksX9_goes_6 0 rfl rfl)
theorem dX9_goes_143 : decode cX9_goes 143 = .ok (.goto 33, 3) := dk_167 0 33 (dk_at dksX9_goes_6 3 rfl rfl)
theorem dX9_goes_146 : decode cX9_goes 146 = .ok (.aload_n 0, 1) := dk_42 (dk_at dksX9_goes_6 6 rfl rfl)
theorem dX9_goes_147 : decode cX9_goes 147 = .ok (.getfield 15, 3) := dk_180 0 15 (dk_at dksX9_goes_6 7 rfl rfl)
theorem dX9_goes_150 : decode cX9_goes 150 = .ok (.aload 4, 2) := dk_25 4 (dk_at dksX9_goes_6 10 rfl rfl)
theorem dX9_goes_152 : decode cX9_goes 152 = .ok (.getfield 125, 3) := dk_180 0 125 (dk_at dksX9_goes_6 12 rfl rfl)
theorem dX9_goes_155 : decode cX9_goes 155 = .ok (.aload_n 0, 1) := dk_42 (dk_at dksX9_goes_6 15 rfl rfl)
theorem dX9_goes_156 : decode cX9_goes 156 = .ok (.getfield 15, 3) := dk_180 0 15 (dk_at dksX9_goes_6 16 rfl rfl)
theorem dX9_goes_159 : decode cX9_goes 159 = .ok (.iload_n 2, 1) := dk_28 (dk_at dksX9_goes_6 19 rfl rfl)
theorem dX9_goes_160 : decode cX9_goes 160 = .ok (.iaload, 1) := dk_46 (dk_at dksX9_goes_6 20 rfl rfl)
theorem dX9_goes_161 : decode cX9_goes 161 = .ok (.iconst 1, 1) := dk_4 (dk_at dksX9_goes_6 21 rfl rfl)
theorem dX9_goes_162 : decode cX9_goes 162 = .ok (.iadd, 1) := dk_96 (dk_at dksX9_goes_6 22 rfl rfl)
theorem dX9_goes_163 : decode cX9_goes 163 = .ok (.iastore, 1) := dk_79 (dk_at dksX9_goes_6 23 rfl rfl)
theorem dX9_goes_164 : decode cX9_goes 164 = .ok (.aload_n 1, 1) := dk_43 (dk_at dksX9_goes_7 0 rfl rfl)
theorem dX9_goes_165 : decode cX9_goes 165 = .ok (.aload 4, 2) := dk_25 4 (dk_at dksX9_goes_7 1 rfl rfl)
theorem dX9_goes_167 : decode cX9_goes 167 = .ok (.getfield 125, 3) := dk_180 0 125 (dk_at dksX9_goes_7 3 rfl rfl)
theorem dX9_goes_170 : decode cX9_goes 170 = .ok (.invokestatic 95, 3) := dk_184 0 95 (dk_at dksX9_goes_7 6 rfl rfl)
theorem dX9_goes_173 : decode cX9_goes 173 = .ok (.invokevirtual 101, 3) := dk_182 0 101 (dk_at dksX9_goes_7 9 rfl rfl)
theorem dX9_goes_176 : decode cX9_goes 176 = .ok (.iinc 3 1, 3) := dk_132 3 1 (dk_at dksX9_goes_7 12 rfl rfl)
theorem dX9_goes_179 : decode cX9_goes 179 = .ok (.goto (-83), 3) := dk_167 255 173 (dk_at dksX9_goes_7 15 rfl rfl)
theorem dX9_goes_182 : decode cX9_goes 182 = .ok (.goto (-106), 3) := dk_167 255 150 (dk_at dksX9_goes_7 18 rfl rfl)
theorem dX9_goes_185 : decode cX9_goes 185 = .ok (.iconst 0, 1) := dk_3 (dk_at dksX9_goes_7 21 rfl rfl)
theorem dX9_goes_186 : decode cX9_goes 186 = .ok (.istore_n 2, 1) := dk_61 (dk_at dksX9_goes_7 22 rfl rfl)
theorem dX9_goes_187 : decode cX9_goes 187 = .ok (.iload_n 2, 1) := dk_28 (dk_at dksX9_goes_7 23 rfl rfl)
theorem dX9_goes_188 : decode cX9_goes 188 = .ok (.aload_n 0, 1) := dk_42 (dk_at dksX9_goes_8 0 rfl rfl)
theorem dX9_goes_189 : decode cX9_goes 189 = .ok (.getfield 3, 3) := dk_180 0 3 (dk_at dksX9_goes_8 1 rfl rfl)
theorem dX9_goes_192 : decode cX9_goes 192 = .ok (.getfield 39, 3) := dk_180 0 39 (dk_at dksX9_goes_8 4 rfl rfl)
theorem dX9_goes_195 : decode cX9_goes 195 = .ok (.getfield 128, 3) := dk_180 0 128 (dk_at dksX9_goes_8 7 rfl rfl)
theorem dX9_goes_198 : decode cX9_goes 198 = .ok (.invokevirtual 115, 3) := dk_182 0 115 (dk_at dksX9_goes_8 10 rfl rfl)
theorem dX9_goes_201 : decode cX9_goes 201 = .ok (.if_icmp .ge 34, 3) := dk_162 0 34 (dk_at dksX9_goes_8 13 rfl rfl)
theorem dX9_goes_204 : decode cX9_goes 204 = .ok (.aload_n 0, 1) := dk_42 (dk_at dksX9_goes_8 16 rfl rfl)
theorem dX9_goes_205 : decode cX9_goes 205 = .ok (.getfield 15, 3) := dk_180 0 15 (dk_at dksX9_goes_8 17 rfl rfl)
theorem dX9_goes_208 : decode cX9_goes 208 = .ok (.iload_n 2, 1) := dk_28 (dk_at dksX9_goes_8 20 rfl rfl)
theorem dX9_goes_209 : decode cX9_goes 209 = .ok (.iaload, 1) := dk_46 (dk_at dksX9_goes_8 21 rfl rfl)
theorem dX9_goes_210 : decode cX9_goes 210 = .ok (.iconst (-1), 1) := dk_2 (dk_at dksX9_goes_8 22 rfl rfl)
theorem dX9_goes_211 : decode cX9_goes 211 = .ok (.if_icmp .eq 18, 3) := dk_159 0 18 (dk_at dksX9_goes_9 0 rfl rfl)
theorem dX9_goes_214 : decode cX9_goes 214 = .ok (.aload_n 0, 1) := dk_42 (dk_at dksX9_goes_9 3 rfl rfl)
theorem dX9_goes_215 : decode cX9_goes 215 = .ok (.aload_n 0, 1) := dk_42 (dk_at dksX9_goes_9 4 rfl rfl)
theorem dX9_goes_216 : decode cX9_goes 216 = .ok (.getfield 3, 3) := dk_180 0 3 (dk_at dksX9_goes_9 5 rfl rfl)
theorem dX9_goes_219 : decode cX9_goes 219 = .ok (.getfield 39, 3) := dk_180 0 39 (dk_at dksX9_goes_9 8 rfl rfl)
theorem dX9_goes_222 : decode cX9_goes 222 = .ok (.iload_n 2, 1) := dk_28 (dk_at dksX9_goes_9 11 rfl rfl)
theorem dX9_goes_223 : decode cX9_goes 223 = .ok (.invokevirtual 82, 3) := dk_182 0 82 (dk_at dksX9_goes_9 12 rfl rfl)
theorem dX9_goes_226 : decode cX9_goes 226 = .ok (.invokevirtual 131, 3) := dk_182 0 131 (dk_at dksX9_goes_9 15 rfl rfl)
theorem dX9_goes_229 : decode cX9_goes 229 = .ok (.iinc 2 1, 3) := dk_132 2 1 (dk_at dksX9_goes_9 18 rfl rfl)
theorem dX9_goes_232 : decode cX9_goes 232 = .ok (.goto (-45), 3) := dk_167 255 211 (dk_at dksX9_goes_9 21 rfl rfl)
theorem dX9_goes_235 : decode cX9_goes 235 = .ok (.return_, 1) := dk_177 (dk_at dksX9_goes_10 0 rfl rfl)
abbrev cX9_tries : ByteArray := prog_9_method_3_code
def yX9_tries : MethodName := ⟨RX9, "tries", "(LFilingChains$Filing;)V"⟩
def dkwX9_tries_2 : List UInt8 := [42, 180, 0, 30, 46, 161, 0, 4, 177, 42, 28, 181, 0, 26, 42, 43, 180, 0, 135, 181, 0, 30, 177]
abbrev dktX9_tries_2 : List UInt8 := dkwX9_tries_2 ++ []
def dkwX9_tries_1 : List UInt8 := [163, 0, 32, 28, 42, 180, 0, 26, 160, 0, 25, 42, 180, 0, 15, 43, 180, 0, 135, 46, 42, 180, 0, 15]
abbrev dktX9_tries_1 : List UInt8 := dkwX9_tries_1 ++ dktX9_tries_2
def dkwX9_tries_0 : List UInt8 := [43, 42, 180, 0, 36, 182, 0, 86, 61, 42, 180, 0, 26, 2, 159, 0, 41, 28, 42, 180, 0, 26]
abbrev dktX9_tries_0 : List UInt8 := dkwX9_tries_0 ++ dktX9_tries_1
theorem dksX9_tries_0 : cX9_tries.data.toList.drop 0 = dktX9_tries_0 := by decide +kernel
theorem dksX9_tries_1 : cX9_tries.data.toList.drop 22 = dktX9_tries_1 := dk_seg dksX9_tries_0 22 rfl rfl
theorem dksX9_tries_2 : cX9_tries.data.toList.drop 46 = dktX9_tries_2 := dk_seg dksX9_tries_1 24 rfl rfl
theorem dX9_tries_0 : decode cX9_tries 0 = .ok (.aload_n 1, 1) := dk_43 (dk_at dksX9_tries_0 0 rfl rfl)
theorem dX9_tries_1 : decode cX9_tries 1 = .ok (.aload_n 0, 1) := dk_42 (dk_at dksX9_tries_0 1 rfl rfl)
theorem dX9_tries_2 : decode cX9_tries 2 = .ok (.getfield 36, 3) := dk_180 0 36 (dk_at dksX9_tries_0 2 rfl rfl)
theorem dX9_tries_5 : decode cX9_tries 5 = .ok (.invokevirtual 86, 3) := dk_182 0 86 (dk_at dksX9_tries_0 5 rfl rfl)
theorem dX9_tries_8 : decode cX9_tries 8 = .ok (.istore_n 2, 1) := dk_61 (dk_at dksX9_tries_0 8 rfl rfl)
theorem dX9_tries_9 : decode cX9_tries 9 = .ok (.aload_n 0, 1) := dk_42 (dk_at dksX9_tries_0 9 rfl rfl)
theorem dX9_tries_10 : decode cX9_tries 10 = .ok (.getfield 26, 3) := dk_180 0 26 (dk_at dksX9_tries_0 10 rfl rfl)
theorem dX9_tries_13 : decode cX9_tries 13 = .ok (.iconst (-1), 1) := dk_2 (dk_at dksX9_tries_0 13 rfl rfl)
theorem dX9_tries_14 : decode cX9_tries 14 = .ok (.if_icmp .eq 41, 3) := dk_159 0 41 (dk_at dksX9_tries_0 14 rfl rfl)
theorem dX9_tries_17 : decode cX9_tries 17 = .ok (.iload_n 2, 1) := dk_28 (dk_at dksX9_tries_0 17 rfl rfl)
theorem dX9_tries_18 : decode cX9_tries 18 = .ok (.aload_n 0, 1) := dk_42 (dk_at dksX9_tries_0 18 rfl rfl)
theorem dX9_tries_19 : decode cX9_tries 19 = .ok (.getfield 26, 3) := dk_180 0 26 (dk_at dksX9_tries_0 19 rfl rfl)
theorem dX9_tries_22 : decode cX9_tries 22 = .ok (.if_icmp .gt 32, 3) := dk_163 0 32 (dk_at dksX9_tries_1 0 rfl rfl)
theorem dX9_tries_25 : decode cX9_tries 25 = .ok (.iload_n 2, 1) := dk_28 (dk_at dksX9_tries_1 3 rfl rfl)
theorem dX9_tries_26 : decode cX9_tries 26 = .ok (.aload_n 0, 1) := dk_42 (dk_at dksX9_tries_1 4 rfl rfl)
theorem dX9_tries_27 : decode cX9_tries 27 = .ok (.getfield 26, 3) := dk_180 0 26 (dk_at dksX9_tries_1 5 rfl rfl)
theorem dX9_tries_30 : decode cX9_tries 30 = .ok (.if_icmp .ne 25, 3) := dk_160 0 25 (dk_at dksX9_tries_1 8 rfl rfl)
theorem dX9_tries_33 : decode cX9_tries 33 = .ok (.aload_n 0, 1) := dk_42 (dk_at dksX9_tries_1 11 rfl rfl)
theorem dX9_tries_34 : decode cX9_tries 34 = .ok (.getfield 15, 3) := dk_180 0 15 (dk_at dksX9_tries_1 12 rfl rfl)
theorem dX9_tries_37 : decode cX9_tries 37 = .ok (.aload_n 1, 1) := dk_43 (dk_at dksX9_tries_1 15 rfl rfl)
theorem dX9_tries_38 : decode cX9_tries 38 = .ok (.getfield 135, 3) := dk_180 0 135 (dk_at dksX9_tries_1 16 rfl rfl)
theorem dX9_tries_41 : decode cX9_tries 41 = .ok (.iaload, 1) := dk_46 (dk_at dksX9_tries_1 19 rfl rfl)
theorem dX9_tries_42 : decode cX9_tries 42 = .ok (.aload_n 0, 1) := dk_42 (dk_at dksX9_tries_1 20 rfl rfl)
theorem dX9_tries_43 : decode cX9_tries 43 = .ok (.getfield 15, 3) := dk_180 0 15 (dk_at dksX9_tries_1 21 rfl rfl)
theorem dX9_tries_46 : decode cX9_tries 46 = .ok (.aload_n 0, 1) := dk_42 (dk_at dksX9_tries_2 0 rfl rfl)
theorem dX9_tries_47 : decode cX9_tries 47 = .ok (.getfield 30, 3) := dk_180 0 30 (dk_at dksX9_tries_2 1 rfl rfl)
theorem dX9_tries_50 : decode cX9_tries 50 = .ok (.iaload, 1) := dk_46 (dk_at dksX9_tries_2 4 rfl rfl)
theorem dX9_tries_51 : decode cX9_tries 51 = .ok (.if_icmp .lt 4, 3) := dk_161 0 4 (dk_at dksX9_tries_2 5 rfl rfl)
theorem dX9_tries_54 : decode cX9_tries 54 = .ok (.return_, 1) := dk_177 (dk_at dksX9_tries_2 8 rfl rfl)
theorem dX9_tries_55 : decode cX9_tries 55 = .ok (.aload_n 0, 1) := dk_42 (dk_at dksX9_tries_2 9 rfl rfl)
theorem dX9_tries_56 : decode cX9_tries 56 = .ok (.iload_n 2, 1) := dk_28 (dk_at dksX9_tries_2 10 rfl rfl)
theorem dX9_tries_57 : decode cX9_tries 57 = .ok (.putfield 26, 3) := dk_181 0 26 (dk_at dksX9_tries_2 11 rfl rfl)
theorem dX9_tries_60 : decode cX9_tries 60 = .ok (.aload_n 0, 1) := dk_42 (dk_at dksX9_tries_2 14 rfl rfl)
theorem dX9_tries_61 : decode cX9_tries 61 = .ok (.aload_n 1, 1) := dk_43 (dk_at dksX9_tries_2 15 rfl rfl)
theorem dX9_tries_62 : decode cX9_tries 62 = .ok (.getfield 135, 3) := dk_180 0 135 (dk_at dksX9_tries_2 16 rfl rfl)
theorem dX9_tries_65 : decode cX9_tries 65 = .ok (.putfield 30, 3) := dk_181 0 30 (dk_at dksX9_tries_2 19 rfl rfl)
theorem dX9_tries_68 : decode cX9_tries 68 = .ok (.return_, 1) := dk_177 (dk_at dksX9_tries_2 22 rfl rfl)
abbrev cX9_row : ByteArray := prog_9_method_4_code
def yX9_row : MethodName := ⟨RX9, "row", "()Ljava/util/List;"⟩
def dkwX9_row_9 : List UInt8 := [180, 0, 125, 62, 167, 255, 161, 44, 176]
abbrev dktX9_row_9 : List UInt8 := dkwX9_row_9 ++ []
def dkwX9_row_8 : List UInt8 := [160, 0, 8, 25, 6, 167, 0, 5, 25, 4, 58, 4, 167, 255, 196, 44, 25, 4, 182, 0, 146, 25, 4]
abbrev dktX9_row_8 : List UInt8 := dkwX9_row_8 ++ dktX9_row_9
def dkwX9_row_7 : List UInt8 := [199, 0, 32, 25, 6, 180, 0, 122, 29, 160, 0, 23, 43, 25, 6, 180, 0, 125, 46, 43, 29, 46, 4, 100]
abbrev dktX9_row_7 : List UInt8 := dkwX9_row_7 ++ dktX9_row_8
def dkwX9_row_6 : List UInt8 := [25, 5, 185, 0, 55, 1, 0, 153, 0, 56, 25, 5, 185, 0, 61, 1, 0, 192, 0, 65, 58, 6, 25, 4]
abbrev dktX9_row_6 : List UInt8 := dkwX9_row_6 ++ dktX9_row_7
def dkwX9_row_5 : List UInt8 := [180, 0, 33, 62, 29, 42, 180, 0, 30, 159, 0, 93, 1, 58, 4, 42, 180, 0, 22, 182, 0, 138, 58, 5]
abbrev dktX9_row_5 : List UInt8 := dkwX9_row_5 ++ dktX9_row_6
def dkwX9_row_4 : List UInt8 := [184, 0, 139, 79, 167, 255, 210, 132, 2, 1, 167, 255, 190, 187, 0, 50, 89, 183, 0, 145, 77, 42]
abbrev dktX9_row_4 : List UInt8 := dkwX9_row_4 ++ dktX9_row_5
def dkwX9_row_3 : List UInt8 := [43, 25, 4, 180, 0, 122, 43, 25, 4, 180, 0, 122, 46, 43, 25, 4, 180, 0, 125, 46, 4, 96]
abbrev dktX9_row_3 : List UInt8 := dkwX9_row_3 ++ dktX9_row_4
def dkwX9_row_2 : List UInt8 := [182, 0, 138, 78, 45, 185, 0, 55, 1, 0, 153, 0, 43, 45, 185, 0, 61, 1, 0, 192, 0, 65, 58, 4]
abbrev dktX9_row_2 : List UInt8 := dkwX9_row_2 ++ dktX9_row_3
def dkwX9_row_1 : List UInt8 := [167, 0, 5, 16, 14, 79, 132, 2, 1, 167, 255, 230, 3, 61, 28, 16, 14, 162, 0, 66, 42, 180, 0, 22]
abbrev dktX9_row_1 : List UInt8 := dkwX9_row_1 ++ dktX9_row_2
def dkwX9_row_0 : List UInt8 := [16, 14, 188, 10, 76, 3, 61, 28, 16, 14, 162, 0, 26, 43, 28, 28, 42, 180, 0, 30, 160, 0, 7, 3]
abbrev dktX9_row_0 : List UInt8 := dkwX9_row_0 ++ dktX9_row_1
theorem dksX9_row_0 : cX9_row.data.toList.drop 0 = dktX9_row_0 := by decide +kernel
theorem dksX9_row_1 : cX9_row.data.toList.drop 24 = dktX9_row_1 := dk_seg dksX9_row_0 24 rfl rfl
theorem dksX9_row_2 : cX9_row.data.toList.drop 48 = dktX9_row_2 := dk_seg dksX9_row_1 24 rfl rfl
theorem dksX9_row_3 : cX9_row.data.toList.drop 72 = dktX9_row_3 := dk_seg dksX9_row_2 24 rfl rfl
theorem dksX9_row_4 : cX9_row.data.toList.drop 94 = dktX9_row_4 := dk_seg dksX9_row_3 22 rfl rfl
theorem dksX9_row_5 : cX9_row.data.toList.drop 116 = dktX9_row_5 := dk_seg dksX9_row_4 22 rfl rfl
theorem dksX9_row_6 : cX9_row.data.toList.drop 140 = dktX9_row_6 := dk_seg dksX9_row_5 24 rfl rfl
theorem dksX9_row_7 : cX9_row.data.toList.drop 164 = dktX9_row_7 := dk_seg dksX9_row_6 24 rfl rfl
theorem dksX9_row_8 : cX9_row.data.toList.drop 188 = dktX9_row_8 := dk_seg dksX9_row_7 24 rfl rfl
theorem dksX9_row_9 : cX9_row.data.toList.drop 211 = dktX9_row_9 := dk_seg dksX9_row_8 23 rfl rfl
theorem dX9_row_0 : decode cX9_row 0 = .ok (.bipush 14, 2) := dk_16 14 (dk_at dksX9_row_0 0 rfl rfl)
theorem dX9_row_2 : decode cX9_row 2 = .ok (.newarray .int, 2) := dk_188_10 (dk_at dksX9_row_0 2 rfl rfl)
theorem dX9_row_4 : decode cX9_row 4 = .ok (.astore_n 1, 1) := dk_76 (dk_at dksX9_row_0 4 rfl rfl)
theorem dX9_row_5 : decode cX9_row 5 = .ok (.iconst 0, 1) := dk_3 (dk_at dksX9_row_0 5 rfl rfl)
theorem dX9_row_6 : decode cX9_row 6 = .ok (.istore_n 2, 1) := dk_61 (dk_at dksX9_row_0 6 rfl rfl)
theorem dX9_row_7 : decode cX9_row 7 = .ok (.iload_n 2, 1) := dk_28 (dk_at dksX9_row_0 7 rfl rfl)
theorem dX9_row_8 : decode cX9_row 8 = .ok (.bipush 14, 2) := dk_16 14 (dk_at dksX9_row_0 8 rfl rfl)
theorem dX9_row_10 : decode cX9_row 10 = .ok (.if_icmp .ge 26, 3) := dk_162 0 26 (dk_at dksX9_row_0 10 rfl rfl)
theorem dX9_row_13 : decode cX9_row 13 = .ok (.aload_n 1, 1) := dk_43 (dk_at dksX9_row_0 13 rfl rfl)
theorem dX9_row_14 : decode cX9_row 14 = .ok (.iload_n 2, 1) := dk_28 (dk_at dksX9_row_0 14 rfl rfl)
theorem dX9_row_15 : decode cX9_row 15 = .ok (.iload_n 2, 1) := dk_28 (dk_at dksX9_row_0 15 rfl rfl)
theorem dX9_row_16 : decode cX9_row 16 = .ok (.aload_n 0, 1) := dk_42 (dk_at dksX9_row_0 16 rfl rfl)
theorem dX9_row_17 : decode cX9_row 17 = .ok (.getfield 30, 3) := dk_180 0 30 (dk_at dksX9_row_0 17 rfl rfl)
theorem dX9_row_20 : decode cX9_row 20 = .ok (.if_icmp .ne 7, 3) := dk_160 0 7 (dk_at dksX9_row_0 20 rfl rfl)
theorem dX9_row_23 : decode cX9_row 23 = .ok (.iconst 0, 1) := dk_3 (dk_at dksX9_row_0 23 rfl rfl)
theorem dX9_row_24 : decode cX9_row 24 = .ok (.goto 5, 3) := dk_167 0 5 (dk_at dksX9_row_1 0 rfl rfl)
theorem dX9_row_27 : decode cX9_row 27 = .ok (.bipush 14, 2) := dk_16 14 (dk_at dksX9_row_1 3 rfl rfl)
theorem dX9_row_29 : decode cX9_row 29 = .ok (.iastore, 1) := dk_79 (dk_at dksX9_row_1 5 rfl rfl)
theorem dX9_row_30 : decode cX9_row 30 = .ok (.iinc 2 1, 3) := dk_132 2 1 (dk_at dksX9_row_1 6 rfl rfl)
theorem dX9_row_33 : decode cX9_row 33 = .ok (.goto (-26), 3) := dk_167 255 230 (dk_at dksX9_row_1 9 rfl rfl)
theorem dX9_row_36 : decode cX9_row 36 = .ok (.iconst 0, 1) := dk_3 (dk_at dksX9_row_1 12 rfl rfl)
theorem dX9_row_37 : decode cX9_row 37 = .ok (.istore_n 2, 1) := dk_61 (dk_at dksX9_row_1 13 rfl rfl)
theorem dX9_row_38 : decode cX9_row 38 = .ok (.iload_n 2, 1) := dk_28 (dk_at dksX9_row_1 14 rfl rfl)
theorem dX9_row_39 : decode cX9_row 39 = .ok (.bipush 14, 2) := dk_16 14 (dk_at dksX9_row_1 15 rfl rfl)
theorem dX9_row_41 : decode cX9_row 41 = .ok (.if_icmp .ge 66, 3) := dk_162 0 66 (dk_at dksX9_row_1 17 rfl rfl)
theorem dX9_row_44 : decode cX9_row 44 = .ok (.aload_n 0, 1) := dk_42 (dk_at dksX9_row_1 20 rfl rfl)
theorem dX9_row_45 : decode cX9_row 45 = .ok (.getfield 22, 3) := dk_180 0 22 (dk_at dksX9_row_1 21 rfl rfl)
theorem dX9_row_48 : decode cX9_row 48 = .ok (.invokevirtual 138, 3) := dk_182 0 138 (dk_at dksX9_row_2 0 rfl rfl)
theorem dX9_row_51 : decode cX9_row 51 = .ok (.astore_n 3, 1) := dk_78 (dk_at dksX9_row_2 3 rfl rfl)
theorem dX9_row_52 : decode cX9_row 52 = .ok (.aload_n 3, 1) := dk_45 (dk_at dksX9_row_2 4 rfl rfl)
theorem dX9_row_53 : decode cX9_row 53 = .ok (.invokeinterface 55 1, 5) := by decide +kernel
theorem dX9_row_58 : decode cX9_row 58 = .ok (.ifCond .eq 43, 3) := dk_153 0 43 (dk_at dksX9_row_2 10 rfl rfl)
theorem dX9_row_61 : decode cX9_row 61 = .ok (.aload_n 3, 1) := dk_45 (dk_at dksX9_row_2 13 rfl rfl)
theorem dX9_row_62 : decode cX9_row 62 = .ok (.invokeinterface 61 1, 5) := by decide +kernel
theorem dX9_row_67 : decode cX9_row 67 = .ok (.checkcast 65, 3) := dk_192 0 65 (dk_at dksX9_row_2 19 rfl rfl)
theorem dX9_row_70 : decode cX9_row 70 = .ok (.astore 4, 2) := dk_58 4 (dk_at dksX9_row_2 22 rfl rfl)
theorem dX9_row_72 : decode cX9_row 72 = .ok (.aload_n 1, 1) := dk_43 (dk_at dksX9_row_3 0 rfl rfl)
theorem dX9_row_73 : decode cX9_row 73 = .ok (.aload 4, 2) := dk_25 4 (dk_at dksX9_row_3 1 rfl rfl)
theorem dX9_row_75 : decode cX9_row 75 = .ok (.getfield 122, 3) := dk_180 0 122 (dk_at dksX9_row_3 3 rfl rfl)
theorem dX9_row_78 : decode cX9_row 78 = .ok (.aload_n 1, 1) := dk_43 (dk_at dksX9_row_3 6 rfl rfl)
theorem dX9_row_79 : decode cX9_row 79 = .ok (.aload 4, 2) := dk_25 4 (dk_at dksX9_row_3 7 rfl rfl)
theorem dX9_row_81 : decode cX9_row 81 = .ok (.getfield 122, 3) := dk_180 0 122 (dk_at dksX9_row_3 9 rfl rfl)
theorem dX9_row_84 : decode cX9_row 84 = .ok (.iaload, 1) := dk_46 (dk_at dksX9_row_3 12 rfl rfl)
theorem dX9_row_85 : decode cX9_row 85 = .ok (.aload_n 1, 1) := dk_43 (dk_at dksX9_row_3 13 rfl rfl)
theorem dX9_row_86 : decode cX9_row 86 = .ok (.aload 4, 2) := dk_25 4 (dk_at dksX9_row_3 14 rfl rfl)
theorem dX9_row_88 : decode cX9_row 88 = .ok (.getfield 125, 3) := dk_180 0 125 (dk_at dksX9_row_3 16 rfl rfl)
theorem dX9_row_91 : decode cX9_row 91 = .ok (.iaload, 1) := dk_46 (dk_at dksX9_row_3 19 rfl rfl)
theorem dX9_row_92 : decode cX9_row 92 = .ok (.iconst 1, 1) := dk_4 (dk_at dksX9_row_3 20 rfl rfl)
theorem dX9_row_93 : decode cX9_row 93 = .ok (.iadd, 1) := dk_96 (dk_at dksX9_row_3 21 rfl rfl)
theorem dX9_row_94 : decode cX9_row 94 = .ok (.invokestatic 139, 3) := dk_184 0 139 (dk_at dksX9_row_4 0 rfl rfl)
theorem dX9_row_97 : decode cX9_row 97 = .ok (.iastore, 1) := dk_79 (dk_at dksX9_row_4 3 rfl rfl)
theorem dX9_row_98 : decode cX9_row 98 = .ok (.goto (-46), 3) := dk_167 255 210 (dk_at dksX9_row_4 4 rfl rfl)
theorem dX9_row_101 : decode cX9_row 101 = .ok (.iinc 2 1, 3) := dk_132 2 1 (dk_at dksX9_row_4 7 rfl rfl)
theorem dX9_row_104 : decode cX9_row 104 = .ok (.goto (-66), 3) := dk_167 255 190 (dk_at dksX9_row_4 10 rfl rfl)
theorem dX9_row_107 : decode cX9_row 107 = .ok (.new 50, 3) := dk_187 0 50 (dk_at dksX9_row_4 13 rfl rfl)
theorem dX9_row_110 : decode cX9_row 110 = .ok (.dup, 1) := dk_89 (dk_at dksX9_row_4 16 rfl rfl)
theorem dX9_row_111 : decode cX9_row 111 = .ok (.invokespecial 145, 3) := dk_183 0 145 (dk_at dksX9_row_4 17 rfl rfl)
theorem dX9_row_114 : decode cX9_row 114 = .ok (.astore_n 2, 1) := dk_77 (dk_at dksX9_row_4 20 rfl rfl)
theorem dX9_row_115 : decode cX9_row 115 = .ok (.aload_n 0, 1) := dk_42 (dk_at dksX9_row_4 21 rfl rfl)
theorem dX9_row_116 : decode cX9_row 116 = .ok (.getfield 33, 3) := dk_180 0 33 (dk_at dksX9_row_5 0 rfl rfl)
theorem dX9_row_119 : decode cX9_row 119 = .ok (.istore_n 3, 1) := dk_62 (dk_at dksX9_row_5 3 rfl rfl)
theorem dX9_row_120 : decode cX9_row 120 = .ok (.iload_n 3, 1) := dk_29 (dk_at dksX9_row_5 4 rfl rfl)
theorem dX9_row_121 : decode cX9_row 121 = .ok (.aload_n 0, 1) := dk_42 (dk_at dksX9_row_5 5 rfl rfl)
theorem dX9_row_122 : decode cX9_row 122 = .ok (.getfield 30, 3) := dk_180 0 30 (dk_at dksX9_row_5 6 rfl rfl)
theorem dX9_row_125 : decode cX9_row 125 = .ok (.if_icmp .eq 93, 3) := dk_159 0 93 (dk_at dksX9_row_5 9 rfl rfl)
theorem dX9_row_128 : decode cX9_row 128 = .ok (.aconst_null, 1) := dk_1 (dk_at dksX9_row_5 12 rfl rfl)
theorem dX9_row_129 : decode cX9_row 129 = .ok (.astore 4, 2) := dk_58 4 (dk_at dksX9_row_5 13 rfl rfl)
theorem dX9_row_131 : decode cX9_row 131 = .ok (.aload_n 0, 1) := dk_42 (dk_at dksX9_row_5 15 rfl rfl)
theorem dX9_row_132 : decode cX9_row 132 = .ok (.getfield 22, 3) := dk_180 0 22 (dk_at dksX9_row_5 16 rfl rfl)
theorem dX9_row_135 : decode cX9_row 135 = .ok (.invokevirtual 138, 3) := dk_182 0 138 (dk_at dksX9_row_5 19 rfl rfl)
theorem dX9_row_138 : decode cX9_row 138 = .ok (.astore 5, 2) := dk_58 5 (dk_at dksX9_row_5 22 rfl rfl)
theorem dX9_row_140 : decode cX9_row 140 = .ok (.aload 5, 2) := dk_25 5 (dk_at dksX9_row_6 0 rfl rfl)
theorem dX9_row_142 : decode cX9_row 142 = .ok (.invokeinterface 55 1, 5) := by decide +kernel
theorem dX9_row_147 : decode cX9_row 147 = .ok (.ifCond .eq 56, 3) := dk_153 0 56 (dk_at dksX9_row_6 7 rfl rfl)
theorem dX9_row_150 : decode cX9_row 150 = .ok (.aload 5, 2) := dk_25 5 (dk_at dksX9_row_6 10 rfl rfl)
theorem dX9_row_152 : decode cX9_row 152 = .ok (.invokeinterface 61 1, 5) := by decide +kernel
theorem dX9_row_157 : decode cX9_row 157 = .ok (.checkcast 65, 3) := dk_192 0 65 (dk_at dksX9_row_6 17 rfl rfl)
theorem dX9_row_160 : decode cX9_row 160 = .ok (.astore 6, 2) := dk_58 6 (dk_at dksX9_row_6 20 rfl rfl)
theorem dX9_row_162 : decode cX9_row 162 = .ok (.aload 4, 2) := dk_25 4 (dk_at dksX9_row_6 22 rfl rfl)
theorem dX9_row_164 : decode cX9_row 164 = .ok (.ifnonnull 32, 3) := dk_199 0 32 (dk_at dksX9_row_7 0 rfl rfl)
theorem dX9_row_167 : decode cX9_row 167 = .ok (.aload 6, 2) := dk_25 6 (dk_at dksX9_row_7 3 rfl rfl)
theorem dX9_row_169 : decode cX9_row 169 = .ok (.getfield 122, 3) := dk_180 0 122 (dk_at dksX9_row_7 5 rfl rfl)
theorem dX9_row_172 : decode cX9_row 172 = .ok (.iload_n 3, 1) := dk_29 (dk_at dksX9_row_7 8 rfl rfl)
theorem dX9_row_173 : decode cX9_row 173 = .ok (.if_icmp .ne 23, 3) := dk_160 0 23 (dk_at dksX9_row_7 9 rfl rfl)
theorem dX9_row_176 : decode cX9_row 176 = .ok (.aload_n 1, 1) := dk_43 (dk_at dksX9_row_7 12 rfl rfl)
theorem dX9_row_177 : decode cX9_row 177 = .ok (.aload 6, 2) := dk_25 6 (dk_at dksX9_row_7 13 rfl rfl)
theorem dX9_row_179 : decode cX9_row 179 = .ok (.getfield 125, 3) := dk_180 0 125 (dk_at dksX9_row_7 15 rfl rfl)
theorem dX9_row_182 : decode cX9_row 182 = .ok (.iaload, 1) := dk_46 (dk_at dksX9_row_7 18 rfl rfl)
theorem dX9_row_183 : decode cX9_row 183 = .ok (.aload_n 1, 1) := dk_43 (dk_at dksX9_row_7 19 rfl rfl)
theorem dX9_row_184 : decode cX9_row 184 = .ok (.iload_n 3, 1) := dk_29 (dk_at dksX9_row_7 20 rfl rfl)
theorem dX9_row_185 : decode cX9_row 185 = .ok (.iaload, 1) := dk_46 (dk_at dksX9_row_7 21 rfl rfl)
theorem dX9_row_186 : decode cX9_row 186 = .ok (.iconst 1, 1) := dk_4 (dk_at dksX9_row_7 22 rfl rfl)
theorem dX9_row_187 : decode cX9_row 187 = .ok (.isub, 1) := dk_100 (dk_at dksX9_row_7 23 rfl rfl)
theorem dX9_row_188 : decode cX9_row 188 = .ok (.if_icmp .ne 8, 3) := dk_160 0 8 (dk_at dksX9_row_8 0 rfl rfl)
theorem dX9_row_191 : decode cX9_row 191 = .ok (.aload 6, 2) := dk_25 6 (dk_at dksX9_row_8 3 rfl rfl)
theorem dX9_row_193 : decode cX9_row 193 = .ok (.goto 5, 3) := dk_167 0 5 (dk_at dksX9_row_8 5 rfl rfl)
theorem dX9_row_196 : decode cX9_row 196 = .ok (.aload 4, 2) := dk_25 4 (dk_at dksX9_row_8 8 rfl rfl)
theorem dX9_row_198 : decode cX9_row 198 = .ok (.astore 4, 2) := dk_58 4 (dk_at dksX9_row_8 10 rfl rfl)
theorem dX9_row_200 : decode cX9_row 200 = .ok (.goto (-60), 3) := dk_167 255 196 (dk_at dksX9_row_8 12 rfl rfl)
theorem dX9_row_203 : decode cX9_row 203 = .ok (.aload_n 2, 1) := dk_44 (dk_at dksX9_row_8 15 rfl rfl)
theorem dX9_row_204 : decode cX9_row 204 = .ok (.aload 4, 2) := dk_25 4 (dk_at dksX9_row_8 16 rfl rfl)
theorem dX9_row_206 : decode cX9_row 206 = .ok (.invokevirtual 146, 3) := dk_182 0 146 (dk_at dksX9_row_8 18 rfl rfl)
theorem dX9_row_209 : decode cX9_row 209 = .ok (.aload 4, 2) := dk_25 4 (dk_at dksX9_row_8 21 rfl rfl)
theorem dX9_row_211 : decode cX9_row 211 = .ok (.getfield 125, 3) := dk_180 0 125 (dk_at dksX9_row_9 0 rfl rfl)
theorem dX9_row_214 : decode cX9_row 214 = .ok (.istore_n 3, 1) := dk_62 (dk_at dksX9_row_9 3 rfl rfl)
theorem dX9_row_215 : decode cX9_row 215 = .ok (.goto (-95), 3) := dk_167 255 161 (dk_at dksX9_row_9 4 rfl rfl)
theorem dX9_row_218 : decode cX9_row 218 = .ok (.aload_n 2, 1) := dk_44 (dk_at dksX9_row_9 7 rfl rfl)
theorem dX9_row_219 : decode cX9_row 219 = .ok (.areturn, 1) := dk_176 (dk_at dksX9_row_9 8 rfl rfl)
theorem q210 : (Jvm.Cond.initialized "FilingChains$Search") ∈ lw_all := lw_g (lw_at lw_m1 47 rfl) rfl
theorem q293 : (Jvm.Cond.fieldLinkNest "FilingChains$Search" (128 : Nat) "FilingChains$Office" "filings" "Ljava/util/ArrayList;" "FilingChains") ∈ lw_tbl := lw_at lw_m1 130 rfl
theorem q297 : (Jvm.Cond.fieldLinkNest "FilingChains$Search" (43 : Nat) "FilingChains$Office" "links" "Ljava/util/LinkedList;" "FilingChains") ∈ lw_tbl := lw_at lw_m1 134 rfl
theorem q343 : (Jvm.Cond.fieldLinkNest "FilingChains$Search" (39 : Nat) "FilingChains" "office" "LFilingChains$Office;" "FilingChains") ∈ lw_tbl := lw_at lw_m1 180 rfl
theorem q442 : (Jvm.Cond.selects "FilingChains$Search" ({ cls := "java/lang/Object", name := "getClass", desc := "()Ljava/lang/Class;" } : Jvm.MethodName) ({ cls := "java/lang/Object", name := "getClass", desc := "()Ljava/lang/Class;" } : Jvm.MethodName)) ∈ lw_all := lw_g (lw_at lw_m2 39 rfl) rfl
theorem q879 : (Jvm.Cond.selects "FilingChains$Search" ({ cls := "java/lang/Object", name := "equals", desc := "(Ljava/lang/Object;)Z" } : Jvm.MethodName) ({ cls := "java/lang/Object", name := "equals", desc := "(Ljava/lang/Object;)Z" } : Jvm.MethodName)) ∈ lw_all := lw_g (lw_at lw_m3 236 rfl) rfl
theorem q1104 : (Jvm.Cond.fieldLinkNest "FilingChains$Search" (135 : Nat) "FilingChains$Filing" "number" "I" "FilingChains") ∈ lw_tbl := lw_at lw_m4 221 rfl
theorem q1542 : (Jvm.Cond.fieldLinkNest "FilingChains$Search" (122 : Nat) "FilingChains$Link" "child" "I" "FilingChains") ∈ lw_tbl := lw_at lw_m6 179 rfl
theorem q1545 : (Jvm.Cond.fieldLinkNest "FilingChains$Search" (125 : Nat) "FilingChains$Link" "parent" "I" "FilingChains") ∈ lw_tbl := lw_at lw_m6 182 rfl
theorem q1675 : (Jvm.Cond.instantiable "FilingChains$Search" (7 : Nat)) ∈ lw_all := lw_g (lw_at lw_m7 72 rfl) rfl
theorem q1677 : (Jvm.Cond.instanceMethod ({ cls := "FilingChains$Search", name := "<init>", desc := "(LFilingChains;III)V" } : Jvm.MethodName)) ∈ lw_all := lw_g (lw_at lw_m7 74 rfl) rfl
theorem q1678 : (Jvm.Cond.code ({ cls := "FilingChains$Search", name := "<init>", desc := "(LFilingChains;III)V" } : Jvm.MethodName) prog_9_method_1_code (8 : Nat) (Option.none : Option Jvm.ClassFile.FieldType)) ∈ lw_all := lw_g (lw_at lw_m7 75 rfl) rfl
theorem q1679 : (Jvm.Cond.methodLink "FilingChains$Search" (9 : Nat) ({ cls := "java/lang/Object", name := "<init>", desc := "()V" } : Jvm.MethodName)) ∈ lw_all := lw_g (lw_at lw_m7 76 rfl) rfl
theorem q1680 : (Jvm.Cond.classLink "FilingChains$Search" (19 : Nat) "java/util/ArrayList") ∈ lw_all := lw_g (lw_at lw_m7 77 rfl) rfl
theorem q1681 : (Jvm.Cond.methodLink "FilingChains$Search" (21 : Nat) ({ cls := "java/util/ArrayList", name := "<init>", desc := "()V" } : Jvm.MethodName)) ∈ lw_all := lw_g (lw_at lw_m7 78 rfl) rfl
theorem q1682 : (Jvm.Cond.methodLink "FilingChains$Search" (49 : Nat) ({ cls := "java/util/LinkedList", name := "iterator", desc := "()Ljava/util/Iterator;" } : Jvm.MethodName)) ∈ lw_all := lw_g (lw_at lw_m7 79 rfl) rfl
theorem q1683 : (Jvm.Cond.interfaceEntry "FilingChains$Search" (55 : Nat)) ∈ lw_tbl := lw_at lw_m7 80 rfl
theorem q1684 : (Jvm.Cond.methodLink "FilingChains$Search" (55 : Nat) ({ cls := "java/util/Iterator", name := "hasNext", desc := "()Z" } : Jvm.MethodName)) ∈ lw_all := lw_g (lw_at lw_m7 81 rfl) rfl
theorem q1685 : (Jvm.Cond.interfaceEntry "FilingChains$Search" (61 : Nat)) ∈ lw_tbl := lw_at lw_m7 82 rfl
theorem q1686 : (Jvm.Cond.methodLink "FilingChains$Search" (61 : Nat) ({ cls := "java/util/Iterator", name := "next", desc := "()Ljava/lang/Object;" } : Jvm.MethodName)) ∈ lw_all := lw_g (lw_at lw_m7 83 rfl) rfl
theorem q1687 : (Jvm.Cond.classLink "FilingChains$Search" (65 : Nat) "FilingChains$Link") ∈ lw_all := lw_g (lw_at lw_m7 84 rfl) rfl
theorem q1688 : (Jvm.Cond.methodLinkNest "FilingChains$Search" (67 : Nat) ({ cls := "FilingChains", name := "has", desc := "(II)Z" } : Jvm.MethodName) "FilingChains") ∈ lw_tbl := lw_at lw_m7 85 rfl
theorem q1689 : (Jvm.Cond.methodLinkNest "FilingChains$Search" (71 : Nat) ({ cls := "FilingChains", name := "holdsFor", desc := "(LFilingChains$Link;I)Z" } : Jvm.MethodName) "FilingChains") ∈ lw_tbl := lw_at lw_m7 86 rfl
theorem q1705 : (Jvm.Cond.methodLink "FilingChains$Search" (75 : Nat) ({ cls := "java/util/ArrayList", name := "add", desc := "(Ljava/lang/Object;)Z" } : Jvm.MethodName)) ∈ lw_all := lw_g (lw_at lw_m7 102 rfl) rfl
theorem q1706 : (Jvm.Cond.methodLink "FilingChains$Search" (79 : Nat) ({ cls := "FilingChains$Search", name := "goes", desc := "()V" } : Jvm.MethodName)) ∈ lw_all := lw_g (lw_at lw_m7 103 rfl) rfl
theorem q1707 : (Jvm.Cond.privateMethod ({ cls := "FilingChains$Search", name := "goes", desc := "()V" } : Jvm.MethodName)) ∈ lw_tbl := lw_at lw_m7 104 rfl
theorem q1708 : (Jvm.Cond.instanceMethod ({ cls := "FilingChains$Search", name := "goes", desc := "()V" } : Jvm.MethodName)) ∈ lw_all := lw_g (lw_at lw_m7 105 rfl) rfl
theorem q1709 : (Jvm.Cond.code ({ cls := "FilingChains$Search", name := "goes", desc := "()V" } : Jvm.MethodName) prog_9_method_2_code (5 : Nat) (Option.none : Option Jvm.ClassFile.FieldType)) ∈ lw_all := lw_g (lw_at lw_m7 106 rfl) rfl
theorem q1710 : (Jvm.Cond.methodLink "FilingChains$Search" (82 : Nat) ({ cls := "FilingChains$Office", name := "filed", desc := "(I)LFilingChains$Filing;" } : Jvm.MethodName)) ∈ lw_all := lw_g (lw_at lw_m7 107 rfl) rfl
theorem q1711 : (Jvm.Cond.methodLink "FilingChains$Search" (86 : Nat) ({ cls := "FilingChains$Filing", name := "borne", desc := "(I)I" } : Jvm.MethodName)) ∈ lw_all := lw_g (lw_at lw_m7 108 rfl) rfl
theorem q1712 : (Jvm.Cond.classLink "FilingChains$Search" (92 : Nat) "java/util/ArrayDeque") ∈ lw_all := lw_g (lw_at lw_m7 109 rfl) rfl
theorem q1713 : (Jvm.Cond.methodLink "FilingChains$Search" (94 : Nat) ({ cls := "java/util/ArrayDeque", name := "<init>", desc := "()V" } : Jvm.MethodName)) ∈ lw_all := lw_g (lw_at lw_m7 110 rfl) rfl
theorem q1714 : (Jvm.Cond.methodLink "FilingChains$Search" (95 : Nat) ({ cls := "java/lang/Integer", name := "valueOf", desc := "(I)Ljava/lang/Integer;" } : Jvm.MethodName)) ∈ lw_all := lw_g (lw_at lw_m7 111 rfl) rfl
theorem q1733 : (Jvm.Cond.methodLink "FilingChains$Search" (101 : Nat) ({ cls := "java/util/ArrayDeque", name := "addLast", desc := "(Ljava/lang/Object;)V" } : Jvm.MethodName)) ∈ lw_all := lw_g (lw_at lw_m7 130 rfl) rfl
theorem q1750 : (Jvm.Cond.methodLink "FilingChains$Search" (105 : Nat) ({ cls := "java/util/ArrayDeque", name := "isEmpty", desc := "()Z" } : Jvm.MethodName)) ∈ lw_all := lw_g (lw_at lw_m7 147 rfl) rfl
theorem q1754 : (Jvm.Cond.methodLink "FilingChains$Search" (108 : Nat) ({ cls := "java/util/ArrayDeque", name := "removeFirst", desc := "()Ljava/lang/Object;" } : Jvm.MethodName)) ∈ lw_all := lw_g (lw_at lw_m7 151 rfl) rfl
theorem q1765 : (Jvm.Cond.classLink "FilingChains$Search" (96 : Nat) "java/lang/Integer") ∈ lw_all := lw_g (lw_at lw_m7 162 rfl) rfl
theorem q1766 : (Jvm.Cond.methodLink "FilingChains$Search" (111 : Nat) ({ cls := "java/lang/Integer", name := "intValue", desc := "()I" } : Jvm.MethodName)) ∈ lw_all := lw_g (lw_at lw_m7 163 rfl) rfl
theorem q1767 : (Jvm.Cond.methodLink "FilingChains$Search" (115 : Nat) ({ cls := "java/util/ArrayList", name := "size", desc := "()I" } : Jvm.MethodName)) ∈ lw_all := lw_g (lw_at lw_m7 164 rfl) rfl
theorem q1768 : (Jvm.Cond.methodLink "FilingChains$Search" (118 : Nat) ({ cls := "java/util/ArrayList", name := "get", desc := "(I)Ljava/lang/Object;" } : Jvm.MethodName)) ∈ lw_all := lw_g (lw_at lw_m7 165 rfl) rfl
theorem q1769 : (Jvm.Cond.methodLink "FilingChains$Search" (131 : Nat) ({ cls := "FilingChains$Search", name := "tries", desc := "(LFilingChains$Filing;)V" } : Jvm.MethodName)) ∈ lw_all := lw_g (lw_at lw_m7 166 rfl) rfl
theorem q1770 : (Jvm.Cond.privateMethod ({ cls := "FilingChains$Search", name := "tries", desc := "(LFilingChains$Filing;)V" } : Jvm.MethodName)) ∈ lw_tbl := lw_at lw_m7 167 rfl
theorem q1771 : (Jvm.Cond.instanceMethod ({ cls := "FilingChains$Search", name := "tries", desc := "(LFilingChains$Filing;)V" } : Jvm.MethodName)) ∈ lw_all := lw_g (lw_at lw_m7 168 rfl) rfl
theorem q1772 : (Jvm.Cond.code ({ cls := "FilingChains$Search", name := "tries", desc := "(LFilingChains$Filing;)V" } : Jvm.MethodName) prog_9_method_3_code (3 : Nat) (Option.none : Option Jvm.ClassFile.FieldType)) ∈ lw_all := lw_g (lw_at lw_m7 169 rfl) rfl
theorem q1773 : (Jvm.Cond.fieldLink "FilingChains$Search" (15 : Nat) "FilingChains$Search" "far" "[I") ∈ lw_all := lw_g (lw_at lw_m7 170 rfl) rfl
theorem q1775 : (Jvm.Cond.fieldLink "FilingChains$Search" (22 : Nat) "FilingChains$Search" "good" "Ljava/util/ArrayList;") ∈ lw_all := lw_g (lw_at lw_m7 172 rfl) rfl
theorem q1776 : (Jvm.Cond.fieldLink "FilingChains$Search" (36 : Nat) "FilingChains$Search" "set" "I") ∈ lw_all := lw_g (lw_at lw_m7 173 rfl) rfl
theorem q1777 : (Jvm.Cond.fieldLink "FilingChains$Search" (33 : Nat) "FilingChains$Search" "from" "I") ∈ lw_all := lw_g (lw_at lw_m7 174 rfl) rfl
theorem q1778 : (Jvm.Cond.fieldLink "FilingChains$Search" (26 : Nat) "FilingChains$Search" "date" "I") ∈ lw_all := lw_g (lw_at lw_m7 175 rfl) rfl
theorem q1780 : (Jvm.Cond.fieldLink "FilingChains$Search" (30 : Nat) "FilingChains$Search" "dater" "I") ∈ lw_all := lw_g (lw_at lw_m7 177 rfl) rfl
theorem q1782 : (Jvm.Cond.fieldLink "FilingChains$Search" (3 : Nat) "FilingChains$Search" "this$0" "LFilingChains;") ∈ lw_all := lw_g (lw_at lw_m7 179 rfl) rfl
theorem q1783 : (Jvm.Cond.laysFinal "FilingChains$Search" "FilingChains$Search" "far" "[I") ∈ lw_all := lw_g (lw_at lw_m7 180 rfl) rfl
theorem q1784 : (Jvm.Cond.soleField "FilingChains$Search" "far") ∈ lw_all := lw_g (lw_at lw_m7 181 rfl) rfl
theorem q1785 : (Jvm.Cond.laysFinal "FilingChains$Search" "FilingChains$Search" "good" "Ljava/util/ArrayList;") ∈ lw_all := lw_g (lw_at lw_m7 182 rfl) rfl
theorem q1786 : (Jvm.Cond.soleField "FilingChains$Search" "good") ∈ lw_all := lw_g (lw_at lw_m7 183 rfl) rfl
theorem q1787 : (Jvm.Cond.laysFinal "FilingChains$Search" "FilingChains$Search" "set" "I") ∈ lw_all := lw_g (lw_at lw_m7 184 rfl) rfl
theorem q1788 : (Jvm.Cond.soleField "FilingChains$Search" "set") ∈ lw_all := lw_g (lw_at lw_m7 185 rfl) rfl
theorem q1789 : (Jvm.Cond.laysFinal "FilingChains$Search" "FilingChains$Search" "from" "I") ∈ lw_all := lw_g (lw_at lw_m7 186 rfl) rfl
theorem q1790 : (Jvm.Cond.soleField "FilingChains$Search" "from") ∈ lw_all := lw_g (lw_at lw_m7 187 rfl) rfl
theorem q1791 : (Jvm.Cond.lays "FilingChains$Search" "FilingChains$Search" "date" "I") ∈ lw_all := lw_g (lw_at lw_m7 188 rfl) rfl
theorem q1792 : (Jvm.Cond.soleField "FilingChains$Search" "date") ∈ lw_all := lw_g (lw_at lw_m7 189 rfl) rfl
theorem q1793 : (Jvm.Cond.lays "FilingChains$Search" "FilingChains$Search" "dater" "I") ∈ lw_all := lw_g (lw_at lw_m7 190 rfl) rfl
theorem q1794 : (Jvm.Cond.soleField "FilingChains$Search" "dater") ∈ lw_all := lw_g (lw_at lw_m7 191 rfl) rfl
theorem q1795 : (Jvm.Cond.laysFinal "FilingChains$Search" "FilingChains$Search" "this$0" "LFilingChains;") ∈ lw_all := lw_g (lw_at lw_m7 192 rfl) rfl
theorem q1796 : (Jvm.Cond.soleField "FilingChains$Search" "this$0") ∈ lw_all := lw_g (lw_at lw_m7 193 rfl) rfl
theorem q1797 : (Jvm.Cond.superclass "FilingChains$Search" "java/lang/Object") ∈ lw_all := lw_g (lw_at lw_m7 194 rfl) rfl
theorem q1807 : (Jvm.Cond.instanceMethod ({ cls := "FilingChains$Search", name := "row", desc := "()Ljava/util/List;" } : Jvm.MethodName)) ∈ lw_all := lw_g (lw_at lw_m7 204 rfl) rfl
theorem q1808 : (Jvm.Cond.selects "FilingChains$Search" ({ cls := "FilingChains$Search", name := "row", desc := "()Ljava/util/List;" } : Jvm.MethodName) ({ cls := "FilingChains$Search", name := "row", desc := "()Ljava/util/List;" } : Jvm.MethodName)) ∈ lw_all := lw_g (lw_at lw_m7 205 rfl) rfl
theorem q1809 : (Jvm.Cond.code ({ cls := "FilingChains$Search", name := "row", desc := "()Ljava/util/List;" } : Jvm.MethodName) prog_9_method_4_code (7 : Nat) (Option.some (Jvm.ClassFile.FieldType.object "java/util/List"))) ∈ lw_all := lw_g (lw_at lw_m7 206 rfl) rfl
theorem q1810 : (Jvm.Cond.methodLink "FilingChains$Search" (138 : Nat) ({ cls := "java/util/ArrayList", name := "iterator", desc := "()Ljava/util/Iterator;" } : Jvm.MethodName)) ∈ lw_all := lw_g (lw_at lw_m7 207 rfl) rfl
theorem q1822 : (Jvm.Cond.methodLink "FilingChains$Search" (139 : Nat) ({ cls := "java/lang/Math", name := "min", desc := "(II)I" } : Jvm.MethodName)) ∈ lw_all := lw_g (lw_at lw_m7 219 rfl) rfl
theorem q1823 : (Jvm.Cond.classLink "FilingChains$Search" (50 : Nat) "java/util/LinkedList") ∈ lw_all := lw_g (lw_at lw_m7 220 rfl) rfl
theorem q1824 : (Jvm.Cond.methodLink "FilingChains$Search" (145 : Nat) ({ cls := "java/util/LinkedList", name := "<init>", desc := "()V" } : Jvm.MethodName)) ∈ lw_all := lw_g (lw_at lw_m7 221 rfl) rfl
theorem q1825 : (Jvm.Cond.methodLink "FilingChains$Search" (146 : Nat) ({ cls := "java/util/LinkedList", name := "addLast", desc := "(Ljava/lang/Object;)V" } : Jvm.MethodName)) ∈ lw_all := lw_g (lw_at lw_m7 222 rfl) rfl
theorem q3450 : (Jvm.Cond.castable "FilingChains$Search" "java/lang/Object") ∈ lw_tbl := lw_at lw_m14 167 rfl
theorem in_X9 : ∀ w ∈ wsX90, w ∈ lw_all := lw_in wsX90 [1783, 1785, 1787, 1789, 1791, 1793, 1795] (by decide +kernel) (by decide +kernel)

/-! FilingChains$Bar -/
set_option maxRecDepth 100000
def RX10 : String := "FilingChains$Bar"
def TX10 : u_T := fun k => match k with
  | 0 => ("FilingChains$Bar", "sort", "I", true)
  | 1 => ("FilingChains$Bar", "one", "I", true)
  | _ => ("FilingChains$Bar", "other", "I", true)
def tyX10 : Nat → FieldType := fun k => match k with
  | 0 => .int
  | 1 => .int
  | _ => .int
abbrev wsX100 : List Cond := u_ws RX10 TX10 3
theorem nmX10 : ∀ a, a < 3 → ∀ b, b < 3 → a ≠ b → (TX10 a).2.1 ≠ (TX10 b).2.1 := by decide +kernel
theorem tyX10_ok : ∀ k, k < 3 → parseFieldDescriptor (TX10 k).2.2.1 = some (tyX10 k) := by decide +kernel
abbrev cX10_init : ByteArray := prog_2_method_1_code
def yX10_init : MethodName := ⟨RX10, "<init>", "(III)V"⟩
def dkwX10_init_0 : List UInt8 := [42, 183, 0, 1, 42, 27, 181, 0, 7, 42, 28, 181, 0, 13, 42, 29, 181, 0, 16, 177]
abbrev dktX10_init_0 : List UInt8 := dkwX10_init_0 ++ []
theorem dksX10_init_0 : cX10_init.data.toList.drop 0 = dktX10_init_0 := by decide +kernel
theorem dX10_init_0 : decode cX10_init 0 = .ok (.aload_n 0, 1) := dk_42 (dk_at dksX10_init_0 0 rfl rfl)
theorem dX10_init_1 : decode cX10_init 1 = .ok (.invokespecial 1, 3) := dk_183 0 1 (dk_at dksX10_init_0 1 rfl rfl)
theorem dX10_init_4 : decode cX10_init 4 = .ok (.aload_n 0, 1) := dk_42 (dk_at dksX10_init_0 4 rfl rfl)
theorem dX10_init_5 : decode cX10_init 5 = .ok (.iload_n 1, 1) := dk_27 (dk_at dksX10_init_0 5 rfl rfl)
theorem dX10_init_6 : decode cX10_init 6 = .ok (.putfield 7, 3) := dk_181 0 7 (dk_at dksX10_init_0 6 rfl rfl)
theorem dX10_init_9 : decode cX10_init 9 = .ok (.aload_n 0, 1) := dk_42 (dk_at dksX10_init_0 9 rfl rfl)
theorem dX10_init_10 : decode cX10_init 10 = .ok (.iload_n 2, 1) := dk_28 (dk_at dksX10_init_0 10 rfl rfl)
theorem dX10_init_11 : decode cX10_init 11 = .ok (.putfield 13, 3) := dk_181 0 13 (dk_at dksX10_init_0 11 rfl rfl)
theorem dX10_init_14 : decode cX10_init 14 = .ok (.aload_n 0, 1) := dk_42 (dk_at dksX10_init_0 14 rfl rfl)
theorem dX10_init_15 : decode cX10_init 15 = .ok (.iload_n 3, 1) := dk_29 (dk_at dksX10_init_0 15 rfl rfl)
theorem dX10_init_16 : decode cX10_init 16 = .ok (.putfield 16, 3) := dk_181 0 16 (dk_at dksX10_init_0 16 rfl rfl)
theorem dX10_init_19 : decode cX10_init 19 = .ok (.return_, 1) := dk_177 (dk_at dksX10_init_0 19 rfl rfl)
theorem q212 : (Jvm.Cond.initialized "FilingChains$Bar") ∈ lw_all := lw_g (lw_at lw_m1 49 rfl) rfl
theorem q435 : (Jvm.Cond.selects "FilingChains$Bar" ({ cls := "java/lang/Object", name := "getClass", desc := "()Ljava/lang/Class;" } : Jvm.MethodName) ({ cls := "java/lang/Object", name := "getClass", desc := "()Ljava/lang/Class;" } : Jvm.MethodName)) ∈ lw_all := lw_g (lw_at lw_m2 32 rfl) rfl
theorem q872 : (Jvm.Cond.selects "FilingChains$Bar" ({ cls := "java/lang/Object", name := "equals", desc := "(Ljava/lang/Object;)Z" } : Jvm.MethodName) ({ cls := "java/lang/Object", name := "equals", desc := "(Ljava/lang/Object;)Z" } : Jvm.MethodName)) ∈ lw_all := lw_g (lw_at lw_m3 229 rfl) rfl
theorem q1941 : (Jvm.Cond.instantiable "FilingChains$Bar" (3 : Nat)) ∈ lw_all := lw_g (lw_at lw_m8 98 rfl) rfl
theorem q1943 : (Jvm.Cond.instanceMethod ({ cls := "FilingChains$Bar", name := "<init>", desc := "(III)V" } : Jvm.MethodName)) ∈ lw_all := lw_g (lw_at lw_m8 100 rfl) rfl
theorem q1944 : (Jvm.Cond.code ({ cls := "FilingChains$Bar", name := "<init>", desc := "(III)V" } : Jvm.MethodName) prog_2_method_1_code (4 : Nat) (Option.none : Option Jvm.ClassFile.FieldType)) ∈ lw_all := lw_g (lw_at lw_m8 101 rfl) rfl
theorem q1945 : (Jvm.Cond.methodLink "FilingChains$Bar" (1 : Nat) ({ cls := "java/lang/Object", name := "<init>", desc := "()V" } : Jvm.MethodName)) ∈ lw_all := lw_g (lw_at lw_m8 102 rfl) rfl
theorem q1946 : (Jvm.Cond.fieldLink "FilingChains$Bar" (7 : Nat) "FilingChains$Bar" "sort" "I") ∈ lw_all := lw_g (lw_at lw_m8 103 rfl) rfl
theorem q1948 : (Jvm.Cond.fieldLink "FilingChains$Bar" (13 : Nat) "FilingChains$Bar" "one" "I") ∈ lw_all := lw_g (lw_at lw_m8 105 rfl) rfl
theorem q1950 : (Jvm.Cond.fieldLink "FilingChains$Bar" (16 : Nat) "FilingChains$Bar" "other" "I") ∈ lw_all := lw_g (lw_at lw_m8 107 rfl) rfl
theorem q1952 : (Jvm.Cond.laysFinal "FilingChains$Bar" "FilingChains$Bar" "sort" "I") ∈ lw_all := lw_g (lw_at lw_m8 109 rfl) rfl
theorem q1953 : (Jvm.Cond.soleField "FilingChains$Bar" "sort") ∈ lw_all := lw_g (lw_at lw_m8 110 rfl) rfl
theorem q1954 : (Jvm.Cond.laysFinal "FilingChains$Bar" "FilingChains$Bar" "one" "I") ∈ lw_all := lw_g (lw_at lw_m8 111 rfl) rfl
theorem q1955 : (Jvm.Cond.soleField "FilingChains$Bar" "one") ∈ lw_all := lw_g (lw_at lw_m8 112 rfl) rfl
theorem q1956 : (Jvm.Cond.laysFinal "FilingChains$Bar" "FilingChains$Bar" "other" "I") ∈ lw_all := lw_g (lw_at lw_m8 113 rfl) rfl
theorem q1957 : (Jvm.Cond.soleField "FilingChains$Bar" "other") ∈ lw_all := lw_g (lw_at lw_m8 114 rfl) rfl
theorem q1958 : (Jvm.Cond.superclass "FilingChains$Bar" "java/lang/Object") ∈ lw_all := lw_g (lw_at lw_m8 115 rfl) rfl
theorem q3452 : (Jvm.Cond.castable "FilingChains$Bar" "java/lang/Object") ∈ lw_tbl := lw_at lw_m14 169 rfl
theorem in_X10 : ∀ w ∈ wsX100, w ∈ lw_all := lw_in wsX100 [1952, 1954, 1956] (by decide +kernel) (by decide +kernel)
