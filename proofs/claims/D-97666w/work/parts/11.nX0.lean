/-! LockTurns -/
set_option maxRecDepth 100000
def RX0 : String := "LockTurns"
def TX0 : u_T := fun k => match k with
  | 0 => ("LockTurns", "tape", "[B", true)
  | 1 => ("LockTurns", "taped", "I", false)
  | 2 => ("LockTurns", "fault", "I", false)
  | 3 => ("LockTurns", "now", "LLockTurns$Told;", true)
  | 4 => ("LockTurns", "boatMany", "I", false)
  | 5 => ("LockTurns", "gate", "LLockTurns$Gate;", true)
  | 6 => ("LockTurns", "passed", "[I", true)
  | 7 => ("LockTurns", "throughs", "[I", true)
  | 8 => ("LockTurns", "stoods", "[I", true)
  | 9 => ("LockTurns", "water", "I", false)
  | 10 => ("LockTurns", "turned", "I", false)
  | 11 => ("LockTurns", "free", "I", false)
  | 12 => ("LockTurns", "row", "[I", true)
  | 13 => ("LockTurns", "bestRow", "[I", true)
  | 14 => ("LockTurns", "leastCost", "I", false)
  | 15 => ("LockTurns", "seen", "[[I", true)
  | 16 => ("LockTurns", "seenMany", "I", false)
  | 17 => ("LockTurns", "home", "LLockTurns$Told;", true)
  | 18 => ("LockTurns", "images", "[LLockTurns$Image;", true)
  | 19 => ("LockTurns", "aside", "LLockTurns$Told;", true)
  | 20 => ("LockTurns", "sheets", "[LLockTurns$Sheet;", true)
  | 21 => ("LockTurns", "torn", "I", false)
  | 22 => ("LockTurns", "cameMany", "I", false)
  | _ => ("LockTurns", "refused", "I", false)
def tyX0 : Nat → FieldType := fun k => match k with
  | 0 => .array .byte
  | 1 => .int
  | 2 => .int
  | 3 => .object "LockTurns$Told"
  | 4 => .int
  | 5 => .object "LockTurns$Gate"
  | 6 => .array .int
  | 7 => .array .int
  | 8 => .array .int
  | 9 => .int
  | 10 => .int
  | 11 => .int
  | 12 => .array .int
  | 13 => .array .int
  | 14 => .int
  | 15 => .array (.array .int)
  | 16 => .int
  | 17 => .object "LockTurns$Told"
  | 18 => .array (.object "LockTurns$Image")
  | 19 => .object "LockTurns$Told"
  | 20 => .array (.object "LockTurns$Sheet")
  | 21 => .int
  | 22 => .int
  | _ => .int
abbrev wsX00 : List Cond := u_ws RX0 TX0 24
set_option maxRecDepth 100000 in
theorem nmX0 : ∀ a, a < 24 → ∀ b, b < 24 → a ≠ b → (TX0 a).2.1 ≠ (TX0 b).2.1 := by decide +kernel
set_option maxRecDepth 100000 in
theorem tyX0_ok : ∀ k, k < 24 → parseFieldDescriptor (TX0 k).2.2.1 = some (tyX0 k) := by decide +kernel
abbrev cX0_feed : ByteArray := prog_1_method_3_code
def yX0_feed : MethodName := ⟨RX0, "feed", "(I)I"⟩
def dkwX0_feed_2 : List UInt8 := [42, 180, 0, 9, 172]
abbrev dktX0_feed_2 : List UInt8 := dkwX0_feed_2 ++ []
def dkwX0_feed_1 : List UInt8 := [16, 253, 172, 42, 180, 0, 13, 42, 180, 0, 9, 27, 145, 84, 42, 89, 180, 0, 9, 4, 96, 181, 0, 9]
abbrev dktX0_feed_1 : List UInt8 := dkwX0_feed_1 ++ dktX0_feed_2
def dkwX0_feed_0 : List UInt8 := [27, 133, 9, 20, 0, 1, 184, 0, 3, 154, 0, 5, 2, 172, 42, 180, 0, 9, 17, 0, 160, 160, 0, 6]
abbrev dktX0_feed_0 : List UInt8 := dkwX0_feed_0 ++ dktX0_feed_1
theorem dksX0_feed_0 : cX0_feed.data.toList.drop 0 = dktX0_feed_0 := by decide +kernel
theorem dksX0_feed_1 : cX0_feed.data.toList.drop 24 = dktX0_feed_1 := dk_seg dksX0_feed_0 24 rfl rfl
theorem dksX0_feed_2 : cX0_feed.data.toList.drop 48 = dktX0_feed_2 := dk_seg dksX0_feed_1 24 rfl rfl
theorem dX0_feed_0 : decode cX0_feed 0 = .ok (.iload_n 1, 1) := dk_27 (dk_at dksX0_feed_0 0 rfl rfl)
theorem dX0_feed_1 : decode cX0_feed 1 = .ok (.i2l, 1) := dk_133 (dk_at dksX0_feed_0 1 rfl rfl)
theorem dX0_feed_2 : decode cX0_feed 2 = .ok (.lconst 0, 1) := dk_9 (dk_at dksX0_feed_0 2 rfl rfl)
theorem dX0_feed_3 : decode cX0_feed 3 = .ok (.ldc2_w 1, 3) := dk_20 0 1 (dk_at dksX0_feed_0 3 rfl rfl)
theorem dX0_feed_6 : decode cX0_feed 6 = .ok (.invokestatic 3, 3) := dk_184 0 3 (dk_at dksX0_feed_0 6 rfl rfl)
theorem dX0_feed_9 : decode cX0_feed 9 = .ok (.ifCond .ne 5, 3) := dk_154 0 5 (dk_at dksX0_feed_0 9 rfl rfl)
theorem dX0_feed_12 : decode cX0_feed 12 = .ok (.iconst (-1), 1) := dk_2 (dk_at dksX0_feed_0 12 rfl rfl)
theorem dX0_feed_13 : decode cX0_feed 13 = .ok (.ireturn, 1) := dk_172 (dk_at dksX0_feed_0 13 rfl rfl)
theorem dX0_feed_14 : decode cX0_feed 14 = .ok (.aload_n 0, 1) := dk_42 (dk_at dksX0_feed_0 14 rfl rfl)
theorem dX0_feed_15 : decode cX0_feed 15 = .ok (.getfield 9, 3) := dk_180 0 9 (dk_at dksX0_feed_0 15 rfl rfl)
theorem dX0_feed_18 : decode cX0_feed 18 = .ok (.sipush 160, 3) := dk_17 0 160 (dk_at dksX0_feed_0 18 rfl rfl)
theorem dX0_feed_21 : decode cX0_feed 21 = .ok (.if_icmp .ne 6, 3) := dk_160 0 6 (dk_at dksX0_feed_0 21 rfl rfl)
theorem dX0_feed_24 : decode cX0_feed 24 = .ok (.bipush (-3), 2) := dk_16 253 (dk_at dksX0_feed_1 0 rfl rfl)
theorem dX0_feed_26 : decode cX0_feed 26 = .ok (.ireturn, 1) := dk_172 (dk_at dksX0_feed_1 2 rfl rfl)
theorem dX0_feed_27 : decode cX0_feed 27 = .ok (.aload_n 0, 1) := dk_42 (dk_at dksX0_feed_1 3 rfl rfl)
theorem dX0_feed_28 : decode cX0_feed 28 = .ok (.getfield 13, 3) := dk_180 0 13 (dk_at dksX0_feed_1 4 rfl rfl)
theorem dX0_feed_31 : decode cX0_feed 31 = .ok (.aload_n 0, 1) := dk_42 (dk_at dksX0_feed_1 7 rfl rfl)
theorem dX0_feed_32 : decode cX0_feed 32 = .ok (.getfield 9, 3) := dk_180 0 9 (dk_at dksX0_feed_1 8 rfl rfl)
theorem dX0_feed_35 : decode cX0_feed 35 = .ok (.iload_n 1, 1) := dk_27 (dk_at dksX0_feed_1 11 rfl rfl)
theorem dX0_feed_36 : decode cX0_feed 36 = .ok (.i2b, 1) := dk_145 (dk_at dksX0_feed_1 12 rfl rfl)
theorem dX0_feed_37 : decode cX0_feed 37 = .ok (.bastore, 1) := dk_84 (dk_at dksX0_feed_1 13 rfl rfl)
theorem dX0_feed_38 : decode cX0_feed 38 = .ok (.aload_n 0, 1) := dk_42 (dk_at dksX0_feed_1 14 rfl rfl)
theorem dX0_feed_39 : decode cX0_feed 39 = .ok (.dup, 1) := dk_89 (dk_at dksX0_feed_1 15 rfl rfl)
theorem dX0_feed_40 : decode cX0_feed 40 = .ok (.getfield 9, 3) := dk_180 0 9 (dk_at dksX0_feed_1 16 rfl rfl)
theorem dX0_feed_43 : decode cX0_feed 43 = .ok (.iconst 1, 1) := dk_4 (dk_at dksX0_feed_1 19 rfl rfl)
theorem dX0_feed_44 : decode cX0_feed 44 = .ok (.iadd, 1) := dk_96 (dk_at dksX0_feed_1 20 rfl rfl)
theorem dX0_feed_45 : decode cX0_feed 45 = .ok (.putfield 9, 3) := dk_181 0 9 (dk_at dksX0_feed_1 21 rfl rfl)
theorem dX0_feed_48 : decode cX0_feed 48 = .ok (.aload_n 0, 1) := dk_42 (dk_at dksX0_feed_2 0 rfl rfl)
theorem dX0_feed_49 : decode cX0_feed 49 = .ok (.getfield 9, 3) := dk_180 0 9 (dk_at dksX0_feed_2 1 rfl rfl)
theorem dX0_feed_52 : decode cX0_feed 52 = .ok (.ireturn, 1) := dk_172 (dk_at dksX0_feed_2 4 rfl rfl)
abbrev cX0_isIn : ByteArray := prog_1_method_1_code
def yX0_isIn : MethodName := ⟨RX0, "isIn", "(JJJ)Z"⟩
def dkwX0_isIn_0 : List UInt8 := [30, 32, 148, 155, 0, 14, 30, 22, 4, 148, 157, 0, 7, 4, 167, 0, 4, 3, 172]
abbrev dktX0_isIn_0 : List UInt8 := dkwX0_isIn_0 ++ []
theorem dksX0_isIn_0 : cX0_isIn.data.toList.drop 0 = dktX0_isIn_0 := by decide +kernel
theorem dX0_isIn_0 : decode cX0_isIn 0 = .ok (.lload_n 0, 1) := dk_30 (dk_at dksX0_isIn_0 0 rfl rfl)
theorem dX0_isIn_1 : decode cX0_isIn 1 = .ok (.lload_n 2, 1) := dk_32 (dk_at dksX0_isIn_0 1 rfl rfl)
theorem dX0_isIn_2 : decode cX0_isIn 2 = .ok (.lcmp, 1) := dk_148 (dk_at dksX0_isIn_0 2 rfl rfl)
theorem dX0_isIn_3 : decode cX0_isIn 3 = .ok (.ifCond .lt 14, 3) := dk_155 0 14 (dk_at dksX0_isIn_0 3 rfl rfl)
theorem dX0_isIn_6 : decode cX0_isIn 6 = .ok (.lload_n 0, 1) := dk_30 (dk_at dksX0_isIn_0 6 rfl rfl)
theorem dX0_isIn_7 : decode cX0_isIn 7 = .ok (.lload 4, 2) := dk_22 4 (dk_at dksX0_isIn_0 7 rfl rfl)
theorem dX0_isIn_9 : decode cX0_isIn 9 = .ok (.lcmp, 1) := dk_148 (dk_at dksX0_isIn_0 9 rfl rfl)
theorem dX0_isIn_10 : decode cX0_isIn 10 = .ok (.ifCond .gt 7, 3) := dk_157 0 7 (dk_at dksX0_isIn_0 10 rfl rfl)
theorem dX0_isIn_13 : decode cX0_isIn 13 = .ok (.iconst 1, 1) := dk_4 (dk_at dksX0_isIn_0 13 rfl rfl)
theorem dX0_isIn_14 : decode cX0_isIn 14 = .ok (.goto 4, 3) := dk_167 0 4 (dk_at dksX0_isIn_0 14 rfl rfl)
theorem dX0_isIn_17 : decode cX0_isIn 17 = .ok (.iconst 0, 1) := dk_3 (dk_at dksX0_isIn_0 17 rfl rfl)
theorem dX0_isIn_18 : decode cX0_isIn 18 = .ok (.ireturn, 1) := dk_172 (dk_at dksX0_isIn_0 18 rfl rfl)
abbrev cX0_end : ByteArray := prog_1_method_4_code
def yX0_end : MethodName := ⟨RX0, "end", "(I)I"⟩
def dkwX0_end_1 : List UInt8 := [181, 0, 9, 28, 172]
abbrev dktX0_end_1 : List UInt8 := dkwX0_end_1 ++ []
def dkwX0_end_0 : List UInt8 := [27, 133, 9, 42, 180, 0, 9, 133, 184, 0, 3, 154, 0, 5, 2, 172, 42, 180, 0, 9, 61, 42, 27]
abbrev dktX0_end_0 : List UInt8 := dkwX0_end_0 ++ dktX0_end_1
theorem dksX0_end_0 : cX0_end.data.toList.drop 0 = dktX0_end_0 := by decide +kernel
theorem dksX0_end_1 : cX0_end.data.toList.drop 23 = dktX0_end_1 := dk_seg dksX0_end_0 23 rfl rfl
theorem dX0_end_0 : decode cX0_end 0 = .ok (.iload_n 1, 1) := dk_27 (dk_at dksX0_end_0 0 rfl rfl)
theorem dX0_end_1 : decode cX0_end 1 = .ok (.i2l, 1) := dk_133 (dk_at dksX0_end_0 1 rfl rfl)
theorem dX0_end_2 : decode cX0_end 2 = .ok (.lconst 0, 1) := dk_9 (dk_at dksX0_end_0 2 rfl rfl)
theorem dX0_end_3 : decode cX0_end 3 = .ok (.aload_n 0, 1) := dk_42 (dk_at dksX0_end_0 3 rfl rfl)
theorem dX0_end_4 : decode cX0_end 4 = .ok (.getfield 9, 3) := dk_180 0 9 (dk_at dksX0_end_0 4 rfl rfl)
theorem dX0_end_7 : decode cX0_end 7 = .ok (.i2l, 1) := dk_133 (dk_at dksX0_end_0 7 rfl rfl)
theorem dX0_end_8 : decode cX0_end 8 = .ok (.invokestatic 3, 3) := dk_184 0 3 (dk_at dksX0_end_0 8 rfl rfl)
theorem dX0_end_11 : decode cX0_end 11 = .ok (.ifCond .ne 5, 3) := dk_154 0 5 (dk_at dksX0_end_0 11 rfl rfl)
theorem dX0_end_14 : decode cX0_end 14 = .ok (.iconst (-1), 1) := dk_2 (dk_at dksX0_end_0 14 rfl rfl)
theorem dX0_end_15 : decode cX0_end 15 = .ok (.ireturn, 1) := dk_172 (dk_at dksX0_end_0 15 rfl rfl)
theorem dX0_end_16 : decode cX0_end 16 = .ok (.aload_n 0, 1) := dk_42 (dk_at dksX0_end_0 16 rfl rfl)
theorem dX0_end_17 : decode cX0_end 17 = .ok (.getfield 9, 3) := dk_180 0 9 (dk_at dksX0_end_0 17 rfl rfl)
theorem dX0_end_20 : decode cX0_end 20 = .ok (.istore_n 2, 1) := dk_61 (dk_at dksX0_end_0 20 rfl rfl)
theorem dX0_end_21 : decode cX0_end 21 = .ok (.aload_n 0, 1) := dk_42 (dk_at dksX0_end_0 21 rfl rfl)
theorem dX0_end_22 : decode cX0_end 22 = .ok (.iload_n 1, 1) := dk_27 (dk_at dksX0_end_0 22 rfl rfl)
theorem dX0_end_23 : decode cX0_end 23 = .ok (.putfield 9, 3) := dk_181 0 9 (dk_at dksX0_end_1 0 rfl rfl)
theorem dX0_end_26 : decode cX0_end 26 = .ok (.iload_n 2, 1) := dk_28 (dk_at dksX0_end_1 3 rfl rfl)
theorem dX0_end_27 : decode cX0_end 27 = .ok (.ireturn, 1) := dk_172 (dk_at dksX0_end_1 4 rfl rfl)
abbrev cX0_text : ByteArray := prog_1_method_5_code
def yX0_text : MethodName := ⟨RX0, "text", "()I"⟩
def dkwX0_text_4 : List UInt8 := [42, 44, 180, 0, 71, 181, 0, 63, 16, 246, 44, 180, 0, 74, 100, 172]
abbrev dktX0_text_4 : List UInt8 := dkwX0_text_4 ++ []
def dkwX0_text_3 : List UInt8 := [181, 0, 57, 42, 180, 0, 53, 4, 50, 3, 181, 0, 57, 42, 3, 181, 0, 63, 44, 180, 0, 66, 172, 77]
abbrev dktX0_text_3 : List UInt8 := dkwX0_text_3 ++ dktX0_text_4
def dkwX0_text_2 : List UInt8 := [182, 0, 40, 42, 44, 180, 0, 46, 181, 0, 49, 42, 3, 181, 0, 50, 42, 180, 0, 53, 3, 50, 3]
abbrev dktX0_text_2 : List UInt8 := dkwX0_text_2 ++ dktX0_text_3
def dkwX0_text_1 : List UInt8 := [181, 0, 9, 187, 0, 23, 89, 43, 183, 0, 25, 77, 44, 182, 0, 29, 42, 180, 0, 33, 44, 180, 0, 37]
abbrev dktX0_text_1 : List UInt8 := dkwX0_text_1 ++ dktX0_text_2
def dkwX0_text_0 : List UInt8 := [42, 180, 0, 9, 188, 8, 76, 42, 180, 0, 13, 3, 43, 3, 42, 180, 0, 9, 184, 0, 17, 42, 3]
abbrev dktX0_text_0 : List UInt8 := dkwX0_text_0 ++ dktX0_text_1
theorem dksX0_text_0 : cX0_text.data.toList.drop 0 = dktX0_text_0 := by decide +kernel
theorem dksX0_text_1 : cX0_text.data.toList.drop 23 = dktX0_text_1 := dk_seg dksX0_text_0 23 rfl rfl
theorem dksX0_text_2 : cX0_text.data.toList.drop 47 = dktX0_text_2 := dk_seg dksX0_text_1 24 rfl rfl
theorem dksX0_text_3 : cX0_text.data.toList.drop 70 = dktX0_text_3 := dk_seg dksX0_text_2 23 rfl rfl
theorem dksX0_text_4 : cX0_text.data.toList.drop 94 = dktX0_text_4 := dk_seg dksX0_text_3 24 rfl rfl
theorem dX0_text_0 : decode cX0_text 0 = .ok (.aload_n 0, 1) := dk_42 (dk_at dksX0_text_0 0 rfl rfl)
theorem dX0_text_1 : decode cX0_text 1 = .ok (.getfield 9, 3) := dk_180 0 9 (dk_at dksX0_text_0 1 rfl rfl)
theorem dX0_text_4 : decode cX0_text 4 = .ok (.newarray .byte, 2) := dk_188_8 (dk_at dksX0_text_0 4 rfl rfl)
theorem dX0_text_6 : decode cX0_text 6 = .ok (.astore_n 1, 1) := dk_76 (dk_at dksX0_text_0 6 rfl rfl)
theorem dX0_text_7 : decode cX0_text 7 = .ok (.aload_n 0, 1) := dk_42 (dk_at dksX0_text_0 7 rfl rfl)
theorem dX0_text_8 : decode cX0_text 8 = .ok (.getfield 13, 3) := dk_180 0 13 (dk_at dksX0_text_0 8 rfl rfl)
theorem dX0_text_11 : decode cX0_text 11 = .ok (.iconst 0, 1) := dk_3 (dk_at dksX0_text_0 11 rfl rfl)
theorem dX0_text_12 : decode cX0_text 12 = .ok (.aload_n 1, 1) := dk_43 (dk_at dksX0_text_0 12 rfl rfl)
theorem dX0_text_13 : decode cX0_text 13 = .ok (.iconst 0, 1) := dk_3 (dk_at dksX0_text_0 13 rfl rfl)
theorem dX0_text_14 : decode cX0_text 14 = .ok (.aload_n 0, 1) := dk_42 (dk_at dksX0_text_0 14 rfl rfl)
theorem dX0_text_15 : decode cX0_text 15 = .ok (.getfield 9, 3) := dk_180 0 9 (dk_at dksX0_text_0 15 rfl rfl)
theorem dX0_text_18 : decode cX0_text 18 = .ok (.invokestatic 17, 3) := dk_184 0 17 (dk_at dksX0_text_0 18 rfl rfl)
theorem dX0_text_21 : decode cX0_text 21 = .ok (.aload_n 0, 1) := dk_42 (dk_at dksX0_text_0 21 rfl rfl)
theorem dX0_text_22 : decode cX0_text 22 = .ok (.iconst 0, 1) := dk_3 (dk_at dksX0_text_0 22 rfl rfl)
theorem dX0_text_23 : decode cX0_text 23 = .ok (.putfield 9, 3) := dk_181 0 9 (dk_at dksX0_text_1 0 rfl rfl)
theorem dX0_text_26 : decode cX0_text 26 = .ok (.new 23, 3) := dk_187 0 23 (dk_at dksX0_text_1 3 rfl rfl)
theorem dX0_text_29 : decode cX0_text 29 = .ok (.dup, 1) := dk_89 (dk_at dksX0_text_1 6 rfl rfl)
theorem dX0_text_30 : decode cX0_text 30 = .ok (.aload_n 1, 1) := dk_43 (dk_at dksX0_text_1 7 rfl rfl)
theorem dX0_text_31 : decode cX0_text 31 = .ok (.invokespecial 25, 3) := dk_183 0 25 (dk_at dksX0_text_1 8 rfl rfl)
theorem dX0_text_34 : decode cX0_text 34 = .ok (.astore_n 2, 1) := dk_77 (dk_at dksX0_text_1 11 rfl rfl)
theorem dX0_text_35 : decode cX0_text 35 = .ok (.aload_n 2, 1) := dk_44 (dk_at dksX0_text_1 12 rfl rfl)
theorem dX0_text_36 : decode cX0_text 36 = .ok (.invokevirtual 29, 3) := dk_182 0 29 (dk_at dksX0_text_1 13 rfl rfl)
theorem dX0_text_39 : decode cX0_text 39 = .ok (.aload_n 0, 1) := dk_42 (dk_at dksX0_text_1 16 rfl rfl)
theorem dX0_text_40 : decode cX0_text 40 = .ok (.getfield 33, 3) := dk_180 0 33 (dk_at dksX0_text_1 17 rfl rfl)
theorem dX0_text_43 : decode cX0_text 43 = .ok (.aload_n 2, 1) := dk_44 (dk_at dksX0_text_1 20 rfl rfl)
theorem dX0_text_44 : decode cX0_text 44 = .ok (.getfield 37, 3) := dk_180 0 37 (dk_at dksX0_text_1 21 rfl rfl)
theorem dX0_text_47 : decode cX0_text 47 = .ok (.invokevirtual 40, 3) := dk_182 0 40 (dk_at dksX0_text_2 0 rfl rfl)
theorem dX0_text_50 : decode cX0_text 50 = .ok (.aload_n 0, 1) := dk_42 (dk_at dksX0_text_2 3 rfl rfl)
theorem dX0_text_51 : decode cX0_text 51 = .ok (.aload_n 2, 1) := dk_44 (dk_at dksX0_text_2 4 rfl rfl)
theorem dX0_text_52 : decode cX0_text 52 = .ok (.getfield 46, 3) := dk_180 0 46 (dk_at dksX0_text_2 5 rfl rfl)
theorem dX0_text_55 : decode cX0_text 55 = .ok (.putfield 49, 3) := dk_181 0 49 (dk_at dksX0_text_2 8 rfl rfl)
theorem dX0_text_58 : decode cX0_text 58 = .ok (.aload_n 0, 1) := dk_42 (dk_at dksX0_text_2 11 rfl rfl)
theorem dX0_text_59 : decode cX0_text 59 = .ok (.iconst 0, 1) := dk_3 (dk_at dksX0_text_2 12 rfl rfl)
theorem dX0_text_60 : decode cX0_text 60 = .ok (.putfield 50, 3) := dk_181 0 50 (dk_at dksX0_text_2 13 rfl rfl)
theorem dX0_text_63 : decode cX0_text 63 = .ok (.aload_n 0, 1) := dk_42 (dk_at dksX0_text_2 16 rfl rfl)
theorem dX0_text_64 : decode cX0_text 64 = .ok (.getfield 53, 3) := dk_180 0 53 (dk_at dksX0_text_2 17 rfl rfl)
theorem dX0_text_67 : decode cX0_text 67 = .ok (.iconst 0, 1) := dk_3 (dk_at dksX0_text_2 20 rfl rfl)
theorem dX0_text_68 : decode cX0_text 68 = .ok (.aaload, 1) := dk_50 (dk_at dksX0_text_2 21 rfl rfl)
theorem dX0_text_69 : decode cX0_text 69 = .ok (.iconst 0, 1) := dk_3 (dk_at dksX0_text_2 22 rfl rfl)
theorem dX0_text_70 : decode cX0_text 70 = .ok (.putfield 57, 3) := dk_181 0 57 (dk_at dksX0_text_3 0 rfl rfl)
theorem dX0_text_73 : decode cX0_text 73 = .ok (.aload_n 0, 1) := dk_42 (dk_at dksX0_text_3 3 rfl rfl)
theorem dX0_text_74 : decode cX0_text 74 = .ok (.getfield 53, 3) := dk_180 0 53 (dk_at dksX0_text_3 4 rfl rfl)
theorem dX0_text_77 : decode cX0_text 77 = .ok (.iconst 1, 1) := dk_4 (dk_at dksX0_text_3 7 rfl rfl)
theorem dX0_text_78 : decode cX0_text 78 = .ok (.aaload, 1) := dk_50 (dk_at dksX0_text_3 8 rfl rfl)
theorem dX0_text_79 : decode cX0_text 79 = .ok (.iconst 0, 1) := dk_3 (dk_at dksX0_text_3 9 rfl rfl)
theorem dX0_text_80 : decode cX0_text 80 = .ok (.putfield 57, 3) := dk_181 0 57 (dk_at dksX0_text_3 10 rfl rfl)
theorem dX0_text_83 : decode cX0_text 83 = .ok (.aload_n 0, 1) := dk_42 (dk_at dksX0_text_3 13 rfl rfl)
theorem dX0_text_84 : decode cX0_text 84 = .ok (.iconst 0, 1) := dk_3 (dk_at dksX0_text_3 14 rfl rfl)
theorem dX0_text_85 : decode cX0_text 85 = .ok (.putfield 63, 3) := dk_181 0 63 (dk_at dksX0_text_3 15 rfl rfl)
theorem dX0_text_88 : decode cX0_text 88 = .ok (.aload_n 2, 1) := dk_44 (dk_at dksX0_text_3 18 rfl rfl)
theorem dX0_text_89 : decode cX0_text 89 = .ok (.getfield 66, 3) := dk_180 0 66 (dk_at dksX0_text_3 19 rfl rfl)
theorem dX0_text_92 : decode cX0_text 92 = .ok (.ireturn, 1) := dk_172 (dk_at dksX0_text_3 22 rfl rfl)
theorem dX0_text_93 : decode cX0_text 93 = .ok (.astore_n 2, 1) := dk_77 (dk_at dksX0_text_3 23 rfl rfl)
theorem dX0_text_94 : decode cX0_text 94 = .ok (.aload_n 0, 1) := dk_42 (dk_at dksX0_text_4 0 rfl rfl)
theorem dX0_text_95 : decode cX0_text 95 = .ok (.aload_n 2, 1) := dk_44 (dk_at dksX0_text_4 1 rfl rfl)
theorem dX0_text_96 : decode cX0_text 96 = .ok (.getfield 71, 3) := dk_180 0 71 (dk_at dksX0_text_4 2 rfl rfl)
theorem dX0_text_99 : decode cX0_text 99 = .ok (.putfield 63, 3) := dk_181 0 63 (dk_at dksX0_text_4 5 rfl rfl)
theorem dX0_text_102 : decode cX0_text 102 = .ok (.bipush (-10), 2) := dk_16 246 (dk_at dksX0_text_4 8 rfl rfl)
theorem dX0_text_104 : decode cX0_text 104 = .ok (.aload_n 2, 1) := dk_44 (dk_at dksX0_text_4 10 rfl rfl)
theorem dX0_text_105 : decode cX0_text 105 = .ok (.getfield 74, 3) := dk_180 0 74 (dk_at dksX0_text_4 11 rfl rfl)
theorem dX0_text_108 : decode cX0_text 108 = .ok (.isub, 1) := dk_100 (dk_at dksX0_text_4 14 rfl rfl)
theorem dX0_text_109 : decode cX0_text 109 = .ok (.ireturn, 1) := dk_172 (dk_at dksX0_text_4 15 rfl rfl)
abbrev cX0_has : ByteArray := prog_1_method_2_code
def yX0_has : MethodName := ⟨RX0, "has", "(II)Z"⟩
def dkwX0_has_0 : List UInt8 := [26, 27, 122, 4, 126, 4, 160, 0, 7, 4, 167, 0, 4, 3, 172]
abbrev dktX0_has_0 : List UInt8 := dkwX0_has_0 ++ []
theorem dksX0_has_0 : cX0_has.data.toList.drop 0 = dktX0_has_0 := by decide +kernel
theorem dX0_has_0 : decode cX0_has 0 = .ok (.iload_n 0, 1) := dk_26 (dk_at dksX0_has_0 0 rfl rfl)
theorem dX0_has_1 : decode cX0_has 1 = .ok (.iload_n 1, 1) := dk_27 (dk_at dksX0_has_0 1 rfl rfl)
theorem dX0_has_2 : decode cX0_has 2 = .ok (.ishr, 1) := dk_122 (dk_at dksX0_has_0 2 rfl rfl)
theorem dX0_has_3 : decode cX0_has 3 = .ok (.iconst 1, 1) := dk_4 (dk_at dksX0_has_0 3 rfl rfl)
theorem dX0_has_4 : decode cX0_has 4 = .ok (.iand, 1) := dk_126 (dk_at dksX0_has_0 4 rfl rfl)
theorem dX0_has_5 : decode cX0_has 5 = .ok (.iconst 1, 1) := dk_4 (dk_at dksX0_has_0 5 rfl rfl)
theorem dX0_has_6 : decode cX0_has 6 = .ok (.if_icmp .ne 7, 3) := dk_160 0 7 (dk_at dksX0_has_0 6 rfl rfl)
theorem dX0_has_9 : decode cX0_has 9 = .ok (.iconst 1, 1) := dk_4 (dk_at dksX0_has_0 9 rfl rfl)
theorem dX0_has_10 : decode cX0_has 10 = .ok (.goto 4, 3) := dk_167 0 4 (dk_at dksX0_has_0 10 rfl rfl)
theorem dX0_has_13 : decode cX0_has 13 = .ok (.iconst 0, 1) := dk_3 (dk_at dksX0_has_0 13 rfl rfl)
theorem dX0_has_14 : decode cX0_has 14 = .ok (.ireturn, 1) := dk_172 (dk_at dksX0_has_0 14 rfl rfl)
abbrev cX0_fault : ByteArray := prog_1_method_6_code
def yX0_fault : MethodName := ⟨RX0, "fault", "()I"⟩
theorem dX0_fault_0 : decode cX0_fault 0 = .ok (.aload_n 0, 1) := by decide +kernel
theorem dX0_fault_1 : decode cX0_fault 1 = .ok (.getfield 63, 3) := by decide +kernel
theorem dX0_fault_4 : decode cX0_fault 4 = .ok (.ireturn, 1) := by decide +kernel
abbrev cX0_rule : ByteArray := prog_1_method_8_code
def yX0_rule : MethodName := ⟨RX0, "rule", "(I)I"⟩
def dkwX0_rule_2 : List UInt8 := [180, 0, 83, 167, 0, 4, 2, 172]
abbrev dktX0_rule_2 : List UInt8 := dkwX0_rule_2 ++ []
def dkwX0_rule_1 : List UInt8 := [27, 16, 6, 160, 0, 10, 42, 180, 0, 49, 167, 0, 20, 27, 16, 7, 160, 0, 13, 42, 180, 0, 33]
abbrev dktX0_rule_1 : List UInt8 := dkwX0_rule_1 ++ dktX0_rule_2
def dkwX0_rule_0 : List UInt8 := [27, 133, 9, 20, 0, 77, 184, 0, 3, 153, 0, 15, 42, 180, 0, 33, 180, 0, 79, 27, 46, 167, 0, 33]
abbrev dktX0_rule_0 : List UInt8 := dkwX0_rule_0 ++ dktX0_rule_1
theorem dksX0_rule_0 : cX0_rule.data.toList.drop 0 = dktX0_rule_0 := by decide +kernel
theorem dksX0_rule_1 : cX0_rule.data.toList.drop 24 = dktX0_rule_1 := dk_seg dksX0_rule_0 24 rfl rfl
theorem dksX0_rule_2 : cX0_rule.data.toList.drop 47 = dktX0_rule_2 := dk_seg dksX0_rule_1 23 rfl rfl
theorem dX0_rule_0 : decode cX0_rule 0 = .ok (.iload_n 1, 1) := dk_27 (dk_at dksX0_rule_0 0 rfl rfl)
theorem dX0_rule_1 : decode cX0_rule 1 = .ok (.i2l, 1) := dk_133 (dk_at dksX0_rule_0 1 rfl rfl)
theorem dX0_rule_2 : decode cX0_rule 2 = .ok (.lconst 0, 1) := dk_9 (dk_at dksX0_rule_0 2 rfl rfl)
theorem dX0_rule_3 : decode cX0_rule 3 = .ok (.ldc2_w 77, 3) := dk_20 0 77 (dk_at dksX0_rule_0 3 rfl rfl)
theorem dX0_rule_6 : decode cX0_rule 6 = .ok (.invokestatic 3, 3) := dk_184 0 3 (dk_at dksX0_rule_0 6 rfl rfl)
theorem dX0_rule_9 : decode cX0_rule 9 = .ok (.ifCond .eq 15, 3) := dk_153 0 15 (dk_at dksX0_rule_0 9 rfl rfl)
theorem dX0_rule_12 : decode cX0_rule 12 = .ok (.aload_n 0, 1) := dk_42 (dk_at dksX0_rule_0 12 rfl rfl)
theorem dX0_rule_13 : decode cX0_rule 13 = .ok (.getfield 33, 3) := dk_180 0 33 (dk_at dksX0_rule_0 13 rfl rfl)
theorem dX0_rule_16 : decode cX0_rule 16 = .ok (.getfield 79, 3) := dk_180 0 79 (dk_at dksX0_rule_0 16 rfl rfl)
theorem dX0_rule_19 : decode cX0_rule 19 = .ok (.iload_n 1, 1) := dk_27 (dk_at dksX0_rule_0 19 rfl rfl)
theorem dX0_rule_20 : decode cX0_rule 20 = .ok (.iaload, 1) := dk_46 (dk_at dksX0_rule_0 20 rfl rfl)
theorem dX0_rule_21 : decode cX0_rule 21 = .ok (.goto 33, 3) := dk_167 0 33 (dk_at dksX0_rule_0 21 rfl rfl)
theorem dX0_rule_24 : decode cX0_rule 24 = .ok (.iload_n 1, 1) := dk_27 (dk_at dksX0_rule_1 0 rfl rfl)
theorem dX0_rule_25 : decode cX0_rule 25 = .ok (.bipush 6, 2) := dk_16 6 (dk_at dksX0_rule_1 1 rfl rfl)
theorem dX0_rule_27 : decode cX0_rule 27 = .ok (.if_icmp .ne 10, 3) := dk_160 0 10 (dk_at dksX0_rule_1 3 rfl rfl)
theorem dX0_rule_30 : decode cX0_rule 30 = .ok (.aload_n 0, 1) := dk_42 (dk_at dksX0_rule_1 6 rfl rfl)
theorem dX0_rule_31 : decode cX0_rule 31 = .ok (.getfield 49, 3) := dk_180 0 49 (dk_at dksX0_rule_1 7 rfl rfl)
theorem dX0_rule_34 : decode cX0_rule 34 = .ok (.goto 20, 3) := dk_167 0 20 (dk_at dksX0_rule_1 10 rfl rfl)
theorem dX0_rule_37 : decode cX0_rule 37 = .ok (.iload_n 1, 1) := dk_27 (dk_at dksX0_rule_1 13 rfl rfl)
theorem dX0_rule_38 : decode cX0_rule 38 = .ok (.bipush 7, 2) := dk_16 7 (dk_at dksX0_rule_1 14 rfl rfl)
theorem dX0_rule_40 : decode cX0_rule 40 = .ok (.if_icmp .ne 13, 3) := dk_160 0 13 (dk_at dksX0_rule_1 16 rfl rfl)
theorem dX0_rule_43 : decode cX0_rule 43 = .ok (.aload_n 0, 1) := dk_42 (dk_at dksX0_rule_1 19 rfl rfl)
theorem dX0_rule_44 : decode cX0_rule 44 = .ok (.getfield 33, 3) := dk_180 0 33 (dk_at dksX0_rule_1 20 rfl rfl)
theorem dX0_rule_47 : decode cX0_rule 47 = .ok (.getfield 83, 3) := dk_180 0 83 (dk_at dksX0_rule_2 0 rfl rfl)
theorem dX0_rule_50 : decode cX0_rule 50 = .ok (.goto 4, 3) := dk_167 0 4 (dk_at dksX0_rule_2 3 rfl rfl)
theorem dX0_rule_53 : decode cX0_rule 53 = .ok (.iconst (-1), 1) := dk_2 (dk_at dksX0_rule_2 6 rfl rfl)
theorem dX0_rule_54 : decode cX0_rule 54 = .ok (.ireturn, 1) := dk_172 (dk_at dksX0_rule_2 7 rfl rfl)
abbrev cX0_boat : ByteArray := prog_1_method_9_code
def yX0_boat : MethodName := ⟨RX0, "boat", "(II)I"⟩
def dkwX0_boat_3 : List UInt8 := [42, 180, 0, 33, 180, 0, 83, 27, 122, 4, 126, 172, 42, 180, 0, 33, 27, 182, 0, 97, 172, 2, 172]
abbrev dktX0_boat_3 : List UInt8 := dkwX0_boat_3 ++ []
def dkwX0_boat_2 : List UInt8 := [42, 180, 0, 33, 180, 0, 90, 27, 46, 172, 42, 180, 0, 33, 180, 0, 93, 27, 50, 28, 4, 100, 46, 172]
abbrev dktX0_boat_2 : List UInt8 := dkwX0_boat_2 ++ dktX0_boat_3
def dkwX0_boat_1 : List UInt8 := [170, 0, 0, 0, 86, 0, 0, 0, 0, 0, 0, 0, 6, 0, 0, 0, 41, 0, 0, 0, 51, 0, 0, 0, 51, 0, 0, 0, 51, 0, 0, 0, 51, 0, 0, 0, 65, 0, 0, 0, 77]
abbrev dktX0_boat_1 : List UInt8 := dkwX0_boat_1 ++ dktX0_boat_2
def dkwX0_boat_0 : List UInt8 := [42, 27, 182, 0, 86, 154, 0, 5, 2, 172, 28]
abbrev dktX0_boat_0 : List UInt8 := dkwX0_boat_0 ++ dktX0_boat_1
theorem dksX0_boat_0 : cX0_boat.data.toList.drop 0 = dktX0_boat_0 := by decide +kernel
theorem dksX0_boat_1 : cX0_boat.data.toList.drop 11 = dktX0_boat_1 := dk_seg dksX0_boat_0 11 rfl rfl
theorem dksX0_boat_2 : cX0_boat.data.toList.drop 52 = dktX0_boat_2 := dk_seg dksX0_boat_1 41 rfl rfl
theorem dksX0_boat_3 : cX0_boat.data.toList.drop 76 = dktX0_boat_3 := dk_seg dksX0_boat_2 24 rfl rfl
theorem dX0_boat_0 : decode cX0_boat 0 = .ok (.aload_n 0, 1) := dk_42 (dk_at dksX0_boat_0 0 rfl rfl)
theorem dX0_boat_1 : decode cX0_boat 1 = .ok (.iload_n 1, 1) := dk_27 (dk_at dksX0_boat_0 1 rfl rfl)
theorem dX0_boat_2 : decode cX0_boat 2 = .ok (.invokevirtual 86, 3) := dk_182 0 86 (dk_at dksX0_boat_0 2 rfl rfl)
theorem dX0_boat_5 : decode cX0_boat 5 = .ok (.ifCond .ne 5, 3) := dk_154 0 5 (dk_at dksX0_boat_0 5 rfl rfl)
theorem dX0_boat_8 : decode cX0_boat 8 = .ok (.iconst (-1), 1) := dk_2 (dk_at dksX0_boat_0 8 rfl rfl)
theorem dX0_boat_9 : decode cX0_boat 9 = .ok (.ireturn, 1) := dk_172 (dk_at dksX0_boat_0 9 rfl rfl)
theorem dX0_boat_10 : decode cX0_boat 10 = .ok (.iload_n 2, 1) := dk_28 (dk_at dksX0_boat_0 10 rfl rfl)
theorem dX0_boat_11 : decode cX0_boat 11 = .ok (.tableswitch 86 0 6 #[41, 51, 51, 51, 51, 65, 77], 41) := by decide +kernel
theorem dX0_boat_52 : decode cX0_boat 52 = .ok (.aload_n 0, 1) := dk_42 (dk_at dksX0_boat_2 0 rfl rfl)
theorem dX0_boat_53 : decode cX0_boat 53 = .ok (.getfield 33, 3) := dk_180 0 33 (dk_at dksX0_boat_2 1 rfl rfl)
theorem dX0_boat_56 : decode cX0_boat 56 = .ok (.getfield 90, 3) := dk_180 0 90 (dk_at dksX0_boat_2 4 rfl rfl)
theorem dX0_boat_59 : decode cX0_boat 59 = .ok (.iload_n 1, 1) := dk_27 (dk_at dksX0_boat_2 7 rfl rfl)
theorem dX0_boat_60 : decode cX0_boat 60 = .ok (.iaload, 1) := dk_46 (dk_at dksX0_boat_2 8 rfl rfl)
theorem dX0_boat_61 : decode cX0_boat 61 = .ok (.ireturn, 1) := dk_172 (dk_at dksX0_boat_2 9 rfl rfl)
theorem dX0_boat_62 : decode cX0_boat 62 = .ok (.aload_n 0, 1) := dk_42 (dk_at dksX0_boat_2 10 rfl rfl)
theorem dX0_boat_63 : decode cX0_boat 63 = .ok (.getfield 33, 3) := dk_180 0 33 (dk_at dksX0_boat_2 11 rfl rfl)
theorem dX0_boat_66 : decode cX0_boat 66 = .ok (.getfield 93, 3) := dk_180 0 93 (dk_at dksX0_boat_2 14 rfl rfl)
theorem dX0_boat_69 : decode cX0_boat 69 = .ok (.iload_n 1, 1) := dk_27 (dk_at dksX0_boat_2 17 rfl rfl)
theorem dX0_boat_70 : decode cX0_boat 70 = .ok (.aaload, 1) := dk_50 (dk_at dksX0_boat_2 18 rfl rfl)
theorem dX0_boat_71 : decode cX0_boat 71 = .ok (.iload_n 2, 1) := dk_28 (dk_at dksX0_boat_2 19 rfl rfl)
theorem dX0_boat_72 : decode cX0_boat 72 = .ok (.iconst 1, 1) := dk_4 (dk_at dksX0_boat_2 20 rfl rfl)
theorem dX0_boat_73 : decode cX0_boat 73 = .ok (.isub, 1) := dk_100 (dk_at dksX0_boat_2 21 rfl rfl)
theorem dX0_boat_74 : decode cX0_boat 74 = .ok (.iaload, 1) := dk_46 (dk_at dksX0_boat_2 22 rfl rfl)
theorem dX0_boat_75 : decode cX0_boat 75 = .ok (.ireturn, 1) := dk_172 (dk_at dksX0_boat_2 23 rfl rfl)
theorem dX0_boat_76 : decode cX0_boat 76 = .ok (.aload_n 0, 1) := dk_42 (dk_at dksX0_boat_3 0 rfl rfl)
theorem dX0_boat_77 : decode cX0_boat 77 = .ok (.getfield 33, 3) := dk_180 0 33 (dk_at dksX0_boat_3 1 rfl rfl)
theorem dX0_boat_80 : decode cX0_boat 80 = .ok (.getfield 83, 3) := dk_180 0 83 (dk_at dksX0_boat_3 4 rfl rfl)
theorem dX0_boat_83 : decode cX0_boat 83 = .ok (.iload_n 1, 1) := dk_27 (dk_at dksX0_boat_3 7 rfl rfl)
theorem dX0_boat_84 : decode cX0_boat 84 = .ok (.ishr, 1) := dk_122 (dk_at dksX0_boat_3 8 rfl rfl)
theorem dX0_boat_85 : decode cX0_boat 85 = .ok (.iconst 1, 1) := dk_4 (dk_at dksX0_boat_3 9 rfl rfl)
theorem dX0_boat_86 : decode cX0_boat 86 = .ok (.iand, 1) := dk_126 (dk_at dksX0_boat_3 10 rfl rfl)
theorem dX0_boat_87 : decode cX0_boat 87 = .ok (.ireturn, 1) := dk_172 (dk_at dksX0_boat_3 11 rfl rfl)
theorem dX0_boat_88 : decode cX0_boat 88 = .ok (.aload_n 0, 1) := dk_42 (dk_at dksX0_boat_3 12 rfl rfl)
theorem dX0_boat_89 : decode cX0_boat 89 = .ok (.getfield 33, 3) := dk_180 0 33 (dk_at dksX0_boat_3 13 rfl rfl)
theorem dX0_boat_92 : decode cX0_boat 92 = .ok (.iload_n 1, 1) := dk_27 (dk_at dksX0_boat_3 16 rfl rfl)
theorem dX0_boat_93 : decode cX0_boat 93 = .ok (.invokevirtual 97, 3) := dk_182 0 97 (dk_at dksX0_boat_3 17 rfl rfl)
theorem dX0_boat_96 : decode cX0_boat 96 = .ok (.ireturn, 1) := dk_172 (dk_at dksX0_boat_3 20 rfl rfl)
theorem dX0_boat_97 : decode cX0_boat 97 = .ok (.iconst (-1), 1) := dk_2 (dk_at dksX0_boat_3 21 rfl rfl)
theorem dX0_boat_98 : decode cX0_boat 98 = .ok (.ireturn, 1) := dk_172 (dk_at dksX0_boat_3 22 rfl rfl)
abbrev cX0_isBoat : ByteArray := prog_1_method_7_code
def yX0_isBoat : MethodName := ⟨RX0, "isBoat", "(I)Z"⟩
def dkwX0_isBoat_0 : List UInt8 := [27, 133, 9, 42, 180, 0, 49, 4, 100, 133, 184, 0, 3, 172]
abbrev dktX0_isBoat_0 : List UInt8 := dkwX0_isBoat_0 ++ []
theorem dksX0_isBoat_0 : cX0_isBoat.data.toList.drop 0 = dktX0_isBoat_0 := by decide +kernel
theorem dX0_isBoat_0 : decode cX0_isBoat 0 = .ok (.iload_n 1, 1) := dk_27 (dk_at dksX0_isBoat_0 0 rfl rfl)
theorem dX0_isBoat_1 : decode cX0_isBoat 1 = .ok (.i2l, 1) := dk_133 (dk_at dksX0_isBoat_0 1 rfl rfl)
theorem dX0_isBoat_2 : decode cX0_isBoat 2 = .ok (.lconst 0, 1) := dk_9 (dk_at dksX0_isBoat_0 2 rfl rfl)
theorem dX0_isBoat_3 : decode cX0_isBoat 3 = .ok (.aload_n 0, 1) := dk_42 (dk_at dksX0_isBoat_0 3 rfl rfl)
theorem dX0_isBoat_4 : decode cX0_isBoat 4 = .ok (.getfield 49, 3) := dk_180 0 49 (dk_at dksX0_isBoat_0 4 rfl rfl)
theorem dX0_isBoat_7 : decode cX0_isBoat 7 = .ok (.iconst 1, 1) := dk_4 (dk_at dksX0_isBoat_0 7 rfl rfl)
theorem dX0_isBoat_8 : decode cX0_isBoat 8 = .ok (.isub, 1) := dk_100 (dk_at dksX0_isBoat_0 8 rfl rfl)
theorem dX0_isBoat_9 : decode cX0_isBoat 9 = .ok (.i2l, 1) := dk_133 (dk_at dksX0_isBoat_0 9 rfl rfl)
theorem dX0_isBoat_10 : decode cX0_isBoat 10 = .ok (.invokestatic 3, 3) := dk_184 0 3 (dk_at dksX0_isBoat_0 10 rfl rfl)
theorem dX0_isBoat_13 : decode cX0_isBoat 13 = .ok (.ireturn, 1) := dk_172 (dk_at dksX0_isBoat_0 13 rfl rfl)
abbrev cX0_set : ByteArray := prog_1_method_10_code
def yX0_set : MethodName := ⟨RX0, "set", "(II)I"⟩
def dkwX0_set_2 : List UInt8 := [180, 0, 79, 27, 28, 79, 29, 172]
abbrev dktX0_set_2 : List UInt8 := dkwX0_set_2 ++ []
def dkwX0_set_1 : List UInt8 := [46, 133, 184, 0, 3, 154, 0, 5, 2, 172, 42, 180, 0, 33, 180, 0, 79, 27, 46, 62, 42, 180, 0, 33]
abbrev dktX0_set_1 : List UInt8 := dkwX0_set_1 ++ dktX0_set_2
def dkwX0_set_0 : List UInt8 := [27, 133, 9, 20, 0, 77, 184, 0, 3, 153, 0, 23, 28, 133, 178, 0, 101, 27, 46, 133, 178, 0, 104, 27]
abbrev dktX0_set_0 : List UInt8 := dkwX0_set_0 ++ dktX0_set_1
theorem dksX0_set_0 : cX0_set.data.toList.drop 0 = dktX0_set_0 := by decide +kernel
theorem dksX0_set_1 : cX0_set.data.toList.drop 24 = dktX0_set_1 := dk_seg dksX0_set_0 24 rfl rfl
theorem dksX0_set_2 : cX0_set.data.toList.drop 48 = dktX0_set_2 := dk_seg dksX0_set_1 24 rfl rfl
theorem dX0_set_0 : decode cX0_set 0 = .ok (.iload_n 1, 1) := dk_27 (dk_at dksX0_set_0 0 rfl rfl)
theorem dX0_set_1 : decode cX0_set 1 = .ok (.i2l, 1) := dk_133 (dk_at dksX0_set_0 1 rfl rfl)
theorem dX0_set_2 : decode cX0_set 2 = .ok (.lconst 0, 1) := dk_9 (dk_at dksX0_set_0 2 rfl rfl)
theorem dX0_set_3 : decode cX0_set 3 = .ok (.ldc2_w 77, 3) := dk_20 0 77 (dk_at dksX0_set_0 3 rfl rfl)
theorem dX0_set_6 : decode cX0_set 6 = .ok (.invokestatic 3, 3) := dk_184 0 3 (dk_at dksX0_set_0 6 rfl rfl)
theorem dX0_set_9 : decode cX0_set 9 = .ok (.ifCond .eq 23, 3) := dk_153 0 23 (dk_at dksX0_set_0 9 rfl rfl)
theorem dX0_set_12 : decode cX0_set 12 = .ok (.iload_n 2, 1) := dk_28 (dk_at dksX0_set_0 12 rfl rfl)
theorem dX0_set_13 : decode cX0_set 13 = .ok (.i2l, 1) := dk_133 (dk_at dksX0_set_0 13 rfl rfl)
theorem dX0_set_14 : decode cX0_set 14 = .ok (.getstatic 101, 3) := dk_178 0 101 (dk_at dksX0_set_0 14 rfl rfl)
theorem dX0_set_17 : decode cX0_set 17 = .ok (.iload_n 1, 1) := dk_27 (dk_at dksX0_set_0 17 rfl rfl)
theorem dX0_set_18 : decode cX0_set 18 = .ok (.iaload, 1) := dk_46 (dk_at dksX0_set_0 18 rfl rfl)
theorem dX0_set_19 : decode cX0_set 19 = .ok (.i2l, 1) := dk_133 (dk_at dksX0_set_0 19 rfl rfl)
theorem dX0_set_20 : decode cX0_set 20 = .ok (.getstatic 104, 3) := dk_178 0 104 (dk_at dksX0_set_0 20 rfl rfl)
theorem dX0_set_23 : decode cX0_set 23 = .ok (.iload_n 1, 1) := dk_27 (dk_at dksX0_set_0 23 rfl rfl)
theorem dX0_set_24 : decode cX0_set 24 = .ok (.iaload, 1) := dk_46 (dk_at dksX0_set_1 0 rfl rfl)
theorem dX0_set_25 : decode cX0_set 25 = .ok (.i2l, 1) := dk_133 (dk_at dksX0_set_1 1 rfl rfl)
theorem dX0_set_26 : decode cX0_set 26 = .ok (.invokestatic 3, 3) := dk_184 0 3 (dk_at dksX0_set_1 2 rfl rfl)
theorem dX0_set_29 : decode cX0_set 29 = .ok (.ifCond .ne 5, 3) := dk_154 0 5 (dk_at dksX0_set_1 5 rfl rfl)
theorem dX0_set_32 : decode cX0_set 32 = .ok (.iconst (-1), 1) := dk_2 (dk_at dksX0_set_1 8 rfl rfl)
theorem dX0_set_33 : decode cX0_set 33 = .ok (.ireturn, 1) := dk_172 (dk_at dksX0_set_1 9 rfl rfl)
theorem dX0_set_34 : decode cX0_set 34 = .ok (.aload_n 0, 1) := dk_42 (dk_at dksX0_set_1 10 rfl rfl)
theorem dX0_set_35 : decode cX0_set 35 = .ok (.getfield 33, 3) := dk_180 0 33 (dk_at dksX0_set_1 11 rfl rfl)
theorem dX0_set_38 : decode cX0_set 38 = .ok (.getfield 79, 3) := dk_180 0 79 (dk_at dksX0_set_1 14 rfl rfl)
theorem dX0_set_41 : decode cX0_set 41 = .ok (.iload_n 1, 1) := dk_27 (dk_at dksX0_set_1 17 rfl rfl)
theorem dX0_set_42 : decode cX0_set 42 = .ok (.iaload, 1) := dk_46 (dk_at dksX0_set_1 18 rfl rfl)
theorem dX0_set_43 : decode cX0_set 43 = .ok (.istore_n 3, 1) := dk_62 (dk_at dksX0_set_1 19 rfl rfl)
theorem dX0_set_44 : decode cX0_set 44 = .ok (.aload_n 0, 1) := dk_42 (dk_at dksX0_set_1 20 rfl rfl)
theorem dX0_set_45 : decode cX0_set 45 = .ok (.getfield 33, 3) := dk_180 0 33 (dk_at dksX0_set_1 21 rfl rfl)
theorem dX0_set_48 : decode cX0_set 48 = .ok (.getfield 79, 3) := dk_180 0 79 (dk_at dksX0_set_2 0 rfl rfl)
theorem dX0_set_51 : decode cX0_set 51 = .ok (.iload_n 1, 1) := dk_27 (dk_at dksX0_set_2 3 rfl rfl)
theorem dX0_set_52 : decode cX0_set 52 = .ok (.iload_n 2, 1) := dk_28 (dk_at dksX0_set_2 4 rfl rfl)
theorem dX0_set_53 : decode cX0_set 53 = .ok (.iastore, 1) := dk_79 (dk_at dksX0_set_2 5 rfl rfl)
theorem dX0_set_54 : decode cX0_set 54 = .ok (.iload_n 3, 1) := dk_29 (dk_at dksX0_set_2 6 rfl rfl)
theorem dX0_set_55 : decode cX0_set 55 = .ok (.ireturn, 1) := dk_172 (dk_at dksX0_set_2 7 rfl rfl)
abbrev cX0_alter : ByteArray := prog_1_method_12_code
def yX0_alter : MethodName := ⟨RX0, "alter", "(III)I"⟩
def dkwX0_alter_0 : List UInt8 := [42, 27, 28, 29, 182, 0, 115, 172]
abbrev dktX0_alter_0 : List UInt8 := dkwX0_alter_0 ++ []
theorem dksX0_alter_0 : cX0_alter.data.toList.drop 0 = dktX0_alter_0 := by decide +kernel
theorem dX0_alter_0 : decode cX0_alter 0 = .ok (.aload_n 0, 1) := dk_42 (dk_at dksX0_alter_0 0 rfl rfl)
theorem dX0_alter_1 : decode cX0_alter 1 = .ok (.iload_n 1, 1) := dk_27 (dk_at dksX0_alter_0 1 rfl rfl)
theorem dX0_alter_2 : decode cX0_alter 2 = .ok (.iload_n 2, 1) := dk_28 (dk_at dksX0_alter_0 2 rfl rfl)
theorem dX0_alter_3 : decode cX0_alter 3 = .ok (.iload_n 3, 1) := dk_29 (dk_at dksX0_alter_0 3 rfl rfl)
theorem dX0_alter_4 : decode cX0_alter 4 = .ok (.invokevirtual 115, 3) := dk_182 0 115 (dk_at dksX0_alter_0 4 rfl rfl)
theorem dX0_alter_7 : decode cX0_alter 7 = .ok (.ireturn, 1) := dk_172 (dk_at dksX0_alter_0 7 rfl rfl)
abbrev cX0_alters : ByteArray := prog_1_method_11_code
def yX0_alters : MethodName := ⟨RX0, "alters", "(III)I"⟩
def dkwX0_alters_3 : List UInt8 := [180, 0, 33, 180, 0, 93, 27, 50, 28, 4, 100, 29, 79, 21, 4, 172]
abbrev dktX0_alters_3 : List UInt8 := dkwX0_alters_3 ++ []
def dkwX0_alters_2 : List UInt8 := [184, 0, 3, 154, 0, 5, 2, 172, 42, 180, 0, 33, 180, 0, 93, 27, 50, 28, 4, 100, 46, 54, 4, 42]
abbrev dktX0_alters_2 : List UInt8 := dkwX0_alters_2 ++ dktX0_alters_3
def dkwX0_alters_1 : List UInt8 := [4, 160, 0, 9, 20, 0, 109, 167, 0, 17, 28, 5, 160, 0, 9, 20, 0, 111, 167, 0, 6, 20, 0, 113]
abbrev dktX0_alters_1 : List UInt8 := dkwX0_alters_1 ++ dktX0_alters_2
def dkwX0_alters_0 : List UInt8 := [42, 27, 182, 0, 86, 153, 0, 49, 28, 133, 10, 20, 0, 107, 184, 0, 3, 153, 0, 37, 29, 133, 9, 28]
abbrev dktX0_alters_0 : List UInt8 := dkwX0_alters_0 ++ dktX0_alters_1
theorem dksX0_alters_0 : cX0_alters.data.toList.drop 0 = dktX0_alters_0 := by decide +kernel
theorem dksX0_alters_1 : cX0_alters.data.toList.drop 24 = dktX0_alters_1 := dk_seg dksX0_alters_0 24 rfl rfl
theorem dksX0_alters_2 : cX0_alters.data.toList.drop 48 = dktX0_alters_2 := dk_seg dksX0_alters_1 24 rfl rfl
theorem dksX0_alters_3 : cX0_alters.data.toList.drop 72 = dktX0_alters_3 := dk_seg dksX0_alters_2 24 rfl rfl
theorem dX0_alters_0 : decode cX0_alters 0 = .ok (.aload_n 0, 1) := dk_42 (dk_at dksX0_alters_0 0 rfl rfl)
theorem dX0_alters_1 : decode cX0_alters 1 = .ok (.iload_n 1, 1) := dk_27 (dk_at dksX0_alters_0 1 rfl rfl)
theorem dX0_alters_2 : decode cX0_alters 2 = .ok (.invokevirtual 86, 3) := dk_182 0 86 (dk_at dksX0_alters_0 2 rfl rfl)
theorem dX0_alters_5 : decode cX0_alters 5 = .ok (.ifCond .eq 49, 3) := dk_153 0 49 (dk_at dksX0_alters_0 5 rfl rfl)
theorem dX0_alters_8 : decode cX0_alters 8 = .ok (.iload_n 2, 1) := dk_28 (dk_at dksX0_alters_0 8 rfl rfl)
theorem dX0_alters_9 : decode cX0_alters 9 = .ok (.i2l, 1) := dk_133 (dk_at dksX0_alters_0 9 rfl rfl)
theorem dX0_alters_10 : decode cX0_alters 10 = .ok (.lconst 1, 1) := dk_10 (dk_at dksX0_alters_0 10 rfl rfl)
theorem dX0_alters_11 : decode cX0_alters 11 = .ok (.ldc2_w 107, 3) := dk_20 0 107 (dk_at dksX0_alters_0 11 rfl rfl)
theorem dX0_alters_14 : decode cX0_alters 14 = .ok (.invokestatic 3, 3) := dk_184 0 3 (dk_at dksX0_alters_0 14 rfl rfl)
theorem dX0_alters_17 : decode cX0_alters 17 = .ok (.ifCond .eq 37, 3) := dk_153 0 37 (dk_at dksX0_alters_0 17 rfl rfl)
theorem dX0_alters_20 : decode cX0_alters 20 = .ok (.iload_n 3, 1) := dk_29 (dk_at dksX0_alters_0 20 rfl rfl)
theorem dX0_alters_21 : decode cX0_alters 21 = .ok (.i2l, 1) := dk_133 (dk_at dksX0_alters_0 21 rfl rfl)
theorem dX0_alters_22 : decode cX0_alters 22 = .ok (.lconst 0, 1) := dk_9 (dk_at dksX0_alters_0 22 rfl rfl)
theorem dX0_alters_23 : decode cX0_alters 23 = .ok (.iload_n 2, 1) := dk_28 (dk_at dksX0_alters_0 23 rfl rfl)
theorem dX0_alters_24 : decode cX0_alters 24 = .ok (.iconst 1, 1) := dk_4 (dk_at dksX0_alters_1 0 rfl rfl)
theorem dX0_alters_25 : decode cX0_alters 25 = .ok (.if_icmp .ne 9, 3) := dk_160 0 9 (dk_at dksX0_alters_1 1 rfl rfl)
theorem dX0_alters_28 : decode cX0_alters 28 = .ok (.ldc2_w 109, 3) := dk_20 0 109 (dk_at dksX0_alters_1 4 rfl rfl)
theorem dX0_alters_31 : decode cX0_alters 31 = .ok (.goto 17, 3) := dk_167 0 17 (dk_at dksX0_alters_1 7 rfl rfl)
theorem dX0_alters_34 : decode cX0_alters 34 = .ok (.iload_n 2, 1) := dk_28 (dk_at dksX0_alters_1 10 rfl rfl)
theorem dX0_alters_35 : decode cX0_alters 35 = .ok (.iconst 2, 1) := dk_5 (dk_at dksX0_alters_1 11 rfl rfl)
theorem dX0_alters_36 : decode cX0_alters 36 = .ok (.if_icmp .ne 9, 3) := dk_160 0 9 (dk_at dksX0_alters_1 12 rfl rfl)
theorem dX0_alters_39 : decode cX0_alters 39 = .ok (.ldc2_w 111, 3) := dk_20 0 111 (dk_at dksX0_alters_1 15 rfl rfl)
theorem dX0_alters_42 : decode cX0_alters 42 = .ok (.goto 6, 3) := dk_167 0 6 (dk_at dksX0_alters_1 18 rfl rfl)
theorem dX0_alters_45 : decode cX0_alters 45 = .ok (.ldc2_w 113, 3) := dk_20 0 113 (dk_at dksX0_alters_1 21 rfl rfl)
theorem dX0_alters_48 : decode cX0_alters 48 = .ok (.invokestatic 3, 3) := dk_184 0 3 (dk_at dksX0_alters_2 0 rfl rfl)
theorem dX0_alters_51 : decode cX0_alters 51 = .ok (.ifCond .ne 5, 3) := dk_154 0 5 (dk_at dksX0_alters_2 3 rfl rfl)
theorem dX0_alters_54 : decode cX0_alters 54 = .ok (.iconst (-1), 1) := dk_2 (dk_at dksX0_alters_2 6 rfl rfl)
theorem dX0_alters_55 : decode cX0_alters 55 = .ok (.ireturn, 1) := dk_172 (dk_at dksX0_alters_2 7 rfl rfl)
theorem dX0_alters_56 : decode cX0_alters 56 = .ok (.aload_n 0, 1) := dk_42 (dk_at dksX0_alters_2 8 rfl rfl)
theorem dX0_alters_57 : decode cX0_alters 57 = .ok (.getfield 33, 3) := dk_180 0 33 (dk_at dksX0_alters_2 9 rfl rfl)
theorem dX0_alters_60 : decode cX0_alters 60 = .ok (.getfield 93, 3) := dk_180 0 93 (dk_at dksX0_alters_2 12 rfl rfl)
theorem dX0_alters_63 : decode cX0_alters 63 = .ok (.iload_n 1, 1) := dk_27 (dk_at dksX0_alters_2 15 rfl rfl)
theorem dX0_alters_64 : decode cX0_alters 64 = .ok (.aaload, 1) := dk_50 (dk_at dksX0_alters_2 16 rfl rfl)
theorem dX0_alters_65 : decode cX0_alters 65 = .ok (.iload_n 2, 1) := dk_28 (dk_at dksX0_alters_2 17 rfl rfl)
theorem dX0_alters_66 : decode cX0_alters 66 = .ok (.iconst 1, 1) := dk_4 (dk_at dksX0_alters_2 18 rfl rfl)
theorem dX0_alters_67 : decode cX0_alters 67 = .ok (.isub, 1) := dk_100 (dk_at dksX0_alters_2 19 rfl rfl)
theorem dX0_alters_68 : decode cX0_alters 68 = .ok (.iaload, 1) := dk_46 (dk_at dksX0_alters_2 20 rfl rfl)
theorem dX0_alters_69 : decode cX0_alters 69 = .ok (.istore 4, 2) := dk_54 4 (dk_at dksX0_alters_2 21 rfl rfl)
theorem dX0_alters_71 : decode cX0_alters 71 = .ok (.aload_n 0, 1) := dk_42 (dk_at dksX0_alters_2 23 rfl rfl)
theorem dX0_alters_72 : decode cX0_alters 72 = .ok (.getfield 33, 3) := dk_180 0 33 (dk_at dksX0_alters_3 0 rfl rfl)
theorem dX0_alters_75 : decode cX0_alters 75 = .ok (.getfield 93, 3) := dk_180 0 93 (dk_at dksX0_alters_3 3 rfl rfl)
theorem dX0_alters_78 : decode cX0_alters 78 = .ok (.iload_n 1, 1) := dk_27 (dk_at dksX0_alters_3 6 rfl rfl)
theorem dX0_alters_79 : decode cX0_alters 79 = .ok (.aaload, 1) := dk_50 (dk_at dksX0_alters_3 7 rfl rfl)
theorem dX0_alters_80 : decode cX0_alters 80 = .ok (.iload_n 2, 1) := dk_28 (dk_at dksX0_alters_3 8 rfl rfl)
theorem dX0_alters_81 : decode cX0_alters 81 = .ok (.iconst 1, 1) := dk_4 (dk_at dksX0_alters_3 9 rfl rfl)
theorem dX0_alters_82 : decode cX0_alters 82 = .ok (.isub, 1) := dk_100 (dk_at dksX0_alters_3 10 rfl rfl)
theorem dX0_alters_83 : decode cX0_alters 83 = .ok (.iload_n 3, 1) := dk_29 (dk_at dksX0_alters_3 11 rfl rfl)
theorem dX0_alters_84 : decode cX0_alters 84 = .ok (.iastore, 1) := dk_79 (dk_at dksX0_alters_3 12 rfl rfl)
theorem dX0_alters_85 : decode cX0_alters 85 = .ok (.iload 4, 2) := dk_21 4 (dk_at dksX0_alters_3 13 rfl rfl)
theorem dX0_alters_87 : decode cX0_alters 87 = .ok (.ireturn, 1) := dk_172 (dk_at dksX0_alters_3 15 rfl rfl)
abbrev cX0_lie : ByteArray := prog_1_method_13_code
def yX0_lie : MethodName := ⟨RX0, "lie", "(IZ)I"⟩
def dkwX0_lie_2 : List UInt8 := [167, 0, 4, 3, 128, 181, 0, 83, 29, 172]
abbrev dktX0_lie_2 : List UInt8 := dkwX0_lie_2 ++ []
def dkwX0_lie_1 : List UInt8 := [180, 0, 33, 42, 180, 0, 33, 180, 0, 83, 4, 27, 120, 2, 130, 126, 28, 153, 0, 9, 4, 27, 120]
abbrev dktX0_lie_1 : List UInt8 := dkwX0_lie_1 ++ dktX0_lie_2
def dkwX0_lie_0 : List UInt8 := [42, 27, 182, 0, 86, 154, 0, 5, 2, 172, 42, 180, 0, 33, 180, 0, 83, 27, 122, 4, 126, 62, 42]
abbrev dktX0_lie_0 : List UInt8 := dkwX0_lie_0 ++ dktX0_lie_1
theorem dksX0_lie_0 : cX0_lie.data.toList.drop 0 = dktX0_lie_0 := by decide +kernel
theorem dksX0_lie_1 : cX0_lie.data.toList.drop 23 = dktX0_lie_1 := dk_seg dksX0_lie_0 23 rfl rfl
theorem dksX0_lie_2 : cX0_lie.data.toList.drop 46 = dktX0_lie_2 := dk_seg dksX0_lie_1 23 rfl rfl
theorem dX0_lie_0 : decode cX0_lie 0 = .ok (.aload_n 0, 1) := dk_42 (dk_at dksX0_lie_0 0 rfl rfl)
theorem dX0_lie_1 : decode cX0_lie 1 = .ok (.iload_n 1, 1) := dk_27 (dk_at dksX0_lie_0 1 rfl rfl)
theorem dX0_lie_2 : decode cX0_lie 2 = .ok (.invokevirtual 86, 3) := dk_182 0 86 (dk_at dksX0_lie_0 2 rfl rfl)
theorem dX0_lie_5 : decode cX0_lie 5 = .ok (.ifCond .ne 5, 3) := dk_154 0 5 (dk_at dksX0_lie_0 5 rfl rfl)
theorem dX0_lie_8 : decode cX0_lie 8 = .ok (.iconst (-1), 1) := dk_2 (dk_at dksX0_lie_0 8 rfl rfl)
theorem dX0_lie_9 : decode cX0_lie 9 = .ok (.ireturn, 1) := dk_172 (dk_at dksX0_lie_0 9 rfl rfl)
theorem dX0_lie_10 : decode cX0_lie 10 = .ok (.aload_n 0, 1) := dk_42 (dk_at dksX0_lie_0 10 rfl rfl)
theorem dX0_lie_11 : decode cX0_lie 11 = .ok (.getfield 33, 3) := dk_180 0 33 (dk_at dksX0_lie_0 11 rfl rfl)
theorem dX0_lie_14 : decode cX0_lie 14 = .ok (.getfield 83, 3) := dk_180 0 83 (dk_at dksX0_lie_0 14 rfl rfl)
theorem dX0_lie_17 : decode cX0_lie 17 = .ok (.iload_n 1, 1) := dk_27 (dk_at dksX0_lie_0 17 rfl rfl)
theorem dX0_lie_18 : decode cX0_lie 18 = .ok (.ishr, 1) := dk_122 (dk_at dksX0_lie_0 18 rfl rfl)
theorem dX0_lie_19 : decode cX0_lie 19 = .ok (.iconst 1, 1) := dk_4 (dk_at dksX0_lie_0 19 rfl rfl)
theorem dX0_lie_20 : decode cX0_lie 20 = .ok (.iand, 1) := dk_126 (dk_at dksX0_lie_0 20 rfl rfl)
theorem dX0_lie_21 : decode cX0_lie 21 = .ok (.istore_n 3, 1) := dk_62 (dk_at dksX0_lie_0 21 rfl rfl)
theorem dX0_lie_22 : decode cX0_lie 22 = .ok (.aload_n 0, 1) := dk_42 (dk_at dksX0_lie_0 22 rfl rfl)
theorem dX0_lie_23 : decode cX0_lie 23 = .ok (.getfield 33, 3) := dk_180 0 33 (dk_at dksX0_lie_1 0 rfl rfl)
theorem dX0_lie_26 : decode cX0_lie 26 = .ok (.aload_n 0, 1) := dk_42 (dk_at dksX0_lie_1 3 rfl rfl)
theorem dX0_lie_27 : decode cX0_lie 27 = .ok (.getfield 33, 3) := dk_180 0 33 (dk_at dksX0_lie_1 4 rfl rfl)
theorem dX0_lie_30 : decode cX0_lie 30 = .ok (.getfield 83, 3) := dk_180 0 83 (dk_at dksX0_lie_1 7 rfl rfl)
theorem dX0_lie_33 : decode cX0_lie 33 = .ok (.iconst 1, 1) := dk_4 (dk_at dksX0_lie_1 10 rfl rfl)
theorem dX0_lie_34 : decode cX0_lie 34 = .ok (.iload_n 1, 1) := dk_27 (dk_at dksX0_lie_1 11 rfl rfl)
theorem dX0_lie_35 : decode cX0_lie 35 = .ok (.ishl, 1) := dk_120 (dk_at dksX0_lie_1 12 rfl rfl)
theorem dX0_lie_36 : decode cX0_lie 36 = .ok (.iconst (-1), 1) := dk_2 (dk_at dksX0_lie_1 13 rfl rfl)
theorem dX0_lie_37 : decode cX0_lie 37 = .ok (.ixor, 1) := dk_130 (dk_at dksX0_lie_1 14 rfl rfl)
theorem dX0_lie_38 : decode cX0_lie 38 = .ok (.iand, 1) := dk_126 (dk_at dksX0_lie_1 15 rfl rfl)
theorem dX0_lie_39 : decode cX0_lie 39 = .ok (.iload_n 2, 1) := dk_28 (dk_at dksX0_lie_1 16 rfl rfl)
theorem dX0_lie_40 : decode cX0_lie 40 = .ok (.ifCond .eq 9, 3) := dk_153 0 9 (dk_at dksX0_lie_1 17 rfl rfl)
theorem dX0_lie_43 : decode cX0_lie 43 = .ok (.iconst 1, 1) := dk_4 (dk_at dksX0_lie_1 20 rfl rfl)
theorem dX0_lie_44 : decode cX0_lie 44 = .ok (.iload_n 1, 1) := dk_27 (dk_at dksX0_lie_1 21 rfl rfl)
theorem dX0_lie_45 : decode cX0_lie 45 = .ok (.ishl, 1) := dk_120 (dk_at dksX0_lie_1 22 rfl rfl)
theorem dX0_lie_46 : decode cX0_lie 46 = .ok (.goto 4, 3) := dk_167 0 4 (dk_at dksX0_lie_2 0 rfl rfl)
theorem dX0_lie_49 : decode cX0_lie 49 = .ok (.iconst 0, 1) := dk_3 (dk_at dksX0_lie_2 3 rfl rfl)
theorem dX0_lie_50 : decode cX0_lie 50 = .ok (.ior, 1) := dk_128 (dk_at dksX0_lie_2 4 rfl rfl)
theorem dX0_lie_51 : decode cX0_lie 51 = .ok (.putfield 83, 3) := dk_181 0 83 (dk_at dksX0_lie_2 5 rfl rfl)
theorem dX0_lie_54 : decode cX0_lie 54 = .ok (.iload_n 3, 1) := dk_29 (dk_at dksX0_lie_2 8 rfl rfl)
theorem dX0_lie_55 : decode cX0_lie 55 = .ok (.ireturn, 1) := dk_172 (dk_at dksX0_lie_2 9 rfl rfl)
abbrev cX0_cross : ByteArray := prog_1_method_14_code
def yX0_cross : MethodName := ⟨RX0, "cross", "(I)I"⟩
def dkwX0_cross_1 : List UInt8 := [180, 0, 90, 27, 4, 28, 100, 79, 28, 172]
abbrev dktX0_cross_1 : List UInt8 := dkwX0_cross_1 ++ []
def dkwX0_cross_0 : List UInt8 := [42, 27, 182, 0, 86, 154, 0, 5, 2, 172, 42, 180, 0, 33, 180, 0, 90, 27, 46, 61, 42, 180, 0, 33]
abbrev dktX0_cross_0 : List UInt8 := dkwX0_cross_0 ++ dktX0_cross_1
theorem dksX0_cross_0 : cX0_cross.data.toList.drop 0 = dktX0_cross_0 := by decide +kernel
theorem dksX0_cross_1 : cX0_cross.data.toList.drop 24 = dktX0_cross_1 := dk_seg dksX0_cross_0 24 rfl rfl
theorem dX0_cross_0 : decode cX0_cross 0 = .ok (.aload_n 0, 1) := dk_42 (dk_at dksX0_cross_0 0 rfl rfl)
theorem dX0_cross_1 : decode cX0_cross 1 = .ok (.iload_n 1, 1) := dk_27 (dk_at dksX0_cross_0 1 rfl rfl)
theorem dX0_cross_2 : decode cX0_cross 2 = .ok (.invokevirtual 86, 3) := dk_182 0 86 (dk_at dksX0_cross_0 2 rfl rfl)
theorem dX0_cross_5 : decode cX0_cross 5 = .ok (.ifCond .ne 5, 3) := dk_154 0 5 (dk_at dksX0_cross_0 5 rfl rfl)
theorem dX0_cross_8 : decode cX0_cross 8 = .ok (.iconst (-1), 1) := dk_2 (dk_at dksX0_cross_0 8 rfl rfl)
theorem dX0_cross_9 : decode cX0_cross 9 = .ok (.ireturn, 1) := dk_172 (dk_at dksX0_cross_0 9 rfl rfl)
theorem dX0_cross_10 : decode cX0_cross 10 = .ok (.aload_n 0, 1) := dk_42 (dk_at dksX0_cross_0 10 rfl rfl)
theorem dX0_cross_11 : decode cX0_cross 11 = .ok (.getfield 33, 3) := dk_180 0 33 (dk_at dksX0_cross_0 11 rfl rfl)
theorem dX0_cross_14 : decode cX0_cross 14 = .ok (.getfield 90, 3) := dk_180 0 90 (dk_at dksX0_cross_0 14 rfl rfl)
theorem dX0_cross_17 : decode cX0_cross 17 = .ok (.iload_n 1, 1) := dk_27 (dk_at dksX0_cross_0 17 rfl rfl)
theorem dX0_cross_18 : decode cX0_cross 18 = .ok (.iaload, 1) := dk_46 (dk_at dksX0_cross_0 18 rfl rfl)
theorem dX0_cross_19 : decode cX0_cross 19 = .ok (.istore_n 2, 1) := dk_61 (dk_at dksX0_cross_0 19 rfl rfl)
theorem dX0_cross_20 : decode cX0_cross 20 = .ok (.aload_n 0, 1) := dk_42 (dk_at dksX0_cross_0 20 rfl rfl)
theorem dX0_cross_21 : decode cX0_cross 21 = .ok (.getfield 33, 3) := dk_180 0 33 (dk_at dksX0_cross_0 21 rfl rfl)
theorem dX0_cross_24 : decode cX0_cross 24 = .ok (.getfield 90, 3) := dk_180 0 90 (dk_at dksX0_cross_1 0 rfl rfl)
theorem dX0_cross_27 : decode cX0_cross 27 = .ok (.iload_n 1, 1) := dk_27 (dk_at dksX0_cross_1 3 rfl rfl)
theorem dX0_cross_28 : decode cX0_cross 28 = .ok (.iconst 1, 1) := dk_4 (dk_at dksX0_cross_1 4 rfl rfl)
theorem dX0_cross_29 : decode cX0_cross 29 = .ok (.iload_n 2, 1) := dk_28 (dk_at dksX0_cross_1 5 rfl rfl)
theorem dX0_cross_30 : decode cX0_cross 30 = .ok (.isub, 1) := dk_100 (dk_at dksX0_cross_1 6 rfl rfl)
theorem dX0_cross_31 : decode cX0_cross 31 = .ok (.iastore, 1) := dk_79 (dk_at dksX0_cross_1 7 rfl rfl)
theorem dX0_cross_32 : decode cX0_cross 32 = .ok (.iload_n 2, 1) := dk_28 (dk_at dksX0_cross_1 8 rfl rfl)
theorem dX0_cross_33 : decode cX0_cross 33 = .ok (.ireturn, 1) := dk_172 (dk_at dksX0_cross_1 9 rfl rfl)
abbrev cX0_passes : ByteArray := prog_1_method_23_code
def yX0_passes : MethodName := ⟨RX0, "passes", "(I)I"⟩
def dkwX0_passes_0 : List UInt8 := [42, 182, 0, 205, 42, 27, 182, 0, 86, 153, 0, 12, 42, 180, 0, 182, 27, 46, 167, 0, 4, 2, 172]
abbrev dktX0_passes_0 : List UInt8 := dkwX0_passes_0 ++ []
theorem dksX0_passes_0 : cX0_passes.data.toList.drop 0 = dktX0_passes_0 := by decide +kernel
theorem dX0_passes_0 : decode cX0_passes 0 = .ok (.aload_n 0, 1) := dk_42 (dk_at dksX0_passes_0 0 rfl rfl)
theorem dX0_passes_1 : decode cX0_passes 1 = .ok (.invokevirtual 205, 3) := dk_182 0 205 (dk_at dksX0_passes_0 1 rfl rfl)
theorem dX0_passes_4 : decode cX0_passes 4 = .ok (.aload_n 0, 1) := dk_42 (dk_at dksX0_passes_0 4 rfl rfl)
theorem dX0_passes_5 : decode cX0_passes 5 = .ok (.iload_n 1, 1) := dk_27 (dk_at dksX0_passes_0 5 rfl rfl)
theorem dX0_passes_6 : decode cX0_passes 6 = .ok (.invokevirtual 86, 3) := dk_182 0 86 (dk_at dksX0_passes_0 6 rfl rfl)
theorem dX0_passes_9 : decode cX0_passes 9 = .ok (.ifCond .eq 12, 3) := dk_153 0 12 (dk_at dksX0_passes_0 9 rfl rfl)
theorem dX0_passes_12 : decode cX0_passes 12 = .ok (.aload_n 0, 1) := dk_42 (dk_at dksX0_passes_0 12 rfl rfl)
theorem dX0_passes_13 : decode cX0_passes 13 = .ok (.getfield 182, 3) := dk_180 0 182 (dk_at dksX0_passes_0 13 rfl rfl)
theorem dX0_passes_16 : decode cX0_passes 16 = .ok (.iload_n 1, 1) := dk_27 (dk_at dksX0_passes_0 16 rfl rfl)
theorem dX0_passes_17 : decode cX0_passes 17 = .ok (.iaload, 1) := dk_46 (dk_at dksX0_passes_0 17 rfl rfl)
theorem dX0_passes_18 : decode cX0_passes 18 = .ok (.goto 4, 3) := dk_167 0 4 (dk_at dksX0_passes_0 18 rfl rfl)
theorem dX0_passes_21 : decode cX0_passes 21 = .ok (.iconst (-1), 1) := dk_2 (dk_at dksX0_passes_0 21 rfl rfl)
theorem dX0_passes_22 : decode cX0_passes 22 = .ok (.ireturn, 1) := dk_172 (dk_at dksX0_passes_0 22 rfl rfl)
abbrev cX0_today : ByteArray := prog_1_method_20_code
def yX0_today : MethodName := ⟨RX0, "today", "()V"⟩
def dkwX0_today_0 : List UInt8 := [42, 42, 180, 0, 33, 180, 0, 79, 6, 46, 3, 182, 0, 197, 177]
abbrev dktX0_today_0 : List UInt8 := dkwX0_today_0 ++ []
theorem dksX0_today_0 : cX0_today.data.toList.drop 0 = dktX0_today_0 := by decide +kernel
theorem dX0_today_0 : decode cX0_today 0 = .ok (.aload_n 0, 1) := dk_42 (dk_at dksX0_today_0 0 rfl rfl)
theorem dX0_today_1 : decode cX0_today 1 = .ok (.aload_n 0, 1) := dk_42 (dk_at dksX0_today_0 1 rfl rfl)
theorem dX0_today_2 : decode cX0_today 2 = .ok (.getfield 33, 3) := dk_180 0 33 (dk_at dksX0_today_0 2 rfl rfl)
theorem dX0_today_5 : decode cX0_today 5 = .ok (.getfield 79, 3) := dk_180 0 79 (dk_at dksX0_today_0 5 rfl rfl)
theorem dX0_today_8 : decode cX0_today 8 = .ok (.iconst 3, 1) := dk_6 (dk_at dksX0_today_0 8 rfl rfl)
theorem dX0_today_9 : decode cX0_today 9 = .ok (.iaload, 1) := dk_46 (dk_at dksX0_today_0 9 rfl rfl)
theorem dX0_today_10 : decode cX0_today 10 = .ok (.iconst 0, 1) := dk_3 (dk_at dksX0_today_0 10 rfl rfl)
theorem dX0_today_11 : decode cX0_today 11 = .ok (.invokevirtual 197, 3) := dk_182 0 197 (dk_at dksX0_today_0 11 rfl rfl)
theorem dX0_today_14 : decode cX0_today 14 = .ok (.return_, 1) := dk_177 (dk_at dksX0_today_0 14 rfl rfl)
abbrev cX0_runs : ByteArray := prog_1_method_19_code
def yX0_runs : MethodName := ⟨RX0, "runs", "(II)V"⟩
def dkwX0_runs_3 : List UInt8 := [62, 42, 42, 180, 0, 182, 21, 4, 46, 182, 0, 193, 132, 4, 1, 167, 255, 193, 177]
abbrev dktX0_runs_3 : List UInt8 := dkwX0_runs_3 ++ []
def dkwX0_runs_2 : List UInt8 := [42, 29, 178, 0, 185, 27, 50, 182, 0, 189, 79, 29, 4, 42, 180, 0, 182, 21, 4, 46, 120, 2, 130, 126]
abbrev dktX0_runs_2 : List UInt8 := dkwX0_runs_2 ++ dktX0_runs_3
def dkwX0_runs_1 : List UInt8 := [21, 4, 42, 180, 0, 49, 162, 0, 60, 42, 42, 29, 182, 0, 179, 181, 0, 141, 42, 180, 0, 182, 21, 4]
abbrev dktX0_runs_1 : List UInt8 := dkwX0_runs_1 ++ dktX0_runs_2
def dkwX0_runs_0 : List UInt8 := [4, 42, 180, 0, 49, 120, 4, 100, 62, 42, 182, 0, 173, 42, 180, 0, 119, 28, 181, 0, 176, 3, 54, 4]
abbrev dktX0_runs_0 : List UInt8 := dkwX0_runs_0 ++ dktX0_runs_1
theorem dksX0_runs_0 : cX0_runs.data.toList.drop 0 = dktX0_runs_0 := by decide +kernel
theorem dksX0_runs_1 : cX0_runs.data.toList.drop 24 = dktX0_runs_1 := dk_seg dksX0_runs_0 24 rfl rfl
theorem dksX0_runs_2 : cX0_runs.data.toList.drop 48 = dktX0_runs_2 := dk_seg dksX0_runs_1 24 rfl rfl
theorem dksX0_runs_3 : cX0_runs.data.toList.drop 72 = dktX0_runs_3 := dk_seg dksX0_runs_2 24 rfl rfl
theorem dX0_runs_0 : decode cX0_runs 0 = .ok (.iconst 1, 1) := dk_4 (dk_at dksX0_runs_0 0 rfl rfl)
theorem dX0_runs_1 : decode cX0_runs 1 = .ok (.aload_n 0, 1) := dk_42 (dk_at dksX0_runs_0 1 rfl rfl)
theorem dX0_runs_2 : decode cX0_runs 2 = .ok (.getfield 49, 3) := dk_180 0 49 (dk_at dksX0_runs_0 2 rfl rfl)
theorem dX0_runs_5 : decode cX0_runs 5 = .ok (.ishl, 1) := dk_120 (dk_at dksX0_runs_0 5 rfl rfl)
theorem dX0_runs_6 : decode cX0_runs 6 = .ok (.iconst 1, 1) := dk_4 (dk_at dksX0_runs_0 6 rfl rfl)
theorem dX0_runs_7 : decode cX0_runs 7 = .ok (.isub, 1) := dk_100 (dk_at dksX0_runs_0 7 rfl rfl)
theorem dX0_runs_8 : decode cX0_runs 8 = .ok (.istore_n 3, 1) := dk_62 (dk_at dksX0_runs_0 8 rfl rfl)
theorem dX0_runs_9 : decode cX0_runs 9 = .ok (.aload_n 0, 1) := dk_42 (dk_at dksX0_runs_0 9 rfl rfl)
theorem dX0_runs_10 : decode cX0_runs 10 = .ok (.invokevirtual 173, 3) := dk_182 0 173 (dk_at dksX0_runs_0 10 rfl rfl)
theorem dX0_runs_13 : decode cX0_runs 13 = .ok (.aload_n 0, 1) := dk_42 (dk_at dksX0_runs_0 13 rfl rfl)
theorem dX0_runs_14 : decode cX0_runs 14 = .ok (.getfield 119, 3) := dk_180 0 119 (dk_at dksX0_runs_0 14 rfl rfl)
theorem dX0_runs_17 : decode cX0_runs 17 = .ok (.iload_n 2, 1) := dk_28 (dk_at dksX0_runs_0 17 rfl rfl)
theorem dX0_runs_18 : decode cX0_runs 18 = .ok (.putfield 176, 3) := dk_181 0 176 (dk_at dksX0_runs_0 18 rfl rfl)
theorem dX0_runs_21 : decode cX0_runs 21 = .ok (.iconst 0, 1) := dk_3 (dk_at dksX0_runs_0 21 rfl rfl)
theorem dX0_runs_22 : decode cX0_runs 22 = .ok (.istore 4, 2) := dk_54 4 (dk_at dksX0_runs_0 22 rfl rfl)
theorem dX0_runs_24 : decode cX0_runs 24 = .ok (.iload 4, 2) := dk_21 4 (dk_at dksX0_runs_1 0 rfl rfl)
theorem dX0_runs_26 : decode cX0_runs 26 = .ok (.aload_n 0, 1) := dk_42 (dk_at dksX0_runs_1 2 rfl rfl)
theorem dX0_runs_27 : decode cX0_runs 27 = .ok (.getfield 49, 3) := dk_180 0 49 (dk_at dksX0_runs_1 3 rfl rfl)
theorem dX0_runs_30 : decode cX0_runs 30 = .ok (.if_icmp .ge 60, 3) := dk_162 0 60 (dk_at dksX0_runs_1 6 rfl rfl)
theorem dX0_runs_33 : decode cX0_runs 33 = .ok (.aload_n 0, 1) := dk_42 (dk_at dksX0_runs_1 9 rfl rfl)
theorem dX0_runs_34 : decode cX0_runs 34 = .ok (.aload_n 0, 1) := dk_42 (dk_at dksX0_runs_1 10 rfl rfl)
theorem dX0_runs_35 : decode cX0_runs 35 = .ok (.iload_n 3, 1) := dk_29 (dk_at dksX0_runs_1 11 rfl rfl)
theorem dX0_runs_36 : decode cX0_runs 36 = .ok (.invokevirtual 179, 3) := dk_182 0 179 (dk_at dksX0_runs_1 12 rfl rfl)
theorem dX0_runs_39 : decode cX0_runs 39 = .ok (.putfield 141, 3) := dk_181 0 141 (dk_at dksX0_runs_1 15 rfl rfl)
theorem dX0_runs_42 : decode cX0_runs 42 = .ok (.aload_n 0, 1) := dk_42 (dk_at dksX0_runs_1 18 rfl rfl)
theorem dX0_runs_43 : decode cX0_runs 43 = .ok (.getfield 182, 3) := dk_180 0 182 (dk_at dksX0_runs_1 19 rfl rfl)
theorem dX0_runs_46 : decode cX0_runs 46 = .ok (.iload 4, 2) := dk_21 4 (dk_at dksX0_runs_1 22 rfl rfl)
theorem dX0_runs_48 : decode cX0_runs 48 = .ok (.aload_n 0, 1) := dk_42 (dk_at dksX0_runs_2 0 rfl rfl)
theorem dX0_runs_49 : decode cX0_runs 49 = .ok (.iload_n 3, 1) := dk_29 (dk_at dksX0_runs_2 1 rfl rfl)
theorem dX0_runs_50 : decode cX0_runs 50 = .ok (.getstatic 185, 3) := dk_178 0 185 (dk_at dksX0_runs_2 2 rfl rfl)
theorem dX0_runs_53 : decode cX0_runs 53 = .ok (.iload_n 1, 1) := dk_27 (dk_at dksX0_runs_2 5 rfl rfl)
theorem dX0_runs_54 : decode cX0_runs 54 = .ok (.aaload, 1) := dk_50 (dk_at dksX0_runs_2 6 rfl rfl)
theorem dX0_runs_55 : decode cX0_runs 55 = .ok (.invokevirtual 189, 3) := dk_182 0 189 (dk_at dksX0_runs_2 7 rfl rfl)
theorem dX0_runs_58 : decode cX0_runs 58 = .ok (.iastore, 1) := dk_79 (dk_at dksX0_runs_2 10 rfl rfl)
theorem dX0_runs_59 : decode cX0_runs 59 = .ok (.iload_n 3, 1) := dk_29 (dk_at dksX0_runs_2 11 rfl rfl)
theorem dX0_runs_60 : decode cX0_runs 60 = .ok (.iconst 1, 1) := dk_4 (dk_at dksX0_runs_2 12 rfl rfl)
theorem dX0_runs_61 : decode cX0_runs 61 = .ok (.aload_n 0, 1) := dk_42 (dk_at dksX0_runs_2 13 rfl rfl)
theorem dX0_runs_62 : decode cX0_runs 62 = .ok (.getfield 182, 3) := dk_180 0 182 (dk_at dksX0_runs_2 14 rfl rfl)
theorem dX0_runs_65 : decode cX0_runs 65 = .ok (.iload 4, 2) := dk_21 4 (dk_at dksX0_runs_2 17 rfl rfl)
theorem dX0_runs_67 : decode cX0_runs 67 = .ok (.iaload, 1) := dk_46 (dk_at dksX0_runs_2 19 rfl rfl)
theorem dX0_runs_68 : decode cX0_runs 68 = .ok (.ishl, 1) := dk_120 (dk_at dksX0_runs_2 20 rfl rfl)
theorem dX0_runs_69 : decode cX0_runs 69 = .ok (.iconst (-1), 1) := dk_2 (dk_at dksX0_runs_2 21 rfl rfl)
theorem dX0_runs_70 : decode cX0_runs 70 = .ok (.ixor, 1) := dk_130 (dk_at dksX0_runs_2 22 rfl rfl)
theorem dX0_runs_71 : decode cX0_runs 71 = .ok (.iand, 1) := dk_126 (dk_at dksX0_runs_2 23 rfl rfl)
theorem dX0_runs_72 : decode cX0_runs 72 = .ok (.istore_n 3, 1) := dk_62 (dk_at dksX0_runs_3 0 rfl rfl)
theorem dX0_runs_73 : decode cX0_runs 73 = .ok (.aload_n 0, 1) := dk_42 (dk_at dksX0_runs_3 1 rfl rfl)
theorem dX0_runs_74 : decode cX0_runs 74 = .ok (.aload_n 0, 1) := dk_42 (dk_at dksX0_runs_3 2 rfl rfl)
theorem dX0_runs_75 : decode cX0_runs 75 = .ok (.getfield 182, 3) := dk_180 0 182 (dk_at dksX0_runs_3 3 rfl rfl)
theorem dX0_runs_78 : decode cX0_runs 78 = .ok (.iload 4, 2) := dk_21 4 (dk_at dksX0_runs_3 6 rfl rfl)
theorem dX0_runs_80 : decode cX0_runs 80 = .ok (.iaload, 1) := dk_46 (dk_at dksX0_runs_3 8 rfl rfl)
theorem dX0_runs_81 : decode cX0_runs 81 = .ok (.invokevirtual 193, 3) := dk_182 0 193 (dk_at dksX0_runs_3 9 rfl rfl)
theorem dX0_runs_84 : decode cX0_runs 84 = .ok (.iinc 4 1, 3) := dk_132 4 1 (dk_at dksX0_runs_3 12 rfl rfl)
theorem dX0_runs_87 : decode cX0_runs 87 = .ok (.goto (-63), 3) := dk_167 255 193 (dk_at dksX0_runs_3 15 rfl rfl)
theorem dX0_runs_90 : decode cX0_runs 90 = .ok (.return_, 1) := dk_177 (dk_at dksX0_runs_3 18 rfl rfl)
abbrev cX0_opens : ByteArray := prog_1_method_15_code
def yX0_opens : MethodName := ⟨RX0, "opens", "()V"⟩
def dkwX0_opens_2 : List UInt8 := [181, 0, 135, 42, 3, 181, 0, 138, 42, 3, 181, 0, 141, 177]
abbrev dktX0_opens_2 : List UInt8 := dkwX0_opens_2 ++ []
def dkwX0_opens_1 : List UInt8 := [181, 0, 126, 42, 180, 0, 119, 16, 252, 181, 0, 129, 42, 180, 0, 119, 3, 181, 0, 132, 42, 3]
abbrev dktX0_opens_1 : List UInt8 := dkwX0_opens_1 ++ dktX0_opens_2
def dkwX0_opens_0 : List UInt8 := [42, 180, 0, 119, 42, 180, 0, 33, 181, 0, 123, 42, 180, 0, 119, 42, 180, 0, 33, 180, 0, 79, 5, 46]
abbrev dktX0_opens_0 : List UInt8 := dkwX0_opens_0 ++ dktX0_opens_1
theorem dksX0_opens_0 : cX0_opens.data.toList.drop 0 = dktX0_opens_0 := by decide +kernel
theorem dksX0_opens_1 : cX0_opens.data.toList.drop 24 = dktX0_opens_1 := dk_seg dksX0_opens_0 24 rfl rfl
theorem dksX0_opens_2 : cX0_opens.data.toList.drop 46 = dktX0_opens_2 := dk_seg dksX0_opens_1 22 rfl rfl
theorem dX0_opens_0 : decode cX0_opens 0 = .ok (.aload_n 0, 1) := dk_42 (dk_at dksX0_opens_0 0 rfl rfl)
theorem dX0_opens_1 : decode cX0_opens 1 = .ok (.getfield 119, 3) := dk_180 0 119 (dk_at dksX0_opens_0 1 rfl rfl)
theorem dX0_opens_4 : decode cX0_opens 4 = .ok (.aload_n 0, 1) := dk_42 (dk_at dksX0_opens_0 4 rfl rfl)
theorem dX0_opens_5 : decode cX0_opens 5 = .ok (.getfield 33, 3) := dk_180 0 33 (dk_at dksX0_opens_0 5 rfl rfl)
theorem dX0_opens_8 : decode cX0_opens 8 = .ok (.putfield 123, 3) := dk_181 0 123 (dk_at dksX0_opens_0 8 rfl rfl)
theorem dX0_opens_11 : decode cX0_opens 11 = .ok (.aload_n 0, 1) := dk_42 (dk_at dksX0_opens_0 11 rfl rfl)
theorem dX0_opens_12 : decode cX0_opens 12 = .ok (.getfield 119, 3) := dk_180 0 119 (dk_at dksX0_opens_0 12 rfl rfl)
theorem dX0_opens_15 : decode cX0_opens 15 = .ok (.aload_n 0, 1) := dk_42 (dk_at dksX0_opens_0 15 rfl rfl)
theorem dX0_opens_16 : decode cX0_opens 16 = .ok (.getfield 33, 3) := dk_180 0 33 (dk_at dksX0_opens_0 16 rfl rfl)
theorem dX0_opens_19 : decode cX0_opens 19 = .ok (.getfield 79, 3) := dk_180 0 79 (dk_at dksX0_opens_0 19 rfl rfl)
theorem dX0_opens_22 : decode cX0_opens 22 = .ok (.iconst 2, 1) := dk_5 (dk_at dksX0_opens_0 22 rfl rfl)
theorem dX0_opens_23 : decode cX0_opens 23 = .ok (.iaload, 1) := dk_46 (dk_at dksX0_opens_0 23 rfl rfl)
theorem dX0_opens_24 : decode cX0_opens 24 = .ok (.putfield 126, 3) := dk_181 0 126 (dk_at dksX0_opens_1 0 rfl rfl)
theorem dX0_opens_27 : decode cX0_opens 27 = .ok (.aload_n 0, 1) := dk_42 (dk_at dksX0_opens_1 3 rfl rfl)
theorem dX0_opens_28 : decode cX0_opens 28 = .ok (.getfield 119, 3) := dk_180 0 119 (dk_at dksX0_opens_1 4 rfl rfl)
theorem dX0_opens_31 : decode cX0_opens 31 = .ok (.bipush (-4), 2) := dk_16 252 (dk_at dksX0_opens_1 7 rfl rfl)
theorem dX0_opens_33 : decode cX0_opens 33 = .ok (.putfield 129, 3) := dk_181 0 129 (dk_at dksX0_opens_1 9 rfl rfl)
theorem dX0_opens_36 : decode cX0_opens 36 = .ok (.aload_n 0, 1) := dk_42 (dk_at dksX0_opens_1 12 rfl rfl)
theorem dX0_opens_37 : decode cX0_opens 37 = .ok (.getfield 119, 3) := dk_180 0 119 (dk_at dksX0_opens_1 13 rfl rfl)
theorem dX0_opens_40 : decode cX0_opens 40 = .ok (.iconst 0, 1) := dk_3 (dk_at dksX0_opens_1 16 rfl rfl)
theorem dX0_opens_41 : decode cX0_opens 41 = .ok (.putfield 132, 3) := dk_181 0 132 (dk_at dksX0_opens_1 17 rfl rfl)
theorem dX0_opens_44 : decode cX0_opens 44 = .ok (.aload_n 0, 1) := dk_42 (dk_at dksX0_opens_1 20 rfl rfl)
theorem dX0_opens_45 : decode cX0_opens 45 = .ok (.iconst 0, 1) := dk_3 (dk_at dksX0_opens_1 21 rfl rfl)
theorem dX0_opens_46 : decode cX0_opens 46 = .ok (.putfield 135, 3) := dk_181 0 135 (dk_at dksX0_opens_2 0 rfl rfl)
theorem dX0_opens_49 : decode cX0_opens 49 = .ok (.aload_n 0, 1) := dk_42 (dk_at dksX0_opens_2 3 rfl rfl)
theorem dX0_opens_50 : decode cX0_opens 50 = .ok (.iconst 0, 1) := dk_3 (dk_at dksX0_opens_2 4 rfl rfl)
theorem dX0_opens_51 : decode cX0_opens 51 = .ok (.putfield 138, 3) := dk_181 0 138 (dk_at dksX0_opens_2 5 rfl rfl)
theorem dX0_opens_54 : decode cX0_opens 54 = .ok (.aload_n 0, 1) := dk_42 (dk_at dksX0_opens_2 8 rfl rfl)
theorem dX0_opens_55 : decode cX0_opens 55 = .ok (.iconst 0, 1) := dk_3 (dk_at dksX0_opens_2 9 rfl rfl)
theorem dX0_opens_56 : decode cX0_opens 56 = .ok (.putfield 141, 3) := dk_181 0 141 (dk_at dksX0_opens_2 10 rfl rfl)
theorem dX0_opens_59 : decode cX0_opens 59 = .ok (.return_, 1) := dk_177 (dk_at dksX0_opens_2 13 rfl rfl)
abbrev cX0_nextFree : ByteArray := prog_1_method_17_code
def yX0_nextFree : MethodName := ⟨RX0, "nextFree", "(I)I"⟩
def dkwX0_nextFree_2 : List UInt8 := [180, 0, 141, 28, 184, 0, 144, 172]
abbrev dktX0_nextFree_2 : List UInt8 := dkwX0_nextFree_2 ++ []
def dkwX0_nextFree_1 : List UInt8 := [180, 0, 33, 29, 182, 0, 97, 184, 0, 161, 167, 0, 4, 28, 61, 132, 3, 1, 167, 255, 220, 42]
abbrev dktX0_nextFree_1 : List UInt8 := dkwX0_nextFree_1 ++ dktX0_nextFree_2
def dkwX0_nextFree_0 : List UInt8 := [18, 156, 61, 3, 62, 29, 42, 180, 0, 49, 162, 0, 34, 27, 29, 184, 0, 157, 153, 0, 18, 28, 42]
abbrev dktX0_nextFree_0 : List UInt8 := dkwX0_nextFree_0 ++ dktX0_nextFree_1
theorem dksX0_nextFree_0 : cX0_nextFree.data.toList.drop 0 = dktX0_nextFree_0 := by decide +kernel
theorem dksX0_nextFree_1 : cX0_nextFree.data.toList.drop 23 = dktX0_nextFree_1 := dk_seg dksX0_nextFree_0 23 rfl rfl
theorem dksX0_nextFree_2 : cX0_nextFree.data.toList.drop 45 = dktX0_nextFree_2 := dk_seg dksX0_nextFree_1 22 rfl rfl
theorem dX0_nextFree_0 : decode cX0_nextFree 0 = .ok (.ldc 156, 2) := dk_18 156 (dk_at dksX0_nextFree_0 0 rfl rfl)
theorem dX0_nextFree_2 : decode cX0_nextFree 2 = .ok (.istore_n 2, 1) := dk_61 (dk_at dksX0_nextFree_0 2 rfl rfl)
theorem dX0_nextFree_3 : decode cX0_nextFree 3 = .ok (.iconst 0, 1) := dk_3 (dk_at dksX0_nextFree_0 3 rfl rfl)
theorem dX0_nextFree_4 : decode cX0_nextFree 4 = .ok (.istore_n 3, 1) := dk_62 (dk_at dksX0_nextFree_0 4 rfl rfl)
theorem dX0_nextFree_5 : decode cX0_nextFree 5 = .ok (.iload_n 3, 1) := dk_29 (dk_at dksX0_nextFree_0 5 rfl rfl)
theorem dX0_nextFree_6 : decode cX0_nextFree 6 = .ok (.aload_n 0, 1) := dk_42 (dk_at dksX0_nextFree_0 6 rfl rfl)
theorem dX0_nextFree_7 : decode cX0_nextFree 7 = .ok (.getfield 49, 3) := dk_180 0 49 (dk_at dksX0_nextFree_0 7 rfl rfl)
theorem dX0_nextFree_10 : decode cX0_nextFree 10 = .ok (.if_icmp .ge 34, 3) := dk_162 0 34 (dk_at dksX0_nextFree_0 10 rfl rfl)
theorem dX0_nextFree_13 : decode cX0_nextFree 13 = .ok (.iload_n 1, 1) := dk_27 (dk_at dksX0_nextFree_0 13 rfl rfl)
theorem dX0_nextFree_14 : decode cX0_nextFree 14 = .ok (.iload_n 3, 1) := dk_29 (dk_at dksX0_nextFree_0 14 rfl rfl)
theorem dX0_nextFree_15 : decode cX0_nextFree 15 = .ok (.invokestatic 157, 3) := dk_184 0 157 (dk_at dksX0_nextFree_0 15 rfl rfl)
theorem dX0_nextFree_18 : decode cX0_nextFree 18 = .ok (.ifCond .eq 18, 3) := dk_153 0 18 (dk_at dksX0_nextFree_0 18 rfl rfl)
theorem dX0_nextFree_21 : decode cX0_nextFree 21 = .ok (.iload_n 2, 1) := dk_28 (dk_at dksX0_nextFree_0 21 rfl rfl)
theorem dX0_nextFree_22 : decode cX0_nextFree 22 = .ok (.aload_n 0, 1) := dk_42 (dk_at dksX0_nextFree_0 22 rfl rfl)
theorem dX0_nextFree_23 : decode cX0_nextFree 23 = .ok (.getfield 33, 3) := dk_180 0 33 (dk_at dksX0_nextFree_1 0 rfl rfl)
theorem dX0_nextFree_26 : decode cX0_nextFree 26 = .ok (.iload_n 3, 1) := dk_29 (dk_at dksX0_nextFree_1 3 rfl rfl)
theorem dX0_nextFree_27 : decode cX0_nextFree 27 = .ok (.invokevirtual 97, 3) := dk_182 0 97 (dk_at dksX0_nextFree_1 4 rfl rfl)
theorem dX0_nextFree_30 : decode cX0_nextFree 30 = .ok (.invokestatic 161, 3) := dk_184 0 161 (dk_at dksX0_nextFree_1 7 rfl rfl)
theorem dX0_nextFree_33 : decode cX0_nextFree 33 = .ok (.goto 4, 3) := dk_167 0 4 (dk_at dksX0_nextFree_1 10 rfl rfl)
theorem dX0_nextFree_36 : decode cX0_nextFree 36 = .ok (.iload_n 2, 1) := dk_28 (dk_at dksX0_nextFree_1 13 rfl rfl)
theorem dX0_nextFree_37 : decode cX0_nextFree 37 = .ok (.istore_n 2, 1) := dk_61 (dk_at dksX0_nextFree_1 14 rfl rfl)
theorem dX0_nextFree_38 : decode cX0_nextFree 38 = .ok (.iinc 3 1, 3) := dk_132 3 1 (dk_at dksX0_nextFree_1 15 rfl rfl)
theorem dX0_nextFree_41 : decode cX0_nextFree 41 = .ok (.goto (-36), 3) := dk_167 255 220 (dk_at dksX0_nextFree_1 18 rfl rfl)
theorem dX0_nextFree_44 : decode cX0_nextFree 44 = .ok (.aload_n 0, 1) := dk_42 (dk_at dksX0_nextFree_1 21 rfl rfl)
theorem dX0_nextFree_45 : decode cX0_nextFree 45 = .ok (.getfield 141, 3) := dk_180 0 141 (dk_at dksX0_nextFree_2 0 rfl rfl)
theorem dX0_nextFree_48 : decode cX0_nextFree 48 = .ok (.iload_n 2, 1) := dk_28 (dk_at dksX0_nextFree_2 3 rfl rfl)
theorem dX0_nextFree_49 : decode cX0_nextFree 49 = .ok (.invokestatic 144, 3) := dk_184 0 144 (dk_at dksX0_nextFree_2 4 rfl rfl)
theorem dX0_nextFree_52 : decode cX0_nextFree 52 = .ok (.ireturn, 1) := dk_172 (dk_at dksX0_nextFree_2 7 rfl rfl)
abbrev cX0_taken : ByteArray := prog_1_method_18_code
def yX0_taken : MethodName := ⟨RX0, "taken", "(ILLockTurns$AtGate;)I"⟩
def dkwX0_taken_8 : List UInt8 := [21, 5, 54, 5, 21, 5, 156, 0, 8, 21, 4, 167, 0, 4, 29, 62, 132, 4, 1, 167, 255, 145, 29, 172]
abbrev dktX0_taken_8 : List UInt8 := dkwX0_taken_8 ++ []
def dkwX0_taken_7 : List UInt8 := [154, 0, 24, 42, 180, 0, 33, 21, 4, 182, 0, 97, 42, 180, 0, 33, 29, 182, 0, 97, 100, 167, 0, 5]
abbrev dktX0_taken_7 : List UInt8 := dkwX0_taken_7 ++ dktX0_taken_8
def dkwX0_taken_6 : List UInt8 := [180, 0, 119, 21, 4, 182, 0, 167, 44, 42, 180, 0, 119, 29, 182, 0, 167, 100, 54, 5, 21, 5]
abbrev dktX0_taken_6 : List UInt8 := dkwX0_taken_6 ++ dktX0_taken_7
def dkwX0_taken_5 : List UInt8 := [21, 4, 182, 0, 97, 42, 180, 0, 141, 163, 0, 77, 29, 16, 252, 160, 0, 7, 2, 167, 0, 23, 44, 42]
abbrev dktX0_taken_5 : List UInt8 := dkwX0_taken_5 ++ dktX0_taken_6
def dkwX0_taken_4 : List UInt8 := [54, 4, 21, 4, 42, 180, 0, 49, 162, 0, 108, 27, 21, 4, 184, 0, 157, 153, 0, 93, 42, 180, 0, 33]
abbrev dktX0_taken_4 : List UInt8 := dkwX0_taken_4 ++ dktX0_taken_5
def dkwX0_taken_3 : List UInt8 := [182, 0, 97, 42, 180, 0, 141, 163, 0, 7, 4, 167, 0, 4, 3, 96, 79, 132, 4, 1, 167, 255, 193, 3]
abbrev dktX0_taken_3 : List UInt8 := dkwX0_taken_3 ++ dktX0_taken_4
def dkwX0_taken_2 : List UInt8 := [180, 0, 90, 21, 4, 46, 92, 46, 27, 21, 4, 184, 0, 157, 153, 0, 23, 42, 180, 0, 33, 21, 4]
abbrev dktX0_taken_2 : List UInt8 := dkwX0_taken_2 ++ dktX0_taken_3
def dkwX0_taken_1 : List UInt8 := [54, 4, 21, 4, 42, 180, 0, 49, 162, 0, 60, 42, 180, 0, 119, 180, 0, 164, 42, 180, 0, 33]
abbrev dktX0_taken_1 : List UInt8 := dkwX0_taken_1 ++ dktX0_taken_2
def dkwX0_taken_0 : List UInt8 := [16, 252, 62, 42, 180, 0, 119, 180, 0, 164, 3, 3, 79, 42, 180, 0, 119, 180, 0, 164, 4, 3, 79, 3]
abbrev dktX0_taken_0 : List UInt8 := dkwX0_taken_0 ++ dktX0_taken_1
theorem dksX0_taken_0 : cX0_taken.data.toList.drop 0 = dktX0_taken_0 := by decide +kernel
theorem dksX0_taken_1 : cX0_taken.data.toList.drop 24 = dktX0_taken_1 := dk_seg dksX0_taken_0 24 rfl rfl
theorem dksX0_taken_2 : cX0_taken.data.toList.drop 46 = dktX0_taken_2 := dk_seg dksX0_taken_1 22 rfl rfl
theorem dksX0_taken_3 : cX0_taken.data.toList.drop 69 = dktX0_taken_3 := dk_seg dksX0_taken_2 23 rfl rfl
theorem dksX0_taken_4 : cX0_taken.data.toList.drop 93 = dktX0_taken_4 := dk_seg dksX0_taken_3 24 rfl rfl
theorem dksX0_taken_5 : cX0_taken.data.toList.drop 117 = dktX0_taken_5 := dk_seg dksX0_taken_4 24 rfl rfl
theorem dksX0_taken_6 : cX0_taken.data.toList.drop 141 = dktX0_taken_6 := dk_seg dksX0_taken_5 24 rfl rfl
theorem dksX0_taken_7 : cX0_taken.data.toList.drop 163 = dktX0_taken_7 := dk_seg dksX0_taken_6 22 rfl rfl
theorem dksX0_taken_8 : cX0_taken.data.toList.drop 187 = dktX0_taken_8 := dk_seg dksX0_taken_7 24 rfl rfl
theorem dX0_taken_0 : decode cX0_taken 0 = .ok (.bipush (-4), 2) := dk_16 252 (dk_at dksX0_taken_0 0 rfl rfl)
theorem dX0_taken_2 : decode cX0_taken 2 = .ok (.istore_n 3, 1) := dk_62 (dk_at dksX0_taken_0 2 rfl rfl)
theorem dX0_taken_3 : decode cX0_taken 3 = .ok (.aload_n 0, 1) := dk_42 (dk_at dksX0_taken_0 3 rfl rfl)
theorem dX0_taken_4 : decode cX0_taken 4 = .ok (.getfield 119, 3) := dk_180 0 119 (dk_at dksX0_taken_0 4 rfl rfl)
theorem dX0_taken_7 : decode cX0_taken 7 = .ok (.getfield 164, 3) := dk_180 0 164 (dk_at dksX0_taken_0 7 rfl rfl)
theorem dX0_taken_10 : decode cX0_taken 10 = .ok (.iconst 0, 1) := dk_3 (dk_at dksX0_taken_0 10 rfl rfl)
theorem dX0_taken_11 : decode cX0_taken 11 = .ok (.iconst 0, 1) := dk_3 (dk_at dksX0_taken_0 11 rfl rfl)
theorem dX0_taken_12 : decode cX0_taken 12 = .ok (.iastore, 1) := dk_79 (dk_at dksX0_taken_0 12 rfl rfl)
theorem dX0_taken_13 : decode cX0_taken 13 = .ok (.aload_n 0, 1) := dk_42 (dk_at dksX0_taken_0 13 rfl rfl)
theorem dX0_taken_14 : decode cX0_taken 14 = .ok (.getfield 119, 3) := dk_180 0 119 (dk_at dksX0_taken_0 14 rfl rfl)
theorem dX0_taken_17 : decode cX0_taken 17 = .ok (.getfield 164, 3) := dk_180 0 164 (dk_at dksX0_taken_0 17 rfl rfl)
theorem dX0_taken_20 : decode cX0_taken 20 = .ok (.iconst 1, 1) := dk_4 (dk_at dksX0_taken_0 20 rfl rfl)
theorem dX0_taken_21 : decode cX0_taken 21 = .ok (.iconst 0, 1) := dk_3 (dk_at dksX0_taken_0 21 rfl rfl)
theorem dX0_taken_22 : decode cX0_taken 22 = .ok (.iastore, 1) := dk_79 (dk_at dksX0_taken_0 22 rfl rfl)
theorem dX0_taken_23 : decode cX0_taken 23 = .ok (.iconst 0, 1) := dk_3 (dk_at dksX0_taken_0 23 rfl rfl)
theorem dX0_taken_24 : decode cX0_taken 24 = .ok (.istore 4, 2) := dk_54 4 (dk_at dksX0_taken_1 0 rfl rfl)
theorem dX0_taken_26 : decode cX0_taken 26 = .ok (.iload 4, 2) := dk_21 4 (dk_at dksX0_taken_1 2 rfl rfl)
theorem dX0_taken_28 : decode cX0_taken 28 = .ok (.aload_n 0, 1) := dk_42 (dk_at dksX0_taken_1 4 rfl rfl)
theorem dX0_taken_29 : decode cX0_taken 29 = .ok (.getfield 49, 3) := dk_180 0 49 (dk_at dksX0_taken_1 5 rfl rfl)
theorem dX0_taken_32 : decode cX0_taken 32 = .ok (.if_icmp .ge 60, 3) := dk_162 0 60 (dk_at dksX0_taken_1 8 rfl rfl)
theorem dX0_taken_35 : decode cX0_taken 35 = .ok (.aload_n 0, 1) := dk_42 (dk_at dksX0_taken_1 11 rfl rfl)
theorem dX0_taken_36 : decode cX0_taken 36 = .ok (.getfield 119, 3) := dk_180 0 119 (dk_at dksX0_taken_1 12 rfl rfl)
theorem dX0_taken_39 : decode cX0_taken 39 = .ok (.getfield 164, 3) := dk_180 0 164 (dk_at dksX0_taken_1 15 rfl rfl)
theorem dX0_taken_42 : decode cX0_taken 42 = .ok (.aload_n 0, 1) := dk_42 (dk_at dksX0_taken_1 18 rfl rfl)
theorem dX0_taken_43 : decode cX0_taken 43 = .ok (.getfield 33, 3) := dk_180 0 33 (dk_at dksX0_taken_1 19 rfl rfl)
theorem dX0_taken_46 : decode cX0_taken 46 = .ok (.getfield 90, 3) := dk_180 0 90 (dk_at dksX0_taken_2 0 rfl rfl)
theorem dX0_taken_49 : decode cX0_taken 49 = .ok (.iload 4, 2) := dk_21 4 (dk_at dksX0_taken_2 3 rfl rfl)
theorem dX0_taken_51 : decode cX0_taken 51 = .ok (.iaload, 1) := dk_46 (dk_at dksX0_taken_2 5 rfl rfl)
theorem dX0_taken_52 : decode cX0_taken 52 = .ok (.dup2, 1) := dk_92 (dk_at dksX0_taken_2 6 rfl rfl)
theorem dX0_taken_53 : decode cX0_taken 53 = .ok (.iaload, 1) := dk_46 (dk_at dksX0_taken_2 7 rfl rfl)
theorem dX0_taken_54 : decode cX0_taken 54 = .ok (.iload_n 1, 1) := dk_27 (dk_at dksX0_taken_2 8 rfl rfl)
theorem dX0_taken_55 : decode cX0_taken 55 = .ok (.iload 4, 2) := dk_21 4 (dk_at dksX0_taken_2 9 rfl rfl)
theorem dX0_taken_57 : decode cX0_taken 57 = .ok (.invokestatic 157, 3) := dk_184 0 157 (dk_at dksX0_taken_2 11 rfl rfl)
theorem dX0_taken_60 : decode cX0_taken 60 = .ok (.ifCond .eq 23, 3) := dk_153 0 23 (dk_at dksX0_taken_2 14 rfl rfl)
theorem dX0_taken_63 : decode cX0_taken 63 = .ok (.aload_n 0, 1) := dk_42 (dk_at dksX0_taken_2 17 rfl rfl)
theorem dX0_taken_64 : decode cX0_taken 64 = .ok (.getfield 33, 3) := dk_180 0 33 (dk_at dksX0_taken_2 18 rfl rfl)
theorem dX0_taken_67 : decode cX0_taken 67 = .ok (.iload 4, 2) := dk_21 4 (dk_at dksX0_taken_2 21 rfl rfl)
theorem dX0_taken_69 : decode cX0_taken 69 = .ok (.invokevirtual 97, 3) := dk_182 0 97 (dk_at dksX0_taken_3 0 rfl rfl)
theorem dX0_taken_72 : decode cX0_taken 72 = .ok (.aload_n 0, 1) := dk_42 (dk_at dksX0_taken_3 3 rfl rfl)
theorem dX0_taken_73 : decode cX0_taken 73 = .ok (.getfield 141, 3) := dk_180 0 141 (dk_at dksX0_taken_3 4 rfl rfl)
theorem dX0_taken_76 : decode cX0_taken 76 = .ok (.if_icmp .gt 7, 3) := dk_163 0 7 (dk_at dksX0_taken_3 7 rfl rfl)
theorem dX0_taken_79 : decode cX0_taken 79 = .ok (.iconst 1, 1) := dk_4 (dk_at dksX0_taken_3 10 rfl rfl)
theorem dX0_taken_80 : decode cX0_taken 80 = .ok (.goto 4, 3) := dk_167 0 4 (dk_at dksX0_taken_3 11 rfl rfl)
theorem dX0_taken_83 : decode cX0_taken 83 = .ok (.iconst 0, 1) := dk_3 (dk_at dksX0_taken_3 14 rfl rfl)
theorem dX0_taken_84 : decode cX0_taken 84 = .ok (.iadd, 1) := dk_96 (dk_at dksX0_taken_3 15 rfl rfl)
theorem dX0_taken_85 : decode cX0_taken 85 = .ok (.iastore, 1) := dk_79 (dk_at dksX0_taken_3 16 rfl rfl)
theorem dX0_taken_86 : decode cX0_taken 86 = .ok (.iinc 4 1, 3) := dk_132 4 1 (dk_at dksX0_taken_3 17 rfl rfl)
theorem dX0_taken_89 : decode cX0_taken 89 = .ok (.goto (-63), 3) := dk_167 255 193 (dk_at dksX0_taken_3 20 rfl rfl)
theorem dX0_taken_92 : decode cX0_taken 92 = .ok (.iconst 0, 1) := dk_3 (dk_at dksX0_taken_3 23 rfl rfl)
theorem dX0_taken_93 : decode cX0_taken 93 = .ok (.istore 4, 2) := dk_54 4 (dk_at dksX0_taken_4 0 rfl rfl)
theorem dX0_taken_95 : decode cX0_taken 95 = .ok (.iload 4, 2) := dk_21 4 (dk_at dksX0_taken_4 2 rfl rfl)
theorem dX0_taken_97 : decode cX0_taken 97 = .ok (.aload_n 0, 1) := dk_42 (dk_at dksX0_taken_4 4 rfl rfl)
theorem dX0_taken_98 : decode cX0_taken 98 = .ok (.getfield 49, 3) := dk_180 0 49 (dk_at dksX0_taken_4 5 rfl rfl)
theorem dX0_taken_101 : decode cX0_taken 101 = .ok (.if_icmp .ge 108, 3) := dk_162 0 108 (dk_at dksX0_taken_4 8 rfl rfl)
theorem dX0_taken_104 : decode cX0_taken 104 = .ok (.iload_n 1, 1) := dk_27 (dk_at dksX0_taken_4 11 rfl rfl)
theorem dX0_taken_105 : decode cX0_taken 105 = .ok (.iload 4, 2) := dk_21 4 (dk_at dksX0_taken_4 12 rfl rfl)
theorem dX0_taken_107 : decode cX0_taken 107 = .ok (.invokestatic 157, 3) := dk_184 0 157 (dk_at dksX0_taken_4 14 rfl rfl)
theorem dX0_taken_110 : decode cX0_taken 110 = .ok (.ifCond .eq 93, 3) := dk_153 0 93 (dk_at dksX0_taken_4 17 rfl rfl)
theorem dX0_taken_113 : decode cX0_taken 113 = .ok (.aload_n 0, 1) := dk_42 (dk_at dksX0_taken_4 20 rfl rfl)
theorem dX0_taken_114 : decode cX0_taken 114 = .ok (.getfield 33, 3) := dk_180 0 33 (dk_at dksX0_taken_4 21 rfl rfl)
theorem dX0_taken_117 : decode cX0_taken 117 = .ok (.iload 4, 2) := dk_21 4 (dk_at dksX0_taken_5 0 rfl rfl)
theorem dX0_taken_119 : decode cX0_taken 119 = .ok (.invokevirtual 97, 3) := dk_182 0 97 (dk_at dksX0_taken_5 2 rfl rfl)
theorem dX0_taken_122 : decode cX0_taken 122 = .ok (.aload_n 0, 1) := dk_42 (dk_at dksX0_taken_5 5 rfl rfl)
theorem dX0_taken_123 : decode cX0_taken 123 = .ok (.getfield 141, 3) := dk_180 0 141 (dk_at dksX0_taken_5 6 rfl rfl)
theorem dX0_taken_126 : decode cX0_taken 126 = .ok (.if_icmp .gt 77, 3) := dk_163 0 77 (dk_at dksX0_taken_5 9 rfl rfl)
theorem dX0_taken_129 : decode cX0_taken 129 = .ok (.iload_n 3, 1) := dk_29 (dk_at dksX0_taken_5 12 rfl rfl)
theorem dX0_taken_130 : decode cX0_taken 130 = .ok (.bipush (-4), 2) := dk_16 252 (dk_at dksX0_taken_5 13 rfl rfl)
theorem dX0_taken_132 : decode cX0_taken 132 = .ok (.if_icmp .ne 7, 3) := dk_160 0 7 (dk_at dksX0_taken_5 15 rfl rfl)
theorem dX0_taken_135 : decode cX0_taken 135 = .ok (.iconst (-1), 1) := dk_2 (dk_at dksX0_taken_5 18 rfl rfl)
theorem dX0_taken_136 : decode cX0_taken 136 = .ok (.goto 23, 3) := dk_167 0 23 (dk_at dksX0_taken_5 19 rfl rfl)
theorem dX0_taken_139 : decode cX0_taken 139 = .ok (.aload_n 2, 1) := dk_44 (dk_at dksX0_taken_5 22 rfl rfl)
theorem dX0_taken_140 : decode cX0_taken 140 = .ok (.aload_n 0, 1) := dk_42 (dk_at dksX0_taken_5 23 rfl rfl)
theorem dX0_taken_141 : decode cX0_taken 141 = .ok (.getfield 119, 3) := dk_180 0 119 (dk_at dksX0_taken_6 0 rfl rfl)
theorem dX0_taken_144 : decode cX0_taken 144 = .ok (.iload 4, 2) := dk_21 4 (dk_at dksX0_taken_6 3 rfl rfl)
theorem dX0_taken_146 : decode cX0_taken 146 = .ok (.invokevirtual 167, 3) := dk_182 0 167 (dk_at dksX0_taken_6 5 rfl rfl)
theorem dX0_taken_149 : decode cX0_taken 149 = .ok (.aload_n 2, 1) := dk_44 (dk_at dksX0_taken_6 8 rfl rfl)
theorem dX0_taken_150 : decode cX0_taken 150 = .ok (.aload_n 0, 1) := dk_42 (dk_at dksX0_taken_6 9 rfl rfl)
theorem dX0_taken_151 : decode cX0_taken 151 = .ok (.getfield 119, 3) := dk_180 0 119 (dk_at dksX0_taken_6 10 rfl rfl)
theorem dX0_taken_154 : decode cX0_taken 154 = .ok (.iload_n 3, 1) := dk_29 (dk_at dksX0_taken_6 13 rfl rfl)
theorem dX0_taken_155 : decode cX0_taken 155 = .ok (.invokevirtual 167, 3) := dk_182 0 167 (dk_at dksX0_taken_6 14 rfl rfl)
theorem dX0_taken_158 : decode cX0_taken 158 = .ok (.isub, 1) := dk_100 (dk_at dksX0_taken_6 17 rfl rfl)
theorem dX0_taken_159 : decode cX0_taken 159 = .ok (.istore 5, 2) := dk_54 5 (dk_at dksX0_taken_6 18 rfl rfl)
theorem dX0_taken_161 : decode cX0_taken 161 = .ok (.iload 5, 2) := dk_21 5 (dk_at dksX0_taken_6 20 rfl rfl)
theorem dX0_taken_163 : decode cX0_taken 163 = .ok (.ifCond .ne 24, 3) := dk_154 0 24 (dk_at dksX0_taken_7 0 rfl rfl)
theorem dX0_taken_166 : decode cX0_taken 166 = .ok (.aload_n 0, 1) := dk_42 (dk_at dksX0_taken_7 3 rfl rfl)
theorem dX0_taken_167 : decode cX0_taken 167 = .ok (.getfield 33, 3) := dk_180 0 33 (dk_at dksX0_taken_7 4 rfl rfl)
theorem dX0_taken_170 : decode cX0_taken 170 = .ok (.iload 4, 2) := dk_21 4 (dk_at dksX0_taken_7 7 rfl rfl)
theorem dX0_taken_172 : decode cX0_taken 172 = .ok (.invokevirtual 97, 3) := dk_182 0 97 (dk_at dksX0_taken_7 9 rfl rfl)
theorem dX0_taken_175 : decode cX0_taken 175 = .ok (.aload_n 0, 1) := dk_42 (dk_at dksX0_taken_7 12 rfl rfl)
theorem dX0_taken_176 : decode cX0_taken 176 = .ok (.getfield 33, 3) := dk_180 0 33 (dk_at dksX0_taken_7 13 rfl rfl)
theorem dX0_taken_179 : decode cX0_taken 179 = .ok (.iload_n 3, 1) := dk_29 (dk_at dksX0_taken_7 16 rfl rfl)
theorem dX0_taken_180 : decode cX0_taken 180 = .ok (.invokevirtual 97, 3) := dk_182 0 97 (dk_at dksX0_taken_7 17 rfl rfl)
theorem dX0_taken_183 : decode cX0_taken 183 = .ok (.isub, 1) := dk_100 (dk_at dksX0_taken_7 20 rfl rfl)
theorem dX0_taken_184 : decode cX0_taken 184 = .ok (.goto 5, 3) := dk_167 0 5 (dk_at dksX0_taken_7 21 rfl rfl)
theorem dX0_taken_187 : decode cX0_taken 187 = .ok (.iload 5, 2) := dk_21 5 (dk_at dksX0_taken_8 0 rfl rfl)
theorem dX0_taken_189 : decode cX0_taken 189 = .ok (.istore 5, 2) := dk_54 5 (dk_at dksX0_taken_8 2 rfl rfl)
theorem dX0_taken_191 : decode cX0_taken 191 = .ok (.iload 5, 2) := dk_21 5 (dk_at dksX0_taken_8 4 rfl rfl)
theorem dX0_taken_193 : decode cX0_taken 193 = .ok (.ifCond .ge 8, 3) := dk_156 0 8 (dk_at dksX0_taken_8 6 rfl rfl)
theorem dX0_taken_196 : decode cX0_taken 196 = .ok (.iload 4, 2) := dk_21 4 (dk_at dksX0_taken_8 9 rfl rfl)
theorem dX0_taken_198 : decode cX0_taken 198 = .ok (.goto 4, 3) := dk_167 0 4 (dk_at dksX0_taken_8 11 rfl rfl)
theorem dX0_taken_201 : decode cX0_taken 201 = .ok (.iload_n 3, 1) := dk_29 (dk_at dksX0_taken_8 14 rfl rfl)
theorem dX0_taken_202 : decode cX0_taken 202 = .ok (.istore_n 3, 1) := dk_62 (dk_at dksX0_taken_8 15 rfl rfl)
theorem dX0_taken_203 : decode cX0_taken 203 = .ok (.iinc 4 1, 3) := dk_132 4 1 (dk_at dksX0_taken_8 16 rfl rfl)
theorem dX0_taken_206 : decode cX0_taken 206 = .ok (.goto (-111), 3) := dk_167 255 145 (dk_at dksX0_taken_8 19 rfl rfl)
theorem dX0_taken_209 : decode cX0_taken 209 = .ok (.iload_n 3, 1) := dk_29 (dk_at dksX0_taken_8 22 rfl rfl)
theorem dX0_taken_210 : decode cX0_taken 210 = .ok (.ireturn, 1) := dk_172 (dk_at dksX0_taken_8 23 rfl rfl)
abbrev cX0_goesThrough : ByteArray := prog_1_method_16_code
def yX0_goesThrough : MethodName := ⟨RX0, "goesThrough", "(I)V"⟩
def dkwX0_goesThrough_9 : List UInt8 := [180, 0, 141, 79, 177]
abbrev dktX0_goesThrough_9 : List UInt8 := dkwX0_goesThrough_9 ++ []
def dkwX0_goesThrough_8 : List UInt8 := [100, 79, 42, 21, 4, 42, 180, 0, 33, 180, 0, 79, 3, 46, 96, 181, 0, 141, 42, 180, 0, 153, 27, 42]
abbrev dktX0_goesThrough_8 : List UInt8 := dkwX0_goesThrough_8 ++ dktX0_goesThrough_9
def dkwX0_goesThrough_7 : List UInt8 := [4, 28, 100, 181, 0, 126, 42, 180, 0, 150, 27, 21, 4, 42, 180, 0, 33, 180, 0, 93, 27, 50, 4, 46]
abbrev dktX0_goesThrough_7 : List UInt8 := dkwX0_goesThrough_7 ++ dktX0_goesThrough_8
def dkwX0_goesThrough_6 : List UInt8 := [180, 0, 132, 4, 96, 167, 0, 4, 4, 181, 0, 132, 42, 180, 0, 119, 28, 181, 0, 129, 42, 180, 0, 119]
abbrev dktX0_goesThrough_6 : List UInt8 := dkwX0_goesThrough_6 ++ dktX0_goesThrough_7
def dkwX0_goesThrough_5 : List UInt8 := [181, 0, 135, 42, 180, 0, 119, 28, 42, 180, 0, 119, 180, 0, 129, 160, 0, 15, 42, 180, 0, 119]
abbrev dktX0_goesThrough_5 : List UInt8 := dkwX0_goesThrough_5 ++ dktX0_goesThrough_6
def dkwX0_goesThrough_4 : List UInt8 := [153, 0, 12, 28, 4, 160, 0, 7, 4, 167, 0, 4, 3, 28, 154, 0, 7, 4, 167, 0, 4, 3, 96, 96]
abbrev dktX0_goesThrough_4 : List UInt8 := dkwX0_goesThrough_4 ++ dktX0_goesThrough_5
def dkwX0_goesThrough_3 : List UInt8 := [180, 0, 138, 29, 153, 0, 7, 4, 167, 0, 4, 3, 96, 181, 0, 138, 42, 89, 180, 0, 135, 29]
abbrev dktX0_goesThrough_3 : List UInt8 := dkwX0_goesThrough_3 ++ dktX0_goesThrough_4
def dkwX0_goesThrough_2 : List UInt8 := [167, 0, 4, 3, 96, 42, 180, 0, 33, 180, 0, 93, 27, 50, 4, 46, 184, 0, 144, 54, 4, 42, 89]
abbrev dktX0_goesThrough_2 : List UInt8 := dkwX0_goesThrough_2 ++ dktX0_goesThrough_3
def dkwX0_goesThrough_1 : List UInt8 := [167, 0, 4, 3, 62, 42, 180, 0, 141, 29, 153, 0, 15, 42, 180, 0, 33, 180, 0, 79, 4, 46]
abbrev dktX0_goesThrough_1 : List UInt8 := dkwX0_goesThrough_1 ++ dktX0_goesThrough_2
def dkwX0_goesThrough_0 : List UInt8 := [42, 180, 0, 33, 180, 0, 90, 27, 46, 61, 42, 180, 0, 119, 180, 0, 126, 28, 159, 0, 7, 4]
abbrev dktX0_goesThrough_0 : List UInt8 := dkwX0_goesThrough_0 ++ dktX0_goesThrough_1
theorem dksX0_goesThrough_0 : cX0_goesThrough.data.toList.drop 0 = dktX0_goesThrough_0 := by decide +kernel
theorem dksX0_goesThrough_1 : cX0_goesThrough.data.toList.drop 22 = dktX0_goesThrough_1 := dk_seg dksX0_goesThrough_0 22 rfl rfl
theorem dksX0_goesThrough_2 : cX0_goesThrough.data.toList.drop 44 = dktX0_goesThrough_2 := dk_seg dksX0_goesThrough_1 22 rfl rfl
theorem dksX0_goesThrough_3 : cX0_goesThrough.data.toList.drop 67 = dktX0_goesThrough_3 := dk_seg dksX0_goesThrough_2 23 rfl rfl
theorem dksX0_goesThrough_4 : cX0_goesThrough.data.toList.drop 89 = dktX0_goesThrough_4 := dk_seg dksX0_goesThrough_3 22 rfl rfl
theorem dksX0_goesThrough_5 : cX0_goesThrough.data.toList.drop 113 = dktX0_goesThrough_5 := dk_seg dksX0_goesThrough_4 24 rfl rfl
theorem dksX0_goesThrough_6 : cX0_goesThrough.data.toList.drop 135 = dktX0_goesThrough_6 := dk_seg dksX0_goesThrough_5 22 rfl rfl
theorem dksX0_goesThrough_7 : cX0_goesThrough.data.toList.drop 159 = dktX0_goesThrough_7 := dk_seg dksX0_goesThrough_6 24 rfl rfl
theorem dksX0_goesThrough_8 : cX0_goesThrough.data.toList.drop 183 = dktX0_goesThrough_8 := dk_seg dksX0_goesThrough_7 24 rfl rfl
theorem dksX0_goesThrough_9 : cX0_goesThrough.data.toList.drop 207 = dktX0_goesThrough_9 := dk_seg dksX0_goesThrough_8 24 rfl rfl
theorem dX0_goesThrough_0 : decode cX0_goesThrough 0 = .ok (.aload_n 0, 1) := dk_42 (dk_at dksX0_goesThrough_0 0 rfl rfl)
theorem dX0_goesThrough_1 : decode cX0_goesThrough 1 = .ok (.getfield 33, 3) := dk_180 0 33 (dk_at dksX0_goesThrough_0 1 rfl rfl)
theorem dX0_goesThrough_4 : decode cX0_goesThrough 4 = .ok (.getfield 90, 3) := dk_180 0 90 (dk_at dksX0_goesThrough_0 4 rfl rfl)
theorem dX0_goesThrough_7 : decode cX0_goesThrough 7 = .ok (.iload_n 1, 1) := dk_27 (dk_at dksX0_goesThrough_0 7 rfl rfl)
theorem dX0_goesThrough_8 : decode cX0_goesThrough 8 = .ok (.iaload, 1) := dk_46 (dk_at dksX0_goesThrough_0 8 rfl rfl)
theorem dX0_goesThrough_9 : decode cX0_goesThrough 9 = .ok (.istore_n 2, 1) := dk_61 (dk_at dksX0_goesThrough_0 9 rfl rfl)
theorem dX0_goesThrough_10 : decode cX0_goesThrough 10 = .ok (.aload_n 0, 1) := dk_42 (dk_at dksX0_goesThrough_0 10 rfl rfl)
theorem dX0_goesThrough_11 : decode cX0_goesThrough 11 = .ok (.getfield 119, 3) := dk_180 0 119 (dk_at dksX0_goesThrough_0 11 rfl rfl)
theorem dX0_goesThrough_14 : decode cX0_goesThrough 14 = .ok (.getfield 126, 3) := dk_180 0 126 (dk_at dksX0_goesThrough_0 14 rfl rfl)
theorem dX0_goesThrough_17 : decode cX0_goesThrough 17 = .ok (.iload_n 2, 1) := dk_28 (dk_at dksX0_goesThrough_0 17 rfl rfl)
theorem dX0_goesThrough_18 : decode cX0_goesThrough 18 = .ok (.if_icmp .eq 7, 3) := dk_159 0 7 (dk_at dksX0_goesThrough_0 18 rfl rfl)
theorem dX0_goesThrough_21 : decode cX0_goesThrough 21 = .ok (.iconst 1, 1) := dk_4 (dk_at dksX0_goesThrough_0 21 rfl rfl)
theorem dX0_goesThrough_22 : decode cX0_goesThrough 22 = .ok (.goto 4, 3) := dk_167 0 4 (dk_at dksX0_goesThrough_1 0 rfl rfl)
theorem dX0_goesThrough_25 : decode cX0_goesThrough 25 = .ok (.iconst 0, 1) := dk_3 (dk_at dksX0_goesThrough_1 3 rfl rfl)
theorem dX0_goesThrough_26 : decode cX0_goesThrough 26 = .ok (.istore_n 3, 1) := dk_62 (dk_at dksX0_goesThrough_1 4 rfl rfl)
theorem dX0_goesThrough_27 : decode cX0_goesThrough 27 = .ok (.aload_n 0, 1) := dk_42 (dk_at dksX0_goesThrough_1 5 rfl rfl)
theorem dX0_goesThrough_28 : decode cX0_goesThrough 28 = .ok (.getfield 141, 3) := dk_180 0 141 (dk_at dksX0_goesThrough_1 6 rfl rfl)
theorem dX0_goesThrough_31 : decode cX0_goesThrough 31 = .ok (.iload_n 3, 1) := dk_29 (dk_at dksX0_goesThrough_1 9 rfl rfl)
theorem dX0_goesThrough_32 : decode cX0_goesThrough 32 = .ok (.ifCond .eq 15, 3) := dk_153 0 15 (dk_at dksX0_goesThrough_1 10 rfl rfl)
theorem dX0_goesThrough_35 : decode cX0_goesThrough 35 = .ok (.aload_n 0, 1) := dk_42 (dk_at dksX0_goesThrough_1 13 rfl rfl)
theorem dX0_goesThrough_36 : decode cX0_goesThrough 36 = .ok (.getfield 33, 3) := dk_180 0 33 (dk_at dksX0_goesThrough_1 14 rfl rfl)
theorem dX0_goesThrough_39 : decode cX0_goesThrough 39 = .ok (.getfield 79, 3) := dk_180 0 79 (dk_at dksX0_goesThrough_1 17 rfl rfl)
theorem dX0_goesThrough_42 : decode cX0_goesThrough 42 = .ok (.iconst 1, 1) := dk_4 (dk_at dksX0_goesThrough_1 20 rfl rfl)
theorem dX0_goesThrough_43 : decode cX0_goesThrough 43 = .ok (.iaload, 1) := dk_46 (dk_at dksX0_goesThrough_1 21 rfl rfl)
theorem dX0_goesThrough_44 : decode cX0_goesThrough 44 = .ok (.goto 4, 3) := dk_167 0 4 (dk_at dksX0_goesThrough_2 0 rfl rfl)
theorem dX0_goesThrough_47 : decode cX0_goesThrough 47 = .ok (.iconst 0, 1) := dk_3 (dk_at dksX0_goesThrough_2 3 rfl rfl)
theorem dX0_goesThrough_48 : decode cX0_goesThrough 48 = .ok (.iadd, 1) := dk_96 (dk_at dksX0_goesThrough_2 4 rfl rfl)
theorem dX0_goesThrough_49 : decode cX0_goesThrough 49 = .ok (.aload_n 0, 1) := dk_42 (dk_at dksX0_goesThrough_2 5 rfl rfl)
theorem dX0_goesThrough_50 : decode cX0_goesThrough 50 = .ok (.getfield 33, 3) := dk_180 0 33 (dk_at dksX0_goesThrough_2 6 rfl rfl)
theorem dX0_goesThrough_53 : decode cX0_goesThrough 53 = .ok (.getfield 93, 3) := dk_180 0 93 (dk_at dksX0_goesThrough_2 9 rfl rfl)
theorem dX0_goesThrough_56 : decode cX0_goesThrough 56 = .ok (.iload_n 1, 1) := dk_27 (dk_at dksX0_goesThrough_2 12 rfl rfl)
theorem dX0_goesThrough_57 : decode cX0_goesThrough 57 = .ok (.aaload, 1) := dk_50 (dk_at dksX0_goesThrough_2 13 rfl rfl)
theorem dX0_goesThrough_58 : decode cX0_goesThrough 58 = .ok (.iconst 1, 1) := dk_4 (dk_at dksX0_goesThrough_2 14 rfl rfl)
theorem dX0_goesThrough_59 : decode cX0_goesThrough 59 = .ok (.iaload, 1) := dk_46 (dk_at dksX0_goesThrough_2 15 rfl rfl)
theorem dX0_goesThrough_60 : decode cX0_goesThrough 60 = .ok (.invokestatic 144, 3) := dk_184 0 144 (dk_at dksX0_goesThrough_2 16 rfl rfl)
theorem dX0_goesThrough_63 : decode cX0_goesThrough 63 = .ok (.istore 4, 2) := dk_54 4 (dk_at dksX0_goesThrough_2 19 rfl rfl)
theorem dX0_goesThrough_65 : decode cX0_goesThrough 65 = .ok (.aload_n 0, 1) := dk_42 (dk_at dksX0_goesThrough_2 21 rfl rfl)
theorem dX0_goesThrough_66 : decode cX0_goesThrough 66 = .ok (.dup, 1) := dk_89 (dk_at dksX0_goesThrough_2 22 rfl rfl)
theorem dX0_goesThrough_67 : decode cX0_goesThrough 67 = .ok (.getfield 138, 3) := dk_180 0 138 (dk_at dksX0_goesThrough_3 0 rfl rfl)
theorem dX0_goesThrough_70 : decode cX0_goesThrough 70 = .ok (.iload_n 3, 1) := dk_29 (dk_at dksX0_goesThrough_3 3 rfl rfl)
theorem dX0_goesThrough_71 : decode cX0_goesThrough 71 = .ok (.ifCond .eq 7, 3) := dk_153 0 7 (dk_at dksX0_goesThrough_3 4 rfl rfl)
theorem dX0_goesThrough_74 : decode cX0_goesThrough 74 = .ok (.iconst 1, 1) := dk_4 (dk_at dksX0_goesThrough_3 7 rfl rfl)
theorem dX0_goesThrough_75 : decode cX0_goesThrough 75 = .ok (.goto 4, 3) := dk_167 0 4 (dk_at dksX0_goesThrough_3 8 rfl rfl)
theorem dX0_goesThrough_78 : decode cX0_goesThrough 78 = .ok (.iconst 0, 1) := dk_3 (dk_at dksX0_goesThrough_3 11 rfl rfl)
theorem dX0_goesThrough_79 : decode cX0_goesThrough 79 = .ok (.iadd, 1) := dk_96 (dk_at dksX0_goesThrough_3 12 rfl rfl)
theorem dX0_goesThrough_80 : decode cX0_goesThrough 80 = .ok (.putfield 138, 3) := dk_181 0 138 (dk_at dksX0_goesThrough_3 13 rfl rfl)
theorem dX0_goesThrough_83 : decode cX0_goesThrough 83 = .ok (.aload_n 0, 1) := dk_42 (dk_at dksX0_goesThrough_3 16 rfl rfl)
theorem dX0_goesThrough_84 : decode cX0_goesThrough 84 = .ok (.dup, 1) := dk_89 (dk_at dksX0_goesThrough_3 17 rfl rfl)
theorem dX0_goesThrough_85 : decode cX0_goesThrough 85 = .ok (.getfield 135, 3) := dk_180 0 135 (dk_at dksX0_goesThrough_3 18 rfl rfl)
theorem dX0_goesThrough_88 : decode cX0_goesThrough 88 = .ok (.iload_n 3, 1) := dk_29 (dk_at dksX0_goesThrough_3 21 rfl rfl)
theorem dX0_goesThrough_89 : decode cX0_goesThrough 89 = .ok (.ifCond .eq 12, 3) := dk_153 0 12 (dk_at dksX0_goesThrough_4 0 rfl rfl)
theorem dX0_goesThrough_92 : decode cX0_goesThrough 92 = .ok (.iload_n 2, 1) := dk_28 (dk_at dksX0_goesThrough_4 3 rfl rfl)
theorem dX0_goesThrough_93 : decode cX0_goesThrough 93 = .ok (.iconst 1, 1) := dk_4 (dk_at dksX0_goesThrough_4 4 rfl rfl)
theorem dX0_goesThrough_94 : decode cX0_goesThrough 94 = .ok (.if_icmp .ne 7, 3) := dk_160 0 7 (dk_at dksX0_goesThrough_4 5 rfl rfl)
theorem dX0_goesThrough_97 : decode cX0_goesThrough 97 = .ok (.iconst 1, 1) := dk_4 (dk_at dksX0_goesThrough_4 8 rfl rfl)
theorem dX0_goesThrough_98 : decode cX0_goesThrough 98 = .ok (.goto 4, 3) := dk_167 0 4 (dk_at dksX0_goesThrough_4 9 rfl rfl)
theorem dX0_goesThrough_101 : decode cX0_goesThrough 101 = .ok (.iconst 0, 1) := dk_3 (dk_at dksX0_goesThrough_4 12 rfl rfl)
theorem dX0_goesThrough_102 : decode cX0_goesThrough 102 = .ok (.iload_n 2, 1) := dk_28 (dk_at dksX0_goesThrough_4 13 rfl rfl)
theorem dX0_goesThrough_103 : decode cX0_goesThrough 103 = .ok (.ifCond .ne 7, 3) := dk_154 0 7 (dk_at dksX0_goesThrough_4 14 rfl rfl)
theorem dX0_goesThrough_106 : decode cX0_goesThrough 106 = .ok (.iconst 1, 1) := dk_4 (dk_at dksX0_goesThrough_4 17 rfl rfl)
theorem dX0_goesThrough_107 : decode cX0_goesThrough 107 = .ok (.goto 4, 3) := dk_167 0 4 (dk_at dksX0_goesThrough_4 18 rfl rfl)
theorem dX0_goesThrough_110 : decode cX0_goesThrough 110 = .ok (.iconst 0, 1) := dk_3 (dk_at dksX0_goesThrough_4 21 rfl rfl)
theorem dX0_goesThrough_111 : decode cX0_goesThrough 111 = .ok (.iadd, 1) := dk_96 (dk_at dksX0_goesThrough_4 22 rfl rfl)
theorem dX0_goesThrough_112 : decode cX0_goesThrough 112 = .ok (.iadd, 1) := dk_96 (dk_at dksX0_goesThrough_4 23 rfl rfl)
theorem dX0_goesThrough_113 : decode cX0_goesThrough 113 = .ok (.putfield 135, 3) := dk_181 0 135 (dk_at dksX0_goesThrough_5 0 rfl rfl)
theorem dX0_goesThrough_116 : decode cX0_goesThrough 116 = .ok (.aload_n 0, 1) := dk_42 (dk_at dksX0_goesThrough_5 3 rfl rfl)
theorem dX0_goesThrough_117 : decode cX0_goesThrough 117 = .ok (.getfield 119, 3) := dk_180 0 119 (dk_at dksX0_goesThrough_5 4 rfl rfl)
theorem dX0_goesThrough_120 : decode cX0_goesThrough 120 = .ok (.iload_n 2, 1) := dk_28 (dk_at dksX0_goesThrough_5 7 rfl rfl)
theorem dX0_goesThrough_121 : decode cX0_goesThrough 121 = .ok (.aload_n 0, 1) := dk_42 (dk_at dksX0_goesThrough_5 8 rfl rfl)
theorem dX0_goesThrough_122 : decode cX0_goesThrough 122 = .ok (.getfield 119, 3) := dk_180 0 119 (dk_at dksX0_goesThrough_5 9 rfl rfl)
theorem dX0_goesThrough_125 : decode cX0_goesThrough 125 = .ok (.getfield 129, 3) := dk_180 0 129 (dk_at dksX0_goesThrough_5 12 rfl rfl)
theorem dX0_goesThrough_128 : decode cX0_goesThrough 128 = .ok (.if_icmp .ne 15, 3) := dk_160 0 15 (dk_at dksX0_goesThrough_5 15 rfl rfl)
theorem dX0_goesThrough_131 : decode cX0_goesThrough 131 = .ok (.aload_n 0, 1) := dk_42 (dk_at dksX0_goesThrough_5 18 rfl rfl)
theorem dX0_goesThrough_132 : decode cX0_goesThrough 132 = .ok (.getfield 119, 3) := dk_180 0 119 (dk_at dksX0_goesThrough_5 19 rfl rfl)
theorem dX0_goesThrough_135 : decode cX0_goesThrough 135 = .ok (.getfield 132, 3) := dk_180 0 132 (dk_at dksX0_goesThrough_6 0 rfl rfl)
theorem dX0_goesThrough_138 : decode cX0_goesThrough 138 = .ok (.iconst 1, 1) := dk_4 (dk_at dksX0_goesThrough_6 3 rfl rfl)
theorem dX0_goesThrough_139 : decode cX0_goesThrough 139 = .ok (.iadd, 1) := dk_96 (dk_at dksX0_goesThrough_6 4 rfl rfl)
theorem dX0_goesThrough_140 : decode cX0_goesThrough 140 = .ok (.goto 4, 3) := dk_167 0 4 (dk_at dksX0_goesThrough_6 5 rfl rfl)
theorem dX0_goesThrough_143 : decode cX0_goesThrough 143 = .ok (.iconst 1, 1) := dk_4 (dk_at dksX0_goesThrough_6 8 rfl rfl)
theorem dX0_goesThrough_144 : decode cX0_goesThrough 144 = .ok (.putfield 132, 3) := dk_181 0 132 (dk_at dksX0_goesThrough_6 9 rfl rfl)
theorem dX0_goesThrough_147 : decode cX0_goesThrough 147 = .ok (.aload_n 0, 1) := dk_42 (dk_at dksX0_goesThrough_6 12 rfl rfl)
theorem dX0_goesThrough_148 : decode cX0_goesThrough 148 = .ok (.getfield 119, 3) := dk_180 0 119 (dk_at dksX0_goesThrough_6 13 rfl rfl)
theorem dX0_goesThrough_151 : decode cX0_goesThrough 151 = .ok (.iload_n 2, 1) := dk_28 (dk_at dksX0_goesThrough_6 16 rfl rfl)
theorem dX0_goesThrough_152 : decode cX0_goesThrough 152 = .ok (.putfield 129, 3) := dk_181 0 129 (dk_at dksX0_goesThrough_6 17 rfl rfl)
theorem dX0_goesThrough_155 : decode cX0_goesThrough 155 = .ok (.aload_n 0, 1) := dk_42 (dk_at dksX0_goesThrough_6 20 rfl rfl)
theorem dX0_goesThrough_156 : decode cX0_goesThrough 156 = .ok (.getfield 119, 3) := dk_180 0 119 (dk_at dksX0_goesThrough_6 21 rfl rfl)
theorem dX0_goesThrough_159 : decode cX0_goesThrough 159 = .ok (.iconst 1, 1) := dk_4 (dk_at dksX0_goesThrough_7 0 rfl rfl)
theorem dX0_goesThrough_160 : decode cX0_goesThrough 160 = .ok (.iload_n 2, 1) := dk_28 (dk_at dksX0_goesThrough_7 1 rfl rfl)
theorem dX0_goesThrough_161 : decode cX0_goesThrough 161 = .ok (.isub, 1) := dk_100 (dk_at dksX0_goesThrough_7 2 rfl rfl)
theorem dX0_goesThrough_162 : decode cX0_goesThrough 162 = .ok (.putfield 126, 3) := dk_181 0 126 (dk_at dksX0_goesThrough_7 3 rfl rfl)
theorem dX0_goesThrough_165 : decode cX0_goesThrough 165 = .ok (.aload_n 0, 1) := dk_42 (dk_at dksX0_goesThrough_7 6 rfl rfl)
theorem dX0_goesThrough_166 : decode cX0_goesThrough 166 = .ok (.getfield 150, 3) := dk_180 0 150 (dk_at dksX0_goesThrough_7 7 rfl rfl)
theorem dX0_goesThrough_169 : decode cX0_goesThrough 169 = .ok (.iload_n 1, 1) := dk_27 (dk_at dksX0_goesThrough_7 10 rfl rfl)
theorem dX0_goesThrough_170 : decode cX0_goesThrough 170 = .ok (.iload 4, 2) := dk_21 4 (dk_at dksX0_goesThrough_7 11 rfl rfl)
theorem dX0_goesThrough_172 : decode cX0_goesThrough 172 = .ok (.aload_n 0, 1) := dk_42 (dk_at dksX0_goesThrough_7 13 rfl rfl)
theorem dX0_goesThrough_173 : decode cX0_goesThrough 173 = .ok (.getfield 33, 3) := dk_180 0 33 (dk_at dksX0_goesThrough_7 14 rfl rfl)
theorem dX0_goesThrough_176 : decode cX0_goesThrough 176 = .ok (.getfield 93, 3) := dk_180 0 93 (dk_at dksX0_goesThrough_7 17 rfl rfl)
theorem dX0_goesThrough_179 : decode cX0_goesThrough 179 = .ok (.iload_n 1, 1) := dk_27 (dk_at dksX0_goesThrough_7 20 rfl rfl)
theorem dX0_goesThrough_180 : decode cX0_goesThrough 180 = .ok (.aaload, 1) := dk_50 (dk_at dksX0_goesThrough_7 21 rfl rfl)
theorem dX0_goesThrough_181 : decode cX0_goesThrough 181 = .ok (.iconst 1, 1) := dk_4 (dk_at dksX0_goesThrough_7 22 rfl rfl)
theorem dX0_goesThrough_182 : decode cX0_goesThrough 182 = .ok (.iaload, 1) := dk_46 (dk_at dksX0_goesThrough_7 23 rfl rfl)
theorem dX0_goesThrough_183 : decode cX0_goesThrough 183 = .ok (.isub, 1) := dk_100 (dk_at dksX0_goesThrough_8 0 rfl rfl)
theorem dX0_goesThrough_184 : decode cX0_goesThrough 184 = .ok (.iastore, 1) := dk_79 (dk_at dksX0_goesThrough_8 1 rfl rfl)
theorem dX0_goesThrough_185 : decode cX0_goesThrough 185 = .ok (.aload_n 0, 1) := dk_42 (dk_at dksX0_goesThrough_8 2 rfl rfl)
theorem dX0_goesThrough_186 : decode cX0_goesThrough 186 = .ok (.iload 4, 2) := dk_21 4 (dk_at dksX0_goesThrough_8 3 rfl rfl)
theorem dX0_goesThrough_188 : decode cX0_goesThrough 188 = .ok (.aload_n 0, 1) := dk_42 (dk_at dksX0_goesThrough_8 5 rfl rfl)
theorem dX0_goesThrough_189 : decode cX0_goesThrough 189 = .ok (.getfield 33, 3) := dk_180 0 33 (dk_at dksX0_goesThrough_8 6 rfl rfl)
theorem dX0_goesThrough_192 : decode cX0_goesThrough 192 = .ok (.getfield 79, 3) := dk_180 0 79 (dk_at dksX0_goesThrough_8 9 rfl rfl)
theorem dX0_goesThrough_195 : decode cX0_goesThrough 195 = .ok (.iconst 0, 1) := dk_3 (dk_at dksX0_goesThrough_8 12 rfl rfl)
theorem dX0_goesThrough_196 : decode cX0_goesThrough 196 = .ok (.iaload, 1) := dk_46 (dk_at dksX0_goesThrough_8 13 rfl rfl)
theorem dX0_goesThrough_197 : decode cX0_goesThrough 197 = .ok (.iadd, 1) := dk_96 (dk_at dksX0_goesThrough_8 14 rfl rfl)
theorem dX0_goesThrough_198 : decode cX0_goesThrough 198 = .ok (.putfield 141, 3) := dk_181 0 141 (dk_at dksX0_goesThrough_8 15 rfl rfl)
theorem dX0_goesThrough_201 : decode cX0_goesThrough 201 = .ok (.aload_n 0, 1) := dk_42 (dk_at dksX0_goesThrough_8 18 rfl rfl)
theorem dX0_goesThrough_202 : decode cX0_goesThrough 202 = .ok (.getfield 153, 3) := dk_180 0 153 (dk_at dksX0_goesThrough_8 19 rfl rfl)
theorem dX0_goesThrough_205 : decode cX0_goesThrough 205 = .ok (.iload_n 1, 1) := dk_27 (dk_at dksX0_goesThrough_8 22 rfl rfl)
theorem dX0_goesThrough_206 : decode cX0_goesThrough 206 = .ok (.aload_n 0, 1) := dk_42 (dk_at dksX0_goesThrough_8 23 rfl rfl)
theorem dX0_goesThrough_207 : decode cX0_goesThrough 207 = .ok (.getfield 141, 3) := dk_180 0 141 (dk_at dksX0_goesThrough_9 0 rfl rfl)
theorem dX0_goesThrough_210 : decode cX0_goesThrough 210 = .ok (.iastore, 1) := dk_79 (dk_at dksX0_goesThrough_9 3 rfl rfl)
theorem dX0_goesThrough_211 : decode cX0_goesThrough 211 = .ok (.return_, 1) := dk_177 (dk_at dksX0_goesThrough_9 4 rfl rfl)
abbrev cX0_through : ByteArray := prog_1_method_24_code
def yX0_through : MethodName := ⟨RX0, "through", "(I)I"⟩
def dkwX0_through_0 : List UInt8 := [42, 182, 0, 205, 42, 27, 182, 0, 86, 153, 0, 12, 42, 180, 0, 153, 27, 46, 167, 0, 4, 2, 172]
abbrev dktX0_through_0 : List UInt8 := dkwX0_through_0 ++ []
theorem dksX0_through_0 : cX0_through.data.toList.drop 0 = dktX0_through_0 := by decide +kernel
theorem dX0_through_0 : decode cX0_through 0 = .ok (.aload_n 0, 1) := dk_42 (dk_at dksX0_through_0 0 rfl rfl)
theorem dX0_through_1 : decode cX0_through 1 = .ok (.invokevirtual 205, 3) := dk_182 0 205 (dk_at dksX0_through_0 1 rfl rfl)
theorem dX0_through_4 : decode cX0_through 4 = .ok (.aload_n 0, 1) := dk_42 (dk_at dksX0_through_0 4 rfl rfl)
theorem dX0_through_5 : decode cX0_through 5 = .ok (.iload_n 1, 1) := dk_27 (dk_at dksX0_through_0 5 rfl rfl)
theorem dX0_through_6 : decode cX0_through 6 = .ok (.invokevirtual 86, 3) := dk_182 0 86 (dk_at dksX0_through_0 6 rfl rfl)
theorem dX0_through_9 : decode cX0_through 9 = .ok (.ifCond .eq 12, 3) := dk_153 0 12 (dk_at dksX0_through_0 9 rfl rfl)
theorem dX0_through_12 : decode cX0_through 12 = .ok (.aload_n 0, 1) := dk_42 (dk_at dksX0_through_0 12 rfl rfl)
theorem dX0_through_13 : decode cX0_through 13 = .ok (.getfield 153, 3) := dk_180 0 153 (dk_at dksX0_through_0 13 rfl rfl)
theorem dX0_through_16 : decode cX0_through 16 = .ok (.iload_n 1, 1) := dk_27 (dk_at dksX0_through_0 16 rfl rfl)
theorem dX0_through_17 : decode cX0_through 17 = .ok (.iaload, 1) := dk_46 (dk_at dksX0_through_0 17 rfl rfl)
theorem dX0_through_18 : decode cX0_through 18 = .ok (.goto 4, 3) := dk_167 0 4 (dk_at dksX0_through_0 18 rfl rfl)
theorem dX0_through_21 : decode cX0_through 21 = .ok (.iconst (-1), 1) := dk_2 (dk_at dksX0_through_0 21 rfl rfl)
theorem dX0_through_22 : decode cX0_through 22 = .ok (.ireturn, 1) := dk_172 (dk_at dksX0_through_0 22 rfl rfl)
abbrev cX0_stood : ByteArray := prog_1_method_25_code
def yX0_stood : MethodName := ⟨RX0, "stood", "(I)I"⟩
def dkwX0_stood_0 : List UInt8 := [42, 182, 0, 205, 42, 27, 182, 0, 86, 153, 0, 12, 42, 180, 0, 150, 27, 46, 167, 0, 4, 2, 172]
abbrev dktX0_stood_0 : List UInt8 := dkwX0_stood_0 ++ []
theorem dksX0_stood_0 : cX0_stood.data.toList.drop 0 = dktX0_stood_0 := by decide +kernel
theorem dX0_stood_0 : decode cX0_stood 0 = .ok (.aload_n 0, 1) := dk_42 (dk_at dksX0_stood_0 0 rfl rfl)
theorem dX0_stood_1 : decode cX0_stood 1 = .ok (.invokevirtual 205, 3) := dk_182 0 205 (dk_at dksX0_stood_0 1 rfl rfl)
theorem dX0_stood_4 : decode cX0_stood 4 = .ok (.aload_n 0, 1) := dk_42 (dk_at dksX0_stood_0 4 rfl rfl)
theorem dX0_stood_5 : decode cX0_stood 5 = .ok (.iload_n 1, 1) := dk_27 (dk_at dksX0_stood_0 5 rfl rfl)
theorem dX0_stood_6 : decode cX0_stood 6 = .ok (.invokevirtual 86, 3) := dk_182 0 86 (dk_at dksX0_stood_0 6 rfl rfl)
theorem dX0_stood_9 : decode cX0_stood 9 = .ok (.ifCond .eq 12, 3) := dk_153 0 12 (dk_at dksX0_stood_0 9 rfl rfl)
theorem dX0_stood_12 : decode cX0_stood 12 = .ok (.aload_n 0, 1) := dk_42 (dk_at dksX0_stood_0 12 rfl rfl)
theorem dX0_stood_13 : decode cX0_stood 13 = .ok (.getfield 150, 3) := dk_180 0 150 (dk_at dksX0_stood_0 13 rfl rfl)
theorem dX0_stood_16 : decode cX0_stood 16 = .ok (.iload_n 1, 1) := dk_27 (dk_at dksX0_stood_0 16 rfl rfl)
theorem dX0_stood_17 : decode cX0_stood 17 = .ok (.iaload, 1) := dk_46 (dk_at dksX0_stood_0 17 rfl rfl)
theorem dX0_stood_18 : decode cX0_stood 18 = .ok (.goto 4, 3) := dk_167 0 4 (dk_at dksX0_stood_0 18 rfl rfl)
theorem dX0_stood_21 : decode cX0_stood 21 = .ok (.iconst (-1), 1) := dk_2 (dk_at dksX0_stood_0 21 rfl rfl)
theorem dX0_stood_22 : decode cX0_stood 22 = .ok (.ireturn, 1) := dk_172 (dk_at dksX0_stood_0 22 rfl rfl)
abbrev cX0_day : ByteArray := prog_1_method_26_code
def yX0_day : MethodName := ⟨RX0, "day", "(I)I"⟩
def dkwX0_day_1 : List UInt8 := [2, 172]
abbrev dktX0_day_1 : List UInt8 := dkwX0_day_1 ++ []
def dkwX0_day_0 : List UInt8 := [42, 182, 0, 205, 27, 133, 9, 20, 0, 107, 184, 0, 3, 153, 0, 11, 42, 27, 182, 0, 208, 167, 0, 4]
abbrev dktX0_day_0 : List UInt8 := dkwX0_day_0 ++ dktX0_day_1
theorem dksX0_day_0 : cX0_day.data.toList.drop 0 = dktX0_day_0 := by decide +kernel
theorem dksX0_day_1 : cX0_day.data.toList.drop 24 = dktX0_day_1 := dk_seg dksX0_day_0 24 rfl rfl
theorem dX0_day_0 : decode cX0_day 0 = .ok (.aload_n 0, 1) := dk_42 (dk_at dksX0_day_0 0 rfl rfl)
theorem dX0_day_1 : decode cX0_day 1 = .ok (.invokevirtual 205, 3) := dk_182 0 205 (dk_at dksX0_day_0 1 rfl rfl)
theorem dX0_day_4 : decode cX0_day 4 = .ok (.iload_n 1, 1) := dk_27 (dk_at dksX0_day_0 4 rfl rfl)
theorem dX0_day_5 : decode cX0_day 5 = .ok (.i2l, 1) := dk_133 (dk_at dksX0_day_0 5 rfl rfl)
theorem dX0_day_6 : decode cX0_day 6 = .ok (.lconst 0, 1) := dk_9 (dk_at dksX0_day_0 6 rfl rfl)
theorem dX0_day_7 : decode cX0_day 7 = .ok (.ldc2_w 107, 3) := dk_20 0 107 (dk_at dksX0_day_0 7 rfl rfl)
theorem dX0_day_10 : decode cX0_day 10 = .ok (.invokestatic 3, 3) := dk_184 0 3 (dk_at dksX0_day_0 10 rfl rfl)
theorem dX0_day_13 : decode cX0_day 13 = .ok (.ifCond .eq 11, 3) := dk_153 0 11 (dk_at dksX0_day_0 13 rfl rfl)
theorem dX0_day_16 : decode cX0_day 16 = .ok (.aload_n 0, 1) := dk_42 (dk_at dksX0_day_0 16 rfl rfl)
theorem dX0_day_17 : decode cX0_day 17 = .ok (.iload_n 1, 1) := dk_27 (dk_at dksX0_day_0 17 rfl rfl)
theorem dX0_day_18 : decode cX0_day 18 = .ok (.invokevirtual 208, 3) := dk_182 0 208 (dk_at dksX0_day_0 18 rfl rfl)
theorem dX0_day_21 : decode cX0_day 21 = .ok (.goto 4, 3) := dk_167 0 4 (dk_at dksX0_day_0 21 rfl rfl)
theorem dX0_day_24 : decode cX0_day 24 = .ok (.iconst (-1), 1) := dk_2 (dk_at dksX0_day_1 0 rfl rfl)
theorem dX0_day_25 : decode cX0_day 25 = .ok (.ireturn, 1) := dk_172 (dk_at dksX0_day_1 1 rfl rfl)
abbrev cX0_dayTold : ByteArray := prog_1_method_22_code
def yX0_dayTold : MethodName := ⟨RX0, "dayTold", "(I)I"⟩
def dkwX0_dayTold_4 : List UInt8 := [180, 0, 141, 172, 42, 180, 0, 138, 172]
abbrev dktX0_dayTold_4 : List UInt8 := dkwX0_dayTold_4 ++ []
def dkwX0_dayTold_3 : List UInt8 := [42, 182, 0, 201, 172, 28, 172, 42, 180, 0, 135, 172, 42, 180, 0, 49, 154, 0, 7, 3, 167, 0, 7, 42]
abbrev dktX0_dayTold_3 : List UInt8 := dkwX0_dayTold_3 ++ dktX0_dayTold_4
def dkwX0_dayTold_2 : List UInt8 := [170, 0, 0, 0, 0, 58, 0, 0, 0, 0, 0, 0, 0, 3, 0, 0, 0, 30, 0, 0, 0, 35, 0, 0, 0, 37, 0, 0, 0, 42]
abbrev dktX0_dayTold_2 : List UInt8 := dkwX0_dayTold_2 ++ dktX0_dayTold_3
def dkwX0_dayTold_1 : List UInt8 := [132, 3, 1, 167, 255, 234, 27]
abbrev dktX0_dayTold_1 : List UInt8 := dkwX0_dayTold_1 ++ dktX0_dayTold_2
def dkwX0_dayTold_0 : List UInt8 := [3, 61, 3, 62, 29, 42, 180, 0, 49, 162, 0, 20, 28, 42, 180, 0, 150, 29, 46, 184, 0, 144, 61]
abbrev dktX0_dayTold_0 : List UInt8 := dkwX0_dayTold_0 ++ dktX0_dayTold_1
theorem dksX0_dayTold_0 : cX0_dayTold.data.toList.drop 0 = dktX0_dayTold_0 := by decide +kernel
theorem dksX0_dayTold_1 : cX0_dayTold.data.toList.drop 23 = dktX0_dayTold_1 := dk_seg dksX0_dayTold_0 23 rfl rfl
theorem dksX0_dayTold_2 : cX0_dayTold.data.toList.drop 30 = dktX0_dayTold_2 := dk_seg dksX0_dayTold_1 7 rfl rfl
theorem dksX0_dayTold_3 : cX0_dayTold.data.toList.drop 60 = dktX0_dayTold_3 := dk_seg dksX0_dayTold_2 30 rfl rfl
theorem dksX0_dayTold_4 : cX0_dayTold.data.toList.drop 84 = dktX0_dayTold_4 := dk_seg dksX0_dayTold_3 24 rfl rfl
theorem dX0_dayTold_0 : decode cX0_dayTold 0 = .ok (.iconst 0, 1) := dk_3 (dk_at dksX0_dayTold_0 0 rfl rfl)
theorem dX0_dayTold_1 : decode cX0_dayTold 1 = .ok (.istore_n 2, 1) := dk_61 (dk_at dksX0_dayTold_0 1 rfl rfl)
theorem dX0_dayTold_2 : decode cX0_dayTold 2 = .ok (.iconst 0, 1) := dk_3 (dk_at dksX0_dayTold_0 2 rfl rfl)
theorem dX0_dayTold_3 : decode cX0_dayTold 3 = .ok (.istore_n 3, 1) := dk_62 (dk_at dksX0_dayTold_0 3 rfl rfl)
theorem dX0_dayTold_4 : decode cX0_dayTold 4 = .ok (.iload_n 3, 1) := dk_29 (dk_at dksX0_dayTold_0 4 rfl rfl)
theorem dX0_dayTold_5 : decode cX0_dayTold 5 = .ok (.aload_n 0, 1) := dk_42 (dk_at dksX0_dayTold_0 5 rfl rfl)
theorem dX0_dayTold_6 : decode cX0_dayTold 6 = .ok (.getfield 49, 3) := dk_180 0 49 (dk_at dksX0_dayTold_0 6 rfl rfl)
theorem dX0_dayTold_9 : decode cX0_dayTold 9 = .ok (.if_icmp .ge 20, 3) := dk_162 0 20 (dk_at dksX0_dayTold_0 9 rfl rfl)
theorem dX0_dayTold_12 : decode cX0_dayTold 12 = .ok (.iload_n 2, 1) := dk_28 (dk_at dksX0_dayTold_0 12 rfl rfl)
theorem dX0_dayTold_13 : decode cX0_dayTold 13 = .ok (.aload_n 0, 1) := dk_42 (dk_at dksX0_dayTold_0 13 rfl rfl)
theorem dX0_dayTold_14 : decode cX0_dayTold 14 = .ok (.getfield 150, 3) := dk_180 0 150 (dk_at dksX0_dayTold_0 14 rfl rfl)
theorem dX0_dayTold_17 : decode cX0_dayTold 17 = .ok (.iload_n 3, 1) := dk_29 (dk_at dksX0_dayTold_0 17 rfl rfl)
theorem dX0_dayTold_18 : decode cX0_dayTold 18 = .ok (.iaload, 1) := dk_46 (dk_at dksX0_dayTold_0 18 rfl rfl)
theorem dX0_dayTold_19 : decode cX0_dayTold 19 = .ok (.invokestatic 144, 3) := dk_184 0 144 (dk_at dksX0_dayTold_0 19 rfl rfl)
theorem dX0_dayTold_22 : decode cX0_dayTold 22 = .ok (.istore_n 2, 1) := dk_61 (dk_at dksX0_dayTold_0 22 rfl rfl)
theorem dX0_dayTold_23 : decode cX0_dayTold 23 = .ok (.iinc 3 1, 3) := dk_132 3 1 (dk_at dksX0_dayTold_1 0 rfl rfl)
theorem dX0_dayTold_26 : decode cX0_dayTold 26 = .ok (.goto (-22), 3) := dk_167 255 234 (dk_at dksX0_dayTold_1 3 rfl rfl)
theorem dX0_dayTold_29 : decode cX0_dayTold 29 = .ok (.iload_n 1, 1) := dk_27 (dk_at dksX0_dayTold_1 6 rfl rfl)
theorem dX0_dayTold_30 : decode cX0_dayTold 30 = .ok (.tableswitch 58 0 3 #[30, 35, 37, 42], 30) := by decide +kernel
theorem dX0_dayTold_60 : decode cX0_dayTold 60 = .ok (.aload_n 0, 1) := dk_42 (dk_at dksX0_dayTold_3 0 rfl rfl)
theorem dX0_dayTold_61 : decode cX0_dayTold 61 = .ok (.invokevirtual 201, 3) := dk_182 0 201 (dk_at dksX0_dayTold_3 1 rfl rfl)
theorem dX0_dayTold_64 : decode cX0_dayTold 64 = .ok (.ireturn, 1) := dk_172 (dk_at dksX0_dayTold_3 4 rfl rfl)
theorem dX0_dayTold_65 : decode cX0_dayTold 65 = .ok (.iload_n 2, 1) := dk_28 (dk_at dksX0_dayTold_3 5 rfl rfl)
theorem dX0_dayTold_66 : decode cX0_dayTold 66 = .ok (.ireturn, 1) := dk_172 (dk_at dksX0_dayTold_3 6 rfl rfl)
theorem dX0_dayTold_67 : decode cX0_dayTold 67 = .ok (.aload_n 0, 1) := dk_42 (dk_at dksX0_dayTold_3 7 rfl rfl)
theorem dX0_dayTold_68 : decode cX0_dayTold 68 = .ok (.getfield 135, 3) := dk_180 0 135 (dk_at dksX0_dayTold_3 8 rfl rfl)
theorem dX0_dayTold_71 : decode cX0_dayTold 71 = .ok (.ireturn, 1) := dk_172 (dk_at dksX0_dayTold_3 11 rfl rfl)
theorem dX0_dayTold_72 : decode cX0_dayTold 72 = .ok (.aload_n 0, 1) := dk_42 (dk_at dksX0_dayTold_3 12 rfl rfl)
theorem dX0_dayTold_73 : decode cX0_dayTold 73 = .ok (.getfield 49, 3) := dk_180 0 49 (dk_at dksX0_dayTold_3 13 rfl rfl)
theorem dX0_dayTold_76 : decode cX0_dayTold 76 = .ok (.ifCond .ne 7, 3) := dk_154 0 7 (dk_at dksX0_dayTold_3 16 rfl rfl)
theorem dX0_dayTold_79 : decode cX0_dayTold 79 = .ok (.iconst 0, 1) := dk_3 (dk_at dksX0_dayTold_3 19 rfl rfl)
theorem dX0_dayTold_80 : decode cX0_dayTold 80 = .ok (.goto 7, 3) := dk_167 0 7 (dk_at dksX0_dayTold_3 20 rfl rfl)
theorem dX0_dayTold_83 : decode cX0_dayTold 83 = .ok (.aload_n 0, 1) := dk_42 (dk_at dksX0_dayTold_3 23 rfl rfl)
theorem dX0_dayTold_84 : decode cX0_dayTold 84 = .ok (.getfield 141, 3) := dk_180 0 141 (dk_at dksX0_dayTold_4 0 rfl rfl)
theorem dX0_dayTold_87 : decode cX0_dayTold 87 = .ok (.ireturn, 1) := dk_172 (dk_at dksX0_dayTold_4 3 rfl rfl)
theorem dX0_dayTold_88 : decode cX0_dayTold 88 = .ok (.aload_n 0, 1) := dk_42 (dk_at dksX0_dayTold_4 4 rfl rfl)
theorem dX0_dayTold_89 : decode cX0_dayTold 89 = .ok (.getfield 138, 3) := dk_180 0 138 (dk_at dksX0_dayTold_4 5 rfl rfl)
theorem dX0_dayTold_92 : decode cX0_dayTold 92 = .ok (.ireturn, 1) := dk_172 (dk_at dksX0_dayTold_4 8 rfl rfl)
abbrev cX0_cost : ByteArray := prog_1_method_21_code
def yX0_cost : MethodName := ⟨RX0, "cost", "()I"⟩
def dkwX0_cost_1 : List UInt8 := [180, 0, 93, 28, 50, 5, 46, 104, 96, 60, 132, 2, 1, 167, 255, 224, 27, 172]
abbrev dktX0_cost_1 : List UInt8 := dkwX0_cost_1 ++ []
def dkwX0_cost_0 : List UInt8 := [3, 60, 3, 61, 28, 42, 180, 0, 49, 162, 0, 30, 27, 42, 180, 0, 150, 28, 46, 42, 180, 0, 33]
abbrev dktX0_cost_0 : List UInt8 := dkwX0_cost_0 ++ dktX0_cost_1
theorem dksX0_cost_0 : cX0_cost.data.toList.drop 0 = dktX0_cost_0 := by decide +kernel
theorem dksX0_cost_1 : cX0_cost.data.toList.drop 23 = dktX0_cost_1 := dk_seg dksX0_cost_0 23 rfl rfl
theorem dX0_cost_0 : decode cX0_cost 0 = .ok (.iconst 0, 1) := dk_3 (dk_at dksX0_cost_0 0 rfl rfl)
theorem dX0_cost_1 : decode cX0_cost 1 = .ok (.istore_n 1, 1) := dk_60 (dk_at dksX0_cost_0 1 rfl rfl)
theorem dX0_cost_2 : decode cX0_cost 2 = .ok (.iconst 0, 1) := dk_3 (dk_at dksX0_cost_0 2 rfl rfl)
theorem dX0_cost_3 : decode cX0_cost 3 = .ok (.istore_n 2, 1) := dk_61 (dk_at dksX0_cost_0 3 rfl rfl)
theorem dX0_cost_4 : decode cX0_cost 4 = .ok (.iload_n 2, 1) := dk_28 (dk_at dksX0_cost_0 4 rfl rfl)
theorem dX0_cost_5 : decode cX0_cost 5 = .ok (.aload_n 0, 1) := dk_42 (dk_at dksX0_cost_0 5 rfl rfl)
theorem dX0_cost_6 : decode cX0_cost 6 = .ok (.getfield 49, 3) := dk_180 0 49 (dk_at dksX0_cost_0 6 rfl rfl)
theorem dX0_cost_9 : decode cX0_cost 9 = .ok (.if_icmp .ge 30, 3) := dk_162 0 30 (dk_at dksX0_cost_0 9 rfl rfl)
theorem dX0_cost_12 : decode cX0_cost 12 = .ok (.iload_n 1, 1) := dk_27 (dk_at dksX0_cost_0 12 rfl rfl)
theorem dX0_cost_13 : decode cX0_cost 13 = .ok (.aload_n 0, 1) := dk_42 (dk_at dksX0_cost_0 13 rfl rfl)
theorem dX0_cost_14 : decode cX0_cost 14 = .ok (.getfield 150, 3) := dk_180 0 150 (dk_at dksX0_cost_0 14 rfl rfl)
theorem dX0_cost_17 : decode cX0_cost 17 = .ok (.iload_n 2, 1) := dk_28 (dk_at dksX0_cost_0 17 rfl rfl)
theorem dX0_cost_18 : decode cX0_cost 18 = .ok (.iaload, 1) := dk_46 (dk_at dksX0_cost_0 18 rfl rfl)
theorem dX0_cost_19 : decode cX0_cost 19 = .ok (.aload_n 0, 1) := dk_42 (dk_at dksX0_cost_0 19 rfl rfl)
theorem dX0_cost_20 : decode cX0_cost 20 = .ok (.getfield 33, 3) := dk_180 0 33 (dk_at dksX0_cost_0 20 rfl rfl)
theorem dX0_cost_23 : decode cX0_cost 23 = .ok (.getfield 93, 3) := dk_180 0 93 (dk_at dksX0_cost_1 0 rfl rfl)
theorem dX0_cost_26 : decode cX0_cost 26 = .ok (.iload_n 2, 1) := dk_28 (dk_at dksX0_cost_1 3 rfl rfl)
theorem dX0_cost_27 : decode cX0_cost 27 = .ok (.aaload, 1) := dk_50 (dk_at dksX0_cost_1 4 rfl rfl)
theorem dX0_cost_28 : decode cX0_cost 28 = .ok (.iconst 2, 1) := dk_5 (dk_at dksX0_cost_1 5 rfl rfl)
theorem dX0_cost_29 : decode cX0_cost 29 = .ok (.iaload, 1) := dk_46 (dk_at dksX0_cost_1 6 rfl rfl)
theorem dX0_cost_30 : decode cX0_cost 30 = .ok (.imul, 1) := dk_104 (dk_at dksX0_cost_1 7 rfl rfl)
theorem dX0_cost_31 : decode cX0_cost 31 = .ok (.iadd, 1) := dk_96 (dk_at dksX0_cost_1 8 rfl rfl)
theorem dX0_cost_32 : decode cX0_cost 32 = .ok (.istore_n 1, 1) := dk_60 (dk_at dksX0_cost_1 9 rfl rfl)
theorem dX0_cost_33 : decode cX0_cost 33 = .ok (.iinc 2 1, 3) := dk_132 2 1 (dk_at dksX0_cost_1 10 rfl rfl)
theorem dX0_cost_36 : decode cX0_cost 36 = .ok (.goto (-32), 3) := dk_167 255 224 (dk_at dksX0_cost_1 13 rfl rfl)
theorem dX0_cost_39 : decode cX0_cost 39 = .ok (.iload_n 1, 1) := dk_27 (dk_at dksX0_cost_1 16 rfl rfl)
theorem dX0_cost_40 : decode cX0_cost 40 = .ok (.ireturn, 1) := dk_172 (dk_at dksX0_cost_1 17 rfl rfl)
abbrev cX0_table : ByteArray := prog_1_method_27_code
def yX0_table : MethodName := ⟨RX0, "table", "(II)I"⟩
def dkwX0_table_1 : List UInt8 := [2, 172, 42, 27, 3, 182, 0, 197, 42, 28, 182, 0, 208, 172]
abbrev dktX0_table_1 : List UInt8 := dkwX0_table_1 ++ []
def dkwX0_table_0 : List UInt8 := [27, 133, 9, 20, 0, 107, 184, 0, 3, 153, 0, 15, 28, 133, 9, 20, 0, 107, 184, 0, 3, 154, 0, 5]
abbrev dktX0_table_0 : List UInt8 := dkwX0_table_0 ++ dktX0_table_1
theorem dksX0_table_0 : cX0_table.data.toList.drop 0 = dktX0_table_0 := by decide +kernel
theorem dksX0_table_1 : cX0_table.data.toList.drop 24 = dktX0_table_1 := dk_seg dksX0_table_0 24 rfl rfl
theorem dX0_table_0 : decode cX0_table 0 = .ok (.iload_n 1, 1) := dk_27 (dk_at dksX0_table_0 0 rfl rfl)
theorem dX0_table_1 : decode cX0_table 1 = .ok (.i2l, 1) := dk_133 (dk_at dksX0_table_0 1 rfl rfl)
theorem dX0_table_2 : decode cX0_table 2 = .ok (.lconst 0, 1) := dk_9 (dk_at dksX0_table_0 2 rfl rfl)
theorem dX0_table_3 : decode cX0_table 3 = .ok (.ldc2_w 107, 3) := dk_20 0 107 (dk_at dksX0_table_0 3 rfl rfl)
theorem dX0_table_6 : decode cX0_table 6 = .ok (.invokestatic 3, 3) := dk_184 0 3 (dk_at dksX0_table_0 6 rfl rfl)
theorem dX0_table_9 : decode cX0_table 9 = .ok (.ifCond .eq 15, 3) := dk_153 0 15 (dk_at dksX0_table_0 9 rfl rfl)
theorem dX0_table_12 : decode cX0_table 12 = .ok (.iload_n 2, 1) := dk_28 (dk_at dksX0_table_0 12 rfl rfl)
theorem dX0_table_13 : decode cX0_table 13 = .ok (.i2l, 1) := dk_133 (dk_at dksX0_table_0 13 rfl rfl)
theorem dX0_table_14 : decode cX0_table 14 = .ok (.lconst 0, 1) := dk_9 (dk_at dksX0_table_0 14 rfl rfl)
theorem dX0_table_15 : decode cX0_table 15 = .ok (.ldc2_w 107, 3) := dk_20 0 107 (dk_at dksX0_table_0 15 rfl rfl)
theorem dX0_table_18 : decode cX0_table 18 = .ok (.invokestatic 3, 3) := dk_184 0 3 (dk_at dksX0_table_0 18 rfl rfl)
theorem dX0_table_21 : decode cX0_table 21 = .ok (.ifCond .ne 5, 3) := dk_154 0 5 (dk_at dksX0_table_0 21 rfl rfl)
theorem dX0_table_24 : decode cX0_table 24 = .ok (.iconst (-1), 1) := dk_2 (dk_at dksX0_table_1 0 rfl rfl)
theorem dX0_table_25 : decode cX0_table 25 = .ok (.ireturn, 1) := dk_172 (dk_at dksX0_table_1 1 rfl rfl)
theorem dX0_table_26 : decode cX0_table 26 = .ok (.aload_n 0, 1) := dk_42 (dk_at dksX0_table_1 2 rfl rfl)
theorem dX0_table_27 : decode cX0_table 27 = .ok (.iload_n 1, 1) := dk_27 (dk_at dksX0_table_1 3 rfl rfl)
theorem dX0_table_28 : decode cX0_table 28 = .ok (.iconst 0, 1) := dk_3 (dk_at dksX0_table_1 4 rfl rfl)
theorem dX0_table_29 : decode cX0_table 29 = .ok (.invokevirtual 197, 3) := dk_182 0 197 (dk_at dksX0_table_1 5 rfl rfl)
theorem dX0_table_32 : decode cX0_table 32 = .ok (.aload_n 0, 1) := dk_42 (dk_at dksX0_table_1 8 rfl rfl)
theorem dX0_table_33 : decode cX0_table 33 = .ok (.iload_n 2, 1) := dk_28 (dk_at dksX0_table_1 9 rfl rfl)
theorem dX0_table_34 : decode cX0_table 34 = .ok (.invokevirtual 208, 3) := dk_182 0 208 (dk_at dksX0_table_1 10 rfl rfl)
theorem dX0_table_37 : decode cX0_table 37 = .ok (.ireturn, 1) := dk_172 (dk_at dksX0_table_1 13 rfl rfl)
abbrev cX0_best : ByteArray := prog_1_method_28_code
def yX0_best : MethodName := ⟨RX0, "best", "(I)I"⟩
def dkwX0_best_2 : List UInt8 := [167, 0, 4, 29, 62, 28, 42, 27, 182, 0, 208, 184, 0, 161, 61, 132, 4, 1, 167, 255, 214, 29, 172]
abbrev dktX0_best_2 : List UInt8 := dkwX0_best_2 ++ []
def dkwX0_best_1 : List UInt8 := [8, 162, 0, 42, 42, 21, 4, 3, 182, 0, 197, 42, 27, 182, 0, 208, 28, 162, 0, 8, 21, 4]
abbrev dktX0_best_1 : List UInt8 := dkwX0_best_1 ++ dktX0_best_2
def dkwX0_best_0 : List UInt8 := [27, 133, 9, 20, 0, 107, 184, 0, 3, 154, 0, 5, 2, 172, 18, 156, 61, 3, 62, 3, 54, 4, 21, 4]
abbrev dktX0_best_0 : List UInt8 := dkwX0_best_0 ++ dktX0_best_1
theorem dksX0_best_0 : cX0_best.data.toList.drop 0 = dktX0_best_0 := by decide +kernel
theorem dksX0_best_1 : cX0_best.data.toList.drop 24 = dktX0_best_1 := dk_seg dksX0_best_0 24 rfl rfl
theorem dksX0_best_2 : cX0_best.data.toList.drop 46 = dktX0_best_2 := dk_seg dksX0_best_1 22 rfl rfl
theorem dX0_best_0 : decode cX0_best 0 = .ok (.iload_n 1, 1) := dk_27 (dk_at dksX0_best_0 0 rfl rfl)
theorem dX0_best_1 : decode cX0_best 1 = .ok (.i2l, 1) := dk_133 (dk_at dksX0_best_0 1 rfl rfl)
theorem dX0_best_2 : decode cX0_best 2 = .ok (.lconst 0, 1) := dk_9 (dk_at dksX0_best_0 2 rfl rfl)
theorem dX0_best_3 : decode cX0_best 3 = .ok (.ldc2_w 107, 3) := dk_20 0 107 (dk_at dksX0_best_0 3 rfl rfl)
theorem dX0_best_6 : decode cX0_best 6 = .ok (.invokestatic 3, 3) := dk_184 0 3 (dk_at dksX0_best_0 6 rfl rfl)
theorem dX0_best_9 : decode cX0_best 9 = .ok (.ifCond .ne 5, 3) := dk_154 0 5 (dk_at dksX0_best_0 9 rfl rfl)
theorem dX0_best_12 : decode cX0_best 12 = .ok (.iconst (-1), 1) := dk_2 (dk_at dksX0_best_0 12 rfl rfl)
theorem dX0_best_13 : decode cX0_best 13 = .ok (.ireturn, 1) := dk_172 (dk_at dksX0_best_0 13 rfl rfl)
theorem dX0_best_14 : decode cX0_best 14 = .ok (.ldc 156, 2) := dk_18 156 (dk_at dksX0_best_0 14 rfl rfl)
theorem dX0_best_16 : decode cX0_best 16 = .ok (.istore_n 2, 1) := dk_61 (dk_at dksX0_best_0 16 rfl rfl)
theorem dX0_best_17 : decode cX0_best 17 = .ok (.iconst 0, 1) := dk_3 (dk_at dksX0_best_0 17 rfl rfl)
theorem dX0_best_18 : decode cX0_best 18 = .ok (.istore_n 3, 1) := dk_62 (dk_at dksX0_best_0 18 rfl rfl)
theorem dX0_best_19 : decode cX0_best 19 = .ok (.iconst 0, 1) := dk_3 (dk_at dksX0_best_0 19 rfl rfl)
theorem dX0_best_20 : decode cX0_best 20 = .ok (.istore 4, 2) := dk_54 4 (dk_at dksX0_best_0 20 rfl rfl)
theorem dX0_best_22 : decode cX0_best 22 = .ok (.iload 4, 2) := dk_21 4 (dk_at dksX0_best_0 22 rfl rfl)
theorem dX0_best_24 : decode cX0_best 24 = .ok (.iconst 5, 1) := dk_8 (dk_at dksX0_best_1 0 rfl rfl)
theorem dX0_best_25 : decode cX0_best 25 = .ok (.if_icmp .ge 42, 3) := dk_162 0 42 (dk_at dksX0_best_1 1 rfl rfl)
theorem dX0_best_28 : decode cX0_best 28 = .ok (.aload_n 0, 1) := dk_42 (dk_at dksX0_best_1 4 rfl rfl)
theorem dX0_best_29 : decode cX0_best 29 = .ok (.iload 4, 2) := dk_21 4 (dk_at dksX0_best_1 5 rfl rfl)
theorem dX0_best_31 : decode cX0_best 31 = .ok (.iconst 0, 1) := dk_3 (dk_at dksX0_best_1 7 rfl rfl)
theorem dX0_best_32 : decode cX0_best 32 = .ok (.invokevirtual 197, 3) := dk_182 0 197 (dk_at dksX0_best_1 8 rfl rfl)
theorem dX0_best_35 : decode cX0_best 35 = .ok (.aload_n 0, 1) := dk_42 (dk_at dksX0_best_1 11 rfl rfl)
theorem dX0_best_36 : decode cX0_best 36 = .ok (.iload_n 1, 1) := dk_27 (dk_at dksX0_best_1 12 rfl rfl)
theorem dX0_best_37 : decode cX0_best 37 = .ok (.invokevirtual 208, 3) := dk_182 0 208 (dk_at dksX0_best_1 13 rfl rfl)
theorem dX0_best_40 : decode cX0_best 40 = .ok (.iload_n 2, 1) := dk_28 (dk_at dksX0_best_1 16 rfl rfl)
theorem dX0_best_41 : decode cX0_best 41 = .ok (.if_icmp .ge 8, 3) := dk_162 0 8 (dk_at dksX0_best_1 17 rfl rfl)
theorem dX0_best_44 : decode cX0_best 44 = .ok (.iload 4, 2) := dk_21 4 (dk_at dksX0_best_1 20 rfl rfl)
theorem dX0_best_46 : decode cX0_best 46 = .ok (.goto 4, 3) := dk_167 0 4 (dk_at dksX0_best_2 0 rfl rfl)
theorem dX0_best_49 : decode cX0_best 49 = .ok (.iload_n 3, 1) := dk_29 (dk_at dksX0_best_2 3 rfl rfl)
theorem dX0_best_50 : decode cX0_best 50 = .ok (.istore_n 3, 1) := dk_62 (dk_at dksX0_best_2 4 rfl rfl)
theorem dX0_best_51 : decode cX0_best 51 = .ok (.iload_n 2, 1) := dk_28 (dk_at dksX0_best_2 5 rfl rfl)
theorem dX0_best_52 : decode cX0_best 52 = .ok (.aload_n 0, 1) := dk_42 (dk_at dksX0_best_2 6 rfl rfl)
theorem dX0_best_53 : decode cX0_best 53 = .ok (.iload_n 1, 1) := dk_27 (dk_at dksX0_best_2 7 rfl rfl)
theorem dX0_best_54 : decode cX0_best 54 = .ok (.invokevirtual 208, 3) := dk_182 0 208 (dk_at dksX0_best_2 8 rfl rfl)
theorem dX0_best_57 : decode cX0_best 57 = .ok (.invokestatic 161, 3) := dk_184 0 161 (dk_at dksX0_best_2 11 rfl rfl)
theorem dX0_best_60 : decode cX0_best 60 = .ok (.istore_n 2, 1) := dk_61 (dk_at dksX0_best_2 14 rfl rfl)
theorem dX0_best_61 : decode cX0_best 61 = .ok (.iinc 4 1, 3) := dk_132 4 1 (dk_at dksX0_best_2 15 rfl rfl)
theorem dX0_best_64 : decode cX0_best 64 = .ok (.goto (-42), 3) := dk_167 255 214 (dk_at dksX0_best_2 18 rfl rfl)
theorem dX0_best_67 : decode cX0_best 67 = .ok (.iload_n 3, 1) := dk_29 (dk_at dksX0_best_2 21 rfl rfl)
theorem dX0_best_68 : decode cX0_best 68 = .ok (.ireturn, 1) := dk_172 (dk_at dksX0_best_2 22 rfl rfl)
abbrev cX0_order : ByteArray := prog_1_method_31_code
def yX0_order : MethodName := ⟨RX0, "order", "(I)I"⟩
def dkwX0_order_2 : List UInt8 := [27, 154, 0, 10, 42, 180, 0, 217, 167, 0, 12, 42, 180, 0, 220, 27, 16, 10, 100, 46, 172]
abbrev dktX0_order_2 : List UInt8 := dkwX0_order_2 ++ []
def dkwX0_order_1 : List UInt8 := [154, 0, 5, 2, 172, 42, 18, 156, 181, 0, 217, 42, 3, 4, 42, 180, 0, 49, 120, 4, 100, 182, 0, 223]
abbrev dktX0_order_1 : List UInt8 := dkwX0_order_1 ++ dktX0_order_2
def dkwX0_order_0 : List UInt8 := [27, 153, 0, 26, 27, 133, 20, 0, 226, 16, 10, 42, 180, 0, 49, 96, 4, 100, 133, 184, 0, 3]
abbrev dktX0_order_0 : List UInt8 := dkwX0_order_0 ++ dktX0_order_1
theorem dksX0_order_0 : cX0_order.data.toList.drop 0 = dktX0_order_0 := by decide +kernel
theorem dksX0_order_1 : cX0_order.data.toList.drop 22 = dktX0_order_1 := dk_seg dksX0_order_0 22 rfl rfl
theorem dksX0_order_2 : cX0_order.data.toList.drop 46 = dktX0_order_2 := dk_seg dksX0_order_1 24 rfl rfl
theorem dX0_order_0 : decode cX0_order 0 = .ok (.iload_n 1, 1) := dk_27 (dk_at dksX0_order_0 0 rfl rfl)
theorem dX0_order_1 : decode cX0_order 1 = .ok (.ifCond .eq 26, 3) := dk_153 0 26 (dk_at dksX0_order_0 1 rfl rfl)
theorem dX0_order_4 : decode cX0_order 4 = .ok (.iload_n 1, 1) := dk_27 (dk_at dksX0_order_0 4 rfl rfl)
theorem dX0_order_5 : decode cX0_order 5 = .ok (.i2l, 1) := dk_133 (dk_at dksX0_order_0 5 rfl rfl)
theorem dX0_order_6 : decode cX0_order 6 = .ok (.ldc2_w 226, 3) := dk_20 0 226 (dk_at dksX0_order_0 6 rfl rfl)
theorem dX0_order_9 : decode cX0_order 9 = .ok (.bipush 10, 2) := dk_16 10 (dk_at dksX0_order_0 9 rfl rfl)
theorem dX0_order_11 : decode cX0_order 11 = .ok (.aload_n 0, 1) := dk_42 (dk_at dksX0_order_0 11 rfl rfl)
theorem dX0_order_12 : decode cX0_order 12 = .ok (.getfield 49, 3) := dk_180 0 49 (dk_at dksX0_order_0 12 rfl rfl)
theorem dX0_order_15 : decode cX0_order 15 = .ok (.iadd, 1) := dk_96 (dk_at dksX0_order_0 15 rfl rfl)
theorem dX0_order_16 : decode cX0_order 16 = .ok (.iconst 1, 1) := dk_4 (dk_at dksX0_order_0 16 rfl rfl)
theorem dX0_order_17 : decode cX0_order 17 = .ok (.isub, 1) := dk_100 (dk_at dksX0_order_0 17 rfl rfl)
theorem dX0_order_18 : decode cX0_order 18 = .ok (.i2l, 1) := dk_133 (dk_at dksX0_order_0 18 rfl rfl)
theorem dX0_order_19 : decode cX0_order 19 = .ok (.invokestatic 3, 3) := dk_184 0 3 (dk_at dksX0_order_0 19 rfl rfl)
theorem dX0_order_22 : decode cX0_order 22 = .ok (.ifCond .ne 5, 3) := dk_154 0 5 (dk_at dksX0_order_1 0 rfl rfl)
theorem dX0_order_25 : decode cX0_order 25 = .ok (.iconst (-1), 1) := dk_2 (dk_at dksX0_order_1 3 rfl rfl)
theorem dX0_order_26 : decode cX0_order 26 = .ok (.ireturn, 1) := dk_172 (dk_at dksX0_order_1 4 rfl rfl)
theorem dX0_order_27 : decode cX0_order 27 = .ok (.aload_n 0, 1) := dk_42 (dk_at dksX0_order_1 5 rfl rfl)
theorem dX0_order_28 : decode cX0_order 28 = .ok (.ldc 156, 2) := dk_18 156 (dk_at dksX0_order_1 6 rfl rfl)
theorem dX0_order_30 : decode cX0_order 30 = .ok (.putfield 217, 3) := dk_181 0 217 (dk_at dksX0_order_1 8 rfl rfl)
theorem dX0_order_33 : decode cX0_order 33 = .ok (.aload_n 0, 1) := dk_42 (dk_at dksX0_order_1 11 rfl rfl)
theorem dX0_order_34 : decode cX0_order 34 = .ok (.iconst 0, 1) := dk_3 (dk_at dksX0_order_1 12 rfl rfl)
theorem dX0_order_35 : decode cX0_order 35 = .ok (.iconst 1, 1) := dk_4 (dk_at dksX0_order_1 13 rfl rfl)
theorem dX0_order_36 : decode cX0_order 36 = .ok (.aload_n 0, 1) := dk_42 (dk_at dksX0_order_1 14 rfl rfl)
theorem dX0_order_37 : decode cX0_order 37 = .ok (.getfield 49, 3) := dk_180 0 49 (dk_at dksX0_order_1 15 rfl rfl)
theorem dX0_order_40 : decode cX0_order 40 = .ok (.ishl, 1) := dk_120 (dk_at dksX0_order_1 18 rfl rfl)
theorem dX0_order_41 : decode cX0_order 41 = .ok (.iconst 1, 1) := dk_4 (dk_at dksX0_order_1 19 rfl rfl)
theorem dX0_order_42 : decode cX0_order 42 = .ok (.isub, 1) := dk_100 (dk_at dksX0_order_1 20 rfl rfl)
theorem dX0_order_43 : decode cX0_order 43 = .ok (.invokevirtual 223, 3) := dk_182 0 223 (dk_at dksX0_order_1 21 rfl rfl)
theorem dX0_order_46 : decode cX0_order 46 = .ok (.iload_n 1, 1) := dk_27 (dk_at dksX0_order_2 0 rfl rfl)
theorem dX0_order_47 : decode cX0_order 47 = .ok (.ifCond .ne 10, 3) := dk_154 0 10 (dk_at dksX0_order_2 1 rfl rfl)
theorem dX0_order_50 : decode cX0_order 50 = .ok (.aload_n 0, 1) := dk_42 (dk_at dksX0_order_2 4 rfl rfl)
theorem dX0_order_51 : decode cX0_order 51 = .ok (.getfield 217, 3) := dk_180 0 217 (dk_at dksX0_order_2 5 rfl rfl)
theorem dX0_order_54 : decode cX0_order 54 = .ok (.goto 12, 3) := dk_167 0 12 (dk_at dksX0_order_2 8 rfl rfl)
theorem dX0_order_57 : decode cX0_order 57 = .ok (.aload_n 0, 1) := dk_42 (dk_at dksX0_order_2 11 rfl rfl)
theorem dX0_order_58 : decode cX0_order 58 = .ok (.getfield 220, 3) := dk_180 0 220 (dk_at dksX0_order_2 12 rfl rfl)
theorem dX0_order_61 : decode cX0_order 61 = .ok (.iload_n 1, 1) := dk_27 (dk_at dksX0_order_2 15 rfl rfl)
theorem dX0_order_62 : decode cX0_order 62 = .ok (.bipush 10, 2) := dk_16 10 (dk_at dksX0_order_2 16 rfl rfl)
theorem dX0_order_64 : decode cX0_order 64 = .ok (.isub, 1) := dk_100 (dk_at dksX0_order_2 18 rfl rfl)
theorem dX0_order_65 : decode cX0_order 65 = .ok (.iaload, 1) := dk_46 (dk_at dksX0_order_2 19 rfl rfl)
theorem dX0_order_66 : decode cX0_order 66 = .ok (.ireturn, 1) := dk_172 (dk_at dksX0_order_2 20 rfl rfl)
abbrev cX0_orders : ByteArray := prog_1_method_30_code
def yX0_orders : MethodName := ⟨RX0, "orders", "(II)V"⟩
def dkwX0_orders_3 : List UInt8 := [96, 28, 4, 29, 120, 2, 130, 126, 182, 0, 223, 132, 3, 1, 167, 255, 216, 177]
abbrev dktX0_orders_3 : List UInt8 := dkwX0_orders_3 ++ []
def dkwX0_orders_2 : List UInt8 := [180, 0, 49, 162, 0, 38, 28, 29, 184, 0, 157, 153, 0, 24, 42, 180, 0, 211, 27, 29, 79, 42, 27, 4]
abbrev dktX0_orders_2 : List UInt8 := dkwX0_orders_2 ++ dktX0_orders_3
def dkwX0_orders_1 : List UInt8 := [181, 0, 217, 42, 180, 0, 211, 3, 42, 180, 0, 220, 3, 16, 6, 184, 0, 17, 3, 62, 29, 42]
abbrev dktX0_orders_1 : List UInt8 := dkwX0_orders_1 ++ dktX0_orders_2
def dkwX0_orders_0 : List UInt8 := [27, 42, 180, 0, 49, 160, 0, 36, 42, 182, 0, 214, 62, 29, 42, 180, 0, 217, 162, 0, 23, 42, 29]
abbrev dktX0_orders_0 : List UInt8 := dkwX0_orders_0 ++ dktX0_orders_1
theorem dksX0_orders_0 : cX0_orders.data.toList.drop 0 = dktX0_orders_0 := by decide +kernel
theorem dksX0_orders_1 : cX0_orders.data.toList.drop 23 = dktX0_orders_1 := dk_seg dksX0_orders_0 23 rfl rfl
theorem dksX0_orders_2 : cX0_orders.data.toList.drop 45 = dktX0_orders_2 := dk_seg dksX0_orders_1 22 rfl rfl
theorem dksX0_orders_3 : cX0_orders.data.toList.drop 69 = dktX0_orders_3 := dk_seg dksX0_orders_2 24 rfl rfl
theorem dX0_orders_0 : decode cX0_orders 0 = .ok (.iload_n 1, 1) := dk_27 (dk_at dksX0_orders_0 0 rfl rfl)
theorem dX0_orders_1 : decode cX0_orders 1 = .ok (.aload_n 0, 1) := dk_42 (dk_at dksX0_orders_0 1 rfl rfl)
theorem dX0_orders_2 : decode cX0_orders 2 = .ok (.getfield 49, 3) := dk_180 0 49 (dk_at dksX0_orders_0 2 rfl rfl)
theorem dX0_orders_5 : decode cX0_orders 5 = .ok (.if_icmp .ne 36, 3) := dk_160 0 36 (dk_at dksX0_orders_0 5 rfl rfl)
theorem dX0_orders_8 : decode cX0_orders 8 = .ok (.aload_n 0, 1) := dk_42 (dk_at dksX0_orders_0 8 rfl rfl)
theorem dX0_orders_9 : decode cX0_orders 9 = .ok (.invokevirtual 214, 3) := dk_182 0 214 (dk_at dksX0_orders_0 9 rfl rfl)
theorem dX0_orders_12 : decode cX0_orders 12 = .ok (.istore_n 3, 1) := dk_62 (dk_at dksX0_orders_0 12 rfl rfl)
theorem dX0_orders_13 : decode cX0_orders 13 = .ok (.iload_n 3, 1) := dk_29 (dk_at dksX0_orders_0 13 rfl rfl)
theorem dX0_orders_14 : decode cX0_orders 14 = .ok (.aload_n 0, 1) := dk_42 (dk_at dksX0_orders_0 14 rfl rfl)
theorem dX0_orders_15 : decode cX0_orders 15 = .ok (.getfield 217, 3) := dk_180 0 217 (dk_at dksX0_orders_0 15 rfl rfl)
theorem dX0_orders_18 : decode cX0_orders 18 = .ok (.if_icmp .ge 23, 3) := dk_162 0 23 (dk_at dksX0_orders_0 18 rfl rfl)
theorem dX0_orders_21 : decode cX0_orders 21 = .ok (.aload_n 0, 1) := dk_42 (dk_at dksX0_orders_0 21 rfl rfl)
theorem dX0_orders_22 : decode cX0_orders 22 = .ok (.iload_n 3, 1) := dk_29 (dk_at dksX0_orders_0 22 rfl rfl)
theorem dX0_orders_23 : decode cX0_orders 23 = .ok (.putfield 217, 3) := dk_181 0 217 (dk_at dksX0_orders_1 0 rfl rfl)
theorem dX0_orders_26 : decode cX0_orders 26 = .ok (.aload_n 0, 1) := dk_42 (dk_at dksX0_orders_1 3 rfl rfl)
theorem dX0_orders_27 : decode cX0_orders 27 = .ok (.getfield 211, 3) := dk_180 0 211 (dk_at dksX0_orders_1 4 rfl rfl)
theorem dX0_orders_30 : decode cX0_orders 30 = .ok (.iconst 0, 1) := dk_3 (dk_at dksX0_orders_1 7 rfl rfl)
theorem dX0_orders_31 : decode cX0_orders 31 = .ok (.aload_n 0, 1) := dk_42 (dk_at dksX0_orders_1 8 rfl rfl)
theorem dX0_orders_32 : decode cX0_orders 32 = .ok (.getfield 220, 3) := dk_180 0 220 (dk_at dksX0_orders_1 9 rfl rfl)
theorem dX0_orders_35 : decode cX0_orders 35 = .ok (.iconst 0, 1) := dk_3 (dk_at dksX0_orders_1 12 rfl rfl)
theorem dX0_orders_36 : decode cX0_orders 36 = .ok (.bipush 6, 2) := dk_16 6 (dk_at dksX0_orders_1 13 rfl rfl)
theorem dX0_orders_38 : decode cX0_orders 38 = .ok (.invokestatic 17, 3) := dk_184 0 17 (dk_at dksX0_orders_1 15 rfl rfl)
theorem dX0_orders_41 : decode cX0_orders 41 = .ok (.iconst 0, 1) := dk_3 (dk_at dksX0_orders_1 18 rfl rfl)
theorem dX0_orders_42 : decode cX0_orders 42 = .ok (.istore_n 3, 1) := dk_62 (dk_at dksX0_orders_1 19 rfl rfl)
theorem dX0_orders_43 : decode cX0_orders 43 = .ok (.iload_n 3, 1) := dk_29 (dk_at dksX0_orders_1 20 rfl rfl)
theorem dX0_orders_44 : decode cX0_orders 44 = .ok (.aload_n 0, 1) := dk_42 (dk_at dksX0_orders_1 21 rfl rfl)
theorem dX0_orders_45 : decode cX0_orders 45 = .ok (.getfield 49, 3) := dk_180 0 49 (dk_at dksX0_orders_2 0 rfl rfl)
theorem dX0_orders_48 : decode cX0_orders 48 = .ok (.if_icmp .ge 38, 3) := dk_162 0 38 (dk_at dksX0_orders_2 3 rfl rfl)
theorem dX0_orders_51 : decode cX0_orders 51 = .ok (.iload_n 2, 1) := dk_28 (dk_at dksX0_orders_2 6 rfl rfl)
theorem dX0_orders_52 : decode cX0_orders 52 = .ok (.iload_n 3, 1) := dk_29 (dk_at dksX0_orders_2 7 rfl rfl)
theorem dX0_orders_53 : decode cX0_orders 53 = .ok (.invokestatic 157, 3) := dk_184 0 157 (dk_at dksX0_orders_2 8 rfl rfl)
theorem dX0_orders_56 : decode cX0_orders 56 = .ok (.ifCond .eq 24, 3) := dk_153 0 24 (dk_at dksX0_orders_2 11 rfl rfl)
theorem dX0_orders_59 : decode cX0_orders 59 = .ok (.aload_n 0, 1) := dk_42 (dk_at dksX0_orders_2 14 rfl rfl)
theorem dX0_orders_60 : decode cX0_orders 60 = .ok (.getfield 211, 3) := dk_180 0 211 (dk_at dksX0_orders_2 15 rfl rfl)
theorem dX0_orders_63 : decode cX0_orders 63 = .ok (.iload_n 1, 1) := dk_27 (dk_at dksX0_orders_2 18 rfl rfl)
theorem dX0_orders_64 : decode cX0_orders 64 = .ok (.iload_n 3, 1) := dk_29 (dk_at dksX0_orders_2 19 rfl rfl)
theorem dX0_orders_65 : decode cX0_orders 65 = .ok (.iastore, 1) := dk_79 (dk_at dksX0_orders_2 20 rfl rfl)
theorem dX0_orders_66 : decode cX0_orders 66 = .ok (.aload_n 0, 1) := dk_42 (dk_at dksX0_orders_2 21 rfl rfl)
theorem dX0_orders_67 : decode cX0_orders 67 = .ok (.iload_n 1, 1) := dk_27 (dk_at dksX0_orders_2 22 rfl rfl)
theorem dX0_orders_68 : decode cX0_orders 68 = .ok (.iconst 1, 1) := dk_4 (dk_at dksX0_orders_2 23 rfl rfl)
theorem dX0_orders_69 : decode cX0_orders 69 = .ok (.iadd, 1) := dk_96 (dk_at dksX0_orders_3 0 rfl rfl)
theorem dX0_orders_70 : decode cX0_orders 70 = .ok (.iload_n 2, 1) := dk_28 (dk_at dksX0_orders_3 1 rfl rfl)
theorem dX0_orders_71 : decode cX0_orders 71 = .ok (.iconst 1, 1) := dk_4 (dk_at dksX0_orders_3 2 rfl rfl)
theorem dX0_orders_72 : decode cX0_orders 72 = .ok (.iload_n 3, 1) := dk_29 (dk_at dksX0_orders_3 3 rfl rfl)
theorem dX0_orders_73 : decode cX0_orders 73 = .ok (.ishl, 1) := dk_120 (dk_at dksX0_orders_3 4 rfl rfl)
theorem dX0_orders_74 : decode cX0_orders 74 = .ok (.iconst (-1), 1) := dk_2 (dk_at dksX0_orders_3 5 rfl rfl)
theorem dX0_orders_75 : decode cX0_orders 75 = .ok (.ixor, 1) := dk_130 (dk_at dksX0_orders_3 6 rfl rfl)
theorem dX0_orders_76 : decode cX0_orders 76 = .ok (.iand, 1) := dk_126 (dk_at dksX0_orders_3 7 rfl rfl)
theorem dX0_orders_77 : decode cX0_orders 77 = .ok (.invokevirtual 223, 3) := dk_182 0 223 (dk_at dksX0_orders_3 8 rfl rfl)
theorem dX0_orders_80 : decode cX0_orders 80 = .ok (.iinc 3 1, 3) := dk_132 3 1 (dk_at dksX0_orders_3 11 rfl rfl)
theorem dX0_orders_83 : decode cX0_orders 83 = .ok (.goto (-40), 3) := dk_167 255 216 (dk_at dksX0_orders_3 14 rfl rfl)
theorem dX0_orders_86 : decode cX0_orders 86 = .ok (.return_, 1) := dk_177 (dk_at dksX0_orders_3 17 rfl rfl)
abbrev cX0_costOfRow : ByteArray := prog_1_method_29_code
def yX0_costOfRow : MethodName := ⟨RX0, "costOfRow", "()I"⟩
def dkwX0_costOfRow_1 : List UInt8 := [132, 1, 1, 167, 255, 235, 42, 182, 0, 201, 172]
abbrev dktX0_costOfRow_1 : List UInt8 := dkwX0_costOfRow_1 ++ []
def dkwX0_costOfRow_0 : List UInt8 := [42, 182, 0, 173, 3, 60, 27, 42, 180, 0, 49, 162, 0, 19, 42, 42, 180, 0, 211, 27, 46, 182, 0, 193]
abbrev dktX0_costOfRow_0 : List UInt8 := dkwX0_costOfRow_0 ++ dktX0_costOfRow_1
theorem dksX0_costOfRow_0 : cX0_costOfRow.data.toList.drop 0 = dktX0_costOfRow_0 := by decide +kernel
theorem dksX0_costOfRow_1 : cX0_costOfRow.data.toList.drop 24 = dktX0_costOfRow_1 := dk_seg dksX0_costOfRow_0 24 rfl rfl
theorem dX0_costOfRow_0 : decode cX0_costOfRow 0 = .ok (.aload_n 0, 1) := dk_42 (dk_at dksX0_costOfRow_0 0 rfl rfl)
theorem dX0_costOfRow_1 : decode cX0_costOfRow 1 = .ok (.invokevirtual 173, 3) := dk_182 0 173 (dk_at dksX0_costOfRow_0 1 rfl rfl)
theorem dX0_costOfRow_4 : decode cX0_costOfRow 4 = .ok (.iconst 0, 1) := dk_3 (dk_at dksX0_costOfRow_0 4 rfl rfl)
theorem dX0_costOfRow_5 : decode cX0_costOfRow 5 = .ok (.istore_n 1, 1) := dk_60 (dk_at dksX0_costOfRow_0 5 rfl rfl)
theorem dX0_costOfRow_6 : decode cX0_costOfRow 6 = .ok (.iload_n 1, 1) := dk_27 (dk_at dksX0_costOfRow_0 6 rfl rfl)
theorem dX0_costOfRow_7 : decode cX0_costOfRow 7 = .ok (.aload_n 0, 1) := dk_42 (dk_at dksX0_costOfRow_0 7 rfl rfl)
theorem dX0_costOfRow_8 : decode cX0_costOfRow 8 = .ok (.getfield 49, 3) := dk_180 0 49 (dk_at dksX0_costOfRow_0 8 rfl rfl)
theorem dX0_costOfRow_11 : decode cX0_costOfRow 11 = .ok (.if_icmp .ge 19, 3) := dk_162 0 19 (dk_at dksX0_costOfRow_0 11 rfl rfl)
theorem dX0_costOfRow_14 : decode cX0_costOfRow 14 = .ok (.aload_n 0, 1) := dk_42 (dk_at dksX0_costOfRow_0 14 rfl rfl)
theorem dX0_costOfRow_15 : decode cX0_costOfRow 15 = .ok (.aload_n 0, 1) := dk_42 (dk_at dksX0_costOfRow_0 15 rfl rfl)
theorem dX0_costOfRow_16 : decode cX0_costOfRow 16 = .ok (.getfield 211, 3) := dk_180 0 211 (dk_at dksX0_costOfRow_0 16 rfl rfl)
theorem dX0_costOfRow_19 : decode cX0_costOfRow 19 = .ok (.iload_n 1, 1) := dk_27 (dk_at dksX0_costOfRow_0 19 rfl rfl)
theorem dX0_costOfRow_20 : decode cX0_costOfRow 20 = .ok (.iaload, 1) := dk_46 (dk_at dksX0_costOfRow_0 20 rfl rfl)
theorem dX0_costOfRow_21 : decode cX0_costOfRow 21 = .ok (.invokevirtual 193, 3) := dk_182 0 193 (dk_at dksX0_costOfRow_0 21 rfl rfl)
theorem dX0_costOfRow_24 : decode cX0_costOfRow 24 = .ok (.iinc 1 1, 3) := dk_132 1 1 (dk_at dksX0_costOfRow_1 0 rfl rfl)
theorem dX0_costOfRow_27 : decode cX0_costOfRow 27 = .ok (.goto (-21), 3) := dk_167 255 235 (dk_at dksX0_costOfRow_1 3 rfl rfl)
theorem dX0_costOfRow_30 : decode cX0_costOfRow 30 = .ok (.aload_n 0, 1) := dk_42 (dk_at dksX0_costOfRow_1 6 rfl rfl)
theorem dX0_costOfRow_31 : decode cX0_costOfRow 31 = .ok (.invokevirtual 201, 3) := dk_182 0 201 (dk_at dksX0_costOfRow_1 7 rfl rfl)
theorem dX0_costOfRow_34 : decode cX0_costOfRow 34 = .ok (.ireturn, 1) := dk_172 (dk_at dksX0_costOfRow_1 10 rfl rfl)
abbrev cX0_firsts : ByteArray := prog_1_method_32_code
def yX0_firsts : MethodName := ⟨RX0, "firsts", "(I)I"⟩
def dkwX0_firsts_2 : List UInt8 := [132, 3, 1, 167, 255, 222, 28, 172]
abbrev dktX0_firsts_2 : List UInt8 := dkwX0_firsts_2 ++ []
def dkwX0_firsts_1 : List UInt8 := [182, 0, 197, 28, 42, 180, 0, 182, 3, 46, 27, 160, 0, 9, 4, 29, 120, 167, 0, 4, 3, 128, 61]
abbrev dktX0_firsts_1 : List UInt8 := dkwX0_firsts_1 ++ dktX0_firsts_2
def dkwX0_firsts_0 : List UInt8 := [42, 27, 182, 0, 86, 154, 0, 5, 2, 172, 3, 61, 3, 62, 29, 8, 162, 0, 35, 42, 29, 3]
abbrev dktX0_firsts_0 : List UInt8 := dkwX0_firsts_0 ++ dktX0_firsts_1
theorem dksX0_firsts_0 : cX0_firsts.data.toList.drop 0 = dktX0_firsts_0 := by decide +kernel
theorem dksX0_firsts_1 : cX0_firsts.data.toList.drop 22 = dktX0_firsts_1 := dk_seg dksX0_firsts_0 22 rfl rfl
theorem dksX0_firsts_2 : cX0_firsts.data.toList.drop 45 = dktX0_firsts_2 := dk_seg dksX0_firsts_1 23 rfl rfl
theorem dX0_firsts_0 : decode cX0_firsts 0 = .ok (.aload_n 0, 1) := dk_42 (dk_at dksX0_firsts_0 0 rfl rfl)
theorem dX0_firsts_1 : decode cX0_firsts 1 = .ok (.iload_n 1, 1) := dk_27 (dk_at dksX0_firsts_0 1 rfl rfl)
theorem dX0_firsts_2 : decode cX0_firsts 2 = .ok (.invokevirtual 86, 3) := dk_182 0 86 (dk_at dksX0_firsts_0 2 rfl rfl)
theorem dX0_firsts_5 : decode cX0_firsts 5 = .ok (.ifCond .ne 5, 3) := dk_154 0 5 (dk_at dksX0_firsts_0 5 rfl rfl)
theorem dX0_firsts_8 : decode cX0_firsts 8 = .ok (.iconst (-1), 1) := dk_2 (dk_at dksX0_firsts_0 8 rfl rfl)
theorem dX0_firsts_9 : decode cX0_firsts 9 = .ok (.ireturn, 1) := dk_172 (dk_at dksX0_firsts_0 9 rfl rfl)
theorem dX0_firsts_10 : decode cX0_firsts 10 = .ok (.iconst 0, 1) := dk_3 (dk_at dksX0_firsts_0 10 rfl rfl)
theorem dX0_firsts_11 : decode cX0_firsts 11 = .ok (.istore_n 2, 1) := dk_61 (dk_at dksX0_firsts_0 11 rfl rfl)
theorem dX0_firsts_12 : decode cX0_firsts 12 = .ok (.iconst 0, 1) := dk_3 (dk_at dksX0_firsts_0 12 rfl rfl)
theorem dX0_firsts_13 : decode cX0_firsts 13 = .ok (.istore_n 3, 1) := dk_62 (dk_at dksX0_firsts_0 13 rfl rfl)
theorem dX0_firsts_14 : decode cX0_firsts 14 = .ok (.iload_n 3, 1) := dk_29 (dk_at dksX0_firsts_0 14 rfl rfl)
theorem dX0_firsts_15 : decode cX0_firsts 15 = .ok (.iconst 5, 1) := dk_8 (dk_at dksX0_firsts_0 15 rfl rfl)
theorem dX0_firsts_16 : decode cX0_firsts 16 = .ok (.if_icmp .ge 35, 3) := dk_162 0 35 (dk_at dksX0_firsts_0 16 rfl rfl)
theorem dX0_firsts_19 : decode cX0_firsts 19 = .ok (.aload_n 0, 1) := dk_42 (dk_at dksX0_firsts_0 19 rfl rfl)
theorem dX0_firsts_20 : decode cX0_firsts 20 = .ok (.iload_n 3, 1) := dk_29 (dk_at dksX0_firsts_0 20 rfl rfl)
theorem dX0_firsts_21 : decode cX0_firsts 21 = .ok (.iconst 0, 1) := dk_3 (dk_at dksX0_firsts_0 21 rfl rfl)
theorem dX0_firsts_22 : decode cX0_firsts 22 = .ok (.invokevirtual 197, 3) := dk_182 0 197 (dk_at dksX0_firsts_1 0 rfl rfl)
theorem dX0_firsts_25 : decode cX0_firsts 25 = .ok (.iload_n 2, 1) := dk_28 (dk_at dksX0_firsts_1 3 rfl rfl)
theorem dX0_firsts_26 : decode cX0_firsts 26 = .ok (.aload_n 0, 1) := dk_42 (dk_at dksX0_firsts_1 4 rfl rfl)
theorem dX0_firsts_27 : decode cX0_firsts 27 = .ok (.getfield 182, 3) := dk_180 0 182 (dk_at dksX0_firsts_1 5 rfl rfl)
theorem dX0_firsts_30 : decode cX0_firsts 30 = .ok (.iconst 0, 1) := dk_3 (dk_at dksX0_firsts_1 8 rfl rfl)
theorem dX0_firsts_31 : decode cX0_firsts 31 = .ok (.iaload, 1) := dk_46 (dk_at dksX0_firsts_1 9 rfl rfl)
theorem dX0_firsts_32 : decode cX0_firsts 32 = .ok (.iload_n 1, 1) := dk_27 (dk_at dksX0_firsts_1 10 rfl rfl)
theorem dX0_firsts_33 : decode cX0_firsts 33 = .ok (.if_icmp .ne 9, 3) := dk_160 0 9 (dk_at dksX0_firsts_1 11 rfl rfl)
theorem dX0_firsts_36 : decode cX0_firsts 36 = .ok (.iconst 1, 1) := dk_4 (dk_at dksX0_firsts_1 14 rfl rfl)
theorem dX0_firsts_37 : decode cX0_firsts 37 = .ok (.iload_n 3, 1) := dk_29 (dk_at dksX0_firsts_1 15 rfl rfl)
theorem dX0_firsts_38 : decode cX0_firsts 38 = .ok (.ishl, 1) := dk_120 (dk_at dksX0_firsts_1 16 rfl rfl)
theorem dX0_firsts_39 : decode cX0_firsts 39 = .ok (.goto 4, 3) := dk_167 0 4 (dk_at dksX0_firsts_1 17 rfl rfl)
theorem dX0_firsts_42 : decode cX0_firsts 42 = .ok (.iconst 0, 1) := dk_3 (dk_at dksX0_firsts_1 20 rfl rfl)
theorem dX0_firsts_43 : decode cX0_firsts 43 = .ok (.ior, 1) := dk_128 (dk_at dksX0_firsts_1 21 rfl rfl)
theorem dX0_firsts_44 : decode cX0_firsts 44 = .ok (.istore_n 2, 1) := dk_61 (dk_at dksX0_firsts_1 22 rfl rfl)
theorem dX0_firsts_45 : decode cX0_firsts 45 = .ok (.iinc 3 1, 3) := dk_132 3 1 (dk_at dksX0_firsts_2 0 rfl rfl)
theorem dX0_firsts_48 : decode cX0_firsts 48 = .ok (.goto (-34), 3) := dk_167 255 222 (dk_at dksX0_firsts_2 3 rfl rfl)
theorem dX0_firsts_51 : decode cX0_firsts 51 = .ok (.iload_n 2, 1) := dk_28 (dk_at dksX0_firsts_2 6 rfl rfl)
theorem dX0_firsts_52 : decode cX0_firsts 52 = .ok (.ireturn, 1) := dk_172 (dk_at dksX0_firsts_2 7 rfl rfl)
abbrev cX0_gain : ByteArray := prog_1_method_34_code
def yX0_gain : MethodName := ⟨RX0, "gain", "(I)I"⟩
def dkwX0_gain_1 : List UInt8 := [182, 0, 228, 96, 167, 0, 4, 2, 172]
abbrev dktX0_gain_1 : List UInt8 := dkwX0_gain_1 ++ []
def dkwX0_gain_0 : List UInt8 := [42, 27, 182, 0, 86, 153, 0, 24, 17, 3, 232, 42, 42, 180, 0, 33, 180, 0, 79, 6, 46, 27]
abbrev dktX0_gain_0 : List UInt8 := dkwX0_gain_0 ++ dktX0_gain_1
theorem dksX0_gain_0 : cX0_gain.data.toList.drop 0 = dktX0_gain_0 := by decide +kernel
theorem dksX0_gain_1 : cX0_gain.data.toList.drop 22 = dktX0_gain_1 := dk_seg dksX0_gain_0 22 rfl rfl
theorem dX0_gain_0 : decode cX0_gain 0 = .ok (.aload_n 0, 1) := dk_42 (dk_at dksX0_gain_0 0 rfl rfl)
theorem dX0_gain_1 : decode cX0_gain 1 = .ok (.iload_n 1, 1) := dk_27 (dk_at dksX0_gain_0 1 rfl rfl)
theorem dX0_gain_2 : decode cX0_gain 2 = .ok (.invokevirtual 86, 3) := dk_182 0 86 (dk_at dksX0_gain_0 2 rfl rfl)
theorem dX0_gain_5 : decode cX0_gain 5 = .ok (.ifCond .eq 24, 3) := dk_153 0 24 (dk_at dksX0_gain_0 5 rfl rfl)
theorem dX0_gain_8 : decode cX0_gain 8 = .ok (.sipush 1000, 3) := dk_17 3 232 (dk_at dksX0_gain_0 8 rfl rfl)
theorem dX0_gain_11 : decode cX0_gain 11 = .ok (.aload_n 0, 1) := dk_42 (dk_at dksX0_gain_0 11 rfl rfl)
theorem dX0_gain_12 : decode cX0_gain 12 = .ok (.aload_n 0, 1) := dk_42 (dk_at dksX0_gain_0 12 rfl rfl)
theorem dX0_gain_13 : decode cX0_gain 13 = .ok (.getfield 33, 3) := dk_180 0 33 (dk_at dksX0_gain_0 13 rfl rfl)
theorem dX0_gain_16 : decode cX0_gain 16 = .ok (.getfield 79, 3) := dk_180 0 79 (dk_at dksX0_gain_0 16 rfl rfl)
theorem dX0_gain_19 : decode cX0_gain 19 = .ok (.iconst 3, 1) := dk_6 (dk_at dksX0_gain_0 19 rfl rfl)
theorem dX0_gain_20 : decode cX0_gain 20 = .ok (.iaload, 1) := dk_46 (dk_at dksX0_gain_0 20 rfl rfl)
theorem dX0_gain_21 : decode cX0_gain 21 = .ok (.iload_n 1, 1) := dk_27 (dk_at dksX0_gain_0 21 rfl rfl)
theorem dX0_gain_22 : decode cX0_gain 22 = .ok (.invokevirtual 228, 3) := dk_182 0 228 (dk_at dksX0_gain_1 0 rfl rfl)
theorem dX0_gain_25 : decode cX0_gain 25 = .ok (.iadd, 1) := dk_96 (dk_at dksX0_gain_1 3 rfl rfl)
theorem dX0_gain_26 : decode cX0_gain 26 = .ok (.goto 4, 3) := dk_167 0 4 (dk_at dksX0_gain_1 4 rfl rfl)
theorem dX0_gain_29 : decode cX0_gain 29 = .ok (.iconst (-1), 1) := dk_2 (dk_at dksX0_gain_1 7 rfl rfl)
theorem dX0_gain_30 : decode cX0_gain 30 = .ok (.ireturn, 1) := dk_172 (dk_at dksX0_gain_1 8 rfl rfl)
abbrev cX0_gains : ByteArray := prog_1_method_33_code
def yX0_gains : MethodName := ⟨RX0, "gains", "(II)I"⟩
def dkwX0_gains_2 : List UInt8 := [181, 0, 83, 29, 42, 180, 0, 150, 28, 46, 100, 172]
abbrev dktX0_gains_2 : List UInt8 := dkwX0_gains_2 ++ []
def dkwX0_gains_1 : List UInt8 := [130, 181, 0, 83, 42, 27, 3, 182, 0, 197, 42, 180, 0, 33, 89, 180, 0, 83, 4, 28, 120, 130]
abbrev dktX0_gains_1 : List UInt8 := dkwX0_gains_1 ++ dktX0_gains_2
def dkwX0_gains_0 : List UInt8 := [42, 27, 3, 182, 0, 197, 42, 180, 0, 150, 28, 46, 62, 42, 180, 0, 33, 89, 180, 0, 83, 4, 28, 120]
abbrev dktX0_gains_0 : List UInt8 := dkwX0_gains_0 ++ dktX0_gains_1
theorem dksX0_gains_0 : cX0_gains.data.toList.drop 0 = dktX0_gains_0 := by decide +kernel
theorem dksX0_gains_1 : cX0_gains.data.toList.drop 24 = dktX0_gains_1 := dk_seg dksX0_gains_0 24 rfl rfl
theorem dksX0_gains_2 : cX0_gains.data.toList.drop 46 = dktX0_gains_2 := dk_seg dksX0_gains_1 22 rfl rfl
theorem dX0_gains_0 : decode cX0_gains 0 = .ok (.aload_n 0, 1) := dk_42 (dk_at dksX0_gains_0 0 rfl rfl)
theorem dX0_gains_1 : decode cX0_gains 1 = .ok (.iload_n 1, 1) := dk_27 (dk_at dksX0_gains_0 1 rfl rfl)
theorem dX0_gains_2 : decode cX0_gains 2 = .ok (.iconst 0, 1) := dk_3 (dk_at dksX0_gains_0 2 rfl rfl)
theorem dX0_gains_3 : decode cX0_gains 3 = .ok (.invokevirtual 197, 3) := dk_182 0 197 (dk_at dksX0_gains_0 3 rfl rfl)
theorem dX0_gains_6 : decode cX0_gains 6 = .ok (.aload_n 0, 1) := dk_42 (dk_at dksX0_gains_0 6 rfl rfl)
theorem dX0_gains_7 : decode cX0_gains 7 = .ok (.getfield 150, 3) := dk_180 0 150 (dk_at dksX0_gains_0 7 rfl rfl)
theorem dX0_gains_10 : decode cX0_gains 10 = .ok (.iload_n 2, 1) := dk_28 (dk_at dksX0_gains_0 10 rfl rfl)
theorem dX0_gains_11 : decode cX0_gains 11 = .ok (.iaload, 1) := dk_46 (dk_at dksX0_gains_0 11 rfl rfl)
theorem dX0_gains_12 : decode cX0_gains 12 = .ok (.istore_n 3, 1) := dk_62 (dk_at dksX0_gains_0 12 rfl rfl)
theorem dX0_gains_13 : decode cX0_gains 13 = .ok (.aload_n 0, 1) := dk_42 (dk_at dksX0_gains_0 13 rfl rfl)
theorem dX0_gains_14 : decode cX0_gains 14 = .ok (.getfield 33, 3) := dk_180 0 33 (dk_at dksX0_gains_0 14 rfl rfl)
theorem dX0_gains_17 : decode cX0_gains 17 = .ok (.dup, 1) := dk_89 (dk_at dksX0_gains_0 17 rfl rfl)
theorem dX0_gains_18 : decode cX0_gains 18 = .ok (.getfield 83, 3) := dk_180 0 83 (dk_at dksX0_gains_0 18 rfl rfl)
theorem dX0_gains_21 : decode cX0_gains 21 = .ok (.iconst 1, 1) := dk_4 (dk_at dksX0_gains_0 21 rfl rfl)
theorem dX0_gains_22 : decode cX0_gains 22 = .ok (.iload_n 2, 1) := dk_28 (dk_at dksX0_gains_0 22 rfl rfl)
theorem dX0_gains_23 : decode cX0_gains 23 = .ok (.ishl, 1) := dk_120 (dk_at dksX0_gains_0 23 rfl rfl)
theorem dX0_gains_24 : decode cX0_gains 24 = .ok (.ixor, 1) := dk_130 (dk_at dksX0_gains_1 0 rfl rfl)
theorem dX0_gains_25 : decode cX0_gains 25 = .ok (.putfield 83, 3) := dk_181 0 83 (dk_at dksX0_gains_1 1 rfl rfl)
theorem dX0_gains_28 : decode cX0_gains 28 = .ok (.aload_n 0, 1) := dk_42 (dk_at dksX0_gains_1 4 rfl rfl)
theorem dX0_gains_29 : decode cX0_gains 29 = .ok (.iload_n 1, 1) := dk_27 (dk_at dksX0_gains_1 5 rfl rfl)
theorem dX0_gains_30 : decode cX0_gains 30 = .ok (.iconst 0, 1) := dk_3 (dk_at dksX0_gains_1 6 rfl rfl)
theorem dX0_gains_31 : decode cX0_gains 31 = .ok (.invokevirtual 197, 3) := dk_182 0 197 (dk_at dksX0_gains_1 7 rfl rfl)
theorem dX0_gains_34 : decode cX0_gains 34 = .ok (.aload_n 0, 1) := dk_42 (dk_at dksX0_gains_1 10 rfl rfl)
theorem dX0_gains_35 : decode cX0_gains 35 = .ok (.getfield 33, 3) := dk_180 0 33 (dk_at dksX0_gains_1 11 rfl rfl)
theorem dX0_gains_38 : decode cX0_gains 38 = .ok (.dup, 1) := dk_89 (dk_at dksX0_gains_1 14 rfl rfl)
theorem dX0_gains_39 : decode cX0_gains 39 = .ok (.getfield 83, 3) := dk_180 0 83 (dk_at dksX0_gains_1 15 rfl rfl)
theorem dX0_gains_42 : decode cX0_gains 42 = .ok (.iconst 1, 1) := dk_4 (dk_at dksX0_gains_1 18 rfl rfl)
theorem dX0_gains_43 : decode cX0_gains 43 = .ok (.iload_n 2, 1) := dk_28 (dk_at dksX0_gains_1 19 rfl rfl)
theorem dX0_gains_44 : decode cX0_gains 44 = .ok (.ishl, 1) := dk_120 (dk_at dksX0_gains_1 20 rfl rfl)
theorem dX0_gains_45 : decode cX0_gains 45 = .ok (.ixor, 1) := dk_130 (dk_at dksX0_gains_1 21 rfl rfl)
theorem dX0_gains_46 : decode cX0_gains 46 = .ok (.putfield 83, 3) := dk_181 0 83 (dk_at dksX0_gains_2 0 rfl rfl)
theorem dX0_gains_49 : decode cX0_gains 49 = .ok (.iload_n 3, 1) := dk_29 (dk_at dksX0_gains_2 3 rfl rfl)
theorem dX0_gains_50 : decode cX0_gains 50 = .ok (.aload_n 0, 1) := dk_42 (dk_at dksX0_gains_2 4 rfl rfl)
theorem dX0_gains_51 : decode cX0_gains 51 = .ok (.getfield 150, 3) := dk_180 0 150 (dk_at dksX0_gains_2 5 rfl rfl)
theorem dX0_gains_54 : decode cX0_gains 54 = .ok (.iload_n 2, 1) := dk_28 (dk_at dksX0_gains_2 8 rfl rfl)
theorem dX0_gains_55 : decode cX0_gains 55 = .ok (.iaload, 1) := dk_46 (dk_at dksX0_gains_2 9 rfl rfl)
theorem dX0_gains_56 : decode cX0_gains 56 = .ok (.isub, 1) := dk_100 (dk_at dksX0_gains_2 10 rfl rfl)
theorem dX0_gains_57 : decode cX0_gains 57 = .ok (.ireturn, 1) := dk_172 (dk_at dksX0_gains_2 11 rfl rfl)
abbrev cX0_calm : ByteArray := prog_1_method_36_code
def yX0_calm : MethodName := ⟨RX0, "calm", "()I"⟩
def dkwX0_calm_1 : List UInt8 := [3, 128, 60, 132, 2, 1, 167, 255, 230, 27, 172]
abbrev dktX0_calm_1 : List UInt8 := dkwX0_calm_1 ++ []
def dkwX0_calm_0 : List UInt8 := [3, 60, 3, 61, 28, 8, 162, 0, 27, 27, 42, 28, 182, 0, 231, 153, 0, 9, 4, 28, 120, 167, 0, 4]
abbrev dktX0_calm_0 : List UInt8 := dkwX0_calm_0 ++ dktX0_calm_1
theorem dksX0_calm_0 : cX0_calm.data.toList.drop 0 = dktX0_calm_0 := by decide +kernel
theorem dksX0_calm_1 : cX0_calm.data.toList.drop 24 = dktX0_calm_1 := dk_seg dksX0_calm_0 24 rfl rfl
theorem dX0_calm_0 : decode cX0_calm 0 = .ok (.iconst 0, 1) := dk_3 (dk_at dksX0_calm_0 0 rfl rfl)
theorem dX0_calm_1 : decode cX0_calm 1 = .ok (.istore_n 1, 1) := dk_60 (dk_at dksX0_calm_0 1 rfl rfl)
theorem dX0_calm_2 : decode cX0_calm 2 = .ok (.iconst 0, 1) := dk_3 (dk_at dksX0_calm_0 2 rfl rfl)
theorem dX0_calm_3 : decode cX0_calm 3 = .ok (.istore_n 2, 1) := dk_61 (dk_at dksX0_calm_0 3 rfl rfl)
theorem dX0_calm_4 : decode cX0_calm 4 = .ok (.iload_n 2, 1) := dk_28 (dk_at dksX0_calm_0 4 rfl rfl)
theorem dX0_calm_5 : decode cX0_calm 5 = .ok (.iconst 5, 1) := dk_8 (dk_at dksX0_calm_0 5 rfl rfl)
theorem dX0_calm_6 : decode cX0_calm 6 = .ok (.if_icmp .ge 27, 3) := dk_162 0 27 (dk_at dksX0_calm_0 6 rfl rfl)
theorem dX0_calm_9 : decode cX0_calm 9 = .ok (.iload_n 1, 1) := dk_27 (dk_at dksX0_calm_0 9 rfl rfl)
theorem dX0_calm_10 : decode cX0_calm 10 = .ok (.aload_n 0, 1) := dk_42 (dk_at dksX0_calm_0 10 rfl rfl)
theorem dX0_calm_11 : decode cX0_calm 11 = .ok (.iload_n 2, 1) := dk_28 (dk_at dksX0_calm_0 11 rfl rfl)
theorem dX0_calm_12 : decode cX0_calm 12 = .ok (.invokevirtual 231, 3) := dk_182 0 231 (dk_at dksX0_calm_0 12 rfl rfl)
theorem dX0_calm_15 : decode cX0_calm 15 = .ok (.ifCond .eq 9, 3) := dk_153 0 9 (dk_at dksX0_calm_0 15 rfl rfl)
theorem dX0_calm_18 : decode cX0_calm 18 = .ok (.iconst 1, 1) := dk_4 (dk_at dksX0_calm_0 18 rfl rfl)
theorem dX0_calm_19 : decode cX0_calm 19 = .ok (.iload_n 2, 1) := dk_28 (dk_at dksX0_calm_0 19 rfl rfl)
theorem dX0_calm_20 : decode cX0_calm 20 = .ok (.ishl, 1) := dk_120 (dk_at dksX0_calm_0 20 rfl rfl)
theorem dX0_calm_21 : decode cX0_calm 21 = .ok (.goto 4, 3) := dk_167 0 4 (dk_at dksX0_calm_0 21 rfl rfl)
theorem dX0_calm_24 : decode cX0_calm 24 = .ok (.iconst 0, 1) := dk_3 (dk_at dksX0_calm_1 0 rfl rfl)
theorem dX0_calm_25 : decode cX0_calm 25 = .ok (.ior, 1) := dk_128 (dk_at dksX0_calm_1 1 rfl rfl)
theorem dX0_calm_26 : decode cX0_calm 26 = .ok (.istore_n 1, 1) := dk_60 (dk_at dksX0_calm_1 2 rfl rfl)
theorem dX0_calm_27 : decode cX0_calm 27 = .ok (.iinc 2 1, 3) := dk_132 2 1 (dk_at dksX0_calm_1 3 rfl rfl)
theorem dX0_calm_30 : decode cX0_calm 30 = .ok (.goto (-26), 3) := dk_167 255 230 (dk_at dksX0_calm_1 6 rfl rfl)
theorem dX0_calm_33 : decode cX0_calm 33 = .ok (.iload_n 1, 1) := dk_27 (dk_at dksX0_calm_1 9 rfl rfl)
theorem dX0_calm_34 : decode cX0_calm 34 = .ok (.ireturn, 1) := dk_172 (dk_at dksX0_calm_1 10 rfl rfl)
abbrev cX0_isCalm : ByteArray := prog_1_method_35_code
def yX0_isCalm : MethodName := ⟨RX0, "isCalm", "(I)Z"⟩
def dkwX0_isCalm_1 : List UInt8 := [157, 0, 7, 4, 167, 0, 4, 3, 61, 132, 3, 1, 167, 255, 226, 28, 172]
abbrev dktX0_isCalm_1 : List UInt8 := dkwX0_isCalm_1 ++ []
def dkwX0_isCalm_0 : List UInt8 := [4, 61, 3, 62, 29, 42, 180, 0, 49, 162, 0, 28, 28, 153, 0, 24, 42, 27, 29, 182, 0, 228]
abbrev dktX0_isCalm_0 : List UInt8 := dkwX0_isCalm_0 ++ dktX0_isCalm_1
theorem dksX0_isCalm_0 : cX0_isCalm.data.toList.drop 0 = dktX0_isCalm_0 := by decide +kernel
theorem dksX0_isCalm_1 : cX0_isCalm.data.toList.drop 22 = dktX0_isCalm_1 := dk_seg dksX0_isCalm_0 22 rfl rfl
theorem dX0_isCalm_0 : decode cX0_isCalm 0 = .ok (.iconst 1, 1) := dk_4 (dk_at dksX0_isCalm_0 0 rfl rfl)
theorem dX0_isCalm_1 : decode cX0_isCalm 1 = .ok (.istore_n 2, 1) := dk_61 (dk_at dksX0_isCalm_0 1 rfl rfl)
theorem dX0_isCalm_2 : decode cX0_isCalm 2 = .ok (.iconst 0, 1) := dk_3 (dk_at dksX0_isCalm_0 2 rfl rfl)
theorem dX0_isCalm_3 : decode cX0_isCalm 3 = .ok (.istore_n 3, 1) := dk_62 (dk_at dksX0_isCalm_0 3 rfl rfl)
theorem dX0_isCalm_4 : decode cX0_isCalm 4 = .ok (.iload_n 3, 1) := dk_29 (dk_at dksX0_isCalm_0 4 rfl rfl)
theorem dX0_isCalm_5 : decode cX0_isCalm 5 = .ok (.aload_n 0, 1) := dk_42 (dk_at dksX0_isCalm_0 5 rfl rfl)
theorem dX0_isCalm_6 : decode cX0_isCalm 6 = .ok (.getfield 49, 3) := dk_180 0 49 (dk_at dksX0_isCalm_0 6 rfl rfl)
theorem dX0_isCalm_9 : decode cX0_isCalm 9 = .ok (.if_icmp .ge 28, 3) := dk_162 0 28 (dk_at dksX0_isCalm_0 9 rfl rfl)
theorem dX0_isCalm_12 : decode cX0_isCalm 12 = .ok (.iload_n 2, 1) := dk_28 (dk_at dksX0_isCalm_0 12 rfl rfl)
theorem dX0_isCalm_13 : decode cX0_isCalm 13 = .ok (.ifCond .eq 24, 3) := dk_153 0 24 (dk_at dksX0_isCalm_0 13 rfl rfl)
theorem dX0_isCalm_16 : decode cX0_isCalm 16 = .ok (.aload_n 0, 1) := dk_42 (dk_at dksX0_isCalm_0 16 rfl rfl)
theorem dX0_isCalm_17 : decode cX0_isCalm 17 = .ok (.iload_n 1, 1) := dk_27 (dk_at dksX0_isCalm_0 17 rfl rfl)
theorem dX0_isCalm_18 : decode cX0_isCalm 18 = .ok (.iload_n 3, 1) := dk_29 (dk_at dksX0_isCalm_0 18 rfl rfl)
theorem dX0_isCalm_19 : decode cX0_isCalm 19 = .ok (.invokevirtual 228, 3) := dk_182 0 228 (dk_at dksX0_isCalm_0 19 rfl rfl)
theorem dX0_isCalm_22 : decode cX0_isCalm 22 = .ok (.ifCond .gt 7, 3) := dk_157 0 7 (dk_at dksX0_isCalm_1 0 rfl rfl)
theorem dX0_isCalm_25 : decode cX0_isCalm 25 = .ok (.iconst 1, 1) := dk_4 (dk_at dksX0_isCalm_1 3 rfl rfl)
theorem dX0_isCalm_26 : decode cX0_isCalm 26 = .ok (.goto 4, 3) := dk_167 0 4 (dk_at dksX0_isCalm_1 4 rfl rfl)
theorem dX0_isCalm_29 : decode cX0_isCalm 29 = .ok (.iconst 0, 1) := dk_3 (dk_at dksX0_isCalm_1 7 rfl rfl)
theorem dX0_isCalm_30 : decode cX0_isCalm 30 = .ok (.istore_n 2, 1) := dk_61 (dk_at dksX0_isCalm_1 8 rfl rfl)
theorem dX0_isCalm_31 : decode cX0_isCalm 31 = .ok (.iinc 3 1, 3) := dk_132 3 1 (dk_at dksX0_isCalm_1 9 rfl rfl)
theorem dX0_isCalm_34 : decode cX0_isCalm 34 = .ok (.goto (-30), 3) := dk_167 255 226 (dk_at dksX0_isCalm_1 12 rfl rfl)
theorem dX0_isCalm_37 : decode cX0_isCalm 37 = .ok (.iload_n 2, 1) := dk_28 (dk_at dksX0_isCalm_1 15 rfl rfl)
theorem dX0_isCalm_38 : decode cX0_isCalm 38 = .ok (.ireturn, 1) := dk_172 (dk_at dksX0_isCalm_1 16 rfl rfl)
abbrev cX0_rests : ByteArray := prog_1_method_37_code
def yX0_rests : MethodName := ⟨RX0, "rests", "(I)I"⟩
def dkwX0_rests_5 : List UInt8 := [21, 4, 172]
abbrev dktX0_rests_5 : List UInt8 := dkwX0_rests_5 ++ []
def dkwX0_rests_4 : List UInt8 := [62, 132, 5, 1, 167, 255, 187, 42, 180, 0, 33, 28, 181, 0, 83, 27, 154, 0, 7, 29, 167, 0, 5]
abbrev dktX0_rests_4 : List UInt8 := dkwX0_rests_4 ++ dktX0_rests_5
def dkwX0_rests_3 : List UInt8 := [154, 0, 8, 21, 5, 167, 0, 5, 21, 4, 54, 4, 29, 21, 6, 153, 0, 7, 4, 167, 0, 4, 3, 96]
abbrev dktX0_rests_3 : List UInt8 := dkwX0_rests_3 ++ dktX0_rests_4
def dkwX0_rests_2 : List UInt8 := [181, 0, 83, 42, 42, 180, 0, 33, 180, 0, 79, 6, 46, 182, 0, 231, 54, 6, 21, 6, 153, 0, 12, 29]
abbrev dktX0_rests_2 : List UInt8 := dkwX0_rests_2 ++ dktX0_rests_3
def dkwX0_rests_1 : List UInt8 := [54, 4, 3, 54, 5, 21, 5, 4, 42, 180, 0, 49, 120, 162, 0, 64, 42, 180, 0, 33, 21, 5]
abbrev dktX0_rests_1 : List UInt8 := dkwX0_rests_1 ++ dktX0_rests_2
def dkwX0_rests_0 : List UInt8 := [27, 133, 9, 10, 184, 0, 3, 154, 0, 5, 2, 172, 42, 180, 0, 33, 180, 0, 83, 61, 3, 62, 16, 252]
abbrev dktX0_rests_0 : List UInt8 := dkwX0_rests_0 ++ dktX0_rests_1
theorem dksX0_rests_0 : cX0_rests.data.toList.drop 0 = dktX0_rests_0 := by decide +kernel
theorem dksX0_rests_1 : cX0_rests.data.toList.drop 24 = dktX0_rests_1 := dk_seg dksX0_rests_0 24 rfl rfl
theorem dksX0_rests_2 : cX0_rests.data.toList.drop 46 = dktX0_rests_2 := dk_seg dksX0_rests_1 22 rfl rfl
theorem dksX0_rests_3 : cX0_rests.data.toList.drop 70 = dktX0_rests_3 := dk_seg dksX0_rests_2 24 rfl rfl
theorem dksX0_rests_4 : cX0_rests.data.toList.drop 94 = dktX0_rests_4 := dk_seg dksX0_rests_3 24 rfl rfl
theorem dksX0_rests_5 : cX0_rests.data.toList.drop 117 = dktX0_rests_5 := dk_seg dksX0_rests_4 23 rfl rfl
theorem dX0_rests_0 : decode cX0_rests 0 = .ok (.iload_n 1, 1) := dk_27 (dk_at dksX0_rests_0 0 rfl rfl)
theorem dX0_rests_1 : decode cX0_rests 1 = .ok (.i2l, 1) := dk_133 (dk_at dksX0_rests_0 1 rfl rfl)
theorem dX0_rests_2 : decode cX0_rests 2 = .ok (.lconst 0, 1) := dk_9 (dk_at dksX0_rests_0 2 rfl rfl)
theorem dX0_rests_3 : decode cX0_rests 3 = .ok (.lconst 1, 1) := dk_10 (dk_at dksX0_rests_0 3 rfl rfl)
theorem dX0_rests_4 : decode cX0_rests 4 = .ok (.invokestatic 3, 3) := dk_184 0 3 (dk_at dksX0_rests_0 4 rfl rfl)
theorem dX0_rests_7 : decode cX0_rests 7 = .ok (.ifCond .ne 5, 3) := dk_154 0 5 (dk_at dksX0_rests_0 7 rfl rfl)
theorem dX0_rests_10 : decode cX0_rests 10 = .ok (.iconst (-1), 1) := dk_2 (dk_at dksX0_rests_0 10 rfl rfl)
theorem dX0_rests_11 : decode cX0_rests 11 = .ok (.ireturn, 1) := dk_172 (dk_at dksX0_rests_0 11 rfl rfl)
theorem dX0_rests_12 : decode cX0_rests 12 = .ok (.aload_n 0, 1) := dk_42 (dk_at dksX0_rests_0 12 rfl rfl)
theorem dX0_rests_13 : decode cX0_rests 13 = .ok (.getfield 33, 3) := dk_180 0 33 (dk_at dksX0_rests_0 13 rfl rfl)
theorem dX0_rests_16 : decode cX0_rests 16 = .ok (.getfield 83, 3) := dk_180 0 83 (dk_at dksX0_rests_0 16 rfl rfl)
theorem dX0_rests_19 : decode cX0_rests 19 = .ok (.istore_n 2, 1) := dk_61 (dk_at dksX0_rests_0 19 rfl rfl)
theorem dX0_rests_20 : decode cX0_rests 20 = .ok (.iconst 0, 1) := dk_3 (dk_at dksX0_rests_0 20 rfl rfl)
theorem dX0_rests_21 : decode cX0_rests 21 = .ok (.istore_n 3, 1) := dk_62 (dk_at dksX0_rests_0 21 rfl rfl)
theorem dX0_rests_22 : decode cX0_rests 22 = .ok (.bipush (-4), 2) := dk_16 252 (dk_at dksX0_rests_0 22 rfl rfl)
theorem dX0_rests_24 : decode cX0_rests 24 = .ok (.istore 4, 2) := dk_54 4 (dk_at dksX0_rests_1 0 rfl rfl)
theorem dX0_rests_26 : decode cX0_rests 26 = .ok (.iconst 0, 1) := dk_3 (dk_at dksX0_rests_1 2 rfl rfl)
theorem dX0_rests_27 : decode cX0_rests 27 = .ok (.istore 5, 2) := dk_54 5 (dk_at dksX0_rests_1 3 rfl rfl)
theorem dX0_rests_29 : decode cX0_rests 29 = .ok (.iload 5, 2) := dk_21 5 (dk_at dksX0_rests_1 5 rfl rfl)
theorem dX0_rests_31 : decode cX0_rests 31 = .ok (.iconst 1, 1) := dk_4 (dk_at dksX0_rests_1 7 rfl rfl)
theorem dX0_rests_32 : decode cX0_rests 32 = .ok (.aload_n 0, 1) := dk_42 (dk_at dksX0_rests_1 8 rfl rfl)
theorem dX0_rests_33 : decode cX0_rests 33 = .ok (.getfield 49, 3) := dk_180 0 49 (dk_at dksX0_rests_1 9 rfl rfl)
theorem dX0_rests_36 : decode cX0_rests 36 = .ok (.ishl, 1) := dk_120 (dk_at dksX0_rests_1 12 rfl rfl)
theorem dX0_rests_37 : decode cX0_rests 37 = .ok (.if_icmp .ge 64, 3) := dk_162 0 64 (dk_at dksX0_rests_1 13 rfl rfl)
theorem dX0_rests_40 : decode cX0_rests 40 = .ok (.aload_n 0, 1) := dk_42 (dk_at dksX0_rests_1 16 rfl rfl)
theorem dX0_rests_41 : decode cX0_rests 41 = .ok (.getfield 33, 3) := dk_180 0 33 (dk_at dksX0_rests_1 17 rfl rfl)
theorem dX0_rests_44 : decode cX0_rests 44 = .ok (.iload 5, 2) := dk_21 5 (dk_at dksX0_rests_1 20 rfl rfl)
theorem dX0_rests_46 : decode cX0_rests 46 = .ok (.putfield 83, 3) := dk_181 0 83 (dk_at dksX0_rests_2 0 rfl rfl)
theorem dX0_rests_49 : decode cX0_rests 49 = .ok (.aload_n 0, 1) := dk_42 (dk_at dksX0_rests_2 3 rfl rfl)
theorem dX0_rests_50 : decode cX0_rests 50 = .ok (.aload_n 0, 1) := dk_42 (dk_at dksX0_rests_2 4 rfl rfl)
theorem dX0_rests_51 : decode cX0_rests 51 = .ok (.getfield 33, 3) := dk_180 0 33 (dk_at dksX0_rests_2 5 rfl rfl)
theorem dX0_rests_54 : decode cX0_rests 54 = .ok (.getfield 79, 3) := dk_180 0 79 (dk_at dksX0_rests_2 8 rfl rfl)
theorem dX0_rests_57 : decode cX0_rests 57 = .ok (.iconst 3, 1) := dk_6 (dk_at dksX0_rests_2 11 rfl rfl)
theorem dX0_rests_58 : decode cX0_rests 58 = .ok (.iaload, 1) := dk_46 (dk_at dksX0_rests_2 12 rfl rfl)
theorem dX0_rests_59 : decode cX0_rests 59 = .ok (.invokevirtual 231, 3) := dk_182 0 231 (dk_at dksX0_rests_2 13 rfl rfl)
theorem dX0_rests_62 : decode cX0_rests 62 = .ok (.istore 6, 2) := dk_54 6 (dk_at dksX0_rests_2 16 rfl rfl)
theorem dX0_rests_64 : decode cX0_rests 64 = .ok (.iload 6, 2) := dk_21 6 (dk_at dksX0_rests_2 18 rfl rfl)
theorem dX0_rests_66 : decode cX0_rests 66 = .ok (.ifCond .eq 12, 3) := dk_153 0 12 (dk_at dksX0_rests_2 20 rfl rfl)
theorem dX0_rests_69 : decode cX0_rests 69 = .ok (.iload_n 3, 1) := dk_29 (dk_at dksX0_rests_2 23 rfl rfl)
theorem dX0_rests_70 : decode cX0_rests 70 = .ok (.ifCond .ne 8, 3) := dk_154 0 8 (dk_at dksX0_rests_3 0 rfl rfl)
theorem dX0_rests_73 : decode cX0_rests 73 = .ok (.iload 5, 2) := dk_21 5 (dk_at dksX0_rests_3 3 rfl rfl)
theorem dX0_rests_75 : decode cX0_rests 75 = .ok (.goto 5, 3) := dk_167 0 5 (dk_at dksX0_rests_3 5 rfl rfl)
theorem dX0_rests_78 : decode cX0_rests 78 = .ok (.iload 4, 2) := dk_21 4 (dk_at dksX0_rests_3 8 rfl rfl)
theorem dX0_rests_80 : decode cX0_rests 80 = .ok (.istore 4, 2) := dk_54 4 (dk_at dksX0_rests_3 10 rfl rfl)
theorem dX0_rests_82 : decode cX0_rests 82 = .ok (.iload_n 3, 1) := dk_29 (dk_at dksX0_rests_3 12 rfl rfl)
theorem dX0_rests_83 : decode cX0_rests 83 = .ok (.iload 6, 2) := dk_21 6 (dk_at dksX0_rests_3 13 rfl rfl)
theorem dX0_rests_85 : decode cX0_rests 85 = .ok (.ifCond .eq 7, 3) := dk_153 0 7 (dk_at dksX0_rests_3 15 rfl rfl)
theorem dX0_rests_88 : decode cX0_rests 88 = .ok (.iconst 1, 1) := dk_4 (dk_at dksX0_rests_3 18 rfl rfl)
theorem dX0_rests_89 : decode cX0_rests 89 = .ok (.goto 4, 3) := dk_167 0 4 (dk_at dksX0_rests_3 19 rfl rfl)
theorem dX0_rests_92 : decode cX0_rests 92 = .ok (.iconst 0, 1) := dk_3 (dk_at dksX0_rests_3 22 rfl rfl)
theorem dX0_rests_93 : decode cX0_rests 93 = .ok (.iadd, 1) := dk_96 (dk_at dksX0_rests_3 23 rfl rfl)
theorem dX0_rests_94 : decode cX0_rests 94 = .ok (.istore_n 3, 1) := dk_62 (dk_at dksX0_rests_4 0 rfl rfl)
theorem dX0_rests_95 : decode cX0_rests 95 = .ok (.iinc 5 1, 3) := dk_132 5 1 (dk_at dksX0_rests_4 1 rfl rfl)
theorem dX0_rests_98 : decode cX0_rests 98 = .ok (.goto (-69), 3) := dk_167 255 187 (dk_at dksX0_rests_4 4 rfl rfl)
theorem dX0_rests_101 : decode cX0_rests 101 = .ok (.aload_n 0, 1) := dk_42 (dk_at dksX0_rests_4 7 rfl rfl)
theorem dX0_rests_102 : decode cX0_rests 102 = .ok (.getfield 33, 3) := dk_180 0 33 (dk_at dksX0_rests_4 8 rfl rfl)
theorem dX0_rests_105 : decode cX0_rests 105 = .ok (.iload_n 2, 1) := dk_28 (dk_at dksX0_rests_4 11 rfl rfl)
theorem dX0_rests_106 : decode cX0_rests 106 = .ok (.putfield 83, 3) := dk_181 0 83 (dk_at dksX0_rests_4 12 rfl rfl)
theorem dX0_rests_109 : decode cX0_rests 109 = .ok (.iload_n 1, 1) := dk_27 (dk_at dksX0_rests_4 15 rfl rfl)
theorem dX0_rests_110 : decode cX0_rests 110 = .ok (.ifCond .ne 7, 3) := dk_154 0 7 (dk_at dksX0_rests_4 16 rfl rfl)
theorem dX0_rests_113 : decode cX0_rests 113 = .ok (.iload_n 3, 1) := dk_29 (dk_at dksX0_rests_4 19 rfl rfl)
theorem dX0_rests_114 : decode cX0_rests 114 = .ok (.goto 5, 3) := dk_167 0 5 (dk_at dksX0_rests_4 20 rfl rfl)
theorem dX0_rests_117 : decode cX0_rests 117 = .ok (.iload 4, 2) := dk_21 4 (dk_at dksX0_rests_5 0 rfl rfl)
theorem dX0_rests_119 : decode cX0_rests 119 = .ok (.ireturn, 1) := dk_172 (dk_at dksX0_rests_5 2 rfl rfl)
abbrev cX0_boy : ByteArray := prog_1_method_39_code
def yX0_boy : MethodName := ⟨RX0, "boy", "(II)I"⟩
def dkwX0_boy_4 : List UInt8 := [180, 0, 33, 180, 0, 93, 27, 50, 6, 29, 79, 21, 4, 172]
abbrev dktX0_boy_4 : List UInt8 := dkwX0_boy_4 ++ []
def dkwX0_boy_3 : List UInt8 := [180, 0, 153, 28, 46, 162, 0, 8, 21, 5, 167, 0, 5, 16, 252, 54, 4, 132, 5, 1, 167, 255, 198, 42]
abbrev dktX0_boy_3 : List UInt8 := dkwX0_boy_3 ++ dktX0_boy_4
def dkwX0_boy_2 : List UInt8 := [180, 0, 33, 180, 0, 93, 27, 50, 6, 21, 5, 79, 42, 182, 0, 205, 42, 180, 0, 153, 27, 46, 42]
abbrev dktX0_boy_2 : List UInt8 := dkwX0_boy_2 ++ dktX0_boy_3
def dkwX0_boy_1 : List UInt8 := [16, 252, 54, 4, 3, 54, 5, 21, 5, 16, 9, 163, 0, 57, 21, 4, 16, 252, 160, 0, 50, 42]
abbrev dktX0_boy_1 : List UInt8 := dkwX0_boy_1 ++ dktX0_boy_2
def dkwX0_boy_0 : List UInt8 := [42, 27, 28, 182, 0, 234, 154, 0, 5, 2, 172, 42, 180, 0, 33, 180, 0, 93, 27, 50, 6, 46, 62]
abbrev dktX0_boy_0 : List UInt8 := dkwX0_boy_0 ++ dktX0_boy_1
theorem dksX0_boy_0 : cX0_boy.data.toList.drop 0 = dktX0_boy_0 := by decide +kernel
theorem dksX0_boy_1 : cX0_boy.data.toList.drop 23 = dktX0_boy_1 := dk_seg dksX0_boy_0 23 rfl rfl
theorem dksX0_boy_2 : cX0_boy.data.toList.drop 45 = dktX0_boy_2 := dk_seg dksX0_boy_1 22 rfl rfl
theorem dksX0_boy_3 : cX0_boy.data.toList.drop 68 = dktX0_boy_3 := dk_seg dksX0_boy_2 23 rfl rfl
theorem dksX0_boy_4 : cX0_boy.data.toList.drop 92 = dktX0_boy_4 := dk_seg dksX0_boy_3 24 rfl rfl
theorem dX0_boy_0 : decode cX0_boy 0 = .ok (.aload_n 0, 1) := dk_42 (dk_at dksX0_boy_0 0 rfl rfl)
theorem dX0_boy_1 : decode cX0_boy 1 = .ok (.iload_n 1, 1) := dk_27 (dk_at dksX0_boy_0 1 rfl rfl)
theorem dX0_boy_2 : decode cX0_boy 2 = .ok (.iload_n 2, 1) := dk_28 (dk_at dksX0_boy_0 2 rfl rfl)
theorem dX0_boy_3 : decode cX0_boy 3 = .ok (.invokevirtual 234, 3) := dk_182 0 234 (dk_at dksX0_boy_0 3 rfl rfl)
theorem dX0_boy_6 : decode cX0_boy 6 = .ok (.ifCond .ne 5, 3) := dk_154 0 5 (dk_at dksX0_boy_0 6 rfl rfl)
theorem dX0_boy_9 : decode cX0_boy 9 = .ok (.iconst (-1), 1) := dk_2 (dk_at dksX0_boy_0 9 rfl rfl)
theorem dX0_boy_10 : decode cX0_boy 10 = .ok (.ireturn, 1) := dk_172 (dk_at dksX0_boy_0 10 rfl rfl)
theorem dX0_boy_11 : decode cX0_boy 11 = .ok (.aload_n 0, 1) := dk_42 (dk_at dksX0_boy_0 11 rfl rfl)
theorem dX0_boy_12 : decode cX0_boy 12 = .ok (.getfield 33, 3) := dk_180 0 33 (dk_at dksX0_boy_0 12 rfl rfl)
theorem dX0_boy_15 : decode cX0_boy 15 = .ok (.getfield 93, 3) := dk_180 0 93 (dk_at dksX0_boy_0 15 rfl rfl)
theorem dX0_boy_18 : decode cX0_boy 18 = .ok (.iload_n 1, 1) := dk_27 (dk_at dksX0_boy_0 18 rfl rfl)
theorem dX0_boy_19 : decode cX0_boy 19 = .ok (.aaload, 1) := dk_50 (dk_at dksX0_boy_0 19 rfl rfl)
theorem dX0_boy_20 : decode cX0_boy 20 = .ok (.iconst 3, 1) := dk_6 (dk_at dksX0_boy_0 20 rfl rfl)
theorem dX0_boy_21 : decode cX0_boy 21 = .ok (.iaload, 1) := dk_46 (dk_at dksX0_boy_0 21 rfl rfl)
theorem dX0_boy_22 : decode cX0_boy 22 = .ok (.istore_n 3, 1) := dk_62 (dk_at dksX0_boy_0 22 rfl rfl)
theorem dX0_boy_23 : decode cX0_boy 23 = .ok (.bipush (-4), 2) := dk_16 252 (dk_at dksX0_boy_1 0 rfl rfl)
theorem dX0_boy_25 : decode cX0_boy 25 = .ok (.istore 4, 2) := dk_54 4 (dk_at dksX0_boy_1 2 rfl rfl)
theorem dX0_boy_27 : decode cX0_boy 27 = .ok (.iconst 0, 1) := dk_3 (dk_at dksX0_boy_1 4 rfl rfl)
theorem dX0_boy_28 : decode cX0_boy 28 = .ok (.istore 5, 2) := dk_54 5 (dk_at dksX0_boy_1 5 rfl rfl)
theorem dX0_boy_30 : decode cX0_boy 30 = .ok (.iload 5, 2) := dk_21 5 (dk_at dksX0_boy_1 7 rfl rfl)
theorem dX0_boy_32 : decode cX0_boy 32 = .ok (.bipush 9, 2) := dk_16 9 (dk_at dksX0_boy_1 9 rfl rfl)
theorem dX0_boy_34 : decode cX0_boy 34 = .ok (.if_icmp .gt 57, 3) := dk_163 0 57 (dk_at dksX0_boy_1 11 rfl rfl)
theorem dX0_boy_37 : decode cX0_boy 37 = .ok (.iload 4, 2) := dk_21 4 (dk_at dksX0_boy_1 14 rfl rfl)
theorem dX0_boy_39 : decode cX0_boy 39 = .ok (.bipush (-4), 2) := dk_16 252 (dk_at dksX0_boy_1 16 rfl rfl)
theorem dX0_boy_41 : decode cX0_boy 41 = .ok (.if_icmp .ne 50, 3) := dk_160 0 50 (dk_at dksX0_boy_1 18 rfl rfl)
theorem dX0_boy_44 : decode cX0_boy 44 = .ok (.aload_n 0, 1) := dk_42 (dk_at dksX0_boy_1 21 rfl rfl)
theorem dX0_boy_45 : decode cX0_boy 45 = .ok (.getfield 33, 3) := dk_180 0 33 (dk_at dksX0_boy_2 0 rfl rfl)
theorem dX0_boy_48 : decode cX0_boy 48 = .ok (.getfield 93, 3) := dk_180 0 93 (dk_at dksX0_boy_2 3 rfl rfl)
theorem dX0_boy_51 : decode cX0_boy 51 = .ok (.iload_n 1, 1) := dk_27 (dk_at dksX0_boy_2 6 rfl rfl)
theorem dX0_boy_52 : decode cX0_boy 52 = .ok (.aaload, 1) := dk_50 (dk_at dksX0_boy_2 7 rfl rfl)
theorem dX0_boy_53 : decode cX0_boy 53 = .ok (.iconst 3, 1) := dk_6 (dk_at dksX0_boy_2 8 rfl rfl)
theorem dX0_boy_54 : decode cX0_boy 54 = .ok (.iload 5, 2) := dk_21 5 (dk_at dksX0_boy_2 9 rfl rfl)
theorem dX0_boy_56 : decode cX0_boy 56 = .ok (.iastore, 1) := dk_79 (dk_at dksX0_boy_2 11 rfl rfl)
theorem dX0_boy_57 : decode cX0_boy 57 = .ok (.aload_n 0, 1) := dk_42 (dk_at dksX0_boy_2 12 rfl rfl)
theorem dX0_boy_58 : decode cX0_boy 58 = .ok (.invokevirtual 205, 3) := dk_182 0 205 (dk_at dksX0_boy_2 13 rfl rfl)
theorem dX0_boy_61 : decode cX0_boy 61 = .ok (.aload_n 0, 1) := dk_42 (dk_at dksX0_boy_2 16 rfl rfl)
theorem dX0_boy_62 : decode cX0_boy 62 = .ok (.getfield 153, 3) := dk_180 0 153 (dk_at dksX0_boy_2 17 rfl rfl)
theorem dX0_boy_65 : decode cX0_boy 65 = .ok (.iload_n 1, 1) := dk_27 (dk_at dksX0_boy_2 20 rfl rfl)
theorem dX0_boy_66 : decode cX0_boy 66 = .ok (.iaload, 1) := dk_46 (dk_at dksX0_boy_2 21 rfl rfl)
theorem dX0_boy_67 : decode cX0_boy 67 = .ok (.aload_n 0, 1) := dk_42 (dk_at dksX0_boy_2 22 rfl rfl)
theorem dX0_boy_68 : decode cX0_boy 68 = .ok (.getfield 153, 3) := dk_180 0 153 (dk_at dksX0_boy_3 0 rfl rfl)
theorem dX0_boy_71 : decode cX0_boy 71 = .ok (.iload_n 2, 1) := dk_28 (dk_at dksX0_boy_3 3 rfl rfl)
theorem dX0_boy_72 : decode cX0_boy 72 = .ok (.iaload, 1) := dk_46 (dk_at dksX0_boy_3 4 rfl rfl)
theorem dX0_boy_73 : decode cX0_boy 73 = .ok (.if_icmp .ge 8, 3) := dk_162 0 8 (dk_at dksX0_boy_3 5 rfl rfl)
theorem dX0_boy_76 : decode cX0_boy 76 = .ok (.iload 5, 2) := dk_21 5 (dk_at dksX0_boy_3 8 rfl rfl)
theorem dX0_boy_78 : decode cX0_boy 78 = .ok (.goto 5, 3) := dk_167 0 5 (dk_at dksX0_boy_3 10 rfl rfl)
theorem dX0_boy_81 : decode cX0_boy 81 = .ok (.bipush (-4), 2) := dk_16 252 (dk_at dksX0_boy_3 13 rfl rfl)
theorem dX0_boy_83 : decode cX0_boy 83 = .ok (.istore 4, 2) := dk_54 4 (dk_at dksX0_boy_3 15 rfl rfl)
theorem dX0_boy_85 : decode cX0_boy 85 = .ok (.iinc 5 1, 3) := dk_132 5 1 (dk_at dksX0_boy_3 17 rfl rfl)
theorem dX0_boy_88 : decode cX0_boy 88 = .ok (.goto (-58), 3) := dk_167 255 198 (dk_at dksX0_boy_3 20 rfl rfl)
theorem dX0_boy_91 : decode cX0_boy 91 = .ok (.aload_n 0, 1) := dk_42 (dk_at dksX0_boy_3 23 rfl rfl)
theorem dX0_boy_92 : decode cX0_boy 92 = .ok (.getfield 33, 3) := dk_180 0 33 (dk_at dksX0_boy_4 0 rfl rfl)
theorem dX0_boy_95 : decode cX0_boy 95 = .ok (.getfield 93, 3) := dk_180 0 93 (dk_at dksX0_boy_4 3 rfl rfl)
theorem dX0_boy_98 : decode cX0_boy 98 = .ok (.iload_n 1, 1) := dk_27 (dk_at dksX0_boy_4 6 rfl rfl)
theorem dX0_boy_99 : decode cX0_boy 99 = .ok (.aaload, 1) := dk_50 (dk_at dksX0_boy_4 7 rfl rfl)
theorem dX0_boy_100 : decode cX0_boy 100 = .ok (.iconst 3, 1) := dk_6 (dk_at dksX0_boy_4 8 rfl rfl)
theorem dX0_boy_101 : decode cX0_boy 101 = .ok (.iload_n 3, 1) := dk_29 (dk_at dksX0_boy_4 9 rfl rfl)
theorem dX0_boy_102 : decode cX0_boy 102 = .ok (.iastore, 1) := dk_79 (dk_at dksX0_boy_4 10 rfl rfl)
theorem dX0_boy_103 : decode cX0_boy 103 = .ok (.iload 4, 2) := dk_21 4 (dk_at dksX0_boy_4 11 rfl rfl)
theorem dX0_boy_105 : decode cX0_boy 105 = .ok (.ireturn, 1) := dk_172 (dk_at dksX0_boy_4 13 rfl rfl)
abbrev cX0_areTwo : ByteArray := prog_1_method_38_code
def yX0_areTwo : MethodName := ⟨RX0, "areTwo", "(II)Z"⟩
def dkwX0_areTwo_1 : List UInt8 := [167, 0, 4, 3, 172]
abbrev dktX0_areTwo_1 : List UInt8 := dkwX0_areTwo_1 ++ []
def dkwX0_areTwo_0 : List UInt8 := [42, 27, 182, 0, 86, 153, 0, 20, 42, 28, 182, 0, 86, 153, 0, 12, 27, 28, 159, 0, 7, 4]
abbrev dktX0_areTwo_0 : List UInt8 := dkwX0_areTwo_0 ++ dktX0_areTwo_1
theorem dksX0_areTwo_0 : cX0_areTwo.data.toList.drop 0 = dktX0_areTwo_0 := by decide +kernel
theorem dksX0_areTwo_1 : cX0_areTwo.data.toList.drop 22 = dktX0_areTwo_1 := dk_seg dksX0_areTwo_0 22 rfl rfl
theorem dX0_areTwo_0 : decode cX0_areTwo 0 = .ok (.aload_n 0, 1) := dk_42 (dk_at dksX0_areTwo_0 0 rfl rfl)
theorem dX0_areTwo_1 : decode cX0_areTwo 1 = .ok (.iload_n 1, 1) := dk_27 (dk_at dksX0_areTwo_0 1 rfl rfl)
theorem dX0_areTwo_2 : decode cX0_areTwo 2 = .ok (.invokevirtual 86, 3) := dk_182 0 86 (dk_at dksX0_areTwo_0 2 rfl rfl)
theorem dX0_areTwo_5 : decode cX0_areTwo 5 = .ok (.ifCond .eq 20, 3) := dk_153 0 20 (dk_at dksX0_areTwo_0 5 rfl rfl)
theorem dX0_areTwo_8 : decode cX0_areTwo 8 = .ok (.aload_n 0, 1) := dk_42 (dk_at dksX0_areTwo_0 8 rfl rfl)
theorem dX0_areTwo_9 : decode cX0_areTwo 9 = .ok (.iload_n 2, 1) := dk_28 (dk_at dksX0_areTwo_0 9 rfl rfl)
theorem dX0_areTwo_10 : decode cX0_areTwo 10 = .ok (.invokevirtual 86, 3) := dk_182 0 86 (dk_at dksX0_areTwo_0 10 rfl rfl)
theorem dX0_areTwo_13 : decode cX0_areTwo 13 = .ok (.ifCond .eq 12, 3) := dk_153 0 12 (dk_at dksX0_areTwo_0 13 rfl rfl)
theorem dX0_areTwo_16 : decode cX0_areTwo 16 = .ok (.iload_n 1, 1) := dk_27 (dk_at dksX0_areTwo_0 16 rfl rfl)
theorem dX0_areTwo_17 : decode cX0_areTwo 17 = .ok (.iload_n 2, 1) := dk_28 (dk_at dksX0_areTwo_0 17 rfl rfl)
theorem dX0_areTwo_18 : decode cX0_areTwo 18 = .ok (.if_icmp .eq 7, 3) := dk_159 0 7 (dk_at dksX0_areTwo_0 18 rfl rfl)
theorem dX0_areTwo_21 : decode cX0_areTwo 21 = .ok (.iconst 1, 1) := dk_4 (dk_at dksX0_areTwo_0 21 rfl rfl)
theorem dX0_areTwo_22 : decode cX0_areTwo 22 = .ok (.goto 4, 3) := dk_167 0 4 (dk_at dksX0_areTwo_1 0 rfl rfl)
theorem dX0_areTwo_25 : decode cX0_areTwo 25 = .ok (.iconst 0, 1) := dk_3 (dk_at dksX0_areTwo_1 3 rfl rfl)
theorem dX0_areTwo_26 : decode cX0_areTwo 26 = .ok (.ireturn, 1) := dk_172 (dk_at dksX0_areTwo_1 4 rfl rfl)
abbrev cX0_post : ByteArray := prog_1_method_40_code
def yX0_post : MethodName := ⟨RX0, "post", "(I)I"⟩
def dkwX0_post_4 : List UInt8 := [154, 0, 8, 21, 4, 167, 0, 4, 29, 172]
abbrev dktX0_post_4 : List UInt8 := dkwX0_post_4 ++ []
def dkwX0_post_3 : List UInt8 := [182, 0, 201, 184, 0, 161, 62, 132, 5, 1, 167, 255, 205, 42, 180, 0, 33, 180, 0, 79, 7, 28, 79, 27]
abbrev dktX0_post_3 : List UInt8 := dkwX0_post_3 ++ dktX0_post_4
def dkwX0_post_2 : List UInt8 := [79, 42, 182, 0, 205, 42, 182, 0, 201, 29, 162, 0, 8, 21, 5, 167, 0, 5, 21, 4, 54, 4, 29, 42]
abbrev dktX0_post_2 : List UInt8 := dkwX0_post_2 ++ dktX0_post_3
def dkwX0_post_1 : List UInt8 := [62, 3, 54, 4, 3, 54, 5, 21, 5, 16, 9, 163, 0, 50, 42, 180, 0, 33, 180, 0, 79, 7, 21, 5]
abbrev dktX0_post_1 : List UInt8 := dkwX0_post_1 ++ dktX0_post_2
def dkwX0_post_0 : List UInt8 := [27, 133, 9, 10, 184, 0, 3, 154, 0, 5, 2, 172, 42, 180, 0, 33, 180, 0, 79, 7, 46, 61, 18, 156]
abbrev dktX0_post_0 : List UInt8 := dkwX0_post_0 ++ dktX0_post_1
theorem dksX0_post_0 : cX0_post.data.toList.drop 0 = dktX0_post_0 := by decide +kernel
theorem dksX0_post_1 : cX0_post.data.toList.drop 24 = dktX0_post_1 := dk_seg dksX0_post_0 24 rfl rfl
theorem dksX0_post_2 : cX0_post.data.toList.drop 48 = dktX0_post_2 := dk_seg dksX0_post_1 24 rfl rfl
theorem dksX0_post_3 : cX0_post.data.toList.drop 72 = dktX0_post_3 := dk_seg dksX0_post_2 24 rfl rfl
theorem dksX0_post_4 : cX0_post.data.toList.drop 96 = dktX0_post_4 := dk_seg dksX0_post_3 24 rfl rfl
theorem dX0_post_0 : decode cX0_post 0 = .ok (.iload_n 1, 1) := dk_27 (dk_at dksX0_post_0 0 rfl rfl)
theorem dX0_post_1 : decode cX0_post 1 = .ok (.i2l, 1) := dk_133 (dk_at dksX0_post_0 1 rfl rfl)
theorem dX0_post_2 : decode cX0_post 2 = .ok (.lconst 0, 1) := dk_9 (dk_at dksX0_post_0 2 rfl rfl)
theorem dX0_post_3 : decode cX0_post 3 = .ok (.lconst 1, 1) := dk_10 (dk_at dksX0_post_0 3 rfl rfl)
theorem dX0_post_4 : decode cX0_post 4 = .ok (.invokestatic 3, 3) := dk_184 0 3 (dk_at dksX0_post_0 4 rfl rfl)
theorem dX0_post_7 : decode cX0_post 7 = .ok (.ifCond .ne 5, 3) := dk_154 0 5 (dk_at dksX0_post_0 7 rfl rfl)
theorem dX0_post_10 : decode cX0_post 10 = .ok (.iconst (-1), 1) := dk_2 (dk_at dksX0_post_0 10 rfl rfl)
theorem dX0_post_11 : decode cX0_post 11 = .ok (.ireturn, 1) := dk_172 (dk_at dksX0_post_0 11 rfl rfl)
theorem dX0_post_12 : decode cX0_post 12 = .ok (.aload_n 0, 1) := dk_42 (dk_at dksX0_post_0 12 rfl rfl)
theorem dX0_post_13 : decode cX0_post 13 = .ok (.getfield 33, 3) := dk_180 0 33 (dk_at dksX0_post_0 13 rfl rfl)
theorem dX0_post_16 : decode cX0_post 16 = .ok (.getfield 79, 3) := dk_180 0 79 (dk_at dksX0_post_0 16 rfl rfl)
theorem dX0_post_19 : decode cX0_post 19 = .ok (.iconst 4, 1) := dk_7 (dk_at dksX0_post_0 19 rfl rfl)
theorem dX0_post_20 : decode cX0_post 20 = .ok (.iaload, 1) := dk_46 (dk_at dksX0_post_0 20 rfl rfl)
theorem dX0_post_21 : decode cX0_post 21 = .ok (.istore_n 2, 1) := dk_61 (dk_at dksX0_post_0 21 rfl rfl)
theorem dX0_post_22 : decode cX0_post 22 = .ok (.ldc 156, 2) := dk_18 156 (dk_at dksX0_post_0 22 rfl rfl)
theorem dX0_post_24 : decode cX0_post 24 = .ok (.istore_n 3, 1) := dk_62 (dk_at dksX0_post_1 0 rfl rfl)
theorem dX0_post_25 : decode cX0_post 25 = .ok (.iconst 0, 1) := dk_3 (dk_at dksX0_post_1 1 rfl rfl)
theorem dX0_post_26 : decode cX0_post 26 = .ok (.istore 4, 2) := dk_54 4 (dk_at dksX0_post_1 2 rfl rfl)
theorem dX0_post_28 : decode cX0_post 28 = .ok (.iconst 0, 1) := dk_3 (dk_at dksX0_post_1 4 rfl rfl)
theorem dX0_post_29 : decode cX0_post 29 = .ok (.istore 5, 2) := dk_54 5 (dk_at dksX0_post_1 5 rfl rfl)
theorem dX0_post_31 : decode cX0_post 31 = .ok (.iload 5, 2) := dk_21 5 (dk_at dksX0_post_1 7 rfl rfl)
theorem dX0_post_33 : decode cX0_post 33 = .ok (.bipush 9, 2) := dk_16 9 (dk_at dksX0_post_1 9 rfl rfl)
theorem dX0_post_35 : decode cX0_post 35 = .ok (.if_icmp .gt 50, 3) := dk_163 0 50 (dk_at dksX0_post_1 11 rfl rfl)
theorem dX0_post_38 : decode cX0_post 38 = .ok (.aload_n 0, 1) := dk_42 (dk_at dksX0_post_1 14 rfl rfl)
theorem dX0_post_39 : decode cX0_post 39 = .ok (.getfield 33, 3) := dk_180 0 33 (dk_at dksX0_post_1 15 rfl rfl)
theorem dX0_post_42 : decode cX0_post 42 = .ok (.getfield 79, 3) := dk_180 0 79 (dk_at dksX0_post_1 18 rfl rfl)
theorem dX0_post_45 : decode cX0_post 45 = .ok (.iconst 4, 1) := dk_7 (dk_at dksX0_post_1 21 rfl rfl)
theorem dX0_post_46 : decode cX0_post 46 = .ok (.iload 5, 2) := dk_21 5 (dk_at dksX0_post_1 22 rfl rfl)
theorem dX0_post_48 : decode cX0_post 48 = .ok (.iastore, 1) := dk_79 (dk_at dksX0_post_2 0 rfl rfl)
theorem dX0_post_49 : decode cX0_post 49 = .ok (.aload_n 0, 1) := dk_42 (dk_at dksX0_post_2 1 rfl rfl)
theorem dX0_post_50 : decode cX0_post 50 = .ok (.invokevirtual 205, 3) := dk_182 0 205 (dk_at dksX0_post_2 2 rfl rfl)
theorem dX0_post_53 : decode cX0_post 53 = .ok (.aload_n 0, 1) := dk_42 (dk_at dksX0_post_2 5 rfl rfl)
theorem dX0_post_54 : decode cX0_post 54 = .ok (.invokevirtual 201, 3) := dk_182 0 201 (dk_at dksX0_post_2 6 rfl rfl)
theorem dX0_post_57 : decode cX0_post 57 = .ok (.iload_n 3, 1) := dk_29 (dk_at dksX0_post_2 9 rfl rfl)
theorem dX0_post_58 : decode cX0_post 58 = .ok (.if_icmp .ge 8, 3) := dk_162 0 8 (dk_at dksX0_post_2 10 rfl rfl)
theorem dX0_post_61 : decode cX0_post 61 = .ok (.iload 5, 2) := dk_21 5 (dk_at dksX0_post_2 13 rfl rfl)
theorem dX0_post_63 : decode cX0_post 63 = .ok (.goto 5, 3) := dk_167 0 5 (dk_at dksX0_post_2 15 rfl rfl)
theorem dX0_post_66 : decode cX0_post 66 = .ok (.iload 4, 2) := dk_21 4 (dk_at dksX0_post_2 18 rfl rfl)
theorem dX0_post_68 : decode cX0_post 68 = .ok (.istore 4, 2) := dk_54 4 (dk_at dksX0_post_2 20 rfl rfl)
theorem dX0_post_70 : decode cX0_post 70 = .ok (.iload_n 3, 1) := dk_29 (dk_at dksX0_post_2 22 rfl rfl)
theorem dX0_post_71 : decode cX0_post 71 = .ok (.aload_n 0, 1) := dk_42 (dk_at dksX0_post_2 23 rfl rfl)
theorem dX0_post_72 : decode cX0_post 72 = .ok (.invokevirtual 201, 3) := dk_182 0 201 (dk_at dksX0_post_3 0 rfl rfl)
theorem dX0_post_75 : decode cX0_post 75 = .ok (.invokestatic 161, 3) := dk_184 0 161 (dk_at dksX0_post_3 3 rfl rfl)
theorem dX0_post_78 : decode cX0_post 78 = .ok (.istore_n 3, 1) := dk_62 (dk_at dksX0_post_3 6 rfl rfl)
theorem dX0_post_79 : decode cX0_post 79 = .ok (.iinc 5 1, 3) := dk_132 5 1 (dk_at dksX0_post_3 7 rfl rfl)
theorem dX0_post_82 : decode cX0_post 82 = .ok (.goto (-51), 3) := dk_167 255 205 (dk_at dksX0_post_3 10 rfl rfl)
theorem dX0_post_85 : decode cX0_post 85 = .ok (.aload_n 0, 1) := dk_42 (dk_at dksX0_post_3 13 rfl rfl)
theorem dX0_post_86 : decode cX0_post 86 = .ok (.getfield 33, 3) := dk_180 0 33 (dk_at dksX0_post_3 14 rfl rfl)
theorem dX0_post_89 : decode cX0_post 89 = .ok (.getfield 79, 3) := dk_180 0 79 (dk_at dksX0_post_3 17 rfl rfl)
theorem dX0_post_92 : decode cX0_post 92 = .ok (.iconst 4, 1) := dk_7 (dk_at dksX0_post_3 20 rfl rfl)
theorem dX0_post_93 : decode cX0_post 93 = .ok (.iload_n 2, 1) := dk_28 (dk_at dksX0_post_3 21 rfl rfl)
theorem dX0_post_94 : decode cX0_post 94 = .ok (.iastore, 1) := dk_79 (dk_at dksX0_post_3 22 rfl rfl)
theorem dX0_post_95 : decode cX0_post 95 = .ok (.iload_n 1, 1) := dk_27 (dk_at dksX0_post_3 23 rfl rfl)
theorem dX0_post_96 : decode cX0_post 96 = .ok (.ifCond .ne 8, 3) := dk_154 0 8 (dk_at dksX0_post_4 0 rfl rfl)
theorem dX0_post_99 : decode cX0_post 99 = .ok (.iload 4, 2) := dk_21 4 (dk_at dksX0_post_4 3 rfl rfl)
theorem dX0_post_101 : decode cX0_post 101 = .ok (.goto 4, 3) := dk_167 0 4 (dk_at dksX0_post_4 5 rfl rfl)
theorem dX0_post_104 : decode cX0_post 104 = .ok (.iload_n 3, 1) := dk_29 (dk_at dksX0_post_4 8 rfl rfl)
theorem dX0_post_105 : decode cX0_post 105 = .ok (.ireturn, 1) := dk_172 (dk_at dksX0_post_4 9 rfl rfl)
abbrev cX0_late : ByteArray := prog_1_method_41_code
def yX0_late : MethodName := ⟨RX0, "late", "(I)I"⟩
def dkwX0_late_4 : List UInt8 := [180, 0, 93, 27, 50, 4, 28, 79, 21, 4, 172]
abbrev dktX0_late_4 : List UInt8 := dkwX0_late_4 ++ []
def dkwX0_late_3 : List UInt8 := [29, 163, 0, 8, 21, 5, 167, 0, 5, 21, 4, 54, 4, 132, 5, 1, 167, 255, 208, 42, 180, 0, 33]
abbrev dktX0_late_3 : List UInt8 := dkwX0_late_3 ++ dktX0_late_4
def dkwX0_late_2 : List UInt8 := [180, 0, 33, 180, 0, 93, 27, 50, 4, 28, 21, 5, 96, 79, 42, 182, 0, 205, 42, 180, 0, 153, 27, 46]
abbrev dktX0_late_2 : List UInt8 := dkwX0_late_2 ++ dktX0_late_3
def dkwX0_late_1 : List UInt8 := [46, 61, 42, 180, 0, 153, 27, 46, 62, 3, 54, 4, 4, 54, 5, 21, 5, 16, 60, 163, 0, 47, 42]
abbrev dktX0_late_1 : List UInt8 := dkwX0_late_1 ++ dktX0_late_2
def dkwX0_late_0 : List UInt8 := [42, 27, 182, 0, 86, 154, 0, 5, 2, 172, 42, 182, 0, 205, 42, 180, 0, 33, 180, 0, 93, 27, 50, 4]
abbrev dktX0_late_0 : List UInt8 := dkwX0_late_0 ++ dktX0_late_1
theorem dksX0_late_0 : cX0_late.data.toList.drop 0 = dktX0_late_0 := by decide +kernel
theorem dksX0_late_1 : cX0_late.data.toList.drop 24 = dktX0_late_1 := dk_seg dksX0_late_0 24 rfl rfl
theorem dksX0_late_2 : cX0_late.data.toList.drop 47 = dktX0_late_2 := dk_seg dksX0_late_1 23 rfl rfl
theorem dksX0_late_3 : cX0_late.data.toList.drop 71 = dktX0_late_3 := dk_seg dksX0_late_2 24 rfl rfl
theorem dksX0_late_4 : cX0_late.data.toList.drop 94 = dktX0_late_4 := dk_seg dksX0_late_3 23 rfl rfl
theorem dX0_late_0 : decode cX0_late 0 = .ok (.aload_n 0, 1) := dk_42 (dk_at dksX0_late_0 0 rfl rfl)
theorem dX0_late_1 : decode cX0_late 1 = .ok (.iload_n 1, 1) := dk_27 (dk_at dksX0_late_0 1 rfl rfl)
theorem dX0_late_2 : decode cX0_late 2 = .ok (.invokevirtual 86, 3) := dk_182 0 86 (dk_at dksX0_late_0 2 rfl rfl)
theorem dX0_late_5 : decode cX0_late 5 = .ok (.ifCond .ne 5, 3) := dk_154 0 5 (dk_at dksX0_late_0 5 rfl rfl)
theorem dX0_late_8 : decode cX0_late 8 = .ok (.iconst (-1), 1) := dk_2 (dk_at dksX0_late_0 8 rfl rfl)
theorem dX0_late_9 : decode cX0_late 9 = .ok (.ireturn, 1) := dk_172 (dk_at dksX0_late_0 9 rfl rfl)
theorem dX0_late_10 : decode cX0_late 10 = .ok (.aload_n 0, 1) := dk_42 (dk_at dksX0_late_0 10 rfl rfl)
theorem dX0_late_11 : decode cX0_late 11 = .ok (.invokevirtual 205, 3) := dk_182 0 205 (dk_at dksX0_late_0 11 rfl rfl)
theorem dX0_late_14 : decode cX0_late 14 = .ok (.aload_n 0, 1) := dk_42 (dk_at dksX0_late_0 14 rfl rfl)
theorem dX0_late_15 : decode cX0_late 15 = .ok (.getfield 33, 3) := dk_180 0 33 (dk_at dksX0_late_0 15 rfl rfl)
theorem dX0_late_18 : decode cX0_late 18 = .ok (.getfield 93, 3) := dk_180 0 93 (dk_at dksX0_late_0 18 rfl rfl)
theorem dX0_late_21 : decode cX0_late 21 = .ok (.iload_n 1, 1) := dk_27 (dk_at dksX0_late_0 21 rfl rfl)
theorem dX0_late_22 : decode cX0_late 22 = .ok (.aaload, 1) := dk_50 (dk_at dksX0_late_0 22 rfl rfl)
theorem dX0_late_23 : decode cX0_late 23 = .ok (.iconst 1, 1) := dk_4 (dk_at dksX0_late_0 23 rfl rfl)
theorem dX0_late_24 : decode cX0_late 24 = .ok (.iaload, 1) := dk_46 (dk_at dksX0_late_1 0 rfl rfl)
theorem dX0_late_25 : decode cX0_late 25 = .ok (.istore_n 2, 1) := dk_61 (dk_at dksX0_late_1 1 rfl rfl)
theorem dX0_late_26 : decode cX0_late 26 = .ok (.aload_n 0, 1) := dk_42 (dk_at dksX0_late_1 2 rfl rfl)
theorem dX0_late_27 : decode cX0_late 27 = .ok (.getfield 153, 3) := dk_180 0 153 (dk_at dksX0_late_1 3 rfl rfl)
theorem dX0_late_30 : decode cX0_late 30 = .ok (.iload_n 1, 1) := dk_27 (dk_at dksX0_late_1 6 rfl rfl)
theorem dX0_late_31 : decode cX0_late 31 = .ok (.iaload, 1) := dk_46 (dk_at dksX0_late_1 7 rfl rfl)
theorem dX0_late_32 : decode cX0_late 32 = .ok (.istore_n 3, 1) := dk_62 (dk_at dksX0_late_1 8 rfl rfl)
theorem dX0_late_33 : decode cX0_late 33 = .ok (.iconst 0, 1) := dk_3 (dk_at dksX0_late_1 9 rfl rfl)
theorem dX0_late_34 : decode cX0_late 34 = .ok (.istore 4, 2) := dk_54 4 (dk_at dksX0_late_1 10 rfl rfl)
theorem dX0_late_36 : decode cX0_late 36 = .ok (.iconst 1, 1) := dk_4 (dk_at dksX0_late_1 12 rfl rfl)
theorem dX0_late_37 : decode cX0_late 37 = .ok (.istore 5, 2) := dk_54 5 (dk_at dksX0_late_1 13 rfl rfl)
theorem dX0_late_39 : decode cX0_late 39 = .ok (.iload 5, 2) := dk_21 5 (dk_at dksX0_late_1 15 rfl rfl)
theorem dX0_late_41 : decode cX0_late 41 = .ok (.bipush 60, 2) := dk_16 60 (dk_at dksX0_late_1 17 rfl rfl)
theorem dX0_late_43 : decode cX0_late 43 = .ok (.if_icmp .gt 47, 3) := dk_163 0 47 (dk_at dksX0_late_1 19 rfl rfl)
theorem dX0_late_46 : decode cX0_late 46 = .ok (.aload_n 0, 1) := dk_42 (dk_at dksX0_late_1 22 rfl rfl)
theorem dX0_late_47 : decode cX0_late 47 = .ok (.getfield 33, 3) := dk_180 0 33 (dk_at dksX0_late_2 0 rfl rfl)
theorem dX0_late_50 : decode cX0_late 50 = .ok (.getfield 93, 3) := dk_180 0 93 (dk_at dksX0_late_2 3 rfl rfl)
theorem dX0_late_53 : decode cX0_late 53 = .ok (.iload_n 1, 1) := dk_27 (dk_at dksX0_late_2 6 rfl rfl)
theorem dX0_late_54 : decode cX0_late 54 = .ok (.aaload, 1) := dk_50 (dk_at dksX0_late_2 7 rfl rfl)
theorem dX0_late_55 : decode cX0_late 55 = .ok (.iconst 1, 1) := dk_4 (dk_at dksX0_late_2 8 rfl rfl)
theorem dX0_late_56 : decode cX0_late 56 = .ok (.iload_n 2, 1) := dk_28 (dk_at dksX0_late_2 9 rfl rfl)
theorem dX0_late_57 : decode cX0_late 57 = .ok (.iload 5, 2) := dk_21 5 (dk_at dksX0_late_2 10 rfl rfl)
theorem dX0_late_59 : decode cX0_late 59 = .ok (.iadd, 1) := dk_96 (dk_at dksX0_late_2 12 rfl rfl)
theorem dX0_late_60 : decode cX0_late 60 = .ok (.iastore, 1) := dk_79 (dk_at dksX0_late_2 13 rfl rfl)
theorem dX0_late_61 : decode cX0_late 61 = .ok (.aload_n 0, 1) := dk_42 (dk_at dksX0_late_2 14 rfl rfl)
theorem dX0_late_62 : decode cX0_late 62 = .ok (.invokevirtual 205, 3) := dk_182 0 205 (dk_at dksX0_late_2 15 rfl rfl)
theorem dX0_late_65 : decode cX0_late 65 = .ok (.aload_n 0, 1) := dk_42 (dk_at dksX0_late_2 18 rfl rfl)
theorem dX0_late_66 : decode cX0_late 66 = .ok (.getfield 153, 3) := dk_180 0 153 (dk_at dksX0_late_2 19 rfl rfl)
theorem dX0_late_69 : decode cX0_late 69 = .ok (.iload_n 1, 1) := dk_27 (dk_at dksX0_late_2 22 rfl rfl)
theorem dX0_late_70 : decode cX0_late 70 = .ok (.iaload, 1) := dk_46 (dk_at dksX0_late_2 23 rfl rfl)
theorem dX0_late_71 : decode cX0_late 71 = .ok (.iload_n 3, 1) := dk_29 (dk_at dksX0_late_3 0 rfl rfl)
theorem dX0_late_72 : decode cX0_late 72 = .ok (.if_icmp .gt 8, 3) := dk_163 0 8 (dk_at dksX0_late_3 1 rfl rfl)
theorem dX0_late_75 : decode cX0_late 75 = .ok (.iload 5, 2) := dk_21 5 (dk_at dksX0_late_3 4 rfl rfl)
theorem dX0_late_77 : decode cX0_late 77 = .ok (.goto 5, 3) := dk_167 0 5 (dk_at dksX0_late_3 6 rfl rfl)
theorem dX0_late_80 : decode cX0_late 80 = .ok (.iload 4, 2) := dk_21 4 (dk_at dksX0_late_3 9 rfl rfl)
theorem dX0_late_82 : decode cX0_late 82 = .ok (.istore 4, 2) := dk_54 4 (dk_at dksX0_late_3 11 rfl rfl)
theorem dX0_late_84 : decode cX0_late 84 = .ok (.iinc 5 1, 3) := dk_132 5 1 (dk_at dksX0_late_3 13 rfl rfl)
theorem dX0_late_87 : decode cX0_late 87 = .ok (.goto (-48), 3) := dk_167 255 208 (dk_at dksX0_late_3 16 rfl rfl)
theorem dX0_late_90 : decode cX0_late 90 = .ok (.aload_n 0, 1) := dk_42 (dk_at dksX0_late_3 19 rfl rfl)
theorem dX0_late_91 : decode cX0_late 91 = .ok (.getfield 33, 3) := dk_180 0 33 (dk_at dksX0_late_3 20 rfl rfl)
theorem dX0_late_94 : decode cX0_late 94 = .ok (.getfield 93, 3) := dk_180 0 93 (dk_at dksX0_late_4 0 rfl rfl)
theorem dX0_late_97 : decode cX0_late 97 = .ok (.iload_n 1, 1) := dk_27 (dk_at dksX0_late_4 3 rfl rfl)
theorem dX0_late_98 : decode cX0_late 98 = .ok (.aaload, 1) := dk_50 (dk_at dksX0_late_4 4 rfl rfl)
theorem dX0_late_99 : decode cX0_late 99 = .ok (.iconst 1, 1) := dk_4 (dk_at dksX0_late_4 5 rfl rfl)
theorem dX0_late_100 : decode cX0_late 100 = .ok (.iload_n 2, 1) := dk_28 (dk_at dksX0_late_4 6 rfl rfl)
theorem dX0_late_101 : decode cX0_late 101 = .ok (.iastore, 1) := dk_79 (dk_at dksX0_late_4 7 rfl rfl)
theorem dX0_late_102 : decode cX0_late 102 = .ok (.iload 4, 2) := dk_21 4 (dk_at dksX0_late_4 8 rfl rfl)
theorem dX0_late_104 : decode cX0_late 104 = .ok (.ireturn, 1) := dk_172 (dk_at dksX0_late_4 10 rfl rfl)
abbrev cX0_deal : ByteArray := prog_1_method_42_code
def yX0_deal : MethodName := ⟨RX0, "deal", "(III)I"⟩
def dkwX0_deal_9 : List UInt8 := [21, 7, 96, 172]
abbrev dktX0_deal_9 : List UInt8 := dkwX0_deal_9 ++ []
def dkwX0_deal_8 : List UInt8 := [54, 9, 17, 39, 16, 29, 154, 0, 8, 21, 8, 167, 0, 15, 29, 4, 160, 0, 8, 21, 9, 167, 0, 5]
abbrev dktX0_deal_8 : List UInt8 := dkwX0_deal_8 ++ dktX0_deal_9
def dkwX0_deal_7 : List UInt8 := [54, 8, 21, 6, 42, 180, 0, 150, 28, 46, 42, 180, 0, 33, 180, 0, 93, 28, 50, 5, 46, 104, 100]
abbrev dktX0_deal_7 : List UInt8 := dkwX0_deal_7 ++ dktX0_deal_8
def dkwX0_deal_6 : List UInt8 := [54, 7, 21, 5, 42, 180, 0, 150, 27, 46, 42, 180, 0, 33, 180, 0, 93, 27, 50, 5, 46, 104, 100]
abbrev dktX0_deal_6 : List UInt8 := dkwX0_deal_6 ++ dktX0_deal_7
def dkwX0_deal_5 : List UInt8 := [167, 0, 10, 42, 180, 0, 182, 21, 7, 46, 79, 132, 7, 1, 167, 255, 200, 21, 4, 42, 182, 0, 214, 100]
abbrev dktX0_deal_5 : List UInt8 := dkwX0_deal_5 ++ dktX0_deal_6
def dkwX0_deal_4 : List UInt8 := [21, 7, 46, 27, 160, 0, 7, 28, 167, 0, 25, 42, 180, 0, 182, 21, 7, 46, 28, 160, 0, 7, 27]
abbrev dktX0_deal_4 : List UInt8 := dkwX0_deal_4 ++ dktX0_deal_5
def dkwX0_deal_3 : List UInt8 := [54, 6, 3, 54, 7, 21, 7, 42, 180, 0, 49, 162, 0, 53, 42, 180, 0, 211, 21, 7, 42, 180, 0, 182]
abbrev dktX0_deal_3 : List UInt8 := dkwX0_deal_3 ++ dktX0_deal_4
def dkwX0_deal_2 : List UInt8 := [5, 46, 104, 54, 5, 42, 180, 0, 150, 28, 46, 42, 180, 0, 33, 180, 0, 93, 28, 50, 5, 46, 104]
abbrev dktX0_deal_2 : List UInt8 := dkwX0_deal_2 ++ dktX0_deal_3
def dkwX0_deal_1 : List UInt8 := [182, 0, 205, 42, 182, 0, 201, 54, 4, 42, 180, 0, 150, 27, 46, 42, 180, 0, 33, 180, 0, 93, 27, 50]
abbrev dktX0_deal_1 : List UInt8 := dkwX0_deal_1 ++ dktX0_deal_2
def dkwX0_deal_0 : List UInt8 := [42, 27, 28, 182, 0, 234, 153, 0, 15, 29, 133, 9, 20, 0, 237, 184, 0, 3, 154, 0, 5, 2, 172, 42]
abbrev dktX0_deal_0 : List UInt8 := dkwX0_deal_0 ++ dktX0_deal_1
theorem dksX0_deal_0 : cX0_deal.data.toList.drop 0 = dktX0_deal_0 := by decide +kernel
theorem dksX0_deal_1 : cX0_deal.data.toList.drop 24 = dktX0_deal_1 := dk_seg dksX0_deal_0 24 rfl rfl
theorem dksX0_deal_2 : cX0_deal.data.toList.drop 48 = dktX0_deal_2 := dk_seg dksX0_deal_1 24 rfl rfl
theorem dksX0_deal_3 : cX0_deal.data.toList.drop 71 = dktX0_deal_3 := dk_seg dksX0_deal_2 23 rfl rfl
theorem dksX0_deal_4 : cX0_deal.data.toList.drop 95 = dktX0_deal_4 := dk_seg dksX0_deal_3 24 rfl rfl
theorem dksX0_deal_5 : cX0_deal.data.toList.drop 118 = dktX0_deal_5 := dk_seg dksX0_deal_4 23 rfl rfl
theorem dksX0_deal_6 : cX0_deal.data.toList.drop 142 = dktX0_deal_6 := dk_seg dksX0_deal_5 24 rfl rfl
theorem dksX0_deal_7 : cX0_deal.data.toList.drop 165 = dktX0_deal_7 := dk_seg dksX0_deal_6 23 rfl rfl
theorem dksX0_deal_8 : cX0_deal.data.toList.drop 188 = dktX0_deal_8 := dk_seg dksX0_deal_7 23 rfl rfl
theorem dksX0_deal_9 : cX0_deal.data.toList.drop 212 = dktX0_deal_9 := dk_seg dksX0_deal_8 24 rfl rfl
theorem dX0_deal_0 : decode cX0_deal 0 = .ok (.aload_n 0, 1) := dk_42 (dk_at dksX0_deal_0 0 rfl rfl)
theorem dX0_deal_1 : decode cX0_deal 1 = .ok (.iload_n 1, 1) := dk_27 (dk_at dksX0_deal_0 1 rfl rfl)
theorem dX0_deal_2 : decode cX0_deal 2 = .ok (.iload_n 2, 1) := dk_28 (dk_at dksX0_deal_0 2 rfl rfl)
theorem dX0_deal_3 : decode cX0_deal 3 = .ok (.invokevirtual 234, 3) := dk_182 0 234 (dk_at dksX0_deal_0 3 rfl rfl)
theorem dX0_deal_6 : decode cX0_deal 6 = .ok (.ifCond .eq 15, 3) := dk_153 0 15 (dk_at dksX0_deal_0 6 rfl rfl)
theorem dX0_deal_9 : decode cX0_deal 9 = .ok (.iload_n 3, 1) := dk_29 (dk_at dksX0_deal_0 9 rfl rfl)
theorem dX0_deal_10 : decode cX0_deal 10 = .ok (.i2l, 1) := dk_133 (dk_at dksX0_deal_0 10 rfl rfl)
theorem dX0_deal_11 : decode cX0_deal 11 = .ok (.lconst 0, 1) := dk_9 (dk_at dksX0_deal_0 11 rfl rfl)
theorem dX0_deal_12 : decode cX0_deal 12 = .ok (.ldc2_w 237, 3) := dk_20 0 237 (dk_at dksX0_deal_0 12 rfl rfl)
theorem dX0_deal_15 : decode cX0_deal 15 = .ok (.invokestatic 3, 3) := dk_184 0 3 (dk_at dksX0_deal_0 15 rfl rfl)
theorem dX0_deal_18 : decode cX0_deal 18 = .ok (.ifCond .ne 5, 3) := dk_154 0 5 (dk_at dksX0_deal_0 18 rfl rfl)
theorem dX0_deal_21 : decode cX0_deal 21 = .ok (.iconst (-1), 1) := dk_2 (dk_at dksX0_deal_0 21 rfl rfl)
theorem dX0_deal_22 : decode cX0_deal 22 = .ok (.ireturn, 1) := dk_172 (dk_at dksX0_deal_0 22 rfl rfl)
theorem dX0_deal_23 : decode cX0_deal 23 = .ok (.aload_n 0, 1) := dk_42 (dk_at dksX0_deal_0 23 rfl rfl)
theorem dX0_deal_24 : decode cX0_deal 24 = .ok (.invokevirtual 205, 3) := dk_182 0 205 (dk_at dksX0_deal_1 0 rfl rfl)
theorem dX0_deal_27 : decode cX0_deal 27 = .ok (.aload_n 0, 1) := dk_42 (dk_at dksX0_deal_1 3 rfl rfl)
theorem dX0_deal_28 : decode cX0_deal 28 = .ok (.invokevirtual 201, 3) := dk_182 0 201 (dk_at dksX0_deal_1 4 rfl rfl)
theorem dX0_deal_31 : decode cX0_deal 31 = .ok (.istore 4, 2) := dk_54 4 (dk_at dksX0_deal_1 7 rfl rfl)
theorem dX0_deal_33 : decode cX0_deal 33 = .ok (.aload_n 0, 1) := dk_42 (dk_at dksX0_deal_1 9 rfl rfl)
theorem dX0_deal_34 : decode cX0_deal 34 = .ok (.getfield 150, 3) := dk_180 0 150 (dk_at dksX0_deal_1 10 rfl rfl)
theorem dX0_deal_37 : decode cX0_deal 37 = .ok (.iload_n 1, 1) := dk_27 (dk_at dksX0_deal_1 13 rfl rfl)
theorem dX0_deal_38 : decode cX0_deal 38 = .ok (.iaload, 1) := dk_46 (dk_at dksX0_deal_1 14 rfl rfl)
theorem dX0_deal_39 : decode cX0_deal 39 = .ok (.aload_n 0, 1) := dk_42 (dk_at dksX0_deal_1 15 rfl rfl)
theorem dX0_deal_40 : decode cX0_deal 40 = .ok (.getfield 33, 3) := dk_180 0 33 (dk_at dksX0_deal_1 16 rfl rfl)
theorem dX0_deal_43 : decode cX0_deal 43 = .ok (.getfield 93, 3) := dk_180 0 93 (dk_at dksX0_deal_1 19 rfl rfl)
theorem dX0_deal_46 : decode cX0_deal 46 = .ok (.iload_n 1, 1) := dk_27 (dk_at dksX0_deal_1 22 rfl rfl)
theorem dX0_deal_47 : decode cX0_deal 47 = .ok (.aaload, 1) := dk_50 (dk_at dksX0_deal_1 23 rfl rfl)
theorem dX0_deal_48 : decode cX0_deal 48 = .ok (.iconst 2, 1) := dk_5 (dk_at dksX0_deal_2 0 rfl rfl)
theorem dX0_deal_49 : decode cX0_deal 49 = .ok (.iaload, 1) := dk_46 (dk_at dksX0_deal_2 1 rfl rfl)
theorem dX0_deal_50 : decode cX0_deal 50 = .ok (.imul, 1) := dk_104 (dk_at dksX0_deal_2 2 rfl rfl)
theorem dX0_deal_51 : decode cX0_deal 51 = .ok (.istore 5, 2) := dk_54 5 (dk_at dksX0_deal_2 3 rfl rfl)
theorem dX0_deal_53 : decode cX0_deal 53 = .ok (.aload_n 0, 1) := dk_42 (dk_at dksX0_deal_2 5 rfl rfl)
theorem dX0_deal_54 : decode cX0_deal 54 = .ok (.getfield 150, 3) := dk_180 0 150 (dk_at dksX0_deal_2 6 rfl rfl)
theorem dX0_deal_57 : decode cX0_deal 57 = .ok (.iload_n 2, 1) := dk_28 (dk_at dksX0_deal_2 9 rfl rfl)
theorem dX0_deal_58 : decode cX0_deal 58 = .ok (.iaload, 1) := dk_46 (dk_at dksX0_deal_2 10 rfl rfl)
theorem dX0_deal_59 : decode cX0_deal 59 = .ok (.aload_n 0, 1) := dk_42 (dk_at dksX0_deal_2 11 rfl rfl)
theorem dX0_deal_60 : decode cX0_deal 60 = .ok (.getfield 33, 3) := dk_180 0 33 (dk_at dksX0_deal_2 12 rfl rfl)
theorem dX0_deal_63 : decode cX0_deal 63 = .ok (.getfield 93, 3) := dk_180 0 93 (dk_at dksX0_deal_2 15 rfl rfl)
theorem dX0_deal_66 : decode cX0_deal 66 = .ok (.iload_n 2, 1) := dk_28 (dk_at dksX0_deal_2 18 rfl rfl)
theorem dX0_deal_67 : decode cX0_deal 67 = .ok (.aaload, 1) := dk_50 (dk_at dksX0_deal_2 19 rfl rfl)
theorem dX0_deal_68 : decode cX0_deal 68 = .ok (.iconst 2, 1) := dk_5 (dk_at dksX0_deal_2 20 rfl rfl)
theorem dX0_deal_69 : decode cX0_deal 69 = .ok (.iaload, 1) := dk_46 (dk_at dksX0_deal_2 21 rfl rfl)
theorem dX0_deal_70 : decode cX0_deal 70 = .ok (.imul, 1) := dk_104 (dk_at dksX0_deal_2 22 rfl rfl)
theorem dX0_deal_71 : decode cX0_deal 71 = .ok (.istore 6, 2) := dk_54 6 (dk_at dksX0_deal_3 0 rfl rfl)
theorem dX0_deal_73 : decode cX0_deal 73 = .ok (.iconst 0, 1) := dk_3 (dk_at dksX0_deal_3 2 rfl rfl)
theorem dX0_deal_74 : decode cX0_deal 74 = .ok (.istore 7, 2) := dk_54 7 (dk_at dksX0_deal_3 3 rfl rfl)
theorem dX0_deal_76 : decode cX0_deal 76 = .ok (.iload 7, 2) := dk_21 7 (dk_at dksX0_deal_3 5 rfl rfl)
theorem dX0_deal_78 : decode cX0_deal 78 = .ok (.aload_n 0, 1) := dk_42 (dk_at dksX0_deal_3 7 rfl rfl)
theorem dX0_deal_79 : decode cX0_deal 79 = .ok (.getfield 49, 3) := dk_180 0 49 (dk_at dksX0_deal_3 8 rfl rfl)
theorem dX0_deal_82 : decode cX0_deal 82 = .ok (.if_icmp .ge 53, 3) := dk_162 0 53 (dk_at dksX0_deal_3 11 rfl rfl)
theorem dX0_deal_85 : decode cX0_deal 85 = .ok (.aload_n 0, 1) := dk_42 (dk_at dksX0_deal_3 14 rfl rfl)
theorem dX0_deal_86 : decode cX0_deal 86 = .ok (.getfield 211, 3) := dk_180 0 211 (dk_at dksX0_deal_3 15 rfl rfl)
theorem dX0_deal_89 : decode cX0_deal 89 = .ok (.iload 7, 2) := dk_21 7 (dk_at dksX0_deal_3 18 rfl rfl)
theorem dX0_deal_91 : decode cX0_deal 91 = .ok (.aload_n 0, 1) := dk_42 (dk_at dksX0_deal_3 20 rfl rfl)
theorem dX0_deal_92 : decode cX0_deal 92 = .ok (.getfield 182, 3) := dk_180 0 182 (dk_at dksX0_deal_3 21 rfl rfl)
theorem dX0_deal_95 : decode cX0_deal 95 = .ok (.iload 7, 2) := dk_21 7 (dk_at dksX0_deal_4 0 rfl rfl)
theorem dX0_deal_97 : decode cX0_deal 97 = .ok (.iaload, 1) := dk_46 (dk_at dksX0_deal_4 2 rfl rfl)
theorem dX0_deal_98 : decode cX0_deal 98 = .ok (.iload_n 1, 1) := dk_27 (dk_at dksX0_deal_4 3 rfl rfl)
theorem dX0_deal_99 : decode cX0_deal 99 = .ok (.if_icmp .ne 7, 3) := dk_160 0 7 (dk_at dksX0_deal_4 4 rfl rfl)
theorem dX0_deal_102 : decode cX0_deal 102 = .ok (.iload_n 2, 1) := dk_28 (dk_at dksX0_deal_4 7 rfl rfl)
theorem dX0_deal_103 : decode cX0_deal 103 = .ok (.goto 25, 3) := dk_167 0 25 (dk_at dksX0_deal_4 8 rfl rfl)
theorem dX0_deal_106 : decode cX0_deal 106 = .ok (.aload_n 0, 1) := dk_42 (dk_at dksX0_deal_4 11 rfl rfl)
theorem dX0_deal_107 : decode cX0_deal 107 = .ok (.getfield 182, 3) := dk_180 0 182 (dk_at dksX0_deal_4 12 rfl rfl)
theorem dX0_deal_110 : decode cX0_deal 110 = .ok (.iload 7, 2) := dk_21 7 (dk_at dksX0_deal_4 15 rfl rfl)
theorem dX0_deal_112 : decode cX0_deal 112 = .ok (.iaload, 1) := dk_46 (dk_at dksX0_deal_4 17 rfl rfl)
theorem dX0_deal_113 : decode cX0_deal 113 = .ok (.iload_n 2, 1) := dk_28 (dk_at dksX0_deal_4 18 rfl rfl)
theorem dX0_deal_114 : decode cX0_deal 114 = .ok (.if_icmp .ne 7, 3) := dk_160 0 7 (dk_at dksX0_deal_4 19 rfl rfl)
theorem dX0_deal_117 : decode cX0_deal 117 = .ok (.iload_n 1, 1) := dk_27 (dk_at dksX0_deal_4 22 rfl rfl)
theorem dX0_deal_118 : decode cX0_deal 118 = .ok (.goto 10, 3) := dk_167 0 10 (dk_at dksX0_deal_5 0 rfl rfl)
theorem dX0_deal_121 : decode cX0_deal 121 = .ok (.aload_n 0, 1) := dk_42 (dk_at dksX0_deal_5 3 rfl rfl)
theorem dX0_deal_122 : decode cX0_deal 122 = .ok (.getfield 182, 3) := dk_180 0 182 (dk_at dksX0_deal_5 4 rfl rfl)
theorem dX0_deal_125 : decode cX0_deal 125 = .ok (.iload 7, 2) := dk_21 7 (dk_at dksX0_deal_5 7 rfl rfl)
theorem dX0_deal_127 : decode cX0_deal 127 = .ok (.iaload, 1) := dk_46 (dk_at dksX0_deal_5 9 rfl rfl)
theorem dX0_deal_128 : decode cX0_deal 128 = .ok (.iastore, 1) := dk_79 (dk_at dksX0_deal_5 10 rfl rfl)
theorem dX0_deal_129 : decode cX0_deal 129 = .ok (.iinc 7 1, 3) := dk_132 7 1 (dk_at dksX0_deal_5 11 rfl rfl)
theorem dX0_deal_132 : decode cX0_deal 132 = .ok (.goto (-56), 3) := dk_167 255 200 (dk_at dksX0_deal_5 14 rfl rfl)
theorem dX0_deal_135 : decode cX0_deal 135 = .ok (.iload 4, 2) := dk_21 4 (dk_at dksX0_deal_5 17 rfl rfl)
theorem dX0_deal_137 : decode cX0_deal 137 = .ok (.aload_n 0, 1) := dk_42 (dk_at dksX0_deal_5 19 rfl rfl)
theorem dX0_deal_138 : decode cX0_deal 138 = .ok (.invokevirtual 214, 3) := dk_182 0 214 (dk_at dksX0_deal_5 20 rfl rfl)
theorem dX0_deal_141 : decode cX0_deal 141 = .ok (.isub, 1) := dk_100 (dk_at dksX0_deal_5 23 rfl rfl)
theorem dX0_deal_142 : decode cX0_deal 142 = .ok (.istore 7, 2) := dk_54 7 (dk_at dksX0_deal_6 0 rfl rfl)
theorem dX0_deal_144 : decode cX0_deal 144 = .ok (.iload 5, 2) := dk_21 5 (dk_at dksX0_deal_6 2 rfl rfl)
theorem dX0_deal_146 : decode cX0_deal 146 = .ok (.aload_n 0, 1) := dk_42 (dk_at dksX0_deal_6 4 rfl rfl)
theorem dX0_deal_147 : decode cX0_deal 147 = .ok (.getfield 150, 3) := dk_180 0 150 (dk_at dksX0_deal_6 5 rfl rfl)
theorem dX0_deal_150 : decode cX0_deal 150 = .ok (.iload_n 1, 1) := dk_27 (dk_at dksX0_deal_6 8 rfl rfl)
theorem dX0_deal_151 : decode cX0_deal 151 = .ok (.iaload, 1) := dk_46 (dk_at dksX0_deal_6 9 rfl rfl)
theorem dX0_deal_152 : decode cX0_deal 152 = .ok (.aload_n 0, 1) := dk_42 (dk_at dksX0_deal_6 10 rfl rfl)
theorem dX0_deal_153 : decode cX0_deal 153 = .ok (.getfield 33, 3) := dk_180 0 33 (dk_at dksX0_deal_6 11 rfl rfl)
theorem dX0_deal_156 : decode cX0_deal 156 = .ok (.getfield 93, 3) := dk_180 0 93 (dk_at dksX0_deal_6 14 rfl rfl)
theorem dX0_deal_159 : decode cX0_deal 159 = .ok (.iload_n 1, 1) := dk_27 (dk_at dksX0_deal_6 17 rfl rfl)
theorem dX0_deal_160 : decode cX0_deal 160 = .ok (.aaload, 1) := dk_50 (dk_at dksX0_deal_6 18 rfl rfl)
theorem dX0_deal_161 : decode cX0_deal 161 = .ok (.iconst 2, 1) := dk_5 (dk_at dksX0_deal_6 19 rfl rfl)
theorem dX0_deal_162 : decode cX0_deal 162 = .ok (.iaload, 1) := dk_46 (dk_at dksX0_deal_6 20 rfl rfl)
theorem dX0_deal_163 : decode cX0_deal 163 = .ok (.imul, 1) := dk_104 (dk_at dksX0_deal_6 21 rfl rfl)
theorem dX0_deal_164 : decode cX0_deal 164 = .ok (.isub, 1) := dk_100 (dk_at dksX0_deal_6 22 rfl rfl)
theorem dX0_deal_165 : decode cX0_deal 165 = .ok (.istore 8, 2) := dk_54 8 (dk_at dksX0_deal_7 0 rfl rfl)
theorem dX0_deal_167 : decode cX0_deal 167 = .ok (.iload 6, 2) := dk_21 6 (dk_at dksX0_deal_7 2 rfl rfl)
theorem dX0_deal_169 : decode cX0_deal 169 = .ok (.aload_n 0, 1) := dk_42 (dk_at dksX0_deal_7 4 rfl rfl)
theorem dX0_deal_170 : decode cX0_deal 170 = .ok (.getfield 150, 3) := dk_180 0 150 (dk_at dksX0_deal_7 5 rfl rfl)
theorem dX0_deal_173 : decode cX0_deal 173 = .ok (.iload_n 2, 1) := dk_28 (dk_at dksX0_deal_7 8 rfl rfl)
theorem dX0_deal_174 : decode cX0_deal 174 = .ok (.iaload, 1) := dk_46 (dk_at dksX0_deal_7 9 rfl rfl)
theorem dX0_deal_175 : decode cX0_deal 175 = .ok (.aload_n 0, 1) := dk_42 (dk_at dksX0_deal_7 10 rfl rfl)
theorem dX0_deal_176 : decode cX0_deal 176 = .ok (.getfield 33, 3) := dk_180 0 33 (dk_at dksX0_deal_7 11 rfl rfl)
theorem dX0_deal_179 : decode cX0_deal 179 = .ok (.getfield 93, 3) := dk_180 0 93 (dk_at dksX0_deal_7 14 rfl rfl)
theorem dX0_deal_182 : decode cX0_deal 182 = .ok (.iload_n 2, 1) := dk_28 (dk_at dksX0_deal_7 17 rfl rfl)
theorem dX0_deal_183 : decode cX0_deal 183 = .ok (.aaload, 1) := dk_50 (dk_at dksX0_deal_7 18 rfl rfl)
theorem dX0_deal_184 : decode cX0_deal 184 = .ok (.iconst 2, 1) := dk_5 (dk_at dksX0_deal_7 19 rfl rfl)
theorem dX0_deal_185 : decode cX0_deal 185 = .ok (.iaload, 1) := dk_46 (dk_at dksX0_deal_7 20 rfl rfl)
theorem dX0_deal_186 : decode cX0_deal 186 = .ok (.imul, 1) := dk_104 (dk_at dksX0_deal_7 21 rfl rfl)
theorem dX0_deal_187 : decode cX0_deal 187 = .ok (.isub, 1) := dk_100 (dk_at dksX0_deal_7 22 rfl rfl)
theorem dX0_deal_188 : decode cX0_deal 188 = .ok (.istore 9, 2) := dk_54 9 (dk_at dksX0_deal_8 0 rfl rfl)
theorem dX0_deal_190 : decode cX0_deal 190 = .ok (.sipush 10000, 3) := dk_17 39 16 (dk_at dksX0_deal_8 2 rfl rfl)
theorem dX0_deal_193 : decode cX0_deal 193 = .ok (.iload_n 3, 1) := dk_29 (dk_at dksX0_deal_8 5 rfl rfl)
theorem dX0_deal_194 : decode cX0_deal 194 = .ok (.ifCond .ne 8, 3) := dk_154 0 8 (dk_at dksX0_deal_8 6 rfl rfl)
theorem dX0_deal_197 : decode cX0_deal 197 = .ok (.iload 8, 2) := dk_21 8 (dk_at dksX0_deal_8 9 rfl rfl)
theorem dX0_deal_199 : decode cX0_deal 199 = .ok (.goto 15, 3) := dk_167 0 15 (dk_at dksX0_deal_8 11 rfl rfl)
theorem dX0_deal_202 : decode cX0_deal 202 = .ok (.iload_n 3, 1) := dk_29 (dk_at dksX0_deal_8 14 rfl rfl)
theorem dX0_deal_203 : decode cX0_deal 203 = .ok (.iconst 1, 1) := dk_4 (dk_at dksX0_deal_8 15 rfl rfl)
theorem dX0_deal_204 : decode cX0_deal 204 = .ok (.if_icmp .ne 8, 3) := dk_160 0 8 (dk_at dksX0_deal_8 16 rfl rfl)
theorem dX0_deal_207 : decode cX0_deal 207 = .ok (.iload 9, 2) := dk_21 9 (dk_at dksX0_deal_8 19 rfl rfl)
theorem dX0_deal_209 : decode cX0_deal 209 = .ok (.goto 5, 3) := dk_167 0 5 (dk_at dksX0_deal_8 21 rfl rfl)
theorem dX0_deal_212 : decode cX0_deal 212 = .ok (.iload 7, 2) := dk_21 7 (dk_at dksX0_deal_9 0 rfl rfl)
theorem dX0_deal_214 : decode cX0_deal 214 = .ok (.iadd, 1) := dk_96 (dk_at dksX0_deal_9 2 rfl rfl)
theorem dX0_deal_215 : decode cX0_deal 215 = .ok (.ireturn, 1) := dk_172 (dk_at dksX0_deal_9 3 rfl rfl)
abbrev cX0_mean : ByteArray := prog_1_method_47_code
def yX0_mean : MethodName := ⟨RX0, "mean", "(III)J"⟩
def dkwX0_mean_2 : List UInt8 := [184, 1, 2, 173]
abbrev dktX0_mean_2 : List UInt8 := dkwX0_mean_2 ++ []
def dkwX0_mean_1 : List UInt8 := [184, 0, 3, 154, 0, 7, 20, 0, 248, 173, 42, 27, 28, 16, 252, 182, 0, 250, 42, 182, 0, 254, 29]
abbrev dktX0_mean_1 : List UInt8 := dkwX0_mean_1 ++ dktX0_mean_2
def dkwX0_mean_0 : List UInt8 := [27, 133, 9, 20, 0, 226, 184, 0, 3, 153, 0, 21, 42, 28, 182, 0, 86, 153, 0, 13, 29, 133, 9, 10]
abbrev dktX0_mean_0 : List UInt8 := dkwX0_mean_0 ++ dktX0_mean_1
theorem dksX0_mean_0 : cX0_mean.data.toList.drop 0 = dktX0_mean_0 := by decide +kernel
theorem dksX0_mean_1 : cX0_mean.data.toList.drop 24 = dktX0_mean_1 := dk_seg dksX0_mean_0 24 rfl rfl
theorem dksX0_mean_2 : cX0_mean.data.toList.drop 47 = dktX0_mean_2 := dk_seg dksX0_mean_1 23 rfl rfl
theorem dX0_mean_0 : decode cX0_mean 0 = .ok (.iload_n 1, 1) := dk_27 (dk_at dksX0_mean_0 0 rfl rfl)
theorem dX0_mean_1 : decode cX0_mean 1 = .ok (.i2l, 1) := dk_133 (dk_at dksX0_mean_0 1 rfl rfl)
theorem dX0_mean_2 : decode cX0_mean 2 = .ok (.lconst 0, 1) := dk_9 (dk_at dksX0_mean_0 2 rfl rfl)
theorem dX0_mean_3 : decode cX0_mean 3 = .ok (.ldc2_w 226, 3) := dk_20 0 226 (dk_at dksX0_mean_0 3 rfl rfl)
theorem dX0_mean_6 : decode cX0_mean 6 = .ok (.invokestatic 3, 3) := dk_184 0 3 (dk_at dksX0_mean_0 6 rfl rfl)
theorem dX0_mean_9 : decode cX0_mean 9 = .ok (.ifCond .eq 21, 3) := dk_153 0 21 (dk_at dksX0_mean_0 9 rfl rfl)
theorem dX0_mean_12 : decode cX0_mean 12 = .ok (.aload_n 0, 1) := dk_42 (dk_at dksX0_mean_0 12 rfl rfl)
theorem dX0_mean_13 : decode cX0_mean 13 = .ok (.iload_n 2, 1) := dk_28 (dk_at dksX0_mean_0 13 rfl rfl)
theorem dX0_mean_14 : decode cX0_mean 14 = .ok (.invokevirtual 86, 3) := dk_182 0 86 (dk_at dksX0_mean_0 14 rfl rfl)
theorem dX0_mean_17 : decode cX0_mean 17 = .ok (.ifCond .eq 13, 3) := dk_153 0 13 (dk_at dksX0_mean_0 17 rfl rfl)
theorem dX0_mean_20 : decode cX0_mean 20 = .ok (.iload_n 3, 1) := dk_29 (dk_at dksX0_mean_0 20 rfl rfl)
theorem dX0_mean_21 : decode cX0_mean 21 = .ok (.i2l, 1) := dk_133 (dk_at dksX0_mean_0 21 rfl rfl)
theorem dX0_mean_22 : decode cX0_mean 22 = .ok (.lconst 0, 1) := dk_9 (dk_at dksX0_mean_0 22 rfl rfl)
theorem dX0_mean_23 : decode cX0_mean 23 = .ok (.lconst 1, 1) := dk_10 (dk_at dksX0_mean_0 23 rfl rfl)
theorem dX0_mean_24 : decode cX0_mean 24 = .ok (.invokestatic 3, 3) := dk_184 0 3 (dk_at dksX0_mean_1 0 rfl rfl)
theorem dX0_mean_27 : decode cX0_mean 27 = .ok (.ifCond .ne 7, 3) := dk_154 0 7 (dk_at dksX0_mean_1 3 rfl rfl)
theorem dX0_mean_30 : decode cX0_mean 30 = .ok (.ldc2_w 248, 3) := dk_20 0 248 (dk_at dksX0_mean_1 6 rfl rfl)
theorem dX0_mean_33 : decode cX0_mean 33 = .ok (.lreturn, 1) := dk_173 (dk_at dksX0_mean_1 9 rfl rfl)
theorem dX0_mean_34 : decode cX0_mean 34 = .ok (.aload_n 0, 1) := dk_42 (dk_at dksX0_mean_1 10 rfl rfl)
theorem dX0_mean_35 : decode cX0_mean 35 = .ok (.iload_n 1, 1) := dk_27 (dk_at dksX0_mean_1 11 rfl rfl)
theorem dX0_mean_36 : decode cX0_mean 36 = .ok (.iload_n 2, 1) := dk_28 (dk_at dksX0_mean_1 12 rfl rfl)
theorem dX0_mean_37 : decode cX0_mean 37 = .ok (.bipush (-4), 2) := dk_16 252 (dk_at dksX0_mean_1 13 rfl rfl)
theorem dX0_mean_39 : decode cX0_mean 39 = .ok (.invokevirtual 250, 3) := dk_182 0 250 (dk_at dksX0_mean_1 15 rfl rfl)
theorem dX0_mean_42 : decode cX0_mean 42 = .ok (.aload_n 0, 1) := dk_42 (dk_at dksX0_mean_1 18 rfl rfl)
theorem dX0_mean_43 : decode cX0_mean 43 = .ok (.invokevirtual 254, 3) := dk_182 0 254 (dk_at dksX0_mean_1 19 rfl rfl)
theorem dX0_mean_46 : decode cX0_mean 46 = .ok (.iload_n 3, 1) := dk_29 (dk_at dksX0_mean_1 22 rfl rfl)
theorem dX0_mean_47 : decode cX0_mean 47 = .ok (.invokestatic 258, 3) := dk_184 1 2 (dk_at dksX0_mean_2 0 rfl rfl)
theorem dX0_mean_50 : decode cX0_mean 50 = .ok (.lreturn, 1) := dk_173 (dk_at dksX0_mean_2 3 rfl rfl)
abbrev cX0_byOdds : ByteArray := prog_1_method_45_code
def yX0_byOdds : MethodName := ⟨RX0, "byOdds", "(III)J"⟩
def dkwX0_byOdds_6 : List UInt8 := [4, 167, 0, 4, 3, 133, 105, 97, 55, 4, 132, 6, 1, 167, 255, 107, 22, 4, 173]
abbrev dktX0_byOdds_6 : List UInt8 := dkwX0_byOdds_6 ++ []
def dkwX0_byOdds_5 : List UInt8 := [16, 252, 160, 0, 12, 42, 180, 0, 150, 28, 46, 167, 0, 18, 42, 180, 0, 182, 29, 46, 28, 160, 0, 7]
abbrev dktX0_byOdds_5 : List UInt8 := dkwX0_byOdds_5 ++ dktX0_byOdds_6
def dkwX0_byOdds_4 : List UInt8 := [167, 255, 200, 42, 42, 180, 0, 33, 180, 0, 79, 6, 46, 21, 6, 182, 0, 197, 22, 4, 22, 7, 29]
abbrev dktX0_byOdds_4 : List UInt8 := dkwX0_byOdds_4 ++ dktX0_byOdds_5
def dkwX0_byOdds_3 : List UInt8 := [21, 9, 184, 0, 157, 153, 0, 8, 27, 133, 167, 0, 8, 16, 10, 27, 100, 133, 105, 55, 7, 132, 9, 1]
abbrev dktX0_byOdds_3 : List UInt8 := dkwX0_byOdds_3 ++ dktX0_byOdds_4
def dkwX0_byOdds_2 : List UInt8 := [22, 7, 42, 180, 0, 33, 180, 0, 83, 21, 9, 184, 0, 157, 154, 0, 7, 10, 167, 0, 23, 21, 6]
abbrev dktX0_byOdds_2 : List UInt8 := dkwX0_byOdds_2 ++ dktX0_byOdds_3
def dkwX0_byOdds_1 : List UInt8 := [180, 0, 83, 2, 130, 126, 154, 0, 122, 10, 55, 7, 3, 54, 9, 21, 9, 42, 180, 0, 49, 162, 0, 53]
abbrev dktX0_byOdds_1 : List UInt8 := dkwX0_byOdds_1 ++ dktX0_byOdds_2
def dkwX0_byOdds_0 : List UInt8 := [9, 55, 4, 3, 54, 6, 21, 6, 42, 180, 0, 33, 180, 0, 83, 163, 0, 143, 21, 6, 42, 180, 0, 33]
abbrev dktX0_byOdds_0 : List UInt8 := dkwX0_byOdds_0 ++ dktX0_byOdds_1
theorem dksX0_byOdds_0 : cX0_byOdds.data.toList.drop 0 = dktX0_byOdds_0 := by decide +kernel
theorem dksX0_byOdds_1 : cX0_byOdds.data.toList.drop 24 = dktX0_byOdds_1 := dk_seg dksX0_byOdds_0 24 rfl rfl
theorem dksX0_byOdds_2 : cX0_byOdds.data.toList.drop 48 = dktX0_byOdds_2 := dk_seg dksX0_byOdds_1 24 rfl rfl
theorem dksX0_byOdds_3 : cX0_byOdds.data.toList.drop 71 = dktX0_byOdds_3 := dk_seg dksX0_byOdds_2 23 rfl rfl
theorem dksX0_byOdds_4 : cX0_byOdds.data.toList.drop 95 = dktX0_byOdds_4 := dk_seg dksX0_byOdds_3 24 rfl rfl
theorem dksX0_byOdds_5 : cX0_byOdds.data.toList.drop 118 = dktX0_byOdds_5 := dk_seg dksX0_byOdds_4 23 rfl rfl
theorem dksX0_byOdds_6 : cX0_byOdds.data.toList.drop 142 = dktX0_byOdds_6 := dk_seg dksX0_byOdds_5 24 rfl rfl
theorem dX0_byOdds_0 : decode cX0_byOdds 0 = .ok (.lconst 0, 1) := dk_9 (dk_at dksX0_byOdds_0 0 rfl rfl)
theorem dX0_byOdds_1 : decode cX0_byOdds 1 = .ok (.lstore 4, 2) := dk_55 4 (dk_at dksX0_byOdds_0 1 rfl rfl)
theorem dX0_byOdds_3 : decode cX0_byOdds 3 = .ok (.iconst 0, 1) := dk_3 (dk_at dksX0_byOdds_0 3 rfl rfl)
theorem dX0_byOdds_4 : decode cX0_byOdds 4 = .ok (.istore 6, 2) := dk_54 6 (dk_at dksX0_byOdds_0 4 rfl rfl)
theorem dX0_byOdds_6 : decode cX0_byOdds 6 = .ok (.iload 6, 2) := dk_21 6 (dk_at dksX0_byOdds_0 6 rfl rfl)
theorem dX0_byOdds_8 : decode cX0_byOdds 8 = .ok (.aload_n 0, 1) := dk_42 (dk_at dksX0_byOdds_0 8 rfl rfl)
theorem dX0_byOdds_9 : decode cX0_byOdds 9 = .ok (.getfield 33, 3) := dk_180 0 33 (dk_at dksX0_byOdds_0 9 rfl rfl)
theorem dX0_byOdds_12 : decode cX0_byOdds 12 = .ok (.getfield 83, 3) := dk_180 0 83 (dk_at dksX0_byOdds_0 12 rfl rfl)
theorem dX0_byOdds_15 : decode cX0_byOdds 15 = .ok (.if_icmp .gt 143, 3) := dk_163 0 143 (dk_at dksX0_byOdds_0 15 rfl rfl)
theorem dX0_byOdds_18 : decode cX0_byOdds 18 = .ok (.iload 6, 2) := dk_21 6 (dk_at dksX0_byOdds_0 18 rfl rfl)
theorem dX0_byOdds_20 : decode cX0_byOdds 20 = .ok (.aload_n 0, 1) := dk_42 (dk_at dksX0_byOdds_0 20 rfl rfl)
theorem dX0_byOdds_21 : decode cX0_byOdds 21 = .ok (.getfield 33, 3) := dk_180 0 33 (dk_at dksX0_byOdds_0 21 rfl rfl)
theorem dX0_byOdds_24 : decode cX0_byOdds 24 = .ok (.getfield 83, 3) := dk_180 0 83 (dk_at dksX0_byOdds_1 0 rfl rfl)
theorem dX0_byOdds_27 : decode cX0_byOdds 27 = .ok (.iconst (-1), 1) := dk_2 (dk_at dksX0_byOdds_1 3 rfl rfl)
theorem dX0_byOdds_28 : decode cX0_byOdds 28 = .ok (.ixor, 1) := dk_130 (dk_at dksX0_byOdds_1 4 rfl rfl)
theorem dX0_byOdds_29 : decode cX0_byOdds 29 = .ok (.iand, 1) := dk_126 (dk_at dksX0_byOdds_1 5 rfl rfl)
theorem dX0_byOdds_30 : decode cX0_byOdds 30 = .ok (.ifCond .ne 122, 3) := dk_154 0 122 (dk_at dksX0_byOdds_1 6 rfl rfl)
theorem dX0_byOdds_33 : decode cX0_byOdds 33 = .ok (.lconst 1, 1) := dk_10 (dk_at dksX0_byOdds_1 9 rfl rfl)
theorem dX0_byOdds_34 : decode cX0_byOdds 34 = .ok (.lstore 7, 2) := dk_55 7 (dk_at dksX0_byOdds_1 10 rfl rfl)
theorem dX0_byOdds_36 : decode cX0_byOdds 36 = .ok (.iconst 0, 1) := dk_3 (dk_at dksX0_byOdds_1 12 rfl rfl)
theorem dX0_byOdds_37 : decode cX0_byOdds 37 = .ok (.istore 9, 2) := dk_54 9 (dk_at dksX0_byOdds_1 13 rfl rfl)
theorem dX0_byOdds_39 : decode cX0_byOdds 39 = .ok (.iload 9, 2) := dk_21 9 (dk_at dksX0_byOdds_1 15 rfl rfl)
theorem dX0_byOdds_41 : decode cX0_byOdds 41 = .ok (.aload_n 0, 1) := dk_42 (dk_at dksX0_byOdds_1 17 rfl rfl)
theorem dX0_byOdds_42 : decode cX0_byOdds 42 = .ok (.getfield 49, 3) := dk_180 0 49 (dk_at dksX0_byOdds_1 18 rfl rfl)
theorem dX0_byOdds_45 : decode cX0_byOdds 45 = .ok (.if_icmp .ge 53, 3) := dk_162 0 53 (dk_at dksX0_byOdds_1 21 rfl rfl)
theorem dX0_byOdds_48 : decode cX0_byOdds 48 = .ok (.lload 7, 2) := dk_22 7 (dk_at dksX0_byOdds_2 0 rfl rfl)
theorem dX0_byOdds_50 : decode cX0_byOdds 50 = .ok (.aload_n 0, 1) := dk_42 (dk_at dksX0_byOdds_2 2 rfl rfl)
theorem dX0_byOdds_51 : decode cX0_byOdds 51 = .ok (.getfield 33, 3) := dk_180 0 33 (dk_at dksX0_byOdds_2 3 rfl rfl)
theorem dX0_byOdds_54 : decode cX0_byOdds 54 = .ok (.getfield 83, 3) := dk_180 0 83 (dk_at dksX0_byOdds_2 6 rfl rfl)
theorem dX0_byOdds_57 : decode cX0_byOdds 57 = .ok (.iload 9, 2) := dk_21 9 (dk_at dksX0_byOdds_2 9 rfl rfl)
theorem dX0_byOdds_59 : decode cX0_byOdds 59 = .ok (.invokestatic 157, 3) := dk_184 0 157 (dk_at dksX0_byOdds_2 11 rfl rfl)
theorem dX0_byOdds_62 : decode cX0_byOdds 62 = .ok (.ifCond .ne 7, 3) := dk_154 0 7 (dk_at dksX0_byOdds_2 14 rfl rfl)
theorem dX0_byOdds_65 : decode cX0_byOdds 65 = .ok (.lconst 1, 1) := dk_10 (dk_at dksX0_byOdds_2 17 rfl rfl)
theorem dX0_byOdds_66 : decode cX0_byOdds 66 = .ok (.goto 23, 3) := dk_167 0 23 (dk_at dksX0_byOdds_2 18 rfl rfl)
theorem dX0_byOdds_69 : decode cX0_byOdds 69 = .ok (.iload 6, 2) := dk_21 6 (dk_at dksX0_byOdds_2 21 rfl rfl)
theorem dX0_byOdds_71 : decode cX0_byOdds 71 = .ok (.iload 9, 2) := dk_21 9 (dk_at dksX0_byOdds_3 0 rfl rfl)
theorem dX0_byOdds_73 : decode cX0_byOdds 73 = .ok (.invokestatic 157, 3) := dk_184 0 157 (dk_at dksX0_byOdds_3 2 rfl rfl)
theorem dX0_byOdds_76 : decode cX0_byOdds 76 = .ok (.ifCond .eq 8, 3) := dk_153 0 8 (dk_at dksX0_byOdds_3 5 rfl rfl)
theorem dX0_byOdds_79 : decode cX0_byOdds 79 = .ok (.iload_n 1, 1) := dk_27 (dk_at dksX0_byOdds_3 8 rfl rfl)
theorem dX0_byOdds_80 : decode cX0_byOdds 80 = .ok (.i2l, 1) := dk_133 (dk_at dksX0_byOdds_3 9 rfl rfl)
theorem dX0_byOdds_81 : decode cX0_byOdds 81 = .ok (.goto 8, 3) := dk_167 0 8 (dk_at dksX0_byOdds_3 10 rfl rfl)
theorem dX0_byOdds_84 : decode cX0_byOdds 84 = .ok (.bipush 10, 2) := dk_16 10 (dk_at dksX0_byOdds_3 13 rfl rfl)
theorem dX0_byOdds_86 : decode cX0_byOdds 86 = .ok (.iload_n 1, 1) := dk_27 (dk_at dksX0_byOdds_3 15 rfl rfl)
theorem dX0_byOdds_87 : decode cX0_byOdds 87 = .ok (.isub, 1) := dk_100 (dk_at dksX0_byOdds_3 16 rfl rfl)
theorem dX0_byOdds_88 : decode cX0_byOdds 88 = .ok (.i2l, 1) := dk_133 (dk_at dksX0_byOdds_3 17 rfl rfl)
theorem dX0_byOdds_89 : decode cX0_byOdds 89 = .ok (.lmul, 1) := dk_105 (dk_at dksX0_byOdds_3 18 rfl rfl)
theorem dX0_byOdds_90 : decode cX0_byOdds 90 = .ok (.lstore 7, 2) := dk_55 7 (dk_at dksX0_byOdds_3 19 rfl rfl)
theorem dX0_byOdds_92 : decode cX0_byOdds 92 = .ok (.iinc 9 1, 3) := dk_132 9 1 (dk_at dksX0_byOdds_3 21 rfl rfl)
theorem dX0_byOdds_95 : decode cX0_byOdds 95 = .ok (.goto (-56), 3) := dk_167 255 200 (dk_at dksX0_byOdds_4 0 rfl rfl)
theorem dX0_byOdds_98 : decode cX0_byOdds 98 = .ok (.aload_n 0, 1) := dk_42 (dk_at dksX0_byOdds_4 3 rfl rfl)
theorem dX0_byOdds_99 : decode cX0_byOdds 99 = .ok (.aload_n 0, 1) := dk_42 (dk_at dksX0_byOdds_4 4 rfl rfl)
theorem dX0_byOdds_100 : decode cX0_byOdds 100 = .ok (.getfield 33, 3) := dk_180 0 33 (dk_at dksX0_byOdds_4 5 rfl rfl)
theorem dX0_byOdds_103 : decode cX0_byOdds 103 = .ok (.getfield 79, 3) := dk_180 0 79 (dk_at dksX0_byOdds_4 8 rfl rfl)
theorem dX0_byOdds_106 : decode cX0_byOdds 106 = .ok (.iconst 3, 1) := dk_6 (dk_at dksX0_byOdds_4 11 rfl rfl)
theorem dX0_byOdds_107 : decode cX0_byOdds 107 = .ok (.iaload, 1) := dk_46 (dk_at dksX0_byOdds_4 12 rfl rfl)
theorem dX0_byOdds_108 : decode cX0_byOdds 108 = .ok (.iload 6, 2) := dk_21 6 (dk_at dksX0_byOdds_4 13 rfl rfl)
theorem dX0_byOdds_110 : decode cX0_byOdds 110 = .ok (.invokevirtual 197, 3) := dk_182 0 197 (dk_at dksX0_byOdds_4 15 rfl rfl)
theorem dX0_byOdds_113 : decode cX0_byOdds 113 = .ok (.lload 4, 2) := dk_22 4 (dk_at dksX0_byOdds_4 18 rfl rfl)
theorem dX0_byOdds_115 : decode cX0_byOdds 115 = .ok (.lload 7, 2) := dk_22 7 (dk_at dksX0_byOdds_4 20 rfl rfl)
theorem dX0_byOdds_117 : decode cX0_byOdds 117 = .ok (.iload_n 3, 1) := dk_29 (dk_at dksX0_byOdds_4 22 rfl rfl)
theorem dX0_byOdds_118 : decode cX0_byOdds 118 = .ok (.bipush (-4), 2) := dk_16 252 (dk_at dksX0_byOdds_5 0 rfl rfl)
theorem dX0_byOdds_120 : decode cX0_byOdds 120 = .ok (.if_icmp .ne 12, 3) := dk_160 0 12 (dk_at dksX0_byOdds_5 2 rfl rfl)
theorem dX0_byOdds_123 : decode cX0_byOdds 123 = .ok (.aload_n 0, 1) := dk_42 (dk_at dksX0_byOdds_5 5 rfl rfl)
theorem dX0_byOdds_124 : decode cX0_byOdds 124 = .ok (.getfield 150, 3) := dk_180 0 150 (dk_at dksX0_byOdds_5 6 rfl rfl)
theorem dX0_byOdds_127 : decode cX0_byOdds 127 = .ok (.iload_n 2, 1) := dk_28 (dk_at dksX0_byOdds_5 9 rfl rfl)
theorem dX0_byOdds_128 : decode cX0_byOdds 128 = .ok (.iaload, 1) := dk_46 (dk_at dksX0_byOdds_5 10 rfl rfl)
theorem dX0_byOdds_129 : decode cX0_byOdds 129 = .ok (.goto 18, 3) := dk_167 0 18 (dk_at dksX0_byOdds_5 11 rfl rfl)
theorem dX0_byOdds_132 : decode cX0_byOdds 132 = .ok (.aload_n 0, 1) := dk_42 (dk_at dksX0_byOdds_5 14 rfl rfl)
theorem dX0_byOdds_133 : decode cX0_byOdds 133 = .ok (.getfield 182, 3) := dk_180 0 182 (dk_at dksX0_byOdds_5 15 rfl rfl)
theorem dX0_byOdds_136 : decode cX0_byOdds 136 = .ok (.iload_n 3, 1) := dk_29 (dk_at dksX0_byOdds_5 18 rfl rfl)
theorem dX0_byOdds_137 : decode cX0_byOdds 137 = .ok (.iaload, 1) := dk_46 (dk_at dksX0_byOdds_5 19 rfl rfl)
theorem dX0_byOdds_138 : decode cX0_byOdds 138 = .ok (.iload_n 2, 1) := dk_28 (dk_at dksX0_byOdds_5 20 rfl rfl)
theorem dX0_byOdds_139 : decode cX0_byOdds 139 = .ok (.if_icmp .ne 7, 3) := dk_160 0 7 (dk_at dksX0_byOdds_5 21 rfl rfl)
theorem dX0_byOdds_142 : decode cX0_byOdds 142 = .ok (.iconst 1, 1) := dk_4 (dk_at dksX0_byOdds_6 0 rfl rfl)
theorem dX0_byOdds_143 : decode cX0_byOdds 143 = .ok (.goto 4, 3) := dk_167 0 4 (dk_at dksX0_byOdds_6 1 rfl rfl)
theorem dX0_byOdds_146 : decode cX0_byOdds 146 = .ok (.iconst 0, 1) := dk_3 (dk_at dksX0_byOdds_6 4 rfl rfl)
theorem dX0_byOdds_147 : decode cX0_byOdds 147 = .ok (.i2l, 1) := dk_133 (dk_at dksX0_byOdds_6 5 rfl rfl)
theorem dX0_byOdds_148 : decode cX0_byOdds 148 = .ok (.lmul, 1) := dk_105 (dk_at dksX0_byOdds_6 6 rfl rfl)
theorem dX0_byOdds_149 : decode cX0_byOdds 149 = .ok (.ladd, 1) := dk_97 (dk_at dksX0_byOdds_6 7 rfl rfl)
theorem dX0_byOdds_150 : decode cX0_byOdds 150 = .ok (.lstore 4, 2) := dk_55 4 (dk_at dksX0_byOdds_6 8 rfl rfl)
theorem dX0_byOdds_152 : decode cX0_byOdds 152 = .ok (.iinc 6 1, 3) := dk_132 6 1 (dk_at dksX0_byOdds_6 10 rfl rfl)
theorem dX0_byOdds_155 : decode cX0_byOdds 155 = .ok (.goto (-149), 3) := dk_167 255 107 (dk_at dksX0_byOdds_6 13 rfl rfl)
theorem dX0_byOdds_158 : decode cX0_byOdds 158 = .ok (.lload 4, 2) := dk_22 4 (dk_at dksX0_byOdds_6 16 rfl rfl)
theorem dX0_byOdds_160 : decode cX0_byOdds 160 = .ok (.lreturn, 1) := dk_173 (dk_at dksX0_byOdds_6 18 rfl rfl)
abbrev cX0_allOdds : ByteArray := prog_1_method_46_code
def yX0_allOdds : MethodName := ⟨RX0, "allOdds", "()J"⟩
def dkwX0_allOdds_1 : List UInt8 := [132, 3, 255, 167, 255, 243, 31, 173]
abbrev dktX0_allOdds_1 : List UInt8 := dkwX0_allOdds_1 ++ []
def dkwX0_allOdds_0 : List UInt8 := [10, 64, 42, 180, 0, 33, 180, 0, 83, 184, 0, 243, 62, 29, 158, 0, 15, 31, 20, 0, 226, 105, 64]
abbrev dktX0_allOdds_0 : List UInt8 := dkwX0_allOdds_0 ++ dktX0_allOdds_1
theorem dksX0_allOdds_0 : cX0_allOdds.data.toList.drop 0 = dktX0_allOdds_0 := by decide +kernel
theorem dksX0_allOdds_1 : cX0_allOdds.data.toList.drop 23 = dktX0_allOdds_1 := dk_seg dksX0_allOdds_0 23 rfl rfl
theorem dX0_allOdds_0 : decode cX0_allOdds 0 = .ok (.lconst 1, 1) := dk_10 (dk_at dksX0_allOdds_0 0 rfl rfl)
theorem dX0_allOdds_1 : decode cX0_allOdds 1 = .ok (.lstore_n 1, 1) := dk_64 (dk_at dksX0_allOdds_0 1 rfl rfl)
theorem dX0_allOdds_2 : decode cX0_allOdds 2 = .ok (.aload_n 0, 1) := dk_42 (dk_at dksX0_allOdds_0 2 rfl rfl)
theorem dX0_allOdds_3 : decode cX0_allOdds 3 = .ok (.getfield 33, 3) := dk_180 0 33 (dk_at dksX0_allOdds_0 3 rfl rfl)
theorem dX0_allOdds_6 : decode cX0_allOdds 6 = .ok (.getfield 83, 3) := dk_180 0 83 (dk_at dksX0_allOdds_0 6 rfl rfl)
theorem dX0_allOdds_9 : decode cX0_allOdds 9 = .ok (.invokestatic 243, 3) := dk_184 0 243 (dk_at dksX0_allOdds_0 9 rfl rfl)
theorem dX0_allOdds_12 : decode cX0_allOdds 12 = .ok (.istore_n 3, 1) := dk_62 (dk_at dksX0_allOdds_0 12 rfl rfl)
theorem dX0_allOdds_13 : decode cX0_allOdds 13 = .ok (.iload_n 3, 1) := dk_29 (dk_at dksX0_allOdds_0 13 rfl rfl)
theorem dX0_allOdds_14 : decode cX0_allOdds 14 = .ok (.ifCond .le 15, 3) := dk_158 0 15 (dk_at dksX0_allOdds_0 14 rfl rfl)
theorem dX0_allOdds_17 : decode cX0_allOdds 17 = .ok (.lload_n 1, 1) := dk_31 (dk_at dksX0_allOdds_0 17 rfl rfl)
theorem dX0_allOdds_18 : decode cX0_allOdds 18 = .ok (.ldc2_w 226, 3) := dk_20 0 226 (dk_at dksX0_allOdds_0 18 rfl rfl)
theorem dX0_allOdds_21 : decode cX0_allOdds 21 = .ok (.lmul, 1) := dk_105 (dk_at dksX0_allOdds_0 21 rfl rfl)
theorem dX0_allOdds_22 : decode cX0_allOdds 22 = .ok (.lstore_n 1, 1) := dk_64 (dk_at dksX0_allOdds_0 22 rfl rfl)
theorem dX0_allOdds_23 : decode cX0_allOdds 23 = .ok (.iinc 3 (-1), 3) := dk_132 3 255 (dk_at dksX0_allOdds_1 0 rfl rfl)
theorem dX0_allOdds_26 : decode cX0_allOdds 26 = .ok (.goto (-13), 3) := dk_167 255 243 (dk_at dksX0_allOdds_1 3 rfl rfl)
theorem dX0_allOdds_29 : decode cX0_allOdds 29 = .ok (.lload_n 1, 1) := dk_31 (dk_at dksX0_allOdds_1 6 rfl rfl)
theorem dX0_allOdds_30 : decode cX0_allOdds 30 = .ok (.lreturn, 1) := dk_173 (dk_at dksX0_allOdds_1 7 rfl rfl)
abbrev cX0_lowest : ByteArray := prog_1_method_44_code
def yX0_lowest : MethodName := ⟨RX0, "lowest", "(JJI)J"⟩
def dkwX0_lowest_0 : List UInt8 := [21, 4, 154, 0, 7, 30, 167, 0, 4, 32, 30, 32, 184, 0, 239, 109, 173]
abbrev dktX0_lowest_0 : List UInt8 := dkwX0_lowest_0 ++ []
theorem dksX0_lowest_0 : cX0_lowest.data.toList.drop 0 = dktX0_lowest_0 := by decide +kernel
theorem dX0_lowest_0 : decode cX0_lowest 0 = .ok (.iload 4, 2) := dk_21 4 (dk_at dksX0_lowest_0 0 rfl rfl)
theorem dX0_lowest_2 : decode cX0_lowest 2 = .ok (.ifCond .ne 7, 3) := dk_154 0 7 (dk_at dksX0_lowest_0 2 rfl rfl)
theorem dX0_lowest_5 : decode cX0_lowest 5 = .ok (.lload_n 0, 1) := dk_30 (dk_at dksX0_lowest_0 5 rfl rfl)
theorem dX0_lowest_6 : decode cX0_lowest 6 = .ok (.goto 4, 3) := dk_167 0 4 (dk_at dksX0_lowest_0 6 rfl rfl)
theorem dX0_lowest_9 : decode cX0_lowest 9 = .ok (.lload_n 2, 1) := dk_32 (dk_at dksX0_lowest_0 9 rfl rfl)
theorem dX0_lowest_10 : decode cX0_lowest 10 = .ok (.lload_n 0, 1) := dk_30 (dk_at dksX0_lowest_0 10 rfl rfl)
theorem dX0_lowest_11 : decode cX0_lowest 11 = .ok (.lload_n 2, 1) := dk_32 (dk_at dksX0_lowest_0 11 rfl rfl)
theorem dX0_lowest_12 : decode cX0_lowest 12 = .ok (.invokestatic 239, 3) := dk_184 0 239 (dk_at dksX0_lowest_0 12 rfl rfl)
theorem dX0_lowest_15 : decode cX0_lowest 15 = .ok (.ldiv, 1) := dk_109 (dk_at dksX0_lowest_0 15 rfl rfl)
theorem dX0_lowest_16 : decode cX0_lowest 16 = .ok (.lreturn, 1) := dk_173 (dk_at dksX0_lowest_0 16 rfl rfl)
abbrev cX0_divisor : ByteArray := prog_1_method_43_code
def yX0_divisor : MethodName := ⟨RX0, "divisor", "(JJ)J"⟩
def dkwX0_divisor_0 : List UInt8 := [32, 9, 148, 154, 0, 7, 30, 167, 0, 10, 32, 30, 32, 113, 184, 0, 239, 173]
abbrev dktX0_divisor_0 : List UInt8 := dkwX0_divisor_0 ++ []
theorem dksX0_divisor_0 : cX0_divisor.data.toList.drop 0 = dktX0_divisor_0 := by decide +kernel
theorem dX0_divisor_0 : decode cX0_divisor 0 = .ok (.lload_n 2, 1) := dk_32 (dk_at dksX0_divisor_0 0 rfl rfl)
theorem dX0_divisor_1 : decode cX0_divisor 1 = .ok (.lconst 0, 1) := dk_9 (dk_at dksX0_divisor_0 1 rfl rfl)
theorem dX0_divisor_2 : decode cX0_divisor 2 = .ok (.lcmp, 1) := dk_148 (dk_at dksX0_divisor_0 2 rfl rfl)
theorem dX0_divisor_3 : decode cX0_divisor 3 = .ok (.ifCond .ne 7, 3) := dk_154 0 7 (dk_at dksX0_divisor_0 3 rfl rfl)
theorem dX0_divisor_6 : decode cX0_divisor 6 = .ok (.lload_n 0, 1) := dk_30 (dk_at dksX0_divisor_0 6 rfl rfl)
theorem dX0_divisor_7 : decode cX0_divisor 7 = .ok (.goto 10, 3) := dk_167 0 10 (dk_at dksX0_divisor_0 7 rfl rfl)
theorem dX0_divisor_10 : decode cX0_divisor 10 = .ok (.lload_n 2, 1) := dk_32 (dk_at dksX0_divisor_0 10 rfl rfl)
theorem dX0_divisor_11 : decode cX0_divisor 11 = .ok (.lload_n 0, 1) := dk_30 (dk_at dksX0_divisor_0 11 rfl rfl)
theorem dX0_divisor_12 : decode cX0_divisor 12 = .ok (.lload_n 2, 1) := dk_32 (dk_at dksX0_divisor_0 12 rfl rfl)
theorem dX0_divisor_13 : decode cX0_divisor 13 = .ok (.lrem, 1) := dk_113 (dk_at dksX0_divisor_0 13 rfl rfl)
theorem dX0_divisor_14 : decode cX0_divisor 14 = .ok (.invokestatic 239, 3) := dk_184 0 239 (dk_at dksX0_divisor_0 14 rfl rfl)
theorem dX0_divisor_17 : decode cX0_divisor 17 = .ok (.lreturn, 1) := dk_173 (dk_at dksX0_divisor_0 17 rfl rfl)
abbrev cX0_luck : ByteArray := prog_1_method_48_code
def yX0_luck : MethodName := ⟨RX0, "luck", "(IIII)J"⟩
def dkwX0_luck_2 : List UInt8 := [29, 182, 0, 250, 42, 182, 0, 254, 21, 4, 184, 1, 2, 173]
abbrev dktX0_luck_2 : List UInt8 := dkwX0_luck_2 ++ []
def dkwX0_luck_1 : List UInt8 := [182, 0, 86, 153, 0, 14, 21, 4, 133, 9, 10, 184, 0, 3, 154, 0, 7, 20, 0, 248, 173, 42, 27, 28]
abbrev dktX0_luck_1 : List UInt8 := dkwX0_luck_1 ++ dktX0_luck_2
def dkwX0_luck_0 : List UInt8 := [27, 133, 9, 20, 0, 226, 184, 0, 3, 153, 0, 30, 42, 28, 182, 0, 86, 153, 0, 22, 42, 29]
abbrev dktX0_luck_0 : List UInt8 := dkwX0_luck_0 ++ dktX0_luck_1
theorem dksX0_luck_0 : cX0_luck.data.toList.drop 0 = dktX0_luck_0 := by decide +kernel
theorem dksX0_luck_1 : cX0_luck.data.toList.drop 22 = dktX0_luck_1 := dk_seg dksX0_luck_0 22 rfl rfl
theorem dksX0_luck_2 : cX0_luck.data.toList.drop 46 = dktX0_luck_2 := dk_seg dksX0_luck_1 24 rfl rfl
theorem dX0_luck_0 : decode cX0_luck 0 = .ok (.iload_n 1, 1) := dk_27 (dk_at dksX0_luck_0 0 rfl rfl)
theorem dX0_luck_1 : decode cX0_luck 1 = .ok (.i2l, 1) := dk_133 (dk_at dksX0_luck_0 1 rfl rfl)
theorem dX0_luck_2 : decode cX0_luck 2 = .ok (.lconst 0, 1) := dk_9 (dk_at dksX0_luck_0 2 rfl rfl)
theorem dX0_luck_3 : decode cX0_luck 3 = .ok (.ldc2_w 226, 3) := dk_20 0 226 (dk_at dksX0_luck_0 3 rfl rfl)
theorem dX0_luck_6 : decode cX0_luck 6 = .ok (.invokestatic 3, 3) := dk_184 0 3 (dk_at dksX0_luck_0 6 rfl rfl)
theorem dX0_luck_9 : decode cX0_luck 9 = .ok (.ifCond .eq 30, 3) := dk_153 0 30 (dk_at dksX0_luck_0 9 rfl rfl)
theorem dX0_luck_12 : decode cX0_luck 12 = .ok (.aload_n 0, 1) := dk_42 (dk_at dksX0_luck_0 12 rfl rfl)
theorem dX0_luck_13 : decode cX0_luck 13 = .ok (.iload_n 2, 1) := dk_28 (dk_at dksX0_luck_0 13 rfl rfl)
theorem dX0_luck_14 : decode cX0_luck 14 = .ok (.invokevirtual 86, 3) := dk_182 0 86 (dk_at dksX0_luck_0 14 rfl rfl)
theorem dX0_luck_17 : decode cX0_luck 17 = .ok (.ifCond .eq 22, 3) := dk_153 0 22 (dk_at dksX0_luck_0 17 rfl rfl)
theorem dX0_luck_20 : decode cX0_luck 20 = .ok (.aload_n 0, 1) := dk_42 (dk_at dksX0_luck_0 20 rfl rfl)
theorem dX0_luck_21 : decode cX0_luck 21 = .ok (.iload_n 3, 1) := dk_29 (dk_at dksX0_luck_0 21 rfl rfl)
theorem dX0_luck_22 : decode cX0_luck 22 = .ok (.invokevirtual 86, 3) := dk_182 0 86 (dk_at dksX0_luck_1 0 rfl rfl)
theorem dX0_luck_25 : decode cX0_luck 25 = .ok (.ifCond .eq 14, 3) := dk_153 0 14 (dk_at dksX0_luck_1 3 rfl rfl)
theorem dX0_luck_28 : decode cX0_luck 28 = .ok (.iload 4, 2) := dk_21 4 (dk_at dksX0_luck_1 6 rfl rfl)
theorem dX0_luck_30 : decode cX0_luck 30 = .ok (.i2l, 1) := dk_133 (dk_at dksX0_luck_1 8 rfl rfl)
theorem dX0_luck_31 : decode cX0_luck 31 = .ok (.lconst 0, 1) := dk_9 (dk_at dksX0_luck_1 9 rfl rfl)
theorem dX0_luck_32 : decode cX0_luck 32 = .ok (.lconst 1, 1) := dk_10 (dk_at dksX0_luck_1 10 rfl rfl)
theorem dX0_luck_33 : decode cX0_luck 33 = .ok (.invokestatic 3, 3) := dk_184 0 3 (dk_at dksX0_luck_1 11 rfl rfl)
theorem dX0_luck_36 : decode cX0_luck 36 = .ok (.ifCond .ne 7, 3) := dk_154 0 7 (dk_at dksX0_luck_1 14 rfl rfl)
theorem dX0_luck_39 : decode cX0_luck 39 = .ok (.ldc2_w 248, 3) := dk_20 0 248 (dk_at dksX0_luck_1 17 rfl rfl)
theorem dX0_luck_42 : decode cX0_luck 42 = .ok (.lreturn, 1) := dk_173 (dk_at dksX0_luck_1 20 rfl rfl)
theorem dX0_luck_43 : decode cX0_luck 43 = .ok (.aload_n 0, 1) := dk_42 (dk_at dksX0_luck_1 21 rfl rfl)
theorem dX0_luck_44 : decode cX0_luck 44 = .ok (.iload_n 1, 1) := dk_27 (dk_at dksX0_luck_1 22 rfl rfl)
theorem dX0_luck_45 : decode cX0_luck 45 = .ok (.iload_n 2, 1) := dk_28 (dk_at dksX0_luck_1 23 rfl rfl)
theorem dX0_luck_46 : decode cX0_luck 46 = .ok (.iload_n 3, 1) := dk_29 (dk_at dksX0_luck_2 0 rfl rfl)
theorem dX0_luck_47 : decode cX0_luck 47 = .ok (.invokevirtual 250, 3) := dk_182 0 250 (dk_at dksX0_luck_2 1 rfl rfl)
theorem dX0_luck_50 : decode cX0_luck 50 = .ok (.aload_n 0, 1) := dk_42 (dk_at dksX0_luck_2 4 rfl rfl)
theorem dX0_luck_51 : decode cX0_luck 51 = .ok (.invokevirtual 254, 3) := dk_182 0 254 (dk_at dksX0_luck_2 5 rfl rfl)
theorem dX0_luck_54 : decode cX0_luck 54 = .ok (.iload 4, 2) := dk_21 4 (dk_at dksX0_luck_2 8 rfl rfl)
theorem dX0_luck_56 : decode cX0_luck 56 = .ok (.invokestatic 258, 3) := dk_184 1 2 (dk_at dksX0_luck_2 10 rfl rfl)
theorem dX0_luck_59 : decode cX0_luck 59 = .ok (.lreturn, 1) := dk_173 (dk_at dksX0_luck_2 13 rfl rfl)
abbrev cX0_see : ByteArray := prog_1_method_49_code
def yX0_see : MethodName := ⟨RX0, "see", "(II)I"⟩
def dkwX0_see_2 : List UInt8 := [180, 0, 50, 50, 4, 28, 79, 42, 89, 180, 0, 50, 4, 96, 181, 0, 50, 42, 180, 0, 50, 172]
abbrev dktX0_see_2 : List UInt8 := dkwX0_see_2 ++ []
def dkwX0_see_1 : List UInt8 := [160, 0, 6, 16, 253, 172, 42, 180, 1, 6, 42, 180, 0, 50, 50, 3, 27, 79, 42, 180, 1, 6, 42]
abbrev dktX0_see_1 : List UInt8 := dkwX0_see_1 ++ dktX0_see_2
def dkwX0_see_0 : List UInt8 := [42, 27, 182, 0, 86, 153, 0, 11, 42, 28, 182, 0, 86, 154, 0, 5, 2, 172, 42, 180, 0, 50, 16, 6]
abbrev dktX0_see_0 : List UInt8 := dkwX0_see_0 ++ dktX0_see_1
theorem dksX0_see_0 : cX0_see.data.toList.drop 0 = dktX0_see_0 := by decide +kernel
theorem dksX0_see_1 : cX0_see.data.toList.drop 24 = dktX0_see_1 := dk_seg dksX0_see_0 24 rfl rfl
theorem dksX0_see_2 : cX0_see.data.toList.drop 47 = dktX0_see_2 := dk_seg dksX0_see_1 23 rfl rfl
theorem dX0_see_0 : decode cX0_see 0 = .ok (.aload_n 0, 1) := dk_42 (dk_at dksX0_see_0 0 rfl rfl)
theorem dX0_see_1 : decode cX0_see 1 = .ok (.iload_n 1, 1) := dk_27 (dk_at dksX0_see_0 1 rfl rfl)
theorem dX0_see_2 : decode cX0_see 2 = .ok (.invokevirtual 86, 3) := dk_182 0 86 (dk_at dksX0_see_0 2 rfl rfl)
theorem dX0_see_5 : decode cX0_see 5 = .ok (.ifCond .eq 11, 3) := dk_153 0 11 (dk_at dksX0_see_0 5 rfl rfl)
theorem dX0_see_8 : decode cX0_see 8 = .ok (.aload_n 0, 1) := dk_42 (dk_at dksX0_see_0 8 rfl rfl)
theorem dX0_see_9 : decode cX0_see 9 = .ok (.iload_n 2, 1) := dk_28 (dk_at dksX0_see_0 9 rfl rfl)
theorem dX0_see_10 : decode cX0_see 10 = .ok (.invokevirtual 86, 3) := dk_182 0 86 (dk_at dksX0_see_0 10 rfl rfl)
theorem dX0_see_13 : decode cX0_see 13 = .ok (.ifCond .ne 5, 3) := dk_154 0 5 (dk_at dksX0_see_0 13 rfl rfl)
theorem dX0_see_16 : decode cX0_see 16 = .ok (.iconst (-1), 1) := dk_2 (dk_at dksX0_see_0 16 rfl rfl)
theorem dX0_see_17 : decode cX0_see 17 = .ok (.ireturn, 1) := dk_172 (dk_at dksX0_see_0 17 rfl rfl)
theorem dX0_see_18 : decode cX0_see 18 = .ok (.aload_n 0, 1) := dk_42 (dk_at dksX0_see_0 18 rfl rfl)
theorem dX0_see_19 : decode cX0_see 19 = .ok (.getfield 50, 3) := dk_180 0 50 (dk_at dksX0_see_0 19 rfl rfl)
theorem dX0_see_22 : decode cX0_see 22 = .ok (.bipush 6, 2) := dk_16 6 (dk_at dksX0_see_0 22 rfl rfl)
theorem dX0_see_24 : decode cX0_see 24 = .ok (.if_icmp .ne 6, 3) := dk_160 0 6 (dk_at dksX0_see_1 0 rfl rfl)
theorem dX0_see_27 : decode cX0_see 27 = .ok (.bipush (-3), 2) := dk_16 253 (dk_at dksX0_see_1 3 rfl rfl)
theorem dX0_see_29 : decode cX0_see 29 = .ok (.ireturn, 1) := dk_172 (dk_at dksX0_see_1 5 rfl rfl)
theorem dX0_see_30 : decode cX0_see 30 = .ok (.aload_n 0, 1) := dk_42 (dk_at dksX0_see_1 6 rfl rfl)
theorem dX0_see_31 : decode cX0_see 31 = .ok (.getfield 262, 3) := dk_180 1 6 (dk_at dksX0_see_1 7 rfl rfl)
theorem dX0_see_34 : decode cX0_see 34 = .ok (.aload_n 0, 1) := dk_42 (dk_at dksX0_see_1 10 rfl rfl)
theorem dX0_see_35 : decode cX0_see 35 = .ok (.getfield 50, 3) := dk_180 0 50 (dk_at dksX0_see_1 11 rfl rfl)
theorem dX0_see_38 : decode cX0_see 38 = .ok (.aaload, 1) := dk_50 (dk_at dksX0_see_1 14 rfl rfl)
theorem dX0_see_39 : decode cX0_see 39 = .ok (.iconst 0, 1) := dk_3 (dk_at dksX0_see_1 15 rfl rfl)
theorem dX0_see_40 : decode cX0_see 40 = .ok (.iload_n 1, 1) := dk_27 (dk_at dksX0_see_1 16 rfl rfl)
theorem dX0_see_41 : decode cX0_see 41 = .ok (.iastore, 1) := dk_79 (dk_at dksX0_see_1 17 rfl rfl)
theorem dX0_see_42 : decode cX0_see 42 = .ok (.aload_n 0, 1) := dk_42 (dk_at dksX0_see_1 18 rfl rfl)
theorem dX0_see_43 : decode cX0_see 43 = .ok (.getfield 262, 3) := dk_180 1 6 (dk_at dksX0_see_1 19 rfl rfl)
theorem dX0_see_46 : decode cX0_see 46 = .ok (.aload_n 0, 1) := dk_42 (dk_at dksX0_see_1 22 rfl rfl)
theorem dX0_see_47 : decode cX0_see 47 = .ok (.getfield 50, 3) := dk_180 0 50 (dk_at dksX0_see_2 0 rfl rfl)
theorem dX0_see_50 : decode cX0_see 50 = .ok (.aaload, 1) := dk_50 (dk_at dksX0_see_2 3 rfl rfl)
theorem dX0_see_51 : decode cX0_see 51 = .ok (.iconst 1, 1) := dk_4 (dk_at dksX0_see_2 4 rfl rfl)
theorem dX0_see_52 : decode cX0_see 52 = .ok (.iload_n 2, 1) := dk_28 (dk_at dksX0_see_2 5 rfl rfl)
theorem dX0_see_53 : decode cX0_see 53 = .ok (.iastore, 1) := dk_79 (dk_at dksX0_see_2 6 rfl rfl)
theorem dX0_see_54 : decode cX0_see 54 = .ok (.aload_n 0, 1) := dk_42 (dk_at dksX0_see_2 7 rfl rfl)
theorem dX0_see_55 : decode cX0_see 55 = .ok (.dup, 1) := dk_89 (dk_at dksX0_see_2 8 rfl rfl)
theorem dX0_see_56 : decode cX0_see 56 = .ok (.getfield 50, 3) := dk_180 0 50 (dk_at dksX0_see_2 9 rfl rfl)
theorem dX0_see_59 : decode cX0_see 59 = .ok (.iconst 1, 1) := dk_4 (dk_at dksX0_see_2 12 rfl rfl)
theorem dX0_see_60 : decode cX0_see 60 = .ok (.iadd, 1) := dk_96 (dk_at dksX0_see_2 13 rfl rfl)
theorem dX0_see_61 : decode cX0_see 61 = .ok (.putfield 50, 3) := dk_181 0 50 (dk_at dksX0_see_2 14 rfl rfl)
theorem dX0_see_64 : decode cX0_see 64 = .ok (.aload_n 0, 1) := dk_42 (dk_at dksX0_see_2 17 rfl rfl)
theorem dX0_see_65 : decode cX0_see 65 = .ok (.getfield 50, 3) := dk_180 0 50 (dk_at dksX0_see_2 18 rfl rfl)
theorem dX0_see_68 : decode cX0_see 68 = .ok (.ireturn, 1) := dk_172 (dk_at dksX0_see_2 21 rfl rfl)
abbrev cX0_forget : ByteArray := prog_1_method_50_code
def yX0_forget : MethodName := ⟨RX0, "forget", "(I)I"⟩
def dkwX0_forget_1 : List UInt8 := [181, 0, 50, 28, 172]
abbrev dktX0_forget_1 : List UInt8 := dkwX0_forget_1 ++ []
def dkwX0_forget_0 : List UInt8 := [27, 133, 9, 42, 180, 0, 50, 133, 184, 0, 3, 154, 0, 5, 2, 172, 42, 180, 0, 50, 61, 42, 27]
abbrev dktX0_forget_0 : List UInt8 := dkwX0_forget_0 ++ dktX0_forget_1
theorem dksX0_forget_0 : cX0_forget.data.toList.drop 0 = dktX0_forget_0 := by decide +kernel
theorem dksX0_forget_1 : cX0_forget.data.toList.drop 23 = dktX0_forget_1 := dk_seg dksX0_forget_0 23 rfl rfl
theorem dX0_forget_0 : decode cX0_forget 0 = .ok (.iload_n 1, 1) := dk_27 (dk_at dksX0_forget_0 0 rfl rfl)
theorem dX0_forget_1 : decode cX0_forget 1 = .ok (.i2l, 1) := dk_133 (dk_at dksX0_forget_0 1 rfl rfl)
theorem dX0_forget_2 : decode cX0_forget 2 = .ok (.lconst 0, 1) := dk_9 (dk_at dksX0_forget_0 2 rfl rfl)
theorem dX0_forget_3 : decode cX0_forget 3 = .ok (.aload_n 0, 1) := dk_42 (dk_at dksX0_forget_0 3 rfl rfl)
theorem dX0_forget_4 : decode cX0_forget 4 = .ok (.getfield 50, 3) := dk_180 0 50 (dk_at dksX0_forget_0 4 rfl rfl)
theorem dX0_forget_7 : decode cX0_forget 7 = .ok (.i2l, 1) := dk_133 (dk_at dksX0_forget_0 7 rfl rfl)
theorem dX0_forget_8 : decode cX0_forget 8 = .ok (.invokestatic 3, 3) := dk_184 0 3 (dk_at dksX0_forget_0 8 rfl rfl)
theorem dX0_forget_11 : decode cX0_forget 11 = .ok (.ifCond .ne 5, 3) := dk_154 0 5 (dk_at dksX0_forget_0 11 rfl rfl)
theorem dX0_forget_14 : decode cX0_forget 14 = .ok (.iconst (-1), 1) := dk_2 (dk_at dksX0_forget_0 14 rfl rfl)
theorem dX0_forget_15 : decode cX0_forget 15 = .ok (.ireturn, 1) := dk_172 (dk_at dksX0_forget_0 15 rfl rfl)
theorem dX0_forget_16 : decode cX0_forget 16 = .ok (.aload_n 0, 1) := dk_42 (dk_at dksX0_forget_0 16 rfl rfl)
theorem dX0_forget_17 : decode cX0_forget 17 = .ok (.getfield 50, 3) := dk_180 0 50 (dk_at dksX0_forget_0 17 rfl rfl)
theorem dX0_forget_20 : decode cX0_forget 20 = .ok (.istore_n 2, 1) := dk_61 (dk_at dksX0_forget_0 20 rfl rfl)
theorem dX0_forget_21 : decode cX0_forget 21 = .ok (.aload_n 0, 1) := dk_42 (dk_at dksX0_forget_0 21 rfl rfl)
theorem dX0_forget_22 : decode cX0_forget 22 = .ok (.iload_n 1, 1) := dk_27 (dk_at dksX0_forget_0 22 rfl rfl)
theorem dX0_forget_23 : decode cX0_forget 23 = .ok (.putfield 50, 3) := dk_181 0 50 (dk_at dksX0_forget_1 0 rfl rfl)
theorem dX0_forget_26 : decode cX0_forget 26 = .ok (.iload_n 2, 1) := dk_28 (dk_at dksX0_forget_1 3 rfl rfl)
theorem dX0_forget_27 : decode cX0_forget 27 = .ok (.ireturn, 1) := dk_172 (dk_at dksX0_forget_1 4 rfl rfl)
abbrev cX0_fits : ByteArray := prog_1_method_52_code
def yX0_fits : MethodName := ⟨RX0, "fits", "(I)I"⟩
def dkwX0_fits_7 : List UInt8 := [167, 0, 9, 29, 21, 7, 2, 130, 126, 172]
abbrev dktX0_fits_7 : List UInt8 := dkwX0_fits_7 ++ []
def dkwX0_fits_6 : List UInt8 := [167, 0, 15, 27, 4, 160, 0, 8, 21, 5, 167, 0, 5, 16, 252, 172, 27, 5, 160, 0, 8, 21, 6]
abbrev dktX0_fits_6 : List UInt8 := dkwX0_fits_6 ++ dktX0_fits_7
def dkwX0_fits_5 : List UInt8 := [180, 0, 33, 28, 181, 0, 83, 27, 5, 161, 0, 8, 21, 4, 154, 0, 25, 27, 154, 0, 8, 21, 4]
abbrev dktX0_fits_5 : List UInt8 := dkwX0_fits_5 ++ dktX0_fits_6
def dkwX0_fits_4 : List UInt8 := [21, 7, 21, 9, 128, 54, 7, 132, 4, 1, 132, 9, 1, 167, 255, 203, 132, 8, 1, 167, 255, 188, 42]
abbrev dktX0_fits_4 : List UInt8 := dkwX0_fits_4 ++ dktX0_fits_5
def dkwX0_fits_3 : List UInt8 := [21, 8, 182, 1, 9, 153, 0, 29, 21, 5, 4, 21, 8, 120, 128, 54, 5, 21, 6, 21, 9, 126, 54, 6]
abbrev dktX0_fits_3 : List UInt8 := dkwX0_fits_3 ++ dktX0_fits_4
def dkwX0_fits_2 : List UInt8 := [8, 162, 0, 68, 3, 54, 9, 21, 9, 29, 163, 0, 53, 42, 180, 0, 33, 21, 9, 181, 0, 83, 42]
abbrev dktX0_fits_2 : List UInt8 := dkwX0_fits_2 ++ dktX0_fits_3
def dkwX0_fits_1 : List UInt8 := [180, 0, 49, 120, 4, 100, 62, 3, 54, 4, 3, 54, 5, 29, 54, 6, 3, 54, 7, 3, 54, 8, 21, 8]
abbrev dktX0_fits_1 : List UInt8 := dkwX0_fits_1 ++ dktX0_fits_2
def dkwX0_fits_0 : List UInt8 := [27, 133, 9, 20, 0, 109, 184, 0, 3, 154, 0, 5, 2, 172, 42, 180, 0, 33, 180, 0, 83, 61, 4, 42]
abbrev dktX0_fits_0 : List UInt8 := dkwX0_fits_0 ++ dktX0_fits_1
theorem dksX0_fits_0 : cX0_fits.data.toList.drop 0 = dktX0_fits_0 := by decide +kernel
theorem dksX0_fits_1 : cX0_fits.data.toList.drop 24 = dktX0_fits_1 := dk_seg dksX0_fits_0 24 rfl rfl
theorem dksX0_fits_2 : cX0_fits.data.toList.drop 48 = dktX0_fits_2 := dk_seg dksX0_fits_1 24 rfl rfl
theorem dksX0_fits_3 : cX0_fits.data.toList.drop 71 = dktX0_fits_3 := dk_seg dksX0_fits_2 23 rfl rfl
theorem dksX0_fits_4 : cX0_fits.data.toList.drop 95 = dktX0_fits_4 := dk_seg dksX0_fits_3 24 rfl rfl
theorem dksX0_fits_5 : cX0_fits.data.toList.drop 118 = dktX0_fits_5 := dk_seg dksX0_fits_4 23 rfl rfl
theorem dksX0_fits_6 : cX0_fits.data.toList.drop 141 = dktX0_fits_6 := dk_seg dksX0_fits_5 23 rfl rfl
theorem dksX0_fits_7 : cX0_fits.data.toList.drop 164 = dktX0_fits_7 := dk_seg dksX0_fits_6 23 rfl rfl
theorem dX0_fits_0 : decode cX0_fits 0 = .ok (.iload_n 1, 1) := dk_27 (dk_at dksX0_fits_0 0 rfl rfl)
theorem dX0_fits_1 : decode cX0_fits 1 = .ok (.i2l, 1) := dk_133 (dk_at dksX0_fits_0 1 rfl rfl)
theorem dX0_fits_2 : decode cX0_fits 2 = .ok (.lconst 0, 1) := dk_9 (dk_at dksX0_fits_0 2 rfl rfl)
theorem dX0_fits_3 : decode cX0_fits 3 = .ok (.ldc2_w 109, 3) := dk_20 0 109 (dk_at dksX0_fits_0 3 rfl rfl)
theorem dX0_fits_6 : decode cX0_fits 6 = .ok (.invokestatic 3, 3) := dk_184 0 3 (dk_at dksX0_fits_0 6 rfl rfl)
theorem dX0_fits_9 : decode cX0_fits 9 = .ok (.ifCond .ne 5, 3) := dk_154 0 5 (dk_at dksX0_fits_0 9 rfl rfl)
theorem dX0_fits_12 : decode cX0_fits 12 = .ok (.iconst (-1), 1) := dk_2 (dk_at dksX0_fits_0 12 rfl rfl)
theorem dX0_fits_13 : decode cX0_fits 13 = .ok (.ireturn, 1) := dk_172 (dk_at dksX0_fits_0 13 rfl rfl)
theorem dX0_fits_14 : decode cX0_fits 14 = .ok (.aload_n 0, 1) := dk_42 (dk_at dksX0_fits_0 14 rfl rfl)
theorem dX0_fits_15 : decode cX0_fits 15 = .ok (.getfield 33, 3) := dk_180 0 33 (dk_at dksX0_fits_0 15 rfl rfl)
theorem dX0_fits_18 : decode cX0_fits 18 = .ok (.getfield 83, 3) := dk_180 0 83 (dk_at dksX0_fits_0 18 rfl rfl)
theorem dX0_fits_21 : decode cX0_fits 21 = .ok (.istore_n 2, 1) := dk_61 (dk_at dksX0_fits_0 21 rfl rfl)
theorem dX0_fits_22 : decode cX0_fits 22 = .ok (.iconst 1, 1) := dk_4 (dk_at dksX0_fits_0 22 rfl rfl)
theorem dX0_fits_23 : decode cX0_fits 23 = .ok (.aload_n 0, 1) := dk_42 (dk_at dksX0_fits_0 23 rfl rfl)
theorem dX0_fits_24 : decode cX0_fits 24 = .ok (.getfield 49, 3) := dk_180 0 49 (dk_at dksX0_fits_1 0 rfl rfl)
theorem dX0_fits_27 : decode cX0_fits 27 = .ok (.ishl, 1) := dk_120 (dk_at dksX0_fits_1 3 rfl rfl)
theorem dX0_fits_28 : decode cX0_fits 28 = .ok (.iconst 1, 1) := dk_4 (dk_at dksX0_fits_1 4 rfl rfl)
theorem dX0_fits_29 : decode cX0_fits 29 = .ok (.isub, 1) := dk_100 (dk_at dksX0_fits_1 5 rfl rfl)
theorem dX0_fits_30 : decode cX0_fits 30 = .ok (.istore_n 3, 1) := dk_62 (dk_at dksX0_fits_1 6 rfl rfl)
theorem dX0_fits_31 : decode cX0_fits 31 = .ok (.iconst 0, 1) := dk_3 (dk_at dksX0_fits_1 7 rfl rfl)
theorem dX0_fits_32 : decode cX0_fits 32 = .ok (.istore 4, 2) := dk_54 4 (dk_at dksX0_fits_1 8 rfl rfl)
theorem dX0_fits_34 : decode cX0_fits 34 = .ok (.iconst 0, 1) := dk_3 (dk_at dksX0_fits_1 10 rfl rfl)
theorem dX0_fits_35 : decode cX0_fits 35 = .ok (.istore 5, 2) := dk_54 5 (dk_at dksX0_fits_1 11 rfl rfl)
theorem dX0_fits_37 : decode cX0_fits 37 = .ok (.iload_n 3, 1) := dk_29 (dk_at dksX0_fits_1 13 rfl rfl)
theorem dX0_fits_38 : decode cX0_fits 38 = .ok (.istore 6, 2) := dk_54 6 (dk_at dksX0_fits_1 14 rfl rfl)
theorem dX0_fits_40 : decode cX0_fits 40 = .ok (.iconst 0, 1) := dk_3 (dk_at dksX0_fits_1 16 rfl rfl)
theorem dX0_fits_41 : decode cX0_fits 41 = .ok (.istore 7, 2) := dk_54 7 (dk_at dksX0_fits_1 17 rfl rfl)
theorem dX0_fits_43 : decode cX0_fits 43 = .ok (.iconst 0, 1) := dk_3 (dk_at dksX0_fits_1 19 rfl rfl)
theorem dX0_fits_44 : decode cX0_fits 44 = .ok (.istore 8, 2) := dk_54 8 (dk_at dksX0_fits_1 20 rfl rfl)
theorem dX0_fits_46 : decode cX0_fits 46 = .ok (.iload 8, 2) := dk_21 8 (dk_at dksX0_fits_1 22 rfl rfl)
theorem dX0_fits_48 : decode cX0_fits 48 = .ok (.iconst 5, 1) := dk_8 (dk_at dksX0_fits_2 0 rfl rfl)
theorem dX0_fits_49 : decode cX0_fits 49 = .ok (.if_icmp .ge 68, 3) := dk_162 0 68 (dk_at dksX0_fits_2 1 rfl rfl)
theorem dX0_fits_52 : decode cX0_fits 52 = .ok (.iconst 0, 1) := dk_3 (dk_at dksX0_fits_2 4 rfl rfl)
theorem dX0_fits_53 : decode cX0_fits 53 = .ok (.istore 9, 2) := dk_54 9 (dk_at dksX0_fits_2 5 rfl rfl)
theorem dX0_fits_55 : decode cX0_fits 55 = .ok (.iload 9, 2) := dk_21 9 (dk_at dksX0_fits_2 7 rfl rfl)
theorem dX0_fits_57 : decode cX0_fits 57 = .ok (.iload_n 3, 1) := dk_29 (dk_at dksX0_fits_2 9 rfl rfl)
theorem dX0_fits_58 : decode cX0_fits 58 = .ok (.if_icmp .gt 53, 3) := dk_163 0 53 (dk_at dksX0_fits_2 10 rfl rfl)
theorem dX0_fits_61 : decode cX0_fits 61 = .ok (.aload_n 0, 1) := dk_42 (dk_at dksX0_fits_2 13 rfl rfl)
theorem dX0_fits_62 : decode cX0_fits 62 = .ok (.getfield 33, 3) := dk_180 0 33 (dk_at dksX0_fits_2 14 rfl rfl)
theorem dX0_fits_65 : decode cX0_fits 65 = .ok (.iload 9, 2) := dk_21 9 (dk_at dksX0_fits_2 17 rfl rfl)
theorem dX0_fits_67 : decode cX0_fits 67 = .ok (.putfield 83, 3) := dk_181 0 83 (dk_at dksX0_fits_2 19 rfl rfl)
theorem dX0_fits_70 : decode cX0_fits 70 = .ok (.aload_n 0, 1) := dk_42 (dk_at dksX0_fits_2 22 rfl rfl)
theorem dX0_fits_71 : decode cX0_fits 71 = .ok (.iload 8, 2) := dk_21 8 (dk_at dksX0_fits_3 0 rfl rfl)
theorem dX0_fits_73 : decode cX0_fits 73 = .ok (.invokevirtual 265, 3) := dk_182 1 9 (dk_at dksX0_fits_3 2 rfl rfl)
theorem dX0_fits_76 : decode cX0_fits 76 = .ok (.ifCond .eq 29, 3) := dk_153 0 29 (dk_at dksX0_fits_3 5 rfl rfl)
theorem dX0_fits_79 : decode cX0_fits 79 = .ok (.iload 5, 2) := dk_21 5 (dk_at dksX0_fits_3 8 rfl rfl)
theorem dX0_fits_81 : decode cX0_fits 81 = .ok (.iconst 1, 1) := dk_4 (dk_at dksX0_fits_3 10 rfl rfl)
theorem dX0_fits_82 : decode cX0_fits 82 = .ok (.iload 8, 2) := dk_21 8 (dk_at dksX0_fits_3 11 rfl rfl)
theorem dX0_fits_84 : decode cX0_fits 84 = .ok (.ishl, 1) := dk_120 (dk_at dksX0_fits_3 13 rfl rfl)
theorem dX0_fits_85 : decode cX0_fits 85 = .ok (.ior, 1) := dk_128 (dk_at dksX0_fits_3 14 rfl rfl)
theorem dX0_fits_86 : decode cX0_fits 86 = .ok (.istore 5, 2) := dk_54 5 (dk_at dksX0_fits_3 15 rfl rfl)
theorem dX0_fits_88 : decode cX0_fits 88 = .ok (.iload 6, 2) := dk_21 6 (dk_at dksX0_fits_3 17 rfl rfl)
theorem dX0_fits_90 : decode cX0_fits 90 = .ok (.iload 9, 2) := dk_21 9 (dk_at dksX0_fits_3 19 rfl rfl)
theorem dX0_fits_92 : decode cX0_fits 92 = .ok (.iand, 1) := dk_126 (dk_at dksX0_fits_3 21 rfl rfl)
theorem dX0_fits_93 : decode cX0_fits 93 = .ok (.istore 6, 2) := dk_54 6 (dk_at dksX0_fits_3 22 rfl rfl)
theorem dX0_fits_95 : decode cX0_fits 95 = .ok (.iload 7, 2) := dk_21 7 (dk_at dksX0_fits_4 0 rfl rfl)
theorem dX0_fits_97 : decode cX0_fits 97 = .ok (.iload 9, 2) := dk_21 9 (dk_at dksX0_fits_4 2 rfl rfl)
theorem dX0_fits_99 : decode cX0_fits 99 = .ok (.ior, 1) := dk_128 (dk_at dksX0_fits_4 4 rfl rfl)
theorem dX0_fits_100 : decode cX0_fits 100 = .ok (.istore 7, 2) := dk_54 7 (dk_at dksX0_fits_4 5 rfl rfl)
theorem dX0_fits_102 : decode cX0_fits 102 = .ok (.iinc 4 1, 3) := dk_132 4 1 (dk_at dksX0_fits_4 7 rfl rfl)
theorem dX0_fits_105 : decode cX0_fits 105 = .ok (.iinc 9 1, 3) := dk_132 9 1 (dk_at dksX0_fits_4 10 rfl rfl)
theorem dX0_fits_108 : decode cX0_fits 108 = .ok (.goto (-53), 3) := dk_167 255 203 (dk_at dksX0_fits_4 13 rfl rfl)
theorem dX0_fits_111 : decode cX0_fits 111 = .ok (.iinc 8 1, 3) := dk_132 8 1 (dk_at dksX0_fits_4 16 rfl rfl)
theorem dX0_fits_114 : decode cX0_fits 114 = .ok (.goto (-68), 3) := dk_167 255 188 (dk_at dksX0_fits_4 19 rfl rfl)
theorem dX0_fits_117 : decode cX0_fits 117 = .ok (.aload_n 0, 1) := dk_42 (dk_at dksX0_fits_4 22 rfl rfl)
theorem dX0_fits_118 : decode cX0_fits 118 = .ok (.getfield 33, 3) := dk_180 0 33 (dk_at dksX0_fits_5 0 rfl rfl)
theorem dX0_fits_121 : decode cX0_fits 121 = .ok (.iload_n 2, 1) := dk_28 (dk_at dksX0_fits_5 3 rfl rfl)
theorem dX0_fits_122 : decode cX0_fits 122 = .ok (.putfield 83, 3) := dk_181 0 83 (dk_at dksX0_fits_5 4 rfl rfl)
theorem dX0_fits_125 : decode cX0_fits 125 = .ok (.iload_n 1, 1) := dk_27 (dk_at dksX0_fits_5 7 rfl rfl)
theorem dX0_fits_126 : decode cX0_fits 126 = .ok (.iconst 2, 1) := dk_5 (dk_at dksX0_fits_5 8 rfl rfl)
theorem dX0_fits_127 : decode cX0_fits 127 = .ok (.if_icmp .lt 8, 3) := dk_161 0 8 (dk_at dksX0_fits_5 9 rfl rfl)
theorem dX0_fits_130 : decode cX0_fits 130 = .ok (.iload 4, 2) := dk_21 4 (dk_at dksX0_fits_5 12 rfl rfl)
theorem dX0_fits_132 : decode cX0_fits 132 = .ok (.ifCond .ne 25, 3) := dk_154 0 25 (dk_at dksX0_fits_5 14 rfl rfl)
theorem dX0_fits_135 : decode cX0_fits 135 = .ok (.iload_n 1, 1) := dk_27 (dk_at dksX0_fits_5 17 rfl rfl)
theorem dX0_fits_136 : decode cX0_fits 136 = .ok (.ifCond .ne 8, 3) := dk_154 0 8 (dk_at dksX0_fits_5 18 rfl rfl)
theorem dX0_fits_139 : decode cX0_fits 139 = .ok (.iload 4, 2) := dk_21 4 (dk_at dksX0_fits_5 21 rfl rfl)
theorem dX0_fits_141 : decode cX0_fits 141 = .ok (.goto 15, 3) := dk_167 0 15 (dk_at dksX0_fits_6 0 rfl rfl)
theorem dX0_fits_144 : decode cX0_fits 144 = .ok (.iload_n 1, 1) := dk_27 (dk_at dksX0_fits_6 3 rfl rfl)
theorem dX0_fits_145 : decode cX0_fits 145 = .ok (.iconst 1, 1) := dk_4 (dk_at dksX0_fits_6 4 rfl rfl)
theorem dX0_fits_146 : decode cX0_fits 146 = .ok (.if_icmp .ne 8, 3) := dk_160 0 8 (dk_at dksX0_fits_6 5 rfl rfl)
theorem dX0_fits_149 : decode cX0_fits 149 = .ok (.iload 5, 2) := dk_21 5 (dk_at dksX0_fits_6 8 rfl rfl)
theorem dX0_fits_151 : decode cX0_fits 151 = .ok (.goto 5, 3) := dk_167 0 5 (dk_at dksX0_fits_6 10 rfl rfl)
theorem dX0_fits_154 : decode cX0_fits 154 = .ok (.bipush (-4), 2) := dk_16 252 (dk_at dksX0_fits_6 13 rfl rfl)
theorem dX0_fits_156 : decode cX0_fits 156 = .ok (.ireturn, 1) := dk_172 (dk_at dksX0_fits_6 15 rfl rfl)
theorem dX0_fits_157 : decode cX0_fits 157 = .ok (.iload_n 1, 1) := dk_27 (dk_at dksX0_fits_6 16 rfl rfl)
theorem dX0_fits_158 : decode cX0_fits 158 = .ok (.iconst 2, 1) := dk_5 (dk_at dksX0_fits_6 17 rfl rfl)
theorem dX0_fits_159 : decode cX0_fits 159 = .ok (.if_icmp .ne 8, 3) := dk_160 0 8 (dk_at dksX0_fits_6 18 rfl rfl)
theorem dX0_fits_162 : decode cX0_fits 162 = .ok (.iload 6, 2) := dk_21 6 (dk_at dksX0_fits_6 21 rfl rfl)
theorem dX0_fits_164 : decode cX0_fits 164 = .ok (.goto 9, 3) := dk_167 0 9 (dk_at dksX0_fits_7 0 rfl rfl)
theorem dX0_fits_167 : decode cX0_fits 167 = .ok (.iload_n 3, 1) := dk_29 (dk_at dksX0_fits_7 3 rfl rfl)
theorem dX0_fits_168 : decode cX0_fits 168 = .ok (.iload 7, 2) := dk_21 7 (dk_at dksX0_fits_7 4 rfl rfl)
theorem dX0_fits_170 : decode cX0_fits 170 = .ok (.iconst (-1), 1) := dk_2 (dk_at dksX0_fits_7 6 rfl rfl)
theorem dX0_fits_171 : decode cX0_fits 171 = .ok (.ixor, 1) := dk_130 (dk_at dksX0_fits_7 7 rfl rfl)
theorem dX0_fits_172 : decode cX0_fits 172 = .ok (.iand, 1) := dk_126 (dk_at dksX0_fits_7 8 rfl rfl)
theorem dX0_fits_173 : decode cX0_fits 173 = .ok (.ireturn, 1) := dk_172 (dk_at dksX0_fits_7 9 rfl rfl)
abbrev cX0_isAsSeen : ByteArray := prog_1_method_51_code
def yX0_isAsSeen : MethodName := ⟨RX0, "isAsSeen", "(I)Z"⟩
def dkwX0_isAsSeen_2 : List UInt8 := [167, 0, 4, 3, 61, 132, 3, 1, 167, 255, 211, 28, 172]
abbrev dktX0_isAsSeen_2 : List UInt8 := dkwX0_isAsSeen_2 ++ []
def dkwX0_isAsSeen_1 : List UInt8 := [180, 0, 182, 42, 180, 1, 6, 29, 50, 3, 46, 46, 42, 180, 1, 6, 29, 50, 4, 46, 160, 0, 7, 4]
abbrev dktX0_isAsSeen_1 : List UInt8 := dkwX0_isAsSeen_1 ++ dktX0_isAsSeen_2
def dkwX0_isAsSeen_0 : List UInt8 := [42, 27, 3, 182, 0, 197, 4, 61, 3, 62, 29, 42, 180, 0, 50, 162, 0, 43, 28, 153, 0, 31, 42]
abbrev dktX0_isAsSeen_0 : List UInt8 := dkwX0_isAsSeen_0 ++ dktX0_isAsSeen_1
theorem dksX0_isAsSeen_0 : cX0_isAsSeen.data.toList.drop 0 = dktX0_isAsSeen_0 := by decide +kernel
theorem dksX0_isAsSeen_1 : cX0_isAsSeen.data.toList.drop 23 = dktX0_isAsSeen_1 := dk_seg dksX0_isAsSeen_0 23 rfl rfl
theorem dksX0_isAsSeen_2 : cX0_isAsSeen.data.toList.drop 47 = dktX0_isAsSeen_2 := dk_seg dksX0_isAsSeen_1 24 rfl rfl
theorem dX0_isAsSeen_0 : decode cX0_isAsSeen 0 = .ok (.aload_n 0, 1) := dk_42 (dk_at dksX0_isAsSeen_0 0 rfl rfl)
theorem dX0_isAsSeen_1 : decode cX0_isAsSeen 1 = .ok (.iload_n 1, 1) := dk_27 (dk_at dksX0_isAsSeen_0 1 rfl rfl)
theorem dX0_isAsSeen_2 : decode cX0_isAsSeen 2 = .ok (.iconst 0, 1) := dk_3 (dk_at dksX0_isAsSeen_0 2 rfl rfl)
theorem dX0_isAsSeen_3 : decode cX0_isAsSeen 3 = .ok (.invokevirtual 197, 3) := dk_182 0 197 (dk_at dksX0_isAsSeen_0 3 rfl rfl)
theorem dX0_isAsSeen_6 : decode cX0_isAsSeen 6 = .ok (.iconst 1, 1) := dk_4 (dk_at dksX0_isAsSeen_0 6 rfl rfl)
theorem dX0_isAsSeen_7 : decode cX0_isAsSeen 7 = .ok (.istore_n 2, 1) := dk_61 (dk_at dksX0_isAsSeen_0 7 rfl rfl)
theorem dX0_isAsSeen_8 : decode cX0_isAsSeen 8 = .ok (.iconst 0, 1) := dk_3 (dk_at dksX0_isAsSeen_0 8 rfl rfl)
theorem dX0_isAsSeen_9 : decode cX0_isAsSeen 9 = .ok (.istore_n 3, 1) := dk_62 (dk_at dksX0_isAsSeen_0 9 rfl rfl)
theorem dX0_isAsSeen_10 : decode cX0_isAsSeen 10 = .ok (.iload_n 3, 1) := dk_29 (dk_at dksX0_isAsSeen_0 10 rfl rfl)
theorem dX0_isAsSeen_11 : decode cX0_isAsSeen 11 = .ok (.aload_n 0, 1) := dk_42 (dk_at dksX0_isAsSeen_0 11 rfl rfl)
theorem dX0_isAsSeen_12 : decode cX0_isAsSeen 12 = .ok (.getfield 50, 3) := dk_180 0 50 (dk_at dksX0_isAsSeen_0 12 rfl rfl)
theorem dX0_isAsSeen_15 : decode cX0_isAsSeen 15 = .ok (.if_icmp .ge 43, 3) := dk_162 0 43 (dk_at dksX0_isAsSeen_0 15 rfl rfl)
theorem dX0_isAsSeen_18 : decode cX0_isAsSeen 18 = .ok (.iload_n 2, 1) := dk_28 (dk_at dksX0_isAsSeen_0 18 rfl rfl)
theorem dX0_isAsSeen_19 : decode cX0_isAsSeen 19 = .ok (.ifCond .eq 31, 3) := dk_153 0 31 (dk_at dksX0_isAsSeen_0 19 rfl rfl)
theorem dX0_isAsSeen_22 : decode cX0_isAsSeen 22 = .ok (.aload_n 0, 1) := dk_42 (dk_at dksX0_isAsSeen_0 22 rfl rfl)
theorem dX0_isAsSeen_23 : decode cX0_isAsSeen 23 = .ok (.getfield 182, 3) := dk_180 0 182 (dk_at dksX0_isAsSeen_1 0 rfl rfl)
theorem dX0_isAsSeen_26 : decode cX0_isAsSeen 26 = .ok (.aload_n 0, 1) := dk_42 (dk_at dksX0_isAsSeen_1 3 rfl rfl)
theorem dX0_isAsSeen_27 : decode cX0_isAsSeen 27 = .ok (.getfield 262, 3) := dk_180 1 6 (dk_at dksX0_isAsSeen_1 4 rfl rfl)
theorem dX0_isAsSeen_30 : decode cX0_isAsSeen 30 = .ok (.iload_n 3, 1) := dk_29 (dk_at dksX0_isAsSeen_1 7 rfl rfl)
theorem dX0_isAsSeen_31 : decode cX0_isAsSeen 31 = .ok (.aaload, 1) := dk_50 (dk_at dksX0_isAsSeen_1 8 rfl rfl)
theorem dX0_isAsSeen_32 : decode cX0_isAsSeen 32 = .ok (.iconst 0, 1) := dk_3 (dk_at dksX0_isAsSeen_1 9 rfl rfl)
theorem dX0_isAsSeen_33 : decode cX0_isAsSeen 33 = .ok (.iaload, 1) := dk_46 (dk_at dksX0_isAsSeen_1 10 rfl rfl)
theorem dX0_isAsSeen_34 : decode cX0_isAsSeen 34 = .ok (.iaload, 1) := dk_46 (dk_at dksX0_isAsSeen_1 11 rfl rfl)
theorem dX0_isAsSeen_35 : decode cX0_isAsSeen 35 = .ok (.aload_n 0, 1) := dk_42 (dk_at dksX0_isAsSeen_1 12 rfl rfl)
theorem dX0_isAsSeen_36 : decode cX0_isAsSeen 36 = .ok (.getfield 262, 3) := dk_180 1 6 (dk_at dksX0_isAsSeen_1 13 rfl rfl)
theorem dX0_isAsSeen_39 : decode cX0_isAsSeen 39 = .ok (.iload_n 3, 1) := dk_29 (dk_at dksX0_isAsSeen_1 16 rfl rfl)
theorem dX0_isAsSeen_40 : decode cX0_isAsSeen 40 = .ok (.aaload, 1) := dk_50 (dk_at dksX0_isAsSeen_1 17 rfl rfl)
theorem dX0_isAsSeen_41 : decode cX0_isAsSeen 41 = .ok (.iconst 1, 1) := dk_4 (dk_at dksX0_isAsSeen_1 18 rfl rfl)
theorem dX0_isAsSeen_42 : decode cX0_isAsSeen 42 = .ok (.iaload, 1) := dk_46 (dk_at dksX0_isAsSeen_1 19 rfl rfl)
theorem dX0_isAsSeen_43 : decode cX0_isAsSeen 43 = .ok (.if_icmp .ne 7, 3) := dk_160 0 7 (dk_at dksX0_isAsSeen_1 20 rfl rfl)
theorem dX0_isAsSeen_46 : decode cX0_isAsSeen 46 = .ok (.iconst 1, 1) := dk_4 (dk_at dksX0_isAsSeen_1 23 rfl rfl)
theorem dX0_isAsSeen_47 : decode cX0_isAsSeen 47 = .ok (.goto 4, 3) := dk_167 0 4 (dk_at dksX0_isAsSeen_2 0 rfl rfl)
theorem dX0_isAsSeen_50 : decode cX0_isAsSeen 50 = .ok (.iconst 0, 1) := dk_3 (dk_at dksX0_isAsSeen_2 3 rfl rfl)
theorem dX0_isAsSeen_51 : decode cX0_isAsSeen 51 = .ok (.istore_n 2, 1) := dk_61 (dk_at dksX0_isAsSeen_2 4 rfl rfl)
theorem dX0_isAsSeen_52 : decode cX0_isAsSeen 52 = .ok (.iinc 3 1, 3) := dk_132 3 1 (dk_at dksX0_isAsSeen_2 5 rfl rfl)
theorem dX0_isAsSeen_55 : decode cX0_isAsSeen 55 = .ok (.goto (-45), 3) := dk_167 255 211 (dk_at dksX0_isAsSeen_2 8 rfl rfl)
theorem dX0_isAsSeen_58 : decode cX0_isAsSeen 58 = .ok (.iload_n 2, 1) := dk_28 (dk_at dksX0_isAsSeen_2 11 rfl rfl)
theorem dX0_isAsSeen_59 : decode cX0_isAsSeen 59 = .ok (.ireturn, 1) := dk_172 (dk_at dksX0_isAsSeen_2 12 rfl rfl)
abbrev cX0_drift : ByteArray := prog_1_method_53_code
def yX0_drift : MethodName := ⟨RX0, "drift", "(III)I"⟩
def dkwX0_drift_6 : List UInt8 := [180, 1, 14, 182, 0, 40, 29, 154, 0, 8, 21, 5, 167, 0, 5, 21, 6, 172]
abbrev dktX0_drift_6 : List UInt8 := dkwX0_drift_6 ++ []
def dkwX0_drift_5 : List UInt8 := [96, 54, 5, 21, 6, 42, 180, 0, 135, 96, 54, 6, 132, 7, 1, 167, 255, 171, 42, 180, 0, 33, 42]
abbrev dktX0_drift_5 : List UInt8 := dkwX0_drift_5 ++ dktX0_drift_6
def dkwX0_drift_4 : List UInt8 := [17, 127, 255, 126, 16, 40, 112, 79, 132, 8, 1, 167, 255, 208, 42, 182, 0, 205, 21, 5, 42, 182, 0, 201]
abbrev dktX0_drift_4 : List UInt8 := dkwX0_drift_4 ++ dktX0_drift_5
def dkwX0_drift_3 : List UInt8 := [17, 48, 57, 96, 54, 4, 42, 180, 0, 33, 180, 0, 93, 21, 8, 50, 4, 21, 4, 16, 16, 122]
abbrev dktX0_drift_3 : List UInt8 := dkwX0_drift_3 ++ dktX0_drift_4
def dkwX0_drift_2 : List UInt8 := [21, 7, 28, 162, 0, 85, 3, 54, 8, 21, 8, 42, 180, 0, 49, 162, 0, 45, 21, 4, 19, 1, 17, 104]
abbrev dktX0_drift_2 : List UInt8 := dkwX0_drift_2 ++ dktX0_drift_3
def dkwX0_drift_1 : List UInt8 := [27, 54, 4, 3, 54, 5, 3, 54, 6, 42, 180, 1, 14, 42, 180, 0, 33, 182, 0, 40, 3, 54, 7]
abbrev dktX0_drift_1 : List UInt8 := dkwX0_drift_1 ++ dktX0_drift_2
def dkwX0_drift_0 : List UInt8 := [28, 133, 10, 20, 1, 12, 184, 0, 3, 153, 0, 13, 29, 133, 9, 10, 184, 0, 3, 154, 0, 5, 2, 172]
abbrev dktX0_drift_0 : List UInt8 := dkwX0_drift_0 ++ dktX0_drift_1
theorem dksX0_drift_0 : cX0_drift.data.toList.drop 0 = dktX0_drift_0 := by decide +kernel
theorem dksX0_drift_1 : cX0_drift.data.toList.drop 24 = dktX0_drift_1 := dk_seg dksX0_drift_0 24 rfl rfl
theorem dksX0_drift_2 : cX0_drift.data.toList.drop 47 = dktX0_drift_2 := dk_seg dksX0_drift_1 23 rfl rfl
theorem dksX0_drift_3 : cX0_drift.data.toList.drop 71 = dktX0_drift_3 := dk_seg dksX0_drift_2 24 rfl rfl
theorem dksX0_drift_4 : cX0_drift.data.toList.drop 93 = dktX0_drift_4 := dk_seg dksX0_drift_3 22 rfl rfl
theorem dksX0_drift_5 : cX0_drift.data.toList.drop 117 = dktX0_drift_5 := dk_seg dksX0_drift_4 24 rfl rfl
theorem dksX0_drift_6 : cX0_drift.data.toList.drop 140 = dktX0_drift_6 := dk_seg dksX0_drift_5 23 rfl rfl
theorem dX0_drift_0 : decode cX0_drift 0 = .ok (.iload_n 2, 1) := dk_28 (dk_at dksX0_drift_0 0 rfl rfl)
theorem dX0_drift_1 : decode cX0_drift 1 = .ok (.i2l, 1) := dk_133 (dk_at dksX0_drift_0 1 rfl rfl)
theorem dX0_drift_2 : decode cX0_drift 2 = .ok (.lconst 1, 1) := dk_10 (dk_at dksX0_drift_0 2 rfl rfl)
theorem dX0_drift_3 : decode cX0_drift 3 = .ok (.ldc2_w 268, 3) := dk_20 1 12 (dk_at dksX0_drift_0 3 rfl rfl)
theorem dX0_drift_6 : decode cX0_drift 6 = .ok (.invokestatic 3, 3) := dk_184 0 3 (dk_at dksX0_drift_0 6 rfl rfl)
theorem dX0_drift_9 : decode cX0_drift 9 = .ok (.ifCond .eq 13, 3) := dk_153 0 13 (dk_at dksX0_drift_0 9 rfl rfl)
theorem dX0_drift_12 : decode cX0_drift 12 = .ok (.iload_n 3, 1) := dk_29 (dk_at dksX0_drift_0 12 rfl rfl)
theorem dX0_drift_13 : decode cX0_drift 13 = .ok (.i2l, 1) := dk_133 (dk_at dksX0_drift_0 13 rfl rfl)
theorem dX0_drift_14 : decode cX0_drift 14 = .ok (.lconst 0, 1) := dk_9 (dk_at dksX0_drift_0 14 rfl rfl)
theorem dX0_drift_15 : decode cX0_drift 15 = .ok (.lconst 1, 1) := dk_10 (dk_at dksX0_drift_0 15 rfl rfl)
theorem dX0_drift_16 : decode cX0_drift 16 = .ok (.invokestatic 3, 3) := dk_184 0 3 (dk_at dksX0_drift_0 16 rfl rfl)
theorem dX0_drift_19 : decode cX0_drift 19 = .ok (.ifCond .ne 5, 3) := dk_154 0 5 (dk_at dksX0_drift_0 19 rfl rfl)
theorem dX0_drift_22 : decode cX0_drift 22 = .ok (.iconst (-1), 1) := dk_2 (dk_at dksX0_drift_0 22 rfl rfl)
theorem dX0_drift_23 : decode cX0_drift 23 = .ok (.ireturn, 1) := dk_172 (dk_at dksX0_drift_0 23 rfl rfl)
theorem dX0_drift_24 : decode cX0_drift 24 = .ok (.iload_n 1, 1) := dk_27 (dk_at dksX0_drift_1 0 rfl rfl)
theorem dX0_drift_25 : decode cX0_drift 25 = .ok (.istore 4, 2) := dk_54 4 (dk_at dksX0_drift_1 1 rfl rfl)
theorem dX0_drift_27 : decode cX0_drift 27 = .ok (.iconst 0, 1) := dk_3 (dk_at dksX0_drift_1 3 rfl rfl)
theorem dX0_drift_28 : decode cX0_drift 28 = .ok (.istore 5, 2) := dk_54 5 (dk_at dksX0_drift_1 4 rfl rfl)
theorem dX0_drift_30 : decode cX0_drift 30 = .ok (.iconst 0, 1) := dk_3 (dk_at dksX0_drift_1 6 rfl rfl)
theorem dX0_drift_31 : decode cX0_drift 31 = .ok (.istore 6, 2) := dk_54 6 (dk_at dksX0_drift_1 7 rfl rfl)
theorem dX0_drift_33 : decode cX0_drift 33 = .ok (.aload_n 0, 1) := dk_42 (dk_at dksX0_drift_1 9 rfl rfl)
theorem dX0_drift_34 : decode cX0_drift 34 = .ok (.getfield 270, 3) := dk_180 1 14 (dk_at dksX0_drift_1 10 rfl rfl)
theorem dX0_drift_37 : decode cX0_drift 37 = .ok (.aload_n 0, 1) := dk_42 (dk_at dksX0_drift_1 13 rfl rfl)
theorem dX0_drift_38 : decode cX0_drift 38 = .ok (.getfield 33, 3) := dk_180 0 33 (dk_at dksX0_drift_1 14 rfl rfl)
theorem dX0_drift_41 : decode cX0_drift 41 = .ok (.invokevirtual 40, 3) := dk_182 0 40 (dk_at dksX0_drift_1 17 rfl rfl)
theorem dX0_drift_44 : decode cX0_drift 44 = .ok (.iconst 0, 1) := dk_3 (dk_at dksX0_drift_1 20 rfl rfl)
theorem dX0_drift_45 : decode cX0_drift 45 = .ok (.istore 7, 2) := dk_54 7 (dk_at dksX0_drift_1 21 rfl rfl)
theorem dX0_drift_47 : decode cX0_drift 47 = .ok (.iload 7, 2) := dk_21 7 (dk_at dksX0_drift_2 0 rfl rfl)
theorem dX0_drift_49 : decode cX0_drift 49 = .ok (.iload_n 2, 1) := dk_28 (dk_at dksX0_drift_2 2 rfl rfl)
theorem dX0_drift_50 : decode cX0_drift 50 = .ok (.if_icmp .ge 85, 3) := dk_162 0 85 (dk_at dksX0_drift_2 3 rfl rfl)
theorem dX0_drift_53 : decode cX0_drift 53 = .ok (.iconst 0, 1) := dk_3 (dk_at dksX0_drift_2 6 rfl rfl)
theorem dX0_drift_54 : decode cX0_drift 54 = .ok (.istore 8, 2) := dk_54 8 (dk_at dksX0_drift_2 7 rfl rfl)
theorem dX0_drift_56 : decode cX0_drift 56 = .ok (.iload 8, 2) := dk_21 8 (dk_at dksX0_drift_2 9 rfl rfl)
theorem dX0_drift_58 : decode cX0_drift 58 = .ok (.aload_n 0, 1) := dk_42 (dk_at dksX0_drift_2 11 rfl rfl)
theorem dX0_drift_59 : decode cX0_drift 59 = .ok (.getfield 49, 3) := dk_180 0 49 (dk_at dksX0_drift_2 12 rfl rfl)
theorem dX0_drift_62 : decode cX0_drift 62 = .ok (.if_icmp .ge 45, 3) := dk_162 0 45 (dk_at dksX0_drift_2 15 rfl rfl)
theorem dX0_drift_65 : decode cX0_drift 65 = .ok (.iload 4, 2) := dk_21 4 (dk_at dksX0_drift_2 18 rfl rfl)
theorem dX0_drift_67 : decode cX0_drift 67 = .ok (.ldc_w 273, 3) := dk_19 1 17 (dk_at dksX0_drift_2 20 rfl rfl)
theorem dX0_drift_70 : decode cX0_drift 70 = .ok (.imul, 1) := dk_104 (dk_at dksX0_drift_2 23 rfl rfl)
theorem dX0_drift_71 : decode cX0_drift 71 = .ok (.sipush 12345, 3) := dk_17 48 57 (dk_at dksX0_drift_3 0 rfl rfl)
theorem dX0_drift_74 : decode cX0_drift 74 = .ok (.iadd, 1) := dk_96 (dk_at dksX0_drift_3 3 rfl rfl)
theorem dX0_drift_75 : decode cX0_drift 75 = .ok (.istore 4, 2) := dk_54 4 (dk_at dksX0_drift_3 4 rfl rfl)
theorem dX0_drift_77 : decode cX0_drift 77 = .ok (.aload_n 0, 1) := dk_42 (dk_at dksX0_drift_3 6 rfl rfl)
theorem dX0_drift_78 : decode cX0_drift 78 = .ok (.getfield 33, 3) := dk_180 0 33 (dk_at dksX0_drift_3 7 rfl rfl)
theorem dX0_drift_81 : decode cX0_drift 81 = .ok (.getfield 93, 3) := dk_180 0 93 (dk_at dksX0_drift_3 10 rfl rfl)
theorem dX0_drift_84 : decode cX0_drift 84 = .ok (.iload 8, 2) := dk_21 8 (dk_at dksX0_drift_3 13 rfl rfl)
theorem dX0_drift_86 : decode cX0_drift 86 = .ok (.aaload, 1) := dk_50 (dk_at dksX0_drift_3 15 rfl rfl)
theorem dX0_drift_87 : decode cX0_drift 87 = .ok (.iconst 1, 1) := dk_4 (dk_at dksX0_drift_3 16 rfl rfl)
theorem dX0_drift_88 : decode cX0_drift 88 = .ok (.iload 4, 2) := dk_21 4 (dk_at dksX0_drift_3 17 rfl rfl)
theorem dX0_drift_90 : decode cX0_drift 90 = .ok (.bipush 16, 2) := dk_16 16 (dk_at dksX0_drift_3 19 rfl rfl)
theorem dX0_drift_92 : decode cX0_drift 92 = .ok (.ishr, 1) := dk_122 (dk_at dksX0_drift_3 21 rfl rfl)
theorem dX0_drift_93 : decode cX0_drift 93 = .ok (.sipush 32767, 3) := dk_17 127 255 (dk_at dksX0_drift_4 0 rfl rfl)
theorem dX0_drift_96 : decode cX0_drift 96 = .ok (.iand, 1) := dk_126 (dk_at dksX0_drift_4 3 rfl rfl)
theorem dX0_drift_97 : decode cX0_drift 97 = .ok (.bipush 40, 2) := dk_16 40 (dk_at dksX0_drift_4 4 rfl rfl)
theorem dX0_drift_99 : decode cX0_drift 99 = .ok (.irem, 1) := dk_112 (dk_at dksX0_drift_4 6 rfl rfl)
theorem dX0_drift_100 : decode cX0_drift 100 = .ok (.iastore, 1) := dk_79 (dk_at dksX0_drift_4 7 rfl rfl)
theorem dX0_drift_101 : decode cX0_drift 101 = .ok (.iinc 8 1, 3) := dk_132 8 1 (dk_at dksX0_drift_4 8 rfl rfl)
theorem dX0_drift_104 : decode cX0_drift 104 = .ok (.goto (-48), 3) := dk_167 255 208 (dk_at dksX0_drift_4 11 rfl rfl)
theorem dX0_drift_107 : decode cX0_drift 107 = .ok (.aload_n 0, 1) := dk_42 (dk_at dksX0_drift_4 14 rfl rfl)
theorem dX0_drift_108 : decode cX0_drift 108 = .ok (.invokevirtual 205, 3) := dk_182 0 205 (dk_at dksX0_drift_4 15 rfl rfl)
theorem dX0_drift_111 : decode cX0_drift 111 = .ok (.iload 5, 2) := dk_21 5 (dk_at dksX0_drift_4 18 rfl rfl)
theorem dX0_drift_113 : decode cX0_drift 113 = .ok (.aload_n 0, 1) := dk_42 (dk_at dksX0_drift_4 20 rfl rfl)
theorem dX0_drift_114 : decode cX0_drift 114 = .ok (.invokevirtual 201, 3) := dk_182 0 201 (dk_at dksX0_drift_4 21 rfl rfl)
theorem dX0_drift_117 : decode cX0_drift 117 = .ok (.iadd, 1) := dk_96 (dk_at dksX0_drift_5 0 rfl rfl)
theorem dX0_drift_118 : decode cX0_drift 118 = .ok (.istore 5, 2) := dk_54 5 (dk_at dksX0_drift_5 1 rfl rfl)
theorem dX0_drift_120 : decode cX0_drift 120 = .ok (.iload 6, 2) := dk_21 6 (dk_at dksX0_drift_5 3 rfl rfl)
theorem dX0_drift_122 : decode cX0_drift 122 = .ok (.aload_n 0, 1) := dk_42 (dk_at dksX0_drift_5 5 rfl rfl)
theorem dX0_drift_123 : decode cX0_drift 123 = .ok (.getfield 135, 3) := dk_180 0 135 (dk_at dksX0_drift_5 6 rfl rfl)
theorem dX0_drift_126 : decode cX0_drift 126 = .ok (.iadd, 1) := dk_96 (dk_at dksX0_drift_5 9 rfl rfl)
theorem dX0_drift_127 : decode cX0_drift 127 = .ok (.istore 6, 2) := dk_54 6 (dk_at dksX0_drift_5 10 rfl rfl)
theorem dX0_drift_129 : decode cX0_drift 129 = .ok (.iinc 7 1, 3) := dk_132 7 1 (dk_at dksX0_drift_5 12 rfl rfl)
theorem dX0_drift_132 : decode cX0_drift 132 = .ok (.goto (-85), 3) := dk_167 255 171 (dk_at dksX0_drift_5 15 rfl rfl)
theorem dX0_drift_135 : decode cX0_drift 135 = .ok (.aload_n 0, 1) := dk_42 (dk_at dksX0_drift_5 18 rfl rfl)
theorem dX0_drift_136 : decode cX0_drift 136 = .ok (.getfield 33, 3) := dk_180 0 33 (dk_at dksX0_drift_5 19 rfl rfl)
theorem dX0_drift_139 : decode cX0_drift 139 = .ok (.aload_n 0, 1) := dk_42 (dk_at dksX0_drift_5 22 rfl rfl)
theorem dX0_drift_140 : decode cX0_drift 140 = .ok (.getfield 270, 3) := dk_180 1 14 (dk_at dksX0_drift_6 0 rfl rfl)
theorem dX0_drift_143 : decode cX0_drift 143 = .ok (.invokevirtual 40, 3) := dk_182 0 40 (dk_at dksX0_drift_6 3 rfl rfl)
theorem dX0_drift_146 : decode cX0_drift 146 = .ok (.iload_n 3, 1) := dk_29 (dk_at dksX0_drift_6 6 rfl rfl)
theorem dX0_drift_147 : decode cX0_drift 147 = .ok (.ifCond .ne 8, 3) := dk_154 0 8 (dk_at dksX0_drift_6 7 rfl rfl)
theorem dX0_drift_150 : decode cX0_drift 150 = .ok (.iload 5, 2) := dk_21 5 (dk_at dksX0_drift_6 10 rfl rfl)
theorem dX0_drift_152 : decode cX0_drift 152 = .ok (.goto 5, 3) := dk_167 0 5 (dk_at dksX0_drift_6 12 rfl rfl)
theorem dX0_drift_155 : decode cX0_drift 155 = .ok (.iload 6, 2) := dk_21 6 (dk_at dksX0_drift_6 15 rfl rfl)
theorem dX0_drift_157 : decode cX0_drift 157 = .ok (.ireturn, 1) := dk_172 (dk_at dksX0_drift_6 17 rfl rfl)
abbrev cX0_keep : ByteArray := prog_1_method_55_code
def yX0_keep : MethodName := ⟨RX0, "keep", "(I)I"⟩
def dkwX0_keep_2 : List UInt8 := [181, 0, 57, 28, 172]
abbrev dktX0_keep_2 : List UInt8 := dkwX0_keep_2 ++ []
def dkwX0_keep_1 : List UInt8 := [4, 167, 0, 4, 3, 61, 42, 180, 0, 53, 27, 50, 182, 1, 18, 42, 180, 0, 53, 27, 50, 4]
abbrev dktX0_keep_1 : List UInt8 := dkwX0_keep_1 ++ dktX0_keep_2
def dkwX0_keep_0 : List UInt8 := [27, 133, 9, 10, 184, 0, 3, 154, 0, 5, 2, 172, 42, 180, 0, 53, 27, 50, 180, 0, 57, 153, 0, 7]
abbrev dktX0_keep_0 : List UInt8 := dkwX0_keep_0 ++ dktX0_keep_1
theorem dksX0_keep_0 : cX0_keep.data.toList.drop 0 = dktX0_keep_0 := by decide +kernel
theorem dksX0_keep_1 : cX0_keep.data.toList.drop 24 = dktX0_keep_1 := dk_seg dksX0_keep_0 24 rfl rfl
theorem dksX0_keep_2 : cX0_keep.data.toList.drop 46 = dktX0_keep_2 := dk_seg dksX0_keep_1 22 rfl rfl
theorem dX0_keep_0 : decode cX0_keep 0 = .ok (.iload_n 1, 1) := dk_27 (dk_at dksX0_keep_0 0 rfl rfl)
theorem dX0_keep_1 : decode cX0_keep 1 = .ok (.i2l, 1) := dk_133 (dk_at dksX0_keep_0 1 rfl rfl)
theorem dX0_keep_2 : decode cX0_keep 2 = .ok (.lconst 0, 1) := dk_9 (dk_at dksX0_keep_0 2 rfl rfl)
theorem dX0_keep_3 : decode cX0_keep 3 = .ok (.lconst 1, 1) := dk_10 (dk_at dksX0_keep_0 3 rfl rfl)
theorem dX0_keep_4 : decode cX0_keep 4 = .ok (.invokestatic 3, 3) := dk_184 0 3 (dk_at dksX0_keep_0 4 rfl rfl)
theorem dX0_keep_7 : decode cX0_keep 7 = .ok (.ifCond .ne 5, 3) := dk_154 0 5 (dk_at dksX0_keep_0 7 rfl rfl)
theorem dX0_keep_10 : decode cX0_keep 10 = .ok (.iconst (-1), 1) := dk_2 (dk_at dksX0_keep_0 10 rfl rfl)
theorem dX0_keep_11 : decode cX0_keep 11 = .ok (.ireturn, 1) := dk_172 (dk_at dksX0_keep_0 11 rfl rfl)
theorem dX0_keep_12 : decode cX0_keep 12 = .ok (.aload_n 0, 1) := dk_42 (dk_at dksX0_keep_0 12 rfl rfl)
theorem dX0_keep_13 : decode cX0_keep 13 = .ok (.getfield 53, 3) := dk_180 0 53 (dk_at dksX0_keep_0 13 rfl rfl)
theorem dX0_keep_16 : decode cX0_keep 16 = .ok (.iload_n 1, 1) := dk_27 (dk_at dksX0_keep_0 16 rfl rfl)
theorem dX0_keep_17 : decode cX0_keep 17 = .ok (.aaload, 1) := dk_50 (dk_at dksX0_keep_0 17 rfl rfl)
theorem dX0_keep_18 : decode cX0_keep 18 = .ok (.getfield 57, 3) := dk_180 0 57 (dk_at dksX0_keep_0 18 rfl rfl)
theorem dX0_keep_21 : decode cX0_keep 21 = .ok (.ifCond .eq 7, 3) := dk_153 0 7 (dk_at dksX0_keep_0 21 rfl rfl)
theorem dX0_keep_24 : decode cX0_keep 24 = .ok (.iconst 1, 1) := dk_4 (dk_at dksX0_keep_1 0 rfl rfl)
theorem dX0_keep_25 : decode cX0_keep 25 = .ok (.goto 4, 3) := dk_167 0 4 (dk_at dksX0_keep_1 1 rfl rfl)
theorem dX0_keep_28 : decode cX0_keep 28 = .ok (.iconst 0, 1) := dk_3 (dk_at dksX0_keep_1 4 rfl rfl)
theorem dX0_keep_29 : decode cX0_keep 29 = .ok (.istore_n 2, 1) := dk_61 (dk_at dksX0_keep_1 5 rfl rfl)
theorem dX0_keep_30 : decode cX0_keep 30 = .ok (.aload_n 0, 1) := dk_42 (dk_at dksX0_keep_1 6 rfl rfl)
theorem dX0_keep_31 : decode cX0_keep 31 = .ok (.getfield 53, 3) := dk_180 0 53 (dk_at dksX0_keep_1 7 rfl rfl)
theorem dX0_keep_34 : decode cX0_keep 34 = .ok (.iload_n 1, 1) := dk_27 (dk_at dksX0_keep_1 10 rfl rfl)
theorem dX0_keep_35 : decode cX0_keep 35 = .ok (.aaload, 1) := dk_50 (dk_at dksX0_keep_1 11 rfl rfl)
theorem dX0_keep_36 : decode cX0_keep 36 = .ok (.invokevirtual 274, 3) := dk_182 1 18 (dk_at dksX0_keep_1 12 rfl rfl)
theorem dX0_keep_39 : decode cX0_keep 39 = .ok (.aload_n 0, 1) := dk_42 (dk_at dksX0_keep_1 15 rfl rfl)
theorem dX0_keep_40 : decode cX0_keep 40 = .ok (.getfield 53, 3) := dk_180 0 53 (dk_at dksX0_keep_1 16 rfl rfl)
theorem dX0_keep_43 : decode cX0_keep 43 = .ok (.iload_n 1, 1) := dk_27 (dk_at dksX0_keep_1 19 rfl rfl)
theorem dX0_keep_44 : decode cX0_keep 44 = .ok (.aaload, 1) := dk_50 (dk_at dksX0_keep_1 20 rfl rfl)
theorem dX0_keep_45 : decode cX0_keep 45 = .ok (.iconst 1, 1) := dk_4 (dk_at dksX0_keep_1 21 rfl rfl)
theorem dX0_keep_46 : decode cX0_keep 46 = .ok (.putfield 57, 3) := dk_181 0 57 (dk_at dksX0_keep_2 0 rfl rfl)
theorem dX0_keep_49 : decode cX0_keep 49 = .ok (.iload_n 2, 1) := dk_28 (dk_at dksX0_keep_2 3 rfl rfl)
theorem dX0_keep_50 : decode cX0_keep 50 = .ok (.ireturn, 1) := dk_172 (dk_at dksX0_keep_2 4 rfl rfl)
abbrev cX0_copies : ByteArray := prog_1_method_54_code
def yX0_copies : MethodName := ⟨RX0, "copies", "([[I[[I)V"⟩
def dkwX0_copies_1 : List UInt8 := [132, 2, 1, 167, 255, 232, 177]
abbrev dktX0_copies_1 : List UInt8 := dkwX0_copies_1 ++ []
def dkwX0_copies_0 : List UInt8 := [3, 61, 28, 42, 190, 162, 0, 24, 42, 28, 50, 3, 43, 28, 50, 3, 42, 28, 50, 190, 184, 0, 17]
abbrev dktX0_copies_0 : List UInt8 := dkwX0_copies_0 ++ dktX0_copies_1
theorem dksX0_copies_0 : cX0_copies.data.toList.drop 0 = dktX0_copies_0 := by decide +kernel
theorem dksX0_copies_1 : cX0_copies.data.toList.drop 23 = dktX0_copies_1 := dk_seg dksX0_copies_0 23 rfl rfl
theorem dX0_copies_0 : decode cX0_copies 0 = .ok (.iconst 0, 1) := dk_3 (dk_at dksX0_copies_0 0 rfl rfl)
theorem dX0_copies_1 : decode cX0_copies 1 = .ok (.istore_n 2, 1) := dk_61 (dk_at dksX0_copies_0 1 rfl rfl)
theorem dX0_copies_2 : decode cX0_copies 2 = .ok (.iload_n 2, 1) := dk_28 (dk_at dksX0_copies_0 2 rfl rfl)
theorem dX0_copies_3 : decode cX0_copies 3 = .ok (.aload_n 0, 1) := dk_42 (dk_at dksX0_copies_0 3 rfl rfl)
theorem dX0_copies_4 : decode cX0_copies 4 = .ok (.arraylength, 1) := dk_190 (dk_at dksX0_copies_0 4 rfl rfl)
theorem dX0_copies_5 : decode cX0_copies 5 = .ok (.if_icmp .ge 24, 3) := dk_162 0 24 (dk_at dksX0_copies_0 5 rfl rfl)
theorem dX0_copies_8 : decode cX0_copies 8 = .ok (.aload_n 0, 1) := dk_42 (dk_at dksX0_copies_0 8 rfl rfl)
theorem dX0_copies_9 : decode cX0_copies 9 = .ok (.iload_n 2, 1) := dk_28 (dk_at dksX0_copies_0 9 rfl rfl)
theorem dX0_copies_10 : decode cX0_copies 10 = .ok (.aaload, 1) := dk_50 (dk_at dksX0_copies_0 10 rfl rfl)
theorem dX0_copies_11 : decode cX0_copies 11 = .ok (.iconst 0, 1) := dk_3 (dk_at dksX0_copies_0 11 rfl rfl)
theorem dX0_copies_12 : decode cX0_copies 12 = .ok (.aload_n 1, 1) := dk_43 (dk_at dksX0_copies_0 12 rfl rfl)
theorem dX0_copies_13 : decode cX0_copies 13 = .ok (.iload_n 2, 1) := dk_28 (dk_at dksX0_copies_0 13 rfl rfl)
theorem dX0_copies_14 : decode cX0_copies 14 = .ok (.aaload, 1) := dk_50 (dk_at dksX0_copies_0 14 rfl rfl)
theorem dX0_copies_15 : decode cX0_copies 15 = .ok (.iconst 0, 1) := dk_3 (dk_at dksX0_copies_0 15 rfl rfl)
theorem dX0_copies_16 : decode cX0_copies 16 = .ok (.aload_n 0, 1) := dk_42 (dk_at dksX0_copies_0 16 rfl rfl)
theorem dX0_copies_17 : decode cX0_copies 17 = .ok (.iload_n 2, 1) := dk_28 (dk_at dksX0_copies_0 17 rfl rfl)
theorem dX0_copies_18 : decode cX0_copies 18 = .ok (.aaload, 1) := dk_50 (dk_at dksX0_copies_0 18 rfl rfl)
theorem dX0_copies_19 : decode cX0_copies 19 = .ok (.arraylength, 1) := dk_190 (dk_at dksX0_copies_0 19 rfl rfl)
theorem dX0_copies_20 : decode cX0_copies 20 = .ok (.invokestatic 17, 3) := dk_184 0 17 (dk_at dksX0_copies_0 20 rfl rfl)
theorem dX0_copies_23 : decode cX0_copies 23 = .ok (.iinc 2 1, 3) := dk_132 2 1 (dk_at dksX0_copies_1 0 rfl rfl)
theorem dX0_copies_26 : decode cX0_copies 26 = .ok (.goto (-24), 3) := dk_167 255 232 (dk_at dksX0_copies_1 3 rfl rfl)
theorem dX0_copies_29 : decode cX0_copies 29 = .ok (.return_, 1) := dk_177 (dk_at dksX0_copies_1 6 rfl rfl)
abbrev cX0_back : ByteArray := prog_1_method_56_code
def yX0_back : MethodName := ⟨RX0, "back", "(I)I"⟩
def dkwX0_back_1 : List UInt8 := [16, 254, 172, 42, 180, 0, 53, 27, 50, 182, 1, 20, 42, 182, 0, 205, 42, 6, 182, 0, 208, 172]
abbrev dktX0_back_1 : List UInt8 := dkwX0_back_1 ++ []
def dkwX0_back_0 : List UInt8 := [27, 133, 9, 10, 184, 0, 3, 154, 0, 5, 2, 172, 42, 180, 0, 53, 27, 50, 180, 0, 57, 154, 0, 6]
abbrev dktX0_back_0 : List UInt8 := dkwX0_back_0 ++ dktX0_back_1
theorem dksX0_back_0 : cX0_back.data.toList.drop 0 = dktX0_back_0 := by decide +kernel
theorem dksX0_back_1 : cX0_back.data.toList.drop 24 = dktX0_back_1 := dk_seg dksX0_back_0 24 rfl rfl
theorem dX0_back_0 : decode cX0_back 0 = .ok (.iload_n 1, 1) := dk_27 (dk_at dksX0_back_0 0 rfl rfl)
theorem dX0_back_1 : decode cX0_back 1 = .ok (.i2l, 1) := dk_133 (dk_at dksX0_back_0 1 rfl rfl)
theorem dX0_back_2 : decode cX0_back 2 = .ok (.lconst 0, 1) := dk_9 (dk_at dksX0_back_0 2 rfl rfl)
theorem dX0_back_3 : decode cX0_back 3 = .ok (.lconst 1, 1) := dk_10 (dk_at dksX0_back_0 3 rfl rfl)
theorem dX0_back_4 : decode cX0_back 4 = .ok (.invokestatic 3, 3) := dk_184 0 3 (dk_at dksX0_back_0 4 rfl rfl)
theorem dX0_back_7 : decode cX0_back 7 = .ok (.ifCond .ne 5, 3) := dk_154 0 5 (dk_at dksX0_back_0 7 rfl rfl)
theorem dX0_back_10 : decode cX0_back 10 = .ok (.iconst (-1), 1) := dk_2 (dk_at dksX0_back_0 10 rfl rfl)
theorem dX0_back_11 : decode cX0_back 11 = .ok (.ireturn, 1) := dk_172 (dk_at dksX0_back_0 11 rfl rfl)
theorem dX0_back_12 : decode cX0_back 12 = .ok (.aload_n 0, 1) := dk_42 (dk_at dksX0_back_0 12 rfl rfl)
theorem dX0_back_13 : decode cX0_back 13 = .ok (.getfield 53, 3) := dk_180 0 53 (dk_at dksX0_back_0 13 rfl rfl)
theorem dX0_back_16 : decode cX0_back 16 = .ok (.iload_n 1, 1) := dk_27 (dk_at dksX0_back_0 16 rfl rfl)
theorem dX0_back_17 : decode cX0_back 17 = .ok (.aaload, 1) := dk_50 (dk_at dksX0_back_0 17 rfl rfl)
theorem dX0_back_18 : decode cX0_back 18 = .ok (.getfield 57, 3) := dk_180 0 57 (dk_at dksX0_back_0 18 rfl rfl)
theorem dX0_back_21 : decode cX0_back 21 = .ok (.ifCond .ne 6, 3) := dk_154 0 6 (dk_at dksX0_back_0 21 rfl rfl)
theorem dX0_back_24 : decode cX0_back 24 = .ok (.bipush (-2), 2) := dk_16 254 (dk_at dksX0_back_1 0 rfl rfl)
theorem dX0_back_26 : decode cX0_back 26 = .ok (.ireturn, 1) := dk_172 (dk_at dksX0_back_1 2 rfl rfl)
theorem dX0_back_27 : decode cX0_back 27 = .ok (.aload_n 0, 1) := dk_42 (dk_at dksX0_back_1 3 rfl rfl)
theorem dX0_back_28 : decode cX0_back 28 = .ok (.getfield 53, 3) := dk_180 0 53 (dk_at dksX0_back_1 4 rfl rfl)
theorem dX0_back_31 : decode cX0_back 31 = .ok (.iload_n 1, 1) := dk_27 (dk_at dksX0_back_1 7 rfl rfl)
theorem dX0_back_32 : decode cX0_back 32 = .ok (.aaload, 1) := dk_50 (dk_at dksX0_back_1 8 rfl rfl)
theorem dX0_back_33 : decode cX0_back 33 = .ok (.invokevirtual 276, 3) := dk_182 1 20 (dk_at dksX0_back_1 9 rfl rfl)
theorem dX0_back_36 : decode cX0_back 36 = .ok (.aload_n 0, 1) := dk_42 (dk_at dksX0_back_1 12 rfl rfl)
theorem dX0_back_37 : decode cX0_back 37 = .ok (.invokevirtual 205, 3) := dk_182 0 205 (dk_at dksX0_back_1 13 rfl rfl)
theorem dX0_back_40 : decode cX0_back 40 = .ok (.aload_n 0, 1) := dk_42 (dk_at dksX0_back_1 16 rfl rfl)
theorem dX0_back_41 : decode cX0_back 41 = .ok (.iconst 3, 1) := dk_6 (dk_at dksX0_back_1 17 rfl rfl)
theorem dX0_back_42 : decode cX0_back 42 = .ok (.invokevirtual 208, 3) := dk_182 0 208 (dk_at dksX0_back_1 18 rfl rfl)
theorem dX0_back_45 : decode cX0_back 45 = .ok (.ireturn, 1) := dk_172 (dk_at dksX0_back_1 21 rfl rfl)
abbrev cX0_init : ByteArray := prog_1_method_57_code
def yX0_init : MethodName := ⟨RX0, "<init>", "()V"⟩
def dkwX0_init_7 : List UInt8 := [5, 187, 1, 36, 89, 183, 1, 38, 83, 89, 6, 187, 1, 36, 89, 183, 1, 38, 83, 181, 1, 39, 177]
abbrev dktX0_init_7 : List UInt8 := dkwX0_init_7 ++ []
def dkwX0_init_6 : List UInt8 := [189, 1, 36, 89, 3, 187, 1, 36, 89, 183, 1, 38, 83, 89, 4, 187, 1, 36, 89, 183, 1, 38, 83, 89]
abbrev dktX0_init_6 : List UInt8 := dkwX0_init_6 ++ dktX0_init_7
def dkwX0_init_5 : List UInt8 := [89, 42, 183, 1, 30, 83, 181, 0, 53, 42, 187, 0, 41, 89, 183, 1, 27, 181, 1, 33, 42, 7]
abbrev dktX0_init_5 : List UInt8 := dkwX0_init_5 ++ dktX0_init_6
def dkwX0_init_4 : List UInt8 := [181, 1, 14, 42, 5, 189, 0, 58, 89, 3, 187, 0, 58, 89, 42, 183, 1, 30, 83, 89, 4, 187, 0, 58]
abbrev dktX0_init_4 : List UInt8 := dkwX0_init_4 ++ dktX0_init_5
def dkwX0_init_3 : List UInt8 := [181, 0, 220, 42, 16, 6, 5, 197, 1, 29, 2, 181, 1, 6, 42, 187, 0, 41, 89, 183, 1, 27]
abbrev dktX0_init_3 : List UInt8 := dkwX0_init_3 ++ dktX0_init_4
def dkwX0_init_2 : List UInt8 := [181, 0, 153, 42, 16, 6, 188, 10, 181, 0, 150, 42, 16, 6, 188, 10, 181, 0, 211, 42, 16, 6, 188, 10]
abbrev dktX0_init_2 : List UInt8 := dkwX0_init_2 ++ dktX0_init_3
def dkwX0_init_1 : List UInt8 := [42, 187, 0, 124, 89, 183, 1, 28, 181, 0, 119, 42, 16, 6, 188, 10, 181, 0, 182, 42, 16, 6, 188, 10]
abbrev dktX0_init_1 : List UInt8 := dkwX0_init_1 ++ dktX0_init_2
def dkwX0_init_0 : List UInt8 := [42, 183, 1, 23, 42, 17, 0, 160, 188, 8, 181, 0, 13, 42, 187, 0, 41, 89, 183, 1, 27, 181, 0, 33]
abbrev dktX0_init_0 : List UInt8 := dkwX0_init_0 ++ dktX0_init_1
theorem dksX0_init_0 : cX0_init.data.toList.drop 0 = dktX0_init_0 := by decide +kernel
theorem dksX0_init_1 : cX0_init.data.toList.drop 24 = dktX0_init_1 := dk_seg dksX0_init_0 24 rfl rfl
theorem dksX0_init_2 : cX0_init.data.toList.drop 48 = dktX0_init_2 := dk_seg dksX0_init_1 24 rfl rfl
theorem dksX0_init_3 : cX0_init.data.toList.drop 72 = dktX0_init_3 := dk_seg dksX0_init_2 24 rfl rfl
theorem dksX0_init_4 : cX0_init.data.toList.drop 94 = dktX0_init_4 := dk_seg dksX0_init_3 22 rfl rfl
theorem dksX0_init_5 : cX0_init.data.toList.drop 118 = dktX0_init_5 := dk_seg dksX0_init_4 24 rfl rfl
theorem dksX0_init_6 : cX0_init.data.toList.drop 140 = dktX0_init_6 := dk_seg dksX0_init_5 22 rfl rfl
theorem dksX0_init_7 : cX0_init.data.toList.drop 164 = dktX0_init_7 := dk_seg dksX0_init_6 24 rfl rfl
theorem dX0_init_0 : decode cX0_init 0 = .ok (.aload_n 0, 1) := dk_42 (dk_at dksX0_init_0 0 rfl rfl)
theorem dX0_init_1 : decode cX0_init 1 = .ok (.invokespecial 279, 3) := dk_183 1 23 (dk_at dksX0_init_0 1 rfl rfl)
theorem dX0_init_4 : decode cX0_init 4 = .ok (.aload_n 0, 1) := dk_42 (dk_at dksX0_init_0 4 rfl rfl)
theorem dX0_init_5 : decode cX0_init 5 = .ok (.sipush 160, 3) := dk_17 0 160 (dk_at dksX0_init_0 5 rfl rfl)
theorem dX0_init_8 : decode cX0_init 8 = .ok (.newarray .byte, 2) := dk_188_8 (dk_at dksX0_init_0 8 rfl rfl)
theorem dX0_init_10 : decode cX0_init 10 = .ok (.putfield 13, 3) := dk_181 0 13 (dk_at dksX0_init_0 10 rfl rfl)
theorem dX0_init_13 : decode cX0_init 13 = .ok (.aload_n 0, 1) := dk_42 (dk_at dksX0_init_0 13 rfl rfl)
theorem dX0_init_14 : decode cX0_init 14 = .ok (.new 41, 3) := dk_187 0 41 (dk_at dksX0_init_0 14 rfl rfl)
theorem dX0_init_17 : decode cX0_init 17 = .ok (.dup, 1) := dk_89 (dk_at dksX0_init_0 17 rfl rfl)
theorem dX0_init_18 : decode cX0_init 18 = .ok (.invokespecial 283, 3) := dk_183 1 27 (dk_at dksX0_init_0 18 rfl rfl)
theorem dX0_init_21 : decode cX0_init 21 = .ok (.putfield 33, 3) := dk_181 0 33 (dk_at dksX0_init_0 21 rfl rfl)
theorem dX0_init_24 : decode cX0_init 24 = .ok (.aload_n 0, 1) := dk_42 (dk_at dksX0_init_1 0 rfl rfl)
theorem dX0_init_25 : decode cX0_init 25 = .ok (.new 124, 3) := dk_187 0 124 (dk_at dksX0_init_1 1 rfl rfl)
theorem dX0_init_28 : decode cX0_init 28 = .ok (.dup, 1) := dk_89 (dk_at dksX0_init_1 4 rfl rfl)
theorem dX0_init_29 : decode cX0_init 29 = .ok (.invokespecial 284, 3) := dk_183 1 28 (dk_at dksX0_init_1 5 rfl rfl)
theorem dX0_init_32 : decode cX0_init 32 = .ok (.putfield 119, 3) := dk_181 0 119 (dk_at dksX0_init_1 8 rfl rfl)
theorem dX0_init_35 : decode cX0_init 35 = .ok (.aload_n 0, 1) := dk_42 (dk_at dksX0_init_1 11 rfl rfl)
theorem dX0_init_36 : decode cX0_init 36 = .ok (.bipush 6, 2) := dk_16 6 (dk_at dksX0_init_1 12 rfl rfl)
theorem dX0_init_38 : decode cX0_init 38 = .ok (.newarray .int, 2) := dk_188_10 (dk_at dksX0_init_1 14 rfl rfl)
theorem dX0_init_40 : decode cX0_init 40 = .ok (.putfield 182, 3) := dk_181 0 182 (dk_at dksX0_init_1 16 rfl rfl)
theorem dX0_init_43 : decode cX0_init 43 = .ok (.aload_n 0, 1) := dk_42 (dk_at dksX0_init_1 19 rfl rfl)
theorem dX0_init_44 : decode cX0_init 44 = .ok (.bipush 6, 2) := dk_16 6 (dk_at dksX0_init_1 20 rfl rfl)
theorem dX0_init_46 : decode cX0_init 46 = .ok (.newarray .int, 2) := dk_188_10 (dk_at dksX0_init_1 22 rfl rfl)
theorem dX0_init_48 : decode cX0_init 48 = .ok (.putfield 153, 3) := dk_181 0 153 (dk_at dksX0_init_2 0 rfl rfl)
theorem dX0_init_51 : decode cX0_init 51 = .ok (.aload_n 0, 1) := dk_42 (dk_at dksX0_init_2 3 rfl rfl)
theorem dX0_init_52 : decode cX0_init 52 = .ok (.bipush 6, 2) := dk_16 6 (dk_at dksX0_init_2 4 rfl rfl)
theorem dX0_init_54 : decode cX0_init 54 = .ok (.newarray .int, 2) := dk_188_10 (dk_at dksX0_init_2 6 rfl rfl)
theorem dX0_init_56 : decode cX0_init 56 = .ok (.putfield 150, 3) := dk_181 0 150 (dk_at dksX0_init_2 8 rfl rfl)
theorem dX0_init_59 : decode cX0_init 59 = .ok (.aload_n 0, 1) := dk_42 (dk_at dksX0_init_2 11 rfl rfl)
theorem dX0_init_60 : decode cX0_init 60 = .ok (.bipush 6, 2) := dk_16 6 (dk_at dksX0_init_2 12 rfl rfl)
theorem dX0_init_62 : decode cX0_init 62 = .ok (.newarray .int, 2) := dk_188_10 (dk_at dksX0_init_2 14 rfl rfl)
theorem dX0_init_64 : decode cX0_init 64 = .ok (.putfield 211, 3) := dk_181 0 211 (dk_at dksX0_init_2 16 rfl rfl)
theorem dX0_init_67 : decode cX0_init 67 = .ok (.aload_n 0, 1) := dk_42 (dk_at dksX0_init_2 19 rfl rfl)
theorem dX0_init_68 : decode cX0_init 68 = .ok (.bipush 6, 2) := dk_16 6 (dk_at dksX0_init_2 20 rfl rfl)
theorem dX0_init_70 : decode cX0_init 70 = .ok (.newarray .int, 2) := dk_188_10 (dk_at dksX0_init_2 22 rfl rfl)
theorem dX0_init_72 : decode cX0_init 72 = .ok (.putfield 220, 3) := dk_181 0 220 (dk_at dksX0_init_3 0 rfl rfl)
theorem dX0_init_75 : decode cX0_init 75 = .ok (.aload_n 0, 1) := dk_42 (dk_at dksX0_init_3 3 rfl rfl)
theorem dX0_init_76 : decode cX0_init 76 = .ok (.bipush 6, 2) := dk_16 6 (dk_at dksX0_init_3 4 rfl rfl)
theorem dX0_init_78 : decode cX0_init 78 = .ok (.iconst 2, 1) := dk_5 (dk_at dksX0_init_3 6 rfl rfl)
theorem dX0_init_79 : decode cX0_init 79 = .ok (.multianewarray 285 2, 4) := by decide +kernel
theorem dX0_init_83 : decode cX0_init 83 = .ok (.putfield 262, 3) := dk_181 1 6 (dk_at dksX0_init_3 11 rfl rfl)
theorem dX0_init_86 : decode cX0_init 86 = .ok (.aload_n 0, 1) := dk_42 (dk_at dksX0_init_3 14 rfl rfl)
theorem dX0_init_87 : decode cX0_init 87 = .ok (.new 41, 3) := dk_187 0 41 (dk_at dksX0_init_3 15 rfl rfl)
theorem dX0_init_90 : decode cX0_init 90 = .ok (.dup, 1) := dk_89 (dk_at dksX0_init_3 18 rfl rfl)
theorem dX0_init_91 : decode cX0_init 91 = .ok (.invokespecial 283, 3) := dk_183 1 27 (dk_at dksX0_init_3 19 rfl rfl)
theorem dX0_init_94 : decode cX0_init 94 = .ok (.putfield 270, 3) := dk_181 1 14 (dk_at dksX0_init_4 0 rfl rfl)
theorem dX0_init_97 : decode cX0_init 97 = .ok (.aload_n 0, 1) := dk_42 (dk_at dksX0_init_4 3 rfl rfl)
theorem dX0_init_98 : decode cX0_init 98 = .ok (.iconst 2, 1) := dk_5 (dk_at dksX0_init_4 4 rfl rfl)
theorem dX0_init_99 : decode cX0_init 99 = .ok (.anewarray 58, 3) := dk_189 0 58 (dk_at dksX0_init_4 5 rfl rfl)
theorem dX0_init_102 : decode cX0_init 102 = .ok (.dup, 1) := dk_89 (dk_at dksX0_init_4 8 rfl rfl)
theorem dX0_init_103 : decode cX0_init 103 = .ok (.iconst 0, 1) := dk_3 (dk_at dksX0_init_4 9 rfl rfl)
theorem dX0_init_104 : decode cX0_init 104 = .ok (.new 58, 3) := dk_187 0 58 (dk_at dksX0_init_4 10 rfl rfl)
theorem dX0_init_107 : decode cX0_init 107 = .ok (.dup, 1) := dk_89 (dk_at dksX0_init_4 13 rfl rfl)
theorem dX0_init_108 : decode cX0_init 108 = .ok (.aload_n 0, 1) := dk_42 (dk_at dksX0_init_4 14 rfl rfl)
theorem dX0_init_109 : decode cX0_init 109 = .ok (.invokespecial 286, 3) := dk_183 1 30 (dk_at dksX0_init_4 15 rfl rfl)
theorem dX0_init_112 : decode cX0_init 112 = .ok (.aastore, 1) := dk_83 (dk_at dksX0_init_4 18 rfl rfl)
theorem dX0_init_113 : decode cX0_init 113 = .ok (.dup, 1) := dk_89 (dk_at dksX0_init_4 19 rfl rfl)
theorem dX0_init_114 : decode cX0_init 114 = .ok (.iconst 1, 1) := dk_4 (dk_at dksX0_init_4 20 rfl rfl)
theorem dX0_init_115 : decode cX0_init 115 = .ok (.new 58, 3) := dk_187 0 58 (dk_at dksX0_init_4 21 rfl rfl)
theorem dX0_init_118 : decode cX0_init 118 = .ok (.dup, 1) := dk_89 (dk_at dksX0_init_5 0 rfl rfl)
theorem dX0_init_119 : decode cX0_init 119 = .ok (.aload_n 0, 1) := dk_42 (dk_at dksX0_init_5 1 rfl rfl)
theorem dX0_init_120 : decode cX0_init 120 = .ok (.invokespecial 286, 3) := dk_183 1 30 (dk_at dksX0_init_5 2 rfl rfl)
theorem dX0_init_123 : decode cX0_init 123 = .ok (.aastore, 1) := dk_83 (dk_at dksX0_init_5 5 rfl rfl)
theorem dX0_init_124 : decode cX0_init 124 = .ok (.putfield 53, 3) := dk_181 0 53 (dk_at dksX0_init_5 6 rfl rfl)
theorem dX0_init_127 : decode cX0_init 127 = .ok (.aload_n 0, 1) := dk_42 (dk_at dksX0_init_5 9 rfl rfl)
theorem dX0_init_128 : decode cX0_init 128 = .ok (.new 41, 3) := dk_187 0 41 (dk_at dksX0_init_5 10 rfl rfl)
theorem dX0_init_131 : decode cX0_init 131 = .ok (.dup, 1) := dk_89 (dk_at dksX0_init_5 13 rfl rfl)
theorem dX0_init_132 : decode cX0_init 132 = .ok (.invokespecial 283, 3) := dk_183 1 27 (dk_at dksX0_init_5 14 rfl rfl)
theorem dX0_init_135 : decode cX0_init 135 = .ok (.putfield 289, 3) := dk_181 1 33 (dk_at dksX0_init_5 17 rfl rfl)
theorem dX0_init_138 : decode cX0_init 138 = .ok (.aload_n 0, 1) := dk_42 (dk_at dksX0_init_5 20 rfl rfl)
theorem dX0_init_139 : decode cX0_init 139 = .ok (.iconst 4, 1) := dk_7 (dk_at dksX0_init_5 21 rfl rfl)
theorem dX0_init_140 : decode cX0_init 140 = .ok (.anewarray 292, 3) := dk_189 1 36 (dk_at dksX0_init_6 0 rfl rfl)
theorem dX0_init_143 : decode cX0_init 143 = .ok (.dup, 1) := dk_89 (dk_at dksX0_init_6 3 rfl rfl)
theorem dX0_init_144 : decode cX0_init 144 = .ok (.iconst 0, 1) := dk_3 (dk_at dksX0_init_6 4 rfl rfl)
theorem dX0_init_145 : decode cX0_init 145 = .ok (.new 292, 3) := dk_187 1 36 (dk_at dksX0_init_6 5 rfl rfl)
theorem dX0_init_148 : decode cX0_init 148 = .ok (.dup, 1) := dk_89 (dk_at dksX0_init_6 8 rfl rfl)
theorem dX0_init_149 : decode cX0_init 149 = .ok (.invokespecial 294, 3) := dk_183 1 38 (dk_at dksX0_init_6 9 rfl rfl)
theorem dX0_init_152 : decode cX0_init 152 = .ok (.aastore, 1) := dk_83 (dk_at dksX0_init_6 12 rfl rfl)
theorem dX0_init_153 : decode cX0_init 153 = .ok (.dup, 1) := dk_89 (dk_at dksX0_init_6 13 rfl rfl)
theorem dX0_init_154 : decode cX0_init 154 = .ok (.iconst 1, 1) := dk_4 (dk_at dksX0_init_6 14 rfl rfl)
theorem dX0_init_155 : decode cX0_init 155 = .ok (.new 292, 3) := dk_187 1 36 (dk_at dksX0_init_6 15 rfl rfl)
theorem dX0_init_158 : decode cX0_init 158 = .ok (.dup, 1) := dk_89 (dk_at dksX0_init_6 18 rfl rfl)
theorem dX0_init_159 : decode cX0_init 159 = .ok (.invokespecial 294, 3) := dk_183 1 38 (dk_at dksX0_init_6 19 rfl rfl)
theorem dX0_init_162 : decode cX0_init 162 = .ok (.aastore, 1) := dk_83 (dk_at dksX0_init_6 22 rfl rfl)
theorem dX0_init_163 : decode cX0_init 163 = .ok (.dup, 1) := dk_89 (dk_at dksX0_init_6 23 rfl rfl)
theorem dX0_init_164 : decode cX0_init 164 = .ok (.iconst 2, 1) := dk_5 (dk_at dksX0_init_7 0 rfl rfl)
theorem dX0_init_165 : decode cX0_init 165 = .ok (.new 292, 3) := dk_187 1 36 (dk_at dksX0_init_7 1 rfl rfl)
theorem dX0_init_168 : decode cX0_init 168 = .ok (.dup, 1) := dk_89 (dk_at dksX0_init_7 4 rfl rfl)
theorem dX0_init_169 : decode cX0_init 169 = .ok (.invokespecial 294, 3) := dk_183 1 38 (dk_at dksX0_init_7 5 rfl rfl)
theorem dX0_init_172 : decode cX0_init 172 = .ok (.aastore, 1) := dk_83 (dk_at dksX0_init_7 8 rfl rfl)
theorem dX0_init_173 : decode cX0_init 173 = .ok (.dup, 1) := dk_89 (dk_at dksX0_init_7 9 rfl rfl)
theorem dX0_init_174 : decode cX0_init 174 = .ok (.iconst 3, 1) := dk_6 (dk_at dksX0_init_7 10 rfl rfl)
theorem dX0_init_175 : decode cX0_init 175 = .ok (.new 292, 3) := dk_187 1 36 (dk_at dksX0_init_7 11 rfl rfl)
theorem dX0_init_178 : decode cX0_init 178 = .ok (.dup, 1) := dk_89 (dk_at dksX0_init_7 14 rfl rfl)
theorem dX0_init_179 : decode cX0_init 179 = .ok (.invokespecial 294, 3) := dk_183 1 38 (dk_at dksX0_init_7 15 rfl rfl)
theorem dX0_init_182 : decode cX0_init 182 = .ok (.aastore, 1) := dk_83 (dk_at dksX0_init_7 18 rfl rfl)
theorem dX0_init_183 : decode cX0_init 183 = .ok (.putfield 295, 3) := dk_181 1 39 (dk_at dksX0_init_7 19 rfl rfl)
theorem dX0_init_186 : decode cX0_init 186 = .ok (.return_, 1) := dk_177 (dk_at dksX0_init_7 22 rfl rfl)
abbrev cX0_sheet : ByteArray := prog_1_method_59_code
def yX0_sheet : MethodName := ⟨RX0, "sheet", "(III)I"⟩
def dkwX0_sheet_2 : List UInt8 := [180, 1, 39, 27, 50, 29, 181, 1, 50, 4, 172, 58, 4, 16, 242, 172]
abbrev dktX0_sheet_2 : List UInt8 := dkwX0_sheet_2 ++ []
def dkwX0_sheet_1 : List UInt8 := [29, 16, 40, 164, 0, 5, 2, 172, 42, 180, 1, 39, 27, 50, 28, 29, 184, 1, 43, 181, 1, 47, 42]
abbrev dktX0_sheet_1 : List UInt8 := dkwX0_sheet_1 ++ dktX0_sheet_2
def dkwX0_sheet_0 : List UInt8 := [27, 133, 9, 20, 0, 109, 184, 0, 3, 153, 0, 21, 28, 133, 9, 20, 0, 237, 184, 0, 3, 153, 0, 9]
abbrev dktX0_sheet_0 : List UInt8 := dkwX0_sheet_0 ++ dktX0_sheet_1
theorem dksX0_sheet_0 : cX0_sheet.data.toList.drop 0 = dktX0_sheet_0 := by decide +kernel
theorem dksX0_sheet_1 : cX0_sheet.data.toList.drop 24 = dktX0_sheet_1 := dk_seg dksX0_sheet_0 24 rfl rfl
theorem dksX0_sheet_2 : cX0_sheet.data.toList.drop 47 = dktX0_sheet_2 := dk_seg dksX0_sheet_1 23 rfl rfl
theorem dX0_sheet_0 : decode cX0_sheet 0 = .ok (.iload_n 1, 1) := dk_27 (dk_at dksX0_sheet_0 0 rfl rfl)
theorem dX0_sheet_1 : decode cX0_sheet 1 = .ok (.i2l, 1) := dk_133 (dk_at dksX0_sheet_0 1 rfl rfl)
theorem dX0_sheet_2 : decode cX0_sheet 2 = .ok (.lconst 0, 1) := dk_9 (dk_at dksX0_sheet_0 2 rfl rfl)
theorem dX0_sheet_3 : decode cX0_sheet 3 = .ok (.ldc2_w 109, 3) := dk_20 0 109 (dk_at dksX0_sheet_0 3 rfl rfl)
theorem dX0_sheet_6 : decode cX0_sheet 6 = .ok (.invokestatic 3, 3) := dk_184 0 3 (dk_at dksX0_sheet_0 6 rfl rfl)
theorem dX0_sheet_9 : decode cX0_sheet 9 = .ok (.ifCond .eq 21, 3) := dk_153 0 21 (dk_at dksX0_sheet_0 9 rfl rfl)
theorem dX0_sheet_12 : decode cX0_sheet 12 = .ok (.iload_n 2, 1) := dk_28 (dk_at dksX0_sheet_0 12 rfl rfl)
theorem dX0_sheet_13 : decode cX0_sheet 13 = .ok (.i2l, 1) := dk_133 (dk_at dksX0_sheet_0 13 rfl rfl)
theorem dX0_sheet_14 : decode cX0_sheet 14 = .ok (.lconst 0, 1) := dk_9 (dk_at dksX0_sheet_0 14 rfl rfl)
theorem dX0_sheet_15 : decode cX0_sheet 15 = .ok (.ldc2_w 237, 3) := dk_20 0 237 (dk_at dksX0_sheet_0 15 rfl rfl)
theorem dX0_sheet_18 : decode cX0_sheet 18 = .ok (.invokestatic 3, 3) := dk_184 0 3 (dk_at dksX0_sheet_0 18 rfl rfl)
theorem dX0_sheet_21 : decode cX0_sheet 21 = .ok (.ifCond .eq 9, 3) := dk_153 0 9 (dk_at dksX0_sheet_0 21 rfl rfl)
theorem dX0_sheet_24 : decode cX0_sheet 24 = .ok (.iload_n 3, 1) := dk_29 (dk_at dksX0_sheet_1 0 rfl rfl)
theorem dX0_sheet_25 : decode cX0_sheet 25 = .ok (.bipush 40, 2) := dk_16 40 (dk_at dksX0_sheet_1 1 rfl rfl)
theorem dX0_sheet_27 : decode cX0_sheet 27 = .ok (.if_icmp .le 5, 3) := dk_164 0 5 (dk_at dksX0_sheet_1 3 rfl rfl)
theorem dX0_sheet_30 : decode cX0_sheet 30 = .ok (.iconst (-1), 1) := dk_2 (dk_at dksX0_sheet_1 6 rfl rfl)
theorem dX0_sheet_31 : decode cX0_sheet 31 = .ok (.ireturn, 1) := dk_172 (dk_at dksX0_sheet_1 7 rfl rfl)
theorem dX0_sheet_32 : decode cX0_sheet 32 = .ok (.aload_n 0, 1) := dk_42 (dk_at dksX0_sheet_1 8 rfl rfl)
theorem dX0_sheet_33 : decode cX0_sheet 33 = .ok (.getfield 295, 3) := dk_180 1 39 (dk_at dksX0_sheet_1 9 rfl rfl)
theorem dX0_sheet_36 : decode cX0_sheet 36 = .ok (.iload_n 1, 1) := dk_27 (dk_at dksX0_sheet_1 12 rfl rfl)
theorem dX0_sheet_37 : decode cX0_sheet 37 = .ok (.aaload, 1) := dk_50 (dk_at dksX0_sheet_1 13 rfl rfl)
theorem dX0_sheet_38 : decode cX0_sheet 38 = .ok (.iload_n 2, 1) := dk_28 (dk_at dksX0_sheet_1 14 rfl rfl)
theorem dX0_sheet_39 : decode cX0_sheet 39 = .ok (.iload_n 3, 1) := dk_29 (dk_at dksX0_sheet_1 15 rfl rfl)
theorem dX0_sheet_40 : decode cX0_sheet 40 = .ok (.invokestatic 299, 3) := dk_184 1 43 (dk_at dksX0_sheet_1 16 rfl rfl)
theorem dX0_sheet_43 : decode cX0_sheet 43 = .ok (.putfield 303, 3) := dk_181 1 47 (dk_at dksX0_sheet_1 19 rfl rfl)
theorem dX0_sheet_46 : decode cX0_sheet 46 = .ok (.aload_n 0, 1) := dk_42 (dk_at dksX0_sheet_1 22 rfl rfl)
theorem dX0_sheet_47 : decode cX0_sheet 47 = .ok (.getfield 295, 3) := dk_180 1 39 (dk_at dksX0_sheet_2 0 rfl rfl)
theorem dX0_sheet_50 : decode cX0_sheet 50 = .ok (.iload_n 1, 1) := dk_27 (dk_at dksX0_sheet_2 3 rfl rfl)
theorem dX0_sheet_51 : decode cX0_sheet 51 = .ok (.aaload, 1) := dk_50 (dk_at dksX0_sheet_2 4 rfl rfl)
theorem dX0_sheet_52 : decode cX0_sheet 52 = .ok (.iload_n 3, 1) := dk_29 (dk_at dksX0_sheet_2 5 rfl rfl)
theorem dX0_sheet_53 : decode cX0_sheet 53 = .ok (.putfield 306, 3) := dk_181 1 50 (dk_at dksX0_sheet_2 6 rfl rfl)
theorem dX0_sheet_56 : decode cX0_sheet 56 = .ok (.iconst 1, 1) := dk_4 (dk_at dksX0_sheet_2 9 rfl rfl)
theorem dX0_sheet_57 : decode cX0_sheet 57 = .ok (.ireturn, 1) := dk_172 (dk_at dksX0_sheet_2 10 rfl rfl)
theorem dX0_sheet_58 : decode cX0_sheet 58 = .ok (.astore 4, 2) := dk_58 4 (dk_at dksX0_sheet_2 11 rfl rfl)
theorem dX0_sheet_60 : decode cX0_sheet 60 = .ok (.bipush (-14), 2) := dk_16 242 (dk_at dksX0_sheet_2 13 rfl rfl)
theorem dX0_sheet_62 : decode cX0_sheet 62 = .ok (.ireturn, 1) := dk_172 (dk_at dksX0_sheet_2 15 rfl rfl)
abbrev cX0_newRow : ByteArray := prog_1_method_58_code
def yX0_newRow : MethodName := ⟨RX0, "newRow", "(II)Ljava/lang/Object;"⟩
def dkwX0_newRow_2 : List UInt8 := [27, 188, 8, 176, 27, 188, 9, 176, 27, 188, 10, 176]
abbrev dktX0_newRow_2 : List UInt8 := dkwX0_newRow_2 ++ []
def dkwX0_newRow_1 : List UInt8 := [171, 0, 0, 0, 0, 0, 35, 0, 0, 0, 2, 0, 0, 0, 0, 0, 0, 0, 27, 0, 0, 0, 1, 0, 0, 0, 31]
abbrev dktX0_newRow_1 : List UInt8 := dkwX0_newRow_1 ++ dktX0_newRow_2
def dkwX0_newRow_0 : List UInt8 := [26]
abbrev dktX0_newRow_0 : List UInt8 := dkwX0_newRow_0 ++ dktX0_newRow_1
theorem dksX0_newRow_0 : cX0_newRow.data.toList.drop 0 = dktX0_newRow_0 := by decide +kernel
theorem dksX0_newRow_1 : cX0_newRow.data.toList.drop 1 = dktX0_newRow_1 := dk_seg dksX0_newRow_0 1 rfl rfl
theorem dksX0_newRow_2 : cX0_newRow.data.toList.drop 28 = dktX0_newRow_2 := dk_seg dksX0_newRow_1 27 rfl rfl
theorem dX0_newRow_0 : decode cX0_newRow 0 = .ok (.iload_n 0, 1) := dk_26 (dk_at dksX0_newRow_0 0 rfl rfl)
theorem dX0_newRow_1 : decode cX0_newRow 1 = .ok (.lookupswitch 35 #[(0, 27), (1, 31)], 27) := by decide +kernel
theorem dX0_newRow_28 : decode cX0_newRow 28 = .ok (.iload_n 1, 1) := dk_27 (dk_at dksX0_newRow_2 0 rfl rfl)
theorem dX0_newRow_29 : decode cX0_newRow 29 = .ok (.newarray .byte, 2) := dk_188_8 (dk_at dksX0_newRow_2 1 rfl rfl)
theorem dX0_newRow_31 : decode cX0_newRow 31 = .ok (.areturn, 1) := dk_176 (dk_at dksX0_newRow_2 3 rfl rfl)
theorem dX0_newRow_32 : decode cX0_newRow 32 = .ok (.iload_n 1, 1) := dk_27 (dk_at dksX0_newRow_2 4 rfl rfl)
theorem dX0_newRow_33 : decode cX0_newRow 33 = .ok (.newarray .short, 2) := dk_188_9 (dk_at dksX0_newRow_2 5 rfl rfl)
theorem dX0_newRow_35 : decode cX0_newRow 35 = .ok (.areturn, 1) := dk_176 (dk_at dksX0_newRow_2 7 rfl rfl)
theorem dX0_newRow_36 : decode cX0_newRow 36 = .ok (.iload_n 1, 1) := dk_27 (dk_at dksX0_newRow_2 8 rfl rfl)
theorem dX0_newRow_37 : decode cX0_newRow 37 = .ok (.newarray .int, 2) := dk_188_10 (dk_at dksX0_newRow_2 9 rfl rfl)
theorem dX0_newRow_39 : decode cX0_newRow 39 = .ok (.areturn, 1) := dk_176 (dk_at dksX0_newRow_2 11 rfl rfl)
abbrev cX0_lay : ByteArray := prog_1_method_60_code
def yX0_lay : MethodName := ⟨RX0, "lay", "(III)I"⟩
def dkwX0_lay_3 : List UInt8 := [29, 79, 4, 172, 58, 5, 16, 245, 172, 58, 5, 16, 244, 172]
abbrev dktX0_lay_3 : List UInt8 := dkwX0_lay_3 ++ []
def dkwX0_lay_2 : List UInt8 := [193, 1, 56, 153, 0, 15, 25, 4, 192, 1, 56, 28, 29, 147, 86, 167, 0, 11, 25, 4, 192, 1, 58, 28]
abbrev dktX0_lay_2 : List UInt8 := dkwX0_lay_2 ++ dktX0_lay_3
def dkwX0_lay_1 : List UInt8 := [58, 4, 25, 4, 193, 1, 55, 153, 0, 15, 25, 4, 192, 1, 55, 28, 29, 145, 84, 167, 0, 31, 25, 4]
abbrev dktX0_lay_1 : List UInt8 := dkwX0_lay_1 ++ dktX0_lay_2
def dkwX0_lay_0 : List UInt8 := [27, 133, 9, 20, 0, 109, 184, 0, 3, 154, 0, 5, 2, 172, 42, 180, 1, 39, 27, 50, 180, 1, 47]
abbrev dktX0_lay_0 : List UInt8 := dkwX0_lay_0 ++ dktX0_lay_1
theorem dksX0_lay_0 : cX0_lay.data.toList.drop 0 = dktX0_lay_0 := by decide +kernel
theorem dksX0_lay_1 : cX0_lay.data.toList.drop 23 = dktX0_lay_1 := dk_seg dksX0_lay_0 23 rfl rfl
theorem dksX0_lay_2 : cX0_lay.data.toList.drop 47 = dktX0_lay_2 := dk_seg dksX0_lay_1 24 rfl rfl
theorem dksX0_lay_3 : cX0_lay.data.toList.drop 71 = dktX0_lay_3 := dk_seg dksX0_lay_2 24 rfl rfl
theorem dX0_lay_0 : decode cX0_lay 0 = .ok (.iload_n 1, 1) := dk_27 (dk_at dksX0_lay_0 0 rfl rfl)
theorem dX0_lay_1 : decode cX0_lay 1 = .ok (.i2l, 1) := dk_133 (dk_at dksX0_lay_0 1 rfl rfl)
theorem dX0_lay_2 : decode cX0_lay 2 = .ok (.lconst 0, 1) := dk_9 (dk_at dksX0_lay_0 2 rfl rfl)
theorem dX0_lay_3 : decode cX0_lay 3 = .ok (.ldc2_w 109, 3) := dk_20 0 109 (dk_at dksX0_lay_0 3 rfl rfl)
theorem dX0_lay_6 : decode cX0_lay 6 = .ok (.invokestatic 3, 3) := dk_184 0 3 (dk_at dksX0_lay_0 6 rfl rfl)
theorem dX0_lay_9 : decode cX0_lay 9 = .ok (.ifCond .ne 5, 3) := dk_154 0 5 (dk_at dksX0_lay_0 9 rfl rfl)
theorem dX0_lay_12 : decode cX0_lay 12 = .ok (.iconst (-1), 1) := dk_2 (dk_at dksX0_lay_0 12 rfl rfl)
theorem dX0_lay_13 : decode cX0_lay 13 = .ok (.ireturn, 1) := dk_172 (dk_at dksX0_lay_0 13 rfl rfl)
theorem dX0_lay_14 : decode cX0_lay 14 = .ok (.aload_n 0, 1) := dk_42 (dk_at dksX0_lay_0 14 rfl rfl)
theorem dX0_lay_15 : decode cX0_lay 15 = .ok (.getfield 295, 3) := dk_180 1 39 (dk_at dksX0_lay_0 15 rfl rfl)
theorem dX0_lay_18 : decode cX0_lay 18 = .ok (.iload_n 1, 1) := dk_27 (dk_at dksX0_lay_0 18 rfl rfl)
theorem dX0_lay_19 : decode cX0_lay 19 = .ok (.aaload, 1) := dk_50 (dk_at dksX0_lay_0 19 rfl rfl)
theorem dX0_lay_20 : decode cX0_lay 20 = .ok (.getfield 303, 3) := dk_180 1 47 (dk_at dksX0_lay_0 20 rfl rfl)
theorem dX0_lay_23 : decode cX0_lay 23 = .ok (.astore 4, 2) := dk_58 4 (dk_at dksX0_lay_1 0 rfl rfl)
theorem dX0_lay_25 : decode cX0_lay 25 = .ok (.aload 4, 2) := dk_25 4 (dk_at dksX0_lay_1 2 rfl rfl)
theorem dX0_lay_27 : decode cX0_lay 27 = .ok (.instanceof 311, 3) := dk_193 1 55 (dk_at dksX0_lay_1 4 rfl rfl)
theorem dX0_lay_30 : decode cX0_lay 30 = .ok (.ifCond .eq 15, 3) := dk_153 0 15 (dk_at dksX0_lay_1 7 rfl rfl)
theorem dX0_lay_33 : decode cX0_lay 33 = .ok (.aload 4, 2) := dk_25 4 (dk_at dksX0_lay_1 10 rfl rfl)
theorem dX0_lay_35 : decode cX0_lay 35 = .ok (.checkcast 311, 3) := dk_192 1 55 (dk_at dksX0_lay_1 12 rfl rfl)
theorem dX0_lay_38 : decode cX0_lay 38 = .ok (.iload_n 2, 1) := dk_28 (dk_at dksX0_lay_1 15 rfl rfl)
theorem dX0_lay_39 : decode cX0_lay 39 = .ok (.iload_n 3, 1) := dk_29 (dk_at dksX0_lay_1 16 rfl rfl)
theorem dX0_lay_40 : decode cX0_lay 40 = .ok (.i2b, 1) := dk_145 (dk_at dksX0_lay_1 17 rfl rfl)
theorem dX0_lay_41 : decode cX0_lay 41 = .ok (.bastore, 1) := dk_84 (dk_at dksX0_lay_1 18 rfl rfl)
theorem dX0_lay_42 : decode cX0_lay 42 = .ok (.goto 31, 3) := dk_167 0 31 (dk_at dksX0_lay_1 19 rfl rfl)
theorem dX0_lay_45 : decode cX0_lay 45 = .ok (.aload 4, 2) := dk_25 4 (dk_at dksX0_lay_1 22 rfl rfl)
theorem dX0_lay_47 : decode cX0_lay 47 = .ok (.instanceof 312, 3) := dk_193 1 56 (dk_at dksX0_lay_2 0 rfl rfl)
theorem dX0_lay_50 : decode cX0_lay 50 = .ok (.ifCond .eq 15, 3) := dk_153 0 15 (dk_at dksX0_lay_2 3 rfl rfl)
theorem dX0_lay_53 : decode cX0_lay 53 = .ok (.aload 4, 2) := dk_25 4 (dk_at dksX0_lay_2 6 rfl rfl)
theorem dX0_lay_55 : decode cX0_lay 55 = .ok (.checkcast 312, 3) := dk_192 1 56 (dk_at dksX0_lay_2 8 rfl rfl)
theorem dX0_lay_58 : decode cX0_lay 58 = .ok (.iload_n 2, 1) := dk_28 (dk_at dksX0_lay_2 11 rfl rfl)
theorem dX0_lay_59 : decode cX0_lay 59 = .ok (.iload_n 3, 1) := dk_29 (dk_at dksX0_lay_2 12 rfl rfl)
theorem dX0_lay_60 : decode cX0_lay 60 = .ok (.i2s, 1) := dk_147 (dk_at dksX0_lay_2 13 rfl rfl)
theorem dX0_lay_61 : decode cX0_lay 61 = .ok (.sastore, 1) := dk_86 (dk_at dksX0_lay_2 14 rfl rfl)
theorem dX0_lay_62 : decode cX0_lay 62 = .ok (.goto 11, 3) := dk_167 0 11 (dk_at dksX0_lay_2 15 rfl rfl)
theorem dX0_lay_65 : decode cX0_lay 65 = .ok (.aload 4, 2) := dk_25 4 (dk_at dksX0_lay_2 18 rfl rfl)
theorem dX0_lay_67 : decode cX0_lay 67 = .ok (.checkcast 314, 3) := dk_192 1 58 (dk_at dksX0_lay_2 20 rfl rfl)
theorem dX0_lay_70 : decode cX0_lay 70 = .ok (.iload_n 2, 1) := dk_28 (dk_at dksX0_lay_2 23 rfl rfl)
theorem dX0_lay_71 : decode cX0_lay 71 = .ok (.iload_n 3, 1) := dk_29 (dk_at dksX0_lay_3 0 rfl rfl)
theorem dX0_lay_72 : decode cX0_lay 72 = .ok (.iastore, 1) := dk_79 (dk_at dksX0_lay_3 1 rfl rfl)
theorem dX0_lay_73 : decode cX0_lay 73 = .ok (.iconst 1, 1) := dk_4 (dk_at dksX0_lay_3 2 rfl rfl)
theorem dX0_lay_74 : decode cX0_lay 74 = .ok (.ireturn, 1) := dk_172 (dk_at dksX0_lay_3 3 rfl rfl)
theorem dX0_lay_75 : decode cX0_lay 75 = .ok (.astore 5, 2) := dk_58 5 (dk_at dksX0_lay_3 4 rfl rfl)
theorem dX0_lay_77 : decode cX0_lay 77 = .ok (.bipush (-11), 2) := dk_16 245 (dk_at dksX0_lay_3 6 rfl rfl)
theorem dX0_lay_79 : decode cX0_lay 79 = .ok (.ireturn, 1) := dk_172 (dk_at dksX0_lay_3 8 rfl rfl)
theorem dX0_lay_80 : decode cX0_lay 80 = .ok (.astore 5, 2) := dk_58 5 (dk_at dksX0_lay_3 9 rfl rfl)
theorem dX0_lay_82 : decode cX0_lay 82 = .ok (.bipush (-12), 2) := dk_16 244 (dk_at dksX0_lay_3 11 rfl rfl)
theorem dX0_lay_84 : decode cX0_lay 84 = .ok (.ireturn, 1) := dk_172 (dk_at dksX0_lay_3 13 rfl rfl)
abbrev cX0_read : ByteArray := prog_1_method_63_code
def yX0_read : MethodName := ⟨RX0, "read", "(IIII)I"⟩
def dkwX0_read_4 : List UInt8 := [21, 5, 181, 1, 79, 42, 180, 1, 63, 172]
abbrev dktX0_read_4 : List UInt8 := dkwX0_read_4 ++ []
def dkwX0_read_3 : List UInt8 := [180, 1, 66, 153, 0, 19, 42, 180, 0, 33, 42, 180, 1, 33, 182, 0, 40, 42, 180, 1, 66, 172, 42]
abbrev dktX0_read_3 : List UInt8 := dkwX0_read_3 ++ dktX0_read_4
def dkwX0_read_2 : List UInt8 := [182, 0, 40, 42, 42, 180, 1, 39, 27, 50, 180, 1, 47, 28, 29, 21, 4, 182, 1, 75, 54, 5, 42]
abbrev dktX0_read_2 : List UInt8 := dkwX0_read_2 ++ dktX0_read_3
def dkwX0_read_1 : List UInt8 := [21, 4, 133, 9, 20, 1, 12, 184, 0, 3, 154, 0, 5, 2, 172, 42, 180, 1, 33, 42, 180, 0, 33]
abbrev dktX0_read_1 : List UInt8 := dkwX0_read_1 ++ dktX0_read_2
def dkwX0_read_0 : List UInt8 := [27, 133, 9, 20, 0, 109, 184, 0, 3, 153, 0, 28, 28, 133, 9, 20, 0, 237, 184, 0, 3, 153, 0, 16]
abbrev dktX0_read_0 : List UInt8 := dkwX0_read_0 ++ dktX0_read_1
theorem dksX0_read_0 : cX0_read.data.toList.drop 0 = dktX0_read_0 := by decide +kernel
theorem dksX0_read_1 : cX0_read.data.toList.drop 24 = dktX0_read_1 := dk_seg dksX0_read_0 24 rfl rfl
theorem dksX0_read_2 : cX0_read.data.toList.drop 47 = dktX0_read_2 := dk_seg dksX0_read_1 23 rfl rfl
theorem dksX0_read_3 : cX0_read.data.toList.drop 70 = dktX0_read_3 := dk_seg dksX0_read_2 23 rfl rfl
theorem dksX0_read_4 : cX0_read.data.toList.drop 93 = dktX0_read_4 := dk_seg dksX0_read_3 23 rfl rfl
theorem dX0_read_0 : decode cX0_read 0 = .ok (.iload_n 1, 1) := dk_27 (dk_at dksX0_read_0 0 rfl rfl)
theorem dX0_read_1 : decode cX0_read 1 = .ok (.i2l, 1) := dk_133 (dk_at dksX0_read_0 1 rfl rfl)
theorem dX0_read_2 : decode cX0_read 2 = .ok (.lconst 0, 1) := dk_9 (dk_at dksX0_read_0 2 rfl rfl)
theorem dX0_read_3 : decode cX0_read 3 = .ok (.ldc2_w 109, 3) := dk_20 0 109 (dk_at dksX0_read_0 3 rfl rfl)
theorem dX0_read_6 : decode cX0_read 6 = .ok (.invokestatic 3, 3) := dk_184 0 3 (dk_at dksX0_read_0 6 rfl rfl)
theorem dX0_read_9 : decode cX0_read 9 = .ok (.ifCond .eq 28, 3) := dk_153 0 28 (dk_at dksX0_read_0 9 rfl rfl)
theorem dX0_read_12 : decode cX0_read 12 = .ok (.iload_n 2, 1) := dk_28 (dk_at dksX0_read_0 12 rfl rfl)
theorem dX0_read_13 : decode cX0_read 13 = .ok (.i2l, 1) := dk_133 (dk_at dksX0_read_0 13 rfl rfl)
theorem dX0_read_14 : decode cX0_read 14 = .ok (.lconst 0, 1) := dk_9 (dk_at dksX0_read_0 14 rfl rfl)
theorem dX0_read_15 : decode cX0_read 15 = .ok (.ldc2_w 237, 3) := dk_20 0 237 (dk_at dksX0_read_0 15 rfl rfl)
theorem dX0_read_18 : decode cX0_read 18 = .ok (.invokestatic 3, 3) := dk_184 0 3 (dk_at dksX0_read_0 18 rfl rfl)
theorem dX0_read_21 : decode cX0_read 21 = .ok (.ifCond .eq 16, 3) := dk_153 0 16 (dk_at dksX0_read_0 21 rfl rfl)
theorem dX0_read_24 : decode cX0_read 24 = .ok (.iload 4, 2) := dk_21 4 (dk_at dksX0_read_1 0 rfl rfl)
theorem dX0_read_26 : decode cX0_read 26 = .ok (.i2l, 1) := dk_133 (dk_at dksX0_read_1 2 rfl rfl)
theorem dX0_read_27 : decode cX0_read 27 = .ok (.lconst 0, 1) := dk_9 (dk_at dksX0_read_1 3 rfl rfl)
theorem dX0_read_28 : decode cX0_read 28 = .ok (.ldc2_w 268, 3) := dk_20 1 12 (dk_at dksX0_read_1 4 rfl rfl)
theorem dX0_read_31 : decode cX0_read 31 = .ok (.invokestatic 3, 3) := dk_184 0 3 (dk_at dksX0_read_1 7 rfl rfl)
theorem dX0_read_34 : decode cX0_read 34 = .ok (.ifCond .ne 5, 3) := dk_154 0 5 (dk_at dksX0_read_1 10 rfl rfl)
theorem dX0_read_37 : decode cX0_read 37 = .ok (.iconst (-1), 1) := dk_2 (dk_at dksX0_read_1 13 rfl rfl)
theorem dX0_read_38 : decode cX0_read 38 = .ok (.ireturn, 1) := dk_172 (dk_at dksX0_read_1 14 rfl rfl)
theorem dX0_read_39 : decode cX0_read 39 = .ok (.aload_n 0, 1) := dk_42 (dk_at dksX0_read_1 15 rfl rfl)
theorem dX0_read_40 : decode cX0_read 40 = .ok (.getfield 289, 3) := dk_180 1 33 (dk_at dksX0_read_1 16 rfl rfl)
theorem dX0_read_43 : decode cX0_read 43 = .ok (.aload_n 0, 1) := dk_42 (dk_at dksX0_read_1 19 rfl rfl)
theorem dX0_read_44 : decode cX0_read 44 = .ok (.getfield 33, 3) := dk_180 0 33 (dk_at dksX0_read_1 20 rfl rfl)
theorem dX0_read_47 : decode cX0_read 47 = .ok (.invokevirtual 40, 3) := dk_182 0 40 (dk_at dksX0_read_2 0 rfl rfl)
theorem dX0_read_50 : decode cX0_read 50 = .ok (.aload_n 0, 1) := dk_42 (dk_at dksX0_read_2 3 rfl rfl)
theorem dX0_read_51 : decode cX0_read 51 = .ok (.aload_n 0, 1) := dk_42 (dk_at dksX0_read_2 4 rfl rfl)
theorem dX0_read_52 : decode cX0_read 52 = .ok (.getfield 295, 3) := dk_180 1 39 (dk_at dksX0_read_2 5 rfl rfl)
theorem dX0_read_55 : decode cX0_read 55 = .ok (.iload_n 1, 1) := dk_27 (dk_at dksX0_read_2 8 rfl rfl)
theorem dX0_read_56 : decode cX0_read 56 = .ok (.aaload, 1) := dk_50 (dk_at dksX0_read_2 9 rfl rfl)
theorem dX0_read_57 : decode cX0_read 57 = .ok (.getfield 303, 3) := dk_180 1 47 (dk_at dksX0_read_2 10 rfl rfl)
theorem dX0_read_60 : decode cX0_read 60 = .ok (.iload_n 2, 1) := dk_28 (dk_at dksX0_read_2 13 rfl rfl)
theorem dX0_read_61 : decode cX0_read 61 = .ok (.iload_n 3, 1) := dk_29 (dk_at dksX0_read_2 14 rfl rfl)
theorem dX0_read_62 : decode cX0_read 62 = .ok (.iload 4, 2) := dk_21 4 (dk_at dksX0_read_2 15 rfl rfl)
theorem dX0_read_64 : decode cX0_read 64 = .ok (.invokevirtual 331, 3) := dk_182 1 75 (dk_at dksX0_read_2 17 rfl rfl)
theorem dX0_read_67 : decode cX0_read 67 = .ok (.istore 5, 2) := dk_54 5 (dk_at dksX0_read_2 20 rfl rfl)
theorem dX0_read_69 : decode cX0_read 69 = .ok (.aload_n 0, 1) := dk_42 (dk_at dksX0_read_2 22 rfl rfl)
theorem dX0_read_70 : decode cX0_read 70 = .ok (.getfield 322, 3) := dk_180 1 66 (dk_at dksX0_read_3 0 rfl rfl)
theorem dX0_read_73 : decode cX0_read 73 = .ok (.ifCond .eq 19, 3) := dk_153 0 19 (dk_at dksX0_read_3 3 rfl rfl)
theorem dX0_read_76 : decode cX0_read 76 = .ok (.aload_n 0, 1) := dk_42 (dk_at dksX0_read_3 6 rfl rfl)
theorem dX0_read_77 : decode cX0_read 77 = .ok (.getfield 33, 3) := dk_180 0 33 (dk_at dksX0_read_3 7 rfl rfl)
theorem dX0_read_80 : decode cX0_read 80 = .ok (.aload_n 0, 1) := dk_42 (dk_at dksX0_read_3 10 rfl rfl)
theorem dX0_read_81 : decode cX0_read 81 = .ok (.getfield 289, 3) := dk_180 1 33 (dk_at dksX0_read_3 11 rfl rfl)
theorem dX0_read_84 : decode cX0_read 84 = .ok (.invokevirtual 40, 3) := dk_182 0 40 (dk_at dksX0_read_3 14 rfl rfl)
theorem dX0_read_87 : decode cX0_read 87 = .ok (.aload_n 0, 1) := dk_42 (dk_at dksX0_read_3 17 rfl rfl)
theorem dX0_read_88 : decode cX0_read 88 = .ok (.getfield 322, 3) := dk_180 1 66 (dk_at dksX0_read_3 18 rfl rfl)
theorem dX0_read_91 : decode cX0_read 91 = .ok (.ireturn, 1) := dk_172 (dk_at dksX0_read_3 21 rfl rfl)
theorem dX0_read_92 : decode cX0_read 92 = .ok (.aload_n 0, 1) := dk_42 (dk_at dksX0_read_3 22 rfl rfl)
theorem dX0_read_93 : decode cX0_read 93 = .ok (.iload 5, 2) := dk_21 5 (dk_at dksX0_read_4 0 rfl rfl)
theorem dX0_read_95 : decode cX0_read 95 = .ok (.putfield 335, 3) := dk_181 1 79 (dk_at dksX0_read_4 2 rfl rfl)
theorem dX0_read_98 : decode cX0_read 98 = .ok (.aload_n 0, 1) := dk_42 (dk_at dksX0_read_4 5 rfl rfl)
theorem dX0_read_99 : decode cX0_read 99 = .ok (.getfield 319, 3) := dk_180 1 63 (dk_at dksX0_read_4 6 rfl rfl)
theorem dX0_read_102 : decode cX0_read 102 = .ok (.ireturn, 1) := dk_172 (dk_at dksX0_read_4 9 rfl rfl)
abbrev cX0_takesIn : ByteArray := prog_1_method_62_code
def yX0_takesIn : MethodName := ⟨RX0, "takesIn", "(Ljava/lang/Object;III)I"⟩
def dkwX0_takesIn_5 : List UInt8 := [5, 172]
abbrev dktX0_takesIn_5 : List UInt8 := dkwX0_takesIn_5 ++ []
def dkwX0_takesIn_4 : List UInt8 := [4, 167, 0, 4, 3, 96, 181, 1, 63, 167, 255, 162, 3, 172, 58, 5, 4, 172, 58, 5, 6, 172, 58, 5]
abbrev dktX0_takesIn_4 : List UInt8 := dkwX0_takesIn_4 ++ dktX0_takesIn_5
def dkwX0_takesIn_3 : List UInt8 := [42, 180, 1, 63, 100, 167, 0, 4, 3, 181, 1, 66, 42, 89, 180, 1, 63, 42, 180, 1, 66, 154, 0, 7]
abbrev dktX0_takesIn_3 : List UInt8 := dkwX0_takesIn_3 ++ dktX0_takesIn_4
def dkwX0_takesIn_2 : List UInt8 := [21, 5, 4, 96, 184, 1, 69, 54, 7, 42, 42, 21, 6, 5, 21, 7, 182, 0, 115, 156, 0, 13, 16, 236]
abbrev dktX0_takesIn_2 : List UInt8 := dkwX0_takesIn_2 ++ dktX0_takesIn_3
def dkwX0_takesIn_1 : List UInt8 := [154, 0, 84, 29, 5, 42, 180, 1, 63, 104, 96, 54, 5, 43, 28, 21, 5, 184, 1, 69, 54, 6, 43, 28]
abbrev dktX0_takesIn_1 : List UInt8 := dkwX0_takesIn_1 ++ dktX0_takesIn_2
def dkwX0_takesIn_0 : List UInt8 := [42, 3, 181, 1, 63, 42, 3, 181, 1, 66, 42, 180, 1, 63, 21, 4, 162, 0, 91, 42, 180, 1, 66]
abbrev dktX0_takesIn_0 : List UInt8 := dkwX0_takesIn_0 ++ dktX0_takesIn_1
theorem dksX0_takesIn_0 : cX0_takesIn.data.toList.drop 0 = dktX0_takesIn_0 := by decide +kernel
theorem dksX0_takesIn_1 : cX0_takesIn.data.toList.drop 23 = dktX0_takesIn_1 := dk_seg dksX0_takesIn_0 23 rfl rfl
theorem dksX0_takesIn_2 : cX0_takesIn.data.toList.drop 47 = dktX0_takesIn_2 := dk_seg dksX0_takesIn_1 24 rfl rfl
theorem dksX0_takesIn_3 : cX0_takesIn.data.toList.drop 71 = dktX0_takesIn_3 := dk_seg dksX0_takesIn_2 24 rfl rfl
theorem dksX0_takesIn_4 : cX0_takesIn.data.toList.drop 95 = dktX0_takesIn_4 := dk_seg dksX0_takesIn_3 24 rfl rfl
theorem dksX0_takesIn_5 : cX0_takesIn.data.toList.drop 119 = dktX0_takesIn_5 := dk_seg dksX0_takesIn_4 24 rfl rfl
theorem dX0_takesIn_0 : decode cX0_takesIn 0 = .ok (.aload_n 0, 1) := dk_42 (dk_at dksX0_takesIn_0 0 rfl rfl)
theorem dX0_takesIn_1 : decode cX0_takesIn 1 = .ok (.iconst 0, 1) := dk_3 (dk_at dksX0_takesIn_0 1 rfl rfl)
theorem dX0_takesIn_2 : decode cX0_takesIn 2 = .ok (.putfield 319, 3) := dk_181 1 63 (dk_at dksX0_takesIn_0 2 rfl rfl)
theorem dX0_takesIn_5 : decode cX0_takesIn 5 = .ok (.aload_n 0, 1) := dk_42 (dk_at dksX0_takesIn_0 5 rfl rfl)
theorem dX0_takesIn_6 : decode cX0_takesIn 6 = .ok (.iconst 0, 1) := dk_3 (dk_at dksX0_takesIn_0 6 rfl rfl)
theorem dX0_takesIn_7 : decode cX0_takesIn 7 = .ok (.putfield 322, 3) := dk_181 1 66 (dk_at dksX0_takesIn_0 7 rfl rfl)
theorem dX0_takesIn_10 : decode cX0_takesIn 10 = .ok (.aload_n 0, 1) := dk_42 (dk_at dksX0_takesIn_0 10 rfl rfl)
theorem dX0_takesIn_11 : decode cX0_takesIn 11 = .ok (.getfield 319, 3) := dk_180 1 63 (dk_at dksX0_takesIn_0 11 rfl rfl)
theorem dX0_takesIn_14 : decode cX0_takesIn 14 = .ok (.iload 4, 2) := dk_21 4 (dk_at dksX0_takesIn_0 14 rfl rfl)
theorem dX0_takesIn_16 : decode cX0_takesIn 16 = .ok (.if_icmp .ge 91, 3) := dk_162 0 91 (dk_at dksX0_takesIn_0 16 rfl rfl)
theorem dX0_takesIn_19 : decode cX0_takesIn 19 = .ok (.aload_n 0, 1) := dk_42 (dk_at dksX0_takesIn_0 19 rfl rfl)
theorem dX0_takesIn_20 : decode cX0_takesIn 20 = .ok (.getfield 322, 3) := dk_180 1 66 (dk_at dksX0_takesIn_0 20 rfl rfl)
theorem dX0_takesIn_23 : decode cX0_takesIn 23 = .ok (.ifCond .ne 84, 3) := dk_154 0 84 (dk_at dksX0_takesIn_1 0 rfl rfl)
theorem dX0_takesIn_26 : decode cX0_takesIn 26 = .ok (.iload_n 3, 1) := dk_29 (dk_at dksX0_takesIn_1 3 rfl rfl)
theorem dX0_takesIn_27 : decode cX0_takesIn 27 = .ok (.iconst 2, 1) := dk_5 (dk_at dksX0_takesIn_1 4 rfl rfl)
theorem dX0_takesIn_28 : decode cX0_takesIn 28 = .ok (.aload_n 0, 1) := dk_42 (dk_at dksX0_takesIn_1 5 rfl rfl)
theorem dX0_takesIn_29 : decode cX0_takesIn 29 = .ok (.getfield 319, 3) := dk_180 1 63 (dk_at dksX0_takesIn_1 6 rfl rfl)
theorem dX0_takesIn_32 : decode cX0_takesIn 32 = .ok (.imul, 1) := dk_104 (dk_at dksX0_takesIn_1 9 rfl rfl)
theorem dX0_takesIn_33 : decode cX0_takesIn 33 = .ok (.iadd, 1) := dk_96 (dk_at dksX0_takesIn_1 10 rfl rfl)
theorem dX0_takesIn_34 : decode cX0_takesIn 34 = .ok (.istore 5, 2) := dk_54 5 (dk_at dksX0_takesIn_1 11 rfl rfl)
theorem dX0_takesIn_36 : decode cX0_takesIn 36 = .ok (.aload_n 1, 1) := dk_43 (dk_at dksX0_takesIn_1 13 rfl rfl)
theorem dX0_takesIn_37 : decode cX0_takesIn 37 = .ok (.iload_n 2, 1) := dk_28 (dk_at dksX0_takesIn_1 14 rfl rfl)
theorem dX0_takesIn_38 : decode cX0_takesIn 38 = .ok (.iload 5, 2) := dk_21 5 (dk_at dksX0_takesIn_1 15 rfl rfl)
theorem dX0_takesIn_40 : decode cX0_takesIn 40 = .ok (.invokestatic 325, 3) := dk_184 1 69 (dk_at dksX0_takesIn_1 17 rfl rfl)
theorem dX0_takesIn_43 : decode cX0_takesIn 43 = .ok (.istore 6, 2) := dk_54 6 (dk_at dksX0_takesIn_1 20 rfl rfl)
theorem dX0_takesIn_45 : decode cX0_takesIn 45 = .ok (.aload_n 1, 1) := dk_43 (dk_at dksX0_takesIn_1 22 rfl rfl)
theorem dX0_takesIn_46 : decode cX0_takesIn 46 = .ok (.iload_n 2, 1) := dk_28 (dk_at dksX0_takesIn_1 23 rfl rfl)
theorem dX0_takesIn_47 : decode cX0_takesIn 47 = .ok (.iload 5, 2) := dk_21 5 (dk_at dksX0_takesIn_2 0 rfl rfl)
theorem dX0_takesIn_49 : decode cX0_takesIn 49 = .ok (.iconst 1, 1) := dk_4 (dk_at dksX0_takesIn_2 2 rfl rfl)
theorem dX0_takesIn_50 : decode cX0_takesIn 50 = .ok (.iadd, 1) := dk_96 (dk_at dksX0_takesIn_2 3 rfl rfl)
theorem dX0_takesIn_51 : decode cX0_takesIn 51 = .ok (.invokestatic 325, 3) := dk_184 1 69 (dk_at dksX0_takesIn_2 4 rfl rfl)
theorem dX0_takesIn_54 : decode cX0_takesIn 54 = .ok (.istore 7, 2) := dk_54 7 (dk_at dksX0_takesIn_2 7 rfl rfl)
theorem dX0_takesIn_56 : decode cX0_takesIn 56 = .ok (.aload_n 0, 1) := dk_42 (dk_at dksX0_takesIn_2 9 rfl rfl)
theorem dX0_takesIn_57 : decode cX0_takesIn 57 = .ok (.aload_n 0, 1) := dk_42 (dk_at dksX0_takesIn_2 10 rfl rfl)
theorem dX0_takesIn_58 : decode cX0_takesIn 58 = .ok (.iload 6, 2) := dk_21 6 (dk_at dksX0_takesIn_2 11 rfl rfl)
theorem dX0_takesIn_60 : decode cX0_takesIn 60 = .ok (.iconst 2, 1) := dk_5 (dk_at dksX0_takesIn_2 13 rfl rfl)
theorem dX0_takesIn_61 : decode cX0_takesIn 61 = .ok (.iload 7, 2) := dk_21 7 (dk_at dksX0_takesIn_2 14 rfl rfl)
theorem dX0_takesIn_63 : decode cX0_takesIn 63 = .ok (.invokevirtual 115, 3) := dk_182 0 115 (dk_at dksX0_takesIn_2 16 rfl rfl)
theorem dX0_takesIn_66 : decode cX0_takesIn 66 = .ok (.ifCond .ge 13, 3) := dk_156 0 13 (dk_at dksX0_takesIn_2 19 rfl rfl)
theorem dX0_takesIn_69 : decode cX0_takesIn 69 = .ok (.bipush (-20), 2) := dk_16 236 (dk_at dksX0_takesIn_2 22 rfl rfl)
theorem dX0_takesIn_71 : decode cX0_takesIn 71 = .ok (.aload_n 0, 1) := dk_42 (dk_at dksX0_takesIn_3 0 rfl rfl)
theorem dX0_takesIn_72 : decode cX0_takesIn 72 = .ok (.getfield 319, 3) := dk_180 1 63 (dk_at dksX0_takesIn_3 1 rfl rfl)
theorem dX0_takesIn_75 : decode cX0_takesIn 75 = .ok (.isub, 1) := dk_100 (dk_at dksX0_takesIn_3 4 rfl rfl)
theorem dX0_takesIn_76 : decode cX0_takesIn 76 = .ok (.goto 4, 3) := dk_167 0 4 (dk_at dksX0_takesIn_3 5 rfl rfl)
theorem dX0_takesIn_79 : decode cX0_takesIn 79 = .ok (.iconst 0, 1) := dk_3 (dk_at dksX0_takesIn_3 8 rfl rfl)
theorem dX0_takesIn_80 : decode cX0_takesIn 80 = .ok (.putfield 322, 3) := dk_181 1 66 (dk_at dksX0_takesIn_3 9 rfl rfl)
theorem dX0_takesIn_83 : decode cX0_takesIn 83 = .ok (.aload_n 0, 1) := dk_42 (dk_at dksX0_takesIn_3 12 rfl rfl)
theorem dX0_takesIn_84 : decode cX0_takesIn 84 = .ok (.dup, 1) := dk_89 (dk_at dksX0_takesIn_3 13 rfl rfl)
theorem dX0_takesIn_85 : decode cX0_takesIn 85 = .ok (.getfield 319, 3) := dk_180 1 63 (dk_at dksX0_takesIn_3 14 rfl rfl)
theorem dX0_takesIn_88 : decode cX0_takesIn 88 = .ok (.aload_n 0, 1) := dk_42 (dk_at dksX0_takesIn_3 17 rfl rfl)
theorem dX0_takesIn_89 : decode cX0_takesIn 89 = .ok (.getfield 322, 3) := dk_180 1 66 (dk_at dksX0_takesIn_3 18 rfl rfl)
theorem dX0_takesIn_92 : decode cX0_takesIn 92 = .ok (.ifCond .ne 7, 3) := dk_154 0 7 (dk_at dksX0_takesIn_3 21 rfl rfl)
theorem dX0_takesIn_95 : decode cX0_takesIn 95 = .ok (.iconst 1, 1) := dk_4 (dk_at dksX0_takesIn_4 0 rfl rfl)
theorem dX0_takesIn_96 : decode cX0_takesIn 96 = .ok (.goto 4, 3) := dk_167 0 4 (dk_at dksX0_takesIn_4 1 rfl rfl)
theorem dX0_takesIn_99 : decode cX0_takesIn 99 = .ok (.iconst 0, 1) := dk_3 (dk_at dksX0_takesIn_4 4 rfl rfl)
theorem dX0_takesIn_100 : decode cX0_takesIn 100 = .ok (.iadd, 1) := dk_96 (dk_at dksX0_takesIn_4 5 rfl rfl)
theorem dX0_takesIn_101 : decode cX0_takesIn 101 = .ok (.putfield 319, 3) := dk_181 1 63 (dk_at dksX0_takesIn_4 6 rfl rfl)
theorem dX0_takesIn_104 : decode cX0_takesIn 104 = .ok (.goto (-94), 3) := dk_167 255 162 (dk_at dksX0_takesIn_4 9 rfl rfl)
theorem dX0_takesIn_107 : decode cX0_takesIn 107 = .ok (.iconst 0, 1) := dk_3 (dk_at dksX0_takesIn_4 12 rfl rfl)
theorem dX0_takesIn_108 : decode cX0_takesIn 108 = .ok (.ireturn, 1) := dk_172 (dk_at dksX0_takesIn_4 13 rfl rfl)
theorem dX0_takesIn_109 : decode cX0_takesIn 109 = .ok (.astore 5, 2) := dk_58 5 (dk_at dksX0_takesIn_4 14 rfl rfl)
theorem dX0_takesIn_111 : decode cX0_takesIn 111 = .ok (.iconst 1, 1) := dk_4 (dk_at dksX0_takesIn_4 16 rfl rfl)
theorem dX0_takesIn_112 : decode cX0_takesIn 112 = .ok (.ireturn, 1) := dk_172 (dk_at dksX0_takesIn_4 17 rfl rfl)
theorem dX0_takesIn_113 : decode cX0_takesIn 113 = .ok (.astore 5, 2) := dk_58 5 (dk_at dksX0_takesIn_4 18 rfl rfl)
theorem dX0_takesIn_115 : decode cX0_takesIn 115 = .ok (.iconst 3, 1) := dk_6 (dk_at dksX0_takesIn_4 20 rfl rfl)
theorem dX0_takesIn_116 : decode cX0_takesIn 116 = .ok (.ireturn, 1) := dk_172 (dk_at dksX0_takesIn_4 21 rfl rfl)
theorem dX0_takesIn_117 : decode cX0_takesIn 117 = .ok (.astore 5, 2) := dk_58 5 (dk_at dksX0_takesIn_4 22 rfl rfl)
theorem dX0_takesIn_119 : decode cX0_takesIn 119 = .ok (.iconst 2, 1) := dk_5 (dk_at dksX0_takesIn_5 0 rfl rfl)
theorem dX0_takesIn_120 : decode cX0_takesIn 120 = .ok (.ireturn, 1) := dk_172 (dk_at dksX0_takesIn_5 1 rfl rfl)
abbrev cX0_cell : ByteArray := prog_1_method_61_code
def yX0_cell : MethodName := ⟨RX0, "cell", "(Ljava/lang/Object;II)I"⟩
def dkwX0_cell_1 : List UInt8 := [167, 0, 9, 42, 192, 1, 58, 28, 46, 172]
abbrev dktX0_cell_1 : List UInt8 := dkwX0_cell_1 ++ []
def dkwX0_cell_0 : List UInt8 := [27, 154, 0, 12, 42, 192, 1, 55, 28, 51, 167, 0, 23, 27, 4, 160, 0, 12, 42, 192, 1, 56, 28, 53]
abbrev dktX0_cell_0 : List UInt8 := dkwX0_cell_0 ++ dktX0_cell_1
theorem dksX0_cell_0 : cX0_cell.data.toList.drop 0 = dktX0_cell_0 := by decide +kernel
theorem dksX0_cell_1 : cX0_cell.data.toList.drop 24 = dktX0_cell_1 := dk_seg dksX0_cell_0 24 rfl rfl
theorem dX0_cell_0 : decode cX0_cell 0 = .ok (.iload_n 1, 1) := dk_27 (dk_at dksX0_cell_0 0 rfl rfl)
theorem dX0_cell_1 : decode cX0_cell 1 = .ok (.ifCond .ne 12, 3) := dk_154 0 12 (dk_at dksX0_cell_0 1 rfl rfl)
theorem dX0_cell_4 : decode cX0_cell 4 = .ok (.aload_n 0, 1) := dk_42 (dk_at dksX0_cell_0 4 rfl rfl)
theorem dX0_cell_5 : decode cX0_cell 5 = .ok (.checkcast 311, 3) := dk_192 1 55 (dk_at dksX0_cell_0 5 rfl rfl)
theorem dX0_cell_8 : decode cX0_cell 8 = .ok (.iload_n 2, 1) := dk_28 (dk_at dksX0_cell_0 8 rfl rfl)
theorem dX0_cell_9 : decode cX0_cell 9 = .ok (.baload, 1) := dk_51 (dk_at dksX0_cell_0 9 rfl rfl)
theorem dX0_cell_10 : decode cX0_cell 10 = .ok (.goto 23, 3) := dk_167 0 23 (dk_at dksX0_cell_0 10 rfl rfl)
theorem dX0_cell_13 : decode cX0_cell 13 = .ok (.iload_n 1, 1) := dk_27 (dk_at dksX0_cell_0 13 rfl rfl)
theorem dX0_cell_14 : decode cX0_cell 14 = .ok (.iconst 1, 1) := dk_4 (dk_at dksX0_cell_0 14 rfl rfl)
theorem dX0_cell_15 : decode cX0_cell 15 = .ok (.if_icmp .ne 12, 3) := dk_160 0 12 (dk_at dksX0_cell_0 15 rfl rfl)
theorem dX0_cell_18 : decode cX0_cell 18 = .ok (.aload_n 0, 1) := dk_42 (dk_at dksX0_cell_0 18 rfl rfl)
theorem dX0_cell_19 : decode cX0_cell 19 = .ok (.checkcast 312, 3) := dk_192 1 56 (dk_at dksX0_cell_0 19 rfl rfl)
theorem dX0_cell_22 : decode cX0_cell 22 = .ok (.iload_n 2, 1) := dk_28 (dk_at dksX0_cell_0 22 rfl rfl)
theorem dX0_cell_23 : decode cX0_cell 23 = .ok (.saload, 1) := dk_53 (dk_at dksX0_cell_0 23 rfl rfl)
theorem dX0_cell_24 : decode cX0_cell 24 = .ok (.goto 9, 3) := dk_167 0 9 (dk_at dksX0_cell_1 0 rfl rfl)
theorem dX0_cell_27 : decode cX0_cell 27 = .ok (.aload_n 0, 1) := dk_42 (dk_at dksX0_cell_1 3 rfl rfl)
theorem dX0_cell_28 : decode cX0_cell 28 = .ok (.checkcast 314, 3) := dk_192 1 58 (dk_at dksX0_cell_1 4 rfl rfl)
theorem dX0_cell_31 : decode cX0_cell 31 = .ok (.iload_n 2, 1) := dk_28 (dk_at dksX0_cell_1 7 rfl rfl)
theorem dX0_cell_32 : decode cX0_cell 32 = .ok (.iaload, 1) := dk_46 (dk_at dksX0_cell_1 8 rfl rfl)
theorem dX0_cell_33 : decode cX0_cell 33 = .ok (.ireturn, 1) := dk_172 (dk_at dksX0_cell_1 9 rfl rfl)
abbrev cX0_torn : ByteArray := prog_1_method_64_code
def yX0_torn : MethodName := ⟨RX0, "torn", "()I"⟩
theorem dX0_torn_0 : decode cX0_torn 0 = .ok (.aload_n 0, 1) := by decide +kernel
theorem dX0_torn_1 : decode cX0_torn 1 = .ok (.getfield 335, 3) := by decide +kernel
theorem dX0_torn_4 : decode cX0_torn 4 = .ok (.ireturn, 1) := by decide +kernel
abbrev cX0_count : ByteArray := prog_1_method_65_code
def yX0_count : MethodName := ⟨RX0, "count", "(I)I"⟩
def dkwX0_count_6 : List UInt8 := [180, 1, 50, 172, 42, 180, 0, 33, 180, 0, 83, 184, 0, 243, 172, 2, 172]
abbrev dktX0_count_6 : List UInt8 := dkwX0_count_6 ++ []
def dkwX0_count_5 : List UInt8 := [42, 180, 1, 39, 3, 50, 180, 1, 47, 199, 0, 8, 16, 252, 167, 0, 12, 42, 180, 1, 39, 3, 50]
abbrev dktX0_count_5 : List UInt8 := dkwX0_count_5 ++ dktX0_count_6
def dkwX0_count_4 : List UInt8 := [42, 180, 0, 53, 4, 50, 180, 0, 57, 153, 0, 7, 4, 167, 0, 4, 3, 96, 172, 42, 180, 0, 9, 172]
abbrev dktX0_count_4 : List UInt8 := dkwX0_count_4 ++ dktX0_count_5
def dkwX0_count_3 : List UInt8 := [28, 172, 42, 180, 0, 50, 172, 42, 180, 0, 53, 3, 50, 180, 0, 57, 153, 0, 7, 4, 167, 0, 4, 3]
abbrev dktX0_count_3 : List UInt8 := dkwX0_count_3 ++ dktX0_count_4
def dkwX0_count_2 : List UInt8 := [170, 0, 0, 0, 0, 0, 125, 0, 0, 0, 0, 0, 0, 0, 5, 0, 0, 0, 39, 0, 0, 0, 41, 0, 0, 0, 46, 0, 0, 0, 82, 0, 0, 0, 87, 0, 0, 0, 114]
abbrev dktX0_count_2 : List UInt8 := dkwX0_count_2 ++ dktX0_count_3
def dkwX0_count_1 : List UInt8 := [96, 61, 132, 3, 1, 167, 255, 231, 27]
abbrev dktX0_count_1 : List UInt8 := dkwX0_count_1 ++ dktX0_count_2
def dkwX0_count_0 : List UInt8 := [3, 61, 3, 62, 29, 42, 180, 0, 49, 162, 0, 23, 28, 4, 42, 180, 0, 33, 180, 0, 90, 29, 46, 100]
abbrev dktX0_count_0 : List UInt8 := dkwX0_count_0 ++ dktX0_count_1
theorem dksX0_count_0 : cX0_count.data.toList.drop 0 = dktX0_count_0 := by decide +kernel
theorem dksX0_count_1 : cX0_count.data.toList.drop 24 = dktX0_count_1 := dk_seg dksX0_count_0 24 rfl rfl
theorem dksX0_count_2 : cX0_count.data.toList.drop 33 = dktX0_count_2 := dk_seg dksX0_count_1 9 rfl rfl
theorem dksX0_count_3 : cX0_count.data.toList.drop 72 = dktX0_count_3 := dk_seg dksX0_count_2 39 rfl rfl
theorem dksX0_count_4 : cX0_count.data.toList.drop 96 = dktX0_count_4 := dk_seg dksX0_count_3 24 rfl rfl
theorem dksX0_count_5 : cX0_count.data.toList.drop 120 = dktX0_count_5 := dk_seg dksX0_count_4 24 rfl rfl
theorem dksX0_count_6 : cX0_count.data.toList.drop 143 = dktX0_count_6 := dk_seg dksX0_count_5 23 rfl rfl
theorem dX0_count_0 : decode cX0_count 0 = .ok (.iconst 0, 1) := dk_3 (dk_at dksX0_count_0 0 rfl rfl)
theorem dX0_count_1 : decode cX0_count 1 = .ok (.istore_n 2, 1) := dk_61 (dk_at dksX0_count_0 1 rfl rfl)
theorem dX0_count_2 : decode cX0_count 2 = .ok (.iconst 0, 1) := dk_3 (dk_at dksX0_count_0 2 rfl rfl)
theorem dX0_count_3 : decode cX0_count 3 = .ok (.istore_n 3, 1) := dk_62 (dk_at dksX0_count_0 3 rfl rfl)
theorem dX0_count_4 : decode cX0_count 4 = .ok (.iload_n 3, 1) := dk_29 (dk_at dksX0_count_0 4 rfl rfl)
theorem dX0_count_5 : decode cX0_count 5 = .ok (.aload_n 0, 1) := dk_42 (dk_at dksX0_count_0 5 rfl rfl)
theorem dX0_count_6 : decode cX0_count 6 = .ok (.getfield 49, 3) := dk_180 0 49 (dk_at dksX0_count_0 6 rfl rfl)
theorem dX0_count_9 : decode cX0_count 9 = .ok (.if_icmp .ge 23, 3) := dk_162 0 23 (dk_at dksX0_count_0 9 rfl rfl)
theorem dX0_count_12 : decode cX0_count 12 = .ok (.iload_n 2, 1) := dk_28 (dk_at dksX0_count_0 12 rfl rfl)
theorem dX0_count_13 : decode cX0_count 13 = .ok (.iconst 1, 1) := dk_4 (dk_at dksX0_count_0 13 rfl rfl)
theorem dX0_count_14 : decode cX0_count 14 = .ok (.aload_n 0, 1) := dk_42 (dk_at dksX0_count_0 14 rfl rfl)
theorem dX0_count_15 : decode cX0_count 15 = .ok (.getfield 33, 3) := dk_180 0 33 (dk_at dksX0_count_0 15 rfl rfl)
theorem dX0_count_18 : decode cX0_count 18 = .ok (.getfield 90, 3) := dk_180 0 90 (dk_at dksX0_count_0 18 rfl rfl)
theorem dX0_count_21 : decode cX0_count 21 = .ok (.iload_n 3, 1) := dk_29 (dk_at dksX0_count_0 21 rfl rfl)
theorem dX0_count_22 : decode cX0_count 22 = .ok (.iaload, 1) := dk_46 (dk_at dksX0_count_0 22 rfl rfl)
theorem dX0_count_23 : decode cX0_count 23 = .ok (.isub, 1) := dk_100 (dk_at dksX0_count_0 23 rfl rfl)
theorem dX0_count_24 : decode cX0_count 24 = .ok (.iadd, 1) := dk_96 (dk_at dksX0_count_1 0 rfl rfl)
theorem dX0_count_25 : decode cX0_count 25 = .ok (.istore_n 2, 1) := dk_61 (dk_at dksX0_count_1 1 rfl rfl)
theorem dX0_count_26 : decode cX0_count 26 = .ok (.iinc 3 1, 3) := dk_132 3 1 (dk_at dksX0_count_1 2 rfl rfl)
theorem dX0_count_29 : decode cX0_count 29 = .ok (.goto (-25), 3) := dk_167 255 231 (dk_at dksX0_count_1 5 rfl rfl)
theorem dX0_count_32 : decode cX0_count 32 = .ok (.iload_n 1, 1) := dk_27 (dk_at dksX0_count_1 8 rfl rfl)
theorem dX0_count_33 : decode cX0_count 33 = .ok (.tableswitch 125 0 5 #[39, 41, 46, 82, 87, 114], 39) := by decide +kernel
theorem dX0_count_72 : decode cX0_count 72 = .ok (.iload_n 2, 1) := dk_28 (dk_at dksX0_count_3 0 rfl rfl)
theorem dX0_count_73 : decode cX0_count 73 = .ok (.ireturn, 1) := dk_172 (dk_at dksX0_count_3 1 rfl rfl)
theorem dX0_count_74 : decode cX0_count 74 = .ok (.aload_n 0, 1) := dk_42 (dk_at dksX0_count_3 2 rfl rfl)
theorem dX0_count_75 : decode cX0_count 75 = .ok (.getfield 50, 3) := dk_180 0 50 (dk_at dksX0_count_3 3 rfl rfl)
theorem dX0_count_78 : decode cX0_count 78 = .ok (.ireturn, 1) := dk_172 (dk_at dksX0_count_3 6 rfl rfl)
theorem dX0_count_79 : decode cX0_count 79 = .ok (.aload_n 0, 1) := dk_42 (dk_at dksX0_count_3 7 rfl rfl)
theorem dX0_count_80 : decode cX0_count 80 = .ok (.getfield 53, 3) := dk_180 0 53 (dk_at dksX0_count_3 8 rfl rfl)
theorem dX0_count_83 : decode cX0_count 83 = .ok (.iconst 0, 1) := dk_3 (dk_at dksX0_count_3 11 rfl rfl)
theorem dX0_count_84 : decode cX0_count 84 = .ok (.aaload, 1) := dk_50 (dk_at dksX0_count_3 12 rfl rfl)
theorem dX0_count_85 : decode cX0_count 85 = .ok (.getfield 57, 3) := dk_180 0 57 (dk_at dksX0_count_3 13 rfl rfl)
theorem dX0_count_88 : decode cX0_count 88 = .ok (.ifCond .eq 7, 3) := dk_153 0 7 (dk_at dksX0_count_3 16 rfl rfl)
theorem dX0_count_91 : decode cX0_count 91 = .ok (.iconst 1, 1) := dk_4 (dk_at dksX0_count_3 19 rfl rfl)
theorem dX0_count_92 : decode cX0_count 92 = .ok (.goto 4, 3) := dk_167 0 4 (dk_at dksX0_count_3 20 rfl rfl)
theorem dX0_count_95 : decode cX0_count 95 = .ok (.iconst 0, 1) := dk_3 (dk_at dksX0_count_3 23 rfl rfl)
theorem dX0_count_96 : decode cX0_count 96 = .ok (.aload_n 0, 1) := dk_42 (dk_at dksX0_count_4 0 rfl rfl)
theorem dX0_count_97 : decode cX0_count 97 = .ok (.getfield 53, 3) := dk_180 0 53 (dk_at dksX0_count_4 1 rfl rfl)
theorem dX0_count_100 : decode cX0_count 100 = .ok (.iconst 1, 1) := dk_4 (dk_at dksX0_count_4 4 rfl rfl)
theorem dX0_count_101 : decode cX0_count 101 = .ok (.aaload, 1) := dk_50 (dk_at dksX0_count_4 5 rfl rfl)
theorem dX0_count_102 : decode cX0_count 102 = .ok (.getfield 57, 3) := dk_180 0 57 (dk_at dksX0_count_4 6 rfl rfl)
theorem dX0_count_105 : decode cX0_count 105 = .ok (.ifCond .eq 7, 3) := dk_153 0 7 (dk_at dksX0_count_4 9 rfl rfl)
theorem dX0_count_108 : decode cX0_count 108 = .ok (.iconst 1, 1) := dk_4 (dk_at dksX0_count_4 12 rfl rfl)
theorem dX0_count_109 : decode cX0_count 109 = .ok (.goto 4, 3) := dk_167 0 4 (dk_at dksX0_count_4 13 rfl rfl)
theorem dX0_count_112 : decode cX0_count 112 = .ok (.iconst 0, 1) := dk_3 (dk_at dksX0_count_4 16 rfl rfl)
theorem dX0_count_113 : decode cX0_count 113 = .ok (.iadd, 1) := dk_96 (dk_at dksX0_count_4 17 rfl rfl)
theorem dX0_count_114 : decode cX0_count 114 = .ok (.ireturn, 1) := dk_172 (dk_at dksX0_count_4 18 rfl rfl)
theorem dX0_count_115 : decode cX0_count 115 = .ok (.aload_n 0, 1) := dk_42 (dk_at dksX0_count_4 19 rfl rfl)
theorem dX0_count_116 : decode cX0_count 116 = .ok (.getfield 9, 3) := dk_180 0 9 (dk_at dksX0_count_4 20 rfl rfl)
theorem dX0_count_119 : decode cX0_count 119 = .ok (.ireturn, 1) := dk_172 (dk_at dksX0_count_4 23 rfl rfl)
theorem dX0_count_120 : decode cX0_count 120 = .ok (.aload_n 0, 1) := dk_42 (dk_at dksX0_count_5 0 rfl rfl)
theorem dX0_count_121 : decode cX0_count 121 = .ok (.getfield 295, 3) := dk_180 1 39 (dk_at dksX0_count_5 1 rfl rfl)
theorem dX0_count_124 : decode cX0_count 124 = .ok (.iconst 0, 1) := dk_3 (dk_at dksX0_count_5 4 rfl rfl)
theorem dX0_count_125 : decode cX0_count 125 = .ok (.aaload, 1) := dk_50 (dk_at dksX0_count_5 5 rfl rfl)
theorem dX0_count_126 : decode cX0_count 126 = .ok (.getfield 303, 3) := dk_180 1 47 (dk_at dksX0_count_5 6 rfl rfl)
theorem dX0_count_129 : decode cX0_count 129 = .ok (.ifnonnull 8, 3) := dk_199 0 8 (dk_at dksX0_count_5 9 rfl rfl)
theorem dX0_count_132 : decode cX0_count 132 = .ok (.bipush (-4), 2) := dk_16 252 (dk_at dksX0_count_5 12 rfl rfl)
theorem dX0_count_134 : decode cX0_count 134 = .ok (.goto 12, 3) := dk_167 0 12 (dk_at dksX0_count_5 14 rfl rfl)
theorem dX0_count_137 : decode cX0_count 137 = .ok (.aload_n 0, 1) := dk_42 (dk_at dksX0_count_5 17 rfl rfl)
theorem dX0_count_138 : decode cX0_count 138 = .ok (.getfield 295, 3) := dk_180 1 39 (dk_at dksX0_count_5 18 rfl rfl)
theorem dX0_count_141 : decode cX0_count 141 = .ok (.iconst 0, 1) := dk_3 (dk_at dksX0_count_5 21 rfl rfl)
theorem dX0_count_142 : decode cX0_count 142 = .ok (.aaload, 1) := dk_50 (dk_at dksX0_count_5 22 rfl rfl)
theorem dX0_count_143 : decode cX0_count 143 = .ok (.getfield 306, 3) := dk_180 1 50 (dk_at dksX0_count_6 0 rfl rfl)
theorem dX0_count_146 : decode cX0_count 146 = .ok (.ireturn, 1) := dk_172 (dk_at dksX0_count_6 3 rfl rfl)
theorem dX0_count_147 : decode cX0_count 147 = .ok (.aload_n 0, 1) := dk_42 (dk_at dksX0_count_6 4 rfl rfl)
theorem dX0_count_148 : decode cX0_count 148 = .ok (.getfield 33, 3) := dk_180 0 33 (dk_at dksX0_count_6 5 rfl rfl)
theorem dX0_count_151 : decode cX0_count 151 = .ok (.getfield 83, 3) := dk_180 0 83 (dk_at dksX0_count_6 8 rfl rfl)
theorem dX0_count_154 : decode cX0_count 154 = .ok (.invokestatic 243, 3) := dk_184 0 243 (dk_at dksX0_count_6 11 rfl rfl)
theorem dX0_count_157 : decode cX0_count 157 = .ok (.ireturn, 1) := dk_172 (dk_at dksX0_count_6 14 rfl rfl)
theorem dX0_count_158 : decode cX0_count 158 = .ok (.iconst (-1), 1) := dk_2 (dk_at dksX0_count_6 15 rfl rfl)
theorem dX0_count_159 : decode cX0_count 159 = .ok (.ireturn, 1) := dk_172 (dk_at dksX0_count_6 16 rfl rfl)
theorem q83 : (Jvm.Cond.initialized "LockTurns") ∈ lw_all := lw_g (lw_at lw_m1 1 rfl) rfl
theorem q107 : (Jvm.Cond.instanceMethod ({ cls := "LockTurns", name := "feed", desc := "(I)I" } : Jvm.MethodName)) ∈ lw_all := lw_g (lw_at lw_m1 25 rfl) rfl
theorem q108 : (Jvm.Cond.selects "LockTurns" ({ cls := "LockTurns", name := "feed", desc := "(I)I" } : Jvm.MethodName) ({ cls := "LockTurns", name := "feed", desc := "(I)I" } : Jvm.MethodName)) ∈ lw_all := lw_g (lw_at lw_m1 26 rfl) rfl
theorem q109 : (Jvm.Cond.code ({ cls := "LockTurns", name := "feed", desc := "(I)I" } : Jvm.MethodName) prog_1_method_3_code (2 : Nat) (Option.some Jvm.ClassFile.FieldType.int)) ∈ lw_all := lw_g (lw_at lw_m1 27 rfl) rfl
theorem q110 : (Jvm.Cond.constantLong "LockTurns" (1 : Nat) (127 : Int64)) ∈ lw_all := lw_g (lw_at lw_m1 28 rfl) rfl
theorem q111 : (Jvm.Cond.methodLink "LockTurns" (3 : Nat) ({ cls := "LockTurns", name := "isIn", desc := "(JJJ)Z" } : Jvm.MethodName)) ∈ lw_all := lw_g (lw_at lw_m1 29 rfl) rfl
theorem q112 : (Jvm.Cond.static ({ cls := "LockTurns", name := "isIn", desc := "(JJJ)Z" } : Jvm.MethodName)) ∈ lw_all := lw_g (lw_at lw_m1 30 rfl) rfl
theorem q113 : (Jvm.Cond.code ({ cls := "LockTurns", name := "isIn", desc := "(JJJ)Z" } : Jvm.MethodName) prog_1_method_1_code (6 : Nat) (Option.some Jvm.ClassFile.FieldType.boolean)) ∈ lw_all := lw_g (lw_at lw_m1 31 rfl) rfl
theorem q115 : (Jvm.Cond.instanceMethod ({ cls := "LockTurns", name := "end", desc := "(I)I" } : Jvm.MethodName)) ∈ lw_all := lw_g (lw_at lw_m1 33 rfl) rfl
theorem q116 : (Jvm.Cond.selects "LockTurns" ({ cls := "LockTurns", name := "end", desc := "(I)I" } : Jvm.MethodName) ({ cls := "LockTurns", name := "end", desc := "(I)I" } : Jvm.MethodName)) ∈ lw_all := lw_g (lw_at lw_m1 34 rfl) rfl
theorem q117 : (Jvm.Cond.code ({ cls := "LockTurns", name := "end", desc := "(I)I" } : Jvm.MethodName) prog_1_method_4_code (3 : Nat) (Option.some Jvm.ClassFile.FieldType.int)) ∈ lw_all := lw_g (lw_at lw_m1 35 rfl) rfl
theorem q119 : (Jvm.Cond.instanceMethod ({ cls := "LockTurns", name := "text", desc := "()I" } : Jvm.MethodName)) ∈ lw_all := lw_g (lw_at lw_m1 37 rfl) rfl
theorem q120 : (Jvm.Cond.selects "LockTurns" ({ cls := "LockTurns", name := "text", desc := "()I" } : Jvm.MethodName) ({ cls := "LockTurns", name := "text", desc := "()I" } : Jvm.MethodName)) ∈ lw_all := lw_g (lw_at lw_m1 38 rfl) rfl
theorem q121 : (Jvm.Cond.codeWith ({ cls := "LockTurns", name := "text", desc := "()I" } : Jvm.MethodName) prog_1_method_5_code (3 : Nat) (Option.some Jvm.ClassFile.FieldType.int) [((26 : Nat), (92 : Nat), (93 : Nat), (69 : Nat))]) ∈ lw_all := lw_g (lw_at lw_m1 39 rfl) rfl
theorem q122 : (Jvm.Cond.classLink "LockTurns" (69 : Nat) "LockTurns$Fault") ∈ lw_all := lw_g (lw_at lw_m1 40 rfl) rfl
theorem q123 : (Jvm.Cond.methodLink "LockTurns" (17 : Nat) ({ cls := "java/lang/System", name := "arraycopy", desc := "(Ljava/lang/Object;ILjava/lang/Object;II)V" } : Jvm.MethodName)) ∈ lw_all := lw_g (lw_at lw_m1 41 rfl) rfl
theorem q126 : (Jvm.Cond.classLink "LockTurns" (23 : Nat) "LockTurns$Reader") ∈ lw_all := lw_g (lw_at lw_m1 44 rfl) rfl
theorem q128 : (Jvm.Cond.methodLink "LockTurns" (25 : Nat) ({ cls := "LockTurns$Reader", name := "<init>", desc := "([B)V" } : Jvm.MethodName)) ∈ lw_all := lw_g (lw_at lw_m1 46 rfl) rfl
theorem q143 : (Jvm.Cond.fieldLinkNest "LockTurns" (79 : Nat) "LockTurns$Told" "sets" "[I" "LockTurns") ∈ lw_tbl := lw_at lw_m1 61 rfl
theorem q148 : (Jvm.Cond.fieldLinkNest "LockTurns" (90 : Nat) "LockTurns$Told" "sides" "[I" "LockTurns") ∈ lw_tbl := lw_at lw_m1 66 rfl
theorem q152 : (Jvm.Cond.fieldLinkNest "LockTurns" (93 : Nat) "LockTurns$Told" "boats" "[[I" "LockTurns") ∈ lw_tbl := lw_at lw_m1 70 rfl
theorem q155 : (Jvm.Cond.fieldLinkNest "LockTurns" (83 : Nat) "LockTurns$Told" "liars" "I" "LockTurns") ∈ lw_tbl := lw_at lw_m1 73 rfl
theorem q254 : (Jvm.Cond.fieldLinkNest "LockTurns" (71 : Nat) "LockTurns$Fault" "code" "I" "LockTurns") ∈ lw_tbl := lw_at lw_m1 172 rfl
theorem q256 : (Jvm.Cond.fieldLinkNest "LockTurns" (74 : Nat) "LockTurns$Fault" "place" "I" "LockTurns") ∈ lw_tbl := lw_at lw_m1 174 rfl
theorem q276 : (Jvm.Cond.fieldLinkNest "LockTurns" (37 : Nat) "LockTurns$Reader" "told" "LLockTurns$Told;" "LockTurns") ∈ lw_tbl := lw_at lw_m1 194 rfl
theorem q277 : (Jvm.Cond.fieldLinkNest "LockTurns" (46 : Nat) "LockTurns$Reader" "boatMany" "I" "LockTurns") ∈ lw_tbl := lw_at lw_m1 195 rfl
theorem q281 : (Jvm.Cond.fieldLinkNest "LockTurns" (66 : Nat) "LockTurns$Reader" "lines" "I" "LockTurns") ∈ lw_tbl := lw_at lw_m1 199 rfl
theorem q308 : (Jvm.Cond.methodLink "LockTurns" (29 : Nat) ({ cls := "LockTurns$Reader", name := "all", desc := "()V" } : Jvm.MethodName)) ∈ lw_all := lw_g (lw_at lw_m1 226 rfl) rfl
theorem q317 : (Jvm.Cond.laysStatic "LockTurns" "NAMES" "[Ljava/lang/String;") ∈ lw_tbl := lw_at lw_m1 235 rfl
theorem q375 : (Jvm.Cond.laysStatic "LockTurns" "CARGOES" "[Ljava/lang/String;") ∈ lw_tbl := lw_at lw_m2 53 rfl
theorem q389 : (Jvm.Cond.static ({ cls := "LockTurns", name := "has", desc := "(II)Z" } : Jvm.MethodName)) ∈ lw_all := lw_g (lw_at lw_m2 67 rfl) rfl
theorem q390 : (Jvm.Cond.code ({ cls := "LockTurns", name := "has", desc := "(II)Z" } : Jvm.MethodName) prog_1_method_2_code (2 : Nat) (Option.some Jvm.ClassFile.FieldType.boolean)) ∈ lw_all := lw_g (lw_at lw_m2 68 rfl) rfl
theorem q396 : (Jvm.Cond.laysStatic "LockTurns" "LAW_NAMES" "[Ljava/lang/String;") ∈ lw_tbl := lw_at lw_m2 74 rfl
theorem q400 : (Jvm.Cond.methodLink "LockTurns" (40 : Nat) ({ cls := "LockTurns$Told", name := "takes", desc := "(LLockTurns$Told;)V" } : Jvm.MethodName)) ∈ lw_all := lw_g (lw_at lw_m2 78 rfl) rfl
theorem q406 : (Jvm.Cond.instanceMethod ({ cls := "LockTurns", name := "fault", desc := "()I" } : Jvm.MethodName)) ∈ lw_all := lw_g (lw_at lw_m2 84 rfl) rfl
theorem q407 : (Jvm.Cond.selects "LockTurns" ({ cls := "LockTurns", name := "fault", desc := "()I" } : Jvm.MethodName) ({ cls := "LockTurns", name := "fault", desc := "()I" } : Jvm.MethodName)) ∈ lw_all := lw_g (lw_at lw_m2 85 rfl) rfl
theorem q408 : (Jvm.Cond.code ({ cls := "LockTurns", name := "fault", desc := "()I" } : Jvm.MethodName) prog_1_method_6_code (1 : Nat) (Option.some Jvm.ClassFile.FieldType.int)) ∈ lw_all := lw_g (lw_at lw_m2 86 rfl) rfl
theorem q410 : (Jvm.Cond.instanceMethod ({ cls := "LockTurns", name := "rule", desc := "(I)I" } : Jvm.MethodName)) ∈ lw_all := lw_g (lw_at lw_m2 88 rfl) rfl
theorem q411 : (Jvm.Cond.selects "LockTurns" ({ cls := "LockTurns", name := "rule", desc := "(I)I" } : Jvm.MethodName) ({ cls := "LockTurns", name := "rule", desc := "(I)I" } : Jvm.MethodName)) ∈ lw_all := lw_g (lw_at lw_m2 89 rfl) rfl
theorem q412 : (Jvm.Cond.code ({ cls := "LockTurns", name := "rule", desc := "(I)I" } : Jvm.MethodName) prog_1_method_8_code (2 : Nat) (Option.some Jvm.ClassFile.FieldType.int)) ∈ lw_all := lw_g (lw_at lw_m2 90 rfl) rfl
theorem q413 : (Jvm.Cond.constantLong "LockTurns" (77 : Nat) (5 : Int64)) ∈ lw_all := lw_g (lw_at lw_m2 91 rfl) rfl
theorem q415 : (Jvm.Cond.instanceMethod ({ cls := "LockTurns", name := "boat", desc := "(II)I" } : Jvm.MethodName)) ∈ lw_all := lw_g (lw_at lw_m2 93 rfl) rfl
theorem q416 : (Jvm.Cond.selects "LockTurns" ({ cls := "LockTurns", name := "boat", desc := "(II)I" } : Jvm.MethodName) ({ cls := "LockTurns", name := "boat", desc := "(II)I" } : Jvm.MethodName)) ∈ lw_all := lw_g (lw_at lw_m2 94 rfl) rfl
theorem q417 : (Jvm.Cond.code ({ cls := "LockTurns", name := "boat", desc := "(II)I" } : Jvm.MethodName) prog_1_method_9_code (3 : Nat) (Option.some Jvm.ClassFile.FieldType.int)) ∈ lw_all := lw_g (lw_at lw_m2 95 rfl) rfl
theorem q418 : (Jvm.Cond.methodLink "LockTurns" (86 : Nat) ({ cls := "LockTurns", name := "isBoat", desc := "(I)Z" } : Jvm.MethodName)) ∈ lw_all := lw_g (lw_at lw_m2 96 rfl) rfl
theorem q419 : (Jvm.Cond.privateMethod ({ cls := "LockTurns", name := "isBoat", desc := "(I)Z" } : Jvm.MethodName)) ∈ lw_tbl := lw_at lw_m2 97 rfl
theorem q420 : (Jvm.Cond.instanceMethod ({ cls := "LockTurns", name := "isBoat", desc := "(I)Z" } : Jvm.MethodName)) ∈ lw_all := lw_g (lw_at lw_m2 98 rfl) rfl
theorem q421 : (Jvm.Cond.instantiable "LockTurns" (24 : Nat)) ∈ lw_all := lw_g (lw_at lw_m2 99 rfl) rfl
theorem q422 : (Jvm.Cond.code ({ cls := "LockTurns", name := "isBoat", desc := "(I)Z" } : Jvm.MethodName) prog_1_method_7_code (2 : Nat) (Option.some Jvm.ClassFile.FieldType.boolean)) ∈ lw_all := lw_g (lw_at lw_m2 100 rfl) rfl
theorem q423 : (Jvm.Cond.methodLink "LockTurns" (97 : Nat) ({ cls := "LockTurns$Told", name := "counts", desc := "(I)I" } : Jvm.MethodName)) ∈ lw_all := lw_g (lw_at lw_m2 101 rfl) rfl
theorem q429 : (Jvm.Cond.instanceMethod ({ cls := "LockTurns", name := "set", desc := "(II)I" } : Jvm.MethodName)) ∈ lw_all := lw_g (lw_at lw_m2 107 rfl) rfl
theorem q430 : (Jvm.Cond.selects "LockTurns" ({ cls := "LockTurns", name := "set", desc := "(II)I" } : Jvm.MethodName) ({ cls := "LockTurns", name := "set", desc := "(II)I" } : Jvm.MethodName)) ∈ lw_all := lw_g (lw_at lw_m2 108 rfl) rfl
theorem q431 : (Jvm.Cond.code ({ cls := "LockTurns", name := "set", desc := "(II)I" } : Jvm.MethodName) prog_1_method_10_code (4 : Nat) (Option.some Jvm.ClassFile.FieldType.int)) ∈ lw_all := lw_g (lw_at lw_m2 109 rfl) rfl
theorem q432 : (Jvm.Cond.fieldLink "LockTurns" (101 : Nat) "LockTurns" "LEAST" "[I") ∈ lw_all := lw_g (lw_at lw_m2 110 rfl) rfl
theorem q433 : (Jvm.Cond.laysStatic "LockTurns" "LEAST" "[I") ∈ lw_tbl := lw_at lw_m2 111 rfl
theorem q434 : (Jvm.Cond.fieldLink "LockTurns" (104 : Nat) "LockTurns" "MOST" "[I") ∈ lw_all := lw_g (lw_at lw_m2 112 rfl) rfl
theorem q435 : (Jvm.Cond.laysStatic "LockTurns" "MOST" "[I") ∈ lw_tbl := lw_at lw_m2 113 rfl
theorem q437 : (Jvm.Cond.instanceMethod ({ cls := "LockTurns", name := "alter", desc := "(III)I" } : Jvm.MethodName)) ∈ lw_all := lw_g (lw_at lw_m2 115 rfl) rfl
theorem q438 : (Jvm.Cond.selects "LockTurns" ({ cls := "LockTurns", name := "alter", desc := "(III)I" } : Jvm.MethodName) ({ cls := "LockTurns", name := "alter", desc := "(III)I" } : Jvm.MethodName)) ∈ lw_all := lw_g (lw_at lw_m2 116 rfl) rfl
theorem q439 : (Jvm.Cond.code ({ cls := "LockTurns", name := "alter", desc := "(III)I" } : Jvm.MethodName) prog_1_method_12_code (4 : Nat) (Option.some Jvm.ClassFile.FieldType.int)) ∈ lw_all := lw_g (lw_at lw_m2 117 rfl) rfl
theorem q440 : (Jvm.Cond.methodLink "LockTurns" (115 : Nat) ({ cls := "LockTurns", name := "alters", desc := "(III)I" } : Jvm.MethodName)) ∈ lw_all := lw_g (lw_at lw_m2 118 rfl) rfl
theorem q441 : (Jvm.Cond.privateMethod ({ cls := "LockTurns", name := "alters", desc := "(III)I" } : Jvm.MethodName)) ∈ lw_tbl := lw_at lw_m2 119 rfl
theorem q442 : (Jvm.Cond.instanceMethod ({ cls := "LockTurns", name := "alters", desc := "(III)I" } : Jvm.MethodName)) ∈ lw_all := lw_g (lw_at lw_m2 120 rfl) rfl
theorem q443 : (Jvm.Cond.code ({ cls := "LockTurns", name := "alters", desc := "(III)I" } : Jvm.MethodName) prog_1_method_11_code (5 : Nat) (Option.some Jvm.ClassFile.FieldType.int)) ∈ lw_all := lw_g (lw_at lw_m2 121 rfl) rfl
theorem q444 : (Jvm.Cond.constantLong "LockTurns" (107 : Nat) (4 : Int64)) ∈ lw_all := lw_g (lw_at lw_m2 122 rfl) rfl
theorem q445 : (Jvm.Cond.constantLong "LockTurns" (109 : Nat) (3 : Int64)) ∈ lw_all := lw_g (lw_at lw_m2 123 rfl) rfl
theorem q446 : (Jvm.Cond.constantLong "LockTurns" (111 : Nat) (99 : Int64)) ∈ lw_all := lw_g (lw_at lw_m2 124 rfl) rfl
theorem q447 : (Jvm.Cond.constantLong "LockTurns" (113 : Nat) (9 : Int64)) ∈ lw_all := lw_g (lw_at lw_m2 125 rfl) rfl
theorem q449 : (Jvm.Cond.instanceMethod ({ cls := "LockTurns", name := "lie", desc := "(IZ)I" } : Jvm.MethodName)) ∈ lw_all := lw_g (lw_at lw_m2 127 rfl) rfl
theorem q450 : (Jvm.Cond.selects "LockTurns" ({ cls := "LockTurns", name := "lie", desc := "(IZ)I" } : Jvm.MethodName) ({ cls := "LockTurns", name := "lie", desc := "(IZ)I" } : Jvm.MethodName)) ∈ lw_all := lw_g (lw_at lw_m2 128 rfl) rfl
theorem q451 : (Jvm.Cond.code ({ cls := "LockTurns", name := "lie", desc := "(IZ)I" } : Jvm.MethodName) prog_1_method_13_code (4 : Nat) (Option.some Jvm.ClassFile.FieldType.int)) ∈ lw_all := lw_g (lw_at lw_m2 129 rfl) rfl
theorem q453 : (Jvm.Cond.instanceMethod ({ cls := "LockTurns", name := "cross", desc := "(I)I" } : Jvm.MethodName)) ∈ lw_all := lw_g (lw_at lw_m2 131 rfl) rfl
theorem q454 : (Jvm.Cond.selects "LockTurns" ({ cls := "LockTurns", name := "cross", desc := "(I)I" } : Jvm.MethodName) ({ cls := "LockTurns", name := "cross", desc := "(I)I" } : Jvm.MethodName)) ∈ lw_all := lw_g (lw_at lw_m2 132 rfl) rfl
theorem q455 : (Jvm.Cond.code ({ cls := "LockTurns", name := "cross", desc := "(I)I" } : Jvm.MethodName) prog_1_method_14_code (3 : Nat) (Option.some Jvm.ClassFile.FieldType.int)) ∈ lw_all := lw_g (lw_at lw_m2 133 rfl) rfl
theorem q457 : (Jvm.Cond.instanceMethod ({ cls := "LockTurns", name := "passes", desc := "(I)I" } : Jvm.MethodName)) ∈ lw_all := lw_g (lw_at lw_m2 135 rfl) rfl
theorem q458 : (Jvm.Cond.selects "LockTurns" ({ cls := "LockTurns", name := "passes", desc := "(I)I" } : Jvm.MethodName) ({ cls := "LockTurns", name := "passes", desc := "(I)I" } : Jvm.MethodName)) ∈ lw_all := lw_g (lw_at lw_m2 136 rfl) rfl
theorem q459 : (Jvm.Cond.code ({ cls := "LockTurns", name := "passes", desc := "(I)I" } : Jvm.MethodName) prog_1_method_23_code (2 : Nat) (Option.some Jvm.ClassFile.FieldType.int)) ∈ lw_all := lw_g (lw_at lw_m2 137 rfl) rfl
theorem q460 : (Jvm.Cond.methodLink "LockTurns" (205 : Nat) ({ cls := "LockTurns", name := "today", desc := "()V" } : Jvm.MethodName)) ∈ lw_all := lw_g (lw_at lw_m2 138 rfl) rfl
theorem q461 : (Jvm.Cond.privateMethod ({ cls := "LockTurns", name := "today", desc := "()V" } : Jvm.MethodName)) ∈ lw_tbl := lw_at lw_m2 139 rfl
theorem q462 : (Jvm.Cond.instanceMethod ({ cls := "LockTurns", name := "today", desc := "()V" } : Jvm.MethodName)) ∈ lw_all := lw_g (lw_at lw_m2 140 rfl) rfl
theorem q463 : (Jvm.Cond.code ({ cls := "LockTurns", name := "today", desc := "()V" } : Jvm.MethodName) prog_1_method_20_code (1 : Nat) (Option.none : Option Jvm.ClassFile.FieldType)) ∈ lw_all := lw_g (lw_at lw_m2 141 rfl) rfl
theorem q464 : (Jvm.Cond.methodLink "LockTurns" (197 : Nat) ({ cls := "LockTurns", name := "runs", desc := "(II)V" } : Jvm.MethodName)) ∈ lw_all := lw_g (lw_at lw_m2 142 rfl) rfl
theorem q465 : (Jvm.Cond.privateMethod ({ cls := "LockTurns", name := "runs", desc := "(II)V" } : Jvm.MethodName)) ∈ lw_tbl := lw_at lw_m2 143 rfl
theorem q466 : (Jvm.Cond.instanceMethod ({ cls := "LockTurns", name := "runs", desc := "(II)V" } : Jvm.MethodName)) ∈ lw_all := lw_g (lw_at lw_m2 144 rfl) rfl
theorem q467 : (Jvm.Cond.code ({ cls := "LockTurns", name := "runs", desc := "(II)V" } : Jvm.MethodName) prog_1_method_19_code (5 : Nat) (Option.none : Option Jvm.ClassFile.FieldType)) ∈ lw_all := lw_g (lw_at lw_m2 145 rfl) rfl
theorem q468 : (Jvm.Cond.methodLink "LockTurns" (173 : Nat) ({ cls := "LockTurns", name := "opens", desc := "()V" } : Jvm.MethodName)) ∈ lw_all := lw_g (lw_at lw_m2 146 rfl) rfl
theorem q469 : (Jvm.Cond.privateMethod ({ cls := "LockTurns", name := "opens", desc := "()V" } : Jvm.MethodName)) ∈ lw_tbl := lw_at lw_m2 147 rfl
theorem q470 : (Jvm.Cond.instanceMethod ({ cls := "LockTurns", name := "opens", desc := "()V" } : Jvm.MethodName)) ∈ lw_all := lw_g (lw_at lw_m2 148 rfl) rfl
theorem q471 : (Jvm.Cond.code ({ cls := "LockTurns", name := "opens", desc := "()V" } : Jvm.MethodName) prog_1_method_15_code (1 : Nat) (Option.none : Option Jvm.ClassFile.FieldType)) ∈ lw_all := lw_g (lw_at lw_m2 149 rfl) rfl
theorem q472 : (Jvm.Cond.methodLink "LockTurns" (179 : Nat) ({ cls := "LockTurns", name := "nextFree", desc := "(I)I" } : Jvm.MethodName)) ∈ lw_all := lw_g (lw_at lw_m2 150 rfl) rfl
theorem q473 : (Jvm.Cond.privateMethod ({ cls := "LockTurns", name := "nextFree", desc := "(I)I" } : Jvm.MethodName)) ∈ lw_tbl := lw_at lw_m2 151 rfl
theorem q474 : (Jvm.Cond.instanceMethod ({ cls := "LockTurns", name := "nextFree", desc := "(I)I" } : Jvm.MethodName)) ∈ lw_all := lw_g (lw_at lw_m2 152 rfl) rfl
theorem q475 : (Jvm.Cond.code ({ cls := "LockTurns", name := "nextFree", desc := "(I)I" } : Jvm.MethodName) prog_1_method_17_code (4 : Nat) (Option.some Jvm.ClassFile.FieldType.int)) ∈ lw_all := lw_g (lw_at lw_m2 153 rfl) rfl
theorem q476 : (Jvm.Cond.constant "LockTurns" (156 : Nat) (1000000 : Int32)) ∈ lw_all := lw_g (lw_at lw_m2 154 rfl) rfl
theorem q477 : (Jvm.Cond.methodLink "LockTurns" (157 : Nat) ({ cls := "LockTurns", name := "has", desc := "(II)Z" } : Jvm.MethodName)) ∈ lw_all := lw_g (lw_at lw_m2 155 rfl) rfl
theorem q478 : (Jvm.Cond.methodLink "LockTurns" (161 : Nat) ({ cls := "java/lang/Math", name := "min", desc := "(II)I" } : Jvm.MethodName)) ∈ lw_all := lw_g (lw_at lw_m2 156 rfl) rfl
theorem q481 : (Jvm.Cond.methodLink "LockTurns" (144 : Nat) ({ cls := "java/lang/Math", name := "max", desc := "(II)I" } : Jvm.MethodName)) ∈ lw_all := lw_g (lw_at lw_m2 159 rfl) rfl
theorem q482 : (Jvm.Cond.fieldLink "LockTurns" (185 : Nat) "LockTurns" "LAW_KINDS" "[LLockTurns$AtGate;") ∈ lw_all := lw_g (lw_at lw_m2 160 rfl) rfl
theorem q483 : (Jvm.Cond.laysStatic "LockTurns" "LAW_KINDS" "[LLockTurns$AtGate;") ∈ lw_tbl := lw_at lw_m2 161 rfl
theorem q484 : (Jvm.Cond.methodLink "LockTurns" (189 : Nat) ({ cls := "LockTurns", name := "taken", desc := "(ILLockTurns$AtGate;)I" } : Jvm.MethodName)) ∈ lw_all := lw_g (lw_at lw_m2 162 rfl) rfl
theorem q485 : (Jvm.Cond.privateMethod ({ cls := "LockTurns", name := "taken", desc := "(ILLockTurns$AtGate;)I" } : Jvm.MethodName)) ∈ lw_tbl := lw_at lw_m2 163 rfl
theorem q486 : (Jvm.Cond.instanceMethod ({ cls := "LockTurns", name := "taken", desc := "(ILLockTurns$AtGate;)I" } : Jvm.MethodName)) ∈ lw_all := lw_g (lw_at lw_m2 164 rfl) rfl
theorem q487 : (Jvm.Cond.code ({ cls := "LockTurns", name := "taken", desc := "(ILLockTurns$AtGate;)I" } : Jvm.MethodName) prog_1_method_18_code (6 : Nat) (Option.some Jvm.ClassFile.FieldType.int)) ∈ lw_all := lw_g (lw_at lw_m2 165 rfl) rfl
theorem q488 : (Jvm.Cond.methodLink "LockTurns" (167 : Nat) ({ cls := "LockTurns$AtGate", name := "rank", desc := "(LLockTurns$Gate;I)I" } : Jvm.MethodName)) ∈ lw_all := lw_g (lw_at lw_m2 166 rfl) rfl
theorem q521 : (Jvm.Cond.methodLink "LockTurns" (193 : Nat) ({ cls := "LockTurns", name := "goesThrough", desc := "(I)V" } : Jvm.MethodName)) ∈ lw_all := lw_g (lw_at lw_m2 199 rfl) rfl
theorem q522 : (Jvm.Cond.privateMethod ({ cls := "LockTurns", name := "goesThrough", desc := "(I)V" } : Jvm.MethodName)) ∈ lw_tbl := lw_at lw_m2 200 rfl
theorem q523 : (Jvm.Cond.instanceMethod ({ cls := "LockTurns", name := "goesThrough", desc := "(I)V" } : Jvm.MethodName)) ∈ lw_all := lw_g (lw_at lw_m2 201 rfl) rfl
theorem q524 : (Jvm.Cond.code ({ cls := "LockTurns", name := "goesThrough", desc := "(I)V" } : Jvm.MethodName) prog_1_method_16_code (5 : Nat) (Option.none : Option Jvm.ClassFile.FieldType)) ∈ lw_all := lw_g (lw_at lw_m2 202 rfl) rfl
theorem q526 : (Jvm.Cond.instanceMethod ({ cls := "LockTurns", name := "through", desc := "(I)I" } : Jvm.MethodName)) ∈ lw_all := lw_g (lw_at lw_m2 204 rfl) rfl
theorem q527 : (Jvm.Cond.selects "LockTurns" ({ cls := "LockTurns", name := "through", desc := "(I)I" } : Jvm.MethodName) ({ cls := "LockTurns", name := "through", desc := "(I)I" } : Jvm.MethodName)) ∈ lw_all := lw_g (lw_at lw_m2 205 rfl) rfl
theorem q528 : (Jvm.Cond.code ({ cls := "LockTurns", name := "through", desc := "(I)I" } : Jvm.MethodName) prog_1_method_24_code (2 : Nat) (Option.some Jvm.ClassFile.FieldType.int)) ∈ lw_all := lw_g (lw_at lw_m2 206 rfl) rfl
theorem q530 : (Jvm.Cond.instanceMethod ({ cls := "LockTurns", name := "stood", desc := "(I)I" } : Jvm.MethodName)) ∈ lw_all := lw_g (lw_at lw_m2 208 rfl) rfl
theorem q531 : (Jvm.Cond.selects "LockTurns" ({ cls := "LockTurns", name := "stood", desc := "(I)I" } : Jvm.MethodName) ({ cls := "LockTurns", name := "stood", desc := "(I)I" } : Jvm.MethodName)) ∈ lw_all := lw_g (lw_at lw_m2 209 rfl) rfl
theorem q532 : (Jvm.Cond.code ({ cls := "LockTurns", name := "stood", desc := "(I)I" } : Jvm.MethodName) prog_1_method_25_code (2 : Nat) (Option.some Jvm.ClassFile.FieldType.int)) ∈ lw_all := lw_g (lw_at lw_m2 210 rfl) rfl
theorem q534 : (Jvm.Cond.instanceMethod ({ cls := "LockTurns", name := "day", desc := "(I)I" } : Jvm.MethodName)) ∈ lw_all := lw_g (lw_at lw_m2 212 rfl) rfl
theorem q535 : (Jvm.Cond.selects "LockTurns" ({ cls := "LockTurns", name := "day", desc := "(I)I" } : Jvm.MethodName) ({ cls := "LockTurns", name := "day", desc := "(I)I" } : Jvm.MethodName)) ∈ lw_all := lw_g (lw_at lw_m2 213 rfl) rfl
theorem q536 : (Jvm.Cond.code ({ cls := "LockTurns", name := "day", desc := "(I)I" } : Jvm.MethodName) prog_1_method_26_code (2 : Nat) (Option.some Jvm.ClassFile.FieldType.int)) ∈ lw_all := lw_g (lw_at lw_m2 214 rfl) rfl
theorem q537 : (Jvm.Cond.methodLink "LockTurns" (208 : Nat) ({ cls := "LockTurns", name := "dayTold", desc := "(I)I" } : Jvm.MethodName)) ∈ lw_all := lw_g (lw_at lw_m2 215 rfl) rfl
theorem q538 : (Jvm.Cond.privateMethod ({ cls := "LockTurns", name := "dayTold", desc := "(I)I" } : Jvm.MethodName)) ∈ lw_tbl := lw_at lw_m2 216 rfl
theorem q539 : (Jvm.Cond.instanceMethod ({ cls := "LockTurns", name := "dayTold", desc := "(I)I" } : Jvm.MethodName)) ∈ lw_all := lw_g (lw_at lw_m2 217 rfl) rfl
theorem q540 : (Jvm.Cond.code ({ cls := "LockTurns", name := "dayTold", desc := "(I)I" } : Jvm.MethodName) prog_1_method_22_code (4 : Nat) (Option.some Jvm.ClassFile.FieldType.int)) ∈ lw_all := lw_g (lw_at lw_m2 218 rfl) rfl
theorem q541 : (Jvm.Cond.methodLink "LockTurns" (201 : Nat) ({ cls := "LockTurns", name := "cost", desc := "()I" } : Jvm.MethodName)) ∈ lw_all := lw_g (lw_at lw_m2 219 rfl) rfl
theorem q542 : (Jvm.Cond.privateMethod ({ cls := "LockTurns", name := "cost", desc := "()I" } : Jvm.MethodName)) ∈ lw_tbl := lw_at lw_m2 220 rfl
theorem q543 : (Jvm.Cond.instanceMethod ({ cls := "LockTurns", name := "cost", desc := "()I" } : Jvm.MethodName)) ∈ lw_all := lw_g (lw_at lw_m2 221 rfl) rfl
theorem q544 : (Jvm.Cond.code ({ cls := "LockTurns", name := "cost", desc := "()I" } : Jvm.MethodName) prog_1_method_21_code (3 : Nat) (Option.some Jvm.ClassFile.FieldType.int)) ∈ lw_all := lw_g (lw_at lw_m2 222 rfl) rfl
theorem q546 : (Jvm.Cond.instanceMethod ({ cls := "LockTurns", name := "table", desc := "(II)I" } : Jvm.MethodName)) ∈ lw_all := lw_g (lw_at lw_m2 224 rfl) rfl
theorem q547 : (Jvm.Cond.selects "LockTurns" ({ cls := "LockTurns", name := "table", desc := "(II)I" } : Jvm.MethodName) ({ cls := "LockTurns", name := "table", desc := "(II)I" } : Jvm.MethodName)) ∈ lw_all := lw_g (lw_at lw_m2 225 rfl) rfl
theorem q548 : (Jvm.Cond.code ({ cls := "LockTurns", name := "table", desc := "(II)I" } : Jvm.MethodName) prog_1_method_27_code (3 : Nat) (Option.some Jvm.ClassFile.FieldType.int)) ∈ lw_all := lw_g (lw_at lw_m2 226 rfl) rfl
theorem q550 : (Jvm.Cond.instanceMethod ({ cls := "LockTurns", name := "best", desc := "(I)I" } : Jvm.MethodName)) ∈ lw_all := lw_g (lw_at lw_m2 228 rfl) rfl
theorem q551 : (Jvm.Cond.selects "LockTurns" ({ cls := "LockTurns", name := "best", desc := "(I)I" } : Jvm.MethodName) ({ cls := "LockTurns", name := "best", desc := "(I)I" } : Jvm.MethodName)) ∈ lw_all := lw_g (lw_at lw_m2 229 rfl) rfl
theorem q552 : (Jvm.Cond.code ({ cls := "LockTurns", name := "best", desc := "(I)I" } : Jvm.MethodName) prog_1_method_28_code (5 : Nat) (Option.some Jvm.ClassFile.FieldType.int)) ∈ lw_all := lw_g (lw_at lw_m2 230 rfl) rfl
theorem q554 : (Jvm.Cond.instanceMethod ({ cls := "LockTurns", name := "order", desc := "(I)I" } : Jvm.MethodName)) ∈ lw_all := lw_g (lw_at lw_m2 232 rfl) rfl
theorem q555 : (Jvm.Cond.selects "LockTurns" ({ cls := "LockTurns", name := "order", desc := "(I)I" } : Jvm.MethodName) ({ cls := "LockTurns", name := "order", desc := "(I)I" } : Jvm.MethodName)) ∈ lw_all := lw_g (lw_at lw_m2 233 rfl) rfl
theorem q556 : (Jvm.Cond.code ({ cls := "LockTurns", name := "order", desc := "(I)I" } : Jvm.MethodName) prog_1_method_31_code (2 : Nat) (Option.some Jvm.ClassFile.FieldType.int)) ∈ lw_all := lw_g (lw_at lw_m2 234 rfl) rfl
theorem q557 : (Jvm.Cond.constantLong "LockTurns" (226 : Nat) (10 : Int64)) ∈ lw_all := lw_g (lw_at lw_m2 235 rfl) rfl
theorem q558 : (Jvm.Cond.methodLink "LockTurns" (223 : Nat) ({ cls := "LockTurns", name := "orders", desc := "(II)V" } : Jvm.MethodName)) ∈ lw_all := lw_g (lw_at lw_m2 236 rfl) rfl
theorem q559 : (Jvm.Cond.privateMethod ({ cls := "LockTurns", name := "orders", desc := "(II)V" } : Jvm.MethodName)) ∈ lw_tbl := lw_at lw_m2 237 rfl
theorem q560 : (Jvm.Cond.instanceMethod ({ cls := "LockTurns", name := "orders", desc := "(II)V" } : Jvm.MethodName)) ∈ lw_all := lw_g (lw_at lw_m2 238 rfl) rfl
theorem q561 : (Jvm.Cond.code ({ cls := "LockTurns", name := "orders", desc := "(II)V" } : Jvm.MethodName) prog_1_method_30_code (4 : Nat) (Option.none : Option Jvm.ClassFile.FieldType)) ∈ lw_all := lw_g (lw_at lw_m2 239 rfl) rfl
theorem q562 : (Jvm.Cond.methodLink "LockTurns" (214 : Nat) ({ cls := "LockTurns", name := "costOfRow", desc := "()I" } : Jvm.MethodName)) ∈ lw_all := lw_g (lw_at lw_m3 0 rfl) rfl
theorem q563 : (Jvm.Cond.privateMethod ({ cls := "LockTurns", name := "costOfRow", desc := "()I" } : Jvm.MethodName)) ∈ lw_tbl := lw_at lw_m3 1 rfl
theorem q564 : (Jvm.Cond.instanceMethod ({ cls := "LockTurns", name := "costOfRow", desc := "()I" } : Jvm.MethodName)) ∈ lw_all := lw_g (lw_at lw_m3 2 rfl) rfl
theorem q565 : (Jvm.Cond.code ({ cls := "LockTurns", name := "costOfRow", desc := "()I" } : Jvm.MethodName) prog_1_method_29_code (2 : Nat) (Option.some Jvm.ClassFile.FieldType.int)) ∈ lw_all := lw_g (lw_at lw_m3 3 rfl) rfl
theorem q567 : (Jvm.Cond.instanceMethod ({ cls := "LockTurns", name := "firsts", desc := "(I)I" } : Jvm.MethodName)) ∈ lw_all := lw_g (lw_at lw_m3 5 rfl) rfl
theorem q568 : (Jvm.Cond.selects "LockTurns" ({ cls := "LockTurns", name := "firsts", desc := "(I)I" } : Jvm.MethodName) ({ cls := "LockTurns", name := "firsts", desc := "(I)I" } : Jvm.MethodName)) ∈ lw_all := lw_g (lw_at lw_m3 6 rfl) rfl
theorem q569 : (Jvm.Cond.code ({ cls := "LockTurns", name := "firsts", desc := "(I)I" } : Jvm.MethodName) prog_1_method_32_code (4 : Nat) (Option.some Jvm.ClassFile.FieldType.int)) ∈ lw_all := lw_g (lw_at lw_m3 7 rfl) rfl
theorem q571 : (Jvm.Cond.instanceMethod ({ cls := "LockTurns", name := "gain", desc := "(I)I" } : Jvm.MethodName)) ∈ lw_all := lw_g (lw_at lw_m3 9 rfl) rfl
theorem q572 : (Jvm.Cond.selects "LockTurns" ({ cls := "LockTurns", name := "gain", desc := "(I)I" } : Jvm.MethodName) ({ cls := "LockTurns", name := "gain", desc := "(I)I" } : Jvm.MethodName)) ∈ lw_all := lw_g (lw_at lw_m3 10 rfl) rfl
theorem q573 : (Jvm.Cond.code ({ cls := "LockTurns", name := "gain", desc := "(I)I" } : Jvm.MethodName) prog_1_method_34_code (2 : Nat) (Option.some Jvm.ClassFile.FieldType.int)) ∈ lw_all := lw_g (lw_at lw_m3 11 rfl) rfl
theorem q574 : (Jvm.Cond.methodLink "LockTurns" (228 : Nat) ({ cls := "LockTurns", name := "gains", desc := "(II)I" } : Jvm.MethodName)) ∈ lw_all := lw_g (lw_at lw_m3 12 rfl) rfl
theorem q575 : (Jvm.Cond.privateMethod ({ cls := "LockTurns", name := "gains", desc := "(II)I" } : Jvm.MethodName)) ∈ lw_tbl := lw_at lw_m3 13 rfl
theorem q576 : (Jvm.Cond.instanceMethod ({ cls := "LockTurns", name := "gains", desc := "(II)I" } : Jvm.MethodName)) ∈ lw_all := lw_g (lw_at lw_m3 14 rfl) rfl
theorem q577 : (Jvm.Cond.code ({ cls := "LockTurns", name := "gains", desc := "(II)I" } : Jvm.MethodName) prog_1_method_33_code (4 : Nat) (Option.some Jvm.ClassFile.FieldType.int)) ∈ lw_all := lw_g (lw_at lw_m3 15 rfl) rfl
theorem q579 : (Jvm.Cond.instanceMethod ({ cls := "LockTurns", name := "calm", desc := "()I" } : Jvm.MethodName)) ∈ lw_all := lw_g (lw_at lw_m3 17 rfl) rfl
theorem q580 : (Jvm.Cond.selects "LockTurns" ({ cls := "LockTurns", name := "calm", desc := "()I" } : Jvm.MethodName) ({ cls := "LockTurns", name := "calm", desc := "()I" } : Jvm.MethodName)) ∈ lw_all := lw_g (lw_at lw_m3 18 rfl) rfl
theorem q581 : (Jvm.Cond.code ({ cls := "LockTurns", name := "calm", desc := "()I" } : Jvm.MethodName) prog_1_method_36_code (3 : Nat) (Option.some Jvm.ClassFile.FieldType.int)) ∈ lw_all := lw_g (lw_at lw_m3 19 rfl) rfl
theorem q582 : (Jvm.Cond.methodLink "LockTurns" (231 : Nat) ({ cls := "LockTurns", name := "isCalm", desc := "(I)Z" } : Jvm.MethodName)) ∈ lw_all := lw_g (lw_at lw_m3 20 rfl) rfl
theorem q583 : (Jvm.Cond.privateMethod ({ cls := "LockTurns", name := "isCalm", desc := "(I)Z" } : Jvm.MethodName)) ∈ lw_tbl := lw_at lw_m3 21 rfl
theorem q584 : (Jvm.Cond.instanceMethod ({ cls := "LockTurns", name := "isCalm", desc := "(I)Z" } : Jvm.MethodName)) ∈ lw_all := lw_g (lw_at lw_m3 22 rfl) rfl
theorem q585 : (Jvm.Cond.code ({ cls := "LockTurns", name := "isCalm", desc := "(I)Z" } : Jvm.MethodName) prog_1_method_35_code (4 : Nat) (Option.some Jvm.ClassFile.FieldType.boolean)) ∈ lw_all := lw_g (lw_at lw_m3 23 rfl) rfl
theorem q587 : (Jvm.Cond.instanceMethod ({ cls := "LockTurns", name := "rests", desc := "(I)I" } : Jvm.MethodName)) ∈ lw_all := lw_g (lw_at lw_m3 25 rfl) rfl
theorem q588 : (Jvm.Cond.selects "LockTurns" ({ cls := "LockTurns", name := "rests", desc := "(I)I" } : Jvm.MethodName) ({ cls := "LockTurns", name := "rests", desc := "(I)I" } : Jvm.MethodName)) ∈ lw_all := lw_g (lw_at lw_m3 26 rfl) rfl
theorem q589 : (Jvm.Cond.code ({ cls := "LockTurns", name := "rests", desc := "(I)I" } : Jvm.MethodName) prog_1_method_37_code (7 : Nat) (Option.some Jvm.ClassFile.FieldType.int)) ∈ lw_all := lw_g (lw_at lw_m3 27 rfl) rfl
theorem q591 : (Jvm.Cond.instanceMethod ({ cls := "LockTurns", name := "boy", desc := "(II)I" } : Jvm.MethodName)) ∈ lw_all := lw_g (lw_at lw_m3 29 rfl) rfl
theorem q592 : (Jvm.Cond.selects "LockTurns" ({ cls := "LockTurns", name := "boy", desc := "(II)I" } : Jvm.MethodName) ({ cls := "LockTurns", name := "boy", desc := "(II)I" } : Jvm.MethodName)) ∈ lw_all := lw_g (lw_at lw_m3 30 rfl) rfl
theorem q593 : (Jvm.Cond.code ({ cls := "LockTurns", name := "boy", desc := "(II)I" } : Jvm.MethodName) prog_1_method_39_code (6 : Nat) (Option.some Jvm.ClassFile.FieldType.int)) ∈ lw_all := lw_g (lw_at lw_m3 31 rfl) rfl
theorem q594 : (Jvm.Cond.methodLink "LockTurns" (234 : Nat) ({ cls := "LockTurns", name := "areTwo", desc := "(II)Z" } : Jvm.MethodName)) ∈ lw_all := lw_g (lw_at lw_m3 32 rfl) rfl
theorem q595 : (Jvm.Cond.privateMethod ({ cls := "LockTurns", name := "areTwo", desc := "(II)Z" } : Jvm.MethodName)) ∈ lw_tbl := lw_at lw_m3 33 rfl
theorem q596 : (Jvm.Cond.instanceMethod ({ cls := "LockTurns", name := "areTwo", desc := "(II)Z" } : Jvm.MethodName)) ∈ lw_all := lw_g (lw_at lw_m3 34 rfl) rfl
theorem q597 : (Jvm.Cond.code ({ cls := "LockTurns", name := "areTwo", desc := "(II)Z" } : Jvm.MethodName) prog_1_method_38_code (3 : Nat) (Option.some Jvm.ClassFile.FieldType.boolean)) ∈ lw_all := lw_g (lw_at lw_m3 35 rfl) rfl
theorem q599 : (Jvm.Cond.instanceMethod ({ cls := "LockTurns", name := "post", desc := "(I)I" } : Jvm.MethodName)) ∈ lw_all := lw_g (lw_at lw_m3 37 rfl) rfl
theorem q600 : (Jvm.Cond.selects "LockTurns" ({ cls := "LockTurns", name := "post", desc := "(I)I" } : Jvm.MethodName) ({ cls := "LockTurns", name := "post", desc := "(I)I" } : Jvm.MethodName)) ∈ lw_all := lw_g (lw_at lw_m3 38 rfl) rfl
theorem q601 : (Jvm.Cond.code ({ cls := "LockTurns", name := "post", desc := "(I)I" } : Jvm.MethodName) prog_1_method_40_code (6 : Nat) (Option.some Jvm.ClassFile.FieldType.int)) ∈ lw_all := lw_g (lw_at lw_m3 39 rfl) rfl
theorem q603 : (Jvm.Cond.instanceMethod ({ cls := "LockTurns", name := "late", desc := "(I)I" } : Jvm.MethodName)) ∈ lw_all := lw_g (lw_at lw_m3 41 rfl) rfl
theorem q604 : (Jvm.Cond.selects "LockTurns" ({ cls := "LockTurns", name := "late", desc := "(I)I" } : Jvm.MethodName) ({ cls := "LockTurns", name := "late", desc := "(I)I" } : Jvm.MethodName)) ∈ lw_all := lw_g (lw_at lw_m3 42 rfl) rfl
theorem q605 : (Jvm.Cond.code ({ cls := "LockTurns", name := "late", desc := "(I)I" } : Jvm.MethodName) prog_1_method_41_code (6 : Nat) (Option.some Jvm.ClassFile.FieldType.int)) ∈ lw_all := lw_g (lw_at lw_m3 43 rfl) rfl
theorem q607 : (Jvm.Cond.instanceMethod ({ cls := "LockTurns", name := "deal", desc := "(III)I" } : Jvm.MethodName)) ∈ lw_all := lw_g (lw_at lw_m3 45 rfl) rfl
theorem q608 : (Jvm.Cond.selects "LockTurns" ({ cls := "LockTurns", name := "deal", desc := "(III)I" } : Jvm.MethodName) ({ cls := "LockTurns", name := "deal", desc := "(III)I" } : Jvm.MethodName)) ∈ lw_all := lw_g (lw_at lw_m3 46 rfl) rfl
theorem q609 : (Jvm.Cond.code ({ cls := "LockTurns", name := "deal", desc := "(III)I" } : Jvm.MethodName) prog_1_method_42_code (10 : Nat) (Option.some Jvm.ClassFile.FieldType.int)) ∈ lw_all := lw_g (lw_at lw_m3 47 rfl) rfl
theorem q610 : (Jvm.Cond.constantLong "LockTurns" (237 : Nat) (2 : Int64)) ∈ lw_all := lw_g (lw_at lw_m3 48 rfl) rfl
theorem q612 : (Jvm.Cond.instanceMethod ({ cls := "LockTurns", name := "mean", desc := "(III)J" } : Jvm.MethodName)) ∈ lw_all := lw_g (lw_at lw_m3 50 rfl) rfl
theorem q613 : (Jvm.Cond.selects "LockTurns" ({ cls := "LockTurns", name := "mean", desc := "(III)J" } : Jvm.MethodName) ({ cls := "LockTurns", name := "mean", desc := "(III)J" } : Jvm.MethodName)) ∈ lw_all := lw_g (lw_at lw_m3 51 rfl) rfl
theorem q614 : (Jvm.Cond.code ({ cls := "LockTurns", name := "mean", desc := "(III)J" } : Jvm.MethodName) prog_1_method_47_code (4 : Nat) (Option.some Jvm.ClassFile.FieldType.long)) ∈ lw_all := lw_g (lw_at lw_m3 52 rfl) rfl
theorem q615 : (Jvm.Cond.constantLong "LockTurns" (248 : Nat) (-1 : Int64)) ∈ lw_all := lw_g (lw_at lw_m3 53 rfl) rfl
theorem q616 : (Jvm.Cond.methodLink "LockTurns" (250 : Nat) ({ cls := "LockTurns", name := "byOdds", desc := "(III)J" } : Jvm.MethodName)) ∈ lw_all := lw_g (lw_at lw_m3 54 rfl) rfl
theorem q617 : (Jvm.Cond.privateMethod ({ cls := "LockTurns", name := "byOdds", desc := "(III)J" } : Jvm.MethodName)) ∈ lw_tbl := lw_at lw_m3 55 rfl
theorem q618 : (Jvm.Cond.instanceMethod ({ cls := "LockTurns", name := "byOdds", desc := "(III)J" } : Jvm.MethodName)) ∈ lw_all := lw_g (lw_at lw_m3 56 rfl) rfl
theorem q619 : (Jvm.Cond.code ({ cls := "LockTurns", name := "byOdds", desc := "(III)J" } : Jvm.MethodName) prog_1_method_45_code (10 : Nat) (Option.some Jvm.ClassFile.FieldType.long)) ∈ lw_all := lw_g (lw_at lw_m3 57 rfl) rfl
theorem q620 : (Jvm.Cond.methodLink "LockTurns" (254 : Nat) ({ cls := "LockTurns", name := "allOdds", desc := "()J" } : Jvm.MethodName)) ∈ lw_all := lw_g (lw_at lw_m3 58 rfl) rfl
theorem q621 : (Jvm.Cond.privateMethod ({ cls := "LockTurns", name := "allOdds", desc := "()J" } : Jvm.MethodName)) ∈ lw_tbl := lw_at lw_m3 59 rfl
theorem q622 : (Jvm.Cond.instanceMethod ({ cls := "LockTurns", name := "allOdds", desc := "()J" } : Jvm.MethodName)) ∈ lw_all := lw_g (lw_at lw_m3 60 rfl) rfl
theorem q623 : (Jvm.Cond.code ({ cls := "LockTurns", name := "allOdds", desc := "()J" } : Jvm.MethodName) prog_1_method_46_code (4 : Nat) (Option.some Jvm.ClassFile.FieldType.long)) ∈ lw_all := lw_g (lw_at lw_m3 61 rfl) rfl
theorem q624 : (Jvm.Cond.methodLink "LockTurns" (243 : Nat) ({ cls := "java/lang/Integer", name := "bitCount", desc := "(I)I" } : Jvm.MethodName)) ∈ lw_all := lw_g (lw_at lw_m3 62 rfl) rfl
theorem q630 : (Jvm.Cond.methodLink "LockTurns" (258 : Nat) ({ cls := "LockTurns", name := "lowest", desc := "(JJI)J" } : Jvm.MethodName)) ∈ lw_all := lw_g (lw_at lw_m3 68 rfl) rfl
theorem q631 : (Jvm.Cond.static ({ cls := "LockTurns", name := "lowest", desc := "(JJI)J" } : Jvm.MethodName)) ∈ lw_all := lw_g (lw_at lw_m3 69 rfl) rfl
theorem q632 : (Jvm.Cond.code ({ cls := "LockTurns", name := "lowest", desc := "(JJI)J" } : Jvm.MethodName) prog_1_method_44_code (5 : Nat) (Option.some Jvm.ClassFile.FieldType.long)) ∈ lw_all := lw_g (lw_at lw_m3 70 rfl) rfl
theorem q633 : (Jvm.Cond.methodLink "LockTurns" (239 : Nat) ({ cls := "LockTurns", name := "divisor", desc := "(JJ)J" } : Jvm.MethodName)) ∈ lw_all := lw_g (lw_at lw_m3 71 rfl) rfl
theorem q634 : (Jvm.Cond.static ({ cls := "LockTurns", name := "divisor", desc := "(JJ)J" } : Jvm.MethodName)) ∈ lw_all := lw_g (lw_at lw_m3 72 rfl) rfl
theorem q635 : (Jvm.Cond.code ({ cls := "LockTurns", name := "divisor", desc := "(JJ)J" } : Jvm.MethodName) prog_1_method_43_code (4 : Nat) (Option.some Jvm.ClassFile.FieldType.long)) ∈ lw_all := lw_g (lw_at lw_m3 73 rfl) rfl
theorem q637 : (Jvm.Cond.instanceMethod ({ cls := "LockTurns", name := "luck", desc := "(IIII)J" } : Jvm.MethodName)) ∈ lw_all := lw_g (lw_at lw_m3 75 rfl) rfl
theorem q638 : (Jvm.Cond.selects "LockTurns" ({ cls := "LockTurns", name := "luck", desc := "(IIII)J" } : Jvm.MethodName) ({ cls := "LockTurns", name := "luck", desc := "(IIII)J" } : Jvm.MethodName)) ∈ lw_all := lw_g (lw_at lw_m3 76 rfl) rfl
theorem q639 : (Jvm.Cond.code ({ cls := "LockTurns", name := "luck", desc := "(IIII)J" } : Jvm.MethodName) prog_1_method_48_code (5 : Nat) (Option.some Jvm.ClassFile.FieldType.long)) ∈ lw_all := lw_g (lw_at lw_m3 77 rfl) rfl
theorem q641 : (Jvm.Cond.instanceMethod ({ cls := "LockTurns", name := "see", desc := "(II)I" } : Jvm.MethodName)) ∈ lw_all := lw_g (lw_at lw_m3 79 rfl) rfl
theorem q642 : (Jvm.Cond.selects "LockTurns" ({ cls := "LockTurns", name := "see", desc := "(II)I" } : Jvm.MethodName) ({ cls := "LockTurns", name := "see", desc := "(II)I" } : Jvm.MethodName)) ∈ lw_all := lw_g (lw_at lw_m3 80 rfl) rfl
theorem q643 : (Jvm.Cond.code ({ cls := "LockTurns", name := "see", desc := "(II)I" } : Jvm.MethodName) prog_1_method_49_code (3 : Nat) (Option.some Jvm.ClassFile.FieldType.int)) ∈ lw_all := lw_g (lw_at lw_m3 81 rfl) rfl
theorem q645 : (Jvm.Cond.instanceMethod ({ cls := "LockTurns", name := "forget", desc := "(I)I" } : Jvm.MethodName)) ∈ lw_all := lw_g (lw_at lw_m3 83 rfl) rfl
theorem q646 : (Jvm.Cond.selects "LockTurns" ({ cls := "LockTurns", name := "forget", desc := "(I)I" } : Jvm.MethodName) ({ cls := "LockTurns", name := "forget", desc := "(I)I" } : Jvm.MethodName)) ∈ lw_all := lw_g (lw_at lw_m3 84 rfl) rfl
theorem q647 : (Jvm.Cond.code ({ cls := "LockTurns", name := "forget", desc := "(I)I" } : Jvm.MethodName) prog_1_method_50_code (3 : Nat) (Option.some Jvm.ClassFile.FieldType.int)) ∈ lw_all := lw_g (lw_at lw_m3 85 rfl) rfl
theorem q649 : (Jvm.Cond.instanceMethod ({ cls := "LockTurns", name := "fits", desc := "(I)I" } : Jvm.MethodName)) ∈ lw_all := lw_g (lw_at lw_m3 87 rfl) rfl
theorem q650 : (Jvm.Cond.selects "LockTurns" ({ cls := "LockTurns", name := "fits", desc := "(I)I" } : Jvm.MethodName) ({ cls := "LockTurns", name := "fits", desc := "(I)I" } : Jvm.MethodName)) ∈ lw_all := lw_g (lw_at lw_m3 88 rfl) rfl
theorem q651 : (Jvm.Cond.code ({ cls := "LockTurns", name := "fits", desc := "(I)I" } : Jvm.MethodName) prog_1_method_52_code (10 : Nat) (Option.some Jvm.ClassFile.FieldType.int)) ∈ lw_all := lw_g (lw_at lw_m3 89 rfl) rfl
theorem q652 : (Jvm.Cond.methodLink "LockTurns" (265 : Nat) ({ cls := "LockTurns", name := "isAsSeen", desc := "(I)Z" } : Jvm.MethodName)) ∈ lw_all := lw_g (lw_at lw_m3 90 rfl) rfl
theorem q653 : (Jvm.Cond.privateMethod ({ cls := "LockTurns", name := "isAsSeen", desc := "(I)Z" } : Jvm.MethodName)) ∈ lw_tbl := lw_at lw_m3 91 rfl
theorem q654 : (Jvm.Cond.instanceMethod ({ cls := "LockTurns", name := "isAsSeen", desc := "(I)Z" } : Jvm.MethodName)) ∈ lw_all := lw_g (lw_at lw_m3 92 rfl) rfl
theorem q655 : (Jvm.Cond.code ({ cls := "LockTurns", name := "isAsSeen", desc := "(I)Z" } : Jvm.MethodName) prog_1_method_51_code (4 : Nat) (Option.some Jvm.ClassFile.FieldType.boolean)) ∈ lw_all := lw_g (lw_at lw_m3 93 rfl) rfl
theorem q657 : (Jvm.Cond.instanceMethod ({ cls := "LockTurns", name := "drift", desc := "(III)I" } : Jvm.MethodName)) ∈ lw_all := lw_g (lw_at lw_m3 95 rfl) rfl
theorem q658 : (Jvm.Cond.selects "LockTurns" ({ cls := "LockTurns", name := "drift", desc := "(III)I" } : Jvm.MethodName) ({ cls := "LockTurns", name := "drift", desc := "(III)I" } : Jvm.MethodName)) ∈ lw_all := lw_g (lw_at lw_m3 96 rfl) rfl
theorem q659 : (Jvm.Cond.code ({ cls := "LockTurns", name := "drift", desc := "(III)I" } : Jvm.MethodName) prog_1_method_53_code (9 : Nat) (Option.some Jvm.ClassFile.FieldType.int)) ∈ lw_all := lw_g (lw_at lw_m3 97 rfl) rfl
theorem q660 : (Jvm.Cond.constantLong "LockTurns" (268 : Nat) (20 : Int64)) ∈ lw_all := lw_g (lw_at lw_m3 98 rfl) rfl
theorem q661 : (Jvm.Cond.constant "LockTurns" (273 : Nat) (1103515245 : Int32)) ∈ lw_all := lw_g (lw_at lw_m3 99 rfl) rfl
theorem q663 : (Jvm.Cond.instanceMethod ({ cls := "LockTurns", name := "keep", desc := "(I)I" } : Jvm.MethodName)) ∈ lw_all := lw_g (lw_at lw_m3 101 rfl) rfl
theorem q664 : (Jvm.Cond.selects "LockTurns" ({ cls := "LockTurns", name := "keep", desc := "(I)I" } : Jvm.MethodName) ({ cls := "LockTurns", name := "keep", desc := "(I)I" } : Jvm.MethodName)) ∈ lw_all := lw_g (lw_at lw_m3 102 rfl) rfl
theorem q665 : (Jvm.Cond.code ({ cls := "LockTurns", name := "keep", desc := "(I)I" } : Jvm.MethodName) prog_1_method_55_code (3 : Nat) (Option.some Jvm.ClassFile.FieldType.int)) ∈ lw_all := lw_g (lw_at lw_m3 103 rfl) rfl
theorem q666 : (Jvm.Cond.methodLink "LockTurns" (274 : Nat) ({ cls := "LockTurns$Image", name := "takes", desc := "()V" } : Jvm.MethodName)) ∈ lw_all := lw_g (lw_at lw_m3 104 rfl) rfl
theorem q672 : (Jvm.Cond.static ({ cls := "LockTurns", name := "copies", desc := "([[I[[I)V" } : Jvm.MethodName)) ∈ lw_all := lw_g (lw_at lw_m3 110 rfl) rfl
theorem q673 : (Jvm.Cond.code ({ cls := "LockTurns", name := "copies", desc := "([[I[[I)V" } : Jvm.MethodName) prog_1_method_54_code (3 : Nat) (Option.none : Option Jvm.ClassFile.FieldType)) ∈ lw_all := lw_g (lw_at lw_m3 111 rfl) rfl
theorem q675 : (Jvm.Cond.instanceMethod ({ cls := "LockTurns", name := "back", desc := "(I)I" } : Jvm.MethodName)) ∈ lw_all := lw_g (lw_at lw_m3 113 rfl) rfl
theorem q676 : (Jvm.Cond.selects "LockTurns" ({ cls := "LockTurns", name := "back", desc := "(I)I" } : Jvm.MethodName) ({ cls := "LockTurns", name := "back", desc := "(I)I" } : Jvm.MethodName)) ∈ lw_all := lw_g (lw_at lw_m3 114 rfl) rfl
theorem q677 : (Jvm.Cond.code ({ cls := "LockTurns", name := "back", desc := "(I)I" } : Jvm.MethodName) prog_1_method_56_code (2 : Nat) (Option.some Jvm.ClassFile.FieldType.int)) ∈ lw_all := lw_g (lw_at lw_m3 115 rfl) rfl
theorem q678 : (Jvm.Cond.methodLink "LockTurns" (276 : Nat) ({ cls := "LockTurns$Image", name := "gives", desc := "()V" } : Jvm.MethodName)) ∈ lw_all := lw_g (lw_at lw_m3 116 rfl) rfl
theorem q684 : (Jvm.Cond.instanceMethod ({ cls := "LockTurns", name := "<init>", desc := "()V" } : Jvm.MethodName)) ∈ lw_all := lw_g (lw_at lw_m3 122 rfl) rfl
theorem q685 : (Jvm.Cond.code ({ cls := "LockTurns", name := "<init>", desc := "()V" } : Jvm.MethodName) prog_1_method_57_code (1 : Nat) (Option.none : Option Jvm.ClassFile.FieldType)) ∈ lw_all := lw_g (lw_at lw_m3 123 rfl) rfl
theorem q686 : (Jvm.Cond.methodLink "LockTurns" (279 : Nat) ({ cls := "java/lang/Object", name := "<init>", desc := "()V" } : Jvm.MethodName)) ∈ lw_all := lw_g (lw_at lw_m3 124 rfl) rfl
theorem q687 : (Jvm.Cond.classLink "LockTurns" (41 : Nat) "LockTurns$Told") ∈ lw_all := lw_g (lw_at lw_m3 125 rfl) rfl
theorem q688 : (Jvm.Cond.methodLinkNest "LockTurns" (283 : Nat) ({ cls := "LockTurns$Told", name := "<init>", desc := "()V" } : Jvm.MethodName) "LockTurns") ∈ lw_tbl := lw_at lw_m3 126 rfl
theorem q689 : (Jvm.Cond.classLink "LockTurns" (124 : Nat) "LockTurns$Gate") ∈ lw_all := lw_g (lw_at lw_m3 127 rfl) rfl
theorem q691 : (Jvm.Cond.methodLinkNest "LockTurns" (284 : Nat) ({ cls := "LockTurns$Gate", name := "<init>", desc := "()V" } : Jvm.MethodName) "LockTurns") ∈ lw_tbl := lw_at lw_m3 129 rfl
theorem q697 : (Jvm.Cond.fieldLinkNest "LockTurns" (123 : Nat) "LockTurns$Gate" "told" "LLockTurns$Told;" "LockTurns") ∈ lw_tbl := lw_at lw_m3 135 rfl
theorem q699 : (Jvm.Cond.fieldLinkNest "LockTurns" (126 : Nat) "LockTurns$Gate" "ready" "I" "LockTurns") ∈ lw_tbl := lw_at lw_m3 137 rfl
theorem q701 : (Jvm.Cond.fieldLinkNest "LockTurns" (129 : Nat) "LockTurns$Gate" "last" "I" "LockTurns") ∈ lw_tbl := lw_at lw_m3 139 rfl
theorem q703 : (Jvm.Cond.fieldLinkNest "LockTurns" (132 : Nat) "LockTurns$Gate" "inRow" "I" "LockTurns") ∈ lw_tbl := lw_at lw_m3 141 rfl
theorem q705 : (Jvm.Cond.fieldLinkNest "LockTurns" (176 : Nat) "LockTurns$Gate" "seenThrough" "I" "LockTurns") ∈ lw_tbl := lw_at lw_m3 143 rfl
theorem q708 : (Jvm.Cond.fieldLinkNest "LockTurns" (164 : Nat) "LockTurns$Gate" "many" "[I" "LockTurns") ∈ lw_tbl := lw_at lw_m3 146 rfl
theorem q722 : (Jvm.Cond.classLink "LockTurns" (285 : Nat) "[[I") ∈ lw_all := lw_g (lw_at lw_m3 160 rfl) rfl
theorem q723 : (Jvm.Cond.classLink "LockTurns" (58 : Nat) "LockTurns$Image") ∈ lw_all := lw_g (lw_at lw_m3 161 rfl) rfl
theorem q726 : (Jvm.Cond.methodLinkNest "LockTurns" (286 : Nat) ({ cls := "LockTurns$Image", name := "<init>", desc := "(LLockTurns;)V" } : Jvm.MethodName) "LockTurns") ∈ lw_tbl := lw_at lw_m3 164 rfl
theorem q736 : (Jvm.Cond.fieldLinkNest "LockTurns" (57 : Nat) "LockTurns$Image" "isKept" "Z" "LockTurns") ∈ lw_tbl := lw_at lw_m3 174 rfl
theorem q749 : (Jvm.Cond.classLink "LockTurns" (292 : Nat) "LockTurns$Sheet") ∈ lw_all := lw_g (lw_at lw_m3 187 rfl) rfl
theorem q752 : (Jvm.Cond.methodLinkNest "LockTurns" (294 : Nat) ({ cls := "LockTurns$Sheet", name := "<init>", desc := "()V" } : Jvm.MethodName) "LockTurns") ∈ lw_tbl := lw_at lw_m3 190 rfl
theorem q756 : (Jvm.Cond.fieldLinkNest "LockTurns" (303 : Nat) "LockTurns$Sheet" "row" "Ljava/lang/Object;" "LockTurns") ∈ lw_tbl := lw_at lw_m3 194 rfl
theorem q757 : (Jvm.Cond.fieldLinkNest "LockTurns" (306 : Nat) "LockTurns$Sheet" "size" "I" "LockTurns") ∈ lw_tbl := lw_at lw_m3 195 rfl
theorem q763 : (Jvm.Cond.fieldLink "LockTurns" (13 : Nat) "LockTurns" "tape" "[B") ∈ lw_all := lw_g (lw_at lw_m3 201 rfl) rfl
theorem q764 : (Jvm.Cond.fieldLink "LockTurns" (9 : Nat) "LockTurns" "taped" "I") ∈ lw_all := lw_g (lw_at lw_m3 202 rfl) rfl
theorem q765 : (Jvm.Cond.fieldLink "LockTurns" (63 : Nat) "LockTurns" "fault" "I") ∈ lw_all := lw_g (lw_at lw_m3 203 rfl) rfl
theorem q767 : (Jvm.Cond.fieldLink "LockTurns" (33 : Nat) "LockTurns" "now" "LLockTurns$Told;") ∈ lw_all := lw_g (lw_at lw_m3 205 rfl) rfl
theorem q768 : (Jvm.Cond.fieldLink "LockTurns" (49 : Nat) "LockTurns" "boatMany" "I") ∈ lw_all := lw_g (lw_at lw_m3 206 rfl) rfl
theorem q769 : (Jvm.Cond.fieldLink "LockTurns" (119 : Nat) "LockTurns" "gate" "LLockTurns$Gate;") ∈ lw_all := lw_g (lw_at lw_m3 207 rfl) rfl
theorem q770 : (Jvm.Cond.fieldLink "LockTurns" (182 : Nat) "LockTurns" "passed" "[I") ∈ lw_all := lw_g (lw_at lw_m3 208 rfl) rfl
theorem q771 : (Jvm.Cond.fieldLink "LockTurns" (153 : Nat) "LockTurns" "throughs" "[I") ∈ lw_all := lw_g (lw_at lw_m3 209 rfl) rfl
theorem q772 : (Jvm.Cond.fieldLink "LockTurns" (150 : Nat) "LockTurns" "stoods" "[I") ∈ lw_all := lw_g (lw_at lw_m3 210 rfl) rfl
theorem q773 : (Jvm.Cond.fieldLink "LockTurns" (135 : Nat) "LockTurns" "water" "I") ∈ lw_all := lw_g (lw_at lw_m3 211 rfl) rfl
theorem q774 : (Jvm.Cond.fieldLink "LockTurns" (138 : Nat) "LockTurns" "turned" "I") ∈ lw_all := lw_g (lw_at lw_m3 212 rfl) rfl
theorem q775 : (Jvm.Cond.fieldLink "LockTurns" (141 : Nat) "LockTurns" "free" "I") ∈ lw_all := lw_g (lw_at lw_m3 213 rfl) rfl
theorem q776 : (Jvm.Cond.fieldLink "LockTurns" (211 : Nat) "LockTurns" "row" "[I") ∈ lw_all := lw_g (lw_at lw_m3 214 rfl) rfl
theorem q777 : (Jvm.Cond.fieldLink "LockTurns" (220 : Nat) "LockTurns" "bestRow" "[I") ∈ lw_all := lw_g (lw_at lw_m3 215 rfl) rfl
theorem q778 : (Jvm.Cond.fieldLink "LockTurns" (217 : Nat) "LockTurns" "leastCost" "I") ∈ lw_all := lw_g (lw_at lw_m3 216 rfl) rfl
theorem q780 : (Jvm.Cond.fieldLink "LockTurns" (262 : Nat) "LockTurns" "seen" "[[I") ∈ lw_all := lw_g (lw_at lw_m3 218 rfl) rfl
theorem q782 : (Jvm.Cond.fieldLink "LockTurns" (50 : Nat) "LockTurns" "seenMany" "I") ∈ lw_all := lw_g (lw_at lw_m3 220 rfl) rfl
theorem q783 : (Jvm.Cond.fieldLink "LockTurns" (270 : Nat) "LockTurns" "home" "LLockTurns$Told;") ∈ lw_all := lw_g (lw_at lw_m3 221 rfl) rfl
theorem q784 : (Jvm.Cond.fieldLink "LockTurns" (53 : Nat) "LockTurns" "images" "[LLockTurns$Image;") ∈ lw_all := lw_g (lw_at lw_m3 222 rfl) rfl
theorem q785 : (Jvm.Cond.fieldLink "LockTurns" (289 : Nat) "LockTurns" "aside" "LLockTurns$Told;") ∈ lw_all := lw_g (lw_at lw_m3 223 rfl) rfl
theorem q786 : (Jvm.Cond.fieldLink "LockTurns" (295 : Nat) "LockTurns" "sheets" "[LLockTurns$Sheet;") ∈ lw_all := lw_g (lw_at lw_m3 224 rfl) rfl
theorem q787 : (Jvm.Cond.fieldLink "LockTurns" (335 : Nat) "LockTurns" "torn" "I") ∈ lw_all := lw_g (lw_at lw_m3 225 rfl) rfl
theorem q788 : (Jvm.Cond.fieldLink "LockTurns" (319 : Nat) "LockTurns" "cameMany" "I") ∈ lw_all := lw_g (lw_at lw_m3 226 rfl) rfl
theorem q789 : (Jvm.Cond.fieldLink "LockTurns" (322 : Nat) "LockTurns" "refused" "I") ∈ lw_all := lw_g (lw_at lw_m3 227 rfl) rfl
theorem q790 : (Jvm.Cond.laysFinal "LockTurns" "LockTurns" "tape" "[B") ∈ lw_all := lw_g (lw_at lw_m3 228 rfl) rfl
theorem q791 : (Jvm.Cond.soleField "LockTurns" "tape") ∈ lw_all := lw_g (lw_at lw_m3 229 rfl) rfl
theorem q792 : (Jvm.Cond.lays "LockTurns" "LockTurns" "taped" "I") ∈ lw_all := lw_g (lw_at lw_m3 230 rfl) rfl
theorem q793 : (Jvm.Cond.soleField "LockTurns" "taped") ∈ lw_all := lw_g (lw_at lw_m3 231 rfl) rfl
theorem q794 : (Jvm.Cond.lays "LockTurns" "LockTurns" "fault" "I") ∈ lw_all := lw_g (lw_at lw_m3 232 rfl) rfl
theorem q795 : (Jvm.Cond.soleField "LockTurns" "fault") ∈ lw_all := lw_g (lw_at lw_m3 233 rfl) rfl
theorem q796 : (Jvm.Cond.laysFinal "LockTurns" "LockTurns" "now" "LLockTurns$Told;") ∈ lw_all := lw_g (lw_at lw_m3 234 rfl) rfl
theorem q797 : (Jvm.Cond.soleField "LockTurns" "now") ∈ lw_all := lw_g (lw_at lw_m3 235 rfl) rfl
theorem q798 : (Jvm.Cond.lays "LockTurns" "LockTurns" "boatMany" "I") ∈ lw_all := lw_g (lw_at lw_m3 236 rfl) rfl
theorem q799 : (Jvm.Cond.soleField "LockTurns" "boatMany") ∈ lw_all := lw_g (lw_at lw_m3 237 rfl) rfl
theorem q800 : (Jvm.Cond.laysFinal "LockTurns" "LockTurns" "gate" "LLockTurns$Gate;") ∈ lw_all := lw_g (lw_at lw_m3 238 rfl) rfl
theorem q801 : (Jvm.Cond.soleField "LockTurns" "gate") ∈ lw_all := lw_g (lw_at lw_m3 239 rfl) rfl
theorem q802 : (Jvm.Cond.laysFinal "LockTurns" "LockTurns" "passed" "[I") ∈ lw_all := lw_g (lw_at lw_m4 0 rfl) rfl
theorem q803 : (Jvm.Cond.soleField "LockTurns" "passed") ∈ lw_all := lw_g (lw_at lw_m4 1 rfl) rfl
theorem q804 : (Jvm.Cond.laysFinal "LockTurns" "LockTurns" "throughs" "[I") ∈ lw_all := lw_g (lw_at lw_m4 2 rfl) rfl
theorem q805 : (Jvm.Cond.soleField "LockTurns" "throughs") ∈ lw_all := lw_g (lw_at lw_m4 3 rfl) rfl
theorem q806 : (Jvm.Cond.laysFinal "LockTurns" "LockTurns" "stoods" "[I") ∈ lw_all := lw_g (lw_at lw_m4 4 rfl) rfl
theorem q807 : (Jvm.Cond.soleField "LockTurns" "stoods") ∈ lw_all := lw_g (lw_at lw_m4 5 rfl) rfl
theorem q808 : (Jvm.Cond.lays "LockTurns" "LockTurns" "water" "I") ∈ lw_all := lw_g (lw_at lw_m4 6 rfl) rfl
theorem q809 : (Jvm.Cond.soleField "LockTurns" "water") ∈ lw_all := lw_g (lw_at lw_m4 7 rfl) rfl
theorem q810 : (Jvm.Cond.lays "LockTurns" "LockTurns" "turned" "I") ∈ lw_all := lw_g (lw_at lw_m4 8 rfl) rfl
theorem q811 : (Jvm.Cond.soleField "LockTurns" "turned") ∈ lw_all := lw_g (lw_at lw_m4 9 rfl) rfl
theorem q812 : (Jvm.Cond.lays "LockTurns" "LockTurns" "free" "I") ∈ lw_all := lw_g (lw_at lw_m4 10 rfl) rfl
theorem q813 : (Jvm.Cond.soleField "LockTurns" "free") ∈ lw_all := lw_g (lw_at lw_m4 11 rfl) rfl
theorem q814 : (Jvm.Cond.laysFinal "LockTurns" "LockTurns" "row" "[I") ∈ lw_all := lw_g (lw_at lw_m4 12 rfl) rfl
theorem q815 : (Jvm.Cond.soleField "LockTurns" "row") ∈ lw_all := lw_g (lw_at lw_m4 13 rfl) rfl
theorem q816 : (Jvm.Cond.laysFinal "LockTurns" "LockTurns" "bestRow" "[I") ∈ lw_all := lw_g (lw_at lw_m4 14 rfl) rfl
theorem q817 : (Jvm.Cond.soleField "LockTurns" "bestRow") ∈ lw_all := lw_g (lw_at lw_m4 15 rfl) rfl
theorem q818 : (Jvm.Cond.lays "LockTurns" "LockTurns" "leastCost" "I") ∈ lw_all := lw_g (lw_at lw_m4 16 rfl) rfl
theorem q819 : (Jvm.Cond.soleField "LockTurns" "leastCost") ∈ lw_all := lw_g (lw_at lw_m4 17 rfl) rfl
theorem q820 : (Jvm.Cond.laysFinal "LockTurns" "LockTurns" "seen" "[[I") ∈ lw_all := lw_g (lw_at lw_m4 18 rfl) rfl
theorem q821 : (Jvm.Cond.soleField "LockTurns" "seen") ∈ lw_all := lw_g (lw_at lw_m4 19 rfl) rfl
theorem q822 : (Jvm.Cond.lays "LockTurns" "LockTurns" "seenMany" "I") ∈ lw_all := lw_g (lw_at lw_m4 20 rfl) rfl
theorem q823 : (Jvm.Cond.soleField "LockTurns" "seenMany") ∈ lw_all := lw_g (lw_at lw_m4 21 rfl) rfl
theorem q824 : (Jvm.Cond.laysFinal "LockTurns" "LockTurns" "home" "LLockTurns$Told;") ∈ lw_all := lw_g (lw_at lw_m4 22 rfl) rfl
theorem q825 : (Jvm.Cond.soleField "LockTurns" "home") ∈ lw_all := lw_g (lw_at lw_m4 23 rfl) rfl
theorem q826 : (Jvm.Cond.laysFinal "LockTurns" "LockTurns" "images" "[LLockTurns$Image;") ∈ lw_all := lw_g (lw_at lw_m4 24 rfl) rfl
theorem q827 : (Jvm.Cond.soleField "LockTurns" "images") ∈ lw_all := lw_g (lw_at lw_m4 25 rfl) rfl
theorem q828 : (Jvm.Cond.laysFinal "LockTurns" "LockTurns" "aside" "LLockTurns$Told;") ∈ lw_all := lw_g (lw_at lw_m4 26 rfl) rfl
theorem q829 : (Jvm.Cond.soleField "LockTurns" "aside") ∈ lw_all := lw_g (lw_at lw_m4 27 rfl) rfl
theorem q830 : (Jvm.Cond.laysFinal "LockTurns" "LockTurns" "sheets" "[LLockTurns$Sheet;") ∈ lw_all := lw_g (lw_at lw_m4 28 rfl) rfl
theorem q831 : (Jvm.Cond.soleField "LockTurns" "sheets") ∈ lw_all := lw_g (lw_at lw_m4 29 rfl) rfl
theorem q832 : (Jvm.Cond.lays "LockTurns" "LockTurns" "torn" "I") ∈ lw_all := lw_g (lw_at lw_m4 30 rfl) rfl
theorem q833 : (Jvm.Cond.soleField "LockTurns" "torn") ∈ lw_all := lw_g (lw_at lw_m4 31 rfl) rfl
theorem q834 : (Jvm.Cond.lays "LockTurns" "LockTurns" "cameMany" "I") ∈ lw_all := lw_g (lw_at lw_m4 32 rfl) rfl
theorem q835 : (Jvm.Cond.soleField "LockTurns" "cameMany") ∈ lw_all := lw_g (lw_at lw_m4 33 rfl) rfl
theorem q836 : (Jvm.Cond.lays "LockTurns" "LockTurns" "refused" "I") ∈ lw_all := lw_g (lw_at lw_m4 34 rfl) rfl
theorem q837 : (Jvm.Cond.soleField "LockTurns" "refused") ∈ lw_all := lw_g (lw_at lw_m4 35 rfl) rfl
theorem q838 : (Jvm.Cond.superclass "LockTurns" "java/lang/Object") ∈ lw_all := lw_g (lw_at lw_m4 36 rfl) rfl
theorem q840 : (Jvm.Cond.instanceMethod ({ cls := "LockTurns", name := "sheet", desc := "(III)I" } : Jvm.MethodName)) ∈ lw_all := lw_g (lw_at lw_m4 38 rfl) rfl
theorem q841 : (Jvm.Cond.selects "LockTurns" ({ cls := "LockTurns", name := "sheet", desc := "(III)I" } : Jvm.MethodName) ({ cls := "LockTurns", name := "sheet", desc := "(III)I" } : Jvm.MethodName)) ∈ lw_all := lw_g (lw_at lw_m4 39 rfl) rfl
theorem q842 : (Jvm.Cond.codeWith ({ cls := "LockTurns", name := "sheet", desc := "(III)I" } : Jvm.MethodName) prog_1_method_59_code (5 : Nat) (Option.some Jvm.ClassFile.FieldType.int) [((32 : Nat), (57 : Nat), (58 : Nat), (309 : Nat))]) ∈ lw_all := lw_g (lw_at lw_m4 40 rfl) rfl
theorem q843 : (Jvm.Cond.classLink "LockTurns" (309 : Nat) "java/lang/NegativeArraySizeException") ∈ lw_all := lw_g (lw_at lw_m4 41 rfl) rfl
theorem q870 : (Jvm.Cond.methodLink "LockTurns" (299 : Nat) ({ cls := "LockTurns", name := "newRow", desc := "(II)Ljava/lang/Object;" } : Jvm.MethodName)) ∈ lw_all := lw_g (lw_at lw_m4 68 rfl) rfl
theorem q871 : (Jvm.Cond.static ({ cls := "LockTurns", name := "newRow", desc := "(II)Ljava/lang/Object;" } : Jvm.MethodName)) ∈ lw_all := lw_g (lw_at lw_m4 69 rfl) rfl
theorem q872 : (Jvm.Cond.code ({ cls := "LockTurns", name := "newRow", desc := "(II)Ljava/lang/Object;" } : Jvm.MethodName) prog_1_method_58_code (2 : Nat) (Option.some (Jvm.ClassFile.FieldType.object "java/lang/Object"))) ∈ lw_all := lw_g (lw_at lw_m4 70 rfl) rfl
theorem q875 : (Jvm.Cond.instanceMethod ({ cls := "LockTurns", name := "lay", desc := "(III)I" } : Jvm.MethodName)) ∈ lw_all := lw_g (lw_at lw_m4 73 rfl) rfl
theorem q876 : (Jvm.Cond.selects "LockTurns" ({ cls := "LockTurns", name := "lay", desc := "(III)I" } : Jvm.MethodName) ({ cls := "LockTurns", name := "lay", desc := "(III)I" } : Jvm.MethodName)) ∈ lw_all := lw_g (lw_at lw_m4 74 rfl) rfl
theorem q877 : (Jvm.Cond.codeWith ({ cls := "LockTurns", name := "lay", desc := "(III)I" } : Jvm.MethodName) prog_1_method_60_code (6 : Nat) (Option.some Jvm.ClassFile.FieldType.int) [((25 : Nat), (74 : Nat), (75 : Nat), (315 : Nat)), ((25 : Nat), (74 : Nat), (80 : Nat), (317 : Nat))]) ∈ lw_all := lw_g (lw_at lw_m4 75 rfl) rfl
theorem q878 : (Jvm.Cond.classLink "LockTurns" (315 : Nat) "java/lang/NullPointerException") ∈ lw_all := lw_g (lw_at lw_m4 76 rfl) rfl
theorem q903 : (Jvm.Cond.classLink "LockTurns" (317 : Nat) "java/lang/ArrayIndexOutOfBoundsException") ∈ lw_all := lw_g (lw_at lw_m4 101 rfl) rfl
theorem q922 : (Jvm.Cond.classLink "LockTurns" (311 : Nat) "[B") ∈ lw_all := lw_g (lw_at lw_m4 120 rfl) rfl
theorem q923 : (Jvm.Cond.classLink "LockTurns" (312 : Nat) "[S") ∈ lw_all := lw_g (lw_at lw_m4 121 rfl) rfl
theorem q924 : (Jvm.Cond.classLink "LockTurns" (314 : Nat) "[I") ∈ lw_all := lw_g (lw_at lw_m4 122 rfl) rfl
theorem q926 : (Jvm.Cond.instanceMethod ({ cls := "LockTurns", name := "read", desc := "(IIII)I" } : Jvm.MethodName)) ∈ lw_all := lw_g (lw_at lw_m4 124 rfl) rfl
theorem q927 : (Jvm.Cond.selects "LockTurns" ({ cls := "LockTurns", name := "read", desc := "(IIII)I" } : Jvm.MethodName) ({ cls := "LockTurns", name := "read", desc := "(IIII)I" } : Jvm.MethodName)) ∈ lw_all := lw_g (lw_at lw_m4 125 rfl) rfl
theorem q928 : (Jvm.Cond.code ({ cls := "LockTurns", name := "read", desc := "(IIII)I" } : Jvm.MethodName) prog_1_method_63_code (6 : Nat) (Option.some Jvm.ClassFile.FieldType.int)) ∈ lw_all := lw_g (lw_at lw_m4 126 rfl) rfl
theorem q929 : (Jvm.Cond.methodLink "LockTurns" (331 : Nat) ({ cls := "LockTurns", name := "takesIn", desc := "(Ljava/lang/Object;III)I" } : Jvm.MethodName)) ∈ lw_all := lw_g (lw_at lw_m4 127 rfl) rfl
theorem q930 : (Jvm.Cond.privateMethod ({ cls := "LockTurns", name := "takesIn", desc := "(Ljava/lang/Object;III)I" } : Jvm.MethodName)) ∈ lw_tbl := lw_at lw_m4 128 rfl
theorem q931 : (Jvm.Cond.instanceMethod ({ cls := "LockTurns", name := "takesIn", desc := "(Ljava/lang/Object;III)I" } : Jvm.MethodName)) ∈ lw_all := lw_g (lw_at lw_m4 129 rfl) rfl
theorem q932 : (Jvm.Cond.codeWith ({ cls := "LockTurns", name := "takesIn", desc := "(Ljava/lang/Object;III)I" } : Jvm.MethodName) prog_1_method_62_code (8 : Nat) (Option.some Jvm.ClassFile.FieldType.int) [((10 : Nat), (108 : Nat), (109 : Nat), (315 : Nat)), ((10 : Nat), (108 : Nat), (113 : Nat), (329 : Nat)), ((10 : Nat), (108 : Nat), (117 : Nat), (317 : Nat))]) ∈ lw_all := lw_g (lw_at lw_m4 130 rfl) rfl
theorem q933 : (Jvm.Cond.classLink "LockTurns" (329 : Nat) "java/lang/ClassCastException") ∈ lw_all := lw_g (lw_at lw_m4 131 rfl) rfl
theorem q947 : (Jvm.Cond.methodLink "LockTurns" (325 : Nat) ({ cls := "LockTurns", name := "cell", desc := "(Ljava/lang/Object;II)I" } : Jvm.MethodName)) ∈ lw_all := lw_g (lw_at lw_m4 145 rfl) rfl
theorem q948 : (Jvm.Cond.static ({ cls := "LockTurns", name := "cell", desc := "(Ljava/lang/Object;II)I" } : Jvm.MethodName)) ∈ lw_all := lw_g (lw_at lw_m4 146 rfl) rfl
theorem q949 : (Jvm.Cond.code ({ cls := "LockTurns", name := "cell", desc := "(Ljava/lang/Object;II)I" } : Jvm.MethodName) prog_1_method_61_code (3 : Nat) (Option.some Jvm.ClassFile.FieldType.int)) ∈ lw_all := lw_g (lw_at lw_m4 147 rfl) rfl
theorem q951 : (Jvm.Cond.instanceMethod ({ cls := "LockTurns", name := "torn", desc := "()I" } : Jvm.MethodName)) ∈ lw_all := lw_g (lw_at lw_m4 149 rfl) rfl
theorem q952 : (Jvm.Cond.selects "LockTurns" ({ cls := "LockTurns", name := "torn", desc := "()I" } : Jvm.MethodName) ({ cls := "LockTurns", name := "torn", desc := "()I" } : Jvm.MethodName)) ∈ lw_all := lw_g (lw_at lw_m4 150 rfl) rfl
theorem q953 : (Jvm.Cond.code ({ cls := "LockTurns", name := "torn", desc := "()I" } : Jvm.MethodName) prog_1_method_64_code (1 : Nat) (Option.some Jvm.ClassFile.FieldType.int)) ∈ lw_all := lw_g (lw_at lw_m4 151 rfl) rfl
theorem q955 : (Jvm.Cond.instanceMethod ({ cls := "LockTurns", name := "count", desc := "(I)I" } : Jvm.MethodName)) ∈ lw_all := lw_g (lw_at lw_m4 153 rfl) rfl
theorem q956 : (Jvm.Cond.selects "LockTurns" ({ cls := "LockTurns", name := "count", desc := "(I)I" } : Jvm.MethodName) ({ cls := "LockTurns", name := "count", desc := "(I)I" } : Jvm.MethodName)) ∈ lw_all := lw_g (lw_at lw_m4 154 rfl) rfl
theorem q957 : (Jvm.Cond.code ({ cls := "LockTurns", name := "count", desc := "(I)I" } : Jvm.MethodName) prog_1_method_65_code (4 : Nat) (Option.some Jvm.ClassFile.FieldType.int)) ∈ lw_all := lw_g (lw_at lw_m4 155 rfl) rfl
theorem q1463 : (Jvm.Cond.stringRef "LockTurns" (353 : Nat) "above") ∈ lw_tbl := lw_at lw_m6 181 rfl
theorem q1464 : (Jvm.Cond.stringRef "LockTurns" (355 : Nat) "below") ∈ lw_tbl := lw_at lw_m6 182 rfl
theorem q1465 : (Jvm.Cond.stringRef "LockTurns" (357 : Nat) "lock") ∈ lw_tbl := lw_at lw_m6 183 rfl
theorem q1466 : (Jvm.Cond.stringRef "LockTurns" (359 : Nat) "law") ∈ lw_tbl := lw_at lw_m6 184 rfl
theorem q1467 : (Jvm.Cond.stringRef "LockTurns" (361 : Nat) "post") ∈ lw_tbl := lw_at lw_m6 185 rfl
theorem q1468 : (Jvm.Cond.stringRef "LockTurns" (363 : Nat) "hand") ∈ lw_tbl := lw_at lw_m6 186 rfl
theorem q1469 : (Jvm.Cond.stringRef "LockTurns" (365 : Nat) "liar") ∈ lw_tbl := lw_at lw_m6 187 rfl
theorem q1471 : (Jvm.Cond.stringRef "LockTurns" (371 : Nat) "mail") ∈ lw_tbl := lw_at lw_m6 189 rfl
theorem q1472 : (Jvm.Cond.stringRef "LockTurns" (373 : Nat) "fish") ∈ lw_tbl := lw_at lw_m6 190 rfl
theorem q1473 : (Jvm.Cond.stringRef "LockTurns" (375 : Nat) "beer") ∈ lw_tbl := lw_at lw_m6 191 rfl
theorem q1474 : (Jvm.Cond.stringRef "LockTurns" (377 : Nat) "coal") ∈ lw_tbl := lw_at lw_m6 192 rfl
theorem q1475 : (Jvm.Cond.stringRef "LockTurns" (382 : Nat) "gate") ∈ lw_tbl := lw_at lw_m6 193 rfl
theorem q1476 : (Jvm.Cond.stringRef "LockTurns" (383 : Nat) "ready") ∈ lw_tbl := lw_at lw_m6 194 rfl
theorem q1477 : (Jvm.Cond.stringRef "LockTurns" (384 : Nat) "twos") ∈ lw_tbl := lw_at lw_m6 195 rfl
theorem q1478 : (Jvm.Cond.stringRef "LockTurns" (386 : Nat) "cargo") ∈ lw_tbl := lw_at lw_m6 196 rfl
theorem q1479 : (Jvm.Cond.stringRef "LockTurns" (388 : Nat) "queue") ∈ lw_tbl := lw_at lw_m6 197 rfl
theorem in_X0 : ∀ w ∈ wsX00, w ∈ lw_all := lw_in wsX00 [790, 792, 794, 796, 798, 800, 802, 804, 806, 808, 810, 812, 814, 816, 818, 820, 822, 824, 826, 828, 830, 832, 834, 836] (by decide +kernel) (by decide +kernel)
