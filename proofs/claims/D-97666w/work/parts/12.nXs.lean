/-! LockTurns$Told -/
set_option maxRecDepth 100000
def RX1 : String := "LockTurns$Told"
def TX1 : u_T := fun k => match k with
  | 0 => ("LockTurns$Told", "sets", "[I", true)
  | 1 => ("LockTurns$Told", "sides", "[I", true)
  | 2 => ("LockTurns$Told", "boats", "[[I", true)
  | _ => ("LockTurns$Told", "liars", "I", false)
def tyX1 : Nat → FieldType := fun k => match k with
  | 0 => .array .int
  | 1 => .array .int
  | 2 => .array (.array .int)
  | _ => .int
abbrev wsX10 : List Cond := u_ws RX1 TX1 4
theorem nmX1 : ∀ a, a < 4 → ∀ b, b < 4 → a ≠ b → (TX1 a).2.1 ≠ (TX1 b).2.1 := by decide +kernel
theorem tyX1_ok : ∀ k, k < 4 → parseFieldDescriptor (TX1 k).2.2.1 = some (tyX1 k) := by decide +kernel
abbrev cX1_init : ByteArray := prog_12_method_1_code
def yX1_init : MethodName := ⟨RX1, "<init>", "()V"⟩
def dkwX1_init_2 : List UInt8 := [197, 0, 18, 2, 181, 0, 20, 177]
abbrev dktX1_init_2 : List UInt8 := dkwX1_init_2 ++ []
def dkwX1_init_1 : List UInt8 := [79, 89, 7, 3, 79, 89, 8, 3, 79, 181, 0, 9, 42, 16, 6, 188, 10, 181, 0, 15, 42, 16, 6, 7]
abbrev dktX1_init_1 : List UInt8 := dkwX1_init_1 ++ dktX1_init_2
def dkwX1_init_0 : List UInt8 := [42, 183, 0, 3, 42, 16, 6, 188, 10, 89, 3, 8, 79, 89, 4, 5, 79, 89, 5, 3, 79, 89, 6, 3]
abbrev dktX1_init_0 : List UInt8 := dkwX1_init_0 ++ dktX1_init_1
theorem dksX1_init_0 : cX1_init.data.toList.drop 0 = dktX1_init_0 := by decide +kernel
theorem dksX1_init_1 : cX1_init.data.toList.drop 24 = dktX1_init_1 := dk_seg dksX1_init_0 24 rfl rfl
theorem dksX1_init_2 : cX1_init.data.toList.drop 48 = dktX1_init_2 := dk_seg dksX1_init_1 24 rfl rfl
theorem dX1_init_0 : decode cX1_init 0 = .ok (.aload_n 0, 1) := dk_42 (dk_at dksX1_init_0 0 rfl rfl)
theorem dX1_init_1 : decode cX1_init 1 = .ok (.invokespecial 3, 3) := dk_183 0 3 (dk_at dksX1_init_0 1 rfl rfl)
theorem dX1_init_4 : decode cX1_init 4 = .ok (.aload_n 0, 1) := dk_42 (dk_at dksX1_init_0 4 rfl rfl)
theorem dX1_init_5 : decode cX1_init 5 = .ok (.bipush 6, 2) := dk_16 6 (dk_at dksX1_init_0 5 rfl rfl)
theorem dX1_init_7 : decode cX1_init 7 = .ok (.newarray .int, 2) := dk_188_10 (dk_at dksX1_init_0 7 rfl rfl)
theorem dX1_init_9 : decode cX1_init 9 = .ok (.dup, 1) := dk_89 (dk_at dksX1_init_0 9 rfl rfl)
theorem dX1_init_10 : decode cX1_init 10 = .ok (.iconst 0, 1) := dk_3 (dk_at dksX1_init_0 10 rfl rfl)
theorem dX1_init_11 : decode cX1_init 11 = .ok (.iconst 5, 1) := dk_8 (dk_at dksX1_init_0 11 rfl rfl)
theorem dX1_init_12 : decode cX1_init 12 = .ok (.iastore, 1) := dk_79 (dk_at dksX1_init_0 12 rfl rfl)
theorem dX1_init_13 : decode cX1_init 13 = .ok (.dup, 1) := dk_89 (dk_at dksX1_init_0 13 rfl rfl)
theorem dX1_init_14 : decode cX1_init 14 = .ok (.iconst 1, 1) := dk_4 (dk_at dksX1_init_0 14 rfl rfl)
theorem dX1_init_15 : decode cX1_init 15 = .ok (.iconst 2, 1) := dk_5 (dk_at dksX1_init_0 15 rfl rfl)
theorem dX1_init_16 : decode cX1_init 16 = .ok (.iastore, 1) := dk_79 (dk_at dksX1_init_0 16 rfl rfl)
theorem dX1_init_17 : decode cX1_init 17 = .ok (.dup, 1) := dk_89 (dk_at dksX1_init_0 17 rfl rfl)
theorem dX1_init_18 : decode cX1_init 18 = .ok (.iconst 2, 1) := dk_5 (dk_at dksX1_init_0 18 rfl rfl)
theorem dX1_init_19 : decode cX1_init 19 = .ok (.iconst 0, 1) := dk_3 (dk_at dksX1_init_0 19 rfl rfl)
theorem dX1_init_20 : decode cX1_init 20 = .ok (.iastore, 1) := dk_79 (dk_at dksX1_init_0 20 rfl rfl)
theorem dX1_init_21 : decode cX1_init 21 = .ok (.dup, 1) := dk_89 (dk_at dksX1_init_0 21 rfl rfl)
theorem dX1_init_22 : decode cX1_init 22 = .ok (.iconst 3, 1) := dk_6 (dk_at dksX1_init_0 22 rfl rfl)
theorem dX1_init_23 : decode cX1_init 23 = .ok (.iconst 0, 1) := dk_3 (dk_at dksX1_init_0 23 rfl rfl)
theorem dX1_init_24 : decode cX1_init 24 = .ok (.iastore, 1) := dk_79 (dk_at dksX1_init_1 0 rfl rfl)
theorem dX1_init_25 : decode cX1_init 25 = .ok (.dup, 1) := dk_89 (dk_at dksX1_init_1 1 rfl rfl)
theorem dX1_init_26 : decode cX1_init 26 = .ok (.iconst 4, 1) := dk_7 (dk_at dksX1_init_1 2 rfl rfl)
theorem dX1_init_27 : decode cX1_init 27 = .ok (.iconst 0, 1) := dk_3 (dk_at dksX1_init_1 3 rfl rfl)
theorem dX1_init_28 : decode cX1_init 28 = .ok (.iastore, 1) := dk_79 (dk_at dksX1_init_1 4 rfl rfl)
theorem dX1_init_29 : decode cX1_init 29 = .ok (.dup, 1) := dk_89 (dk_at dksX1_init_1 5 rfl rfl)
theorem dX1_init_30 : decode cX1_init 30 = .ok (.iconst 5, 1) := dk_8 (dk_at dksX1_init_1 6 rfl rfl)
theorem dX1_init_31 : decode cX1_init 31 = .ok (.iconst 0, 1) := dk_3 (dk_at dksX1_init_1 7 rfl rfl)
theorem dX1_init_32 : decode cX1_init 32 = .ok (.iastore, 1) := dk_79 (dk_at dksX1_init_1 8 rfl rfl)
theorem dX1_init_33 : decode cX1_init 33 = .ok (.putfield 9, 3) := dk_181 0 9 (dk_at dksX1_init_1 9 rfl rfl)
theorem dX1_init_36 : decode cX1_init 36 = .ok (.aload_n 0, 1) := dk_42 (dk_at dksX1_init_1 12 rfl rfl)
theorem dX1_init_37 : decode cX1_init 37 = .ok (.bipush 6, 2) := dk_16 6 (dk_at dksX1_init_1 13 rfl rfl)
theorem dX1_init_39 : decode cX1_init 39 = .ok (.newarray .int, 2) := dk_188_10 (dk_at dksX1_init_1 15 rfl rfl)
theorem dX1_init_41 : decode cX1_init 41 = .ok (.putfield 15, 3) := dk_181 0 15 (dk_at dksX1_init_1 17 rfl rfl)
theorem dX1_init_44 : decode cX1_init 44 = .ok (.aload_n 0, 1) := dk_42 (dk_at dksX1_init_1 20 rfl rfl)
theorem dX1_init_45 : decode cX1_init 45 = .ok (.bipush 6, 2) := dk_16 6 (dk_at dksX1_init_1 21 rfl rfl)
theorem dX1_init_47 : decode cX1_init 47 = .ok (.iconst 4, 1) := dk_7 (dk_at dksX1_init_1 23 rfl rfl)
theorem dX1_init_48 : decode cX1_init 48 = .ok (.multianewarray 18 2, 4) := by decide +kernel
theorem dX1_init_52 : decode cX1_init 52 = .ok (.putfield 20, 3) := dk_181 0 20 (dk_at dksX1_init_2 4 rfl rfl)
theorem dX1_init_55 : decode cX1_init 55 = .ok (.return_, 1) := dk_177 (dk_at dksX1_init_2 7 rfl rfl)
abbrev cX1_takes : ByteArray := prog_12_method_2_code
def yX1_takes : MethodName := ⟨RX1, "takes", "(LLockTurns$Told;)V"⟩
def dkwX1_takes_3 : List UInt8 := [177]
abbrev dktX1_takes_3 : List UInt8 := dkwX1_takes_3 ++ []
def dkwX1_takes_2 : List UInt8 := [180, 0, 20, 28, 50, 3, 7, 184, 0, 23, 132, 2, 1, 167, 255, 229, 42, 43, 180, 0, 29, 181, 0, 29]
abbrev dktX1_takes_2 : List UInt8 := dkwX1_takes_2 ++ dktX1_takes_3
def dkwX1_takes_1 : List UInt8 := [3, 16, 6, 184, 0, 23, 3, 61, 28, 16, 6, 162, 0, 27, 43, 180, 0, 20, 28, 50, 3, 42]
abbrev dktX1_takes_1 : List UInt8 := dkwX1_takes_1 ++ dktX1_takes_2
def dkwX1_takes_0 : List UInt8 := [43, 180, 0, 9, 3, 42, 180, 0, 9, 3, 16, 6, 184, 0, 23, 43, 180, 0, 15, 3, 42, 180, 0, 15]
abbrev dktX1_takes_0 : List UInt8 := dkwX1_takes_0 ++ dktX1_takes_1
theorem dksX1_takes_0 : cX1_takes.data.toList.drop 0 = dktX1_takes_0 := by decide +kernel
theorem dksX1_takes_1 : cX1_takes.data.toList.drop 24 = dktX1_takes_1 := dk_seg dksX1_takes_0 24 rfl rfl
theorem dksX1_takes_2 : cX1_takes.data.toList.drop 46 = dktX1_takes_2 := dk_seg dksX1_takes_1 22 rfl rfl
theorem dksX1_takes_3 : cX1_takes.data.toList.drop 70 = dktX1_takes_3 := dk_seg dksX1_takes_2 24 rfl rfl
theorem dX1_takes_0 : decode cX1_takes 0 = .ok (.aload_n 1, 1) := dk_43 (dk_at dksX1_takes_0 0 rfl rfl)
theorem dX1_takes_1 : decode cX1_takes 1 = .ok (.getfield 9, 3) := dk_180 0 9 (dk_at dksX1_takes_0 1 rfl rfl)
theorem dX1_takes_4 : decode cX1_takes 4 = .ok (.iconst 0, 1) := dk_3 (dk_at dksX1_takes_0 4 rfl rfl)
theorem dX1_takes_5 : decode cX1_takes 5 = .ok (.aload_n 0, 1) := dk_42 (dk_at dksX1_takes_0 5 rfl rfl)
theorem dX1_takes_6 : decode cX1_takes 6 = .ok (.getfield 9, 3) := dk_180 0 9 (dk_at dksX1_takes_0 6 rfl rfl)
theorem dX1_takes_9 : decode cX1_takes 9 = .ok (.iconst 0, 1) := dk_3 (dk_at dksX1_takes_0 9 rfl rfl)
theorem dX1_takes_10 : decode cX1_takes 10 = .ok (.bipush 6, 2) := dk_16 6 (dk_at dksX1_takes_0 10 rfl rfl)
theorem dX1_takes_12 : decode cX1_takes 12 = .ok (.invokestatic 23, 3) := dk_184 0 23 (dk_at dksX1_takes_0 12 rfl rfl)
theorem dX1_takes_15 : decode cX1_takes 15 = .ok (.aload_n 1, 1) := dk_43 (dk_at dksX1_takes_0 15 rfl rfl)
theorem dX1_takes_16 : decode cX1_takes 16 = .ok (.getfield 15, 3) := dk_180 0 15 (dk_at dksX1_takes_0 16 rfl rfl)
theorem dX1_takes_19 : decode cX1_takes 19 = .ok (.iconst 0, 1) := dk_3 (dk_at dksX1_takes_0 19 rfl rfl)
theorem dX1_takes_20 : decode cX1_takes 20 = .ok (.aload_n 0, 1) := dk_42 (dk_at dksX1_takes_0 20 rfl rfl)
theorem dX1_takes_21 : decode cX1_takes 21 = .ok (.getfield 15, 3) := dk_180 0 15 (dk_at dksX1_takes_0 21 rfl rfl)
theorem dX1_takes_24 : decode cX1_takes 24 = .ok (.iconst 0, 1) := dk_3 (dk_at dksX1_takes_1 0 rfl rfl)
theorem dX1_takes_25 : decode cX1_takes 25 = .ok (.bipush 6, 2) := dk_16 6 (dk_at dksX1_takes_1 1 rfl rfl)
theorem dX1_takes_27 : decode cX1_takes 27 = .ok (.invokestatic 23, 3) := dk_184 0 23 (dk_at dksX1_takes_1 3 rfl rfl)
theorem dX1_takes_30 : decode cX1_takes 30 = .ok (.iconst 0, 1) := dk_3 (dk_at dksX1_takes_1 6 rfl rfl)
theorem dX1_takes_31 : decode cX1_takes 31 = .ok (.istore_n 2, 1) := dk_61 (dk_at dksX1_takes_1 7 rfl rfl)
theorem dX1_takes_32 : decode cX1_takes 32 = .ok (.iload_n 2, 1) := dk_28 (dk_at dksX1_takes_1 8 rfl rfl)
theorem dX1_takes_33 : decode cX1_takes 33 = .ok (.bipush 6, 2) := dk_16 6 (dk_at dksX1_takes_1 9 rfl rfl)
theorem dX1_takes_35 : decode cX1_takes 35 = .ok (.if_icmp .ge 27, 3) := dk_162 0 27 (dk_at dksX1_takes_1 11 rfl rfl)
theorem dX1_takes_38 : decode cX1_takes 38 = .ok (.aload_n 1, 1) := dk_43 (dk_at dksX1_takes_1 14 rfl rfl)
theorem dX1_takes_39 : decode cX1_takes 39 = .ok (.getfield 20, 3) := dk_180 0 20 (dk_at dksX1_takes_1 15 rfl rfl)
theorem dX1_takes_42 : decode cX1_takes 42 = .ok (.iload_n 2, 1) := dk_28 (dk_at dksX1_takes_1 18 rfl rfl)
theorem dX1_takes_43 : decode cX1_takes 43 = .ok (.aaload, 1) := dk_50 (dk_at dksX1_takes_1 19 rfl rfl)
theorem dX1_takes_44 : decode cX1_takes 44 = .ok (.iconst 0, 1) := dk_3 (dk_at dksX1_takes_1 20 rfl rfl)
theorem dX1_takes_45 : decode cX1_takes 45 = .ok (.aload_n 0, 1) := dk_42 (dk_at dksX1_takes_1 21 rfl rfl)
theorem dX1_takes_46 : decode cX1_takes 46 = .ok (.getfield 20, 3) := dk_180 0 20 (dk_at dksX1_takes_2 0 rfl rfl)
theorem dX1_takes_49 : decode cX1_takes 49 = .ok (.iload_n 2, 1) := dk_28 (dk_at dksX1_takes_2 3 rfl rfl)
theorem dX1_takes_50 : decode cX1_takes 50 = .ok (.aaload, 1) := dk_50 (dk_at dksX1_takes_2 4 rfl rfl)
theorem dX1_takes_51 : decode cX1_takes 51 = .ok (.iconst 0, 1) := dk_3 (dk_at dksX1_takes_2 5 rfl rfl)
theorem dX1_takes_52 : decode cX1_takes 52 = .ok (.iconst 4, 1) := dk_7 (dk_at dksX1_takes_2 6 rfl rfl)
theorem dX1_takes_53 : decode cX1_takes 53 = .ok (.invokestatic 23, 3) := dk_184 0 23 (dk_at dksX1_takes_2 7 rfl rfl)
theorem dX1_takes_56 : decode cX1_takes 56 = .ok (.iinc 2 1, 3) := dk_132 2 1 (dk_at dksX1_takes_2 10 rfl rfl)
theorem dX1_takes_59 : decode cX1_takes 59 = .ok (.goto (-27), 3) := dk_167 255 229 (dk_at dksX1_takes_2 13 rfl rfl)
theorem dX1_takes_62 : decode cX1_takes 62 = .ok (.aload_n 0, 1) := dk_42 (dk_at dksX1_takes_2 16 rfl rfl)
theorem dX1_takes_63 : decode cX1_takes 63 = .ok (.aload_n 1, 1) := dk_43 (dk_at dksX1_takes_2 17 rfl rfl)
theorem dX1_takes_64 : decode cX1_takes 64 = .ok (.getfield 29, 3) := dk_180 0 29 (dk_at dksX1_takes_2 18 rfl rfl)
theorem dX1_takes_67 : decode cX1_takes 67 = .ok (.putfield 29, 3) := dk_181 0 29 (dk_at dksX1_takes_2 21 rfl rfl)
theorem dX1_takes_70 : decode cX1_takes 70 = .ok (.return_, 1) := dk_177 (dk_at dksX1_takes_3 0 rfl rfl)
abbrev cX1_counts : ByteArray := prog_12_method_3_code
def yX1_counts : MethodName := ⟨RX1, "counts", "(I)I"⟩
def dkwX1_counts_2 : List UInt8 := [184, 0, 33, 172]
abbrev dktX1_counts_2 : List UInt8 := dkwX1_counts_2 ++ []
def dkwX1_counts_1 : List UInt8 := [184, 0, 33, 167, 0, 9, 42, 180, 0, 9, 7, 46, 61, 3, 42, 180, 0, 20, 27, 50, 4, 46, 28, 100]
abbrev dktX1_counts_1 : List UInt8 := dkwX1_counts_1 ++ dktX1_counts_2
def dkwX1_counts_0 : List UInt8 := [42, 180, 0, 9, 8, 46, 4, 160, 0, 23, 42, 180, 0, 9, 7, 46, 42, 180, 0, 20, 27, 50, 6, 46]
abbrev dktX1_counts_0 : List UInt8 := dkwX1_counts_0 ++ dktX1_counts_1
theorem dksX1_counts_0 : cX1_counts.data.toList.drop 0 = dktX1_counts_0 := by decide +kernel
theorem dksX1_counts_1 : cX1_counts.data.toList.drop 24 = dktX1_counts_1 := dk_seg dksX1_counts_0 24 rfl rfl
theorem dksX1_counts_2 : cX1_counts.data.toList.drop 48 = dktX1_counts_2 := dk_seg dksX1_counts_1 24 rfl rfl
theorem dX1_counts_0 : decode cX1_counts 0 = .ok (.aload_n 0, 1) := dk_42 (dk_at dksX1_counts_0 0 rfl rfl)
theorem dX1_counts_1 : decode cX1_counts 1 = .ok (.getfield 9, 3) := dk_180 0 9 (dk_at dksX1_counts_0 1 rfl rfl)
theorem dX1_counts_4 : decode cX1_counts 4 = .ok (.iconst 5, 1) := dk_8 (dk_at dksX1_counts_0 4 rfl rfl)
theorem dX1_counts_5 : decode cX1_counts 5 = .ok (.iaload, 1) := dk_46 (dk_at dksX1_counts_0 5 rfl rfl)
theorem dX1_counts_6 : decode cX1_counts 6 = .ok (.iconst 1, 1) := dk_4 (dk_at dksX1_counts_0 6 rfl rfl)
theorem dX1_counts_7 : decode cX1_counts 7 = .ok (.if_icmp .ne 23, 3) := dk_160 0 23 (dk_at dksX1_counts_0 7 rfl rfl)
theorem dX1_counts_10 : decode cX1_counts 10 = .ok (.aload_n 0, 1) := dk_42 (dk_at dksX1_counts_0 10 rfl rfl)
theorem dX1_counts_11 : decode cX1_counts 11 = .ok (.getfield 9, 3) := dk_180 0 9 (dk_at dksX1_counts_0 11 rfl rfl)
theorem dX1_counts_14 : decode cX1_counts 14 = .ok (.iconst 4, 1) := dk_7 (dk_at dksX1_counts_0 14 rfl rfl)
theorem dX1_counts_15 : decode cX1_counts 15 = .ok (.iaload, 1) := dk_46 (dk_at dksX1_counts_0 15 rfl rfl)
theorem dX1_counts_16 : decode cX1_counts 16 = .ok (.aload_n 0, 1) := dk_42 (dk_at dksX1_counts_0 16 rfl rfl)
theorem dX1_counts_17 : decode cX1_counts 17 = .ok (.getfield 20, 3) := dk_180 0 20 (dk_at dksX1_counts_0 17 rfl rfl)
theorem dX1_counts_20 : decode cX1_counts 20 = .ok (.iload_n 1, 1) := dk_27 (dk_at dksX1_counts_0 20 rfl rfl)
theorem dX1_counts_21 : decode cX1_counts 21 = .ok (.aaload, 1) := dk_50 (dk_at dksX1_counts_0 21 rfl rfl)
theorem dX1_counts_22 : decode cX1_counts 22 = .ok (.iconst 3, 1) := dk_6 (dk_at dksX1_counts_0 22 rfl rfl)
theorem dX1_counts_23 : decode cX1_counts 23 = .ok (.iaload, 1) := dk_46 (dk_at dksX1_counts_0 23 rfl rfl)
theorem dX1_counts_24 : decode cX1_counts 24 = .ok (.invokestatic 33, 3) := dk_184 0 33 (dk_at dksX1_counts_1 0 rfl rfl)
theorem dX1_counts_27 : decode cX1_counts 27 = .ok (.goto 9, 3) := dk_167 0 9 (dk_at dksX1_counts_1 3 rfl rfl)
theorem dX1_counts_30 : decode cX1_counts 30 = .ok (.aload_n 0, 1) := dk_42 (dk_at dksX1_counts_1 6 rfl rfl)
theorem dX1_counts_31 : decode cX1_counts 31 = .ok (.getfield 9, 3) := dk_180 0 9 (dk_at dksX1_counts_1 7 rfl rfl)
theorem dX1_counts_34 : decode cX1_counts 34 = .ok (.iconst 4, 1) := dk_7 (dk_at dksX1_counts_1 10 rfl rfl)
theorem dX1_counts_35 : decode cX1_counts 35 = .ok (.iaload, 1) := dk_46 (dk_at dksX1_counts_1 11 rfl rfl)
theorem dX1_counts_36 : decode cX1_counts 36 = .ok (.istore_n 2, 1) := dk_61 (dk_at dksX1_counts_1 12 rfl rfl)
theorem dX1_counts_37 : decode cX1_counts 37 = .ok (.iconst 0, 1) := dk_3 (dk_at dksX1_counts_1 13 rfl rfl)
theorem dX1_counts_38 : decode cX1_counts 38 = .ok (.aload_n 0, 1) := dk_42 (dk_at dksX1_counts_1 14 rfl rfl)
theorem dX1_counts_39 : decode cX1_counts 39 = .ok (.getfield 20, 3) := dk_180 0 20 (dk_at dksX1_counts_1 15 rfl rfl)
theorem dX1_counts_42 : decode cX1_counts 42 = .ok (.iload_n 1, 1) := dk_27 (dk_at dksX1_counts_1 18 rfl rfl)
theorem dX1_counts_43 : decode cX1_counts 43 = .ok (.aaload, 1) := dk_50 (dk_at dksX1_counts_1 19 rfl rfl)
theorem dX1_counts_44 : decode cX1_counts 44 = .ok (.iconst 1, 1) := dk_4 (dk_at dksX1_counts_1 20 rfl rfl)
theorem dX1_counts_45 : decode cX1_counts 45 = .ok (.iaload, 1) := dk_46 (dk_at dksX1_counts_1 21 rfl rfl)
theorem dX1_counts_46 : decode cX1_counts 46 = .ok (.iload_n 2, 1) := dk_28 (dk_at dksX1_counts_1 22 rfl rfl)
theorem dX1_counts_47 : decode cX1_counts 47 = .ok (.isub, 1) := dk_100 (dk_at dksX1_counts_1 23 rfl rfl)
theorem dX1_counts_48 : decode cX1_counts 48 = .ok (.invokestatic 33, 3) := dk_184 0 33 (dk_at dksX1_counts_2 0 rfl rfl)
theorem dX1_counts_51 : decode cX1_counts 51 = .ok (.ireturn, 1) := dk_172 (dk_at dksX1_counts_2 3 rfl rfl)
theorem q84 : (Jvm.Cond.initialized "LockTurns$Told") ∈ lw_all := lw_g (lw_at lw_m1 2 rfl) rfl
theorem q135 : (Jvm.Cond.instantiable "LockTurns$Told" (4 : Nat)) ∈ lw_all := lw_g (lw_at lw_m1 53 rfl) rfl
theorem q137 : (Jvm.Cond.instanceMethod ({ cls := "LockTurns$Told", name := "<init>", desc := "()V" } : Jvm.MethodName)) ∈ lw_all := lw_g (lw_at lw_m1 55 rfl) rfl
theorem q138 : (Jvm.Cond.code ({ cls := "LockTurns$Told", name := "<init>", desc := "()V" } : Jvm.MethodName) prog_12_method_1_code (1 : Nat) (Option.none : Option Jvm.ClassFile.FieldType)) ∈ lw_all := lw_g (lw_at lw_m1 56 rfl) rfl
theorem q139 : (Jvm.Cond.methodLink "LockTurns$Told" (3 : Nat) ({ cls := "java/lang/Object", name := "<init>", desc := "()V" } : Jvm.MethodName)) ∈ lw_all := lw_g (lw_at lw_m1 57 rfl) rfl
theorem q140 : (Jvm.Cond.classLink "LockTurns$Told" (18 : Nat) "[[I") ∈ lw_all := lw_g (lw_at lw_m1 58 rfl) rfl
theorem q142 : (Jvm.Cond.fieldLink "LockTurns$Told" (9 : Nat) "LockTurns$Told" "sets" "[I") ∈ lw_all := lw_g (lw_at lw_m1 60 rfl) rfl
theorem q145 : (Jvm.Cond.fieldLink "LockTurns$Told" (15 : Nat) "LockTurns$Told" "sides" "[I") ∈ lw_all := lw_g (lw_at lw_m1 63 rfl) rfl
theorem q149 : (Jvm.Cond.fieldLink "LockTurns$Told" (20 : Nat) "LockTurns$Told" "boats" "[[I") ∈ lw_all := lw_g (lw_at lw_m1 67 rfl) rfl
theorem q154 : (Jvm.Cond.fieldLink "LockTurns$Told" (29 : Nat) "LockTurns$Told" "liars" "I") ∈ lw_all := lw_g (lw_at lw_m1 72 rfl) rfl
theorem q157 : (Jvm.Cond.laysFinal "LockTurns$Told" "LockTurns$Told" "sets" "[I") ∈ lw_all := lw_g (lw_at lw_m1 75 rfl) rfl
theorem q158 : (Jvm.Cond.soleField "LockTurns$Told" "sets") ∈ lw_all := lw_g (lw_at lw_m1 76 rfl) rfl
theorem q159 : (Jvm.Cond.laysFinal "LockTurns$Told" "LockTurns$Told" "sides" "[I") ∈ lw_all := lw_g (lw_at lw_m1 77 rfl) rfl
theorem q160 : (Jvm.Cond.soleField "LockTurns$Told" "sides") ∈ lw_all := lw_g (lw_at lw_m1 78 rfl) rfl
theorem q161 : (Jvm.Cond.laysFinal "LockTurns$Told" "LockTurns$Told" "boats" "[[I") ∈ lw_all := lw_g (lw_at lw_m1 79 rfl) rfl
theorem q162 : (Jvm.Cond.soleField "LockTurns$Told" "boats") ∈ lw_all := lw_g (lw_at lw_m1 80 rfl) rfl
theorem q163 : (Jvm.Cond.lays "LockTurns$Told" "LockTurns$Told" "liars" "I") ∈ lw_all := lw_g (lw_at lw_m1 81 rfl) rfl
theorem q164 : (Jvm.Cond.soleField "LockTurns$Told" "liars") ∈ lw_all := lw_g (lw_at lw_m1 82 rfl) rfl
theorem q165 : (Jvm.Cond.superclass "LockTurns$Told" "java/lang/Object") ∈ lw_all := lw_g (lw_at lw_m1 83 rfl) rfl
theorem q401 : (Jvm.Cond.instanceMethod ({ cls := "LockTurns$Told", name := "takes", desc := "(LLockTurns$Told;)V" } : Jvm.MethodName)) ∈ lw_all := lw_g (lw_at lw_m2 79 rfl) rfl
theorem q402 : (Jvm.Cond.selects "LockTurns$Told" ({ cls := "LockTurns$Told", name := "takes", desc := "(LLockTurns$Told;)V" } : Jvm.MethodName) ({ cls := "LockTurns$Told", name := "takes", desc := "(LLockTurns$Told;)V" } : Jvm.MethodName)) ∈ lw_all := lw_g (lw_at lw_m2 80 rfl) rfl
theorem q403 : (Jvm.Cond.code ({ cls := "LockTurns$Told", name := "takes", desc := "(LLockTurns$Told;)V" } : Jvm.MethodName) prog_12_method_2_code (3 : Nat) (Option.none : Option Jvm.ClassFile.FieldType)) ∈ lw_all := lw_g (lw_at lw_m2 81 rfl) rfl
theorem q404 : (Jvm.Cond.methodLink "LockTurns$Told" (23 : Nat) ({ cls := "java/lang/System", name := "arraycopy", desc := "(Ljava/lang/Object;ILjava/lang/Object;II)V" } : Jvm.MethodName)) ∈ lw_all := lw_g (lw_at lw_m2 82 rfl) rfl
theorem q424 : (Jvm.Cond.instanceMethod ({ cls := "LockTurns$Told", name := "counts", desc := "(I)I" } : Jvm.MethodName)) ∈ lw_all := lw_g (lw_at lw_m2 102 rfl) rfl
theorem q425 : (Jvm.Cond.selects "LockTurns$Told" ({ cls := "LockTurns$Told", name := "counts", desc := "(I)I" } : Jvm.MethodName) ({ cls := "LockTurns$Told", name := "counts", desc := "(I)I" } : Jvm.MethodName)) ∈ lw_all := lw_g (lw_at lw_m2 103 rfl) rfl
theorem q426 : (Jvm.Cond.code ({ cls := "LockTurns$Told", name := "counts", desc := "(I)I" } : Jvm.MethodName) prog_12_method_3_code (3 : Nat) (Option.some Jvm.ClassFile.FieldType.int)) ∈ lw_all := lw_g (lw_at lw_m2 104 rfl) rfl
theorem q427 : (Jvm.Cond.methodLink "LockTurns$Told" (33 : Nat) ({ cls := "java/lang/Math", name := "max", desc := "(II)I" } : Jvm.MethodName)) ∈ lw_all := lw_g (lw_at lw_m2 105 rfl) rfl
theorem in_X1 : ∀ w ∈ wsX10, w ∈ lw_all := lw_in wsX10 [157, 159, 161, 163] (by decide +kernel) (by decide +kernel)
/-! LockTurns$Gate -/
set_option maxRecDepth 100000
def RX2 : String := "LockTurns$Gate"
def TX2 : u_T := fun k => match k with
  | 0 => ("LockTurns$Gate", "told", "LLockTurns$Told;", false)
  | 1 => ("LockTurns$Gate", "ready", "I", false)
  | 2 => ("LockTurns$Gate", "last", "I", false)
  | 3 => ("LockTurns$Gate", "inRow", "I", false)
  | 4 => ("LockTurns$Gate", "seenThrough", "I", false)
  | _ => ("LockTurns$Gate", "many", "[I", true)
def tyX2 : Nat → FieldType := fun k => match k with
  | 0 => .object "LockTurns$Told"
  | 1 => .int
  | 2 => .int
  | 3 => .int
  | 4 => .int
  | _ => .array .int
abbrev wsX20 : List Cond := u_ws RX2 TX2 6
theorem nmX2 : ∀ a, a < 6 → ∀ b, b < 6 → a ≠ b → (TX2 a).2.1 ≠ (TX2 b).2.1 := by decide +kernel
theorem tyX2_ok : ∀ k, k < 6 → parseFieldDescriptor (TX2 k).2.2.1 = some (tyX2 k) := by decide +kernel
abbrev cX2_init : ByteArray := prog_8_method_1_code
def yX2_init : MethodName := ⟨RX2, "<init>", "()V"⟩
def dkwX2_init_0 : List UInt8 := [42, 183, 0, 1, 42, 5, 188, 10, 181, 0, 7, 177]
abbrev dktX2_init_0 : List UInt8 := dkwX2_init_0 ++ []
theorem dksX2_init_0 : cX2_init.data.toList.drop 0 = dktX2_init_0 := by decide +kernel
theorem dX2_init_0 : decode cX2_init 0 = .ok (.aload_n 0, 1) := dk_42 (dk_at dksX2_init_0 0 rfl rfl)
theorem dX2_init_1 : decode cX2_init 1 = .ok (.invokespecial 1, 3) := dk_183 0 1 (dk_at dksX2_init_0 1 rfl rfl)
theorem dX2_init_4 : decode cX2_init 4 = .ok (.aload_n 0, 1) := dk_42 (dk_at dksX2_init_0 4 rfl rfl)
theorem dX2_init_5 : decode cX2_init 5 = .ok (.iconst 2, 1) := dk_5 (dk_at dksX2_init_0 5 rfl rfl)
theorem dX2_init_6 : decode cX2_init 6 = .ok (.newarray .int, 2) := dk_188_10 (dk_at dksX2_init_0 6 rfl rfl)
theorem dX2_init_8 : decode cX2_init 8 = .ok (.putfield 7, 3) := dk_181 0 7 (dk_at dksX2_init_0 8 rfl rfl)
theorem dX2_init_11 : decode cX2_init 11 = .ok (.return_, 1) := dk_177 (dk_at dksX2_init_0 11 rfl rfl)
theorem q85 : (Jvm.Cond.initialized "LockTurns$Gate") ∈ lw_all := lw_g (lw_at lw_m1 3 rfl) rfl
theorem q690 : (Jvm.Cond.instantiable "LockTurns$Gate" (6 : Nat)) ∈ lw_all := lw_g (lw_at lw_m3 128 rfl) rfl
theorem q692 : (Jvm.Cond.instanceMethod ({ cls := "LockTurns$Gate", name := "<init>", desc := "()V" } : Jvm.MethodName)) ∈ lw_all := lw_g (lw_at lw_m3 130 rfl) rfl
theorem q693 : (Jvm.Cond.code ({ cls := "LockTurns$Gate", name := "<init>", desc := "()V" } : Jvm.MethodName) prog_8_method_1_code (1 : Nat) (Option.none : Option Jvm.ClassFile.FieldType)) ∈ lw_all := lw_g (lw_at lw_m3 131 rfl) rfl
theorem q694 : (Jvm.Cond.methodLink "LockTurns$Gate" (1 : Nat) ({ cls := "java/lang/Object", name := "<init>", desc := "()V" } : Jvm.MethodName)) ∈ lw_all := lw_g (lw_at lw_m3 132 rfl) rfl
theorem q706 : (Jvm.Cond.fieldLink "LockTurns$Gate" (7 : Nat) "LockTurns$Gate" "many" "[I") ∈ lw_all := lw_g (lw_at lw_m3 144 rfl) rfl
theorem q709 : (Jvm.Cond.lays "LockTurns$Gate" "LockTurns$Gate" "told" "LLockTurns$Told;") ∈ lw_all := lw_g (lw_at lw_m3 147 rfl) rfl
theorem q710 : (Jvm.Cond.soleField "LockTurns$Gate" "told") ∈ lw_all := lw_g (lw_at lw_m3 148 rfl) rfl
theorem q711 : (Jvm.Cond.lays "LockTurns$Gate" "LockTurns$Gate" "ready" "I") ∈ lw_all := lw_g (lw_at lw_m3 149 rfl) rfl
theorem q712 : (Jvm.Cond.soleField "LockTurns$Gate" "ready") ∈ lw_all := lw_g (lw_at lw_m3 150 rfl) rfl
theorem q713 : (Jvm.Cond.lays "LockTurns$Gate" "LockTurns$Gate" "last" "I") ∈ lw_all := lw_g (lw_at lw_m3 151 rfl) rfl
theorem q714 : (Jvm.Cond.soleField "LockTurns$Gate" "last") ∈ lw_all := lw_g (lw_at lw_m3 152 rfl) rfl
theorem q715 : (Jvm.Cond.lays "LockTurns$Gate" "LockTurns$Gate" "inRow" "I") ∈ lw_all := lw_g (lw_at lw_m3 153 rfl) rfl
theorem q716 : (Jvm.Cond.soleField "LockTurns$Gate" "inRow") ∈ lw_all := lw_g (lw_at lw_m3 154 rfl) rfl
theorem q717 : (Jvm.Cond.lays "LockTurns$Gate" "LockTurns$Gate" "seenThrough" "I") ∈ lw_all := lw_g (lw_at lw_m3 155 rfl) rfl
theorem q718 : (Jvm.Cond.soleField "LockTurns$Gate" "seenThrough") ∈ lw_all := lw_g (lw_at lw_m3 156 rfl) rfl
theorem q719 : (Jvm.Cond.laysFinal "LockTurns$Gate" "LockTurns$Gate" "many" "[I") ∈ lw_all := lw_g (lw_at lw_m3 157 rfl) rfl
theorem q720 : (Jvm.Cond.soleField "LockTurns$Gate" "many") ∈ lw_all := lw_g (lw_at lw_m3 158 rfl) rfl
theorem q721 : (Jvm.Cond.superclass "LockTurns$Gate" "java/lang/Object") ∈ lw_all := lw_g (lw_at lw_m3 159 rfl) rfl
theorem in_X2 : ∀ w ∈ wsX20, w ∈ lw_all := lw_in wsX20 [709, 711, 713, 715, 717, 719] (by decide +kernel) (by decide +kernel)
/-! LockTurns$Image -/
set_option maxRecDepth 100000
def RX3 : String := "LockTurns$Image"
def TX3 : u_T := fun k => match k with
  | 0 => ("LockTurns$Image", "told", "LLockTurns$Told;", true)
  | 1 => ("LockTurns$Image", "seen", "[[I", true)
  | 2 => ("LockTurns$Image", "seenMany", "I", false)
  | 3 => ("LockTurns$Image", "isKept", "Z", false)
  | _ => ("LockTurns$Image", "this$0", "LLockTurns;", true)
def tyX3 : Nat → FieldType := fun k => match k with
  | 0 => .object "LockTurns$Told"
  | 1 => .array (.array .int)
  | 2 => .int
  | 3 => .boolean
  | _ => .object "LockTurns"
abbrev wsX30 : List Cond := u_ws RX3 TX3 5
theorem nmX3 : ∀ a, a < 5 → ∀ b, b < 5 → a ≠ b → (TX3 a).2.1 ≠ (TX3 b).2.1 := by decide +kernel
theorem tyX3_ok : ∀ k, k < 5 → parseFieldDescriptor (TX3 k).2.2.1 = some (tyX3 k) := by decide +kernel
abbrev cX3_takes : ByteArray := prog_9_method_2_code
def yX3_takes : MethodName := ⟨RX3, "takes", "()V"⟩
def dkwX3_takes_1 : List UInt8 := [180, 0, 24, 184, 0, 35, 42, 42, 180, 0, 3, 180, 0, 39, 181, 0, 43, 177]
abbrev dktX3_takes_1 : List UInt8 := dkwX3_takes_1 ++ []
def dkwX3_takes_0 : List UInt8 := [42, 180, 0, 18, 42, 180, 0, 3, 180, 0, 27, 182, 0, 30, 42, 180, 0, 3, 180, 0, 34, 42]
abbrev dktX3_takes_0 : List UInt8 := dkwX3_takes_0 ++ dktX3_takes_1
theorem dksX3_takes_0 : cX3_takes.data.toList.drop 0 = dktX3_takes_0 := by decide +kernel
theorem dksX3_takes_1 : cX3_takes.data.toList.drop 22 = dktX3_takes_1 := dk_seg dksX3_takes_0 22 rfl rfl
theorem dX3_takes_0 : decode cX3_takes 0 = .ok (.aload_n 0, 1) := dk_42 (dk_at dksX3_takes_0 0 rfl rfl)
theorem dX3_takes_1 : decode cX3_takes 1 = .ok (.getfield 18, 3) := dk_180 0 18 (dk_at dksX3_takes_0 1 rfl rfl)
theorem dX3_takes_4 : decode cX3_takes 4 = .ok (.aload_n 0, 1) := dk_42 (dk_at dksX3_takes_0 4 rfl rfl)
theorem dX3_takes_5 : decode cX3_takes 5 = .ok (.getfield 3, 3) := dk_180 0 3 (dk_at dksX3_takes_0 5 rfl rfl)
theorem dX3_takes_8 : decode cX3_takes 8 = .ok (.getfield 27, 3) := dk_180 0 27 (dk_at dksX3_takes_0 8 rfl rfl)
theorem dX3_takes_11 : decode cX3_takes 11 = .ok (.invokevirtual 30, 3) := dk_182 0 30 (dk_at dksX3_takes_0 11 rfl rfl)
theorem dX3_takes_14 : decode cX3_takes 14 = .ok (.aload_n 0, 1) := dk_42 (dk_at dksX3_takes_0 14 rfl rfl)
theorem dX3_takes_15 : decode cX3_takes 15 = .ok (.getfield 3, 3) := dk_180 0 3 (dk_at dksX3_takes_0 15 rfl rfl)
theorem dX3_takes_18 : decode cX3_takes 18 = .ok (.getfield 34, 3) := dk_180 0 34 (dk_at dksX3_takes_0 18 rfl rfl)
theorem dX3_takes_21 : decode cX3_takes 21 = .ok (.aload_n 0, 1) := dk_42 (dk_at dksX3_takes_0 21 rfl rfl)
theorem dX3_takes_22 : decode cX3_takes 22 = .ok (.getfield 24, 3) := dk_180 0 24 (dk_at dksX3_takes_1 0 rfl rfl)
theorem dX3_takes_25 : decode cX3_takes 25 = .ok (.invokestatic 35, 3) := dk_184 0 35 (dk_at dksX3_takes_1 3 rfl rfl)
theorem dX3_takes_28 : decode cX3_takes 28 = .ok (.aload_n 0, 1) := dk_42 (dk_at dksX3_takes_1 6 rfl rfl)
theorem dX3_takes_29 : decode cX3_takes 29 = .ok (.aload_n 0, 1) := dk_42 (dk_at dksX3_takes_1 7 rfl rfl)
theorem dX3_takes_30 : decode cX3_takes 30 = .ok (.getfield 3, 3) := dk_180 0 3 (dk_at dksX3_takes_1 8 rfl rfl)
theorem dX3_takes_33 : decode cX3_takes 33 = .ok (.getfield 39, 3) := dk_180 0 39 (dk_at dksX3_takes_1 11 rfl rfl)
theorem dX3_takes_36 : decode cX3_takes 36 = .ok (.putfield 43, 3) := dk_181 0 43 (dk_at dksX3_takes_1 14 rfl rfl)
theorem dX3_takes_39 : decode cX3_takes 39 = .ok (.return_, 1) := dk_177 (dk_at dksX3_takes_1 17 rfl rfl)
abbrev cX3_gives : ByteArray := prog_9_method_3_code
def yX3_gives : MethodName := ⟨RX3, "gives", "()V"⟩
def dkwX3_gives_1 : List UInt8 := [180, 0, 34, 184, 0, 35, 42, 180, 0, 3, 42, 180, 0, 43, 181, 0, 39, 177]
abbrev dktX3_gives_1 : List UInt8 := dkwX3_gives_1 ++ []
def dkwX3_gives_0 : List UInt8 := [42, 180, 0, 3, 180, 0, 27, 42, 180, 0, 18, 182, 0, 30, 42, 180, 0, 24, 42, 180, 0, 3]
abbrev dktX3_gives_0 : List UInt8 := dkwX3_gives_0 ++ dktX3_gives_1
theorem dksX3_gives_0 : cX3_gives.data.toList.drop 0 = dktX3_gives_0 := by decide +kernel
theorem dksX3_gives_1 : cX3_gives.data.toList.drop 22 = dktX3_gives_1 := dk_seg dksX3_gives_0 22 rfl rfl
theorem dX3_gives_0 : decode cX3_gives 0 = .ok (.aload_n 0, 1) := dk_42 (dk_at dksX3_gives_0 0 rfl rfl)
theorem dX3_gives_1 : decode cX3_gives 1 = .ok (.getfield 3, 3) := dk_180 0 3 (dk_at dksX3_gives_0 1 rfl rfl)
theorem dX3_gives_4 : decode cX3_gives 4 = .ok (.getfield 27, 3) := dk_180 0 27 (dk_at dksX3_gives_0 4 rfl rfl)
theorem dX3_gives_7 : decode cX3_gives 7 = .ok (.aload_n 0, 1) := dk_42 (dk_at dksX3_gives_0 7 rfl rfl)
theorem dX3_gives_8 : decode cX3_gives 8 = .ok (.getfield 18, 3) := dk_180 0 18 (dk_at dksX3_gives_0 8 rfl rfl)
theorem dX3_gives_11 : decode cX3_gives 11 = .ok (.invokevirtual 30, 3) := dk_182 0 30 (dk_at dksX3_gives_0 11 rfl rfl)
theorem dX3_gives_14 : decode cX3_gives 14 = .ok (.aload_n 0, 1) := dk_42 (dk_at dksX3_gives_0 14 rfl rfl)
theorem dX3_gives_15 : decode cX3_gives 15 = .ok (.getfield 24, 3) := dk_180 0 24 (dk_at dksX3_gives_0 15 rfl rfl)
theorem dX3_gives_18 : decode cX3_gives 18 = .ok (.aload_n 0, 1) := dk_42 (dk_at dksX3_gives_0 18 rfl rfl)
theorem dX3_gives_19 : decode cX3_gives 19 = .ok (.getfield 3, 3) := dk_180 0 3 (dk_at dksX3_gives_0 19 rfl rfl)
theorem dX3_gives_22 : decode cX3_gives 22 = .ok (.getfield 34, 3) := dk_180 0 34 (dk_at dksX3_gives_1 0 rfl rfl)
theorem dX3_gives_25 : decode cX3_gives 25 = .ok (.invokestatic 35, 3) := dk_184 0 35 (dk_at dksX3_gives_1 3 rfl rfl)
theorem dX3_gives_28 : decode cX3_gives 28 = .ok (.aload_n 0, 1) := dk_42 (dk_at dksX3_gives_1 6 rfl rfl)
theorem dX3_gives_29 : decode cX3_gives 29 = .ok (.getfield 3, 3) := dk_180 0 3 (dk_at dksX3_gives_1 7 rfl rfl)
theorem dX3_gives_32 : decode cX3_gives 32 = .ok (.aload_n 0, 1) := dk_42 (dk_at dksX3_gives_1 10 rfl rfl)
theorem dX3_gives_33 : decode cX3_gives 33 = .ok (.getfield 43, 3) := dk_180 0 43 (dk_at dksX3_gives_1 11 rfl rfl)
theorem dX3_gives_36 : decode cX3_gives 36 = .ok (.putfield 39, 3) := dk_181 0 39 (dk_at dksX3_gives_1 14 rfl rfl)
theorem dX3_gives_39 : decode cX3_gives 39 = .ok (.return_, 1) := dk_177 (dk_at dksX3_gives_1 17 rfl rfl)
abbrev cX3_init : ByteArray := prog_9_method_1_code
def yX3_init : MethodName := ⟨RX3, "<init>", "(LLockTurns;)V"⟩
def dkwX3_init_1 : List UInt8 := [197, 0, 22, 2, 181, 0, 24, 177]
abbrev dktX3_init_1 : List UInt8 := dkwX3_init_1 ++ []
def dkwX3_init_0 : List UInt8 := [42, 43, 181, 0, 3, 42, 183, 0, 9, 42, 187, 0, 15, 89, 183, 0, 17, 181, 0, 18, 42, 16, 6, 5]
abbrev dktX3_init_0 : List UInt8 := dkwX3_init_0 ++ dktX3_init_1
theorem dksX3_init_0 : cX3_init.data.toList.drop 0 = dktX3_init_0 := by decide +kernel
theorem dksX3_init_1 : cX3_init.data.toList.drop 24 = dktX3_init_1 := dk_seg dksX3_init_0 24 rfl rfl
theorem dX3_init_0 : decode cX3_init 0 = .ok (.aload_n 0, 1) := dk_42 (dk_at dksX3_init_0 0 rfl rfl)
theorem dX3_init_1 : decode cX3_init 1 = .ok (.aload_n 1, 1) := dk_43 (dk_at dksX3_init_0 1 rfl rfl)
theorem dX3_init_2 : decode cX3_init 2 = .ok (.putfield 3, 3) := dk_181 0 3 (dk_at dksX3_init_0 2 rfl rfl)
theorem dX3_init_5 : decode cX3_init 5 = .ok (.aload_n 0, 1) := dk_42 (dk_at dksX3_init_0 5 rfl rfl)
theorem dX3_init_6 : decode cX3_init 6 = .ok (.invokespecial 9, 3) := dk_183 0 9 (dk_at dksX3_init_0 6 rfl rfl)
theorem dX3_init_9 : decode cX3_init 9 = .ok (.aload_n 0, 1) := dk_42 (dk_at dksX3_init_0 9 rfl rfl)
theorem dX3_init_10 : decode cX3_init 10 = .ok (.new 15, 3) := dk_187 0 15 (dk_at dksX3_init_0 10 rfl rfl)
theorem dX3_init_13 : decode cX3_init 13 = .ok (.dup, 1) := dk_89 (dk_at dksX3_init_0 13 rfl rfl)
theorem dX3_init_14 : decode cX3_init 14 = .ok (.invokespecial 17, 3) := dk_183 0 17 (dk_at dksX3_init_0 14 rfl rfl)
theorem dX3_init_17 : decode cX3_init 17 = .ok (.putfield 18, 3) := dk_181 0 18 (dk_at dksX3_init_0 17 rfl rfl)
theorem dX3_init_20 : decode cX3_init 20 = .ok (.aload_n 0, 1) := dk_42 (dk_at dksX3_init_0 20 rfl rfl)
theorem dX3_init_21 : decode cX3_init 21 = .ok (.bipush 6, 2) := dk_16 6 (dk_at dksX3_init_0 21 rfl rfl)
theorem dX3_init_23 : decode cX3_init 23 = .ok (.iconst 2, 1) := dk_5 (dk_at dksX3_init_0 23 rfl rfl)
theorem dX3_init_24 : decode cX3_init 24 = .ok (.multianewarray 22 2, 4) := by decide +kernel
theorem dX3_init_28 : decode cX3_init 28 = .ok (.putfield 24, 3) := dk_181 0 24 (dk_at dksX3_init_1 4 rfl rfl)
theorem dX3_init_31 : decode cX3_init 31 = .ok (.return_, 1) := dk_177 (dk_at dksX3_init_1 7 rfl rfl)
theorem q86 : (Jvm.Cond.initialized "LockTurns$Image") ∈ lw_all := lw_g (lw_at lw_m1 4 rfl) rfl
theorem q667 : (Jvm.Cond.instanceMethod ({ cls := "LockTurns$Image", name := "takes", desc := "()V" } : Jvm.MethodName)) ∈ lw_all := lw_g (lw_at lw_m3 105 rfl) rfl
theorem q668 : (Jvm.Cond.selects "LockTurns$Image" ({ cls := "LockTurns$Image", name := "takes", desc := "()V" } : Jvm.MethodName) ({ cls := "LockTurns$Image", name := "takes", desc := "()V" } : Jvm.MethodName)) ∈ lw_all := lw_g (lw_at lw_m3 106 rfl) rfl
theorem q669 : (Jvm.Cond.code ({ cls := "LockTurns$Image", name := "takes", desc := "()V" } : Jvm.MethodName) prog_9_method_2_code (1 : Nat) (Option.none : Option Jvm.ClassFile.FieldType)) ∈ lw_all := lw_g (lw_at lw_m3 107 rfl) rfl
theorem q670 : (Jvm.Cond.methodLink "LockTurns$Image" (30 : Nat) ({ cls := "LockTurns$Told", name := "takes", desc := "(LLockTurns$Told;)V" } : Jvm.MethodName)) ∈ lw_all := lw_g (lw_at lw_m3 108 rfl) rfl
theorem q671 : (Jvm.Cond.methodLinkNest "LockTurns$Image" (35 : Nat) ({ cls := "LockTurns", name := "copies", desc := "([[I[[I)V" } : Jvm.MethodName) "LockTurns") ∈ lw_tbl := lw_at lw_m3 109 rfl
theorem q679 : (Jvm.Cond.instanceMethod ({ cls := "LockTurns$Image", name := "gives", desc := "()V" } : Jvm.MethodName)) ∈ lw_all := lw_g (lw_at lw_m3 117 rfl) rfl
theorem q680 : (Jvm.Cond.selects "LockTurns$Image" ({ cls := "LockTurns$Image", name := "gives", desc := "()V" } : Jvm.MethodName) ({ cls := "LockTurns$Image", name := "gives", desc := "()V" } : Jvm.MethodName)) ∈ lw_all := lw_g (lw_at lw_m3 118 rfl) rfl
theorem q681 : (Jvm.Cond.code ({ cls := "LockTurns$Image", name := "gives", desc := "()V" } : Jvm.MethodName) prog_9_method_3_code (1 : Nat) (Option.none : Option Jvm.ClassFile.FieldType)) ∈ lw_all := lw_g (lw_at lw_m3 119 rfl) rfl
theorem q725 : (Jvm.Cond.instantiable "LockTurns$Image" (5 : Nat)) ∈ lw_all := lw_g (lw_at lw_m3 163 rfl) rfl
theorem q727 : (Jvm.Cond.instanceMethod ({ cls := "LockTurns$Image", name := "<init>", desc := "(LLockTurns;)V" } : Jvm.MethodName)) ∈ lw_all := lw_g (lw_at lw_m3 165 rfl) rfl
theorem q728 : (Jvm.Cond.code ({ cls := "LockTurns$Image", name := "<init>", desc := "(LLockTurns;)V" } : Jvm.MethodName) prog_9_method_1_code (2 : Nat) (Option.none : Option Jvm.ClassFile.FieldType)) ∈ lw_all := lw_g (lw_at lw_m3 166 rfl) rfl
theorem q729 : (Jvm.Cond.methodLink "LockTurns$Image" (9 : Nat) ({ cls := "java/lang/Object", name := "<init>", desc := "()V" } : Jvm.MethodName)) ∈ lw_all := lw_g (lw_at lw_m3 167 rfl) rfl
theorem q730 : (Jvm.Cond.classLink "LockTurns$Image" (15 : Nat) "LockTurns$Told") ∈ lw_all := lw_g (lw_at lw_m3 168 rfl) rfl
theorem q731 : (Jvm.Cond.methodLinkNest "LockTurns$Image" (17 : Nat) ({ cls := "LockTurns$Told", name := "<init>", desc := "()V" } : Jvm.MethodName) "LockTurns") ∈ lw_tbl := lw_at lw_m3 169 rfl
theorem q732 : (Jvm.Cond.classLink "LockTurns$Image" (22 : Nat) "[[I") ∈ lw_all := lw_g (lw_at lw_m3 170 rfl) rfl
theorem q733 : (Jvm.Cond.fieldLink "LockTurns$Image" (18 : Nat) "LockTurns$Image" "told" "LLockTurns$Told;") ∈ lw_all := lw_g (lw_at lw_m3 171 rfl) rfl
theorem q734 : (Jvm.Cond.fieldLink "LockTurns$Image" (24 : Nat) "LockTurns$Image" "seen" "[[I") ∈ lw_all := lw_g (lw_at lw_m3 172 rfl) rfl
theorem q735 : (Jvm.Cond.fieldLink "LockTurns$Image" (43 : Nat) "LockTurns$Image" "seenMany" "I") ∈ lw_all := lw_g (lw_at lw_m3 173 rfl) rfl
theorem q737 : (Jvm.Cond.fieldLink "LockTurns$Image" (3 : Nat) "LockTurns$Image" "this$0" "LLockTurns;") ∈ lw_all := lw_g (lw_at lw_m3 175 rfl) rfl
theorem q738 : (Jvm.Cond.laysFinal "LockTurns$Image" "LockTurns$Image" "told" "LLockTurns$Told;") ∈ lw_all := lw_g (lw_at lw_m3 176 rfl) rfl
theorem q739 : (Jvm.Cond.soleField "LockTurns$Image" "told") ∈ lw_all := lw_g (lw_at lw_m3 177 rfl) rfl
theorem q740 : (Jvm.Cond.laysFinal "LockTurns$Image" "LockTurns$Image" "seen" "[[I") ∈ lw_all := lw_g (lw_at lw_m3 178 rfl) rfl
theorem q741 : (Jvm.Cond.soleField "LockTurns$Image" "seen") ∈ lw_all := lw_g (lw_at lw_m3 179 rfl) rfl
theorem q742 : (Jvm.Cond.lays "LockTurns$Image" "LockTurns$Image" "seenMany" "I") ∈ lw_all := lw_g (lw_at lw_m3 180 rfl) rfl
theorem q743 : (Jvm.Cond.soleField "LockTurns$Image" "seenMany") ∈ lw_all := lw_g (lw_at lw_m3 181 rfl) rfl
theorem q744 : (Jvm.Cond.lays "LockTurns$Image" "LockTurns$Image" "isKept" "Z") ∈ lw_all := lw_g (lw_at lw_m3 182 rfl) rfl
theorem q745 : (Jvm.Cond.soleField "LockTurns$Image" "isKept") ∈ lw_all := lw_g (lw_at lw_m3 183 rfl) rfl
theorem q746 : (Jvm.Cond.laysFinal "LockTurns$Image" "LockTurns$Image" "this$0" "LLockTurns;") ∈ lw_all := lw_g (lw_at lw_m3 184 rfl) rfl
theorem q747 : (Jvm.Cond.soleField "LockTurns$Image" "this$0") ∈ lw_all := lw_g (lw_at lw_m3 185 rfl) rfl
theorem q748 : (Jvm.Cond.superclass "LockTurns$Image" "java/lang/Object") ∈ lw_all := lw_g (lw_at lw_m3 186 rfl) rfl
theorem q766 : (Jvm.Cond.fieldLinkNest "LockTurns$Image" (27 : Nat) "LockTurns" "now" "LLockTurns$Told;" "LockTurns") ∈ lw_tbl := lw_at lw_m3 204 rfl
theorem q779 : (Jvm.Cond.fieldLinkNest "LockTurns$Image" (34 : Nat) "LockTurns" "seen" "[[I" "LockTurns") ∈ lw_tbl := lw_at lw_m3 217 rfl
theorem q781 : (Jvm.Cond.fieldLinkNest "LockTurns$Image" (39 : Nat) "LockTurns" "seenMany" "I" "LockTurns") ∈ lw_tbl := lw_at lw_m3 219 rfl
theorem in_X3 : ∀ w ∈ wsX30, w ∈ lw_all := lw_in wsX30 [738, 740, 742, 744, 746] (by decide +kernel) (by decide +kernel)
/-! LockTurns$Sheet -/
set_option maxRecDepth 100000
def RX4 : String := "LockTurns$Sheet"
def TX4 : u_T := fun k => match k with
  | 0 => ("LockTurns$Sheet", "row", "Ljava/lang/Object;", false)
  | _ => ("LockTurns$Sheet", "size", "I", false)
def tyX4 : Nat → FieldType := fun k => match k with
  | 0 => .object "java/lang/Object"
  | _ => .int
abbrev wsX40 : List Cond := u_ws RX4 TX4 2
theorem nmX4 : ∀ a, a < 2 → ∀ b, b < 2 → a ≠ b → (TX4 a).2.1 ≠ (TX4 b).2.1 := by decide +kernel
theorem tyX4_ok : ∀ k, k < 2 → parseFieldDescriptor (TX4 k).2.2.1 = some (tyX4 k) := by decide +kernel
abbrev cX4_init : ByteArray := prog_11_method_1_code
def yX4_init : MethodName := ⟨RX4, "<init>", "()V"⟩
theorem dX4_init_0 : decode cX4_init 0 = .ok (.aload_n 0, 1) := by decide +kernel
theorem dX4_init_1 : decode cX4_init 1 = .ok (.invokespecial 1, 3) := by decide +kernel
theorem dX4_init_4 : decode cX4_init 4 = .ok (.return_, 1) := by decide +kernel
theorem q87 : (Jvm.Cond.initialized "LockTurns$Sheet") ∈ lw_all := lw_g (lw_at lw_m1 5 rfl) rfl
theorem q751 : (Jvm.Cond.instantiable "LockTurns$Sheet" (2 : Nat)) ∈ lw_all := lw_g (lw_at lw_m3 189 rfl) rfl
theorem q753 : (Jvm.Cond.instanceMethod ({ cls := "LockTurns$Sheet", name := "<init>", desc := "()V" } : Jvm.MethodName)) ∈ lw_all := lw_g (lw_at lw_m3 191 rfl) rfl
theorem q754 : (Jvm.Cond.code ({ cls := "LockTurns$Sheet", name := "<init>", desc := "()V" } : Jvm.MethodName) prog_11_method_1_code (1 : Nat) (Option.none : Option Jvm.ClassFile.FieldType)) ∈ lw_all := lw_g (lw_at lw_m3 192 rfl) rfl
theorem q755 : (Jvm.Cond.methodLink "LockTurns$Sheet" (1 : Nat) ({ cls := "java/lang/Object", name := "<init>", desc := "()V" } : Jvm.MethodName)) ∈ lw_all := lw_g (lw_at lw_m3 193 rfl) rfl
theorem q758 : (Jvm.Cond.lays "LockTurns$Sheet" "LockTurns$Sheet" "row" "Ljava/lang/Object;") ∈ lw_all := lw_g (lw_at lw_m3 196 rfl) rfl
theorem q759 : (Jvm.Cond.soleField "LockTurns$Sheet" "row") ∈ lw_all := lw_g (lw_at lw_m3 197 rfl) rfl
theorem q760 : (Jvm.Cond.lays "LockTurns$Sheet" "LockTurns$Sheet" "size" "I") ∈ lw_all := lw_g (lw_at lw_m3 198 rfl) rfl
theorem q761 : (Jvm.Cond.soleField "LockTurns$Sheet" "size") ∈ lw_all := lw_g (lw_at lw_m3 199 rfl) rfl
theorem q762 : (Jvm.Cond.superclass "LockTurns$Sheet" "java/lang/Object") ∈ lw_all := lw_g (lw_at lw_m3 200 rfl) rfl
theorem in_X4 : ∀ w ∈ wsX40, w ∈ lw_all := lw_in wsX40 [758, 760] (by decide +kernel) (by decide +kernel)
/-! LockTurns$Reader -/
set_option maxRecDepth 100000
def RX6 : String := "LockTurns$Reader"
def TX6 : u_T := fun k => match k with
  | 0 => ("LockTurns$Reader", "t", "[B", true)
  | 1 => ("LockTurns$Reader", "told", "LLockTurns$Told;", true)
  | 2 => ("LockTurns$Reader", "boatMany", "I", false)
  | 3 => ("LockTurns$Reader", "once", "I", false)
  | 4 => ("LockTurns$Reader", "highBoat", "I", false)
  | 5 => ("LockTurns$Reader", "lines", "I", false)
  | 6 => ("LockTurns$Reader", "from", "I", false)
  | 7 => ("LockTurns$Reader", "to", "I", false)
  | 8 => ("LockTurns$Reader", "kind", "I", false)
  | _ => ("LockTurns$Reader", "value", "I", false)
def tyX6 : Nat → FieldType := fun k => match k with
  | 0 => .array .byte
  | 1 => .object "LockTurns$Told"
  | 2 => .int
  | 3 => .int
  | 4 => .int
  | 5 => .int
  | 6 => .int
  | 7 => .int
  | 8 => .int
  | _ => .int
abbrev wsX60 : List Cond := u_ws RX6 TX6 10
theorem nmX6 : ∀ a, a < 10 → ∀ b, b < 10 → a ≠ b → (TX6 a).2.1 ≠ (TX6 b).2.1 := by decide +kernel
theorem tyX6_ok : ∀ k, k < 10 → parseFieldDescriptor (TX6 k).2.2.1 = some (tyX6 k) := by decide +kernel
abbrev cX6_init : ByteArray := prog_10_method_1_code
def yX6_init : MethodName := ⟨RX6, "<init>", "([B)V"⟩
def dkwX6_init_1 : List UInt8 := [181, 0, 22, 42, 182, 0, 26, 177]
abbrev dktX6_init_1 : List UInt8 := dkwX6_init_1 ++ []
def dkwX6_init_0 : List UInt8 := [42, 183, 0, 3, 42, 187, 0, 9, 89, 183, 0, 11, 181, 0, 12, 42, 16, 252, 181, 0, 18, 42, 43]
abbrev dktX6_init_0 : List UInt8 := dkwX6_init_0 ++ dktX6_init_1
theorem dksX6_init_0 : cX6_init.data.toList.drop 0 = dktX6_init_0 := by decide +kernel
theorem dksX6_init_1 : cX6_init.data.toList.drop 23 = dktX6_init_1 := dk_seg dksX6_init_0 23 rfl rfl
theorem dX6_init_0 : decode cX6_init 0 = .ok (.aload_n 0, 1) := dk_42 (dk_at dksX6_init_0 0 rfl rfl)
theorem dX6_init_1 : decode cX6_init 1 = .ok (.invokespecial 3, 3) := dk_183 0 3 (dk_at dksX6_init_0 1 rfl rfl)
theorem dX6_init_4 : decode cX6_init 4 = .ok (.aload_n 0, 1) := dk_42 (dk_at dksX6_init_0 4 rfl rfl)
theorem dX6_init_5 : decode cX6_init 5 = .ok (.new 9, 3) := dk_187 0 9 (dk_at dksX6_init_0 5 rfl rfl)
theorem dX6_init_8 : decode cX6_init 8 = .ok (.dup, 1) := dk_89 (dk_at dksX6_init_0 8 rfl rfl)
theorem dX6_init_9 : decode cX6_init 9 = .ok (.invokespecial 11, 3) := dk_183 0 11 (dk_at dksX6_init_0 9 rfl rfl)
theorem dX6_init_12 : decode cX6_init 12 = .ok (.putfield 12, 3) := dk_181 0 12 (dk_at dksX6_init_0 12 rfl rfl)
theorem dX6_init_15 : decode cX6_init 15 = .ok (.aload_n 0, 1) := dk_42 (dk_at dksX6_init_0 15 rfl rfl)
theorem dX6_init_16 : decode cX6_init 16 = .ok (.bipush (-4), 2) := dk_16 252 (dk_at dksX6_init_0 16 rfl rfl)
theorem dX6_init_18 : decode cX6_init 18 = .ok (.putfield 18, 3) := dk_181 0 18 (dk_at dksX6_init_0 18 rfl rfl)
theorem dX6_init_21 : decode cX6_init 21 = .ok (.aload_n 0, 1) := dk_42 (dk_at dksX6_init_0 21 rfl rfl)
theorem dX6_init_22 : decode cX6_init 22 = .ok (.aload_n 1, 1) := dk_43 (dk_at dksX6_init_0 22 rfl rfl)
theorem dX6_init_23 : decode cX6_init 23 = .ok (.putfield 22, 3) := dk_181 0 22 (dk_at dksX6_init_1 0 rfl rfl)
theorem dX6_init_26 : decode cX6_init 26 = .ok (.aload_n 0, 1) := dk_42 (dk_at dksX6_init_1 3 rfl rfl)
theorem dX6_init_27 : decode cX6_init 27 = .ok (.invokevirtual 26, 3) := dk_182 0 26 (dk_at dksX6_init_1 4 rfl rfl)
theorem dX6_init_30 : decode cX6_init 30 = .ok (.return_, 1) := dk_177 (dk_at dksX6_init_1 7 rfl rfl)
abbrev cX6_next : ByteArray := prog_10_method_5_code
def yX6_next : MethodName := ⟨RX6, "next", "()V"⟩
def dkwX6_next_12 : List UInt8 := [160, 0, 7, 4, 167, 0, 4, 3, 4, 182, 0, 72, 42, 6, 181, 0, 37, 177]
abbrev dktX6_next_12 : List UInt8 := dkwX6_next_12 ++ []
def dkwX6_next_11 : List UInt8 := [163, 0, 7, 4, 167, 0, 4, 3, 4, 182, 0, 72, 42, 5, 181, 0, 37, 167, 0, 24, 42, 27, 16, 59]
abbrev dktX6_next_11 : List UInt8 := dkwX6_next_11 ++ dktX6_next_12
def dkwX6_next_10 : List UInt8 := [180, 0, 46, 4, 96, 181, 0, 46, 167, 255, 182, 42, 42, 180, 0, 46, 42, 180, 0, 31, 100, 5]
abbrev dktX6_next_10 : List UInt8 := dkwX6_next_10 ++ dktX6_next_11
def dkwX6_next_9 : List UInt8 := [180, 0, 46, 182, 0, 53, 96, 16, 48, 100, 167, 0, 7, 42, 180, 0, 57, 181, 0, 57, 42, 89]
abbrev dktX6_next_9 : List UInt8 := dkwX6_next_9 ++ dktX6_next_10
def dkwX6_next_8 : List UInt8 := [42, 42, 180, 0, 46, 42, 180, 0, 31, 100, 5, 162, 0, 25, 16, 10, 42, 180, 0, 57, 104, 42, 42]
abbrev dktX6_next_8 : List UInt8 := dkwX6_next_8 ++ dktX6_next_9
def dkwX6_next_7 : List UInt8 := [181, 0, 57, 42, 42, 180, 0, 46, 182, 0, 53, 133, 20, 0, 68, 20, 0, 70, 184, 0, 64, 153, 0, 59]
abbrev dktX6_next_7 : List UInt8 := dkwX6_next_7 ++ dktX6_next_8
def dkwX6_next_6 : List UInt8 := [20, 0, 68, 20, 0, 70, 184, 0, 64, 153, 0, 124, 42, 42, 180, 0, 31, 181, 0, 46, 42, 3]
abbrev dktX6_next_6 : List UInt8 := dkwX6_next_6 ++ dktX6_next_7
def dkwX6_next_5 : List UInt8 := [42, 89, 180, 0, 46, 4, 96, 181, 0, 46, 167, 255, 225, 42, 4, 181, 0, 37, 167, 0, 159, 27, 133]
abbrev dktX6_next_5 : List UInt8 := dkwX6_next_5 ++ dktX6_next_6
def dkwX6_next_4 : List UInt8 := [153, 0, 45, 42, 42, 180, 0, 46, 182, 0, 53, 133, 20, 0, 60, 20, 0, 62, 184, 0, 64, 153, 0, 16]
abbrev dktX6_next_4 : List UInt8 := dkwX6_next_4 ++ dktX6_next_5
def dkwX6_next_3 : List UInt8 := [181, 0, 46, 42, 3, 181, 0, 37, 167, 0, 215, 27, 133, 20, 0, 60, 20, 0, 62, 184, 0, 64]
abbrev dktX6_next_3 : List UInt8 := dkwX6_next_3 ++ dktX6_next_4
def dkwX6_next_2 : List UInt8 := [180, 0, 31, 4, 96, 181, 0, 46, 42, 27, 181, 0, 57, 27, 16, 252, 160, 0, 19, 42, 42, 180, 0, 31]
abbrev dktX6_next_2 : List UInt8 := dkwX6_next_2 ++ dktX6_next_3
def dkwX6_next_1 : List UInt8 := [180, 0, 31, 4, 96, 181, 0, 31, 167, 255, 233, 42, 42, 180, 0, 31, 182, 0, 53, 60, 42, 42]
abbrev dktX6_next_1 : List UInt8 := dkwX6_next_1 ++ dktX6_next_2
def dkwX6_next_0 : List UInt8 := [42, 42, 180, 0, 46, 181, 0, 31, 42, 42, 180, 0, 31, 182, 0, 53, 16, 32, 160, 0, 16, 42, 89]
abbrev dktX6_next_0 : List UInt8 := dkwX6_next_0 ++ dktX6_next_1
theorem dksX6_next_0 : cX6_next.data.toList.drop 0 = dktX6_next_0 := by decide +kernel
theorem dksX6_next_1 : cX6_next.data.toList.drop 23 = dktX6_next_1 := dk_seg dksX6_next_0 23 rfl rfl
theorem dksX6_next_2 : cX6_next.data.toList.drop 45 = dktX6_next_2 := dk_seg dksX6_next_1 22 rfl rfl
theorem dksX6_next_3 : cX6_next.data.toList.drop 69 = dktX6_next_3 := dk_seg dksX6_next_2 24 rfl rfl
theorem dksX6_next_4 : cX6_next.data.toList.drop 91 = dktX6_next_4 := dk_seg dksX6_next_3 22 rfl rfl
theorem dksX6_next_5 : cX6_next.data.toList.drop 115 = dktX6_next_5 := dk_seg dksX6_next_4 24 rfl rfl
theorem dksX6_next_6 : cX6_next.data.toList.drop 138 = dktX6_next_6 := dk_seg dksX6_next_5 23 rfl rfl
theorem dksX6_next_7 : cX6_next.data.toList.drop 160 = dktX6_next_7 := dk_seg dksX6_next_6 22 rfl rfl
theorem dksX6_next_8 : cX6_next.data.toList.drop 184 = dktX6_next_8 := dk_seg dksX6_next_7 24 rfl rfl
theorem dksX6_next_9 : cX6_next.data.toList.drop 207 = dktX6_next_9 := dk_seg dksX6_next_8 23 rfl rfl
theorem dksX6_next_10 : cX6_next.data.toList.drop 229 = dktX6_next_10 := dk_seg dksX6_next_9 22 rfl rfl
theorem dksX6_next_11 : cX6_next.data.toList.drop 251 = dktX6_next_11 := dk_seg dksX6_next_10 22 rfl rfl
theorem dksX6_next_12 : cX6_next.data.toList.drop 275 = dktX6_next_12 := dk_seg dksX6_next_11 24 rfl rfl
theorem dX6_next_0 : decode cX6_next 0 = .ok (.aload_n 0, 1) := dk_42 (dk_at dksX6_next_0 0 rfl rfl)
theorem dX6_next_1 : decode cX6_next 1 = .ok (.aload_n 0, 1) := dk_42 (dk_at dksX6_next_0 1 rfl rfl)
theorem dX6_next_2 : decode cX6_next 2 = .ok (.getfield 46, 3) := dk_180 0 46 (dk_at dksX6_next_0 2 rfl rfl)
theorem dX6_next_5 : decode cX6_next 5 = .ok (.putfield 31, 3) := dk_181 0 31 (dk_at dksX6_next_0 5 rfl rfl)
theorem dX6_next_8 : decode cX6_next 8 = .ok (.aload_n 0, 1) := dk_42 (dk_at dksX6_next_0 8 rfl rfl)
theorem dX6_next_9 : decode cX6_next 9 = .ok (.aload_n 0, 1) := dk_42 (dk_at dksX6_next_0 9 rfl rfl)
theorem dX6_next_10 : decode cX6_next 10 = .ok (.getfield 31, 3) := dk_180 0 31 (dk_at dksX6_next_0 10 rfl rfl)
theorem dX6_next_13 : decode cX6_next 13 = .ok (.invokevirtual 53, 3) := dk_182 0 53 (dk_at dksX6_next_0 13 rfl rfl)
theorem dX6_next_16 : decode cX6_next 16 = .ok (.bipush 32, 2) := dk_16 32 (dk_at dksX6_next_0 16 rfl rfl)
theorem dX6_next_18 : decode cX6_next 18 = .ok (.if_icmp .ne 16, 3) := dk_160 0 16 (dk_at dksX6_next_0 18 rfl rfl)
theorem dX6_next_21 : decode cX6_next 21 = .ok (.aload_n 0, 1) := dk_42 (dk_at dksX6_next_0 21 rfl rfl)
theorem dX6_next_22 : decode cX6_next 22 = .ok (.dup, 1) := dk_89 (dk_at dksX6_next_0 22 rfl rfl)
theorem dX6_next_23 : decode cX6_next 23 = .ok (.getfield 31, 3) := dk_180 0 31 (dk_at dksX6_next_1 0 rfl rfl)
theorem dX6_next_26 : decode cX6_next 26 = .ok (.iconst 1, 1) := dk_4 (dk_at dksX6_next_1 3 rfl rfl)
theorem dX6_next_27 : decode cX6_next 27 = .ok (.iadd, 1) := dk_96 (dk_at dksX6_next_1 4 rfl rfl)
theorem dX6_next_28 : decode cX6_next 28 = .ok (.putfield 31, 3) := dk_181 0 31 (dk_at dksX6_next_1 5 rfl rfl)
theorem dX6_next_31 : decode cX6_next 31 = .ok (.goto (-23), 3) := dk_167 255 233 (dk_at dksX6_next_1 8 rfl rfl)
theorem dX6_next_34 : decode cX6_next 34 = .ok (.aload_n 0, 1) := dk_42 (dk_at dksX6_next_1 11 rfl rfl)
theorem dX6_next_35 : decode cX6_next 35 = .ok (.aload_n 0, 1) := dk_42 (dk_at dksX6_next_1 12 rfl rfl)
theorem dX6_next_36 : decode cX6_next 36 = .ok (.getfield 31, 3) := dk_180 0 31 (dk_at dksX6_next_1 13 rfl rfl)
theorem dX6_next_39 : decode cX6_next 39 = .ok (.invokevirtual 53, 3) := dk_182 0 53 (dk_at dksX6_next_1 16 rfl rfl)
theorem dX6_next_42 : decode cX6_next 42 = .ok (.istore_n 1, 1) := dk_60 (dk_at dksX6_next_1 19 rfl rfl)
theorem dX6_next_43 : decode cX6_next 43 = .ok (.aload_n 0, 1) := dk_42 (dk_at dksX6_next_1 20 rfl rfl)
theorem dX6_next_44 : decode cX6_next 44 = .ok (.aload_n 0, 1) := dk_42 (dk_at dksX6_next_1 21 rfl rfl)
theorem dX6_next_45 : decode cX6_next 45 = .ok (.getfield 31, 3) := dk_180 0 31 (dk_at dksX6_next_2 0 rfl rfl)
theorem dX6_next_48 : decode cX6_next 48 = .ok (.iconst 1, 1) := dk_4 (dk_at dksX6_next_2 3 rfl rfl)
theorem dX6_next_49 : decode cX6_next 49 = .ok (.iadd, 1) := dk_96 (dk_at dksX6_next_2 4 rfl rfl)
theorem dX6_next_50 : decode cX6_next 50 = .ok (.putfield 46, 3) := dk_181 0 46 (dk_at dksX6_next_2 5 rfl rfl)
theorem dX6_next_53 : decode cX6_next 53 = .ok (.aload_n 0, 1) := dk_42 (dk_at dksX6_next_2 8 rfl rfl)
theorem dX6_next_54 : decode cX6_next 54 = .ok (.iload_n 1, 1) := dk_27 (dk_at dksX6_next_2 9 rfl rfl)
theorem dX6_next_55 : decode cX6_next 55 = .ok (.putfield 57, 3) := dk_181 0 57 (dk_at dksX6_next_2 10 rfl rfl)
theorem dX6_next_58 : decode cX6_next 58 = .ok (.iload_n 1, 1) := dk_27 (dk_at dksX6_next_2 13 rfl rfl)
theorem dX6_next_59 : decode cX6_next 59 = .ok (.bipush (-4), 2) := dk_16 252 (dk_at dksX6_next_2 14 rfl rfl)
theorem dX6_next_61 : decode cX6_next 61 = .ok (.if_icmp .ne 19, 3) := dk_160 0 19 (dk_at dksX6_next_2 16 rfl rfl)
theorem dX6_next_64 : decode cX6_next 64 = .ok (.aload_n 0, 1) := dk_42 (dk_at dksX6_next_2 19 rfl rfl)
theorem dX6_next_65 : decode cX6_next 65 = .ok (.aload_n 0, 1) := dk_42 (dk_at dksX6_next_2 20 rfl rfl)
theorem dX6_next_66 : decode cX6_next 66 = .ok (.getfield 31, 3) := dk_180 0 31 (dk_at dksX6_next_2 21 rfl rfl)
theorem dX6_next_69 : decode cX6_next 69 = .ok (.putfield 46, 3) := dk_181 0 46 (dk_at dksX6_next_3 0 rfl rfl)
theorem dX6_next_72 : decode cX6_next 72 = .ok (.aload_n 0, 1) := dk_42 (dk_at dksX6_next_3 3 rfl rfl)
theorem dX6_next_73 : decode cX6_next 73 = .ok (.iconst 0, 1) := dk_3 (dk_at dksX6_next_3 4 rfl rfl)
theorem dX6_next_74 : decode cX6_next 74 = .ok (.putfield 37, 3) := dk_181 0 37 (dk_at dksX6_next_3 5 rfl rfl)
theorem dX6_next_77 : decode cX6_next 77 = .ok (.goto 215, 3) := dk_167 0 215 (dk_at dksX6_next_3 8 rfl rfl)
theorem dX6_next_80 : decode cX6_next 80 = .ok (.iload_n 1, 1) := dk_27 (dk_at dksX6_next_3 11 rfl rfl)
theorem dX6_next_81 : decode cX6_next 81 = .ok (.i2l, 1) := dk_133 (dk_at dksX6_next_3 12 rfl rfl)
theorem dX6_next_82 : decode cX6_next 82 = .ok (.ldc2_w 60, 3) := dk_20 0 60 (dk_at dksX6_next_3 13 rfl rfl)
theorem dX6_next_85 : decode cX6_next 85 = .ok (.ldc2_w 62, 3) := dk_20 0 62 (dk_at dksX6_next_3 16 rfl rfl)
theorem dX6_next_88 : decode cX6_next 88 = .ok (.invokestatic 64, 3) := dk_184 0 64 (dk_at dksX6_next_3 19 rfl rfl)
theorem dX6_next_91 : decode cX6_next 91 = .ok (.ifCond .eq 45, 3) := dk_153 0 45 (dk_at dksX6_next_4 0 rfl rfl)
theorem dX6_next_94 : decode cX6_next 94 = .ok (.aload_n 0, 1) := dk_42 (dk_at dksX6_next_4 3 rfl rfl)
theorem dX6_next_95 : decode cX6_next 95 = .ok (.aload_n 0, 1) := dk_42 (dk_at dksX6_next_4 4 rfl rfl)
theorem dX6_next_96 : decode cX6_next 96 = .ok (.getfield 46, 3) := dk_180 0 46 (dk_at dksX6_next_4 5 rfl rfl)
theorem dX6_next_99 : decode cX6_next 99 = .ok (.invokevirtual 53, 3) := dk_182 0 53 (dk_at dksX6_next_4 8 rfl rfl)
theorem dX6_next_102 : decode cX6_next 102 = .ok (.i2l, 1) := dk_133 (dk_at dksX6_next_4 11 rfl rfl)
theorem dX6_next_103 : decode cX6_next 103 = .ok (.ldc2_w 60, 3) := dk_20 0 60 (dk_at dksX6_next_4 12 rfl rfl)
theorem dX6_next_106 : decode cX6_next 106 = .ok (.ldc2_w 62, 3) := dk_20 0 62 (dk_at dksX6_next_4 15 rfl rfl)
theorem dX6_next_109 : decode cX6_next 109 = .ok (.invokestatic 64, 3) := dk_184 0 64 (dk_at dksX6_next_4 18 rfl rfl)
theorem dX6_next_112 : decode cX6_next 112 = .ok (.ifCond .eq 16, 3) := dk_153 0 16 (dk_at dksX6_next_4 21 rfl rfl)
theorem dX6_next_115 : decode cX6_next 115 = .ok (.aload_n 0, 1) := dk_42 (dk_at dksX6_next_5 0 rfl rfl)
theorem dX6_next_116 : decode cX6_next 116 = .ok (.dup, 1) := dk_89 (dk_at dksX6_next_5 1 rfl rfl)
theorem dX6_next_117 : decode cX6_next 117 = .ok (.getfield 46, 3) := dk_180 0 46 (dk_at dksX6_next_5 2 rfl rfl)
theorem dX6_next_120 : decode cX6_next 120 = .ok (.iconst 1, 1) := dk_4 (dk_at dksX6_next_5 5 rfl rfl)
theorem dX6_next_121 : decode cX6_next 121 = .ok (.iadd, 1) := dk_96 (dk_at dksX6_next_5 6 rfl rfl)
theorem dX6_next_122 : decode cX6_next 122 = .ok (.putfield 46, 3) := dk_181 0 46 (dk_at dksX6_next_5 7 rfl rfl)
theorem dX6_next_125 : decode cX6_next 125 = .ok (.goto (-31), 3) := dk_167 255 225 (dk_at dksX6_next_5 10 rfl rfl)
theorem dX6_next_128 : decode cX6_next 128 = .ok (.aload_n 0, 1) := dk_42 (dk_at dksX6_next_5 13 rfl rfl)
theorem dX6_next_129 : decode cX6_next 129 = .ok (.iconst 1, 1) := dk_4 (dk_at dksX6_next_5 14 rfl rfl)
theorem dX6_next_130 : decode cX6_next 130 = .ok (.putfield 37, 3) := dk_181 0 37 (dk_at dksX6_next_5 15 rfl rfl)
theorem dX6_next_133 : decode cX6_next 133 = .ok (.goto 159, 3) := dk_167 0 159 (dk_at dksX6_next_5 18 rfl rfl)
theorem dX6_next_136 : decode cX6_next 136 = .ok (.iload_n 1, 1) := dk_27 (dk_at dksX6_next_5 21 rfl rfl)
theorem dX6_next_137 : decode cX6_next 137 = .ok (.i2l, 1) := dk_133 (dk_at dksX6_next_5 22 rfl rfl)
theorem dX6_next_138 : decode cX6_next 138 = .ok (.ldc2_w 68, 3) := dk_20 0 68 (dk_at dksX6_next_6 0 rfl rfl)
theorem dX6_next_141 : decode cX6_next 141 = .ok (.ldc2_w 70, 3) := dk_20 0 70 (dk_at dksX6_next_6 3 rfl rfl)
theorem dX6_next_144 : decode cX6_next 144 = .ok (.invokestatic 64, 3) := dk_184 0 64 (dk_at dksX6_next_6 6 rfl rfl)
theorem dX6_next_147 : decode cX6_next 147 = .ok (.ifCond .eq 124, 3) := dk_153 0 124 (dk_at dksX6_next_6 9 rfl rfl)
theorem dX6_next_150 : decode cX6_next 150 = .ok (.aload_n 0, 1) := dk_42 (dk_at dksX6_next_6 12 rfl rfl)
theorem dX6_next_151 : decode cX6_next 151 = .ok (.aload_n 0, 1) := dk_42 (dk_at dksX6_next_6 13 rfl rfl)
theorem dX6_next_152 : decode cX6_next 152 = .ok (.getfield 31, 3) := dk_180 0 31 (dk_at dksX6_next_6 14 rfl rfl)
theorem dX6_next_155 : decode cX6_next 155 = .ok (.putfield 46, 3) := dk_181 0 46 (dk_at dksX6_next_6 17 rfl rfl)
theorem dX6_next_158 : decode cX6_next 158 = .ok (.aload_n 0, 1) := dk_42 (dk_at dksX6_next_6 20 rfl rfl)
theorem dX6_next_159 : decode cX6_next 159 = .ok (.iconst 0, 1) := dk_3 (dk_at dksX6_next_6 21 rfl rfl)
theorem dX6_next_160 : decode cX6_next 160 = .ok (.putfield 57, 3) := dk_181 0 57 (dk_at dksX6_next_7 0 rfl rfl)
theorem dX6_next_163 : decode cX6_next 163 = .ok (.aload_n 0, 1) := dk_42 (dk_at dksX6_next_7 3 rfl rfl)
theorem dX6_next_164 : decode cX6_next 164 = .ok (.aload_n 0, 1) := dk_42 (dk_at dksX6_next_7 4 rfl rfl)
theorem dX6_next_165 : decode cX6_next 165 = .ok (.getfield 46, 3) := dk_180 0 46 (dk_at dksX6_next_7 5 rfl rfl)
theorem dX6_next_168 : decode cX6_next 168 = .ok (.invokevirtual 53, 3) := dk_182 0 53 (dk_at dksX6_next_7 8 rfl rfl)
theorem dX6_next_171 : decode cX6_next 171 = .ok (.i2l, 1) := dk_133 (dk_at dksX6_next_7 11 rfl rfl)
theorem dX6_next_172 : decode cX6_next 172 = .ok (.ldc2_w 68, 3) := dk_20 0 68 (dk_at dksX6_next_7 12 rfl rfl)
theorem dX6_next_175 : decode cX6_next 175 = .ok (.ldc2_w 70, 3) := dk_20 0 70 (dk_at dksX6_next_7 15 rfl rfl)
theorem dX6_next_178 : decode cX6_next 178 = .ok (.invokestatic 64, 3) := dk_184 0 64 (dk_at dksX6_next_7 18 rfl rfl)
theorem dX6_next_181 : decode cX6_next 181 = .ok (.ifCond .eq 59, 3) := dk_153 0 59 (dk_at dksX6_next_7 21 rfl rfl)
theorem dX6_next_184 : decode cX6_next 184 = .ok (.aload_n 0, 1) := dk_42 (dk_at dksX6_next_8 0 rfl rfl)
theorem dX6_next_185 : decode cX6_next 185 = .ok (.aload_n 0, 1) := dk_42 (dk_at dksX6_next_8 1 rfl rfl)
theorem dX6_next_186 : decode cX6_next 186 = .ok (.getfield 46, 3) := dk_180 0 46 (dk_at dksX6_next_8 2 rfl rfl)
theorem dX6_next_189 : decode cX6_next 189 = .ok (.aload_n 0, 1) := dk_42 (dk_at dksX6_next_8 5 rfl rfl)
theorem dX6_next_190 : decode cX6_next 190 = .ok (.getfield 31, 3) := dk_180 0 31 (dk_at dksX6_next_8 6 rfl rfl)
theorem dX6_next_193 : decode cX6_next 193 = .ok (.isub, 1) := dk_100 (dk_at dksX6_next_8 9 rfl rfl)
theorem dX6_next_194 : decode cX6_next 194 = .ok (.iconst 2, 1) := dk_5 (dk_at dksX6_next_8 10 rfl rfl)
theorem dX6_next_195 : decode cX6_next 195 = .ok (.if_icmp .ge 25, 3) := dk_162 0 25 (dk_at dksX6_next_8 11 rfl rfl)
theorem dX6_next_198 : decode cX6_next 198 = .ok (.bipush 10, 2) := dk_16 10 (dk_at dksX6_next_8 14 rfl rfl)
theorem dX6_next_200 : decode cX6_next 200 = .ok (.aload_n 0, 1) := dk_42 (dk_at dksX6_next_8 16 rfl rfl)
theorem dX6_next_201 : decode cX6_next 201 = .ok (.getfield 57, 3) := dk_180 0 57 (dk_at dksX6_next_8 17 rfl rfl)
theorem dX6_next_204 : decode cX6_next 204 = .ok (.imul, 1) := dk_104 (dk_at dksX6_next_8 20 rfl rfl)
theorem dX6_next_205 : decode cX6_next 205 = .ok (.aload_n 0, 1) := dk_42 (dk_at dksX6_next_8 21 rfl rfl)
theorem dX6_next_206 : decode cX6_next 206 = .ok (.aload_n 0, 1) := dk_42 (dk_at dksX6_next_8 22 rfl rfl)
theorem dX6_next_207 : decode cX6_next 207 = .ok (.getfield 46, 3) := dk_180 0 46 (dk_at dksX6_next_9 0 rfl rfl)
theorem dX6_next_210 : decode cX6_next 210 = .ok (.invokevirtual 53, 3) := dk_182 0 53 (dk_at dksX6_next_9 3 rfl rfl)
theorem dX6_next_213 : decode cX6_next 213 = .ok (.iadd, 1) := dk_96 (dk_at dksX6_next_9 6 rfl rfl)
theorem dX6_next_214 : decode cX6_next 214 = .ok (.bipush 48, 2) := dk_16 48 (dk_at dksX6_next_9 7 rfl rfl)
theorem dX6_next_216 : decode cX6_next 216 = .ok (.isub, 1) := dk_100 (dk_at dksX6_next_9 9 rfl rfl)
theorem dX6_next_217 : decode cX6_next 217 = .ok (.goto 7, 3) := dk_167 0 7 (dk_at dksX6_next_9 10 rfl rfl)
theorem dX6_next_220 : decode cX6_next 220 = .ok (.aload_n 0, 1) := dk_42 (dk_at dksX6_next_9 13 rfl rfl)
theorem dX6_next_221 : decode cX6_next 221 = .ok (.getfield 57, 3) := dk_180 0 57 (dk_at dksX6_next_9 14 rfl rfl)
theorem dX6_next_224 : decode cX6_next 224 = .ok (.putfield 57, 3) := dk_181 0 57 (dk_at dksX6_next_9 17 rfl rfl)
theorem dX6_next_227 : decode cX6_next 227 = .ok (.aload_n 0, 1) := dk_42 (dk_at dksX6_next_9 20 rfl rfl)
theorem dX6_next_228 : decode cX6_next 228 = .ok (.dup, 1) := dk_89 (dk_at dksX6_next_9 21 rfl rfl)
theorem dX6_next_229 : decode cX6_next 229 = .ok (.getfield 46, 3) := dk_180 0 46 (dk_at dksX6_next_10 0 rfl rfl)
theorem dX6_next_232 : decode cX6_next 232 = .ok (.iconst 1, 1) := dk_4 (dk_at dksX6_next_10 3 rfl rfl)
theorem dX6_next_233 : decode cX6_next 233 = .ok (.iadd, 1) := dk_96 (dk_at dksX6_next_10 4 rfl rfl)
theorem dX6_next_234 : decode cX6_next 234 = .ok (.putfield 46, 3) := dk_181 0 46 (dk_at dksX6_next_10 5 rfl rfl)
theorem dX6_next_237 : decode cX6_next 237 = .ok (.goto (-74), 3) := dk_167 255 182 (dk_at dksX6_next_10 8 rfl rfl)
theorem dX6_next_240 : decode cX6_next 240 = .ok (.aload_n 0, 1) := dk_42 (dk_at dksX6_next_10 11 rfl rfl)
theorem dX6_next_241 : decode cX6_next 241 = .ok (.aload_n 0, 1) := dk_42 (dk_at dksX6_next_10 12 rfl rfl)
theorem dX6_next_242 : decode cX6_next 242 = .ok (.getfield 46, 3) := dk_180 0 46 (dk_at dksX6_next_10 13 rfl rfl)
theorem dX6_next_245 : decode cX6_next 245 = .ok (.aload_n 0, 1) := dk_42 (dk_at dksX6_next_10 16 rfl rfl)
theorem dX6_next_246 : decode cX6_next 246 = .ok (.getfield 31, 3) := dk_180 0 31 (dk_at dksX6_next_10 17 rfl rfl)
theorem dX6_next_249 : decode cX6_next 249 = .ok (.isub, 1) := dk_100 (dk_at dksX6_next_10 20 rfl rfl)
theorem dX6_next_250 : decode cX6_next 250 = .ok (.iconst 2, 1) := dk_5 (dk_at dksX6_next_10 21 rfl rfl)
theorem dX6_next_251 : decode cX6_next 251 = .ok (.if_icmp .gt 7, 3) := dk_163 0 7 (dk_at dksX6_next_11 0 rfl rfl)
theorem dX6_next_254 : decode cX6_next 254 = .ok (.iconst 1, 1) := dk_4 (dk_at dksX6_next_11 3 rfl rfl)
theorem dX6_next_255 : decode cX6_next 255 = .ok (.goto 4, 3) := dk_167 0 4 (dk_at dksX6_next_11 4 rfl rfl)
theorem dX6_next_258 : decode cX6_next 258 = .ok (.iconst 0, 1) := dk_3 (dk_at dksX6_next_11 7 rfl rfl)
theorem dX6_next_259 : decode cX6_next 259 = .ok (.iconst 1, 1) := dk_4 (dk_at dksX6_next_11 8 rfl rfl)
theorem dX6_next_260 : decode cX6_next 260 = .ok (.invokevirtual 72, 3) := dk_182 0 72 (dk_at dksX6_next_11 9 rfl rfl)
theorem dX6_next_263 : decode cX6_next 263 = .ok (.aload_n 0, 1) := dk_42 (dk_at dksX6_next_11 12 rfl rfl)
theorem dX6_next_264 : decode cX6_next 264 = .ok (.iconst 2, 1) := dk_5 (dk_at dksX6_next_11 13 rfl rfl)
theorem dX6_next_265 : decode cX6_next 265 = .ok (.putfield 37, 3) := dk_181 0 37 (dk_at dksX6_next_11 14 rfl rfl)
theorem dX6_next_268 : decode cX6_next 268 = .ok (.goto 24, 3) := dk_167 0 24 (dk_at dksX6_next_11 17 rfl rfl)
theorem dX6_next_271 : decode cX6_next 271 = .ok (.aload_n 0, 1) := dk_42 (dk_at dksX6_next_11 20 rfl rfl)
theorem dX6_next_272 : decode cX6_next 272 = .ok (.iload_n 1, 1) := dk_27 (dk_at dksX6_next_11 21 rfl rfl)
theorem dX6_next_273 : decode cX6_next 273 = .ok (.bipush 59, 2) := dk_16 59 (dk_at dksX6_next_11 22 rfl rfl)
theorem dX6_next_275 : decode cX6_next 275 = .ok (.if_icmp .ne 7, 3) := dk_160 0 7 (dk_at dksX6_next_12 0 rfl rfl)
theorem dX6_next_278 : decode cX6_next 278 = .ok (.iconst 1, 1) := dk_4 (dk_at dksX6_next_12 3 rfl rfl)
theorem dX6_next_279 : decode cX6_next 279 = .ok (.goto 4, 3) := dk_167 0 4 (dk_at dksX6_next_12 4 rfl rfl)
theorem dX6_next_282 : decode cX6_next 282 = .ok (.iconst 0, 1) := dk_3 (dk_at dksX6_next_12 7 rfl rfl)
theorem dX6_next_283 : decode cX6_next 283 = .ok (.iconst 1, 1) := dk_4 (dk_at dksX6_next_12 8 rfl rfl)
theorem dX6_next_284 : decode cX6_next 284 = .ok (.invokevirtual 72, 3) := dk_182 0 72 (dk_at dksX6_next_12 9 rfl rfl)
theorem dX6_next_287 : decode cX6_next 287 = .ok (.aload_n 0, 1) := dk_42 (dk_at dksX6_next_12 12 rfl rfl)
theorem dX6_next_288 : decode cX6_next 288 = .ok (.iconst 3, 1) := dk_6 (dk_at dksX6_next_12 13 rfl rfl)
theorem dX6_next_289 : decode cX6_next 289 = .ok (.putfield 37, 3) := dk_181 0 37 (dk_at dksX6_next_12 14 rfl rfl)
theorem dX6_next_292 : decode cX6_next 292 = .ok (.return_, 1) := dk_177 (dk_at dksX6_next_12 17 rfl rfl)
abbrev cX6_at : ByteArray := prog_10_method_2_code
def yX6_at : MethodName := ⟨RX6, "at", "(I)I"⟩
def dkwX6_at_0 : List UInt8 := [27, 42, 180, 0, 22, 190, 162, 0, 12, 42, 180, 0, 22, 27, 51, 167, 0, 5, 16, 252, 172]
abbrev dktX6_at_0 : List UInt8 := dkwX6_at_0 ++ []
theorem dksX6_at_0 : cX6_at.data.toList.drop 0 = dktX6_at_0 := by decide +kernel
theorem dX6_at_0 : decode cX6_at 0 = .ok (.iload_n 1, 1) := dk_27 (dk_at dksX6_at_0 0 rfl rfl)
theorem dX6_at_1 : decode cX6_at 1 = .ok (.aload_n 0, 1) := dk_42 (dk_at dksX6_at_0 1 rfl rfl)
theorem dX6_at_2 : decode cX6_at 2 = .ok (.getfield 22, 3) := dk_180 0 22 (dk_at dksX6_at_0 2 rfl rfl)
theorem dX6_at_5 : decode cX6_at 5 = .ok (.arraylength, 1) := dk_190 (dk_at dksX6_at_0 5 rfl rfl)
theorem dX6_at_6 : decode cX6_at 6 = .ok (.if_icmp .ge 12, 3) := dk_162 0 12 (dk_at dksX6_at_0 6 rfl rfl)
theorem dX6_at_9 : decode cX6_at 9 = .ok (.aload_n 0, 1) := dk_42 (dk_at dksX6_at_0 9 rfl rfl)
theorem dX6_at_10 : decode cX6_at 10 = .ok (.getfield 22, 3) := dk_180 0 22 (dk_at dksX6_at_0 10 rfl rfl)
theorem dX6_at_13 : decode cX6_at 13 = .ok (.iload_n 1, 1) := dk_27 (dk_at dksX6_at_0 13 rfl rfl)
theorem dX6_at_14 : decode cX6_at 14 = .ok (.baload, 1) := dk_51 (dk_at dksX6_at_0 14 rfl rfl)
theorem dX6_at_15 : decode cX6_at 15 = .ok (.goto 5, 3) := dk_167 0 5 (dk_at dksX6_at_0 15 rfl rfl)
theorem dX6_at_18 : decode cX6_at 18 = .ok (.bipush (-4), 2) := dk_16 252 (dk_at dksX6_at_0 18 rfl rfl)
theorem dX6_at_20 : decode cX6_at 20 = .ok (.ireturn, 1) := dk_172 (dk_at dksX6_at_0 20 rfl rfl)
abbrev cX6_must : ByteArray := prog_10_method_3_code
def yX6_must : MethodName := ⟨RX6, "must", "(ZI)V"⟩
def dkwX6_must_0 : List UInt8 := [27, 154, 0, 16, 187, 0, 29, 89, 28, 42, 180, 0, 31, 183, 0, 34, 191, 177]
abbrev dktX6_must_0 : List UInt8 := dkwX6_must_0 ++ []
theorem dksX6_must_0 : cX6_must.data.toList.drop 0 = dktX6_must_0 := by decide +kernel
theorem dX6_must_0 : decode cX6_must 0 = .ok (.iload_n 1, 1) := dk_27 (dk_at dksX6_must_0 0 rfl rfl)
theorem dX6_must_1 : decode cX6_must 1 = .ok (.ifCond .ne 16, 3) := dk_154 0 16 (dk_at dksX6_must_0 1 rfl rfl)
theorem dX6_must_4 : decode cX6_must 4 = .ok (.new 29, 3) := dk_187 0 29 (dk_at dksX6_must_0 4 rfl rfl)
theorem dX6_must_7 : decode cX6_must 7 = .ok (.dup, 1) := dk_89 (dk_at dksX6_must_0 7 rfl rfl)
theorem dX6_must_8 : decode cX6_must 8 = .ok (.iload_n 2, 1) := dk_28 (dk_at dksX6_must_0 8 rfl rfl)
theorem dX6_must_9 : decode cX6_must 9 = .ok (.aload_n 0, 1) := dk_42 (dk_at dksX6_must_0 9 rfl rfl)
theorem dX6_must_10 : decode cX6_must 10 = .ok (.getfield 31, 3) := dk_180 0 31 (dk_at dksX6_must_0 10 rfl rfl)
theorem dX6_must_13 : decode cX6_must 13 = .ok (.invokespecial 34, 3) := dk_183 0 34 (dk_at dksX6_must_0 13 rfl rfl)
theorem dX6_must_16 : decode cX6_must 16 = .ok (.athrow, 1) := dk_191 (dk_at dksX6_must_0 16 rfl rfl)
theorem dX6_must_17 : decode cX6_must 17 = .ok (.return_, 1) := dk_177 (dk_at dksX6_must_0 17 rfl rfl)
abbrev cX6_all : ByteArray := prog_10_method_12_code
def yX6_all : MethodName := ⟨RX6, "all", "()V"⟩
def dkwX6_all_1 : List UInt8 := [162, 0, 7, 4, 167, 0, 4, 3, 16, 6, 182, 0, 72, 177]
abbrev dktX6_all_1 : List UInt8 := dkwX6_all_1 ++ []
def dkwX6_all_0 : List UInt8 := [42, 180, 0, 37, 153, 0, 10, 42, 182, 0, 141, 167, 255, 245, 42, 42, 180, 0, 18, 42, 180, 0, 88]
abbrev dktX6_all_0 : List UInt8 := dkwX6_all_0 ++ dktX6_all_1
theorem dksX6_all_0 : cX6_all.data.toList.drop 0 = dktX6_all_0 := by decide +kernel
theorem dksX6_all_1 : cX6_all.data.toList.drop 23 = dktX6_all_1 := dk_seg dksX6_all_0 23 rfl rfl
theorem dX6_all_0 : decode cX6_all 0 = .ok (.aload_n 0, 1) := dk_42 (dk_at dksX6_all_0 0 rfl rfl)
theorem dX6_all_1 : decode cX6_all 1 = .ok (.getfield 37, 3) := dk_180 0 37 (dk_at dksX6_all_0 1 rfl rfl)
theorem dX6_all_4 : decode cX6_all 4 = .ok (.ifCond .eq 10, 3) := dk_153 0 10 (dk_at dksX6_all_0 4 rfl rfl)
theorem dX6_all_7 : decode cX6_all 7 = .ok (.aload_n 0, 1) := dk_42 (dk_at dksX6_all_0 7 rfl rfl)
theorem dX6_all_8 : decode cX6_all 8 = .ok (.invokevirtual 141, 3) := dk_182 0 141 (dk_at dksX6_all_0 8 rfl rfl)
theorem dX6_all_11 : decode cX6_all 11 = .ok (.goto (-11), 3) := dk_167 255 245 (dk_at dksX6_all_0 11 rfl rfl)
theorem dX6_all_14 : decode cX6_all 14 = .ok (.aload_n 0, 1) := dk_42 (dk_at dksX6_all_0 14 rfl rfl)
theorem dX6_all_15 : decode cX6_all 15 = .ok (.aload_n 0, 1) := dk_42 (dk_at dksX6_all_0 15 rfl rfl)
theorem dX6_all_16 : decode cX6_all 16 = .ok (.getfield 18, 3) := dk_180 0 18 (dk_at dksX6_all_0 16 rfl rfl)
theorem dX6_all_19 : decode cX6_all 19 = .ok (.aload_n 0, 1) := dk_42 (dk_at dksX6_all_0 19 rfl rfl)
theorem dX6_all_20 : decode cX6_all 20 = .ok (.getfield 88, 3) := dk_180 0 88 (dk_at dksX6_all_0 20 rfl rfl)
theorem dX6_all_23 : decode cX6_all 23 = .ok (.if_icmp .ge 7, 3) := dk_162 0 7 (dk_at dksX6_all_1 0 rfl rfl)
theorem dX6_all_26 : decode cX6_all 26 = .ok (.iconst 1, 1) := dk_4 (dk_at dksX6_all_1 3 rfl rfl)
theorem dX6_all_27 : decode cX6_all 27 = .ok (.goto 4, 3) := dk_167 0 4 (dk_at dksX6_all_1 4 rfl rfl)
theorem dX6_all_30 : decode cX6_all 30 = .ok (.iconst 0, 1) := dk_3 (dk_at dksX6_all_1 7 rfl rfl)
theorem dX6_all_31 : decode cX6_all 31 = .ok (.bipush 6, 2) := dk_16 6 (dk_at dksX6_all_1 8 rfl rfl)
theorem dX6_all_33 : decode cX6_all 33 = .ok (.invokevirtual 72, 3) := dk_182 0 72 (dk_at dksX6_all_1 10 rfl rfl)
theorem dX6_all_36 : decode cX6_all 36 = .ok (.return_, 1) := dk_177 (dk_at dksX6_all_1 13 rfl rfl)
abbrev cX6_line : ByteArray := prog_10_method_11_code
def yX6_line : MethodName := ⟨RX6, "line", "()V"⟩
def dkwX6_line_4 : List UInt8 := [3, 5, 182, 0, 72, 42, 89, 180, 0, 138, 4, 96, 181, 0, 138, 42, 182, 0, 26, 177]
abbrev dktX6_line_4 : List UInt8 := dkwX6_line_4 ++ []
def dkwX6_line_3 : List UInt8 := [182, 0, 131, 167, 0, 8, 42, 27, 182, 0, 135, 42, 42, 180, 0, 37, 6, 160, 0, 7, 4, 167, 0, 4]
abbrev dktX6_line_3 : List UInt8 := dkwX6_line_3 ++ dktX6_line_4
def dkwX6_line_2 : List UInt8 := [178, 0, 128, 190, 162, 0, 7, 4, 167, 0, 4, 3, 5, 182, 0, 72, 27, 4, 163, 0, 11, 42, 27]
abbrev dktX6_line_2 : List UInt8 := dkwX6_line_2 ++ dktX6_line_3
def dkwX6_line_1 : List UInt8 := [190, 162, 0, 21, 42, 178, 0, 128, 27, 50, 182, 0, 84, 154, 0, 9, 132, 1, 1, 167, 255, 233, 42, 27]
abbrev dktX6_line_1 : List UInt8 := dkwX6_line_1 ++ dktX6_line_2
def dkwX6_line_0 : List UInt8 := [42, 42, 180, 0, 37, 4, 160, 0, 7, 4, 167, 0, 4, 3, 5, 182, 0, 72, 3, 60, 27, 178, 0, 128]
abbrev dktX6_line_0 : List UInt8 := dkwX6_line_0 ++ dktX6_line_1
theorem dksX6_line_0 : cX6_line.data.toList.drop 0 = dktX6_line_0 := by decide +kernel
theorem dksX6_line_1 : cX6_line.data.toList.drop 24 = dktX6_line_1 := dk_seg dksX6_line_0 24 rfl rfl
theorem dksX6_line_2 : cX6_line.data.toList.drop 48 = dktX6_line_2 := dk_seg dksX6_line_1 24 rfl rfl
theorem dksX6_line_3 : cX6_line.data.toList.drop 71 = dktX6_line_3 := dk_seg dksX6_line_2 23 rfl rfl
theorem dksX6_line_4 : cX6_line.data.toList.drop 95 = dktX6_line_4 := dk_seg dksX6_line_3 24 rfl rfl
theorem dX6_line_0 : decode cX6_line 0 = .ok (.aload_n 0, 1) := dk_42 (dk_at dksX6_line_0 0 rfl rfl)
theorem dX6_line_1 : decode cX6_line 1 = .ok (.aload_n 0, 1) := dk_42 (dk_at dksX6_line_0 1 rfl rfl)
theorem dX6_line_2 : decode cX6_line 2 = .ok (.getfield 37, 3) := dk_180 0 37 (dk_at dksX6_line_0 2 rfl rfl)
theorem dX6_line_5 : decode cX6_line 5 = .ok (.iconst 1, 1) := dk_4 (dk_at dksX6_line_0 5 rfl rfl)
theorem dX6_line_6 : decode cX6_line 6 = .ok (.if_icmp .ne 7, 3) := dk_160 0 7 (dk_at dksX6_line_0 6 rfl rfl)
theorem dX6_line_9 : decode cX6_line 9 = .ok (.iconst 1, 1) := dk_4 (dk_at dksX6_line_0 9 rfl rfl)
theorem dX6_line_10 : decode cX6_line 10 = .ok (.goto 4, 3) := dk_167 0 4 (dk_at dksX6_line_0 10 rfl rfl)
theorem dX6_line_13 : decode cX6_line 13 = .ok (.iconst 0, 1) := dk_3 (dk_at dksX6_line_0 13 rfl rfl)
theorem dX6_line_14 : decode cX6_line 14 = .ok (.iconst 2, 1) := dk_5 (dk_at dksX6_line_0 14 rfl rfl)
theorem dX6_line_15 : decode cX6_line 15 = .ok (.invokevirtual 72, 3) := dk_182 0 72 (dk_at dksX6_line_0 15 rfl rfl)
theorem dX6_line_18 : decode cX6_line 18 = .ok (.iconst 0, 1) := dk_3 (dk_at dksX6_line_0 18 rfl rfl)
theorem dX6_line_19 : decode cX6_line 19 = .ok (.istore_n 1, 1) := dk_60 (dk_at dksX6_line_0 19 rfl rfl)
theorem dX6_line_20 : decode cX6_line 20 = .ok (.iload_n 1, 1) := dk_27 (dk_at dksX6_line_0 20 rfl rfl)
theorem dX6_line_21 : decode cX6_line 21 = .ok (.getstatic 128, 3) := dk_178 0 128 (dk_at dksX6_line_0 21 rfl rfl)
theorem dX6_line_24 : decode cX6_line 24 = .ok (.arraylength, 1) := dk_190 (dk_at dksX6_line_1 0 rfl rfl)
theorem dX6_line_25 : decode cX6_line 25 = .ok (.if_icmp .ge 21, 3) := dk_162 0 21 (dk_at dksX6_line_1 1 rfl rfl)
theorem dX6_line_28 : decode cX6_line 28 = .ok (.aload_n 0, 1) := dk_42 (dk_at dksX6_line_1 4 rfl rfl)
theorem dX6_line_29 : decode cX6_line 29 = .ok (.getstatic 128, 3) := dk_178 0 128 (dk_at dksX6_line_1 5 rfl rfl)
theorem dX6_line_32 : decode cX6_line 32 = .ok (.iload_n 1, 1) := dk_27 (dk_at dksX6_line_1 8 rfl rfl)
theorem dX6_line_33 : decode cX6_line 33 = .ok (.aaload, 1) := dk_50 (dk_at dksX6_line_1 9 rfl rfl)
theorem dX6_line_34 : decode cX6_line 34 = .ok (.invokevirtual 84, 3) := dk_182 0 84 (dk_at dksX6_line_1 10 rfl rfl)
theorem dX6_line_37 : decode cX6_line 37 = .ok (.ifCond .ne 9, 3) := dk_154 0 9 (dk_at dksX6_line_1 13 rfl rfl)
theorem dX6_line_40 : decode cX6_line 40 = .ok (.iinc 1 1, 3) := dk_132 1 1 (dk_at dksX6_line_1 16 rfl rfl)
theorem dX6_line_43 : decode cX6_line 43 = .ok (.goto (-23), 3) := dk_167 255 233 (dk_at dksX6_line_1 19 rfl rfl)
theorem dX6_line_46 : decode cX6_line 46 = .ok (.aload_n 0, 1) := dk_42 (dk_at dksX6_line_1 22 rfl rfl)
theorem dX6_line_47 : decode cX6_line 47 = .ok (.iload_n 1, 1) := dk_27 (dk_at dksX6_line_1 23 rfl rfl)
theorem dX6_line_48 : decode cX6_line 48 = .ok (.getstatic 128, 3) := dk_178 0 128 (dk_at dksX6_line_2 0 rfl rfl)
theorem dX6_line_51 : decode cX6_line 51 = .ok (.arraylength, 1) := dk_190 (dk_at dksX6_line_2 3 rfl rfl)
theorem dX6_line_52 : decode cX6_line 52 = .ok (.if_icmp .ge 7, 3) := dk_162 0 7 (dk_at dksX6_line_2 4 rfl rfl)
theorem dX6_line_55 : decode cX6_line 55 = .ok (.iconst 1, 1) := dk_4 (dk_at dksX6_line_2 7 rfl rfl)
theorem dX6_line_56 : decode cX6_line 56 = .ok (.goto 4, 3) := dk_167 0 4 (dk_at dksX6_line_2 8 rfl rfl)
theorem dX6_line_59 : decode cX6_line 59 = .ok (.iconst 0, 1) := dk_3 (dk_at dksX6_line_2 11 rfl rfl)
theorem dX6_line_60 : decode cX6_line 60 = .ok (.iconst 2, 1) := dk_5 (dk_at dksX6_line_2 12 rfl rfl)
theorem dX6_line_61 : decode cX6_line 61 = .ok (.invokevirtual 72, 3) := dk_182 0 72 (dk_at dksX6_line_2 13 rfl rfl)
theorem dX6_line_64 : decode cX6_line 64 = .ok (.iload_n 1, 1) := dk_27 (dk_at dksX6_line_2 16 rfl rfl)
theorem dX6_line_65 : decode cX6_line 65 = .ok (.iconst 1, 1) := dk_4 (dk_at dksX6_line_2 17 rfl rfl)
theorem dX6_line_66 : decode cX6_line 66 = .ok (.if_icmp .gt 11, 3) := dk_163 0 11 (dk_at dksX6_line_2 18 rfl rfl)
theorem dX6_line_69 : decode cX6_line 69 = .ok (.aload_n 0, 1) := dk_42 (dk_at dksX6_line_2 21 rfl rfl)
theorem dX6_line_70 : decode cX6_line 70 = .ok (.iload_n 1, 1) := dk_27 (dk_at dksX6_line_2 22 rfl rfl)
theorem dX6_line_71 : decode cX6_line 71 = .ok (.invokevirtual 131, 3) := dk_182 0 131 (dk_at dksX6_line_3 0 rfl rfl)
theorem dX6_line_74 : decode cX6_line 74 = .ok (.goto 8, 3) := dk_167 0 8 (dk_at dksX6_line_3 3 rfl rfl)
theorem dX6_line_77 : decode cX6_line 77 = .ok (.aload_n 0, 1) := dk_42 (dk_at dksX6_line_3 6 rfl rfl)
theorem dX6_line_78 : decode cX6_line 78 = .ok (.iload_n 1, 1) := dk_27 (dk_at dksX6_line_3 7 rfl rfl)
theorem dX6_line_79 : decode cX6_line 79 = .ok (.invokevirtual 135, 3) := dk_182 0 135 (dk_at dksX6_line_3 8 rfl rfl)
theorem dX6_line_82 : decode cX6_line 82 = .ok (.aload_n 0, 1) := dk_42 (dk_at dksX6_line_3 11 rfl rfl)
theorem dX6_line_83 : decode cX6_line 83 = .ok (.aload_n 0, 1) := dk_42 (dk_at dksX6_line_3 12 rfl rfl)
theorem dX6_line_84 : decode cX6_line 84 = .ok (.getfield 37, 3) := dk_180 0 37 (dk_at dksX6_line_3 13 rfl rfl)
theorem dX6_line_87 : decode cX6_line 87 = .ok (.iconst 3, 1) := dk_6 (dk_at dksX6_line_3 16 rfl rfl)
theorem dX6_line_88 : decode cX6_line 88 = .ok (.if_icmp .ne 7, 3) := dk_160 0 7 (dk_at dksX6_line_3 17 rfl rfl)
theorem dX6_line_91 : decode cX6_line 91 = .ok (.iconst 1, 1) := dk_4 (dk_at dksX6_line_3 20 rfl rfl)
theorem dX6_line_92 : decode cX6_line 92 = .ok (.goto 4, 3) := dk_167 0 4 (dk_at dksX6_line_3 21 rfl rfl)
theorem dX6_line_95 : decode cX6_line 95 = .ok (.iconst 0, 1) := dk_3 (dk_at dksX6_line_4 0 rfl rfl)
theorem dX6_line_96 : decode cX6_line 96 = .ok (.iconst 2, 1) := dk_5 (dk_at dksX6_line_4 1 rfl rfl)
theorem dX6_line_97 : decode cX6_line 97 = .ok (.invokevirtual 72, 3) := dk_182 0 72 (dk_at dksX6_line_4 2 rfl rfl)
theorem dX6_line_100 : decode cX6_line 100 = .ok (.aload_n 0, 1) := dk_42 (dk_at dksX6_line_4 5 rfl rfl)
theorem dX6_line_101 : decode cX6_line 101 = .ok (.dup, 1) := dk_89 (dk_at dksX6_line_4 6 rfl rfl)
theorem dX6_line_102 : decode cX6_line 102 = .ok (.getfield 138, 3) := dk_180 0 138 (dk_at dksX6_line_4 7 rfl rfl)
theorem dX6_line_105 : decode cX6_line 105 = .ok (.iconst 1, 1) := dk_4 (dk_at dksX6_line_4 10 rfl rfl)
theorem dX6_line_106 : decode cX6_line 106 = .ok (.iadd, 1) := dk_96 (dk_at dksX6_line_4 11 rfl rfl)
theorem dX6_line_107 : decode cX6_line 107 = .ok (.putfield 138, 3) := dk_181 0 138 (dk_at dksX6_line_4 12 rfl rfl)
theorem dX6_line_110 : decode cX6_line 110 = .ok (.aload_n 0, 1) := dk_42 (dk_at dksX6_line_4 15 rfl rfl)
theorem dX6_line_111 : decode cX6_line 111 = .ok (.invokevirtual 26, 3) := dk_182 0 26 (dk_at dksX6_line_4 16 rfl rfl)
theorem dX6_line_114 : decode cX6_line 114 = .ok (.return_, 1) := dk_177 (dk_at dksX6_line_4 19 rfl rfl)
abbrev cX6_isWord : ByteArray := prog_10_method_4_code
def yX6_isWord : MethodName := ⟨RX6, "isWord", "(Ljava/lang/String;)Z"⟩
def dkwX6_isWord_3 : List UInt8 := [132, 3, 1, 167, 255, 217, 28, 172]
abbrev dktX6_isWord_3 : List UInt8 := dkwX6_isWord_3 ++ []
def dkwX6_isWord_2 : List UInt8 := [182, 0, 49, 42, 42, 180, 0, 31, 29, 96, 182, 0, 53, 160, 0, 7, 4, 167, 0, 4, 3, 61]
abbrev dktX6_isWord_2 : List UInt8 := dkwX6_isWord_2 ++ dktX6_isWord_3
def dkwX6_isWord_1 : List UInt8 := [4, 167, 0, 4, 3, 61, 3, 62, 29, 43, 182, 0, 40, 162, 0, 37, 28, 153, 0, 33, 43, 29]
abbrev dktX6_isWord_1 : List UInt8 := dkwX6_isWord_1 ++ dktX6_isWord_2
def dkwX6_isWord_0 : List UInt8 := [42, 180, 0, 37, 4, 160, 0, 23, 43, 182, 0, 40, 42, 180, 0, 46, 42, 180, 0, 31, 100, 160, 0, 7]
abbrev dktX6_isWord_0 : List UInt8 := dkwX6_isWord_0 ++ dktX6_isWord_1
theorem dksX6_isWord_0 : cX6_isWord.data.toList.drop 0 = dktX6_isWord_0 := by decide +kernel
theorem dksX6_isWord_1 : cX6_isWord.data.toList.drop 24 = dktX6_isWord_1 := dk_seg dksX6_isWord_0 24 rfl rfl
theorem dksX6_isWord_2 : cX6_isWord.data.toList.drop 46 = dktX6_isWord_2 := dk_seg dksX6_isWord_1 22 rfl rfl
theorem dksX6_isWord_3 : cX6_isWord.data.toList.drop 68 = dktX6_isWord_3 := dk_seg dksX6_isWord_2 22 rfl rfl
theorem dX6_isWord_0 : decode cX6_isWord 0 = .ok (.aload_n 0, 1) := dk_42 (dk_at dksX6_isWord_0 0 rfl rfl)
theorem dX6_isWord_1 : decode cX6_isWord 1 = .ok (.getfield 37, 3) := dk_180 0 37 (dk_at dksX6_isWord_0 1 rfl rfl)
theorem dX6_isWord_4 : decode cX6_isWord 4 = .ok (.iconst 1, 1) := dk_4 (dk_at dksX6_isWord_0 4 rfl rfl)
theorem dX6_isWord_5 : decode cX6_isWord 5 = .ok (.if_icmp .ne 23, 3) := dk_160 0 23 (dk_at dksX6_isWord_0 5 rfl rfl)
theorem dX6_isWord_8 : decode cX6_isWord 8 = .ok (.aload_n 1, 1) := dk_43 (dk_at dksX6_isWord_0 8 rfl rfl)
theorem dX6_isWord_9 : decode cX6_isWord 9 = .ok (.invokevirtual 40, 3) := dk_182 0 40 (dk_at dksX6_isWord_0 9 rfl rfl)
theorem dX6_isWord_12 : decode cX6_isWord 12 = .ok (.aload_n 0, 1) := dk_42 (dk_at dksX6_isWord_0 12 rfl rfl)
theorem dX6_isWord_13 : decode cX6_isWord 13 = .ok (.getfield 46, 3) := dk_180 0 46 (dk_at dksX6_isWord_0 13 rfl rfl)
theorem dX6_isWord_16 : decode cX6_isWord 16 = .ok (.aload_n 0, 1) := dk_42 (dk_at dksX6_isWord_0 16 rfl rfl)
theorem dX6_isWord_17 : decode cX6_isWord 17 = .ok (.getfield 31, 3) := dk_180 0 31 (dk_at dksX6_isWord_0 17 rfl rfl)
theorem dX6_isWord_20 : decode cX6_isWord 20 = .ok (.isub, 1) := dk_100 (dk_at dksX6_isWord_0 20 rfl rfl)
theorem dX6_isWord_21 : decode cX6_isWord 21 = .ok (.if_icmp .ne 7, 3) := dk_160 0 7 (dk_at dksX6_isWord_0 21 rfl rfl)
theorem dX6_isWord_24 : decode cX6_isWord 24 = .ok (.iconst 1, 1) := dk_4 (dk_at dksX6_isWord_1 0 rfl rfl)
theorem dX6_isWord_25 : decode cX6_isWord 25 = .ok (.goto 4, 3) := dk_167 0 4 (dk_at dksX6_isWord_1 1 rfl rfl)
theorem dX6_isWord_28 : decode cX6_isWord 28 = .ok (.iconst 0, 1) := dk_3 (dk_at dksX6_isWord_1 4 rfl rfl)
theorem dX6_isWord_29 : decode cX6_isWord 29 = .ok (.istore_n 2, 1) := dk_61 (dk_at dksX6_isWord_1 5 rfl rfl)
theorem dX6_isWord_30 : decode cX6_isWord 30 = .ok (.iconst 0, 1) := dk_3 (dk_at dksX6_isWord_1 6 rfl rfl)
theorem dX6_isWord_31 : decode cX6_isWord 31 = .ok (.istore_n 3, 1) := dk_62 (dk_at dksX6_isWord_1 7 rfl rfl)
theorem dX6_isWord_32 : decode cX6_isWord 32 = .ok (.iload_n 3, 1) := dk_29 (dk_at dksX6_isWord_1 8 rfl rfl)
theorem dX6_isWord_33 : decode cX6_isWord 33 = .ok (.aload_n 1, 1) := dk_43 (dk_at dksX6_isWord_1 9 rfl rfl)
theorem dX6_isWord_34 : decode cX6_isWord 34 = .ok (.invokevirtual 40, 3) := dk_182 0 40 (dk_at dksX6_isWord_1 10 rfl rfl)
theorem dX6_isWord_37 : decode cX6_isWord 37 = .ok (.if_icmp .ge 37, 3) := dk_162 0 37 (dk_at dksX6_isWord_1 13 rfl rfl)
theorem dX6_isWord_40 : decode cX6_isWord 40 = .ok (.iload_n 2, 1) := dk_28 (dk_at dksX6_isWord_1 16 rfl rfl)
theorem dX6_isWord_41 : decode cX6_isWord 41 = .ok (.ifCond .eq 33, 3) := dk_153 0 33 (dk_at dksX6_isWord_1 17 rfl rfl)
theorem dX6_isWord_44 : decode cX6_isWord 44 = .ok (.aload_n 1, 1) := dk_43 (dk_at dksX6_isWord_1 20 rfl rfl)
theorem dX6_isWord_45 : decode cX6_isWord 45 = .ok (.iload_n 3, 1) := dk_29 (dk_at dksX6_isWord_1 21 rfl rfl)
theorem dX6_isWord_46 : decode cX6_isWord 46 = .ok (.invokevirtual 49, 3) := dk_182 0 49 (dk_at dksX6_isWord_2 0 rfl rfl)
theorem dX6_isWord_49 : decode cX6_isWord 49 = .ok (.aload_n 0, 1) := dk_42 (dk_at dksX6_isWord_2 3 rfl rfl)
theorem dX6_isWord_50 : decode cX6_isWord 50 = .ok (.aload_n 0, 1) := dk_42 (dk_at dksX6_isWord_2 4 rfl rfl)
theorem dX6_isWord_51 : decode cX6_isWord 51 = .ok (.getfield 31, 3) := dk_180 0 31 (dk_at dksX6_isWord_2 5 rfl rfl)
theorem dX6_isWord_54 : decode cX6_isWord 54 = .ok (.iload_n 3, 1) := dk_29 (dk_at dksX6_isWord_2 8 rfl rfl)
theorem dX6_isWord_55 : decode cX6_isWord 55 = .ok (.iadd, 1) := dk_96 (dk_at dksX6_isWord_2 9 rfl rfl)
theorem dX6_isWord_56 : decode cX6_isWord 56 = .ok (.invokevirtual 53, 3) := dk_182 0 53 (dk_at dksX6_isWord_2 10 rfl rfl)
theorem dX6_isWord_59 : decode cX6_isWord 59 = .ok (.if_icmp .ne 7, 3) := dk_160 0 7 (dk_at dksX6_isWord_2 13 rfl rfl)
theorem dX6_isWord_62 : decode cX6_isWord 62 = .ok (.iconst 1, 1) := dk_4 (dk_at dksX6_isWord_2 16 rfl rfl)
theorem dX6_isWord_63 : decode cX6_isWord 63 = .ok (.goto 4, 3) := dk_167 0 4 (dk_at dksX6_isWord_2 17 rfl rfl)
theorem dX6_isWord_66 : decode cX6_isWord 66 = .ok (.iconst 0, 1) := dk_3 (dk_at dksX6_isWord_2 20 rfl rfl)
theorem dX6_isWord_67 : decode cX6_isWord 67 = .ok (.istore_n 2, 1) := dk_61 (dk_at dksX6_isWord_2 21 rfl rfl)
theorem dX6_isWord_68 : decode cX6_isWord 68 = .ok (.iinc 3 1, 3) := dk_132 3 1 (dk_at dksX6_isWord_3 0 rfl rfl)
theorem dX6_isWord_71 : decode cX6_isWord 71 = .ok (.goto (-39), 3) := dk_167 255 217 (dk_at dksX6_isWord_3 3 rfl rfl)
theorem dX6_isWord_74 : decode cX6_isWord 74 = .ok (.iload_n 2, 1) := dk_28 (dk_at dksX6_isWord_3 6 rfl rfl)
theorem dX6_isWord_75 : decode cX6_isWord 75 = .ok (.ireturn, 1) := dk_172 (dk_at dksX6_isWord_3 7 rfl rfl)
abbrev cX6_boatOf : ByteArray := prog_10_method_9_code
def yX6_boatOf : MethodName := ⟨RX6, "boatOf", "(I)V"⟩
def dkwX6_boatOf_4 : List UInt8 := [181, 0, 88, 177]
abbrev dktX6_boatOf_4 : List UInt8 := dkwX6_boatOf_4 ++ []
def dkwX6_boatOf_3 : List UInt8 := [3, 16, 9, 182, 0, 107, 79, 44, 6, 42, 3, 16, 9, 182, 0, 107, 79, 42, 89, 180, 0, 88, 4, 96]
abbrev dktX6_boatOf_3 : List UInt8 := dkwX6_boatOf_3 ++ dktX6_boatOf_4
def dkwX6_boatOf_2 : List UInt8 := [79, 44, 3, 42, 178, 0, 99, 182, 0, 103, 79, 44, 4, 42, 3, 16, 99, 182, 0, 107, 79, 44, 5, 42]
abbrev dktX6_boatOf_2 : List UInt8 := dkwX6_boatOf_2 ++ dktX6_boatOf_3
def dkwX6_boatOf_1 : List UInt8 := [180, 0, 12, 180, 0, 91, 42, 180, 0, 88, 50, 77, 42, 180, 0, 12, 180, 0, 95, 42, 180, 0, 88, 27]
abbrev dktX6_boatOf_1 : List UInt8 := dkwX6_boatOf_1 ++ dktX6_boatOf_2
def dkwX6_boatOf_0 : List UInt8 := [42, 42, 180, 0, 88, 16, 6, 162, 0, 7, 4, 167, 0, 4, 3, 8, 182, 0, 72, 42, 182, 0, 26, 42]
abbrev dktX6_boatOf_0 : List UInt8 := dkwX6_boatOf_0 ++ dktX6_boatOf_1
theorem dksX6_boatOf_0 : cX6_boatOf.data.toList.drop 0 = dktX6_boatOf_0 := by decide +kernel
theorem dksX6_boatOf_1 : cX6_boatOf.data.toList.drop 24 = dktX6_boatOf_1 := dk_seg dksX6_boatOf_0 24 rfl rfl
theorem dksX6_boatOf_2 : cX6_boatOf.data.toList.drop 48 = dktX6_boatOf_2 := dk_seg dksX6_boatOf_1 24 rfl rfl
theorem dksX6_boatOf_3 : cX6_boatOf.data.toList.drop 72 = dktX6_boatOf_3 := dk_seg dksX6_boatOf_2 24 rfl rfl
theorem dksX6_boatOf_4 : cX6_boatOf.data.toList.drop 96 = dktX6_boatOf_4 := dk_seg dksX6_boatOf_3 24 rfl rfl
theorem dX6_boatOf_0 : decode cX6_boatOf 0 = .ok (.aload_n 0, 1) := dk_42 (dk_at dksX6_boatOf_0 0 rfl rfl)
theorem dX6_boatOf_1 : decode cX6_boatOf 1 = .ok (.aload_n 0, 1) := dk_42 (dk_at dksX6_boatOf_0 1 rfl rfl)
theorem dX6_boatOf_2 : decode cX6_boatOf 2 = .ok (.getfield 88, 3) := dk_180 0 88 (dk_at dksX6_boatOf_0 2 rfl rfl)
theorem dX6_boatOf_5 : decode cX6_boatOf 5 = .ok (.bipush 6, 2) := dk_16 6 (dk_at dksX6_boatOf_0 5 rfl rfl)
theorem dX6_boatOf_7 : decode cX6_boatOf 7 = .ok (.if_icmp .ge 7, 3) := dk_162 0 7 (dk_at dksX6_boatOf_0 7 rfl rfl)
theorem dX6_boatOf_10 : decode cX6_boatOf 10 = .ok (.iconst 1, 1) := dk_4 (dk_at dksX6_boatOf_0 10 rfl rfl)
theorem dX6_boatOf_11 : decode cX6_boatOf 11 = .ok (.goto 4, 3) := dk_167 0 4 (dk_at dksX6_boatOf_0 11 rfl rfl)
theorem dX6_boatOf_14 : decode cX6_boatOf 14 = .ok (.iconst 0, 1) := dk_3 (dk_at dksX6_boatOf_0 14 rfl rfl)
theorem dX6_boatOf_15 : decode cX6_boatOf 15 = .ok (.iconst 5, 1) := dk_8 (dk_at dksX6_boatOf_0 15 rfl rfl)
theorem dX6_boatOf_16 : decode cX6_boatOf 16 = .ok (.invokevirtual 72, 3) := dk_182 0 72 (dk_at dksX6_boatOf_0 16 rfl rfl)
theorem dX6_boatOf_19 : decode cX6_boatOf 19 = .ok (.aload_n 0, 1) := dk_42 (dk_at dksX6_boatOf_0 19 rfl rfl)
theorem dX6_boatOf_20 : decode cX6_boatOf 20 = .ok (.invokevirtual 26, 3) := dk_182 0 26 (dk_at dksX6_boatOf_0 20 rfl rfl)
theorem dX6_boatOf_23 : decode cX6_boatOf 23 = .ok (.aload_n 0, 1) := dk_42 (dk_at dksX6_boatOf_0 23 rfl rfl)
theorem dX6_boatOf_24 : decode cX6_boatOf 24 = .ok (.getfield 12, 3) := dk_180 0 12 (dk_at dksX6_boatOf_1 0 rfl rfl)
theorem dX6_boatOf_27 : decode cX6_boatOf 27 = .ok (.getfield 91, 3) := dk_180 0 91 (dk_at dksX6_boatOf_1 3 rfl rfl)
theorem dX6_boatOf_30 : decode cX6_boatOf 30 = .ok (.aload_n 0, 1) := dk_42 (dk_at dksX6_boatOf_1 6 rfl rfl)
theorem dX6_boatOf_31 : decode cX6_boatOf 31 = .ok (.getfield 88, 3) := dk_180 0 88 (dk_at dksX6_boatOf_1 7 rfl rfl)
theorem dX6_boatOf_34 : decode cX6_boatOf 34 = .ok (.aaload, 1) := dk_50 (dk_at dksX6_boatOf_1 10 rfl rfl)
theorem dX6_boatOf_35 : decode cX6_boatOf 35 = .ok (.astore_n 2, 1) := dk_77 (dk_at dksX6_boatOf_1 11 rfl rfl)
theorem dX6_boatOf_36 : decode cX6_boatOf 36 = .ok (.aload_n 0, 1) := dk_42 (dk_at dksX6_boatOf_1 12 rfl rfl)
theorem dX6_boatOf_37 : decode cX6_boatOf 37 = .ok (.getfield 12, 3) := dk_180 0 12 (dk_at dksX6_boatOf_1 13 rfl rfl)
theorem dX6_boatOf_40 : decode cX6_boatOf 40 = .ok (.getfield 95, 3) := dk_180 0 95 (dk_at dksX6_boatOf_1 16 rfl rfl)
theorem dX6_boatOf_43 : decode cX6_boatOf 43 = .ok (.aload_n 0, 1) := dk_42 (dk_at dksX6_boatOf_1 19 rfl rfl)
theorem dX6_boatOf_44 : decode cX6_boatOf 44 = .ok (.getfield 88, 3) := dk_180 0 88 (dk_at dksX6_boatOf_1 20 rfl rfl)
theorem dX6_boatOf_47 : decode cX6_boatOf 47 = .ok (.iload_n 1, 1) := dk_27 (dk_at dksX6_boatOf_1 23 rfl rfl)
theorem dX6_boatOf_48 : decode cX6_boatOf 48 = .ok (.iastore, 1) := dk_79 (dk_at dksX6_boatOf_2 0 rfl rfl)
theorem dX6_boatOf_49 : decode cX6_boatOf 49 = .ok (.aload_n 2, 1) := dk_44 (dk_at dksX6_boatOf_2 1 rfl rfl)
theorem dX6_boatOf_50 : decode cX6_boatOf 50 = .ok (.iconst 0, 1) := dk_3 (dk_at dksX6_boatOf_2 2 rfl rfl)
theorem dX6_boatOf_51 : decode cX6_boatOf 51 = .ok (.aload_n 0, 1) := dk_42 (dk_at dksX6_boatOf_2 3 rfl rfl)
theorem dX6_boatOf_52 : decode cX6_boatOf 52 = .ok (.getstatic 99, 3) := dk_178 0 99 (dk_at dksX6_boatOf_2 4 rfl rfl)
theorem dX6_boatOf_55 : decode cX6_boatOf 55 = .ok (.invokevirtual 103, 3) := dk_182 0 103 (dk_at dksX6_boatOf_2 7 rfl rfl)
theorem dX6_boatOf_58 : decode cX6_boatOf 58 = .ok (.iastore, 1) := dk_79 (dk_at dksX6_boatOf_2 10 rfl rfl)
theorem dX6_boatOf_59 : decode cX6_boatOf 59 = .ok (.aload_n 2, 1) := dk_44 (dk_at dksX6_boatOf_2 11 rfl rfl)
theorem dX6_boatOf_60 : decode cX6_boatOf 60 = .ok (.iconst 1, 1) := dk_4 (dk_at dksX6_boatOf_2 12 rfl rfl)
theorem dX6_boatOf_61 : decode cX6_boatOf 61 = .ok (.aload_n 0, 1) := dk_42 (dk_at dksX6_boatOf_2 13 rfl rfl)
theorem dX6_boatOf_62 : decode cX6_boatOf 62 = .ok (.iconst 0, 1) := dk_3 (dk_at dksX6_boatOf_2 14 rfl rfl)
theorem dX6_boatOf_63 : decode cX6_boatOf 63 = .ok (.bipush 99, 2) := dk_16 99 (dk_at dksX6_boatOf_2 15 rfl rfl)
theorem dX6_boatOf_65 : decode cX6_boatOf 65 = .ok (.invokevirtual 107, 3) := dk_182 0 107 (dk_at dksX6_boatOf_2 17 rfl rfl)
theorem dX6_boatOf_68 : decode cX6_boatOf 68 = .ok (.iastore, 1) := dk_79 (dk_at dksX6_boatOf_2 20 rfl rfl)
theorem dX6_boatOf_69 : decode cX6_boatOf 69 = .ok (.aload_n 2, 1) := dk_44 (dk_at dksX6_boatOf_2 21 rfl rfl)
theorem dX6_boatOf_70 : decode cX6_boatOf 70 = .ok (.iconst 2, 1) := dk_5 (dk_at dksX6_boatOf_2 22 rfl rfl)
theorem dX6_boatOf_71 : decode cX6_boatOf 71 = .ok (.aload_n 0, 1) := dk_42 (dk_at dksX6_boatOf_2 23 rfl rfl)
theorem dX6_boatOf_72 : decode cX6_boatOf 72 = .ok (.iconst 0, 1) := dk_3 (dk_at dksX6_boatOf_3 0 rfl rfl)
theorem dX6_boatOf_73 : decode cX6_boatOf 73 = .ok (.bipush 9, 2) := dk_16 9 (dk_at dksX6_boatOf_3 1 rfl rfl)
theorem dX6_boatOf_75 : decode cX6_boatOf 75 = .ok (.invokevirtual 107, 3) := dk_182 0 107 (dk_at dksX6_boatOf_3 3 rfl rfl)
theorem dX6_boatOf_78 : decode cX6_boatOf 78 = .ok (.iastore, 1) := dk_79 (dk_at dksX6_boatOf_3 6 rfl rfl)
theorem dX6_boatOf_79 : decode cX6_boatOf 79 = .ok (.aload_n 2, 1) := dk_44 (dk_at dksX6_boatOf_3 7 rfl rfl)
theorem dX6_boatOf_80 : decode cX6_boatOf 80 = .ok (.iconst 3, 1) := dk_6 (dk_at dksX6_boatOf_3 8 rfl rfl)
theorem dX6_boatOf_81 : decode cX6_boatOf 81 = .ok (.aload_n 0, 1) := dk_42 (dk_at dksX6_boatOf_3 9 rfl rfl)
theorem dX6_boatOf_82 : decode cX6_boatOf 82 = .ok (.iconst 0, 1) := dk_3 (dk_at dksX6_boatOf_3 10 rfl rfl)
theorem dX6_boatOf_83 : decode cX6_boatOf 83 = .ok (.bipush 9, 2) := dk_16 9 (dk_at dksX6_boatOf_3 11 rfl rfl)
theorem dX6_boatOf_85 : decode cX6_boatOf 85 = .ok (.invokevirtual 107, 3) := dk_182 0 107 (dk_at dksX6_boatOf_3 13 rfl rfl)
theorem dX6_boatOf_88 : decode cX6_boatOf 88 = .ok (.iastore, 1) := dk_79 (dk_at dksX6_boatOf_3 16 rfl rfl)
theorem dX6_boatOf_89 : decode cX6_boatOf 89 = .ok (.aload_n 0, 1) := dk_42 (dk_at dksX6_boatOf_3 17 rfl rfl)
theorem dX6_boatOf_90 : decode cX6_boatOf 90 = .ok (.dup, 1) := dk_89 (dk_at dksX6_boatOf_3 18 rfl rfl)
theorem dX6_boatOf_91 : decode cX6_boatOf 91 = .ok (.getfield 88, 3) := dk_180 0 88 (dk_at dksX6_boatOf_3 19 rfl rfl)
theorem dX6_boatOf_94 : decode cX6_boatOf 94 = .ok (.iconst 1, 1) := dk_4 (dk_at dksX6_boatOf_3 22 rfl rfl)
theorem dX6_boatOf_95 : decode cX6_boatOf 95 = .ok (.iadd, 1) := dk_96 (dk_at dksX6_boatOf_3 23 rfl rfl)
theorem dX6_boatOf_96 : decode cX6_boatOf 96 = .ok (.putfield 88, 3) := dk_181 0 88 (dk_at dksX6_boatOf_4 0 rfl rfl)
theorem dX6_boatOf_99 : decode cX6_boatOf 99 = .ok (.return_, 1) := dk_177 (dk_at dksX6_boatOf_4 3 rfl rfl)
abbrev cX6_named : ByteArray := prog_10_method_8_code
def yX6_named : MethodName := ⟨RX6, "named", "([Ljava/lang/String;)I"⟩
def dkwX6_named_1 : List UInt8 := [42, 28, 43, 190, 162, 0, 7, 4, 167, 0, 4, 3, 5, 182, 0, 72, 42, 182, 0, 26, 28, 172]
abbrev dktX6_named_1 : List UInt8 := dkwX6_named_1 ++ []
def dkwX6_named_0 : List UInt8 := [3, 61, 28, 43, 190, 162, 0, 19, 42, 43, 28, 50, 182, 0, 84, 154, 0, 9, 132, 2, 1, 167, 255, 237]
abbrev dktX6_named_0 : List UInt8 := dkwX6_named_0 ++ dktX6_named_1
theorem dksX6_named_0 : cX6_named.data.toList.drop 0 = dktX6_named_0 := by decide +kernel
theorem dksX6_named_1 : cX6_named.data.toList.drop 24 = dktX6_named_1 := dk_seg dksX6_named_0 24 rfl rfl
theorem dX6_named_0 : decode cX6_named 0 = .ok (.iconst 0, 1) := dk_3 (dk_at dksX6_named_0 0 rfl rfl)
theorem dX6_named_1 : decode cX6_named 1 = .ok (.istore_n 2, 1) := dk_61 (dk_at dksX6_named_0 1 rfl rfl)
theorem dX6_named_2 : decode cX6_named 2 = .ok (.iload_n 2, 1) := dk_28 (dk_at dksX6_named_0 2 rfl rfl)
theorem dX6_named_3 : decode cX6_named 3 = .ok (.aload_n 1, 1) := dk_43 (dk_at dksX6_named_0 3 rfl rfl)
theorem dX6_named_4 : decode cX6_named 4 = .ok (.arraylength, 1) := dk_190 (dk_at dksX6_named_0 4 rfl rfl)
theorem dX6_named_5 : decode cX6_named 5 = .ok (.if_icmp .ge 19, 3) := dk_162 0 19 (dk_at dksX6_named_0 5 rfl rfl)
theorem dX6_named_8 : decode cX6_named 8 = .ok (.aload_n 0, 1) := dk_42 (dk_at dksX6_named_0 8 rfl rfl)
theorem dX6_named_9 : decode cX6_named 9 = .ok (.aload_n 1, 1) := dk_43 (dk_at dksX6_named_0 9 rfl rfl)
theorem dX6_named_10 : decode cX6_named 10 = .ok (.iload_n 2, 1) := dk_28 (dk_at dksX6_named_0 10 rfl rfl)
theorem dX6_named_11 : decode cX6_named 11 = .ok (.aaload, 1) := dk_50 (dk_at dksX6_named_0 11 rfl rfl)
theorem dX6_named_12 : decode cX6_named 12 = .ok (.invokevirtual 84, 3) := dk_182 0 84 (dk_at dksX6_named_0 12 rfl rfl)
theorem dX6_named_15 : decode cX6_named 15 = .ok (.ifCond .ne 9, 3) := dk_154 0 9 (dk_at dksX6_named_0 15 rfl rfl)
theorem dX6_named_18 : decode cX6_named 18 = .ok (.iinc 2 1, 3) := dk_132 2 1 (dk_at dksX6_named_0 18 rfl rfl)
theorem dX6_named_21 : decode cX6_named 21 = .ok (.goto (-19), 3) := dk_167 255 237 (dk_at dksX6_named_0 21 rfl rfl)
theorem dX6_named_24 : decode cX6_named 24 = .ok (.aload_n 0, 1) := dk_42 (dk_at dksX6_named_1 0 rfl rfl)
theorem dX6_named_25 : decode cX6_named 25 = .ok (.iload_n 2, 1) := dk_28 (dk_at dksX6_named_1 1 rfl rfl)
theorem dX6_named_26 : decode cX6_named 26 = .ok (.aload_n 1, 1) := dk_43 (dk_at dksX6_named_1 2 rfl rfl)
theorem dX6_named_27 : decode cX6_named 27 = .ok (.arraylength, 1) := dk_190 (dk_at dksX6_named_1 3 rfl rfl)
theorem dX6_named_28 : decode cX6_named 28 = .ok (.if_icmp .ge 7, 3) := dk_162 0 7 (dk_at dksX6_named_1 4 rfl rfl)
theorem dX6_named_31 : decode cX6_named 31 = .ok (.iconst 1, 1) := dk_4 (dk_at dksX6_named_1 7 rfl rfl)
theorem dX6_named_32 : decode cX6_named 32 = .ok (.goto 4, 3) := dk_167 0 4 (dk_at dksX6_named_1 8 rfl rfl)
theorem dX6_named_35 : decode cX6_named 35 = .ok (.iconst 0, 1) := dk_3 (dk_at dksX6_named_1 11 rfl rfl)
theorem dX6_named_36 : decode cX6_named 36 = .ok (.iconst 2, 1) := dk_5 (dk_at dksX6_named_1 12 rfl rfl)
theorem dX6_named_37 : decode cX6_named 37 = .ok (.invokevirtual 72, 3) := dk_182 0 72 (dk_at dksX6_named_1 13 rfl rfl)
theorem dX6_named_40 : decode cX6_named 40 = .ok (.aload_n 0, 1) := dk_42 (dk_at dksX6_named_1 16 rfl rfl)
theorem dX6_named_41 : decode cX6_named 41 = .ok (.invokevirtual 26, 3) := dk_182 0 26 (dk_at dksX6_named_1 17 rfl rfl)
theorem dX6_named_44 : decode cX6_named 44 = .ok (.iload_n 2, 1) := dk_28 (dk_at dksX6_named_1 20 rfl rfl)
theorem dX6_named_45 : decode cX6_named 45 = .ok (.ireturn, 1) := dk_172 (dk_at dksX6_named_1 21 rfl rfl)
abbrev cX6_number : ByteArray := prog_10_method_7_code
def yX6_number : MethodName := ⟨RX6, "number", "(II)I"⟩
def dkwX6_number_0 : List UInt8 := [42, 27, 28, 3, 182, 0, 80, 172]
abbrev dktX6_number_0 : List UInt8 := dkwX6_number_0 ++ []
theorem dksX6_number_0 : cX6_number.data.toList.drop 0 = dktX6_number_0 := by decide +kernel
theorem dX6_number_0 : decode cX6_number 0 = .ok (.aload_n 0, 1) := dk_42 (dk_at dksX6_number_0 0 rfl rfl)
theorem dX6_number_1 : decode cX6_number 1 = .ok (.iload_n 1, 1) := dk_27 (dk_at dksX6_number_0 1 rfl rfl)
theorem dX6_number_2 : decode cX6_number 2 = .ok (.iload_n 2, 1) := dk_28 (dk_at dksX6_number_0 2 rfl rfl)
theorem dX6_number_3 : decode cX6_number 3 = .ok (.iconst 0, 1) := dk_3 (dk_at dksX6_number_0 3 rfl rfl)
theorem dX6_number_4 : decode cX6_number 4 = .ok (.invokevirtual 80, 3) := dk_182 0 80 (dk_at dksX6_number_0 4 rfl rfl)
theorem dX6_number_7 : decode cX6_number 7 = .ok (.ireturn, 1) := dk_172 (dk_at dksX6_number_0 7 rfl rfl)
abbrev cX6_other : ByteArray := prog_10_method_6_code
def yX6_other : MethodName := ⟨RX6, "other", "(III)I"⟩
def dkwX6_other_2 : List UInt8 := [167, 0, 4, 3, 7, 182, 0, 72, 42, 180, 0, 57, 54, 4, 42, 182, 0, 26, 21, 4, 172]
abbrev dktX6_other_2 : List UInt8 := dkwX6_other_2 ++ []
def dkwX6_other_1 : List UInt8 := [27, 133, 28, 133, 184, 0, 64, 6, 182, 0, 72, 42, 29, 42, 180, 0, 57, 184, 0, 76, 154, 0, 7, 4]
abbrev dktX6_other_1 : List UInt8 := dkwX6_other_1 ++ dktX6_other_2
def dkwX6_other_0 : List UInt8 := [42, 42, 180, 0, 37, 5, 160, 0, 7, 4, 167, 0, 4, 3, 5, 182, 0, 72, 42, 42, 180, 0, 57, 133]
abbrev dktX6_other_0 : List UInt8 := dkwX6_other_0 ++ dktX6_other_1
theorem dksX6_other_0 : cX6_other.data.toList.drop 0 = dktX6_other_0 := by decide +kernel
theorem dksX6_other_1 : cX6_other.data.toList.drop 24 = dktX6_other_1 := dk_seg dksX6_other_0 24 rfl rfl
theorem dksX6_other_2 : cX6_other.data.toList.drop 48 = dktX6_other_2 := dk_seg dksX6_other_1 24 rfl rfl
theorem dX6_other_0 : decode cX6_other 0 = .ok (.aload_n 0, 1) := dk_42 (dk_at dksX6_other_0 0 rfl rfl)
theorem dX6_other_1 : decode cX6_other 1 = .ok (.aload_n 0, 1) := dk_42 (dk_at dksX6_other_0 1 rfl rfl)
theorem dX6_other_2 : decode cX6_other 2 = .ok (.getfield 37, 3) := dk_180 0 37 (dk_at dksX6_other_0 2 rfl rfl)
theorem dX6_other_5 : decode cX6_other 5 = .ok (.iconst 2, 1) := dk_5 (dk_at dksX6_other_0 5 rfl rfl)
theorem dX6_other_6 : decode cX6_other 6 = .ok (.if_icmp .ne 7, 3) := dk_160 0 7 (dk_at dksX6_other_0 6 rfl rfl)
theorem dX6_other_9 : decode cX6_other 9 = .ok (.iconst 1, 1) := dk_4 (dk_at dksX6_other_0 9 rfl rfl)
theorem dX6_other_10 : decode cX6_other 10 = .ok (.goto 4, 3) := dk_167 0 4 (dk_at dksX6_other_0 10 rfl rfl)
theorem dX6_other_13 : decode cX6_other 13 = .ok (.iconst 0, 1) := dk_3 (dk_at dksX6_other_0 13 rfl rfl)
theorem dX6_other_14 : decode cX6_other 14 = .ok (.iconst 2, 1) := dk_5 (dk_at dksX6_other_0 14 rfl rfl)
theorem dX6_other_15 : decode cX6_other 15 = .ok (.invokevirtual 72, 3) := dk_182 0 72 (dk_at dksX6_other_0 15 rfl rfl)
theorem dX6_other_18 : decode cX6_other 18 = .ok (.aload_n 0, 1) := dk_42 (dk_at dksX6_other_0 18 rfl rfl)
theorem dX6_other_19 : decode cX6_other 19 = .ok (.aload_n 0, 1) := dk_42 (dk_at dksX6_other_0 19 rfl rfl)
theorem dX6_other_20 : decode cX6_other 20 = .ok (.getfield 57, 3) := dk_180 0 57 (dk_at dksX6_other_0 20 rfl rfl)
theorem dX6_other_23 : decode cX6_other 23 = .ok (.i2l, 1) := dk_133 (dk_at dksX6_other_0 23 rfl rfl)
theorem dX6_other_24 : decode cX6_other 24 = .ok (.iload_n 1, 1) := dk_27 (dk_at dksX6_other_1 0 rfl rfl)
theorem dX6_other_25 : decode cX6_other 25 = .ok (.i2l, 1) := dk_133 (dk_at dksX6_other_1 1 rfl rfl)
theorem dX6_other_26 : decode cX6_other 26 = .ok (.iload_n 2, 1) := dk_28 (dk_at dksX6_other_1 2 rfl rfl)
theorem dX6_other_27 : decode cX6_other 27 = .ok (.i2l, 1) := dk_133 (dk_at dksX6_other_1 3 rfl rfl)
theorem dX6_other_28 : decode cX6_other 28 = .ok (.invokestatic 64, 3) := dk_184 0 64 (dk_at dksX6_other_1 4 rfl rfl)
theorem dX6_other_31 : decode cX6_other 31 = .ok (.iconst 3, 1) := dk_6 (dk_at dksX6_other_1 7 rfl rfl)
theorem dX6_other_32 : decode cX6_other 32 = .ok (.invokevirtual 72, 3) := dk_182 0 72 (dk_at dksX6_other_1 8 rfl rfl)
theorem dX6_other_35 : decode cX6_other 35 = .ok (.aload_n 0, 1) := dk_42 (dk_at dksX6_other_1 11 rfl rfl)
theorem dX6_other_36 : decode cX6_other 36 = .ok (.iload_n 3, 1) := dk_29 (dk_at dksX6_other_1 12 rfl rfl)
theorem dX6_other_37 : decode cX6_other 37 = .ok (.aload_n 0, 1) := dk_42 (dk_at dksX6_other_1 13 rfl rfl)
theorem dX6_other_38 : decode cX6_other 38 = .ok (.getfield 57, 3) := dk_180 0 57 (dk_at dksX6_other_1 14 rfl rfl)
theorem dX6_other_41 : decode cX6_other 41 = .ok (.invokestatic 76, 3) := dk_184 0 76 (dk_at dksX6_other_1 17 rfl rfl)
theorem dX6_other_44 : decode cX6_other 44 = .ok (.ifCond .ne 7, 3) := dk_154 0 7 (dk_at dksX6_other_1 20 rfl rfl)
theorem dX6_other_47 : decode cX6_other 47 = .ok (.iconst 1, 1) := dk_4 (dk_at dksX6_other_1 23 rfl rfl)
theorem dX6_other_48 : decode cX6_other 48 = .ok (.goto 4, 3) := dk_167 0 4 (dk_at dksX6_other_2 0 rfl rfl)
theorem dX6_other_51 : decode cX6_other 51 = .ok (.iconst 0, 1) := dk_3 (dk_at dksX6_other_2 3 rfl rfl)
theorem dX6_other_52 : decode cX6_other 52 = .ok (.iconst 4, 1) := dk_7 (dk_at dksX6_other_2 4 rfl rfl)
theorem dX6_other_53 : decode cX6_other 53 = .ok (.invokevirtual 72, 3) := dk_182 0 72 (dk_at dksX6_other_2 5 rfl rfl)
theorem dX6_other_56 : decode cX6_other 56 = .ok (.aload_n 0, 1) := dk_42 (dk_at dksX6_other_2 8 rfl rfl)
theorem dX6_other_57 : decode cX6_other 57 = .ok (.getfield 57, 3) := dk_180 0 57 (dk_at dksX6_other_2 9 rfl rfl)
theorem dX6_other_60 : decode cX6_other 60 = .ok (.istore 4, 2) := dk_54 4 (dk_at dksX6_other_2 12 rfl rfl)
theorem dX6_other_62 : decode cX6_other 62 = .ok (.aload_n 0, 1) := dk_42 (dk_at dksX6_other_2 14 rfl rfl)
theorem dX6_other_63 : decode cX6_other 63 = .ok (.invokevirtual 26, 3) := dk_182 0 26 (dk_at dksX6_other_2 15 rfl rfl)
theorem dX6_other_66 : decode cX6_other 66 = .ok (.iload 4, 2) := dk_21 4 (dk_at dksX6_other_2 18 rfl rfl)
theorem dX6_other_68 : decode cX6_other 68 = .ok (.ireturn, 1) := dk_172 (dk_at dksX6_other_2 20 rfl rfl)
abbrev cX6_more : ByteArray := prog_10_method_10_code
def yX6_more : MethodName := ⟨RX6, "more", "(I)V"⟩
def dkwX6_more_8 : List UInt8 := [181, 0, 18, 167, 0, 13, 42, 180, 0, 12, 180, 0, 114, 8, 4, 79, 177]
abbrev dktX6_more_8 : List UInt8 := dkwX6_more_8 ++ []
def dkwX6_more_7 : List UInt8 := [180, 0, 12, 89, 180, 0, 120, 4, 28, 120, 128, 181, 0, 120, 42, 42, 180, 0, 18, 28, 184, 0, 123]
abbrev dktX6_more_7 : List UInt8 := dkwX6_more_7 ++ dktX6_more_8
def dkwX6_more_6 : List UInt8 := [167, 0, 63, 27, 16, 6, 160, 0, 47, 42, 3, 8, 42, 180, 0, 12, 180, 0, 120, 182, 0, 80, 61, 42]
abbrev dktX6_more_6 : List UInt8 := dkwX6_more_6 ++ dktX6_more_7
def dkwX6_more_5 : List UInt8 := [167, 0, 87, 27, 7, 160, 0, 22, 42, 180, 0, 12, 180, 0, 114, 7, 42, 3, 16, 9, 182, 0, 107, 79]
abbrev dktX6_more_5 : List UInt8 := dkwX6_more_5 ++ dktX6_more_6
def dkwX6_more_4 : List UInt8 := [167, 0, 111, 27, 6, 160, 0, 22, 42, 180, 0, 12, 180, 0, 114, 6, 42, 178, 0, 117, 182, 0, 103, 79]
abbrev dktX6_more_4 : List UInt8 := dkwX6_more_4 ++ dktX6_more_5
def dkwX6_more_3 : List UInt8 := [42, 3, 16, 9, 182, 0, 107, 79, 42, 180, 0, 12, 180, 0, 114, 5, 42, 3, 4, 182, 0, 107, 79]
abbrev dktX6_more_3 : List UInt8 := dkwX6_more_3 ++ dktX6_more_4
def dkwX6_more_2 : List UInt8 := [42, 180, 0, 12, 180, 0, 114, 3, 42, 4, 16, 9, 182, 0, 107, 79, 42, 180, 0, 12, 180, 0, 114, 4]
abbrev dktX6_more_2 : List UInt8 := dkwX6_more_2 ++ dktX6_more_3
def dkwX6_more_1 : List UInt8 := [182, 0, 72, 42, 89, 180, 0, 111, 4, 27, 120, 128, 181, 0, 111, 42, 182, 0, 26, 27, 5, 160, 0, 53]
abbrev dktX6_more_1 : List UInt8 := dkwX6_more_1 ++ dktX6_more_2
def dkwX6_more_0 : List UInt8 := [42, 27, 16, 6, 159, 0, 14, 42, 180, 0, 111, 27, 184, 0, 76, 154, 0, 7, 4, 167, 0, 4, 3, 7]
abbrev dktX6_more_0 : List UInt8 := dkwX6_more_0 ++ dktX6_more_1
theorem dksX6_more_0 : cX6_more.data.toList.drop 0 = dktX6_more_0 := by decide +kernel
theorem dksX6_more_1 : cX6_more.data.toList.drop 24 = dktX6_more_1 := dk_seg dksX6_more_0 24 rfl rfl
theorem dksX6_more_2 : cX6_more.data.toList.drop 48 = dktX6_more_2 := dk_seg dksX6_more_1 24 rfl rfl
theorem dksX6_more_3 : cX6_more.data.toList.drop 72 = dktX6_more_3 := dk_seg dksX6_more_2 24 rfl rfl
theorem dksX6_more_4 : cX6_more.data.toList.drop 95 = dktX6_more_4 := dk_seg dksX6_more_3 23 rfl rfl
theorem dksX6_more_5 : cX6_more.data.toList.drop 119 = dktX6_more_5 := dk_seg dksX6_more_4 24 rfl rfl
theorem dksX6_more_6 : cX6_more.data.toList.drop 143 = dktX6_more_6 := dk_seg dksX6_more_5 24 rfl rfl
theorem dksX6_more_7 : cX6_more.data.toList.drop 167 = dktX6_more_7 := dk_seg dksX6_more_6 24 rfl rfl
theorem dksX6_more_8 : cX6_more.data.toList.drop 190 = dktX6_more_8 := dk_seg dksX6_more_7 23 rfl rfl
theorem dX6_more_0 : decode cX6_more 0 = .ok (.aload_n 0, 1) := dk_42 (dk_at dksX6_more_0 0 rfl rfl)
theorem dX6_more_1 : decode cX6_more 1 = .ok (.iload_n 1, 1) := dk_27 (dk_at dksX6_more_0 1 rfl rfl)
theorem dX6_more_2 : decode cX6_more 2 = .ok (.bipush 6, 2) := dk_16 6 (dk_at dksX6_more_0 2 rfl rfl)
theorem dX6_more_4 : decode cX6_more 4 = .ok (.if_icmp .eq 14, 3) := dk_159 0 14 (dk_at dksX6_more_0 4 rfl rfl)
theorem dX6_more_7 : decode cX6_more 7 = .ok (.aload_n 0, 1) := dk_42 (dk_at dksX6_more_0 7 rfl rfl)
theorem dX6_more_8 : decode cX6_more 8 = .ok (.getfield 111, 3) := dk_180 0 111 (dk_at dksX6_more_0 8 rfl rfl)
theorem dX6_more_11 : decode cX6_more 11 = .ok (.iload_n 1, 1) := dk_27 (dk_at dksX6_more_0 11 rfl rfl)
theorem dX6_more_12 : decode cX6_more 12 = .ok (.invokestatic 76, 3) := dk_184 0 76 (dk_at dksX6_more_0 12 rfl rfl)
theorem dX6_more_15 : decode cX6_more 15 = .ok (.ifCond .ne 7, 3) := dk_154 0 7 (dk_at dksX6_more_0 15 rfl rfl)
theorem dX6_more_18 : decode cX6_more 18 = .ok (.iconst 1, 1) := dk_4 (dk_at dksX6_more_0 18 rfl rfl)
theorem dX6_more_19 : decode cX6_more 19 = .ok (.goto 4, 3) := dk_167 0 4 (dk_at dksX6_more_0 19 rfl rfl)
theorem dX6_more_22 : decode cX6_more 22 = .ok (.iconst 0, 1) := dk_3 (dk_at dksX6_more_0 22 rfl rfl)
theorem dX6_more_23 : decode cX6_more 23 = .ok (.iconst 4, 1) := dk_7 (dk_at dksX6_more_0 23 rfl rfl)
theorem dX6_more_24 : decode cX6_more 24 = .ok (.invokevirtual 72, 3) := dk_182 0 72 (dk_at dksX6_more_1 0 rfl rfl)
theorem dX6_more_27 : decode cX6_more 27 = .ok (.aload_n 0, 1) := dk_42 (dk_at dksX6_more_1 3 rfl rfl)
theorem dX6_more_28 : decode cX6_more 28 = .ok (.dup, 1) := dk_89 (dk_at dksX6_more_1 4 rfl rfl)
theorem dX6_more_29 : decode cX6_more 29 = .ok (.getfield 111, 3) := dk_180 0 111 (dk_at dksX6_more_1 5 rfl rfl)
theorem dX6_more_32 : decode cX6_more 32 = .ok (.iconst 1, 1) := dk_4 (dk_at dksX6_more_1 8 rfl rfl)
theorem dX6_more_33 : decode cX6_more 33 = .ok (.iload_n 1, 1) := dk_27 (dk_at dksX6_more_1 9 rfl rfl)
theorem dX6_more_34 : decode cX6_more 34 = .ok (.ishl, 1) := dk_120 (dk_at dksX6_more_1 10 rfl rfl)
theorem dX6_more_35 : decode cX6_more 35 = .ok (.ior, 1) := dk_128 (dk_at dksX6_more_1 11 rfl rfl)
theorem dX6_more_36 : decode cX6_more 36 = .ok (.putfield 111, 3) := dk_181 0 111 (dk_at dksX6_more_1 12 rfl rfl)
theorem dX6_more_39 : decode cX6_more 39 = .ok (.aload_n 0, 1) := dk_42 (dk_at dksX6_more_1 15 rfl rfl)
theorem dX6_more_40 : decode cX6_more 40 = .ok (.invokevirtual 26, 3) := dk_182 0 26 (dk_at dksX6_more_1 16 rfl rfl)
theorem dX6_more_43 : decode cX6_more 43 = .ok (.iload_n 1, 1) := dk_27 (dk_at dksX6_more_1 19 rfl rfl)
theorem dX6_more_44 : decode cX6_more 44 = .ok (.iconst 2, 1) := dk_5 (dk_at dksX6_more_1 20 rfl rfl)
theorem dX6_more_45 : decode cX6_more 45 = .ok (.if_icmp .ne 53, 3) := dk_160 0 53 (dk_at dksX6_more_1 21 rfl rfl)
theorem dX6_more_48 : decode cX6_more 48 = .ok (.aload_n 0, 1) := dk_42 (dk_at dksX6_more_2 0 rfl rfl)
theorem dX6_more_49 : decode cX6_more 49 = .ok (.getfield 12, 3) := dk_180 0 12 (dk_at dksX6_more_2 1 rfl rfl)
theorem dX6_more_52 : decode cX6_more 52 = .ok (.getfield 114, 3) := dk_180 0 114 (dk_at dksX6_more_2 4 rfl rfl)
theorem dX6_more_55 : decode cX6_more 55 = .ok (.iconst 0, 1) := dk_3 (dk_at dksX6_more_2 7 rfl rfl)
theorem dX6_more_56 : decode cX6_more 56 = .ok (.aload_n 0, 1) := dk_42 (dk_at dksX6_more_2 8 rfl rfl)
theorem dX6_more_57 : decode cX6_more 57 = .ok (.iconst 1, 1) := dk_4 (dk_at dksX6_more_2 9 rfl rfl)
theorem dX6_more_58 : decode cX6_more 58 = .ok (.bipush 9, 2) := dk_16 9 (dk_at dksX6_more_2 10 rfl rfl)
theorem dX6_more_60 : decode cX6_more 60 = .ok (.invokevirtual 107, 3) := dk_182 0 107 (dk_at dksX6_more_2 12 rfl rfl)
theorem dX6_more_63 : decode cX6_more 63 = .ok (.iastore, 1) := dk_79 (dk_at dksX6_more_2 15 rfl rfl)
theorem dX6_more_64 : decode cX6_more 64 = .ok (.aload_n 0, 1) := dk_42 (dk_at dksX6_more_2 16 rfl rfl)
theorem dX6_more_65 : decode cX6_more 65 = .ok (.getfield 12, 3) := dk_180 0 12 (dk_at dksX6_more_2 17 rfl rfl)
theorem dX6_more_68 : decode cX6_more 68 = .ok (.getfield 114, 3) := dk_180 0 114 (dk_at dksX6_more_2 20 rfl rfl)
theorem dX6_more_71 : decode cX6_more 71 = .ok (.iconst 1, 1) := dk_4 (dk_at dksX6_more_2 23 rfl rfl)
theorem dX6_more_72 : decode cX6_more 72 = .ok (.aload_n 0, 1) := dk_42 (dk_at dksX6_more_3 0 rfl rfl)
theorem dX6_more_73 : decode cX6_more 73 = .ok (.iconst 0, 1) := dk_3 (dk_at dksX6_more_3 1 rfl rfl)
theorem dX6_more_74 : decode cX6_more 74 = .ok (.bipush 9, 2) := dk_16 9 (dk_at dksX6_more_3 2 rfl rfl)
theorem dX6_more_76 : decode cX6_more 76 = .ok (.invokevirtual 107, 3) := dk_182 0 107 (dk_at dksX6_more_3 4 rfl rfl)
theorem dX6_more_79 : decode cX6_more 79 = .ok (.iastore, 1) := dk_79 (dk_at dksX6_more_3 7 rfl rfl)
theorem dX6_more_80 : decode cX6_more 80 = .ok (.aload_n 0, 1) := dk_42 (dk_at dksX6_more_3 8 rfl rfl)
theorem dX6_more_81 : decode cX6_more 81 = .ok (.getfield 12, 3) := dk_180 0 12 (dk_at dksX6_more_3 9 rfl rfl)
theorem dX6_more_84 : decode cX6_more 84 = .ok (.getfield 114, 3) := dk_180 0 114 (dk_at dksX6_more_3 12 rfl rfl)
theorem dX6_more_87 : decode cX6_more 87 = .ok (.iconst 2, 1) := dk_5 (dk_at dksX6_more_3 15 rfl rfl)
theorem dX6_more_88 : decode cX6_more 88 = .ok (.aload_n 0, 1) := dk_42 (dk_at dksX6_more_3 16 rfl rfl)
theorem dX6_more_89 : decode cX6_more 89 = .ok (.iconst 0, 1) := dk_3 (dk_at dksX6_more_3 17 rfl rfl)
theorem dX6_more_90 : decode cX6_more 90 = .ok (.iconst 1, 1) := dk_4 (dk_at dksX6_more_3 18 rfl rfl)
theorem dX6_more_91 : decode cX6_more 91 = .ok (.invokevirtual 107, 3) := dk_182 0 107 (dk_at dksX6_more_3 19 rfl rfl)
theorem dX6_more_94 : decode cX6_more 94 = .ok (.iastore, 1) := dk_79 (dk_at dksX6_more_3 22 rfl rfl)
theorem dX6_more_95 : decode cX6_more 95 = .ok (.goto 111, 3) := dk_167 0 111 (dk_at dksX6_more_4 0 rfl rfl)
theorem dX6_more_98 : decode cX6_more 98 = .ok (.iload_n 1, 1) := dk_27 (dk_at dksX6_more_4 3 rfl rfl)
theorem dX6_more_99 : decode cX6_more 99 = .ok (.iconst 3, 1) := dk_6 (dk_at dksX6_more_4 4 rfl rfl)
theorem dX6_more_100 : decode cX6_more 100 = .ok (.if_icmp .ne 22, 3) := dk_160 0 22 (dk_at dksX6_more_4 5 rfl rfl)
theorem dX6_more_103 : decode cX6_more 103 = .ok (.aload_n 0, 1) := dk_42 (dk_at dksX6_more_4 8 rfl rfl)
theorem dX6_more_104 : decode cX6_more 104 = .ok (.getfield 12, 3) := dk_180 0 12 (dk_at dksX6_more_4 9 rfl rfl)
theorem dX6_more_107 : decode cX6_more 107 = .ok (.getfield 114, 3) := dk_180 0 114 (dk_at dksX6_more_4 12 rfl rfl)
theorem dX6_more_110 : decode cX6_more 110 = .ok (.iconst 3, 1) := dk_6 (dk_at dksX6_more_4 15 rfl rfl)
theorem dX6_more_111 : decode cX6_more 111 = .ok (.aload_n 0, 1) := dk_42 (dk_at dksX6_more_4 16 rfl rfl)
theorem dX6_more_112 : decode cX6_more 112 = .ok (.getstatic 117, 3) := dk_178 0 117 (dk_at dksX6_more_4 17 rfl rfl)
theorem dX6_more_115 : decode cX6_more 115 = .ok (.invokevirtual 103, 3) := dk_182 0 103 (dk_at dksX6_more_4 20 rfl rfl)
theorem dX6_more_118 : decode cX6_more 118 = .ok (.iastore, 1) := dk_79 (dk_at dksX6_more_4 23 rfl rfl)
theorem dX6_more_119 : decode cX6_more 119 = .ok (.goto 87, 3) := dk_167 0 87 (dk_at dksX6_more_5 0 rfl rfl)
theorem dX6_more_122 : decode cX6_more 122 = .ok (.iload_n 1, 1) := dk_27 (dk_at dksX6_more_5 3 rfl rfl)
theorem dX6_more_123 : decode cX6_more 123 = .ok (.iconst 4, 1) := dk_7 (dk_at dksX6_more_5 4 rfl rfl)
theorem dX6_more_124 : decode cX6_more 124 = .ok (.if_icmp .ne 22, 3) := dk_160 0 22 (dk_at dksX6_more_5 5 rfl rfl)
theorem dX6_more_127 : decode cX6_more 127 = .ok (.aload_n 0, 1) := dk_42 (dk_at dksX6_more_5 8 rfl rfl)
theorem dX6_more_128 : decode cX6_more 128 = .ok (.getfield 12, 3) := dk_180 0 12 (dk_at dksX6_more_5 9 rfl rfl)
theorem dX6_more_131 : decode cX6_more 131 = .ok (.getfield 114, 3) := dk_180 0 114 (dk_at dksX6_more_5 12 rfl rfl)
theorem dX6_more_134 : decode cX6_more 134 = .ok (.iconst 4, 1) := dk_7 (dk_at dksX6_more_5 15 rfl rfl)
theorem dX6_more_135 : decode cX6_more 135 = .ok (.aload_n 0, 1) := dk_42 (dk_at dksX6_more_5 16 rfl rfl)
theorem dX6_more_136 : decode cX6_more 136 = .ok (.iconst 0, 1) := dk_3 (dk_at dksX6_more_5 17 rfl rfl)
theorem dX6_more_137 : decode cX6_more 137 = .ok (.bipush 9, 2) := dk_16 9 (dk_at dksX6_more_5 18 rfl rfl)
theorem dX6_more_139 : decode cX6_more 139 = .ok (.invokevirtual 107, 3) := dk_182 0 107 (dk_at dksX6_more_5 20 rfl rfl)
theorem dX6_more_142 : decode cX6_more 142 = .ok (.iastore, 1) := dk_79 (dk_at dksX6_more_5 23 rfl rfl)
theorem dX6_more_143 : decode cX6_more 143 = .ok (.goto 63, 3) := dk_167 0 63 (dk_at dksX6_more_6 0 rfl rfl)
theorem dX6_more_146 : decode cX6_more 146 = .ok (.iload_n 1, 1) := dk_27 (dk_at dksX6_more_6 3 rfl rfl)
theorem dX6_more_147 : decode cX6_more 147 = .ok (.bipush 6, 2) := dk_16 6 (dk_at dksX6_more_6 4 rfl rfl)
theorem dX6_more_149 : decode cX6_more 149 = .ok (.if_icmp .ne 47, 3) := dk_160 0 47 (dk_at dksX6_more_6 6 rfl rfl)
theorem dX6_more_152 : decode cX6_more 152 = .ok (.aload_n 0, 1) := dk_42 (dk_at dksX6_more_6 9 rfl rfl)
theorem dX6_more_153 : decode cX6_more 153 = .ok (.iconst 0, 1) := dk_3 (dk_at dksX6_more_6 10 rfl rfl)
theorem dX6_more_154 : decode cX6_more 154 = .ok (.iconst 5, 1) := dk_8 (dk_at dksX6_more_6 11 rfl rfl)
theorem dX6_more_155 : decode cX6_more 155 = .ok (.aload_n 0, 1) := dk_42 (dk_at dksX6_more_6 12 rfl rfl)
theorem dX6_more_156 : decode cX6_more 156 = .ok (.getfield 12, 3) := dk_180 0 12 (dk_at dksX6_more_6 13 rfl rfl)
theorem dX6_more_159 : decode cX6_more 159 = .ok (.getfield 120, 3) := dk_180 0 120 (dk_at dksX6_more_6 16 rfl rfl)
theorem dX6_more_162 : decode cX6_more 162 = .ok (.invokevirtual 80, 3) := dk_182 0 80 (dk_at dksX6_more_6 19 rfl rfl)
theorem dX6_more_165 : decode cX6_more 165 = .ok (.istore_n 2, 1) := dk_61 (dk_at dksX6_more_6 22 rfl rfl)
theorem dX6_more_166 : decode cX6_more 166 = .ok (.aload_n 0, 1) := dk_42 (dk_at dksX6_more_6 23 rfl rfl)
theorem dX6_more_167 : decode cX6_more 167 = .ok (.getfield 12, 3) := dk_180 0 12 (dk_at dksX6_more_7 0 rfl rfl)
theorem dX6_more_170 : decode cX6_more 170 = .ok (.dup, 1) := dk_89 (dk_at dksX6_more_7 3 rfl rfl)
theorem dX6_more_171 : decode cX6_more 171 = .ok (.getfield 120, 3) := dk_180 0 120 (dk_at dksX6_more_7 4 rfl rfl)
theorem dX6_more_174 : decode cX6_more 174 = .ok (.iconst 1, 1) := dk_4 (dk_at dksX6_more_7 7 rfl rfl)
theorem dX6_more_175 : decode cX6_more 175 = .ok (.iload_n 2, 1) := dk_28 (dk_at dksX6_more_7 8 rfl rfl)
theorem dX6_more_176 : decode cX6_more 176 = .ok (.ishl, 1) := dk_120 (dk_at dksX6_more_7 9 rfl rfl)
theorem dX6_more_177 : decode cX6_more 177 = .ok (.ior, 1) := dk_128 (dk_at dksX6_more_7 10 rfl rfl)
theorem dX6_more_178 : decode cX6_more 178 = .ok (.putfield 120, 3) := dk_181 0 120 (dk_at dksX6_more_7 11 rfl rfl)
theorem dX6_more_181 : decode cX6_more 181 = .ok (.aload_n 0, 1) := dk_42 (dk_at dksX6_more_7 14 rfl rfl)
theorem dX6_more_182 : decode cX6_more 182 = .ok (.aload_n 0, 1) := dk_42 (dk_at dksX6_more_7 15 rfl rfl)
theorem dX6_more_183 : decode cX6_more 183 = .ok (.getfield 18, 3) := dk_180 0 18 (dk_at dksX6_more_7 16 rfl rfl)
theorem dX6_more_186 : decode cX6_more 186 = .ok (.iload_n 2, 1) := dk_28 (dk_at dksX6_more_7 19 rfl rfl)
theorem dX6_more_187 : decode cX6_more 187 = .ok (.invokestatic 123, 3) := dk_184 0 123 (dk_at dksX6_more_7 20 rfl rfl)
theorem dX6_more_190 : decode cX6_more 190 = .ok (.putfield 18, 3) := dk_181 0 18 (dk_at dksX6_more_8 0 rfl rfl)
theorem dX6_more_193 : decode cX6_more 193 = .ok (.goto 13, 3) := dk_167 0 13 (dk_at dksX6_more_8 3 rfl rfl)
theorem dX6_more_196 : decode cX6_more 196 = .ok (.aload_n 0, 1) := dk_42 (dk_at dksX6_more_8 6 rfl rfl)
theorem dX6_more_197 : decode cX6_more 197 = .ok (.getfield 12, 3) := dk_180 0 12 (dk_at dksX6_more_8 7 rfl rfl)
theorem dX6_more_200 : decode cX6_more 200 = .ok (.getfield 114, 3) := dk_180 0 114 (dk_at dksX6_more_8 10 rfl rfl)
theorem dX6_more_203 : decode cX6_more 203 = .ok (.iconst 5, 1) := dk_8 (dk_at dksX6_more_8 13 rfl rfl)
theorem dX6_more_204 : decode cX6_more 204 = .ok (.iconst 1, 1) := dk_4 (dk_at dksX6_more_8 14 rfl rfl)
theorem dX6_more_205 : decode cX6_more 205 = .ok (.iastore, 1) := dk_79 (dk_at dksX6_more_8 15 rfl rfl)
theorem dX6_more_206 : decode cX6_more 206 = .ok (.return_, 1) := dk_177 (dk_at dksX6_more_8 16 rfl rfl)
theorem q90 : (Jvm.Cond.initialized "LockTurns$Reader") ∈ lw_all := lw_g (lw_at lw_m1 8 rfl) rfl
theorem q127 : (Jvm.Cond.instantiable "LockTurns$Reader" (10 : Nat)) ∈ lw_all := lw_g (lw_at lw_m1 45 rfl) rfl
theorem q129 : (Jvm.Cond.instanceMethod ({ cls := "LockTurns$Reader", name := "<init>", desc := "([B)V" } : Jvm.MethodName)) ∈ lw_all := lw_g (lw_at lw_m1 47 rfl) rfl
theorem q130 : (Jvm.Cond.code ({ cls := "LockTurns$Reader", name := "<init>", desc := "([B)V" } : Jvm.MethodName) prog_10_method_1_code (2 : Nat) (Option.none : Option Jvm.ClassFile.FieldType)) ∈ lw_all := lw_g (lw_at lw_m1 48 rfl) rfl
theorem q131 : (Jvm.Cond.methodLink "LockTurns$Reader" (3 : Nat) ({ cls := "java/lang/Object", name := "<init>", desc := "()V" } : Jvm.MethodName)) ∈ lw_all := lw_g (lw_at lw_m1 49 rfl) rfl
theorem q134 : (Jvm.Cond.classLink "LockTurns$Reader" (9 : Nat) "LockTurns$Told") ∈ lw_all := lw_g (lw_at lw_m1 52 rfl) rfl
theorem q136 : (Jvm.Cond.methodLinkNest "LockTurns$Reader" (11 : Nat) ({ cls := "LockTurns$Told", name := "<init>", desc := "()V" } : Jvm.MethodName) "LockTurns") ∈ lw_tbl := lw_at lw_m1 54 rfl
theorem q144 : (Jvm.Cond.fieldLinkNest "LockTurns$Reader" (114 : Nat) "LockTurns$Told" "sets" "[I" "LockTurns") ∈ lw_tbl := lw_at lw_m1 62 rfl
theorem q147 : (Jvm.Cond.fieldLinkNest "LockTurns$Reader" (95 : Nat) "LockTurns$Told" "sides" "[I" "LockTurns") ∈ lw_tbl := lw_at lw_m1 65 rfl
theorem q151 : (Jvm.Cond.fieldLinkNest "LockTurns$Reader" (91 : Nat) "LockTurns$Told" "boats" "[[I" "LockTurns") ∈ lw_tbl := lw_at lw_m1 69 rfl
theorem q156 : (Jvm.Cond.fieldLinkNest "LockTurns$Reader" (120 : Nat) "LockTurns$Told" "liars" "I" "LockTurns") ∈ lw_tbl := lw_at lw_m1 74 rfl
theorem q168 : (Jvm.Cond.methodLink "LockTurns$Reader" (26 : Nat) ({ cls := "LockTurns$Reader", name := "next", desc := "()V" } : Jvm.MethodName)) ∈ lw_all := lw_g (lw_at lw_m1 86 rfl) rfl
theorem q169 : (Jvm.Cond.privateMethod ({ cls := "LockTurns$Reader", name := "next", desc := "()V" } : Jvm.MethodName)) ∈ lw_tbl := lw_at lw_m1 87 rfl
theorem q170 : (Jvm.Cond.instanceMethod ({ cls := "LockTurns$Reader", name := "next", desc := "()V" } : Jvm.MethodName)) ∈ lw_all := lw_g (lw_at lw_m1 88 rfl) rfl
theorem q171 : (Jvm.Cond.code ({ cls := "LockTurns$Reader", name := "next", desc := "()V" } : Jvm.MethodName) prog_10_method_5_code (2 : Nat) (Option.none : Option Jvm.ClassFile.FieldType)) ∈ lw_all := lw_g (lw_at lw_m1 89 rfl) rfl
theorem q172 : (Jvm.Cond.methodLink "LockTurns$Reader" (53 : Nat) ({ cls := "LockTurns$Reader", name := "at", desc := "(I)I" } : Jvm.MethodName)) ∈ lw_all := lw_g (lw_at lw_m1 90 rfl) rfl
theorem q173 : (Jvm.Cond.privateMethod ({ cls := "LockTurns$Reader", name := "at", desc := "(I)I" } : Jvm.MethodName)) ∈ lw_tbl := lw_at lw_m1 91 rfl
theorem q174 : (Jvm.Cond.instanceMethod ({ cls := "LockTurns$Reader", name := "at", desc := "(I)I" } : Jvm.MethodName)) ∈ lw_all := lw_g (lw_at lw_m1 92 rfl) rfl
theorem q175 : (Jvm.Cond.code ({ cls := "LockTurns$Reader", name := "at", desc := "(I)I" } : Jvm.MethodName) prog_10_method_2_code (2 : Nat) (Option.some Jvm.ClassFile.FieldType.int)) ∈ lw_all := lw_g (lw_at lw_m1 93 rfl) rfl
theorem q176 : (Jvm.Cond.constantLong "LockTurns$Reader" (60 : Nat) (97 : Int64)) ∈ lw_all := lw_g (lw_at lw_m1 94 rfl) rfl
theorem q177 : (Jvm.Cond.constantLong "LockTurns$Reader" (62 : Nat) (122 : Int64)) ∈ lw_all := lw_g (lw_at lw_m1 95 rfl) rfl
theorem q178 : (Jvm.Cond.methodLinkNest "LockTurns$Reader" (64 : Nat) ({ cls := "LockTurns", name := "isIn", desc := "(JJJ)Z" } : Jvm.MethodName) "LockTurns") ∈ lw_tbl := lw_at lw_m1 96 rfl
theorem q179 : (Jvm.Cond.constantLong "LockTurns$Reader" (68 : Nat) (48 : Int64)) ∈ lw_all := lw_g (lw_at lw_m1 97 rfl) rfl
theorem q180 : (Jvm.Cond.constantLong "LockTurns$Reader" (70 : Nat) (57 : Int64)) ∈ lw_all := lw_g (lw_at lw_m1 98 rfl) rfl
theorem q181 : (Jvm.Cond.methodLink "LockTurns$Reader" (72 : Nat) ({ cls := "LockTurns$Reader", name := "must", desc := "(ZI)V" } : Jvm.MethodName)) ∈ lw_all := lw_g (lw_at lw_m1 99 rfl) rfl
theorem q182 : (Jvm.Cond.privateMethod ({ cls := "LockTurns$Reader", name := "must", desc := "(ZI)V" } : Jvm.MethodName)) ∈ lw_tbl := lw_at lw_m1 100 rfl
theorem q183 : (Jvm.Cond.instanceMethod ({ cls := "LockTurns$Reader", name := "must", desc := "(ZI)V" } : Jvm.MethodName)) ∈ lw_all := lw_g (lw_at lw_m1 101 rfl) rfl
theorem q184 : (Jvm.Cond.code ({ cls := "LockTurns$Reader", name := "must", desc := "(ZI)V" } : Jvm.MethodName) prog_10_method_3_code (3 : Nat) (Option.none : Option Jvm.ClassFile.FieldType)) ∈ lw_all := lw_g (lw_at lw_m1 102 rfl) rfl
theorem q185 : (Jvm.Cond.classLink "LockTurns$Reader" (29 : Nat) "LockTurns$Fault") ∈ lw_all := lw_g (lw_at lw_m1 103 rfl) rfl
theorem q241 : (Jvm.Cond.methodLink "LockTurns$Reader" (34 : Nat) ({ cls := "LockTurns$Fault", name := "<init>", desc := "(II)V" } : Jvm.MethodName)) ∈ lw_all := lw_g (lw_at lw_m1 159 rfl) rfl
theorem q274 : (Jvm.Cond.fieldLink "LockTurns$Reader" (22 : Nat) "LockTurns$Reader" "t" "[B") ∈ lw_all := lw_g (lw_at lw_m1 192 rfl) rfl
theorem q275 : (Jvm.Cond.fieldLink "LockTurns$Reader" (12 : Nat) "LockTurns$Reader" "told" "LLockTurns$Told;") ∈ lw_all := lw_g (lw_at lw_m1 193 rfl) rfl
theorem q278 : (Jvm.Cond.fieldLink "LockTurns$Reader" (88 : Nat) "LockTurns$Reader" "boatMany" "I") ∈ lw_all := lw_g (lw_at lw_m1 196 rfl) rfl
theorem q279 : (Jvm.Cond.fieldLink "LockTurns$Reader" (111 : Nat) "LockTurns$Reader" "once" "I") ∈ lw_all := lw_g (lw_at lw_m1 197 rfl) rfl
theorem q280 : (Jvm.Cond.fieldLink "LockTurns$Reader" (18 : Nat) "LockTurns$Reader" "highBoat" "I") ∈ lw_all := lw_g (lw_at lw_m1 198 rfl) rfl
theorem q282 : (Jvm.Cond.fieldLink "LockTurns$Reader" (138 : Nat) "LockTurns$Reader" "lines" "I") ∈ lw_all := lw_g (lw_at lw_m1 200 rfl) rfl
theorem q283 : (Jvm.Cond.fieldLink "LockTurns$Reader" (31 : Nat) "LockTurns$Reader" "from" "I") ∈ lw_all := lw_g (lw_at lw_m1 201 rfl) rfl
theorem q284 : (Jvm.Cond.fieldLink "LockTurns$Reader" (46 : Nat) "LockTurns$Reader" "to" "I") ∈ lw_all := lw_g (lw_at lw_m1 202 rfl) rfl
theorem q285 : (Jvm.Cond.fieldLink "LockTurns$Reader" (37 : Nat) "LockTurns$Reader" "kind" "I") ∈ lw_all := lw_g (lw_at lw_m1 203 rfl) rfl
theorem q286 : (Jvm.Cond.fieldLink "LockTurns$Reader" (57 : Nat) "LockTurns$Reader" "value" "I") ∈ lw_all := lw_g (lw_at lw_m1 204 rfl) rfl
theorem q287 : (Jvm.Cond.laysFinal "LockTurns$Reader" "LockTurns$Reader" "t" "[B") ∈ lw_all := lw_g (lw_at lw_m1 205 rfl) rfl
theorem q288 : (Jvm.Cond.soleField "LockTurns$Reader" "t") ∈ lw_all := lw_g (lw_at lw_m1 206 rfl) rfl
theorem q289 : (Jvm.Cond.laysFinal "LockTurns$Reader" "LockTurns$Reader" "told" "LLockTurns$Told;") ∈ lw_all := lw_g (lw_at lw_m1 207 rfl) rfl
theorem q290 : (Jvm.Cond.soleField "LockTurns$Reader" "told") ∈ lw_all := lw_g (lw_at lw_m1 208 rfl) rfl
theorem q291 : (Jvm.Cond.lays "LockTurns$Reader" "LockTurns$Reader" "boatMany" "I") ∈ lw_all := lw_g (lw_at lw_m1 209 rfl) rfl
theorem q292 : (Jvm.Cond.soleField "LockTurns$Reader" "boatMany") ∈ lw_all := lw_g (lw_at lw_m1 210 rfl) rfl
theorem q293 : (Jvm.Cond.lays "LockTurns$Reader" "LockTurns$Reader" "once" "I") ∈ lw_all := lw_g (lw_at lw_m1 211 rfl) rfl
theorem q294 : (Jvm.Cond.soleField "LockTurns$Reader" "once") ∈ lw_all := lw_g (lw_at lw_m1 212 rfl) rfl
theorem q295 : (Jvm.Cond.lays "LockTurns$Reader" "LockTurns$Reader" "highBoat" "I") ∈ lw_all := lw_g (lw_at lw_m1 213 rfl) rfl
theorem q296 : (Jvm.Cond.soleField "LockTurns$Reader" "highBoat") ∈ lw_all := lw_g (lw_at lw_m1 214 rfl) rfl
theorem q297 : (Jvm.Cond.lays "LockTurns$Reader" "LockTurns$Reader" "lines" "I") ∈ lw_all := lw_g (lw_at lw_m1 215 rfl) rfl
theorem q298 : (Jvm.Cond.soleField "LockTurns$Reader" "lines") ∈ lw_all := lw_g (lw_at lw_m1 216 rfl) rfl
theorem q299 : (Jvm.Cond.lays "LockTurns$Reader" "LockTurns$Reader" "from" "I") ∈ lw_all := lw_g (lw_at lw_m1 217 rfl) rfl
theorem q300 : (Jvm.Cond.soleField "LockTurns$Reader" "from") ∈ lw_all := lw_g (lw_at lw_m1 218 rfl) rfl
theorem q301 : (Jvm.Cond.lays "LockTurns$Reader" "LockTurns$Reader" "to" "I") ∈ lw_all := lw_g (lw_at lw_m1 219 rfl) rfl
theorem q302 : (Jvm.Cond.soleField "LockTurns$Reader" "to") ∈ lw_all := lw_g (lw_at lw_m1 220 rfl) rfl
theorem q303 : (Jvm.Cond.lays "LockTurns$Reader" "LockTurns$Reader" "kind" "I") ∈ lw_all := lw_g (lw_at lw_m1 221 rfl) rfl
theorem q304 : (Jvm.Cond.soleField "LockTurns$Reader" "kind") ∈ lw_all := lw_g (lw_at lw_m1 222 rfl) rfl
theorem q305 : (Jvm.Cond.lays "LockTurns$Reader" "LockTurns$Reader" "value" "I") ∈ lw_all := lw_g (lw_at lw_m1 223 rfl) rfl
theorem q306 : (Jvm.Cond.soleField "LockTurns$Reader" "value") ∈ lw_all := lw_g (lw_at lw_m1 224 rfl) rfl
theorem q307 : (Jvm.Cond.superclass "LockTurns$Reader" "java/lang/Object") ∈ lw_all := lw_g (lw_at lw_m1 225 rfl) rfl
theorem q309 : (Jvm.Cond.instanceMethod ({ cls := "LockTurns$Reader", name := "all", desc := "()V" } : Jvm.MethodName)) ∈ lw_all := lw_g (lw_at lw_m1 227 rfl) rfl
theorem q310 : (Jvm.Cond.selects "LockTurns$Reader" ({ cls := "LockTurns$Reader", name := "all", desc := "()V" } : Jvm.MethodName) ({ cls := "LockTurns$Reader", name := "all", desc := "()V" } : Jvm.MethodName)) ∈ lw_all := lw_g (lw_at lw_m1 228 rfl) rfl
theorem q311 : (Jvm.Cond.code ({ cls := "LockTurns$Reader", name := "all", desc := "()V" } : Jvm.MethodName) prog_10_method_12_code (1 : Nat) (Option.none : Option Jvm.ClassFile.FieldType)) ∈ lw_all := lw_g (lw_at lw_m1 229 rfl) rfl
theorem q312 : (Jvm.Cond.methodLink "LockTurns$Reader" (141 : Nat) ({ cls := "LockTurns$Reader", name := "line", desc := "()V" } : Jvm.MethodName)) ∈ lw_all := lw_g (lw_at lw_m1 230 rfl) rfl
theorem q313 : (Jvm.Cond.privateMethod ({ cls := "LockTurns$Reader", name := "line", desc := "()V" } : Jvm.MethodName)) ∈ lw_tbl := lw_at lw_m1 231 rfl
theorem q314 : (Jvm.Cond.instanceMethod ({ cls := "LockTurns$Reader", name := "line", desc := "()V" } : Jvm.MethodName)) ∈ lw_all := lw_g (lw_at lw_m1 232 rfl) rfl
theorem q315 : (Jvm.Cond.code ({ cls := "LockTurns$Reader", name := "line", desc := "()V" } : Jvm.MethodName) prog_10_method_11_code (2 : Nat) (Option.none : Option Jvm.ClassFile.FieldType)) ∈ lw_all := lw_g (lw_at lw_m1 233 rfl) rfl
theorem q316 : (Jvm.Cond.fieldLinkNest "LockTurns$Reader" (128 : Nat) "LockTurns" "NAMES" "[Ljava/lang/String;" "LockTurns") ∈ lw_tbl := lw_at lw_m1 234 rfl
theorem q318 : (Jvm.Cond.methodLink "LockTurns$Reader" (84 : Nat) ({ cls := "LockTurns$Reader", name := "isWord", desc := "(Ljava/lang/String;)Z" } : Jvm.MethodName)) ∈ lw_all := lw_g (lw_at lw_m1 236 rfl) rfl
theorem q319 : (Jvm.Cond.privateMethod ({ cls := "LockTurns$Reader", name := "isWord", desc := "(Ljava/lang/String;)Z" } : Jvm.MethodName)) ∈ lw_tbl := lw_at lw_m1 237 rfl
theorem q320 : (Jvm.Cond.instanceMethod ({ cls := "LockTurns$Reader", name := "isWord", desc := "(Ljava/lang/String;)Z" } : Jvm.MethodName)) ∈ lw_all := lw_g (lw_at lw_m1 238 rfl) rfl
theorem q321 : (Jvm.Cond.code ({ cls := "LockTurns$Reader", name := "isWord", desc := "(Ljava/lang/String;)Z" } : Jvm.MethodName) prog_10_method_4_code (4 : Nat) (Option.some Jvm.ClassFile.FieldType.boolean)) ∈ lw_all := lw_g (lw_at lw_m1 239 rfl) rfl
theorem q322 : (Jvm.Cond.methodLink "LockTurns$Reader" (40 : Nat) ({ cls := "java/lang/String", name := "length", desc := "()I" } : Jvm.MethodName)) ∈ lw_all := lw_g (lw_at lw_m2 0 rfl) rfl
theorem q332 : (Jvm.Cond.methodLink "LockTurns$Reader" (49 : Nat) ({ cls := "java/lang/String", name := "charAt", desc := "(I)C" } : Jvm.MethodName)) ∈ lw_all := lw_g (lw_at lw_m2 10 rfl) rfl
theorem q370 : (Jvm.Cond.methodLink "LockTurns$Reader" (131 : Nat) ({ cls := "LockTurns$Reader", name := "boatOf", desc := "(I)V" } : Jvm.MethodName)) ∈ lw_all := lw_g (lw_at lw_m2 48 rfl) rfl
theorem q371 : (Jvm.Cond.privateMethod ({ cls := "LockTurns$Reader", name := "boatOf", desc := "(I)V" } : Jvm.MethodName)) ∈ lw_tbl := lw_at lw_m2 49 rfl
theorem q372 : (Jvm.Cond.instanceMethod ({ cls := "LockTurns$Reader", name := "boatOf", desc := "(I)V" } : Jvm.MethodName)) ∈ lw_all := lw_g (lw_at lw_m2 50 rfl) rfl
theorem q373 : (Jvm.Cond.code ({ cls := "LockTurns$Reader", name := "boatOf", desc := "(I)V" } : Jvm.MethodName) prog_10_method_9_code (3 : Nat) (Option.none : Option Jvm.ClassFile.FieldType)) ∈ lw_all := lw_g (lw_at lw_m2 51 rfl) rfl
theorem q374 : (Jvm.Cond.fieldLinkNest "LockTurns$Reader" (99 : Nat) "LockTurns" "CARGOES" "[Ljava/lang/String;" "LockTurns") ∈ lw_tbl := lw_at lw_m2 52 rfl
theorem q376 : (Jvm.Cond.methodLink "LockTurns$Reader" (103 : Nat) ({ cls := "LockTurns$Reader", name := "named", desc := "([Ljava/lang/String;)I" } : Jvm.MethodName)) ∈ lw_all := lw_g (lw_at lw_m2 54 rfl) rfl
theorem q377 : (Jvm.Cond.privateMethod ({ cls := "LockTurns$Reader", name := "named", desc := "([Ljava/lang/String;)I" } : Jvm.MethodName)) ∈ lw_tbl := lw_at lw_m2 55 rfl
theorem q378 : (Jvm.Cond.instanceMethod ({ cls := "LockTurns$Reader", name := "named", desc := "([Ljava/lang/String;)I" } : Jvm.MethodName)) ∈ lw_all := lw_g (lw_at lw_m2 56 rfl) rfl
theorem q379 : (Jvm.Cond.code ({ cls := "LockTurns$Reader", name := "named", desc := "([Ljava/lang/String;)I" } : Jvm.MethodName) prog_10_method_8_code (3 : Nat) (Option.some Jvm.ClassFile.FieldType.int)) ∈ lw_all := lw_g (lw_at lw_m2 57 rfl) rfl
theorem q380 : (Jvm.Cond.methodLink "LockTurns$Reader" (107 : Nat) ({ cls := "LockTurns$Reader", name := "number", desc := "(II)I" } : Jvm.MethodName)) ∈ lw_all := lw_g (lw_at lw_m2 58 rfl) rfl
theorem q381 : (Jvm.Cond.privateMethod ({ cls := "LockTurns$Reader", name := "number", desc := "(II)I" } : Jvm.MethodName)) ∈ lw_tbl := lw_at lw_m2 59 rfl
theorem q382 : (Jvm.Cond.instanceMethod ({ cls := "LockTurns$Reader", name := "number", desc := "(II)I" } : Jvm.MethodName)) ∈ lw_all := lw_g (lw_at lw_m2 60 rfl) rfl
theorem q383 : (Jvm.Cond.code ({ cls := "LockTurns$Reader", name := "number", desc := "(II)I" } : Jvm.MethodName) prog_10_method_7_code (3 : Nat) (Option.some Jvm.ClassFile.FieldType.int)) ∈ lw_all := lw_g (lw_at lw_m2 61 rfl) rfl
theorem q384 : (Jvm.Cond.methodLink "LockTurns$Reader" (80 : Nat) ({ cls := "LockTurns$Reader", name := "other", desc := "(III)I" } : Jvm.MethodName)) ∈ lw_all := lw_g (lw_at lw_m2 62 rfl) rfl
theorem q385 : (Jvm.Cond.privateMethod ({ cls := "LockTurns$Reader", name := "other", desc := "(III)I" } : Jvm.MethodName)) ∈ lw_tbl := lw_at lw_m2 63 rfl
theorem q386 : (Jvm.Cond.instanceMethod ({ cls := "LockTurns$Reader", name := "other", desc := "(III)I" } : Jvm.MethodName)) ∈ lw_all := lw_g (lw_at lw_m2 64 rfl) rfl
theorem q387 : (Jvm.Cond.code ({ cls := "LockTurns$Reader", name := "other", desc := "(III)I" } : Jvm.MethodName) prog_10_method_6_code (5 : Nat) (Option.some Jvm.ClassFile.FieldType.int)) ∈ lw_all := lw_g (lw_at lw_m2 65 rfl) rfl
theorem q388 : (Jvm.Cond.methodLinkNest "LockTurns$Reader" (76 : Nat) ({ cls := "LockTurns", name := "has", desc := "(II)Z" } : Jvm.MethodName) "LockTurns") ∈ lw_tbl := lw_at lw_m2 66 rfl
theorem q391 : (Jvm.Cond.methodLink "LockTurns$Reader" (135 : Nat) ({ cls := "LockTurns$Reader", name := "more", desc := "(I)V" } : Jvm.MethodName)) ∈ lw_all := lw_g (lw_at lw_m2 69 rfl) rfl
theorem q392 : (Jvm.Cond.privateMethod ({ cls := "LockTurns$Reader", name := "more", desc := "(I)V" } : Jvm.MethodName)) ∈ lw_tbl := lw_at lw_m2 70 rfl
theorem q393 : (Jvm.Cond.instanceMethod ({ cls := "LockTurns$Reader", name := "more", desc := "(I)V" } : Jvm.MethodName)) ∈ lw_all := lw_g (lw_at lw_m2 71 rfl) rfl
theorem q394 : (Jvm.Cond.code ({ cls := "LockTurns$Reader", name := "more", desc := "(I)V" } : Jvm.MethodName) prog_10_method_10_code (3 : Nat) (Option.none : Option Jvm.ClassFile.FieldType)) ∈ lw_all := lw_g (lw_at lw_m2 72 rfl) rfl
theorem q395 : (Jvm.Cond.fieldLinkNest "LockTurns$Reader" (117 : Nat) "LockTurns" "LAW_NAMES" "[Ljava/lang/String;" "LockTurns") ∈ lw_tbl := lw_at lw_m2 73 rfl
theorem q397 : (Jvm.Cond.methodLink "LockTurns$Reader" (123 : Nat) ({ cls := "java/lang/Math", name := "max", desc := "(II)I" } : Jvm.MethodName)) ∈ lw_all := lw_g (lw_at lw_m2 75 rfl) rfl
theorem in_X6 : ∀ w ∈ wsX60, w ∈ lw_all := lw_in wsX60 [287, 289, 291, 293, 295, 297, 299, 301, 303, 305] (by decide +kernel) (by decide +kernel)
/-! LockTurns$Fault -/
set_option maxRecDepth 100000
def RX7 : String := "LockTurns$Fault"
def TX7 : u_T := fun k => match k with
  | 0 => ("java/lang/Throwable", "cause", "Ljava/lang/Throwable;", false)
  | 1 => ("java/lang/Throwable", "stackTrace", "[Ljava/lang/StackTraceElement;", false)
  | 2 => ("java/lang/Throwable", "suppressedExceptions", "Ljava/util/List;", false)
  | 3 => ("java/lang/Throwable", "detailMessage", "Ljava/lang/String;", false)
  | 4 => ("java/lang/Throwable", "backtrace", "Ljava/lang/Object;", false)
  | 5 => ("java/lang/Throwable", "depth", "I", false)
  | 6 => ("LockTurns$Fault", "code", "I", true)
  | _ => ("LockTurns$Fault", "place", "I", true)
def tyX7 : Nat → FieldType := fun k => match k with
  | 0 => .object "java/lang/Throwable"
  | 1 => .array (.object "java/lang/StackTraceElement")
  | 2 => .object "java/util/List"
  | 3 => .object "java/lang/String"
  | 4 => .object "java/lang/Object"
  | 5 => .int
  | 6 => .int
  | _ => .int
abbrev wsX70 : List Cond := u_ws RX7 TX7 8
theorem nmX7 : ∀ a, a < 8 → ∀ b, b < 8 → a ≠ b → (TX7 a).2.1 ≠ (TX7 b).2.1 := by decide +kernel
theorem tyX7_ok : ∀ k, k < 8 → parseFieldDescriptor (TX7 k).2.2.1 = some (tyX7 k) := by decide +kernel
abbrev cX7_init : ByteArray := prog_7_method_1_code
def yX7_init : MethodName := ⟨RX7, "<init>", "(II)V"⟩
def dkwX7_init_0 : List UInt8 := [42, 1, 1, 3, 3, 183, 0, 1, 42, 27, 181, 0, 7, 42, 28, 181, 0, 13, 177]
abbrev dktX7_init_0 : List UInt8 := dkwX7_init_0 ++ []
theorem dksX7_init_0 : cX7_init.data.toList.drop 0 = dktX7_init_0 := by decide +kernel
theorem dX7_init_0 : decode cX7_init 0 = .ok (.aload_n 0, 1) := dk_42 (dk_at dksX7_init_0 0 rfl rfl)
theorem dX7_init_1 : decode cX7_init 1 = .ok (.aconst_null, 1) := dk_1 (dk_at dksX7_init_0 1 rfl rfl)
theorem dX7_init_2 : decode cX7_init 2 = .ok (.aconst_null, 1) := dk_1 (dk_at dksX7_init_0 2 rfl rfl)
theorem dX7_init_3 : decode cX7_init 3 = .ok (.iconst 0, 1) := dk_3 (dk_at dksX7_init_0 3 rfl rfl)
theorem dX7_init_4 : decode cX7_init 4 = .ok (.iconst 0, 1) := dk_3 (dk_at dksX7_init_0 4 rfl rfl)
theorem dX7_init_5 : decode cX7_init 5 = .ok (.invokespecial 1, 3) := dk_183 0 1 (dk_at dksX7_init_0 5 rfl rfl)
theorem dX7_init_8 : decode cX7_init 8 = .ok (.aload_n 0, 1) := dk_42 (dk_at dksX7_init_0 8 rfl rfl)
theorem dX7_init_9 : decode cX7_init 9 = .ok (.iload_n 1, 1) := dk_27 (dk_at dksX7_init_0 9 rfl rfl)
theorem dX7_init_10 : decode cX7_init 10 = .ok (.putfield 7, 3) := dk_181 0 7 (dk_at dksX7_init_0 10 rfl rfl)
theorem dX7_init_13 : decode cX7_init 13 = .ok (.aload_n 0, 1) := dk_42 (dk_at dksX7_init_0 13 rfl rfl)
theorem dX7_init_14 : decode cX7_init 14 = .ok (.iload_n 2, 1) := dk_28 (dk_at dksX7_init_0 14 rfl rfl)
theorem dX7_init_15 : decode cX7_init 15 = .ok (.putfield 13, 3) := dk_181 0 13 (dk_at dksX7_init_0 15 rfl rfl)
theorem dX7_init_18 : decode cX7_init 18 = .ok (.return_, 1) := dk_177 (dk_at dksX7_init_0 18 rfl rfl)
theorem q94 : (Jvm.Cond.initialized "LockTurns$Fault") ∈ lw_all := lw_g (lw_at lw_m1 12 rfl) rfl
theorem q186 : (Jvm.Cond.instantiable "LockTurns$Fault" (8 : Nat)) ∈ lw_all := lw_g (lw_at lw_m1 104 rfl) rfl
theorem q187 : (Jvm.Cond.castable "LockTurns$Fault" "LockTurns$Fault") ∈ lw_tbl := lw_at lw_m1 105 rfl
theorem q194 : (Jvm.Cond.selects "LockTurns$Fault" ({ cls := "java/lang/Throwable", name := "fillInStackTrace", desc := "(I)Ljava/lang/Throwable;" } : Jvm.MethodName) ({ cls := "java/lang/Throwable", name := "fillInStackTrace", desc := "(I)Ljava/lang/Throwable;" } : Jvm.MethodName)) ∈ lw_all := lw_g (lw_at lw_m1 112 rfl) rfl
theorem q195 : (Jvm.Cond.selects "LockTurns$Fault" ({ cls := "java/lang/Throwable", name := "fillInStackTrace", desc := "()Ljava/lang/Throwable;" } : Jvm.MethodName) ({ cls := "java/lang/Throwable", name := "fillInStackTrace", desc := "()Ljava/lang/Throwable;" } : Jvm.MethodName)) ∈ lw_all := lw_g (lw_at lw_m1 113 rfl) rfl
theorem q196 : (Jvm.Cond.lays "LockTurns$Fault" "java/lang/Throwable" "cause" "Ljava/lang/Throwable;") ∈ lw_all := lw_g (lw_at lw_m1 114 rfl) rfl
theorem q198 : (Jvm.Cond.lays "LockTurns$Fault" "java/lang/Throwable" "stackTrace" "[Ljava/lang/StackTraceElement;") ∈ lw_all := lw_g (lw_at lw_m1 116 rfl) rfl
theorem q200 : (Jvm.Cond.lays "LockTurns$Fault" "java/lang/Throwable" "suppressedExceptions" "Ljava/util/List;") ∈ lw_all := lw_g (lw_at lw_m1 118 rfl) rfl
theorem q202 : (Jvm.Cond.lays "LockTurns$Fault" "java/lang/Throwable" "detailMessage" "Ljava/lang/String;") ∈ lw_all := lw_g (lw_at lw_m1 120 rfl) rfl
theorem q204 : (Jvm.Cond.lays "LockTurns$Fault" "java/lang/Throwable" "backtrace" "Ljava/lang/Object;") ∈ lw_all := lw_g (lw_at lw_m1 122 rfl) rfl
theorem q242 : (Jvm.Cond.instanceMethod ({ cls := "LockTurns$Fault", name := "<init>", desc := "(II)V" } : Jvm.MethodName)) ∈ lw_all := lw_g (lw_at lw_m1 160 rfl) rfl
theorem q243 : (Jvm.Cond.code ({ cls := "LockTurns$Fault", name := "<init>", desc := "(II)V" } : Jvm.MethodName) prog_7_method_1_code (3 : Nat) (Option.none : Option Jvm.ClassFile.FieldType)) ∈ lw_all := lw_g (lw_at lw_m1 161 rfl) rfl
theorem q244 : (Jvm.Cond.methodLink "LockTurns$Fault" (1 : Nat) ({ cls := "java/lang/RuntimeException", name := "<init>", desc := "(Ljava/lang/String;Ljava/lang/Throwable;ZZ)V" } : Jvm.MethodName)) ∈ lw_all := lw_g (lw_at lw_m1 162 rfl) rfl
theorem q253 : (Jvm.Cond.fieldLink "LockTurns$Fault" (7 : Nat) "LockTurns$Fault" "code" "I") ∈ lw_all := lw_g (lw_at lw_m1 171 rfl) rfl
theorem q255 : (Jvm.Cond.fieldLink "LockTurns$Fault" (13 : Nat) "LockTurns$Fault" "place" "I") ∈ lw_all := lw_g (lw_at lw_m1 173 rfl) rfl
theorem q262 : (Jvm.Cond.laysFinal "LockTurns$Fault" "LockTurns$Fault" "code" "I") ∈ lw_all := lw_g (lw_at lw_m1 180 rfl) rfl
theorem q263 : (Jvm.Cond.soleField "LockTurns$Fault" "code") ∈ lw_all := lw_g (lw_at lw_m1 181 rfl) rfl
theorem q264 : (Jvm.Cond.laysFinal "LockTurns$Fault" "LockTurns$Fault" "place" "I") ∈ lw_all := lw_g (lw_at lw_m1 182 rfl) rfl
theorem q265 : (Jvm.Cond.soleField "LockTurns$Fault" "place") ∈ lw_all := lw_g (lw_at lw_m1 183 rfl) rfl
theorem q270 : (Jvm.Cond.lays "LockTurns$Fault" "java/lang/Throwable" "depth" "I") ∈ lw_all := lw_g (lw_at lw_m1 188 rfl) rfl
theorem q273 : (Jvm.Cond.superclass "LockTurns$Fault" "java/lang/RuntimeException") ∈ lw_all := lw_g (lw_at lw_m1 191 rfl) rfl
theorem in_X7 : ∀ w ∈ wsX70, w ∈ lw_all := lw_in wsX70 [196, 198, 200, 202, 204, 270, 262, 264] (by decide +kernel) (by decide +kernel)
/-! LockTurns$ByReady -/
set_option maxRecDepth 100000
def RX8 : String := "LockTurns$ByReady"
abbrev cX8_rank : ByteArray := prog_5_method_3_code
def yX8_rank : MethodName := ⟨RX8, "rank", "(LLockTurns$Gate;I)I"⟩
def dkwX8_rank_1 : List UInt8 := [167, 0, 4, 4, 96, 172]
abbrev dktX8_rank_1 : List UInt8 := dkwX8_rank_1 ++ []
def dkwX8_rank_0 : List UInt8 := [42, 43, 28, 183, 0, 13, 43, 180, 0, 17, 180, 0, 21, 28, 46, 42, 43, 182, 0, 27, 160, 0, 7, 3]
abbrev dktX8_rank_0 : List UInt8 := dkwX8_rank_0 ++ dktX8_rank_1
theorem dksX8_rank_0 : cX8_rank.data.toList.drop 0 = dktX8_rank_0 := by decide +kernel
theorem dksX8_rank_1 : cX8_rank.data.toList.drop 24 = dktX8_rank_1 := dk_seg dksX8_rank_0 24 rfl rfl
theorem dX8_rank_0 : decode cX8_rank 0 = .ok (.aload_n 0, 1) := dk_42 (dk_at dksX8_rank_0 0 rfl rfl)
theorem dX8_rank_1 : decode cX8_rank 1 = .ok (.aload_n 1, 1) := dk_43 (dk_at dksX8_rank_0 1 rfl rfl)
theorem dX8_rank_2 : decode cX8_rank 2 = .ok (.iload_n 2, 1) := dk_28 (dk_at dksX8_rank_0 2 rfl rfl)
theorem dX8_rank_3 : decode cX8_rank 3 = .ok (.invokespecial 13, 3) := dk_183 0 13 (dk_at dksX8_rank_0 3 rfl rfl)
theorem dX8_rank_6 : decode cX8_rank 6 = .ok (.aload_n 1, 1) := dk_43 (dk_at dksX8_rank_0 6 rfl rfl)
theorem dX8_rank_7 : decode cX8_rank 7 = .ok (.getfield 17, 3) := dk_180 0 17 (dk_at dksX8_rank_0 7 rfl rfl)
theorem dX8_rank_10 : decode cX8_rank 10 = .ok (.getfield 21, 3) := dk_180 0 21 (dk_at dksX8_rank_0 10 rfl rfl)
theorem dX8_rank_13 : decode cX8_rank 13 = .ok (.iload_n 2, 1) := dk_28 (dk_at dksX8_rank_0 13 rfl rfl)
theorem dX8_rank_14 : decode cX8_rank 14 = .ok (.iaload, 1) := dk_46 (dk_at dksX8_rank_0 14 rfl rfl)
theorem dX8_rank_15 : decode cX8_rank 15 = .ok (.aload_n 0, 1) := dk_42 (dk_at dksX8_rank_0 15 rfl rfl)
theorem dX8_rank_16 : decode cX8_rank 16 = .ok (.aload_n 1, 1) := dk_43 (dk_at dksX8_rank_0 16 rfl rfl)
theorem dX8_rank_17 : decode cX8_rank 17 = .ok (.invokevirtual 27, 3) := dk_182 0 27 (dk_at dksX8_rank_0 17 rfl rfl)
theorem dX8_rank_20 : decode cX8_rank 20 = .ok (.if_icmp .ne 7, 3) := dk_160 0 7 (dk_at dksX8_rank_0 20 rfl rfl)
theorem dX8_rank_23 : decode cX8_rank 23 = .ok (.iconst 0, 1) := dk_3 (dk_at dksX8_rank_0 23 rfl rfl)
theorem dX8_rank_24 : decode cX8_rank 24 = .ok (.goto 4, 3) := dk_167 0 4 (dk_at dksX8_rank_1 0 rfl rfl)
theorem dX8_rank_27 : decode cX8_rank 27 = .ok (.iconst 1, 1) := dk_4 (dk_at dksX8_rank_1 3 rfl rfl)
theorem dX8_rank_28 : decode cX8_rank 28 = .ok (.iadd, 1) := dk_96 (dk_at dksX8_rank_1 4 rfl rfl)
theorem dX8_rank_29 : decode cX8_rank 29 = .ok (.ireturn, 1) := dk_172 (dk_at dksX8_rank_1 5 rfl rfl)
abbrev cX8_wanted : ByteArray := prog_5_method_2_code
def yX8_wanted : MethodName := ⟨RX8, "wanted", "(LLockTurns$Gate;)I"⟩
theorem dX8_wanted_0 : decode cX8_wanted 0 = .ok (.aload_n 1, 1) := by decide +kernel
theorem dX8_wanted_1 : decode cX8_wanted 1 = .ok (.getfield 7, 3) := by decide +kernel
theorem dX8_wanted_4 : decode cX8_wanted 4 = .ok (.ireturn, 1) := by decide +kernel
theorem q146 : (Jvm.Cond.fieldLinkNest "LockTurns$ByReady" (21 : Nat) "LockTurns$Told" "sides" "[I" "LockTurns") ∈ lw_tbl := lw_at lw_m1 64 rfl
theorem q499 : (Jvm.Cond.instanceMethod ({ cls := "LockTurns$ByReady", name := "rank", desc := "(LLockTurns$Gate;I)I" } : Jvm.MethodName)) ∈ lw_all := lw_g (lw_at lw_m2 177 rfl) rfl
theorem q500 : (Jvm.Cond.code ({ cls := "LockTurns$ByReady", name := "rank", desc := "(LLockTurns$Gate;I)I" } : Jvm.MethodName) prog_5_method_3_code (3 : Nat) (Option.some Jvm.ClassFile.FieldType.int)) ∈ lw_all := lw_g (lw_at lw_m2 178 rfl) rfl
theorem q501 : (Jvm.Cond.methodLink "LockTurns$ByReady" (13 : Nat) ({ cls := "LockTurns$AtGate", name := "rank", desc := "(LLockTurns$Gate;I)I" } : Jvm.MethodName)) ∈ lw_all := lw_g (lw_at lw_m2 179 rfl) rfl
theorem q502 : (Jvm.Cond.superclass "LockTurns$ByReady" "LockTurns$AtGate") ∈ lw_all := lw_g (lw_at lw_m2 180 rfl) rfl
theorem q503 : (Jvm.Cond.methodLink "LockTurns$ByReady" (27 : Nat) ({ cls := "LockTurns$ByReady", name := "wanted", desc := "(LLockTurns$Gate;)I" } : Jvm.MethodName)) ∈ lw_all := lw_g (lw_at lw_m2 181 rfl) rfl
theorem q504 : (Jvm.Cond.instanceMethod ({ cls := "LockTurns$ByReady", name := "wanted", desc := "(LLockTurns$Gate;)I" } : Jvm.MethodName)) ∈ lw_all := lw_g (lw_at lw_m2 182 rfl) rfl
theorem q505 : (Jvm.Cond.selects "LockTurns$ByReady" ({ cls := "LockTurns$ByReady", name := "wanted", desc := "(LLockTurns$Gate;)I" } : Jvm.MethodName) ({ cls := "LockTurns$ByReady", name := "wanted", desc := "(LLockTurns$Gate;)I" } : Jvm.MethodName)) ∈ lw_all := lw_g (lw_at lw_m2 183 rfl) rfl
theorem q506 : (Jvm.Cond.sameMethod "LockTurns$ByReady" "LockTurns$ByReady" "wanted" "(LLockTurns$Gate;)I") ∈ lw_all := lw_g (lw_at lw_m2 184 rfl) rfl
theorem q517 : (Jvm.Cond.code ({ cls := "LockTurns$ByReady", name := "wanted", desc := "(LLockTurns$Gate;)I" } : Jvm.MethodName) prog_5_method_2_code (2 : Nat) (Option.some Jvm.ClassFile.FieldType.int)) ∈ lw_all := lw_g (lw_at lw_m2 195 rfl) rfl
theorem q518 : (Jvm.Cond.selects "LockTurns$ByReady" ({ cls := "LockTurns$AtGate", name := "rank", desc := "(LLockTurns$Gate;I)I" } : Jvm.MethodName) ({ cls := "LockTurns$ByReady", name := "rank", desc := "(LLockTurns$Gate;I)I" } : Jvm.MethodName)) ∈ lw_all := lw_g (lw_at lw_m2 196 rfl) rfl
theorem q696 : (Jvm.Cond.fieldLinkNest "LockTurns$ByReady" (17 : Nat) "LockTurns$Gate" "told" "LLockTurns$Told;" "LockTurns") ∈ lw_tbl := lw_at lw_m3 134 rfl
theorem q698 : (Jvm.Cond.fieldLinkNest "LockTurns$ByReady" (7 : Nat) "LockTurns$Gate" "ready" "I" "LockTurns") ∈ lw_tbl := lw_at lw_m3 136 rfl
/-! LockTurns$ByCargo -/
set_option maxRecDepth 100000
def RX9 : String := "LockTurns$ByCargo"
abbrev cX9_rank : ByteArray := prog_3_method_2_code
def yX9_rank : MethodName := ⟨RX9, "rank", "(LLockTurns$Gate;I)I"⟩
def dkwX9_rank_2 : List UInt8 := [28, 50, 3, 46, 96, 172]
abbrev dktX9_rank_2 : List UInt8 := dkwX9_rank_2 ++ []
def dkwX9_rank_1 : List UInt8 := [180, 0, 23, 180, 0, 27, 28, 184, 0, 19, 153, 0, 7, 3, 167, 0, 14, 43, 180, 0, 23, 180, 0, 32]
abbrev dktX9_rank_1 : List UInt8 := dkwX9_rank_1 ++ dktX9_rank_2
def dkwX9_rank_0 : List UInt8 := [42, 43, 28, 183, 0, 9, 43, 180, 0, 13, 28, 184, 0, 19, 153, 0, 7, 7, 167, 0, 32, 43]
abbrev dktX9_rank_0 : List UInt8 := dkwX9_rank_0 ++ dktX9_rank_1
theorem dksX9_rank_0 : cX9_rank.data.toList.drop 0 = dktX9_rank_0 := by decide +kernel
theorem dksX9_rank_1 : cX9_rank.data.toList.drop 22 = dktX9_rank_1 := dk_seg dksX9_rank_0 22 rfl rfl
theorem dksX9_rank_2 : cX9_rank.data.toList.drop 46 = dktX9_rank_2 := dk_seg dksX9_rank_1 24 rfl rfl
theorem dX9_rank_0 : decode cX9_rank 0 = .ok (.aload_n 0, 1) := dk_42 (dk_at dksX9_rank_0 0 rfl rfl)
theorem dX9_rank_1 : decode cX9_rank 1 = .ok (.aload_n 1, 1) := dk_43 (dk_at dksX9_rank_0 1 rfl rfl)
theorem dX9_rank_2 : decode cX9_rank 2 = .ok (.iload_n 2, 1) := dk_28 (dk_at dksX9_rank_0 2 rfl rfl)
theorem dX9_rank_3 : decode cX9_rank 3 = .ok (.invokespecial 9, 3) := dk_183 0 9 (dk_at dksX9_rank_0 3 rfl rfl)
theorem dX9_rank_6 : decode cX9_rank 6 = .ok (.aload_n 1, 1) := dk_43 (dk_at dksX9_rank_0 6 rfl rfl)
theorem dX9_rank_7 : decode cX9_rank 7 = .ok (.getfield 13, 3) := dk_180 0 13 (dk_at dksX9_rank_0 7 rfl rfl)
theorem dX9_rank_10 : decode cX9_rank 10 = .ok (.iload_n 2, 1) := dk_28 (dk_at dksX9_rank_0 10 rfl rfl)
theorem dX9_rank_11 : decode cX9_rank 11 = .ok (.invokestatic 19, 3) := dk_184 0 19 (dk_at dksX9_rank_0 11 rfl rfl)
theorem dX9_rank_14 : decode cX9_rank 14 = .ok (.ifCond .eq 7, 3) := dk_153 0 7 (dk_at dksX9_rank_0 14 rfl rfl)
theorem dX9_rank_17 : decode cX9_rank 17 = .ok (.iconst 4, 1) := dk_7 (dk_at dksX9_rank_0 17 rfl rfl)
theorem dX9_rank_18 : decode cX9_rank 18 = .ok (.goto 32, 3) := dk_167 0 32 (dk_at dksX9_rank_0 18 rfl rfl)
theorem dX9_rank_21 : decode cX9_rank 21 = .ok (.aload_n 1, 1) := dk_43 (dk_at dksX9_rank_0 21 rfl rfl)
theorem dX9_rank_22 : decode cX9_rank 22 = .ok (.getfield 23, 3) := dk_180 0 23 (dk_at dksX9_rank_1 0 rfl rfl)
theorem dX9_rank_25 : decode cX9_rank 25 = .ok (.getfield 27, 3) := dk_180 0 27 (dk_at dksX9_rank_1 3 rfl rfl)
theorem dX9_rank_28 : decode cX9_rank 28 = .ok (.iload_n 2, 1) := dk_28 (dk_at dksX9_rank_1 6 rfl rfl)
theorem dX9_rank_29 : decode cX9_rank 29 = .ok (.invokestatic 19, 3) := dk_184 0 19 (dk_at dksX9_rank_1 7 rfl rfl)
theorem dX9_rank_32 : decode cX9_rank 32 = .ok (.ifCond .eq 7, 3) := dk_153 0 7 (dk_at dksX9_rank_1 10 rfl rfl)
theorem dX9_rank_35 : decode cX9_rank 35 = .ok (.iconst 0, 1) := dk_3 (dk_at dksX9_rank_1 13 rfl rfl)
theorem dX9_rank_36 : decode cX9_rank 36 = .ok (.goto 14, 3) := dk_167 0 14 (dk_at dksX9_rank_1 14 rfl rfl)
theorem dX9_rank_39 : decode cX9_rank 39 = .ok (.aload_n 1, 1) := dk_43 (dk_at dksX9_rank_1 17 rfl rfl)
theorem dX9_rank_40 : decode cX9_rank 40 = .ok (.getfield 23, 3) := dk_180 0 23 (dk_at dksX9_rank_1 18 rfl rfl)
theorem dX9_rank_43 : decode cX9_rank 43 = .ok (.getfield 32, 3) := dk_180 0 32 (dk_at dksX9_rank_1 21 rfl rfl)
theorem dX9_rank_46 : decode cX9_rank 46 = .ok (.iload_n 2, 1) := dk_28 (dk_at dksX9_rank_2 0 rfl rfl)
theorem dX9_rank_47 : decode cX9_rank 47 = .ok (.aaload, 1) := dk_50 (dk_at dksX9_rank_2 1 rfl rfl)
theorem dX9_rank_48 : decode cX9_rank 48 = .ok (.iconst 0, 1) := dk_3 (dk_at dksX9_rank_2 2 rfl rfl)
theorem dX9_rank_49 : decode cX9_rank 49 = .ok (.iaload, 1) := dk_46 (dk_at dksX9_rank_2 3 rfl rfl)
theorem dX9_rank_50 : decode cX9_rank 50 = .ok (.iadd, 1) := dk_96 (dk_at dksX9_rank_2 4 rfl rfl)
theorem dX9_rank_51 : decode cX9_rank 51 = .ok (.ireturn, 1) := dk_172 (dk_at dksX9_rank_2 5 rfl rfl)
theorem q150 : (Jvm.Cond.fieldLinkNest "LockTurns$ByCargo" (32 : Nat) "LockTurns$Told" "boats" "[[I" "LockTurns") ∈ lw_tbl := lw_at lw_m1 68 rfl
theorem q153 : (Jvm.Cond.fieldLinkNest "LockTurns$ByCargo" (27 : Nat) "LockTurns$Told" "liars" "I" "LockTurns") ∈ lw_tbl := lw_at lw_m1 71 rfl
theorem q492 : (Jvm.Cond.selects "LockTurns$ByCargo" ({ cls := "LockTurns$AtGate", name := "rank", desc := "(LLockTurns$Gate;I)I" } : Jvm.MethodName) ({ cls := "LockTurns$ByCargo", name := "rank", desc := "(LLockTurns$Gate;I)I" } : Jvm.MethodName)) ∈ lw_all := lw_g (lw_at lw_m2 170 rfl) rfl
theorem q493 : (Jvm.Cond.instanceMethod ({ cls := "LockTurns$ByCargo", name := "rank", desc := "(LLockTurns$Gate;I)I" } : Jvm.MethodName)) ∈ lw_all := lw_g (lw_at lw_m2 171 rfl) rfl
theorem q494 : (Jvm.Cond.code ({ cls := "LockTurns$ByCargo", name := "rank", desc := "(LLockTurns$Gate;I)I" } : Jvm.MethodName) prog_3_method_2_code (3 : Nat) (Option.some Jvm.ClassFile.FieldType.int)) ∈ lw_all := lw_g (lw_at lw_m2 172 rfl) rfl
theorem q495 : (Jvm.Cond.methodLink "LockTurns$ByCargo" (9 : Nat) ({ cls := "LockTurns$AtGate", name := "rank", desc := "(LLockTurns$Gate;I)I" } : Jvm.MethodName)) ∈ lw_all := lw_g (lw_at lw_m2 173 rfl) rfl
theorem q496 : (Jvm.Cond.superclass "LockTurns$ByCargo" "LockTurns$AtGate") ∈ lw_all := lw_g (lw_at lw_m2 174 rfl) rfl
theorem q497 : (Jvm.Cond.methodLinkNest "LockTurns$ByCargo" (19 : Nat) ({ cls := "LockTurns", name := "has", desc := "(II)Z" } : Jvm.MethodName) "LockTurns") ∈ lw_tbl := lw_at lw_m2 175 rfl
theorem q695 : (Jvm.Cond.fieldLinkNest "LockTurns$ByCargo" (23 : Nat) "LockTurns$Gate" "told" "LLockTurns$Told;" "LockTurns") ∈ lw_tbl := lw_at lw_m3 133 rfl
theorem q704 : (Jvm.Cond.fieldLinkNest "LockTurns$ByCargo" (13 : Nat) "LockTurns$Gate" "seenThrough" "I" "LockTurns") ∈ lw_tbl := lw_at lw_m3 142 rfl
/-! LockTurns$AtGate -/
set_option maxRecDepth 100000
def RX10 : String := "LockTurns$AtGate"
abbrev cX10_rank : ByteArray := prog_2_method_2_code
def yX10_rank : MethodName := ⟨RX10, "rank", "(LLockTurns$Gate;I)I"⟩
theorem dX10_rank_0 : decode cX10_rank 0 = .ok (.iconst 0, 1) := by decide +kernel
theorem dX10_rank_1 : decode cX10_rank 1 = .ok (.ireturn, 1) := by decide +kernel
theorem q489 : (Jvm.Cond.instanceMethod ({ cls := "LockTurns$AtGate", name := "rank", desc := "(LLockTurns$Gate;I)I" } : Jvm.MethodName)) ∈ lw_all := lw_g (lw_at lw_m2 167 rfl) rfl
theorem q490 : (Jvm.Cond.selects "LockTurns$AtGate" ({ cls := "LockTurns$AtGate", name := "rank", desc := "(LLockTurns$Gate;I)I" } : Jvm.MethodName) ({ cls := "LockTurns$AtGate", name := "rank", desc := "(LLockTurns$Gate;I)I" } : Jvm.MethodName)) ∈ lw_all := lw_g (lw_at lw_m2 168 rfl) rfl
theorem q491 : (Jvm.Cond.sameMethod "LockTurns$AtGate" "LockTurns$AtGate" "rank" "(LLockTurns$Gate;I)I") ∈ lw_all := lw_g (lw_at lw_m2 169 rfl) rfl
theorem q520 : (Jvm.Cond.code ({ cls := "LockTurns$AtGate", name := "rank", desc := "(LLockTurns$Gate;I)I" } : Jvm.MethodName) prog_2_method_2_code (3 : Nat) (Option.some Jvm.ClassFile.FieldType.int)) ∈ lw_all := lw_g (lw_at lw_m2 198 rfl) rfl
/-! LockTurns$ByQueue -/
set_option maxRecDepth 100000
def RX11 : String := "LockTurns$ByQueue"
abbrev cX11_wanted : ByteArray := prog_4_method_2_code
def yX11_wanted : MethodName := ⟨RX11, "wanted", "(LLockTurns$Gate;)I"⟩
def dkwX11_wanted_1 : List UInt8 := [180, 0, 7, 3, 46, 43, 180, 0, 7, 4, 46, 164, 0, 7, 3, 167, 0, 4, 4, 172]
abbrev dktX11_wanted_1 : List UInt8 := dkwX11_wanted_1 ++ []
def dkwX11_wanted_0 : List UInt8 := [43, 180, 0, 7, 3, 46, 43, 180, 0, 7, 4, 46, 160, 0, 11, 42, 43, 183, 0, 13, 167, 0, 23, 43]
abbrev dktX11_wanted_0 : List UInt8 := dkwX11_wanted_0 ++ dktX11_wanted_1
theorem dksX11_wanted_0 : cX11_wanted.data.toList.drop 0 = dktX11_wanted_0 := by decide +kernel
theorem dksX11_wanted_1 : cX11_wanted.data.toList.drop 24 = dktX11_wanted_1 := dk_seg dksX11_wanted_0 24 rfl rfl
theorem dX11_wanted_0 : decode cX11_wanted 0 = .ok (.aload_n 1, 1) := dk_43 (dk_at dksX11_wanted_0 0 rfl rfl)
theorem dX11_wanted_1 : decode cX11_wanted 1 = .ok (.getfield 7, 3) := dk_180 0 7 (dk_at dksX11_wanted_0 1 rfl rfl)
theorem dX11_wanted_4 : decode cX11_wanted 4 = .ok (.iconst 0, 1) := dk_3 (dk_at dksX11_wanted_0 4 rfl rfl)
theorem dX11_wanted_5 : decode cX11_wanted 5 = .ok (.iaload, 1) := dk_46 (dk_at dksX11_wanted_0 5 rfl rfl)
theorem dX11_wanted_6 : decode cX11_wanted 6 = .ok (.aload_n 1, 1) := dk_43 (dk_at dksX11_wanted_0 6 rfl rfl)
theorem dX11_wanted_7 : decode cX11_wanted 7 = .ok (.getfield 7, 3) := dk_180 0 7 (dk_at dksX11_wanted_0 7 rfl rfl)
theorem dX11_wanted_10 : decode cX11_wanted 10 = .ok (.iconst 1, 1) := dk_4 (dk_at dksX11_wanted_0 10 rfl rfl)
theorem dX11_wanted_11 : decode cX11_wanted 11 = .ok (.iaload, 1) := dk_46 (dk_at dksX11_wanted_0 11 rfl rfl)
theorem dX11_wanted_12 : decode cX11_wanted 12 = .ok (.if_icmp .ne 11, 3) := dk_160 0 11 (dk_at dksX11_wanted_0 12 rfl rfl)
theorem dX11_wanted_15 : decode cX11_wanted 15 = .ok (.aload_n 0, 1) := dk_42 (dk_at dksX11_wanted_0 15 rfl rfl)
theorem dX11_wanted_16 : decode cX11_wanted 16 = .ok (.aload_n 1, 1) := dk_43 (dk_at dksX11_wanted_0 16 rfl rfl)
theorem dX11_wanted_17 : decode cX11_wanted 17 = .ok (.invokespecial 13, 3) := dk_183 0 13 (dk_at dksX11_wanted_0 17 rfl rfl)
theorem dX11_wanted_20 : decode cX11_wanted 20 = .ok (.goto 23, 3) := dk_167 0 23 (dk_at dksX11_wanted_0 20 rfl rfl)
theorem dX11_wanted_23 : decode cX11_wanted 23 = .ok (.aload_n 1, 1) := dk_43 (dk_at dksX11_wanted_0 23 rfl rfl)
theorem dX11_wanted_24 : decode cX11_wanted 24 = .ok (.getfield 7, 3) := dk_180 0 7 (dk_at dksX11_wanted_1 0 rfl rfl)
theorem dX11_wanted_27 : decode cX11_wanted 27 = .ok (.iconst 0, 1) := dk_3 (dk_at dksX11_wanted_1 3 rfl rfl)
theorem dX11_wanted_28 : decode cX11_wanted 28 = .ok (.iaload, 1) := dk_46 (dk_at dksX11_wanted_1 4 rfl rfl)
theorem dX11_wanted_29 : decode cX11_wanted 29 = .ok (.aload_n 1, 1) := dk_43 (dk_at dksX11_wanted_1 5 rfl rfl)
theorem dX11_wanted_30 : decode cX11_wanted 30 = .ok (.getfield 7, 3) := dk_180 0 7 (dk_at dksX11_wanted_1 6 rfl rfl)
theorem dX11_wanted_33 : decode cX11_wanted 33 = .ok (.iconst 1, 1) := dk_4 (dk_at dksX11_wanted_1 9 rfl rfl)
theorem dX11_wanted_34 : decode cX11_wanted 34 = .ok (.iaload, 1) := dk_46 (dk_at dksX11_wanted_1 10 rfl rfl)
theorem dX11_wanted_35 : decode cX11_wanted 35 = .ok (.if_icmp .le 7, 3) := dk_164 0 7 (dk_at dksX11_wanted_1 11 rfl rfl)
theorem dX11_wanted_38 : decode cX11_wanted 38 = .ok (.iconst 0, 1) := dk_3 (dk_at dksX11_wanted_1 14 rfl rfl)
theorem dX11_wanted_39 : decode cX11_wanted 39 = .ok (.goto 4, 3) := dk_167 0 4 (dk_at dksX11_wanted_1 15 rfl rfl)
theorem dX11_wanted_42 : decode cX11_wanted 42 = .ok (.iconst 1, 1) := dk_4 (dk_at dksX11_wanted_1 18 rfl rfl)
theorem dX11_wanted_43 : decode cX11_wanted 43 = .ok (.ireturn, 1) := dk_172 (dk_at dksX11_wanted_1 19 rfl rfl)
theorem q498 : (Jvm.Cond.selects "LockTurns$ByQueue" ({ cls := "LockTurns$AtGate", name := "rank", desc := "(LLockTurns$Gate;I)I" } : Jvm.MethodName) ({ cls := "LockTurns$ByReady", name := "rank", desc := "(LLockTurns$Gate;I)I" } : Jvm.MethodName)) ∈ lw_all := lw_g (lw_at lw_m2 176 rfl) rfl
theorem q507 : (Jvm.Cond.selects "LockTurns$ByQueue" ({ cls := "LockTurns$ByReady", name := "wanted", desc := "(LLockTurns$Gate;)I" } : Jvm.MethodName) ({ cls := "LockTurns$ByQueue", name := "wanted", desc := "(LLockTurns$Gate;)I" } : Jvm.MethodName)) ∈ lw_all := lw_g (lw_at lw_m2 185 rfl) rfl
theorem q508 : (Jvm.Cond.instanceMethod ({ cls := "LockTurns$ByQueue", name := "wanted", desc := "(LLockTurns$Gate;)I" } : Jvm.MethodName)) ∈ lw_all := lw_g (lw_at lw_m2 186 rfl) rfl
theorem q509 : (Jvm.Cond.code ({ cls := "LockTurns$ByQueue", name := "wanted", desc := "(LLockTurns$Gate;)I" } : Jvm.MethodName) prog_4_method_2_code (2 : Nat) (Option.some Jvm.ClassFile.FieldType.int)) ∈ lw_all := lw_g (lw_at lw_m2 187 rfl) rfl
theorem q510 : (Jvm.Cond.methodLink "LockTurns$ByQueue" (13 : Nat) ({ cls := "LockTurns$ByReady", name := "wanted", desc := "(LLockTurns$Gate;)I" } : Jvm.MethodName)) ∈ lw_all := lw_g (lw_at lw_m2 188 rfl) rfl
theorem q511 : (Jvm.Cond.superclass "LockTurns$ByQueue" "LockTurns$ByReady") ∈ lw_all := lw_g (lw_at lw_m2 189 rfl) rfl
theorem q707 : (Jvm.Cond.fieldLinkNest "LockTurns$ByQueue" (7 : Nat) "LockTurns$Gate" "many" "[I" "LockTurns") ∈ lw_tbl := lw_at lw_m3 145 rfl
/-! LockTurns$ByTwos -/
set_option maxRecDepth 100000
def RX12 : String := "LockTurns$ByTwos"
abbrev cX12_wanted : ByteArray := prog_6_method_2_code
def yX12_wanted : MethodName := ⟨RX12, "wanted", "(LLockTurns$Gate;)I"⟩
def dkwX12_wanted_1 : List UInt8 := [161, 0, 12, 4, 43, 180, 0, 9, 100, 167, 0, 7, 43, 180, 0, 9, 172]
abbrev dktX12_wanted_1 : List UInt8 := dkwX12_wanted_1 ++ []
def dkwX12_wanted_0 : List UInt8 := [43, 180, 0, 9, 16, 252, 160, 0, 11, 42, 43, 183, 0, 15, 167, 0, 24, 43, 180, 0, 19, 5]
abbrev dktX12_wanted_0 : List UInt8 := dkwX12_wanted_0 ++ dktX12_wanted_1
theorem dksX12_wanted_0 : cX12_wanted.data.toList.drop 0 = dktX12_wanted_0 := by decide +kernel
theorem dksX12_wanted_1 : cX12_wanted.data.toList.drop 22 = dktX12_wanted_1 := dk_seg dksX12_wanted_0 22 rfl rfl
theorem dX12_wanted_0 : decode cX12_wanted 0 = .ok (.aload_n 1, 1) := dk_43 (dk_at dksX12_wanted_0 0 rfl rfl)
theorem dX12_wanted_1 : decode cX12_wanted 1 = .ok (.getfield 9, 3) := dk_180 0 9 (dk_at dksX12_wanted_0 1 rfl rfl)
theorem dX12_wanted_4 : decode cX12_wanted 4 = .ok (.bipush (-4), 2) := dk_16 252 (dk_at dksX12_wanted_0 4 rfl rfl)
theorem dX12_wanted_6 : decode cX12_wanted 6 = .ok (.if_icmp .ne 11, 3) := dk_160 0 11 (dk_at dksX12_wanted_0 6 rfl rfl)
theorem dX12_wanted_9 : decode cX12_wanted 9 = .ok (.aload_n 0, 1) := dk_42 (dk_at dksX12_wanted_0 9 rfl rfl)
theorem dX12_wanted_10 : decode cX12_wanted 10 = .ok (.aload_n 1, 1) := dk_43 (dk_at dksX12_wanted_0 10 rfl rfl)
theorem dX12_wanted_11 : decode cX12_wanted 11 = .ok (.invokespecial 15, 3) := dk_183 0 15 (dk_at dksX12_wanted_0 11 rfl rfl)
theorem dX12_wanted_14 : decode cX12_wanted 14 = .ok (.goto 24, 3) := dk_167 0 24 (dk_at dksX12_wanted_0 14 rfl rfl)
theorem dX12_wanted_17 : decode cX12_wanted 17 = .ok (.aload_n 1, 1) := dk_43 (dk_at dksX12_wanted_0 17 rfl rfl)
theorem dX12_wanted_18 : decode cX12_wanted 18 = .ok (.getfield 19, 3) := dk_180 0 19 (dk_at dksX12_wanted_0 18 rfl rfl)
theorem dX12_wanted_21 : decode cX12_wanted 21 = .ok (.iconst 2, 1) := dk_5 (dk_at dksX12_wanted_0 21 rfl rfl)
theorem dX12_wanted_22 : decode cX12_wanted 22 = .ok (.if_icmp .lt 12, 3) := dk_161 0 12 (dk_at dksX12_wanted_1 0 rfl rfl)
theorem dX12_wanted_25 : decode cX12_wanted 25 = .ok (.iconst 1, 1) := dk_4 (dk_at dksX12_wanted_1 3 rfl rfl)
theorem dX12_wanted_26 : decode cX12_wanted 26 = .ok (.aload_n 1, 1) := dk_43 (dk_at dksX12_wanted_1 4 rfl rfl)
theorem dX12_wanted_27 : decode cX12_wanted 27 = .ok (.getfield 9, 3) := dk_180 0 9 (dk_at dksX12_wanted_1 5 rfl rfl)
theorem dX12_wanted_30 : decode cX12_wanted 30 = .ok (.isub, 1) := dk_100 (dk_at dksX12_wanted_1 8 rfl rfl)
theorem dX12_wanted_31 : decode cX12_wanted 31 = .ok (.goto 7, 3) := dk_167 0 7 (dk_at dksX12_wanted_1 9 rfl rfl)
theorem dX12_wanted_34 : decode cX12_wanted 34 = .ok (.aload_n 1, 1) := dk_43 (dk_at dksX12_wanted_1 12 rfl rfl)
theorem dX12_wanted_35 : decode cX12_wanted 35 = .ok (.getfield 9, 3) := dk_180 0 9 (dk_at dksX12_wanted_1 13 rfl rfl)
theorem dX12_wanted_38 : decode cX12_wanted 38 = .ok (.ireturn, 1) := dk_172 (dk_at dksX12_wanted_1 16 rfl rfl)
theorem q512 : (Jvm.Cond.selects "LockTurns$ByTwos" ({ cls := "LockTurns$ByReady", name := "wanted", desc := "(LLockTurns$Gate;)I" } : Jvm.MethodName) ({ cls := "LockTurns$ByTwos", name := "wanted", desc := "(LLockTurns$Gate;)I" } : Jvm.MethodName)) ∈ lw_all := lw_g (lw_at lw_m2 190 rfl) rfl
theorem q513 : (Jvm.Cond.instanceMethod ({ cls := "LockTurns$ByTwos", name := "wanted", desc := "(LLockTurns$Gate;)I" } : Jvm.MethodName)) ∈ lw_all := lw_g (lw_at lw_m2 191 rfl) rfl
theorem q514 : (Jvm.Cond.code ({ cls := "LockTurns$ByTwos", name := "wanted", desc := "(LLockTurns$Gate;)I" } : Jvm.MethodName) prog_6_method_2_code (2 : Nat) (Option.some Jvm.ClassFile.FieldType.int)) ∈ lw_all := lw_g (lw_at lw_m2 192 rfl) rfl
theorem q515 : (Jvm.Cond.methodLink "LockTurns$ByTwos" (15 : Nat) ({ cls := "LockTurns$ByReady", name := "wanted", desc := "(LLockTurns$Gate;)I" } : Jvm.MethodName)) ∈ lw_all := lw_g (lw_at lw_m2 193 rfl) rfl
theorem q516 : (Jvm.Cond.superclass "LockTurns$ByTwos" "LockTurns$ByReady") ∈ lw_all := lw_g (lw_at lw_m2 194 rfl) rfl
theorem q519 : (Jvm.Cond.selects "LockTurns$ByTwos" ({ cls := "LockTurns$AtGate", name := "rank", desc := "(LLockTurns$Gate;I)I" } : Jvm.MethodName) ({ cls := "LockTurns$ByReady", name := "rank", desc := "(LLockTurns$Gate;I)I" } : Jvm.MethodName)) ∈ lw_all := lw_g (lw_at lw_m2 197 rfl) rfl
theorem q700 : (Jvm.Cond.fieldLinkNest "LockTurns$ByTwos" (9 : Nat) "LockTurns$Gate" "last" "I" "LockTurns") ∈ lw_tbl := lw_at lw_m3 138 rfl
theorem q702 : (Jvm.Cond.fieldLinkNest "LockTurns$ByTwos" (19 : Nat) "LockTurns$Gate" "inRow" "I" "LockTurns") ∈ lw_tbl := lw_at lw_m3 140 rfl
