/-! LockTurnsModel -/
set_option maxRecDepth 100000
def RX5 : String := "LockTurnsModel"
def TX5 : u_T := fun k => match k with
  | 0 => ("LockTurnsModel", "st", "[I", true)
  | 1 => ("LockTurnsModel", "at", "[I", true)
  | 2 => ("LockTurnsModel", "isKept", "[Z", true)
  | 3 => ("LockTurnsModel", "boats", "I", false)
  | 4 => ("LockTurnsModel", "draft", "[I", true)
  | 5 => ("LockTurnsModel", "dBoats", "I", false)
  | 6 => ("LockTurnsModel", "toldLines", "I", false)
  | 7 => ("LockTurnsModel", "toldLiars", "I", false)
  | 8 => ("LockTurnsModel", "highest", "I", false)
  | 9 => ("LockTurnsModel", "tape", "[I", true)
  | 10 => ("LockTurnsModel", "taped", "I", false)
  | 11 => ("LockTurnsModel", "pos", "I", false)
  | 12 => ("LockTurnsModel", "from", "I", false)
  | 13 => ("LockTurnsModel", "sort", "I", false)
  | 14 => ("LockTurnsModel", "value", "I", false)
  | 15 => ("LockTurnsModel", "fault", "I", false)
  | 16 => ("LockTurnsModel", "wrongAt", "I", false)
  | 17 => ("LockTurnsModel", "caught", "I", false)
  | 18 => ("LockTurnsModel", "passed", "[I", true)
  | 19 => ("LockTurnsModel", "done", "[I", true)
  | 20 => ("LockTurnsModel", "stands", "[I", true)
  | 21 => ("LockTurnsModel", "passedMany", "I", false)
  | 22 => ("LockTurnsModel", "free", "I", false)
  | 23 => ("LockTurnsModel", "ready", "I", false)
  | 24 => ("LockTurnsModel", "water", "I", false)
  | 25 => ("LockTurnsModel", "turned", "I", false)
  | 26 => ("LockTurnsModel", "row", "[I", true)
  | 27 => ("LockTurnsModel", "lanes", "[I", true)
  | 28 => ("LockTurnsModel", "sizes", "[I", true)
  | 29 => ("LockTurnsModel", "cells", "[I", true)
  | 30 => ("LockTurnsModel", "torn", "I", false)
  | _ => ("LockTurnsModel", "had", "[I", true)
def tyX5 : Nat → FieldType := fun k => match k with
  | 0 => .array .int
  | 1 => .array .int
  | 2 => .array .boolean
  | 3 => .int
  | 4 => .array .int
  | 5 => .int
  | 6 => .int
  | 7 => .int
  | 8 => .int
  | 9 => .array .int
  | 10 => .int
  | 11 => .int
  | 12 => .int
  | 13 => .int
  | 14 => .int
  | 15 => .int
  | 16 => .int
  | 17 => .int
  | 18 => .array .int
  | 19 => .array .int
  | 20 => .array .int
  | 21 => .int
  | 22 => .int
  | 23 => .int
  | 24 => .int
  | 25 => .int
  | 26 => .array .int
  | 27 => .array .int
  | 28 => .array .int
  | 29 => .array .int
  | 30 => .int
  | _ => .array .int
abbrev wsX50 : List Cond := u_ws RX5 TX5 32
set_option maxRecDepth 100000 in
theorem nmX5 : ∀ a, a < 32 → ∀ b, b < 32 → a ≠ b → (TX5 a).2.1 ≠ (TX5 b).2.1 := by decide +kernel
set_option maxRecDepth 100000 in
theorem tyX5_ok : ∀ k, k < 32 → parseFieldDescriptor (TX5 k).2.2.1 = some (tyX5 k) := by decide +kernel
abbrev cX5_init : ByteArray := prog_14_method_1_code
def yX5_init : MethodName := ⟨RX5, "<init>", "()V"⟩
def dkwX5_init_5 : List UInt8 := [180, 0, 38, 27, 16, 252, 79, 132, 1, 1, 167, 255, 240, 42, 182, 0, 50, 42, 182, 0, 53, 177]
abbrev dktX5_init_5 : List UInt8 := dkwX5_init_5 ++ []
def dkwX5_init_4 : List UInt8 := [17, 0, 160, 188, 10, 181, 0, 44, 42, 16, 55, 188, 10, 181, 0, 47, 3, 60, 27, 7, 162, 0, 17, 42]
abbrev dktX5_init_4 : List UInt8 := dkwX5_init_4 ++ dktX5_init_5
def dkwX5_init_3 : List UInt8 := [16, 6, 188, 10, 181, 0, 35, 42, 7, 188, 10, 181, 0, 38, 42, 7, 188, 10, 181, 0, 41, 42]
abbrev dktX5_init_3 : List UInt8 := dkwX5_init_3 ++ dktX5_init_4
def dkwX5_init_2 : List UInt8 := [16, 6, 188, 10, 181, 0, 26, 42, 16, 6, 188, 10, 181, 0, 29, 42, 16, 6, 188, 10, 181, 0, 32, 42]
abbrev dktX5_init_2 : List UInt8 := dkwX5_init_2 ++ dktX5_init_3
def dkwX5_init_1 : List UInt8 := [188, 4, 181, 0, 16, 42, 16, 55, 188, 10, 181, 0, 20, 42, 17, 0, 160, 188, 10, 181, 0, 23, 42]
abbrev dktX5_init_1 : List UInt8 := dkwX5_init_1 ++ dktX5_init_2
def dkwX5_init_0 : List UInt8 := [42, 183, 0, 1, 42, 17, 0, 165, 188, 10, 181, 0, 7, 42, 16, 55, 188, 10, 181, 0, 13, 42, 5]
abbrev dktX5_init_0 : List UInt8 := dkwX5_init_0 ++ dktX5_init_1
theorem dksX5_init_0 : cX5_init.data.toList.drop 0 = dktX5_init_0 := by decide +kernel
theorem dksX5_init_1 : cX5_init.data.toList.drop 23 = dktX5_init_1 := dk_seg dksX5_init_0 23 rfl rfl
theorem dksX5_init_2 : cX5_init.data.toList.drop 46 = dktX5_init_2 := dk_seg dksX5_init_1 23 rfl rfl
theorem dksX5_init_3 : cX5_init.data.toList.drop 70 = dktX5_init_3 := dk_seg dksX5_init_2 24 rfl rfl
theorem dksX5_init_4 : cX5_init.data.toList.drop 92 = dktX5_init_4 := dk_seg dksX5_init_3 22 rfl rfl
theorem dksX5_init_5 : cX5_init.data.toList.drop 116 = dktX5_init_5 := dk_seg dksX5_init_4 24 rfl rfl
theorem dX5_init_0 : decode cX5_init 0 = .ok (.aload_n 0, 1) := dk_42 (dk_at dksX5_init_0 0 rfl rfl)
theorem dX5_init_1 : decode cX5_init 1 = .ok (.invokespecial 1, 3) := dk_183 0 1 (dk_at dksX5_init_0 1 rfl rfl)
theorem dX5_init_4 : decode cX5_init 4 = .ok (.aload_n 0, 1) := dk_42 (dk_at dksX5_init_0 4 rfl rfl)
theorem dX5_init_5 : decode cX5_init 5 = .ok (.sipush 165, 3) := dk_17 0 165 (dk_at dksX5_init_0 5 rfl rfl)
theorem dX5_init_8 : decode cX5_init 8 = .ok (.newarray .int, 2) := dk_188_10 (dk_at dksX5_init_0 8 rfl rfl)
theorem dX5_init_10 : decode cX5_init 10 = .ok (.putfield 7, 3) := dk_181 0 7 (dk_at dksX5_init_0 10 rfl rfl)
theorem dX5_init_13 : decode cX5_init 13 = .ok (.aload_n 0, 1) := dk_42 (dk_at dksX5_init_0 13 rfl rfl)
theorem dX5_init_14 : decode cX5_init 14 = .ok (.bipush 55, 2) := dk_16 55 (dk_at dksX5_init_0 14 rfl rfl)
theorem dX5_init_16 : decode cX5_init 16 = .ok (.newarray .int, 2) := dk_188_10 (dk_at dksX5_init_0 16 rfl rfl)
theorem dX5_init_18 : decode cX5_init 18 = .ok (.putfield 13, 3) := dk_181 0 13 (dk_at dksX5_init_0 18 rfl rfl)
theorem dX5_init_21 : decode cX5_init 21 = .ok (.aload_n 0, 1) := dk_42 (dk_at dksX5_init_0 21 rfl rfl)
theorem dX5_init_22 : decode cX5_init 22 = .ok (.iconst 2, 1) := dk_5 (dk_at dksX5_init_0 22 rfl rfl)
theorem dX5_init_23 : decode cX5_init 23 = .ok (.newarray .boolean, 2) := dk_188_4 (dk_at dksX5_init_1 0 rfl rfl)
theorem dX5_init_25 : decode cX5_init 25 = .ok (.putfield 16, 3) := dk_181 0 16 (dk_at dksX5_init_1 2 rfl rfl)
theorem dX5_init_28 : decode cX5_init 28 = .ok (.aload_n 0, 1) := dk_42 (dk_at dksX5_init_1 5 rfl rfl)
theorem dX5_init_29 : decode cX5_init 29 = .ok (.bipush 55, 2) := dk_16 55 (dk_at dksX5_init_1 6 rfl rfl)
theorem dX5_init_31 : decode cX5_init 31 = .ok (.newarray .int, 2) := dk_188_10 (dk_at dksX5_init_1 8 rfl rfl)
theorem dX5_init_33 : decode cX5_init 33 = .ok (.putfield 20, 3) := dk_181 0 20 (dk_at dksX5_init_1 10 rfl rfl)
theorem dX5_init_36 : decode cX5_init 36 = .ok (.aload_n 0, 1) := dk_42 (dk_at dksX5_init_1 13 rfl rfl)
theorem dX5_init_37 : decode cX5_init 37 = .ok (.sipush 160, 3) := dk_17 0 160 (dk_at dksX5_init_1 14 rfl rfl)
theorem dX5_init_40 : decode cX5_init 40 = .ok (.newarray .int, 2) := dk_188_10 (dk_at dksX5_init_1 17 rfl rfl)
theorem dX5_init_42 : decode cX5_init 42 = .ok (.putfield 23, 3) := dk_181 0 23 (dk_at dksX5_init_1 19 rfl rfl)
theorem dX5_init_45 : decode cX5_init 45 = .ok (.aload_n 0, 1) := dk_42 (dk_at dksX5_init_1 22 rfl rfl)
theorem dX5_init_46 : decode cX5_init 46 = .ok (.bipush 6, 2) := dk_16 6 (dk_at dksX5_init_2 0 rfl rfl)
theorem dX5_init_48 : decode cX5_init 48 = .ok (.newarray .int, 2) := dk_188_10 (dk_at dksX5_init_2 2 rfl rfl)
theorem dX5_init_50 : decode cX5_init 50 = .ok (.putfield 26, 3) := dk_181 0 26 (dk_at dksX5_init_2 4 rfl rfl)
theorem dX5_init_53 : decode cX5_init 53 = .ok (.aload_n 0, 1) := dk_42 (dk_at dksX5_init_2 7 rfl rfl)
theorem dX5_init_54 : decode cX5_init 54 = .ok (.bipush 6, 2) := dk_16 6 (dk_at dksX5_init_2 8 rfl rfl)
theorem dX5_init_56 : decode cX5_init 56 = .ok (.newarray .int, 2) := dk_188_10 (dk_at dksX5_init_2 10 rfl rfl)
theorem dX5_init_58 : decode cX5_init 58 = .ok (.putfield 29, 3) := dk_181 0 29 (dk_at dksX5_init_2 12 rfl rfl)
theorem dX5_init_61 : decode cX5_init 61 = .ok (.aload_n 0, 1) := dk_42 (dk_at dksX5_init_2 15 rfl rfl)
theorem dX5_init_62 : decode cX5_init 62 = .ok (.bipush 6, 2) := dk_16 6 (dk_at dksX5_init_2 16 rfl rfl)
theorem dX5_init_64 : decode cX5_init 64 = .ok (.newarray .int, 2) := dk_188_10 (dk_at dksX5_init_2 18 rfl rfl)
theorem dX5_init_66 : decode cX5_init 66 = .ok (.putfield 32, 3) := dk_181 0 32 (dk_at dksX5_init_2 20 rfl rfl)
theorem dX5_init_69 : decode cX5_init 69 = .ok (.aload_n 0, 1) := dk_42 (dk_at dksX5_init_2 23 rfl rfl)
theorem dX5_init_70 : decode cX5_init 70 = .ok (.bipush 6, 2) := dk_16 6 (dk_at dksX5_init_3 0 rfl rfl)
theorem dX5_init_72 : decode cX5_init 72 = .ok (.newarray .int, 2) := dk_188_10 (dk_at dksX5_init_3 2 rfl rfl)
theorem dX5_init_74 : decode cX5_init 74 = .ok (.putfield 35, 3) := dk_181 0 35 (dk_at dksX5_init_3 4 rfl rfl)
theorem dX5_init_77 : decode cX5_init 77 = .ok (.aload_n 0, 1) := dk_42 (dk_at dksX5_init_3 7 rfl rfl)
theorem dX5_init_78 : decode cX5_init 78 = .ok (.iconst 4, 1) := dk_7 (dk_at dksX5_init_3 8 rfl rfl)
theorem dX5_init_79 : decode cX5_init 79 = .ok (.newarray .int, 2) := dk_188_10 (dk_at dksX5_init_3 9 rfl rfl)
theorem dX5_init_81 : decode cX5_init 81 = .ok (.putfield 38, 3) := dk_181 0 38 (dk_at dksX5_init_3 11 rfl rfl)
theorem dX5_init_84 : decode cX5_init 84 = .ok (.aload_n 0, 1) := dk_42 (dk_at dksX5_init_3 14 rfl rfl)
theorem dX5_init_85 : decode cX5_init 85 = .ok (.iconst 4, 1) := dk_7 (dk_at dksX5_init_3 15 rfl rfl)
theorem dX5_init_86 : decode cX5_init 86 = .ok (.newarray .int, 2) := dk_188_10 (dk_at dksX5_init_3 16 rfl rfl)
theorem dX5_init_88 : decode cX5_init 88 = .ok (.putfield 41, 3) := dk_181 0 41 (dk_at dksX5_init_3 18 rfl rfl)
theorem dX5_init_91 : decode cX5_init 91 = .ok (.aload_n 0, 1) := dk_42 (dk_at dksX5_init_3 21 rfl rfl)
theorem dX5_init_92 : decode cX5_init 92 = .ok (.sipush 160, 3) := dk_17 0 160 (dk_at dksX5_init_4 0 rfl rfl)
theorem dX5_init_95 : decode cX5_init 95 = .ok (.newarray .int, 2) := dk_188_10 (dk_at dksX5_init_4 3 rfl rfl)
theorem dX5_init_97 : decode cX5_init 97 = .ok (.putfield 44, 3) := dk_181 0 44 (dk_at dksX5_init_4 5 rfl rfl)
theorem dX5_init_100 : decode cX5_init 100 = .ok (.aload_n 0, 1) := dk_42 (dk_at dksX5_init_4 8 rfl rfl)
theorem dX5_init_101 : decode cX5_init 101 = .ok (.bipush 55, 2) := dk_16 55 (dk_at dksX5_init_4 9 rfl rfl)
theorem dX5_init_103 : decode cX5_init 103 = .ok (.newarray .int, 2) := dk_188_10 (dk_at dksX5_init_4 11 rfl rfl)
theorem dX5_init_105 : decode cX5_init 105 = .ok (.putfield 47, 3) := dk_181 0 47 (dk_at dksX5_init_4 13 rfl rfl)
theorem dX5_init_108 : decode cX5_init 108 = .ok (.iconst 0, 1) := dk_3 (dk_at dksX5_init_4 16 rfl rfl)
theorem dX5_init_109 : decode cX5_init 109 = .ok (.istore_n 1, 1) := dk_60 (dk_at dksX5_init_4 17 rfl rfl)
theorem dX5_init_110 : decode cX5_init 110 = .ok (.iload_n 1, 1) := dk_27 (dk_at dksX5_init_4 18 rfl rfl)
theorem dX5_init_111 : decode cX5_init 111 = .ok (.iconst 4, 1) := dk_7 (dk_at dksX5_init_4 19 rfl rfl)
theorem dX5_init_112 : decode cX5_init 112 = .ok (.if_icmp .ge 17, 3) := dk_162 0 17 (dk_at dksX5_init_4 20 rfl rfl)
theorem dX5_init_115 : decode cX5_init 115 = .ok (.aload_n 0, 1) := dk_42 (dk_at dksX5_init_4 23 rfl rfl)
theorem dX5_init_116 : decode cX5_init 116 = .ok (.getfield 38, 3) := dk_180 0 38 (dk_at dksX5_init_5 0 rfl rfl)
theorem dX5_init_119 : decode cX5_init 119 = .ok (.iload_n 1, 1) := dk_27 (dk_at dksX5_init_5 3 rfl rfl)
theorem dX5_init_120 : decode cX5_init 120 = .ok (.bipush (-4), 2) := dk_16 252 (dk_at dksX5_init_5 4 rfl rfl)
theorem dX5_init_122 : decode cX5_init 122 = .ok (.iastore, 1) := dk_79 (dk_at dksX5_init_5 6 rfl rfl)
theorem dX5_init_123 : decode cX5_init 123 = .ok (.iinc 1 1, 3) := dk_132 1 1 (dk_at dksX5_init_5 7 rfl rfl)
theorem dX5_init_126 : decode cX5_init 126 = .ok (.goto (-16), 3) := dk_167 255 240 (dk_at dksX5_init_5 10 rfl rfl)
theorem dX5_init_129 : decode cX5_init 129 = .ok (.aload_n 0, 1) := dk_42 (dk_at dksX5_init_5 13 rfl rfl)
theorem dX5_init_130 : decode cX5_init 130 = .ok (.invokevirtual 50, 3) := dk_182 0 50 (dk_at dksX5_init_5 14 rfl rfl)
theorem dX5_init_133 : decode cX5_init 133 = .ok (.aload_n 0, 1) := dk_42 (dk_at dksX5_init_5 17 rfl rfl)
theorem dX5_init_134 : decode cX5_init 134 = .ok (.invokevirtual 53, 3) := dk_182 0 53 (dk_at dksX5_init_5 18 rfl rfl)
theorem dX5_init_137 : decode cX5_init 137 = .ok (.return_, 1) := dk_177 (dk_at dksX5_init_5 21 rfl rfl)
abbrev cX5_firstDraft : ByteArray := prog_14_method_5_code
def yX5_firstDraft : MethodName := ⟨RX5, "firstDraft", "()V"⟩
def dkwX5_firstDraft_2 : List UInt8 := [3, 181, 0, 63, 42, 16, 252, 181, 0, 66, 177]
abbrev dktX5_firstDraft_2 : List UInt8 := dkwX5_firstDraft_2 ++ []
def dkwX5_firstDraft_1 : List UInt8 := [180, 0, 20, 3, 8, 79, 42, 180, 0, 20, 4, 5, 79, 42, 3, 181, 0, 56, 42, 3, 181, 0, 60, 42]
abbrev dktX5_firstDraft_1 : List UInt8 := dkwX5_firstDraft_1 ++ dktX5_firstDraft_2
def dkwX5_firstDraft_0 : List UInt8 := [3, 60, 27, 16, 55, 162, 0, 16, 42, 180, 0, 20, 27, 3, 79, 132, 1, 1, 167, 255, 240, 42]
abbrev dktX5_firstDraft_0 : List UInt8 := dkwX5_firstDraft_0 ++ dktX5_firstDraft_1
theorem dksX5_firstDraft_0 : cX5_firstDraft.data.toList.drop 0 = dktX5_firstDraft_0 := by decide +kernel
theorem dksX5_firstDraft_1 : cX5_firstDraft.data.toList.drop 22 = dktX5_firstDraft_1 := dk_seg dksX5_firstDraft_0 22 rfl rfl
theorem dksX5_firstDraft_2 : cX5_firstDraft.data.toList.drop 46 = dktX5_firstDraft_2 := dk_seg dksX5_firstDraft_1 24 rfl rfl
theorem dX5_firstDraft_0 : decode cX5_firstDraft 0 = .ok (.iconst 0, 1) := dk_3 (dk_at dksX5_firstDraft_0 0 rfl rfl)
theorem dX5_firstDraft_1 : decode cX5_firstDraft 1 = .ok (.istore_n 1, 1) := dk_60 (dk_at dksX5_firstDraft_0 1 rfl rfl)
theorem dX5_firstDraft_2 : decode cX5_firstDraft 2 = .ok (.iload_n 1, 1) := dk_27 (dk_at dksX5_firstDraft_0 2 rfl rfl)
theorem dX5_firstDraft_3 : decode cX5_firstDraft 3 = .ok (.bipush 55, 2) := dk_16 55 (dk_at dksX5_firstDraft_0 3 rfl rfl)
theorem dX5_firstDraft_5 : decode cX5_firstDraft 5 = .ok (.if_icmp .ge 16, 3) := dk_162 0 16 (dk_at dksX5_firstDraft_0 5 rfl rfl)
theorem dX5_firstDraft_8 : decode cX5_firstDraft 8 = .ok (.aload_n 0, 1) := dk_42 (dk_at dksX5_firstDraft_0 8 rfl rfl)
theorem dX5_firstDraft_9 : decode cX5_firstDraft 9 = .ok (.getfield 20, 3) := dk_180 0 20 (dk_at dksX5_firstDraft_0 9 rfl rfl)
theorem dX5_firstDraft_12 : decode cX5_firstDraft 12 = .ok (.iload_n 1, 1) := dk_27 (dk_at dksX5_firstDraft_0 12 rfl rfl)
theorem dX5_firstDraft_13 : decode cX5_firstDraft 13 = .ok (.iconst 0, 1) := dk_3 (dk_at dksX5_firstDraft_0 13 rfl rfl)
theorem dX5_firstDraft_14 : decode cX5_firstDraft 14 = .ok (.iastore, 1) := dk_79 (dk_at dksX5_firstDraft_0 14 rfl rfl)
theorem dX5_firstDraft_15 : decode cX5_firstDraft 15 = .ok (.iinc 1 1, 3) := dk_132 1 1 (dk_at dksX5_firstDraft_0 15 rfl rfl)
theorem dX5_firstDraft_18 : decode cX5_firstDraft 18 = .ok (.goto (-16), 3) := dk_167 255 240 (dk_at dksX5_firstDraft_0 18 rfl rfl)
theorem dX5_firstDraft_21 : decode cX5_firstDraft 21 = .ok (.aload_n 0, 1) := dk_42 (dk_at dksX5_firstDraft_0 21 rfl rfl)
theorem dX5_firstDraft_22 : decode cX5_firstDraft 22 = .ok (.getfield 20, 3) := dk_180 0 20 (dk_at dksX5_firstDraft_1 0 rfl rfl)
theorem dX5_firstDraft_25 : decode cX5_firstDraft 25 = .ok (.iconst 0, 1) := dk_3 (dk_at dksX5_firstDraft_1 3 rfl rfl)
theorem dX5_firstDraft_26 : decode cX5_firstDraft 26 = .ok (.iconst 5, 1) := dk_8 (dk_at dksX5_firstDraft_1 4 rfl rfl)
theorem dX5_firstDraft_27 : decode cX5_firstDraft 27 = .ok (.iastore, 1) := dk_79 (dk_at dksX5_firstDraft_1 5 rfl rfl)
theorem dX5_firstDraft_28 : decode cX5_firstDraft 28 = .ok (.aload_n 0, 1) := dk_42 (dk_at dksX5_firstDraft_1 6 rfl rfl)
theorem dX5_firstDraft_29 : decode cX5_firstDraft 29 = .ok (.getfield 20, 3) := dk_180 0 20 (dk_at dksX5_firstDraft_1 7 rfl rfl)
theorem dX5_firstDraft_32 : decode cX5_firstDraft 32 = .ok (.iconst 1, 1) := dk_4 (dk_at dksX5_firstDraft_1 10 rfl rfl)
theorem dX5_firstDraft_33 : decode cX5_firstDraft 33 = .ok (.iconst 2, 1) := dk_5 (dk_at dksX5_firstDraft_1 11 rfl rfl)
theorem dX5_firstDraft_34 : decode cX5_firstDraft 34 = .ok (.iastore, 1) := dk_79 (dk_at dksX5_firstDraft_1 12 rfl rfl)
theorem dX5_firstDraft_35 : decode cX5_firstDraft 35 = .ok (.aload_n 0, 1) := dk_42 (dk_at dksX5_firstDraft_1 13 rfl rfl)
theorem dX5_firstDraft_36 : decode cX5_firstDraft 36 = .ok (.iconst 0, 1) := dk_3 (dk_at dksX5_firstDraft_1 14 rfl rfl)
theorem dX5_firstDraft_37 : decode cX5_firstDraft 37 = .ok (.putfield 56, 3) := dk_181 0 56 (dk_at dksX5_firstDraft_1 15 rfl rfl)
theorem dX5_firstDraft_40 : decode cX5_firstDraft 40 = .ok (.aload_n 0, 1) := dk_42 (dk_at dksX5_firstDraft_1 18 rfl rfl)
theorem dX5_firstDraft_41 : decode cX5_firstDraft 41 = .ok (.iconst 0, 1) := dk_3 (dk_at dksX5_firstDraft_1 19 rfl rfl)
theorem dX5_firstDraft_42 : decode cX5_firstDraft 42 = .ok (.putfield 60, 3) := dk_181 0 60 (dk_at dksX5_firstDraft_1 20 rfl rfl)
theorem dX5_firstDraft_45 : decode cX5_firstDraft 45 = .ok (.aload_n 0, 1) := dk_42 (dk_at dksX5_firstDraft_1 23 rfl rfl)
theorem dX5_firstDraft_46 : decode cX5_firstDraft 46 = .ok (.iconst 0, 1) := dk_3 (dk_at dksX5_firstDraft_2 0 rfl rfl)
theorem dX5_firstDraft_47 : decode cX5_firstDraft 47 = .ok (.putfield 63, 3) := dk_181 0 63 (dk_at dksX5_firstDraft_2 1 rfl rfl)
theorem dX5_firstDraft_50 : decode cX5_firstDraft 50 = .ok (.aload_n 0, 1) := dk_42 (dk_at dksX5_firstDraft_2 4 rfl rfl)
theorem dX5_firstDraft_51 : decode cX5_firstDraft 51 = .ok (.bipush (-4), 2) := dk_16 252 (dk_at dksX5_firstDraft_2 5 rfl rfl)
theorem dX5_firstDraft_53 : decode cX5_firstDraft 53 = .ok (.putfield 66, 3) := dk_181 0 66 (dk_at dksX5_firstDraft_2 7 rfl rfl)
theorem dX5_firstDraft_56 : decode cX5_firstDraft 56 = .ok (.return_, 1) := dk_177 (dk_at dksX5_firstDraft_2 10 rfl rfl)
abbrev cX5_keepDraft : ByteArray := prog_14_method_6_code
def yX5_keepDraft : MethodName := ⟨RX5, "keepDraft", "()V"⟩
def dkwX5_keepDraft_4 : List UInt8 := [3, 84, 177]
abbrev dktX5_keepDraft_4 : List UInt8 := dkwX5_keepDraft_4 ++ []
def dkwX5_keepDraft_3 : List UInt8 := [126, 167, 0, 4, 3, 79, 132, 1, 1, 167, 255, 213, 42, 180, 0, 16, 3, 3, 84, 42, 180, 0, 16, 4]
abbrev dktX5_keepDraft_3 : List UInt8 := dkwX5_keepDraft_3 ++ dktX5_keepDraft_4
def dkwX5_keepDraft_2 : List UInt8 := [16, 6, 16, 6, 27, 104, 96, 8, 96, 27, 42, 180, 0, 69, 162, 0, 14, 42, 180, 0, 63, 27, 122, 4]
abbrev dktX5_keepDraft_2 : List UInt8 := dkwX5_keepDraft_2 ++ dktX5_keepDraft_3
def dkwX5_keepDraft_1 : List UInt8 := [167, 255, 235, 42, 42, 180, 0, 56, 181, 0, 69, 3, 60, 27, 16, 6, 162, 0, 43, 42, 180, 0, 7]
abbrev dktX5_keepDraft_1 : List UInt8 := dkwX5_keepDraft_1 ++ dktX5_keepDraft_2
def dkwX5_keepDraft_0 : List UInt8 := [3, 60, 27, 16, 55, 162, 0, 21, 42, 180, 0, 7, 27, 42, 180, 0, 20, 27, 46, 79, 132, 1, 1]
abbrev dktX5_keepDraft_0 : List UInt8 := dkwX5_keepDraft_0 ++ dktX5_keepDraft_1
theorem dksX5_keepDraft_0 : cX5_keepDraft.data.toList.drop 0 = dktX5_keepDraft_0 := by decide +kernel
theorem dksX5_keepDraft_1 : cX5_keepDraft.data.toList.drop 23 = dktX5_keepDraft_1 := dk_seg dksX5_keepDraft_0 23 rfl rfl
theorem dksX5_keepDraft_2 : cX5_keepDraft.data.toList.drop 46 = dktX5_keepDraft_2 := dk_seg dksX5_keepDraft_1 23 rfl rfl
theorem dksX5_keepDraft_3 : cX5_keepDraft.data.toList.drop 70 = dktX5_keepDraft_3 := dk_seg dksX5_keepDraft_2 24 rfl rfl
theorem dksX5_keepDraft_4 : cX5_keepDraft.data.toList.drop 94 = dktX5_keepDraft_4 := dk_seg dksX5_keepDraft_3 24 rfl rfl
theorem dX5_keepDraft_0 : decode cX5_keepDraft 0 = .ok (.iconst 0, 1) := dk_3 (dk_at dksX5_keepDraft_0 0 rfl rfl)
theorem dX5_keepDraft_1 : decode cX5_keepDraft 1 = .ok (.istore_n 1, 1) := dk_60 (dk_at dksX5_keepDraft_0 1 rfl rfl)
theorem dX5_keepDraft_2 : decode cX5_keepDraft 2 = .ok (.iload_n 1, 1) := dk_27 (dk_at dksX5_keepDraft_0 2 rfl rfl)
theorem dX5_keepDraft_3 : decode cX5_keepDraft 3 = .ok (.bipush 55, 2) := dk_16 55 (dk_at dksX5_keepDraft_0 3 rfl rfl)
theorem dX5_keepDraft_5 : decode cX5_keepDraft 5 = .ok (.if_icmp .ge 21, 3) := dk_162 0 21 (dk_at dksX5_keepDraft_0 5 rfl rfl)
theorem dX5_keepDraft_8 : decode cX5_keepDraft 8 = .ok (.aload_n 0, 1) := dk_42 (dk_at dksX5_keepDraft_0 8 rfl rfl)
theorem dX5_keepDraft_9 : decode cX5_keepDraft 9 = .ok (.getfield 7, 3) := dk_180 0 7 (dk_at dksX5_keepDraft_0 9 rfl rfl)
theorem dX5_keepDraft_12 : decode cX5_keepDraft 12 = .ok (.iload_n 1, 1) := dk_27 (dk_at dksX5_keepDraft_0 12 rfl rfl)
theorem dX5_keepDraft_13 : decode cX5_keepDraft 13 = .ok (.aload_n 0, 1) := dk_42 (dk_at dksX5_keepDraft_0 13 rfl rfl)
theorem dX5_keepDraft_14 : decode cX5_keepDraft 14 = .ok (.getfield 20, 3) := dk_180 0 20 (dk_at dksX5_keepDraft_0 14 rfl rfl)
theorem dX5_keepDraft_17 : decode cX5_keepDraft 17 = .ok (.iload_n 1, 1) := dk_27 (dk_at dksX5_keepDraft_0 17 rfl rfl)
theorem dX5_keepDraft_18 : decode cX5_keepDraft 18 = .ok (.iaload, 1) := dk_46 (dk_at dksX5_keepDraft_0 18 rfl rfl)
theorem dX5_keepDraft_19 : decode cX5_keepDraft 19 = .ok (.iastore, 1) := dk_79 (dk_at dksX5_keepDraft_0 19 rfl rfl)
theorem dX5_keepDraft_20 : decode cX5_keepDraft 20 = .ok (.iinc 1 1, 3) := dk_132 1 1 (dk_at dksX5_keepDraft_0 20 rfl rfl)
theorem dX5_keepDraft_23 : decode cX5_keepDraft 23 = .ok (.goto (-21), 3) := dk_167 255 235 (dk_at dksX5_keepDraft_1 0 rfl rfl)
theorem dX5_keepDraft_26 : decode cX5_keepDraft 26 = .ok (.aload_n 0, 1) := dk_42 (dk_at dksX5_keepDraft_1 3 rfl rfl)
theorem dX5_keepDraft_27 : decode cX5_keepDraft 27 = .ok (.aload_n 0, 1) := dk_42 (dk_at dksX5_keepDraft_1 4 rfl rfl)
theorem dX5_keepDraft_28 : decode cX5_keepDraft 28 = .ok (.getfield 56, 3) := dk_180 0 56 (dk_at dksX5_keepDraft_1 5 rfl rfl)
theorem dX5_keepDraft_31 : decode cX5_keepDraft 31 = .ok (.putfield 69, 3) := dk_181 0 69 (dk_at dksX5_keepDraft_1 8 rfl rfl)
theorem dX5_keepDraft_34 : decode cX5_keepDraft 34 = .ok (.iconst 0, 1) := dk_3 (dk_at dksX5_keepDraft_1 11 rfl rfl)
theorem dX5_keepDraft_35 : decode cX5_keepDraft 35 = .ok (.istore_n 1, 1) := dk_60 (dk_at dksX5_keepDraft_1 12 rfl rfl)
theorem dX5_keepDraft_36 : decode cX5_keepDraft 36 = .ok (.iload_n 1, 1) := dk_27 (dk_at dksX5_keepDraft_1 13 rfl rfl)
theorem dX5_keepDraft_37 : decode cX5_keepDraft 37 = .ok (.bipush 6, 2) := dk_16 6 (dk_at dksX5_keepDraft_1 14 rfl rfl)
theorem dX5_keepDraft_39 : decode cX5_keepDraft 39 = .ok (.if_icmp .ge 43, 3) := dk_162 0 43 (dk_at dksX5_keepDraft_1 16 rfl rfl)
theorem dX5_keepDraft_42 : decode cX5_keepDraft 42 = .ok (.aload_n 0, 1) := dk_42 (dk_at dksX5_keepDraft_1 19 rfl rfl)
theorem dX5_keepDraft_43 : decode cX5_keepDraft 43 = .ok (.getfield 7, 3) := dk_180 0 7 (dk_at dksX5_keepDraft_1 20 rfl rfl)
theorem dX5_keepDraft_46 : decode cX5_keepDraft 46 = .ok (.bipush 6, 2) := dk_16 6 (dk_at dksX5_keepDraft_2 0 rfl rfl)
theorem dX5_keepDraft_48 : decode cX5_keepDraft 48 = .ok (.bipush 6, 2) := dk_16 6 (dk_at dksX5_keepDraft_2 2 rfl rfl)
theorem dX5_keepDraft_50 : decode cX5_keepDraft 50 = .ok (.iload_n 1, 1) := dk_27 (dk_at dksX5_keepDraft_2 4 rfl rfl)
theorem dX5_keepDraft_51 : decode cX5_keepDraft 51 = .ok (.imul, 1) := dk_104 (dk_at dksX5_keepDraft_2 5 rfl rfl)
theorem dX5_keepDraft_52 : decode cX5_keepDraft 52 = .ok (.iadd, 1) := dk_96 (dk_at dksX5_keepDraft_2 6 rfl rfl)
theorem dX5_keepDraft_53 : decode cX5_keepDraft 53 = .ok (.iconst 5, 1) := dk_8 (dk_at dksX5_keepDraft_2 7 rfl rfl)
theorem dX5_keepDraft_54 : decode cX5_keepDraft 54 = .ok (.iadd, 1) := dk_96 (dk_at dksX5_keepDraft_2 8 rfl rfl)
theorem dX5_keepDraft_55 : decode cX5_keepDraft 55 = .ok (.iload_n 1, 1) := dk_27 (dk_at dksX5_keepDraft_2 9 rfl rfl)
theorem dX5_keepDraft_56 : decode cX5_keepDraft 56 = .ok (.aload_n 0, 1) := dk_42 (dk_at dksX5_keepDraft_2 10 rfl rfl)
theorem dX5_keepDraft_57 : decode cX5_keepDraft 57 = .ok (.getfield 69, 3) := dk_180 0 69 (dk_at dksX5_keepDraft_2 11 rfl rfl)
theorem dX5_keepDraft_60 : decode cX5_keepDraft 60 = .ok (.if_icmp .ge 14, 3) := dk_162 0 14 (dk_at dksX5_keepDraft_2 14 rfl rfl)
theorem dX5_keepDraft_63 : decode cX5_keepDraft 63 = .ok (.aload_n 0, 1) := dk_42 (dk_at dksX5_keepDraft_2 17 rfl rfl)
theorem dX5_keepDraft_64 : decode cX5_keepDraft 64 = .ok (.getfield 63, 3) := dk_180 0 63 (dk_at dksX5_keepDraft_2 18 rfl rfl)
theorem dX5_keepDraft_67 : decode cX5_keepDraft 67 = .ok (.iload_n 1, 1) := dk_27 (dk_at dksX5_keepDraft_2 21 rfl rfl)
theorem dX5_keepDraft_68 : decode cX5_keepDraft 68 = .ok (.ishr, 1) := dk_122 (dk_at dksX5_keepDraft_2 22 rfl rfl)
theorem dX5_keepDraft_69 : decode cX5_keepDraft 69 = .ok (.iconst 1, 1) := dk_4 (dk_at dksX5_keepDraft_2 23 rfl rfl)
theorem dX5_keepDraft_70 : decode cX5_keepDraft 70 = .ok (.iand, 1) := dk_126 (dk_at dksX5_keepDraft_3 0 rfl rfl)
theorem dX5_keepDraft_71 : decode cX5_keepDraft 71 = .ok (.goto 4, 3) := dk_167 0 4 (dk_at dksX5_keepDraft_3 1 rfl rfl)
theorem dX5_keepDraft_74 : decode cX5_keepDraft 74 = .ok (.iconst 0, 1) := dk_3 (dk_at dksX5_keepDraft_3 4 rfl rfl)
theorem dX5_keepDraft_75 : decode cX5_keepDraft 75 = .ok (.iastore, 1) := dk_79 (dk_at dksX5_keepDraft_3 5 rfl rfl)
theorem dX5_keepDraft_76 : decode cX5_keepDraft 76 = .ok (.iinc 1 1, 3) := dk_132 1 1 (dk_at dksX5_keepDraft_3 6 rfl rfl)
theorem dX5_keepDraft_79 : decode cX5_keepDraft 79 = .ok (.goto (-43), 3) := dk_167 255 213 (dk_at dksX5_keepDraft_3 9 rfl rfl)
theorem dX5_keepDraft_82 : decode cX5_keepDraft 82 = .ok (.aload_n 0, 1) := dk_42 (dk_at dksX5_keepDraft_3 12 rfl rfl)
theorem dX5_keepDraft_83 : decode cX5_keepDraft 83 = .ok (.getfield 16, 3) := dk_180 0 16 (dk_at dksX5_keepDraft_3 13 rfl rfl)
theorem dX5_keepDraft_86 : decode cX5_keepDraft 86 = .ok (.iconst 0, 1) := dk_3 (dk_at dksX5_keepDraft_3 16 rfl rfl)
theorem dX5_keepDraft_87 : decode cX5_keepDraft 87 = .ok (.iconst 0, 1) := dk_3 (dk_at dksX5_keepDraft_3 17 rfl rfl)
theorem dX5_keepDraft_88 : decode cX5_keepDraft 88 = .ok (.bastore, 1) := dk_84 (dk_at dksX5_keepDraft_3 18 rfl rfl)
theorem dX5_keepDraft_89 : decode cX5_keepDraft 89 = .ok (.aload_n 0, 1) := dk_42 (dk_at dksX5_keepDraft_3 19 rfl rfl)
theorem dX5_keepDraft_90 : decode cX5_keepDraft 90 = .ok (.getfield 16, 3) := dk_180 0 16 (dk_at dksX5_keepDraft_3 20 rfl rfl)
theorem dX5_keepDraft_93 : decode cX5_keepDraft 93 = .ok (.iconst 1, 1) := dk_4 (dk_at dksX5_keepDraft_3 23 rfl rfl)
theorem dX5_keepDraft_94 : decode cX5_keepDraft 94 = .ok (.iconst 0, 1) := dk_3 (dk_at dksX5_keepDraft_4 0 rfl rfl)
theorem dX5_keepDraft_95 : decode cX5_keepDraft 95 = .ok (.bastore, 1) := dk_84 (dk_at dksX5_keepDraft_4 1 rfl rfl)
theorem dX5_keepDraft_96 : decode cX5_keepDraft 96 = .ok (.return_, 1) := dk_177 (dk_at dksX5_keepDraft_4 2 rfl rfl)
abbrev cX5_feed : ByteArray := prog_14_method_7_code
def yX5_feed : MethodName := ⟨RX5, "feed", "(I)I"⟩
def dkwX5_feed_2 : List UInt8 := [180, 0, 78, 172]
abbrev dktX5_feed_2 : List UInt8 := dkwX5_feed_2 ++ []
def dkwX5_feed_1 : List UInt8 := [16, 253, 172, 42, 180, 0, 23, 42, 180, 0, 78, 27, 79, 42, 89, 180, 0, 78, 4, 96, 181, 0, 78, 42]
abbrev dktX5_feed_1 : List UInt8 := dkwX5_feed_1 ++ dktX5_feed_2
def dkwX5_feed_0 : List UInt8 := [27, 133, 9, 20, 0, 72, 184, 0, 74, 154, 0, 5, 2, 172, 42, 180, 0, 78, 17, 0, 160, 160, 0, 6]
abbrev dktX5_feed_0 : List UInt8 := dkwX5_feed_0 ++ dktX5_feed_1
theorem dksX5_feed_0 : cX5_feed.data.toList.drop 0 = dktX5_feed_0 := by decide +kernel
theorem dksX5_feed_1 : cX5_feed.data.toList.drop 24 = dktX5_feed_1 := dk_seg dksX5_feed_0 24 rfl rfl
theorem dksX5_feed_2 : cX5_feed.data.toList.drop 48 = dktX5_feed_2 := dk_seg dksX5_feed_1 24 rfl rfl
theorem dX5_feed_0 : decode cX5_feed 0 = .ok (.iload_n 1, 1) := dk_27 (dk_at dksX5_feed_0 0 rfl rfl)
theorem dX5_feed_1 : decode cX5_feed 1 = .ok (.i2l, 1) := dk_133 (dk_at dksX5_feed_0 1 rfl rfl)
theorem dX5_feed_2 : decode cX5_feed 2 = .ok (.lconst 0, 1) := dk_9 (dk_at dksX5_feed_0 2 rfl rfl)
theorem dX5_feed_3 : decode cX5_feed 3 = .ok (.ldc2_w 72, 3) := dk_20 0 72 (dk_at dksX5_feed_0 3 rfl rfl)
theorem dX5_feed_6 : decode cX5_feed 6 = .ok (.invokestatic 74, 3) := dk_184 0 74 (dk_at dksX5_feed_0 6 rfl rfl)
theorem dX5_feed_9 : decode cX5_feed 9 = .ok (.ifCond .ne 5, 3) := dk_154 0 5 (dk_at dksX5_feed_0 9 rfl rfl)
theorem dX5_feed_12 : decode cX5_feed 12 = .ok (.iconst (-1), 1) := dk_2 (dk_at dksX5_feed_0 12 rfl rfl)
theorem dX5_feed_13 : decode cX5_feed 13 = .ok (.ireturn, 1) := dk_172 (dk_at dksX5_feed_0 13 rfl rfl)
theorem dX5_feed_14 : decode cX5_feed 14 = .ok (.aload_n 0, 1) := dk_42 (dk_at dksX5_feed_0 14 rfl rfl)
theorem dX5_feed_15 : decode cX5_feed 15 = .ok (.getfield 78, 3) := dk_180 0 78 (dk_at dksX5_feed_0 15 rfl rfl)
theorem dX5_feed_18 : decode cX5_feed 18 = .ok (.sipush 160, 3) := dk_17 0 160 (dk_at dksX5_feed_0 18 rfl rfl)
theorem dX5_feed_21 : decode cX5_feed 21 = .ok (.if_icmp .ne 6, 3) := dk_160 0 6 (dk_at dksX5_feed_0 21 rfl rfl)
theorem dX5_feed_24 : decode cX5_feed 24 = .ok (.bipush (-3), 2) := dk_16 253 (dk_at dksX5_feed_1 0 rfl rfl)
theorem dX5_feed_26 : decode cX5_feed 26 = .ok (.ireturn, 1) := dk_172 (dk_at dksX5_feed_1 2 rfl rfl)
theorem dX5_feed_27 : decode cX5_feed 27 = .ok (.aload_n 0, 1) := dk_42 (dk_at dksX5_feed_1 3 rfl rfl)
theorem dX5_feed_28 : decode cX5_feed 28 = .ok (.getfield 23, 3) := dk_180 0 23 (dk_at dksX5_feed_1 4 rfl rfl)
theorem dX5_feed_31 : decode cX5_feed 31 = .ok (.aload_n 0, 1) := dk_42 (dk_at dksX5_feed_1 7 rfl rfl)
theorem dX5_feed_32 : decode cX5_feed 32 = .ok (.getfield 78, 3) := dk_180 0 78 (dk_at dksX5_feed_1 8 rfl rfl)
theorem dX5_feed_35 : decode cX5_feed 35 = .ok (.iload_n 1, 1) := dk_27 (dk_at dksX5_feed_1 11 rfl rfl)
theorem dX5_feed_36 : decode cX5_feed 36 = .ok (.iastore, 1) := dk_79 (dk_at dksX5_feed_1 12 rfl rfl)
theorem dX5_feed_37 : decode cX5_feed 37 = .ok (.aload_n 0, 1) := dk_42 (dk_at dksX5_feed_1 13 rfl rfl)
theorem dX5_feed_38 : decode cX5_feed 38 = .ok (.dup, 1) := dk_89 (dk_at dksX5_feed_1 14 rfl rfl)
theorem dX5_feed_39 : decode cX5_feed 39 = .ok (.getfield 78, 3) := dk_180 0 78 (dk_at dksX5_feed_1 15 rfl rfl)
theorem dX5_feed_42 : decode cX5_feed 42 = .ok (.iconst 1, 1) := dk_4 (dk_at dksX5_feed_1 18 rfl rfl)
theorem dX5_feed_43 : decode cX5_feed 43 = .ok (.iadd, 1) := dk_96 (dk_at dksX5_feed_1 19 rfl rfl)
theorem dX5_feed_44 : decode cX5_feed 44 = .ok (.putfield 78, 3) := dk_181 0 78 (dk_at dksX5_feed_1 20 rfl rfl)
theorem dX5_feed_47 : decode cX5_feed 47 = .ok (.aload_n 0, 1) := dk_42 (dk_at dksX5_feed_1 23 rfl rfl)
theorem dX5_feed_48 : decode cX5_feed 48 = .ok (.getfield 78, 3) := dk_180 0 78 (dk_at dksX5_feed_2 0 rfl rfl)
theorem dX5_feed_51 : decode cX5_feed 51 = .ok (.ireturn, 1) := dk_172 (dk_at dksX5_feed_2 3 rfl rfl)
abbrev cX5_in : ByteArray := prog_14_method_3_code
def yX5_in : MethodName := ⟨RX5, "in", "(JJJ)Z"⟩
def dkwX5_in_0 : List UInt8 := [30, 32, 148, 155, 0, 14, 30, 22, 4, 148, 157, 0, 7, 4, 167, 0, 4, 3, 172]
abbrev dktX5_in_0 : List UInt8 := dkwX5_in_0 ++ []
theorem dksX5_in_0 : cX5_in.data.toList.drop 0 = dktX5_in_0 := by decide +kernel
theorem dX5_in_0 : decode cX5_in 0 = .ok (.lload_n 0, 1) := dk_30 (dk_at dksX5_in_0 0 rfl rfl)
theorem dX5_in_1 : decode cX5_in 1 = .ok (.lload_n 2, 1) := dk_32 (dk_at dksX5_in_0 1 rfl rfl)
theorem dX5_in_2 : decode cX5_in 2 = .ok (.lcmp, 1) := dk_148 (dk_at dksX5_in_0 2 rfl rfl)
theorem dX5_in_3 : decode cX5_in 3 = .ok (.ifCond .lt 14, 3) := dk_155 0 14 (dk_at dksX5_in_0 3 rfl rfl)
theorem dX5_in_6 : decode cX5_in 6 = .ok (.lload_n 0, 1) := dk_30 (dk_at dksX5_in_0 6 rfl rfl)
theorem dX5_in_7 : decode cX5_in 7 = .ok (.lload 4, 2) := dk_22 4 (dk_at dksX5_in_0 7 rfl rfl)
theorem dX5_in_9 : decode cX5_in 9 = .ok (.lcmp, 1) := dk_148 (dk_at dksX5_in_0 9 rfl rfl)
theorem dX5_in_10 : decode cX5_in 10 = .ok (.ifCond .gt 7, 3) := dk_157 0 7 (dk_at dksX5_in_0 10 rfl rfl)
theorem dX5_in_13 : decode cX5_in 13 = .ok (.iconst 1, 1) := dk_4 (dk_at dksX5_in_0 13 rfl rfl)
theorem dX5_in_14 : decode cX5_in 14 = .ok (.goto 4, 3) := dk_167 0 4 (dk_at dksX5_in_0 14 rfl rfl)
theorem dX5_in_17 : decode cX5_in 17 = .ok (.iconst 0, 1) := dk_3 (dk_at dksX5_in_0 17 rfl rfl)
theorem dX5_in_18 : decode cX5_in 18 = .ok (.ireturn, 1) := dk_172 (dk_at dksX5_in_0 18 rfl rfl)
abbrev cX5_end : ByteArray := prog_14_method_8_code
def yX5_end : MethodName := ⟨RX5, "end", "(I)I"⟩
def dkwX5_end_1 : List UInt8 := [181, 0, 78, 28, 172]
abbrev dktX5_end_1 : List UInt8 := dkwX5_end_1 ++ []
def dkwX5_end_0 : List UInt8 := [27, 133, 9, 42, 180, 0, 78, 133, 184, 0, 74, 154, 0, 5, 2, 172, 42, 180, 0, 78, 61, 42, 27]
abbrev dktX5_end_0 : List UInt8 := dkwX5_end_0 ++ dktX5_end_1
theorem dksX5_end_0 : cX5_end.data.toList.drop 0 = dktX5_end_0 := by decide +kernel
theorem dksX5_end_1 : cX5_end.data.toList.drop 23 = dktX5_end_1 := dk_seg dksX5_end_0 23 rfl rfl
theorem dX5_end_0 : decode cX5_end 0 = .ok (.iload_n 1, 1) := dk_27 (dk_at dksX5_end_0 0 rfl rfl)
theorem dX5_end_1 : decode cX5_end 1 = .ok (.i2l, 1) := dk_133 (dk_at dksX5_end_0 1 rfl rfl)
theorem dX5_end_2 : decode cX5_end 2 = .ok (.lconst 0, 1) := dk_9 (dk_at dksX5_end_0 2 rfl rfl)
theorem dX5_end_3 : decode cX5_end 3 = .ok (.aload_n 0, 1) := dk_42 (dk_at dksX5_end_0 3 rfl rfl)
theorem dX5_end_4 : decode cX5_end 4 = .ok (.getfield 78, 3) := dk_180 0 78 (dk_at dksX5_end_0 4 rfl rfl)
theorem dX5_end_7 : decode cX5_end 7 = .ok (.i2l, 1) := dk_133 (dk_at dksX5_end_0 7 rfl rfl)
theorem dX5_end_8 : decode cX5_end 8 = .ok (.invokestatic 74, 3) := dk_184 0 74 (dk_at dksX5_end_0 8 rfl rfl)
theorem dX5_end_11 : decode cX5_end 11 = .ok (.ifCond .ne 5, 3) := dk_154 0 5 (dk_at dksX5_end_0 11 rfl rfl)
theorem dX5_end_14 : decode cX5_end 14 = .ok (.iconst (-1), 1) := dk_2 (dk_at dksX5_end_0 14 rfl rfl)
theorem dX5_end_15 : decode cX5_end 15 = .ok (.ireturn, 1) := dk_172 (dk_at dksX5_end_0 15 rfl rfl)
theorem dX5_end_16 : decode cX5_end 16 = .ok (.aload_n 0, 1) := dk_42 (dk_at dksX5_end_0 16 rfl rfl)
theorem dX5_end_17 : decode cX5_end 17 = .ok (.getfield 78, 3) := dk_180 0 78 (dk_at dksX5_end_0 17 rfl rfl)
theorem dX5_end_20 : decode cX5_end 20 = .ok (.istore_n 2, 1) := dk_61 (dk_at dksX5_end_0 20 rfl rfl)
theorem dX5_end_21 : decode cX5_end 21 = .ok (.aload_n 0, 1) := dk_42 (dk_at dksX5_end_0 21 rfl rfl)
theorem dX5_end_22 : decode cX5_end 22 = .ok (.iload_n 1, 1) := dk_27 (dk_at dksX5_end_0 22 rfl rfl)
theorem dX5_end_23 : decode cX5_end 23 = .ok (.putfield 78, 3) := dk_181 0 78 (dk_at dksX5_end_1 0 rfl rfl)
theorem dX5_end_26 : decode cX5_end 26 = .ok (.iload_n 2, 1) := dk_28 (dk_at dksX5_end_1 3 rfl rfl)
theorem dX5_end_27 : decode cX5_end 27 = .ok (.ireturn, 1) := dk_172 (dk_at dksX5_end_1 4 rfl rfl)
abbrev cX5_text : ByteArray := prog_14_method_24_code
def yX5_text : MethodName := ⟨RX5, "text", "()I"⟩
def dkwX5_text_4 : List UInt8 := [182, 0, 53, 27, 172]
abbrev dktX5_text_4 : List UInt8 := dkwX5_text_4 ++ []
def dkwX5_text_3 : List UInt8 := [182, 0, 119, 42, 3, 181, 0, 78, 42, 180, 0, 81, 158, 0, 11, 16, 246, 42, 180, 0, 87, 100, 172, 42]
abbrev dktX5_text_3 : List UInt8 := dkwX5_text_3 ++ dktX5_text_4
def dkwX5_text_2 : List UInt8 := [154, 0, 25, 42, 42, 180, 0, 66, 42, 180, 0, 56, 162, 0, 7, 4, 167, 0, 4, 3, 16, 6]
abbrev dktX5_text_2 : List UInt8 := dkwX5_text_2 ++ dktX5_text_3
def dkwX5_text_1 : List UInt8 := [154, 0, 20, 42, 180, 0, 105, 153, 0, 13, 42, 182, 0, 160, 132, 1, 1, 167, 255, 235, 42, 180, 0, 81]
abbrev dktX5_text_1 : List UInt8 := dkwX5_text_1 ++ dktX5_text_2
def dkwX5_text_0 : List UInt8 := [3, 60, 42, 3, 181, 0, 81, 42, 3, 181, 0, 90, 42, 182, 0, 50, 42, 182, 0, 127, 42, 180, 0, 81]
abbrev dktX5_text_0 : List UInt8 := dkwX5_text_0 ++ dktX5_text_1
theorem dksX5_text_0 : cX5_text.data.toList.drop 0 = dktX5_text_0 := by decide +kernel
theorem dksX5_text_1 : cX5_text.data.toList.drop 24 = dktX5_text_1 := dk_seg dksX5_text_0 24 rfl rfl
theorem dksX5_text_2 : cX5_text.data.toList.drop 48 = dktX5_text_2 := dk_seg dksX5_text_1 24 rfl rfl
theorem dksX5_text_3 : cX5_text.data.toList.drop 70 = dktX5_text_3 := dk_seg dksX5_text_2 22 rfl rfl
theorem dksX5_text_4 : cX5_text.data.toList.drop 94 = dktX5_text_4 := dk_seg dksX5_text_3 24 rfl rfl
theorem dX5_text_0 : decode cX5_text 0 = .ok (.iconst 0, 1) := dk_3 (dk_at dksX5_text_0 0 rfl rfl)
theorem dX5_text_1 : decode cX5_text 1 = .ok (.istore_n 1, 1) := dk_60 (dk_at dksX5_text_0 1 rfl rfl)
theorem dX5_text_2 : decode cX5_text 2 = .ok (.aload_n 0, 1) := dk_42 (dk_at dksX5_text_0 2 rfl rfl)
theorem dX5_text_3 : decode cX5_text 3 = .ok (.iconst 0, 1) := dk_3 (dk_at dksX5_text_0 3 rfl rfl)
theorem dX5_text_4 : decode cX5_text 4 = .ok (.putfield 81, 3) := dk_181 0 81 (dk_at dksX5_text_0 4 rfl rfl)
theorem dX5_text_7 : decode cX5_text 7 = .ok (.aload_n 0, 1) := dk_42 (dk_at dksX5_text_0 7 rfl rfl)
theorem dX5_text_8 : decode cX5_text 8 = .ok (.iconst 0, 1) := dk_3 (dk_at dksX5_text_0 8 rfl rfl)
theorem dX5_text_9 : decode cX5_text 9 = .ok (.putfield 90, 3) := dk_181 0 90 (dk_at dksX5_text_0 9 rfl rfl)
theorem dX5_text_12 : decode cX5_text 12 = .ok (.aload_n 0, 1) := dk_42 (dk_at dksX5_text_0 12 rfl rfl)
theorem dX5_text_13 : decode cX5_text 13 = .ok (.invokevirtual 50, 3) := dk_182 0 50 (dk_at dksX5_text_0 13 rfl rfl)
theorem dX5_text_16 : decode cX5_text 16 = .ok (.aload_n 0, 1) := dk_42 (dk_at dksX5_text_0 16 rfl rfl)
theorem dX5_text_17 : decode cX5_text 17 = .ok (.invokevirtual 127, 3) := dk_182 0 127 (dk_at dksX5_text_0 17 rfl rfl)
theorem dX5_text_20 : decode cX5_text 20 = .ok (.aload_n 0, 1) := dk_42 (dk_at dksX5_text_0 20 rfl rfl)
theorem dX5_text_21 : decode cX5_text 21 = .ok (.getfield 81, 3) := dk_180 0 81 (dk_at dksX5_text_0 21 rfl rfl)
theorem dX5_text_24 : decode cX5_text 24 = .ok (.ifCond .ne 20, 3) := dk_154 0 20 (dk_at dksX5_text_1 0 rfl rfl)
theorem dX5_text_27 : decode cX5_text 27 = .ok (.aload_n 0, 1) := dk_42 (dk_at dksX5_text_1 3 rfl rfl)
theorem dX5_text_28 : decode cX5_text 28 = .ok (.getfield 105, 3) := dk_180 0 105 (dk_at dksX5_text_1 4 rfl rfl)
theorem dX5_text_31 : decode cX5_text 31 = .ok (.ifCond .eq 13, 3) := dk_153 0 13 (dk_at dksX5_text_1 7 rfl rfl)
theorem dX5_text_34 : decode cX5_text 34 = .ok (.aload_n 0, 1) := dk_42 (dk_at dksX5_text_1 10 rfl rfl)
theorem dX5_text_35 : decode cX5_text 35 = .ok (.invokevirtual 160, 3) := dk_182 0 160 (dk_at dksX5_text_1 11 rfl rfl)
theorem dX5_text_38 : decode cX5_text 38 = .ok (.iinc 1 1, 3) := dk_132 1 1 (dk_at dksX5_text_1 14 rfl rfl)
theorem dX5_text_41 : decode cX5_text 41 = .ok (.goto (-21), 3) := dk_167 255 235 (dk_at dksX5_text_1 17 rfl rfl)
theorem dX5_text_44 : decode cX5_text 44 = .ok (.aload_n 0, 1) := dk_42 (dk_at dksX5_text_1 20 rfl rfl)
theorem dX5_text_45 : decode cX5_text 45 = .ok (.getfield 81, 3) := dk_180 0 81 (dk_at dksX5_text_1 21 rfl rfl)
theorem dX5_text_48 : decode cX5_text 48 = .ok (.ifCond .ne 25, 3) := dk_154 0 25 (dk_at dksX5_text_2 0 rfl rfl)
theorem dX5_text_51 : decode cX5_text 51 = .ok (.aload_n 0, 1) := dk_42 (dk_at dksX5_text_2 3 rfl rfl)
theorem dX5_text_52 : decode cX5_text 52 = .ok (.aload_n 0, 1) := dk_42 (dk_at dksX5_text_2 4 rfl rfl)
theorem dX5_text_53 : decode cX5_text 53 = .ok (.getfield 66, 3) := dk_180 0 66 (dk_at dksX5_text_2 5 rfl rfl)
theorem dX5_text_56 : decode cX5_text 56 = .ok (.aload_n 0, 1) := dk_42 (dk_at dksX5_text_2 8 rfl rfl)
theorem dX5_text_57 : decode cX5_text 57 = .ok (.getfield 56, 3) := dk_180 0 56 (dk_at dksX5_text_2 9 rfl rfl)
theorem dX5_text_60 : decode cX5_text 60 = .ok (.if_icmp .ge 7, 3) := dk_162 0 7 (dk_at dksX5_text_2 12 rfl rfl)
theorem dX5_text_63 : decode cX5_text 63 = .ok (.iconst 1, 1) := dk_4 (dk_at dksX5_text_2 15 rfl rfl)
theorem dX5_text_64 : decode cX5_text 64 = .ok (.goto 4, 3) := dk_167 0 4 (dk_at dksX5_text_2 16 rfl rfl)
theorem dX5_text_67 : decode cX5_text 67 = .ok (.iconst 0, 1) := dk_3 (dk_at dksX5_text_2 19 rfl rfl)
theorem dX5_text_68 : decode cX5_text 68 = .ok (.bipush 6, 2) := dk_16 6 (dk_at dksX5_text_2 20 rfl rfl)
theorem dX5_text_70 : decode cX5_text 70 = .ok (.invokevirtual 119, 3) := dk_182 0 119 (dk_at dksX5_text_3 0 rfl rfl)
theorem dX5_text_73 : decode cX5_text 73 = .ok (.aload_n 0, 1) := dk_42 (dk_at dksX5_text_3 3 rfl rfl)
theorem dX5_text_74 : decode cX5_text 74 = .ok (.iconst 0, 1) := dk_3 (dk_at dksX5_text_3 4 rfl rfl)
theorem dX5_text_75 : decode cX5_text 75 = .ok (.putfield 78, 3) := dk_181 0 78 (dk_at dksX5_text_3 5 rfl rfl)
theorem dX5_text_78 : decode cX5_text 78 = .ok (.aload_n 0, 1) := dk_42 (dk_at dksX5_text_3 8 rfl rfl)
theorem dX5_text_79 : decode cX5_text 79 = .ok (.getfield 81, 3) := dk_180 0 81 (dk_at dksX5_text_3 9 rfl rfl)
theorem dX5_text_82 : decode cX5_text 82 = .ok (.ifCond .le 11, 3) := dk_158 0 11 (dk_at dksX5_text_3 12 rfl rfl)
theorem dX5_text_85 : decode cX5_text 85 = .ok (.bipush (-10), 2) := dk_16 246 (dk_at dksX5_text_3 15 rfl rfl)
theorem dX5_text_87 : decode cX5_text 87 = .ok (.aload_n 0, 1) := dk_42 (dk_at dksX5_text_3 17 rfl rfl)
theorem dX5_text_88 : decode cX5_text 88 = .ok (.getfield 87, 3) := dk_180 0 87 (dk_at dksX5_text_3 18 rfl rfl)
theorem dX5_text_91 : decode cX5_text 91 = .ok (.isub, 1) := dk_100 (dk_at dksX5_text_3 21 rfl rfl)
theorem dX5_text_92 : decode cX5_text 92 = .ok (.ireturn, 1) := dk_172 (dk_at dksX5_text_3 22 rfl rfl)
theorem dX5_text_93 : decode cX5_text 93 = .ok (.aload_n 0, 1) := dk_42 (dk_at dksX5_text_3 23 rfl rfl)
theorem dX5_text_94 : decode cX5_text 94 = .ok (.invokevirtual 53, 3) := dk_182 0 53 (dk_at dksX5_text_4 0 rfl rfl)
theorem dX5_text_97 : decode cX5_text 97 = .ok (.iload_n 1, 1) := dk_27 (dk_at dksX5_text_4 3 rfl rfl)
theorem dX5_text_98 : decode cX5_text 98 = .ok (.ireturn, 1) := dk_172 (dk_at dksX5_text_4 4 rfl rfl)
abbrev cX5_next : ByteArray := prog_14_method_16_code
def yX5_next : MethodName := ⟨RX5, "next", "()V"⟩
def dkwX5_next_11 : List UInt8 := [182, 0, 119, 42, 89, 180, 0, 90, 4, 96, 181, 0, 90, 177]
abbrev dktX5_next_11 : List UInt8 := dkwX5_next_11 ++ []
def dkwX5_next_10 : List UInt8 := [182, 0, 119, 167, 0, 34, 42, 6, 181, 0, 105, 42, 27, 16, 59, 160, 0, 7, 4, 167, 0, 4, 3, 4]
abbrev dktX5_next_10 : List UInt8 := dkwX5_next_10 ++ dktX5_next_11
def dkwX5_next_9 : List UInt8 := [167, 255, 182, 42, 42, 180, 0, 90, 42, 180, 0, 84, 100, 5, 163, 0, 7, 4, 167, 0, 4, 3, 4]
abbrev dktX5_next_9 : List UInt8 := dkwX5_next_9 ++ dktX5_next_10
def dkwX5_next_8 : List UInt8 := [96, 16, 48, 100, 167, 0, 7, 42, 180, 0, 116, 181, 0, 116, 42, 89, 180, 0, 90, 4, 96, 181, 0, 90]
abbrev dktX5_next_8 : List UInt8 := dkwX5_next_8 ++ dktX5_next_9
def dkwX5_next_7 : List UInt8 := [42, 180, 0, 84, 100, 5, 162, 0, 25, 16, 10, 42, 180, 0, 116, 104, 42, 42, 180, 0, 90, 182, 0, 93]
abbrev dktX5_next_7 : List UInt8 := dkwX5_next_7 ++ dktX5_next_8
def dkwX5_next_6 : List UInt8 := [180, 0, 90, 182, 0, 93, 133, 20, 0, 112, 20, 0, 114, 184, 0, 74, 153, 0, 59, 42, 42, 180, 0, 90]
abbrev dktX5_next_6 : List UInt8 := dkwX5_next_6 ++ dktX5_next_7
def dkwX5_next_5 : List UInt8 := [20, 0, 112, 20, 0, 114, 184, 0, 74, 153, 0, 116, 42, 5, 181, 0, 105, 42, 3, 181, 0, 116, 42, 42]
abbrev dktX5_next_5 : List UInt8 := dkwX5_next_5 ++ dktX5_next_6
def dkwX5_next_4 : List UInt8 := [20, 0, 110, 184, 0, 74, 153, 0, 174, 42, 89, 180, 0, 90, 4, 96, 181, 0, 90, 167, 255, 225, 27, 133]
abbrev dktX5_next_4 : List UInt8 := dkwX5_next_4 ++ dktX5_next_5
def dkwX5_next_3 : List UInt8 := [184, 0, 74, 153, 0, 42, 42, 4, 181, 0, 105, 42, 42, 180, 0, 90, 182, 0, 93, 133, 20, 0, 108]
abbrev dktX5_next_3 : List UInt8 := dkwX5_next_3 ++ dktX5_next_4
def dkwX5_next_2 : List UInt8 := [182, 0, 93, 60, 27, 156, 0, 11, 42, 3, 181, 0, 105, 167, 0, 214, 27, 133, 20, 0, 108, 20, 0, 110]
abbrev dktX5_next_2 : List UInt8 := dkwX5_next_2 ++ dktX5_next_3
def dkwX5_next_1 : List UInt8 := [180, 0, 90, 4, 96, 181, 0, 90, 167, 255, 233, 42, 42, 180, 0, 90, 181, 0, 84, 42, 42, 180, 0, 90]
abbrev dktX5_next_1 : List UInt8 := dkwX5_next_1 ++ dktX5_next_2
def dkwX5_next_0 : List UInt8 := [42, 180, 0, 81, 158, 0, 4, 177, 42, 42, 180, 0, 90, 182, 0, 93, 16, 32, 160, 0, 16, 42, 89]
abbrev dktX5_next_0 : List UInt8 := dkwX5_next_0 ++ dktX5_next_1
theorem dksX5_next_0 : cX5_next.data.toList.drop 0 = dktX5_next_0 := by decide +kernel
theorem dksX5_next_1 : cX5_next.data.toList.drop 23 = dktX5_next_1 := dk_seg dksX5_next_0 23 rfl rfl
theorem dksX5_next_2 : cX5_next.data.toList.drop 47 = dktX5_next_2 := dk_seg dksX5_next_1 24 rfl rfl
theorem dksX5_next_3 : cX5_next.data.toList.drop 71 = dktX5_next_3 := dk_seg dksX5_next_2 24 rfl rfl
theorem dksX5_next_4 : cX5_next.data.toList.drop 94 = dktX5_next_4 := dk_seg dksX5_next_3 23 rfl rfl
theorem dksX5_next_5 : cX5_next.data.toList.drop 118 = dktX5_next_5 := dk_seg dksX5_next_4 24 rfl rfl
theorem dksX5_next_6 : cX5_next.data.toList.drop 142 = dktX5_next_6 := dk_seg dksX5_next_5 24 rfl rfl
theorem dksX5_next_7 : cX5_next.data.toList.drop 166 = dktX5_next_7 := dk_seg dksX5_next_6 24 rfl rfl
theorem dksX5_next_8 : cX5_next.data.toList.drop 190 = dktX5_next_8 := dk_seg dksX5_next_7 24 rfl rfl
theorem dksX5_next_9 : cX5_next.data.toList.drop 214 = dktX5_next_9 := dk_seg dksX5_next_8 24 rfl rfl
theorem dksX5_next_10 : cX5_next.data.toList.drop 237 = dktX5_next_10 := dk_seg dksX5_next_9 23 rfl rfl
theorem dksX5_next_11 : cX5_next.data.toList.drop 261 = dktX5_next_11 := dk_seg dksX5_next_10 24 rfl rfl
theorem dX5_next_0 : decode cX5_next 0 = .ok (.aload_n 0, 1) := dk_42 (dk_at dksX5_next_0 0 rfl rfl)
theorem dX5_next_1 : decode cX5_next 1 = .ok (.getfield 81, 3) := dk_180 0 81 (dk_at dksX5_next_0 1 rfl rfl)
theorem dX5_next_4 : decode cX5_next 4 = .ok (.ifCond .le 4, 3) := dk_158 0 4 (dk_at dksX5_next_0 4 rfl rfl)
theorem dX5_next_7 : decode cX5_next 7 = .ok (.return_, 1) := dk_177 (dk_at dksX5_next_0 7 rfl rfl)
theorem dX5_next_8 : decode cX5_next 8 = .ok (.aload_n 0, 1) := dk_42 (dk_at dksX5_next_0 8 rfl rfl)
theorem dX5_next_9 : decode cX5_next 9 = .ok (.aload_n 0, 1) := dk_42 (dk_at dksX5_next_0 9 rfl rfl)
theorem dX5_next_10 : decode cX5_next 10 = .ok (.getfield 90, 3) := dk_180 0 90 (dk_at dksX5_next_0 10 rfl rfl)
theorem dX5_next_13 : decode cX5_next 13 = .ok (.invokevirtual 93, 3) := dk_182 0 93 (dk_at dksX5_next_0 13 rfl rfl)
theorem dX5_next_16 : decode cX5_next 16 = .ok (.bipush 32, 2) := dk_16 32 (dk_at dksX5_next_0 16 rfl rfl)
theorem dX5_next_18 : decode cX5_next 18 = .ok (.if_icmp .ne 16, 3) := dk_160 0 16 (dk_at dksX5_next_0 18 rfl rfl)
theorem dX5_next_21 : decode cX5_next 21 = .ok (.aload_n 0, 1) := dk_42 (dk_at dksX5_next_0 21 rfl rfl)
theorem dX5_next_22 : decode cX5_next 22 = .ok (.dup, 1) := dk_89 (dk_at dksX5_next_0 22 rfl rfl)
theorem dX5_next_23 : decode cX5_next 23 = .ok (.getfield 90, 3) := dk_180 0 90 (dk_at dksX5_next_1 0 rfl rfl)
theorem dX5_next_26 : decode cX5_next 26 = .ok (.iconst 1, 1) := dk_4 (dk_at dksX5_next_1 3 rfl rfl)
theorem dX5_next_27 : decode cX5_next 27 = .ok (.iadd, 1) := dk_96 (dk_at dksX5_next_1 4 rfl rfl)
theorem dX5_next_28 : decode cX5_next 28 = .ok (.putfield 90, 3) := dk_181 0 90 (dk_at dksX5_next_1 5 rfl rfl)
theorem dX5_next_31 : decode cX5_next 31 = .ok (.goto (-23), 3) := dk_167 255 233 (dk_at dksX5_next_1 8 rfl rfl)
theorem dX5_next_34 : decode cX5_next 34 = .ok (.aload_n 0, 1) := dk_42 (dk_at dksX5_next_1 11 rfl rfl)
theorem dX5_next_35 : decode cX5_next 35 = .ok (.aload_n 0, 1) := dk_42 (dk_at dksX5_next_1 12 rfl rfl)
theorem dX5_next_36 : decode cX5_next 36 = .ok (.getfield 90, 3) := dk_180 0 90 (dk_at dksX5_next_1 13 rfl rfl)
theorem dX5_next_39 : decode cX5_next 39 = .ok (.putfield 84, 3) := dk_181 0 84 (dk_at dksX5_next_1 16 rfl rfl)
theorem dX5_next_42 : decode cX5_next 42 = .ok (.aload_n 0, 1) := dk_42 (dk_at dksX5_next_1 19 rfl rfl)
theorem dX5_next_43 : decode cX5_next 43 = .ok (.aload_n 0, 1) := dk_42 (dk_at dksX5_next_1 20 rfl rfl)
theorem dX5_next_44 : decode cX5_next 44 = .ok (.getfield 90, 3) := dk_180 0 90 (dk_at dksX5_next_1 21 rfl rfl)
theorem dX5_next_47 : decode cX5_next 47 = .ok (.invokevirtual 93, 3) := dk_182 0 93 (dk_at dksX5_next_2 0 rfl rfl)
theorem dX5_next_50 : decode cX5_next 50 = .ok (.istore_n 1, 1) := dk_60 (dk_at dksX5_next_2 3 rfl rfl)
theorem dX5_next_51 : decode cX5_next 51 = .ok (.iload_n 1, 1) := dk_27 (dk_at dksX5_next_2 4 rfl rfl)
theorem dX5_next_52 : decode cX5_next 52 = .ok (.ifCond .ge 11, 3) := dk_156 0 11 (dk_at dksX5_next_2 5 rfl rfl)
theorem dX5_next_55 : decode cX5_next 55 = .ok (.aload_n 0, 1) := dk_42 (dk_at dksX5_next_2 8 rfl rfl)
theorem dX5_next_56 : decode cX5_next 56 = .ok (.iconst 0, 1) := dk_3 (dk_at dksX5_next_2 9 rfl rfl)
theorem dX5_next_57 : decode cX5_next 57 = .ok (.putfield 105, 3) := dk_181 0 105 (dk_at dksX5_next_2 10 rfl rfl)
theorem dX5_next_60 : decode cX5_next 60 = .ok (.goto 214, 3) := dk_167 0 214 (dk_at dksX5_next_2 13 rfl rfl)
theorem dX5_next_63 : decode cX5_next 63 = .ok (.iload_n 1, 1) := dk_27 (dk_at dksX5_next_2 16 rfl rfl)
theorem dX5_next_64 : decode cX5_next 64 = .ok (.i2l, 1) := dk_133 (dk_at dksX5_next_2 17 rfl rfl)
theorem dX5_next_65 : decode cX5_next 65 = .ok (.ldc2_w 108, 3) := dk_20 0 108 (dk_at dksX5_next_2 18 rfl rfl)
theorem dX5_next_68 : decode cX5_next 68 = .ok (.ldc2_w 110, 3) := dk_20 0 110 (dk_at dksX5_next_2 21 rfl rfl)
theorem dX5_next_71 : decode cX5_next 71 = .ok (.invokestatic 74, 3) := dk_184 0 74 (dk_at dksX5_next_3 0 rfl rfl)
theorem dX5_next_74 : decode cX5_next 74 = .ok (.ifCond .eq 42, 3) := dk_153 0 42 (dk_at dksX5_next_3 3 rfl rfl)
theorem dX5_next_77 : decode cX5_next 77 = .ok (.aload_n 0, 1) := dk_42 (dk_at dksX5_next_3 6 rfl rfl)
theorem dX5_next_78 : decode cX5_next 78 = .ok (.iconst 1, 1) := dk_4 (dk_at dksX5_next_3 7 rfl rfl)
theorem dX5_next_79 : decode cX5_next 79 = .ok (.putfield 105, 3) := dk_181 0 105 (dk_at dksX5_next_3 8 rfl rfl)
theorem dX5_next_82 : decode cX5_next 82 = .ok (.aload_n 0, 1) := dk_42 (dk_at dksX5_next_3 11 rfl rfl)
theorem dX5_next_83 : decode cX5_next 83 = .ok (.aload_n 0, 1) := dk_42 (dk_at dksX5_next_3 12 rfl rfl)
theorem dX5_next_84 : decode cX5_next 84 = .ok (.getfield 90, 3) := dk_180 0 90 (dk_at dksX5_next_3 13 rfl rfl)
theorem dX5_next_87 : decode cX5_next 87 = .ok (.invokevirtual 93, 3) := dk_182 0 93 (dk_at dksX5_next_3 16 rfl rfl)
theorem dX5_next_90 : decode cX5_next 90 = .ok (.i2l, 1) := dk_133 (dk_at dksX5_next_3 19 rfl rfl)
theorem dX5_next_91 : decode cX5_next 91 = .ok (.ldc2_w 108, 3) := dk_20 0 108 (dk_at dksX5_next_3 20 rfl rfl)
theorem dX5_next_94 : decode cX5_next 94 = .ok (.ldc2_w 110, 3) := dk_20 0 110 (dk_at dksX5_next_4 0 rfl rfl)
theorem dX5_next_97 : decode cX5_next 97 = .ok (.invokestatic 74, 3) := dk_184 0 74 (dk_at dksX5_next_4 3 rfl rfl)
theorem dX5_next_100 : decode cX5_next 100 = .ok (.ifCond .eq 174, 3) := dk_153 0 174 (dk_at dksX5_next_4 6 rfl rfl)
theorem dX5_next_103 : decode cX5_next 103 = .ok (.aload_n 0, 1) := dk_42 (dk_at dksX5_next_4 9 rfl rfl)
theorem dX5_next_104 : decode cX5_next 104 = .ok (.dup, 1) := dk_89 (dk_at dksX5_next_4 10 rfl rfl)
theorem dX5_next_105 : decode cX5_next 105 = .ok (.getfield 90, 3) := dk_180 0 90 (dk_at dksX5_next_4 11 rfl rfl)
theorem dX5_next_108 : decode cX5_next 108 = .ok (.iconst 1, 1) := dk_4 (dk_at dksX5_next_4 14 rfl rfl)
theorem dX5_next_109 : decode cX5_next 109 = .ok (.iadd, 1) := dk_96 (dk_at dksX5_next_4 15 rfl rfl)
theorem dX5_next_110 : decode cX5_next 110 = .ok (.putfield 90, 3) := dk_181 0 90 (dk_at dksX5_next_4 16 rfl rfl)
theorem dX5_next_113 : decode cX5_next 113 = .ok (.goto (-31), 3) := dk_167 255 225 (dk_at dksX5_next_4 19 rfl rfl)
theorem dX5_next_116 : decode cX5_next 116 = .ok (.iload_n 1, 1) := dk_27 (dk_at dksX5_next_4 22 rfl rfl)
theorem dX5_next_117 : decode cX5_next 117 = .ok (.i2l, 1) := dk_133 (dk_at dksX5_next_4 23 rfl rfl)
theorem dX5_next_118 : decode cX5_next 118 = .ok (.ldc2_w 112, 3) := dk_20 0 112 (dk_at dksX5_next_5 0 rfl rfl)
theorem dX5_next_121 : decode cX5_next 121 = .ok (.ldc2_w 114, 3) := dk_20 0 114 (dk_at dksX5_next_5 3 rfl rfl)
theorem dX5_next_124 : decode cX5_next 124 = .ok (.invokestatic 74, 3) := dk_184 0 74 (dk_at dksX5_next_5 6 rfl rfl)
theorem dX5_next_127 : decode cX5_next 127 = .ok (.ifCond .eq 116, 3) := dk_153 0 116 (dk_at dksX5_next_5 9 rfl rfl)
theorem dX5_next_130 : decode cX5_next 130 = .ok (.aload_n 0, 1) := dk_42 (dk_at dksX5_next_5 12 rfl rfl)
theorem dX5_next_131 : decode cX5_next 131 = .ok (.iconst 2, 1) := dk_5 (dk_at dksX5_next_5 13 rfl rfl)
theorem dX5_next_132 : decode cX5_next 132 = .ok (.putfield 105, 3) := dk_181 0 105 (dk_at dksX5_next_5 14 rfl rfl)
theorem dX5_next_135 : decode cX5_next 135 = .ok (.aload_n 0, 1) := dk_42 (dk_at dksX5_next_5 17 rfl rfl)
theorem dX5_next_136 : decode cX5_next 136 = .ok (.iconst 0, 1) := dk_3 (dk_at dksX5_next_5 18 rfl rfl)
theorem dX5_next_137 : decode cX5_next 137 = .ok (.putfield 116, 3) := dk_181 0 116 (dk_at dksX5_next_5 19 rfl rfl)
theorem dX5_next_140 : decode cX5_next 140 = .ok (.aload_n 0, 1) := dk_42 (dk_at dksX5_next_5 22 rfl rfl)
theorem dX5_next_141 : decode cX5_next 141 = .ok (.aload_n 0, 1) := dk_42 (dk_at dksX5_next_5 23 rfl rfl)
theorem dX5_next_142 : decode cX5_next 142 = .ok (.getfield 90, 3) := dk_180 0 90 (dk_at dksX5_next_6 0 rfl rfl)
theorem dX5_next_145 : decode cX5_next 145 = .ok (.invokevirtual 93, 3) := dk_182 0 93 (dk_at dksX5_next_6 3 rfl rfl)
theorem dX5_next_148 : decode cX5_next 148 = .ok (.i2l, 1) := dk_133 (dk_at dksX5_next_6 6 rfl rfl)
theorem dX5_next_149 : decode cX5_next 149 = .ok (.ldc2_w 112, 3) := dk_20 0 112 (dk_at dksX5_next_6 7 rfl rfl)
theorem dX5_next_152 : decode cX5_next 152 = .ok (.ldc2_w 114, 3) := dk_20 0 114 (dk_at dksX5_next_6 10 rfl rfl)
theorem dX5_next_155 : decode cX5_next 155 = .ok (.invokestatic 74, 3) := dk_184 0 74 (dk_at dksX5_next_6 13 rfl rfl)
theorem dX5_next_158 : decode cX5_next 158 = .ok (.ifCond .eq 59, 3) := dk_153 0 59 (dk_at dksX5_next_6 16 rfl rfl)
theorem dX5_next_161 : decode cX5_next 161 = .ok (.aload_n 0, 1) := dk_42 (dk_at dksX5_next_6 19 rfl rfl)
theorem dX5_next_162 : decode cX5_next 162 = .ok (.aload_n 0, 1) := dk_42 (dk_at dksX5_next_6 20 rfl rfl)
theorem dX5_next_163 : decode cX5_next 163 = .ok (.getfield 90, 3) := dk_180 0 90 (dk_at dksX5_next_6 21 rfl rfl)
theorem dX5_next_166 : decode cX5_next 166 = .ok (.aload_n 0, 1) := dk_42 (dk_at dksX5_next_7 0 rfl rfl)
theorem dX5_next_167 : decode cX5_next 167 = .ok (.getfield 84, 3) := dk_180 0 84 (dk_at dksX5_next_7 1 rfl rfl)
theorem dX5_next_170 : decode cX5_next 170 = .ok (.isub, 1) := dk_100 (dk_at dksX5_next_7 4 rfl rfl)
theorem dX5_next_171 : decode cX5_next 171 = .ok (.iconst 2, 1) := dk_5 (dk_at dksX5_next_7 5 rfl rfl)
theorem dX5_next_172 : decode cX5_next 172 = .ok (.if_icmp .ge 25, 3) := dk_162 0 25 (dk_at dksX5_next_7 6 rfl rfl)
theorem dX5_next_175 : decode cX5_next 175 = .ok (.bipush 10, 2) := dk_16 10 (dk_at dksX5_next_7 9 rfl rfl)
theorem dX5_next_177 : decode cX5_next 177 = .ok (.aload_n 0, 1) := dk_42 (dk_at dksX5_next_7 11 rfl rfl)
theorem dX5_next_178 : decode cX5_next 178 = .ok (.getfield 116, 3) := dk_180 0 116 (dk_at dksX5_next_7 12 rfl rfl)
theorem dX5_next_181 : decode cX5_next 181 = .ok (.imul, 1) := dk_104 (dk_at dksX5_next_7 15 rfl rfl)
theorem dX5_next_182 : decode cX5_next 182 = .ok (.aload_n 0, 1) := dk_42 (dk_at dksX5_next_7 16 rfl rfl)
theorem dX5_next_183 : decode cX5_next 183 = .ok (.aload_n 0, 1) := dk_42 (dk_at dksX5_next_7 17 rfl rfl)
theorem dX5_next_184 : decode cX5_next 184 = .ok (.getfield 90, 3) := dk_180 0 90 (dk_at dksX5_next_7 18 rfl rfl)
theorem dX5_next_187 : decode cX5_next 187 = .ok (.invokevirtual 93, 3) := dk_182 0 93 (dk_at dksX5_next_7 21 rfl rfl)
theorem dX5_next_190 : decode cX5_next 190 = .ok (.iadd, 1) := dk_96 (dk_at dksX5_next_8 0 rfl rfl)
theorem dX5_next_191 : decode cX5_next 191 = .ok (.bipush 48, 2) := dk_16 48 (dk_at dksX5_next_8 1 rfl rfl)
theorem dX5_next_193 : decode cX5_next 193 = .ok (.isub, 1) := dk_100 (dk_at dksX5_next_8 3 rfl rfl)
theorem dX5_next_194 : decode cX5_next 194 = .ok (.goto 7, 3) := dk_167 0 7 (dk_at dksX5_next_8 4 rfl rfl)
theorem dX5_next_197 : decode cX5_next 197 = .ok (.aload_n 0, 1) := dk_42 (dk_at dksX5_next_8 7 rfl rfl)
theorem dX5_next_198 : decode cX5_next 198 = .ok (.getfield 116, 3) := dk_180 0 116 (dk_at dksX5_next_8 8 rfl rfl)
theorem dX5_next_201 : decode cX5_next 201 = .ok (.putfield 116, 3) := dk_181 0 116 (dk_at dksX5_next_8 11 rfl rfl)
theorem dX5_next_204 : decode cX5_next 204 = .ok (.aload_n 0, 1) := dk_42 (dk_at dksX5_next_8 14 rfl rfl)
theorem dX5_next_205 : decode cX5_next 205 = .ok (.dup, 1) := dk_89 (dk_at dksX5_next_8 15 rfl rfl)
theorem dX5_next_206 : decode cX5_next 206 = .ok (.getfield 90, 3) := dk_180 0 90 (dk_at dksX5_next_8 16 rfl rfl)
theorem dX5_next_209 : decode cX5_next 209 = .ok (.iconst 1, 1) := dk_4 (dk_at dksX5_next_8 19 rfl rfl)
theorem dX5_next_210 : decode cX5_next 210 = .ok (.iadd, 1) := dk_96 (dk_at dksX5_next_8 20 rfl rfl)
theorem dX5_next_211 : decode cX5_next 211 = .ok (.putfield 90, 3) := dk_181 0 90 (dk_at dksX5_next_8 21 rfl rfl)
theorem dX5_next_214 : decode cX5_next 214 = .ok (.goto (-74), 3) := dk_167 255 182 (dk_at dksX5_next_9 0 rfl rfl)
theorem dX5_next_217 : decode cX5_next 217 = .ok (.aload_n 0, 1) := dk_42 (dk_at dksX5_next_9 3 rfl rfl)
theorem dX5_next_218 : decode cX5_next 218 = .ok (.aload_n 0, 1) := dk_42 (dk_at dksX5_next_9 4 rfl rfl)
theorem dX5_next_219 : decode cX5_next 219 = .ok (.getfield 90, 3) := dk_180 0 90 (dk_at dksX5_next_9 5 rfl rfl)
theorem dX5_next_222 : decode cX5_next 222 = .ok (.aload_n 0, 1) := dk_42 (dk_at dksX5_next_9 8 rfl rfl)
theorem dX5_next_223 : decode cX5_next 223 = .ok (.getfield 84, 3) := dk_180 0 84 (dk_at dksX5_next_9 9 rfl rfl)
theorem dX5_next_226 : decode cX5_next 226 = .ok (.isub, 1) := dk_100 (dk_at dksX5_next_9 12 rfl rfl)
theorem dX5_next_227 : decode cX5_next 227 = .ok (.iconst 2, 1) := dk_5 (dk_at dksX5_next_9 13 rfl rfl)
theorem dX5_next_228 : decode cX5_next 228 = .ok (.if_icmp .gt 7, 3) := dk_163 0 7 (dk_at dksX5_next_9 14 rfl rfl)
theorem dX5_next_231 : decode cX5_next 231 = .ok (.iconst 1, 1) := dk_4 (dk_at dksX5_next_9 17 rfl rfl)
theorem dX5_next_232 : decode cX5_next 232 = .ok (.goto 4, 3) := dk_167 0 4 (dk_at dksX5_next_9 18 rfl rfl)
theorem dX5_next_235 : decode cX5_next 235 = .ok (.iconst 0, 1) := dk_3 (dk_at dksX5_next_9 21 rfl rfl)
theorem dX5_next_236 : decode cX5_next 236 = .ok (.iconst 1, 1) := dk_4 (dk_at dksX5_next_9 22 rfl rfl)
theorem dX5_next_237 : decode cX5_next 237 = .ok (.invokevirtual 119, 3) := dk_182 0 119 (dk_at dksX5_next_10 0 rfl rfl)
theorem dX5_next_240 : decode cX5_next 240 = .ok (.goto 34, 3) := dk_167 0 34 (dk_at dksX5_next_10 3 rfl rfl)
theorem dX5_next_243 : decode cX5_next 243 = .ok (.aload_n 0, 1) := dk_42 (dk_at dksX5_next_10 6 rfl rfl)
theorem dX5_next_244 : decode cX5_next 244 = .ok (.iconst 3, 1) := dk_6 (dk_at dksX5_next_10 7 rfl rfl)
theorem dX5_next_245 : decode cX5_next 245 = .ok (.putfield 105, 3) := dk_181 0 105 (dk_at dksX5_next_10 8 rfl rfl)
theorem dX5_next_248 : decode cX5_next 248 = .ok (.aload_n 0, 1) := dk_42 (dk_at dksX5_next_10 11 rfl rfl)
theorem dX5_next_249 : decode cX5_next 249 = .ok (.iload_n 1, 1) := dk_27 (dk_at dksX5_next_10 12 rfl rfl)
theorem dX5_next_250 : decode cX5_next 250 = .ok (.bipush 59, 2) := dk_16 59 (dk_at dksX5_next_10 13 rfl rfl)
theorem dX5_next_252 : decode cX5_next 252 = .ok (.if_icmp .ne 7, 3) := dk_160 0 7 (dk_at dksX5_next_10 15 rfl rfl)
theorem dX5_next_255 : decode cX5_next 255 = .ok (.iconst 1, 1) := dk_4 (dk_at dksX5_next_10 18 rfl rfl)
theorem dX5_next_256 : decode cX5_next 256 = .ok (.goto 4, 3) := dk_167 0 4 (dk_at dksX5_next_10 19 rfl rfl)
theorem dX5_next_259 : decode cX5_next 259 = .ok (.iconst 0, 1) := dk_3 (dk_at dksX5_next_10 22 rfl rfl)
theorem dX5_next_260 : decode cX5_next 260 = .ok (.iconst 1, 1) := dk_4 (dk_at dksX5_next_10 23 rfl rfl)
theorem dX5_next_261 : decode cX5_next 261 = .ok (.invokevirtual 119, 3) := dk_182 0 119 (dk_at dksX5_next_11 0 rfl rfl)
theorem dX5_next_264 : decode cX5_next 264 = .ok (.aload_n 0, 1) := dk_42 (dk_at dksX5_next_11 3 rfl rfl)
theorem dX5_next_265 : decode cX5_next 265 = .ok (.dup, 1) := dk_89 (dk_at dksX5_next_11 4 rfl rfl)
theorem dX5_next_266 : decode cX5_next 266 = .ok (.getfield 90, 3) := dk_180 0 90 (dk_at dksX5_next_11 5 rfl rfl)
theorem dX5_next_269 : decode cX5_next 269 = .ok (.iconst 1, 1) := dk_4 (dk_at dksX5_next_11 8 rfl rfl)
theorem dX5_next_270 : decode cX5_next 270 = .ok (.iadd, 1) := dk_96 (dk_at dksX5_next_11 9 rfl rfl)
theorem dX5_next_271 : decode cX5_next 271 = .ok (.putfield 90, 3) := dk_181 0 90 (dk_at dksX5_next_11 10 rfl rfl)
theorem dX5_next_274 : decode cX5_next 274 = .ok (.return_, 1) := dk_177 (dk_at dksX5_next_11 13 rfl rfl)
abbrev cX5_byteAt : ByteArray := prog_14_method_10_code
def yX5_byteAt : MethodName := ⟨RX5, "byteAt", "(I)I"⟩
def dkwX5_byteAt_0 : List UInt8 := [27, 42, 180, 0, 78, 162, 0, 12, 42, 180, 0, 23, 27, 46, 167, 0, 4, 2, 172]
abbrev dktX5_byteAt_0 : List UInt8 := dkwX5_byteAt_0 ++ []
theorem dksX5_byteAt_0 : cX5_byteAt.data.toList.drop 0 = dktX5_byteAt_0 := by decide +kernel
theorem dX5_byteAt_0 : decode cX5_byteAt 0 = .ok (.iload_n 1, 1) := dk_27 (dk_at dksX5_byteAt_0 0 rfl rfl)
theorem dX5_byteAt_1 : decode cX5_byteAt 1 = .ok (.aload_n 0, 1) := dk_42 (dk_at dksX5_byteAt_0 1 rfl rfl)
theorem dX5_byteAt_2 : decode cX5_byteAt 2 = .ok (.getfield 78, 3) := dk_180 0 78 (dk_at dksX5_byteAt_0 2 rfl rfl)
theorem dX5_byteAt_5 : decode cX5_byteAt 5 = .ok (.if_icmp .ge 12, 3) := dk_162 0 12 (dk_at dksX5_byteAt_0 5 rfl rfl)
theorem dX5_byteAt_8 : decode cX5_byteAt 8 = .ok (.aload_n 0, 1) := dk_42 (dk_at dksX5_byteAt_0 8 rfl rfl)
theorem dX5_byteAt_9 : decode cX5_byteAt 9 = .ok (.getfield 23, 3) := dk_180 0 23 (dk_at dksX5_byteAt_0 9 rfl rfl)
theorem dX5_byteAt_12 : decode cX5_byteAt 12 = .ok (.iload_n 1, 1) := dk_27 (dk_at dksX5_byteAt_0 12 rfl rfl)
theorem dX5_byteAt_13 : decode cX5_byteAt 13 = .ok (.iaload, 1) := dk_46 (dk_at dksX5_byteAt_0 13 rfl rfl)
theorem dX5_byteAt_14 : decode cX5_byteAt 14 = .ok (.goto 4, 3) := dk_167 0 4 (dk_at dksX5_byteAt_0 14 rfl rfl)
theorem dX5_byteAt_17 : decode cX5_byteAt 17 = .ok (.iconst (-1), 1) := dk_2 (dk_at dksX5_byteAt_0 17 rfl rfl)
theorem dX5_byteAt_18 : decode cX5_byteAt 18 = .ok (.ireturn, 1) := dk_172 (dk_at dksX5_byteAt_0 18 rfl rfl)
abbrev cX5_needs : ByteArray := prog_14_method_9_code
def yX5_needs : MethodName := ⟨RX5, "needs", "(ZI)V"⟩
def dkwX5_needs_1 : List UInt8 := [177]
abbrev dktX5_needs_1 : List UInt8 := dkwX5_needs_1 ++ []
def dkwX5_needs_0 : List UInt8 := [27, 154, 0, 23, 42, 180, 0, 81, 154, 0, 16, 42, 28, 181, 0, 81, 42, 42, 180, 0, 84, 181, 0, 87]
abbrev dktX5_needs_0 : List UInt8 := dkwX5_needs_0 ++ dktX5_needs_1
theorem dksX5_needs_0 : cX5_needs.data.toList.drop 0 = dktX5_needs_0 := by decide +kernel
theorem dksX5_needs_1 : cX5_needs.data.toList.drop 24 = dktX5_needs_1 := dk_seg dksX5_needs_0 24 rfl rfl
theorem dX5_needs_0 : decode cX5_needs 0 = .ok (.iload_n 1, 1) := dk_27 (dk_at dksX5_needs_0 0 rfl rfl)
theorem dX5_needs_1 : decode cX5_needs 1 = .ok (.ifCond .ne 23, 3) := dk_154 0 23 (dk_at dksX5_needs_0 1 rfl rfl)
theorem dX5_needs_4 : decode cX5_needs 4 = .ok (.aload_n 0, 1) := dk_42 (dk_at dksX5_needs_0 4 rfl rfl)
theorem dX5_needs_5 : decode cX5_needs 5 = .ok (.getfield 81, 3) := dk_180 0 81 (dk_at dksX5_needs_0 5 rfl rfl)
theorem dX5_needs_8 : decode cX5_needs 8 = .ok (.ifCond .ne 16, 3) := dk_154 0 16 (dk_at dksX5_needs_0 8 rfl rfl)
theorem dX5_needs_11 : decode cX5_needs 11 = .ok (.aload_n 0, 1) := dk_42 (dk_at dksX5_needs_0 11 rfl rfl)
theorem dX5_needs_12 : decode cX5_needs 12 = .ok (.iload_n 2, 1) := dk_28 (dk_at dksX5_needs_0 12 rfl rfl)
theorem dX5_needs_13 : decode cX5_needs 13 = .ok (.putfield 81, 3) := dk_181 0 81 (dk_at dksX5_needs_0 13 rfl rfl)
theorem dX5_needs_16 : decode cX5_needs 16 = .ok (.aload_n 0, 1) := dk_42 (dk_at dksX5_needs_0 16 rfl rfl)
theorem dX5_needs_17 : decode cX5_needs 17 = .ok (.aload_n 0, 1) := dk_42 (dk_at dksX5_needs_0 17 rfl rfl)
theorem dX5_needs_18 : decode cX5_needs 18 = .ok (.getfield 84, 3) := dk_180 0 84 (dk_at dksX5_needs_0 18 rfl rfl)
theorem dX5_needs_21 : decode cX5_needs 21 = .ok (.putfield 87, 3) := dk_181 0 87 (dk_at dksX5_needs_0 21 rfl rfl)
theorem dX5_needs_24 : decode cX5_needs 24 = .ok (.return_, 1) := dk_177 (dk_at dksX5_needs_1 0 rfl rfl)
abbrev cX5_readLine : ByteArray := prog_14_method_23_code
def yX5_readLine : MethodName := ⟨RX5, "readLine", "()V"⟩
def dkwX5_readLine_6 : List UInt8 := [180, 0, 105, 6, 160, 0, 7, 4, 167, 0, 4, 3, 5, 182, 0, 119, 42, 182, 0, 127, 177]
abbrev dktX5_readLine_6 : List UInt8 := dkwX5_readLine_6 ++ []
def dkwX5_readLine_5 : List UInt8 := [42, 180, 0, 81, 158, 0, 4, 177, 42, 27, 182, 0, 157, 42, 180, 0, 81, 154, 0, 21, 42, 42]
abbrev dktX5_readLine_5 : List UInt8 := dkwX5_readLine_5 ++ dktX5_readLine_6
def dkwX5_readLine_4 : List UInt8 := [167, 0, 4, 3, 7, 182, 0, 119, 42, 89, 180, 0, 60, 4, 27, 120, 128, 181, 0, 60, 42, 182, 0, 127]
abbrev dktX5_readLine_4 : List UInt8 := dkwX5_readLine_4 ++ dktX5_readLine_5
def dkwX5_readLine_3 : List UInt8 := [20, 0, 155, 184, 0, 74, 153, 0, 36, 42, 42, 180, 0, 60, 27, 122, 4, 126, 154, 0, 7, 4]
abbrev dktX5_readLine_3 : List UInt8 := dkwX5_readLine_3 ++ dktX5_readLine_4
def dkwX5_readLine_2 : List UInt8 := [162, 0, 7, 4, 167, 0, 4, 3, 8, 182, 0, 119, 42, 180, 0, 81, 154, 0, 50, 27, 133, 20, 0, 153]
abbrev dktX5_readLine_2 : List UInt8 := dkwX5_readLine_2 ++ dktX5_readLine_3
def dkwX5_readLine_1 : List UInt8 := [159, 0, 7, 4, 167, 0, 4, 3, 5, 182, 0, 119, 42, 27, 4, 163, 0, 12, 42, 180, 0, 56, 16, 6]
abbrev dktX5_readLine_1 : List UInt8 := dkwX5_readLine_1 ++ dktX5_readLine_2
def dkwX5_readLine_0 : List UInt8 := [42, 180, 0, 105, 4, 160, 0, 10, 42, 182, 0, 150, 167, 0, 5, 16, 252, 60, 42, 27, 16, 252]
abbrev dktX5_readLine_0 : List UInt8 := dkwX5_readLine_0 ++ dktX5_readLine_1
theorem dksX5_readLine_0 : cX5_readLine.data.toList.drop 0 = dktX5_readLine_0 := by decide +kernel
theorem dksX5_readLine_1 : cX5_readLine.data.toList.drop 22 = dktX5_readLine_1 := dk_seg dksX5_readLine_0 22 rfl rfl
theorem dksX5_readLine_2 : cX5_readLine.data.toList.drop 46 = dktX5_readLine_2 := dk_seg dksX5_readLine_1 24 rfl rfl
theorem dksX5_readLine_3 : cX5_readLine.data.toList.drop 70 = dktX5_readLine_3 := dk_seg dksX5_readLine_2 24 rfl rfl
theorem dksX5_readLine_4 : cX5_readLine.data.toList.drop 92 = dktX5_readLine_4 := dk_seg dksX5_readLine_3 22 rfl rfl
theorem dksX5_readLine_5 : cX5_readLine.data.toList.drop 116 = dktX5_readLine_5 := dk_seg dksX5_readLine_4 24 rfl rfl
theorem dksX5_readLine_6 : cX5_readLine.data.toList.drop 138 = dktX5_readLine_6 := dk_seg dksX5_readLine_5 22 rfl rfl
theorem dX5_readLine_0 : decode cX5_readLine 0 = .ok (.aload_n 0, 1) := dk_42 (dk_at dksX5_readLine_0 0 rfl rfl)
theorem dX5_readLine_1 : decode cX5_readLine 1 = .ok (.getfield 105, 3) := dk_180 0 105 (dk_at dksX5_readLine_0 1 rfl rfl)
theorem dX5_readLine_4 : decode cX5_readLine 4 = .ok (.iconst 1, 1) := dk_4 (dk_at dksX5_readLine_0 4 rfl rfl)
theorem dX5_readLine_5 : decode cX5_readLine 5 = .ok (.if_icmp .ne 10, 3) := dk_160 0 10 (dk_at dksX5_readLine_0 5 rfl rfl)
theorem dX5_readLine_8 : decode cX5_readLine 8 = .ok (.aload_n 0, 1) := dk_42 (dk_at dksX5_readLine_0 8 rfl rfl)
theorem dX5_readLine_9 : decode cX5_readLine 9 = .ok (.invokevirtual 150, 3) := dk_182 0 150 (dk_at dksX5_readLine_0 9 rfl rfl)
theorem dX5_readLine_12 : decode cX5_readLine 12 = .ok (.goto 5, 3) := dk_167 0 5 (dk_at dksX5_readLine_0 12 rfl rfl)
theorem dX5_readLine_15 : decode cX5_readLine 15 = .ok (.bipush (-4), 2) := dk_16 252 (dk_at dksX5_readLine_0 15 rfl rfl)
theorem dX5_readLine_17 : decode cX5_readLine 17 = .ok (.istore_n 1, 1) := dk_60 (dk_at dksX5_readLine_0 17 rfl rfl)
theorem dX5_readLine_18 : decode cX5_readLine 18 = .ok (.aload_n 0, 1) := dk_42 (dk_at dksX5_readLine_0 18 rfl rfl)
theorem dX5_readLine_19 : decode cX5_readLine 19 = .ok (.iload_n 1, 1) := dk_27 (dk_at dksX5_readLine_0 19 rfl rfl)
theorem dX5_readLine_20 : decode cX5_readLine 20 = .ok (.bipush (-4), 2) := dk_16 252 (dk_at dksX5_readLine_0 20 rfl rfl)
theorem dX5_readLine_22 : decode cX5_readLine 22 = .ok (.if_icmp .eq 7, 3) := dk_159 0 7 (dk_at dksX5_readLine_1 0 rfl rfl)
theorem dX5_readLine_25 : decode cX5_readLine 25 = .ok (.iconst 1, 1) := dk_4 (dk_at dksX5_readLine_1 3 rfl rfl)
theorem dX5_readLine_26 : decode cX5_readLine 26 = .ok (.goto 4, 3) := dk_167 0 4 (dk_at dksX5_readLine_1 4 rfl rfl)
theorem dX5_readLine_29 : decode cX5_readLine 29 = .ok (.iconst 0, 1) := dk_3 (dk_at dksX5_readLine_1 7 rfl rfl)
theorem dX5_readLine_30 : decode cX5_readLine 30 = .ok (.iconst 2, 1) := dk_5 (dk_at dksX5_readLine_1 8 rfl rfl)
theorem dX5_readLine_31 : decode cX5_readLine 31 = .ok (.invokevirtual 119, 3) := dk_182 0 119 (dk_at dksX5_readLine_1 9 rfl rfl)
theorem dX5_readLine_34 : decode cX5_readLine 34 = .ok (.aload_n 0, 1) := dk_42 (dk_at dksX5_readLine_1 12 rfl rfl)
theorem dX5_readLine_35 : decode cX5_readLine 35 = .ok (.iload_n 1, 1) := dk_27 (dk_at dksX5_readLine_1 13 rfl rfl)
theorem dX5_readLine_36 : decode cX5_readLine 36 = .ok (.iconst 1, 1) := dk_4 (dk_at dksX5_readLine_1 14 rfl rfl)
theorem dX5_readLine_37 : decode cX5_readLine 37 = .ok (.if_icmp .gt 12, 3) := dk_163 0 12 (dk_at dksX5_readLine_1 15 rfl rfl)
theorem dX5_readLine_40 : decode cX5_readLine 40 = .ok (.aload_n 0, 1) := dk_42 (dk_at dksX5_readLine_1 18 rfl rfl)
theorem dX5_readLine_41 : decode cX5_readLine 41 = .ok (.getfield 56, 3) := dk_180 0 56 (dk_at dksX5_readLine_1 19 rfl rfl)
theorem dX5_readLine_44 : decode cX5_readLine 44 = .ok (.bipush 6, 2) := dk_16 6 (dk_at dksX5_readLine_1 22 rfl rfl)
theorem dX5_readLine_46 : decode cX5_readLine 46 = .ok (.if_icmp .ge 7, 3) := dk_162 0 7 (dk_at dksX5_readLine_2 0 rfl rfl)
theorem dX5_readLine_49 : decode cX5_readLine 49 = .ok (.iconst 1, 1) := dk_4 (dk_at dksX5_readLine_2 3 rfl rfl)
theorem dX5_readLine_50 : decode cX5_readLine 50 = .ok (.goto 4, 3) := dk_167 0 4 (dk_at dksX5_readLine_2 4 rfl rfl)
theorem dX5_readLine_53 : decode cX5_readLine 53 = .ok (.iconst 0, 1) := dk_3 (dk_at dksX5_readLine_2 7 rfl rfl)
theorem dX5_readLine_54 : decode cX5_readLine 54 = .ok (.iconst 5, 1) := dk_8 (dk_at dksX5_readLine_2 8 rfl rfl)
theorem dX5_readLine_55 : decode cX5_readLine 55 = .ok (.invokevirtual 119, 3) := dk_182 0 119 (dk_at dksX5_readLine_2 9 rfl rfl)
theorem dX5_readLine_58 : decode cX5_readLine 58 = .ok (.aload_n 0, 1) := dk_42 (dk_at dksX5_readLine_2 12 rfl rfl)
theorem dX5_readLine_59 : decode cX5_readLine 59 = .ok (.getfield 81, 3) := dk_180 0 81 (dk_at dksX5_readLine_2 13 rfl rfl)
theorem dX5_readLine_62 : decode cX5_readLine 62 = .ok (.ifCond .ne 50, 3) := dk_154 0 50 (dk_at dksX5_readLine_2 16 rfl rfl)
theorem dX5_readLine_65 : decode cX5_readLine 65 = .ok (.iload_n 1, 1) := dk_27 (dk_at dksX5_readLine_2 19 rfl rfl)
theorem dX5_readLine_66 : decode cX5_readLine 66 = .ok (.i2l, 1) := dk_133 (dk_at dksX5_readLine_2 20 rfl rfl)
theorem dX5_readLine_67 : decode cX5_readLine 67 = .ok (.ldc2_w 153, 3) := dk_20 0 153 (dk_at dksX5_readLine_2 21 rfl rfl)
theorem dX5_readLine_70 : decode cX5_readLine 70 = .ok (.ldc2_w 155, 3) := dk_20 0 155 (dk_at dksX5_readLine_3 0 rfl rfl)
theorem dX5_readLine_73 : decode cX5_readLine 73 = .ok (.invokestatic 74, 3) := dk_184 0 74 (dk_at dksX5_readLine_3 3 rfl rfl)
theorem dX5_readLine_76 : decode cX5_readLine 76 = .ok (.ifCond .eq 36, 3) := dk_153 0 36 (dk_at dksX5_readLine_3 6 rfl rfl)
theorem dX5_readLine_79 : decode cX5_readLine 79 = .ok (.aload_n 0, 1) := dk_42 (dk_at dksX5_readLine_3 9 rfl rfl)
theorem dX5_readLine_80 : decode cX5_readLine 80 = .ok (.aload_n 0, 1) := dk_42 (dk_at dksX5_readLine_3 10 rfl rfl)
theorem dX5_readLine_81 : decode cX5_readLine 81 = .ok (.getfield 60, 3) := dk_180 0 60 (dk_at dksX5_readLine_3 11 rfl rfl)
theorem dX5_readLine_84 : decode cX5_readLine 84 = .ok (.iload_n 1, 1) := dk_27 (dk_at dksX5_readLine_3 14 rfl rfl)
theorem dX5_readLine_85 : decode cX5_readLine 85 = .ok (.ishr, 1) := dk_122 (dk_at dksX5_readLine_3 15 rfl rfl)
theorem dX5_readLine_86 : decode cX5_readLine 86 = .ok (.iconst 1, 1) := dk_4 (dk_at dksX5_readLine_3 16 rfl rfl)
theorem dX5_readLine_87 : decode cX5_readLine 87 = .ok (.iand, 1) := dk_126 (dk_at dksX5_readLine_3 17 rfl rfl)
theorem dX5_readLine_88 : decode cX5_readLine 88 = .ok (.ifCond .ne 7, 3) := dk_154 0 7 (dk_at dksX5_readLine_3 18 rfl rfl)
theorem dX5_readLine_91 : decode cX5_readLine 91 = .ok (.iconst 1, 1) := dk_4 (dk_at dksX5_readLine_3 21 rfl rfl)
theorem dX5_readLine_92 : decode cX5_readLine 92 = .ok (.goto 4, 3) := dk_167 0 4 (dk_at dksX5_readLine_4 0 rfl rfl)
theorem dX5_readLine_95 : decode cX5_readLine 95 = .ok (.iconst 0, 1) := dk_3 (dk_at dksX5_readLine_4 3 rfl rfl)
theorem dX5_readLine_96 : decode cX5_readLine 96 = .ok (.iconst 4, 1) := dk_7 (dk_at dksX5_readLine_4 4 rfl rfl)
theorem dX5_readLine_97 : decode cX5_readLine 97 = .ok (.invokevirtual 119, 3) := dk_182 0 119 (dk_at dksX5_readLine_4 5 rfl rfl)
theorem dX5_readLine_100 : decode cX5_readLine 100 = .ok (.aload_n 0, 1) := dk_42 (dk_at dksX5_readLine_4 8 rfl rfl)
theorem dX5_readLine_101 : decode cX5_readLine 101 = .ok (.dup, 1) := dk_89 (dk_at dksX5_readLine_4 9 rfl rfl)
theorem dX5_readLine_102 : decode cX5_readLine 102 = .ok (.getfield 60, 3) := dk_180 0 60 (dk_at dksX5_readLine_4 10 rfl rfl)
theorem dX5_readLine_105 : decode cX5_readLine 105 = .ok (.iconst 1, 1) := dk_4 (dk_at dksX5_readLine_4 13 rfl rfl)
theorem dX5_readLine_106 : decode cX5_readLine 106 = .ok (.iload_n 1, 1) := dk_27 (dk_at dksX5_readLine_4 14 rfl rfl)
theorem dX5_readLine_107 : decode cX5_readLine 107 = .ok (.ishl, 1) := dk_120 (dk_at dksX5_readLine_4 15 rfl rfl)
theorem dX5_readLine_108 : decode cX5_readLine 108 = .ok (.ior, 1) := dk_128 (dk_at dksX5_readLine_4 16 rfl rfl)
theorem dX5_readLine_109 : decode cX5_readLine 109 = .ok (.putfield 60, 3) := dk_181 0 60 (dk_at dksX5_readLine_4 17 rfl rfl)
theorem dX5_readLine_112 : decode cX5_readLine 112 = .ok (.aload_n 0, 1) := dk_42 (dk_at dksX5_readLine_4 20 rfl rfl)
theorem dX5_readLine_113 : decode cX5_readLine 113 = .ok (.invokevirtual 127, 3) := dk_182 0 127 (dk_at dksX5_readLine_4 21 rfl rfl)
theorem dX5_readLine_116 : decode cX5_readLine 116 = .ok (.aload_n 0, 1) := dk_42 (dk_at dksX5_readLine_5 0 rfl rfl)
theorem dX5_readLine_117 : decode cX5_readLine 117 = .ok (.getfield 81, 3) := dk_180 0 81 (dk_at dksX5_readLine_5 1 rfl rfl)
theorem dX5_readLine_120 : decode cX5_readLine 120 = .ok (.ifCond .le 4, 3) := dk_158 0 4 (dk_at dksX5_readLine_5 4 rfl rfl)
theorem dX5_readLine_123 : decode cX5_readLine 123 = .ok (.return_, 1) := dk_177 (dk_at dksX5_readLine_5 7 rfl rfl)
theorem dX5_readLine_124 : decode cX5_readLine 124 = .ok (.aload_n 0, 1) := dk_42 (dk_at dksX5_readLine_5 8 rfl rfl)
theorem dX5_readLine_125 : decode cX5_readLine 125 = .ok (.iload_n 1, 1) := dk_27 (dk_at dksX5_readLine_5 9 rfl rfl)
theorem dX5_readLine_126 : decode cX5_readLine 126 = .ok (.invokevirtual 157, 3) := dk_182 0 157 (dk_at dksX5_readLine_5 10 rfl rfl)
theorem dX5_readLine_129 : decode cX5_readLine 129 = .ok (.aload_n 0, 1) := dk_42 (dk_at dksX5_readLine_5 13 rfl rfl)
theorem dX5_readLine_130 : decode cX5_readLine 130 = .ok (.getfield 81, 3) := dk_180 0 81 (dk_at dksX5_readLine_5 14 rfl rfl)
theorem dX5_readLine_133 : decode cX5_readLine 133 = .ok (.ifCond .ne 21, 3) := dk_154 0 21 (dk_at dksX5_readLine_5 17 rfl rfl)
theorem dX5_readLine_136 : decode cX5_readLine 136 = .ok (.aload_n 0, 1) := dk_42 (dk_at dksX5_readLine_5 20 rfl rfl)
theorem dX5_readLine_137 : decode cX5_readLine 137 = .ok (.aload_n 0, 1) := dk_42 (dk_at dksX5_readLine_5 21 rfl rfl)
theorem dX5_readLine_138 : decode cX5_readLine 138 = .ok (.getfield 105, 3) := dk_180 0 105 (dk_at dksX5_readLine_6 0 rfl rfl)
theorem dX5_readLine_141 : decode cX5_readLine 141 = .ok (.iconst 3, 1) := dk_6 (dk_at dksX5_readLine_6 3 rfl rfl)
theorem dX5_readLine_142 : decode cX5_readLine 142 = .ok (.if_icmp .ne 7, 3) := dk_160 0 7 (dk_at dksX5_readLine_6 4 rfl rfl)
theorem dX5_readLine_145 : decode cX5_readLine 145 = .ok (.iconst 1, 1) := dk_4 (dk_at dksX5_readLine_6 7 rfl rfl)
theorem dX5_readLine_146 : decode cX5_readLine 146 = .ok (.goto 4, 3) := dk_167 0 4 (dk_at dksX5_readLine_6 8 rfl rfl)
theorem dX5_readLine_149 : decode cX5_readLine 149 = .ok (.iconst 0, 1) := dk_3 (dk_at dksX5_readLine_6 11 rfl rfl)
theorem dX5_readLine_150 : decode cX5_readLine 150 = .ok (.iconst 2, 1) := dk_5 (dk_at dksX5_readLine_6 12 rfl rfl)
theorem dX5_readLine_151 : decode cX5_readLine 151 = .ok (.invokevirtual 119, 3) := dk_182 0 119 (dk_at dksX5_readLine_6 13 rfl rfl)
theorem dX5_readLine_154 : decode cX5_readLine 154 = .ok (.aload_n 0, 1) := dk_42 (dk_at dksX5_readLine_6 16 rfl rfl)
theorem dX5_readLine_155 : decode cX5_readLine 155 = .ok (.invokevirtual 127, 3) := dk_182 0 127 (dk_at dksX5_readLine_6 17 rfl rfl)
theorem dX5_readLine_158 : decode cX5_readLine 158 = .ok (.return_, 1) := dk_177 (dk_at dksX5_readLine_6 20 rfl rfl)
abbrev cX5_lineNow : ByteArray := prog_14_method_13_code
def yX5_lineNow : MethodName := ⟨RX5, "lineNow", "()I"⟩
def dkwX5_lineNow_6 : List UInt8 := [153, 0, 8, 16, 6, 167, 0, 5, 16, 252, 172]
abbrev dktX5_lineNow_6 : List UInt8 := dkwX5_lineNow_6 ++ []
def dkwX5_lineNow_5 : List UInt8 := [182, 0, 97, 153, 0, 7, 8, 167, 0, 26, 42, 7, 16, 108, 16, 105, 16, 97, 16, 114, 182, 0, 97]
abbrev dktX5_lineNow_5 : List UInt8 := dkwX5_lineNow_5 ++ dktX5_lineNow_6
def dkwX5_lineNow_4 : List UInt8 := [16, 111, 16, 115, 16, 116, 182, 0, 97, 153, 0, 5, 7, 172, 42, 7, 16, 104, 16, 97, 16, 110, 16, 100]
abbrev dktX5_lineNow_4 : List UInt8 := dkwX5_lineNow_4 ++ dktX5_lineNow_5
def dkwX5_lineNow_3 : List UInt8 := [5, 172, 42, 6, 16, 108, 16, 97, 16, 119, 3, 182, 0, 97, 153, 0, 5, 6, 172, 42, 7, 16, 112]
abbrev dktX5_lineNow_3 : List UInt8 := dkwX5_lineNow_3 ++ dktX5_lineNow_4
def dkwX5_lineNow_2 : List UInt8 := [182, 0, 101, 153, 0, 5, 4, 172, 42, 7, 16, 108, 16, 111, 16, 99, 16, 107, 182, 0, 97, 153, 0, 5]
abbrev dktX5_lineNow_2 : List UInt8 := dkwX5_lineNow_2 ++ dktX5_lineNow_3
def dkwX5_lineNow_1 : List UInt8 := [153, 0, 5, 3, 172, 42, 8, 16, 98, 16, 101, 16, 108, 16, 111, 182, 0, 97, 153, 0, 14, 42, 16, 119]
abbrev dktX5_lineNow_1 : List UInt8 := dkwX5_lineNow_1 ++ dktX5_lineNow_2
def dkwX5_lineNow_0 : List UInt8 := [42, 8, 16, 97, 16, 98, 16, 111, 16, 118, 182, 0, 97, 153, 0, 14, 42, 16, 101, 182, 0, 101]
abbrev dktX5_lineNow_0 : List UInt8 := dkwX5_lineNow_0 ++ dktX5_lineNow_1
theorem dksX5_lineNow_0 : cX5_lineNow.data.toList.drop 0 = dktX5_lineNow_0 := by decide +kernel
theorem dksX5_lineNow_1 : cX5_lineNow.data.toList.drop 22 = dktX5_lineNow_1 := dk_seg dksX5_lineNow_0 22 rfl rfl
theorem dksX5_lineNow_2 : cX5_lineNow.data.toList.drop 46 = dktX5_lineNow_2 := dk_seg dksX5_lineNow_1 24 rfl rfl
theorem dksX5_lineNow_3 : cX5_lineNow.data.toList.drop 70 = dktX5_lineNow_3 := dk_seg dksX5_lineNow_2 24 rfl rfl
theorem dksX5_lineNow_4 : cX5_lineNow.data.toList.drop 93 = dktX5_lineNow_4 := dk_seg dksX5_lineNow_3 23 rfl rfl
theorem dksX5_lineNow_5 : cX5_lineNow.data.toList.drop 117 = dktX5_lineNow_5 := dk_seg dksX5_lineNow_4 24 rfl rfl
theorem dksX5_lineNow_6 : cX5_lineNow.data.toList.drop 140 = dktX5_lineNow_6 := dk_seg dksX5_lineNow_5 23 rfl rfl
theorem dX5_lineNow_0 : decode cX5_lineNow 0 = .ok (.aload_n 0, 1) := dk_42 (dk_at dksX5_lineNow_0 0 rfl rfl)
theorem dX5_lineNow_1 : decode cX5_lineNow 1 = .ok (.iconst 5, 1) := dk_8 (dk_at dksX5_lineNow_0 1 rfl rfl)
theorem dX5_lineNow_2 : decode cX5_lineNow 2 = .ok (.bipush 97, 2) := dk_16 97 (dk_at dksX5_lineNow_0 2 rfl rfl)
theorem dX5_lineNow_4 : decode cX5_lineNow 4 = .ok (.bipush 98, 2) := dk_16 98 (dk_at dksX5_lineNow_0 4 rfl rfl)
theorem dX5_lineNow_6 : decode cX5_lineNow 6 = .ok (.bipush 111, 2) := dk_16 111 (dk_at dksX5_lineNow_0 6 rfl rfl)
theorem dX5_lineNow_8 : decode cX5_lineNow 8 = .ok (.bipush 118, 2) := dk_16 118 (dk_at dksX5_lineNow_0 8 rfl rfl)
theorem dX5_lineNow_10 : decode cX5_lineNow 10 = .ok (.invokevirtual 97, 3) := dk_182 0 97 (dk_at dksX5_lineNow_0 10 rfl rfl)
theorem dX5_lineNow_13 : decode cX5_lineNow 13 = .ok (.ifCond .eq 14, 3) := dk_153 0 14 (dk_at dksX5_lineNow_0 13 rfl rfl)
theorem dX5_lineNow_16 : decode cX5_lineNow 16 = .ok (.aload_n 0, 1) := dk_42 (dk_at dksX5_lineNow_0 16 rfl rfl)
theorem dX5_lineNow_17 : decode cX5_lineNow 17 = .ok (.bipush 101, 2) := dk_16 101 (dk_at dksX5_lineNow_0 17 rfl rfl)
theorem dX5_lineNow_19 : decode cX5_lineNow 19 = .ok (.invokevirtual 101, 3) := dk_182 0 101 (dk_at dksX5_lineNow_0 19 rfl rfl)
theorem dX5_lineNow_22 : decode cX5_lineNow 22 = .ok (.ifCond .eq 5, 3) := dk_153 0 5 (dk_at dksX5_lineNow_1 0 rfl rfl)
theorem dX5_lineNow_25 : decode cX5_lineNow 25 = .ok (.iconst 0, 1) := dk_3 (dk_at dksX5_lineNow_1 3 rfl rfl)
theorem dX5_lineNow_26 : decode cX5_lineNow 26 = .ok (.ireturn, 1) := dk_172 (dk_at dksX5_lineNow_1 4 rfl rfl)
theorem dX5_lineNow_27 : decode cX5_lineNow 27 = .ok (.aload_n 0, 1) := dk_42 (dk_at dksX5_lineNow_1 5 rfl rfl)
theorem dX5_lineNow_28 : decode cX5_lineNow 28 = .ok (.iconst 5, 1) := dk_8 (dk_at dksX5_lineNow_1 6 rfl rfl)
theorem dX5_lineNow_29 : decode cX5_lineNow 29 = .ok (.bipush 98, 2) := dk_16 98 (dk_at dksX5_lineNow_1 7 rfl rfl)
theorem dX5_lineNow_31 : decode cX5_lineNow 31 = .ok (.bipush 101, 2) := dk_16 101 (dk_at dksX5_lineNow_1 9 rfl rfl)
theorem dX5_lineNow_33 : decode cX5_lineNow 33 = .ok (.bipush 108, 2) := dk_16 108 (dk_at dksX5_lineNow_1 11 rfl rfl)
theorem dX5_lineNow_35 : decode cX5_lineNow 35 = .ok (.bipush 111, 2) := dk_16 111 (dk_at dksX5_lineNow_1 13 rfl rfl)
theorem dX5_lineNow_37 : decode cX5_lineNow 37 = .ok (.invokevirtual 97, 3) := dk_182 0 97 (dk_at dksX5_lineNow_1 15 rfl rfl)
theorem dX5_lineNow_40 : decode cX5_lineNow 40 = .ok (.ifCond .eq 14, 3) := dk_153 0 14 (dk_at dksX5_lineNow_1 18 rfl rfl)
theorem dX5_lineNow_43 : decode cX5_lineNow 43 = .ok (.aload_n 0, 1) := dk_42 (dk_at dksX5_lineNow_1 21 rfl rfl)
theorem dX5_lineNow_44 : decode cX5_lineNow 44 = .ok (.bipush 119, 2) := dk_16 119 (dk_at dksX5_lineNow_1 22 rfl rfl)
theorem dX5_lineNow_46 : decode cX5_lineNow 46 = .ok (.invokevirtual 101, 3) := dk_182 0 101 (dk_at dksX5_lineNow_2 0 rfl rfl)
theorem dX5_lineNow_49 : decode cX5_lineNow 49 = .ok (.ifCond .eq 5, 3) := dk_153 0 5 (dk_at dksX5_lineNow_2 3 rfl rfl)
theorem dX5_lineNow_52 : decode cX5_lineNow 52 = .ok (.iconst 1, 1) := dk_4 (dk_at dksX5_lineNow_2 6 rfl rfl)
theorem dX5_lineNow_53 : decode cX5_lineNow 53 = .ok (.ireturn, 1) := dk_172 (dk_at dksX5_lineNow_2 7 rfl rfl)
theorem dX5_lineNow_54 : decode cX5_lineNow 54 = .ok (.aload_n 0, 1) := dk_42 (dk_at dksX5_lineNow_2 8 rfl rfl)
theorem dX5_lineNow_55 : decode cX5_lineNow 55 = .ok (.iconst 4, 1) := dk_7 (dk_at dksX5_lineNow_2 9 rfl rfl)
theorem dX5_lineNow_56 : decode cX5_lineNow 56 = .ok (.bipush 108, 2) := dk_16 108 (dk_at dksX5_lineNow_2 10 rfl rfl)
theorem dX5_lineNow_58 : decode cX5_lineNow 58 = .ok (.bipush 111, 2) := dk_16 111 (dk_at dksX5_lineNow_2 12 rfl rfl)
theorem dX5_lineNow_60 : decode cX5_lineNow 60 = .ok (.bipush 99, 2) := dk_16 99 (dk_at dksX5_lineNow_2 14 rfl rfl)
theorem dX5_lineNow_62 : decode cX5_lineNow 62 = .ok (.bipush 107, 2) := dk_16 107 (dk_at dksX5_lineNow_2 16 rfl rfl)
theorem dX5_lineNow_64 : decode cX5_lineNow 64 = .ok (.invokevirtual 97, 3) := dk_182 0 97 (dk_at dksX5_lineNow_2 18 rfl rfl)
theorem dX5_lineNow_67 : decode cX5_lineNow 67 = .ok (.ifCond .eq 5, 3) := dk_153 0 5 (dk_at dksX5_lineNow_2 21 rfl rfl)
theorem dX5_lineNow_70 : decode cX5_lineNow 70 = .ok (.iconst 2, 1) := dk_5 (dk_at dksX5_lineNow_3 0 rfl rfl)
theorem dX5_lineNow_71 : decode cX5_lineNow 71 = .ok (.ireturn, 1) := dk_172 (dk_at dksX5_lineNow_3 1 rfl rfl)
theorem dX5_lineNow_72 : decode cX5_lineNow 72 = .ok (.aload_n 0, 1) := dk_42 (dk_at dksX5_lineNow_3 2 rfl rfl)
theorem dX5_lineNow_73 : decode cX5_lineNow 73 = .ok (.iconst 3, 1) := dk_6 (dk_at dksX5_lineNow_3 3 rfl rfl)
theorem dX5_lineNow_74 : decode cX5_lineNow 74 = .ok (.bipush 108, 2) := dk_16 108 (dk_at dksX5_lineNow_3 4 rfl rfl)
theorem dX5_lineNow_76 : decode cX5_lineNow 76 = .ok (.bipush 97, 2) := dk_16 97 (dk_at dksX5_lineNow_3 6 rfl rfl)
theorem dX5_lineNow_78 : decode cX5_lineNow 78 = .ok (.bipush 119, 2) := dk_16 119 (dk_at dksX5_lineNow_3 8 rfl rfl)
theorem dX5_lineNow_80 : decode cX5_lineNow 80 = .ok (.iconst 0, 1) := dk_3 (dk_at dksX5_lineNow_3 10 rfl rfl)
theorem dX5_lineNow_81 : decode cX5_lineNow 81 = .ok (.invokevirtual 97, 3) := dk_182 0 97 (dk_at dksX5_lineNow_3 11 rfl rfl)
theorem dX5_lineNow_84 : decode cX5_lineNow 84 = .ok (.ifCond .eq 5, 3) := dk_153 0 5 (dk_at dksX5_lineNow_3 14 rfl rfl)
theorem dX5_lineNow_87 : decode cX5_lineNow 87 = .ok (.iconst 3, 1) := dk_6 (dk_at dksX5_lineNow_3 17 rfl rfl)
theorem dX5_lineNow_88 : decode cX5_lineNow 88 = .ok (.ireturn, 1) := dk_172 (dk_at dksX5_lineNow_3 18 rfl rfl)
theorem dX5_lineNow_89 : decode cX5_lineNow 89 = .ok (.aload_n 0, 1) := dk_42 (dk_at dksX5_lineNow_3 19 rfl rfl)
theorem dX5_lineNow_90 : decode cX5_lineNow 90 = .ok (.iconst 4, 1) := dk_7 (dk_at dksX5_lineNow_3 20 rfl rfl)
theorem dX5_lineNow_91 : decode cX5_lineNow 91 = .ok (.bipush 112, 2) := dk_16 112 (dk_at dksX5_lineNow_3 21 rfl rfl)
theorem dX5_lineNow_93 : decode cX5_lineNow 93 = .ok (.bipush 111, 2) := dk_16 111 (dk_at dksX5_lineNow_4 0 rfl rfl)
theorem dX5_lineNow_95 : decode cX5_lineNow 95 = .ok (.bipush 115, 2) := dk_16 115 (dk_at dksX5_lineNow_4 2 rfl rfl)
theorem dX5_lineNow_97 : decode cX5_lineNow 97 = .ok (.bipush 116, 2) := dk_16 116 (dk_at dksX5_lineNow_4 4 rfl rfl)
theorem dX5_lineNow_99 : decode cX5_lineNow 99 = .ok (.invokevirtual 97, 3) := dk_182 0 97 (dk_at dksX5_lineNow_4 6 rfl rfl)
theorem dX5_lineNow_102 : decode cX5_lineNow 102 = .ok (.ifCond .eq 5, 3) := dk_153 0 5 (dk_at dksX5_lineNow_4 9 rfl rfl)
theorem dX5_lineNow_105 : decode cX5_lineNow 105 = .ok (.iconst 4, 1) := dk_7 (dk_at dksX5_lineNow_4 12 rfl rfl)
theorem dX5_lineNow_106 : decode cX5_lineNow 106 = .ok (.ireturn, 1) := dk_172 (dk_at dksX5_lineNow_4 13 rfl rfl)
theorem dX5_lineNow_107 : decode cX5_lineNow 107 = .ok (.aload_n 0, 1) := dk_42 (dk_at dksX5_lineNow_4 14 rfl rfl)
theorem dX5_lineNow_108 : decode cX5_lineNow 108 = .ok (.iconst 4, 1) := dk_7 (dk_at dksX5_lineNow_4 15 rfl rfl)
theorem dX5_lineNow_109 : decode cX5_lineNow 109 = .ok (.bipush 104, 2) := dk_16 104 (dk_at dksX5_lineNow_4 16 rfl rfl)
theorem dX5_lineNow_111 : decode cX5_lineNow 111 = .ok (.bipush 97, 2) := dk_16 97 (dk_at dksX5_lineNow_4 18 rfl rfl)
theorem dX5_lineNow_113 : decode cX5_lineNow 113 = .ok (.bipush 110, 2) := dk_16 110 (dk_at dksX5_lineNow_4 20 rfl rfl)
theorem dX5_lineNow_115 : decode cX5_lineNow 115 = .ok (.bipush 100, 2) := dk_16 100 (dk_at dksX5_lineNow_4 22 rfl rfl)
theorem dX5_lineNow_117 : decode cX5_lineNow 117 = .ok (.invokevirtual 97, 3) := dk_182 0 97 (dk_at dksX5_lineNow_5 0 rfl rfl)
theorem dX5_lineNow_120 : decode cX5_lineNow 120 = .ok (.ifCond .eq 7, 3) := dk_153 0 7 (dk_at dksX5_lineNow_5 3 rfl rfl)
theorem dX5_lineNow_123 : decode cX5_lineNow 123 = .ok (.iconst 5, 1) := dk_8 (dk_at dksX5_lineNow_5 6 rfl rfl)
theorem dX5_lineNow_124 : decode cX5_lineNow 124 = .ok (.goto 26, 3) := dk_167 0 26 (dk_at dksX5_lineNow_5 7 rfl rfl)
theorem dX5_lineNow_127 : decode cX5_lineNow 127 = .ok (.aload_n 0, 1) := dk_42 (dk_at dksX5_lineNow_5 10 rfl rfl)
theorem dX5_lineNow_128 : decode cX5_lineNow 128 = .ok (.iconst 4, 1) := dk_7 (dk_at dksX5_lineNow_5 11 rfl rfl)
theorem dX5_lineNow_129 : decode cX5_lineNow 129 = .ok (.bipush 108, 2) := dk_16 108 (dk_at dksX5_lineNow_5 12 rfl rfl)
theorem dX5_lineNow_131 : decode cX5_lineNow 131 = .ok (.bipush 105, 2) := dk_16 105 (dk_at dksX5_lineNow_5 14 rfl rfl)
theorem dX5_lineNow_133 : decode cX5_lineNow 133 = .ok (.bipush 97, 2) := dk_16 97 (dk_at dksX5_lineNow_5 16 rfl rfl)
theorem dX5_lineNow_135 : decode cX5_lineNow 135 = .ok (.bipush 114, 2) := dk_16 114 (dk_at dksX5_lineNow_5 18 rfl rfl)
theorem dX5_lineNow_137 : decode cX5_lineNow 137 = .ok (.invokevirtual 97, 3) := dk_182 0 97 (dk_at dksX5_lineNow_5 20 rfl rfl)
theorem dX5_lineNow_140 : decode cX5_lineNow 140 = .ok (.ifCond .eq 8, 3) := dk_153 0 8 (dk_at dksX5_lineNow_6 0 rfl rfl)
theorem dX5_lineNow_143 : decode cX5_lineNow 143 = .ok (.bipush 6, 2) := dk_16 6 (dk_at dksX5_lineNow_6 3 rfl rfl)
theorem dX5_lineNow_145 : decode cX5_lineNow 145 = .ok (.goto 5, 3) := dk_167 0 5 (dk_at dksX5_lineNow_6 5 rfl rfl)
theorem dX5_lineNow_148 : decode cX5_lineNow 148 = .ok (.bipush (-4), 2) := dk_16 252 (dk_at dksX5_lineNow_6 8 rfl rfl)
theorem dX5_lineNow_150 : decode cX5_lineNow 150 = .ok (.ireturn, 1) := dk_172 (dk_at dksX5_lineNow_6 10 rfl rfl)
abbrev cX5_is : ByteArray := prog_14_method_11_code
def yX5_is : MethodName := ⟨RX5, "is", "(IIIII)Z"⟩
def dkwX5_is_3 : List UInt8 := [21, 5, 160, 0, 7, 4, 167, 0, 4, 3, 172]
abbrev dktX5_is_3 : List UInt8 := dkwX5_is_3 ++ []
def dkwX5_is_2 : List UInt8 := [182, 0, 93, 21, 4, 160, 0, 27, 21, 5, 153, 0, 18, 42, 42, 180, 0, 84, 6, 96, 182, 0, 93]
abbrev dktX5_is_2 : List UInt8 := dkwX5_is_2 ++ dktX5_is_3
def dkwX5_is_1 : List UInt8 := [160, 0, 56, 42, 42, 180, 0, 84, 4, 96, 182, 0, 93, 29, 160, 0, 42, 42, 42, 180, 0, 84, 5, 96]
abbrev dktX5_is_1 : List UInt8 := dkwX5_is_1 ++ dktX5_is_2
def dkwX5_is_0 : List UInt8 := [42, 180, 0, 90, 42, 180, 0, 84, 100, 27, 160, 0, 68, 42, 42, 180, 0, 84, 182, 0, 93, 28]
abbrev dktX5_is_0 : List UInt8 := dkwX5_is_0 ++ dktX5_is_1
theorem dksX5_is_0 : cX5_is.data.toList.drop 0 = dktX5_is_0 := by decide +kernel
theorem dksX5_is_1 : cX5_is.data.toList.drop 22 = dktX5_is_1 := dk_seg dksX5_is_0 22 rfl rfl
theorem dksX5_is_2 : cX5_is.data.toList.drop 46 = dktX5_is_2 := dk_seg dksX5_is_1 24 rfl rfl
theorem dksX5_is_3 : cX5_is.data.toList.drop 69 = dktX5_is_3 := dk_seg dksX5_is_2 23 rfl rfl
theorem dX5_is_0 : decode cX5_is 0 = .ok (.aload_n 0, 1) := dk_42 (dk_at dksX5_is_0 0 rfl rfl)
theorem dX5_is_1 : decode cX5_is 1 = .ok (.getfield 90, 3) := dk_180 0 90 (dk_at dksX5_is_0 1 rfl rfl)
theorem dX5_is_4 : decode cX5_is 4 = .ok (.aload_n 0, 1) := dk_42 (dk_at dksX5_is_0 4 rfl rfl)
theorem dX5_is_5 : decode cX5_is 5 = .ok (.getfield 84, 3) := dk_180 0 84 (dk_at dksX5_is_0 5 rfl rfl)
theorem dX5_is_8 : decode cX5_is 8 = .ok (.isub, 1) := dk_100 (dk_at dksX5_is_0 8 rfl rfl)
theorem dX5_is_9 : decode cX5_is 9 = .ok (.iload_n 1, 1) := dk_27 (dk_at dksX5_is_0 9 rfl rfl)
theorem dX5_is_10 : decode cX5_is 10 = .ok (.if_icmp .ne 68, 3) := dk_160 0 68 (dk_at dksX5_is_0 10 rfl rfl)
theorem dX5_is_13 : decode cX5_is 13 = .ok (.aload_n 0, 1) := dk_42 (dk_at dksX5_is_0 13 rfl rfl)
theorem dX5_is_14 : decode cX5_is 14 = .ok (.aload_n 0, 1) := dk_42 (dk_at dksX5_is_0 14 rfl rfl)
theorem dX5_is_15 : decode cX5_is 15 = .ok (.getfield 84, 3) := dk_180 0 84 (dk_at dksX5_is_0 15 rfl rfl)
theorem dX5_is_18 : decode cX5_is 18 = .ok (.invokevirtual 93, 3) := dk_182 0 93 (dk_at dksX5_is_0 18 rfl rfl)
theorem dX5_is_21 : decode cX5_is 21 = .ok (.iload_n 2, 1) := dk_28 (dk_at dksX5_is_0 21 rfl rfl)
theorem dX5_is_22 : decode cX5_is 22 = .ok (.if_icmp .ne 56, 3) := dk_160 0 56 (dk_at dksX5_is_1 0 rfl rfl)
theorem dX5_is_25 : decode cX5_is 25 = .ok (.aload_n 0, 1) := dk_42 (dk_at dksX5_is_1 3 rfl rfl)
theorem dX5_is_26 : decode cX5_is 26 = .ok (.aload_n 0, 1) := dk_42 (dk_at dksX5_is_1 4 rfl rfl)
theorem dX5_is_27 : decode cX5_is 27 = .ok (.getfield 84, 3) := dk_180 0 84 (dk_at dksX5_is_1 5 rfl rfl)
theorem dX5_is_30 : decode cX5_is 30 = .ok (.iconst 1, 1) := dk_4 (dk_at dksX5_is_1 8 rfl rfl)
theorem dX5_is_31 : decode cX5_is 31 = .ok (.iadd, 1) := dk_96 (dk_at dksX5_is_1 9 rfl rfl)
theorem dX5_is_32 : decode cX5_is 32 = .ok (.invokevirtual 93, 3) := dk_182 0 93 (dk_at dksX5_is_1 10 rfl rfl)
theorem dX5_is_35 : decode cX5_is 35 = .ok (.iload_n 3, 1) := dk_29 (dk_at dksX5_is_1 13 rfl rfl)
theorem dX5_is_36 : decode cX5_is 36 = .ok (.if_icmp .ne 42, 3) := dk_160 0 42 (dk_at dksX5_is_1 14 rfl rfl)
theorem dX5_is_39 : decode cX5_is 39 = .ok (.aload_n 0, 1) := dk_42 (dk_at dksX5_is_1 17 rfl rfl)
theorem dX5_is_40 : decode cX5_is 40 = .ok (.aload_n 0, 1) := dk_42 (dk_at dksX5_is_1 18 rfl rfl)
theorem dX5_is_41 : decode cX5_is 41 = .ok (.getfield 84, 3) := dk_180 0 84 (dk_at dksX5_is_1 19 rfl rfl)
theorem dX5_is_44 : decode cX5_is 44 = .ok (.iconst 2, 1) := dk_5 (dk_at dksX5_is_1 22 rfl rfl)
theorem dX5_is_45 : decode cX5_is 45 = .ok (.iadd, 1) := dk_96 (dk_at dksX5_is_1 23 rfl rfl)
theorem dX5_is_46 : decode cX5_is 46 = .ok (.invokevirtual 93, 3) := dk_182 0 93 (dk_at dksX5_is_2 0 rfl rfl)
theorem dX5_is_49 : decode cX5_is 49 = .ok (.iload 4, 2) := dk_21 4 (dk_at dksX5_is_2 3 rfl rfl)
theorem dX5_is_51 : decode cX5_is 51 = .ok (.if_icmp .ne 27, 3) := dk_160 0 27 (dk_at dksX5_is_2 5 rfl rfl)
theorem dX5_is_54 : decode cX5_is 54 = .ok (.iload 5, 2) := dk_21 5 (dk_at dksX5_is_2 8 rfl rfl)
theorem dX5_is_56 : decode cX5_is 56 = .ok (.ifCond .eq 18, 3) := dk_153 0 18 (dk_at dksX5_is_2 10 rfl rfl)
theorem dX5_is_59 : decode cX5_is 59 = .ok (.aload_n 0, 1) := dk_42 (dk_at dksX5_is_2 13 rfl rfl)
theorem dX5_is_60 : decode cX5_is 60 = .ok (.aload_n 0, 1) := dk_42 (dk_at dksX5_is_2 14 rfl rfl)
theorem dX5_is_61 : decode cX5_is 61 = .ok (.getfield 84, 3) := dk_180 0 84 (dk_at dksX5_is_2 15 rfl rfl)
theorem dX5_is_64 : decode cX5_is 64 = .ok (.iconst 3, 1) := dk_6 (dk_at dksX5_is_2 18 rfl rfl)
theorem dX5_is_65 : decode cX5_is 65 = .ok (.iadd, 1) := dk_96 (dk_at dksX5_is_2 19 rfl rfl)
theorem dX5_is_66 : decode cX5_is 66 = .ok (.invokevirtual 93, 3) := dk_182 0 93 (dk_at dksX5_is_2 20 rfl rfl)
theorem dX5_is_69 : decode cX5_is 69 = .ok (.iload 5, 2) := dk_21 5 (dk_at dksX5_is_3 0 rfl rfl)
theorem dX5_is_71 : decode cX5_is 71 = .ok (.if_icmp .ne 7, 3) := dk_160 0 7 (dk_at dksX5_is_3 2 rfl rfl)
theorem dX5_is_74 : decode cX5_is 74 = .ok (.iconst 1, 1) := dk_4 (dk_at dksX5_is_3 5 rfl rfl)
theorem dX5_is_75 : decode cX5_is 75 = .ok (.goto 4, 3) := dk_167 0 4 (dk_at dksX5_is_3 6 rfl rfl)
theorem dX5_is_78 : decode cX5_is 78 = .ok (.iconst 0, 1) := dk_3 (dk_at dksX5_is_3 9 rfl rfl)
theorem dX5_is_79 : decode cX5_is 79 = .ok (.ireturn, 1) := dk_172 (dk_at dksX5_is_3 10 rfl rfl)
abbrev cX5_endsWith : ByteArray := prog_14_method_12_code
def yX5_endsWith : MethodName := ⟨RX5, "endsWith", "(I)Z"⟩
def dkwX5_endsWith_0 : List UInt8 := [42, 42, 180, 0, 84, 7, 96, 182, 0, 93, 27, 160, 0, 7, 4, 167, 0, 4, 3, 172]
abbrev dktX5_endsWith_0 : List UInt8 := dkwX5_endsWith_0 ++ []
theorem dksX5_endsWith_0 : cX5_endsWith.data.toList.drop 0 = dktX5_endsWith_0 := by decide +kernel
theorem dX5_endsWith_0 : decode cX5_endsWith 0 = .ok (.aload_n 0, 1) := dk_42 (dk_at dksX5_endsWith_0 0 rfl rfl)
theorem dX5_endsWith_1 : decode cX5_endsWith 1 = .ok (.aload_n 0, 1) := dk_42 (dk_at dksX5_endsWith_0 1 rfl rfl)
theorem dX5_endsWith_2 : decode cX5_endsWith 2 = .ok (.getfield 84, 3) := dk_180 0 84 (dk_at dksX5_endsWith_0 2 rfl rfl)
theorem dX5_endsWith_5 : decode cX5_endsWith 5 = .ok (.iconst 4, 1) := dk_7 (dk_at dksX5_endsWith_0 5 rfl rfl)
theorem dX5_endsWith_6 : decode cX5_endsWith 6 = .ok (.iadd, 1) := dk_96 (dk_at dksX5_endsWith_0 6 rfl rfl)
theorem dX5_endsWith_7 : decode cX5_endsWith 7 = .ok (.invokevirtual 93, 3) := dk_182 0 93 (dk_at dksX5_endsWith_0 7 rfl rfl)
theorem dX5_endsWith_10 : decode cX5_endsWith 10 = .ok (.iload_n 1, 1) := dk_27 (dk_at dksX5_endsWith_0 10 rfl rfl)
theorem dX5_endsWith_11 : decode cX5_endsWith 11 = .ok (.if_icmp .ne 7, 3) := dk_160 0 7 (dk_at dksX5_endsWith_0 11 rfl rfl)
theorem dX5_endsWith_14 : decode cX5_endsWith 14 = .ok (.iconst 1, 1) := dk_4 (dk_at dksX5_endsWith_0 14 rfl rfl)
theorem dX5_endsWith_15 : decode cX5_endsWith 15 = .ok (.goto 4, 3) := dk_167 0 4 (dk_at dksX5_endsWith_0 15 rfl rfl)
theorem dX5_endsWith_18 : decode cX5_endsWith 18 = .ok (.iconst 0, 1) := dk_3 (dk_at dksX5_endsWith_0 18 rfl rfl)
theorem dX5_endsWith_19 : decode cX5_endsWith 19 = .ok (.ireturn, 1) := dk_172 (dk_at dksX5_endsWith_0 19 rfl rfl)
abbrev cX5_readLineOf : ByteArray := prog_14_method_22_code
def yX5_readLineOf : MethodName := ⟨RX5, "readLineOf", "(I)V"⟩
def dkwX5_readLineOf_6 : List UInt8 := [182, 0, 146, 177]
abbrev dktX5_readLineOf_6 : List UInt8 := dkwX5_readLineOf_6 ++ []
def dkwX5_readLineOf_5 : List UInt8 := [79, 167, 0, 25, 42, 180, 0, 20, 8, 4, 79, 167, 0, 15, 42, 182, 0, 143, 167, 0, 8, 42, 27]
abbrev dktX5_readLineOf_5 : List UInt8 := dkwX5_readLineOf_5 ++ dktX5_readLineOf_6
def dkwX5_readLineOf_4 : List UInt8 := [42, 42, 182, 0, 140, 182, 0, 134, 79, 167, 0, 41, 42, 180, 0, 20, 7, 42, 3, 16, 9, 182, 0, 137]
abbrev dktX5_readLineOf_4 : List UInt8 := dkwX5_readLineOf_4 ++ dktX5_readLineOf_5
def dkwX5_readLineOf_3 : List UInt8 := [182, 0, 137, 79, 42, 180, 0, 20, 5, 42, 3, 4, 182, 0, 137, 79, 167, 0, 58, 42, 180, 0, 20, 6]
abbrev dktX5_readLineOf_3 : List UInt8 := dkwX5_readLineOf_3 ++ dktX5_readLineOf_4
def dkwX5_readLineOf_2 : List UInt8 := [42, 180, 0, 20, 3, 42, 4, 16, 9, 182, 0, 137, 79, 42, 180, 0, 20, 4, 42, 3, 16, 9]
abbrev dktX5_readLineOf_2 : List UInt8 := dkwX5_readLineOf_2 ++ dktX5_readLineOf_3
def dkwX5_readLineOf_1 : List UInt8 := [170, 0, 0, 0, 0, 0, 126, 0, 0, 0, 2, 0, 0, 0, 6, 0, 0, 0, 35, 0, 0, 0, 76, 0, 0, 0, 93, 0, 0, 0, 109, 0, 0, 0, 119]
abbrev dktX5_readLineOf_1 : List UInt8 := dkwX5_readLineOf_1 ++ dktX5_readLineOf_2
def dkwX5_readLineOf_0 : List UInt8 := [27]
abbrev dktX5_readLineOf_0 : List UInt8 := dkwX5_readLineOf_0 ++ dktX5_readLineOf_1
theorem dksX5_readLineOf_0 : cX5_readLineOf.data.toList.drop 0 = dktX5_readLineOf_0 := by decide +kernel
theorem dksX5_readLineOf_1 : cX5_readLineOf.data.toList.drop 1 = dktX5_readLineOf_1 := dk_seg dksX5_readLineOf_0 1 rfl rfl
theorem dksX5_readLineOf_2 : cX5_readLineOf.data.toList.drop 36 = dktX5_readLineOf_2 := dk_seg dksX5_readLineOf_1 35 rfl rfl
theorem dksX5_readLineOf_3 : cX5_readLineOf.data.toList.drop 58 = dktX5_readLineOf_3 := dk_seg dksX5_readLineOf_2 22 rfl rfl
theorem dksX5_readLineOf_4 : cX5_readLineOf.data.toList.drop 82 = dktX5_readLineOf_4 := dk_seg dksX5_readLineOf_3 24 rfl rfl
theorem dksX5_readLineOf_5 : cX5_readLineOf.data.toList.drop 106 = dktX5_readLineOf_5 := dk_seg dksX5_readLineOf_4 24 rfl rfl
theorem dksX5_readLineOf_6 : cX5_readLineOf.data.toList.drop 129 = dktX5_readLineOf_6 := dk_seg dksX5_readLineOf_5 23 rfl rfl
theorem dX5_readLineOf_0 : decode cX5_readLineOf 0 = .ok (.iload_n 1, 1) := dk_27 (dk_at dksX5_readLineOf_0 0 rfl rfl)
theorem dX5_readLineOf_1 : decode cX5_readLineOf 1 = .ok (.tableswitch 126 2 6 #[35, 76, 93, 109, 119], 35) := by decide +kernel
theorem dX5_readLineOf_36 : decode cX5_readLineOf 36 = .ok (.aload_n 0, 1) := dk_42 (dk_at dksX5_readLineOf_2 0 rfl rfl)
theorem dX5_readLineOf_37 : decode cX5_readLineOf 37 = .ok (.getfield 20, 3) := dk_180 0 20 (dk_at dksX5_readLineOf_2 1 rfl rfl)
theorem dX5_readLineOf_40 : decode cX5_readLineOf 40 = .ok (.iconst 0, 1) := dk_3 (dk_at dksX5_readLineOf_2 4 rfl rfl)
theorem dX5_readLineOf_41 : decode cX5_readLineOf 41 = .ok (.aload_n 0, 1) := dk_42 (dk_at dksX5_readLineOf_2 5 rfl rfl)
theorem dX5_readLineOf_42 : decode cX5_readLineOf 42 = .ok (.iconst 1, 1) := dk_4 (dk_at dksX5_readLineOf_2 6 rfl rfl)
theorem dX5_readLineOf_43 : decode cX5_readLineOf 43 = .ok (.bipush 9, 2) := dk_16 9 (dk_at dksX5_readLineOf_2 7 rfl rfl)
theorem dX5_readLineOf_45 : decode cX5_readLineOf 45 = .ok (.invokevirtual 137, 3) := dk_182 0 137 (dk_at dksX5_readLineOf_2 9 rfl rfl)
theorem dX5_readLineOf_48 : decode cX5_readLineOf 48 = .ok (.iastore, 1) := dk_79 (dk_at dksX5_readLineOf_2 12 rfl rfl)
theorem dX5_readLineOf_49 : decode cX5_readLineOf 49 = .ok (.aload_n 0, 1) := dk_42 (dk_at dksX5_readLineOf_2 13 rfl rfl)
theorem dX5_readLineOf_50 : decode cX5_readLineOf 50 = .ok (.getfield 20, 3) := dk_180 0 20 (dk_at dksX5_readLineOf_2 14 rfl rfl)
theorem dX5_readLineOf_53 : decode cX5_readLineOf 53 = .ok (.iconst 1, 1) := dk_4 (dk_at dksX5_readLineOf_2 17 rfl rfl)
theorem dX5_readLineOf_54 : decode cX5_readLineOf 54 = .ok (.aload_n 0, 1) := dk_42 (dk_at dksX5_readLineOf_2 18 rfl rfl)
theorem dX5_readLineOf_55 : decode cX5_readLineOf 55 = .ok (.iconst 0, 1) := dk_3 (dk_at dksX5_readLineOf_2 19 rfl rfl)
theorem dX5_readLineOf_56 : decode cX5_readLineOf 56 = .ok (.bipush 9, 2) := dk_16 9 (dk_at dksX5_readLineOf_2 20 rfl rfl)
theorem dX5_readLineOf_58 : decode cX5_readLineOf 58 = .ok (.invokevirtual 137, 3) := dk_182 0 137 (dk_at dksX5_readLineOf_3 0 rfl rfl)
theorem dX5_readLineOf_61 : decode cX5_readLineOf 61 = .ok (.iastore, 1) := dk_79 (dk_at dksX5_readLineOf_3 3 rfl rfl)
theorem dX5_readLineOf_62 : decode cX5_readLineOf 62 = .ok (.aload_n 0, 1) := dk_42 (dk_at dksX5_readLineOf_3 4 rfl rfl)
theorem dX5_readLineOf_63 : decode cX5_readLineOf 63 = .ok (.getfield 20, 3) := dk_180 0 20 (dk_at dksX5_readLineOf_3 5 rfl rfl)
theorem dX5_readLineOf_66 : decode cX5_readLineOf 66 = .ok (.iconst 2, 1) := dk_5 (dk_at dksX5_readLineOf_3 8 rfl rfl)
theorem dX5_readLineOf_67 : decode cX5_readLineOf 67 = .ok (.aload_n 0, 1) := dk_42 (dk_at dksX5_readLineOf_3 9 rfl rfl)
theorem dX5_readLineOf_68 : decode cX5_readLineOf 68 = .ok (.iconst 0, 1) := dk_3 (dk_at dksX5_readLineOf_3 10 rfl rfl)
theorem dX5_readLineOf_69 : decode cX5_readLineOf 69 = .ok (.iconst 1, 1) := dk_4 (dk_at dksX5_readLineOf_3 11 rfl rfl)
theorem dX5_readLineOf_70 : decode cX5_readLineOf 70 = .ok (.invokevirtual 137, 3) := dk_182 0 137 (dk_at dksX5_readLineOf_3 12 rfl rfl)
theorem dX5_readLineOf_73 : decode cX5_readLineOf 73 = .ok (.iastore, 1) := dk_79 (dk_at dksX5_readLineOf_3 15 rfl rfl)
theorem dX5_readLineOf_74 : decode cX5_readLineOf 74 = .ok (.goto 58, 3) := dk_167 0 58 (dk_at dksX5_readLineOf_3 16 rfl rfl)
theorem dX5_readLineOf_77 : decode cX5_readLineOf 77 = .ok (.aload_n 0, 1) := dk_42 (dk_at dksX5_readLineOf_3 19 rfl rfl)
theorem dX5_readLineOf_78 : decode cX5_readLineOf 78 = .ok (.getfield 20, 3) := dk_180 0 20 (dk_at dksX5_readLineOf_3 20 rfl rfl)
theorem dX5_readLineOf_81 : decode cX5_readLineOf 81 = .ok (.iconst 3, 1) := dk_6 (dk_at dksX5_readLineOf_3 23 rfl rfl)
theorem dX5_readLineOf_82 : decode cX5_readLineOf 82 = .ok (.aload_n 0, 1) := dk_42 (dk_at dksX5_readLineOf_4 0 rfl rfl)
theorem dX5_readLineOf_83 : decode cX5_readLineOf 83 = .ok (.aload_n 0, 1) := dk_42 (dk_at dksX5_readLineOf_4 1 rfl rfl)
theorem dX5_readLineOf_84 : decode cX5_readLineOf 84 = .ok (.invokevirtual 140, 3) := dk_182 0 140 (dk_at dksX5_readLineOf_4 2 rfl rfl)
theorem dX5_readLineOf_87 : decode cX5_readLineOf 87 = .ok (.invokevirtual 134, 3) := dk_182 0 134 (dk_at dksX5_readLineOf_4 5 rfl rfl)
theorem dX5_readLineOf_90 : decode cX5_readLineOf 90 = .ok (.iastore, 1) := dk_79 (dk_at dksX5_readLineOf_4 8 rfl rfl)
theorem dX5_readLineOf_91 : decode cX5_readLineOf 91 = .ok (.goto 41, 3) := dk_167 0 41 (dk_at dksX5_readLineOf_4 9 rfl rfl)
theorem dX5_readLineOf_94 : decode cX5_readLineOf 94 = .ok (.aload_n 0, 1) := dk_42 (dk_at dksX5_readLineOf_4 12 rfl rfl)
theorem dX5_readLineOf_95 : decode cX5_readLineOf 95 = .ok (.getfield 20, 3) := dk_180 0 20 (dk_at dksX5_readLineOf_4 13 rfl rfl)
theorem dX5_readLineOf_98 : decode cX5_readLineOf 98 = .ok (.iconst 4, 1) := dk_7 (dk_at dksX5_readLineOf_4 16 rfl rfl)
theorem dX5_readLineOf_99 : decode cX5_readLineOf 99 = .ok (.aload_n 0, 1) := dk_42 (dk_at dksX5_readLineOf_4 17 rfl rfl)
theorem dX5_readLineOf_100 : decode cX5_readLineOf 100 = .ok (.iconst 0, 1) := dk_3 (dk_at dksX5_readLineOf_4 18 rfl rfl)
theorem dX5_readLineOf_101 : decode cX5_readLineOf 101 = .ok (.bipush 9, 2) := dk_16 9 (dk_at dksX5_readLineOf_4 19 rfl rfl)
theorem dX5_readLineOf_103 : decode cX5_readLineOf 103 = .ok (.invokevirtual 137, 3) := dk_182 0 137 (dk_at dksX5_readLineOf_4 21 rfl rfl)
theorem dX5_readLineOf_106 : decode cX5_readLineOf 106 = .ok (.iastore, 1) := dk_79 (dk_at dksX5_readLineOf_5 0 rfl rfl)
theorem dX5_readLineOf_107 : decode cX5_readLineOf 107 = .ok (.goto 25, 3) := dk_167 0 25 (dk_at dksX5_readLineOf_5 1 rfl rfl)
theorem dX5_readLineOf_110 : decode cX5_readLineOf 110 = .ok (.aload_n 0, 1) := dk_42 (dk_at dksX5_readLineOf_5 4 rfl rfl)
theorem dX5_readLineOf_111 : decode cX5_readLineOf 111 = .ok (.getfield 20, 3) := dk_180 0 20 (dk_at dksX5_readLineOf_5 5 rfl rfl)
theorem dX5_readLineOf_114 : decode cX5_readLineOf 114 = .ok (.iconst 5, 1) := dk_8 (dk_at dksX5_readLineOf_5 8 rfl rfl)
theorem dX5_readLineOf_115 : decode cX5_readLineOf 115 = .ok (.iconst 1, 1) := dk_4 (dk_at dksX5_readLineOf_5 9 rfl rfl)
theorem dX5_readLineOf_116 : decode cX5_readLineOf 116 = .ok (.iastore, 1) := dk_79 (dk_at dksX5_readLineOf_5 10 rfl rfl)
theorem dX5_readLineOf_117 : decode cX5_readLineOf 117 = .ok (.goto 15, 3) := dk_167 0 15 (dk_at dksX5_readLineOf_5 11 rfl rfl)
theorem dX5_readLineOf_120 : decode cX5_readLineOf 120 = .ok (.aload_n 0, 1) := dk_42 (dk_at dksX5_readLineOf_5 14 rfl rfl)
theorem dX5_readLineOf_121 : decode cX5_readLineOf 121 = .ok (.invokevirtual 143, 3) := dk_182 0 143 (dk_at dksX5_readLineOf_5 15 rfl rfl)
theorem dX5_readLineOf_124 : decode cX5_readLineOf 124 = .ok (.goto 8, 3) := dk_167 0 8 (dk_at dksX5_readLineOf_5 18 rfl rfl)
theorem dX5_readLineOf_127 : decode cX5_readLineOf 127 = .ok (.aload_n 0, 1) := dk_42 (dk_at dksX5_readLineOf_5 21 rfl rfl)
theorem dX5_readLineOf_128 : decode cX5_readLineOf 128 = .ok (.iload_n 1, 1) := dk_27 (dk_at dksX5_readLineOf_5 22 rfl rfl)
theorem dX5_readLineOf_129 : decode cX5_readLineOf 129 = .ok (.invokevirtual 146, 3) := dk_182 0 146 (dk_at dksX5_readLineOf_6 0 rfl rfl)
theorem dX5_readLineOf_132 : decode cX5_readLineOf 132 = .ok (.return_, 1) := dk_177 (dk_at dksX5_readLineOf_6 3 rfl rfl)
abbrev cX5_readNumber : ByteArray := prog_14_method_18_code
def yX5_readNumber : MethodName := ⟨RX5, "readNumber", "(II)I"⟩
def dkwX5_readNumber_0 : List UInt8 := [42, 27, 28, 182, 0, 123, 62, 42, 182, 0, 127, 29, 172]
abbrev dktX5_readNumber_0 : List UInt8 := dkwX5_readNumber_0 ++ []
theorem dksX5_readNumber_0 : cX5_readNumber.data.toList.drop 0 = dktX5_readNumber_0 := by decide +kernel
theorem dX5_readNumber_0 : decode cX5_readNumber 0 = .ok (.aload_n 0, 1) := dk_42 (dk_at dksX5_readNumber_0 0 rfl rfl)
theorem dX5_readNumber_1 : decode cX5_readNumber 1 = .ok (.iload_n 1, 1) := dk_27 (dk_at dksX5_readNumber_0 1 rfl rfl)
theorem dX5_readNumber_2 : decode cX5_readNumber 2 = .ok (.iload_n 2, 1) := dk_28 (dk_at dksX5_readNumber_0 2 rfl rfl)
theorem dX5_readNumber_3 : decode cX5_readNumber 3 = .ok (.invokevirtual 123, 3) := dk_182 0 123 (dk_at dksX5_readNumber_0 3 rfl rfl)
theorem dX5_readNumber_6 : decode cX5_readNumber 6 = .ok (.istore_n 3, 1) := dk_62 (dk_at dksX5_readNumber_0 6 rfl rfl)
theorem dX5_readNumber_7 : decode cX5_readNumber 7 = .ok (.aload_n 0, 1) := dk_42 (dk_at dksX5_readNumber_0 7 rfl rfl)
theorem dX5_readNumber_8 : decode cX5_readNumber 8 = .ok (.invokevirtual 127, 3) := dk_182 0 127 (dk_at dksX5_readNumber_0 8 rfl rfl)
theorem dX5_readNumber_11 : decode cX5_readNumber 11 = .ok (.iload_n 3, 1) := dk_29 (dk_at dksX5_readNumber_0 11 rfl rfl)
theorem dX5_readNumber_12 : decode cX5_readNumber 12 = .ok (.ireturn, 1) := dk_172 (dk_at dksX5_readNumber_0 12 rfl rfl)
abbrev cX5_looked : ByteArray := prog_14_method_17_code
def yX5_looked : MethodName := ⟨RX5, "looked", "(II)I"⟩
def dkwX5_looked_2 : List UInt8 := [182, 0, 119, 42, 180, 0, 81, 154, 0, 10, 42, 180, 0, 116, 167, 0, 4, 3, 172]
abbrev dktX5_looked_2 : List UInt8 := dkwX5_looked_2 ++ []
def dkwX5_looked_1 : List UInt8 := [182, 0, 119, 42, 180, 0, 81, 154, 0, 20, 42, 42, 180, 0, 116, 133, 27, 133, 28, 133, 184, 0, 74, 6]
abbrev dktX5_looked_1 : List UInt8 := dkwX5_looked_1 ++ dktX5_looked_2
def dkwX5_looked_0 : List UInt8 := [42, 180, 0, 81, 154, 0, 21, 42, 42, 180, 0, 105, 5, 160, 0, 7, 4, 167, 0, 4, 3, 5]
abbrev dktX5_looked_0 : List UInt8 := dkwX5_looked_0 ++ dktX5_looked_1
theorem dksX5_looked_0 : cX5_looked.data.toList.drop 0 = dktX5_looked_0 := by decide +kernel
theorem dksX5_looked_1 : cX5_looked.data.toList.drop 22 = dktX5_looked_1 := dk_seg dksX5_looked_0 22 rfl rfl
theorem dksX5_looked_2 : cX5_looked.data.toList.drop 46 = dktX5_looked_2 := dk_seg dksX5_looked_1 24 rfl rfl
theorem dX5_looked_0 : decode cX5_looked 0 = .ok (.aload_n 0, 1) := dk_42 (dk_at dksX5_looked_0 0 rfl rfl)
theorem dX5_looked_1 : decode cX5_looked 1 = .ok (.getfield 81, 3) := dk_180 0 81 (dk_at dksX5_looked_0 1 rfl rfl)
theorem dX5_looked_4 : decode cX5_looked 4 = .ok (.ifCond .ne 21, 3) := dk_154 0 21 (dk_at dksX5_looked_0 4 rfl rfl)
theorem dX5_looked_7 : decode cX5_looked 7 = .ok (.aload_n 0, 1) := dk_42 (dk_at dksX5_looked_0 7 rfl rfl)
theorem dX5_looked_8 : decode cX5_looked 8 = .ok (.aload_n 0, 1) := dk_42 (dk_at dksX5_looked_0 8 rfl rfl)
theorem dX5_looked_9 : decode cX5_looked 9 = .ok (.getfield 105, 3) := dk_180 0 105 (dk_at dksX5_looked_0 9 rfl rfl)
theorem dX5_looked_12 : decode cX5_looked 12 = .ok (.iconst 2, 1) := dk_5 (dk_at dksX5_looked_0 12 rfl rfl)
theorem dX5_looked_13 : decode cX5_looked 13 = .ok (.if_icmp .ne 7, 3) := dk_160 0 7 (dk_at dksX5_looked_0 13 rfl rfl)
theorem dX5_looked_16 : decode cX5_looked 16 = .ok (.iconst 1, 1) := dk_4 (dk_at dksX5_looked_0 16 rfl rfl)
theorem dX5_looked_17 : decode cX5_looked 17 = .ok (.goto 4, 3) := dk_167 0 4 (dk_at dksX5_looked_0 17 rfl rfl)
theorem dX5_looked_20 : decode cX5_looked 20 = .ok (.iconst 0, 1) := dk_3 (dk_at dksX5_looked_0 20 rfl rfl)
theorem dX5_looked_21 : decode cX5_looked 21 = .ok (.iconst 2, 1) := dk_5 (dk_at dksX5_looked_0 21 rfl rfl)
theorem dX5_looked_22 : decode cX5_looked 22 = .ok (.invokevirtual 119, 3) := dk_182 0 119 (dk_at dksX5_looked_1 0 rfl rfl)
theorem dX5_looked_25 : decode cX5_looked 25 = .ok (.aload_n 0, 1) := dk_42 (dk_at dksX5_looked_1 3 rfl rfl)
theorem dX5_looked_26 : decode cX5_looked 26 = .ok (.getfield 81, 3) := dk_180 0 81 (dk_at dksX5_looked_1 4 rfl rfl)
theorem dX5_looked_29 : decode cX5_looked 29 = .ok (.ifCond .ne 20, 3) := dk_154 0 20 (dk_at dksX5_looked_1 7 rfl rfl)
theorem dX5_looked_32 : decode cX5_looked 32 = .ok (.aload_n 0, 1) := dk_42 (dk_at dksX5_looked_1 10 rfl rfl)
theorem dX5_looked_33 : decode cX5_looked 33 = .ok (.aload_n 0, 1) := dk_42 (dk_at dksX5_looked_1 11 rfl rfl)
theorem dX5_looked_34 : decode cX5_looked 34 = .ok (.getfield 116, 3) := dk_180 0 116 (dk_at dksX5_looked_1 12 rfl rfl)
theorem dX5_looked_37 : decode cX5_looked 37 = .ok (.i2l, 1) := dk_133 (dk_at dksX5_looked_1 15 rfl rfl)
theorem dX5_looked_38 : decode cX5_looked 38 = .ok (.iload_n 1, 1) := dk_27 (dk_at dksX5_looked_1 16 rfl rfl)
theorem dX5_looked_39 : decode cX5_looked 39 = .ok (.i2l, 1) := dk_133 (dk_at dksX5_looked_1 17 rfl rfl)
theorem dX5_looked_40 : decode cX5_looked 40 = .ok (.iload_n 2, 1) := dk_28 (dk_at dksX5_looked_1 18 rfl rfl)
theorem dX5_looked_41 : decode cX5_looked 41 = .ok (.i2l, 1) := dk_133 (dk_at dksX5_looked_1 19 rfl rfl)
theorem dX5_looked_42 : decode cX5_looked 42 = .ok (.invokestatic 74, 3) := dk_184 0 74 (dk_at dksX5_looked_1 20 rfl rfl)
theorem dX5_looked_45 : decode cX5_looked 45 = .ok (.iconst 3, 1) := dk_6 (dk_at dksX5_looked_1 23 rfl rfl)
theorem dX5_looked_46 : decode cX5_looked 46 = .ok (.invokevirtual 119, 3) := dk_182 0 119 (dk_at dksX5_looked_2 0 rfl rfl)
theorem dX5_looked_49 : decode cX5_looked 49 = .ok (.aload_n 0, 1) := dk_42 (dk_at dksX5_looked_2 3 rfl rfl)
theorem dX5_looked_50 : decode cX5_looked 50 = .ok (.getfield 81, 3) := dk_180 0 81 (dk_at dksX5_looked_2 4 rfl rfl)
theorem dX5_looked_53 : decode cX5_looked 53 = .ok (.ifCond .ne 10, 3) := dk_154 0 10 (dk_at dksX5_looked_2 7 rfl rfl)
theorem dX5_looked_56 : decode cX5_looked 56 = .ok (.aload_n 0, 1) := dk_42 (dk_at dksX5_looked_2 10 rfl rfl)
theorem dX5_looked_57 : decode cX5_looked 57 = .ok (.getfield 116, 3) := dk_180 0 116 (dk_at dksX5_looked_2 11 rfl rfl)
theorem dX5_looked_60 : decode cX5_looked 60 = .ok (.goto 4, 3) := dk_167 0 4 (dk_at dksX5_looked_2 14 rfl rfl)
theorem dX5_looked_63 : decode cX5_looked 63 = .ok (.iconst 0, 1) := dk_3 (dk_at dksX5_looked_2 17 rfl rfl)
theorem dX5_looked_64 : decode cX5_looked 64 = .ok (.ireturn, 1) := dk_172 (dk_at dksX5_looked_2 18 rfl rfl)
abbrev cX5_lawNow : ByteArray := prog_14_method_15_code
def yX5_lawNow : MethodName := ⟨RX5, "lawNow", "()I"⟩
def dkwX5_lawNow_5 : List UInt8 := [167, 0, 5, 16, 252, 172]
abbrev dktX5_lawNow_5 : List UInt8 := dkwX5_lawNow_5 ++ []
def dkwX5_lawNow_4 : List UInt8 := [16, 113, 16, 117, 16, 101, 16, 117, 182, 0, 97, 153, 0, 16, 42, 16, 101, 182, 0, 101, 153, 0, 7, 7]
abbrev dktX5_lawNow_4 : List UInt8 := dkwX5_lawNow_4 ++ dktX5_lawNow_5
def dkwX5_lawNow_3 : List UInt8 := [16, 103, 182, 0, 97, 153, 0, 16, 42, 16, 111, 182, 0, 101, 153, 0, 7, 6, 167, 0, 34, 42, 8]
abbrev dktX5_lawNow_3 : List UInt8 := dkwX5_lawNow_3 ++ dktX5_lawNow_4
def dkwX5_lawNow_2 : List UInt8 := [16, 116, 16, 119, 16, 111, 16, 115, 182, 0, 97, 153, 0, 5, 5, 172, 42, 8, 16, 99, 16, 97, 16, 114]
abbrev dktX5_lawNow_2 : List UInt8 := dkwX5_lawNow_2 ++ dktX5_lawNow_3
def dkwX5_lawNow_1 : List UInt8 := [16, 97, 16, 100, 182, 0, 97, 153, 0, 14, 42, 16, 121, 182, 0, 101, 153, 0, 5, 4, 172, 42, 7]
abbrev dktX5_lawNow_1 : List UInt8 := dkwX5_lawNow_1 ++ dktX5_lawNow_2
def dkwX5_lawNow_0 : List UInt8 := [42, 7, 16, 103, 16, 97, 16, 116, 16, 101, 182, 0, 97, 153, 0, 5, 3, 172, 42, 8, 16, 114, 16, 101]
abbrev dktX5_lawNow_0 : List UInt8 := dkwX5_lawNow_0 ++ dktX5_lawNow_1
theorem dksX5_lawNow_0 : cX5_lawNow.data.toList.drop 0 = dktX5_lawNow_0 := by decide +kernel
theorem dksX5_lawNow_1 : cX5_lawNow.data.toList.drop 24 = dktX5_lawNow_1 := dk_seg dksX5_lawNow_0 24 rfl rfl
theorem dksX5_lawNow_2 : cX5_lawNow.data.toList.drop 47 = dktX5_lawNow_2 := dk_seg dksX5_lawNow_1 23 rfl rfl
theorem dksX5_lawNow_3 : cX5_lawNow.data.toList.drop 71 = dktX5_lawNow_3 := dk_seg dksX5_lawNow_2 24 rfl rfl
theorem dksX5_lawNow_4 : cX5_lawNow.data.toList.drop 94 = dktX5_lawNow_4 := dk_seg dksX5_lawNow_3 23 rfl rfl
theorem dksX5_lawNow_5 : cX5_lawNow.data.toList.drop 118 = dktX5_lawNow_5 := dk_seg dksX5_lawNow_4 24 rfl rfl
theorem dX5_lawNow_0 : decode cX5_lawNow 0 = .ok (.aload_n 0, 1) := dk_42 (dk_at dksX5_lawNow_0 0 rfl rfl)
theorem dX5_lawNow_1 : decode cX5_lawNow 1 = .ok (.iconst 4, 1) := dk_7 (dk_at dksX5_lawNow_0 1 rfl rfl)
theorem dX5_lawNow_2 : decode cX5_lawNow 2 = .ok (.bipush 103, 2) := dk_16 103 (dk_at dksX5_lawNow_0 2 rfl rfl)
theorem dX5_lawNow_4 : decode cX5_lawNow 4 = .ok (.bipush 97, 2) := dk_16 97 (dk_at dksX5_lawNow_0 4 rfl rfl)
theorem dX5_lawNow_6 : decode cX5_lawNow 6 = .ok (.bipush 116, 2) := dk_16 116 (dk_at dksX5_lawNow_0 6 rfl rfl)
theorem dX5_lawNow_8 : decode cX5_lawNow 8 = .ok (.bipush 101, 2) := dk_16 101 (dk_at dksX5_lawNow_0 8 rfl rfl)
theorem dX5_lawNow_10 : decode cX5_lawNow 10 = .ok (.invokevirtual 97, 3) := dk_182 0 97 (dk_at dksX5_lawNow_0 10 rfl rfl)
theorem dX5_lawNow_13 : decode cX5_lawNow 13 = .ok (.ifCond .eq 5, 3) := dk_153 0 5 (dk_at dksX5_lawNow_0 13 rfl rfl)
theorem dX5_lawNow_16 : decode cX5_lawNow 16 = .ok (.iconst 0, 1) := dk_3 (dk_at dksX5_lawNow_0 16 rfl rfl)
theorem dX5_lawNow_17 : decode cX5_lawNow 17 = .ok (.ireturn, 1) := dk_172 (dk_at dksX5_lawNow_0 17 rfl rfl)
theorem dX5_lawNow_18 : decode cX5_lawNow 18 = .ok (.aload_n 0, 1) := dk_42 (dk_at dksX5_lawNow_0 18 rfl rfl)
theorem dX5_lawNow_19 : decode cX5_lawNow 19 = .ok (.iconst 5, 1) := dk_8 (dk_at dksX5_lawNow_0 19 rfl rfl)
theorem dX5_lawNow_20 : decode cX5_lawNow 20 = .ok (.bipush 114, 2) := dk_16 114 (dk_at dksX5_lawNow_0 20 rfl rfl)
theorem dX5_lawNow_22 : decode cX5_lawNow 22 = .ok (.bipush 101, 2) := dk_16 101 (dk_at dksX5_lawNow_0 22 rfl rfl)
theorem dX5_lawNow_24 : decode cX5_lawNow 24 = .ok (.bipush 97, 2) := dk_16 97 (dk_at dksX5_lawNow_1 0 rfl rfl)
theorem dX5_lawNow_26 : decode cX5_lawNow 26 = .ok (.bipush 100, 2) := dk_16 100 (dk_at dksX5_lawNow_1 2 rfl rfl)
theorem dX5_lawNow_28 : decode cX5_lawNow 28 = .ok (.invokevirtual 97, 3) := dk_182 0 97 (dk_at dksX5_lawNow_1 4 rfl rfl)
theorem dX5_lawNow_31 : decode cX5_lawNow 31 = .ok (.ifCond .eq 14, 3) := dk_153 0 14 (dk_at dksX5_lawNow_1 7 rfl rfl)
theorem dX5_lawNow_34 : decode cX5_lawNow 34 = .ok (.aload_n 0, 1) := dk_42 (dk_at dksX5_lawNow_1 10 rfl rfl)
theorem dX5_lawNow_35 : decode cX5_lawNow 35 = .ok (.bipush 121, 2) := dk_16 121 (dk_at dksX5_lawNow_1 11 rfl rfl)
theorem dX5_lawNow_37 : decode cX5_lawNow 37 = .ok (.invokevirtual 101, 3) := dk_182 0 101 (dk_at dksX5_lawNow_1 13 rfl rfl)
theorem dX5_lawNow_40 : decode cX5_lawNow 40 = .ok (.ifCond .eq 5, 3) := dk_153 0 5 (dk_at dksX5_lawNow_1 16 rfl rfl)
theorem dX5_lawNow_43 : decode cX5_lawNow 43 = .ok (.iconst 1, 1) := dk_4 (dk_at dksX5_lawNow_1 19 rfl rfl)
theorem dX5_lawNow_44 : decode cX5_lawNow 44 = .ok (.ireturn, 1) := dk_172 (dk_at dksX5_lawNow_1 20 rfl rfl)
theorem dX5_lawNow_45 : decode cX5_lawNow 45 = .ok (.aload_n 0, 1) := dk_42 (dk_at dksX5_lawNow_1 21 rfl rfl)
theorem dX5_lawNow_46 : decode cX5_lawNow 46 = .ok (.iconst 4, 1) := dk_7 (dk_at dksX5_lawNow_1 22 rfl rfl)
theorem dX5_lawNow_47 : decode cX5_lawNow 47 = .ok (.bipush 116, 2) := dk_16 116 (dk_at dksX5_lawNow_2 0 rfl rfl)
theorem dX5_lawNow_49 : decode cX5_lawNow 49 = .ok (.bipush 119, 2) := dk_16 119 (dk_at dksX5_lawNow_2 2 rfl rfl)
theorem dX5_lawNow_51 : decode cX5_lawNow 51 = .ok (.bipush 111, 2) := dk_16 111 (dk_at dksX5_lawNow_2 4 rfl rfl)
theorem dX5_lawNow_53 : decode cX5_lawNow 53 = .ok (.bipush 115, 2) := dk_16 115 (dk_at dksX5_lawNow_2 6 rfl rfl)
theorem dX5_lawNow_55 : decode cX5_lawNow 55 = .ok (.invokevirtual 97, 3) := dk_182 0 97 (dk_at dksX5_lawNow_2 8 rfl rfl)
theorem dX5_lawNow_58 : decode cX5_lawNow 58 = .ok (.ifCond .eq 5, 3) := dk_153 0 5 (dk_at dksX5_lawNow_2 11 rfl rfl)
theorem dX5_lawNow_61 : decode cX5_lawNow 61 = .ok (.iconst 2, 1) := dk_5 (dk_at dksX5_lawNow_2 14 rfl rfl)
theorem dX5_lawNow_62 : decode cX5_lawNow 62 = .ok (.ireturn, 1) := dk_172 (dk_at dksX5_lawNow_2 15 rfl rfl)
theorem dX5_lawNow_63 : decode cX5_lawNow 63 = .ok (.aload_n 0, 1) := dk_42 (dk_at dksX5_lawNow_2 16 rfl rfl)
theorem dX5_lawNow_64 : decode cX5_lawNow 64 = .ok (.iconst 5, 1) := dk_8 (dk_at dksX5_lawNow_2 17 rfl rfl)
theorem dX5_lawNow_65 : decode cX5_lawNow 65 = .ok (.bipush 99, 2) := dk_16 99 (dk_at dksX5_lawNow_2 18 rfl rfl)
theorem dX5_lawNow_67 : decode cX5_lawNow 67 = .ok (.bipush 97, 2) := dk_16 97 (dk_at dksX5_lawNow_2 20 rfl rfl)
theorem dX5_lawNow_69 : decode cX5_lawNow 69 = .ok (.bipush 114, 2) := dk_16 114 (dk_at dksX5_lawNow_2 22 rfl rfl)
theorem dX5_lawNow_71 : decode cX5_lawNow 71 = .ok (.bipush 103, 2) := dk_16 103 (dk_at dksX5_lawNow_3 0 rfl rfl)
theorem dX5_lawNow_73 : decode cX5_lawNow 73 = .ok (.invokevirtual 97, 3) := dk_182 0 97 (dk_at dksX5_lawNow_3 2 rfl rfl)
theorem dX5_lawNow_76 : decode cX5_lawNow 76 = .ok (.ifCond .eq 16, 3) := dk_153 0 16 (dk_at dksX5_lawNow_3 5 rfl rfl)
theorem dX5_lawNow_79 : decode cX5_lawNow 79 = .ok (.aload_n 0, 1) := dk_42 (dk_at dksX5_lawNow_3 8 rfl rfl)
theorem dX5_lawNow_80 : decode cX5_lawNow 80 = .ok (.bipush 111, 2) := dk_16 111 (dk_at dksX5_lawNow_3 9 rfl rfl)
theorem dX5_lawNow_82 : decode cX5_lawNow 82 = .ok (.invokevirtual 101, 3) := dk_182 0 101 (dk_at dksX5_lawNow_3 11 rfl rfl)
theorem dX5_lawNow_85 : decode cX5_lawNow 85 = .ok (.ifCond .eq 7, 3) := dk_153 0 7 (dk_at dksX5_lawNow_3 14 rfl rfl)
theorem dX5_lawNow_88 : decode cX5_lawNow 88 = .ok (.iconst 3, 1) := dk_6 (dk_at dksX5_lawNow_3 17 rfl rfl)
theorem dX5_lawNow_89 : decode cX5_lawNow 89 = .ok (.goto 34, 3) := dk_167 0 34 (dk_at dksX5_lawNow_3 18 rfl rfl)
theorem dX5_lawNow_92 : decode cX5_lawNow 92 = .ok (.aload_n 0, 1) := dk_42 (dk_at dksX5_lawNow_3 21 rfl rfl)
theorem dX5_lawNow_93 : decode cX5_lawNow 93 = .ok (.iconst 5, 1) := dk_8 (dk_at dksX5_lawNow_3 22 rfl rfl)
theorem dX5_lawNow_94 : decode cX5_lawNow 94 = .ok (.bipush 113, 2) := dk_16 113 (dk_at dksX5_lawNow_4 0 rfl rfl)
theorem dX5_lawNow_96 : decode cX5_lawNow 96 = .ok (.bipush 117, 2) := dk_16 117 (dk_at dksX5_lawNow_4 2 rfl rfl)
theorem dX5_lawNow_98 : decode cX5_lawNow 98 = .ok (.bipush 101, 2) := dk_16 101 (dk_at dksX5_lawNow_4 4 rfl rfl)
theorem dX5_lawNow_100 : decode cX5_lawNow 100 = .ok (.bipush 117, 2) := dk_16 117 (dk_at dksX5_lawNow_4 6 rfl rfl)
theorem dX5_lawNow_102 : decode cX5_lawNow 102 = .ok (.invokevirtual 97, 3) := dk_182 0 97 (dk_at dksX5_lawNow_4 8 rfl rfl)
theorem dX5_lawNow_105 : decode cX5_lawNow 105 = .ok (.ifCond .eq 16, 3) := dk_153 0 16 (dk_at dksX5_lawNow_4 11 rfl rfl)
theorem dX5_lawNow_108 : decode cX5_lawNow 108 = .ok (.aload_n 0, 1) := dk_42 (dk_at dksX5_lawNow_4 14 rfl rfl)
theorem dX5_lawNow_109 : decode cX5_lawNow 109 = .ok (.bipush 101, 2) := dk_16 101 (dk_at dksX5_lawNow_4 15 rfl rfl)
theorem dX5_lawNow_111 : decode cX5_lawNow 111 = .ok (.invokevirtual 101, 3) := dk_182 0 101 (dk_at dksX5_lawNow_4 17 rfl rfl)
theorem dX5_lawNow_114 : decode cX5_lawNow 114 = .ok (.ifCond .eq 7, 3) := dk_153 0 7 (dk_at dksX5_lawNow_4 20 rfl rfl)
theorem dX5_lawNow_117 : decode cX5_lawNow 117 = .ok (.iconst 4, 1) := dk_7 (dk_at dksX5_lawNow_4 23 rfl rfl)
theorem dX5_lawNow_118 : decode cX5_lawNow 118 = .ok (.goto 5, 3) := dk_167 0 5 (dk_at dksX5_lawNow_5 0 rfl rfl)
theorem dX5_lawNow_121 : decode cX5_lawNow 121 = .ok (.bipush (-4), 2) := dk_16 252 (dk_at dksX5_lawNow_5 3 rfl rfl)
theorem dX5_lawNow_123 : decode cX5_lawNow 123 = .ok (.ireturn, 1) := dk_172 (dk_at dksX5_lawNow_5 5 rfl rfl)
abbrev cX5_readName : ByteArray := prog_14_method_19_code
def yX5_readName : MethodName := ⟨RX5, "readName", "(I)I"⟩
def dkwX5_readName_1 : List UInt8 := [167, 0, 4, 3, 5, 182, 0, 119, 42, 182, 0, 127, 28, 172]
abbrev dktX5_readName_1 : List UInt8 := dkwX5_readName_1 ++ []
def dkwX5_readName_0 : List UInt8 := [42, 180, 0, 105, 4, 160, 0, 7, 27, 167, 0, 5, 16, 252, 61, 42, 28, 16, 252, 159, 0, 7, 4]
abbrev dktX5_readName_0 : List UInt8 := dkwX5_readName_0 ++ dktX5_readName_1
theorem dksX5_readName_0 : cX5_readName.data.toList.drop 0 = dktX5_readName_0 := by decide +kernel
theorem dksX5_readName_1 : cX5_readName.data.toList.drop 23 = dktX5_readName_1 := dk_seg dksX5_readName_0 23 rfl rfl
theorem dX5_readName_0 : decode cX5_readName 0 = .ok (.aload_n 0, 1) := dk_42 (dk_at dksX5_readName_0 0 rfl rfl)
theorem dX5_readName_1 : decode cX5_readName 1 = .ok (.getfield 105, 3) := dk_180 0 105 (dk_at dksX5_readName_0 1 rfl rfl)
theorem dX5_readName_4 : decode cX5_readName 4 = .ok (.iconst 1, 1) := dk_4 (dk_at dksX5_readName_0 4 rfl rfl)
theorem dX5_readName_5 : decode cX5_readName 5 = .ok (.if_icmp .ne 7, 3) := dk_160 0 7 (dk_at dksX5_readName_0 5 rfl rfl)
theorem dX5_readName_8 : decode cX5_readName 8 = .ok (.iload_n 1, 1) := dk_27 (dk_at dksX5_readName_0 8 rfl rfl)
theorem dX5_readName_9 : decode cX5_readName 9 = .ok (.goto 5, 3) := dk_167 0 5 (dk_at dksX5_readName_0 9 rfl rfl)
theorem dX5_readName_12 : decode cX5_readName 12 = .ok (.bipush (-4), 2) := dk_16 252 (dk_at dksX5_readName_0 12 rfl rfl)
theorem dX5_readName_14 : decode cX5_readName 14 = .ok (.istore_n 2, 1) := dk_61 (dk_at dksX5_readName_0 14 rfl rfl)
theorem dX5_readName_15 : decode cX5_readName 15 = .ok (.aload_n 0, 1) := dk_42 (dk_at dksX5_readName_0 15 rfl rfl)
theorem dX5_readName_16 : decode cX5_readName 16 = .ok (.iload_n 2, 1) := dk_28 (dk_at dksX5_readName_0 16 rfl rfl)
theorem dX5_readName_17 : decode cX5_readName 17 = .ok (.bipush (-4), 2) := dk_16 252 (dk_at dksX5_readName_0 17 rfl rfl)
theorem dX5_readName_19 : decode cX5_readName 19 = .ok (.if_icmp .eq 7, 3) := dk_159 0 7 (dk_at dksX5_readName_0 19 rfl rfl)
theorem dX5_readName_22 : decode cX5_readName 22 = .ok (.iconst 1, 1) := dk_4 (dk_at dksX5_readName_0 22 rfl rfl)
theorem dX5_readName_23 : decode cX5_readName 23 = .ok (.goto 4, 3) := dk_167 0 4 (dk_at dksX5_readName_1 0 rfl rfl)
theorem dX5_readName_26 : decode cX5_readName 26 = .ok (.iconst 0, 1) := dk_3 (dk_at dksX5_readName_1 3 rfl rfl)
theorem dX5_readName_27 : decode cX5_readName 27 = .ok (.iconst 2, 1) := dk_5 (dk_at dksX5_readName_1 4 rfl rfl)
theorem dX5_readName_28 : decode cX5_readName 28 = .ok (.invokevirtual 119, 3) := dk_182 0 119 (dk_at dksX5_readName_1 5 rfl rfl)
theorem dX5_readName_31 : decode cX5_readName 31 = .ok (.aload_n 0, 1) := dk_42 (dk_at dksX5_readName_1 8 rfl rfl)
theorem dX5_readName_32 : decode cX5_readName 32 = .ok (.invokevirtual 127, 3) := dk_182 0 127 (dk_at dksX5_readName_1 9 rfl rfl)
theorem dX5_readName_35 : decode cX5_readName 35 = .ok (.iload_n 2, 1) := dk_28 (dk_at dksX5_readName_1 12 rfl rfl)
theorem dX5_readName_36 : decode cX5_readName 36 = .ok (.ireturn, 1) := dk_172 (dk_at dksX5_readName_1 13 rfl rfl)
abbrev cX5_readLiar : ByteArray := prog_14_method_21_code
def yX5_readLiar : MethodName := ⟨RX5, "readLiar", "()V"⟩
def dkwX5_readLiar_3 : List UInt8 := [177]
abbrev dktX5_readLiar_3 : List UInt8 := dkwX5_readLiar_3 ++ []
def dkwX5_readLiar_2 : List UInt8 := [42, 27, 42, 180, 0, 66, 164, 0, 7, 27, 167, 0, 7, 42, 180, 0, 66, 181, 0, 66, 42, 182, 0, 127]
abbrev dktX5_readLiar_2 : List UInt8 := dkwX5_readLiar_2 ++ dktX5_readLiar_3
def dkwX5_readLiar_1 : List UInt8 := [154, 0, 7, 4, 167, 0, 4, 3, 7, 182, 0, 119, 42, 89, 180, 0, 63, 4, 27, 120, 128, 181, 0, 63]
abbrev dktX5_readLiar_1 : List UInt8 := dkwX5_readLiar_1 ++ dktX5_readLiar_2
def dkwX5_readLiar_0 : List UInt8 := [42, 3, 8, 182, 0, 123, 60, 42, 180, 0, 81, 154, 0, 56, 42, 42, 180, 0, 63, 27, 122, 4, 126]
abbrev dktX5_readLiar_0 : List UInt8 := dkwX5_readLiar_0 ++ dktX5_readLiar_1
theorem dksX5_readLiar_0 : cX5_readLiar.data.toList.drop 0 = dktX5_readLiar_0 := by decide +kernel
theorem dksX5_readLiar_1 : cX5_readLiar.data.toList.drop 23 = dktX5_readLiar_1 := dk_seg dksX5_readLiar_0 23 rfl rfl
theorem dksX5_readLiar_2 : cX5_readLiar.data.toList.drop 47 = dktX5_readLiar_2 := dk_seg dksX5_readLiar_1 24 rfl rfl
theorem dksX5_readLiar_3 : cX5_readLiar.data.toList.drop 71 = dktX5_readLiar_3 := dk_seg dksX5_readLiar_2 24 rfl rfl
theorem dX5_readLiar_0 : decode cX5_readLiar 0 = .ok (.aload_n 0, 1) := dk_42 (dk_at dksX5_readLiar_0 0 rfl rfl)
theorem dX5_readLiar_1 : decode cX5_readLiar 1 = .ok (.iconst 0, 1) := dk_3 (dk_at dksX5_readLiar_0 1 rfl rfl)
theorem dX5_readLiar_2 : decode cX5_readLiar 2 = .ok (.iconst 5, 1) := dk_8 (dk_at dksX5_readLiar_0 2 rfl rfl)
theorem dX5_readLiar_3 : decode cX5_readLiar 3 = .ok (.invokevirtual 123, 3) := dk_182 0 123 (dk_at dksX5_readLiar_0 3 rfl rfl)
theorem dX5_readLiar_6 : decode cX5_readLiar 6 = .ok (.istore_n 1, 1) := dk_60 (dk_at dksX5_readLiar_0 6 rfl rfl)
theorem dX5_readLiar_7 : decode cX5_readLiar 7 = .ok (.aload_n 0, 1) := dk_42 (dk_at dksX5_readLiar_0 7 rfl rfl)
theorem dX5_readLiar_8 : decode cX5_readLiar 8 = .ok (.getfield 81, 3) := dk_180 0 81 (dk_at dksX5_readLiar_0 8 rfl rfl)
theorem dX5_readLiar_11 : decode cX5_readLiar 11 = .ok (.ifCond .ne 56, 3) := dk_154 0 56 (dk_at dksX5_readLiar_0 11 rfl rfl)
theorem dX5_readLiar_14 : decode cX5_readLiar 14 = .ok (.aload_n 0, 1) := dk_42 (dk_at dksX5_readLiar_0 14 rfl rfl)
theorem dX5_readLiar_15 : decode cX5_readLiar 15 = .ok (.aload_n 0, 1) := dk_42 (dk_at dksX5_readLiar_0 15 rfl rfl)
theorem dX5_readLiar_16 : decode cX5_readLiar 16 = .ok (.getfield 63, 3) := dk_180 0 63 (dk_at dksX5_readLiar_0 16 rfl rfl)
theorem dX5_readLiar_19 : decode cX5_readLiar 19 = .ok (.iload_n 1, 1) := dk_27 (dk_at dksX5_readLiar_0 19 rfl rfl)
theorem dX5_readLiar_20 : decode cX5_readLiar 20 = .ok (.ishr, 1) := dk_122 (dk_at dksX5_readLiar_0 20 rfl rfl)
theorem dX5_readLiar_21 : decode cX5_readLiar 21 = .ok (.iconst 1, 1) := dk_4 (dk_at dksX5_readLiar_0 21 rfl rfl)
theorem dX5_readLiar_22 : decode cX5_readLiar 22 = .ok (.iand, 1) := dk_126 (dk_at dksX5_readLiar_0 22 rfl rfl)
theorem dX5_readLiar_23 : decode cX5_readLiar 23 = .ok (.ifCond .ne 7, 3) := dk_154 0 7 (dk_at dksX5_readLiar_1 0 rfl rfl)
theorem dX5_readLiar_26 : decode cX5_readLiar 26 = .ok (.iconst 1, 1) := dk_4 (dk_at dksX5_readLiar_1 3 rfl rfl)
theorem dX5_readLiar_27 : decode cX5_readLiar 27 = .ok (.goto 4, 3) := dk_167 0 4 (dk_at dksX5_readLiar_1 4 rfl rfl)
theorem dX5_readLiar_30 : decode cX5_readLiar 30 = .ok (.iconst 0, 1) := dk_3 (dk_at dksX5_readLiar_1 7 rfl rfl)
theorem dX5_readLiar_31 : decode cX5_readLiar 31 = .ok (.iconst 4, 1) := dk_7 (dk_at dksX5_readLiar_1 8 rfl rfl)
theorem dX5_readLiar_32 : decode cX5_readLiar 32 = .ok (.invokevirtual 119, 3) := dk_182 0 119 (dk_at dksX5_readLiar_1 9 rfl rfl)
theorem dX5_readLiar_35 : decode cX5_readLiar 35 = .ok (.aload_n 0, 1) := dk_42 (dk_at dksX5_readLiar_1 12 rfl rfl)
theorem dX5_readLiar_36 : decode cX5_readLiar 36 = .ok (.dup, 1) := dk_89 (dk_at dksX5_readLiar_1 13 rfl rfl)
theorem dX5_readLiar_37 : decode cX5_readLiar 37 = .ok (.getfield 63, 3) := dk_180 0 63 (dk_at dksX5_readLiar_1 14 rfl rfl)
theorem dX5_readLiar_40 : decode cX5_readLiar 40 = .ok (.iconst 1, 1) := dk_4 (dk_at dksX5_readLiar_1 17 rfl rfl)
theorem dX5_readLiar_41 : decode cX5_readLiar 41 = .ok (.iload_n 1, 1) := dk_27 (dk_at dksX5_readLiar_1 18 rfl rfl)
theorem dX5_readLiar_42 : decode cX5_readLiar 42 = .ok (.ishl, 1) := dk_120 (dk_at dksX5_readLiar_1 19 rfl rfl)
theorem dX5_readLiar_43 : decode cX5_readLiar 43 = .ok (.ior, 1) := dk_128 (dk_at dksX5_readLiar_1 20 rfl rfl)
theorem dX5_readLiar_44 : decode cX5_readLiar 44 = .ok (.putfield 63, 3) := dk_181 0 63 (dk_at dksX5_readLiar_1 21 rfl rfl)
theorem dX5_readLiar_47 : decode cX5_readLiar 47 = .ok (.aload_n 0, 1) := dk_42 (dk_at dksX5_readLiar_2 0 rfl rfl)
theorem dX5_readLiar_48 : decode cX5_readLiar 48 = .ok (.iload_n 1, 1) := dk_27 (dk_at dksX5_readLiar_2 1 rfl rfl)
theorem dX5_readLiar_49 : decode cX5_readLiar 49 = .ok (.aload_n 0, 1) := dk_42 (dk_at dksX5_readLiar_2 2 rfl rfl)
theorem dX5_readLiar_50 : decode cX5_readLiar 50 = .ok (.getfield 66, 3) := dk_180 0 66 (dk_at dksX5_readLiar_2 3 rfl rfl)
theorem dX5_readLiar_53 : decode cX5_readLiar 53 = .ok (.if_icmp .le 7, 3) := dk_164 0 7 (dk_at dksX5_readLiar_2 6 rfl rfl)
theorem dX5_readLiar_56 : decode cX5_readLiar 56 = .ok (.iload_n 1, 1) := dk_27 (dk_at dksX5_readLiar_2 9 rfl rfl)
theorem dX5_readLiar_57 : decode cX5_readLiar 57 = .ok (.goto 7, 3) := dk_167 0 7 (dk_at dksX5_readLiar_2 10 rfl rfl)
theorem dX5_readLiar_60 : decode cX5_readLiar 60 = .ok (.aload_n 0, 1) := dk_42 (dk_at dksX5_readLiar_2 13 rfl rfl)
theorem dX5_readLiar_61 : decode cX5_readLiar 61 = .ok (.getfield 66, 3) := dk_180 0 66 (dk_at dksX5_readLiar_2 14 rfl rfl)
theorem dX5_readLiar_64 : decode cX5_readLiar 64 = .ok (.putfield 66, 3) := dk_181 0 66 (dk_at dksX5_readLiar_2 17 rfl rfl)
theorem dX5_readLiar_67 : decode cX5_readLiar 67 = .ok (.aload_n 0, 1) := dk_42 (dk_at dksX5_readLiar_2 20 rfl rfl)
theorem dX5_readLiar_68 : decode cX5_readLiar 68 = .ok (.invokevirtual 127, 3) := dk_182 0 127 (dk_at dksX5_readLiar_2 21 rfl rfl)
theorem dX5_readLiar_71 : decode cX5_readLiar 71 = .ok (.return_, 1) := dk_177 (dk_at dksX5_readLiar_3 0 rfl rfl)
abbrev cX5_readBoat : ByteArray := prog_14_method_20_code
def yX5_readBoat : MethodName := ⟨RX5, "readBoat", "(I)V"⟩
def dkwX5_readBoat_3 : List UInt8 := [7, 96, 42, 3, 16, 9, 182, 0, 137, 79, 42, 89, 180, 0, 56, 4, 96, 181, 0, 56, 177]
abbrev dktX5_readBoat_3 : List UInt8 := dkwX5_readBoat_3 ++ []
def dkwX5_readBoat_2 : List UInt8 := [182, 0, 137, 79, 42, 180, 0, 20, 28, 6, 96, 42, 3, 16, 9, 182, 0, 137, 79, 42, 180, 0, 20, 28]
abbrev dktX5_readBoat_2 : List UInt8 := dkwX5_readBoat_2 ++ dktX5_readBoat_3
def dkwX5_readBoat_1 : List UInt8 := [28, 4, 96, 42, 42, 182, 0, 130, 182, 0, 134, 79, 42, 180, 0, 20, 28, 5, 96, 42, 3, 16, 99]
abbrev dktX5_readBoat_1 : List UInt8 := dkwX5_readBoat_1 ++ dktX5_readBoat_2
def dkwX5_readBoat_0 : List UInt8 := [16, 6, 16, 6, 42, 180, 0, 56, 104, 96, 61, 42, 180, 0, 20, 28, 3, 96, 27, 79, 42, 180, 0, 20]
abbrev dktX5_readBoat_0 : List UInt8 := dkwX5_readBoat_0 ++ dktX5_readBoat_1
theorem dksX5_readBoat_0 : cX5_readBoat.data.toList.drop 0 = dktX5_readBoat_0 := by decide +kernel
theorem dksX5_readBoat_1 : cX5_readBoat.data.toList.drop 24 = dktX5_readBoat_1 := dk_seg dksX5_readBoat_0 24 rfl rfl
theorem dksX5_readBoat_2 : cX5_readBoat.data.toList.drop 47 = dktX5_readBoat_2 := dk_seg dksX5_readBoat_1 23 rfl rfl
theorem dksX5_readBoat_3 : cX5_readBoat.data.toList.drop 71 = dktX5_readBoat_3 := dk_seg dksX5_readBoat_2 24 rfl rfl
theorem dX5_readBoat_0 : decode cX5_readBoat 0 = .ok (.bipush 6, 2) := dk_16 6 (dk_at dksX5_readBoat_0 0 rfl rfl)
theorem dX5_readBoat_2 : decode cX5_readBoat 2 = .ok (.bipush 6, 2) := dk_16 6 (dk_at dksX5_readBoat_0 2 rfl rfl)
theorem dX5_readBoat_4 : decode cX5_readBoat 4 = .ok (.aload_n 0, 1) := dk_42 (dk_at dksX5_readBoat_0 4 rfl rfl)
theorem dX5_readBoat_5 : decode cX5_readBoat 5 = .ok (.getfield 56, 3) := dk_180 0 56 (dk_at dksX5_readBoat_0 5 rfl rfl)
theorem dX5_readBoat_8 : decode cX5_readBoat 8 = .ok (.imul, 1) := dk_104 (dk_at dksX5_readBoat_0 8 rfl rfl)
theorem dX5_readBoat_9 : decode cX5_readBoat 9 = .ok (.iadd, 1) := dk_96 (dk_at dksX5_readBoat_0 9 rfl rfl)
theorem dX5_readBoat_10 : decode cX5_readBoat 10 = .ok (.istore_n 2, 1) := dk_61 (dk_at dksX5_readBoat_0 10 rfl rfl)
theorem dX5_readBoat_11 : decode cX5_readBoat 11 = .ok (.aload_n 0, 1) := dk_42 (dk_at dksX5_readBoat_0 11 rfl rfl)
theorem dX5_readBoat_12 : decode cX5_readBoat 12 = .ok (.getfield 20, 3) := dk_180 0 20 (dk_at dksX5_readBoat_0 12 rfl rfl)
theorem dX5_readBoat_15 : decode cX5_readBoat 15 = .ok (.iload_n 2, 1) := dk_28 (dk_at dksX5_readBoat_0 15 rfl rfl)
theorem dX5_readBoat_16 : decode cX5_readBoat 16 = .ok (.iconst 0, 1) := dk_3 (dk_at dksX5_readBoat_0 16 rfl rfl)
theorem dX5_readBoat_17 : decode cX5_readBoat 17 = .ok (.iadd, 1) := dk_96 (dk_at dksX5_readBoat_0 17 rfl rfl)
theorem dX5_readBoat_18 : decode cX5_readBoat 18 = .ok (.iload_n 1, 1) := dk_27 (dk_at dksX5_readBoat_0 18 rfl rfl)
theorem dX5_readBoat_19 : decode cX5_readBoat 19 = .ok (.iastore, 1) := dk_79 (dk_at dksX5_readBoat_0 19 rfl rfl)
theorem dX5_readBoat_20 : decode cX5_readBoat 20 = .ok (.aload_n 0, 1) := dk_42 (dk_at dksX5_readBoat_0 20 rfl rfl)
theorem dX5_readBoat_21 : decode cX5_readBoat 21 = .ok (.getfield 20, 3) := dk_180 0 20 (dk_at dksX5_readBoat_0 21 rfl rfl)
theorem dX5_readBoat_24 : decode cX5_readBoat 24 = .ok (.iload_n 2, 1) := dk_28 (dk_at dksX5_readBoat_1 0 rfl rfl)
theorem dX5_readBoat_25 : decode cX5_readBoat 25 = .ok (.iconst 1, 1) := dk_4 (dk_at dksX5_readBoat_1 1 rfl rfl)
theorem dX5_readBoat_26 : decode cX5_readBoat 26 = .ok (.iadd, 1) := dk_96 (dk_at dksX5_readBoat_1 2 rfl rfl)
theorem dX5_readBoat_27 : decode cX5_readBoat 27 = .ok (.aload_n 0, 1) := dk_42 (dk_at dksX5_readBoat_1 3 rfl rfl)
theorem dX5_readBoat_28 : decode cX5_readBoat 28 = .ok (.aload_n 0, 1) := dk_42 (dk_at dksX5_readBoat_1 4 rfl rfl)
theorem dX5_readBoat_29 : decode cX5_readBoat 29 = .ok (.invokevirtual 130, 3) := dk_182 0 130 (dk_at dksX5_readBoat_1 5 rfl rfl)
theorem dX5_readBoat_32 : decode cX5_readBoat 32 = .ok (.invokevirtual 134, 3) := dk_182 0 134 (dk_at dksX5_readBoat_1 8 rfl rfl)
theorem dX5_readBoat_35 : decode cX5_readBoat 35 = .ok (.iastore, 1) := dk_79 (dk_at dksX5_readBoat_1 11 rfl rfl)
theorem dX5_readBoat_36 : decode cX5_readBoat 36 = .ok (.aload_n 0, 1) := dk_42 (dk_at dksX5_readBoat_1 12 rfl rfl)
theorem dX5_readBoat_37 : decode cX5_readBoat 37 = .ok (.getfield 20, 3) := dk_180 0 20 (dk_at dksX5_readBoat_1 13 rfl rfl)
theorem dX5_readBoat_40 : decode cX5_readBoat 40 = .ok (.iload_n 2, 1) := dk_28 (dk_at dksX5_readBoat_1 16 rfl rfl)
theorem dX5_readBoat_41 : decode cX5_readBoat 41 = .ok (.iconst 2, 1) := dk_5 (dk_at dksX5_readBoat_1 17 rfl rfl)
theorem dX5_readBoat_42 : decode cX5_readBoat 42 = .ok (.iadd, 1) := dk_96 (dk_at dksX5_readBoat_1 18 rfl rfl)
theorem dX5_readBoat_43 : decode cX5_readBoat 43 = .ok (.aload_n 0, 1) := dk_42 (dk_at dksX5_readBoat_1 19 rfl rfl)
theorem dX5_readBoat_44 : decode cX5_readBoat 44 = .ok (.iconst 0, 1) := dk_3 (dk_at dksX5_readBoat_1 20 rfl rfl)
theorem dX5_readBoat_45 : decode cX5_readBoat 45 = .ok (.bipush 99, 2) := dk_16 99 (dk_at dksX5_readBoat_1 21 rfl rfl)
theorem dX5_readBoat_47 : decode cX5_readBoat 47 = .ok (.invokevirtual 137, 3) := dk_182 0 137 (dk_at dksX5_readBoat_2 0 rfl rfl)
theorem dX5_readBoat_50 : decode cX5_readBoat 50 = .ok (.iastore, 1) := dk_79 (dk_at dksX5_readBoat_2 3 rfl rfl)
theorem dX5_readBoat_51 : decode cX5_readBoat 51 = .ok (.aload_n 0, 1) := dk_42 (dk_at dksX5_readBoat_2 4 rfl rfl)
theorem dX5_readBoat_52 : decode cX5_readBoat 52 = .ok (.getfield 20, 3) := dk_180 0 20 (dk_at dksX5_readBoat_2 5 rfl rfl)
theorem dX5_readBoat_55 : decode cX5_readBoat 55 = .ok (.iload_n 2, 1) := dk_28 (dk_at dksX5_readBoat_2 8 rfl rfl)
theorem dX5_readBoat_56 : decode cX5_readBoat 56 = .ok (.iconst 3, 1) := dk_6 (dk_at dksX5_readBoat_2 9 rfl rfl)
theorem dX5_readBoat_57 : decode cX5_readBoat 57 = .ok (.iadd, 1) := dk_96 (dk_at dksX5_readBoat_2 10 rfl rfl)
theorem dX5_readBoat_58 : decode cX5_readBoat 58 = .ok (.aload_n 0, 1) := dk_42 (dk_at dksX5_readBoat_2 11 rfl rfl)
theorem dX5_readBoat_59 : decode cX5_readBoat 59 = .ok (.iconst 0, 1) := dk_3 (dk_at dksX5_readBoat_2 12 rfl rfl)
theorem dX5_readBoat_60 : decode cX5_readBoat 60 = .ok (.bipush 9, 2) := dk_16 9 (dk_at dksX5_readBoat_2 13 rfl rfl)
theorem dX5_readBoat_62 : decode cX5_readBoat 62 = .ok (.invokevirtual 137, 3) := dk_182 0 137 (dk_at dksX5_readBoat_2 15 rfl rfl)
theorem dX5_readBoat_65 : decode cX5_readBoat 65 = .ok (.iastore, 1) := dk_79 (dk_at dksX5_readBoat_2 18 rfl rfl)
theorem dX5_readBoat_66 : decode cX5_readBoat 66 = .ok (.aload_n 0, 1) := dk_42 (dk_at dksX5_readBoat_2 19 rfl rfl)
theorem dX5_readBoat_67 : decode cX5_readBoat 67 = .ok (.getfield 20, 3) := dk_180 0 20 (dk_at dksX5_readBoat_2 20 rfl rfl)
theorem dX5_readBoat_70 : decode cX5_readBoat 70 = .ok (.iload_n 2, 1) := dk_28 (dk_at dksX5_readBoat_2 23 rfl rfl)
theorem dX5_readBoat_71 : decode cX5_readBoat 71 = .ok (.iconst 4, 1) := dk_7 (dk_at dksX5_readBoat_3 0 rfl rfl)
theorem dX5_readBoat_72 : decode cX5_readBoat 72 = .ok (.iadd, 1) := dk_96 (dk_at dksX5_readBoat_3 1 rfl rfl)
theorem dX5_readBoat_73 : decode cX5_readBoat 73 = .ok (.aload_n 0, 1) := dk_42 (dk_at dksX5_readBoat_3 2 rfl rfl)
theorem dX5_readBoat_74 : decode cX5_readBoat 74 = .ok (.iconst 0, 1) := dk_3 (dk_at dksX5_readBoat_3 3 rfl rfl)
theorem dX5_readBoat_75 : decode cX5_readBoat 75 = .ok (.bipush 9, 2) := dk_16 9 (dk_at dksX5_readBoat_3 4 rfl rfl)
theorem dX5_readBoat_77 : decode cX5_readBoat 77 = .ok (.invokevirtual 137, 3) := dk_182 0 137 (dk_at dksX5_readBoat_3 6 rfl rfl)
theorem dX5_readBoat_80 : decode cX5_readBoat 80 = .ok (.iastore, 1) := dk_79 (dk_at dksX5_readBoat_3 9 rfl rfl)
theorem dX5_readBoat_81 : decode cX5_readBoat 81 = .ok (.aload_n 0, 1) := dk_42 (dk_at dksX5_readBoat_3 10 rfl rfl)
theorem dX5_readBoat_82 : decode cX5_readBoat 82 = .ok (.dup, 1) := dk_89 (dk_at dksX5_readBoat_3 11 rfl rfl)
theorem dX5_readBoat_83 : decode cX5_readBoat 83 = .ok (.getfield 56, 3) := dk_180 0 56 (dk_at dksX5_readBoat_3 12 rfl rfl)
theorem dX5_readBoat_86 : decode cX5_readBoat 86 = .ok (.iconst 1, 1) := dk_4 (dk_at dksX5_readBoat_3 15 rfl rfl)
theorem dX5_readBoat_87 : decode cX5_readBoat 87 = .ok (.iadd, 1) := dk_96 (dk_at dksX5_readBoat_3 16 rfl rfl)
theorem dX5_readBoat_88 : decode cX5_readBoat 88 = .ok (.putfield 56, 3) := dk_181 0 56 (dk_at dksX5_readBoat_3 17 rfl rfl)
theorem dX5_readBoat_91 : decode cX5_readBoat 91 = .ok (.return_, 1) := dk_177 (dk_at dksX5_readBoat_3 20 rfl rfl)
abbrev cX5_cargoNow : ByteArray := prog_14_method_14_code
def yX5_cargoNow : MethodName := ⟨RX5, "cargoNow", "()I"⟩
def dkwX5_cargoNow_3 : List UInt8 := [153, 0, 7, 6, 167, 0, 5, 16, 252, 172]
abbrev dktX5_cargoNow_3 : List UInt8 := dkwX5_cargoNow_3 ++ []
def dkwX5_cargoNow_2 : List UInt8 := [182, 0, 97, 153, 0, 7, 5, 167, 0, 25, 42, 7, 16, 99, 16, 111, 16, 97, 16, 108, 182, 0, 97]
abbrev dktX5_cargoNow_2 : List UInt8 := dkwX5_cargoNow_2 ++ dktX5_cargoNow_3
def dkwX5_cargoNow_1 : List UInt8 := [16, 115, 16, 104, 182, 0, 97, 153, 0, 7, 4, 167, 0, 45, 42, 7, 16, 98, 16, 101, 16, 101, 16, 114]
abbrev dktX5_cargoNow_1 : List UInt8 := dkwX5_cargoNow_1 ++ dktX5_cargoNow_2
def dkwX5_cargoNow_0 : List UInt8 := [42, 7, 16, 109, 16, 97, 16, 105, 16, 108, 182, 0, 97, 153, 0, 5, 3, 172, 42, 7, 16, 102, 16, 105]
abbrev dktX5_cargoNow_0 : List UInt8 := dkwX5_cargoNow_0 ++ dktX5_cargoNow_1
theorem dksX5_cargoNow_0 : cX5_cargoNow.data.toList.drop 0 = dktX5_cargoNow_0 := by decide +kernel
theorem dksX5_cargoNow_1 : cX5_cargoNow.data.toList.drop 24 = dktX5_cargoNow_1 := dk_seg dksX5_cargoNow_0 24 rfl rfl
theorem dksX5_cargoNow_2 : cX5_cargoNow.data.toList.drop 48 = dktX5_cargoNow_2 := dk_seg dksX5_cargoNow_1 24 rfl rfl
theorem dksX5_cargoNow_3 : cX5_cargoNow.data.toList.drop 71 = dktX5_cargoNow_3 := dk_seg dksX5_cargoNow_2 23 rfl rfl
theorem dX5_cargoNow_0 : decode cX5_cargoNow 0 = .ok (.aload_n 0, 1) := dk_42 (dk_at dksX5_cargoNow_0 0 rfl rfl)
theorem dX5_cargoNow_1 : decode cX5_cargoNow 1 = .ok (.iconst 4, 1) := dk_7 (dk_at dksX5_cargoNow_0 1 rfl rfl)
theorem dX5_cargoNow_2 : decode cX5_cargoNow 2 = .ok (.bipush 109, 2) := dk_16 109 (dk_at dksX5_cargoNow_0 2 rfl rfl)
theorem dX5_cargoNow_4 : decode cX5_cargoNow 4 = .ok (.bipush 97, 2) := dk_16 97 (dk_at dksX5_cargoNow_0 4 rfl rfl)
theorem dX5_cargoNow_6 : decode cX5_cargoNow 6 = .ok (.bipush 105, 2) := dk_16 105 (dk_at dksX5_cargoNow_0 6 rfl rfl)
theorem dX5_cargoNow_8 : decode cX5_cargoNow 8 = .ok (.bipush 108, 2) := dk_16 108 (dk_at dksX5_cargoNow_0 8 rfl rfl)
theorem dX5_cargoNow_10 : decode cX5_cargoNow 10 = .ok (.invokevirtual 97, 3) := dk_182 0 97 (dk_at dksX5_cargoNow_0 10 rfl rfl)
theorem dX5_cargoNow_13 : decode cX5_cargoNow 13 = .ok (.ifCond .eq 5, 3) := dk_153 0 5 (dk_at dksX5_cargoNow_0 13 rfl rfl)
theorem dX5_cargoNow_16 : decode cX5_cargoNow 16 = .ok (.iconst 0, 1) := dk_3 (dk_at dksX5_cargoNow_0 16 rfl rfl)
theorem dX5_cargoNow_17 : decode cX5_cargoNow 17 = .ok (.ireturn, 1) := dk_172 (dk_at dksX5_cargoNow_0 17 rfl rfl)
theorem dX5_cargoNow_18 : decode cX5_cargoNow 18 = .ok (.aload_n 0, 1) := dk_42 (dk_at dksX5_cargoNow_0 18 rfl rfl)
theorem dX5_cargoNow_19 : decode cX5_cargoNow 19 = .ok (.iconst 4, 1) := dk_7 (dk_at dksX5_cargoNow_0 19 rfl rfl)
theorem dX5_cargoNow_20 : decode cX5_cargoNow 20 = .ok (.bipush 102, 2) := dk_16 102 (dk_at dksX5_cargoNow_0 20 rfl rfl)
theorem dX5_cargoNow_22 : decode cX5_cargoNow 22 = .ok (.bipush 105, 2) := dk_16 105 (dk_at dksX5_cargoNow_0 22 rfl rfl)
theorem dX5_cargoNow_24 : decode cX5_cargoNow 24 = .ok (.bipush 115, 2) := dk_16 115 (dk_at dksX5_cargoNow_1 0 rfl rfl)
theorem dX5_cargoNow_26 : decode cX5_cargoNow 26 = .ok (.bipush 104, 2) := dk_16 104 (dk_at dksX5_cargoNow_1 2 rfl rfl)
theorem dX5_cargoNow_28 : decode cX5_cargoNow 28 = .ok (.invokevirtual 97, 3) := dk_182 0 97 (dk_at dksX5_cargoNow_1 4 rfl rfl)
theorem dX5_cargoNow_31 : decode cX5_cargoNow 31 = .ok (.ifCond .eq 7, 3) := dk_153 0 7 (dk_at dksX5_cargoNow_1 7 rfl rfl)
theorem dX5_cargoNow_34 : decode cX5_cargoNow 34 = .ok (.iconst 1, 1) := dk_4 (dk_at dksX5_cargoNow_1 10 rfl rfl)
theorem dX5_cargoNow_35 : decode cX5_cargoNow 35 = .ok (.goto 45, 3) := dk_167 0 45 (dk_at dksX5_cargoNow_1 11 rfl rfl)
theorem dX5_cargoNow_38 : decode cX5_cargoNow 38 = .ok (.aload_n 0, 1) := dk_42 (dk_at dksX5_cargoNow_1 14 rfl rfl)
theorem dX5_cargoNow_39 : decode cX5_cargoNow 39 = .ok (.iconst 4, 1) := dk_7 (dk_at dksX5_cargoNow_1 15 rfl rfl)
theorem dX5_cargoNow_40 : decode cX5_cargoNow 40 = .ok (.bipush 98, 2) := dk_16 98 (dk_at dksX5_cargoNow_1 16 rfl rfl)
theorem dX5_cargoNow_42 : decode cX5_cargoNow 42 = .ok (.bipush 101, 2) := dk_16 101 (dk_at dksX5_cargoNow_1 18 rfl rfl)
theorem dX5_cargoNow_44 : decode cX5_cargoNow 44 = .ok (.bipush 101, 2) := dk_16 101 (dk_at dksX5_cargoNow_1 20 rfl rfl)
theorem dX5_cargoNow_46 : decode cX5_cargoNow 46 = .ok (.bipush 114, 2) := dk_16 114 (dk_at dksX5_cargoNow_1 22 rfl rfl)
theorem dX5_cargoNow_48 : decode cX5_cargoNow 48 = .ok (.invokevirtual 97, 3) := dk_182 0 97 (dk_at dksX5_cargoNow_2 0 rfl rfl)
theorem dX5_cargoNow_51 : decode cX5_cargoNow 51 = .ok (.ifCond .eq 7, 3) := dk_153 0 7 (dk_at dksX5_cargoNow_2 3 rfl rfl)
theorem dX5_cargoNow_54 : decode cX5_cargoNow 54 = .ok (.iconst 2, 1) := dk_5 (dk_at dksX5_cargoNow_2 6 rfl rfl)
theorem dX5_cargoNow_55 : decode cX5_cargoNow 55 = .ok (.goto 25, 3) := dk_167 0 25 (dk_at dksX5_cargoNow_2 7 rfl rfl)
theorem dX5_cargoNow_58 : decode cX5_cargoNow 58 = .ok (.aload_n 0, 1) := dk_42 (dk_at dksX5_cargoNow_2 10 rfl rfl)
theorem dX5_cargoNow_59 : decode cX5_cargoNow 59 = .ok (.iconst 4, 1) := dk_7 (dk_at dksX5_cargoNow_2 11 rfl rfl)
theorem dX5_cargoNow_60 : decode cX5_cargoNow 60 = .ok (.bipush 99, 2) := dk_16 99 (dk_at dksX5_cargoNow_2 12 rfl rfl)
theorem dX5_cargoNow_62 : decode cX5_cargoNow 62 = .ok (.bipush 111, 2) := dk_16 111 (dk_at dksX5_cargoNow_2 14 rfl rfl)
theorem dX5_cargoNow_64 : decode cX5_cargoNow 64 = .ok (.bipush 97, 2) := dk_16 97 (dk_at dksX5_cargoNow_2 16 rfl rfl)
theorem dX5_cargoNow_66 : decode cX5_cargoNow 66 = .ok (.bipush 108, 2) := dk_16 108 (dk_at dksX5_cargoNow_2 18 rfl rfl)
theorem dX5_cargoNow_68 : decode cX5_cargoNow 68 = .ok (.invokevirtual 97, 3) := dk_182 0 97 (dk_at dksX5_cargoNow_2 20 rfl rfl)
theorem dX5_cargoNow_71 : decode cX5_cargoNow 71 = .ok (.ifCond .eq 7, 3) := dk_153 0 7 (dk_at dksX5_cargoNow_3 0 rfl rfl)
theorem dX5_cargoNow_74 : decode cX5_cargoNow 74 = .ok (.iconst 3, 1) := dk_6 (dk_at dksX5_cargoNow_3 3 rfl rfl)
theorem dX5_cargoNow_75 : decode cX5_cargoNow 75 = .ok (.goto 5, 3) := dk_167 0 5 (dk_at dksX5_cargoNow_3 4 rfl rfl)
theorem dX5_cargoNow_78 : decode cX5_cargoNow 78 = .ok (.bipush (-4), 2) := dk_16 252 (dk_at dksX5_cargoNow_3 7 rfl rfl)
theorem dX5_cargoNow_80 : decode cX5_cargoNow 80 = .ok (.ireturn, 1) := dk_172 (dk_at dksX5_cargoNow_3 9 rfl rfl)
abbrev cX5_fault : ByteArray := prog_14_method_25_code
def yX5_fault : MethodName := ⟨RX5, "fault", "()I"⟩
theorem dX5_fault_0 : decode cX5_fault 0 = .ok (.aload_n 0, 1) := by decide +kernel
theorem dX5_fault_1 : decode cX5_fault 1 = .ok (.getfield 81, 3) := by decide +kernel
theorem dX5_fault_4 : decode cX5_fault 4 = .ok (.ireturn, 1) := by decide +kernel
abbrev cX5_rule : ByteArray := prog_14_method_49_code
def yX5_rule : MethodName := ⟨RX5, "rule", "(I)I"⟩
def dkwX5_rule_2 : List UInt8 := [172]
abbrev dktX5_rule_2 : List UInt8 := dkwX5_rule_2 ++ []
def dkwX5_rule_1 : List UInt8 := [160, 0, 10, 42, 180, 0, 69, 167, 0, 17, 27, 16, 7, 160, 0, 10, 42, 182, 0, 234, 167, 0, 4, 2]
abbrev dktX5_rule_1 : List UInt8 := dkwX5_rule_1 ++ dktX5_rule_2
def dkwX5_rule_0 : List UInt8 := [27, 133, 9, 20, 0, 155, 184, 0, 74, 153, 0, 12, 42, 180, 0, 7, 27, 46, 167, 0, 30, 27, 16, 6]
abbrev dktX5_rule_0 : List UInt8 := dkwX5_rule_0 ++ dktX5_rule_1
theorem dksX5_rule_0 : cX5_rule.data.toList.drop 0 = dktX5_rule_0 := by decide +kernel
theorem dksX5_rule_1 : cX5_rule.data.toList.drop 24 = dktX5_rule_1 := dk_seg dksX5_rule_0 24 rfl rfl
theorem dksX5_rule_2 : cX5_rule.data.toList.drop 48 = dktX5_rule_2 := dk_seg dksX5_rule_1 24 rfl rfl
theorem dX5_rule_0 : decode cX5_rule 0 = .ok (.iload_n 1, 1) := dk_27 (dk_at dksX5_rule_0 0 rfl rfl)
theorem dX5_rule_1 : decode cX5_rule 1 = .ok (.i2l, 1) := dk_133 (dk_at dksX5_rule_0 1 rfl rfl)
theorem dX5_rule_2 : decode cX5_rule 2 = .ok (.lconst 0, 1) := dk_9 (dk_at dksX5_rule_0 2 rfl rfl)
theorem dX5_rule_3 : decode cX5_rule 3 = .ok (.ldc2_w 155, 3) := dk_20 0 155 (dk_at dksX5_rule_0 3 rfl rfl)
theorem dX5_rule_6 : decode cX5_rule 6 = .ok (.invokestatic 74, 3) := dk_184 0 74 (dk_at dksX5_rule_0 6 rfl rfl)
theorem dX5_rule_9 : decode cX5_rule 9 = .ok (.ifCond .eq 12, 3) := dk_153 0 12 (dk_at dksX5_rule_0 9 rfl rfl)
theorem dX5_rule_12 : decode cX5_rule 12 = .ok (.aload_n 0, 1) := dk_42 (dk_at dksX5_rule_0 12 rfl rfl)
theorem dX5_rule_13 : decode cX5_rule 13 = .ok (.getfield 7, 3) := dk_180 0 7 (dk_at dksX5_rule_0 13 rfl rfl)
theorem dX5_rule_16 : decode cX5_rule 16 = .ok (.iload_n 1, 1) := dk_27 (dk_at dksX5_rule_0 16 rfl rfl)
theorem dX5_rule_17 : decode cX5_rule 17 = .ok (.iaload, 1) := dk_46 (dk_at dksX5_rule_0 17 rfl rfl)
theorem dX5_rule_18 : decode cX5_rule 18 = .ok (.goto 30, 3) := dk_167 0 30 (dk_at dksX5_rule_0 18 rfl rfl)
theorem dX5_rule_21 : decode cX5_rule 21 = .ok (.iload_n 1, 1) := dk_27 (dk_at dksX5_rule_0 21 rfl rfl)
theorem dX5_rule_22 : decode cX5_rule 22 = .ok (.bipush 6, 2) := dk_16 6 (dk_at dksX5_rule_0 22 rfl rfl)
theorem dX5_rule_24 : decode cX5_rule 24 = .ok (.if_icmp .ne 10, 3) := dk_160 0 10 (dk_at dksX5_rule_1 0 rfl rfl)
theorem dX5_rule_27 : decode cX5_rule 27 = .ok (.aload_n 0, 1) := dk_42 (dk_at dksX5_rule_1 3 rfl rfl)
theorem dX5_rule_28 : decode cX5_rule 28 = .ok (.getfield 69, 3) := dk_180 0 69 (dk_at dksX5_rule_1 4 rfl rfl)
theorem dX5_rule_31 : decode cX5_rule 31 = .ok (.goto 17, 3) := dk_167 0 17 (dk_at dksX5_rule_1 7 rfl rfl)
theorem dX5_rule_34 : decode cX5_rule 34 = .ok (.iload_n 1, 1) := dk_27 (dk_at dksX5_rule_1 10 rfl rfl)
theorem dX5_rule_35 : decode cX5_rule 35 = .ok (.bipush 7, 2) := dk_16 7 (dk_at dksX5_rule_1 11 rfl rfl)
theorem dX5_rule_37 : decode cX5_rule 37 = .ok (.if_icmp .ne 10, 3) := dk_160 0 10 (dk_at dksX5_rule_1 13 rfl rfl)
theorem dX5_rule_40 : decode cX5_rule 40 = .ok (.aload_n 0, 1) := dk_42 (dk_at dksX5_rule_1 16 rfl rfl)
theorem dX5_rule_41 : decode cX5_rule 41 = .ok (.invokevirtual 234, 3) := dk_182 0 234 (dk_at dksX5_rule_1 17 rfl rfl)
theorem dX5_rule_44 : decode cX5_rule 44 = .ok (.goto 4, 3) := dk_167 0 4 (dk_at dksX5_rule_1 20 rfl rfl)
theorem dX5_rule_47 : decode cX5_rule 47 = .ok (.iconst (-1), 1) := dk_2 (dk_at dksX5_rule_1 23 rfl rfl)
theorem dX5_rule_48 : decode cX5_rule 48 = .ok (.ireturn, 1) := dk_172 (dk_at dksX5_rule_2 0 rfl rfl)
abbrev cX5_liars : ByteArray := prog_14_method_48_code
def yX5_liars : MethodName := ⟨RX5, "liars", "()I"⟩
def dkwX5_liars_1 : List UInt8 := [8, 96, 46, 28, 120, 128, 60, 132, 2, 1, 167, 255, 226, 27, 172]
abbrev dktX5_liars_1 : List UInt8 := dkwX5_liars_1 ++ []
def dkwX5_liars_0 : List UInt8 := [3, 60, 3, 61, 28, 42, 180, 0, 69, 162, 0, 28, 27, 42, 180, 0, 7, 16, 6, 16, 6, 28, 104, 96]
abbrev dktX5_liars_0 : List UInt8 := dkwX5_liars_0 ++ dktX5_liars_1
theorem dksX5_liars_0 : cX5_liars.data.toList.drop 0 = dktX5_liars_0 := by decide +kernel
theorem dksX5_liars_1 : cX5_liars.data.toList.drop 24 = dktX5_liars_1 := dk_seg dksX5_liars_0 24 rfl rfl
theorem dX5_liars_0 : decode cX5_liars 0 = .ok (.iconst 0, 1) := dk_3 (dk_at dksX5_liars_0 0 rfl rfl)
theorem dX5_liars_1 : decode cX5_liars 1 = .ok (.istore_n 1, 1) := dk_60 (dk_at dksX5_liars_0 1 rfl rfl)
theorem dX5_liars_2 : decode cX5_liars 2 = .ok (.iconst 0, 1) := dk_3 (dk_at dksX5_liars_0 2 rfl rfl)
theorem dX5_liars_3 : decode cX5_liars 3 = .ok (.istore_n 2, 1) := dk_61 (dk_at dksX5_liars_0 3 rfl rfl)
theorem dX5_liars_4 : decode cX5_liars 4 = .ok (.iload_n 2, 1) := dk_28 (dk_at dksX5_liars_0 4 rfl rfl)
theorem dX5_liars_5 : decode cX5_liars 5 = .ok (.aload_n 0, 1) := dk_42 (dk_at dksX5_liars_0 5 rfl rfl)
theorem dX5_liars_6 : decode cX5_liars 6 = .ok (.getfield 69, 3) := dk_180 0 69 (dk_at dksX5_liars_0 6 rfl rfl)
theorem dX5_liars_9 : decode cX5_liars 9 = .ok (.if_icmp .ge 28, 3) := dk_162 0 28 (dk_at dksX5_liars_0 9 rfl rfl)
theorem dX5_liars_12 : decode cX5_liars 12 = .ok (.iload_n 1, 1) := dk_27 (dk_at dksX5_liars_0 12 rfl rfl)
theorem dX5_liars_13 : decode cX5_liars 13 = .ok (.aload_n 0, 1) := dk_42 (dk_at dksX5_liars_0 13 rfl rfl)
theorem dX5_liars_14 : decode cX5_liars 14 = .ok (.getfield 7, 3) := dk_180 0 7 (dk_at dksX5_liars_0 14 rfl rfl)
theorem dX5_liars_17 : decode cX5_liars 17 = .ok (.bipush 6, 2) := dk_16 6 (dk_at dksX5_liars_0 17 rfl rfl)
theorem dX5_liars_19 : decode cX5_liars 19 = .ok (.bipush 6, 2) := dk_16 6 (dk_at dksX5_liars_0 19 rfl rfl)
theorem dX5_liars_21 : decode cX5_liars 21 = .ok (.iload_n 2, 1) := dk_28 (dk_at dksX5_liars_0 21 rfl rfl)
theorem dX5_liars_22 : decode cX5_liars 22 = .ok (.imul, 1) := dk_104 (dk_at dksX5_liars_0 22 rfl rfl)
theorem dX5_liars_23 : decode cX5_liars 23 = .ok (.iadd, 1) := dk_96 (dk_at dksX5_liars_0 23 rfl rfl)
theorem dX5_liars_24 : decode cX5_liars 24 = .ok (.iconst 5, 1) := dk_8 (dk_at dksX5_liars_1 0 rfl rfl)
theorem dX5_liars_25 : decode cX5_liars 25 = .ok (.iadd, 1) := dk_96 (dk_at dksX5_liars_1 1 rfl rfl)
theorem dX5_liars_26 : decode cX5_liars 26 = .ok (.iaload, 1) := dk_46 (dk_at dksX5_liars_1 2 rfl rfl)
theorem dX5_liars_27 : decode cX5_liars 27 = .ok (.iload_n 2, 1) := dk_28 (dk_at dksX5_liars_1 3 rfl rfl)
theorem dX5_liars_28 : decode cX5_liars 28 = .ok (.ishl, 1) := dk_120 (dk_at dksX5_liars_1 4 rfl rfl)
theorem dX5_liars_29 : decode cX5_liars 29 = .ok (.ior, 1) := dk_128 (dk_at dksX5_liars_1 5 rfl rfl)
theorem dX5_liars_30 : decode cX5_liars 30 = .ok (.istore_n 1, 1) := dk_60 (dk_at dksX5_liars_1 6 rfl rfl)
theorem dX5_liars_31 : decode cX5_liars 31 = .ok (.iinc 2 1, 3) := dk_132 2 1 (dk_at dksX5_liars_1 7 rfl rfl)
theorem dX5_liars_34 : decode cX5_liars 34 = .ok (.goto (-30), 3) := dk_167 255 226 (dk_at dksX5_liars_1 10 rfl rfl)
theorem dX5_liars_37 : decode cX5_liars 37 = .ok (.iload_n 1, 1) := dk_27 (dk_at dksX5_liars_1 13 rfl rfl)
theorem dX5_liars_38 : decode cX5_liars 38 = .ok (.ireturn, 1) := dk_172 (dk_at dksX5_liars_1 14 rfl rfl)
abbrev cX5_boat : ByteArray := prog_14_method_50_code
def yX5_boat : MethodName := ⟨RX5, "boat", "(II)I"⟩
def dkwX5_boat_1 : List UInt8 := [182, 0, 228, 28, 16, 6, 162, 0, 12, 42, 27, 28, 182, 0, 166, 167, 0, 8, 42, 27, 182, 0, 207, 172]
abbrev dktX5_boat_1 : List UInt8 := dkwX5_boat_1 ++ []
def dkwX5_boat_0 : List UInt8 := [42, 27, 182, 0, 237, 153, 0, 15, 28, 133, 9, 20, 0, 240, 184, 0, 74, 154, 0, 5, 2, 172, 42]
abbrev dktX5_boat_0 : List UInt8 := dkwX5_boat_0 ++ dktX5_boat_1
theorem dksX5_boat_0 : cX5_boat.data.toList.drop 0 = dktX5_boat_0 := by decide +kernel
theorem dksX5_boat_1 : cX5_boat.data.toList.drop 23 = dktX5_boat_1 := dk_seg dksX5_boat_0 23 rfl rfl
theorem dX5_boat_0 : decode cX5_boat 0 = .ok (.aload_n 0, 1) := dk_42 (dk_at dksX5_boat_0 0 rfl rfl)
theorem dX5_boat_1 : decode cX5_boat 1 = .ok (.iload_n 1, 1) := dk_27 (dk_at dksX5_boat_0 1 rfl rfl)
theorem dX5_boat_2 : decode cX5_boat 2 = .ok (.invokevirtual 237, 3) := dk_182 0 237 (dk_at dksX5_boat_0 2 rfl rfl)
theorem dX5_boat_5 : decode cX5_boat 5 = .ok (.ifCond .eq 15, 3) := dk_153 0 15 (dk_at dksX5_boat_0 5 rfl rfl)
theorem dX5_boat_8 : decode cX5_boat 8 = .ok (.iload_n 2, 1) := dk_28 (dk_at dksX5_boat_0 8 rfl rfl)
theorem dX5_boat_9 : decode cX5_boat 9 = .ok (.i2l, 1) := dk_133 (dk_at dksX5_boat_0 9 rfl rfl)
theorem dX5_boat_10 : decode cX5_boat 10 = .ok (.lconst 0, 1) := dk_9 (dk_at dksX5_boat_0 10 rfl rfl)
theorem dX5_boat_11 : decode cX5_boat 11 = .ok (.ldc2_w 240, 3) := dk_20 0 240 (dk_at dksX5_boat_0 11 rfl rfl)
theorem dX5_boat_14 : decode cX5_boat 14 = .ok (.invokestatic 74, 3) := dk_184 0 74 (dk_at dksX5_boat_0 14 rfl rfl)
theorem dX5_boat_17 : decode cX5_boat 17 = .ok (.ifCond .ne 5, 3) := dk_154 0 5 (dk_at dksX5_boat_0 17 rfl rfl)
theorem dX5_boat_20 : decode cX5_boat 20 = .ok (.iconst (-1), 1) := dk_2 (dk_at dksX5_boat_0 20 rfl rfl)
theorem dX5_boat_21 : decode cX5_boat 21 = .ok (.ireturn, 1) := dk_172 (dk_at dksX5_boat_0 21 rfl rfl)
theorem dX5_boat_22 : decode cX5_boat 22 = .ok (.aload_n 0, 1) := dk_42 (dk_at dksX5_boat_0 22 rfl rfl)
theorem dX5_boat_23 : decode cX5_boat 23 = .ok (.invokevirtual 228, 3) := dk_182 0 228 (dk_at dksX5_boat_1 0 rfl rfl)
theorem dX5_boat_26 : decode cX5_boat 26 = .ok (.iload_n 2, 1) := dk_28 (dk_at dksX5_boat_1 3 rfl rfl)
theorem dX5_boat_27 : decode cX5_boat 27 = .ok (.bipush 6, 2) := dk_16 6 (dk_at dksX5_boat_1 4 rfl rfl)
theorem dX5_boat_29 : decode cX5_boat 29 = .ok (.if_icmp .ge 12, 3) := dk_162 0 12 (dk_at dksX5_boat_1 6 rfl rfl)
theorem dX5_boat_32 : decode cX5_boat 32 = .ok (.aload_n 0, 1) := dk_42 (dk_at dksX5_boat_1 9 rfl rfl)
theorem dX5_boat_33 : decode cX5_boat 33 = .ok (.iload_n 1, 1) := dk_27 (dk_at dksX5_boat_1 10 rfl rfl)
theorem dX5_boat_34 : decode cX5_boat 34 = .ok (.iload_n 2, 1) := dk_28 (dk_at dksX5_boat_1 11 rfl rfl)
theorem dX5_boat_35 : decode cX5_boat 35 = .ok (.invokevirtual 166, 3) := dk_182 0 166 (dk_at dksX5_boat_1 12 rfl rfl)
theorem dX5_boat_38 : decode cX5_boat 38 = .ok (.goto 8, 3) := dk_167 0 8 (dk_at dksX5_boat_1 15 rfl rfl)
theorem dX5_boat_41 : decode cX5_boat 41 = .ok (.aload_n 0, 1) := dk_42 (dk_at dksX5_boat_1 18 rfl rfl)
theorem dX5_boat_42 : decode cX5_boat 42 = .ok (.iload_n 1, 1) := dk_27 (dk_at dksX5_boat_1 19 rfl rfl)
theorem dX5_boat_43 : decode cX5_boat 43 = .ok (.invokevirtual 207, 3) := dk_182 0 207 (dk_at dksX5_boat_1 20 rfl rfl)
theorem dX5_boat_46 : decode cX5_boat 46 = .ok (.ireturn, 1) := dk_172 (dk_at dksX5_boat_1 23 rfl rfl)
abbrev cX5_isBoat : ByteArray := prog_14_method_26_code
def yX5_isBoat : MethodName := ⟨RX5, "isBoat", "(I)Z"⟩
def dkwX5_isBoat_0 : List UInt8 := [27, 133, 9, 42, 180, 0, 69, 4, 100, 133, 184, 0, 74, 172]
abbrev dktX5_isBoat_0 : List UInt8 := dkwX5_isBoat_0 ++ []
theorem dksX5_isBoat_0 : cX5_isBoat.data.toList.drop 0 = dktX5_isBoat_0 := by decide +kernel
theorem dX5_isBoat_0 : decode cX5_isBoat 0 = .ok (.iload_n 1, 1) := dk_27 (dk_at dksX5_isBoat_0 0 rfl rfl)
theorem dX5_isBoat_1 : decode cX5_isBoat 1 = .ok (.i2l, 1) := dk_133 (dk_at dksX5_isBoat_0 1 rfl rfl)
theorem dX5_isBoat_2 : decode cX5_isBoat 2 = .ok (.lconst 0, 1) := dk_9 (dk_at dksX5_isBoat_0 2 rfl rfl)
theorem dX5_isBoat_3 : decode cX5_isBoat 3 = .ok (.aload_n 0, 1) := dk_42 (dk_at dksX5_isBoat_0 3 rfl rfl)
theorem dX5_isBoat_4 : decode cX5_isBoat 4 = .ok (.getfield 69, 3) := dk_180 0 69 (dk_at dksX5_isBoat_0 4 rfl rfl)
theorem dX5_isBoat_7 : decode cX5_isBoat 7 = .ok (.iconst 1, 1) := dk_4 (dk_at dksX5_isBoat_0 7 rfl rfl)
theorem dX5_isBoat_8 : decode cX5_isBoat 8 = .ok (.isub, 1) := dk_100 (dk_at dksX5_isBoat_0 8 rfl rfl)
theorem dX5_isBoat_9 : decode cX5_isBoat 9 = .ok (.i2l, 1) := dk_133 (dk_at dksX5_isBoat_0 9 rfl rfl)
theorem dX5_isBoat_10 : decode cX5_isBoat 10 = .ok (.invokestatic 74, 3) := dk_184 0 74 (dk_at dksX5_isBoat_0 10 rfl rfl)
theorem dX5_isBoat_13 : decode cX5_isBoat 13 = .ok (.ireturn, 1) := dk_172 (dk_at dksX5_isBoat_0 13 rfl rfl)
abbrev cX5_starts : ByteArray := prog_14_method_28_code
def yX5_starts : MethodName := ⟨RX5, "starts", "()V"⟩
def dkwX5_starts_1 : List UInt8 := [167, 255, 235, 42, 3, 181, 0, 163, 177]
abbrev dktX5_starts_1 : List UInt8 := dkwX5_starts_1 ++ []
def dkwX5_starts_0 : List UInt8 := [3, 60, 27, 16, 55, 162, 0, 21, 42, 180, 0, 13, 27, 42, 180, 0, 7, 27, 46, 79, 132, 1, 1]
abbrev dktX5_starts_0 : List UInt8 := dkwX5_starts_0 ++ dktX5_starts_1
theorem dksX5_starts_0 : cX5_starts.data.toList.drop 0 = dktX5_starts_0 := by decide +kernel
theorem dksX5_starts_1 : cX5_starts.data.toList.drop 23 = dktX5_starts_1 := dk_seg dksX5_starts_0 23 rfl rfl
theorem dX5_starts_0 : decode cX5_starts 0 = .ok (.iconst 0, 1) := dk_3 (dk_at dksX5_starts_0 0 rfl rfl)
theorem dX5_starts_1 : decode cX5_starts 1 = .ok (.istore_n 1, 1) := dk_60 (dk_at dksX5_starts_0 1 rfl rfl)
theorem dX5_starts_2 : decode cX5_starts 2 = .ok (.iload_n 1, 1) := dk_27 (dk_at dksX5_starts_0 2 rfl rfl)
theorem dX5_starts_3 : decode cX5_starts 3 = .ok (.bipush 55, 2) := dk_16 55 (dk_at dksX5_starts_0 3 rfl rfl)
theorem dX5_starts_5 : decode cX5_starts 5 = .ok (.if_icmp .ge 21, 3) := dk_162 0 21 (dk_at dksX5_starts_0 5 rfl rfl)
theorem dX5_starts_8 : decode cX5_starts 8 = .ok (.aload_n 0, 1) := dk_42 (dk_at dksX5_starts_0 8 rfl rfl)
theorem dX5_starts_9 : decode cX5_starts 9 = .ok (.getfield 13, 3) := dk_180 0 13 (dk_at dksX5_starts_0 9 rfl rfl)
theorem dX5_starts_12 : decode cX5_starts 12 = .ok (.iload_n 1, 1) := dk_27 (dk_at dksX5_starts_0 12 rfl rfl)
theorem dX5_starts_13 : decode cX5_starts 13 = .ok (.aload_n 0, 1) := dk_42 (dk_at dksX5_starts_0 13 rfl rfl)
theorem dX5_starts_14 : decode cX5_starts 14 = .ok (.getfield 7, 3) := dk_180 0 7 (dk_at dksX5_starts_0 14 rfl rfl)
theorem dX5_starts_17 : decode cX5_starts 17 = .ok (.iload_n 1, 1) := dk_27 (dk_at dksX5_starts_0 17 rfl rfl)
theorem dX5_starts_18 : decode cX5_starts 18 = .ok (.iaload, 1) := dk_46 (dk_at dksX5_starts_0 18 rfl rfl)
theorem dX5_starts_19 : decode cX5_starts 19 = .ok (.iastore, 1) := dk_79 (dk_at dksX5_starts_0 19 rfl rfl)
theorem dX5_starts_20 : decode cX5_starts 20 = .ok (.iinc 1 1, 3) := dk_132 1 1 (dk_at dksX5_starts_0 20 rfl rfl)
theorem dX5_starts_23 : decode cX5_starts 23 = .ok (.goto (-21), 3) := dk_167 255 235 (dk_at dksX5_starts_1 0 rfl rfl)
theorem dX5_starts_26 : decode cX5_starts 26 = .ok (.aload_n 0, 1) := dk_42 (dk_at dksX5_starts_1 3 rfl rfl)
theorem dX5_starts_27 : decode cX5_starts 27 = .ok (.iconst 0, 1) := dk_3 (dk_at dksX5_starts_1 4 rfl rfl)
theorem dX5_starts_28 : decode cX5_starts 28 = .ok (.putfield 163, 3) := dk_181 0 163 (dk_at dksX5_starts_1 5 rfl rfl)
theorem dX5_starts_31 : decode cX5_starts 31 = .ok (.return_, 1) := dk_177 (dk_at dksX5_starts_1 8 rfl rfl)
abbrev cX5_of : ByteArray := prog_14_method_29_code
def yX5_of : MethodName := ⟨RX5, "of", "(II)I"⟩
def dkwX5_of_0 : List UInt8 := [42, 180, 0, 13, 16, 6, 16, 6, 27, 104, 96, 28, 96, 46, 172]
abbrev dktX5_of_0 : List UInt8 := dkwX5_of_0 ++ []
theorem dksX5_of_0 : cX5_of.data.toList.drop 0 = dktX5_of_0 := by decide +kernel
theorem dX5_of_0 : decode cX5_of 0 = .ok (.aload_n 0, 1) := dk_42 (dk_at dksX5_of_0 0 rfl rfl)
theorem dX5_of_1 : decode cX5_of 1 = .ok (.getfield 13, 3) := dk_180 0 13 (dk_at dksX5_of_0 1 rfl rfl)
theorem dX5_of_4 : decode cX5_of 4 = .ok (.bipush 6, 2) := dk_16 6 (dk_at dksX5_of_0 4 rfl rfl)
theorem dX5_of_6 : decode cX5_of 6 = .ok (.bipush 6, 2) := dk_16 6 (dk_at dksX5_of_0 6 rfl rfl)
theorem dX5_of_8 : decode cX5_of 8 = .ok (.iload_n 1, 1) := dk_27 (dk_at dksX5_of_0 8 rfl rfl)
theorem dX5_of_9 : decode cX5_of 9 = .ok (.imul, 1) := dk_104 (dk_at dksX5_of_0 9 rfl rfl)
theorem dX5_of_10 : decode cX5_of 10 = .ok (.iadd, 1) := dk_96 (dk_at dksX5_of_0 10 rfl rfl)
theorem dX5_of_11 : decode cX5_of 11 = .ok (.iload_n 2, 1) := dk_28 (dk_at dksX5_of_0 11 rfl rfl)
theorem dX5_of_12 : decode cX5_of 12 = .ok (.iadd, 1) := dk_96 (dk_at dksX5_of_0 12 rfl rfl)
theorem dX5_of_13 : decode cX5_of 13 = .ok (.iaload, 1) := dk_46 (dk_at dksX5_of_0 13 rfl rfl)
theorem dX5_of_14 : decode cX5_of 14 = .ok (.ireturn, 1) := dk_172 (dk_at dksX5_of_0 14 rfl rfl)
abbrev cX5_countsFrom : ByteArray := prog_14_method_31_code
def yX5_countsFrom : MethodName := ⟨RX5, "countsFrom", "(I)I"⟩
def dkwX5_countsFrom_2 : List UInt8 := [182, 0, 166, 167, 0, 9, 42, 180, 0, 13, 7, 46, 100, 62, 29, 158, 0, 7, 29, 167, 0, 4, 3, 172]
abbrev dktX5_countsFrom_2 : List UInt8 := dkwX5_countsFrom_2 ++ []
def dkwX5_countsFrom_1 : List UInt8 := [164, 0, 7, 4, 167, 0, 4, 3, 61, 42, 27, 5, 182, 0, 166, 28, 153, 0, 12, 42, 27, 7]
abbrev dktX5_countsFrom_1 : List UInt8 := dkwX5_countsFrom_1 ++ dktX5_countsFrom_2
def dkwX5_countsFrom_0 : List UInt8 := [42, 180, 0, 13, 8, 46, 4, 160, 0, 22, 42, 27, 7, 182, 0, 166, 42, 180, 0, 13, 7, 46]
abbrev dktX5_countsFrom_0 : List UInt8 := dkwX5_countsFrom_0 ++ dktX5_countsFrom_1
theorem dksX5_countsFrom_0 : cX5_countsFrom.data.toList.drop 0 = dktX5_countsFrom_0 := by decide +kernel
theorem dksX5_countsFrom_1 : cX5_countsFrom.data.toList.drop 22 = dktX5_countsFrom_1 := dk_seg dksX5_countsFrom_0 22 rfl rfl
theorem dksX5_countsFrom_2 : cX5_countsFrom.data.toList.drop 44 = dktX5_countsFrom_2 := dk_seg dksX5_countsFrom_1 22 rfl rfl
theorem dX5_countsFrom_0 : decode cX5_countsFrom 0 = .ok (.aload_n 0, 1) := dk_42 (dk_at dksX5_countsFrom_0 0 rfl rfl)
theorem dX5_countsFrom_1 : decode cX5_countsFrom 1 = .ok (.getfield 13, 3) := dk_180 0 13 (dk_at dksX5_countsFrom_0 1 rfl rfl)
theorem dX5_countsFrom_4 : decode cX5_countsFrom 4 = .ok (.iconst 5, 1) := dk_8 (dk_at dksX5_countsFrom_0 4 rfl rfl)
theorem dX5_countsFrom_5 : decode cX5_countsFrom 5 = .ok (.iaload, 1) := dk_46 (dk_at dksX5_countsFrom_0 5 rfl rfl)
theorem dX5_countsFrom_6 : decode cX5_countsFrom 6 = .ok (.iconst 1, 1) := dk_4 (dk_at dksX5_countsFrom_0 6 rfl rfl)
theorem dX5_countsFrom_7 : decode cX5_countsFrom 7 = .ok (.if_icmp .ne 22, 3) := dk_160 0 22 (dk_at dksX5_countsFrom_0 7 rfl rfl)
theorem dX5_countsFrom_10 : decode cX5_countsFrom 10 = .ok (.aload_n 0, 1) := dk_42 (dk_at dksX5_countsFrom_0 10 rfl rfl)
theorem dX5_countsFrom_11 : decode cX5_countsFrom 11 = .ok (.iload_n 1, 1) := dk_27 (dk_at dksX5_countsFrom_0 11 rfl rfl)
theorem dX5_countsFrom_12 : decode cX5_countsFrom 12 = .ok (.iconst 4, 1) := dk_7 (dk_at dksX5_countsFrom_0 12 rfl rfl)
theorem dX5_countsFrom_13 : decode cX5_countsFrom 13 = .ok (.invokevirtual 166, 3) := dk_182 0 166 (dk_at dksX5_countsFrom_0 13 rfl rfl)
theorem dX5_countsFrom_16 : decode cX5_countsFrom 16 = .ok (.aload_n 0, 1) := dk_42 (dk_at dksX5_countsFrom_0 16 rfl rfl)
theorem dX5_countsFrom_17 : decode cX5_countsFrom 17 = .ok (.getfield 13, 3) := dk_180 0 13 (dk_at dksX5_countsFrom_0 17 rfl rfl)
theorem dX5_countsFrom_20 : decode cX5_countsFrom 20 = .ok (.iconst 4, 1) := dk_7 (dk_at dksX5_countsFrom_0 20 rfl rfl)
theorem dX5_countsFrom_21 : decode cX5_countsFrom 21 = .ok (.iaload, 1) := dk_46 (dk_at dksX5_countsFrom_0 21 rfl rfl)
theorem dX5_countsFrom_22 : decode cX5_countsFrom 22 = .ok (.if_icmp .le 7, 3) := dk_164 0 7 (dk_at dksX5_countsFrom_1 0 rfl rfl)
theorem dX5_countsFrom_25 : decode cX5_countsFrom 25 = .ok (.iconst 1, 1) := dk_4 (dk_at dksX5_countsFrom_1 3 rfl rfl)
theorem dX5_countsFrom_26 : decode cX5_countsFrom 26 = .ok (.goto 4, 3) := dk_167 0 4 (dk_at dksX5_countsFrom_1 4 rfl rfl)
theorem dX5_countsFrom_29 : decode cX5_countsFrom 29 = .ok (.iconst 0, 1) := dk_3 (dk_at dksX5_countsFrom_1 7 rfl rfl)
theorem dX5_countsFrom_30 : decode cX5_countsFrom 30 = .ok (.istore_n 2, 1) := dk_61 (dk_at dksX5_countsFrom_1 8 rfl rfl)
theorem dX5_countsFrom_31 : decode cX5_countsFrom 31 = .ok (.aload_n 0, 1) := dk_42 (dk_at dksX5_countsFrom_1 9 rfl rfl)
theorem dX5_countsFrom_32 : decode cX5_countsFrom 32 = .ok (.iload_n 1, 1) := dk_27 (dk_at dksX5_countsFrom_1 10 rfl rfl)
theorem dX5_countsFrom_33 : decode cX5_countsFrom 33 = .ok (.iconst 2, 1) := dk_5 (dk_at dksX5_countsFrom_1 11 rfl rfl)
theorem dX5_countsFrom_34 : decode cX5_countsFrom 34 = .ok (.invokevirtual 166, 3) := dk_182 0 166 (dk_at dksX5_countsFrom_1 12 rfl rfl)
theorem dX5_countsFrom_37 : decode cX5_countsFrom 37 = .ok (.iload_n 2, 1) := dk_28 (dk_at dksX5_countsFrom_1 15 rfl rfl)
theorem dX5_countsFrom_38 : decode cX5_countsFrom 38 = .ok (.ifCond .eq 12, 3) := dk_153 0 12 (dk_at dksX5_countsFrom_1 16 rfl rfl)
theorem dX5_countsFrom_41 : decode cX5_countsFrom 41 = .ok (.aload_n 0, 1) := dk_42 (dk_at dksX5_countsFrom_1 19 rfl rfl)
theorem dX5_countsFrom_42 : decode cX5_countsFrom 42 = .ok (.iload_n 1, 1) := dk_27 (dk_at dksX5_countsFrom_1 20 rfl rfl)
theorem dX5_countsFrom_43 : decode cX5_countsFrom 43 = .ok (.iconst 4, 1) := dk_7 (dk_at dksX5_countsFrom_1 21 rfl rfl)
theorem dX5_countsFrom_44 : decode cX5_countsFrom 44 = .ok (.invokevirtual 166, 3) := dk_182 0 166 (dk_at dksX5_countsFrom_2 0 rfl rfl)
theorem dX5_countsFrom_47 : decode cX5_countsFrom 47 = .ok (.goto 9, 3) := dk_167 0 9 (dk_at dksX5_countsFrom_2 3 rfl rfl)
theorem dX5_countsFrom_50 : decode cX5_countsFrom 50 = .ok (.aload_n 0, 1) := dk_42 (dk_at dksX5_countsFrom_2 6 rfl rfl)
theorem dX5_countsFrom_51 : decode cX5_countsFrom 51 = .ok (.getfield 13, 3) := dk_180 0 13 (dk_at dksX5_countsFrom_2 7 rfl rfl)
theorem dX5_countsFrom_54 : decode cX5_countsFrom 54 = .ok (.iconst 4, 1) := dk_7 (dk_at dksX5_countsFrom_2 10 rfl rfl)
theorem dX5_countsFrom_55 : decode cX5_countsFrom 55 = .ok (.iaload, 1) := dk_46 (dk_at dksX5_countsFrom_2 11 rfl rfl)
theorem dX5_countsFrom_56 : decode cX5_countsFrom 56 = .ok (.isub, 1) := dk_100 (dk_at dksX5_countsFrom_2 12 rfl rfl)
theorem dX5_countsFrom_57 : decode cX5_countsFrom 57 = .ok (.istore_n 3, 1) := dk_62 (dk_at dksX5_countsFrom_2 13 rfl rfl)
theorem dX5_countsFrom_58 : decode cX5_countsFrom 58 = .ok (.iload_n 3, 1) := dk_29 (dk_at dksX5_countsFrom_2 14 rfl rfl)
theorem dX5_countsFrom_59 : decode cX5_countsFrom 59 = .ok (.ifCond .le 7, 3) := dk_158 0 7 (dk_at dksX5_countsFrom_2 15 rfl rfl)
theorem dX5_countsFrom_62 : decode cX5_countsFrom 62 = .ok (.iload_n 3, 1) := dk_29 (dk_at dksX5_countsFrom_2 18 rfl rfl)
theorem dX5_countsFrom_63 : decode cX5_countsFrom 63 = .ok (.goto 4, 3) := dk_167 0 4 (dk_at dksX5_countsFrom_2 19 rfl rfl)
theorem dX5_countsFrom_66 : decode cX5_countsFrom 66 = .ok (.iconst 0, 1) := dk_3 (dk_at dksX5_countsFrom_2 22 rfl rfl)
theorem dX5_countsFrom_67 : decode cX5_countsFrom 67 = .ok (.ireturn, 1) := dk_172 (dk_at dksX5_countsFrom_2 23 rfl rfl)
abbrev cX5_set : ByteArray := prog_14_method_53_code
def yX5_set : MethodName := ⟨RX5, "set", "(II)I"⟩
def dkwX5_set_1 : List UInt8 := [184, 0, 242, 133, 184, 0, 74, 153, 0, 12, 42, 27, 28, 182, 0, 245, 167, 0, 4, 2, 172]
abbrev dktX5_set_1 : List UInt8 := dkwX5_set_1 ++ []
def dkwX5_set_0 : List UInt8 := [27, 133, 9, 20, 0, 155, 184, 0, 74, 153, 0, 34, 28, 133, 27, 154, 0, 7, 10, 167, 0, 4, 9, 27]
abbrev dktX5_set_0 : List UInt8 := dkwX5_set_0 ++ dktX5_set_1
theorem dksX5_set_0 : cX5_set.data.toList.drop 0 = dktX5_set_0 := by decide +kernel
theorem dksX5_set_1 : cX5_set.data.toList.drop 24 = dktX5_set_1 := dk_seg dksX5_set_0 24 rfl rfl
theorem dX5_set_0 : decode cX5_set 0 = .ok (.iload_n 1, 1) := dk_27 (dk_at dksX5_set_0 0 rfl rfl)
theorem dX5_set_1 : decode cX5_set 1 = .ok (.i2l, 1) := dk_133 (dk_at dksX5_set_0 1 rfl rfl)
theorem dX5_set_2 : decode cX5_set 2 = .ok (.lconst 0, 1) := dk_9 (dk_at dksX5_set_0 2 rfl rfl)
theorem dX5_set_3 : decode cX5_set 3 = .ok (.ldc2_w 155, 3) := dk_20 0 155 (dk_at dksX5_set_0 3 rfl rfl)
theorem dX5_set_6 : decode cX5_set 6 = .ok (.invokestatic 74, 3) := dk_184 0 74 (dk_at dksX5_set_0 6 rfl rfl)
theorem dX5_set_9 : decode cX5_set 9 = .ok (.ifCond .eq 34, 3) := dk_153 0 34 (dk_at dksX5_set_0 9 rfl rfl)
theorem dX5_set_12 : decode cX5_set 12 = .ok (.iload_n 2, 1) := dk_28 (dk_at dksX5_set_0 12 rfl rfl)
theorem dX5_set_13 : decode cX5_set 13 = .ok (.i2l, 1) := dk_133 (dk_at dksX5_set_0 13 rfl rfl)
theorem dX5_set_14 : decode cX5_set 14 = .ok (.iload_n 1, 1) := dk_27 (dk_at dksX5_set_0 14 rfl rfl)
theorem dX5_set_15 : decode cX5_set 15 = .ok (.ifCond .ne 7, 3) := dk_154 0 7 (dk_at dksX5_set_0 15 rfl rfl)
theorem dX5_set_18 : decode cX5_set 18 = .ok (.lconst 1, 1) := dk_10 (dk_at dksX5_set_0 18 rfl rfl)
theorem dX5_set_19 : decode cX5_set 19 = .ok (.goto 4, 3) := dk_167 0 4 (dk_at dksX5_set_0 19 rfl rfl)
theorem dX5_set_22 : decode cX5_set 22 = .ok (.lconst 0, 1) := dk_9 (dk_at dksX5_set_0 22 rfl rfl)
theorem dX5_set_23 : decode cX5_set 23 = .ok (.iload_n 1, 1) := dk_27 (dk_at dksX5_set_0 23 rfl rfl)
theorem dX5_set_24 : decode cX5_set 24 = .ok (.invokestatic 242, 3) := dk_184 0 242 (dk_at dksX5_set_1 0 rfl rfl)
theorem dX5_set_27 : decode cX5_set 27 = .ok (.i2l, 1) := dk_133 (dk_at dksX5_set_1 3 rfl rfl)
theorem dX5_set_28 : decode cX5_set 28 = .ok (.invokestatic 74, 3) := dk_184 0 74 (dk_at dksX5_set_1 4 rfl rfl)
theorem dX5_set_31 : decode cX5_set 31 = .ok (.ifCond .eq 12, 3) := dk_153 0 12 (dk_at dksX5_set_1 7 rfl rfl)
theorem dX5_set_34 : decode cX5_set 34 = .ok (.aload_n 0, 1) := dk_42 (dk_at dksX5_set_1 10 rfl rfl)
theorem dX5_set_35 : decode cX5_set 35 = .ok (.iload_n 1, 1) := dk_27 (dk_at dksX5_set_1 11 rfl rfl)
theorem dX5_set_36 : decode cX5_set 36 = .ok (.iload_n 2, 1) := dk_28 (dk_at dksX5_set_1 12 rfl rfl)
theorem dX5_set_37 : decode cX5_set 37 = .ok (.invokevirtual 245, 3) := dk_182 0 245 (dk_at dksX5_set_1 13 rfl rfl)
theorem dX5_set_40 : decode cX5_set 40 = .ok (.goto 4, 3) := dk_167 0 4 (dk_at dksX5_set_1 16 rfl rfl)
theorem dX5_set_43 : decode cX5_set 43 = .ok (.iconst (-1), 1) := dk_2 (dk_at dksX5_set_1 19 rfl rfl)
theorem dX5_set_44 : decode cX5_set 44 = .ok (.ireturn, 1) := dk_172 (dk_at dksX5_set_1 20 rfl rfl)
abbrev cX5_mostOf : ByteArray := prog_14_method_52_code
def yX5_mostOf : MethodName := ⟨RX5, "mostOf", "(I)I"⟩
def dkwX5_mostOf_1 : List UInt8 := [16, 9, 172]
abbrev dktX5_mostOf_1 : List UInt8 := dkwX5_mostOf_1 ++ []
def dkwX5_mostOf_0 : List UInt8 := [26, 5, 159, 0, 8, 26, 8, 160, 0, 7, 4, 167, 0, 14, 26, 6, 160, 0, 7, 7, 167, 0, 5]
abbrev dktX5_mostOf_0 : List UInt8 := dkwX5_mostOf_0 ++ dktX5_mostOf_1
theorem dksX5_mostOf_0 : cX5_mostOf.data.toList.drop 0 = dktX5_mostOf_0 := by decide +kernel
theorem dksX5_mostOf_1 : cX5_mostOf.data.toList.drop 23 = dktX5_mostOf_1 := dk_seg dksX5_mostOf_0 23 rfl rfl
theorem dX5_mostOf_0 : decode cX5_mostOf 0 = .ok (.iload_n 0, 1) := dk_26 (dk_at dksX5_mostOf_0 0 rfl rfl)
theorem dX5_mostOf_1 : decode cX5_mostOf 1 = .ok (.iconst 2, 1) := dk_5 (dk_at dksX5_mostOf_0 1 rfl rfl)
theorem dX5_mostOf_2 : decode cX5_mostOf 2 = .ok (.if_icmp .eq 8, 3) := dk_159 0 8 (dk_at dksX5_mostOf_0 2 rfl rfl)
theorem dX5_mostOf_5 : decode cX5_mostOf 5 = .ok (.iload_n 0, 1) := dk_26 (dk_at dksX5_mostOf_0 5 rfl rfl)
theorem dX5_mostOf_6 : decode cX5_mostOf 6 = .ok (.iconst 5, 1) := dk_8 (dk_at dksX5_mostOf_0 6 rfl rfl)
theorem dX5_mostOf_7 : decode cX5_mostOf 7 = .ok (.if_icmp .ne 7, 3) := dk_160 0 7 (dk_at dksX5_mostOf_0 7 rfl rfl)
theorem dX5_mostOf_10 : decode cX5_mostOf 10 = .ok (.iconst 1, 1) := dk_4 (dk_at dksX5_mostOf_0 10 rfl rfl)
theorem dX5_mostOf_11 : decode cX5_mostOf 11 = .ok (.goto 14, 3) := dk_167 0 14 (dk_at dksX5_mostOf_0 11 rfl rfl)
theorem dX5_mostOf_14 : decode cX5_mostOf 14 = .ok (.iload_n 0, 1) := dk_26 (dk_at dksX5_mostOf_0 14 rfl rfl)
theorem dX5_mostOf_15 : decode cX5_mostOf 15 = .ok (.iconst 3, 1) := dk_6 (dk_at dksX5_mostOf_0 15 rfl rfl)
theorem dX5_mostOf_16 : decode cX5_mostOf 16 = .ok (.if_icmp .ne 7, 3) := dk_160 0 7 (dk_at dksX5_mostOf_0 16 rfl rfl)
theorem dX5_mostOf_19 : decode cX5_mostOf 19 = .ok (.iconst 4, 1) := dk_7 (dk_at dksX5_mostOf_0 19 rfl rfl)
theorem dX5_mostOf_20 : decode cX5_mostOf 20 = .ok (.goto 5, 3) := dk_167 0 5 (dk_at dksX5_mostOf_0 20 rfl rfl)
theorem dX5_mostOf_23 : decode cX5_mostOf 23 = .ok (.bipush 9, 2) := dk_16 9 (dk_at dksX5_mostOf_1 0 rfl rfl)
theorem dX5_mostOf_25 : decode cX5_mostOf 25 = .ok (.ireturn, 1) := dk_172 (dk_at dksX5_mostOf_1 2 rfl rfl)
abbrev cX5_becomes : ByteArray := prog_14_method_51_code
def yX5_becomes : MethodName := ⟨RX5, "becomes", "(II)I"⟩
def dkwX5_becomes_0 : List UInt8 := [42, 180, 0, 7, 27, 46, 62, 42, 180, 0, 7, 27, 28, 79, 29, 172]
abbrev dktX5_becomes_0 : List UInt8 := dkwX5_becomes_0 ++ []
theorem dksX5_becomes_0 : cX5_becomes.data.toList.drop 0 = dktX5_becomes_0 := by decide +kernel
theorem dX5_becomes_0 : decode cX5_becomes 0 = .ok (.aload_n 0, 1) := dk_42 (dk_at dksX5_becomes_0 0 rfl rfl)
theorem dX5_becomes_1 : decode cX5_becomes 1 = .ok (.getfield 7, 3) := dk_180 0 7 (dk_at dksX5_becomes_0 1 rfl rfl)
theorem dX5_becomes_4 : decode cX5_becomes 4 = .ok (.iload_n 1, 1) := dk_27 (dk_at dksX5_becomes_0 4 rfl rfl)
theorem dX5_becomes_5 : decode cX5_becomes 5 = .ok (.iaload, 1) := dk_46 (dk_at dksX5_becomes_0 5 rfl rfl)
theorem dX5_becomes_6 : decode cX5_becomes 6 = .ok (.istore_n 3, 1) := dk_62 (dk_at dksX5_becomes_0 6 rfl rfl)
theorem dX5_becomes_7 : decode cX5_becomes 7 = .ok (.aload_n 0, 1) := dk_42 (dk_at dksX5_becomes_0 7 rfl rfl)
theorem dX5_becomes_8 : decode cX5_becomes 8 = .ok (.getfield 7, 3) := dk_180 0 7 (dk_at dksX5_becomes_0 8 rfl rfl)
theorem dX5_becomes_11 : decode cX5_becomes 11 = .ok (.iload_n 1, 1) := dk_27 (dk_at dksX5_becomes_0 11 rfl rfl)
theorem dX5_becomes_12 : decode cX5_becomes 12 = .ok (.iload_n 2, 1) := dk_28 (dk_at dksX5_becomes_0 12 rfl rfl)
theorem dX5_becomes_13 : decode cX5_becomes 13 = .ok (.iastore, 1) := dk_79 (dk_at dksX5_becomes_0 13 rfl rfl)
theorem dX5_becomes_14 : decode cX5_becomes 14 = .ok (.iload_n 3, 1) := dk_29 (dk_at dksX5_becomes_0 14 rfl rfl)
theorem dX5_becomes_15 : decode cX5_becomes 15 = .ok (.ireturn, 1) := dk_172 (dk_at dksX5_becomes_0 15 rfl rfl)
abbrev cX5_alter : ByteArray := prog_14_method_54_code
def yX5_alter : MethodName := ⟨RX5, "alter", "(III)I"⟩
def dkwX5_alter_2 : List UInt8 := [184, 0, 74, 154, 0, 5, 2, 172, 42, 16, 6, 16, 6, 27, 104, 96, 28, 96, 29, 182, 0, 245, 172]
abbrev dktX5_alter_2 : List UInt8 := dkwX5_alter_2 ++ []
def dkwX5_alter_1 : List UInt8 := [4, 160, 0, 9, 20, 0, 250, 167, 0, 17, 28, 5, 160, 0, 9, 20, 0, 252, 167, 0, 6, 20, 0, 254]
abbrev dktX5_alter_1 : List UInt8 := dkwX5_alter_1 ++ dktX5_alter_2
def dkwX5_alter_0 : List UInt8 := [42, 27, 182, 0, 237, 153, 0, 49, 28, 133, 10, 20, 0, 248, 184, 0, 74, 153, 0, 37, 29, 133, 9, 28]
abbrev dktX5_alter_0 : List UInt8 := dkwX5_alter_0 ++ dktX5_alter_1
theorem dksX5_alter_0 : cX5_alter.data.toList.drop 0 = dktX5_alter_0 := by decide +kernel
theorem dksX5_alter_1 : cX5_alter.data.toList.drop 24 = dktX5_alter_1 := dk_seg dksX5_alter_0 24 rfl rfl
theorem dksX5_alter_2 : cX5_alter.data.toList.drop 48 = dktX5_alter_2 := dk_seg dksX5_alter_1 24 rfl rfl
theorem dX5_alter_0 : decode cX5_alter 0 = .ok (.aload_n 0, 1) := dk_42 (dk_at dksX5_alter_0 0 rfl rfl)
theorem dX5_alter_1 : decode cX5_alter 1 = .ok (.iload_n 1, 1) := dk_27 (dk_at dksX5_alter_0 1 rfl rfl)
theorem dX5_alter_2 : decode cX5_alter 2 = .ok (.invokevirtual 237, 3) := dk_182 0 237 (dk_at dksX5_alter_0 2 rfl rfl)
theorem dX5_alter_5 : decode cX5_alter 5 = .ok (.ifCond .eq 49, 3) := dk_153 0 49 (dk_at dksX5_alter_0 5 rfl rfl)
theorem dX5_alter_8 : decode cX5_alter 8 = .ok (.iload_n 2, 1) := dk_28 (dk_at dksX5_alter_0 8 rfl rfl)
theorem dX5_alter_9 : decode cX5_alter 9 = .ok (.i2l, 1) := dk_133 (dk_at dksX5_alter_0 9 rfl rfl)
theorem dX5_alter_10 : decode cX5_alter 10 = .ok (.lconst 1, 1) := dk_10 (dk_at dksX5_alter_0 10 rfl rfl)
theorem dX5_alter_11 : decode cX5_alter 11 = .ok (.ldc2_w 248, 3) := dk_20 0 248 (dk_at dksX5_alter_0 11 rfl rfl)
theorem dX5_alter_14 : decode cX5_alter 14 = .ok (.invokestatic 74, 3) := dk_184 0 74 (dk_at dksX5_alter_0 14 rfl rfl)
theorem dX5_alter_17 : decode cX5_alter 17 = .ok (.ifCond .eq 37, 3) := dk_153 0 37 (dk_at dksX5_alter_0 17 rfl rfl)
theorem dX5_alter_20 : decode cX5_alter 20 = .ok (.iload_n 3, 1) := dk_29 (dk_at dksX5_alter_0 20 rfl rfl)
theorem dX5_alter_21 : decode cX5_alter 21 = .ok (.i2l, 1) := dk_133 (dk_at dksX5_alter_0 21 rfl rfl)
theorem dX5_alter_22 : decode cX5_alter 22 = .ok (.lconst 0, 1) := dk_9 (dk_at dksX5_alter_0 22 rfl rfl)
theorem dX5_alter_23 : decode cX5_alter 23 = .ok (.iload_n 2, 1) := dk_28 (dk_at dksX5_alter_0 23 rfl rfl)
theorem dX5_alter_24 : decode cX5_alter 24 = .ok (.iconst 1, 1) := dk_4 (dk_at dksX5_alter_1 0 rfl rfl)
theorem dX5_alter_25 : decode cX5_alter 25 = .ok (.if_icmp .ne 9, 3) := dk_160 0 9 (dk_at dksX5_alter_1 1 rfl rfl)
theorem dX5_alter_28 : decode cX5_alter 28 = .ok (.ldc2_w 250, 3) := dk_20 0 250 (dk_at dksX5_alter_1 4 rfl rfl)
theorem dX5_alter_31 : decode cX5_alter 31 = .ok (.goto 17, 3) := dk_167 0 17 (dk_at dksX5_alter_1 7 rfl rfl)
theorem dX5_alter_34 : decode cX5_alter 34 = .ok (.iload_n 2, 1) := dk_28 (dk_at dksX5_alter_1 10 rfl rfl)
theorem dX5_alter_35 : decode cX5_alter 35 = .ok (.iconst 2, 1) := dk_5 (dk_at dksX5_alter_1 11 rfl rfl)
theorem dX5_alter_36 : decode cX5_alter 36 = .ok (.if_icmp .ne 9, 3) := dk_160 0 9 (dk_at dksX5_alter_1 12 rfl rfl)
theorem dX5_alter_39 : decode cX5_alter 39 = .ok (.ldc2_w 252, 3) := dk_20 0 252 (dk_at dksX5_alter_1 15 rfl rfl)
theorem dX5_alter_42 : decode cX5_alter 42 = .ok (.goto 6, 3) := dk_167 0 6 (dk_at dksX5_alter_1 18 rfl rfl)
theorem dX5_alter_45 : decode cX5_alter 45 = .ok (.ldc2_w 254, 3) := dk_20 0 254 (dk_at dksX5_alter_1 21 rfl rfl)
theorem dX5_alter_48 : decode cX5_alter 48 = .ok (.invokestatic 74, 3) := dk_184 0 74 (dk_at dksX5_alter_2 0 rfl rfl)
theorem dX5_alter_51 : decode cX5_alter 51 = .ok (.ifCond .ne 5, 3) := dk_154 0 5 (dk_at dksX5_alter_2 3 rfl rfl)
theorem dX5_alter_54 : decode cX5_alter 54 = .ok (.iconst (-1), 1) := dk_2 (dk_at dksX5_alter_2 6 rfl rfl)
theorem dX5_alter_55 : decode cX5_alter 55 = .ok (.ireturn, 1) := dk_172 (dk_at dksX5_alter_2 7 rfl rfl)
theorem dX5_alter_56 : decode cX5_alter 56 = .ok (.aload_n 0, 1) := dk_42 (dk_at dksX5_alter_2 8 rfl rfl)
theorem dX5_alter_57 : decode cX5_alter 57 = .ok (.bipush 6, 2) := dk_16 6 (dk_at dksX5_alter_2 9 rfl rfl)
theorem dX5_alter_59 : decode cX5_alter 59 = .ok (.bipush 6, 2) := dk_16 6 (dk_at dksX5_alter_2 11 rfl rfl)
theorem dX5_alter_61 : decode cX5_alter 61 = .ok (.iload_n 1, 1) := dk_27 (dk_at dksX5_alter_2 13 rfl rfl)
theorem dX5_alter_62 : decode cX5_alter 62 = .ok (.imul, 1) := dk_104 (dk_at dksX5_alter_2 14 rfl rfl)
theorem dX5_alter_63 : decode cX5_alter 63 = .ok (.iadd, 1) := dk_96 (dk_at dksX5_alter_2 15 rfl rfl)
theorem dX5_alter_64 : decode cX5_alter 64 = .ok (.iload_n 2, 1) := dk_28 (dk_at dksX5_alter_2 16 rfl rfl)
theorem dX5_alter_65 : decode cX5_alter 65 = .ok (.iadd, 1) := dk_96 (dk_at dksX5_alter_2 17 rfl rfl)
theorem dX5_alter_66 : decode cX5_alter 66 = .ok (.iload_n 3, 1) := dk_29 (dk_at dksX5_alter_2 18 rfl rfl)
theorem dX5_alter_67 : decode cX5_alter 67 = .ok (.invokevirtual 245, 3) := dk_182 0 245 (dk_at dksX5_alter_2 19 rfl rfl)
theorem dX5_alter_70 : decode cX5_alter 70 = .ok (.ireturn, 1) := dk_172 (dk_at dksX5_alter_2 22 rfl rfl)
abbrev cX5_lie : ByteArray := prog_14_method_55_code
def yX5_lie : MethodName := ⟨RX5, "lie", "(IZ)I"⟩
def dkwX5_lie_1 : List UInt8 := [182, 0, 245, 167, 0, 4, 2, 172]
abbrev dktX5_lie_1 : List UInt8 := dkwX5_lie_1 ++ []
def dkwX5_lie_0 : List UInt8 := [42, 27, 182, 0, 237, 153, 0, 23, 42, 16, 6, 16, 6, 27, 104, 96, 8, 96, 28, 184, 0, 184]
abbrev dktX5_lie_0 : List UInt8 := dkwX5_lie_0 ++ dktX5_lie_1
theorem dksX5_lie_0 : cX5_lie.data.toList.drop 0 = dktX5_lie_0 := by decide +kernel
theorem dksX5_lie_1 : cX5_lie.data.toList.drop 22 = dktX5_lie_1 := dk_seg dksX5_lie_0 22 rfl rfl
theorem dX5_lie_0 : decode cX5_lie 0 = .ok (.aload_n 0, 1) := dk_42 (dk_at dksX5_lie_0 0 rfl rfl)
theorem dX5_lie_1 : decode cX5_lie 1 = .ok (.iload_n 1, 1) := dk_27 (dk_at dksX5_lie_0 1 rfl rfl)
theorem dX5_lie_2 : decode cX5_lie 2 = .ok (.invokevirtual 237, 3) := dk_182 0 237 (dk_at dksX5_lie_0 2 rfl rfl)
theorem dX5_lie_5 : decode cX5_lie 5 = .ok (.ifCond .eq 23, 3) := dk_153 0 23 (dk_at dksX5_lie_0 5 rfl rfl)
theorem dX5_lie_8 : decode cX5_lie 8 = .ok (.aload_n 0, 1) := dk_42 (dk_at dksX5_lie_0 8 rfl rfl)
theorem dX5_lie_9 : decode cX5_lie 9 = .ok (.bipush 6, 2) := dk_16 6 (dk_at dksX5_lie_0 9 rfl rfl)
theorem dX5_lie_11 : decode cX5_lie 11 = .ok (.bipush 6, 2) := dk_16 6 (dk_at dksX5_lie_0 11 rfl rfl)
theorem dX5_lie_13 : decode cX5_lie 13 = .ok (.iload_n 1, 1) := dk_27 (dk_at dksX5_lie_0 13 rfl rfl)
theorem dX5_lie_14 : decode cX5_lie 14 = .ok (.imul, 1) := dk_104 (dk_at dksX5_lie_0 14 rfl rfl)
theorem dX5_lie_15 : decode cX5_lie 15 = .ok (.iadd, 1) := dk_96 (dk_at dksX5_lie_0 15 rfl rfl)
theorem dX5_lie_16 : decode cX5_lie 16 = .ok (.iconst 5, 1) := dk_8 (dk_at dksX5_lie_0 16 rfl rfl)
theorem dX5_lie_17 : decode cX5_lie 17 = .ok (.iadd, 1) := dk_96 (dk_at dksX5_lie_0 17 rfl rfl)
theorem dX5_lie_18 : decode cX5_lie 18 = .ok (.iload_n 2, 1) := dk_28 (dk_at dksX5_lie_0 18 rfl rfl)
theorem dX5_lie_19 : decode cX5_lie 19 = .ok (.invokestatic 184, 3) := dk_184 0 184 (dk_at dksX5_lie_0 19 rfl rfl)
theorem dX5_lie_22 : decode cX5_lie 22 = .ok (.invokevirtual 245, 3) := dk_182 0 245 (dk_at dksX5_lie_1 0 rfl rfl)
theorem dX5_lie_25 : decode cX5_lie 25 = .ok (.goto 4, 3) := dk_167 0 4 (dk_at dksX5_lie_1 3 rfl rfl)
theorem dX5_lie_28 : decode cX5_lie 28 = .ok (.iconst (-1), 1) := dk_2 (dk_at dksX5_lie_1 6 rfl rfl)
theorem dX5_lie_29 : decode cX5_lie 29 = .ok (.ireturn, 1) := dk_172 (dk_at dksX5_lie_1 7 rfl rfl)
abbrev cX5_flag : ByteArray := prog_14_method_4_code
def yX5_flag : MethodName := ⟨RX5, "flag", "(Z)I"⟩
def dkwX5_flag_0 : List UInt8 := [26, 153, 0, 7, 4, 167, 0, 4, 3, 172]
abbrev dktX5_flag_0 : List UInt8 := dkwX5_flag_0 ++ []
theorem dksX5_flag_0 : cX5_flag.data.toList.drop 0 = dktX5_flag_0 := by decide +kernel
theorem dX5_flag_0 : decode cX5_flag 0 = .ok (.iload_n 0, 1) := dk_26 (dk_at dksX5_flag_0 0 rfl rfl)
theorem dX5_flag_1 : decode cX5_flag 1 = .ok (.ifCond .eq 7, 3) := dk_153 0 7 (dk_at dksX5_flag_0 1 rfl rfl)
theorem dX5_flag_4 : decode cX5_flag 4 = .ok (.iconst 1, 1) := dk_4 (dk_at dksX5_flag_0 4 rfl rfl)
theorem dX5_flag_5 : decode cX5_flag 5 = .ok (.goto 4, 3) := dk_167 0 4 (dk_at dksX5_flag_0 5 rfl rfl)
theorem dX5_flag_8 : decode cX5_flag 8 = .ok (.iconst 0, 1) := dk_3 (dk_at dksX5_flag_0 8 rfl rfl)
theorem dX5_flag_9 : decode cX5_flag 9 = .ok (.ireturn, 1) := dk_172 (dk_at dksX5_flag_0 9 rfl rfl)
abbrev cX5_cross : ByteArray := prog_14_method_56_code
def yX5_cross : MethodName := ⟨RX5, "cross", "(I)I"⟩
def dkwX5_cross_1 : List UInt8 := [180, 0, 7, 28, 46, 100, 182, 0, 245, 167, 0, 4, 2, 172]
abbrev dktX5_cross_1 : List UInt8 := dkwX5_cross_1 ++ []
def dkwX5_cross_0 : List UInt8 := [16, 6, 16, 6, 27, 104, 96, 3, 96, 61, 42, 27, 182, 0, 237, 153, 0, 19, 42, 28, 4, 42]
abbrev dktX5_cross_0 : List UInt8 := dkwX5_cross_0 ++ dktX5_cross_1
theorem dksX5_cross_0 : cX5_cross.data.toList.drop 0 = dktX5_cross_0 := by decide +kernel
theorem dksX5_cross_1 : cX5_cross.data.toList.drop 22 = dktX5_cross_1 := dk_seg dksX5_cross_0 22 rfl rfl
theorem dX5_cross_0 : decode cX5_cross 0 = .ok (.bipush 6, 2) := dk_16 6 (dk_at dksX5_cross_0 0 rfl rfl)
theorem dX5_cross_2 : decode cX5_cross 2 = .ok (.bipush 6, 2) := dk_16 6 (dk_at dksX5_cross_0 2 rfl rfl)
theorem dX5_cross_4 : decode cX5_cross 4 = .ok (.iload_n 1, 1) := dk_27 (dk_at dksX5_cross_0 4 rfl rfl)
theorem dX5_cross_5 : decode cX5_cross 5 = .ok (.imul, 1) := dk_104 (dk_at dksX5_cross_0 5 rfl rfl)
theorem dX5_cross_6 : decode cX5_cross 6 = .ok (.iadd, 1) := dk_96 (dk_at dksX5_cross_0 6 rfl rfl)
theorem dX5_cross_7 : decode cX5_cross 7 = .ok (.iconst 0, 1) := dk_3 (dk_at dksX5_cross_0 7 rfl rfl)
theorem dX5_cross_8 : decode cX5_cross 8 = .ok (.iadd, 1) := dk_96 (dk_at dksX5_cross_0 8 rfl rfl)
theorem dX5_cross_9 : decode cX5_cross 9 = .ok (.istore_n 2, 1) := dk_61 (dk_at dksX5_cross_0 9 rfl rfl)
theorem dX5_cross_10 : decode cX5_cross 10 = .ok (.aload_n 0, 1) := dk_42 (dk_at dksX5_cross_0 10 rfl rfl)
theorem dX5_cross_11 : decode cX5_cross 11 = .ok (.iload_n 1, 1) := dk_27 (dk_at dksX5_cross_0 11 rfl rfl)
theorem dX5_cross_12 : decode cX5_cross 12 = .ok (.invokevirtual 237, 3) := dk_182 0 237 (dk_at dksX5_cross_0 12 rfl rfl)
theorem dX5_cross_15 : decode cX5_cross 15 = .ok (.ifCond .eq 19, 3) := dk_153 0 19 (dk_at dksX5_cross_0 15 rfl rfl)
theorem dX5_cross_18 : decode cX5_cross 18 = .ok (.aload_n 0, 1) := dk_42 (dk_at dksX5_cross_0 18 rfl rfl)
theorem dX5_cross_19 : decode cX5_cross 19 = .ok (.iload_n 2, 1) := dk_28 (dk_at dksX5_cross_0 19 rfl rfl)
theorem dX5_cross_20 : decode cX5_cross 20 = .ok (.iconst 1, 1) := dk_4 (dk_at dksX5_cross_0 20 rfl rfl)
theorem dX5_cross_21 : decode cX5_cross 21 = .ok (.aload_n 0, 1) := dk_42 (dk_at dksX5_cross_0 21 rfl rfl)
theorem dX5_cross_22 : decode cX5_cross 22 = .ok (.getfield 7, 3) := dk_180 0 7 (dk_at dksX5_cross_1 0 rfl rfl)
theorem dX5_cross_25 : decode cX5_cross 25 = .ok (.iload_n 2, 1) := dk_28 (dk_at dksX5_cross_1 3 rfl rfl)
theorem dX5_cross_26 : decode cX5_cross 26 = .ok (.iaload, 1) := dk_46 (dk_at dksX5_cross_1 4 rfl rfl)
theorem dX5_cross_27 : decode cX5_cross 27 = .ok (.isub, 1) := dk_100 (dk_at dksX5_cross_1 5 rfl rfl)
theorem dX5_cross_28 : decode cX5_cross 28 = .ok (.invokevirtual 245, 3) := dk_182 0 245 (dk_at dksX5_cross_1 6 rfl rfl)
theorem dX5_cross_31 : decode cX5_cross 31 = .ok (.goto 4, 3) := dk_167 0 4 (dk_at dksX5_cross_1 9 rfl rfl)
theorem dX5_cross_34 : decode cX5_cross 34 = .ok (.iconst (-1), 1) := dk_2 (dk_at dksX5_cross_1 12 rfl rfl)
theorem dX5_cross_35 : decode cX5_cross 35 = .ok (.ireturn, 1) := dk_172 (dk_at dksX5_cross_1 13 rfl rfl)
abbrev cX5_passes : ByteArray := prog_14_method_57_code
def yX5_passes : MethodName := ⟨RX5, "passes", "(I)I"⟩
def dkwX5_passes_0 : List UInt8 := [42, 27, 182, 0, 237, 154, 0, 5, 2, 172, 42, 182, 1, 0, 42, 180, 0, 26, 27, 46, 172]
abbrev dktX5_passes_0 : List UInt8 := dkwX5_passes_0 ++ []
theorem dksX5_passes_0 : cX5_passes.data.toList.drop 0 = dktX5_passes_0 := by decide +kernel
theorem dX5_passes_0 : decode cX5_passes 0 = .ok (.aload_n 0, 1) := dk_42 (dk_at dksX5_passes_0 0 rfl rfl)
theorem dX5_passes_1 : decode cX5_passes 1 = .ok (.iload_n 1, 1) := dk_27 (dk_at dksX5_passes_0 1 rfl rfl)
theorem dX5_passes_2 : decode cX5_passes 2 = .ok (.invokevirtual 237, 3) := dk_182 0 237 (dk_at dksX5_passes_0 2 rfl rfl)
theorem dX5_passes_5 : decode cX5_passes 5 = .ok (.ifCond .ne 5, 3) := dk_154 0 5 (dk_at dksX5_passes_0 5 rfl rfl)
theorem dX5_passes_8 : decode cX5_passes 8 = .ok (.iconst (-1), 1) := dk_2 (dk_at dksX5_passes_0 8 rfl rfl)
theorem dX5_passes_9 : decode cX5_passes 9 = .ok (.ireturn, 1) := dk_172 (dk_at dksX5_passes_0 9 rfl rfl)
theorem dX5_passes_10 : decode cX5_passes 10 = .ok (.aload_n 0, 1) := dk_42 (dk_at dksX5_passes_0 10 rfl rfl)
theorem dX5_passes_11 : decode cX5_passes 11 = .ok (.invokevirtual 256, 3) := dk_182 1 0 (dk_at dksX5_passes_0 11 rfl rfl)
theorem dX5_passes_14 : decode cX5_passes 14 = .ok (.aload_n 0, 1) := dk_42 (dk_at dksX5_passes_0 14 rfl rfl)
theorem dX5_passes_15 : decode cX5_passes 15 = .ok (.getfield 26, 3) := dk_180 0 26 (dk_at dksX5_passes_0 15 rfl rfl)
theorem dX5_passes_18 : decode cX5_passes 18 = .ok (.iload_n 1, 1) := dk_27 (dk_at dksX5_passes_0 18 rfl rfl)
theorem dX5_passes_19 : decode cX5_passes 19 = .ok (.iaload, 1) := dk_46 (dk_at dksX5_passes_0 19 rfl rfl)
theorem dX5_passes_20 : decode cX5_passes 20 = .ok (.ireturn, 1) := dk_172 (dk_at dksX5_passes_0 20 rfl rfl)
abbrev cX5_dayNow : ByteArray := prog_14_method_46_code
def yX5_dayNow : MethodName := ⟨RX5, "dayNow", "()V"⟩
def dkwX5_dayNow_0 : List UInt8 := [42, 182, 0, 228, 42, 182, 0, 231, 177]
abbrev dktX5_dayNow_0 : List UInt8 := dkwX5_dayNow_0 ++ []
theorem dksX5_dayNow_0 : cX5_dayNow.data.toList.drop 0 = dktX5_dayNow_0 := by decide +kernel
theorem dX5_dayNow_0 : decode cX5_dayNow 0 = .ok (.aload_n 0, 1) := dk_42 (dk_at dksX5_dayNow_0 0 rfl rfl)
theorem dX5_dayNow_1 : decode cX5_dayNow 1 = .ok (.invokevirtual 228, 3) := dk_182 0 228 (dk_at dksX5_dayNow_0 1 rfl rfl)
theorem dX5_dayNow_4 : decode cX5_dayNow 4 = .ok (.aload_n 0, 1) := dk_42 (dk_at dksX5_dayNow_0 4 rfl rfl)
theorem dX5_dayNow_5 : decode cX5_dayNow 5 = .ok (.invokevirtual 231, 3) := dk_182 0 231 (dk_at dksX5_dayNow_0 5 rfl rfl)
theorem dX5_dayNow_8 : decode cX5_dayNow 8 = .ok (.return_, 1) := dk_177 (dk_at dksX5_dayNow_0 8 rfl rfl)
abbrev cX5_dayGoes : ByteArray := prog_14_method_43_code
def yX5_dayGoes : MethodName := ⟨RX5, "dayGoes", "()V"⟩
def dkwX5_dayGoes_2 : List UInt8 := [182, 0, 219, 182, 0, 216, 61, 42, 28, 182, 0, 222, 27, 4, 28, 120, 2, 130, 126, 60, 167, 255, 204, 177]
abbrev dktX5_dayGoes_2 : List UInt8 := dkwX5_dayGoes_2 ++ []
def dkwX5_dayGoes_1 : List UInt8 := [154, 0, 16, 42, 42, 42, 27, 182, 0, 216, 182, 0, 207, 181, 0, 172, 42, 42, 42, 27, 182, 0, 213]
abbrev dktX5_dayGoes_1 : List UInt8 := dkwX5_dayGoes_1 ++ dktX5_dayGoes_2
def dkwX5_dayGoes_0 : List UInt8 := [4, 42, 180, 0, 69, 120, 4, 100, 60, 42, 182, 0, 210, 27, 153, 0, 54, 42, 27, 182, 0, 213]
abbrev dktX5_dayGoes_0 : List UInt8 := dkwX5_dayGoes_0 ++ dktX5_dayGoes_1
theorem dksX5_dayGoes_0 : cX5_dayGoes.data.toList.drop 0 = dktX5_dayGoes_0 := by decide +kernel
theorem dksX5_dayGoes_1 : cX5_dayGoes.data.toList.drop 22 = dktX5_dayGoes_1 := dk_seg dksX5_dayGoes_0 22 rfl rfl
theorem dksX5_dayGoes_2 : cX5_dayGoes.data.toList.drop 45 = dktX5_dayGoes_2 := dk_seg dksX5_dayGoes_1 23 rfl rfl
theorem dX5_dayGoes_0 : decode cX5_dayGoes 0 = .ok (.iconst 1, 1) := dk_4 (dk_at dksX5_dayGoes_0 0 rfl rfl)
theorem dX5_dayGoes_1 : decode cX5_dayGoes 1 = .ok (.aload_n 0, 1) := dk_42 (dk_at dksX5_dayGoes_0 1 rfl rfl)
theorem dX5_dayGoes_2 : decode cX5_dayGoes 2 = .ok (.getfield 69, 3) := dk_180 0 69 (dk_at dksX5_dayGoes_0 2 rfl rfl)
theorem dX5_dayGoes_5 : decode cX5_dayGoes 5 = .ok (.ishl, 1) := dk_120 (dk_at dksX5_dayGoes_0 5 rfl rfl)
theorem dX5_dayGoes_6 : decode cX5_dayGoes 6 = .ok (.iconst 1, 1) := dk_4 (dk_at dksX5_dayGoes_0 6 rfl rfl)
theorem dX5_dayGoes_7 : decode cX5_dayGoes 7 = .ok (.isub, 1) := dk_100 (dk_at dksX5_dayGoes_0 7 rfl rfl)
theorem dX5_dayGoes_8 : decode cX5_dayGoes 8 = .ok (.istore_n 1, 1) := dk_60 (dk_at dksX5_dayGoes_0 8 rfl rfl)
theorem dX5_dayGoes_9 : decode cX5_dayGoes 9 = .ok (.aload_n 0, 1) := dk_42 (dk_at dksX5_dayGoes_0 9 rfl rfl)
theorem dX5_dayGoes_10 : decode cX5_dayGoes 10 = .ok (.invokevirtual 210, 3) := dk_182 0 210 (dk_at dksX5_dayGoes_0 10 rfl rfl)
theorem dX5_dayGoes_13 : decode cX5_dayGoes 13 = .ok (.iload_n 1, 1) := dk_27 (dk_at dksX5_dayGoes_0 13 rfl rfl)
theorem dX5_dayGoes_14 : decode cX5_dayGoes 14 = .ok (.ifCond .eq 54, 3) := dk_153 0 54 (dk_at dksX5_dayGoes_0 14 rfl rfl)
theorem dX5_dayGoes_17 : decode cX5_dayGoes 17 = .ok (.aload_n 0, 1) := dk_42 (dk_at dksX5_dayGoes_0 17 rfl rfl)
theorem dX5_dayGoes_18 : decode cX5_dayGoes 18 = .ok (.iload_n 1, 1) := dk_27 (dk_at dksX5_dayGoes_0 18 rfl rfl)
theorem dX5_dayGoes_19 : decode cX5_dayGoes 19 = .ok (.invokevirtual 213, 3) := dk_182 0 213 (dk_at dksX5_dayGoes_0 19 rfl rfl)
theorem dX5_dayGoes_22 : decode cX5_dayGoes 22 = .ok (.ifCond .ne 16, 3) := dk_154 0 16 (dk_at dksX5_dayGoes_1 0 rfl rfl)
theorem dX5_dayGoes_25 : decode cX5_dayGoes 25 = .ok (.aload_n 0, 1) := dk_42 (dk_at dksX5_dayGoes_1 3 rfl rfl)
theorem dX5_dayGoes_26 : decode cX5_dayGoes 26 = .ok (.aload_n 0, 1) := dk_42 (dk_at dksX5_dayGoes_1 4 rfl rfl)
theorem dX5_dayGoes_27 : decode cX5_dayGoes 27 = .ok (.aload_n 0, 1) := dk_42 (dk_at dksX5_dayGoes_1 5 rfl rfl)
theorem dX5_dayGoes_28 : decode cX5_dayGoes 28 = .ok (.iload_n 1, 1) := dk_27 (dk_at dksX5_dayGoes_1 6 rfl rfl)
theorem dX5_dayGoes_29 : decode cX5_dayGoes 29 = .ok (.invokevirtual 216, 3) := dk_182 0 216 (dk_at dksX5_dayGoes_1 7 rfl rfl)
theorem dX5_dayGoes_32 : decode cX5_dayGoes 32 = .ok (.invokevirtual 207, 3) := dk_182 0 207 (dk_at dksX5_dayGoes_1 10 rfl rfl)
theorem dX5_dayGoes_35 : decode cX5_dayGoes 35 = .ok (.putfield 172, 3) := dk_181 0 172 (dk_at dksX5_dayGoes_1 13 rfl rfl)
theorem dX5_dayGoes_38 : decode cX5_dayGoes 38 = .ok (.aload_n 0, 1) := dk_42 (dk_at dksX5_dayGoes_1 16 rfl rfl)
theorem dX5_dayGoes_39 : decode cX5_dayGoes 39 = .ok (.aload_n 0, 1) := dk_42 (dk_at dksX5_dayGoes_1 17 rfl rfl)
theorem dX5_dayGoes_40 : decode cX5_dayGoes 40 = .ok (.aload_n 0, 1) := dk_42 (dk_at dksX5_dayGoes_1 18 rfl rfl)
theorem dX5_dayGoes_41 : decode cX5_dayGoes 41 = .ok (.iload_n 1, 1) := dk_27 (dk_at dksX5_dayGoes_1 19 rfl rfl)
theorem dX5_dayGoes_42 : decode cX5_dayGoes 42 = .ok (.invokevirtual 213, 3) := dk_182 0 213 (dk_at dksX5_dayGoes_1 20 rfl rfl)
theorem dX5_dayGoes_45 : decode cX5_dayGoes 45 = .ok (.invokevirtual 219, 3) := dk_182 0 219 (dk_at dksX5_dayGoes_2 0 rfl rfl)
theorem dX5_dayGoes_48 : decode cX5_dayGoes 48 = .ok (.invokevirtual 216, 3) := dk_182 0 216 (dk_at dksX5_dayGoes_2 3 rfl rfl)
theorem dX5_dayGoes_51 : decode cX5_dayGoes 51 = .ok (.istore_n 2, 1) := dk_61 (dk_at dksX5_dayGoes_2 6 rfl rfl)
theorem dX5_dayGoes_52 : decode cX5_dayGoes 52 = .ok (.aload_n 0, 1) := dk_42 (dk_at dksX5_dayGoes_2 7 rfl rfl)
theorem dX5_dayGoes_53 : decode cX5_dayGoes 53 = .ok (.iload_n 2, 1) := dk_28 (dk_at dksX5_dayGoes_2 8 rfl rfl)
theorem dX5_dayGoes_54 : decode cX5_dayGoes 54 = .ok (.invokevirtual 222, 3) := dk_182 0 222 (dk_at dksX5_dayGoes_2 9 rfl rfl)
theorem dX5_dayGoes_57 : decode cX5_dayGoes 57 = .ok (.iload_n 1, 1) := dk_27 (dk_at dksX5_dayGoes_2 12 rfl rfl)
theorem dX5_dayGoes_58 : decode cX5_dayGoes 58 = .ok (.iconst 1, 1) := dk_4 (dk_at dksX5_dayGoes_2 13 rfl rfl)
theorem dX5_dayGoes_59 : decode cX5_dayGoes 59 = .ok (.iload_n 2, 1) := dk_28 (dk_at dksX5_dayGoes_2 14 rfl rfl)
theorem dX5_dayGoes_60 : decode cX5_dayGoes 60 = .ok (.ishl, 1) := dk_120 (dk_at dksX5_dayGoes_2 15 rfl rfl)
theorem dX5_dayGoes_61 : decode cX5_dayGoes 61 = .ok (.iconst (-1), 1) := dk_2 (dk_at dksX5_dayGoes_2 16 rfl rfl)
theorem dX5_dayGoes_62 : decode cX5_dayGoes 62 = .ok (.ixor, 1) := dk_130 (dk_at dksX5_dayGoes_2 17 rfl rfl)
theorem dX5_dayGoes_63 : decode cX5_dayGoes 63 = .ok (.iand, 1) := dk_126 (dk_at dksX5_dayGoes_2 18 rfl rfl)
theorem dX5_dayGoes_64 : decode cX5_dayGoes 64 = .ok (.istore_n 1, 1) := dk_60 (dk_at dksX5_dayGoes_2 19 rfl rfl)
theorem dX5_dayGoes_65 : decode cX5_dayGoes 65 = .ok (.goto (-52), 3) := dk_167 255 204 (dk_at dksX5_dayGoes_2 20 rfl rfl)
theorem dX5_dayGoes_68 : decode cX5_dayGoes 68 = .ok (.return_, 1) := dk_177 (dk_at dksX5_dayGoes_2 23 rfl rfl)
abbrev cX5_opens : ByteArray := prog_14_method_33_code
def yX5_opens : MethodName := ⟨RX5, "opens", "()V"⟩
def dkwX5_opens_1 : List UInt8 := [181, 0, 178, 42, 3, 181, 0, 181, 177]
abbrev dktX5_opens_1 : List UInt8 := dkwX5_opens_1 ++ []
def dkwX5_opens_0 : List UInt8 := [42, 3, 181, 0, 169, 42, 3, 181, 0, 172, 42, 42, 180, 0, 13, 5, 46, 181, 0, 175, 42, 3]
abbrev dktX5_opens_0 : List UInt8 := dkwX5_opens_0 ++ dktX5_opens_1
theorem dksX5_opens_0 : cX5_opens.data.toList.drop 0 = dktX5_opens_0 := by decide +kernel
theorem dksX5_opens_1 : cX5_opens.data.toList.drop 22 = dktX5_opens_1 := dk_seg dksX5_opens_0 22 rfl rfl
theorem dX5_opens_0 : decode cX5_opens 0 = .ok (.aload_n 0, 1) := dk_42 (dk_at dksX5_opens_0 0 rfl rfl)
theorem dX5_opens_1 : decode cX5_opens 1 = .ok (.iconst 0, 1) := dk_3 (dk_at dksX5_opens_0 1 rfl rfl)
theorem dX5_opens_2 : decode cX5_opens 2 = .ok (.putfield 169, 3) := dk_181 0 169 (dk_at dksX5_opens_0 2 rfl rfl)
theorem dX5_opens_5 : decode cX5_opens 5 = .ok (.aload_n 0, 1) := dk_42 (dk_at dksX5_opens_0 5 rfl rfl)
theorem dX5_opens_6 : decode cX5_opens 6 = .ok (.iconst 0, 1) := dk_3 (dk_at dksX5_opens_0 6 rfl rfl)
theorem dX5_opens_7 : decode cX5_opens 7 = .ok (.putfield 172, 3) := dk_181 0 172 (dk_at dksX5_opens_0 7 rfl rfl)
theorem dX5_opens_10 : decode cX5_opens 10 = .ok (.aload_n 0, 1) := dk_42 (dk_at dksX5_opens_0 10 rfl rfl)
theorem dX5_opens_11 : decode cX5_opens 11 = .ok (.aload_n 0, 1) := dk_42 (dk_at dksX5_opens_0 11 rfl rfl)
theorem dX5_opens_12 : decode cX5_opens 12 = .ok (.getfield 13, 3) := dk_180 0 13 (dk_at dksX5_opens_0 12 rfl rfl)
theorem dX5_opens_15 : decode cX5_opens 15 = .ok (.iconst 2, 1) := dk_5 (dk_at dksX5_opens_0 15 rfl rfl)
theorem dX5_opens_16 : decode cX5_opens 16 = .ok (.iaload, 1) := dk_46 (dk_at dksX5_opens_0 16 rfl rfl)
theorem dX5_opens_17 : decode cX5_opens 17 = .ok (.putfield 175, 3) := dk_181 0 175 (dk_at dksX5_opens_0 17 rfl rfl)
theorem dX5_opens_20 : decode cX5_opens 20 = .ok (.aload_n 0, 1) := dk_42 (dk_at dksX5_opens_0 20 rfl rfl)
theorem dX5_opens_21 : decode cX5_opens 21 = .ok (.iconst 0, 1) := dk_3 (dk_at dksX5_opens_0 21 rfl rfl)
theorem dX5_opens_22 : decode cX5_opens 22 = .ok (.putfield 178, 3) := dk_181 0 178 (dk_at dksX5_opens_1 0 rfl rfl)
theorem dX5_opens_25 : decode cX5_opens 25 = .ok (.aload_n 0, 1) := dk_42 (dk_at dksX5_opens_1 3 rfl rfl)
theorem dX5_opens_26 : decode cX5_opens 26 = .ok (.iconst 0, 1) := dk_3 (dk_at dksX5_opens_1 4 rfl rfl)
theorem dX5_opens_27 : decode cX5_opens 27 = .ok (.putfield 181, 3) := dk_181 0 181 (dk_at dksX5_opens_1 5 rfl rfl)
theorem dX5_opens_30 : decode cX5_opens 30 = .ok (.return_, 1) := dk_177 (dk_at dksX5_opens_1 8 rfl rfl)
abbrev cX5_counting : ByteArray := prog_14_method_42_code
def yX5_counting : MethodName := ⟨RX5, "counting", "(I)I"⟩
def dkwX5_counting_2 : List UInt8 := [132, 3, 1, 167, 255, 211, 28, 172]
abbrev dktX5_counting_2 : List UInt8 := dkwX5_counting_2 ++ []
def dkwX5_counting_1 : List UInt8 := [182, 0, 207, 42, 180, 0, 172, 163, 0, 7, 4, 167, 0, 4, 3, 184, 0, 184, 29, 120, 128, 61]
abbrev dktX5_counting_1 : List UInt8 := dkwX5_counting_1 ++ dktX5_counting_2
def dkwX5_counting_0 : List UInt8 := [3, 61, 3, 62, 29, 42, 180, 0, 69, 162, 0, 43, 28, 27, 29, 122, 4, 126, 4, 160, 0, 19, 42, 29]
abbrev dktX5_counting_0 : List UInt8 := dkwX5_counting_0 ++ dktX5_counting_1
theorem dksX5_counting_0 : cX5_counting.data.toList.drop 0 = dktX5_counting_0 := by decide +kernel
theorem dksX5_counting_1 : cX5_counting.data.toList.drop 24 = dktX5_counting_1 := dk_seg dksX5_counting_0 24 rfl rfl
theorem dksX5_counting_2 : cX5_counting.data.toList.drop 46 = dktX5_counting_2 := dk_seg dksX5_counting_1 22 rfl rfl
theorem dX5_counting_0 : decode cX5_counting 0 = .ok (.iconst 0, 1) := dk_3 (dk_at dksX5_counting_0 0 rfl rfl)
theorem dX5_counting_1 : decode cX5_counting 1 = .ok (.istore_n 2, 1) := dk_61 (dk_at dksX5_counting_0 1 rfl rfl)
theorem dX5_counting_2 : decode cX5_counting 2 = .ok (.iconst 0, 1) := dk_3 (dk_at dksX5_counting_0 2 rfl rfl)
theorem dX5_counting_3 : decode cX5_counting 3 = .ok (.istore_n 3, 1) := dk_62 (dk_at dksX5_counting_0 3 rfl rfl)
theorem dX5_counting_4 : decode cX5_counting 4 = .ok (.iload_n 3, 1) := dk_29 (dk_at dksX5_counting_0 4 rfl rfl)
theorem dX5_counting_5 : decode cX5_counting 5 = .ok (.aload_n 0, 1) := dk_42 (dk_at dksX5_counting_0 5 rfl rfl)
theorem dX5_counting_6 : decode cX5_counting 6 = .ok (.getfield 69, 3) := dk_180 0 69 (dk_at dksX5_counting_0 6 rfl rfl)
theorem dX5_counting_9 : decode cX5_counting 9 = .ok (.if_icmp .ge 43, 3) := dk_162 0 43 (dk_at dksX5_counting_0 9 rfl rfl)
theorem dX5_counting_12 : decode cX5_counting 12 = .ok (.iload_n 2, 1) := dk_28 (dk_at dksX5_counting_0 12 rfl rfl)
theorem dX5_counting_13 : decode cX5_counting 13 = .ok (.iload_n 1, 1) := dk_27 (dk_at dksX5_counting_0 13 rfl rfl)
theorem dX5_counting_14 : decode cX5_counting 14 = .ok (.iload_n 3, 1) := dk_29 (dk_at dksX5_counting_0 14 rfl rfl)
theorem dX5_counting_15 : decode cX5_counting 15 = .ok (.ishr, 1) := dk_122 (dk_at dksX5_counting_0 15 rfl rfl)
theorem dX5_counting_16 : decode cX5_counting 16 = .ok (.iconst 1, 1) := dk_4 (dk_at dksX5_counting_0 16 rfl rfl)
theorem dX5_counting_17 : decode cX5_counting 17 = .ok (.iand, 1) := dk_126 (dk_at dksX5_counting_0 17 rfl rfl)
theorem dX5_counting_18 : decode cX5_counting 18 = .ok (.iconst 1, 1) := dk_4 (dk_at dksX5_counting_0 18 rfl rfl)
theorem dX5_counting_19 : decode cX5_counting 19 = .ok (.if_icmp .ne 19, 3) := dk_160 0 19 (dk_at dksX5_counting_0 19 rfl rfl)
theorem dX5_counting_22 : decode cX5_counting 22 = .ok (.aload_n 0, 1) := dk_42 (dk_at dksX5_counting_0 22 rfl rfl)
theorem dX5_counting_23 : decode cX5_counting 23 = .ok (.iload_n 3, 1) := dk_29 (dk_at dksX5_counting_0 23 rfl rfl)
theorem dX5_counting_24 : decode cX5_counting 24 = .ok (.invokevirtual 207, 3) := dk_182 0 207 (dk_at dksX5_counting_1 0 rfl rfl)
theorem dX5_counting_27 : decode cX5_counting 27 = .ok (.aload_n 0, 1) := dk_42 (dk_at dksX5_counting_1 3 rfl rfl)
theorem dX5_counting_28 : decode cX5_counting 28 = .ok (.getfield 172, 3) := dk_180 0 172 (dk_at dksX5_counting_1 4 rfl rfl)
theorem dX5_counting_31 : decode cX5_counting 31 = .ok (.if_icmp .gt 7, 3) := dk_163 0 7 (dk_at dksX5_counting_1 7 rfl rfl)
theorem dX5_counting_34 : decode cX5_counting 34 = .ok (.iconst 1, 1) := dk_4 (dk_at dksX5_counting_1 10 rfl rfl)
theorem dX5_counting_35 : decode cX5_counting 35 = .ok (.goto 4, 3) := dk_167 0 4 (dk_at dksX5_counting_1 11 rfl rfl)
theorem dX5_counting_38 : decode cX5_counting 38 = .ok (.iconst 0, 1) := dk_3 (dk_at dksX5_counting_1 14 rfl rfl)
theorem dX5_counting_39 : decode cX5_counting 39 = .ok (.invokestatic 184, 3) := dk_184 0 184 (dk_at dksX5_counting_1 15 rfl rfl)
theorem dX5_counting_42 : decode cX5_counting 42 = .ok (.iload_n 3, 1) := dk_29 (dk_at dksX5_counting_1 18 rfl rfl)
theorem dX5_counting_43 : decode cX5_counting 43 = .ok (.ishl, 1) := dk_120 (dk_at dksX5_counting_1 19 rfl rfl)
theorem dX5_counting_44 : decode cX5_counting 44 = .ok (.ior, 1) := dk_128 (dk_at dksX5_counting_1 20 rfl rfl)
theorem dX5_counting_45 : decode cX5_counting 45 = .ok (.istore_n 2, 1) := dk_61 (dk_at dksX5_counting_1 21 rfl rfl)
theorem dX5_counting_46 : decode cX5_counting 46 = .ok (.iinc 3 1, 3) := dk_132 3 1 (dk_at dksX5_counting_2 0 rfl rfl)
theorem dX5_counting_49 : decode cX5_counting 49 = .ok (.goto (-45), 3) := dk_167 255 211 (dk_at dksX5_counting_2 3 rfl rfl)
theorem dX5_counting_52 : decode cX5_counting 52 = .ok (.iload_n 2, 1) := dk_28 (dk_at dksX5_counting_2 6 rfl rfl)
theorem dX5_counting_53 : decode cX5_counting 53 = .ok (.ireturn, 1) := dk_172 (dk_at dksX5_counting_2 7 rfl rfl)
abbrev cX5_earliest : ByteArray := prog_14_method_41_code
def yX5_earliest : MethodName := ⟨RX5, "earliest", "(I)I"⟩
def dkwX5_earliest_2 : List UInt8 := [54, 4, 21, 4, 153, 0, 7, 29, 167, 0, 4, 28, 61, 132, 3, 1, 167, 255, 199, 28, 172]
abbrev dktX5_earliest_2 : List UInt8 := dkwX5_earliest_2 ++ []
def dkwX5_earliest_1 : List UInt8 := [16, 252, 159, 0, 16, 42, 29, 182, 0, 207, 42, 28, 182, 0, 207, 162, 0, 7, 4, 167, 0, 4, 3]
abbrev dktX5_earliest_1 : List UInt8 := dkwX5_earliest_1 ++ dktX5_earliest_2
def dkwX5_earliest_0 : List UInt8 := [16, 252, 61, 3, 62, 29, 42, 180, 0, 69, 162, 0, 55, 27, 29, 122, 4, 126, 4, 160, 0, 26, 28]
abbrev dktX5_earliest_0 : List UInt8 := dkwX5_earliest_0 ++ dktX5_earliest_1
theorem dksX5_earliest_0 : cX5_earliest.data.toList.drop 0 = dktX5_earliest_0 := by decide +kernel
theorem dksX5_earliest_1 : cX5_earliest.data.toList.drop 23 = dktX5_earliest_1 := dk_seg dksX5_earliest_0 23 rfl rfl
theorem dksX5_earliest_2 : cX5_earliest.data.toList.drop 46 = dktX5_earliest_2 := dk_seg dksX5_earliest_1 23 rfl rfl
theorem dX5_earliest_0 : decode cX5_earliest 0 = .ok (.bipush (-4), 2) := dk_16 252 (dk_at dksX5_earliest_0 0 rfl rfl)
theorem dX5_earliest_2 : decode cX5_earliest 2 = .ok (.istore_n 2, 1) := dk_61 (dk_at dksX5_earliest_0 2 rfl rfl)
theorem dX5_earliest_3 : decode cX5_earliest 3 = .ok (.iconst 0, 1) := dk_3 (dk_at dksX5_earliest_0 3 rfl rfl)
theorem dX5_earliest_4 : decode cX5_earliest 4 = .ok (.istore_n 3, 1) := dk_62 (dk_at dksX5_earliest_0 4 rfl rfl)
theorem dX5_earliest_5 : decode cX5_earliest 5 = .ok (.iload_n 3, 1) := dk_29 (dk_at dksX5_earliest_0 5 rfl rfl)
theorem dX5_earliest_6 : decode cX5_earliest 6 = .ok (.aload_n 0, 1) := dk_42 (dk_at dksX5_earliest_0 6 rfl rfl)
theorem dX5_earliest_7 : decode cX5_earliest 7 = .ok (.getfield 69, 3) := dk_180 0 69 (dk_at dksX5_earliest_0 7 rfl rfl)
theorem dX5_earliest_10 : decode cX5_earliest 10 = .ok (.if_icmp .ge 55, 3) := dk_162 0 55 (dk_at dksX5_earliest_0 10 rfl rfl)
theorem dX5_earliest_13 : decode cX5_earliest 13 = .ok (.iload_n 1, 1) := dk_27 (dk_at dksX5_earliest_0 13 rfl rfl)
theorem dX5_earliest_14 : decode cX5_earliest 14 = .ok (.iload_n 3, 1) := dk_29 (dk_at dksX5_earliest_0 14 rfl rfl)
theorem dX5_earliest_15 : decode cX5_earliest 15 = .ok (.ishr, 1) := dk_122 (dk_at dksX5_earliest_0 15 rfl rfl)
theorem dX5_earliest_16 : decode cX5_earliest 16 = .ok (.iconst 1, 1) := dk_4 (dk_at dksX5_earliest_0 16 rfl rfl)
theorem dX5_earliest_17 : decode cX5_earliest 17 = .ok (.iand, 1) := dk_126 (dk_at dksX5_earliest_0 17 rfl rfl)
theorem dX5_earliest_18 : decode cX5_earliest 18 = .ok (.iconst 1, 1) := dk_4 (dk_at dksX5_earliest_0 18 rfl rfl)
theorem dX5_earliest_19 : decode cX5_earliest 19 = .ok (.if_icmp .ne 26, 3) := dk_160 0 26 (dk_at dksX5_earliest_0 19 rfl rfl)
theorem dX5_earliest_22 : decode cX5_earliest 22 = .ok (.iload_n 2, 1) := dk_28 (dk_at dksX5_earliest_0 22 rfl rfl)
theorem dX5_earliest_23 : decode cX5_earliest 23 = .ok (.bipush (-4), 2) := dk_16 252 (dk_at dksX5_earliest_1 0 rfl rfl)
theorem dX5_earliest_25 : decode cX5_earliest 25 = .ok (.if_icmp .eq 16, 3) := dk_159 0 16 (dk_at dksX5_earliest_1 2 rfl rfl)
theorem dX5_earliest_28 : decode cX5_earliest 28 = .ok (.aload_n 0, 1) := dk_42 (dk_at dksX5_earliest_1 5 rfl rfl)
theorem dX5_earliest_29 : decode cX5_earliest 29 = .ok (.iload_n 3, 1) := dk_29 (dk_at dksX5_earliest_1 6 rfl rfl)
theorem dX5_earliest_30 : decode cX5_earliest 30 = .ok (.invokevirtual 207, 3) := dk_182 0 207 (dk_at dksX5_earliest_1 7 rfl rfl)
theorem dX5_earliest_33 : decode cX5_earliest 33 = .ok (.aload_n 0, 1) := dk_42 (dk_at dksX5_earliest_1 10 rfl rfl)
theorem dX5_earliest_34 : decode cX5_earliest 34 = .ok (.iload_n 2, 1) := dk_28 (dk_at dksX5_earliest_1 11 rfl rfl)
theorem dX5_earliest_35 : decode cX5_earliest 35 = .ok (.invokevirtual 207, 3) := dk_182 0 207 (dk_at dksX5_earliest_1 12 rfl rfl)
theorem dX5_earliest_38 : decode cX5_earliest 38 = .ok (.if_icmp .ge 7, 3) := dk_162 0 7 (dk_at dksX5_earliest_1 15 rfl rfl)
theorem dX5_earliest_41 : decode cX5_earliest 41 = .ok (.iconst 1, 1) := dk_4 (dk_at dksX5_earliest_1 18 rfl rfl)
theorem dX5_earliest_42 : decode cX5_earliest 42 = .ok (.goto 4, 3) := dk_167 0 4 (dk_at dksX5_earliest_1 19 rfl rfl)
theorem dX5_earliest_45 : decode cX5_earliest 45 = .ok (.iconst 0, 1) := dk_3 (dk_at dksX5_earliest_1 22 rfl rfl)
theorem dX5_earliest_46 : decode cX5_earliest 46 = .ok (.istore 4, 2) := dk_54 4 (dk_at dksX5_earliest_2 0 rfl rfl)
theorem dX5_earliest_48 : decode cX5_earliest 48 = .ok (.iload 4, 2) := dk_21 4 (dk_at dksX5_earliest_2 2 rfl rfl)
theorem dX5_earliest_50 : decode cX5_earliest 50 = .ok (.ifCond .eq 7, 3) := dk_153 0 7 (dk_at dksX5_earliest_2 4 rfl rfl)
theorem dX5_earliest_53 : decode cX5_earliest 53 = .ok (.iload_n 3, 1) := dk_29 (dk_at dksX5_earliest_2 7 rfl rfl)
theorem dX5_earliest_54 : decode cX5_earliest 54 = .ok (.goto 4, 3) := dk_167 0 4 (dk_at dksX5_earliest_2 8 rfl rfl)
theorem dX5_earliest_57 : decode cX5_earliest 57 = .ok (.iload_n 2, 1) := dk_28 (dk_at dksX5_earliest_2 11 rfl rfl)
theorem dX5_earliest_58 : decode cX5_earliest 58 = .ok (.istore_n 2, 1) := dk_61 (dk_at dksX5_earliest_2 12 rfl rfl)
theorem dX5_earliest_59 : decode cX5_earliest 59 = .ok (.iinc 3 1, 3) := dk_132 3 1 (dk_at dksX5_earliest_2 13 rfl rfl)
theorem dX5_earliest_62 : decode cX5_earliest 62 = .ok (.goto (-57), 3) := dk_167 255 199 (dk_at dksX5_earliest_2 16 rfl rfl)
theorem dX5_earliest_65 : decode cX5_earliest 65 = .ok (.iload_n 2, 1) := dk_28 (dk_at dksX5_earliest_2 19 rfl rfl)
theorem dX5_earliest_66 : decode cX5_earliest 66 = .ok (.ireturn, 1) := dk_172 (dk_at dksX5_earliest_2 20 rfl rfl)
abbrev cX5_taken : ByteArray := prog_14_method_40_code
def yX5_taken : MethodName := ⟨RX5, "taken", "(I)I"⟩
def dkwX5_taken_7 : List UInt8 := [29, 164, 0, 7, 4, 167, 0, 7, 42, 180, 0, 175, 182, 0, 198, 172, 27, 172]
abbrev dktX5_taken_7 : List UInt8 := dkwX5_taken_7 ++ []
def dkwX5_taken_6 : List UInt8 := [182, 0, 198, 172, 42, 27, 182, 0, 204, 172, 42, 27, 29, 21, 4, 164, 0, 7, 3, 167, 0, 17, 21, 4]
abbrev dktX5_taken_6 : List UInt8 := dkwX5_taken_6 ++ dktX5_taken_7
def dkwX5_taken_5 : List UInt8 := [160, 0, 15, 4, 42, 28, 4, 100, 182, 0, 201, 100, 167, 0, 10, 42, 28, 4, 100, 182, 0, 201]
abbrev dktX5_taken_5 : List UInt8 := dkwX5_taken_5 ++ dktX5_taken_6
def dkwX5_taken_4 : List UInt8 := [167, 0, 44, 28, 4, 164, 0, 32, 42, 28, 4, 100, 182, 0, 201, 42, 28, 5, 100, 182, 0, 201]
abbrev dktX5_taken_4 : List UInt8 := dkwX5_taken_4 ++ dktX5_taken_5
def dkwX5_taken_3 : List UInt8 := [42, 27, 42, 180, 0, 175, 182, 0, 198, 172, 42, 27, 28, 154, 0, 12, 42, 180, 0, 13, 5, 46]
abbrev dktX5_taken_3 : List UInt8 := dkwX5_taken_3 ++ dktX5_taken_4
def dkwX5_taken_2 : List UInt8 := [170, 0, 0, 0, 0, 0, 0, 138, 0, 0, 0, 1, 0, 0, 0, 4, 0, 0, 0, 32, 0, 0, 0, 42, 0, 0, 0, 102, 0, 0, 0, 108]
abbrev dktX5_taken_2 : List UInt8 := dkwX5_taken_2 ++ dktX5_taken_3
def dkwX5_taken_1 : List UInt8 := [54, 4, 42, 180, 0, 13, 6, 46]
abbrev dktX5_taken_1 : List UInt8 := dkwX5_taken_1 ++ dktX5_taken_2
def dkwX5_taken_0 : List UInt8 := [42, 180, 0, 169, 61, 42, 27, 3, 182, 0, 188, 184, 0, 195, 62, 42, 27, 4, 182, 0, 188, 184, 0, 195]
abbrev dktX5_taken_0 : List UInt8 := dkwX5_taken_0 ++ dktX5_taken_1
theorem dksX5_taken_0 : cX5_taken.data.toList.drop 0 = dktX5_taken_0 := by decide +kernel
theorem dksX5_taken_1 : cX5_taken.data.toList.drop 24 = dktX5_taken_1 := dk_seg dksX5_taken_0 24 rfl rfl
theorem dksX5_taken_2 : cX5_taken.data.toList.drop 32 = dktX5_taken_2 := dk_seg dksX5_taken_1 8 rfl rfl
theorem dksX5_taken_3 : cX5_taken.data.toList.drop 64 = dktX5_taken_3 := dk_seg dksX5_taken_2 32 rfl rfl
theorem dksX5_taken_4 : cX5_taken.data.toList.drop 86 = dktX5_taken_4 := dk_seg dksX5_taken_3 22 rfl rfl
theorem dksX5_taken_5 : cX5_taken.data.toList.drop 108 = dktX5_taken_5 := dk_seg dksX5_taken_4 22 rfl rfl
theorem dksX5_taken_6 : cX5_taken.data.toList.drop 130 = dktX5_taken_6 := dk_seg dksX5_taken_5 22 rfl rfl
theorem dksX5_taken_7 : cX5_taken.data.toList.drop 154 = dktX5_taken_7 := dk_seg dksX5_taken_6 24 rfl rfl
theorem dX5_taken_0 : decode cX5_taken 0 = .ok (.aload_n 0, 1) := dk_42 (dk_at dksX5_taken_0 0 rfl rfl)
theorem dX5_taken_1 : decode cX5_taken 1 = .ok (.getfield 169, 3) := dk_180 0 169 (dk_at dksX5_taken_0 1 rfl rfl)
theorem dX5_taken_4 : decode cX5_taken 4 = .ok (.istore_n 2, 1) := dk_61 (dk_at dksX5_taken_0 4 rfl rfl)
theorem dX5_taken_5 : decode cX5_taken 5 = .ok (.aload_n 0, 1) := dk_42 (dk_at dksX5_taken_0 5 rfl rfl)
theorem dX5_taken_6 : decode cX5_taken 6 = .ok (.iload_n 1, 1) := dk_27 (dk_at dksX5_taken_0 6 rfl rfl)
theorem dX5_taken_7 : decode cX5_taken 7 = .ok (.iconst 0, 1) := dk_3 (dk_at dksX5_taken_0 7 rfl rfl)
theorem dX5_taken_8 : decode cX5_taken 8 = .ok (.invokevirtual 188, 3) := dk_182 0 188 (dk_at dksX5_taken_0 8 rfl rfl)
theorem dX5_taken_11 : decode cX5_taken 11 = .ok (.invokestatic 195, 3) := dk_184 0 195 (dk_at dksX5_taken_0 11 rfl rfl)
theorem dX5_taken_14 : decode cX5_taken 14 = .ok (.istore_n 3, 1) := dk_62 (dk_at dksX5_taken_0 14 rfl rfl)
theorem dX5_taken_15 : decode cX5_taken 15 = .ok (.aload_n 0, 1) := dk_42 (dk_at dksX5_taken_0 15 rfl rfl)
theorem dX5_taken_16 : decode cX5_taken 16 = .ok (.iload_n 1, 1) := dk_27 (dk_at dksX5_taken_0 16 rfl rfl)
theorem dX5_taken_17 : decode cX5_taken 17 = .ok (.iconst 1, 1) := dk_4 (dk_at dksX5_taken_0 17 rfl rfl)
theorem dX5_taken_18 : decode cX5_taken 18 = .ok (.invokevirtual 188, 3) := dk_182 0 188 (dk_at dksX5_taken_0 18 rfl rfl)
theorem dX5_taken_21 : decode cX5_taken 21 = .ok (.invokestatic 195, 3) := dk_184 0 195 (dk_at dksX5_taken_0 21 rfl rfl)
theorem dX5_taken_24 : decode cX5_taken 24 = .ok (.istore 4, 2) := dk_54 4 (dk_at dksX5_taken_1 0 rfl rfl)
theorem dX5_taken_26 : decode cX5_taken 26 = .ok (.aload_n 0, 1) := dk_42 (dk_at dksX5_taken_1 2 rfl rfl)
theorem dX5_taken_27 : decode cX5_taken 27 = .ok (.getfield 13, 3) := dk_180 0 13 (dk_at dksX5_taken_1 3 rfl rfl)
theorem dX5_taken_30 : decode cX5_taken 30 = .ok (.iconst 3, 1) := dk_6 (dk_at dksX5_taken_1 6 rfl rfl)
theorem dX5_taken_31 : decode cX5_taken 31 = .ok (.iaload, 1) := dk_46 (dk_at dksX5_taken_1 7 rfl rfl)
theorem dX5_taken_32 : decode cX5_taken 32 = .ok (.tableswitch 138 1 4 #[32, 42, 102, 108], 32) := by decide +kernel
theorem dX5_taken_64 : decode cX5_taken 64 = .ok (.aload_n 0, 1) := dk_42 (dk_at dksX5_taken_3 0 rfl rfl)
theorem dX5_taken_65 : decode cX5_taken 65 = .ok (.iload_n 1, 1) := dk_27 (dk_at dksX5_taken_3 1 rfl rfl)
theorem dX5_taken_66 : decode cX5_taken 66 = .ok (.aload_n 0, 1) := dk_42 (dk_at dksX5_taken_3 2 rfl rfl)
theorem dX5_taken_67 : decode cX5_taken 67 = .ok (.getfield 175, 3) := dk_180 0 175 (dk_at dksX5_taken_3 3 rfl rfl)
theorem dX5_taken_70 : decode cX5_taken 70 = .ok (.invokevirtual 198, 3) := dk_182 0 198 (dk_at dksX5_taken_3 6 rfl rfl)
theorem dX5_taken_73 : decode cX5_taken 73 = .ok (.ireturn, 1) := dk_172 (dk_at dksX5_taken_3 9 rfl rfl)
theorem dX5_taken_74 : decode cX5_taken 74 = .ok (.aload_n 0, 1) := dk_42 (dk_at dksX5_taken_3 10 rfl rfl)
theorem dX5_taken_75 : decode cX5_taken 75 = .ok (.iload_n 1, 1) := dk_27 (dk_at dksX5_taken_3 11 rfl rfl)
theorem dX5_taken_76 : decode cX5_taken 76 = .ok (.iload_n 2, 1) := dk_28 (dk_at dksX5_taken_3 12 rfl rfl)
theorem dX5_taken_77 : decode cX5_taken 77 = .ok (.ifCond .ne 12, 3) := dk_154 0 12 (dk_at dksX5_taken_3 13 rfl rfl)
theorem dX5_taken_80 : decode cX5_taken 80 = .ok (.aload_n 0, 1) := dk_42 (dk_at dksX5_taken_3 16 rfl rfl)
theorem dX5_taken_81 : decode cX5_taken 81 = .ok (.getfield 13, 3) := dk_180 0 13 (dk_at dksX5_taken_3 17 rfl rfl)
theorem dX5_taken_84 : decode cX5_taken 84 = .ok (.iconst 2, 1) := dk_5 (dk_at dksX5_taken_3 20 rfl rfl)
theorem dX5_taken_85 : decode cX5_taken 85 = .ok (.iaload, 1) := dk_46 (dk_at dksX5_taken_3 21 rfl rfl)
theorem dX5_taken_86 : decode cX5_taken 86 = .ok (.goto 44, 3) := dk_167 0 44 (dk_at dksX5_taken_4 0 rfl rfl)
theorem dX5_taken_89 : decode cX5_taken 89 = .ok (.iload_n 2, 1) := dk_28 (dk_at dksX5_taken_4 3 rfl rfl)
theorem dX5_taken_90 : decode cX5_taken 90 = .ok (.iconst 1, 1) := dk_4 (dk_at dksX5_taken_4 4 rfl rfl)
theorem dX5_taken_91 : decode cX5_taken 91 = .ok (.if_icmp .le 32, 3) := dk_164 0 32 (dk_at dksX5_taken_4 5 rfl rfl)
theorem dX5_taken_94 : decode cX5_taken 94 = .ok (.aload_n 0, 1) := dk_42 (dk_at dksX5_taken_4 8 rfl rfl)
theorem dX5_taken_95 : decode cX5_taken 95 = .ok (.iload_n 2, 1) := dk_28 (dk_at dksX5_taken_4 9 rfl rfl)
theorem dX5_taken_96 : decode cX5_taken 96 = .ok (.iconst 1, 1) := dk_4 (dk_at dksX5_taken_4 10 rfl rfl)
theorem dX5_taken_97 : decode cX5_taken 97 = .ok (.isub, 1) := dk_100 (dk_at dksX5_taken_4 11 rfl rfl)
theorem dX5_taken_98 : decode cX5_taken 98 = .ok (.invokevirtual 201, 3) := dk_182 0 201 (dk_at dksX5_taken_4 12 rfl rfl)
theorem dX5_taken_101 : decode cX5_taken 101 = .ok (.aload_n 0, 1) := dk_42 (dk_at dksX5_taken_4 15 rfl rfl)
theorem dX5_taken_102 : decode cX5_taken 102 = .ok (.iload_n 2, 1) := dk_28 (dk_at dksX5_taken_4 16 rfl rfl)
theorem dX5_taken_103 : decode cX5_taken 103 = .ok (.iconst 2, 1) := dk_5 (dk_at dksX5_taken_4 17 rfl rfl)
theorem dX5_taken_104 : decode cX5_taken 104 = .ok (.isub, 1) := dk_100 (dk_at dksX5_taken_4 18 rfl rfl)
theorem dX5_taken_105 : decode cX5_taken 105 = .ok (.invokevirtual 201, 3) := dk_182 0 201 (dk_at dksX5_taken_4 19 rfl rfl)
theorem dX5_taken_108 : decode cX5_taken 108 = .ok (.if_icmp .ne 15, 3) := dk_160 0 15 (dk_at dksX5_taken_5 0 rfl rfl)
theorem dX5_taken_111 : decode cX5_taken 111 = .ok (.iconst 1, 1) := dk_4 (dk_at dksX5_taken_5 3 rfl rfl)
theorem dX5_taken_112 : decode cX5_taken 112 = .ok (.aload_n 0, 1) := dk_42 (dk_at dksX5_taken_5 4 rfl rfl)
theorem dX5_taken_113 : decode cX5_taken 113 = .ok (.iload_n 2, 1) := dk_28 (dk_at dksX5_taken_5 5 rfl rfl)
theorem dX5_taken_114 : decode cX5_taken 114 = .ok (.iconst 1, 1) := dk_4 (dk_at dksX5_taken_5 6 rfl rfl)
theorem dX5_taken_115 : decode cX5_taken 115 = .ok (.isub, 1) := dk_100 (dk_at dksX5_taken_5 7 rfl rfl)
theorem dX5_taken_116 : decode cX5_taken 116 = .ok (.invokevirtual 201, 3) := dk_182 0 201 (dk_at dksX5_taken_5 8 rfl rfl)
theorem dX5_taken_119 : decode cX5_taken 119 = .ok (.isub, 1) := dk_100 (dk_at dksX5_taken_5 11 rfl rfl)
theorem dX5_taken_120 : decode cX5_taken 120 = .ok (.goto 10, 3) := dk_167 0 10 (dk_at dksX5_taken_5 12 rfl rfl)
theorem dX5_taken_123 : decode cX5_taken 123 = .ok (.aload_n 0, 1) := dk_42 (dk_at dksX5_taken_5 15 rfl rfl)
theorem dX5_taken_124 : decode cX5_taken 124 = .ok (.iload_n 2, 1) := dk_28 (dk_at dksX5_taken_5 16 rfl rfl)
theorem dX5_taken_125 : decode cX5_taken 125 = .ok (.iconst 1, 1) := dk_4 (dk_at dksX5_taken_5 17 rfl rfl)
theorem dX5_taken_126 : decode cX5_taken 126 = .ok (.isub, 1) := dk_100 (dk_at dksX5_taken_5 18 rfl rfl)
theorem dX5_taken_127 : decode cX5_taken 127 = .ok (.invokevirtual 201, 3) := dk_182 0 201 (dk_at dksX5_taken_5 19 rfl rfl)
theorem dX5_taken_130 : decode cX5_taken 130 = .ok (.invokevirtual 198, 3) := dk_182 0 198 (dk_at dksX5_taken_6 0 rfl rfl)
theorem dX5_taken_133 : decode cX5_taken 133 = .ok (.ireturn, 1) := dk_172 (dk_at dksX5_taken_6 3 rfl rfl)
theorem dX5_taken_134 : decode cX5_taken 134 = .ok (.aload_n 0, 1) := dk_42 (dk_at dksX5_taken_6 4 rfl rfl)
theorem dX5_taken_135 : decode cX5_taken 135 = .ok (.iload_n 1, 1) := dk_27 (dk_at dksX5_taken_6 5 rfl rfl)
theorem dX5_taken_136 : decode cX5_taken 136 = .ok (.invokevirtual 204, 3) := dk_182 0 204 (dk_at dksX5_taken_6 6 rfl rfl)
theorem dX5_taken_139 : decode cX5_taken 139 = .ok (.ireturn, 1) := dk_172 (dk_at dksX5_taken_6 9 rfl rfl)
theorem dX5_taken_140 : decode cX5_taken 140 = .ok (.aload_n 0, 1) := dk_42 (dk_at dksX5_taken_6 10 rfl rfl)
theorem dX5_taken_141 : decode cX5_taken 141 = .ok (.iload_n 1, 1) := dk_27 (dk_at dksX5_taken_6 11 rfl rfl)
theorem dX5_taken_142 : decode cX5_taken 142 = .ok (.iload_n 3, 1) := dk_29 (dk_at dksX5_taken_6 12 rfl rfl)
theorem dX5_taken_143 : decode cX5_taken 143 = .ok (.iload 4, 2) := dk_21 4 (dk_at dksX5_taken_6 13 rfl rfl)
theorem dX5_taken_145 : decode cX5_taken 145 = .ok (.if_icmp .le 7, 3) := dk_164 0 7 (dk_at dksX5_taken_6 15 rfl rfl)
theorem dX5_taken_148 : decode cX5_taken 148 = .ok (.iconst 0, 1) := dk_3 (dk_at dksX5_taken_6 18 rfl rfl)
theorem dX5_taken_149 : decode cX5_taken 149 = .ok (.goto 17, 3) := dk_167 0 17 (dk_at dksX5_taken_6 19 rfl rfl)
theorem dX5_taken_152 : decode cX5_taken 152 = .ok (.iload 4, 2) := dk_21 4 (dk_at dksX5_taken_6 22 rfl rfl)
theorem dX5_taken_154 : decode cX5_taken 154 = .ok (.iload_n 3, 1) := dk_29 (dk_at dksX5_taken_7 0 rfl rfl)
theorem dX5_taken_155 : decode cX5_taken 155 = .ok (.if_icmp .le 7, 3) := dk_164 0 7 (dk_at dksX5_taken_7 1 rfl rfl)
theorem dX5_taken_158 : decode cX5_taken 158 = .ok (.iconst 1, 1) := dk_4 (dk_at dksX5_taken_7 4 rfl rfl)
theorem dX5_taken_159 : decode cX5_taken 159 = .ok (.goto 7, 3) := dk_167 0 7 (dk_at dksX5_taken_7 5 rfl rfl)
theorem dX5_taken_162 : decode cX5_taken 162 = .ok (.aload_n 0, 1) := dk_42 (dk_at dksX5_taken_7 8 rfl rfl)
theorem dX5_taken_163 : decode cX5_taken 163 = .ok (.getfield 175, 3) := dk_180 0 175 (dk_at dksX5_taken_7 9 rfl rfl)
theorem dX5_taken_166 : decode cX5_taken 166 = .ok (.invokevirtual 198, 3) := dk_182 0 198 (dk_at dksX5_taken_7 12 rfl rfl)
theorem dX5_taken_169 : decode cX5_taken 169 = .ok (.ireturn, 1) := dk_172 (dk_at dksX5_taken_7 15 rfl rfl)
theorem dX5_taken_170 : decode cX5_taken 170 = .ok (.iload_n 1, 1) := dk_27 (dk_at dksX5_taken_7 16 rfl rfl)
theorem dX5_taken_171 : decode cX5_taken 171 = .ok (.ireturn, 1) := dk_172 (dk_at dksX5_taken_7 17 rfl rfl)
abbrev cX5_comeFrom : ByteArray := prog_14_method_36_code
def yX5_comeFrom : MethodName := ⟨RX5, "comeFrom", "(II)I"⟩
def dkwX5_comeFrom_2 : List UInt8 := [120, 128, 62, 132, 4, 1, 167, 255, 209, 29, 172]
abbrev dktX5_comeFrom_2 : List UInt8 := dkwX5_comeFrom_2 ++ []
def dkwX5_comeFrom_1 : List UInt8 := [160, 0, 18, 42, 21, 4, 3, 182, 0, 166, 28, 160, 0, 7, 4, 167, 0, 4, 3, 184, 0, 184, 21, 4]
abbrev dktX5_comeFrom_1 : List UInt8 := dkwX5_comeFrom_1 ++ dktX5_comeFrom_2
def dkwX5_comeFrom_0 : List UInt8 := [3, 62, 3, 54, 4, 21, 4, 42, 180, 0, 69, 162, 0, 44, 29, 27, 21, 4, 122, 4, 126, 4]
abbrev dktX5_comeFrom_0 : List UInt8 := dkwX5_comeFrom_0 ++ dktX5_comeFrom_1
theorem dksX5_comeFrom_0 : cX5_comeFrom.data.toList.drop 0 = dktX5_comeFrom_0 := by decide +kernel
theorem dksX5_comeFrom_1 : cX5_comeFrom.data.toList.drop 22 = dktX5_comeFrom_1 := dk_seg dksX5_comeFrom_0 22 rfl rfl
theorem dksX5_comeFrom_2 : cX5_comeFrom.data.toList.drop 46 = dktX5_comeFrom_2 := dk_seg dksX5_comeFrom_1 24 rfl rfl
theorem dX5_comeFrom_0 : decode cX5_comeFrom 0 = .ok (.iconst 0, 1) := dk_3 (dk_at dksX5_comeFrom_0 0 rfl rfl)
theorem dX5_comeFrom_1 : decode cX5_comeFrom 1 = .ok (.istore_n 3, 1) := dk_62 (dk_at dksX5_comeFrom_0 1 rfl rfl)
theorem dX5_comeFrom_2 : decode cX5_comeFrom 2 = .ok (.iconst 0, 1) := dk_3 (dk_at dksX5_comeFrom_0 2 rfl rfl)
theorem dX5_comeFrom_3 : decode cX5_comeFrom 3 = .ok (.istore 4, 2) := dk_54 4 (dk_at dksX5_comeFrom_0 3 rfl rfl)
theorem dX5_comeFrom_5 : decode cX5_comeFrom 5 = .ok (.iload 4, 2) := dk_21 4 (dk_at dksX5_comeFrom_0 5 rfl rfl)
theorem dX5_comeFrom_7 : decode cX5_comeFrom 7 = .ok (.aload_n 0, 1) := dk_42 (dk_at dksX5_comeFrom_0 7 rfl rfl)
theorem dX5_comeFrom_8 : decode cX5_comeFrom 8 = .ok (.getfield 69, 3) := dk_180 0 69 (dk_at dksX5_comeFrom_0 8 rfl rfl)
theorem dX5_comeFrom_11 : decode cX5_comeFrom 11 = .ok (.if_icmp .ge 44, 3) := dk_162 0 44 (dk_at dksX5_comeFrom_0 11 rfl rfl)
theorem dX5_comeFrom_14 : decode cX5_comeFrom 14 = .ok (.iload_n 3, 1) := dk_29 (dk_at dksX5_comeFrom_0 14 rfl rfl)
theorem dX5_comeFrom_15 : decode cX5_comeFrom 15 = .ok (.iload_n 1, 1) := dk_27 (dk_at dksX5_comeFrom_0 15 rfl rfl)
theorem dX5_comeFrom_16 : decode cX5_comeFrom 16 = .ok (.iload 4, 2) := dk_21 4 (dk_at dksX5_comeFrom_0 16 rfl rfl)
theorem dX5_comeFrom_18 : decode cX5_comeFrom 18 = .ok (.ishr, 1) := dk_122 (dk_at dksX5_comeFrom_0 18 rfl rfl)
theorem dX5_comeFrom_19 : decode cX5_comeFrom 19 = .ok (.iconst 1, 1) := dk_4 (dk_at dksX5_comeFrom_0 19 rfl rfl)
theorem dX5_comeFrom_20 : decode cX5_comeFrom 20 = .ok (.iand, 1) := dk_126 (dk_at dksX5_comeFrom_0 20 rfl rfl)
theorem dX5_comeFrom_21 : decode cX5_comeFrom 21 = .ok (.iconst 1, 1) := dk_4 (dk_at dksX5_comeFrom_0 21 rfl rfl)
theorem dX5_comeFrom_22 : decode cX5_comeFrom 22 = .ok (.if_icmp .ne 18, 3) := dk_160 0 18 (dk_at dksX5_comeFrom_1 0 rfl rfl)
theorem dX5_comeFrom_25 : decode cX5_comeFrom 25 = .ok (.aload_n 0, 1) := dk_42 (dk_at dksX5_comeFrom_1 3 rfl rfl)
theorem dX5_comeFrom_26 : decode cX5_comeFrom 26 = .ok (.iload 4, 2) := dk_21 4 (dk_at dksX5_comeFrom_1 4 rfl rfl)
theorem dX5_comeFrom_28 : decode cX5_comeFrom 28 = .ok (.iconst 0, 1) := dk_3 (dk_at dksX5_comeFrom_1 6 rfl rfl)
theorem dX5_comeFrom_29 : decode cX5_comeFrom 29 = .ok (.invokevirtual 166, 3) := dk_182 0 166 (dk_at dksX5_comeFrom_1 7 rfl rfl)
theorem dX5_comeFrom_32 : decode cX5_comeFrom 32 = .ok (.iload_n 2, 1) := dk_28 (dk_at dksX5_comeFrom_1 10 rfl rfl)
theorem dX5_comeFrom_33 : decode cX5_comeFrom 33 = .ok (.if_icmp .ne 7, 3) := dk_160 0 7 (dk_at dksX5_comeFrom_1 11 rfl rfl)
theorem dX5_comeFrom_36 : decode cX5_comeFrom 36 = .ok (.iconst 1, 1) := dk_4 (dk_at dksX5_comeFrom_1 14 rfl rfl)
theorem dX5_comeFrom_37 : decode cX5_comeFrom 37 = .ok (.goto 4, 3) := dk_167 0 4 (dk_at dksX5_comeFrom_1 15 rfl rfl)
theorem dX5_comeFrom_40 : decode cX5_comeFrom 40 = .ok (.iconst 0, 1) := dk_3 (dk_at dksX5_comeFrom_1 18 rfl rfl)
theorem dX5_comeFrom_41 : decode cX5_comeFrom 41 = .ok (.invokestatic 184, 3) := dk_184 0 184 (dk_at dksX5_comeFrom_1 19 rfl rfl)
theorem dX5_comeFrom_44 : decode cX5_comeFrom 44 = .ok (.iload 4, 2) := dk_21 4 (dk_at dksX5_comeFrom_1 22 rfl rfl)
theorem dX5_comeFrom_46 : decode cX5_comeFrom 46 = .ok (.ishl, 1) := dk_120 (dk_at dksX5_comeFrom_2 0 rfl rfl)
theorem dX5_comeFrom_47 : decode cX5_comeFrom 47 = .ok (.ior, 1) := dk_128 (dk_at dksX5_comeFrom_2 1 rfl rfl)
theorem dX5_comeFrom_48 : decode cX5_comeFrom 48 = .ok (.istore_n 3, 1) := dk_62 (dk_at dksX5_comeFrom_2 2 rfl rfl)
theorem dX5_comeFrom_49 : decode cX5_comeFrom 49 = .ok (.iinc 4 1, 3) := dk_132 4 1 (dk_at dksX5_comeFrom_2 3 rfl rfl)
theorem dX5_comeFrom_52 : decode cX5_comeFrom 52 = .ok (.goto (-47), 3) := dk_167 255 209 (dk_at dksX5_comeFrom_2 6 rfl rfl)
theorem dX5_comeFrom_55 : decode cX5_comeFrom 55 = .ok (.iload_n 3, 1) := dk_29 (dk_at dksX5_comeFrom_2 9 rfl rfl)
theorem dX5_comeFrom_56 : decode cX5_comeFrom 56 = .ok (.ireturn, 1) := dk_172 (dk_at dksX5_comeFrom_2 10 rfl rfl)
abbrev cX5_bitsOf : ByteArray := prog_14_method_37_code
def yX5_bitsOf : MethodName := ⟨RX5, "bitsOf", "(I)I"⟩
def dkwX5_bitsOf_1 : List UInt8 := [27, 172]
abbrev dktX5_bitsOf_1 : List UInt8 := dkwX5_bitsOf_1 ++ []
def dkwX5_bitsOf_0 : List UInt8 := [3, 60, 3, 61, 28, 16, 6, 162, 0, 17, 27, 26, 28, 122, 4, 126, 96, 60, 132, 2, 1, 167, 255, 239]
abbrev dktX5_bitsOf_0 : List UInt8 := dkwX5_bitsOf_0 ++ dktX5_bitsOf_1
theorem dksX5_bitsOf_0 : cX5_bitsOf.data.toList.drop 0 = dktX5_bitsOf_0 := by decide +kernel
theorem dksX5_bitsOf_1 : cX5_bitsOf.data.toList.drop 24 = dktX5_bitsOf_1 := dk_seg dksX5_bitsOf_0 24 rfl rfl
theorem dX5_bitsOf_0 : decode cX5_bitsOf 0 = .ok (.iconst 0, 1) := dk_3 (dk_at dksX5_bitsOf_0 0 rfl rfl)
theorem dX5_bitsOf_1 : decode cX5_bitsOf 1 = .ok (.istore_n 1, 1) := dk_60 (dk_at dksX5_bitsOf_0 1 rfl rfl)
theorem dX5_bitsOf_2 : decode cX5_bitsOf 2 = .ok (.iconst 0, 1) := dk_3 (dk_at dksX5_bitsOf_0 2 rfl rfl)
theorem dX5_bitsOf_3 : decode cX5_bitsOf 3 = .ok (.istore_n 2, 1) := dk_61 (dk_at dksX5_bitsOf_0 3 rfl rfl)
theorem dX5_bitsOf_4 : decode cX5_bitsOf 4 = .ok (.iload_n 2, 1) := dk_28 (dk_at dksX5_bitsOf_0 4 rfl rfl)
theorem dX5_bitsOf_5 : decode cX5_bitsOf 5 = .ok (.bipush 6, 2) := dk_16 6 (dk_at dksX5_bitsOf_0 5 rfl rfl)
theorem dX5_bitsOf_7 : decode cX5_bitsOf 7 = .ok (.if_icmp .ge 17, 3) := dk_162 0 17 (dk_at dksX5_bitsOf_0 7 rfl rfl)
theorem dX5_bitsOf_10 : decode cX5_bitsOf 10 = .ok (.iload_n 1, 1) := dk_27 (dk_at dksX5_bitsOf_0 10 rfl rfl)
theorem dX5_bitsOf_11 : decode cX5_bitsOf 11 = .ok (.iload_n 0, 1) := dk_26 (dk_at dksX5_bitsOf_0 11 rfl rfl)
theorem dX5_bitsOf_12 : decode cX5_bitsOf 12 = .ok (.iload_n 2, 1) := dk_28 (dk_at dksX5_bitsOf_0 12 rfl rfl)
theorem dX5_bitsOf_13 : decode cX5_bitsOf 13 = .ok (.ishr, 1) := dk_122 (dk_at dksX5_bitsOf_0 13 rfl rfl)
theorem dX5_bitsOf_14 : decode cX5_bitsOf 14 = .ok (.iconst 1, 1) := dk_4 (dk_at dksX5_bitsOf_0 14 rfl rfl)
theorem dX5_bitsOf_15 : decode cX5_bitsOf 15 = .ok (.iand, 1) := dk_126 (dk_at dksX5_bitsOf_0 15 rfl rfl)
theorem dX5_bitsOf_16 : decode cX5_bitsOf 16 = .ok (.iadd, 1) := dk_96 (dk_at dksX5_bitsOf_0 16 rfl rfl)
theorem dX5_bitsOf_17 : decode cX5_bitsOf 17 = .ok (.istore_n 1, 1) := dk_60 (dk_at dksX5_bitsOf_0 17 rfl rfl)
theorem dX5_bitsOf_18 : decode cX5_bitsOf 18 = .ok (.iinc 2 1, 3) := dk_132 2 1 (dk_at dksX5_bitsOf_0 18 rfl rfl)
theorem dX5_bitsOf_21 : decode cX5_bitsOf 21 = .ok (.goto (-17), 3) := dk_167 255 239 (dk_at dksX5_bitsOf_0 21 rfl rfl)
theorem dX5_bitsOf_24 : decode cX5_bitsOf 24 = .ok (.iload_n 1, 1) := dk_27 (dk_at dksX5_bitsOf_1 0 rfl rfl)
theorem dX5_bitsOf_25 : decode cX5_bitsOf 25 = .ok (.ireturn, 1) := dk_172 (dk_at dksX5_bitsOf_1 1 rfl rfl)
abbrev cX5_preferred : ByteArray := prog_14_method_38_code
def yX5_preferred : MethodName := ⟨RX5, "preferred", "(II)I"⟩
def dkwX5_preferred_0 : List UInt8 := [42, 27, 28, 182, 0, 188, 62, 29, 154, 0, 7, 27, 167, 0, 4, 29, 172]
abbrev dktX5_preferred_0 : List UInt8 := dkwX5_preferred_0 ++ []
theorem dksX5_preferred_0 : cX5_preferred.data.toList.drop 0 = dktX5_preferred_0 := by decide +kernel
theorem dX5_preferred_0 : decode cX5_preferred 0 = .ok (.aload_n 0, 1) := dk_42 (dk_at dksX5_preferred_0 0 rfl rfl)
theorem dX5_preferred_1 : decode cX5_preferred 1 = .ok (.iload_n 1, 1) := dk_27 (dk_at dksX5_preferred_0 1 rfl rfl)
theorem dX5_preferred_2 : decode cX5_preferred 2 = .ok (.iload_n 2, 1) := dk_28 (dk_at dksX5_preferred_0 2 rfl rfl)
theorem dX5_preferred_3 : decode cX5_preferred 3 = .ok (.invokevirtual 188, 3) := dk_182 0 188 (dk_at dksX5_preferred_0 3 rfl rfl)
theorem dX5_preferred_6 : decode cX5_preferred 6 = .ok (.istore_n 3, 1) := dk_62 (dk_at dksX5_preferred_0 6 rfl rfl)
theorem dX5_preferred_7 : decode cX5_preferred 7 = .ok (.iload_n 3, 1) := dk_29 (dk_at dksX5_preferred_0 7 rfl rfl)
theorem dX5_preferred_8 : decode cX5_preferred 8 = .ok (.ifCond .ne 7, 3) := dk_154 0 7 (dk_at dksX5_preferred_0 8 rfl rfl)
theorem dX5_preferred_11 : decode cX5_preferred 11 = .ok (.iload_n 1, 1) := dk_27 (dk_at dksX5_preferred_0 11 rfl rfl)
theorem dX5_preferred_12 : decode cX5_preferred 12 = .ok (.goto 4, 3) := dk_167 0 4 (dk_at dksX5_preferred_0 12 rfl rfl)
theorem dX5_preferred_15 : decode cX5_preferred 15 = .ok (.iload_n 3, 1) := dk_29 (dk_at dksX5_preferred_0 15 rfl rfl)
theorem dX5_preferred_16 : decode cX5_preferred 16 = .ok (.ireturn, 1) := dk_172 (dk_at dksX5_preferred_0 16 rfl rfl)
abbrev cX5_sideOf : ByteArray := prog_14_method_35_code
def yX5_sideOf : MethodName := ⟨RX5, "sideOf", "(I)I"⟩
def dkwX5_sideOf_0 : List UInt8 := [42, 42, 180, 0, 26, 27, 46, 3, 182, 0, 166, 172]
abbrev dktX5_sideOf_0 : List UInt8 := dkwX5_sideOf_0 ++ []
theorem dksX5_sideOf_0 : cX5_sideOf.data.toList.drop 0 = dktX5_sideOf_0 := by decide +kernel
theorem dX5_sideOf_0 : decode cX5_sideOf 0 = .ok (.aload_n 0, 1) := dk_42 (dk_at dksX5_sideOf_0 0 rfl rfl)
theorem dX5_sideOf_1 : decode cX5_sideOf 1 = .ok (.aload_n 0, 1) := dk_42 (dk_at dksX5_sideOf_0 1 rfl rfl)
theorem dX5_sideOf_2 : decode cX5_sideOf 2 = .ok (.getfield 26, 3) := dk_180 0 26 (dk_at dksX5_sideOf_0 2 rfl rfl)
theorem dX5_sideOf_5 : decode cX5_sideOf 5 = .ok (.iload_n 1, 1) := dk_27 (dk_at dksX5_sideOf_0 5 rfl rfl)
theorem dX5_sideOf_6 : decode cX5_sideOf 6 = .ok (.iaload, 1) := dk_46 (dk_at dksX5_sideOf_0 6 rfl rfl)
theorem dX5_sideOf_7 : decode cX5_sideOf 7 = .ok (.iconst 0, 1) := dk_3 (dk_at dksX5_sideOf_0 7 rfl rfl)
theorem dX5_sideOf_8 : decode cX5_sideOf 8 = .ok (.invokevirtual 166, 3) := dk_182 0 166 (dk_at dksX5_sideOf_0 8 rfl rfl)
theorem dX5_sideOf_11 : decode cX5_sideOf 11 = .ok (.ireturn, 1) := dk_172 (dk_at dksX5_sideOf_0 11 rfl rfl)
abbrev cX5_leastCargo : ByteArray := prog_14_method_39_code
def yX5_leastCargo : MethodName := ⟨RX5, "leastCargo", "(I)I"⟩
def dkwX5_leastCargo_3 : List UInt8 := [21, 5, 167, 0, 4, 28, 61, 132, 4, 1, 167, 255, 183, 29, 172]
abbrev dktX5_leastCargo_3 : List UInt8 := dkwX5_leastCargo_3 ++ []
def dkwX5_leastCargo_2 : List UInt8 := [21, 5, 28, 160, 0, 12, 29, 4, 21, 4, 120, 128, 167, 0, 4, 29, 62, 21, 5, 28, 162, 0, 8]
abbrev dktX5_leastCargo_2 : List UInt8 := dkwX5_leastCargo_2 ++ dktX5_leastCargo_3
def dkwX5_leastCargo_1 : List UInt8 := [160, 0, 54, 42, 21, 4, 182, 0, 192, 54, 5, 21, 5, 28, 162, 0, 10, 4, 21, 4, 120, 167, 0, 19]
abbrev dktX5_leastCargo_1 : List UInt8 := dkwX5_leastCargo_1 ++ dktX5_leastCargo_2
def dkwX5_leastCargo_0 : List UInt8 := [18, 191, 61, 3, 62, 3, 54, 4, 21, 4, 42, 180, 0, 69, 162, 0, 70, 27, 21, 4, 122, 4, 126, 4]
abbrev dktX5_leastCargo_0 : List UInt8 := dkwX5_leastCargo_0 ++ dktX5_leastCargo_1
theorem dksX5_leastCargo_0 : cX5_leastCargo.data.toList.drop 0 = dktX5_leastCargo_0 := by decide +kernel
theorem dksX5_leastCargo_1 : cX5_leastCargo.data.toList.drop 24 = dktX5_leastCargo_1 := dk_seg dksX5_leastCargo_0 24 rfl rfl
theorem dksX5_leastCargo_2 : cX5_leastCargo.data.toList.drop 48 = dktX5_leastCargo_2 := dk_seg dksX5_leastCargo_1 24 rfl rfl
theorem dksX5_leastCargo_3 : cX5_leastCargo.data.toList.drop 71 = dktX5_leastCargo_3 := dk_seg dksX5_leastCargo_2 23 rfl rfl
theorem dX5_leastCargo_0 : decode cX5_leastCargo 0 = .ok (.ldc 191, 2) := dk_18 191 (dk_at dksX5_leastCargo_0 0 rfl rfl)
theorem dX5_leastCargo_2 : decode cX5_leastCargo 2 = .ok (.istore_n 2, 1) := dk_61 (dk_at dksX5_leastCargo_0 2 rfl rfl)
theorem dX5_leastCargo_3 : decode cX5_leastCargo 3 = .ok (.iconst 0, 1) := dk_3 (dk_at dksX5_leastCargo_0 3 rfl rfl)
theorem dX5_leastCargo_4 : decode cX5_leastCargo 4 = .ok (.istore_n 3, 1) := dk_62 (dk_at dksX5_leastCargo_0 4 rfl rfl)
theorem dX5_leastCargo_5 : decode cX5_leastCargo 5 = .ok (.iconst 0, 1) := dk_3 (dk_at dksX5_leastCargo_0 5 rfl rfl)
theorem dX5_leastCargo_6 : decode cX5_leastCargo 6 = .ok (.istore 4, 2) := dk_54 4 (dk_at dksX5_leastCargo_0 6 rfl rfl)
theorem dX5_leastCargo_8 : decode cX5_leastCargo 8 = .ok (.iload 4, 2) := dk_21 4 (dk_at dksX5_leastCargo_0 8 rfl rfl)
theorem dX5_leastCargo_10 : decode cX5_leastCargo 10 = .ok (.aload_n 0, 1) := dk_42 (dk_at dksX5_leastCargo_0 10 rfl rfl)
theorem dX5_leastCargo_11 : decode cX5_leastCargo 11 = .ok (.getfield 69, 3) := dk_180 0 69 (dk_at dksX5_leastCargo_0 11 rfl rfl)
theorem dX5_leastCargo_14 : decode cX5_leastCargo 14 = .ok (.if_icmp .ge 70, 3) := dk_162 0 70 (dk_at dksX5_leastCargo_0 14 rfl rfl)
theorem dX5_leastCargo_17 : decode cX5_leastCargo 17 = .ok (.iload_n 1, 1) := dk_27 (dk_at dksX5_leastCargo_0 17 rfl rfl)
theorem dX5_leastCargo_18 : decode cX5_leastCargo 18 = .ok (.iload 4, 2) := dk_21 4 (dk_at dksX5_leastCargo_0 18 rfl rfl)
theorem dX5_leastCargo_20 : decode cX5_leastCargo 20 = .ok (.ishr, 1) := dk_122 (dk_at dksX5_leastCargo_0 20 rfl rfl)
theorem dX5_leastCargo_21 : decode cX5_leastCargo 21 = .ok (.iconst 1, 1) := dk_4 (dk_at dksX5_leastCargo_0 21 rfl rfl)
theorem dX5_leastCargo_22 : decode cX5_leastCargo 22 = .ok (.iand, 1) := dk_126 (dk_at dksX5_leastCargo_0 22 rfl rfl)
theorem dX5_leastCargo_23 : decode cX5_leastCargo 23 = .ok (.iconst 1, 1) := dk_4 (dk_at dksX5_leastCargo_0 23 rfl rfl)
theorem dX5_leastCargo_24 : decode cX5_leastCargo 24 = .ok (.if_icmp .ne 54, 3) := dk_160 0 54 (dk_at dksX5_leastCargo_1 0 rfl rfl)
theorem dX5_leastCargo_27 : decode cX5_leastCargo 27 = .ok (.aload_n 0, 1) := dk_42 (dk_at dksX5_leastCargo_1 3 rfl rfl)
theorem dX5_leastCargo_28 : decode cX5_leastCargo 28 = .ok (.iload 4, 2) := dk_21 4 (dk_at dksX5_leastCargo_1 4 rfl rfl)
theorem dX5_leastCargo_30 : decode cX5_leastCargo 30 = .ok (.invokevirtual 192, 3) := dk_182 0 192 (dk_at dksX5_leastCargo_1 6 rfl rfl)
theorem dX5_leastCargo_33 : decode cX5_leastCargo 33 = .ok (.istore 5, 2) := dk_54 5 (dk_at dksX5_leastCargo_1 9 rfl rfl)
theorem dX5_leastCargo_35 : decode cX5_leastCargo 35 = .ok (.iload 5, 2) := dk_21 5 (dk_at dksX5_leastCargo_1 11 rfl rfl)
theorem dX5_leastCargo_37 : decode cX5_leastCargo 37 = .ok (.iload_n 2, 1) := dk_28 (dk_at dksX5_leastCargo_1 13 rfl rfl)
theorem dX5_leastCargo_38 : decode cX5_leastCargo 38 = .ok (.if_icmp .ge 10, 3) := dk_162 0 10 (dk_at dksX5_leastCargo_1 14 rfl rfl)
theorem dX5_leastCargo_41 : decode cX5_leastCargo 41 = .ok (.iconst 1, 1) := dk_4 (dk_at dksX5_leastCargo_1 17 rfl rfl)
theorem dX5_leastCargo_42 : decode cX5_leastCargo 42 = .ok (.iload 4, 2) := dk_21 4 (dk_at dksX5_leastCargo_1 18 rfl rfl)
theorem dX5_leastCargo_44 : decode cX5_leastCargo 44 = .ok (.ishl, 1) := dk_120 (dk_at dksX5_leastCargo_1 20 rfl rfl)
theorem dX5_leastCargo_45 : decode cX5_leastCargo 45 = .ok (.goto 19, 3) := dk_167 0 19 (dk_at dksX5_leastCargo_1 21 rfl rfl)
theorem dX5_leastCargo_48 : decode cX5_leastCargo 48 = .ok (.iload 5, 2) := dk_21 5 (dk_at dksX5_leastCargo_2 0 rfl rfl)
theorem dX5_leastCargo_50 : decode cX5_leastCargo 50 = .ok (.iload_n 2, 1) := dk_28 (dk_at dksX5_leastCargo_2 2 rfl rfl)
theorem dX5_leastCargo_51 : decode cX5_leastCargo 51 = .ok (.if_icmp .ne 12, 3) := dk_160 0 12 (dk_at dksX5_leastCargo_2 3 rfl rfl)
theorem dX5_leastCargo_54 : decode cX5_leastCargo 54 = .ok (.iload_n 3, 1) := dk_29 (dk_at dksX5_leastCargo_2 6 rfl rfl)
theorem dX5_leastCargo_55 : decode cX5_leastCargo 55 = .ok (.iconst 1, 1) := dk_4 (dk_at dksX5_leastCargo_2 7 rfl rfl)
theorem dX5_leastCargo_56 : decode cX5_leastCargo 56 = .ok (.iload 4, 2) := dk_21 4 (dk_at dksX5_leastCargo_2 8 rfl rfl)
theorem dX5_leastCargo_58 : decode cX5_leastCargo 58 = .ok (.ishl, 1) := dk_120 (dk_at dksX5_leastCargo_2 10 rfl rfl)
theorem dX5_leastCargo_59 : decode cX5_leastCargo 59 = .ok (.ior, 1) := dk_128 (dk_at dksX5_leastCargo_2 11 rfl rfl)
theorem dX5_leastCargo_60 : decode cX5_leastCargo 60 = .ok (.goto 4, 3) := dk_167 0 4 (dk_at dksX5_leastCargo_2 12 rfl rfl)
theorem dX5_leastCargo_63 : decode cX5_leastCargo 63 = .ok (.iload_n 3, 1) := dk_29 (dk_at dksX5_leastCargo_2 15 rfl rfl)
theorem dX5_leastCargo_64 : decode cX5_leastCargo 64 = .ok (.istore_n 3, 1) := dk_62 (dk_at dksX5_leastCargo_2 16 rfl rfl)
theorem dX5_leastCargo_65 : decode cX5_leastCargo 65 = .ok (.iload 5, 2) := dk_21 5 (dk_at dksX5_leastCargo_2 17 rfl rfl)
theorem dX5_leastCargo_67 : decode cX5_leastCargo 67 = .ok (.iload_n 2, 1) := dk_28 (dk_at dksX5_leastCargo_2 19 rfl rfl)
theorem dX5_leastCargo_68 : decode cX5_leastCargo 68 = .ok (.if_icmp .ge 8, 3) := dk_162 0 8 (dk_at dksX5_leastCargo_2 20 rfl rfl)
theorem dX5_leastCargo_71 : decode cX5_leastCargo 71 = .ok (.iload 5, 2) := dk_21 5 (dk_at dksX5_leastCargo_3 0 rfl rfl)
theorem dX5_leastCargo_73 : decode cX5_leastCargo 73 = .ok (.goto 4, 3) := dk_167 0 4 (dk_at dksX5_leastCargo_3 2 rfl rfl)
theorem dX5_leastCargo_76 : decode cX5_leastCargo 76 = .ok (.iload_n 2, 1) := dk_28 (dk_at dksX5_leastCargo_3 5 rfl rfl)
theorem dX5_leastCargo_77 : decode cX5_leastCargo 77 = .ok (.istore_n 2, 1) := dk_61 (dk_at dksX5_leastCargo_3 6 rfl rfl)
theorem dX5_leastCargo_78 : decode cX5_leastCargo 78 = .ok (.iinc 4 1, 3) := dk_132 4 1 (dk_at dksX5_leastCargo_3 7 rfl rfl)
theorem dX5_leastCargo_81 : decode cX5_leastCargo 81 = .ok (.goto (-73), 3) := dk_167 255 183 (dk_at dksX5_leastCargo_3 10 rfl rfl)
theorem dX5_leastCargo_84 : decode cX5_leastCargo 84 = .ok (.iload_n 3, 1) := dk_29 (dk_at dksX5_leastCargo_3 13 rfl rfl)
theorem dX5_leastCargo_85 : decode cX5_leastCargo 85 = .ok (.ireturn, 1) := dk_172 (dk_at dksX5_leastCargo_3 14 rfl rfl)
abbrev cX5_cargoTold : ByteArray := prog_14_method_32_code
def yX5_cargoTold : MethodName := ⟨RX5, "cargoTold", "(I)I"⟩
def dkwX5_cargoTold_1 : List UInt8 := [4, 126, 4, 160, 0, 7, 7, 167, 0, 4, 3, 172]
abbrev dktX5_cargoTold_1 : List UInt8 := dkwX5_cargoTold_1 ++ []
def dkwX5_cargoTold_0 : List UInt8 := [42, 27, 8, 182, 0, 166, 154, 0, 12, 42, 27, 4, 182, 0, 166, 167, 0, 20, 42, 180, 0, 163, 27, 122]
abbrev dktX5_cargoTold_0 : List UInt8 := dkwX5_cargoTold_0 ++ dktX5_cargoTold_1
theorem dksX5_cargoTold_0 : cX5_cargoTold.data.toList.drop 0 = dktX5_cargoTold_0 := by decide +kernel
theorem dksX5_cargoTold_1 : cX5_cargoTold.data.toList.drop 24 = dktX5_cargoTold_1 := dk_seg dksX5_cargoTold_0 24 rfl rfl
theorem dX5_cargoTold_0 : decode cX5_cargoTold 0 = .ok (.aload_n 0, 1) := dk_42 (dk_at dksX5_cargoTold_0 0 rfl rfl)
theorem dX5_cargoTold_1 : decode cX5_cargoTold 1 = .ok (.iload_n 1, 1) := dk_27 (dk_at dksX5_cargoTold_0 1 rfl rfl)
theorem dX5_cargoTold_2 : decode cX5_cargoTold 2 = .ok (.iconst 5, 1) := dk_8 (dk_at dksX5_cargoTold_0 2 rfl rfl)
theorem dX5_cargoTold_3 : decode cX5_cargoTold 3 = .ok (.invokevirtual 166, 3) := dk_182 0 166 (dk_at dksX5_cargoTold_0 3 rfl rfl)
theorem dX5_cargoTold_6 : decode cX5_cargoTold 6 = .ok (.ifCond .ne 12, 3) := dk_154 0 12 (dk_at dksX5_cargoTold_0 6 rfl rfl)
theorem dX5_cargoTold_9 : decode cX5_cargoTold 9 = .ok (.aload_n 0, 1) := dk_42 (dk_at dksX5_cargoTold_0 9 rfl rfl)
theorem dX5_cargoTold_10 : decode cX5_cargoTold 10 = .ok (.iload_n 1, 1) := dk_27 (dk_at dksX5_cargoTold_0 10 rfl rfl)
theorem dX5_cargoTold_11 : decode cX5_cargoTold 11 = .ok (.iconst 1, 1) := dk_4 (dk_at dksX5_cargoTold_0 11 rfl rfl)
theorem dX5_cargoTold_12 : decode cX5_cargoTold 12 = .ok (.invokevirtual 166, 3) := dk_182 0 166 (dk_at dksX5_cargoTold_0 12 rfl rfl)
theorem dX5_cargoTold_15 : decode cX5_cargoTold 15 = .ok (.goto 20, 3) := dk_167 0 20 (dk_at dksX5_cargoTold_0 15 rfl rfl)
theorem dX5_cargoTold_18 : decode cX5_cargoTold 18 = .ok (.aload_n 0, 1) := dk_42 (dk_at dksX5_cargoTold_0 18 rfl rfl)
theorem dX5_cargoTold_19 : decode cX5_cargoTold 19 = .ok (.getfield 163, 3) := dk_180 0 163 (dk_at dksX5_cargoTold_0 19 rfl rfl)
theorem dX5_cargoTold_22 : decode cX5_cargoTold 22 = .ok (.iload_n 1, 1) := dk_27 (dk_at dksX5_cargoTold_0 22 rfl rfl)
theorem dX5_cargoTold_23 : decode cX5_cargoTold 23 = .ok (.ishr, 1) := dk_122 (dk_at dksX5_cargoTold_0 23 rfl rfl)
theorem dX5_cargoTold_24 : decode cX5_cargoTold 24 = .ok (.iconst 1, 1) := dk_4 (dk_at dksX5_cargoTold_1 0 rfl rfl)
theorem dX5_cargoTold_25 : decode cX5_cargoTold 25 = .ok (.iand, 1) := dk_126 (dk_at dksX5_cargoTold_1 1 rfl rfl)
theorem dX5_cargoTold_26 : decode cX5_cargoTold 26 = .ok (.iconst 1, 1) := dk_4 (dk_at dksX5_cargoTold_1 2 rfl rfl)
theorem dX5_cargoTold_27 : decode cX5_cargoTold 27 = .ok (.if_icmp .ne 7, 3) := dk_160 0 7 (dk_at dksX5_cargoTold_1 3 rfl rfl)
theorem dX5_cargoTold_30 : decode cX5_cargoTold 30 = .ok (.iconst 4, 1) := dk_7 (dk_at dksX5_cargoTold_1 6 rfl rfl)
theorem dX5_cargoTold_31 : decode cX5_cargoTold 31 = .ok (.goto 4, 3) := dk_167 0 4 (dk_at dksX5_cargoTold_1 7 rfl rfl)
theorem dX5_cargoTold_34 : decode cX5_cargoTold 34 = .ok (.iconst 0, 1) := dk_3 (dk_at dksX5_cargoTold_1 10 rfl rfl)
theorem dX5_cargoTold_35 : decode cX5_cargoTold 35 = .ok (.ireturn, 1) := dk_172 (dk_at dksX5_cargoTold_1 11 rfl rfl)
abbrev cX5_lets : ByteArray := prog_14_method_34_code
def yX5_lets : MethodName := ⟨RX5, "lets", "(I)V"⟩
def dkwX5_lets_7 : List UInt8 := [79, 42, 89, 180, 0, 169, 4, 96, 181, 0, 169, 177]
abbrev dktX5_lets_7 : List UInt8 := dkwX5_lets_7 ++ []
def dkwX5_lets_6 : List UInt8 := [154, 0, 7, 4, 167, 0, 4, 3, 184, 0, 184, 96, 181, 0, 178, 42, 180, 0, 26, 42, 180, 0, 169, 27]
abbrev dktX5_lets_6 : List UInt8 := dkwX5_lets_6 ++ dktX5_lets_7
def dkwX5_lets_5 : List UInt8 := [180, 0, 29, 27, 42, 180, 0, 172, 79, 42, 4, 28, 100, 181, 0, 175, 42, 89, 180, 0, 178, 28]
abbrev dktX5_lets_5 : List UInt8 := dkwX5_lets_5 ++ dktX5_lets_6
def dkwX5_lets_4 : List UInt8 := [27, 29, 42, 27, 5, 182, 0, 166, 100, 79, 42, 29, 42, 180, 0, 13, 3, 46, 96, 181, 0, 172, 42]
abbrev dktX5_lets_4 : List UInt8 := dkwX5_lets_4 ++ dktX5_lets_5
def dkwX5_lets_3 : List UInt8 := [182, 0, 166, 164, 0, 10, 42, 180, 0, 172, 167, 0, 9, 42, 27, 5, 182, 0, 166, 62, 42, 180, 0, 32]
abbrev dktX5_lets_3 : List UInt8 := dkwX5_lets_3 ++ dktX5_lets_4
def dkwX5_lets_2 : List UInt8 := [160, 0, 7, 4, 167, 0, 4, 3, 184, 0, 184, 96, 181, 0, 178, 42, 180, 0, 172, 42, 27, 5]
abbrev dktX5_lets_2 : List UInt8 := dkwX5_lets_2 ++ dktX5_lets_3
def dkwX5_lets_1 : List UInt8 := [4, 46, 96, 181, 0, 172, 42, 89, 180, 0, 181, 4, 96, 181, 0, 181, 42, 89, 180, 0, 178, 28, 4]
abbrev dktX5_lets_1 : List UInt8 := dkwX5_lets_1 ++ dktX5_lets_2
def dkwX5_lets_0 : List UInt8 := [42, 27, 3, 182, 0, 166, 61, 28, 42, 180, 0, 175, 159, 0, 50, 42, 89, 180, 0, 172, 42, 180, 0, 13]
abbrev dktX5_lets_0 : List UInt8 := dkwX5_lets_0 ++ dktX5_lets_1
theorem dksX5_lets_0 : cX5_lets.data.toList.drop 0 = dktX5_lets_0 := by decide +kernel
theorem dksX5_lets_1 : cX5_lets.data.toList.drop 24 = dktX5_lets_1 := dk_seg dksX5_lets_0 24 rfl rfl
theorem dksX5_lets_2 : cX5_lets.data.toList.drop 47 = dktX5_lets_2 := dk_seg dksX5_lets_1 23 rfl rfl
theorem dksX5_lets_3 : cX5_lets.data.toList.drop 69 = dktX5_lets_3 := dk_seg dksX5_lets_2 22 rfl rfl
theorem dksX5_lets_4 : cX5_lets.data.toList.drop 93 = dktX5_lets_4 := dk_seg dksX5_lets_3 24 rfl rfl
theorem dksX5_lets_5 : cX5_lets.data.toList.drop 116 = dktX5_lets_5 := dk_seg dksX5_lets_4 23 rfl rfl
theorem dksX5_lets_6 : cX5_lets.data.toList.drop 138 = dktX5_lets_6 := dk_seg dksX5_lets_5 22 rfl rfl
theorem dksX5_lets_7 : cX5_lets.data.toList.drop 162 = dktX5_lets_7 := dk_seg dksX5_lets_6 24 rfl rfl
theorem dX5_lets_0 : decode cX5_lets 0 = .ok (.aload_n 0, 1) := dk_42 (dk_at dksX5_lets_0 0 rfl rfl)
theorem dX5_lets_1 : decode cX5_lets 1 = .ok (.iload_n 1, 1) := dk_27 (dk_at dksX5_lets_0 1 rfl rfl)
theorem dX5_lets_2 : decode cX5_lets 2 = .ok (.iconst 0, 1) := dk_3 (dk_at dksX5_lets_0 2 rfl rfl)
theorem dX5_lets_3 : decode cX5_lets 3 = .ok (.invokevirtual 166, 3) := dk_182 0 166 (dk_at dksX5_lets_0 3 rfl rfl)
theorem dX5_lets_6 : decode cX5_lets 6 = .ok (.istore_n 2, 1) := dk_61 (dk_at dksX5_lets_0 6 rfl rfl)
theorem dX5_lets_7 : decode cX5_lets 7 = .ok (.iload_n 2, 1) := dk_28 (dk_at dksX5_lets_0 7 rfl rfl)
theorem dX5_lets_8 : decode cX5_lets 8 = .ok (.aload_n 0, 1) := dk_42 (dk_at dksX5_lets_0 8 rfl rfl)
theorem dX5_lets_9 : decode cX5_lets 9 = .ok (.getfield 175, 3) := dk_180 0 175 (dk_at dksX5_lets_0 9 rfl rfl)
theorem dX5_lets_12 : decode cX5_lets 12 = .ok (.if_icmp .eq 50, 3) := dk_159 0 50 (dk_at dksX5_lets_0 12 rfl rfl)
theorem dX5_lets_15 : decode cX5_lets 15 = .ok (.aload_n 0, 1) := dk_42 (dk_at dksX5_lets_0 15 rfl rfl)
theorem dX5_lets_16 : decode cX5_lets 16 = .ok (.dup, 1) := dk_89 (dk_at dksX5_lets_0 16 rfl rfl)
theorem dX5_lets_17 : decode cX5_lets 17 = .ok (.getfield 172, 3) := dk_180 0 172 (dk_at dksX5_lets_0 17 rfl rfl)
theorem dX5_lets_20 : decode cX5_lets 20 = .ok (.aload_n 0, 1) := dk_42 (dk_at dksX5_lets_0 20 rfl rfl)
theorem dX5_lets_21 : decode cX5_lets 21 = .ok (.getfield 13, 3) := dk_180 0 13 (dk_at dksX5_lets_0 21 rfl rfl)
theorem dX5_lets_24 : decode cX5_lets 24 = .ok (.iconst 1, 1) := dk_4 (dk_at dksX5_lets_1 0 rfl rfl)
theorem dX5_lets_25 : decode cX5_lets 25 = .ok (.iaload, 1) := dk_46 (dk_at dksX5_lets_1 1 rfl rfl)
theorem dX5_lets_26 : decode cX5_lets 26 = .ok (.iadd, 1) := dk_96 (dk_at dksX5_lets_1 2 rfl rfl)
theorem dX5_lets_27 : decode cX5_lets 27 = .ok (.putfield 172, 3) := dk_181 0 172 (dk_at dksX5_lets_1 3 rfl rfl)
theorem dX5_lets_30 : decode cX5_lets 30 = .ok (.aload_n 0, 1) := dk_42 (dk_at dksX5_lets_1 6 rfl rfl)
theorem dX5_lets_31 : decode cX5_lets 31 = .ok (.dup, 1) := dk_89 (dk_at dksX5_lets_1 7 rfl rfl)
theorem dX5_lets_32 : decode cX5_lets 32 = .ok (.getfield 181, 3) := dk_180 0 181 (dk_at dksX5_lets_1 8 rfl rfl)
theorem dX5_lets_35 : decode cX5_lets 35 = .ok (.iconst 1, 1) := dk_4 (dk_at dksX5_lets_1 11 rfl rfl)
theorem dX5_lets_36 : decode cX5_lets 36 = .ok (.iadd, 1) := dk_96 (dk_at dksX5_lets_1 12 rfl rfl)
theorem dX5_lets_37 : decode cX5_lets 37 = .ok (.putfield 181, 3) := dk_181 0 181 (dk_at dksX5_lets_1 13 rfl rfl)
theorem dX5_lets_40 : decode cX5_lets 40 = .ok (.aload_n 0, 1) := dk_42 (dk_at dksX5_lets_1 16 rfl rfl)
theorem dX5_lets_41 : decode cX5_lets 41 = .ok (.dup, 1) := dk_89 (dk_at dksX5_lets_1 17 rfl rfl)
theorem dX5_lets_42 : decode cX5_lets 42 = .ok (.getfield 178, 3) := dk_180 0 178 (dk_at dksX5_lets_1 18 rfl rfl)
theorem dX5_lets_45 : decode cX5_lets 45 = .ok (.iload_n 2, 1) := dk_28 (dk_at dksX5_lets_1 21 rfl rfl)
theorem dX5_lets_46 : decode cX5_lets 46 = .ok (.iconst 1, 1) := dk_4 (dk_at dksX5_lets_1 22 rfl rfl)
theorem dX5_lets_47 : decode cX5_lets 47 = .ok (.if_icmp .ne 7, 3) := dk_160 0 7 (dk_at dksX5_lets_2 0 rfl rfl)
theorem dX5_lets_50 : decode cX5_lets 50 = .ok (.iconst 1, 1) := dk_4 (dk_at dksX5_lets_2 3 rfl rfl)
theorem dX5_lets_51 : decode cX5_lets 51 = .ok (.goto 4, 3) := dk_167 0 4 (dk_at dksX5_lets_2 4 rfl rfl)
theorem dX5_lets_54 : decode cX5_lets 54 = .ok (.iconst 0, 1) := dk_3 (dk_at dksX5_lets_2 7 rfl rfl)
theorem dX5_lets_55 : decode cX5_lets 55 = .ok (.invokestatic 184, 3) := dk_184 0 184 (dk_at dksX5_lets_2 8 rfl rfl)
theorem dX5_lets_58 : decode cX5_lets 58 = .ok (.iadd, 1) := dk_96 (dk_at dksX5_lets_2 11 rfl rfl)
theorem dX5_lets_59 : decode cX5_lets 59 = .ok (.putfield 178, 3) := dk_181 0 178 (dk_at dksX5_lets_2 12 rfl rfl)
theorem dX5_lets_62 : decode cX5_lets 62 = .ok (.aload_n 0, 1) := dk_42 (dk_at dksX5_lets_2 15 rfl rfl)
theorem dX5_lets_63 : decode cX5_lets 63 = .ok (.getfield 172, 3) := dk_180 0 172 (dk_at dksX5_lets_2 16 rfl rfl)
theorem dX5_lets_66 : decode cX5_lets 66 = .ok (.aload_n 0, 1) := dk_42 (dk_at dksX5_lets_2 19 rfl rfl)
theorem dX5_lets_67 : decode cX5_lets 67 = .ok (.iload_n 1, 1) := dk_27 (dk_at dksX5_lets_2 20 rfl rfl)
theorem dX5_lets_68 : decode cX5_lets 68 = .ok (.iconst 2, 1) := dk_5 (dk_at dksX5_lets_2 21 rfl rfl)
theorem dX5_lets_69 : decode cX5_lets 69 = .ok (.invokevirtual 166, 3) := dk_182 0 166 (dk_at dksX5_lets_3 0 rfl rfl)
theorem dX5_lets_72 : decode cX5_lets 72 = .ok (.if_icmp .le 10, 3) := dk_164 0 10 (dk_at dksX5_lets_3 3 rfl rfl)
theorem dX5_lets_75 : decode cX5_lets 75 = .ok (.aload_n 0, 1) := dk_42 (dk_at dksX5_lets_3 6 rfl rfl)
theorem dX5_lets_76 : decode cX5_lets 76 = .ok (.getfield 172, 3) := dk_180 0 172 (dk_at dksX5_lets_3 7 rfl rfl)
theorem dX5_lets_79 : decode cX5_lets 79 = .ok (.goto 9, 3) := dk_167 0 9 (dk_at dksX5_lets_3 10 rfl rfl)
theorem dX5_lets_82 : decode cX5_lets 82 = .ok (.aload_n 0, 1) := dk_42 (dk_at dksX5_lets_3 13 rfl rfl)
theorem dX5_lets_83 : decode cX5_lets 83 = .ok (.iload_n 1, 1) := dk_27 (dk_at dksX5_lets_3 14 rfl rfl)
theorem dX5_lets_84 : decode cX5_lets 84 = .ok (.iconst 2, 1) := dk_5 (dk_at dksX5_lets_3 15 rfl rfl)
theorem dX5_lets_85 : decode cX5_lets 85 = .ok (.invokevirtual 166, 3) := dk_182 0 166 (dk_at dksX5_lets_3 16 rfl rfl)
theorem dX5_lets_88 : decode cX5_lets 88 = .ok (.istore_n 3, 1) := dk_62 (dk_at dksX5_lets_3 19 rfl rfl)
theorem dX5_lets_89 : decode cX5_lets 89 = .ok (.aload_n 0, 1) := dk_42 (dk_at dksX5_lets_3 20 rfl rfl)
theorem dX5_lets_90 : decode cX5_lets 90 = .ok (.getfield 32, 3) := dk_180 0 32 (dk_at dksX5_lets_3 21 rfl rfl)
theorem dX5_lets_93 : decode cX5_lets 93 = .ok (.iload_n 1, 1) := dk_27 (dk_at dksX5_lets_4 0 rfl rfl)
theorem dX5_lets_94 : decode cX5_lets 94 = .ok (.iload_n 3, 1) := dk_29 (dk_at dksX5_lets_4 1 rfl rfl)
theorem dX5_lets_95 : decode cX5_lets 95 = .ok (.aload_n 0, 1) := dk_42 (dk_at dksX5_lets_4 2 rfl rfl)
theorem dX5_lets_96 : decode cX5_lets 96 = .ok (.iload_n 1, 1) := dk_27 (dk_at dksX5_lets_4 3 rfl rfl)
theorem dX5_lets_97 : decode cX5_lets 97 = .ok (.iconst 2, 1) := dk_5 (dk_at dksX5_lets_4 4 rfl rfl)
theorem dX5_lets_98 : decode cX5_lets 98 = .ok (.invokevirtual 166, 3) := dk_182 0 166 (dk_at dksX5_lets_4 5 rfl rfl)
theorem dX5_lets_101 : decode cX5_lets 101 = .ok (.isub, 1) := dk_100 (dk_at dksX5_lets_4 8 rfl rfl)
theorem dX5_lets_102 : decode cX5_lets 102 = .ok (.iastore, 1) := dk_79 (dk_at dksX5_lets_4 9 rfl rfl)
theorem dX5_lets_103 : decode cX5_lets 103 = .ok (.aload_n 0, 1) := dk_42 (dk_at dksX5_lets_4 10 rfl rfl)
theorem dX5_lets_104 : decode cX5_lets 104 = .ok (.iload_n 3, 1) := dk_29 (dk_at dksX5_lets_4 11 rfl rfl)
theorem dX5_lets_105 : decode cX5_lets 105 = .ok (.aload_n 0, 1) := dk_42 (dk_at dksX5_lets_4 12 rfl rfl)
theorem dX5_lets_106 : decode cX5_lets 106 = .ok (.getfield 13, 3) := dk_180 0 13 (dk_at dksX5_lets_4 13 rfl rfl)
theorem dX5_lets_109 : decode cX5_lets 109 = .ok (.iconst 0, 1) := dk_3 (dk_at dksX5_lets_4 16 rfl rfl)
theorem dX5_lets_110 : decode cX5_lets 110 = .ok (.iaload, 1) := dk_46 (dk_at dksX5_lets_4 17 rfl rfl)
theorem dX5_lets_111 : decode cX5_lets 111 = .ok (.iadd, 1) := dk_96 (dk_at dksX5_lets_4 18 rfl rfl)
theorem dX5_lets_112 : decode cX5_lets 112 = .ok (.putfield 172, 3) := dk_181 0 172 (dk_at dksX5_lets_4 19 rfl rfl)
theorem dX5_lets_115 : decode cX5_lets 115 = .ok (.aload_n 0, 1) := dk_42 (dk_at dksX5_lets_4 22 rfl rfl)
theorem dX5_lets_116 : decode cX5_lets 116 = .ok (.getfield 29, 3) := dk_180 0 29 (dk_at dksX5_lets_5 0 rfl rfl)
theorem dX5_lets_119 : decode cX5_lets 119 = .ok (.iload_n 1, 1) := dk_27 (dk_at dksX5_lets_5 3 rfl rfl)
theorem dX5_lets_120 : decode cX5_lets 120 = .ok (.aload_n 0, 1) := dk_42 (dk_at dksX5_lets_5 4 rfl rfl)
theorem dX5_lets_121 : decode cX5_lets 121 = .ok (.getfield 172, 3) := dk_180 0 172 (dk_at dksX5_lets_5 5 rfl rfl)
theorem dX5_lets_124 : decode cX5_lets 124 = .ok (.iastore, 1) := dk_79 (dk_at dksX5_lets_5 8 rfl rfl)
theorem dX5_lets_125 : decode cX5_lets 125 = .ok (.aload_n 0, 1) := dk_42 (dk_at dksX5_lets_5 9 rfl rfl)
theorem dX5_lets_126 : decode cX5_lets 126 = .ok (.iconst 1, 1) := dk_4 (dk_at dksX5_lets_5 10 rfl rfl)
theorem dX5_lets_127 : decode cX5_lets 127 = .ok (.iload_n 2, 1) := dk_28 (dk_at dksX5_lets_5 11 rfl rfl)
theorem dX5_lets_128 : decode cX5_lets 128 = .ok (.isub, 1) := dk_100 (dk_at dksX5_lets_5 12 rfl rfl)
theorem dX5_lets_129 : decode cX5_lets 129 = .ok (.putfield 175, 3) := dk_181 0 175 (dk_at dksX5_lets_5 13 rfl rfl)
theorem dX5_lets_132 : decode cX5_lets 132 = .ok (.aload_n 0, 1) := dk_42 (dk_at dksX5_lets_5 16 rfl rfl)
theorem dX5_lets_133 : decode cX5_lets 133 = .ok (.dup, 1) := dk_89 (dk_at dksX5_lets_5 17 rfl rfl)
theorem dX5_lets_134 : decode cX5_lets 134 = .ok (.getfield 178, 3) := dk_180 0 178 (dk_at dksX5_lets_5 18 rfl rfl)
theorem dX5_lets_137 : decode cX5_lets 137 = .ok (.iload_n 2, 1) := dk_28 (dk_at dksX5_lets_5 21 rfl rfl)
theorem dX5_lets_138 : decode cX5_lets 138 = .ok (.ifCond .ne 7, 3) := dk_154 0 7 (dk_at dksX5_lets_6 0 rfl rfl)
theorem dX5_lets_141 : decode cX5_lets 141 = .ok (.iconst 1, 1) := dk_4 (dk_at dksX5_lets_6 3 rfl rfl)
theorem dX5_lets_142 : decode cX5_lets 142 = .ok (.goto 4, 3) := dk_167 0 4 (dk_at dksX5_lets_6 4 rfl rfl)
theorem dX5_lets_145 : decode cX5_lets 145 = .ok (.iconst 0, 1) := dk_3 (dk_at dksX5_lets_6 7 rfl rfl)
theorem dX5_lets_146 : decode cX5_lets 146 = .ok (.invokestatic 184, 3) := dk_184 0 184 (dk_at dksX5_lets_6 8 rfl rfl)
theorem dX5_lets_149 : decode cX5_lets 149 = .ok (.iadd, 1) := dk_96 (dk_at dksX5_lets_6 11 rfl rfl)
theorem dX5_lets_150 : decode cX5_lets 150 = .ok (.putfield 178, 3) := dk_181 0 178 (dk_at dksX5_lets_6 12 rfl rfl)
theorem dX5_lets_153 : decode cX5_lets 153 = .ok (.aload_n 0, 1) := dk_42 (dk_at dksX5_lets_6 15 rfl rfl)
theorem dX5_lets_154 : decode cX5_lets 154 = .ok (.getfield 26, 3) := dk_180 0 26 (dk_at dksX5_lets_6 16 rfl rfl)
theorem dX5_lets_157 : decode cX5_lets 157 = .ok (.aload_n 0, 1) := dk_42 (dk_at dksX5_lets_6 19 rfl rfl)
theorem dX5_lets_158 : decode cX5_lets 158 = .ok (.getfield 169, 3) := dk_180 0 169 (dk_at dksX5_lets_6 20 rfl rfl)
theorem dX5_lets_161 : decode cX5_lets 161 = .ok (.iload_n 1, 1) := dk_27 (dk_at dksX5_lets_6 23 rfl rfl)
theorem dX5_lets_162 : decode cX5_lets 162 = .ok (.iastore, 1) := dk_79 (dk_at dksX5_lets_7 0 rfl rfl)
theorem dX5_lets_163 : decode cX5_lets 163 = .ok (.aload_n 0, 1) := dk_42 (dk_at dksX5_lets_7 1 rfl rfl)
theorem dX5_lets_164 : decode cX5_lets 164 = .ok (.dup, 1) := dk_89 (dk_at dksX5_lets_7 2 rfl rfl)
theorem dX5_lets_165 : decode cX5_lets 165 = .ok (.getfield 169, 3) := dk_180 0 169 (dk_at dksX5_lets_7 3 rfl rfl)
theorem dX5_lets_168 : decode cX5_lets 168 = .ok (.iconst 1, 1) := dk_4 (dk_at dksX5_lets_7 6 rfl rfl)
theorem dX5_lets_169 : decode cX5_lets 169 = .ok (.iadd, 1) := dk_96 (dk_at dksX5_lets_7 7 rfl rfl)
theorem dX5_lets_170 : decode cX5_lets 170 = .ok (.putfield 169, 3) := dk_181 0 169 (dk_at dksX5_lets_7 8 rfl rfl)
theorem dX5_lets_173 : decode cX5_lets 173 = .ok (.return_, 1) := dk_177 (dk_at dksX5_lets_7 11 rfl rfl)
abbrev cX5_through : ByteArray := prog_14_method_58_code
def yX5_through : MethodName := ⟨RX5, "through", "(I)I"⟩
def dkwX5_through_0 : List UInt8 := [42, 27, 182, 0, 237, 154, 0, 5, 2, 172, 42, 182, 1, 0, 42, 180, 0, 29, 27, 46, 172]
abbrev dktX5_through_0 : List UInt8 := dkwX5_through_0 ++ []
theorem dksX5_through_0 : cX5_through.data.toList.drop 0 = dktX5_through_0 := by decide +kernel
theorem dX5_through_0 : decode cX5_through 0 = .ok (.aload_n 0, 1) := dk_42 (dk_at dksX5_through_0 0 rfl rfl)
theorem dX5_through_1 : decode cX5_through 1 = .ok (.iload_n 1, 1) := dk_27 (dk_at dksX5_through_0 1 rfl rfl)
theorem dX5_through_2 : decode cX5_through 2 = .ok (.invokevirtual 237, 3) := dk_182 0 237 (dk_at dksX5_through_0 2 rfl rfl)
theorem dX5_through_5 : decode cX5_through 5 = .ok (.ifCond .ne 5, 3) := dk_154 0 5 (dk_at dksX5_through_0 5 rfl rfl)
theorem dX5_through_8 : decode cX5_through 8 = .ok (.iconst (-1), 1) := dk_2 (dk_at dksX5_through_0 8 rfl rfl)
theorem dX5_through_9 : decode cX5_through 9 = .ok (.ireturn, 1) := dk_172 (dk_at dksX5_through_0 9 rfl rfl)
theorem dX5_through_10 : decode cX5_through 10 = .ok (.aload_n 0, 1) := dk_42 (dk_at dksX5_through_0 10 rfl rfl)
theorem dX5_through_11 : decode cX5_through 11 = .ok (.invokevirtual 256, 3) := dk_182 1 0 (dk_at dksX5_through_0 11 rfl rfl)
theorem dX5_through_14 : decode cX5_through 14 = .ok (.aload_n 0, 1) := dk_42 (dk_at dksX5_through_0 14 rfl rfl)
theorem dX5_through_15 : decode cX5_through 15 = .ok (.getfield 29, 3) := dk_180 0 29 (dk_at dksX5_through_0 15 rfl rfl)
theorem dX5_through_18 : decode cX5_through 18 = .ok (.iload_n 1, 1) := dk_27 (dk_at dksX5_through_0 18 rfl rfl)
theorem dX5_through_19 : decode cX5_through 19 = .ok (.iaload, 1) := dk_46 (dk_at dksX5_through_0 19 rfl rfl)
theorem dX5_through_20 : decode cX5_through 20 = .ok (.ireturn, 1) := dk_172 (dk_at dksX5_through_0 20 rfl rfl)
abbrev cX5_stood : ByteArray := prog_14_method_59_code
def yX5_stood : MethodName := ⟨RX5, "stood", "(I)I"⟩
def dkwX5_stood_0 : List UInt8 := [42, 27, 182, 0, 237, 154, 0, 5, 2, 172, 42, 182, 1, 0, 42, 180, 0, 32, 27, 46, 172]
abbrev dktX5_stood_0 : List UInt8 := dkwX5_stood_0 ++ []
theorem dksX5_stood_0 : cX5_stood.data.toList.drop 0 = dktX5_stood_0 := by decide +kernel
theorem dX5_stood_0 : decode cX5_stood 0 = .ok (.aload_n 0, 1) := dk_42 (dk_at dksX5_stood_0 0 rfl rfl)
theorem dX5_stood_1 : decode cX5_stood 1 = .ok (.iload_n 1, 1) := dk_27 (dk_at dksX5_stood_0 1 rfl rfl)
theorem dX5_stood_2 : decode cX5_stood 2 = .ok (.invokevirtual 237, 3) := dk_182 0 237 (dk_at dksX5_stood_0 2 rfl rfl)
theorem dX5_stood_5 : decode cX5_stood 5 = .ok (.ifCond .ne 5, 3) := dk_154 0 5 (dk_at dksX5_stood_0 5 rfl rfl)
theorem dX5_stood_8 : decode cX5_stood 8 = .ok (.iconst (-1), 1) := dk_2 (dk_at dksX5_stood_0 8 rfl rfl)
theorem dX5_stood_9 : decode cX5_stood 9 = .ok (.ireturn, 1) := dk_172 (dk_at dksX5_stood_0 9 rfl rfl)
theorem dX5_stood_10 : decode cX5_stood 10 = .ok (.aload_n 0, 1) := dk_42 (dk_at dksX5_stood_0 10 rfl rfl)
theorem dX5_stood_11 : decode cX5_stood 11 = .ok (.invokevirtual 256, 3) := dk_182 1 0 (dk_at dksX5_stood_0 11 rfl rfl)
theorem dX5_stood_14 : decode cX5_stood 14 = .ok (.aload_n 0, 1) := dk_42 (dk_at dksX5_stood_0 14 rfl rfl)
theorem dX5_stood_15 : decode cX5_stood 15 = .ok (.getfield 32, 3) := dk_180 0 32 (dk_at dksX5_stood_0 15 rfl rfl)
theorem dX5_stood_18 : decode cX5_stood 18 = .ok (.iload_n 1, 1) := dk_27 (dk_at dksX5_stood_0 18 rfl rfl)
theorem dX5_stood_19 : decode cX5_stood 19 = .ok (.iaload, 1) := dk_46 (dk_at dksX5_stood_0 19 rfl rfl)
theorem dX5_stood_20 : decode cX5_stood 20 = .ok (.ireturn, 1) := dk_172 (dk_at dksX5_stood_0 20 rfl rfl)
abbrev cX5_day : ByteArray := prog_14_method_60_code
def yX5_day : MethodName := ⟨RX5, "day", "(I)I"⟩
def dkwX5_day_0 : List UInt8 := [27, 133, 9, 20, 0, 248, 184, 0, 74, 154, 0, 5, 2, 172, 42, 182, 1, 0, 42, 27, 182, 1, 3, 172]
abbrev dktX5_day_0 : List UInt8 := dkwX5_day_0 ++ []
theorem dksX5_day_0 : cX5_day.data.toList.drop 0 = dktX5_day_0 := by decide +kernel
theorem dX5_day_0 : decode cX5_day 0 = .ok (.iload_n 1, 1) := dk_27 (dk_at dksX5_day_0 0 rfl rfl)
theorem dX5_day_1 : decode cX5_day 1 = .ok (.i2l, 1) := dk_133 (dk_at dksX5_day_0 1 rfl rfl)
theorem dX5_day_2 : decode cX5_day 2 = .ok (.lconst 0, 1) := dk_9 (dk_at dksX5_day_0 2 rfl rfl)
theorem dX5_day_3 : decode cX5_day 3 = .ok (.ldc2_w 248, 3) := dk_20 0 248 (dk_at dksX5_day_0 3 rfl rfl)
theorem dX5_day_6 : decode cX5_day 6 = .ok (.invokestatic 74, 3) := dk_184 0 74 (dk_at dksX5_day_0 6 rfl rfl)
theorem dX5_day_9 : decode cX5_day 9 = .ok (.ifCond .ne 5, 3) := dk_154 0 5 (dk_at dksX5_day_0 9 rfl rfl)
theorem dX5_day_12 : decode cX5_day 12 = .ok (.iconst (-1), 1) := dk_2 (dk_at dksX5_day_0 12 rfl rfl)
theorem dX5_day_13 : decode cX5_day 13 = .ok (.ireturn, 1) := dk_172 (dk_at dksX5_day_0 13 rfl rfl)
theorem dX5_day_14 : decode cX5_day 14 = .ok (.aload_n 0, 1) := dk_42 (dk_at dksX5_day_0 14 rfl rfl)
theorem dX5_day_15 : decode cX5_day 15 = .ok (.invokevirtual 256, 3) := dk_182 1 0 (dk_at dksX5_day_0 15 rfl rfl)
theorem dX5_day_18 : decode cX5_day 18 = .ok (.aload_n 0, 1) := dk_42 (dk_at dksX5_day_0 18 rfl rfl)
theorem dX5_day_19 : decode cX5_day 19 = .ok (.iload_n 1, 1) := dk_27 (dk_at dksX5_day_0 19 rfl rfl)
theorem dX5_day_20 : decode cX5_day 20 = .ok (.invokevirtual 259, 3) := dk_182 1 3 (dk_at dksX5_day_0 20 rfl rfl)
theorem dX5_day_23 : decode cX5_day 23 = .ok (.ireturn, 1) := dk_172 (dk_at dksX5_day_0 23 rfl rfl)
abbrev cX5_tells : ByteArray := prog_14_method_45_code
def yX5_tells : MethodName := ⟨RX5, "tells", "(I)I"⟩
def dkwX5_tells_4 : List UInt8 := [180, 0, 181, 172]
abbrev dktX5_tells_4 : List UInt8 := dkwX5_tells_4 ++ []
def dkwX5_tells_3 : List UInt8 := [27, 6, 160, 0, 21, 42, 180, 0, 69, 154, 0, 7, 3, 167, 0, 14, 42, 180, 0, 172, 167, 0, 7, 42]
abbrev dktX5_tells_3 : List UInt8 := dkwX5_tells_3 ++ dktX5_tells_4
def dkwX5_tells_2 : List UInt8 := [167, 0, 51, 27, 4, 160, 0, 7, 28, 167, 0, 42, 27, 5, 160, 0, 10, 42, 180, 0, 178, 167, 0, 30]
abbrev dktX5_tells_2 : List UInt8 := dkwX5_tells_2 ++ dktX5_tells_3
def dkwX5_tells_1 : List UInt8 := [180, 0, 32, 29, 46, 167, 0, 4, 28, 61, 132, 3, 1, 167, 255, 224, 27, 154, 0, 10, 42, 182, 0, 225]
abbrev dktX5_tells_1 : List UInt8 := dkwX5_tells_1 ++ dktX5_tells_2
def dkwX5_tells_0 : List UInt8 := [3, 61, 3, 62, 29, 42, 180, 0, 69, 162, 0, 30, 42, 180, 0, 32, 29, 46, 28, 164, 0, 12, 42]
abbrev dktX5_tells_0 : List UInt8 := dkwX5_tells_0 ++ dktX5_tells_1
theorem dksX5_tells_0 : cX5_tells.data.toList.drop 0 = dktX5_tells_0 := by decide +kernel
theorem dksX5_tells_1 : cX5_tells.data.toList.drop 23 = dktX5_tells_1 := dk_seg dksX5_tells_0 23 rfl rfl
theorem dksX5_tells_2 : cX5_tells.data.toList.drop 47 = dktX5_tells_2 := dk_seg dksX5_tells_1 24 rfl rfl
theorem dksX5_tells_3 : cX5_tells.data.toList.drop 71 = dktX5_tells_3 := dk_seg dksX5_tells_2 24 rfl rfl
theorem dksX5_tells_4 : cX5_tells.data.toList.drop 95 = dktX5_tells_4 := dk_seg dksX5_tells_3 24 rfl rfl
theorem dX5_tells_0 : decode cX5_tells 0 = .ok (.iconst 0, 1) := dk_3 (dk_at dksX5_tells_0 0 rfl rfl)
theorem dX5_tells_1 : decode cX5_tells 1 = .ok (.istore_n 2, 1) := dk_61 (dk_at dksX5_tells_0 1 rfl rfl)
theorem dX5_tells_2 : decode cX5_tells 2 = .ok (.iconst 0, 1) := dk_3 (dk_at dksX5_tells_0 2 rfl rfl)
theorem dX5_tells_3 : decode cX5_tells 3 = .ok (.istore_n 3, 1) := dk_62 (dk_at dksX5_tells_0 3 rfl rfl)
theorem dX5_tells_4 : decode cX5_tells 4 = .ok (.iload_n 3, 1) := dk_29 (dk_at dksX5_tells_0 4 rfl rfl)
theorem dX5_tells_5 : decode cX5_tells 5 = .ok (.aload_n 0, 1) := dk_42 (dk_at dksX5_tells_0 5 rfl rfl)
theorem dX5_tells_6 : decode cX5_tells 6 = .ok (.getfield 69, 3) := dk_180 0 69 (dk_at dksX5_tells_0 6 rfl rfl)
theorem dX5_tells_9 : decode cX5_tells 9 = .ok (.if_icmp .ge 30, 3) := dk_162 0 30 (dk_at dksX5_tells_0 9 rfl rfl)
theorem dX5_tells_12 : decode cX5_tells 12 = .ok (.aload_n 0, 1) := dk_42 (dk_at dksX5_tells_0 12 rfl rfl)
theorem dX5_tells_13 : decode cX5_tells 13 = .ok (.getfield 32, 3) := dk_180 0 32 (dk_at dksX5_tells_0 13 rfl rfl)
theorem dX5_tells_16 : decode cX5_tells 16 = .ok (.iload_n 3, 1) := dk_29 (dk_at dksX5_tells_0 16 rfl rfl)
theorem dX5_tells_17 : decode cX5_tells 17 = .ok (.iaload, 1) := dk_46 (dk_at dksX5_tells_0 17 rfl rfl)
theorem dX5_tells_18 : decode cX5_tells 18 = .ok (.iload_n 2, 1) := dk_28 (dk_at dksX5_tells_0 18 rfl rfl)
theorem dX5_tells_19 : decode cX5_tells 19 = .ok (.if_icmp .le 12, 3) := dk_164 0 12 (dk_at dksX5_tells_0 19 rfl rfl)
theorem dX5_tells_22 : decode cX5_tells 22 = .ok (.aload_n 0, 1) := dk_42 (dk_at dksX5_tells_0 22 rfl rfl)
theorem dX5_tells_23 : decode cX5_tells 23 = .ok (.getfield 32, 3) := dk_180 0 32 (dk_at dksX5_tells_1 0 rfl rfl)
theorem dX5_tells_26 : decode cX5_tells 26 = .ok (.iload_n 3, 1) := dk_29 (dk_at dksX5_tells_1 3 rfl rfl)
theorem dX5_tells_27 : decode cX5_tells 27 = .ok (.iaload, 1) := dk_46 (dk_at dksX5_tells_1 4 rfl rfl)
theorem dX5_tells_28 : decode cX5_tells 28 = .ok (.goto 4, 3) := dk_167 0 4 (dk_at dksX5_tells_1 5 rfl rfl)
theorem dX5_tells_31 : decode cX5_tells 31 = .ok (.iload_n 2, 1) := dk_28 (dk_at dksX5_tells_1 8 rfl rfl)
theorem dX5_tells_32 : decode cX5_tells 32 = .ok (.istore_n 2, 1) := dk_61 (dk_at dksX5_tells_1 9 rfl rfl)
theorem dX5_tells_33 : decode cX5_tells 33 = .ok (.iinc 3 1, 3) := dk_132 3 1 (dk_at dksX5_tells_1 10 rfl rfl)
theorem dX5_tells_36 : decode cX5_tells 36 = .ok (.goto (-32), 3) := dk_167 255 224 (dk_at dksX5_tells_1 13 rfl rfl)
theorem dX5_tells_39 : decode cX5_tells 39 = .ok (.iload_n 1, 1) := dk_27 (dk_at dksX5_tells_1 16 rfl rfl)
theorem dX5_tells_40 : decode cX5_tells 40 = .ok (.ifCond .ne 10, 3) := dk_154 0 10 (dk_at dksX5_tells_1 17 rfl rfl)
theorem dX5_tells_43 : decode cX5_tells 43 = .ok (.aload_n 0, 1) := dk_42 (dk_at dksX5_tells_1 20 rfl rfl)
theorem dX5_tells_44 : decode cX5_tells 44 = .ok (.invokevirtual 225, 3) := dk_182 0 225 (dk_at dksX5_tells_1 21 rfl rfl)
theorem dX5_tells_47 : decode cX5_tells 47 = .ok (.goto 51, 3) := dk_167 0 51 (dk_at dksX5_tells_2 0 rfl rfl)
theorem dX5_tells_50 : decode cX5_tells 50 = .ok (.iload_n 1, 1) := dk_27 (dk_at dksX5_tells_2 3 rfl rfl)
theorem dX5_tells_51 : decode cX5_tells 51 = .ok (.iconst 1, 1) := dk_4 (dk_at dksX5_tells_2 4 rfl rfl)
theorem dX5_tells_52 : decode cX5_tells 52 = .ok (.if_icmp .ne 7, 3) := dk_160 0 7 (dk_at dksX5_tells_2 5 rfl rfl)
theorem dX5_tells_55 : decode cX5_tells 55 = .ok (.iload_n 2, 1) := dk_28 (dk_at dksX5_tells_2 8 rfl rfl)
theorem dX5_tells_56 : decode cX5_tells 56 = .ok (.goto 42, 3) := dk_167 0 42 (dk_at dksX5_tells_2 9 rfl rfl)
theorem dX5_tells_59 : decode cX5_tells 59 = .ok (.iload_n 1, 1) := dk_27 (dk_at dksX5_tells_2 12 rfl rfl)
theorem dX5_tells_60 : decode cX5_tells 60 = .ok (.iconst 2, 1) := dk_5 (dk_at dksX5_tells_2 13 rfl rfl)
theorem dX5_tells_61 : decode cX5_tells 61 = .ok (.if_icmp .ne 10, 3) := dk_160 0 10 (dk_at dksX5_tells_2 14 rfl rfl)
theorem dX5_tells_64 : decode cX5_tells 64 = .ok (.aload_n 0, 1) := dk_42 (dk_at dksX5_tells_2 17 rfl rfl)
theorem dX5_tells_65 : decode cX5_tells 65 = .ok (.getfield 178, 3) := dk_180 0 178 (dk_at dksX5_tells_2 18 rfl rfl)
theorem dX5_tells_68 : decode cX5_tells 68 = .ok (.goto 30, 3) := dk_167 0 30 (dk_at dksX5_tells_2 21 rfl rfl)
theorem dX5_tells_71 : decode cX5_tells 71 = .ok (.iload_n 1, 1) := dk_27 (dk_at dksX5_tells_3 0 rfl rfl)
theorem dX5_tells_72 : decode cX5_tells 72 = .ok (.iconst 3, 1) := dk_6 (dk_at dksX5_tells_3 1 rfl rfl)
theorem dX5_tells_73 : decode cX5_tells 73 = .ok (.if_icmp .ne 21, 3) := dk_160 0 21 (dk_at dksX5_tells_3 2 rfl rfl)
theorem dX5_tells_76 : decode cX5_tells 76 = .ok (.aload_n 0, 1) := dk_42 (dk_at dksX5_tells_3 5 rfl rfl)
theorem dX5_tells_77 : decode cX5_tells 77 = .ok (.getfield 69, 3) := dk_180 0 69 (dk_at dksX5_tells_3 6 rfl rfl)
theorem dX5_tells_80 : decode cX5_tells 80 = .ok (.ifCond .ne 7, 3) := dk_154 0 7 (dk_at dksX5_tells_3 9 rfl rfl)
theorem dX5_tells_83 : decode cX5_tells 83 = .ok (.iconst 0, 1) := dk_3 (dk_at dksX5_tells_3 12 rfl rfl)
theorem dX5_tells_84 : decode cX5_tells 84 = .ok (.goto 14, 3) := dk_167 0 14 (dk_at dksX5_tells_3 13 rfl rfl)
theorem dX5_tells_87 : decode cX5_tells 87 = .ok (.aload_n 0, 1) := dk_42 (dk_at dksX5_tells_3 16 rfl rfl)
theorem dX5_tells_88 : decode cX5_tells 88 = .ok (.getfield 172, 3) := dk_180 0 172 (dk_at dksX5_tells_3 17 rfl rfl)
theorem dX5_tells_91 : decode cX5_tells 91 = .ok (.goto 7, 3) := dk_167 0 7 (dk_at dksX5_tells_3 20 rfl rfl)
theorem dX5_tells_94 : decode cX5_tells 94 = .ok (.aload_n 0, 1) := dk_42 (dk_at dksX5_tells_3 23 rfl rfl)
theorem dX5_tells_95 : decode cX5_tells 95 = .ok (.getfield 181, 3) := dk_180 0 181 (dk_at dksX5_tells_4 0 rfl rfl)
theorem dX5_tells_98 : decode cX5_tells 98 = .ok (.ireturn, 1) := dk_172 (dk_at dksX5_tells_4 3 rfl rfl)
abbrev cX5_costNow : ByteArray := prog_14_method_44_code
def yX5_costNow : MethodName := ⟨RX5, "costNow", "()I"⟩
def dkwX5_costNow_1 : List UInt8 := [182, 0, 166, 104, 96, 60, 132, 2, 1, 167, 255, 229, 27, 172]
abbrev dktX5_costNow_1 : List UInt8 := dkwX5_costNow_1 ++ []
def dkwX5_costNow_0 : List UInt8 := [3, 60, 3, 61, 28, 42, 180, 0, 69, 162, 0, 25, 27, 42, 180, 0, 32, 28, 46, 42, 28, 6]
abbrev dktX5_costNow_0 : List UInt8 := dkwX5_costNow_0 ++ dktX5_costNow_1
theorem dksX5_costNow_0 : cX5_costNow.data.toList.drop 0 = dktX5_costNow_0 := by decide +kernel
theorem dksX5_costNow_1 : cX5_costNow.data.toList.drop 22 = dktX5_costNow_1 := dk_seg dksX5_costNow_0 22 rfl rfl
theorem dX5_costNow_0 : decode cX5_costNow 0 = .ok (.iconst 0, 1) := dk_3 (dk_at dksX5_costNow_0 0 rfl rfl)
theorem dX5_costNow_1 : decode cX5_costNow 1 = .ok (.istore_n 1, 1) := dk_60 (dk_at dksX5_costNow_0 1 rfl rfl)
theorem dX5_costNow_2 : decode cX5_costNow 2 = .ok (.iconst 0, 1) := dk_3 (dk_at dksX5_costNow_0 2 rfl rfl)
theorem dX5_costNow_3 : decode cX5_costNow 3 = .ok (.istore_n 2, 1) := dk_61 (dk_at dksX5_costNow_0 3 rfl rfl)
theorem dX5_costNow_4 : decode cX5_costNow 4 = .ok (.iload_n 2, 1) := dk_28 (dk_at dksX5_costNow_0 4 rfl rfl)
theorem dX5_costNow_5 : decode cX5_costNow 5 = .ok (.aload_n 0, 1) := dk_42 (dk_at dksX5_costNow_0 5 rfl rfl)
theorem dX5_costNow_6 : decode cX5_costNow 6 = .ok (.getfield 69, 3) := dk_180 0 69 (dk_at dksX5_costNow_0 6 rfl rfl)
theorem dX5_costNow_9 : decode cX5_costNow 9 = .ok (.if_icmp .ge 25, 3) := dk_162 0 25 (dk_at dksX5_costNow_0 9 rfl rfl)
theorem dX5_costNow_12 : decode cX5_costNow 12 = .ok (.iload_n 1, 1) := dk_27 (dk_at dksX5_costNow_0 12 rfl rfl)
theorem dX5_costNow_13 : decode cX5_costNow 13 = .ok (.aload_n 0, 1) := dk_42 (dk_at dksX5_costNow_0 13 rfl rfl)
theorem dX5_costNow_14 : decode cX5_costNow 14 = .ok (.getfield 32, 3) := dk_180 0 32 (dk_at dksX5_costNow_0 14 rfl rfl)
theorem dX5_costNow_17 : decode cX5_costNow 17 = .ok (.iload_n 2, 1) := dk_28 (dk_at dksX5_costNow_0 17 rfl rfl)
theorem dX5_costNow_18 : decode cX5_costNow 18 = .ok (.iaload, 1) := dk_46 (dk_at dksX5_costNow_0 18 rfl rfl)
theorem dX5_costNow_19 : decode cX5_costNow 19 = .ok (.aload_n 0, 1) := dk_42 (dk_at dksX5_costNow_0 19 rfl rfl)
theorem dX5_costNow_20 : decode cX5_costNow 20 = .ok (.iload_n 2, 1) := dk_28 (dk_at dksX5_costNow_0 20 rfl rfl)
theorem dX5_costNow_21 : decode cX5_costNow 21 = .ok (.iconst 3, 1) := dk_6 (dk_at dksX5_costNow_0 21 rfl rfl)
theorem dX5_costNow_22 : decode cX5_costNow 22 = .ok (.invokevirtual 166, 3) := dk_182 0 166 (dk_at dksX5_costNow_1 0 rfl rfl)
theorem dX5_costNow_25 : decode cX5_costNow 25 = .ok (.imul, 1) := dk_104 (dk_at dksX5_costNow_1 3 rfl rfl)
theorem dX5_costNow_26 : decode cX5_costNow 26 = .ok (.iadd, 1) := dk_96 (dk_at dksX5_costNow_1 4 rfl rfl)
theorem dX5_costNow_27 : decode cX5_costNow 27 = .ok (.istore_n 1, 1) := dk_60 (dk_at dksX5_costNow_1 5 rfl rfl)
theorem dX5_costNow_28 : decode cX5_costNow 28 = .ok (.iinc 2 1, 3) := dk_132 2 1 (dk_at dksX5_costNow_1 6 rfl rfl)
theorem dX5_costNow_31 : decode cX5_costNow 31 = .ok (.goto (-27), 3) := dk_167 255 229 (dk_at dksX5_costNow_1 9 rfl rfl)
theorem dX5_costNow_34 : decode cX5_costNow 34 = .ok (.iload_n 1, 1) := dk_27 (dk_at dksX5_costNow_1 12 rfl rfl)
theorem dX5_costNow_35 : decode cX5_costNow 35 = .ok (.ireturn, 1) := dk_172 (dk_at dksX5_costNow_1 13 rfl rfl)
abbrev cX5_table : ByteArray := prog_14_method_62_code
def yX5_table : MethodName := ⟨RX5, "table", "(II)I"⟩
def dkwX5_table_1 : List UInt8 := [2, 172, 42, 27, 182, 1, 6, 42, 28, 182, 1, 3, 172]
abbrev dktX5_table_1 : List UInt8 := dkwX5_table_1 ++ []
def dkwX5_table_0 : List UInt8 := [27, 133, 9, 20, 0, 248, 184, 0, 74, 153, 0, 15, 28, 133, 9, 20, 0, 248, 184, 0, 74, 154, 0, 5]
abbrev dktX5_table_0 : List UInt8 := dkwX5_table_0 ++ dktX5_table_1
theorem dksX5_table_0 : cX5_table.data.toList.drop 0 = dktX5_table_0 := by decide +kernel
theorem dksX5_table_1 : cX5_table.data.toList.drop 24 = dktX5_table_1 := dk_seg dksX5_table_0 24 rfl rfl
theorem dX5_table_0 : decode cX5_table 0 = .ok (.iload_n 1, 1) := dk_27 (dk_at dksX5_table_0 0 rfl rfl)
theorem dX5_table_1 : decode cX5_table 1 = .ok (.i2l, 1) := dk_133 (dk_at dksX5_table_0 1 rfl rfl)
theorem dX5_table_2 : decode cX5_table 2 = .ok (.lconst 0, 1) := dk_9 (dk_at dksX5_table_0 2 rfl rfl)
theorem dX5_table_3 : decode cX5_table 3 = .ok (.ldc2_w 248, 3) := dk_20 0 248 (dk_at dksX5_table_0 3 rfl rfl)
theorem dX5_table_6 : decode cX5_table 6 = .ok (.invokestatic 74, 3) := dk_184 0 74 (dk_at dksX5_table_0 6 rfl rfl)
theorem dX5_table_9 : decode cX5_table 9 = .ok (.ifCond .eq 15, 3) := dk_153 0 15 (dk_at dksX5_table_0 9 rfl rfl)
theorem dX5_table_12 : decode cX5_table 12 = .ok (.iload_n 2, 1) := dk_28 (dk_at dksX5_table_0 12 rfl rfl)
theorem dX5_table_13 : decode cX5_table 13 = .ok (.i2l, 1) := dk_133 (dk_at dksX5_table_0 13 rfl rfl)
theorem dX5_table_14 : decode cX5_table 14 = .ok (.lconst 0, 1) := dk_9 (dk_at dksX5_table_0 14 rfl rfl)
theorem dX5_table_15 : decode cX5_table 15 = .ok (.ldc2_w 248, 3) := dk_20 0 248 (dk_at dksX5_table_0 15 rfl rfl)
theorem dX5_table_18 : decode cX5_table 18 = .ok (.invokestatic 74, 3) := dk_184 0 74 (dk_at dksX5_table_0 18 rfl rfl)
theorem dX5_table_21 : decode cX5_table 21 = .ok (.ifCond .ne 5, 3) := dk_154 0 5 (dk_at dksX5_table_0 21 rfl rfl)
theorem dX5_table_24 : decode cX5_table 24 = .ok (.iconst (-1), 1) := dk_2 (dk_at dksX5_table_1 0 rfl rfl)
theorem dX5_table_25 : decode cX5_table 25 = .ok (.ireturn, 1) := dk_172 (dk_at dksX5_table_1 1 rfl rfl)
theorem dX5_table_26 : decode cX5_table 26 = .ok (.aload_n 0, 1) := dk_42 (dk_at dksX5_table_1 2 rfl rfl)
theorem dX5_table_27 : decode cX5_table 27 = .ok (.iload_n 1, 1) := dk_27 (dk_at dksX5_table_1 3 rfl rfl)
theorem dX5_table_28 : decode cX5_table 28 = .ok (.invokevirtual 262, 3) := dk_182 1 6 (dk_at dksX5_table_1 4 rfl rfl)
theorem dX5_table_31 : decode cX5_table 31 = .ok (.aload_n 0, 1) := dk_42 (dk_at dksX5_table_1 7 rfl rfl)
theorem dX5_table_32 : decode cX5_table 32 = .ok (.iload_n 2, 1) := dk_28 (dk_at dksX5_table_1 8 rfl rfl)
theorem dX5_table_33 : decode cX5_table 33 = .ok (.invokevirtual 259, 3) := dk_182 1 3 (dk_at dksX5_table_1 9 rfl rfl)
theorem dX5_table_36 : decode cX5_table 36 = .ok (.ireturn, 1) := dk_172 (dk_at dksX5_table_1 12 rfl rfl)
abbrev cX5_dayBy : ByteArray := prog_14_method_61_code
def yX5_dayBy : MethodName := ⟨RX5, "dayBy", "(I)V"⟩
def dkwX5_dayBy_0 : List UInt8 := [42, 182, 0, 228, 42, 180, 0, 13, 6, 27, 79, 42, 182, 0, 231, 177]
abbrev dktX5_dayBy_0 : List UInt8 := dkwX5_dayBy_0 ++ []
theorem dksX5_dayBy_0 : cX5_dayBy.data.toList.drop 0 = dktX5_dayBy_0 := by decide +kernel
theorem dX5_dayBy_0 : decode cX5_dayBy 0 = .ok (.aload_n 0, 1) := dk_42 (dk_at dksX5_dayBy_0 0 rfl rfl)
theorem dX5_dayBy_1 : decode cX5_dayBy 1 = .ok (.invokevirtual 228, 3) := dk_182 0 228 (dk_at dksX5_dayBy_0 1 rfl rfl)
theorem dX5_dayBy_4 : decode cX5_dayBy 4 = .ok (.aload_n 0, 1) := dk_42 (dk_at dksX5_dayBy_0 4 rfl rfl)
theorem dX5_dayBy_5 : decode cX5_dayBy 5 = .ok (.getfield 13, 3) := dk_180 0 13 (dk_at dksX5_dayBy_0 5 rfl rfl)
theorem dX5_dayBy_8 : decode cX5_dayBy 8 = .ok (.iconst 3, 1) := dk_6 (dk_at dksX5_dayBy_0 8 rfl rfl)
theorem dX5_dayBy_9 : decode cX5_dayBy 9 = .ok (.iload_n 1, 1) := dk_27 (dk_at dksX5_dayBy_0 9 rfl rfl)
theorem dX5_dayBy_10 : decode cX5_dayBy 10 = .ok (.iastore, 1) := dk_79 (dk_at dksX5_dayBy_0 10 rfl rfl)
theorem dX5_dayBy_11 : decode cX5_dayBy 11 = .ok (.aload_n 0, 1) := dk_42 (dk_at dksX5_dayBy_0 11 rfl rfl)
theorem dX5_dayBy_12 : decode cX5_dayBy 12 = .ok (.invokevirtual 231, 3) := dk_182 0 231 (dk_at dksX5_dayBy_0 12 rfl rfl)
theorem dX5_dayBy_15 : decode cX5_dayBy 15 = .ok (.return_, 1) := dk_177 (dk_at dksX5_dayBy_0 15 rfl rfl)
abbrev cX5_best : ByteArray := prog_14_method_63_code
def yX5_best : MethodName := ⟨RX5, "best", "(I)I"⟩
def dkwX5_best_3 : List UInt8 := [167, 255, 206, 29, 172]
abbrev dktX5_best_3 : List UInt8 := dkwX5_best_3 ++ []
def dkwX5_best_2 : List UInt8 := [29, 62, 42, 27, 182, 1, 3, 28, 162, 0, 11, 42, 27, 182, 1, 3, 167, 0, 4, 28, 61, 132, 4, 1]
abbrev dktX5_best_2 : List UInt8 := dkwX5_best_2 ++ dktX5_best_3
def dkwX5_best_1 : List UInt8 := [8, 162, 0, 50, 42, 21, 4, 182, 1, 6, 42, 27, 182, 1, 3, 28, 162, 0, 8, 21, 4, 167, 0, 4]
abbrev dktX5_best_1 : List UInt8 := dkwX5_best_1 ++ dktX5_best_2
def dkwX5_best_0 : List UInt8 := [27, 133, 9, 20, 0, 248, 184, 0, 74, 154, 0, 5, 2, 172, 18, 191, 61, 3, 62, 3, 54, 4, 21, 4]
abbrev dktX5_best_0 : List UInt8 := dkwX5_best_0 ++ dktX5_best_1
theorem dksX5_best_0 : cX5_best.data.toList.drop 0 = dktX5_best_0 := by decide +kernel
theorem dksX5_best_1 : cX5_best.data.toList.drop 24 = dktX5_best_1 := dk_seg dksX5_best_0 24 rfl rfl
theorem dksX5_best_2 : cX5_best.data.toList.drop 48 = dktX5_best_2 := dk_seg dksX5_best_1 24 rfl rfl
theorem dksX5_best_3 : cX5_best.data.toList.drop 72 = dktX5_best_3 := dk_seg dksX5_best_2 24 rfl rfl
theorem dX5_best_0 : decode cX5_best 0 = .ok (.iload_n 1, 1) := dk_27 (dk_at dksX5_best_0 0 rfl rfl)
theorem dX5_best_1 : decode cX5_best 1 = .ok (.i2l, 1) := dk_133 (dk_at dksX5_best_0 1 rfl rfl)
theorem dX5_best_2 : decode cX5_best 2 = .ok (.lconst 0, 1) := dk_9 (dk_at dksX5_best_0 2 rfl rfl)
theorem dX5_best_3 : decode cX5_best 3 = .ok (.ldc2_w 248, 3) := dk_20 0 248 (dk_at dksX5_best_0 3 rfl rfl)
theorem dX5_best_6 : decode cX5_best 6 = .ok (.invokestatic 74, 3) := dk_184 0 74 (dk_at dksX5_best_0 6 rfl rfl)
theorem dX5_best_9 : decode cX5_best 9 = .ok (.ifCond .ne 5, 3) := dk_154 0 5 (dk_at dksX5_best_0 9 rfl rfl)
theorem dX5_best_12 : decode cX5_best 12 = .ok (.iconst (-1), 1) := dk_2 (dk_at dksX5_best_0 12 rfl rfl)
theorem dX5_best_13 : decode cX5_best 13 = .ok (.ireturn, 1) := dk_172 (dk_at dksX5_best_0 13 rfl rfl)
theorem dX5_best_14 : decode cX5_best 14 = .ok (.ldc 191, 2) := dk_18 191 (dk_at dksX5_best_0 14 rfl rfl)
theorem dX5_best_16 : decode cX5_best 16 = .ok (.istore_n 2, 1) := dk_61 (dk_at dksX5_best_0 16 rfl rfl)
theorem dX5_best_17 : decode cX5_best 17 = .ok (.iconst 0, 1) := dk_3 (dk_at dksX5_best_0 17 rfl rfl)
theorem dX5_best_18 : decode cX5_best 18 = .ok (.istore_n 3, 1) := dk_62 (dk_at dksX5_best_0 18 rfl rfl)
theorem dX5_best_19 : decode cX5_best 19 = .ok (.iconst 0, 1) := dk_3 (dk_at dksX5_best_0 19 rfl rfl)
theorem dX5_best_20 : decode cX5_best 20 = .ok (.istore 4, 2) := dk_54 4 (dk_at dksX5_best_0 20 rfl rfl)
theorem dX5_best_22 : decode cX5_best 22 = .ok (.iload 4, 2) := dk_21 4 (dk_at dksX5_best_0 22 rfl rfl)
theorem dX5_best_24 : decode cX5_best 24 = .ok (.iconst 5, 1) := dk_8 (dk_at dksX5_best_1 0 rfl rfl)
theorem dX5_best_25 : decode cX5_best 25 = .ok (.if_icmp .ge 50, 3) := dk_162 0 50 (dk_at dksX5_best_1 1 rfl rfl)
theorem dX5_best_28 : decode cX5_best 28 = .ok (.aload_n 0, 1) := dk_42 (dk_at dksX5_best_1 4 rfl rfl)
theorem dX5_best_29 : decode cX5_best 29 = .ok (.iload 4, 2) := dk_21 4 (dk_at dksX5_best_1 5 rfl rfl)
theorem dX5_best_31 : decode cX5_best 31 = .ok (.invokevirtual 262, 3) := dk_182 1 6 (dk_at dksX5_best_1 7 rfl rfl)
theorem dX5_best_34 : decode cX5_best 34 = .ok (.aload_n 0, 1) := dk_42 (dk_at dksX5_best_1 10 rfl rfl)
theorem dX5_best_35 : decode cX5_best 35 = .ok (.iload_n 1, 1) := dk_27 (dk_at dksX5_best_1 11 rfl rfl)
theorem dX5_best_36 : decode cX5_best 36 = .ok (.invokevirtual 259, 3) := dk_182 1 3 (dk_at dksX5_best_1 12 rfl rfl)
theorem dX5_best_39 : decode cX5_best 39 = .ok (.iload_n 2, 1) := dk_28 (dk_at dksX5_best_1 15 rfl rfl)
theorem dX5_best_40 : decode cX5_best 40 = .ok (.if_icmp .ge 8, 3) := dk_162 0 8 (dk_at dksX5_best_1 16 rfl rfl)
theorem dX5_best_43 : decode cX5_best 43 = .ok (.iload 4, 2) := dk_21 4 (dk_at dksX5_best_1 19 rfl rfl)
theorem dX5_best_45 : decode cX5_best 45 = .ok (.goto 4, 3) := dk_167 0 4 (dk_at dksX5_best_1 21 rfl rfl)
theorem dX5_best_48 : decode cX5_best 48 = .ok (.iload_n 3, 1) := dk_29 (dk_at dksX5_best_2 0 rfl rfl)
theorem dX5_best_49 : decode cX5_best 49 = .ok (.istore_n 3, 1) := dk_62 (dk_at dksX5_best_2 1 rfl rfl)
theorem dX5_best_50 : decode cX5_best 50 = .ok (.aload_n 0, 1) := dk_42 (dk_at dksX5_best_2 2 rfl rfl)
theorem dX5_best_51 : decode cX5_best 51 = .ok (.iload_n 1, 1) := dk_27 (dk_at dksX5_best_2 3 rfl rfl)
theorem dX5_best_52 : decode cX5_best 52 = .ok (.invokevirtual 259, 3) := dk_182 1 3 (dk_at dksX5_best_2 4 rfl rfl)
theorem dX5_best_55 : decode cX5_best 55 = .ok (.iload_n 2, 1) := dk_28 (dk_at dksX5_best_2 7 rfl rfl)
theorem dX5_best_56 : decode cX5_best 56 = .ok (.if_icmp .ge 11, 3) := dk_162 0 11 (dk_at dksX5_best_2 8 rfl rfl)
theorem dX5_best_59 : decode cX5_best 59 = .ok (.aload_n 0, 1) := dk_42 (dk_at dksX5_best_2 11 rfl rfl)
theorem dX5_best_60 : decode cX5_best 60 = .ok (.iload_n 1, 1) := dk_27 (dk_at dksX5_best_2 12 rfl rfl)
theorem dX5_best_61 : decode cX5_best 61 = .ok (.invokevirtual 259, 3) := dk_182 1 3 (dk_at dksX5_best_2 13 rfl rfl)
theorem dX5_best_64 : decode cX5_best 64 = .ok (.goto 4, 3) := dk_167 0 4 (dk_at dksX5_best_2 16 rfl rfl)
theorem dX5_best_67 : decode cX5_best 67 = .ok (.iload_n 2, 1) := dk_28 (dk_at dksX5_best_2 19 rfl rfl)
theorem dX5_best_68 : decode cX5_best 68 = .ok (.istore_n 2, 1) := dk_61 (dk_at dksX5_best_2 20 rfl rfl)
theorem dX5_best_69 : decode cX5_best 69 = .ok (.iinc 4 1, 3) := dk_132 4 1 (dk_at dksX5_best_2 21 rfl rfl)
theorem dX5_best_72 : decode cX5_best 72 = .ok (.goto (-50), 3) := dk_167 255 206 (dk_at dksX5_best_3 0 rfl rfl)
theorem dX5_best_75 : decode cX5_best 75 = .ok (.iload_n 3, 1) := dk_29 (dk_at dksX5_best_3 3 rfl rfl)
theorem dX5_best_76 : decode cX5_best 76 = .ok (.ireturn, 1) := dk_172 (dk_at dksX5_best_3 4 rfl rfl)
abbrev cX5_order : ByteArray := prog_14_method_67_code
def yX5_order : MethodName := ⟨RX5, "order", "(I)I"⟩
def dkwX5_order_4 : List UInt8 := [87, 27, 154, 0, 7, 28, 167, 0, 12, 42, 180, 0, 35, 27, 16, 10, 100, 46, 172]
abbrev dktX5_order_4 : List UInt8 := dkwX5_order_4 ++ []
def dkwX5_order_3 : List UInt8 := [21, 5, 28, 162, 0, 8, 21, 5, 167, 0, 4, 28, 61, 132, 4, 1, 167, 255, 199, 42, 29, 182, 1, 12]
abbrev dktX5_order_3 : List UInt8 := dkwX5_order_3 ++ dktX5_order_4
def dkwX5_order_2 : List UInt8 := [42, 182, 1, 15, 42, 182, 0, 225, 54, 5, 21, 5, 28, 162, 0, 8, 21, 4, 167, 0, 4, 29, 62]
abbrev dktX5_order_2 : List UInt8 := dkwX5_order_2 ++ dktX5_order_3
def dkwX5_order_1 : List UInt8 := [182, 0, 228, 3, 54, 4, 21, 4, 42, 182, 1, 9, 162, 0, 54, 42, 21, 4, 182, 1, 12, 153, 0, 39]
abbrev dktX5_order_1 : List UInt8 := dkwX5_order_1 ++ dktX5_order_2
def dkwX5_order_0 : List UInt8 := [27, 153, 0, 16, 42, 27, 16, 10, 100, 182, 0, 237, 154, 0, 5, 2, 172, 18, 191, 61, 3, 62, 42]
abbrev dktX5_order_0 : List UInt8 := dkwX5_order_0 ++ dktX5_order_1
theorem dksX5_order_0 : cX5_order.data.toList.drop 0 = dktX5_order_0 := by decide +kernel
theorem dksX5_order_1 : cX5_order.data.toList.drop 23 = dktX5_order_1 := dk_seg dksX5_order_0 23 rfl rfl
theorem dksX5_order_2 : cX5_order.data.toList.drop 47 = dktX5_order_2 := dk_seg dksX5_order_1 24 rfl rfl
theorem dksX5_order_3 : cX5_order.data.toList.drop 70 = dktX5_order_3 := dk_seg dksX5_order_2 23 rfl rfl
theorem dksX5_order_4 : cX5_order.data.toList.drop 94 = dktX5_order_4 := dk_seg dksX5_order_3 24 rfl rfl
theorem dX5_order_0 : decode cX5_order 0 = .ok (.iload_n 1, 1) := dk_27 (dk_at dksX5_order_0 0 rfl rfl)
theorem dX5_order_1 : decode cX5_order 1 = .ok (.ifCond .eq 16, 3) := dk_153 0 16 (dk_at dksX5_order_0 1 rfl rfl)
theorem dX5_order_4 : decode cX5_order 4 = .ok (.aload_n 0, 1) := dk_42 (dk_at dksX5_order_0 4 rfl rfl)
theorem dX5_order_5 : decode cX5_order 5 = .ok (.iload_n 1, 1) := dk_27 (dk_at dksX5_order_0 5 rfl rfl)
theorem dX5_order_6 : decode cX5_order 6 = .ok (.bipush 10, 2) := dk_16 10 (dk_at dksX5_order_0 6 rfl rfl)
theorem dX5_order_8 : decode cX5_order 8 = .ok (.isub, 1) := dk_100 (dk_at dksX5_order_0 8 rfl rfl)
theorem dX5_order_9 : decode cX5_order 9 = .ok (.invokevirtual 237, 3) := dk_182 0 237 (dk_at dksX5_order_0 9 rfl rfl)
theorem dX5_order_12 : decode cX5_order 12 = .ok (.ifCond .ne 5, 3) := dk_154 0 5 (dk_at dksX5_order_0 12 rfl rfl)
theorem dX5_order_15 : decode cX5_order 15 = .ok (.iconst (-1), 1) := dk_2 (dk_at dksX5_order_0 15 rfl rfl)
theorem dX5_order_16 : decode cX5_order 16 = .ok (.ireturn, 1) := dk_172 (dk_at dksX5_order_0 16 rfl rfl)
theorem dX5_order_17 : decode cX5_order 17 = .ok (.ldc 191, 2) := dk_18 191 (dk_at dksX5_order_0 17 rfl rfl)
theorem dX5_order_19 : decode cX5_order 19 = .ok (.istore_n 2, 1) := dk_61 (dk_at dksX5_order_0 19 rfl rfl)
theorem dX5_order_20 : decode cX5_order 20 = .ok (.iconst 0, 1) := dk_3 (dk_at dksX5_order_0 20 rfl rfl)
theorem dX5_order_21 : decode cX5_order 21 = .ok (.istore_n 3, 1) := dk_62 (dk_at dksX5_order_0 21 rfl rfl)
theorem dX5_order_22 : decode cX5_order 22 = .ok (.aload_n 0, 1) := dk_42 (dk_at dksX5_order_0 22 rfl rfl)
theorem dX5_order_23 : decode cX5_order 23 = .ok (.invokevirtual 228, 3) := dk_182 0 228 (dk_at dksX5_order_1 0 rfl rfl)
theorem dX5_order_26 : decode cX5_order 26 = .ok (.iconst 0, 1) := dk_3 (dk_at dksX5_order_1 3 rfl rfl)
theorem dX5_order_27 : decode cX5_order 27 = .ok (.istore 4, 2) := dk_54 4 (dk_at dksX5_order_1 4 rfl rfl)
theorem dX5_order_29 : decode cX5_order 29 = .ok (.iload 4, 2) := dk_21 4 (dk_at dksX5_order_1 6 rfl rfl)
theorem dX5_order_31 : decode cX5_order 31 = .ok (.aload_n 0, 1) := dk_42 (dk_at dksX5_order_1 8 rfl rfl)
theorem dX5_order_32 : decode cX5_order 32 = .ok (.invokevirtual 265, 3) := dk_182 1 9 (dk_at dksX5_order_1 9 rfl rfl)
theorem dX5_order_35 : decode cX5_order 35 = .ok (.if_icmp .ge 54, 3) := dk_162 0 54 (dk_at dksX5_order_1 12 rfl rfl)
theorem dX5_order_38 : decode cX5_order 38 = .ok (.aload_n 0, 1) := dk_42 (dk_at dksX5_order_1 15 rfl rfl)
theorem dX5_order_39 : decode cX5_order 39 = .ok (.iload 4, 2) := dk_21 4 (dk_at dksX5_order_1 16 rfl rfl)
theorem dX5_order_41 : decode cX5_order 41 = .ok (.invokevirtual 268, 3) := dk_182 1 12 (dk_at dksX5_order_1 18 rfl rfl)
theorem dX5_order_44 : decode cX5_order 44 = .ok (.ifCond .eq 39, 3) := dk_153 0 39 (dk_at dksX5_order_1 21 rfl rfl)
theorem dX5_order_47 : decode cX5_order 47 = .ok (.aload_n 0, 1) := dk_42 (dk_at dksX5_order_2 0 rfl rfl)
theorem dX5_order_48 : decode cX5_order 48 = .ok (.invokevirtual 271, 3) := dk_182 1 15 (dk_at dksX5_order_2 1 rfl rfl)
theorem dX5_order_51 : decode cX5_order 51 = .ok (.aload_n 0, 1) := dk_42 (dk_at dksX5_order_2 4 rfl rfl)
theorem dX5_order_52 : decode cX5_order 52 = .ok (.invokevirtual 225, 3) := dk_182 0 225 (dk_at dksX5_order_2 5 rfl rfl)
theorem dX5_order_55 : decode cX5_order 55 = .ok (.istore 5, 2) := dk_54 5 (dk_at dksX5_order_2 8 rfl rfl)
theorem dX5_order_57 : decode cX5_order 57 = .ok (.iload 5, 2) := dk_21 5 (dk_at dksX5_order_2 10 rfl rfl)
theorem dX5_order_59 : decode cX5_order 59 = .ok (.iload_n 2, 1) := dk_28 (dk_at dksX5_order_2 12 rfl rfl)
theorem dX5_order_60 : decode cX5_order 60 = .ok (.if_icmp .ge 8, 3) := dk_162 0 8 (dk_at dksX5_order_2 13 rfl rfl)
theorem dX5_order_63 : decode cX5_order 63 = .ok (.iload 4, 2) := dk_21 4 (dk_at dksX5_order_2 16 rfl rfl)
theorem dX5_order_65 : decode cX5_order 65 = .ok (.goto 4, 3) := dk_167 0 4 (dk_at dksX5_order_2 18 rfl rfl)
theorem dX5_order_68 : decode cX5_order 68 = .ok (.iload_n 3, 1) := dk_29 (dk_at dksX5_order_2 21 rfl rfl)
theorem dX5_order_69 : decode cX5_order 69 = .ok (.istore_n 3, 1) := dk_62 (dk_at dksX5_order_2 22 rfl rfl)
theorem dX5_order_70 : decode cX5_order 70 = .ok (.iload 5, 2) := dk_21 5 (dk_at dksX5_order_3 0 rfl rfl)
theorem dX5_order_72 : decode cX5_order 72 = .ok (.iload_n 2, 1) := dk_28 (dk_at dksX5_order_3 2 rfl rfl)
theorem dX5_order_73 : decode cX5_order 73 = .ok (.if_icmp .ge 8, 3) := dk_162 0 8 (dk_at dksX5_order_3 3 rfl rfl)
theorem dX5_order_76 : decode cX5_order 76 = .ok (.iload 5, 2) := dk_21 5 (dk_at dksX5_order_3 6 rfl rfl)
theorem dX5_order_78 : decode cX5_order 78 = .ok (.goto 4, 3) := dk_167 0 4 (dk_at dksX5_order_3 8 rfl rfl)
theorem dX5_order_81 : decode cX5_order 81 = .ok (.iload_n 2, 1) := dk_28 (dk_at dksX5_order_3 11 rfl rfl)
theorem dX5_order_82 : decode cX5_order 82 = .ok (.istore_n 2, 1) := dk_61 (dk_at dksX5_order_3 12 rfl rfl)
theorem dX5_order_83 : decode cX5_order 83 = .ok (.iinc 4 1, 3) := dk_132 4 1 (dk_at dksX5_order_3 13 rfl rfl)
theorem dX5_order_86 : decode cX5_order 86 = .ok (.goto (-57), 3) := dk_167 255 199 (dk_at dksX5_order_3 16 rfl rfl)
theorem dX5_order_89 : decode cX5_order 89 = .ok (.aload_n 0, 1) := dk_42 (dk_at dksX5_order_3 19 rfl rfl)
theorem dX5_order_90 : decode cX5_order 90 = .ok (.iload_n 3, 1) := dk_29 (dk_at dksX5_order_3 20 rfl rfl)
theorem dX5_order_91 : decode cX5_order 91 = .ok (.invokevirtual 268, 3) := dk_182 1 12 (dk_at dksX5_order_3 21 rfl rfl)
theorem dX5_order_94 : decode cX5_order 94 = .ok (.pop, 1) := dk_87 (dk_at dksX5_order_4 0 rfl rfl)
theorem dX5_order_95 : decode cX5_order 95 = .ok (.iload_n 1, 1) := dk_27 (dk_at dksX5_order_4 1 rfl rfl)
theorem dX5_order_96 : decode cX5_order 96 = .ok (.ifCond .ne 7, 3) := dk_154 0 7 (dk_at dksX5_order_4 2 rfl rfl)
theorem dX5_order_99 : decode cX5_order 99 = .ok (.iload_n 2, 1) := dk_28 (dk_at dksX5_order_4 5 rfl rfl)
theorem dX5_order_100 : decode cX5_order 100 = .ok (.goto 12, 3) := dk_167 0 12 (dk_at dksX5_order_4 6 rfl rfl)
theorem dX5_order_103 : decode cX5_order 103 = .ok (.aload_n 0, 1) := dk_42 (dk_at dksX5_order_4 9 rfl rfl)
theorem dX5_order_104 : decode cX5_order 104 = .ok (.getfield 35, 3) := dk_180 0 35 (dk_at dksX5_order_4 10 rfl rfl)
theorem dX5_order_107 : decode cX5_order 107 = .ok (.iload_n 1, 1) := dk_27 (dk_at dksX5_order_4 13 rfl rfl)
theorem dX5_order_108 : decode cX5_order 108 = .ok (.bipush 10, 2) := dk_16 10 (dk_at dksX5_order_4 14 rfl rfl)
theorem dX5_order_110 : decode cX5_order 110 = .ok (.isub, 1) := dk_100 (dk_at dksX5_order_4 16 rfl rfl)
theorem dX5_order_111 : decode cX5_order 111 = .ok (.iaload, 1) := dk_46 (dk_at dksX5_order_4 17 rfl rfl)
theorem dX5_order_112 : decode cX5_order 112 = .ok (.ireturn, 1) := dk_172 (dk_at dksX5_order_4 18 rfl rfl)
abbrev cX5_rows : ByteArray := prog_14_method_64_code
def yX5_rows : MethodName := ⟨RX5, "rows", "()I"⟩
def dkwX5_rows_1 : List UInt8 := [172]
abbrev dktX5_rows_1 : List UInt8 := dkwX5_rows_1 ++ []
def dkwX5_rows_0 : List UInt8 := [4, 60, 3, 61, 28, 42, 180, 0, 69, 162, 0, 14, 27, 16, 6, 104, 60, 132, 2, 1, 167, 255, 240, 27]
abbrev dktX5_rows_0 : List UInt8 := dkwX5_rows_0 ++ dktX5_rows_1
theorem dksX5_rows_0 : cX5_rows.data.toList.drop 0 = dktX5_rows_0 := by decide +kernel
theorem dksX5_rows_1 : cX5_rows.data.toList.drop 24 = dktX5_rows_1 := dk_seg dksX5_rows_0 24 rfl rfl
theorem dX5_rows_0 : decode cX5_rows 0 = .ok (.iconst 1, 1) := dk_4 (dk_at dksX5_rows_0 0 rfl rfl)
theorem dX5_rows_1 : decode cX5_rows 1 = .ok (.istore_n 1, 1) := dk_60 (dk_at dksX5_rows_0 1 rfl rfl)
theorem dX5_rows_2 : decode cX5_rows 2 = .ok (.iconst 0, 1) := dk_3 (dk_at dksX5_rows_0 2 rfl rfl)
theorem dX5_rows_3 : decode cX5_rows 3 = .ok (.istore_n 2, 1) := dk_61 (dk_at dksX5_rows_0 3 rfl rfl)
theorem dX5_rows_4 : decode cX5_rows 4 = .ok (.iload_n 2, 1) := dk_28 (dk_at dksX5_rows_0 4 rfl rfl)
theorem dX5_rows_5 : decode cX5_rows 5 = .ok (.aload_n 0, 1) := dk_42 (dk_at dksX5_rows_0 5 rfl rfl)
theorem dX5_rows_6 : decode cX5_rows 6 = .ok (.getfield 69, 3) := dk_180 0 69 (dk_at dksX5_rows_0 6 rfl rfl)
theorem dX5_rows_9 : decode cX5_rows 9 = .ok (.if_icmp .ge 14, 3) := dk_162 0 14 (dk_at dksX5_rows_0 9 rfl rfl)
theorem dX5_rows_12 : decode cX5_rows 12 = .ok (.iload_n 1, 1) := dk_27 (dk_at dksX5_rows_0 12 rfl rfl)
theorem dX5_rows_13 : decode cX5_rows 13 = .ok (.bipush 6, 2) := dk_16 6 (dk_at dksX5_rows_0 13 rfl rfl)
theorem dX5_rows_15 : decode cX5_rows 15 = .ok (.imul, 1) := dk_104 (dk_at dksX5_rows_0 15 rfl rfl)
theorem dX5_rows_16 : decode cX5_rows 16 = .ok (.istore_n 1, 1) := dk_60 (dk_at dksX5_rows_0 16 rfl rfl)
theorem dX5_rows_17 : decode cX5_rows 17 = .ok (.iinc 2 1, 3) := dk_132 2 1 (dk_at dksX5_rows_0 17 rfl rfl)
theorem dX5_rows_20 : decode cX5_rows 20 = .ok (.goto (-16), 3) := dk_167 255 240 (dk_at dksX5_rows_0 20 rfl rfl)
theorem dX5_rows_23 : decode cX5_rows 23 = .ok (.iload_n 1, 1) := dk_27 (dk_at dksX5_rows_0 23 rfl rfl)
theorem dX5_rows_24 : decode cX5_rows 24 = .ok (.ireturn, 1) := dk_172 (dk_at dksX5_rows_1 0 rfl rfl)
abbrev cX5_isOrder : ByteArray := prog_14_method_65_code
def yX5_isOrder : MethodName := ⟨RX5, "isOrder", "(I)Z"⟩
def dkwX5_isOrder_2 : List UInt8 := [167, 255, 220, 29, 4, 42, 180, 0, 69, 120, 4, 100, 160, 0, 7, 4, 167, 0, 4, 3, 172]
abbrev dktX5_isOrder_2 : List UInt8 := dkwX5_isOrder_2 ++ []
def dkwX5_isOrder_1 : List UInt8 := [16, 6, 112, 79, 28, 16, 6, 108, 61, 29, 4, 42, 180, 0, 35, 21, 4, 46, 120, 128, 62, 132, 4, 255]
abbrev dktX5_isOrder_1 : List UInt8 := dkwX5_isOrder_1 ++ dktX5_isOrder_2
def dkwX5_isOrder_0 : List UInt8 := [27, 61, 3, 62, 42, 180, 0, 69, 4, 100, 54, 4, 21, 4, 155, 0, 37, 42, 180, 0, 35, 21, 4, 28]
abbrev dktX5_isOrder_0 : List UInt8 := dkwX5_isOrder_0 ++ dktX5_isOrder_1
theorem dksX5_isOrder_0 : cX5_isOrder.data.toList.drop 0 = dktX5_isOrder_0 := by decide +kernel
theorem dksX5_isOrder_1 : cX5_isOrder.data.toList.drop 24 = dktX5_isOrder_1 := dk_seg dksX5_isOrder_0 24 rfl rfl
theorem dksX5_isOrder_2 : cX5_isOrder.data.toList.drop 48 = dktX5_isOrder_2 := dk_seg dksX5_isOrder_1 24 rfl rfl
theorem dX5_isOrder_0 : decode cX5_isOrder 0 = .ok (.iload_n 1, 1) := dk_27 (dk_at dksX5_isOrder_0 0 rfl rfl)
theorem dX5_isOrder_1 : decode cX5_isOrder 1 = .ok (.istore_n 2, 1) := dk_61 (dk_at dksX5_isOrder_0 1 rfl rfl)
theorem dX5_isOrder_2 : decode cX5_isOrder 2 = .ok (.iconst 0, 1) := dk_3 (dk_at dksX5_isOrder_0 2 rfl rfl)
theorem dX5_isOrder_3 : decode cX5_isOrder 3 = .ok (.istore_n 3, 1) := dk_62 (dk_at dksX5_isOrder_0 3 rfl rfl)
theorem dX5_isOrder_4 : decode cX5_isOrder 4 = .ok (.aload_n 0, 1) := dk_42 (dk_at dksX5_isOrder_0 4 rfl rfl)
theorem dX5_isOrder_5 : decode cX5_isOrder 5 = .ok (.getfield 69, 3) := dk_180 0 69 (dk_at dksX5_isOrder_0 5 rfl rfl)
theorem dX5_isOrder_8 : decode cX5_isOrder 8 = .ok (.iconst 1, 1) := dk_4 (dk_at dksX5_isOrder_0 8 rfl rfl)
theorem dX5_isOrder_9 : decode cX5_isOrder 9 = .ok (.isub, 1) := dk_100 (dk_at dksX5_isOrder_0 9 rfl rfl)
theorem dX5_isOrder_10 : decode cX5_isOrder 10 = .ok (.istore 4, 2) := dk_54 4 (dk_at dksX5_isOrder_0 10 rfl rfl)
theorem dX5_isOrder_12 : decode cX5_isOrder 12 = .ok (.iload 4, 2) := dk_21 4 (dk_at dksX5_isOrder_0 12 rfl rfl)
theorem dX5_isOrder_14 : decode cX5_isOrder 14 = .ok (.ifCond .lt 37, 3) := dk_155 0 37 (dk_at dksX5_isOrder_0 14 rfl rfl)
theorem dX5_isOrder_17 : decode cX5_isOrder 17 = .ok (.aload_n 0, 1) := dk_42 (dk_at dksX5_isOrder_0 17 rfl rfl)
theorem dX5_isOrder_18 : decode cX5_isOrder 18 = .ok (.getfield 35, 3) := dk_180 0 35 (dk_at dksX5_isOrder_0 18 rfl rfl)
theorem dX5_isOrder_21 : decode cX5_isOrder 21 = .ok (.iload 4, 2) := dk_21 4 (dk_at dksX5_isOrder_0 21 rfl rfl)
theorem dX5_isOrder_23 : decode cX5_isOrder 23 = .ok (.iload_n 2, 1) := dk_28 (dk_at dksX5_isOrder_0 23 rfl rfl)
theorem dX5_isOrder_24 : decode cX5_isOrder 24 = .ok (.bipush 6, 2) := dk_16 6 (dk_at dksX5_isOrder_1 0 rfl rfl)
theorem dX5_isOrder_26 : decode cX5_isOrder 26 = .ok (.irem, 1) := dk_112 (dk_at dksX5_isOrder_1 2 rfl rfl)
theorem dX5_isOrder_27 : decode cX5_isOrder 27 = .ok (.iastore, 1) := dk_79 (dk_at dksX5_isOrder_1 3 rfl rfl)
theorem dX5_isOrder_28 : decode cX5_isOrder 28 = .ok (.iload_n 2, 1) := dk_28 (dk_at dksX5_isOrder_1 4 rfl rfl)
theorem dX5_isOrder_29 : decode cX5_isOrder 29 = .ok (.bipush 6, 2) := dk_16 6 (dk_at dksX5_isOrder_1 5 rfl rfl)
theorem dX5_isOrder_31 : decode cX5_isOrder 31 = .ok (.idiv, 1) := dk_108 (dk_at dksX5_isOrder_1 7 rfl rfl)
theorem dX5_isOrder_32 : decode cX5_isOrder 32 = .ok (.istore_n 2, 1) := dk_61 (dk_at dksX5_isOrder_1 8 rfl rfl)
theorem dX5_isOrder_33 : decode cX5_isOrder 33 = .ok (.iload_n 3, 1) := dk_29 (dk_at dksX5_isOrder_1 9 rfl rfl)
theorem dX5_isOrder_34 : decode cX5_isOrder 34 = .ok (.iconst 1, 1) := dk_4 (dk_at dksX5_isOrder_1 10 rfl rfl)
theorem dX5_isOrder_35 : decode cX5_isOrder 35 = .ok (.aload_n 0, 1) := dk_42 (dk_at dksX5_isOrder_1 11 rfl rfl)
theorem dX5_isOrder_36 : decode cX5_isOrder 36 = .ok (.getfield 35, 3) := dk_180 0 35 (dk_at dksX5_isOrder_1 12 rfl rfl)
theorem dX5_isOrder_39 : decode cX5_isOrder 39 = .ok (.iload 4, 2) := dk_21 4 (dk_at dksX5_isOrder_1 15 rfl rfl)
theorem dX5_isOrder_41 : decode cX5_isOrder 41 = .ok (.iaload, 1) := dk_46 (dk_at dksX5_isOrder_1 17 rfl rfl)
theorem dX5_isOrder_42 : decode cX5_isOrder 42 = .ok (.ishl, 1) := dk_120 (dk_at dksX5_isOrder_1 18 rfl rfl)
theorem dX5_isOrder_43 : decode cX5_isOrder 43 = .ok (.ior, 1) := dk_128 (dk_at dksX5_isOrder_1 19 rfl rfl)
theorem dX5_isOrder_44 : decode cX5_isOrder 44 = .ok (.istore_n 3, 1) := dk_62 (dk_at dksX5_isOrder_1 20 rfl rfl)
theorem dX5_isOrder_45 : decode cX5_isOrder 45 = .ok (.iinc 4 (-1), 3) := dk_132 4 255 (dk_at dksX5_isOrder_1 21 rfl rfl)
theorem dX5_isOrder_48 : decode cX5_isOrder 48 = .ok (.goto (-36), 3) := dk_167 255 220 (dk_at dksX5_isOrder_2 0 rfl rfl)
theorem dX5_isOrder_51 : decode cX5_isOrder 51 = .ok (.iload_n 3, 1) := dk_29 (dk_at dksX5_isOrder_2 3 rfl rfl)
theorem dX5_isOrder_52 : decode cX5_isOrder 52 = .ok (.iconst 1, 1) := dk_4 (dk_at dksX5_isOrder_2 4 rfl rfl)
theorem dX5_isOrder_53 : decode cX5_isOrder 53 = .ok (.aload_n 0, 1) := dk_42 (dk_at dksX5_isOrder_2 5 rfl rfl)
theorem dX5_isOrder_54 : decode cX5_isOrder 54 = .ok (.getfield 69, 3) := dk_180 0 69 (dk_at dksX5_isOrder_2 6 rfl rfl)
theorem dX5_isOrder_57 : decode cX5_isOrder 57 = .ok (.ishl, 1) := dk_120 (dk_at dksX5_isOrder_2 9 rfl rfl)
theorem dX5_isOrder_58 : decode cX5_isOrder 58 = .ok (.iconst 1, 1) := dk_4 (dk_at dksX5_isOrder_2 10 rfl rfl)
theorem dX5_isOrder_59 : decode cX5_isOrder 59 = .ok (.isub, 1) := dk_100 (dk_at dksX5_isOrder_2 11 rfl rfl)
theorem dX5_isOrder_60 : decode cX5_isOrder 60 = .ok (.if_icmp .ne 7, 3) := dk_160 0 7 (dk_at dksX5_isOrder_2 12 rfl rfl)
theorem dX5_isOrder_63 : decode cX5_isOrder 63 = .ok (.iconst 1, 1) := dk_4 (dk_at dksX5_isOrder_2 15 rfl rfl)
theorem dX5_isOrder_64 : decode cX5_isOrder 64 = .ok (.goto 4, 3) := dk_167 0 4 (dk_at dksX5_isOrder_2 16 rfl rfl)
theorem dX5_isOrder_67 : decode cX5_isOrder 67 = .ok (.iconst 0, 1) := dk_3 (dk_at dksX5_isOrder_2 19 rfl rfl)
theorem dX5_isOrder_68 : decode cX5_isOrder 68 = .ok (.ireturn, 1) := dk_172 (dk_at dksX5_isOrder_2 20 rfl rfl)
abbrev cX5_goesInOrder : ByteArray := prog_14_method_66_code
def yX5_goesInOrder : MethodName := ⟨RX5, "goesInOrder", "()V"⟩
def dkwX5_goesInOrder_1 : List UInt8 := [132, 1, 1, 167, 255, 235, 177]
abbrev dktX5_goesInOrder_1 : List UInt8 := dkwX5_goesInOrder_1 ++ []
def dkwX5_goesInOrder_0 : List UInt8 := [42, 182, 0, 210, 3, 60, 27, 42, 180, 0, 69, 162, 0, 19, 42, 42, 180, 0, 35, 27, 46, 182, 0, 222]
abbrev dktX5_goesInOrder_0 : List UInt8 := dkwX5_goesInOrder_0 ++ dktX5_goesInOrder_1
theorem dksX5_goesInOrder_0 : cX5_goesInOrder.data.toList.drop 0 = dktX5_goesInOrder_0 := by decide +kernel
theorem dksX5_goesInOrder_1 : cX5_goesInOrder.data.toList.drop 24 = dktX5_goesInOrder_1 := dk_seg dksX5_goesInOrder_0 24 rfl rfl
theorem dX5_goesInOrder_0 : decode cX5_goesInOrder 0 = .ok (.aload_n 0, 1) := dk_42 (dk_at dksX5_goesInOrder_0 0 rfl rfl)
theorem dX5_goesInOrder_1 : decode cX5_goesInOrder 1 = .ok (.invokevirtual 210, 3) := dk_182 0 210 (dk_at dksX5_goesInOrder_0 1 rfl rfl)
theorem dX5_goesInOrder_4 : decode cX5_goesInOrder 4 = .ok (.iconst 0, 1) := dk_3 (dk_at dksX5_goesInOrder_0 4 rfl rfl)
theorem dX5_goesInOrder_5 : decode cX5_goesInOrder 5 = .ok (.istore_n 1, 1) := dk_60 (dk_at dksX5_goesInOrder_0 5 rfl rfl)
theorem dX5_goesInOrder_6 : decode cX5_goesInOrder 6 = .ok (.iload_n 1, 1) := dk_27 (dk_at dksX5_goesInOrder_0 6 rfl rfl)
theorem dX5_goesInOrder_7 : decode cX5_goesInOrder 7 = .ok (.aload_n 0, 1) := dk_42 (dk_at dksX5_goesInOrder_0 7 rfl rfl)
theorem dX5_goesInOrder_8 : decode cX5_goesInOrder 8 = .ok (.getfield 69, 3) := dk_180 0 69 (dk_at dksX5_goesInOrder_0 8 rfl rfl)
theorem dX5_goesInOrder_11 : decode cX5_goesInOrder 11 = .ok (.if_icmp .ge 19, 3) := dk_162 0 19 (dk_at dksX5_goesInOrder_0 11 rfl rfl)
theorem dX5_goesInOrder_14 : decode cX5_goesInOrder 14 = .ok (.aload_n 0, 1) := dk_42 (dk_at dksX5_goesInOrder_0 14 rfl rfl)
theorem dX5_goesInOrder_15 : decode cX5_goesInOrder 15 = .ok (.aload_n 0, 1) := dk_42 (dk_at dksX5_goesInOrder_0 15 rfl rfl)
theorem dX5_goesInOrder_16 : decode cX5_goesInOrder 16 = .ok (.getfield 35, 3) := dk_180 0 35 (dk_at dksX5_goesInOrder_0 16 rfl rfl)
theorem dX5_goesInOrder_19 : decode cX5_goesInOrder 19 = .ok (.iload_n 1, 1) := dk_27 (dk_at dksX5_goesInOrder_0 19 rfl rfl)
theorem dX5_goesInOrder_20 : decode cX5_goesInOrder 20 = .ok (.iaload, 1) := dk_46 (dk_at dksX5_goesInOrder_0 20 rfl rfl)
theorem dX5_goesInOrder_21 : decode cX5_goesInOrder 21 = .ok (.invokevirtual 222, 3) := dk_182 0 222 (dk_at dksX5_goesInOrder_0 21 rfl rfl)
theorem dX5_goesInOrder_24 : decode cX5_goesInOrder 24 = .ok (.iinc 1 1, 3) := dk_132 1 1 (dk_at dksX5_goesInOrder_1 0 rfl rfl)
theorem dX5_goesInOrder_27 : decode cX5_goesInOrder 27 = .ok (.goto (-21), 3) := dk_167 255 235 (dk_at dksX5_goesInOrder_1 3 rfl rfl)
theorem dX5_goesInOrder_30 : decode cX5_goesInOrder 30 = .ok (.return_, 1) := dk_177 (dk_at dksX5_goesInOrder_1 6 rfl rfl)
abbrev cX5_firsts : ByteArray := prog_14_method_68_code
def yX5_firsts : MethodName := ⟨RX5, "firsts", "(I)I"⟩
def dkwX5_firsts_2 : List UInt8 := [132, 3, 1, 167, 255, 220, 28, 172]
abbrev dktX5_firsts_2 : List UInt8 := dkwX5_firsts_2 ++ []
def dkwX5_firsts_1 : List UInt8 := [28, 42, 180, 0, 26, 3, 46, 27, 160, 0, 7, 4, 167, 0, 4, 3, 184, 0, 184, 29, 120, 128, 61]
abbrev dktX5_firsts_1 : List UInt8 := dkwX5_firsts_1 ++ dktX5_firsts_2
def dkwX5_firsts_0 : List UInt8 := [42, 27, 182, 0, 237, 154, 0, 5, 2, 172, 3, 61, 3, 62, 29, 8, 162, 0, 37, 42, 29, 182, 1, 6]
abbrev dktX5_firsts_0 : List UInt8 := dkwX5_firsts_0 ++ dktX5_firsts_1
theorem dksX5_firsts_0 : cX5_firsts.data.toList.drop 0 = dktX5_firsts_0 := by decide +kernel
theorem dksX5_firsts_1 : cX5_firsts.data.toList.drop 24 = dktX5_firsts_1 := dk_seg dksX5_firsts_0 24 rfl rfl
theorem dksX5_firsts_2 : cX5_firsts.data.toList.drop 47 = dktX5_firsts_2 := dk_seg dksX5_firsts_1 23 rfl rfl
theorem dX5_firsts_0 : decode cX5_firsts 0 = .ok (.aload_n 0, 1) := dk_42 (dk_at dksX5_firsts_0 0 rfl rfl)
theorem dX5_firsts_1 : decode cX5_firsts 1 = .ok (.iload_n 1, 1) := dk_27 (dk_at dksX5_firsts_0 1 rfl rfl)
theorem dX5_firsts_2 : decode cX5_firsts 2 = .ok (.invokevirtual 237, 3) := dk_182 0 237 (dk_at dksX5_firsts_0 2 rfl rfl)
theorem dX5_firsts_5 : decode cX5_firsts 5 = .ok (.ifCond .ne 5, 3) := dk_154 0 5 (dk_at dksX5_firsts_0 5 rfl rfl)
theorem dX5_firsts_8 : decode cX5_firsts 8 = .ok (.iconst (-1), 1) := dk_2 (dk_at dksX5_firsts_0 8 rfl rfl)
theorem dX5_firsts_9 : decode cX5_firsts 9 = .ok (.ireturn, 1) := dk_172 (dk_at dksX5_firsts_0 9 rfl rfl)
theorem dX5_firsts_10 : decode cX5_firsts 10 = .ok (.iconst 0, 1) := dk_3 (dk_at dksX5_firsts_0 10 rfl rfl)
theorem dX5_firsts_11 : decode cX5_firsts 11 = .ok (.istore_n 2, 1) := dk_61 (dk_at dksX5_firsts_0 11 rfl rfl)
theorem dX5_firsts_12 : decode cX5_firsts 12 = .ok (.iconst 0, 1) := dk_3 (dk_at dksX5_firsts_0 12 rfl rfl)
theorem dX5_firsts_13 : decode cX5_firsts 13 = .ok (.istore_n 3, 1) := dk_62 (dk_at dksX5_firsts_0 13 rfl rfl)
theorem dX5_firsts_14 : decode cX5_firsts 14 = .ok (.iload_n 3, 1) := dk_29 (dk_at dksX5_firsts_0 14 rfl rfl)
theorem dX5_firsts_15 : decode cX5_firsts 15 = .ok (.iconst 5, 1) := dk_8 (dk_at dksX5_firsts_0 15 rfl rfl)
theorem dX5_firsts_16 : decode cX5_firsts 16 = .ok (.if_icmp .ge 37, 3) := dk_162 0 37 (dk_at dksX5_firsts_0 16 rfl rfl)
theorem dX5_firsts_19 : decode cX5_firsts 19 = .ok (.aload_n 0, 1) := dk_42 (dk_at dksX5_firsts_0 19 rfl rfl)
theorem dX5_firsts_20 : decode cX5_firsts 20 = .ok (.iload_n 3, 1) := dk_29 (dk_at dksX5_firsts_0 20 rfl rfl)
theorem dX5_firsts_21 : decode cX5_firsts 21 = .ok (.invokevirtual 262, 3) := dk_182 1 6 (dk_at dksX5_firsts_0 21 rfl rfl)
theorem dX5_firsts_24 : decode cX5_firsts 24 = .ok (.iload_n 2, 1) := dk_28 (dk_at dksX5_firsts_1 0 rfl rfl)
theorem dX5_firsts_25 : decode cX5_firsts 25 = .ok (.aload_n 0, 1) := dk_42 (dk_at dksX5_firsts_1 1 rfl rfl)
theorem dX5_firsts_26 : decode cX5_firsts 26 = .ok (.getfield 26, 3) := dk_180 0 26 (dk_at dksX5_firsts_1 2 rfl rfl)
theorem dX5_firsts_29 : decode cX5_firsts 29 = .ok (.iconst 0, 1) := dk_3 (dk_at dksX5_firsts_1 5 rfl rfl)
theorem dX5_firsts_30 : decode cX5_firsts 30 = .ok (.iaload, 1) := dk_46 (dk_at dksX5_firsts_1 6 rfl rfl)
theorem dX5_firsts_31 : decode cX5_firsts 31 = .ok (.iload_n 1, 1) := dk_27 (dk_at dksX5_firsts_1 7 rfl rfl)
theorem dX5_firsts_32 : decode cX5_firsts 32 = .ok (.if_icmp .ne 7, 3) := dk_160 0 7 (dk_at dksX5_firsts_1 8 rfl rfl)
theorem dX5_firsts_35 : decode cX5_firsts 35 = .ok (.iconst 1, 1) := dk_4 (dk_at dksX5_firsts_1 11 rfl rfl)
theorem dX5_firsts_36 : decode cX5_firsts 36 = .ok (.goto 4, 3) := dk_167 0 4 (dk_at dksX5_firsts_1 12 rfl rfl)
theorem dX5_firsts_39 : decode cX5_firsts 39 = .ok (.iconst 0, 1) := dk_3 (dk_at dksX5_firsts_1 15 rfl rfl)
theorem dX5_firsts_40 : decode cX5_firsts 40 = .ok (.invokestatic 184, 3) := dk_184 0 184 (dk_at dksX5_firsts_1 16 rfl rfl)
theorem dX5_firsts_43 : decode cX5_firsts 43 = .ok (.iload_n 3, 1) := dk_29 (dk_at dksX5_firsts_1 19 rfl rfl)
theorem dX5_firsts_44 : decode cX5_firsts 44 = .ok (.ishl, 1) := dk_120 (dk_at dksX5_firsts_1 20 rfl rfl)
theorem dX5_firsts_45 : decode cX5_firsts 45 = .ok (.ior, 1) := dk_128 (dk_at dksX5_firsts_1 21 rfl rfl)
theorem dX5_firsts_46 : decode cX5_firsts 46 = .ok (.istore_n 2, 1) := dk_61 (dk_at dksX5_firsts_1 22 rfl rfl)
theorem dX5_firsts_47 : decode cX5_firsts 47 = .ok (.iinc 3 1, 3) := dk_132 3 1 (dk_at dksX5_firsts_2 0 rfl rfl)
theorem dX5_firsts_50 : decode cX5_firsts 50 = .ok (.goto (-36), 3) := dk_167 255 220 (dk_at dksX5_firsts_2 3 rfl rfl)
theorem dX5_firsts_53 : decode cX5_firsts 53 = .ok (.iload_n 2, 1) := dk_28 (dk_at dksX5_firsts_2 6 rfl rfl)
theorem dX5_firsts_54 : decode cX5_firsts 54 = .ok (.ireturn, 1) := dk_172 (dk_at dksX5_firsts_2 7 rfl rfl)
abbrev cX5_gain : ByteArray := prog_14_method_70_code
def yX5_gain : MethodName := ⟨RX5, "gain", "(I)I"⟩
def dkwX5_gain_0 : List UInt8 := [42, 27, 182, 0, 237, 154, 0, 5, 2, 172, 42, 182, 0, 228, 17, 3, 232, 42, 27, 182, 1, 22, 96, 172]
abbrev dktX5_gain_0 : List UInt8 := dkwX5_gain_0 ++ []
theorem dksX5_gain_0 : cX5_gain.data.toList.drop 0 = dktX5_gain_0 := by decide +kernel
theorem dX5_gain_0 : decode cX5_gain 0 = .ok (.aload_n 0, 1) := dk_42 (dk_at dksX5_gain_0 0 rfl rfl)
theorem dX5_gain_1 : decode cX5_gain 1 = .ok (.iload_n 1, 1) := dk_27 (dk_at dksX5_gain_0 1 rfl rfl)
theorem dX5_gain_2 : decode cX5_gain 2 = .ok (.invokevirtual 237, 3) := dk_182 0 237 (dk_at dksX5_gain_0 2 rfl rfl)
theorem dX5_gain_5 : decode cX5_gain 5 = .ok (.ifCond .ne 5, 3) := dk_154 0 5 (dk_at dksX5_gain_0 5 rfl rfl)
theorem dX5_gain_8 : decode cX5_gain 8 = .ok (.iconst (-1), 1) := dk_2 (dk_at dksX5_gain_0 8 rfl rfl)
theorem dX5_gain_9 : decode cX5_gain 9 = .ok (.ireturn, 1) := dk_172 (dk_at dksX5_gain_0 9 rfl rfl)
theorem dX5_gain_10 : decode cX5_gain 10 = .ok (.aload_n 0, 1) := dk_42 (dk_at dksX5_gain_0 10 rfl rfl)
theorem dX5_gain_11 : decode cX5_gain 11 = .ok (.invokevirtual 228, 3) := dk_182 0 228 (dk_at dksX5_gain_0 11 rfl rfl)
theorem dX5_gain_14 : decode cX5_gain 14 = .ok (.sipush 1000, 3) := dk_17 3 232 (dk_at dksX5_gain_0 14 rfl rfl)
theorem dX5_gain_17 : decode cX5_gain 17 = .ok (.aload_n 0, 1) := dk_42 (dk_at dksX5_gain_0 17 rfl rfl)
theorem dX5_gain_18 : decode cX5_gain 18 = .ok (.iload_n 1, 1) := dk_27 (dk_at dksX5_gain_0 18 rfl rfl)
theorem dX5_gain_19 : decode cX5_gain 19 = .ok (.invokevirtual 278, 3) := dk_182 1 22 (dk_at dksX5_gain_0 19 rfl rfl)
theorem dX5_gain_22 : decode cX5_gain 22 = .ok (.iadd, 1) := dk_96 (dk_at dksX5_gain_0 22 rfl rfl)
theorem dX5_gain_23 : decode cX5_gain 23 = .ok (.ireturn, 1) := dk_172 (dk_at dksX5_gain_0 23 rfl rfl)
abbrev cX5_gainOf : ByteArray := prog_14_method_69_code
def yX5_gainOf : MethodName := ⟨RX5, "gainOf", "(I)I"⟩
def dkwX5_gainOf_2 : List UInt8 := [180, 0, 32, 27, 46, 100, 172]
abbrev dktX5_gainOf_2 : List UInt8 := dkwX5_gainOf_2 ++ []
def dkwX5_gainOf_1 : List UInt8 := [182, 1, 18, 42, 182, 0, 231, 42, 27, 8, 4, 42, 27, 8, 182, 0, 166, 100, 182, 1, 18, 28, 42]
abbrev dktX5_gainOf_1 : List UInt8 := dkwX5_gainOf_1 ++ dktX5_gainOf_2
def dkwX5_gainOf_0 : List UInt8 := [42, 182, 0, 231, 42, 180, 0, 32, 27, 46, 61, 42, 27, 8, 4, 42, 27, 8, 182, 0, 166, 100]
abbrev dktX5_gainOf_0 : List UInt8 := dkwX5_gainOf_0 ++ dktX5_gainOf_1
theorem dksX5_gainOf_0 : cX5_gainOf.data.toList.drop 0 = dktX5_gainOf_0 := by decide +kernel
theorem dksX5_gainOf_1 : cX5_gainOf.data.toList.drop 22 = dktX5_gainOf_1 := dk_seg dksX5_gainOf_0 22 rfl rfl
theorem dksX5_gainOf_2 : cX5_gainOf.data.toList.drop 45 = dktX5_gainOf_2 := dk_seg dksX5_gainOf_1 23 rfl rfl
theorem dX5_gainOf_0 : decode cX5_gainOf 0 = .ok (.aload_n 0, 1) := dk_42 (dk_at dksX5_gainOf_0 0 rfl rfl)
theorem dX5_gainOf_1 : decode cX5_gainOf 1 = .ok (.invokevirtual 231, 3) := dk_182 0 231 (dk_at dksX5_gainOf_0 1 rfl rfl)
theorem dX5_gainOf_4 : decode cX5_gainOf 4 = .ok (.aload_n 0, 1) := dk_42 (dk_at dksX5_gainOf_0 4 rfl rfl)
theorem dX5_gainOf_5 : decode cX5_gainOf 5 = .ok (.getfield 32, 3) := dk_180 0 32 (dk_at dksX5_gainOf_0 5 rfl rfl)
theorem dX5_gainOf_8 : decode cX5_gainOf 8 = .ok (.iload_n 1, 1) := dk_27 (dk_at dksX5_gainOf_0 8 rfl rfl)
theorem dX5_gainOf_9 : decode cX5_gainOf 9 = .ok (.iaload, 1) := dk_46 (dk_at dksX5_gainOf_0 9 rfl rfl)
theorem dX5_gainOf_10 : decode cX5_gainOf 10 = .ok (.istore_n 2, 1) := dk_61 (dk_at dksX5_gainOf_0 10 rfl rfl)
theorem dX5_gainOf_11 : decode cX5_gainOf 11 = .ok (.aload_n 0, 1) := dk_42 (dk_at dksX5_gainOf_0 11 rfl rfl)
theorem dX5_gainOf_12 : decode cX5_gainOf 12 = .ok (.iload_n 1, 1) := dk_27 (dk_at dksX5_gainOf_0 12 rfl rfl)
theorem dX5_gainOf_13 : decode cX5_gainOf 13 = .ok (.iconst 5, 1) := dk_8 (dk_at dksX5_gainOf_0 13 rfl rfl)
theorem dX5_gainOf_14 : decode cX5_gainOf 14 = .ok (.iconst 1, 1) := dk_4 (dk_at dksX5_gainOf_0 14 rfl rfl)
theorem dX5_gainOf_15 : decode cX5_gainOf 15 = .ok (.aload_n 0, 1) := dk_42 (dk_at dksX5_gainOf_0 15 rfl rfl)
theorem dX5_gainOf_16 : decode cX5_gainOf 16 = .ok (.iload_n 1, 1) := dk_27 (dk_at dksX5_gainOf_0 16 rfl rfl)
theorem dX5_gainOf_17 : decode cX5_gainOf 17 = .ok (.iconst 5, 1) := dk_8 (dk_at dksX5_gainOf_0 17 rfl rfl)
theorem dX5_gainOf_18 : decode cX5_gainOf 18 = .ok (.invokevirtual 166, 3) := dk_182 0 166 (dk_at dksX5_gainOf_0 18 rfl rfl)
theorem dX5_gainOf_21 : decode cX5_gainOf 21 = .ok (.isub, 1) := dk_100 (dk_at dksX5_gainOf_0 21 rfl rfl)
theorem dX5_gainOf_22 : decode cX5_gainOf 22 = .ok (.invokevirtual 274, 3) := dk_182 1 18 (dk_at dksX5_gainOf_1 0 rfl rfl)
theorem dX5_gainOf_25 : decode cX5_gainOf 25 = .ok (.aload_n 0, 1) := dk_42 (dk_at dksX5_gainOf_1 3 rfl rfl)
theorem dX5_gainOf_26 : decode cX5_gainOf 26 = .ok (.invokevirtual 231, 3) := dk_182 0 231 (dk_at dksX5_gainOf_1 4 rfl rfl)
theorem dX5_gainOf_29 : decode cX5_gainOf 29 = .ok (.aload_n 0, 1) := dk_42 (dk_at dksX5_gainOf_1 7 rfl rfl)
theorem dX5_gainOf_30 : decode cX5_gainOf 30 = .ok (.iload_n 1, 1) := dk_27 (dk_at dksX5_gainOf_1 8 rfl rfl)
theorem dX5_gainOf_31 : decode cX5_gainOf 31 = .ok (.iconst 5, 1) := dk_8 (dk_at dksX5_gainOf_1 9 rfl rfl)
theorem dX5_gainOf_32 : decode cX5_gainOf 32 = .ok (.iconst 1, 1) := dk_4 (dk_at dksX5_gainOf_1 10 rfl rfl)
theorem dX5_gainOf_33 : decode cX5_gainOf 33 = .ok (.aload_n 0, 1) := dk_42 (dk_at dksX5_gainOf_1 11 rfl rfl)
theorem dX5_gainOf_34 : decode cX5_gainOf 34 = .ok (.iload_n 1, 1) := dk_27 (dk_at dksX5_gainOf_1 12 rfl rfl)
theorem dX5_gainOf_35 : decode cX5_gainOf 35 = .ok (.iconst 5, 1) := dk_8 (dk_at dksX5_gainOf_1 13 rfl rfl)
theorem dX5_gainOf_36 : decode cX5_gainOf 36 = .ok (.invokevirtual 166, 3) := dk_182 0 166 (dk_at dksX5_gainOf_1 14 rfl rfl)
theorem dX5_gainOf_39 : decode cX5_gainOf 39 = .ok (.isub, 1) := dk_100 (dk_at dksX5_gainOf_1 17 rfl rfl)
theorem dX5_gainOf_40 : decode cX5_gainOf 40 = .ok (.invokevirtual 274, 3) := dk_182 1 18 (dk_at dksX5_gainOf_1 18 rfl rfl)
theorem dX5_gainOf_43 : decode cX5_gainOf 43 = .ok (.iload_n 2, 1) := dk_28 (dk_at dksX5_gainOf_1 21 rfl rfl)
theorem dX5_gainOf_44 : decode cX5_gainOf 44 = .ok (.aload_n 0, 1) := dk_42 (dk_at dksX5_gainOf_1 22 rfl rfl)
theorem dX5_gainOf_45 : decode cX5_gainOf 45 = .ok (.getfield 32, 3) := dk_180 0 32 (dk_at dksX5_gainOf_2 0 rfl rfl)
theorem dX5_gainOf_48 : decode cX5_gainOf 48 = .ok (.iload_n 1, 1) := dk_27 (dk_at dksX5_gainOf_2 3 rfl rfl)
theorem dX5_gainOf_49 : decode cX5_gainOf 49 = .ok (.iaload, 1) := dk_46 (dk_at dksX5_gainOf_2 4 rfl rfl)
theorem dX5_gainOf_50 : decode cX5_gainOf 50 = .ok (.isub, 1) := dk_100 (dk_at dksX5_gainOf_2 5 rfl rfl)
theorem dX5_gainOf_51 : decode cX5_gainOf 51 = .ok (.ireturn, 1) := dk_172 (dk_at dksX5_gainOf_2 6 rfl rfl)
abbrev cX5_becomesOf : ByteArray := prog_14_method_30_code
def yX5_becomesOf : MethodName := ⟨RX5, "becomesOf", "(III)V"⟩
def dkwX5_becomesOf_0 : List UInt8 := [42, 180, 0, 13, 16, 6, 16, 6, 27, 104, 96, 28, 96, 29, 79, 177]
abbrev dktX5_becomesOf_0 : List UInt8 := dkwX5_becomesOf_0 ++ []
theorem dksX5_becomesOf_0 : cX5_becomesOf.data.toList.drop 0 = dktX5_becomesOf_0 := by decide +kernel
theorem dX5_becomesOf_0 : decode cX5_becomesOf 0 = .ok (.aload_n 0, 1) := dk_42 (dk_at dksX5_becomesOf_0 0 rfl rfl)
theorem dX5_becomesOf_1 : decode cX5_becomesOf 1 = .ok (.getfield 13, 3) := dk_180 0 13 (dk_at dksX5_becomesOf_0 1 rfl rfl)
theorem dX5_becomesOf_4 : decode cX5_becomesOf 4 = .ok (.bipush 6, 2) := dk_16 6 (dk_at dksX5_becomesOf_0 4 rfl rfl)
theorem dX5_becomesOf_6 : decode cX5_becomesOf 6 = .ok (.bipush 6, 2) := dk_16 6 (dk_at dksX5_becomesOf_0 6 rfl rfl)
theorem dX5_becomesOf_8 : decode cX5_becomesOf 8 = .ok (.iload_n 1, 1) := dk_27 (dk_at dksX5_becomesOf_0 8 rfl rfl)
theorem dX5_becomesOf_9 : decode cX5_becomesOf 9 = .ok (.imul, 1) := dk_104 (dk_at dksX5_becomesOf_0 9 rfl rfl)
theorem dX5_becomesOf_10 : decode cX5_becomesOf 10 = .ok (.iadd, 1) := dk_96 (dk_at dksX5_becomesOf_0 10 rfl rfl)
theorem dX5_becomesOf_11 : decode cX5_becomesOf 11 = .ok (.iload_n 2, 1) := dk_28 (dk_at dksX5_becomesOf_0 11 rfl rfl)
theorem dX5_becomesOf_12 : decode cX5_becomesOf 12 = .ok (.iadd, 1) := dk_96 (dk_at dksX5_becomesOf_0 12 rfl rfl)
theorem dX5_becomesOf_13 : decode cX5_becomesOf 13 = .ok (.iload_n 3, 1) := dk_29 (dk_at dksX5_becomesOf_0 13 rfl rfl)
theorem dX5_becomesOf_14 : decode cX5_becomesOf 14 = .ok (.iastore, 1) := dk_79 (dk_at dksX5_becomesOf_0 14 rfl rfl)
theorem dX5_becomesOf_15 : decode cX5_becomesOf 15 = .ok (.return_, 1) := dk_177 (dk_at dksX5_becomesOf_0 15 rfl rfl)
abbrev cX5_calm : ByteArray := prog_14_method_72_code
def yX5_calm : MethodName := ⟨RX5, "calm", "()I"⟩
def dkwX5_calm_1 : List UInt8 := [182, 1, 25, 184, 0, 184, 28, 120, 128, 60, 132, 2, 1, 167, 255, 225, 27, 172]
abbrev dktX5_calm_1 : List UInt8 := dkwX5_calm_1 ++ []
def dkwX5_calm_0 : List UInt8 := [3, 60, 3, 61, 28, 8, 162, 0, 32, 42, 182, 0, 228, 42, 180, 0, 13, 6, 28, 79, 27, 42]
abbrev dktX5_calm_0 : List UInt8 := dkwX5_calm_0 ++ dktX5_calm_1
theorem dksX5_calm_0 : cX5_calm.data.toList.drop 0 = dktX5_calm_0 := by decide +kernel
theorem dksX5_calm_1 : cX5_calm.data.toList.drop 22 = dktX5_calm_1 := dk_seg dksX5_calm_0 22 rfl rfl
theorem dX5_calm_0 : decode cX5_calm 0 = .ok (.iconst 0, 1) := dk_3 (dk_at dksX5_calm_0 0 rfl rfl)
theorem dX5_calm_1 : decode cX5_calm 1 = .ok (.istore_n 1, 1) := dk_60 (dk_at dksX5_calm_0 1 rfl rfl)
theorem dX5_calm_2 : decode cX5_calm 2 = .ok (.iconst 0, 1) := dk_3 (dk_at dksX5_calm_0 2 rfl rfl)
theorem dX5_calm_3 : decode cX5_calm 3 = .ok (.istore_n 2, 1) := dk_61 (dk_at dksX5_calm_0 3 rfl rfl)
theorem dX5_calm_4 : decode cX5_calm 4 = .ok (.iload_n 2, 1) := dk_28 (dk_at dksX5_calm_0 4 rfl rfl)
theorem dX5_calm_5 : decode cX5_calm 5 = .ok (.iconst 5, 1) := dk_8 (dk_at dksX5_calm_0 5 rfl rfl)
theorem dX5_calm_6 : decode cX5_calm 6 = .ok (.if_icmp .ge 32, 3) := dk_162 0 32 (dk_at dksX5_calm_0 6 rfl rfl)
theorem dX5_calm_9 : decode cX5_calm 9 = .ok (.aload_n 0, 1) := dk_42 (dk_at dksX5_calm_0 9 rfl rfl)
theorem dX5_calm_10 : decode cX5_calm 10 = .ok (.invokevirtual 228, 3) := dk_182 0 228 (dk_at dksX5_calm_0 10 rfl rfl)
theorem dX5_calm_13 : decode cX5_calm 13 = .ok (.aload_n 0, 1) := dk_42 (dk_at dksX5_calm_0 13 rfl rfl)
theorem dX5_calm_14 : decode cX5_calm 14 = .ok (.getfield 13, 3) := dk_180 0 13 (dk_at dksX5_calm_0 14 rfl rfl)
theorem dX5_calm_17 : decode cX5_calm 17 = .ok (.iconst 3, 1) := dk_6 (dk_at dksX5_calm_0 17 rfl rfl)
theorem dX5_calm_18 : decode cX5_calm 18 = .ok (.iload_n 2, 1) := dk_28 (dk_at dksX5_calm_0 18 rfl rfl)
theorem dX5_calm_19 : decode cX5_calm 19 = .ok (.iastore, 1) := dk_79 (dk_at dksX5_calm_0 19 rfl rfl)
theorem dX5_calm_20 : decode cX5_calm 20 = .ok (.iload_n 1, 1) := dk_27 (dk_at dksX5_calm_0 20 rfl rfl)
theorem dX5_calm_21 : decode cX5_calm 21 = .ok (.aload_n 0, 1) := dk_42 (dk_at dksX5_calm_0 21 rfl rfl)
theorem dX5_calm_22 : decode cX5_calm 22 = .ok (.invokevirtual 281, 3) := dk_182 1 25 (dk_at dksX5_calm_1 0 rfl rfl)
theorem dX5_calm_25 : decode cX5_calm 25 = .ok (.invokestatic 184, 3) := dk_184 0 184 (dk_at dksX5_calm_1 3 rfl rfl)
theorem dX5_calm_28 : decode cX5_calm 28 = .ok (.iload_n 2, 1) := dk_28 (dk_at dksX5_calm_1 6 rfl rfl)
theorem dX5_calm_29 : decode cX5_calm 29 = .ok (.ishl, 1) := dk_120 (dk_at dksX5_calm_1 7 rfl rfl)
theorem dX5_calm_30 : decode cX5_calm 30 = .ok (.ior, 1) := dk_128 (dk_at dksX5_calm_1 8 rfl rfl)
theorem dX5_calm_31 : decode cX5_calm 31 = .ok (.istore_n 1, 1) := dk_60 (dk_at dksX5_calm_1 9 rfl rfl)
theorem dX5_calm_32 : decode cX5_calm 32 = .ok (.iinc 2 1, 3) := dk_132 2 1 (dk_at dksX5_calm_1 10 rfl rfl)
theorem dX5_calm_35 : decode cX5_calm 35 = .ok (.goto (-31), 3) := dk_167 255 225 (dk_at dksX5_calm_1 13 rfl rfl)
theorem dX5_calm_38 : decode cX5_calm 38 = .ok (.iload_n 1, 1) := dk_27 (dk_at dksX5_calm_1 16 rfl rfl)
theorem dX5_calm_39 : decode cX5_calm 39 = .ok (.ireturn, 1) := dk_172 (dk_at dksX5_calm_1 17 rfl rfl)
abbrev cX5_isCalm : ByteArray := prog_14_method_71_code
def yX5_isCalm : MethodName := ⟨RX5, "isCalm", "()Z"⟩
def dkwX5_isCalm_1 : List UInt8 := [4, 167, 0, 4, 3, 60, 132, 2, 1, 167, 255, 227, 27, 172]
abbrev dktX5_isCalm_1 : List UInt8 := dkwX5_isCalm_1 ++ []
def dkwX5_isCalm_0 : List UInt8 := [4, 60, 3, 61, 28, 42, 180, 0, 69, 162, 0, 27, 27, 153, 0, 15, 42, 28, 182, 1, 22, 157, 0, 7]
abbrev dktX5_isCalm_0 : List UInt8 := dkwX5_isCalm_0 ++ dktX5_isCalm_1
theorem dksX5_isCalm_0 : cX5_isCalm.data.toList.drop 0 = dktX5_isCalm_0 := by decide +kernel
theorem dksX5_isCalm_1 : cX5_isCalm.data.toList.drop 24 = dktX5_isCalm_1 := dk_seg dksX5_isCalm_0 24 rfl rfl
theorem dX5_isCalm_0 : decode cX5_isCalm 0 = .ok (.iconst 1, 1) := dk_4 (dk_at dksX5_isCalm_0 0 rfl rfl)
theorem dX5_isCalm_1 : decode cX5_isCalm 1 = .ok (.istore_n 1, 1) := dk_60 (dk_at dksX5_isCalm_0 1 rfl rfl)
theorem dX5_isCalm_2 : decode cX5_isCalm 2 = .ok (.iconst 0, 1) := dk_3 (dk_at dksX5_isCalm_0 2 rfl rfl)
theorem dX5_isCalm_3 : decode cX5_isCalm 3 = .ok (.istore_n 2, 1) := dk_61 (dk_at dksX5_isCalm_0 3 rfl rfl)
theorem dX5_isCalm_4 : decode cX5_isCalm 4 = .ok (.iload_n 2, 1) := dk_28 (dk_at dksX5_isCalm_0 4 rfl rfl)
theorem dX5_isCalm_5 : decode cX5_isCalm 5 = .ok (.aload_n 0, 1) := dk_42 (dk_at dksX5_isCalm_0 5 rfl rfl)
theorem dX5_isCalm_6 : decode cX5_isCalm 6 = .ok (.getfield 69, 3) := dk_180 0 69 (dk_at dksX5_isCalm_0 6 rfl rfl)
theorem dX5_isCalm_9 : decode cX5_isCalm 9 = .ok (.if_icmp .ge 27, 3) := dk_162 0 27 (dk_at dksX5_isCalm_0 9 rfl rfl)
theorem dX5_isCalm_12 : decode cX5_isCalm 12 = .ok (.iload_n 1, 1) := dk_27 (dk_at dksX5_isCalm_0 12 rfl rfl)
theorem dX5_isCalm_13 : decode cX5_isCalm 13 = .ok (.ifCond .eq 15, 3) := dk_153 0 15 (dk_at dksX5_isCalm_0 13 rfl rfl)
theorem dX5_isCalm_16 : decode cX5_isCalm 16 = .ok (.aload_n 0, 1) := dk_42 (dk_at dksX5_isCalm_0 16 rfl rfl)
theorem dX5_isCalm_17 : decode cX5_isCalm 17 = .ok (.iload_n 2, 1) := dk_28 (dk_at dksX5_isCalm_0 17 rfl rfl)
theorem dX5_isCalm_18 : decode cX5_isCalm 18 = .ok (.invokevirtual 278, 3) := dk_182 1 22 (dk_at dksX5_isCalm_0 18 rfl rfl)
theorem dX5_isCalm_21 : decode cX5_isCalm 21 = .ok (.ifCond .gt 7, 3) := dk_157 0 7 (dk_at dksX5_isCalm_0 21 rfl rfl)
theorem dX5_isCalm_24 : decode cX5_isCalm 24 = .ok (.iconst 1, 1) := dk_4 (dk_at dksX5_isCalm_1 0 rfl rfl)
theorem dX5_isCalm_25 : decode cX5_isCalm 25 = .ok (.goto 4, 3) := dk_167 0 4 (dk_at dksX5_isCalm_1 1 rfl rfl)
theorem dX5_isCalm_28 : decode cX5_isCalm 28 = .ok (.iconst 0, 1) := dk_3 (dk_at dksX5_isCalm_1 4 rfl rfl)
theorem dX5_isCalm_29 : decode cX5_isCalm 29 = .ok (.istore_n 1, 1) := dk_60 (dk_at dksX5_isCalm_1 5 rfl rfl)
theorem dX5_isCalm_30 : decode cX5_isCalm 30 = .ok (.iinc 2 1, 3) := dk_132 2 1 (dk_at dksX5_isCalm_1 6 rfl rfl)
theorem dX5_isCalm_33 : decode cX5_isCalm 33 = .ok (.goto (-29), 3) := dk_167 255 227 (dk_at dksX5_isCalm_1 9 rfl rfl)
theorem dX5_isCalm_36 : decode cX5_isCalm 36 = .ok (.iload_n 1, 1) := dk_27 (dk_at dksX5_isCalm_1 12 rfl rfl)
theorem dX5_isCalm_37 : decode cX5_isCalm 37 = .ok (.ireturn, 1) := dk_172 (dk_at dksX5_isCalm_1 13 rfl rfl)
abbrev cX5_rests : ByteArray := prog_14_method_74_code
def yX5_rests : MethodName := ⟨RX5, "rests", "(I)I"⟩
def dkwX5_rests_3 : List UInt8 := [167, 0, 4, 29, 172]
abbrev dktX5_rests_3 : List UInt8 := dkwX5_rests_3 ++ []
def dkwX5_rests_2 : List UInt8 := [154, 0, 8, 21, 4, 167, 0, 4, 29, 62, 132, 2, 1, 132, 4, 1, 167, 255, 211, 27, 154, 0, 7, 28]
abbrev dktX5_rests_2 : List UInt8 := dkwX5_rests_2 ++ dktX5_rests_3
def dkwX5_rests_1 : List UInt8 := [120, 162, 0, 40, 42, 182, 0, 228, 42, 21, 4, 182, 1, 32, 42, 182, 1, 25, 153, 0, 17, 28]
abbrev dktX5_rests_1 : List UInt8 := dkwX5_rests_1 ++ dktX5_rests_2
def dkwX5_rests_0 : List UInt8 := [27, 184, 1, 29, 154, 0, 5, 2, 172, 3, 61, 16, 252, 62, 3, 54, 4, 21, 4, 4, 42, 180, 0, 69]
abbrev dktX5_rests_0 : List UInt8 := dkwX5_rests_0 ++ dktX5_rests_1
theorem dksX5_rests_0 : cX5_rests.data.toList.drop 0 = dktX5_rests_0 := by decide +kernel
theorem dksX5_rests_1 : cX5_rests.data.toList.drop 24 = dktX5_rests_1 := dk_seg dksX5_rests_0 24 rfl rfl
theorem dksX5_rests_2 : cX5_rests.data.toList.drop 46 = dktX5_rests_2 := dk_seg dksX5_rests_1 22 rfl rfl
theorem dksX5_rests_3 : cX5_rests.data.toList.drop 70 = dktX5_rests_3 := dk_seg dksX5_rests_2 24 rfl rfl
theorem dX5_rests_0 : decode cX5_rests 0 = .ok (.iload_n 1, 1) := dk_27 (dk_at dksX5_rests_0 0 rfl rfl)
theorem dX5_rests_1 : decode cX5_rests 1 = .ok (.invokestatic 285, 3) := dk_184 1 29 (dk_at dksX5_rests_0 1 rfl rfl)
theorem dX5_rests_4 : decode cX5_rests 4 = .ok (.ifCond .ne 5, 3) := dk_154 0 5 (dk_at dksX5_rests_0 4 rfl rfl)
theorem dX5_rests_7 : decode cX5_rests 7 = .ok (.iconst (-1), 1) := dk_2 (dk_at dksX5_rests_0 7 rfl rfl)
theorem dX5_rests_8 : decode cX5_rests 8 = .ok (.ireturn, 1) := dk_172 (dk_at dksX5_rests_0 8 rfl rfl)
theorem dX5_rests_9 : decode cX5_rests 9 = .ok (.iconst 0, 1) := dk_3 (dk_at dksX5_rests_0 9 rfl rfl)
theorem dX5_rests_10 : decode cX5_rests 10 = .ok (.istore_n 2, 1) := dk_61 (dk_at dksX5_rests_0 10 rfl rfl)
theorem dX5_rests_11 : decode cX5_rests 11 = .ok (.bipush (-4), 2) := dk_16 252 (dk_at dksX5_rests_0 11 rfl rfl)
theorem dX5_rests_13 : decode cX5_rests 13 = .ok (.istore_n 3, 1) := dk_62 (dk_at dksX5_rests_0 13 rfl rfl)
theorem dX5_rests_14 : decode cX5_rests 14 = .ok (.iconst 0, 1) := dk_3 (dk_at dksX5_rests_0 14 rfl rfl)
theorem dX5_rests_15 : decode cX5_rests 15 = .ok (.istore 4, 2) := dk_54 4 (dk_at dksX5_rests_0 15 rfl rfl)
theorem dX5_rests_17 : decode cX5_rests 17 = .ok (.iload 4, 2) := dk_21 4 (dk_at dksX5_rests_0 17 rfl rfl)
theorem dX5_rests_19 : decode cX5_rests 19 = .ok (.iconst 1, 1) := dk_4 (dk_at dksX5_rests_0 19 rfl rfl)
theorem dX5_rests_20 : decode cX5_rests 20 = .ok (.aload_n 0, 1) := dk_42 (dk_at dksX5_rests_0 20 rfl rfl)
theorem dX5_rests_21 : decode cX5_rests 21 = .ok (.getfield 69, 3) := dk_180 0 69 (dk_at dksX5_rests_0 21 rfl rfl)
theorem dX5_rests_24 : decode cX5_rests 24 = .ok (.ishl, 1) := dk_120 (dk_at dksX5_rests_1 0 rfl rfl)
theorem dX5_rests_25 : decode cX5_rests 25 = .ok (.if_icmp .ge 40, 3) := dk_162 0 40 (dk_at dksX5_rests_1 1 rfl rfl)
theorem dX5_rests_28 : decode cX5_rests 28 = .ok (.aload_n 0, 1) := dk_42 (dk_at dksX5_rests_1 4 rfl rfl)
theorem dX5_rests_29 : decode cX5_rests 29 = .ok (.invokevirtual 228, 3) := dk_182 0 228 (dk_at dksX5_rests_1 5 rfl rfl)
theorem dX5_rests_32 : decode cX5_rests 32 = .ok (.aload_n 0, 1) := dk_42 (dk_at dksX5_rests_1 8 rfl rfl)
theorem dX5_rests_33 : decode cX5_rests 33 = .ok (.iload 4, 2) := dk_21 4 (dk_at dksX5_rests_1 9 rfl rfl)
theorem dX5_rests_35 : decode cX5_rests 35 = .ok (.invokevirtual 288, 3) := dk_182 1 32 (dk_at dksX5_rests_1 11 rfl rfl)
theorem dX5_rests_38 : decode cX5_rests 38 = .ok (.aload_n 0, 1) := dk_42 (dk_at dksX5_rests_1 14 rfl rfl)
theorem dX5_rests_39 : decode cX5_rests 39 = .ok (.invokevirtual 281, 3) := dk_182 1 25 (dk_at dksX5_rests_1 15 rfl rfl)
theorem dX5_rests_42 : decode cX5_rests 42 = .ok (.ifCond .eq 17, 3) := dk_153 0 17 (dk_at dksX5_rests_1 18 rfl rfl)
theorem dX5_rests_45 : decode cX5_rests 45 = .ok (.iload_n 2, 1) := dk_28 (dk_at dksX5_rests_1 21 rfl rfl)
theorem dX5_rests_46 : decode cX5_rests 46 = .ok (.ifCond .ne 8, 3) := dk_154 0 8 (dk_at dksX5_rests_2 0 rfl rfl)
theorem dX5_rests_49 : decode cX5_rests 49 = .ok (.iload 4, 2) := dk_21 4 (dk_at dksX5_rests_2 3 rfl rfl)
theorem dX5_rests_51 : decode cX5_rests 51 = .ok (.goto 4, 3) := dk_167 0 4 (dk_at dksX5_rests_2 5 rfl rfl)
theorem dX5_rests_54 : decode cX5_rests 54 = .ok (.iload_n 3, 1) := dk_29 (dk_at dksX5_rests_2 8 rfl rfl)
theorem dX5_rests_55 : decode cX5_rests 55 = .ok (.istore_n 3, 1) := dk_62 (dk_at dksX5_rests_2 9 rfl rfl)
theorem dX5_rests_56 : decode cX5_rests 56 = .ok (.iinc 2 1, 3) := dk_132 2 1 (dk_at dksX5_rests_2 10 rfl rfl)
theorem dX5_rests_59 : decode cX5_rests 59 = .ok (.iinc 4 1, 3) := dk_132 4 1 (dk_at dksX5_rests_2 13 rfl rfl)
theorem dX5_rests_62 : decode cX5_rests 62 = .ok (.goto (-45), 3) := dk_167 255 211 (dk_at dksX5_rests_2 16 rfl rfl)
theorem dX5_rests_65 : decode cX5_rests 65 = .ok (.iload_n 1, 1) := dk_27 (dk_at dksX5_rests_2 19 rfl rfl)
theorem dX5_rests_66 : decode cX5_rests 66 = .ok (.ifCond .ne 7, 3) := dk_154 0 7 (dk_at dksX5_rests_2 20 rfl rfl)
theorem dX5_rests_69 : decode cX5_rests 69 = .ok (.iload_n 2, 1) := dk_28 (dk_at dksX5_rests_2 23 rfl rfl)
theorem dX5_rests_70 : decode cX5_rests 70 = .ok (.goto 4, 3) := dk_167 0 4 (dk_at dksX5_rests_3 0 rfl rfl)
theorem dX5_rests_73 : decode cX5_rests 73 = .ok (.iload_n 3, 1) := dk_29 (dk_at dksX5_rests_3 3 rfl rfl)
theorem dX5_rests_74 : decode cX5_rests 74 = .ok (.ireturn, 1) := dk_172 (dk_at dksX5_rests_3 4 rfl rfl)
abbrev cX5_isPart : ByteArray := prog_14_method_27_code
def yX5_isPart : MethodName := ⟨RX5, "isPart", "(I)Z"⟩
def dkwX5_isPart_0 : List UInt8 := [26, 133, 9, 10, 184, 0, 74, 172]
abbrev dktX5_isPart_0 : List UInt8 := dkwX5_isPart_0 ++ []
theorem dksX5_isPart_0 : cX5_isPart.data.toList.drop 0 = dktX5_isPart_0 := by decide +kernel
theorem dX5_isPart_0 : decode cX5_isPart 0 = .ok (.iload_n 0, 1) := dk_26 (dk_at dksX5_isPart_0 0 rfl rfl)
theorem dX5_isPart_1 : decode cX5_isPart 1 = .ok (.i2l, 1) := dk_133 (dk_at dksX5_isPart_0 1 rfl rfl)
theorem dX5_isPart_2 : decode cX5_isPart 2 = .ok (.lconst 0, 1) := dk_9 (dk_at dksX5_isPart_0 2 rfl rfl)
theorem dX5_isPart_3 : decode cX5_isPart 3 = .ok (.lconst 1, 1) := dk_10 (dk_at dksX5_isPart_0 3 rfl rfl)
theorem dX5_isPart_4 : decode cX5_isPart 4 = .ok (.invokestatic 74, 3) := dk_184 0 74 (dk_at dksX5_isPart_0 4 rfl rfl)
theorem dX5_isPart_7 : decode cX5_isPart 7 = .ok (.ireturn, 1) := dk_172 (dk_at dksX5_isPart_0 7 rfl rfl)
abbrev cX5_liesBy : ByteArray := prog_14_method_73_code
def yX5_liesBy : MethodName := ⟨RX5, "liesBy", "(I)V"⟩
def dkwX5_liesBy_1 : List UInt8 := [167, 255, 234, 177]
abbrev dktX5_liesBy_1 : List UInt8 := dkwX5_liesBy_1 ++ []
def dkwX5_liesBy_0 : List UInt8 := [3, 61, 28, 42, 180, 0, 69, 162, 0, 20, 42, 28, 8, 27, 28, 122, 4, 126, 182, 1, 18, 132, 2, 1]
abbrev dktX5_liesBy_0 : List UInt8 := dkwX5_liesBy_0 ++ dktX5_liesBy_1
theorem dksX5_liesBy_0 : cX5_liesBy.data.toList.drop 0 = dktX5_liesBy_0 := by decide +kernel
theorem dksX5_liesBy_1 : cX5_liesBy.data.toList.drop 24 = dktX5_liesBy_1 := dk_seg dksX5_liesBy_0 24 rfl rfl
theorem dX5_liesBy_0 : decode cX5_liesBy 0 = .ok (.iconst 0, 1) := dk_3 (dk_at dksX5_liesBy_0 0 rfl rfl)
theorem dX5_liesBy_1 : decode cX5_liesBy 1 = .ok (.istore_n 2, 1) := dk_61 (dk_at dksX5_liesBy_0 1 rfl rfl)
theorem dX5_liesBy_2 : decode cX5_liesBy 2 = .ok (.iload_n 2, 1) := dk_28 (dk_at dksX5_liesBy_0 2 rfl rfl)
theorem dX5_liesBy_3 : decode cX5_liesBy 3 = .ok (.aload_n 0, 1) := dk_42 (dk_at dksX5_liesBy_0 3 rfl rfl)
theorem dX5_liesBy_4 : decode cX5_liesBy 4 = .ok (.getfield 69, 3) := dk_180 0 69 (dk_at dksX5_liesBy_0 4 rfl rfl)
theorem dX5_liesBy_7 : decode cX5_liesBy 7 = .ok (.if_icmp .ge 20, 3) := dk_162 0 20 (dk_at dksX5_liesBy_0 7 rfl rfl)
theorem dX5_liesBy_10 : decode cX5_liesBy 10 = .ok (.aload_n 0, 1) := dk_42 (dk_at dksX5_liesBy_0 10 rfl rfl)
theorem dX5_liesBy_11 : decode cX5_liesBy 11 = .ok (.iload_n 2, 1) := dk_28 (dk_at dksX5_liesBy_0 11 rfl rfl)
theorem dX5_liesBy_12 : decode cX5_liesBy 12 = .ok (.iconst 5, 1) := dk_8 (dk_at dksX5_liesBy_0 12 rfl rfl)
theorem dX5_liesBy_13 : decode cX5_liesBy 13 = .ok (.iload_n 1, 1) := dk_27 (dk_at dksX5_liesBy_0 13 rfl rfl)
theorem dX5_liesBy_14 : decode cX5_liesBy 14 = .ok (.iload_n 2, 1) := dk_28 (dk_at dksX5_liesBy_0 14 rfl rfl)
theorem dX5_liesBy_15 : decode cX5_liesBy 15 = .ok (.ishr, 1) := dk_122 (dk_at dksX5_liesBy_0 15 rfl rfl)
theorem dX5_liesBy_16 : decode cX5_liesBy 16 = .ok (.iconst 1, 1) := dk_4 (dk_at dksX5_liesBy_0 16 rfl rfl)
theorem dX5_liesBy_17 : decode cX5_liesBy 17 = .ok (.iand, 1) := dk_126 (dk_at dksX5_liesBy_0 17 rfl rfl)
theorem dX5_liesBy_18 : decode cX5_liesBy 18 = .ok (.invokevirtual 274, 3) := dk_182 1 18 (dk_at dksX5_liesBy_0 18 rfl rfl)
theorem dX5_liesBy_21 : decode cX5_liesBy 21 = .ok (.iinc 2 1, 3) := dk_132 2 1 (dk_at dksX5_liesBy_0 21 rfl rfl)
theorem dX5_liesBy_24 : decode cX5_liesBy 24 = .ok (.goto (-22), 3) := dk_167 255 234 (dk_at dksX5_liesBy_1 0 rfl rfl)
theorem dX5_liesBy_27 : decode cX5_liesBy 27 = .ok (.return_, 1) := dk_177 (dk_at dksX5_liesBy_1 3 rfl rfl)
abbrev cX5_boy : ByteArray := prog_14_method_75_code
def yX5_boy : MethodName := ⟨RX5, "boy", "(II)I"⟩
def dkwX5_boy_2 : List UInt8 := [182, 1, 35, 42, 28, 182, 1, 35, 162, 0, 5, 29, 172, 132, 3, 1, 167, 255, 217, 16, 252, 172]
abbrev dktX5_boy_2 : List UInt8 := dkwX5_boy_2 ++ []
def dkwX5_boy_1 : List UInt8 := [62, 29, 16, 9, 163, 0, 39, 42, 182, 0, 228, 42, 27, 7, 29, 182, 1, 18, 42, 182, 0, 231, 42, 27]
abbrev dktX5_boy_1 : List UInt8 := dkwX5_boy_1 ++ dktX5_boy_2
def dkwX5_boy_0 : List UInt8 := [42, 27, 182, 0, 237, 153, 0, 16, 42, 28, 182, 0, 237, 153, 0, 8, 27, 28, 160, 0, 5, 2, 172, 3]
abbrev dktX5_boy_0 : List UInt8 := dkwX5_boy_0 ++ dktX5_boy_1
theorem dksX5_boy_0 : cX5_boy.data.toList.drop 0 = dktX5_boy_0 := by decide +kernel
theorem dksX5_boy_1 : cX5_boy.data.toList.drop 24 = dktX5_boy_1 := dk_seg dksX5_boy_0 24 rfl rfl
theorem dksX5_boy_2 : cX5_boy.data.toList.drop 48 = dktX5_boy_2 := dk_seg dksX5_boy_1 24 rfl rfl
theorem dX5_boy_0 : decode cX5_boy 0 = .ok (.aload_n 0, 1) := dk_42 (dk_at dksX5_boy_0 0 rfl rfl)
theorem dX5_boy_1 : decode cX5_boy 1 = .ok (.iload_n 1, 1) := dk_27 (dk_at dksX5_boy_0 1 rfl rfl)
theorem dX5_boy_2 : decode cX5_boy 2 = .ok (.invokevirtual 237, 3) := dk_182 0 237 (dk_at dksX5_boy_0 2 rfl rfl)
theorem dX5_boy_5 : decode cX5_boy 5 = .ok (.ifCond .eq 16, 3) := dk_153 0 16 (dk_at dksX5_boy_0 5 rfl rfl)
theorem dX5_boy_8 : decode cX5_boy 8 = .ok (.aload_n 0, 1) := dk_42 (dk_at dksX5_boy_0 8 rfl rfl)
theorem dX5_boy_9 : decode cX5_boy 9 = .ok (.iload_n 2, 1) := dk_28 (dk_at dksX5_boy_0 9 rfl rfl)
theorem dX5_boy_10 : decode cX5_boy 10 = .ok (.invokevirtual 237, 3) := dk_182 0 237 (dk_at dksX5_boy_0 10 rfl rfl)
theorem dX5_boy_13 : decode cX5_boy 13 = .ok (.ifCond .eq 8, 3) := dk_153 0 8 (dk_at dksX5_boy_0 13 rfl rfl)
theorem dX5_boy_16 : decode cX5_boy 16 = .ok (.iload_n 1, 1) := dk_27 (dk_at dksX5_boy_0 16 rfl rfl)
theorem dX5_boy_17 : decode cX5_boy 17 = .ok (.iload_n 2, 1) := dk_28 (dk_at dksX5_boy_0 17 rfl rfl)
theorem dX5_boy_18 : decode cX5_boy 18 = .ok (.if_icmp .ne 5, 3) := dk_160 0 5 (dk_at dksX5_boy_0 18 rfl rfl)
theorem dX5_boy_21 : decode cX5_boy 21 = .ok (.iconst (-1), 1) := dk_2 (dk_at dksX5_boy_0 21 rfl rfl)
theorem dX5_boy_22 : decode cX5_boy 22 = .ok (.ireturn, 1) := dk_172 (dk_at dksX5_boy_0 22 rfl rfl)
theorem dX5_boy_23 : decode cX5_boy 23 = .ok (.iconst 0, 1) := dk_3 (dk_at dksX5_boy_0 23 rfl rfl)
theorem dX5_boy_24 : decode cX5_boy 24 = .ok (.istore_n 3, 1) := dk_62 (dk_at dksX5_boy_1 0 rfl rfl)
theorem dX5_boy_25 : decode cX5_boy 25 = .ok (.iload_n 3, 1) := dk_29 (dk_at dksX5_boy_1 1 rfl rfl)
theorem dX5_boy_26 : decode cX5_boy 26 = .ok (.bipush 9, 2) := dk_16 9 (dk_at dksX5_boy_1 2 rfl rfl)
theorem dX5_boy_28 : decode cX5_boy 28 = .ok (.if_icmp .gt 39, 3) := dk_163 0 39 (dk_at dksX5_boy_1 4 rfl rfl)
theorem dX5_boy_31 : decode cX5_boy 31 = .ok (.aload_n 0, 1) := dk_42 (dk_at dksX5_boy_1 7 rfl rfl)
theorem dX5_boy_32 : decode cX5_boy 32 = .ok (.invokevirtual 228, 3) := dk_182 0 228 (dk_at dksX5_boy_1 8 rfl rfl)
theorem dX5_boy_35 : decode cX5_boy 35 = .ok (.aload_n 0, 1) := dk_42 (dk_at dksX5_boy_1 11 rfl rfl)
theorem dX5_boy_36 : decode cX5_boy 36 = .ok (.iload_n 1, 1) := dk_27 (dk_at dksX5_boy_1 12 rfl rfl)
theorem dX5_boy_37 : decode cX5_boy 37 = .ok (.iconst 4, 1) := dk_7 (dk_at dksX5_boy_1 13 rfl rfl)
theorem dX5_boy_38 : decode cX5_boy 38 = .ok (.iload_n 3, 1) := dk_29 (dk_at dksX5_boy_1 14 rfl rfl)
theorem dX5_boy_39 : decode cX5_boy 39 = .ok (.invokevirtual 274, 3) := dk_182 1 18 (dk_at dksX5_boy_1 15 rfl rfl)
theorem dX5_boy_42 : decode cX5_boy 42 = .ok (.aload_n 0, 1) := dk_42 (dk_at dksX5_boy_1 18 rfl rfl)
theorem dX5_boy_43 : decode cX5_boy 43 = .ok (.invokevirtual 231, 3) := dk_182 0 231 (dk_at dksX5_boy_1 19 rfl rfl)
theorem dX5_boy_46 : decode cX5_boy 46 = .ok (.aload_n 0, 1) := dk_42 (dk_at dksX5_boy_1 22 rfl rfl)
theorem dX5_boy_47 : decode cX5_boy 47 = .ok (.iload_n 1, 1) := dk_27 (dk_at dksX5_boy_1 23 rfl rfl)
theorem dX5_boy_48 : decode cX5_boy 48 = .ok (.invokevirtual 291, 3) := dk_182 1 35 (dk_at dksX5_boy_2 0 rfl rfl)
theorem dX5_boy_51 : decode cX5_boy 51 = .ok (.aload_n 0, 1) := dk_42 (dk_at dksX5_boy_2 3 rfl rfl)
theorem dX5_boy_52 : decode cX5_boy 52 = .ok (.iload_n 2, 1) := dk_28 (dk_at dksX5_boy_2 4 rfl rfl)
theorem dX5_boy_53 : decode cX5_boy 53 = .ok (.invokevirtual 291, 3) := dk_182 1 35 (dk_at dksX5_boy_2 5 rfl rfl)
theorem dX5_boy_56 : decode cX5_boy 56 = .ok (.if_icmp .ge 5, 3) := dk_162 0 5 (dk_at dksX5_boy_2 8 rfl rfl)
theorem dX5_boy_59 : decode cX5_boy 59 = .ok (.iload_n 3, 1) := dk_29 (dk_at dksX5_boy_2 11 rfl rfl)
theorem dX5_boy_60 : decode cX5_boy 60 = .ok (.ireturn, 1) := dk_172 (dk_at dksX5_boy_2 12 rfl rfl)
theorem dX5_boy_61 : decode cX5_boy 61 = .ok (.iinc 3 1, 3) := dk_132 3 1 (dk_at dksX5_boy_2 13 rfl rfl)
theorem dX5_boy_64 : decode cX5_boy 64 = .ok (.goto (-39), 3) := dk_167 255 217 (dk_at dksX5_boy_2 16 rfl rfl)
theorem dX5_boy_67 : decode cX5_boy 67 = .ok (.bipush (-4), 2) := dk_16 252 (dk_at dksX5_boy_2 19 rfl rfl)
theorem dX5_boy_69 : decode cX5_boy 69 = .ok (.ireturn, 1) := dk_172 (dk_at dksX5_boy_2 21 rfl rfl)
abbrev cX5_placeOf : ByteArray := prog_14_method_47_code
def yX5_placeOf : MethodName := ⟨RX5, "placeOf", "(I)I"⟩
def dkwX5_placeOf_1 : List UInt8 := [167, 0, 4, 28, 61, 132, 3, 1, 167, 255, 229, 28, 172]
abbrev dktX5_placeOf_1 : List UInt8 := dkwX5_placeOf_1 ++ []
def dkwX5_placeOf_0 : List UInt8 := [16, 252, 61, 3, 62, 29, 42, 180, 0, 169, 162, 0, 25, 42, 180, 0, 26, 29, 46, 27, 160, 0, 7, 29]
abbrev dktX5_placeOf_0 : List UInt8 := dkwX5_placeOf_0 ++ dktX5_placeOf_1
theorem dksX5_placeOf_0 : cX5_placeOf.data.toList.drop 0 = dktX5_placeOf_0 := by decide +kernel
theorem dksX5_placeOf_1 : cX5_placeOf.data.toList.drop 24 = dktX5_placeOf_1 := dk_seg dksX5_placeOf_0 24 rfl rfl
theorem dX5_placeOf_0 : decode cX5_placeOf 0 = .ok (.bipush (-4), 2) := dk_16 252 (dk_at dksX5_placeOf_0 0 rfl rfl)
theorem dX5_placeOf_2 : decode cX5_placeOf 2 = .ok (.istore_n 2, 1) := dk_61 (dk_at dksX5_placeOf_0 2 rfl rfl)
theorem dX5_placeOf_3 : decode cX5_placeOf 3 = .ok (.iconst 0, 1) := dk_3 (dk_at dksX5_placeOf_0 3 rfl rfl)
theorem dX5_placeOf_4 : decode cX5_placeOf 4 = .ok (.istore_n 3, 1) := dk_62 (dk_at dksX5_placeOf_0 4 rfl rfl)
theorem dX5_placeOf_5 : decode cX5_placeOf 5 = .ok (.iload_n 3, 1) := dk_29 (dk_at dksX5_placeOf_0 5 rfl rfl)
theorem dX5_placeOf_6 : decode cX5_placeOf 6 = .ok (.aload_n 0, 1) := dk_42 (dk_at dksX5_placeOf_0 6 rfl rfl)
theorem dX5_placeOf_7 : decode cX5_placeOf 7 = .ok (.getfield 169, 3) := dk_180 0 169 (dk_at dksX5_placeOf_0 7 rfl rfl)
theorem dX5_placeOf_10 : decode cX5_placeOf 10 = .ok (.if_icmp .ge 25, 3) := dk_162 0 25 (dk_at dksX5_placeOf_0 10 rfl rfl)
theorem dX5_placeOf_13 : decode cX5_placeOf 13 = .ok (.aload_n 0, 1) := dk_42 (dk_at dksX5_placeOf_0 13 rfl rfl)
theorem dX5_placeOf_14 : decode cX5_placeOf 14 = .ok (.getfield 26, 3) := dk_180 0 26 (dk_at dksX5_placeOf_0 14 rfl rfl)
theorem dX5_placeOf_17 : decode cX5_placeOf 17 = .ok (.iload_n 3, 1) := dk_29 (dk_at dksX5_placeOf_0 17 rfl rfl)
theorem dX5_placeOf_18 : decode cX5_placeOf 18 = .ok (.iaload, 1) := dk_46 (dk_at dksX5_placeOf_0 18 rfl rfl)
theorem dX5_placeOf_19 : decode cX5_placeOf 19 = .ok (.iload_n 1, 1) := dk_27 (dk_at dksX5_placeOf_0 19 rfl rfl)
theorem dX5_placeOf_20 : decode cX5_placeOf 20 = .ok (.if_icmp .ne 7, 3) := dk_160 0 7 (dk_at dksX5_placeOf_0 20 rfl rfl)
theorem dX5_placeOf_23 : decode cX5_placeOf 23 = .ok (.iload_n 3, 1) := dk_29 (dk_at dksX5_placeOf_0 23 rfl rfl)
theorem dX5_placeOf_24 : decode cX5_placeOf 24 = .ok (.goto 4, 3) := dk_167 0 4 (dk_at dksX5_placeOf_1 0 rfl rfl)
theorem dX5_placeOf_27 : decode cX5_placeOf 27 = .ok (.iload_n 2, 1) := dk_28 (dk_at dksX5_placeOf_1 3 rfl rfl)
theorem dX5_placeOf_28 : decode cX5_placeOf 28 = .ok (.istore_n 2, 1) := dk_61 (dk_at dksX5_placeOf_1 4 rfl rfl)
theorem dX5_placeOf_29 : decode cX5_placeOf 29 = .ok (.iinc 3 1, 3) := dk_132 3 1 (dk_at dksX5_placeOf_1 5 rfl rfl)
theorem dX5_placeOf_32 : decode cX5_placeOf 32 = .ok (.goto (-27), 3) := dk_167 255 229 (dk_at dksX5_placeOf_1 8 rfl rfl)
theorem dX5_placeOf_35 : decode cX5_placeOf 35 = .ok (.iload_n 2, 1) := dk_28 (dk_at dksX5_placeOf_1 11 rfl rfl)
theorem dX5_placeOf_36 : decode cX5_placeOf 36 = .ok (.ireturn, 1) := dk_172 (dk_at dksX5_placeOf_1 12 rfl rfl)
abbrev cX5_post : ByteArray := prog_14_method_76_code
def yX5_post : MethodName := ⟨RX5, "post", "(I)I"⟩
def dkwX5_post_3 : List UInt8 := [132, 4, 1, 167, 255, 198, 27, 154, 0, 7, 29, 167, 0, 4, 28, 172]
abbrev dktX5_post_3 : List UInt8 := dkwX5_post_3 ++ []
def dkwX5_post_2 : List UInt8 := [28, 162, 0, 8, 21, 4, 167, 0, 4, 29, 62, 21, 5, 28, 162, 0, 8, 21, 5, 167, 0, 4, 28, 61]
abbrev dktX5_post_2 : List UInt8 := dkwX5_post_2 ++ dktX5_post_3
def dkwX5_post_1 : List UInt8 := [42, 182, 0, 228, 42, 180, 0, 13, 7, 21, 4, 79, 42, 182, 0, 231, 42, 182, 0, 225, 54, 5, 21, 5]
abbrev dktX5_post_1 : List UInt8 := dkwX5_post_1 ++ dktX5_post_2
def dkwX5_post_0 : List UInt8 := [27, 184, 1, 29, 154, 0, 5, 2, 172, 18, 191, 61, 3, 62, 3, 54, 4, 21, 4, 16, 9, 163, 0, 57]
abbrev dktX5_post_0 : List UInt8 := dkwX5_post_0 ++ dktX5_post_1
theorem dksX5_post_0 : cX5_post.data.toList.drop 0 = dktX5_post_0 := by decide +kernel
theorem dksX5_post_1 : cX5_post.data.toList.drop 24 = dktX5_post_1 := dk_seg dksX5_post_0 24 rfl rfl
theorem dksX5_post_2 : cX5_post.data.toList.drop 48 = dktX5_post_2 := dk_seg dksX5_post_1 24 rfl rfl
theorem dksX5_post_3 : cX5_post.data.toList.drop 72 = dktX5_post_3 := dk_seg dksX5_post_2 24 rfl rfl
theorem dX5_post_0 : decode cX5_post 0 = .ok (.iload_n 1, 1) := dk_27 (dk_at dksX5_post_0 0 rfl rfl)
theorem dX5_post_1 : decode cX5_post 1 = .ok (.invokestatic 285, 3) := dk_184 1 29 (dk_at dksX5_post_0 1 rfl rfl)
theorem dX5_post_4 : decode cX5_post 4 = .ok (.ifCond .ne 5, 3) := dk_154 0 5 (dk_at dksX5_post_0 4 rfl rfl)
theorem dX5_post_7 : decode cX5_post 7 = .ok (.iconst (-1), 1) := dk_2 (dk_at dksX5_post_0 7 rfl rfl)
theorem dX5_post_8 : decode cX5_post 8 = .ok (.ireturn, 1) := dk_172 (dk_at dksX5_post_0 8 rfl rfl)
theorem dX5_post_9 : decode cX5_post 9 = .ok (.ldc 191, 2) := dk_18 191 (dk_at dksX5_post_0 9 rfl rfl)
theorem dX5_post_11 : decode cX5_post 11 = .ok (.istore_n 2, 1) := dk_61 (dk_at dksX5_post_0 11 rfl rfl)
theorem dX5_post_12 : decode cX5_post 12 = .ok (.iconst 0, 1) := dk_3 (dk_at dksX5_post_0 12 rfl rfl)
theorem dX5_post_13 : decode cX5_post 13 = .ok (.istore_n 3, 1) := dk_62 (dk_at dksX5_post_0 13 rfl rfl)
theorem dX5_post_14 : decode cX5_post 14 = .ok (.iconst 0, 1) := dk_3 (dk_at dksX5_post_0 14 rfl rfl)
theorem dX5_post_15 : decode cX5_post 15 = .ok (.istore 4, 2) := dk_54 4 (dk_at dksX5_post_0 15 rfl rfl)
theorem dX5_post_17 : decode cX5_post 17 = .ok (.iload 4, 2) := dk_21 4 (dk_at dksX5_post_0 17 rfl rfl)
theorem dX5_post_19 : decode cX5_post 19 = .ok (.bipush 9, 2) := dk_16 9 (dk_at dksX5_post_0 19 rfl rfl)
theorem dX5_post_21 : decode cX5_post 21 = .ok (.if_icmp .gt 57, 3) := dk_163 0 57 (dk_at dksX5_post_0 21 rfl rfl)
theorem dX5_post_24 : decode cX5_post 24 = .ok (.aload_n 0, 1) := dk_42 (dk_at dksX5_post_1 0 rfl rfl)
theorem dX5_post_25 : decode cX5_post 25 = .ok (.invokevirtual 228, 3) := dk_182 0 228 (dk_at dksX5_post_1 1 rfl rfl)
theorem dX5_post_28 : decode cX5_post 28 = .ok (.aload_n 0, 1) := dk_42 (dk_at dksX5_post_1 4 rfl rfl)
theorem dX5_post_29 : decode cX5_post 29 = .ok (.getfield 13, 3) := dk_180 0 13 (dk_at dksX5_post_1 5 rfl rfl)
theorem dX5_post_32 : decode cX5_post 32 = .ok (.iconst 4, 1) := dk_7 (dk_at dksX5_post_1 8 rfl rfl)
theorem dX5_post_33 : decode cX5_post 33 = .ok (.iload 4, 2) := dk_21 4 (dk_at dksX5_post_1 9 rfl rfl)
theorem dX5_post_35 : decode cX5_post 35 = .ok (.iastore, 1) := dk_79 (dk_at dksX5_post_1 11 rfl rfl)
theorem dX5_post_36 : decode cX5_post 36 = .ok (.aload_n 0, 1) := dk_42 (dk_at dksX5_post_1 12 rfl rfl)
theorem dX5_post_37 : decode cX5_post 37 = .ok (.invokevirtual 231, 3) := dk_182 0 231 (dk_at dksX5_post_1 13 rfl rfl)
theorem dX5_post_40 : decode cX5_post 40 = .ok (.aload_n 0, 1) := dk_42 (dk_at dksX5_post_1 16 rfl rfl)
theorem dX5_post_41 : decode cX5_post 41 = .ok (.invokevirtual 225, 3) := dk_182 0 225 (dk_at dksX5_post_1 17 rfl rfl)
theorem dX5_post_44 : decode cX5_post 44 = .ok (.istore 5, 2) := dk_54 5 (dk_at dksX5_post_1 20 rfl rfl)
theorem dX5_post_46 : decode cX5_post 46 = .ok (.iload 5, 2) := dk_21 5 (dk_at dksX5_post_1 22 rfl rfl)
theorem dX5_post_48 : decode cX5_post 48 = .ok (.iload_n 2, 1) := dk_28 (dk_at dksX5_post_2 0 rfl rfl)
theorem dX5_post_49 : decode cX5_post 49 = .ok (.if_icmp .ge 8, 3) := dk_162 0 8 (dk_at dksX5_post_2 1 rfl rfl)
theorem dX5_post_52 : decode cX5_post 52 = .ok (.iload 4, 2) := dk_21 4 (dk_at dksX5_post_2 4 rfl rfl)
theorem dX5_post_54 : decode cX5_post 54 = .ok (.goto 4, 3) := dk_167 0 4 (dk_at dksX5_post_2 6 rfl rfl)
theorem dX5_post_57 : decode cX5_post 57 = .ok (.iload_n 3, 1) := dk_29 (dk_at dksX5_post_2 9 rfl rfl)
theorem dX5_post_58 : decode cX5_post 58 = .ok (.istore_n 3, 1) := dk_62 (dk_at dksX5_post_2 10 rfl rfl)
theorem dX5_post_59 : decode cX5_post 59 = .ok (.iload 5, 2) := dk_21 5 (dk_at dksX5_post_2 11 rfl rfl)
theorem dX5_post_61 : decode cX5_post 61 = .ok (.iload_n 2, 1) := dk_28 (dk_at dksX5_post_2 13 rfl rfl)
theorem dX5_post_62 : decode cX5_post 62 = .ok (.if_icmp .ge 8, 3) := dk_162 0 8 (dk_at dksX5_post_2 14 rfl rfl)
theorem dX5_post_65 : decode cX5_post 65 = .ok (.iload 5, 2) := dk_21 5 (dk_at dksX5_post_2 17 rfl rfl)
theorem dX5_post_67 : decode cX5_post 67 = .ok (.goto 4, 3) := dk_167 0 4 (dk_at dksX5_post_2 19 rfl rfl)
theorem dX5_post_70 : decode cX5_post 70 = .ok (.iload_n 2, 1) := dk_28 (dk_at dksX5_post_2 22 rfl rfl)
theorem dX5_post_71 : decode cX5_post 71 = .ok (.istore_n 2, 1) := dk_61 (dk_at dksX5_post_2 23 rfl rfl)
theorem dX5_post_72 : decode cX5_post 72 = .ok (.iinc 4 1, 3) := dk_132 4 1 (dk_at dksX5_post_3 0 rfl rfl)
theorem dX5_post_75 : decode cX5_post 75 = .ok (.goto (-58), 3) := dk_167 255 198 (dk_at dksX5_post_3 3 rfl rfl)
theorem dX5_post_78 : decode cX5_post 78 = .ok (.iload_n 1, 1) := dk_27 (dk_at dksX5_post_3 6 rfl rfl)
theorem dX5_post_79 : decode cX5_post 79 = .ok (.ifCond .ne 7, 3) := dk_154 0 7 (dk_at dksX5_post_3 7 rfl rfl)
theorem dX5_post_82 : decode cX5_post 82 = .ok (.iload_n 3, 1) := dk_29 (dk_at dksX5_post_3 10 rfl rfl)
theorem dX5_post_83 : decode cX5_post 83 = .ok (.goto 4, 3) := dk_167 0 4 (dk_at dksX5_post_3 11 rfl rfl)
theorem dX5_post_86 : decode cX5_post 86 = .ok (.iload_n 2, 1) := dk_28 (dk_at dksX5_post_3 14 rfl rfl)
theorem dX5_post_87 : decode cX5_post 87 = .ok (.ireturn, 1) := dk_172 (dk_at dksX5_post_3 15 rfl rfl)
abbrev cX5_late : ByteArray := prog_14_method_77_code
def yX5_late : MethodName := ⟨RX5, "late", "(I)I"⟩
def dkwX5_late_3 : List UInt8 := [62, 132, 4, 1, 167, 255, 206, 29, 172]
abbrev dktX5_late_3 : List UInt8 := dkwX5_late_3 ++ []
def dkwX5_late_2 : List UInt8 := [96, 182, 1, 18, 42, 182, 0, 231, 42, 180, 0, 29, 27, 46, 28, 163, 0, 8, 21, 4, 167, 0, 4, 29]
abbrev dktX5_late_2 : List UInt8 := dkwX5_late_2 ++ dktX5_late_3
def dkwX5_late_1 : List UInt8 := [54, 4, 21, 4, 16, 60, 163, 0, 49, 42, 182, 0, 228, 42, 27, 5, 42, 27, 5, 182, 0, 166, 21, 4]
abbrev dktX5_late_1 : List UInt8 := dkwX5_late_1 ++ dktX5_late_2
def dkwX5_late_0 : List UInt8 := [42, 27, 182, 0, 237, 154, 0, 5, 2, 172, 42, 182, 1, 0, 42, 180, 0, 29, 27, 46, 61, 3, 62, 4]
abbrev dktX5_late_0 : List UInt8 := dkwX5_late_0 ++ dktX5_late_1
theorem dksX5_late_0 : cX5_late.data.toList.drop 0 = dktX5_late_0 := by decide +kernel
theorem dksX5_late_1 : cX5_late.data.toList.drop 24 = dktX5_late_1 := dk_seg dksX5_late_0 24 rfl rfl
theorem dksX5_late_2 : cX5_late.data.toList.drop 48 = dktX5_late_2 := dk_seg dksX5_late_1 24 rfl rfl
theorem dksX5_late_3 : cX5_late.data.toList.drop 72 = dktX5_late_3 := dk_seg dksX5_late_2 24 rfl rfl
theorem dX5_late_0 : decode cX5_late 0 = .ok (.aload_n 0, 1) := dk_42 (dk_at dksX5_late_0 0 rfl rfl)
theorem dX5_late_1 : decode cX5_late 1 = .ok (.iload_n 1, 1) := dk_27 (dk_at dksX5_late_0 1 rfl rfl)
theorem dX5_late_2 : decode cX5_late 2 = .ok (.invokevirtual 237, 3) := dk_182 0 237 (dk_at dksX5_late_0 2 rfl rfl)
theorem dX5_late_5 : decode cX5_late 5 = .ok (.ifCond .ne 5, 3) := dk_154 0 5 (dk_at dksX5_late_0 5 rfl rfl)
theorem dX5_late_8 : decode cX5_late 8 = .ok (.iconst (-1), 1) := dk_2 (dk_at dksX5_late_0 8 rfl rfl)
theorem dX5_late_9 : decode cX5_late 9 = .ok (.ireturn, 1) := dk_172 (dk_at dksX5_late_0 9 rfl rfl)
theorem dX5_late_10 : decode cX5_late 10 = .ok (.aload_n 0, 1) := dk_42 (dk_at dksX5_late_0 10 rfl rfl)
theorem dX5_late_11 : decode cX5_late 11 = .ok (.invokevirtual 256, 3) := dk_182 1 0 (dk_at dksX5_late_0 11 rfl rfl)
theorem dX5_late_14 : decode cX5_late 14 = .ok (.aload_n 0, 1) := dk_42 (dk_at dksX5_late_0 14 rfl rfl)
theorem dX5_late_15 : decode cX5_late 15 = .ok (.getfield 29, 3) := dk_180 0 29 (dk_at dksX5_late_0 15 rfl rfl)
theorem dX5_late_18 : decode cX5_late 18 = .ok (.iload_n 1, 1) := dk_27 (dk_at dksX5_late_0 18 rfl rfl)
theorem dX5_late_19 : decode cX5_late 19 = .ok (.iaload, 1) := dk_46 (dk_at dksX5_late_0 19 rfl rfl)
theorem dX5_late_20 : decode cX5_late 20 = .ok (.istore_n 2, 1) := dk_61 (dk_at dksX5_late_0 20 rfl rfl)
theorem dX5_late_21 : decode cX5_late 21 = .ok (.iconst 0, 1) := dk_3 (dk_at dksX5_late_0 21 rfl rfl)
theorem dX5_late_22 : decode cX5_late 22 = .ok (.istore_n 3, 1) := dk_62 (dk_at dksX5_late_0 22 rfl rfl)
theorem dX5_late_23 : decode cX5_late 23 = .ok (.iconst 1, 1) := dk_4 (dk_at dksX5_late_0 23 rfl rfl)
theorem dX5_late_24 : decode cX5_late 24 = .ok (.istore 4, 2) := dk_54 4 (dk_at dksX5_late_1 0 rfl rfl)
theorem dX5_late_26 : decode cX5_late 26 = .ok (.iload 4, 2) := dk_21 4 (dk_at dksX5_late_1 2 rfl rfl)
theorem dX5_late_28 : decode cX5_late 28 = .ok (.bipush 60, 2) := dk_16 60 (dk_at dksX5_late_1 4 rfl rfl)
theorem dX5_late_30 : decode cX5_late 30 = .ok (.if_icmp .gt 49, 3) := dk_163 0 49 (dk_at dksX5_late_1 6 rfl rfl)
theorem dX5_late_33 : decode cX5_late 33 = .ok (.aload_n 0, 1) := dk_42 (dk_at dksX5_late_1 9 rfl rfl)
theorem dX5_late_34 : decode cX5_late 34 = .ok (.invokevirtual 228, 3) := dk_182 0 228 (dk_at dksX5_late_1 10 rfl rfl)
theorem dX5_late_37 : decode cX5_late 37 = .ok (.aload_n 0, 1) := dk_42 (dk_at dksX5_late_1 13 rfl rfl)
theorem dX5_late_38 : decode cX5_late 38 = .ok (.iload_n 1, 1) := dk_27 (dk_at dksX5_late_1 14 rfl rfl)
theorem dX5_late_39 : decode cX5_late 39 = .ok (.iconst 2, 1) := dk_5 (dk_at dksX5_late_1 15 rfl rfl)
theorem dX5_late_40 : decode cX5_late 40 = .ok (.aload_n 0, 1) := dk_42 (dk_at dksX5_late_1 16 rfl rfl)
theorem dX5_late_41 : decode cX5_late 41 = .ok (.iload_n 1, 1) := dk_27 (dk_at dksX5_late_1 17 rfl rfl)
theorem dX5_late_42 : decode cX5_late 42 = .ok (.iconst 2, 1) := dk_5 (dk_at dksX5_late_1 18 rfl rfl)
theorem dX5_late_43 : decode cX5_late 43 = .ok (.invokevirtual 166, 3) := dk_182 0 166 (dk_at dksX5_late_1 19 rfl rfl)
theorem dX5_late_46 : decode cX5_late 46 = .ok (.iload 4, 2) := dk_21 4 (dk_at dksX5_late_1 22 rfl rfl)
theorem dX5_late_48 : decode cX5_late 48 = .ok (.iadd, 1) := dk_96 (dk_at dksX5_late_2 0 rfl rfl)
theorem dX5_late_49 : decode cX5_late 49 = .ok (.invokevirtual 274, 3) := dk_182 1 18 (dk_at dksX5_late_2 1 rfl rfl)
theorem dX5_late_52 : decode cX5_late 52 = .ok (.aload_n 0, 1) := dk_42 (dk_at dksX5_late_2 4 rfl rfl)
theorem dX5_late_53 : decode cX5_late 53 = .ok (.invokevirtual 231, 3) := dk_182 0 231 (dk_at dksX5_late_2 5 rfl rfl)
theorem dX5_late_56 : decode cX5_late 56 = .ok (.aload_n 0, 1) := dk_42 (dk_at dksX5_late_2 8 rfl rfl)
theorem dX5_late_57 : decode cX5_late 57 = .ok (.getfield 29, 3) := dk_180 0 29 (dk_at dksX5_late_2 9 rfl rfl)
theorem dX5_late_60 : decode cX5_late 60 = .ok (.iload_n 1, 1) := dk_27 (dk_at dksX5_late_2 12 rfl rfl)
theorem dX5_late_61 : decode cX5_late 61 = .ok (.iaload, 1) := dk_46 (dk_at dksX5_late_2 13 rfl rfl)
theorem dX5_late_62 : decode cX5_late 62 = .ok (.iload_n 2, 1) := dk_28 (dk_at dksX5_late_2 14 rfl rfl)
theorem dX5_late_63 : decode cX5_late 63 = .ok (.if_icmp .gt 8, 3) := dk_163 0 8 (dk_at dksX5_late_2 15 rfl rfl)
theorem dX5_late_66 : decode cX5_late 66 = .ok (.iload 4, 2) := dk_21 4 (dk_at dksX5_late_2 18 rfl rfl)
theorem dX5_late_68 : decode cX5_late 68 = .ok (.goto 4, 3) := dk_167 0 4 (dk_at dksX5_late_2 20 rfl rfl)
theorem dX5_late_71 : decode cX5_late 71 = .ok (.iload_n 3, 1) := dk_29 (dk_at dksX5_late_2 23 rfl rfl)
theorem dX5_late_72 : decode cX5_late 72 = .ok (.istore_n 3, 1) := dk_62 (dk_at dksX5_late_3 0 rfl rfl)
theorem dX5_late_73 : decode cX5_late 73 = .ok (.iinc 4 1, 3) := dk_132 4 1 (dk_at dksX5_late_3 1 rfl rfl)
theorem dX5_late_76 : decode cX5_late 76 = .ok (.goto (-50), 3) := dk_167 255 206 (dk_at dksX5_late_3 4 rfl rfl)
theorem dX5_late_79 : decode cX5_late 79 = .ok (.iload_n 3, 1) := dk_29 (dk_at dksX5_late_3 7 rfl rfl)
theorem dX5_late_80 : decode cX5_late 80 = .ok (.ireturn, 1) := dk_172 (dk_at dksX5_late_3 8 rfl rfl)
abbrev cX5_deal : ByteArray := prog_14_method_78_code
def yX5_deal : MethodName := ⟨RX5, "deal", "(III)I"⟩
def dkwX5_deal_8 : List UInt8 := [167, 0, 10, 21, 6, 42, 182, 0, 225, 100, 54, 7, 17, 39, 16, 21, 7, 96, 172]
abbrev dktX5_deal_8 : List UInt8 := dkwX5_deal_8 ++ []
def dkwX5_deal_7 : List UInt8 := [167, 0, 34, 29, 4, 160, 0, 22, 21, 5, 42, 180, 0, 32, 28, 46, 42, 28, 6, 182, 0, 166, 104, 100]
abbrev dktX5_deal_7 : List UInt8 := dkwX5_deal_7 ++ dktX5_deal_8
def dkwX5_deal_6 : List UInt8 := [182, 1, 15, 29, 154, 0, 22, 21, 4, 42, 180, 0, 32, 27, 46, 42, 27, 6, 182, 0, 166, 104, 100]
abbrev dktX5_deal_6 : List UInt8 := dkwX5_deal_6 ++ dktX5_deal_7
def dkwX5_deal_5 : List UInt8 := [160, 0, 7, 27, 167, 0, 10, 42, 180, 0, 26, 21, 7, 46, 79, 132, 7, 1, 167, 255, 200, 42]
abbrev dktX5_deal_5 : List UInt8 := dkwX5_deal_5 ++ dktX5_deal_6
def dkwX5_deal_4 : List UInt8 := [180, 0, 26, 21, 7, 46, 27, 160, 0, 7, 28, 167, 0, 25, 42, 180, 0, 26, 21, 7, 46, 28]
abbrev dktX5_deal_4 : List UInt8 := dkwX5_deal_4 ++ dktX5_deal_5
def dkwX5_deal_3 : List UInt8 := [182, 0, 225, 54, 6, 3, 54, 7, 21, 7, 42, 180, 0, 69, 162, 0, 53, 42, 180, 0, 35, 21, 7, 42]
abbrev dktX5_deal_3 : List UInt8 := dkwX5_deal_3 ++ dktX5_deal_4
def dkwX5_deal_2 : List UInt8 := [182, 0, 166, 104, 54, 4, 42, 180, 0, 32, 28, 46, 42, 28, 6, 182, 0, 166, 104, 54, 5, 42]
abbrev dktX5_deal_2 : List UInt8 := dkwX5_deal_2 ++ dktX5_deal_3
def dkwX5_deal_1 : List UInt8 := [20, 0, 153, 184, 0, 74, 154, 0, 5, 2, 172, 42, 182, 1, 0, 42, 180, 0, 32, 27, 46, 42, 27, 6]
abbrev dktX5_deal_1 : List UInt8 := dkwX5_deal_1 ++ dktX5_deal_2
def dkwX5_deal_0 : List UInt8 := [42, 27, 182, 0, 237, 153, 0, 28, 42, 28, 182, 0, 237, 153, 0, 20, 27, 28, 159, 0, 15, 29, 133, 9]
abbrev dktX5_deal_0 : List UInt8 := dkwX5_deal_0 ++ dktX5_deal_1
theorem dksX5_deal_0 : cX5_deal.data.toList.drop 0 = dktX5_deal_0 := by decide +kernel
theorem dksX5_deal_1 : cX5_deal.data.toList.drop 24 = dktX5_deal_1 := dk_seg dksX5_deal_0 24 rfl rfl
theorem dksX5_deal_2 : cX5_deal.data.toList.drop 48 = dktX5_deal_2 := dk_seg dksX5_deal_1 24 rfl rfl
theorem dksX5_deal_3 : cX5_deal.data.toList.drop 70 = dktX5_deal_3 := dk_seg dksX5_deal_2 22 rfl rfl
theorem dksX5_deal_4 : cX5_deal.data.toList.drop 94 = dktX5_deal_4 := dk_seg dksX5_deal_3 24 rfl rfl
theorem dksX5_deal_5 : cX5_deal.data.toList.drop 116 = dktX5_deal_5 := dk_seg dksX5_deal_4 22 rfl rfl
theorem dksX5_deal_6 : cX5_deal.data.toList.drop 138 = dktX5_deal_6 := dk_seg dksX5_deal_5 22 rfl rfl
theorem dksX5_deal_7 : cX5_deal.data.toList.drop 161 = dktX5_deal_7 := dk_seg dksX5_deal_6 23 rfl rfl
theorem dksX5_deal_8 : cX5_deal.data.toList.drop 185 = dktX5_deal_8 := dk_seg dksX5_deal_7 24 rfl rfl
theorem dX5_deal_0 : decode cX5_deal 0 = .ok (.aload_n 0, 1) := dk_42 (dk_at dksX5_deal_0 0 rfl rfl)
theorem dX5_deal_1 : decode cX5_deal 1 = .ok (.iload_n 1, 1) := dk_27 (dk_at dksX5_deal_0 1 rfl rfl)
theorem dX5_deal_2 : decode cX5_deal 2 = .ok (.invokevirtual 237, 3) := dk_182 0 237 (dk_at dksX5_deal_0 2 rfl rfl)
theorem dX5_deal_5 : decode cX5_deal 5 = .ok (.ifCond .eq 28, 3) := dk_153 0 28 (dk_at dksX5_deal_0 5 rfl rfl)
theorem dX5_deal_8 : decode cX5_deal 8 = .ok (.aload_n 0, 1) := dk_42 (dk_at dksX5_deal_0 8 rfl rfl)
theorem dX5_deal_9 : decode cX5_deal 9 = .ok (.iload_n 2, 1) := dk_28 (dk_at dksX5_deal_0 9 rfl rfl)
theorem dX5_deal_10 : decode cX5_deal 10 = .ok (.invokevirtual 237, 3) := dk_182 0 237 (dk_at dksX5_deal_0 10 rfl rfl)
theorem dX5_deal_13 : decode cX5_deal 13 = .ok (.ifCond .eq 20, 3) := dk_153 0 20 (dk_at dksX5_deal_0 13 rfl rfl)
theorem dX5_deal_16 : decode cX5_deal 16 = .ok (.iload_n 1, 1) := dk_27 (dk_at dksX5_deal_0 16 rfl rfl)
theorem dX5_deal_17 : decode cX5_deal 17 = .ok (.iload_n 2, 1) := dk_28 (dk_at dksX5_deal_0 17 rfl rfl)
theorem dX5_deal_18 : decode cX5_deal 18 = .ok (.if_icmp .eq 15, 3) := dk_159 0 15 (dk_at dksX5_deal_0 18 rfl rfl)
theorem dX5_deal_21 : decode cX5_deal 21 = .ok (.iload_n 3, 1) := dk_29 (dk_at dksX5_deal_0 21 rfl rfl)
theorem dX5_deal_22 : decode cX5_deal 22 = .ok (.i2l, 1) := dk_133 (dk_at dksX5_deal_0 22 rfl rfl)
theorem dX5_deal_23 : decode cX5_deal 23 = .ok (.lconst 0, 1) := dk_9 (dk_at dksX5_deal_0 23 rfl rfl)
theorem dX5_deal_24 : decode cX5_deal 24 = .ok (.ldc2_w 153, 3) := dk_20 0 153 (dk_at dksX5_deal_1 0 rfl rfl)
theorem dX5_deal_27 : decode cX5_deal 27 = .ok (.invokestatic 74, 3) := dk_184 0 74 (dk_at dksX5_deal_1 3 rfl rfl)
theorem dX5_deal_30 : decode cX5_deal 30 = .ok (.ifCond .ne 5, 3) := dk_154 0 5 (dk_at dksX5_deal_1 6 rfl rfl)
theorem dX5_deal_33 : decode cX5_deal 33 = .ok (.iconst (-1), 1) := dk_2 (dk_at dksX5_deal_1 9 rfl rfl)
theorem dX5_deal_34 : decode cX5_deal 34 = .ok (.ireturn, 1) := dk_172 (dk_at dksX5_deal_1 10 rfl rfl)
theorem dX5_deal_35 : decode cX5_deal 35 = .ok (.aload_n 0, 1) := dk_42 (dk_at dksX5_deal_1 11 rfl rfl)
theorem dX5_deal_36 : decode cX5_deal 36 = .ok (.invokevirtual 256, 3) := dk_182 1 0 (dk_at dksX5_deal_1 12 rfl rfl)
theorem dX5_deal_39 : decode cX5_deal 39 = .ok (.aload_n 0, 1) := dk_42 (dk_at dksX5_deal_1 15 rfl rfl)
theorem dX5_deal_40 : decode cX5_deal 40 = .ok (.getfield 32, 3) := dk_180 0 32 (dk_at dksX5_deal_1 16 rfl rfl)
theorem dX5_deal_43 : decode cX5_deal 43 = .ok (.iload_n 1, 1) := dk_27 (dk_at dksX5_deal_1 19 rfl rfl)
theorem dX5_deal_44 : decode cX5_deal 44 = .ok (.iaload, 1) := dk_46 (dk_at dksX5_deal_1 20 rfl rfl)
theorem dX5_deal_45 : decode cX5_deal 45 = .ok (.aload_n 0, 1) := dk_42 (dk_at dksX5_deal_1 21 rfl rfl)
theorem dX5_deal_46 : decode cX5_deal 46 = .ok (.iload_n 1, 1) := dk_27 (dk_at dksX5_deal_1 22 rfl rfl)
theorem dX5_deal_47 : decode cX5_deal 47 = .ok (.iconst 3, 1) := dk_6 (dk_at dksX5_deal_1 23 rfl rfl)
theorem dX5_deal_48 : decode cX5_deal 48 = .ok (.invokevirtual 166, 3) := dk_182 0 166 (dk_at dksX5_deal_2 0 rfl rfl)
theorem dX5_deal_51 : decode cX5_deal 51 = .ok (.imul, 1) := dk_104 (dk_at dksX5_deal_2 3 rfl rfl)
theorem dX5_deal_52 : decode cX5_deal 52 = .ok (.istore 4, 2) := dk_54 4 (dk_at dksX5_deal_2 4 rfl rfl)
theorem dX5_deal_54 : decode cX5_deal 54 = .ok (.aload_n 0, 1) := dk_42 (dk_at dksX5_deal_2 6 rfl rfl)
theorem dX5_deal_55 : decode cX5_deal 55 = .ok (.getfield 32, 3) := dk_180 0 32 (dk_at dksX5_deal_2 7 rfl rfl)
theorem dX5_deal_58 : decode cX5_deal 58 = .ok (.iload_n 2, 1) := dk_28 (dk_at dksX5_deal_2 10 rfl rfl)
theorem dX5_deal_59 : decode cX5_deal 59 = .ok (.iaload, 1) := dk_46 (dk_at dksX5_deal_2 11 rfl rfl)
theorem dX5_deal_60 : decode cX5_deal 60 = .ok (.aload_n 0, 1) := dk_42 (dk_at dksX5_deal_2 12 rfl rfl)
theorem dX5_deal_61 : decode cX5_deal 61 = .ok (.iload_n 2, 1) := dk_28 (dk_at dksX5_deal_2 13 rfl rfl)
theorem dX5_deal_62 : decode cX5_deal 62 = .ok (.iconst 3, 1) := dk_6 (dk_at dksX5_deal_2 14 rfl rfl)
theorem dX5_deal_63 : decode cX5_deal 63 = .ok (.invokevirtual 166, 3) := dk_182 0 166 (dk_at dksX5_deal_2 15 rfl rfl)
theorem dX5_deal_66 : decode cX5_deal 66 = .ok (.imul, 1) := dk_104 (dk_at dksX5_deal_2 18 rfl rfl)
theorem dX5_deal_67 : decode cX5_deal 67 = .ok (.istore 5, 2) := dk_54 5 (dk_at dksX5_deal_2 19 rfl rfl)
theorem dX5_deal_69 : decode cX5_deal 69 = .ok (.aload_n 0, 1) := dk_42 (dk_at dksX5_deal_2 21 rfl rfl)
theorem dX5_deal_70 : decode cX5_deal 70 = .ok (.invokevirtual 225, 3) := dk_182 0 225 (dk_at dksX5_deal_3 0 rfl rfl)
theorem dX5_deal_73 : decode cX5_deal 73 = .ok (.istore 6, 2) := dk_54 6 (dk_at dksX5_deal_3 3 rfl rfl)
theorem dX5_deal_75 : decode cX5_deal 75 = .ok (.iconst 0, 1) := dk_3 (dk_at dksX5_deal_3 5 rfl rfl)
theorem dX5_deal_76 : decode cX5_deal 76 = .ok (.istore 7, 2) := dk_54 7 (dk_at dksX5_deal_3 6 rfl rfl)
theorem dX5_deal_78 : decode cX5_deal 78 = .ok (.iload 7, 2) := dk_21 7 (dk_at dksX5_deal_3 8 rfl rfl)
theorem dX5_deal_80 : decode cX5_deal 80 = .ok (.aload_n 0, 1) := dk_42 (dk_at dksX5_deal_3 10 rfl rfl)
theorem dX5_deal_81 : decode cX5_deal 81 = .ok (.getfield 69, 3) := dk_180 0 69 (dk_at dksX5_deal_3 11 rfl rfl)
theorem dX5_deal_84 : decode cX5_deal 84 = .ok (.if_icmp .ge 53, 3) := dk_162 0 53 (dk_at dksX5_deal_3 14 rfl rfl)
theorem dX5_deal_87 : decode cX5_deal 87 = .ok (.aload_n 0, 1) := dk_42 (dk_at dksX5_deal_3 17 rfl rfl)
theorem dX5_deal_88 : decode cX5_deal 88 = .ok (.getfield 35, 3) := dk_180 0 35 (dk_at dksX5_deal_3 18 rfl rfl)
theorem dX5_deal_91 : decode cX5_deal 91 = .ok (.iload 7, 2) := dk_21 7 (dk_at dksX5_deal_3 21 rfl rfl)
theorem dX5_deal_93 : decode cX5_deal 93 = .ok (.aload_n 0, 1) := dk_42 (dk_at dksX5_deal_3 23 rfl rfl)
theorem dX5_deal_94 : decode cX5_deal 94 = .ok (.getfield 26, 3) := dk_180 0 26 (dk_at dksX5_deal_4 0 rfl rfl)
theorem dX5_deal_97 : decode cX5_deal 97 = .ok (.iload 7, 2) := dk_21 7 (dk_at dksX5_deal_4 3 rfl rfl)
theorem dX5_deal_99 : decode cX5_deal 99 = .ok (.iaload, 1) := dk_46 (dk_at dksX5_deal_4 5 rfl rfl)
theorem dX5_deal_100 : decode cX5_deal 100 = .ok (.iload_n 1, 1) := dk_27 (dk_at dksX5_deal_4 6 rfl rfl)
theorem dX5_deal_101 : decode cX5_deal 101 = .ok (.if_icmp .ne 7, 3) := dk_160 0 7 (dk_at dksX5_deal_4 7 rfl rfl)
theorem dX5_deal_104 : decode cX5_deal 104 = .ok (.iload_n 2, 1) := dk_28 (dk_at dksX5_deal_4 10 rfl rfl)
theorem dX5_deal_105 : decode cX5_deal 105 = .ok (.goto 25, 3) := dk_167 0 25 (dk_at dksX5_deal_4 11 rfl rfl)
theorem dX5_deal_108 : decode cX5_deal 108 = .ok (.aload_n 0, 1) := dk_42 (dk_at dksX5_deal_4 14 rfl rfl)
theorem dX5_deal_109 : decode cX5_deal 109 = .ok (.getfield 26, 3) := dk_180 0 26 (dk_at dksX5_deal_4 15 rfl rfl)
theorem dX5_deal_112 : decode cX5_deal 112 = .ok (.iload 7, 2) := dk_21 7 (dk_at dksX5_deal_4 18 rfl rfl)
theorem dX5_deal_114 : decode cX5_deal 114 = .ok (.iaload, 1) := dk_46 (dk_at dksX5_deal_4 20 rfl rfl)
theorem dX5_deal_115 : decode cX5_deal 115 = .ok (.iload_n 2, 1) := dk_28 (dk_at dksX5_deal_4 21 rfl rfl)
theorem dX5_deal_116 : decode cX5_deal 116 = .ok (.if_icmp .ne 7, 3) := dk_160 0 7 (dk_at dksX5_deal_5 0 rfl rfl)
theorem dX5_deal_119 : decode cX5_deal 119 = .ok (.iload_n 1, 1) := dk_27 (dk_at dksX5_deal_5 3 rfl rfl)
theorem dX5_deal_120 : decode cX5_deal 120 = .ok (.goto 10, 3) := dk_167 0 10 (dk_at dksX5_deal_5 4 rfl rfl)
theorem dX5_deal_123 : decode cX5_deal 123 = .ok (.aload_n 0, 1) := dk_42 (dk_at dksX5_deal_5 7 rfl rfl)
theorem dX5_deal_124 : decode cX5_deal 124 = .ok (.getfield 26, 3) := dk_180 0 26 (dk_at dksX5_deal_5 8 rfl rfl)
theorem dX5_deal_127 : decode cX5_deal 127 = .ok (.iload 7, 2) := dk_21 7 (dk_at dksX5_deal_5 11 rfl rfl)
theorem dX5_deal_129 : decode cX5_deal 129 = .ok (.iaload, 1) := dk_46 (dk_at dksX5_deal_5 13 rfl rfl)
theorem dX5_deal_130 : decode cX5_deal 130 = .ok (.iastore, 1) := dk_79 (dk_at dksX5_deal_5 14 rfl rfl)
theorem dX5_deal_131 : decode cX5_deal 131 = .ok (.iinc 7 1, 3) := dk_132 7 1 (dk_at dksX5_deal_5 15 rfl rfl)
theorem dX5_deal_134 : decode cX5_deal 134 = .ok (.goto (-56), 3) := dk_167 255 200 (dk_at dksX5_deal_5 18 rfl rfl)
theorem dX5_deal_137 : decode cX5_deal 137 = .ok (.aload_n 0, 1) := dk_42 (dk_at dksX5_deal_5 21 rfl rfl)
theorem dX5_deal_138 : decode cX5_deal 138 = .ok (.invokevirtual 271, 3) := dk_182 1 15 (dk_at dksX5_deal_6 0 rfl rfl)
theorem dX5_deal_141 : decode cX5_deal 141 = .ok (.iload_n 3, 1) := dk_29 (dk_at dksX5_deal_6 3 rfl rfl)
theorem dX5_deal_142 : decode cX5_deal 142 = .ok (.ifCond .ne 22, 3) := dk_154 0 22 (dk_at dksX5_deal_6 4 rfl rfl)
theorem dX5_deal_145 : decode cX5_deal 145 = .ok (.iload 4, 2) := dk_21 4 (dk_at dksX5_deal_6 7 rfl rfl)
theorem dX5_deal_147 : decode cX5_deal 147 = .ok (.aload_n 0, 1) := dk_42 (dk_at dksX5_deal_6 9 rfl rfl)
theorem dX5_deal_148 : decode cX5_deal 148 = .ok (.getfield 32, 3) := dk_180 0 32 (dk_at dksX5_deal_6 10 rfl rfl)
theorem dX5_deal_151 : decode cX5_deal 151 = .ok (.iload_n 1, 1) := dk_27 (dk_at dksX5_deal_6 13 rfl rfl)
theorem dX5_deal_152 : decode cX5_deal 152 = .ok (.iaload, 1) := dk_46 (dk_at dksX5_deal_6 14 rfl rfl)
theorem dX5_deal_153 : decode cX5_deal 153 = .ok (.aload_n 0, 1) := dk_42 (dk_at dksX5_deal_6 15 rfl rfl)
theorem dX5_deal_154 : decode cX5_deal 154 = .ok (.iload_n 1, 1) := dk_27 (dk_at dksX5_deal_6 16 rfl rfl)
theorem dX5_deal_155 : decode cX5_deal 155 = .ok (.iconst 3, 1) := dk_6 (dk_at dksX5_deal_6 17 rfl rfl)
theorem dX5_deal_156 : decode cX5_deal 156 = .ok (.invokevirtual 166, 3) := dk_182 0 166 (dk_at dksX5_deal_6 18 rfl rfl)
theorem dX5_deal_159 : decode cX5_deal 159 = .ok (.imul, 1) := dk_104 (dk_at dksX5_deal_6 21 rfl rfl)
theorem dX5_deal_160 : decode cX5_deal 160 = .ok (.isub, 1) := dk_100 (dk_at dksX5_deal_6 22 rfl rfl)
theorem dX5_deal_161 : decode cX5_deal 161 = .ok (.goto 34, 3) := dk_167 0 34 (dk_at dksX5_deal_7 0 rfl rfl)
theorem dX5_deal_164 : decode cX5_deal 164 = .ok (.iload_n 3, 1) := dk_29 (dk_at dksX5_deal_7 3 rfl rfl)
theorem dX5_deal_165 : decode cX5_deal 165 = .ok (.iconst 1, 1) := dk_4 (dk_at dksX5_deal_7 4 rfl rfl)
theorem dX5_deal_166 : decode cX5_deal 166 = .ok (.if_icmp .ne 22, 3) := dk_160 0 22 (dk_at dksX5_deal_7 5 rfl rfl)
theorem dX5_deal_169 : decode cX5_deal 169 = .ok (.iload 5, 2) := dk_21 5 (dk_at dksX5_deal_7 8 rfl rfl)
theorem dX5_deal_171 : decode cX5_deal 171 = .ok (.aload_n 0, 1) := dk_42 (dk_at dksX5_deal_7 10 rfl rfl)
theorem dX5_deal_172 : decode cX5_deal 172 = .ok (.getfield 32, 3) := dk_180 0 32 (dk_at dksX5_deal_7 11 rfl rfl)
theorem dX5_deal_175 : decode cX5_deal 175 = .ok (.iload_n 2, 1) := dk_28 (dk_at dksX5_deal_7 14 rfl rfl)
theorem dX5_deal_176 : decode cX5_deal 176 = .ok (.iaload, 1) := dk_46 (dk_at dksX5_deal_7 15 rfl rfl)
theorem dX5_deal_177 : decode cX5_deal 177 = .ok (.aload_n 0, 1) := dk_42 (dk_at dksX5_deal_7 16 rfl rfl)
theorem dX5_deal_178 : decode cX5_deal 178 = .ok (.iload_n 2, 1) := dk_28 (dk_at dksX5_deal_7 17 rfl rfl)
theorem dX5_deal_179 : decode cX5_deal 179 = .ok (.iconst 3, 1) := dk_6 (dk_at dksX5_deal_7 18 rfl rfl)
theorem dX5_deal_180 : decode cX5_deal 180 = .ok (.invokevirtual 166, 3) := dk_182 0 166 (dk_at dksX5_deal_7 19 rfl rfl)
theorem dX5_deal_183 : decode cX5_deal 183 = .ok (.imul, 1) := dk_104 (dk_at dksX5_deal_7 22 rfl rfl)
theorem dX5_deal_184 : decode cX5_deal 184 = .ok (.isub, 1) := dk_100 (dk_at dksX5_deal_7 23 rfl rfl)
theorem dX5_deal_185 : decode cX5_deal 185 = .ok (.goto 10, 3) := dk_167 0 10 (dk_at dksX5_deal_8 0 rfl rfl)
theorem dX5_deal_188 : decode cX5_deal 188 = .ok (.iload 6, 2) := dk_21 6 (dk_at dksX5_deal_8 3 rfl rfl)
theorem dX5_deal_190 : decode cX5_deal 190 = .ok (.aload_n 0, 1) := dk_42 (dk_at dksX5_deal_8 5 rfl rfl)
theorem dX5_deal_191 : decode cX5_deal 191 = .ok (.invokevirtual 225, 3) := dk_182 0 225 (dk_at dksX5_deal_8 6 rfl rfl)
theorem dX5_deal_194 : decode cX5_deal 194 = .ok (.isub, 1) := dk_100 (dk_at dksX5_deal_8 9 rfl rfl)
theorem dX5_deal_195 : decode cX5_deal 195 = .ok (.istore 7, 2) := dk_54 7 (dk_at dksX5_deal_8 10 rfl rfl)
theorem dX5_deal_197 : decode cX5_deal 197 = .ok (.sipush 10000, 3) := dk_17 39 16 (dk_at dksX5_deal_8 12 rfl rfl)
theorem dX5_deal_200 : decode cX5_deal 200 = .ok (.iload 7, 2) := dk_21 7 (dk_at dksX5_deal_8 15 rfl rfl)
theorem dX5_deal_202 : decode cX5_deal 202 = .ok (.iadd, 1) := dk_96 (dk_at dksX5_deal_8 17 rfl rfl)
theorem dX5_deal_203 : decode cX5_deal 203 = .ok (.ireturn, 1) := dk_172 (dk_at dksX5_deal_8 18 rfl rfl)
abbrev cX5_mean : ByteArray := prog_14_method_84_code
def yX5_mean : MethodName := ⟨RX5, "mean", "(III)J"⟩
def dkwX5_mean_4 : List UInt8 := [182, 1, 53, 29, 184, 1, 57, 173]
abbrev dktX5_mean_4 : List UInt8 := dkwX5_mean_4 ++ []
def dkwX5_mean_3 : List UInt8 := [182, 1, 49, 42, 180, 0, 32, 28, 46, 133, 105, 97, 55, 4, 132, 6, 1, 167, 255, 204, 22, 4, 42]
abbrev dktX5_mean_3 : List UInt8 := dkwX5_mean_3 ++ dktX5_mean_4
def dkwX5_mean_2 : List UInt8 := [21, 6, 42, 182, 0, 234, 2, 130, 126, 154, 0, 29, 42, 21, 6, 182, 1, 46, 22, 4, 42, 21, 6, 27]
abbrev dktX5_mean_2 : List UInt8 := dkwX5_mean_2 ++ dktX5_mean_3
def dkwX5_mean_1 : List UInt8 := [154, 0, 7, 20, 1, 44, 173, 9, 55, 4, 3, 54, 6, 21, 6, 4, 42, 180, 0, 69, 120, 162, 0, 47]
abbrev dktX5_mean_1 : List UInt8 := dkwX5_mean_1 ++ dktX5_mean_2
def dkwX5_mean_0 : List UInt8 := [27, 133, 9, 20, 1, 42, 184, 0, 74, 153, 0, 18, 42, 28, 182, 0, 237, 153, 0, 10, 29, 184, 1, 29]
abbrev dktX5_mean_0 : List UInt8 := dkwX5_mean_0 ++ dktX5_mean_1
theorem dksX5_mean_0 : cX5_mean.data.toList.drop 0 = dktX5_mean_0 := by decide +kernel
theorem dksX5_mean_1 : cX5_mean.data.toList.drop 24 = dktX5_mean_1 := dk_seg dksX5_mean_0 24 rfl rfl
theorem dksX5_mean_2 : cX5_mean.data.toList.drop 48 = dktX5_mean_2 := dk_seg dksX5_mean_1 24 rfl rfl
theorem dksX5_mean_3 : cX5_mean.data.toList.drop 72 = dktX5_mean_3 := dk_seg dksX5_mean_2 24 rfl rfl
theorem dksX5_mean_4 : cX5_mean.data.toList.drop 95 = dktX5_mean_4 := dk_seg dksX5_mean_3 23 rfl rfl
theorem dX5_mean_0 : decode cX5_mean 0 = .ok (.iload_n 1, 1) := dk_27 (dk_at dksX5_mean_0 0 rfl rfl)
theorem dX5_mean_1 : decode cX5_mean 1 = .ok (.i2l, 1) := dk_133 (dk_at dksX5_mean_0 1 rfl rfl)
theorem dX5_mean_2 : decode cX5_mean 2 = .ok (.lconst 0, 1) := dk_9 (dk_at dksX5_mean_0 2 rfl rfl)
theorem dX5_mean_3 : decode cX5_mean 3 = .ok (.ldc2_w 298, 3) := dk_20 1 42 (dk_at dksX5_mean_0 3 rfl rfl)
theorem dX5_mean_6 : decode cX5_mean 6 = .ok (.invokestatic 74, 3) := dk_184 0 74 (dk_at dksX5_mean_0 6 rfl rfl)
theorem dX5_mean_9 : decode cX5_mean 9 = .ok (.ifCond .eq 18, 3) := dk_153 0 18 (dk_at dksX5_mean_0 9 rfl rfl)
theorem dX5_mean_12 : decode cX5_mean 12 = .ok (.aload_n 0, 1) := dk_42 (dk_at dksX5_mean_0 12 rfl rfl)
theorem dX5_mean_13 : decode cX5_mean 13 = .ok (.iload_n 2, 1) := dk_28 (dk_at dksX5_mean_0 13 rfl rfl)
theorem dX5_mean_14 : decode cX5_mean 14 = .ok (.invokevirtual 237, 3) := dk_182 0 237 (dk_at dksX5_mean_0 14 rfl rfl)
theorem dX5_mean_17 : decode cX5_mean 17 = .ok (.ifCond .eq 10, 3) := dk_153 0 10 (dk_at dksX5_mean_0 17 rfl rfl)
theorem dX5_mean_20 : decode cX5_mean 20 = .ok (.iload_n 3, 1) := dk_29 (dk_at dksX5_mean_0 20 rfl rfl)
theorem dX5_mean_21 : decode cX5_mean 21 = .ok (.invokestatic 285, 3) := dk_184 1 29 (dk_at dksX5_mean_0 21 rfl rfl)
theorem dX5_mean_24 : decode cX5_mean 24 = .ok (.ifCond .ne 7, 3) := dk_154 0 7 (dk_at dksX5_mean_1 0 rfl rfl)
theorem dX5_mean_27 : decode cX5_mean 27 = .ok (.ldc2_w 300, 3) := dk_20 1 44 (dk_at dksX5_mean_1 3 rfl rfl)
theorem dX5_mean_30 : decode cX5_mean 30 = .ok (.lreturn, 1) := dk_173 (dk_at dksX5_mean_1 6 rfl rfl)
theorem dX5_mean_31 : decode cX5_mean 31 = .ok (.lconst 0, 1) := dk_9 (dk_at dksX5_mean_1 7 rfl rfl)
theorem dX5_mean_32 : decode cX5_mean 32 = .ok (.lstore 4, 2) := dk_55 4 (dk_at dksX5_mean_1 8 rfl rfl)
theorem dX5_mean_34 : decode cX5_mean 34 = .ok (.iconst 0, 1) := dk_3 (dk_at dksX5_mean_1 10 rfl rfl)
theorem dX5_mean_35 : decode cX5_mean 35 = .ok (.istore 6, 2) := dk_54 6 (dk_at dksX5_mean_1 11 rfl rfl)
theorem dX5_mean_37 : decode cX5_mean 37 = .ok (.iload 6, 2) := dk_21 6 (dk_at dksX5_mean_1 13 rfl rfl)
theorem dX5_mean_39 : decode cX5_mean 39 = .ok (.iconst 1, 1) := dk_4 (dk_at dksX5_mean_1 15 rfl rfl)
theorem dX5_mean_40 : decode cX5_mean 40 = .ok (.aload_n 0, 1) := dk_42 (dk_at dksX5_mean_1 16 rfl rfl)
theorem dX5_mean_41 : decode cX5_mean 41 = .ok (.getfield 69, 3) := dk_180 0 69 (dk_at dksX5_mean_1 17 rfl rfl)
theorem dX5_mean_44 : decode cX5_mean 44 = .ok (.ishl, 1) := dk_120 (dk_at dksX5_mean_1 20 rfl rfl)
theorem dX5_mean_45 : decode cX5_mean 45 = .ok (.if_icmp .ge 47, 3) := dk_162 0 47 (dk_at dksX5_mean_1 21 rfl rfl)
theorem dX5_mean_48 : decode cX5_mean 48 = .ok (.iload 6, 2) := dk_21 6 (dk_at dksX5_mean_2 0 rfl rfl)
theorem dX5_mean_50 : decode cX5_mean 50 = .ok (.aload_n 0, 1) := dk_42 (dk_at dksX5_mean_2 2 rfl rfl)
theorem dX5_mean_51 : decode cX5_mean 51 = .ok (.invokevirtual 234, 3) := dk_182 0 234 (dk_at dksX5_mean_2 3 rfl rfl)
theorem dX5_mean_54 : decode cX5_mean 54 = .ok (.iconst (-1), 1) := dk_2 (dk_at dksX5_mean_2 6 rfl rfl)
theorem dX5_mean_55 : decode cX5_mean 55 = .ok (.ixor, 1) := dk_130 (dk_at dksX5_mean_2 7 rfl rfl)
theorem dX5_mean_56 : decode cX5_mean 56 = .ok (.iand, 1) := dk_126 (dk_at dksX5_mean_2 8 rfl rfl)
theorem dX5_mean_57 : decode cX5_mean 57 = .ok (.ifCond .ne 29, 3) := dk_154 0 29 (dk_at dksX5_mean_2 9 rfl rfl)
theorem dX5_mean_60 : decode cX5_mean 60 = .ok (.aload_n 0, 1) := dk_42 (dk_at dksX5_mean_2 12 rfl rfl)
theorem dX5_mean_61 : decode cX5_mean 61 = .ok (.iload 6, 2) := dk_21 6 (dk_at dksX5_mean_2 13 rfl rfl)
theorem dX5_mean_63 : decode cX5_mean 63 = .ok (.invokevirtual 302, 3) := dk_182 1 46 (dk_at dksX5_mean_2 15 rfl rfl)
theorem dX5_mean_66 : decode cX5_mean 66 = .ok (.lload 4, 2) := dk_22 4 (dk_at dksX5_mean_2 18 rfl rfl)
theorem dX5_mean_68 : decode cX5_mean 68 = .ok (.aload_n 0, 1) := dk_42 (dk_at dksX5_mean_2 20 rfl rfl)
theorem dX5_mean_69 : decode cX5_mean 69 = .ok (.iload 6, 2) := dk_21 6 (dk_at dksX5_mean_2 21 rfl rfl)
theorem dX5_mean_71 : decode cX5_mean 71 = .ok (.iload_n 1, 1) := dk_27 (dk_at dksX5_mean_2 23 rfl rfl)
theorem dX5_mean_72 : decode cX5_mean 72 = .ok (.invokevirtual 305, 3) := dk_182 1 49 (dk_at dksX5_mean_3 0 rfl rfl)
theorem dX5_mean_75 : decode cX5_mean 75 = .ok (.aload_n 0, 1) := dk_42 (dk_at dksX5_mean_3 3 rfl rfl)
theorem dX5_mean_76 : decode cX5_mean 76 = .ok (.getfield 32, 3) := dk_180 0 32 (dk_at dksX5_mean_3 4 rfl rfl)
theorem dX5_mean_79 : decode cX5_mean 79 = .ok (.iload_n 2, 1) := dk_28 (dk_at dksX5_mean_3 7 rfl rfl)
theorem dX5_mean_80 : decode cX5_mean 80 = .ok (.iaload, 1) := dk_46 (dk_at dksX5_mean_3 8 rfl rfl)
theorem dX5_mean_81 : decode cX5_mean 81 = .ok (.i2l, 1) := dk_133 (dk_at dksX5_mean_3 9 rfl rfl)
theorem dX5_mean_82 : decode cX5_mean 82 = .ok (.lmul, 1) := dk_105 (dk_at dksX5_mean_3 10 rfl rfl)
theorem dX5_mean_83 : decode cX5_mean 83 = .ok (.ladd, 1) := dk_97 (dk_at dksX5_mean_3 11 rfl rfl)
theorem dX5_mean_84 : decode cX5_mean 84 = .ok (.lstore 4, 2) := dk_55 4 (dk_at dksX5_mean_3 12 rfl rfl)
theorem dX5_mean_86 : decode cX5_mean 86 = .ok (.iinc 6 1, 3) := dk_132 6 1 (dk_at dksX5_mean_3 14 rfl rfl)
theorem dX5_mean_89 : decode cX5_mean 89 = .ok (.goto (-52), 3) := dk_167 255 204 (dk_at dksX5_mean_3 17 rfl rfl)
theorem dX5_mean_92 : decode cX5_mean 92 = .ok (.lload 4, 2) := dk_22 4 (dk_at dksX5_mean_3 20 rfl rfl)
theorem dX5_mean_94 : decode cX5_mean 94 = .ok (.aload_n 0, 1) := dk_42 (dk_at dksX5_mean_3 22 rfl rfl)
theorem dX5_mean_95 : decode cX5_mean 95 = .ok (.invokevirtual 309, 3) := dk_182 1 53 (dk_at dksX5_mean_4 0 rfl rfl)
theorem dX5_mean_98 : decode cX5_mean 98 = .ok (.iload_n 3, 1) := dk_29 (dk_at dksX5_mean_4 3 rfl rfl)
theorem dX5_mean_99 : decode cX5_mean 99 = .ok (.invokestatic 313, 3) := dk_184 1 57 (dk_at dksX5_mean_4 4 rfl rfl)
theorem dX5_mean_102 : decode cX5_mean 102 = .ok (.lreturn, 1) := dk_173 (dk_at dksX5_mean_4 7 rfl rfl)
abbrev cX5_dayCaught : ByteArray := prog_14_method_83_code
def yX5_dayCaught : MethodName := ⟨RX5, "dayCaught", "(I)V"⟩
def dkwX5_dayCaught_0 : List UInt8 := [42, 182, 0, 228, 42, 27, 181, 0, 163, 42, 182, 0, 231, 177]
abbrev dktX5_dayCaught_0 : List UInt8 := dkwX5_dayCaught_0 ++ []
theorem dksX5_dayCaught_0 : cX5_dayCaught.data.toList.drop 0 = dktX5_dayCaught_0 := by decide +kernel
theorem dX5_dayCaught_0 : decode cX5_dayCaught 0 = .ok (.aload_n 0, 1) := dk_42 (dk_at dksX5_dayCaught_0 0 rfl rfl)
theorem dX5_dayCaught_1 : decode cX5_dayCaught 1 = .ok (.invokevirtual 228, 3) := dk_182 0 228 (dk_at dksX5_dayCaught_0 1 rfl rfl)
theorem dX5_dayCaught_4 : decode cX5_dayCaught 4 = .ok (.aload_n 0, 1) := dk_42 (dk_at dksX5_dayCaught_0 4 rfl rfl)
theorem dX5_dayCaught_5 : decode cX5_dayCaught 5 = .ok (.iload_n 1, 1) := dk_27 (dk_at dksX5_dayCaught_0 5 rfl rfl)
theorem dX5_dayCaught_6 : decode cX5_dayCaught 6 = .ok (.putfield 163, 3) := dk_181 0 163 (dk_at dksX5_dayCaught_0 6 rfl rfl)
theorem dX5_dayCaught_9 : decode cX5_dayCaught 9 = .ok (.aload_n 0, 1) := dk_42 (dk_at dksX5_dayCaught_0 9 rfl rfl)
theorem dX5_dayCaught_10 : decode cX5_dayCaught 10 = .ok (.invokevirtual 231, 3) := dk_182 0 231 (dk_at dksX5_dayCaught_0 10 rfl rfl)
theorem dX5_dayCaught_13 : decode cX5_dayCaught 13 = .ok (.return_, 1) := dk_177 (dk_at dksX5_dayCaught_0 13 rfl rfl)
abbrev cX5_waysOf : ByteArray := prog_14_method_81_code
def yX5_waysOf : MethodName := ⟨RX5, "waysOf", "(II)J"⟩
def dkwX5_waysOf_2 : List UInt8 := [21, 6, 133, 167, 0, 4, 10, 105, 66, 132, 5, 1, 167, 255, 201, 33, 173]
abbrev dktX5_waysOf_2 : List UInt8 := dkwX5_waysOf_2 ++ []
def dkwX5_waysOf_1 : List UInt8 := [28, 167, 0, 7, 16, 10, 28, 100, 54, 6, 33, 42, 182, 0, 234, 21, 5, 122, 4, 126, 4, 160, 0, 9]
abbrev dktX5_waysOf_1 : List UInt8 := dkwX5_waysOf_1 ++ dktX5_waysOf_2
def dkwX5_waysOf_0 : List UInt8 := [10, 66, 3, 54, 5, 21, 5, 42, 180, 0, 69, 162, 0, 52, 27, 21, 5, 122, 4, 126, 4, 160, 0, 7]
abbrev dktX5_waysOf_0 : List UInt8 := dkwX5_waysOf_0 ++ dktX5_waysOf_1
theorem dksX5_waysOf_0 : cX5_waysOf.data.toList.drop 0 = dktX5_waysOf_0 := by decide +kernel
theorem dksX5_waysOf_1 : cX5_waysOf.data.toList.drop 24 = dktX5_waysOf_1 := dk_seg dksX5_waysOf_0 24 rfl rfl
theorem dksX5_waysOf_2 : cX5_waysOf.data.toList.drop 48 = dktX5_waysOf_2 := dk_seg dksX5_waysOf_1 24 rfl rfl
theorem dX5_waysOf_0 : decode cX5_waysOf 0 = .ok (.lconst 1, 1) := dk_10 (dk_at dksX5_waysOf_0 0 rfl rfl)
theorem dX5_waysOf_1 : decode cX5_waysOf 1 = .ok (.lstore_n 3, 1) := dk_66 (dk_at dksX5_waysOf_0 1 rfl rfl)
theorem dX5_waysOf_2 : decode cX5_waysOf 2 = .ok (.iconst 0, 1) := dk_3 (dk_at dksX5_waysOf_0 2 rfl rfl)
theorem dX5_waysOf_3 : decode cX5_waysOf 3 = .ok (.istore 5, 2) := dk_54 5 (dk_at dksX5_waysOf_0 3 rfl rfl)
theorem dX5_waysOf_5 : decode cX5_waysOf 5 = .ok (.iload 5, 2) := dk_21 5 (dk_at dksX5_waysOf_0 5 rfl rfl)
theorem dX5_waysOf_7 : decode cX5_waysOf 7 = .ok (.aload_n 0, 1) := dk_42 (dk_at dksX5_waysOf_0 7 rfl rfl)
theorem dX5_waysOf_8 : decode cX5_waysOf 8 = .ok (.getfield 69, 3) := dk_180 0 69 (dk_at dksX5_waysOf_0 8 rfl rfl)
theorem dX5_waysOf_11 : decode cX5_waysOf 11 = .ok (.if_icmp .ge 52, 3) := dk_162 0 52 (dk_at dksX5_waysOf_0 11 rfl rfl)
theorem dX5_waysOf_14 : decode cX5_waysOf 14 = .ok (.iload_n 1, 1) := dk_27 (dk_at dksX5_waysOf_0 14 rfl rfl)
theorem dX5_waysOf_15 : decode cX5_waysOf 15 = .ok (.iload 5, 2) := dk_21 5 (dk_at dksX5_waysOf_0 15 rfl rfl)
theorem dX5_waysOf_17 : decode cX5_waysOf 17 = .ok (.ishr, 1) := dk_122 (dk_at dksX5_waysOf_0 17 rfl rfl)
theorem dX5_waysOf_18 : decode cX5_waysOf 18 = .ok (.iconst 1, 1) := dk_4 (dk_at dksX5_waysOf_0 18 rfl rfl)
theorem dX5_waysOf_19 : decode cX5_waysOf 19 = .ok (.iand, 1) := dk_126 (dk_at dksX5_waysOf_0 19 rfl rfl)
theorem dX5_waysOf_20 : decode cX5_waysOf 20 = .ok (.iconst 1, 1) := dk_4 (dk_at dksX5_waysOf_0 20 rfl rfl)
theorem dX5_waysOf_21 : decode cX5_waysOf 21 = .ok (.if_icmp .ne 7, 3) := dk_160 0 7 (dk_at dksX5_waysOf_0 21 rfl rfl)
theorem dX5_waysOf_24 : decode cX5_waysOf 24 = .ok (.iload_n 2, 1) := dk_28 (dk_at dksX5_waysOf_1 0 rfl rfl)
theorem dX5_waysOf_25 : decode cX5_waysOf 25 = .ok (.goto 7, 3) := dk_167 0 7 (dk_at dksX5_waysOf_1 1 rfl rfl)
theorem dX5_waysOf_28 : decode cX5_waysOf 28 = .ok (.bipush 10, 2) := dk_16 10 (dk_at dksX5_waysOf_1 4 rfl rfl)
theorem dX5_waysOf_30 : decode cX5_waysOf 30 = .ok (.iload_n 2, 1) := dk_28 (dk_at dksX5_waysOf_1 6 rfl rfl)
theorem dX5_waysOf_31 : decode cX5_waysOf 31 = .ok (.isub, 1) := dk_100 (dk_at dksX5_waysOf_1 7 rfl rfl)
theorem dX5_waysOf_32 : decode cX5_waysOf 32 = .ok (.istore 6, 2) := dk_54 6 (dk_at dksX5_waysOf_1 8 rfl rfl)
theorem dX5_waysOf_34 : decode cX5_waysOf 34 = .ok (.lload_n 3, 1) := dk_33 (dk_at dksX5_waysOf_1 10 rfl rfl)
theorem dX5_waysOf_35 : decode cX5_waysOf 35 = .ok (.aload_n 0, 1) := dk_42 (dk_at dksX5_waysOf_1 11 rfl rfl)
theorem dX5_waysOf_36 : decode cX5_waysOf 36 = .ok (.invokevirtual 234, 3) := dk_182 0 234 (dk_at dksX5_waysOf_1 12 rfl rfl)
theorem dX5_waysOf_39 : decode cX5_waysOf 39 = .ok (.iload 5, 2) := dk_21 5 (dk_at dksX5_waysOf_1 15 rfl rfl)
theorem dX5_waysOf_41 : decode cX5_waysOf 41 = .ok (.ishr, 1) := dk_122 (dk_at dksX5_waysOf_1 17 rfl rfl)
theorem dX5_waysOf_42 : decode cX5_waysOf 42 = .ok (.iconst 1, 1) := dk_4 (dk_at dksX5_waysOf_1 18 rfl rfl)
theorem dX5_waysOf_43 : decode cX5_waysOf 43 = .ok (.iand, 1) := dk_126 (dk_at dksX5_waysOf_1 19 rfl rfl)
theorem dX5_waysOf_44 : decode cX5_waysOf 44 = .ok (.iconst 1, 1) := dk_4 (dk_at dksX5_waysOf_1 20 rfl rfl)
theorem dX5_waysOf_45 : decode cX5_waysOf 45 = .ok (.if_icmp .ne 9, 3) := dk_160 0 9 (dk_at dksX5_waysOf_1 21 rfl rfl)
theorem dX5_waysOf_48 : decode cX5_waysOf 48 = .ok (.iload 6, 2) := dk_21 6 (dk_at dksX5_waysOf_2 0 rfl rfl)
theorem dX5_waysOf_50 : decode cX5_waysOf 50 = .ok (.i2l, 1) := dk_133 (dk_at dksX5_waysOf_2 2 rfl rfl)
theorem dX5_waysOf_51 : decode cX5_waysOf 51 = .ok (.goto 4, 3) := dk_167 0 4 (dk_at dksX5_waysOf_2 3 rfl rfl)
theorem dX5_waysOf_54 : decode cX5_waysOf 54 = .ok (.lconst 1, 1) := dk_10 (dk_at dksX5_waysOf_2 6 rfl rfl)
theorem dX5_waysOf_55 : decode cX5_waysOf 55 = .ok (.lmul, 1) := dk_105 (dk_at dksX5_waysOf_2 7 rfl rfl)
theorem dX5_waysOf_56 : decode cX5_waysOf 56 = .ok (.lstore_n 3, 1) := dk_66 (dk_at dksX5_waysOf_2 8 rfl rfl)
theorem dX5_waysOf_57 : decode cX5_waysOf 57 = .ok (.iinc 5 1, 3) := dk_132 5 1 (dk_at dksX5_waysOf_2 9 rfl rfl)
theorem dX5_waysOf_60 : decode cX5_waysOf 60 = .ok (.goto (-55), 3) := dk_167 255 201 (dk_at dksX5_waysOf_2 12 rfl rfl)
theorem dX5_waysOf_63 : decode cX5_waysOf 63 = .ok (.lload_n 3, 1) := dk_33 (dk_at dksX5_waysOf_2 15 rfl rfl)
theorem dX5_waysOf_64 : decode cX5_waysOf 64 = .ok (.lreturn, 1) := dk_173 (dk_at dksX5_waysOf_2 16 rfl rfl)
abbrev cX5_allWays : ByteArray := prog_14_method_82_code
def yX5_allWays : MethodName := ⟨RX5, "allWays", "()J"⟩
def dkwX5_allWays_1 : List UInt8 := [167, 255, 236, 31, 173]
abbrev dktX5_allWays_1 : List UInt8 := dkwX5_allWays_1 ++ []
def dkwX5_allWays_0 : List UInt8 := [10, 64, 3, 62, 29, 42, 182, 0, 234, 184, 0, 195, 162, 0, 15, 31, 20, 1, 42, 105, 64, 132, 3, 1]
abbrev dktX5_allWays_0 : List UInt8 := dkwX5_allWays_0 ++ dktX5_allWays_1
theorem dksX5_allWays_0 : cX5_allWays.data.toList.drop 0 = dktX5_allWays_0 := by decide +kernel
theorem dksX5_allWays_1 : cX5_allWays.data.toList.drop 24 = dktX5_allWays_1 := dk_seg dksX5_allWays_0 24 rfl rfl
theorem dX5_allWays_0 : decode cX5_allWays 0 = .ok (.lconst 1, 1) := dk_10 (dk_at dksX5_allWays_0 0 rfl rfl)
theorem dX5_allWays_1 : decode cX5_allWays 1 = .ok (.lstore_n 1, 1) := dk_64 (dk_at dksX5_allWays_0 1 rfl rfl)
theorem dX5_allWays_2 : decode cX5_allWays 2 = .ok (.iconst 0, 1) := dk_3 (dk_at dksX5_allWays_0 2 rfl rfl)
theorem dX5_allWays_3 : decode cX5_allWays 3 = .ok (.istore_n 3, 1) := dk_62 (dk_at dksX5_allWays_0 3 rfl rfl)
theorem dX5_allWays_4 : decode cX5_allWays 4 = .ok (.iload_n 3, 1) := dk_29 (dk_at dksX5_allWays_0 4 rfl rfl)
theorem dX5_allWays_5 : decode cX5_allWays 5 = .ok (.aload_n 0, 1) := dk_42 (dk_at dksX5_allWays_0 5 rfl rfl)
theorem dX5_allWays_6 : decode cX5_allWays 6 = .ok (.invokevirtual 234, 3) := dk_182 0 234 (dk_at dksX5_allWays_0 6 rfl rfl)
theorem dX5_allWays_9 : decode cX5_allWays 9 = .ok (.invokestatic 195, 3) := dk_184 0 195 (dk_at dksX5_allWays_0 9 rfl rfl)
theorem dX5_allWays_12 : decode cX5_allWays 12 = .ok (.if_icmp .ge 15, 3) := dk_162 0 15 (dk_at dksX5_allWays_0 12 rfl rfl)
theorem dX5_allWays_15 : decode cX5_allWays 15 = .ok (.lload_n 1, 1) := dk_31 (dk_at dksX5_allWays_0 15 rfl rfl)
theorem dX5_allWays_16 : decode cX5_allWays 16 = .ok (.ldc2_w 298, 3) := dk_20 1 42 (dk_at dksX5_allWays_0 16 rfl rfl)
theorem dX5_allWays_19 : decode cX5_allWays 19 = .ok (.lmul, 1) := dk_105 (dk_at dksX5_allWays_0 19 rfl rfl)
theorem dX5_allWays_20 : decode cX5_allWays 20 = .ok (.lstore_n 1, 1) := dk_64 (dk_at dksX5_allWays_0 20 rfl rfl)
theorem dX5_allWays_21 : decode cX5_allWays 21 = .ok (.iinc 3 1, 3) := dk_132 3 1 (dk_at dksX5_allWays_0 21 rfl rfl)
theorem dX5_allWays_24 : decode cX5_allWays 24 = .ok (.goto (-20), 3) := dk_167 255 236 (dk_at dksX5_allWays_1 0 rfl rfl)
theorem dX5_allWays_27 : decode cX5_allWays 27 = .ok (.lload_n 1, 1) := dk_31 (dk_at dksX5_allWays_1 3 rfl rfl)
theorem dX5_allWays_28 : decode cX5_allWays 28 = .ok (.lreturn, 1) := dk_173 (dk_at dksX5_allWays_1 4 rfl rfl)
abbrev cX5_told : ByteArray := prog_14_method_80_code
def yX5_told : MethodName := ⟨RX5, "told", "(JJI)J"⟩
def dkwX5_told_0 : List UInt8 := [32, 30, 184, 1, 38, 55, 5, 21, 4, 154, 0, 10, 30, 22, 5, 109, 167, 0, 7, 32, 22, 5, 109, 173]
abbrev dktX5_told_0 : List UInt8 := dkwX5_told_0 ++ []
theorem dksX5_told_0 : cX5_told.data.toList.drop 0 = dktX5_told_0 := by decide +kernel
theorem dX5_told_0 : decode cX5_told 0 = .ok (.lload_n 2, 1) := dk_32 (dk_at dksX5_told_0 0 rfl rfl)
theorem dX5_told_1 : decode cX5_told 1 = .ok (.lload_n 0, 1) := dk_30 (dk_at dksX5_told_0 1 rfl rfl)
theorem dX5_told_2 : decode cX5_told 2 = .ok (.invokestatic 294, 3) := dk_184 1 38 (dk_at dksX5_told_0 2 rfl rfl)
theorem dX5_told_5 : decode cX5_told 5 = .ok (.lstore 5, 2) := dk_55 5 (dk_at dksX5_told_0 5 rfl rfl)
theorem dX5_told_7 : decode cX5_told 7 = .ok (.iload 4, 2) := dk_21 4 (dk_at dksX5_told_0 7 rfl rfl)
theorem dX5_told_9 : decode cX5_told 9 = .ok (.ifCond .ne 10, 3) := dk_154 0 10 (dk_at dksX5_told_0 9 rfl rfl)
theorem dX5_told_12 : decode cX5_told 12 = .ok (.lload_n 0, 1) := dk_30 (dk_at dksX5_told_0 12 rfl rfl)
theorem dX5_told_13 : decode cX5_told 13 = .ok (.lload 5, 2) := dk_22 5 (dk_at dksX5_told_0 13 rfl rfl)
theorem dX5_told_15 : decode cX5_told 15 = .ok (.ldiv, 1) := dk_109 (dk_at dksX5_told_0 15 rfl rfl)
theorem dX5_told_16 : decode cX5_told 16 = .ok (.goto 7, 3) := dk_167 0 7 (dk_at dksX5_told_0 16 rfl rfl)
theorem dX5_told_19 : decode cX5_told 19 = .ok (.lload_n 2, 1) := dk_32 (dk_at dksX5_told_0 19 rfl rfl)
theorem dX5_told_20 : decode cX5_told 20 = .ok (.lload 5, 2) := dk_22 5 (dk_at dksX5_told_0 20 rfl rfl)
theorem dX5_told_22 : decode cX5_told 22 = .ok (.ldiv, 1) := dk_109 (dk_at dksX5_told_0 22 rfl rfl)
theorem dX5_told_23 : decode cX5_told 23 = .ok (.lreturn, 1) := dk_173 (dk_at dksX5_told_0 23 rfl rfl)
abbrev cX5_common : ByteArray := prog_14_method_79_code
def yX5_common : MethodName := ⟨RX5, "common", "(JJ)J"⟩
def dkwX5_common_1 : List UInt8 := [22, 8, 55, 6, 167, 255, 234, 22, 4, 173]
abbrev dktX5_common_1 : List UInt8 := dkwX5_common_1 ++ []
def dkwX5_common_0 : List UInt8 := [30, 55, 4, 32, 55, 6, 22, 6, 9, 148, 153, 0, 21, 22, 4, 22, 6, 113, 55, 8, 22, 6, 55, 4]
abbrev dktX5_common_0 : List UInt8 := dkwX5_common_0 ++ dktX5_common_1
theorem dksX5_common_0 : cX5_common.data.toList.drop 0 = dktX5_common_0 := by decide +kernel
theorem dksX5_common_1 : cX5_common.data.toList.drop 24 = dktX5_common_1 := dk_seg dksX5_common_0 24 rfl rfl
theorem dX5_common_0 : decode cX5_common 0 = .ok (.lload_n 0, 1) := dk_30 (dk_at dksX5_common_0 0 rfl rfl)
theorem dX5_common_1 : decode cX5_common 1 = .ok (.lstore 4, 2) := dk_55 4 (dk_at dksX5_common_0 1 rfl rfl)
theorem dX5_common_3 : decode cX5_common 3 = .ok (.lload_n 2, 1) := dk_32 (dk_at dksX5_common_0 3 rfl rfl)
theorem dX5_common_4 : decode cX5_common 4 = .ok (.lstore 6, 2) := dk_55 6 (dk_at dksX5_common_0 4 rfl rfl)
theorem dX5_common_6 : decode cX5_common 6 = .ok (.lload 6, 2) := dk_22 6 (dk_at dksX5_common_0 6 rfl rfl)
theorem dX5_common_8 : decode cX5_common 8 = .ok (.lconst 0, 1) := dk_9 (dk_at dksX5_common_0 8 rfl rfl)
theorem dX5_common_9 : decode cX5_common 9 = .ok (.lcmp, 1) := dk_148 (dk_at dksX5_common_0 9 rfl rfl)
theorem dX5_common_10 : decode cX5_common 10 = .ok (.ifCond .eq 21, 3) := dk_153 0 21 (dk_at dksX5_common_0 10 rfl rfl)
theorem dX5_common_13 : decode cX5_common 13 = .ok (.lload 4, 2) := dk_22 4 (dk_at dksX5_common_0 13 rfl rfl)
theorem dX5_common_15 : decode cX5_common 15 = .ok (.lload 6, 2) := dk_22 6 (dk_at dksX5_common_0 15 rfl rfl)
theorem dX5_common_17 : decode cX5_common 17 = .ok (.lrem, 1) := dk_113 (dk_at dksX5_common_0 17 rfl rfl)
theorem dX5_common_18 : decode cX5_common 18 = .ok (.lstore 8, 2) := dk_55 8 (dk_at dksX5_common_0 18 rfl rfl)
theorem dX5_common_20 : decode cX5_common 20 = .ok (.lload 6, 2) := dk_22 6 (dk_at dksX5_common_0 20 rfl rfl)
theorem dX5_common_22 : decode cX5_common 22 = .ok (.lstore 4, 2) := dk_55 4 (dk_at dksX5_common_0 22 rfl rfl)
theorem dX5_common_24 : decode cX5_common 24 = .ok (.lload 8, 2) := dk_22 8 (dk_at dksX5_common_1 0 rfl rfl)
theorem dX5_common_26 : decode cX5_common 26 = .ok (.lstore 6, 2) := dk_55 6 (dk_at dksX5_common_1 2 rfl rfl)
theorem dX5_common_28 : decode cX5_common 28 = .ok (.goto (-22), 3) := dk_167 255 234 (dk_at dksX5_common_1 4 rfl rfl)
theorem dX5_common_31 : decode cX5_common 31 = .ok (.lload 4, 2) := dk_22 4 (dk_at dksX5_common_1 7 rfl rfl)
theorem dX5_common_33 : decode cX5_common 33 = .ok (.lreturn, 1) := dk_173 (dk_at dksX5_common_1 9 rfl rfl)
abbrev cX5_luck : ByteArray := prog_14_method_85_code
def yX5_luck : MethodName := ⟨RX5, "luck", "(IIII)J"⟩
def dkwX5_luck_5 : List UInt8 := [173]
abbrev dktX5_luck_5 : List UInt8 := dkwX5_luck_5 ++ []
def dkwX5_luck_4 : List UInt8 := [167, 0, 4, 9, 97, 55, 5, 132, 7, 1, 167, 255, 198, 22, 5, 42, 182, 1, 53, 21, 4, 184, 1, 57]
abbrev dktX5_luck_4 : List UInt8 := dkwX5_luck_4 ++ dktX5_luck_5
def dkwX5_luck_3 : List UInt8 := [21, 7, 182, 1, 46, 22, 5, 42, 180, 0, 26, 29, 46, 28, 160, 0, 13, 42, 21, 7, 27, 182, 1, 49]
abbrev dktX5_luck_3 : List UInt8 := dkwX5_luck_3 ++ dktX5_luck_4
def dkwX5_luck_2 : List UInt8 := [21, 7, 4, 42, 180, 0, 69, 120, 162, 0, 53, 21, 7, 42, 182, 0, 234, 2, 130, 126, 154, 0, 35, 42]
abbrev dktX5_luck_2 : List UInt8 := dkwX5_luck_2 ++ dktX5_luck_3
def dkwX5_luck_1 : List UInt8 := [182, 0, 237, 153, 0, 11, 21, 4, 184, 1, 29, 154, 0, 7, 20, 1, 44, 173, 9, 55, 5, 3, 54, 7]
abbrev dktX5_luck_1 : List UInt8 := dkwX5_luck_1 ++ dktX5_luck_2
def dkwX5_luck_0 : List UInt8 := [27, 133, 9, 20, 1, 42, 184, 0, 74, 153, 0, 27, 42, 28, 182, 0, 237, 153, 0, 19, 42, 29]
abbrev dktX5_luck_0 : List UInt8 := dkwX5_luck_0 ++ dktX5_luck_1
theorem dksX5_luck_0 : cX5_luck.data.toList.drop 0 = dktX5_luck_0 := by decide +kernel
theorem dksX5_luck_1 : cX5_luck.data.toList.drop 22 = dktX5_luck_1 := dk_seg dksX5_luck_0 22 rfl rfl
theorem dksX5_luck_2 : cX5_luck.data.toList.drop 46 = dktX5_luck_2 := dk_seg dksX5_luck_1 24 rfl rfl
theorem dksX5_luck_3 : cX5_luck.data.toList.drop 70 = dktX5_luck_3 := dk_seg dksX5_luck_2 24 rfl rfl
theorem dksX5_luck_4 : cX5_luck.data.toList.drop 94 = dktX5_luck_4 := dk_seg dksX5_luck_3 24 rfl rfl
theorem dksX5_luck_5 : cX5_luck.data.toList.drop 118 = dktX5_luck_5 := dk_seg dksX5_luck_4 24 rfl rfl
theorem dX5_luck_0 : decode cX5_luck 0 = .ok (.iload_n 1, 1) := dk_27 (dk_at dksX5_luck_0 0 rfl rfl)
theorem dX5_luck_1 : decode cX5_luck 1 = .ok (.i2l, 1) := dk_133 (dk_at dksX5_luck_0 1 rfl rfl)
theorem dX5_luck_2 : decode cX5_luck 2 = .ok (.lconst 0, 1) := dk_9 (dk_at dksX5_luck_0 2 rfl rfl)
theorem dX5_luck_3 : decode cX5_luck 3 = .ok (.ldc2_w 298, 3) := dk_20 1 42 (dk_at dksX5_luck_0 3 rfl rfl)
theorem dX5_luck_6 : decode cX5_luck 6 = .ok (.invokestatic 74, 3) := dk_184 0 74 (dk_at dksX5_luck_0 6 rfl rfl)
theorem dX5_luck_9 : decode cX5_luck 9 = .ok (.ifCond .eq 27, 3) := dk_153 0 27 (dk_at dksX5_luck_0 9 rfl rfl)
theorem dX5_luck_12 : decode cX5_luck 12 = .ok (.aload_n 0, 1) := dk_42 (dk_at dksX5_luck_0 12 rfl rfl)
theorem dX5_luck_13 : decode cX5_luck 13 = .ok (.iload_n 2, 1) := dk_28 (dk_at dksX5_luck_0 13 rfl rfl)
theorem dX5_luck_14 : decode cX5_luck 14 = .ok (.invokevirtual 237, 3) := dk_182 0 237 (dk_at dksX5_luck_0 14 rfl rfl)
theorem dX5_luck_17 : decode cX5_luck 17 = .ok (.ifCond .eq 19, 3) := dk_153 0 19 (dk_at dksX5_luck_0 17 rfl rfl)
theorem dX5_luck_20 : decode cX5_luck 20 = .ok (.aload_n 0, 1) := dk_42 (dk_at dksX5_luck_0 20 rfl rfl)
theorem dX5_luck_21 : decode cX5_luck 21 = .ok (.iload_n 3, 1) := dk_29 (dk_at dksX5_luck_0 21 rfl rfl)
theorem dX5_luck_22 : decode cX5_luck 22 = .ok (.invokevirtual 237, 3) := dk_182 0 237 (dk_at dksX5_luck_1 0 rfl rfl)
theorem dX5_luck_25 : decode cX5_luck 25 = .ok (.ifCond .eq 11, 3) := dk_153 0 11 (dk_at dksX5_luck_1 3 rfl rfl)
theorem dX5_luck_28 : decode cX5_luck 28 = .ok (.iload 4, 2) := dk_21 4 (dk_at dksX5_luck_1 6 rfl rfl)
theorem dX5_luck_30 : decode cX5_luck 30 = .ok (.invokestatic 285, 3) := dk_184 1 29 (dk_at dksX5_luck_1 8 rfl rfl)
theorem dX5_luck_33 : decode cX5_luck 33 = .ok (.ifCond .ne 7, 3) := dk_154 0 7 (dk_at dksX5_luck_1 11 rfl rfl)
theorem dX5_luck_36 : decode cX5_luck 36 = .ok (.ldc2_w 300, 3) := dk_20 1 44 (dk_at dksX5_luck_1 14 rfl rfl)
theorem dX5_luck_39 : decode cX5_luck 39 = .ok (.lreturn, 1) := dk_173 (dk_at dksX5_luck_1 17 rfl rfl)
theorem dX5_luck_40 : decode cX5_luck 40 = .ok (.lconst 0, 1) := dk_9 (dk_at dksX5_luck_1 18 rfl rfl)
theorem dX5_luck_41 : decode cX5_luck 41 = .ok (.lstore 5, 2) := dk_55 5 (dk_at dksX5_luck_1 19 rfl rfl)
theorem dX5_luck_43 : decode cX5_luck 43 = .ok (.iconst 0, 1) := dk_3 (dk_at dksX5_luck_1 21 rfl rfl)
theorem dX5_luck_44 : decode cX5_luck 44 = .ok (.istore 7, 2) := dk_54 7 (dk_at dksX5_luck_1 22 rfl rfl)
theorem dX5_luck_46 : decode cX5_luck 46 = .ok (.iload 7, 2) := dk_21 7 (dk_at dksX5_luck_2 0 rfl rfl)
theorem dX5_luck_48 : decode cX5_luck 48 = .ok (.iconst 1, 1) := dk_4 (dk_at dksX5_luck_2 2 rfl rfl)
theorem dX5_luck_49 : decode cX5_luck 49 = .ok (.aload_n 0, 1) := dk_42 (dk_at dksX5_luck_2 3 rfl rfl)
theorem dX5_luck_50 : decode cX5_luck 50 = .ok (.getfield 69, 3) := dk_180 0 69 (dk_at dksX5_luck_2 4 rfl rfl)
theorem dX5_luck_53 : decode cX5_luck 53 = .ok (.ishl, 1) := dk_120 (dk_at dksX5_luck_2 7 rfl rfl)
theorem dX5_luck_54 : decode cX5_luck 54 = .ok (.if_icmp .ge 53, 3) := dk_162 0 53 (dk_at dksX5_luck_2 8 rfl rfl)
theorem dX5_luck_57 : decode cX5_luck 57 = .ok (.iload 7, 2) := dk_21 7 (dk_at dksX5_luck_2 11 rfl rfl)
theorem dX5_luck_59 : decode cX5_luck 59 = .ok (.aload_n 0, 1) := dk_42 (dk_at dksX5_luck_2 13 rfl rfl)
theorem dX5_luck_60 : decode cX5_luck 60 = .ok (.invokevirtual 234, 3) := dk_182 0 234 (dk_at dksX5_luck_2 14 rfl rfl)
theorem dX5_luck_63 : decode cX5_luck 63 = .ok (.iconst (-1), 1) := dk_2 (dk_at dksX5_luck_2 17 rfl rfl)
theorem dX5_luck_64 : decode cX5_luck 64 = .ok (.ixor, 1) := dk_130 (dk_at dksX5_luck_2 18 rfl rfl)
theorem dX5_luck_65 : decode cX5_luck 65 = .ok (.iand, 1) := dk_126 (dk_at dksX5_luck_2 19 rfl rfl)
theorem dX5_luck_66 : decode cX5_luck 66 = .ok (.ifCond .ne 35, 3) := dk_154 0 35 (dk_at dksX5_luck_2 20 rfl rfl)
theorem dX5_luck_69 : decode cX5_luck 69 = .ok (.aload_n 0, 1) := dk_42 (dk_at dksX5_luck_2 23 rfl rfl)
theorem dX5_luck_70 : decode cX5_luck 70 = .ok (.iload 7, 2) := dk_21 7 (dk_at dksX5_luck_3 0 rfl rfl)
theorem dX5_luck_72 : decode cX5_luck 72 = .ok (.invokevirtual 302, 3) := dk_182 1 46 (dk_at dksX5_luck_3 2 rfl rfl)
theorem dX5_luck_75 : decode cX5_luck 75 = .ok (.lload 5, 2) := dk_22 5 (dk_at dksX5_luck_3 5 rfl rfl)
theorem dX5_luck_77 : decode cX5_luck 77 = .ok (.aload_n 0, 1) := dk_42 (dk_at dksX5_luck_3 7 rfl rfl)
theorem dX5_luck_78 : decode cX5_luck 78 = .ok (.getfield 26, 3) := dk_180 0 26 (dk_at dksX5_luck_3 8 rfl rfl)
theorem dX5_luck_81 : decode cX5_luck 81 = .ok (.iload_n 3, 1) := dk_29 (dk_at dksX5_luck_3 11 rfl rfl)
theorem dX5_luck_82 : decode cX5_luck 82 = .ok (.iaload, 1) := dk_46 (dk_at dksX5_luck_3 12 rfl rfl)
theorem dX5_luck_83 : decode cX5_luck 83 = .ok (.iload_n 2, 1) := dk_28 (dk_at dksX5_luck_3 13 rfl rfl)
theorem dX5_luck_84 : decode cX5_luck 84 = .ok (.if_icmp .ne 13, 3) := dk_160 0 13 (dk_at dksX5_luck_3 14 rfl rfl)
theorem dX5_luck_87 : decode cX5_luck 87 = .ok (.aload_n 0, 1) := dk_42 (dk_at dksX5_luck_3 17 rfl rfl)
theorem dX5_luck_88 : decode cX5_luck 88 = .ok (.iload 7, 2) := dk_21 7 (dk_at dksX5_luck_3 18 rfl rfl)
theorem dX5_luck_90 : decode cX5_luck 90 = .ok (.iload_n 1, 1) := dk_27 (dk_at dksX5_luck_3 20 rfl rfl)
theorem dX5_luck_91 : decode cX5_luck 91 = .ok (.invokevirtual 305, 3) := dk_182 1 49 (dk_at dksX5_luck_3 21 rfl rfl)
theorem dX5_luck_94 : decode cX5_luck 94 = .ok (.goto 4, 3) := dk_167 0 4 (dk_at dksX5_luck_4 0 rfl rfl)
theorem dX5_luck_97 : decode cX5_luck 97 = .ok (.lconst 0, 1) := dk_9 (dk_at dksX5_luck_4 3 rfl rfl)
theorem dX5_luck_98 : decode cX5_luck 98 = .ok (.ladd, 1) := dk_97 (dk_at dksX5_luck_4 4 rfl rfl)
theorem dX5_luck_99 : decode cX5_luck 99 = .ok (.lstore 5, 2) := dk_55 5 (dk_at dksX5_luck_4 5 rfl rfl)
theorem dX5_luck_101 : decode cX5_luck 101 = .ok (.iinc 7 1, 3) := dk_132 7 1 (dk_at dksX5_luck_4 7 rfl rfl)
theorem dX5_luck_104 : decode cX5_luck 104 = .ok (.goto (-58), 3) := dk_167 255 198 (dk_at dksX5_luck_4 10 rfl rfl)
theorem dX5_luck_107 : decode cX5_luck 107 = .ok (.lload 5, 2) := dk_22 5 (dk_at dksX5_luck_4 13 rfl rfl)
theorem dX5_luck_109 : decode cX5_luck 109 = .ok (.aload_n 0, 1) := dk_42 (dk_at dksX5_luck_4 15 rfl rfl)
theorem dX5_luck_110 : decode cX5_luck 110 = .ok (.invokevirtual 309, 3) := dk_182 1 53 (dk_at dksX5_luck_4 16 rfl rfl)
theorem dX5_luck_113 : decode cX5_luck 113 = .ok (.iload 4, 2) := dk_21 4 (dk_at dksX5_luck_4 19 rfl rfl)
theorem dX5_luck_115 : decode cX5_luck 115 = .ok (.invokestatic 313, 3) := dk_184 1 57 (dk_at dksX5_luck_4 21 rfl rfl)
theorem dX5_luck_118 : decode cX5_luck 118 = .ok (.lreturn, 1) := dk_173 (dk_at dksX5_luck_5 0 rfl rfl)
abbrev cX5_see : ByteArray := prog_14_method_86_code
def yX5_see : MethodName := ⟨RX5, "see", "(II)I"⟩
def dkwX5_see_3 : List UInt8 := [180, 0, 7, 16, 42, 92, 46, 4, 96, 79, 42, 180, 0, 7, 16, 42, 46, 172]
abbrev dktX5_see_3 : List UInt8 := dkwX5_see_3 ++ []
def dkwX5_see_2 : List UInt8 := [96, 27, 79, 42, 180, 0, 7, 16, 43, 5, 42, 180, 0, 7, 16, 42, 46, 104, 96, 4, 96, 28, 79, 42]
abbrev dktX5_see_2 : List UInt8 := dkwX5_see_2 ++ dktX5_see_3
def dkwX5_see_1 : List UInt8 := [46, 16, 6, 160, 0, 6, 16, 253, 172, 42, 180, 0, 7, 16, 43, 5, 42, 180, 0, 7, 16, 42, 46, 104]
abbrev dktX5_see_1 : List UInt8 := dkwX5_see_1 ++ dktX5_see_2
def dkwX5_see_0 : List UInt8 := [42, 27, 182, 0, 237, 153, 0, 11, 42, 28, 182, 0, 237, 154, 0, 5, 2, 172, 42, 180, 0, 7, 16, 42]
abbrev dktX5_see_0 : List UInt8 := dkwX5_see_0 ++ dktX5_see_1
theorem dksX5_see_0 : cX5_see.data.toList.drop 0 = dktX5_see_0 := by decide +kernel
theorem dksX5_see_1 : cX5_see.data.toList.drop 24 = dktX5_see_1 := dk_seg dksX5_see_0 24 rfl rfl
theorem dksX5_see_2 : cX5_see.data.toList.drop 48 = dktX5_see_2 := dk_seg dksX5_see_1 24 rfl rfl
theorem dksX5_see_3 : cX5_see.data.toList.drop 72 = dktX5_see_3 := dk_seg dksX5_see_2 24 rfl rfl
theorem dX5_see_0 : decode cX5_see 0 = .ok (.aload_n 0, 1) := dk_42 (dk_at dksX5_see_0 0 rfl rfl)
theorem dX5_see_1 : decode cX5_see 1 = .ok (.iload_n 1, 1) := dk_27 (dk_at dksX5_see_0 1 rfl rfl)
theorem dX5_see_2 : decode cX5_see 2 = .ok (.invokevirtual 237, 3) := dk_182 0 237 (dk_at dksX5_see_0 2 rfl rfl)
theorem dX5_see_5 : decode cX5_see 5 = .ok (.ifCond .eq 11, 3) := dk_153 0 11 (dk_at dksX5_see_0 5 rfl rfl)
theorem dX5_see_8 : decode cX5_see 8 = .ok (.aload_n 0, 1) := dk_42 (dk_at dksX5_see_0 8 rfl rfl)
theorem dX5_see_9 : decode cX5_see 9 = .ok (.iload_n 2, 1) := dk_28 (dk_at dksX5_see_0 9 rfl rfl)
theorem dX5_see_10 : decode cX5_see 10 = .ok (.invokevirtual 237, 3) := dk_182 0 237 (dk_at dksX5_see_0 10 rfl rfl)
theorem dX5_see_13 : decode cX5_see 13 = .ok (.ifCond .ne 5, 3) := dk_154 0 5 (dk_at dksX5_see_0 13 rfl rfl)
theorem dX5_see_16 : decode cX5_see 16 = .ok (.iconst (-1), 1) := dk_2 (dk_at dksX5_see_0 16 rfl rfl)
theorem dX5_see_17 : decode cX5_see 17 = .ok (.ireturn, 1) := dk_172 (dk_at dksX5_see_0 17 rfl rfl)
theorem dX5_see_18 : decode cX5_see 18 = .ok (.aload_n 0, 1) := dk_42 (dk_at dksX5_see_0 18 rfl rfl)
theorem dX5_see_19 : decode cX5_see 19 = .ok (.getfield 7, 3) := dk_180 0 7 (dk_at dksX5_see_0 19 rfl rfl)
theorem dX5_see_22 : decode cX5_see 22 = .ok (.bipush 42, 2) := dk_16 42 (dk_at dksX5_see_0 22 rfl rfl)
theorem dX5_see_24 : decode cX5_see 24 = .ok (.iaload, 1) := dk_46 (dk_at dksX5_see_1 0 rfl rfl)
theorem dX5_see_25 : decode cX5_see 25 = .ok (.bipush 6, 2) := dk_16 6 (dk_at dksX5_see_1 1 rfl rfl)
theorem dX5_see_27 : decode cX5_see 27 = .ok (.if_icmp .ne 6, 3) := dk_160 0 6 (dk_at dksX5_see_1 3 rfl rfl)
theorem dX5_see_30 : decode cX5_see 30 = .ok (.bipush (-3), 2) := dk_16 253 (dk_at dksX5_see_1 6 rfl rfl)
theorem dX5_see_32 : decode cX5_see 32 = .ok (.ireturn, 1) := dk_172 (dk_at dksX5_see_1 8 rfl rfl)
theorem dX5_see_33 : decode cX5_see 33 = .ok (.aload_n 0, 1) := dk_42 (dk_at dksX5_see_1 9 rfl rfl)
theorem dX5_see_34 : decode cX5_see 34 = .ok (.getfield 7, 3) := dk_180 0 7 (dk_at dksX5_see_1 10 rfl rfl)
theorem dX5_see_37 : decode cX5_see 37 = .ok (.bipush 43, 2) := dk_16 43 (dk_at dksX5_see_1 13 rfl rfl)
theorem dX5_see_39 : decode cX5_see 39 = .ok (.iconst 2, 1) := dk_5 (dk_at dksX5_see_1 15 rfl rfl)
theorem dX5_see_40 : decode cX5_see 40 = .ok (.aload_n 0, 1) := dk_42 (dk_at dksX5_see_1 16 rfl rfl)
theorem dX5_see_41 : decode cX5_see 41 = .ok (.getfield 7, 3) := dk_180 0 7 (dk_at dksX5_see_1 17 rfl rfl)
theorem dX5_see_44 : decode cX5_see 44 = .ok (.bipush 42, 2) := dk_16 42 (dk_at dksX5_see_1 20 rfl rfl)
theorem dX5_see_46 : decode cX5_see 46 = .ok (.iaload, 1) := dk_46 (dk_at dksX5_see_1 22 rfl rfl)
theorem dX5_see_47 : decode cX5_see 47 = .ok (.imul, 1) := dk_104 (dk_at dksX5_see_1 23 rfl rfl)
theorem dX5_see_48 : decode cX5_see 48 = .ok (.iadd, 1) := dk_96 (dk_at dksX5_see_2 0 rfl rfl)
theorem dX5_see_49 : decode cX5_see 49 = .ok (.iload_n 1, 1) := dk_27 (dk_at dksX5_see_2 1 rfl rfl)
theorem dX5_see_50 : decode cX5_see 50 = .ok (.iastore, 1) := dk_79 (dk_at dksX5_see_2 2 rfl rfl)
theorem dX5_see_51 : decode cX5_see 51 = .ok (.aload_n 0, 1) := dk_42 (dk_at dksX5_see_2 3 rfl rfl)
theorem dX5_see_52 : decode cX5_see 52 = .ok (.getfield 7, 3) := dk_180 0 7 (dk_at dksX5_see_2 4 rfl rfl)
theorem dX5_see_55 : decode cX5_see 55 = .ok (.bipush 43, 2) := dk_16 43 (dk_at dksX5_see_2 7 rfl rfl)
theorem dX5_see_57 : decode cX5_see 57 = .ok (.iconst 2, 1) := dk_5 (dk_at dksX5_see_2 9 rfl rfl)
theorem dX5_see_58 : decode cX5_see 58 = .ok (.aload_n 0, 1) := dk_42 (dk_at dksX5_see_2 10 rfl rfl)
theorem dX5_see_59 : decode cX5_see 59 = .ok (.getfield 7, 3) := dk_180 0 7 (dk_at dksX5_see_2 11 rfl rfl)
theorem dX5_see_62 : decode cX5_see 62 = .ok (.bipush 42, 2) := dk_16 42 (dk_at dksX5_see_2 14 rfl rfl)
theorem dX5_see_64 : decode cX5_see 64 = .ok (.iaload, 1) := dk_46 (dk_at dksX5_see_2 16 rfl rfl)
theorem dX5_see_65 : decode cX5_see 65 = .ok (.imul, 1) := dk_104 (dk_at dksX5_see_2 17 rfl rfl)
theorem dX5_see_66 : decode cX5_see 66 = .ok (.iadd, 1) := dk_96 (dk_at dksX5_see_2 18 rfl rfl)
theorem dX5_see_67 : decode cX5_see 67 = .ok (.iconst 1, 1) := dk_4 (dk_at dksX5_see_2 19 rfl rfl)
theorem dX5_see_68 : decode cX5_see 68 = .ok (.iadd, 1) := dk_96 (dk_at dksX5_see_2 20 rfl rfl)
theorem dX5_see_69 : decode cX5_see 69 = .ok (.iload_n 2, 1) := dk_28 (dk_at dksX5_see_2 21 rfl rfl)
theorem dX5_see_70 : decode cX5_see 70 = .ok (.iastore, 1) := dk_79 (dk_at dksX5_see_2 22 rfl rfl)
theorem dX5_see_71 : decode cX5_see 71 = .ok (.aload_n 0, 1) := dk_42 (dk_at dksX5_see_2 23 rfl rfl)
theorem dX5_see_72 : decode cX5_see 72 = .ok (.getfield 7, 3) := dk_180 0 7 (dk_at dksX5_see_3 0 rfl rfl)
theorem dX5_see_75 : decode cX5_see 75 = .ok (.bipush 42, 2) := dk_16 42 (dk_at dksX5_see_3 3 rfl rfl)
theorem dX5_see_77 : decode cX5_see 77 = .ok (.dup2, 1) := dk_92 (dk_at dksX5_see_3 5 rfl rfl)
theorem dX5_see_78 : decode cX5_see 78 = .ok (.iaload, 1) := dk_46 (dk_at dksX5_see_3 6 rfl rfl)
theorem dX5_see_79 : decode cX5_see 79 = .ok (.iconst 1, 1) := dk_4 (dk_at dksX5_see_3 7 rfl rfl)
theorem dX5_see_80 : decode cX5_see 80 = .ok (.iadd, 1) := dk_96 (dk_at dksX5_see_3 8 rfl rfl)
theorem dX5_see_81 : decode cX5_see 81 = .ok (.iastore, 1) := dk_79 (dk_at dksX5_see_3 9 rfl rfl)
theorem dX5_see_82 : decode cX5_see 82 = .ok (.aload_n 0, 1) := dk_42 (dk_at dksX5_see_3 10 rfl rfl)
theorem dX5_see_83 : decode cX5_see 83 = .ok (.getfield 7, 3) := dk_180 0 7 (dk_at dksX5_see_3 11 rfl rfl)
theorem dX5_see_86 : decode cX5_see 86 = .ok (.bipush 42, 2) := dk_16 42 (dk_at dksX5_see_3 14 rfl rfl)
theorem dX5_see_88 : decode cX5_see 88 = .ok (.iaload, 1) := dk_46 (dk_at dksX5_see_3 16 rfl rfl)
theorem dX5_see_89 : decode cX5_see 89 = .ok (.ireturn, 1) := dk_172 (dk_at dksX5_see_3 17 rfl rfl)
abbrev cX5_forget : ByteArray := prog_14_method_87_code
def yX5_forget : MethodName := ⟨RX5, "forget", "(I)I"⟩
def dkwX5_forget_1 : List UInt8 := [167, 0, 4, 2, 172]
abbrev dktX5_forget_1 : List UInt8 := dkwX5_forget_1 ++ []
def dkwX5_forget_0 : List UInt8 := [27, 133, 9, 42, 180, 0, 7, 16, 42, 46, 133, 184, 0, 74, 153, 0, 13, 42, 16, 42, 27, 182, 0, 245]
abbrev dktX5_forget_0 : List UInt8 := dkwX5_forget_0 ++ dktX5_forget_1
theorem dksX5_forget_0 : cX5_forget.data.toList.drop 0 = dktX5_forget_0 := by decide +kernel
theorem dksX5_forget_1 : cX5_forget.data.toList.drop 24 = dktX5_forget_1 := dk_seg dksX5_forget_0 24 rfl rfl
theorem dX5_forget_0 : decode cX5_forget 0 = .ok (.iload_n 1, 1) := dk_27 (dk_at dksX5_forget_0 0 rfl rfl)
theorem dX5_forget_1 : decode cX5_forget 1 = .ok (.i2l, 1) := dk_133 (dk_at dksX5_forget_0 1 rfl rfl)
theorem dX5_forget_2 : decode cX5_forget 2 = .ok (.lconst 0, 1) := dk_9 (dk_at dksX5_forget_0 2 rfl rfl)
theorem dX5_forget_3 : decode cX5_forget 3 = .ok (.aload_n 0, 1) := dk_42 (dk_at dksX5_forget_0 3 rfl rfl)
theorem dX5_forget_4 : decode cX5_forget 4 = .ok (.getfield 7, 3) := dk_180 0 7 (dk_at dksX5_forget_0 4 rfl rfl)
theorem dX5_forget_7 : decode cX5_forget 7 = .ok (.bipush 42, 2) := dk_16 42 (dk_at dksX5_forget_0 7 rfl rfl)
theorem dX5_forget_9 : decode cX5_forget 9 = .ok (.iaload, 1) := dk_46 (dk_at dksX5_forget_0 9 rfl rfl)
theorem dX5_forget_10 : decode cX5_forget 10 = .ok (.i2l, 1) := dk_133 (dk_at dksX5_forget_0 10 rfl rfl)
theorem dX5_forget_11 : decode cX5_forget 11 = .ok (.invokestatic 74, 3) := dk_184 0 74 (dk_at dksX5_forget_0 11 rfl rfl)
theorem dX5_forget_14 : decode cX5_forget 14 = .ok (.ifCond .eq 13, 3) := dk_153 0 13 (dk_at dksX5_forget_0 14 rfl rfl)
theorem dX5_forget_17 : decode cX5_forget 17 = .ok (.aload_n 0, 1) := dk_42 (dk_at dksX5_forget_0 17 rfl rfl)
theorem dX5_forget_18 : decode cX5_forget 18 = .ok (.bipush 42, 2) := dk_16 42 (dk_at dksX5_forget_0 18 rfl rfl)
theorem dX5_forget_20 : decode cX5_forget 20 = .ok (.iload_n 1, 1) := dk_27 (dk_at dksX5_forget_0 20 rfl rfl)
theorem dX5_forget_21 : decode cX5_forget 21 = .ok (.invokevirtual 245, 3) := dk_182 0 245 (dk_at dksX5_forget_0 21 rfl rfl)
theorem dX5_forget_24 : decode cX5_forget 24 = .ok (.goto 4, 3) := dk_167 0 4 (dk_at dksX5_forget_1 0 rfl rfl)
theorem dX5_forget_27 : decode cX5_forget 27 = .ok (.iconst (-1), 1) := dk_2 (dk_at dksX5_forget_1 3 rfl rfl)
theorem dX5_forget_28 : decode cX5_forget 28 = .ok (.ireturn, 1) := dk_172 (dk_at dksX5_forget_1 4 rfl rfl)
abbrev cX5_fits : ByteArray := prog_14_method_89_code
def yX5_fits : MethodName := ⟨RX5, "fits", "(I)I"⟩
def dkwX5_fits_6 : List UInt8 := [172]
abbrev dktX5_fits_6 : List UInt8 := dkwX5_fits_6 ++ []
def dkwX5_fits_5 : List UInt8 := [154, 0, 8, 16, 252, 167, 0, 19, 27, 5, 160, 0, 8, 21, 5, 167, 0, 9, 28, 21, 6, 2, 130, 126]
abbrev dktX5_fits_5 : List UInt8 := dkwX5_fits_5 ++ dktX5_fits_6
def dkwX5_fits_4 : List UInt8 := [132, 7, 1, 167, 255, 195, 27, 5, 162, 0, 14, 27, 154, 0, 7, 29, 167, 0, 5, 21, 4, 172, 29]
abbrev dktX5_fits_4 : List UInt8 := dkwX5_fits_4 ++ dktX5_fits_5
def dkwX5_fits_3 : List UInt8 := [128, 54, 4, 21, 5, 21, 8, 126, 54, 5, 21, 6, 21, 8, 128, 54, 6, 132, 8, 1, 167, 255, 210]
abbrev dktX5_fits_3 : List UInt8 := dkwX5_fits_3 ++ dktX5_fits_4
def dkwX5_fits_2 : List UInt8 := [28, 163, 0, 46, 42, 21, 7, 21, 8, 182, 1, 61, 153, 0, 29, 132, 3, 1, 21, 4, 4, 21, 7, 120]
abbrev dktX5_fits_2 : List UInt8 := dkwX5_fits_2 ++ dktX5_fits_3
def dkwX5_fits_1 : List UInt8 := [62, 3, 54, 4, 28, 54, 5, 3, 54, 6, 3, 54, 7, 21, 7, 8, 162, 0, 61, 3, 54, 8, 21, 8]
abbrev dktX5_fits_1 : List UInt8 := dkwX5_fits_1 ++ dktX5_fits_2
def dkwX5_fits_0 : List UInt8 := [27, 133, 9, 20, 0, 250, 184, 0, 74, 154, 0, 5, 2, 172, 4, 42, 180, 0, 69, 120, 4, 100, 61, 3]
abbrev dktX5_fits_0 : List UInt8 := dkwX5_fits_0 ++ dktX5_fits_1
theorem dksX5_fits_0 : cX5_fits.data.toList.drop 0 = dktX5_fits_0 := by decide +kernel
theorem dksX5_fits_1 : cX5_fits.data.toList.drop 24 = dktX5_fits_1 := dk_seg dksX5_fits_0 24 rfl rfl
theorem dksX5_fits_2 : cX5_fits.data.toList.drop 48 = dktX5_fits_2 := dk_seg dksX5_fits_1 24 rfl rfl
theorem dksX5_fits_3 : cX5_fits.data.toList.drop 72 = dktX5_fits_3 := dk_seg dksX5_fits_2 24 rfl rfl
theorem dksX5_fits_4 : cX5_fits.data.toList.drop 95 = dktX5_fits_4 := dk_seg dksX5_fits_3 23 rfl rfl
theorem dksX5_fits_5 : cX5_fits.data.toList.drop 118 = dktX5_fits_5 := dk_seg dksX5_fits_4 23 rfl rfl
theorem dksX5_fits_6 : cX5_fits.data.toList.drop 142 = dktX5_fits_6 := dk_seg dksX5_fits_5 24 rfl rfl
theorem dX5_fits_0 : decode cX5_fits 0 = .ok (.iload_n 1, 1) := dk_27 (dk_at dksX5_fits_0 0 rfl rfl)
theorem dX5_fits_1 : decode cX5_fits 1 = .ok (.i2l, 1) := dk_133 (dk_at dksX5_fits_0 1 rfl rfl)
theorem dX5_fits_2 : decode cX5_fits 2 = .ok (.lconst 0, 1) := dk_9 (dk_at dksX5_fits_0 2 rfl rfl)
theorem dX5_fits_3 : decode cX5_fits 3 = .ok (.ldc2_w 250, 3) := dk_20 0 250 (dk_at dksX5_fits_0 3 rfl rfl)
theorem dX5_fits_6 : decode cX5_fits 6 = .ok (.invokestatic 74, 3) := dk_184 0 74 (dk_at dksX5_fits_0 6 rfl rfl)
theorem dX5_fits_9 : decode cX5_fits 9 = .ok (.ifCond .ne 5, 3) := dk_154 0 5 (dk_at dksX5_fits_0 9 rfl rfl)
theorem dX5_fits_12 : decode cX5_fits 12 = .ok (.iconst (-1), 1) := dk_2 (dk_at dksX5_fits_0 12 rfl rfl)
theorem dX5_fits_13 : decode cX5_fits 13 = .ok (.ireturn, 1) := dk_172 (dk_at dksX5_fits_0 13 rfl rfl)
theorem dX5_fits_14 : decode cX5_fits 14 = .ok (.iconst 1, 1) := dk_4 (dk_at dksX5_fits_0 14 rfl rfl)
theorem dX5_fits_15 : decode cX5_fits 15 = .ok (.aload_n 0, 1) := dk_42 (dk_at dksX5_fits_0 15 rfl rfl)
theorem dX5_fits_16 : decode cX5_fits 16 = .ok (.getfield 69, 3) := dk_180 0 69 (dk_at dksX5_fits_0 16 rfl rfl)
theorem dX5_fits_19 : decode cX5_fits 19 = .ok (.ishl, 1) := dk_120 (dk_at dksX5_fits_0 19 rfl rfl)
theorem dX5_fits_20 : decode cX5_fits 20 = .ok (.iconst 1, 1) := dk_4 (dk_at dksX5_fits_0 20 rfl rfl)
theorem dX5_fits_21 : decode cX5_fits 21 = .ok (.isub, 1) := dk_100 (dk_at dksX5_fits_0 21 rfl rfl)
theorem dX5_fits_22 : decode cX5_fits 22 = .ok (.istore_n 2, 1) := dk_61 (dk_at dksX5_fits_0 22 rfl rfl)
theorem dX5_fits_23 : decode cX5_fits 23 = .ok (.iconst 0, 1) := dk_3 (dk_at dksX5_fits_0 23 rfl rfl)
theorem dX5_fits_24 : decode cX5_fits 24 = .ok (.istore_n 3, 1) := dk_62 (dk_at dksX5_fits_1 0 rfl rfl)
theorem dX5_fits_25 : decode cX5_fits 25 = .ok (.iconst 0, 1) := dk_3 (dk_at dksX5_fits_1 1 rfl rfl)
theorem dX5_fits_26 : decode cX5_fits 26 = .ok (.istore 4, 2) := dk_54 4 (dk_at dksX5_fits_1 2 rfl rfl)
theorem dX5_fits_28 : decode cX5_fits 28 = .ok (.iload_n 2, 1) := dk_28 (dk_at dksX5_fits_1 4 rfl rfl)
theorem dX5_fits_29 : decode cX5_fits 29 = .ok (.istore 5, 2) := dk_54 5 (dk_at dksX5_fits_1 5 rfl rfl)
theorem dX5_fits_31 : decode cX5_fits 31 = .ok (.iconst 0, 1) := dk_3 (dk_at dksX5_fits_1 7 rfl rfl)
theorem dX5_fits_32 : decode cX5_fits 32 = .ok (.istore 6, 2) := dk_54 6 (dk_at dksX5_fits_1 8 rfl rfl)
theorem dX5_fits_34 : decode cX5_fits 34 = .ok (.iconst 0, 1) := dk_3 (dk_at dksX5_fits_1 10 rfl rfl)
theorem dX5_fits_35 : decode cX5_fits 35 = .ok (.istore 7, 2) := dk_54 7 (dk_at dksX5_fits_1 11 rfl rfl)
theorem dX5_fits_37 : decode cX5_fits 37 = .ok (.iload 7, 2) := dk_21 7 (dk_at dksX5_fits_1 13 rfl rfl)
theorem dX5_fits_39 : decode cX5_fits 39 = .ok (.iconst 5, 1) := dk_8 (dk_at dksX5_fits_1 15 rfl rfl)
theorem dX5_fits_40 : decode cX5_fits 40 = .ok (.if_icmp .ge 61, 3) := dk_162 0 61 (dk_at dksX5_fits_1 16 rfl rfl)
theorem dX5_fits_43 : decode cX5_fits 43 = .ok (.iconst 0, 1) := dk_3 (dk_at dksX5_fits_1 19 rfl rfl)
theorem dX5_fits_44 : decode cX5_fits 44 = .ok (.istore 8, 2) := dk_54 8 (dk_at dksX5_fits_1 20 rfl rfl)
theorem dX5_fits_46 : decode cX5_fits 46 = .ok (.iload 8, 2) := dk_21 8 (dk_at dksX5_fits_1 22 rfl rfl)
theorem dX5_fits_48 : decode cX5_fits 48 = .ok (.iload_n 2, 1) := dk_28 (dk_at dksX5_fits_2 0 rfl rfl)
theorem dX5_fits_49 : decode cX5_fits 49 = .ok (.if_icmp .gt 46, 3) := dk_163 0 46 (dk_at dksX5_fits_2 1 rfl rfl)
theorem dX5_fits_52 : decode cX5_fits 52 = .ok (.aload_n 0, 1) := dk_42 (dk_at dksX5_fits_2 4 rfl rfl)
theorem dX5_fits_53 : decode cX5_fits 53 = .ok (.iload 7, 2) := dk_21 7 (dk_at dksX5_fits_2 5 rfl rfl)
theorem dX5_fits_55 : decode cX5_fits 55 = .ok (.iload 8, 2) := dk_21 8 (dk_at dksX5_fits_2 7 rfl rfl)
theorem dX5_fits_57 : decode cX5_fits 57 = .ok (.invokevirtual 317, 3) := dk_182 1 61 (dk_at dksX5_fits_2 9 rfl rfl)
theorem dX5_fits_60 : decode cX5_fits 60 = .ok (.ifCond .eq 29, 3) := dk_153 0 29 (dk_at dksX5_fits_2 12 rfl rfl)
theorem dX5_fits_63 : decode cX5_fits 63 = .ok (.iinc 3 1, 3) := dk_132 3 1 (dk_at dksX5_fits_2 15 rfl rfl)
theorem dX5_fits_66 : decode cX5_fits 66 = .ok (.iload 4, 2) := dk_21 4 (dk_at dksX5_fits_2 18 rfl rfl)
theorem dX5_fits_68 : decode cX5_fits 68 = .ok (.iconst 1, 1) := dk_4 (dk_at dksX5_fits_2 20 rfl rfl)
theorem dX5_fits_69 : decode cX5_fits 69 = .ok (.iload 7, 2) := dk_21 7 (dk_at dksX5_fits_2 21 rfl rfl)
theorem dX5_fits_71 : decode cX5_fits 71 = .ok (.ishl, 1) := dk_120 (dk_at dksX5_fits_2 23 rfl rfl)
theorem dX5_fits_72 : decode cX5_fits 72 = .ok (.ior, 1) := dk_128 (dk_at dksX5_fits_3 0 rfl rfl)
theorem dX5_fits_73 : decode cX5_fits 73 = .ok (.istore 4, 2) := dk_54 4 (dk_at dksX5_fits_3 1 rfl rfl)
theorem dX5_fits_75 : decode cX5_fits 75 = .ok (.iload 5, 2) := dk_21 5 (dk_at dksX5_fits_3 3 rfl rfl)
theorem dX5_fits_77 : decode cX5_fits 77 = .ok (.iload 8, 2) := dk_21 8 (dk_at dksX5_fits_3 5 rfl rfl)
theorem dX5_fits_79 : decode cX5_fits 79 = .ok (.iand, 1) := dk_126 (dk_at dksX5_fits_3 7 rfl rfl)
theorem dX5_fits_80 : decode cX5_fits 80 = .ok (.istore 5, 2) := dk_54 5 (dk_at dksX5_fits_3 8 rfl rfl)
theorem dX5_fits_82 : decode cX5_fits 82 = .ok (.iload 6, 2) := dk_21 6 (dk_at dksX5_fits_3 10 rfl rfl)
theorem dX5_fits_84 : decode cX5_fits 84 = .ok (.iload 8, 2) := dk_21 8 (dk_at dksX5_fits_3 12 rfl rfl)
theorem dX5_fits_86 : decode cX5_fits 86 = .ok (.ior, 1) := dk_128 (dk_at dksX5_fits_3 14 rfl rfl)
theorem dX5_fits_87 : decode cX5_fits 87 = .ok (.istore 6, 2) := dk_54 6 (dk_at dksX5_fits_3 15 rfl rfl)
theorem dX5_fits_89 : decode cX5_fits 89 = .ok (.iinc 8 1, 3) := dk_132 8 1 (dk_at dksX5_fits_3 17 rfl rfl)
theorem dX5_fits_92 : decode cX5_fits 92 = .ok (.goto (-46), 3) := dk_167 255 210 (dk_at dksX5_fits_3 20 rfl rfl)
theorem dX5_fits_95 : decode cX5_fits 95 = .ok (.iinc 7 1, 3) := dk_132 7 1 (dk_at dksX5_fits_4 0 rfl rfl)
theorem dX5_fits_98 : decode cX5_fits 98 = .ok (.goto (-61), 3) := dk_167 255 195 (dk_at dksX5_fits_4 3 rfl rfl)
theorem dX5_fits_101 : decode cX5_fits 101 = .ok (.iload_n 1, 1) := dk_27 (dk_at dksX5_fits_4 6 rfl rfl)
theorem dX5_fits_102 : decode cX5_fits 102 = .ok (.iconst 2, 1) := dk_5 (dk_at dksX5_fits_4 7 rfl rfl)
theorem dX5_fits_103 : decode cX5_fits 103 = .ok (.if_icmp .ge 14, 3) := dk_162 0 14 (dk_at dksX5_fits_4 8 rfl rfl)
theorem dX5_fits_106 : decode cX5_fits 106 = .ok (.iload_n 1, 1) := dk_27 (dk_at dksX5_fits_4 11 rfl rfl)
theorem dX5_fits_107 : decode cX5_fits 107 = .ok (.ifCond .ne 7, 3) := dk_154 0 7 (dk_at dksX5_fits_4 12 rfl rfl)
theorem dX5_fits_110 : decode cX5_fits 110 = .ok (.iload_n 3, 1) := dk_29 (dk_at dksX5_fits_4 15 rfl rfl)
theorem dX5_fits_111 : decode cX5_fits 111 = .ok (.goto 5, 3) := dk_167 0 5 (dk_at dksX5_fits_4 16 rfl rfl)
theorem dX5_fits_114 : decode cX5_fits 114 = .ok (.iload 4, 2) := dk_21 4 (dk_at dksX5_fits_4 19 rfl rfl)
theorem dX5_fits_116 : decode cX5_fits 116 = .ok (.ireturn, 1) := dk_172 (dk_at dksX5_fits_4 21 rfl rfl)
theorem dX5_fits_117 : decode cX5_fits 117 = .ok (.iload_n 3, 1) := dk_29 (dk_at dksX5_fits_4 22 rfl rfl)
theorem dX5_fits_118 : decode cX5_fits 118 = .ok (.ifCond .ne 8, 3) := dk_154 0 8 (dk_at dksX5_fits_5 0 rfl rfl)
theorem dX5_fits_121 : decode cX5_fits 121 = .ok (.bipush (-4), 2) := dk_16 252 (dk_at dksX5_fits_5 3 rfl rfl)
theorem dX5_fits_123 : decode cX5_fits 123 = .ok (.goto 19, 3) := dk_167 0 19 (dk_at dksX5_fits_5 5 rfl rfl)
theorem dX5_fits_126 : decode cX5_fits 126 = .ok (.iload_n 1, 1) := dk_27 (dk_at dksX5_fits_5 8 rfl rfl)
theorem dX5_fits_127 : decode cX5_fits 127 = .ok (.iconst 2, 1) := dk_5 (dk_at dksX5_fits_5 9 rfl rfl)
theorem dX5_fits_128 : decode cX5_fits 128 = .ok (.if_icmp .ne 8, 3) := dk_160 0 8 (dk_at dksX5_fits_5 10 rfl rfl)
theorem dX5_fits_131 : decode cX5_fits 131 = .ok (.iload 5, 2) := dk_21 5 (dk_at dksX5_fits_5 13 rfl rfl)
theorem dX5_fits_133 : decode cX5_fits 133 = .ok (.goto 9, 3) := dk_167 0 9 (dk_at dksX5_fits_5 15 rfl rfl)
theorem dX5_fits_136 : decode cX5_fits 136 = .ok (.iload_n 2, 1) := dk_28 (dk_at dksX5_fits_5 18 rfl rfl)
theorem dX5_fits_137 : decode cX5_fits 137 = .ok (.iload 6, 2) := dk_21 6 (dk_at dksX5_fits_5 19 rfl rfl)
theorem dX5_fits_139 : decode cX5_fits 139 = .ok (.iconst (-1), 1) := dk_2 (dk_at dksX5_fits_5 21 rfl rfl)
theorem dX5_fits_140 : decode cX5_fits 140 = .ok (.ixor, 1) := dk_130 (dk_at dksX5_fits_5 22 rfl rfl)
theorem dX5_fits_141 : decode cX5_fits 141 = .ok (.iand, 1) := dk_126 (dk_at dksX5_fits_5 23 rfl rfl)
theorem dX5_fits_142 : decode cX5_fits 142 = .ok (.ireturn, 1) := dk_172 (dk_at dksX5_fits_6 0 rfl rfl)
abbrev cX5_isSo : ByteArray := prog_14_method_88_code
def yX5_isSo : MethodName := ⟨RX5, "isSo", "(II)Z"⟩
def dkwX5_isSo_3 : List UInt8 := [96, 46, 160, 0, 7, 4, 167, 0, 4, 3, 62, 132, 4, 1, 167, 255, 197, 29, 172]
abbrev dktX5_isSo_3 : List UInt8 := dkwX5_isSo_3 ++ []
def dkwX5_isSo_2 : List UInt8 := [180, 0, 7, 16, 43, 5, 21, 4, 104, 96, 46, 46, 42, 180, 0, 7, 16, 43, 5, 21, 4, 104, 96, 4]
abbrev dktX5_isSo_2 : List UInt8 := dkwX5_isSo_2 ++ dktX5_isSo_3
def dkwX5_isSo_1 : List UInt8 := [54, 4, 21, 4, 42, 180, 0, 7, 16, 42, 46, 162, 0, 53, 29, 153, 0, 41, 42, 180, 0, 26, 42]
abbrev dktX5_isSo_1 : List UInt8 := dkwX5_isSo_1 ++ dktX5_isSo_2
def dkwX5_isSo_0 : List UInt8 := [4, 62, 42, 182, 0, 228, 42, 180, 0, 13, 6, 27, 79, 42, 28, 182, 1, 32, 42, 182, 0, 231, 3]
abbrev dktX5_isSo_0 : List UInt8 := dkwX5_isSo_0 ++ dktX5_isSo_1
theorem dksX5_isSo_0 : cX5_isSo.data.toList.drop 0 = dktX5_isSo_0 := by decide +kernel
theorem dksX5_isSo_1 : cX5_isSo.data.toList.drop 23 = dktX5_isSo_1 := dk_seg dksX5_isSo_0 23 rfl rfl
theorem dksX5_isSo_2 : cX5_isSo.data.toList.drop 46 = dktX5_isSo_2 := dk_seg dksX5_isSo_1 23 rfl rfl
theorem dksX5_isSo_3 : cX5_isSo.data.toList.drop 70 = dktX5_isSo_3 := dk_seg dksX5_isSo_2 24 rfl rfl
theorem dX5_isSo_0 : decode cX5_isSo 0 = .ok (.iconst 1, 1) := dk_4 (dk_at dksX5_isSo_0 0 rfl rfl)
theorem dX5_isSo_1 : decode cX5_isSo 1 = .ok (.istore_n 3, 1) := dk_62 (dk_at dksX5_isSo_0 1 rfl rfl)
theorem dX5_isSo_2 : decode cX5_isSo 2 = .ok (.aload_n 0, 1) := dk_42 (dk_at dksX5_isSo_0 2 rfl rfl)
theorem dX5_isSo_3 : decode cX5_isSo 3 = .ok (.invokevirtual 228, 3) := dk_182 0 228 (dk_at dksX5_isSo_0 3 rfl rfl)
theorem dX5_isSo_6 : decode cX5_isSo 6 = .ok (.aload_n 0, 1) := dk_42 (dk_at dksX5_isSo_0 6 rfl rfl)
theorem dX5_isSo_7 : decode cX5_isSo 7 = .ok (.getfield 13, 3) := dk_180 0 13 (dk_at dksX5_isSo_0 7 rfl rfl)
theorem dX5_isSo_10 : decode cX5_isSo 10 = .ok (.iconst 3, 1) := dk_6 (dk_at dksX5_isSo_0 10 rfl rfl)
theorem dX5_isSo_11 : decode cX5_isSo 11 = .ok (.iload_n 1, 1) := dk_27 (dk_at dksX5_isSo_0 11 rfl rfl)
theorem dX5_isSo_12 : decode cX5_isSo 12 = .ok (.iastore, 1) := dk_79 (dk_at dksX5_isSo_0 12 rfl rfl)
theorem dX5_isSo_13 : decode cX5_isSo 13 = .ok (.aload_n 0, 1) := dk_42 (dk_at dksX5_isSo_0 13 rfl rfl)
theorem dX5_isSo_14 : decode cX5_isSo 14 = .ok (.iload_n 2, 1) := dk_28 (dk_at dksX5_isSo_0 14 rfl rfl)
theorem dX5_isSo_15 : decode cX5_isSo 15 = .ok (.invokevirtual 288, 3) := dk_182 1 32 (dk_at dksX5_isSo_0 15 rfl rfl)
theorem dX5_isSo_18 : decode cX5_isSo 18 = .ok (.aload_n 0, 1) := dk_42 (dk_at dksX5_isSo_0 18 rfl rfl)
theorem dX5_isSo_19 : decode cX5_isSo 19 = .ok (.invokevirtual 231, 3) := dk_182 0 231 (dk_at dksX5_isSo_0 19 rfl rfl)
theorem dX5_isSo_22 : decode cX5_isSo 22 = .ok (.iconst 0, 1) := dk_3 (dk_at dksX5_isSo_0 22 rfl rfl)
theorem dX5_isSo_23 : decode cX5_isSo 23 = .ok (.istore 4, 2) := dk_54 4 (dk_at dksX5_isSo_1 0 rfl rfl)
theorem dX5_isSo_25 : decode cX5_isSo 25 = .ok (.iload 4, 2) := dk_21 4 (dk_at dksX5_isSo_1 2 rfl rfl)
theorem dX5_isSo_27 : decode cX5_isSo 27 = .ok (.aload_n 0, 1) := dk_42 (dk_at dksX5_isSo_1 4 rfl rfl)
theorem dX5_isSo_28 : decode cX5_isSo 28 = .ok (.getfield 7, 3) := dk_180 0 7 (dk_at dksX5_isSo_1 5 rfl rfl)
theorem dX5_isSo_31 : decode cX5_isSo 31 = .ok (.bipush 42, 2) := dk_16 42 (dk_at dksX5_isSo_1 8 rfl rfl)
theorem dX5_isSo_33 : decode cX5_isSo 33 = .ok (.iaload, 1) := dk_46 (dk_at dksX5_isSo_1 10 rfl rfl)
theorem dX5_isSo_34 : decode cX5_isSo 34 = .ok (.if_icmp .ge 53, 3) := dk_162 0 53 (dk_at dksX5_isSo_1 11 rfl rfl)
theorem dX5_isSo_37 : decode cX5_isSo 37 = .ok (.iload_n 3, 1) := dk_29 (dk_at dksX5_isSo_1 14 rfl rfl)
theorem dX5_isSo_38 : decode cX5_isSo 38 = .ok (.ifCond .eq 41, 3) := dk_153 0 41 (dk_at dksX5_isSo_1 15 rfl rfl)
theorem dX5_isSo_41 : decode cX5_isSo 41 = .ok (.aload_n 0, 1) := dk_42 (dk_at dksX5_isSo_1 18 rfl rfl)
theorem dX5_isSo_42 : decode cX5_isSo 42 = .ok (.getfield 26, 3) := dk_180 0 26 (dk_at dksX5_isSo_1 19 rfl rfl)
theorem dX5_isSo_45 : decode cX5_isSo 45 = .ok (.aload_n 0, 1) := dk_42 (dk_at dksX5_isSo_1 22 rfl rfl)
theorem dX5_isSo_46 : decode cX5_isSo 46 = .ok (.getfield 7, 3) := dk_180 0 7 (dk_at dksX5_isSo_2 0 rfl rfl)
theorem dX5_isSo_49 : decode cX5_isSo 49 = .ok (.bipush 43, 2) := dk_16 43 (dk_at dksX5_isSo_2 3 rfl rfl)
theorem dX5_isSo_51 : decode cX5_isSo 51 = .ok (.iconst 2, 1) := dk_5 (dk_at dksX5_isSo_2 5 rfl rfl)
theorem dX5_isSo_52 : decode cX5_isSo 52 = .ok (.iload 4, 2) := dk_21 4 (dk_at dksX5_isSo_2 6 rfl rfl)
theorem dX5_isSo_54 : decode cX5_isSo 54 = .ok (.imul, 1) := dk_104 (dk_at dksX5_isSo_2 8 rfl rfl)
theorem dX5_isSo_55 : decode cX5_isSo 55 = .ok (.iadd, 1) := dk_96 (dk_at dksX5_isSo_2 9 rfl rfl)
theorem dX5_isSo_56 : decode cX5_isSo 56 = .ok (.iaload, 1) := dk_46 (dk_at dksX5_isSo_2 10 rfl rfl)
theorem dX5_isSo_57 : decode cX5_isSo 57 = .ok (.iaload, 1) := dk_46 (dk_at dksX5_isSo_2 11 rfl rfl)
theorem dX5_isSo_58 : decode cX5_isSo 58 = .ok (.aload_n 0, 1) := dk_42 (dk_at dksX5_isSo_2 12 rfl rfl)
theorem dX5_isSo_59 : decode cX5_isSo 59 = .ok (.getfield 7, 3) := dk_180 0 7 (dk_at dksX5_isSo_2 13 rfl rfl)
theorem dX5_isSo_62 : decode cX5_isSo 62 = .ok (.bipush 43, 2) := dk_16 43 (dk_at dksX5_isSo_2 16 rfl rfl)
theorem dX5_isSo_64 : decode cX5_isSo 64 = .ok (.iconst 2, 1) := dk_5 (dk_at dksX5_isSo_2 18 rfl rfl)
theorem dX5_isSo_65 : decode cX5_isSo 65 = .ok (.iload 4, 2) := dk_21 4 (dk_at dksX5_isSo_2 19 rfl rfl)
theorem dX5_isSo_67 : decode cX5_isSo 67 = .ok (.imul, 1) := dk_104 (dk_at dksX5_isSo_2 21 rfl rfl)
theorem dX5_isSo_68 : decode cX5_isSo 68 = .ok (.iadd, 1) := dk_96 (dk_at dksX5_isSo_2 22 rfl rfl)
theorem dX5_isSo_69 : decode cX5_isSo 69 = .ok (.iconst 1, 1) := dk_4 (dk_at dksX5_isSo_2 23 rfl rfl)
theorem dX5_isSo_70 : decode cX5_isSo 70 = .ok (.iadd, 1) := dk_96 (dk_at dksX5_isSo_3 0 rfl rfl)
theorem dX5_isSo_71 : decode cX5_isSo 71 = .ok (.iaload, 1) := dk_46 (dk_at dksX5_isSo_3 1 rfl rfl)
theorem dX5_isSo_72 : decode cX5_isSo 72 = .ok (.if_icmp .ne 7, 3) := dk_160 0 7 (dk_at dksX5_isSo_3 2 rfl rfl)
theorem dX5_isSo_75 : decode cX5_isSo 75 = .ok (.iconst 1, 1) := dk_4 (dk_at dksX5_isSo_3 5 rfl rfl)
theorem dX5_isSo_76 : decode cX5_isSo 76 = .ok (.goto 4, 3) := dk_167 0 4 (dk_at dksX5_isSo_3 6 rfl rfl)
theorem dX5_isSo_79 : decode cX5_isSo 79 = .ok (.iconst 0, 1) := dk_3 (dk_at dksX5_isSo_3 9 rfl rfl)
theorem dX5_isSo_80 : decode cX5_isSo 80 = .ok (.istore_n 3, 1) := dk_62 (dk_at dksX5_isSo_3 10 rfl rfl)
theorem dX5_isSo_81 : decode cX5_isSo 81 = .ok (.iinc 4 1, 3) := dk_132 4 1 (dk_at dksX5_isSo_3 11 rfl rfl)
theorem dX5_isSo_84 : decode cX5_isSo 84 = .ok (.goto (-59), 3) := dk_167 255 197 (dk_at dksX5_isSo_3 14 rfl rfl)
theorem dX5_isSo_87 : decode cX5_isSo 87 = .ok (.iload_n 3, 1) := dk_29 (dk_at dksX5_isSo_3 17 rfl rfl)
theorem dX5_isSo_88 : decode cX5_isSo 88 = .ok (.ireturn, 1) := dk_172 (dk_at dksX5_isSo_3 18 rfl rfl)
abbrev cX5_drift : ByteArray := prog_14_method_90_code
def yX5_drift : MethodName := ⟨RX5, "drift", "(III)I"⟩
def dkwX5_drift_5 : List UInt8 := [167, 255, 174, 21, 5, 172]
abbrev dktX5_drift_5 : List UInt8 := dkwX5_drift_5 ++ []
def dkwX5_drift_4 : List UInt8 := [21, 5, 29, 154, 0, 10, 42, 182, 0, 225, 167, 0, 7, 42, 180, 0, 178, 96, 54, 5, 132, 6, 1]
abbrev dktX5_drift_4 : List UInt8 := dkwX5_drift_4 ++ dktX5_drift_5
def dkwX5_drift_3 : List UInt8 := [16, 16, 122, 17, 127, 255, 126, 16, 40, 112, 182, 1, 18, 132, 7, 1, 167, 255, 213, 42, 182, 0, 231]
abbrev dktX5_drift_3 : List UInt8 := dkwX5_drift_3 ++ dktX5_drift_4
def dkwX5_drift_2 : List UInt8 := [180, 0, 69, 162, 0, 40, 21, 4, 19, 1, 67, 104, 17, 48, 57, 96, 54, 4, 42, 21, 7, 5, 21, 4]
abbrev dktX5_drift_2 : List UInt8 := dkwX5_drift_2 ++ dktX5_drift_3
def dkwX5_drift_1 : List UInt8 := [3, 54, 5, 42, 182, 0, 228, 3, 54, 6, 21, 6, 28, 162, 0, 82, 3, 54, 7, 21, 7, 42]
abbrev dktX5_drift_1 : List UInt8 := dkwX5_drift_1 ++ dktX5_drift_2
def dkwX5_drift_0 : List UInt8 := [28, 133, 10, 20, 1, 65, 184, 0, 74, 153, 0, 10, 29, 184, 1, 29, 154, 0, 5, 2, 172, 27, 54, 4]
abbrev dktX5_drift_0 : List UInt8 := dkwX5_drift_0 ++ dktX5_drift_1
theorem dksX5_drift_0 : cX5_drift.data.toList.drop 0 = dktX5_drift_0 := by decide +kernel
theorem dksX5_drift_1 : cX5_drift.data.toList.drop 24 = dktX5_drift_1 := dk_seg dksX5_drift_0 24 rfl rfl
theorem dksX5_drift_2 : cX5_drift.data.toList.drop 46 = dktX5_drift_2 := dk_seg dksX5_drift_1 22 rfl rfl
theorem dksX5_drift_3 : cX5_drift.data.toList.drop 70 = dktX5_drift_3 := dk_seg dksX5_drift_2 24 rfl rfl
theorem dksX5_drift_4 : cX5_drift.data.toList.drop 93 = dktX5_drift_4 := dk_seg dksX5_drift_3 23 rfl rfl
theorem dksX5_drift_5 : cX5_drift.data.toList.drop 116 = dktX5_drift_5 := dk_seg dksX5_drift_4 23 rfl rfl
theorem dX5_drift_0 : decode cX5_drift 0 = .ok (.iload_n 2, 1) := dk_28 (dk_at dksX5_drift_0 0 rfl rfl)
theorem dX5_drift_1 : decode cX5_drift 1 = .ok (.i2l, 1) := dk_133 (dk_at dksX5_drift_0 1 rfl rfl)
theorem dX5_drift_2 : decode cX5_drift 2 = .ok (.lconst 1, 1) := dk_10 (dk_at dksX5_drift_0 2 rfl rfl)
theorem dX5_drift_3 : decode cX5_drift 3 = .ok (.ldc2_w 321, 3) := dk_20 1 65 (dk_at dksX5_drift_0 3 rfl rfl)
theorem dX5_drift_6 : decode cX5_drift 6 = .ok (.invokestatic 74, 3) := dk_184 0 74 (dk_at dksX5_drift_0 6 rfl rfl)
theorem dX5_drift_9 : decode cX5_drift 9 = .ok (.ifCond .eq 10, 3) := dk_153 0 10 (dk_at dksX5_drift_0 9 rfl rfl)
theorem dX5_drift_12 : decode cX5_drift 12 = .ok (.iload_n 3, 1) := dk_29 (dk_at dksX5_drift_0 12 rfl rfl)
theorem dX5_drift_13 : decode cX5_drift 13 = .ok (.invokestatic 285, 3) := dk_184 1 29 (dk_at dksX5_drift_0 13 rfl rfl)
theorem dX5_drift_16 : decode cX5_drift 16 = .ok (.ifCond .ne 5, 3) := dk_154 0 5 (dk_at dksX5_drift_0 16 rfl rfl)
theorem dX5_drift_19 : decode cX5_drift 19 = .ok (.iconst (-1), 1) := dk_2 (dk_at dksX5_drift_0 19 rfl rfl)
theorem dX5_drift_20 : decode cX5_drift 20 = .ok (.ireturn, 1) := dk_172 (dk_at dksX5_drift_0 20 rfl rfl)
theorem dX5_drift_21 : decode cX5_drift 21 = .ok (.iload_n 1, 1) := dk_27 (dk_at dksX5_drift_0 21 rfl rfl)
theorem dX5_drift_22 : decode cX5_drift 22 = .ok (.istore 4, 2) := dk_54 4 (dk_at dksX5_drift_0 22 rfl rfl)
theorem dX5_drift_24 : decode cX5_drift 24 = .ok (.iconst 0, 1) := dk_3 (dk_at dksX5_drift_1 0 rfl rfl)
theorem dX5_drift_25 : decode cX5_drift 25 = .ok (.istore 5, 2) := dk_54 5 (dk_at dksX5_drift_1 1 rfl rfl)
theorem dX5_drift_27 : decode cX5_drift 27 = .ok (.aload_n 0, 1) := dk_42 (dk_at dksX5_drift_1 3 rfl rfl)
theorem dX5_drift_28 : decode cX5_drift 28 = .ok (.invokevirtual 228, 3) := dk_182 0 228 (dk_at dksX5_drift_1 4 rfl rfl)
theorem dX5_drift_31 : decode cX5_drift 31 = .ok (.iconst 0, 1) := dk_3 (dk_at dksX5_drift_1 7 rfl rfl)
theorem dX5_drift_32 : decode cX5_drift 32 = .ok (.istore 6, 2) := dk_54 6 (dk_at dksX5_drift_1 8 rfl rfl)
theorem dX5_drift_34 : decode cX5_drift 34 = .ok (.iload 6, 2) := dk_21 6 (dk_at dksX5_drift_1 10 rfl rfl)
theorem dX5_drift_36 : decode cX5_drift 36 = .ok (.iload_n 2, 1) := dk_28 (dk_at dksX5_drift_1 12 rfl rfl)
theorem dX5_drift_37 : decode cX5_drift 37 = .ok (.if_icmp .ge 82, 3) := dk_162 0 82 (dk_at dksX5_drift_1 13 rfl rfl)
theorem dX5_drift_40 : decode cX5_drift 40 = .ok (.iconst 0, 1) := dk_3 (dk_at dksX5_drift_1 16 rfl rfl)
theorem dX5_drift_41 : decode cX5_drift 41 = .ok (.istore 7, 2) := dk_54 7 (dk_at dksX5_drift_1 17 rfl rfl)
theorem dX5_drift_43 : decode cX5_drift 43 = .ok (.iload 7, 2) := dk_21 7 (dk_at dksX5_drift_1 19 rfl rfl)
theorem dX5_drift_45 : decode cX5_drift 45 = .ok (.aload_n 0, 1) := dk_42 (dk_at dksX5_drift_1 21 rfl rfl)
theorem dX5_drift_46 : decode cX5_drift 46 = .ok (.getfield 69, 3) := dk_180 0 69 (dk_at dksX5_drift_2 0 rfl rfl)
theorem dX5_drift_49 : decode cX5_drift 49 = .ok (.if_icmp .ge 40, 3) := dk_162 0 40 (dk_at dksX5_drift_2 3 rfl rfl)
theorem dX5_drift_52 : decode cX5_drift 52 = .ok (.iload 4, 2) := dk_21 4 (dk_at dksX5_drift_2 6 rfl rfl)
theorem dX5_drift_54 : decode cX5_drift 54 = .ok (.ldc_w 323, 3) := dk_19 1 67 (dk_at dksX5_drift_2 8 rfl rfl)
theorem dX5_drift_57 : decode cX5_drift 57 = .ok (.imul, 1) := dk_104 (dk_at dksX5_drift_2 11 rfl rfl)
theorem dX5_drift_58 : decode cX5_drift 58 = .ok (.sipush 12345, 3) := dk_17 48 57 (dk_at dksX5_drift_2 12 rfl rfl)
theorem dX5_drift_61 : decode cX5_drift 61 = .ok (.iadd, 1) := dk_96 (dk_at dksX5_drift_2 15 rfl rfl)
theorem dX5_drift_62 : decode cX5_drift 62 = .ok (.istore 4, 2) := dk_54 4 (dk_at dksX5_drift_2 16 rfl rfl)
theorem dX5_drift_64 : decode cX5_drift 64 = .ok (.aload_n 0, 1) := dk_42 (dk_at dksX5_drift_2 18 rfl rfl)
theorem dX5_drift_65 : decode cX5_drift 65 = .ok (.iload 7, 2) := dk_21 7 (dk_at dksX5_drift_2 19 rfl rfl)
theorem dX5_drift_67 : decode cX5_drift 67 = .ok (.iconst 2, 1) := dk_5 (dk_at dksX5_drift_2 21 rfl rfl)
theorem dX5_drift_68 : decode cX5_drift 68 = .ok (.iload 4, 2) := dk_21 4 (dk_at dksX5_drift_2 22 rfl rfl)
theorem dX5_drift_70 : decode cX5_drift 70 = .ok (.bipush 16, 2) := dk_16 16 (dk_at dksX5_drift_3 0 rfl rfl)
theorem dX5_drift_72 : decode cX5_drift 72 = .ok (.ishr, 1) := dk_122 (dk_at dksX5_drift_3 2 rfl rfl)
theorem dX5_drift_73 : decode cX5_drift 73 = .ok (.sipush 32767, 3) := dk_17 127 255 (dk_at dksX5_drift_3 3 rfl rfl)
theorem dX5_drift_76 : decode cX5_drift 76 = .ok (.iand, 1) := dk_126 (dk_at dksX5_drift_3 6 rfl rfl)
theorem dX5_drift_77 : decode cX5_drift 77 = .ok (.bipush 40, 2) := dk_16 40 (dk_at dksX5_drift_3 7 rfl rfl)
theorem dX5_drift_79 : decode cX5_drift 79 = .ok (.irem, 1) := dk_112 (dk_at dksX5_drift_3 9 rfl rfl)
theorem dX5_drift_80 : decode cX5_drift 80 = .ok (.invokevirtual 274, 3) := dk_182 1 18 (dk_at dksX5_drift_3 10 rfl rfl)
theorem dX5_drift_83 : decode cX5_drift 83 = .ok (.iinc 7 1, 3) := dk_132 7 1 (dk_at dksX5_drift_3 13 rfl rfl)
theorem dX5_drift_86 : decode cX5_drift 86 = .ok (.goto (-43), 3) := dk_167 255 213 (dk_at dksX5_drift_3 16 rfl rfl)
theorem dX5_drift_89 : decode cX5_drift 89 = .ok (.aload_n 0, 1) := dk_42 (dk_at dksX5_drift_3 19 rfl rfl)
theorem dX5_drift_90 : decode cX5_drift 90 = .ok (.invokevirtual 231, 3) := dk_182 0 231 (dk_at dksX5_drift_3 20 rfl rfl)
theorem dX5_drift_93 : decode cX5_drift 93 = .ok (.iload 5, 2) := dk_21 5 (dk_at dksX5_drift_4 0 rfl rfl)
theorem dX5_drift_95 : decode cX5_drift 95 = .ok (.iload_n 3, 1) := dk_29 (dk_at dksX5_drift_4 2 rfl rfl)
theorem dX5_drift_96 : decode cX5_drift 96 = .ok (.ifCond .ne 10, 3) := dk_154 0 10 (dk_at dksX5_drift_4 3 rfl rfl)
theorem dX5_drift_99 : decode cX5_drift 99 = .ok (.aload_n 0, 1) := dk_42 (dk_at dksX5_drift_4 6 rfl rfl)
theorem dX5_drift_100 : decode cX5_drift 100 = .ok (.invokevirtual 225, 3) := dk_182 0 225 (dk_at dksX5_drift_4 7 rfl rfl)
theorem dX5_drift_103 : decode cX5_drift 103 = .ok (.goto 7, 3) := dk_167 0 7 (dk_at dksX5_drift_4 10 rfl rfl)
theorem dX5_drift_106 : decode cX5_drift 106 = .ok (.aload_n 0, 1) := dk_42 (dk_at dksX5_drift_4 13 rfl rfl)
theorem dX5_drift_107 : decode cX5_drift 107 = .ok (.getfield 178, 3) := dk_180 0 178 (dk_at dksX5_drift_4 14 rfl rfl)
theorem dX5_drift_110 : decode cX5_drift 110 = .ok (.iadd, 1) := dk_96 (dk_at dksX5_drift_4 17 rfl rfl)
theorem dX5_drift_111 : decode cX5_drift 111 = .ok (.istore 5, 2) := dk_54 5 (dk_at dksX5_drift_4 18 rfl rfl)
theorem dX5_drift_113 : decode cX5_drift 113 = .ok (.iinc 6 1, 3) := dk_132 6 1 (dk_at dksX5_drift_4 20 rfl rfl)
theorem dX5_drift_116 : decode cX5_drift 116 = .ok (.goto (-82), 3) := dk_167 255 174 (dk_at dksX5_drift_5 0 rfl rfl)
theorem dX5_drift_119 : decode cX5_drift 119 = .ok (.iload 5, 2) := dk_21 5 (dk_at dksX5_drift_5 3 rfl rfl)
theorem dX5_drift_121 : decode cX5_drift 121 = .ok (.ireturn, 1) := dk_172 (dk_at dksX5_drift_5 5 rfl rfl)
abbrev cX5_keep : ByteArray := prog_14_method_92_code
def yX5_keep : MethodName := ⟨RX5, "keep", "(I)I"⟩
def dkwX5_keep_1 : List UInt8 := [180, 0, 16, 27, 4, 84, 42, 16, 55, 27, 4, 96, 104, 3, 182, 1, 68, 28, 172]
abbrev dktX5_keep_1 : List UInt8 := dkwX5_keep_1 ++ []
def dkwX5_keep_0 : List UInt8 := [27, 133, 9, 10, 184, 0, 74, 154, 0, 5, 2, 172, 42, 180, 0, 16, 27, 51, 184, 0, 184, 61, 42]
abbrev dktX5_keep_0 : List UInt8 := dkwX5_keep_0 ++ dktX5_keep_1
theorem dksX5_keep_0 : cX5_keep.data.toList.drop 0 = dktX5_keep_0 := by decide +kernel
theorem dksX5_keep_1 : cX5_keep.data.toList.drop 23 = dktX5_keep_1 := dk_seg dksX5_keep_0 23 rfl rfl
theorem dX5_keep_0 : decode cX5_keep 0 = .ok (.iload_n 1, 1) := dk_27 (dk_at dksX5_keep_0 0 rfl rfl)
theorem dX5_keep_1 : decode cX5_keep 1 = .ok (.i2l, 1) := dk_133 (dk_at dksX5_keep_0 1 rfl rfl)
theorem dX5_keep_2 : decode cX5_keep 2 = .ok (.lconst 0, 1) := dk_9 (dk_at dksX5_keep_0 2 rfl rfl)
theorem dX5_keep_3 : decode cX5_keep 3 = .ok (.lconst 1, 1) := dk_10 (dk_at dksX5_keep_0 3 rfl rfl)
theorem dX5_keep_4 : decode cX5_keep 4 = .ok (.invokestatic 74, 3) := dk_184 0 74 (dk_at dksX5_keep_0 4 rfl rfl)
theorem dX5_keep_7 : decode cX5_keep 7 = .ok (.ifCond .ne 5, 3) := dk_154 0 5 (dk_at dksX5_keep_0 7 rfl rfl)
theorem dX5_keep_10 : decode cX5_keep 10 = .ok (.iconst (-1), 1) := dk_2 (dk_at dksX5_keep_0 10 rfl rfl)
theorem dX5_keep_11 : decode cX5_keep 11 = .ok (.ireturn, 1) := dk_172 (dk_at dksX5_keep_0 11 rfl rfl)
theorem dX5_keep_12 : decode cX5_keep 12 = .ok (.aload_n 0, 1) := dk_42 (dk_at dksX5_keep_0 12 rfl rfl)
theorem dX5_keep_13 : decode cX5_keep 13 = .ok (.getfield 16, 3) := dk_180 0 16 (dk_at dksX5_keep_0 13 rfl rfl)
theorem dX5_keep_16 : decode cX5_keep 16 = .ok (.iload_n 1, 1) := dk_27 (dk_at dksX5_keep_0 16 rfl rfl)
theorem dX5_keep_17 : decode cX5_keep 17 = .ok (.baload, 1) := dk_51 (dk_at dksX5_keep_0 17 rfl rfl)
theorem dX5_keep_18 : decode cX5_keep 18 = .ok (.invokestatic 184, 3) := dk_184 0 184 (dk_at dksX5_keep_0 18 rfl rfl)
theorem dX5_keep_21 : decode cX5_keep 21 = .ok (.istore_n 2, 1) := dk_61 (dk_at dksX5_keep_0 21 rfl rfl)
theorem dX5_keep_22 : decode cX5_keep 22 = .ok (.aload_n 0, 1) := dk_42 (dk_at dksX5_keep_0 22 rfl rfl)
theorem dX5_keep_23 : decode cX5_keep 23 = .ok (.getfield 16, 3) := dk_180 0 16 (dk_at dksX5_keep_1 0 rfl rfl)
theorem dX5_keep_26 : decode cX5_keep 26 = .ok (.iload_n 1, 1) := dk_27 (dk_at dksX5_keep_1 3 rfl rfl)
theorem dX5_keep_27 : decode cX5_keep 27 = .ok (.iconst 1, 1) := dk_4 (dk_at dksX5_keep_1 4 rfl rfl)
theorem dX5_keep_28 : decode cX5_keep 28 = .ok (.bastore, 1) := dk_84 (dk_at dksX5_keep_1 5 rfl rfl)
theorem dX5_keep_29 : decode cX5_keep 29 = .ok (.aload_n 0, 1) := dk_42 (dk_at dksX5_keep_1 6 rfl rfl)
theorem dX5_keep_30 : decode cX5_keep 30 = .ok (.bipush 55, 2) := dk_16 55 (dk_at dksX5_keep_1 7 rfl rfl)
theorem dX5_keep_32 : decode cX5_keep 32 = .ok (.iload_n 1, 1) := dk_27 (dk_at dksX5_keep_1 9 rfl rfl)
theorem dX5_keep_33 : decode cX5_keep 33 = .ok (.iconst 1, 1) := dk_4 (dk_at dksX5_keep_1 10 rfl rfl)
theorem dX5_keep_34 : decode cX5_keep 34 = .ok (.iadd, 1) := dk_96 (dk_at dksX5_keep_1 11 rfl rfl)
theorem dX5_keep_35 : decode cX5_keep 35 = .ok (.imul, 1) := dk_104 (dk_at dksX5_keep_1 12 rfl rfl)
theorem dX5_keep_36 : decode cX5_keep 36 = .ok (.iconst 0, 1) := dk_3 (dk_at dksX5_keep_1 13 rfl rfl)
theorem dX5_keep_37 : decode cX5_keep 37 = .ok (.invokevirtual 324, 3) := dk_182 1 68 (dk_at dksX5_keep_1 14 rfl rfl)
theorem dX5_keep_40 : decode cX5_keep 40 = .ok (.iload_n 2, 1) := dk_28 (dk_at dksX5_keep_1 17 rfl rfl)
theorem dX5_keep_41 : decode cX5_keep 41 = .ok (.ireturn, 1) := dk_172 (dk_at dksX5_keep_1 18 rfl rfl)
abbrev cX5_copies : ByteArray := prog_14_method_91_code
def yX5_copies : MethodName := ⟨RX5, "copies", "(II)V"⟩
def dkwX5_copies_1 : List UInt8 := [132, 3, 1, 167, 255, 231, 177]
abbrev dktX5_copies_1 : List UInt8 := dkwX5_copies_1 ++ []
def dkwX5_copies_0 : List UInt8 := [3, 62, 29, 16, 55, 162, 0, 25, 42, 180, 0, 7, 27, 29, 96, 42, 180, 0, 7, 28, 29, 96, 46, 79]
abbrev dktX5_copies_0 : List UInt8 := dkwX5_copies_0 ++ dktX5_copies_1
theorem dksX5_copies_0 : cX5_copies.data.toList.drop 0 = dktX5_copies_0 := by decide +kernel
theorem dksX5_copies_1 : cX5_copies.data.toList.drop 24 = dktX5_copies_1 := dk_seg dksX5_copies_0 24 rfl rfl
theorem dX5_copies_0 : decode cX5_copies 0 = .ok (.iconst 0, 1) := dk_3 (dk_at dksX5_copies_0 0 rfl rfl)
theorem dX5_copies_1 : decode cX5_copies 1 = .ok (.istore_n 3, 1) := dk_62 (dk_at dksX5_copies_0 1 rfl rfl)
theorem dX5_copies_2 : decode cX5_copies 2 = .ok (.iload_n 3, 1) := dk_29 (dk_at dksX5_copies_0 2 rfl rfl)
theorem dX5_copies_3 : decode cX5_copies 3 = .ok (.bipush 55, 2) := dk_16 55 (dk_at dksX5_copies_0 3 rfl rfl)
theorem dX5_copies_5 : decode cX5_copies 5 = .ok (.if_icmp .ge 25, 3) := dk_162 0 25 (dk_at dksX5_copies_0 5 rfl rfl)
theorem dX5_copies_8 : decode cX5_copies 8 = .ok (.aload_n 0, 1) := dk_42 (dk_at dksX5_copies_0 8 rfl rfl)
theorem dX5_copies_9 : decode cX5_copies 9 = .ok (.getfield 7, 3) := dk_180 0 7 (dk_at dksX5_copies_0 9 rfl rfl)
theorem dX5_copies_12 : decode cX5_copies 12 = .ok (.iload_n 1, 1) := dk_27 (dk_at dksX5_copies_0 12 rfl rfl)
theorem dX5_copies_13 : decode cX5_copies 13 = .ok (.iload_n 3, 1) := dk_29 (dk_at dksX5_copies_0 13 rfl rfl)
theorem dX5_copies_14 : decode cX5_copies 14 = .ok (.iadd, 1) := dk_96 (dk_at dksX5_copies_0 14 rfl rfl)
theorem dX5_copies_15 : decode cX5_copies 15 = .ok (.aload_n 0, 1) := dk_42 (dk_at dksX5_copies_0 15 rfl rfl)
theorem dX5_copies_16 : decode cX5_copies 16 = .ok (.getfield 7, 3) := dk_180 0 7 (dk_at dksX5_copies_0 16 rfl rfl)
theorem dX5_copies_19 : decode cX5_copies 19 = .ok (.iload_n 2, 1) := dk_28 (dk_at dksX5_copies_0 19 rfl rfl)
theorem dX5_copies_20 : decode cX5_copies 20 = .ok (.iload_n 3, 1) := dk_29 (dk_at dksX5_copies_0 20 rfl rfl)
theorem dX5_copies_21 : decode cX5_copies 21 = .ok (.iadd, 1) := dk_96 (dk_at dksX5_copies_0 21 rfl rfl)
theorem dX5_copies_22 : decode cX5_copies 22 = .ok (.iaload, 1) := dk_46 (dk_at dksX5_copies_0 22 rfl rfl)
theorem dX5_copies_23 : decode cX5_copies 23 = .ok (.iastore, 1) := dk_79 (dk_at dksX5_copies_0 23 rfl rfl)
theorem dX5_copies_24 : decode cX5_copies 24 = .ok (.iinc 3 1, 3) := dk_132 3 1 (dk_at dksX5_copies_1 0 rfl rfl)
theorem dX5_copies_27 : decode cX5_copies 27 = .ok (.goto (-25), 3) := dk_167 255 231 (dk_at dksX5_copies_1 3 rfl rfl)
theorem dX5_copies_30 : decode cX5_copies 30 = .ok (.return_, 1) := dk_177 (dk_at dksX5_copies_1 6 rfl rfl)
abbrev cX5_back : ByteArray := prog_14_method_93_code
def yX5_back : MethodName := ⟨RX5, "back", "(I)I"⟩
def dkwX5_back_1 : List UInt8 := [42, 3, 16, 55, 27, 4, 96, 104, 182, 1, 68, 42, 182, 1, 0, 42, 6, 182, 1, 3, 172]
abbrev dktX5_back_1 : List UInt8 := dkwX5_back_1 ++ []
def dkwX5_back_0 : List UInt8 := [27, 133, 9, 10, 184, 0, 74, 154, 0, 5, 2, 172, 42, 180, 0, 16, 27, 51, 154, 0, 6, 16, 254, 172]
abbrev dktX5_back_0 : List UInt8 := dkwX5_back_0 ++ dktX5_back_1
theorem dksX5_back_0 : cX5_back.data.toList.drop 0 = dktX5_back_0 := by decide +kernel
theorem dksX5_back_1 : cX5_back.data.toList.drop 24 = dktX5_back_1 := dk_seg dksX5_back_0 24 rfl rfl
theorem dX5_back_0 : decode cX5_back 0 = .ok (.iload_n 1, 1) := dk_27 (dk_at dksX5_back_0 0 rfl rfl)
theorem dX5_back_1 : decode cX5_back 1 = .ok (.i2l, 1) := dk_133 (dk_at dksX5_back_0 1 rfl rfl)
theorem dX5_back_2 : decode cX5_back 2 = .ok (.lconst 0, 1) := dk_9 (dk_at dksX5_back_0 2 rfl rfl)
theorem dX5_back_3 : decode cX5_back 3 = .ok (.lconst 1, 1) := dk_10 (dk_at dksX5_back_0 3 rfl rfl)
theorem dX5_back_4 : decode cX5_back 4 = .ok (.invokestatic 74, 3) := dk_184 0 74 (dk_at dksX5_back_0 4 rfl rfl)
theorem dX5_back_7 : decode cX5_back 7 = .ok (.ifCond .ne 5, 3) := dk_154 0 5 (dk_at dksX5_back_0 7 rfl rfl)
theorem dX5_back_10 : decode cX5_back 10 = .ok (.iconst (-1), 1) := dk_2 (dk_at dksX5_back_0 10 rfl rfl)
theorem dX5_back_11 : decode cX5_back 11 = .ok (.ireturn, 1) := dk_172 (dk_at dksX5_back_0 11 rfl rfl)
theorem dX5_back_12 : decode cX5_back 12 = .ok (.aload_n 0, 1) := dk_42 (dk_at dksX5_back_0 12 rfl rfl)
theorem dX5_back_13 : decode cX5_back 13 = .ok (.getfield 16, 3) := dk_180 0 16 (dk_at dksX5_back_0 13 rfl rfl)
theorem dX5_back_16 : decode cX5_back 16 = .ok (.iload_n 1, 1) := dk_27 (dk_at dksX5_back_0 16 rfl rfl)
theorem dX5_back_17 : decode cX5_back 17 = .ok (.baload, 1) := dk_51 (dk_at dksX5_back_0 17 rfl rfl)
theorem dX5_back_18 : decode cX5_back 18 = .ok (.ifCond .ne 6, 3) := dk_154 0 6 (dk_at dksX5_back_0 18 rfl rfl)
theorem dX5_back_21 : decode cX5_back 21 = .ok (.bipush (-2), 2) := dk_16 254 (dk_at dksX5_back_0 21 rfl rfl)
theorem dX5_back_23 : decode cX5_back 23 = .ok (.ireturn, 1) := dk_172 (dk_at dksX5_back_0 23 rfl rfl)
theorem dX5_back_24 : decode cX5_back 24 = .ok (.aload_n 0, 1) := dk_42 (dk_at dksX5_back_1 0 rfl rfl)
theorem dX5_back_25 : decode cX5_back 25 = .ok (.iconst 0, 1) := dk_3 (dk_at dksX5_back_1 1 rfl rfl)
theorem dX5_back_26 : decode cX5_back 26 = .ok (.bipush 55, 2) := dk_16 55 (dk_at dksX5_back_1 2 rfl rfl)
theorem dX5_back_28 : decode cX5_back 28 = .ok (.iload_n 1, 1) := dk_27 (dk_at dksX5_back_1 4 rfl rfl)
theorem dX5_back_29 : decode cX5_back 29 = .ok (.iconst 1, 1) := dk_4 (dk_at dksX5_back_1 5 rfl rfl)
theorem dX5_back_30 : decode cX5_back 30 = .ok (.iadd, 1) := dk_96 (dk_at dksX5_back_1 6 rfl rfl)
theorem dX5_back_31 : decode cX5_back 31 = .ok (.imul, 1) := dk_104 (dk_at dksX5_back_1 7 rfl rfl)
theorem dX5_back_32 : decode cX5_back 32 = .ok (.invokevirtual 324, 3) := dk_182 1 68 (dk_at dksX5_back_1 8 rfl rfl)
theorem dX5_back_35 : decode cX5_back 35 = .ok (.aload_n 0, 1) := dk_42 (dk_at dksX5_back_1 11 rfl rfl)
theorem dX5_back_36 : decode cX5_back 36 = .ok (.invokevirtual 256, 3) := dk_182 1 0 (dk_at dksX5_back_1 12 rfl rfl)
theorem dX5_back_39 : decode cX5_back 39 = .ok (.aload_n 0, 1) := dk_42 (dk_at dksX5_back_1 15 rfl rfl)
theorem dX5_back_40 : decode cX5_back 40 = .ok (.iconst 3, 1) := dk_6 (dk_at dksX5_back_1 16 rfl rfl)
theorem dX5_back_41 : decode cX5_back 41 = .ok (.invokevirtual 259, 3) := dk_182 1 3 (dk_at dksX5_back_1 17 rfl rfl)
theorem dX5_back_44 : decode cX5_back 44 = .ok (.ireturn, 1) := dk_172 (dk_at dksX5_back_1 20 rfl rfl)
abbrev cX5_sheet : ByteArray := prog_14_method_95_code
def yX5_sheet : MethodName := ⟨RX5, "sheet", "(III)I"⟩
def dkwX5_sheet_2 : List UInt8 := [180, 0, 44, 16, 40, 27, 104, 21, 4, 96, 3, 79, 132, 4, 1, 167, 255, 233, 4, 172]
abbrev dktX5_sheet_2 : List UInt8 := dkwX5_sheet_2 ++ []
def dkwX5_sheet_1 : List UInt8 := [180, 0, 38, 27, 28, 79, 42, 180, 0, 41, 27, 29, 79, 3, 54, 4, 21, 4, 16, 40, 162, 0, 22, 42]
abbrev dktX5_sheet_1 : List UInt8 := dkwX5_sheet_1 ++ dktX5_sheet_2
def dkwX5_sheet_0 : List UInt8 := [27, 28, 184, 1, 72, 153, 0, 9, 29, 16, 40, 164, 0, 5, 2, 172, 29, 156, 0, 6, 16, 242, 172, 42]
abbrev dktX5_sheet_0 : List UInt8 := dkwX5_sheet_0 ++ dktX5_sheet_1
theorem dksX5_sheet_0 : cX5_sheet.data.toList.drop 0 = dktX5_sheet_0 := by decide +kernel
theorem dksX5_sheet_1 : cX5_sheet.data.toList.drop 24 = dktX5_sheet_1 := dk_seg dksX5_sheet_0 24 rfl rfl
theorem dksX5_sheet_2 : cX5_sheet.data.toList.drop 48 = dktX5_sheet_2 := dk_seg dksX5_sheet_1 24 rfl rfl
theorem dX5_sheet_0 : decode cX5_sheet 0 = .ok (.iload_n 1, 1) := dk_27 (dk_at dksX5_sheet_0 0 rfl rfl)
theorem dX5_sheet_1 : decode cX5_sheet 1 = .ok (.iload_n 2, 1) := dk_28 (dk_at dksX5_sheet_0 1 rfl rfl)
theorem dX5_sheet_2 : decode cX5_sheet 2 = .ok (.invokestatic 328, 3) := dk_184 1 72 (dk_at dksX5_sheet_0 2 rfl rfl)
theorem dX5_sheet_5 : decode cX5_sheet 5 = .ok (.ifCond .eq 9, 3) := dk_153 0 9 (dk_at dksX5_sheet_0 5 rfl rfl)
theorem dX5_sheet_8 : decode cX5_sheet 8 = .ok (.iload_n 3, 1) := dk_29 (dk_at dksX5_sheet_0 8 rfl rfl)
theorem dX5_sheet_9 : decode cX5_sheet 9 = .ok (.bipush 40, 2) := dk_16 40 (dk_at dksX5_sheet_0 9 rfl rfl)
theorem dX5_sheet_11 : decode cX5_sheet 11 = .ok (.if_icmp .le 5, 3) := dk_164 0 5 (dk_at dksX5_sheet_0 11 rfl rfl)
theorem dX5_sheet_14 : decode cX5_sheet 14 = .ok (.iconst (-1), 1) := dk_2 (dk_at dksX5_sheet_0 14 rfl rfl)
theorem dX5_sheet_15 : decode cX5_sheet 15 = .ok (.ireturn, 1) := dk_172 (dk_at dksX5_sheet_0 15 rfl rfl)
theorem dX5_sheet_16 : decode cX5_sheet 16 = .ok (.iload_n 3, 1) := dk_29 (dk_at dksX5_sheet_0 16 rfl rfl)
theorem dX5_sheet_17 : decode cX5_sheet 17 = .ok (.ifCond .ge 6, 3) := dk_156 0 6 (dk_at dksX5_sheet_0 17 rfl rfl)
theorem dX5_sheet_20 : decode cX5_sheet 20 = .ok (.bipush (-14), 2) := dk_16 242 (dk_at dksX5_sheet_0 20 rfl rfl)
theorem dX5_sheet_22 : decode cX5_sheet 22 = .ok (.ireturn, 1) := dk_172 (dk_at dksX5_sheet_0 22 rfl rfl)
theorem dX5_sheet_23 : decode cX5_sheet 23 = .ok (.aload_n 0, 1) := dk_42 (dk_at dksX5_sheet_0 23 rfl rfl)
theorem dX5_sheet_24 : decode cX5_sheet 24 = .ok (.getfield 38, 3) := dk_180 0 38 (dk_at dksX5_sheet_1 0 rfl rfl)
theorem dX5_sheet_27 : decode cX5_sheet 27 = .ok (.iload_n 1, 1) := dk_27 (dk_at dksX5_sheet_1 3 rfl rfl)
theorem dX5_sheet_28 : decode cX5_sheet 28 = .ok (.iload_n 2, 1) := dk_28 (dk_at dksX5_sheet_1 4 rfl rfl)
theorem dX5_sheet_29 : decode cX5_sheet 29 = .ok (.iastore, 1) := dk_79 (dk_at dksX5_sheet_1 5 rfl rfl)
theorem dX5_sheet_30 : decode cX5_sheet 30 = .ok (.aload_n 0, 1) := dk_42 (dk_at dksX5_sheet_1 6 rfl rfl)
theorem dX5_sheet_31 : decode cX5_sheet 31 = .ok (.getfield 41, 3) := dk_180 0 41 (dk_at dksX5_sheet_1 7 rfl rfl)
theorem dX5_sheet_34 : decode cX5_sheet 34 = .ok (.iload_n 1, 1) := dk_27 (dk_at dksX5_sheet_1 10 rfl rfl)
theorem dX5_sheet_35 : decode cX5_sheet 35 = .ok (.iload_n 3, 1) := dk_29 (dk_at dksX5_sheet_1 11 rfl rfl)
theorem dX5_sheet_36 : decode cX5_sheet 36 = .ok (.iastore, 1) := dk_79 (dk_at dksX5_sheet_1 12 rfl rfl)
theorem dX5_sheet_37 : decode cX5_sheet 37 = .ok (.iconst 0, 1) := dk_3 (dk_at dksX5_sheet_1 13 rfl rfl)
theorem dX5_sheet_38 : decode cX5_sheet 38 = .ok (.istore 4, 2) := dk_54 4 (dk_at dksX5_sheet_1 14 rfl rfl)
theorem dX5_sheet_40 : decode cX5_sheet 40 = .ok (.iload 4, 2) := dk_21 4 (dk_at dksX5_sheet_1 16 rfl rfl)
theorem dX5_sheet_42 : decode cX5_sheet 42 = .ok (.bipush 40, 2) := dk_16 40 (dk_at dksX5_sheet_1 18 rfl rfl)
theorem dX5_sheet_44 : decode cX5_sheet 44 = .ok (.if_icmp .ge 22, 3) := dk_162 0 22 (dk_at dksX5_sheet_1 20 rfl rfl)
theorem dX5_sheet_47 : decode cX5_sheet 47 = .ok (.aload_n 0, 1) := dk_42 (dk_at dksX5_sheet_1 23 rfl rfl)
theorem dX5_sheet_48 : decode cX5_sheet 48 = .ok (.getfield 44, 3) := dk_180 0 44 (dk_at dksX5_sheet_2 0 rfl rfl)
theorem dX5_sheet_51 : decode cX5_sheet 51 = .ok (.bipush 40, 2) := dk_16 40 (dk_at dksX5_sheet_2 3 rfl rfl)
theorem dX5_sheet_53 : decode cX5_sheet 53 = .ok (.iload_n 1, 1) := dk_27 (dk_at dksX5_sheet_2 5 rfl rfl)
theorem dX5_sheet_54 : decode cX5_sheet 54 = .ok (.imul, 1) := dk_104 (dk_at dksX5_sheet_2 6 rfl rfl)
theorem dX5_sheet_55 : decode cX5_sheet 55 = .ok (.iload 4, 2) := dk_21 4 (dk_at dksX5_sheet_2 7 rfl rfl)
theorem dX5_sheet_57 : decode cX5_sheet 57 = .ok (.iadd, 1) := dk_96 (dk_at dksX5_sheet_2 9 rfl rfl)
theorem dX5_sheet_58 : decode cX5_sheet 58 = .ok (.iconst 0, 1) := dk_3 (dk_at dksX5_sheet_2 10 rfl rfl)
theorem dX5_sheet_59 : decode cX5_sheet 59 = .ok (.iastore, 1) := dk_79 (dk_at dksX5_sheet_2 11 rfl rfl)
theorem dX5_sheet_60 : decode cX5_sheet 60 = .ok (.iinc 4 1, 3) := dk_132 4 1 (dk_at dksX5_sheet_2 12 rfl rfl)
theorem dX5_sheet_63 : decode cX5_sheet 63 = .ok (.goto (-23), 3) := dk_167 255 233 (dk_at dksX5_sheet_2 15 rfl rfl)
theorem dX5_sheet_66 : decode cX5_sheet 66 = .ok (.iconst 1, 1) := dk_4 (dk_at dksX5_sheet_2 18 rfl rfl)
theorem dX5_sheet_67 : decode cX5_sheet 67 = .ok (.ireturn, 1) := dk_172 (dk_at dksX5_sheet_2 19 rfl rfl)
abbrev cX5_isSheet : ByteArray := prog_14_method_94_code
def yX5_isSheet : MethodName := ⟨RX5, "isSheet", "(II)Z"⟩
def dkwX5_isSheet_1 : List UInt8 := [4, 167, 0, 4, 3, 172]
abbrev dktX5_isSheet_1 : List UInt8 := dkwX5_isSheet_1 ++ []
def dkwX5_isSheet_0 : List UInt8 := [26, 133, 9, 20, 0, 250, 184, 0, 74, 153, 0, 19, 27, 133, 9, 20, 0, 153, 184, 0, 74, 153, 0, 7]
abbrev dktX5_isSheet_0 : List UInt8 := dkwX5_isSheet_0 ++ dktX5_isSheet_1
theorem dksX5_isSheet_0 : cX5_isSheet.data.toList.drop 0 = dktX5_isSheet_0 := by decide +kernel
theorem dksX5_isSheet_1 : cX5_isSheet.data.toList.drop 24 = dktX5_isSheet_1 := dk_seg dksX5_isSheet_0 24 rfl rfl
theorem dX5_isSheet_0 : decode cX5_isSheet 0 = .ok (.iload_n 0, 1) := dk_26 (dk_at dksX5_isSheet_0 0 rfl rfl)
theorem dX5_isSheet_1 : decode cX5_isSheet 1 = .ok (.i2l, 1) := dk_133 (dk_at dksX5_isSheet_0 1 rfl rfl)
theorem dX5_isSheet_2 : decode cX5_isSheet 2 = .ok (.lconst 0, 1) := dk_9 (dk_at dksX5_isSheet_0 2 rfl rfl)
theorem dX5_isSheet_3 : decode cX5_isSheet 3 = .ok (.ldc2_w 250, 3) := dk_20 0 250 (dk_at dksX5_isSheet_0 3 rfl rfl)
theorem dX5_isSheet_6 : decode cX5_isSheet 6 = .ok (.invokestatic 74, 3) := dk_184 0 74 (dk_at dksX5_isSheet_0 6 rfl rfl)
theorem dX5_isSheet_9 : decode cX5_isSheet 9 = .ok (.ifCond .eq 19, 3) := dk_153 0 19 (dk_at dksX5_isSheet_0 9 rfl rfl)
theorem dX5_isSheet_12 : decode cX5_isSheet 12 = .ok (.iload_n 1, 1) := dk_27 (dk_at dksX5_isSheet_0 12 rfl rfl)
theorem dX5_isSheet_13 : decode cX5_isSheet 13 = .ok (.i2l, 1) := dk_133 (dk_at dksX5_isSheet_0 13 rfl rfl)
theorem dX5_isSheet_14 : decode cX5_isSheet 14 = .ok (.lconst 0, 1) := dk_9 (dk_at dksX5_isSheet_0 14 rfl rfl)
theorem dX5_isSheet_15 : decode cX5_isSheet 15 = .ok (.ldc2_w 153, 3) := dk_20 0 153 (dk_at dksX5_isSheet_0 15 rfl rfl)
theorem dX5_isSheet_18 : decode cX5_isSheet 18 = .ok (.invokestatic 74, 3) := dk_184 0 74 (dk_at dksX5_isSheet_0 18 rfl rfl)
theorem dX5_isSheet_21 : decode cX5_isSheet 21 = .ok (.ifCond .eq 7, 3) := dk_153 0 7 (dk_at dksX5_isSheet_0 21 rfl rfl)
theorem dX5_isSheet_24 : decode cX5_isSheet 24 = .ok (.iconst 1, 1) := dk_4 (dk_at dksX5_isSheet_1 0 rfl rfl)
theorem dX5_isSheet_25 : decode cX5_isSheet 25 = .ok (.goto 4, 3) := dk_167 0 4 (dk_at dksX5_isSheet_1 1 rfl rfl)
theorem dX5_isSheet_28 : decode cX5_isSheet 28 = .ok (.iconst 0, 1) := dk_3 (dk_at dksX5_isSheet_1 4 rfl rfl)
theorem dX5_isSheet_29 : decode cX5_isSheet 29 = .ok (.ireturn, 1) := dk_172 (dk_at dksX5_isSheet_1 5 rfl rfl)
abbrev cX5_lay : ByteArray := prog_14_method_96_code
def yX5_lay : MethodName := ⟨RX5, "lay", "(III)I"⟩
def dkwX5_lay_3 : List UInt8 := [180, 0, 38, 27, 46, 4, 160, 0, 8, 29, 147, 167, 0, 4, 29, 79, 4, 172]
abbrev dktX5_lay_3 : List UInt8 := dkwX5_lay_3 ++ []
def dkwX5_lay_2 : List UInt8 := [180, 0, 44, 16, 40, 27, 104, 28, 96, 42, 180, 0, 38, 27, 46, 154, 0, 8, 29, 145, 167, 0, 19, 42]
abbrev dktX5_lay_2 : List UInt8 := dkwX5_lay_2 ++ dktX5_lay_3
def dkwX5_lay_1 : List UInt8 := [28, 133, 9, 42, 180, 0, 41, 27, 46, 4, 100, 133, 184, 0, 74, 154, 0, 6, 16, 244, 172, 42]
abbrev dktX5_lay_1 : List UInt8 := dkwX5_lay_1 ++ dktX5_lay_2
def dkwX5_lay_0 : List UInt8 := [27, 3, 184, 1, 72, 154, 0, 5, 2, 172, 42, 180, 0, 38, 27, 46, 16, 252, 160, 0, 6, 16, 245, 172]
abbrev dktX5_lay_0 : List UInt8 := dkwX5_lay_0 ++ dktX5_lay_1
theorem dksX5_lay_0 : cX5_lay.data.toList.drop 0 = dktX5_lay_0 := by decide +kernel
theorem dksX5_lay_1 : cX5_lay.data.toList.drop 24 = dktX5_lay_1 := dk_seg dksX5_lay_0 24 rfl rfl
theorem dksX5_lay_2 : cX5_lay.data.toList.drop 46 = dktX5_lay_2 := dk_seg dksX5_lay_1 22 rfl rfl
theorem dksX5_lay_3 : cX5_lay.data.toList.drop 70 = dktX5_lay_3 := dk_seg dksX5_lay_2 24 rfl rfl
theorem dX5_lay_0 : decode cX5_lay 0 = .ok (.iload_n 1, 1) := dk_27 (dk_at dksX5_lay_0 0 rfl rfl)
theorem dX5_lay_1 : decode cX5_lay 1 = .ok (.iconst 0, 1) := dk_3 (dk_at dksX5_lay_0 1 rfl rfl)
theorem dX5_lay_2 : decode cX5_lay 2 = .ok (.invokestatic 328, 3) := dk_184 1 72 (dk_at dksX5_lay_0 2 rfl rfl)
theorem dX5_lay_5 : decode cX5_lay 5 = .ok (.ifCond .ne 5, 3) := dk_154 0 5 (dk_at dksX5_lay_0 5 rfl rfl)
theorem dX5_lay_8 : decode cX5_lay 8 = .ok (.iconst (-1), 1) := dk_2 (dk_at dksX5_lay_0 8 rfl rfl)
theorem dX5_lay_9 : decode cX5_lay 9 = .ok (.ireturn, 1) := dk_172 (dk_at dksX5_lay_0 9 rfl rfl)
theorem dX5_lay_10 : decode cX5_lay 10 = .ok (.aload_n 0, 1) := dk_42 (dk_at dksX5_lay_0 10 rfl rfl)
theorem dX5_lay_11 : decode cX5_lay 11 = .ok (.getfield 38, 3) := dk_180 0 38 (dk_at dksX5_lay_0 11 rfl rfl)
theorem dX5_lay_14 : decode cX5_lay 14 = .ok (.iload_n 1, 1) := dk_27 (dk_at dksX5_lay_0 14 rfl rfl)
theorem dX5_lay_15 : decode cX5_lay 15 = .ok (.iaload, 1) := dk_46 (dk_at dksX5_lay_0 15 rfl rfl)
theorem dX5_lay_16 : decode cX5_lay 16 = .ok (.bipush (-4), 2) := dk_16 252 (dk_at dksX5_lay_0 16 rfl rfl)
theorem dX5_lay_18 : decode cX5_lay 18 = .ok (.if_icmp .ne 6, 3) := dk_160 0 6 (dk_at dksX5_lay_0 18 rfl rfl)
theorem dX5_lay_21 : decode cX5_lay 21 = .ok (.bipush (-11), 2) := dk_16 245 (dk_at dksX5_lay_0 21 rfl rfl)
theorem dX5_lay_23 : decode cX5_lay 23 = .ok (.ireturn, 1) := dk_172 (dk_at dksX5_lay_0 23 rfl rfl)
theorem dX5_lay_24 : decode cX5_lay 24 = .ok (.iload_n 2, 1) := dk_28 (dk_at dksX5_lay_1 0 rfl rfl)
theorem dX5_lay_25 : decode cX5_lay 25 = .ok (.i2l, 1) := dk_133 (dk_at dksX5_lay_1 1 rfl rfl)
theorem dX5_lay_26 : decode cX5_lay 26 = .ok (.lconst 0, 1) := dk_9 (dk_at dksX5_lay_1 2 rfl rfl)
theorem dX5_lay_27 : decode cX5_lay 27 = .ok (.aload_n 0, 1) := dk_42 (dk_at dksX5_lay_1 3 rfl rfl)
theorem dX5_lay_28 : decode cX5_lay 28 = .ok (.getfield 41, 3) := dk_180 0 41 (dk_at dksX5_lay_1 4 rfl rfl)
theorem dX5_lay_31 : decode cX5_lay 31 = .ok (.iload_n 1, 1) := dk_27 (dk_at dksX5_lay_1 7 rfl rfl)
theorem dX5_lay_32 : decode cX5_lay 32 = .ok (.iaload, 1) := dk_46 (dk_at dksX5_lay_1 8 rfl rfl)
theorem dX5_lay_33 : decode cX5_lay 33 = .ok (.iconst 1, 1) := dk_4 (dk_at dksX5_lay_1 9 rfl rfl)
theorem dX5_lay_34 : decode cX5_lay 34 = .ok (.isub, 1) := dk_100 (dk_at dksX5_lay_1 10 rfl rfl)
theorem dX5_lay_35 : decode cX5_lay 35 = .ok (.i2l, 1) := dk_133 (dk_at dksX5_lay_1 11 rfl rfl)
theorem dX5_lay_36 : decode cX5_lay 36 = .ok (.invokestatic 74, 3) := dk_184 0 74 (dk_at dksX5_lay_1 12 rfl rfl)
theorem dX5_lay_39 : decode cX5_lay 39 = .ok (.ifCond .ne 6, 3) := dk_154 0 6 (dk_at dksX5_lay_1 15 rfl rfl)
theorem dX5_lay_42 : decode cX5_lay 42 = .ok (.bipush (-12), 2) := dk_16 244 (dk_at dksX5_lay_1 18 rfl rfl)
theorem dX5_lay_44 : decode cX5_lay 44 = .ok (.ireturn, 1) := dk_172 (dk_at dksX5_lay_1 20 rfl rfl)
theorem dX5_lay_45 : decode cX5_lay 45 = .ok (.aload_n 0, 1) := dk_42 (dk_at dksX5_lay_1 21 rfl rfl)
theorem dX5_lay_46 : decode cX5_lay 46 = .ok (.getfield 44, 3) := dk_180 0 44 (dk_at dksX5_lay_2 0 rfl rfl)
theorem dX5_lay_49 : decode cX5_lay 49 = .ok (.bipush 40, 2) := dk_16 40 (dk_at dksX5_lay_2 3 rfl rfl)
theorem dX5_lay_51 : decode cX5_lay 51 = .ok (.iload_n 1, 1) := dk_27 (dk_at dksX5_lay_2 5 rfl rfl)
theorem dX5_lay_52 : decode cX5_lay 52 = .ok (.imul, 1) := dk_104 (dk_at dksX5_lay_2 6 rfl rfl)
theorem dX5_lay_53 : decode cX5_lay 53 = .ok (.iload_n 2, 1) := dk_28 (dk_at dksX5_lay_2 7 rfl rfl)
theorem dX5_lay_54 : decode cX5_lay 54 = .ok (.iadd, 1) := dk_96 (dk_at dksX5_lay_2 8 rfl rfl)
theorem dX5_lay_55 : decode cX5_lay 55 = .ok (.aload_n 0, 1) := dk_42 (dk_at dksX5_lay_2 9 rfl rfl)
theorem dX5_lay_56 : decode cX5_lay 56 = .ok (.getfield 38, 3) := dk_180 0 38 (dk_at dksX5_lay_2 10 rfl rfl)
theorem dX5_lay_59 : decode cX5_lay 59 = .ok (.iload_n 1, 1) := dk_27 (dk_at dksX5_lay_2 13 rfl rfl)
theorem dX5_lay_60 : decode cX5_lay 60 = .ok (.iaload, 1) := dk_46 (dk_at dksX5_lay_2 14 rfl rfl)
theorem dX5_lay_61 : decode cX5_lay 61 = .ok (.ifCond .ne 8, 3) := dk_154 0 8 (dk_at dksX5_lay_2 15 rfl rfl)
theorem dX5_lay_64 : decode cX5_lay 64 = .ok (.iload_n 3, 1) := dk_29 (dk_at dksX5_lay_2 18 rfl rfl)
theorem dX5_lay_65 : decode cX5_lay 65 = .ok (.i2b, 1) := dk_145 (dk_at dksX5_lay_2 19 rfl rfl)
theorem dX5_lay_66 : decode cX5_lay 66 = .ok (.goto 19, 3) := dk_167 0 19 (dk_at dksX5_lay_2 20 rfl rfl)
theorem dX5_lay_69 : decode cX5_lay 69 = .ok (.aload_n 0, 1) := dk_42 (dk_at dksX5_lay_2 23 rfl rfl)
theorem dX5_lay_70 : decode cX5_lay 70 = .ok (.getfield 38, 3) := dk_180 0 38 (dk_at dksX5_lay_3 0 rfl rfl)
theorem dX5_lay_73 : decode cX5_lay 73 = .ok (.iload_n 1, 1) := dk_27 (dk_at dksX5_lay_3 3 rfl rfl)
theorem dX5_lay_74 : decode cX5_lay 74 = .ok (.iaload, 1) := dk_46 (dk_at dksX5_lay_3 4 rfl rfl)
theorem dX5_lay_75 : decode cX5_lay 75 = .ok (.iconst 1, 1) := dk_4 (dk_at dksX5_lay_3 5 rfl rfl)
theorem dX5_lay_76 : decode cX5_lay 76 = .ok (.if_icmp .ne 8, 3) := dk_160 0 8 (dk_at dksX5_lay_3 6 rfl rfl)
theorem dX5_lay_79 : decode cX5_lay 79 = .ok (.iload_n 3, 1) := dk_29 (dk_at dksX5_lay_3 9 rfl rfl)
theorem dX5_lay_80 : decode cX5_lay 80 = .ok (.i2s, 1) := dk_147 (dk_at dksX5_lay_3 10 rfl rfl)
theorem dX5_lay_81 : decode cX5_lay 81 = .ok (.goto 4, 3) := dk_167 0 4 (dk_at dksX5_lay_3 11 rfl rfl)
theorem dX5_lay_84 : decode cX5_lay 84 = .ok (.iload_n 3, 1) := dk_29 (dk_at dksX5_lay_3 14 rfl rfl)
theorem dX5_lay_85 : decode cX5_lay 85 = .ok (.iastore, 1) := dk_79 (dk_at dksX5_lay_3 15 rfl rfl)
theorem dX5_lay_86 : decode cX5_lay 86 = .ok (.iconst 1, 1) := dk_4 (dk_at dksX5_lay_3 16 rfl rfl)
theorem dX5_lay_87 : decode cX5_lay 87 = .ok (.ireturn, 1) := dk_172 (dk_at dksX5_lay_3 17 rfl rfl)
abbrev cX5_read : ByteArray := prog_14_method_97_code
def yX5_read : MethodName := ⟨RX5, "read", "(IIII)I"⟩
def dkwX5_read_11 : List UInt8 := [21, 6, 172]
abbrev dktX5_read_11 : List UInt8 := dkwX5_read_11 ++ []
def dkwX5_read_10 : List UInt8 := [167, 255, 232, 16, 236, 21, 7, 100, 172, 132, 6, 1, 132, 7, 1, 167, 255, 69, 42, 21, 5, 181, 1, 79]
abbrev dktX5_read_10 : List UInt8 := dkwX5_read_10 ++ dktX5_read_11
def dkwX5_read_9 : List UInt8 := [21, 9, 16, 55, 162, 0, 23, 42, 180, 0, 7, 21, 9, 42, 180, 0, 47, 21, 9, 46, 79, 132, 9, 1]
abbrev dktX5_read_9 : List UInt8 := dkwX5_read_9 ++ dktX5_read_10
def dkwX5_read_8 : List UInt8 := [21, 8, 46, 5, 42, 180, 0, 44, 21, 8, 4, 96, 46, 182, 1, 75, 2, 160, 0, 39, 3, 54, 9]
abbrev dktX5_read_8 : List UInt8 := dkwX5_read_8 ++ dktX5_read_9
def dkwX5_read_7 : List UInt8 := [21, 5, 154, 0, 80, 16, 40, 27, 104, 29, 96, 5, 21, 7, 104, 96, 54, 8, 42, 42, 180, 0, 44]
abbrev dktX5_read_7 : List UInt8 := dkwX5_read_7 ++ dktX5_read_8
def dkwX5_read_6 : List UInt8 := [180, 0, 41, 27, 46, 133, 148, 155, 0, 7, 5, 167, 0, 4, 3, 54, 5, 132, 8, 1, 167, 255, 172]
abbrev dktX5_read_6 : List UInt8 := dkwX5_read_6 ++ dktX5_read_7
def dkwX5_read_5 : List UInt8 := [180, 0, 38, 27, 46, 28, 159, 0, 7, 6, 167, 0, 28, 22, 9, 9, 148, 155, 0, 16, 22, 9, 42]
abbrev dktX5_read_5 : List UInt8 := dkwX5_read_5 ++ dktX5_read_6
def dkwX5_read_4 : List UInt8 := [97, 21, 8, 133, 97, 55, 9, 42, 180, 0, 38, 27, 46, 16, 252, 160, 0, 7, 4, 167, 0, 42, 42]
abbrev dktX5_read_4 : List UInt8 := dkwX5_read_4 ++ dktX5_read_5
def dkwX5_read_3 : List UInt8 := [154, 0, 181, 3, 54, 8, 21, 8, 5, 162, 0, 84, 21, 5, 154, 0, 79, 29, 133, 5, 21, 7, 104, 133]
abbrev dktX5_read_3 : List UInt8 := dkwX5_read_3 ++ dktX5_read_4
def dkwX5_read_2 : List UInt8 := [132, 5, 1, 167, 255, 232, 3, 54, 5, 3, 54, 6, 3, 54, 7, 21, 7, 21, 4, 162, 0, 186, 21, 5]
abbrev dktX5_read_2 : List UInt8 := dkwX5_read_2 ++ dktX5_read_3
def dkwX5_read_1 : List UInt8 := [54, 5, 21, 5, 16, 55, 162, 0, 23, 42, 180, 0, 47, 21, 5, 42, 180, 0, 7, 21, 5, 46, 79]
abbrev dktX5_read_1 : List UInt8 := dkwX5_read_1 ++ dktX5_read_2
def dkwX5_read_0 : List UInt8 := [27, 28, 184, 1, 72, 153, 0, 16, 21, 4, 133, 9, 20, 1, 65, 184, 0, 74, 154, 0, 5, 2, 172, 3]
abbrev dktX5_read_0 : List UInt8 := dkwX5_read_0 ++ dktX5_read_1
theorem dksX5_read_0 : cX5_read.data.toList.drop 0 = dktX5_read_0 := by decide +kernel
theorem dksX5_read_1 : cX5_read.data.toList.drop 24 = dktX5_read_1 := dk_seg dksX5_read_0 24 rfl rfl
theorem dksX5_read_2 : cX5_read.data.toList.drop 47 = dktX5_read_2 := dk_seg dksX5_read_1 23 rfl rfl
theorem dksX5_read_3 : cX5_read.data.toList.drop 71 = dktX5_read_3 := dk_seg dksX5_read_2 24 rfl rfl
theorem dksX5_read_4 : cX5_read.data.toList.drop 95 = dktX5_read_4 := dk_seg dksX5_read_3 24 rfl rfl
theorem dksX5_read_5 : cX5_read.data.toList.drop 118 = dktX5_read_5 := dk_seg dksX5_read_4 23 rfl rfl
theorem dksX5_read_6 : cX5_read.data.toList.drop 141 = dktX5_read_6 := dk_seg dksX5_read_5 23 rfl rfl
theorem dksX5_read_7 : cX5_read.data.toList.drop 164 = dktX5_read_7 := dk_seg dksX5_read_6 23 rfl rfl
theorem dksX5_read_8 : cX5_read.data.toList.drop 187 = dktX5_read_8 := dk_seg dksX5_read_7 23 rfl rfl
theorem dksX5_read_9 : cX5_read.data.toList.drop 210 = dktX5_read_9 := dk_seg dksX5_read_8 23 rfl rfl
theorem dksX5_read_10 : cX5_read.data.toList.drop 234 = dktX5_read_10 := dk_seg dksX5_read_9 24 rfl rfl
theorem dksX5_read_11 : cX5_read.data.toList.drop 258 = dktX5_read_11 := dk_seg dksX5_read_10 24 rfl rfl
theorem dX5_read_0 : decode cX5_read 0 = .ok (.iload_n 1, 1) := dk_27 (dk_at dksX5_read_0 0 rfl rfl)
theorem dX5_read_1 : decode cX5_read 1 = .ok (.iload_n 2, 1) := dk_28 (dk_at dksX5_read_0 1 rfl rfl)
theorem dX5_read_2 : decode cX5_read 2 = .ok (.invokestatic 328, 3) := dk_184 1 72 (dk_at dksX5_read_0 2 rfl rfl)
theorem dX5_read_5 : decode cX5_read 5 = .ok (.ifCond .eq 16, 3) := dk_153 0 16 (dk_at dksX5_read_0 5 rfl rfl)
theorem dX5_read_8 : decode cX5_read 8 = .ok (.iload 4, 2) := dk_21 4 (dk_at dksX5_read_0 8 rfl rfl)
theorem dX5_read_10 : decode cX5_read 10 = .ok (.i2l, 1) := dk_133 (dk_at dksX5_read_0 10 rfl rfl)
theorem dX5_read_11 : decode cX5_read 11 = .ok (.lconst 0, 1) := dk_9 (dk_at dksX5_read_0 11 rfl rfl)
theorem dX5_read_12 : decode cX5_read 12 = .ok (.ldc2_w 321, 3) := dk_20 1 65 (dk_at dksX5_read_0 12 rfl rfl)
theorem dX5_read_15 : decode cX5_read 15 = .ok (.invokestatic 74, 3) := dk_184 0 74 (dk_at dksX5_read_0 15 rfl rfl)
theorem dX5_read_18 : decode cX5_read 18 = .ok (.ifCond .ne 5, 3) := dk_154 0 5 (dk_at dksX5_read_0 18 rfl rfl)
theorem dX5_read_21 : decode cX5_read 21 = .ok (.iconst (-1), 1) := dk_2 (dk_at dksX5_read_0 21 rfl rfl)
theorem dX5_read_22 : decode cX5_read 22 = .ok (.ireturn, 1) := dk_172 (dk_at dksX5_read_0 22 rfl rfl)
theorem dX5_read_23 : decode cX5_read 23 = .ok (.iconst 0, 1) := dk_3 (dk_at dksX5_read_0 23 rfl rfl)
theorem dX5_read_24 : decode cX5_read 24 = .ok (.istore 5, 2) := dk_54 5 (dk_at dksX5_read_1 0 rfl rfl)
theorem dX5_read_26 : decode cX5_read 26 = .ok (.iload 5, 2) := dk_21 5 (dk_at dksX5_read_1 2 rfl rfl)
theorem dX5_read_28 : decode cX5_read 28 = .ok (.bipush 55, 2) := dk_16 55 (dk_at dksX5_read_1 4 rfl rfl)
theorem dX5_read_30 : decode cX5_read 30 = .ok (.if_icmp .ge 23, 3) := dk_162 0 23 (dk_at dksX5_read_1 6 rfl rfl)
theorem dX5_read_33 : decode cX5_read 33 = .ok (.aload_n 0, 1) := dk_42 (dk_at dksX5_read_1 9 rfl rfl)
theorem dX5_read_34 : decode cX5_read 34 = .ok (.getfield 47, 3) := dk_180 0 47 (dk_at dksX5_read_1 10 rfl rfl)
theorem dX5_read_37 : decode cX5_read 37 = .ok (.iload 5, 2) := dk_21 5 (dk_at dksX5_read_1 13 rfl rfl)
theorem dX5_read_39 : decode cX5_read 39 = .ok (.aload_n 0, 1) := dk_42 (dk_at dksX5_read_1 15 rfl rfl)
theorem dX5_read_40 : decode cX5_read 40 = .ok (.getfield 7, 3) := dk_180 0 7 (dk_at dksX5_read_1 16 rfl rfl)
theorem dX5_read_43 : decode cX5_read 43 = .ok (.iload 5, 2) := dk_21 5 (dk_at dksX5_read_1 19 rfl rfl)
theorem dX5_read_45 : decode cX5_read 45 = .ok (.iaload, 1) := dk_46 (dk_at dksX5_read_1 21 rfl rfl)
theorem dX5_read_46 : decode cX5_read 46 = .ok (.iastore, 1) := dk_79 (dk_at dksX5_read_1 22 rfl rfl)
theorem dX5_read_47 : decode cX5_read 47 = .ok (.iinc 5 1, 3) := dk_132 5 1 (dk_at dksX5_read_2 0 rfl rfl)
theorem dX5_read_50 : decode cX5_read 50 = .ok (.goto (-24), 3) := dk_167 255 232 (dk_at dksX5_read_2 3 rfl rfl)
theorem dX5_read_53 : decode cX5_read 53 = .ok (.iconst 0, 1) := dk_3 (dk_at dksX5_read_2 6 rfl rfl)
theorem dX5_read_54 : decode cX5_read 54 = .ok (.istore 5, 2) := dk_54 5 (dk_at dksX5_read_2 7 rfl rfl)
theorem dX5_read_56 : decode cX5_read 56 = .ok (.iconst 0, 1) := dk_3 (dk_at dksX5_read_2 9 rfl rfl)
theorem dX5_read_57 : decode cX5_read 57 = .ok (.istore 6, 2) := dk_54 6 (dk_at dksX5_read_2 10 rfl rfl)
theorem dX5_read_59 : decode cX5_read 59 = .ok (.iconst 0, 1) := dk_3 (dk_at dksX5_read_2 12 rfl rfl)
theorem dX5_read_60 : decode cX5_read 60 = .ok (.istore 7, 2) := dk_54 7 (dk_at dksX5_read_2 13 rfl rfl)
theorem dX5_read_62 : decode cX5_read 62 = .ok (.iload 7, 2) := dk_21 7 (dk_at dksX5_read_2 15 rfl rfl)
theorem dX5_read_64 : decode cX5_read 64 = .ok (.iload 4, 2) := dk_21 4 (dk_at dksX5_read_2 17 rfl rfl)
theorem dX5_read_66 : decode cX5_read 66 = .ok (.if_icmp .ge 186, 3) := dk_162 0 186 (dk_at dksX5_read_2 19 rfl rfl)
theorem dX5_read_69 : decode cX5_read 69 = .ok (.iload 5, 2) := dk_21 5 (dk_at dksX5_read_2 22 rfl rfl)
theorem dX5_read_71 : decode cX5_read 71 = .ok (.ifCond .ne 181, 3) := dk_154 0 181 (dk_at dksX5_read_3 0 rfl rfl)
theorem dX5_read_74 : decode cX5_read 74 = .ok (.iconst 0, 1) := dk_3 (dk_at dksX5_read_3 3 rfl rfl)
theorem dX5_read_75 : decode cX5_read 75 = .ok (.istore 8, 2) := dk_54 8 (dk_at dksX5_read_3 4 rfl rfl)
theorem dX5_read_77 : decode cX5_read 77 = .ok (.iload 8, 2) := dk_21 8 (dk_at dksX5_read_3 6 rfl rfl)
theorem dX5_read_79 : decode cX5_read 79 = .ok (.iconst 2, 1) := dk_5 (dk_at dksX5_read_3 8 rfl rfl)
theorem dX5_read_80 : decode cX5_read 80 = .ok (.if_icmp .ge 84, 3) := dk_162 0 84 (dk_at dksX5_read_3 9 rfl rfl)
theorem dX5_read_83 : decode cX5_read 83 = .ok (.iload 5, 2) := dk_21 5 (dk_at dksX5_read_3 12 rfl rfl)
theorem dX5_read_85 : decode cX5_read 85 = .ok (.ifCond .ne 79, 3) := dk_154 0 79 (dk_at dksX5_read_3 14 rfl rfl)
theorem dX5_read_88 : decode cX5_read 88 = .ok (.iload_n 3, 1) := dk_29 (dk_at dksX5_read_3 17 rfl rfl)
theorem dX5_read_89 : decode cX5_read 89 = .ok (.i2l, 1) := dk_133 (dk_at dksX5_read_3 18 rfl rfl)
theorem dX5_read_90 : decode cX5_read 90 = .ok (.iconst 2, 1) := dk_5 (dk_at dksX5_read_3 19 rfl rfl)
theorem dX5_read_91 : decode cX5_read 91 = .ok (.iload 7, 2) := dk_21 7 (dk_at dksX5_read_3 20 rfl rfl)
theorem dX5_read_93 : decode cX5_read 93 = .ok (.imul, 1) := dk_104 (dk_at dksX5_read_3 22 rfl rfl)
theorem dX5_read_94 : decode cX5_read 94 = .ok (.i2l, 1) := dk_133 (dk_at dksX5_read_3 23 rfl rfl)
theorem dX5_read_95 : decode cX5_read 95 = .ok (.ladd, 1) := dk_97 (dk_at dksX5_read_4 0 rfl rfl)
theorem dX5_read_96 : decode cX5_read 96 = .ok (.iload 8, 2) := dk_21 8 (dk_at dksX5_read_4 1 rfl rfl)
theorem dX5_read_98 : decode cX5_read 98 = .ok (.i2l, 1) := dk_133 (dk_at dksX5_read_4 3 rfl rfl)
theorem dX5_read_99 : decode cX5_read 99 = .ok (.ladd, 1) := dk_97 (dk_at dksX5_read_4 4 rfl rfl)
theorem dX5_read_100 : decode cX5_read 100 = .ok (.lstore 9, 2) := dk_55 9 (dk_at dksX5_read_4 5 rfl rfl)
theorem dX5_read_102 : decode cX5_read 102 = .ok (.aload_n 0, 1) := dk_42 (dk_at dksX5_read_4 7 rfl rfl)
theorem dX5_read_103 : decode cX5_read 103 = .ok (.getfield 38, 3) := dk_180 0 38 (dk_at dksX5_read_4 8 rfl rfl)
theorem dX5_read_106 : decode cX5_read 106 = .ok (.iload_n 1, 1) := dk_27 (dk_at dksX5_read_4 11 rfl rfl)
theorem dX5_read_107 : decode cX5_read 107 = .ok (.iaload, 1) := dk_46 (dk_at dksX5_read_4 12 rfl rfl)
theorem dX5_read_108 : decode cX5_read 108 = .ok (.bipush (-4), 2) := dk_16 252 (dk_at dksX5_read_4 13 rfl rfl)
theorem dX5_read_110 : decode cX5_read 110 = .ok (.if_icmp .ne 7, 3) := dk_160 0 7 (dk_at dksX5_read_4 15 rfl rfl)
theorem dX5_read_113 : decode cX5_read 113 = .ok (.iconst 1, 1) := dk_4 (dk_at dksX5_read_4 18 rfl rfl)
theorem dX5_read_114 : decode cX5_read 114 = .ok (.goto 42, 3) := dk_167 0 42 (dk_at dksX5_read_4 19 rfl rfl)
theorem dX5_read_117 : decode cX5_read 117 = .ok (.aload_n 0, 1) := dk_42 (dk_at dksX5_read_4 22 rfl rfl)
theorem dX5_read_118 : decode cX5_read 118 = .ok (.getfield 38, 3) := dk_180 0 38 (dk_at dksX5_read_5 0 rfl rfl)
theorem dX5_read_121 : decode cX5_read 121 = .ok (.iload_n 1, 1) := dk_27 (dk_at dksX5_read_5 3 rfl rfl)
theorem dX5_read_122 : decode cX5_read 122 = .ok (.iaload, 1) := dk_46 (dk_at dksX5_read_5 4 rfl rfl)
theorem dX5_read_123 : decode cX5_read 123 = .ok (.iload_n 2, 1) := dk_28 (dk_at dksX5_read_5 5 rfl rfl)
theorem dX5_read_124 : decode cX5_read 124 = .ok (.if_icmp .eq 7, 3) := dk_159 0 7 (dk_at dksX5_read_5 6 rfl rfl)
theorem dX5_read_127 : decode cX5_read 127 = .ok (.iconst 3, 1) := dk_6 (dk_at dksX5_read_5 9 rfl rfl)
theorem dX5_read_128 : decode cX5_read 128 = .ok (.goto 28, 3) := dk_167 0 28 (dk_at dksX5_read_5 10 rfl rfl)
theorem dX5_read_131 : decode cX5_read 131 = .ok (.lload 9, 2) := dk_22 9 (dk_at dksX5_read_5 13 rfl rfl)
theorem dX5_read_133 : decode cX5_read 133 = .ok (.lconst 0, 1) := dk_9 (dk_at dksX5_read_5 15 rfl rfl)
theorem dX5_read_134 : decode cX5_read 134 = .ok (.lcmp, 1) := dk_148 (dk_at dksX5_read_5 16 rfl rfl)
theorem dX5_read_135 : decode cX5_read 135 = .ok (.ifCond .lt 16, 3) := dk_155 0 16 (dk_at dksX5_read_5 17 rfl rfl)
theorem dX5_read_138 : decode cX5_read 138 = .ok (.lload 9, 2) := dk_22 9 (dk_at dksX5_read_5 20 rfl rfl)
theorem dX5_read_140 : decode cX5_read 140 = .ok (.aload_n 0, 1) := dk_42 (dk_at dksX5_read_5 22 rfl rfl)
theorem dX5_read_141 : decode cX5_read 141 = .ok (.getfield 41, 3) := dk_180 0 41 (dk_at dksX5_read_6 0 rfl rfl)
theorem dX5_read_144 : decode cX5_read 144 = .ok (.iload_n 1, 1) := dk_27 (dk_at dksX5_read_6 3 rfl rfl)
theorem dX5_read_145 : decode cX5_read 145 = .ok (.iaload, 1) := dk_46 (dk_at dksX5_read_6 4 rfl rfl)
theorem dX5_read_146 : decode cX5_read 146 = .ok (.i2l, 1) := dk_133 (dk_at dksX5_read_6 5 rfl rfl)
theorem dX5_read_147 : decode cX5_read 147 = .ok (.lcmp, 1) := dk_148 (dk_at dksX5_read_6 6 rfl rfl)
theorem dX5_read_148 : decode cX5_read 148 = .ok (.ifCond .lt 7, 3) := dk_155 0 7 (dk_at dksX5_read_6 7 rfl rfl)
theorem dX5_read_151 : decode cX5_read 151 = .ok (.iconst 2, 1) := dk_5 (dk_at dksX5_read_6 10 rfl rfl)
theorem dX5_read_152 : decode cX5_read 152 = .ok (.goto 4, 3) := dk_167 0 4 (dk_at dksX5_read_6 11 rfl rfl)
theorem dX5_read_155 : decode cX5_read 155 = .ok (.iconst 0, 1) := dk_3 (dk_at dksX5_read_6 14 rfl rfl)
theorem dX5_read_156 : decode cX5_read 156 = .ok (.istore 5, 2) := dk_54 5 (dk_at dksX5_read_6 15 rfl rfl)
theorem dX5_read_158 : decode cX5_read 158 = .ok (.iinc 8 1, 3) := dk_132 8 1 (dk_at dksX5_read_6 17 rfl rfl)
theorem dX5_read_161 : decode cX5_read 161 = .ok (.goto (-84), 3) := dk_167 255 172 (dk_at dksX5_read_6 20 rfl rfl)
theorem dX5_read_164 : decode cX5_read 164 = .ok (.iload 5, 2) := dk_21 5 (dk_at dksX5_read_7 0 rfl rfl)
theorem dX5_read_166 : decode cX5_read 166 = .ok (.ifCond .ne 80, 3) := dk_154 0 80 (dk_at dksX5_read_7 2 rfl rfl)
theorem dX5_read_169 : decode cX5_read 169 = .ok (.bipush 40, 2) := dk_16 40 (dk_at dksX5_read_7 5 rfl rfl)
theorem dX5_read_171 : decode cX5_read 171 = .ok (.iload_n 1, 1) := dk_27 (dk_at dksX5_read_7 7 rfl rfl)
theorem dX5_read_172 : decode cX5_read 172 = .ok (.imul, 1) := dk_104 (dk_at dksX5_read_7 8 rfl rfl)
theorem dX5_read_173 : decode cX5_read 173 = .ok (.iload_n 3, 1) := dk_29 (dk_at dksX5_read_7 9 rfl rfl)
theorem dX5_read_174 : decode cX5_read 174 = .ok (.iadd, 1) := dk_96 (dk_at dksX5_read_7 10 rfl rfl)
theorem dX5_read_175 : decode cX5_read 175 = .ok (.iconst 2, 1) := dk_5 (dk_at dksX5_read_7 11 rfl rfl)
theorem dX5_read_176 : decode cX5_read 176 = .ok (.iload 7, 2) := dk_21 7 (dk_at dksX5_read_7 12 rfl rfl)
theorem dX5_read_178 : decode cX5_read 178 = .ok (.imul, 1) := dk_104 (dk_at dksX5_read_7 14 rfl rfl)
theorem dX5_read_179 : decode cX5_read 179 = .ok (.iadd, 1) := dk_96 (dk_at dksX5_read_7 15 rfl rfl)
theorem dX5_read_180 : decode cX5_read 180 = .ok (.istore 8, 2) := dk_54 8 (dk_at dksX5_read_7 16 rfl rfl)
theorem dX5_read_182 : decode cX5_read 182 = .ok (.aload_n 0, 1) := dk_42 (dk_at dksX5_read_7 18 rfl rfl)
theorem dX5_read_183 : decode cX5_read 183 = .ok (.aload_n 0, 1) := dk_42 (dk_at dksX5_read_7 19 rfl rfl)
theorem dX5_read_184 : decode cX5_read 184 = .ok (.getfield 44, 3) := dk_180 0 44 (dk_at dksX5_read_7 20 rfl rfl)
theorem dX5_read_187 : decode cX5_read 187 = .ok (.iload 8, 2) := dk_21 8 (dk_at dksX5_read_8 0 rfl rfl)
theorem dX5_read_189 : decode cX5_read 189 = .ok (.iaload, 1) := dk_46 (dk_at dksX5_read_8 2 rfl rfl)
theorem dX5_read_190 : decode cX5_read 190 = .ok (.iconst 2, 1) := dk_5 (dk_at dksX5_read_8 3 rfl rfl)
theorem dX5_read_191 : decode cX5_read 191 = .ok (.aload_n 0, 1) := dk_42 (dk_at dksX5_read_8 4 rfl rfl)
theorem dX5_read_192 : decode cX5_read 192 = .ok (.getfield 44, 3) := dk_180 0 44 (dk_at dksX5_read_8 5 rfl rfl)
theorem dX5_read_195 : decode cX5_read 195 = .ok (.iload 8, 2) := dk_21 8 (dk_at dksX5_read_8 8 rfl rfl)
theorem dX5_read_197 : decode cX5_read 197 = .ok (.iconst 1, 1) := dk_4 (dk_at dksX5_read_8 10 rfl rfl)
theorem dX5_read_198 : decode cX5_read 198 = .ok (.iadd, 1) := dk_96 (dk_at dksX5_read_8 11 rfl rfl)
theorem dX5_read_199 : decode cX5_read 199 = .ok (.iaload, 1) := dk_46 (dk_at dksX5_read_8 12 rfl rfl)
theorem dX5_read_200 : decode cX5_read 200 = .ok (.invokevirtual 331, 3) := dk_182 1 75 (dk_at dksX5_read_8 13 rfl rfl)
theorem dX5_read_203 : decode cX5_read 203 = .ok (.iconst (-1), 1) := dk_2 (dk_at dksX5_read_8 16 rfl rfl)
theorem dX5_read_204 : decode cX5_read 204 = .ok (.if_icmp .ne 39, 3) := dk_160 0 39 (dk_at dksX5_read_8 17 rfl rfl)
theorem dX5_read_207 : decode cX5_read 207 = .ok (.iconst 0, 1) := dk_3 (dk_at dksX5_read_8 20 rfl rfl)
theorem dX5_read_208 : decode cX5_read 208 = .ok (.istore 9, 2) := dk_54 9 (dk_at dksX5_read_8 21 rfl rfl)
theorem dX5_read_210 : decode cX5_read 210 = .ok (.iload 9, 2) := dk_21 9 (dk_at dksX5_read_9 0 rfl rfl)
theorem dX5_read_212 : decode cX5_read 212 = .ok (.bipush 55, 2) := dk_16 55 (dk_at dksX5_read_9 2 rfl rfl)
theorem dX5_read_214 : decode cX5_read 214 = .ok (.if_icmp .ge 23, 3) := dk_162 0 23 (dk_at dksX5_read_9 4 rfl rfl)
theorem dX5_read_217 : decode cX5_read 217 = .ok (.aload_n 0, 1) := dk_42 (dk_at dksX5_read_9 7 rfl rfl)
theorem dX5_read_218 : decode cX5_read 218 = .ok (.getfield 7, 3) := dk_180 0 7 (dk_at dksX5_read_9 8 rfl rfl)
theorem dX5_read_221 : decode cX5_read 221 = .ok (.iload 9, 2) := dk_21 9 (dk_at dksX5_read_9 11 rfl rfl)
theorem dX5_read_223 : decode cX5_read 223 = .ok (.aload_n 0, 1) := dk_42 (dk_at dksX5_read_9 13 rfl rfl)
theorem dX5_read_224 : decode cX5_read 224 = .ok (.getfield 47, 3) := dk_180 0 47 (dk_at dksX5_read_9 14 rfl rfl)
theorem dX5_read_227 : decode cX5_read 227 = .ok (.iload 9, 2) := dk_21 9 (dk_at dksX5_read_9 17 rfl rfl)
theorem dX5_read_229 : decode cX5_read 229 = .ok (.iaload, 1) := dk_46 (dk_at dksX5_read_9 19 rfl rfl)
theorem dX5_read_230 : decode cX5_read 230 = .ok (.iastore, 1) := dk_79 (dk_at dksX5_read_9 20 rfl rfl)
theorem dX5_read_231 : decode cX5_read 231 = .ok (.iinc 9 1, 3) := dk_132 9 1 (dk_at dksX5_read_9 21 rfl rfl)
theorem dX5_read_234 : decode cX5_read 234 = .ok (.goto (-24), 3) := dk_167 255 232 (dk_at dksX5_read_10 0 rfl rfl)
theorem dX5_read_237 : decode cX5_read 237 = .ok (.bipush (-20), 2) := dk_16 236 (dk_at dksX5_read_10 3 rfl rfl)
theorem dX5_read_239 : decode cX5_read 239 = .ok (.iload 7, 2) := dk_21 7 (dk_at dksX5_read_10 5 rfl rfl)
theorem dX5_read_241 : decode cX5_read 241 = .ok (.isub, 1) := dk_100 (dk_at dksX5_read_10 7 rfl rfl)
theorem dX5_read_242 : decode cX5_read 242 = .ok (.ireturn, 1) := dk_172 (dk_at dksX5_read_10 8 rfl rfl)
theorem dX5_read_243 : decode cX5_read 243 = .ok (.iinc 6 1, 3) := dk_132 6 1 (dk_at dksX5_read_10 9 rfl rfl)
theorem dX5_read_246 : decode cX5_read 246 = .ok (.iinc 7 1, 3) := dk_132 7 1 (dk_at dksX5_read_10 12 rfl rfl)
theorem dX5_read_249 : decode cX5_read 249 = .ok (.goto (-187), 3) := dk_167 255 69 (dk_at dksX5_read_10 15 rfl rfl)
theorem dX5_read_252 : decode cX5_read 252 = .ok (.aload_n 0, 1) := dk_42 (dk_at dksX5_read_10 18 rfl rfl)
theorem dX5_read_253 : decode cX5_read 253 = .ok (.iload 5, 2) := dk_21 5 (dk_at dksX5_read_10 19 rfl rfl)
theorem dX5_read_255 : decode cX5_read 255 = .ok (.putfield 335, 3) := dk_181 1 79 (dk_at dksX5_read_10 21 rfl rfl)
theorem dX5_read_258 : decode cX5_read 258 = .ok (.iload 6, 2) := dk_21 6 (dk_at dksX5_read_11 0 rfl rfl)
theorem dX5_read_260 : decode cX5_read 260 = .ok (.ireturn, 1) := dk_172 (dk_at dksX5_read_11 2 rfl rfl)
abbrev cX5_torn : ByteArray := prog_14_method_98_code
def yX5_torn : MethodName := ⟨RX5, "torn", "()I"⟩
theorem dX5_torn_0 : decode cX5_torn 0 = .ok (.aload_n 0, 1) := by decide +kernel
theorem dX5_torn_1 : decode cX5_torn 1 = .ok (.getfield 335, 3) := by decide +kernel
theorem dX5_torn_4 : decode cX5_torn 4 = .ok (.ireturn, 1) := by decide +kernel
abbrev cX5_count : ByteArray := prog_14_method_99_code
def yX5_count : MethodName := ⟨RX5, "count", "(I)I"⟩
def dkwX5_count_5 : List UInt8 := [3, 46, 172, 42, 182, 0, 234, 184, 0, 195, 172, 2, 172]
abbrev dktX5_count_5 : List UInt8 := dkwX5_count_5 ++ []
def dkwX5_count_4 : List UInt8 := [180, 0, 78, 172, 42, 180, 0, 38, 3, 46, 16, 252, 160, 0, 8, 16, 252, 167, 0, 9, 42, 180, 0, 41]
abbrev dktX5_count_4 : List UInt8 := dkwX5_count_4 ++ dktX5_count_5
def dkwX5_count_3 : List UInt8 := [172, 42, 180, 0, 16, 3, 51, 184, 0, 184, 42, 180, 0, 16, 4, 51, 184, 0, 184, 96, 172, 42]
abbrev dktX5_count_3 : List UInt8 := dkwX5_count_3 ++ dktX5_count_4
def dkwX5_count_2 : List UInt8 := [42, 4, 42, 180, 0, 69, 120, 4, 100, 3, 182, 0, 188, 184, 0, 195, 172, 42, 180, 0, 7, 16, 42, 46]
abbrev dktX5_count_2 : List UInt8 := dkwX5_count_2 ++ dktX5_count_3
def dkwX5_count_1 : List UInt8 := [170, 0, 0, 0, 0, 0, 120, 0, 0, 0, 0, 0, 0, 0, 5, 0, 0, 0, 39, 0, 0, 0, 56, 0, 0, 0, 64, 0, 0, 0, 84, 0, 0, 0, 89, 0, 0, 0, 112]
abbrev dktX5_count_1 : List UInt8 := dkwX5_count_1 ++ dktX5_count_2
def dkwX5_count_0 : List UInt8 := [42, 182, 0, 228, 27]
abbrev dktX5_count_0 : List UInt8 := dkwX5_count_0 ++ dktX5_count_1
theorem dksX5_count_0 : cX5_count.data.toList.drop 0 = dktX5_count_0 := by decide +kernel
theorem dksX5_count_1 : cX5_count.data.toList.drop 5 = dktX5_count_1 := dk_seg dksX5_count_0 5 rfl rfl
theorem dksX5_count_2 : cX5_count.data.toList.drop 44 = dktX5_count_2 := dk_seg dksX5_count_1 39 rfl rfl
theorem dksX5_count_3 : cX5_count.data.toList.drop 68 = dktX5_count_3 := dk_seg dksX5_count_2 24 rfl rfl
theorem dksX5_count_4 : cX5_count.data.toList.drop 90 = dktX5_count_4 := dk_seg dksX5_count_3 22 rfl rfl
theorem dksX5_count_5 : cX5_count.data.toList.drop 114 = dktX5_count_5 := dk_seg dksX5_count_4 24 rfl rfl
theorem dX5_count_0 : decode cX5_count 0 = .ok (.aload_n 0, 1) := dk_42 (dk_at dksX5_count_0 0 rfl rfl)
theorem dX5_count_1 : decode cX5_count 1 = .ok (.invokevirtual 228, 3) := dk_182 0 228 (dk_at dksX5_count_0 1 rfl rfl)
theorem dX5_count_4 : decode cX5_count 4 = .ok (.iload_n 1, 1) := dk_27 (dk_at dksX5_count_0 4 rfl rfl)
theorem dX5_count_5 : decode cX5_count 5 = .ok (.tableswitch 120 0 5 #[39, 56, 64, 84, 89, 112], 39) := by decide +kernel
theorem dX5_count_44 : decode cX5_count 44 = .ok (.aload_n 0, 1) := dk_42 (dk_at dksX5_count_2 0 rfl rfl)
theorem dX5_count_45 : decode cX5_count 45 = .ok (.iconst 1, 1) := dk_4 (dk_at dksX5_count_2 1 rfl rfl)
theorem dX5_count_46 : decode cX5_count 46 = .ok (.aload_n 0, 1) := dk_42 (dk_at dksX5_count_2 2 rfl rfl)
theorem dX5_count_47 : decode cX5_count 47 = .ok (.getfield 69, 3) := dk_180 0 69 (dk_at dksX5_count_2 3 rfl rfl)
theorem dX5_count_50 : decode cX5_count 50 = .ok (.ishl, 1) := dk_120 (dk_at dksX5_count_2 6 rfl rfl)
theorem dX5_count_51 : decode cX5_count 51 = .ok (.iconst 1, 1) := dk_4 (dk_at dksX5_count_2 7 rfl rfl)
theorem dX5_count_52 : decode cX5_count 52 = .ok (.isub, 1) := dk_100 (dk_at dksX5_count_2 8 rfl rfl)
theorem dX5_count_53 : decode cX5_count 53 = .ok (.iconst 0, 1) := dk_3 (dk_at dksX5_count_2 9 rfl rfl)
theorem dX5_count_54 : decode cX5_count 54 = .ok (.invokevirtual 188, 3) := dk_182 0 188 (dk_at dksX5_count_2 10 rfl rfl)
theorem dX5_count_57 : decode cX5_count 57 = .ok (.invokestatic 195, 3) := dk_184 0 195 (dk_at dksX5_count_2 13 rfl rfl)
theorem dX5_count_60 : decode cX5_count 60 = .ok (.ireturn, 1) := dk_172 (dk_at dksX5_count_2 16 rfl rfl)
theorem dX5_count_61 : decode cX5_count 61 = .ok (.aload_n 0, 1) := dk_42 (dk_at dksX5_count_2 17 rfl rfl)
theorem dX5_count_62 : decode cX5_count 62 = .ok (.getfield 7, 3) := dk_180 0 7 (dk_at dksX5_count_2 18 rfl rfl)
theorem dX5_count_65 : decode cX5_count 65 = .ok (.bipush 42, 2) := dk_16 42 (dk_at dksX5_count_2 21 rfl rfl)
theorem dX5_count_67 : decode cX5_count 67 = .ok (.iaload, 1) := dk_46 (dk_at dksX5_count_2 23 rfl rfl)
theorem dX5_count_68 : decode cX5_count 68 = .ok (.ireturn, 1) := dk_172 (dk_at dksX5_count_3 0 rfl rfl)
theorem dX5_count_69 : decode cX5_count 69 = .ok (.aload_n 0, 1) := dk_42 (dk_at dksX5_count_3 1 rfl rfl)
theorem dX5_count_70 : decode cX5_count 70 = .ok (.getfield 16, 3) := dk_180 0 16 (dk_at dksX5_count_3 2 rfl rfl)
theorem dX5_count_73 : decode cX5_count 73 = .ok (.iconst 0, 1) := dk_3 (dk_at dksX5_count_3 5 rfl rfl)
theorem dX5_count_74 : decode cX5_count 74 = .ok (.baload, 1) := dk_51 (dk_at dksX5_count_3 6 rfl rfl)
theorem dX5_count_75 : decode cX5_count 75 = .ok (.invokestatic 184, 3) := dk_184 0 184 (dk_at dksX5_count_3 7 rfl rfl)
theorem dX5_count_78 : decode cX5_count 78 = .ok (.aload_n 0, 1) := dk_42 (dk_at dksX5_count_3 10 rfl rfl)
theorem dX5_count_79 : decode cX5_count 79 = .ok (.getfield 16, 3) := dk_180 0 16 (dk_at dksX5_count_3 11 rfl rfl)
theorem dX5_count_82 : decode cX5_count 82 = .ok (.iconst 1, 1) := dk_4 (dk_at dksX5_count_3 14 rfl rfl)
theorem dX5_count_83 : decode cX5_count 83 = .ok (.baload, 1) := dk_51 (dk_at dksX5_count_3 15 rfl rfl)
theorem dX5_count_84 : decode cX5_count 84 = .ok (.invokestatic 184, 3) := dk_184 0 184 (dk_at dksX5_count_3 16 rfl rfl)
theorem dX5_count_87 : decode cX5_count 87 = .ok (.iadd, 1) := dk_96 (dk_at dksX5_count_3 19 rfl rfl)
theorem dX5_count_88 : decode cX5_count 88 = .ok (.ireturn, 1) := dk_172 (dk_at dksX5_count_3 20 rfl rfl)
theorem dX5_count_89 : decode cX5_count 89 = .ok (.aload_n 0, 1) := dk_42 (dk_at dksX5_count_3 21 rfl rfl)
theorem dX5_count_90 : decode cX5_count 90 = .ok (.getfield 78, 3) := dk_180 0 78 (dk_at dksX5_count_4 0 rfl rfl)
theorem dX5_count_93 : decode cX5_count 93 = .ok (.ireturn, 1) := dk_172 (dk_at dksX5_count_4 3 rfl rfl)
theorem dX5_count_94 : decode cX5_count 94 = .ok (.aload_n 0, 1) := dk_42 (dk_at dksX5_count_4 4 rfl rfl)
theorem dX5_count_95 : decode cX5_count 95 = .ok (.getfield 38, 3) := dk_180 0 38 (dk_at dksX5_count_4 5 rfl rfl)
theorem dX5_count_98 : decode cX5_count 98 = .ok (.iconst 0, 1) := dk_3 (dk_at dksX5_count_4 8 rfl rfl)
theorem dX5_count_99 : decode cX5_count 99 = .ok (.iaload, 1) := dk_46 (dk_at dksX5_count_4 9 rfl rfl)
theorem dX5_count_100 : decode cX5_count 100 = .ok (.bipush (-4), 2) := dk_16 252 (dk_at dksX5_count_4 10 rfl rfl)
theorem dX5_count_102 : decode cX5_count 102 = .ok (.if_icmp .ne 8, 3) := dk_160 0 8 (dk_at dksX5_count_4 12 rfl rfl)
theorem dX5_count_105 : decode cX5_count 105 = .ok (.bipush (-4), 2) := dk_16 252 (dk_at dksX5_count_4 15 rfl rfl)
theorem dX5_count_107 : decode cX5_count 107 = .ok (.goto 9, 3) := dk_167 0 9 (dk_at dksX5_count_4 17 rfl rfl)
theorem dX5_count_110 : decode cX5_count 110 = .ok (.aload_n 0, 1) := dk_42 (dk_at dksX5_count_4 20 rfl rfl)
theorem dX5_count_111 : decode cX5_count 111 = .ok (.getfield 41, 3) := dk_180 0 41 (dk_at dksX5_count_4 21 rfl rfl)
theorem dX5_count_114 : decode cX5_count 114 = .ok (.iconst 0, 1) := dk_3 (dk_at dksX5_count_5 0 rfl rfl)
theorem dX5_count_115 : decode cX5_count 115 = .ok (.iaload, 1) := dk_46 (dk_at dksX5_count_5 1 rfl rfl)
theorem dX5_count_116 : decode cX5_count 116 = .ok (.ireturn, 1) := dk_172 (dk_at dksX5_count_5 2 rfl rfl)
theorem dX5_count_117 : decode cX5_count 117 = .ok (.aload_n 0, 1) := dk_42 (dk_at dksX5_count_5 3 rfl rfl)
theorem dX5_count_118 : decode cX5_count 118 = .ok (.invokevirtual 234, 3) := dk_182 0 234 (dk_at dksX5_count_5 4 rfl rfl)
theorem dX5_count_121 : decode cX5_count 121 = .ok (.invokestatic 195, 3) := dk_184 0 195 (dk_at dksX5_count_5 7 rfl rfl)
theorem dX5_count_124 : decode cX5_count 124 = .ok (.ireturn, 1) := dk_172 (dk_at dksX5_count_5 10 rfl rfl)
theorem dX5_count_125 : decode cX5_count 125 = .ok (.iconst (-1), 1) := dk_2 (dk_at dksX5_count_5 11 rfl rfl)
theorem dX5_count_126 : decode cX5_count 126 = .ok (.ireturn, 1) := dk_172 (dk_at dksX5_count_5 12 rfl rfl)
theorem q88 : (Jvm.Cond.initialized "LockTurnsModel") ∈ lw_all := lw_g (lw_at lw_m1 6 rfl) rfl
theorem q959 : (Jvm.Cond.instantiable "LockTurnsModel" (32 : Nat)) ∈ lw_all := lw_g (lw_at lw_m4 157 rfl) rfl
theorem q961 : (Jvm.Cond.instanceMethod ({ cls := "LockTurnsModel", name := "<init>", desc := "()V" } : Jvm.MethodName)) ∈ lw_all := lw_g (lw_at lw_m4 159 rfl) rfl
theorem q962 : (Jvm.Cond.code ({ cls := "LockTurnsModel", name := "<init>", desc := "()V" } : Jvm.MethodName) prog_14_method_1_code (2 : Nat) (Option.none : Option Jvm.ClassFile.FieldType)) ∈ lw_all := lw_g (lw_at lw_m4 160 rfl) rfl
theorem q963 : (Jvm.Cond.methodLink "LockTurnsModel" (1 : Nat) ({ cls := "java/lang/Object", name := "<init>", desc := "()V" } : Jvm.MethodName)) ∈ lw_all := lw_g (lw_at lw_m4 161 rfl) rfl
theorem q964 : (Jvm.Cond.methodLink "LockTurnsModel" (50 : Nat) ({ cls := "LockTurnsModel", name := "firstDraft", desc := "()V" } : Jvm.MethodName)) ∈ lw_all := lw_g (lw_at lw_m4 162 rfl) rfl
theorem q965 : (Jvm.Cond.privateMethod ({ cls := "LockTurnsModel", name := "firstDraft", desc := "()V" } : Jvm.MethodName)) ∈ lw_tbl := lw_at lw_m4 163 rfl
theorem q966 : (Jvm.Cond.instanceMethod ({ cls := "LockTurnsModel", name := "firstDraft", desc := "()V" } : Jvm.MethodName)) ∈ lw_all := lw_g (lw_at lw_m4 164 rfl) rfl
theorem q967 : (Jvm.Cond.code ({ cls := "LockTurnsModel", name := "firstDraft", desc := "()V" } : Jvm.MethodName) prog_14_method_5_code (2 : Nat) (Option.none : Option Jvm.ClassFile.FieldType)) ∈ lw_all := lw_g (lw_at lw_m4 165 rfl) rfl
theorem q968 : (Jvm.Cond.methodLink "LockTurnsModel" (53 : Nat) ({ cls := "LockTurnsModel", name := "keepDraft", desc := "()V" } : Jvm.MethodName)) ∈ lw_all := lw_g (lw_at lw_m4 166 rfl) rfl
theorem q969 : (Jvm.Cond.privateMethod ({ cls := "LockTurnsModel", name := "keepDraft", desc := "()V" } : Jvm.MethodName)) ∈ lw_tbl := lw_at lw_m4 167 rfl
theorem q970 : (Jvm.Cond.instanceMethod ({ cls := "LockTurnsModel", name := "keepDraft", desc := "()V" } : Jvm.MethodName)) ∈ lw_all := lw_g (lw_at lw_m4 168 rfl) rfl
theorem q971 : (Jvm.Cond.code ({ cls := "LockTurnsModel", name := "keepDraft", desc := "()V" } : Jvm.MethodName) prog_14_method_6_code (2 : Nat) (Option.none : Option Jvm.ClassFile.FieldType)) ∈ lw_all := lw_g (lw_at lw_m4 169 rfl) rfl
theorem q972 : (Jvm.Cond.fieldLink "LockTurnsModel" (7 : Nat) "LockTurnsModel" "st" "[I") ∈ lw_all := lw_g (lw_at lw_m4 170 rfl) rfl
theorem q973 : (Jvm.Cond.fieldLink "LockTurnsModel" (13 : Nat) "LockTurnsModel" "at" "[I") ∈ lw_all := lw_g (lw_at lw_m4 171 rfl) rfl
theorem q974 : (Jvm.Cond.fieldLink "LockTurnsModel" (16 : Nat) "LockTurnsModel" "isKept" "[Z") ∈ lw_all := lw_g (lw_at lw_m4 172 rfl) rfl
theorem q975 : (Jvm.Cond.fieldLink "LockTurnsModel" (69 : Nat) "LockTurnsModel" "boats" "I") ∈ lw_all := lw_g (lw_at lw_m4 173 rfl) rfl
theorem q976 : (Jvm.Cond.fieldLink "LockTurnsModel" (20 : Nat) "LockTurnsModel" "draft" "[I") ∈ lw_all := lw_g (lw_at lw_m4 174 rfl) rfl
theorem q977 : (Jvm.Cond.fieldLink "LockTurnsModel" (56 : Nat) "LockTurnsModel" "dBoats" "I") ∈ lw_all := lw_g (lw_at lw_m4 175 rfl) rfl
theorem q978 : (Jvm.Cond.fieldLink "LockTurnsModel" (60 : Nat) "LockTurnsModel" "toldLines" "I") ∈ lw_all := lw_g (lw_at lw_m4 176 rfl) rfl
theorem q979 : (Jvm.Cond.fieldLink "LockTurnsModel" (63 : Nat) "LockTurnsModel" "toldLiars" "I") ∈ lw_all := lw_g (lw_at lw_m4 177 rfl) rfl
theorem q980 : (Jvm.Cond.fieldLink "LockTurnsModel" (66 : Nat) "LockTurnsModel" "highest" "I") ∈ lw_all := lw_g (lw_at lw_m4 178 rfl) rfl
theorem q981 : (Jvm.Cond.fieldLink "LockTurnsModel" (23 : Nat) "LockTurnsModel" "tape" "[I") ∈ lw_all := lw_g (lw_at lw_m4 179 rfl) rfl
theorem q982 : (Jvm.Cond.fieldLink "LockTurnsModel" (78 : Nat) "LockTurnsModel" "taped" "I") ∈ lw_all := lw_g (lw_at lw_m4 180 rfl) rfl
theorem q983 : (Jvm.Cond.fieldLink "LockTurnsModel" (90 : Nat) "LockTurnsModel" "pos" "I") ∈ lw_all := lw_g (lw_at lw_m4 181 rfl) rfl
theorem q984 : (Jvm.Cond.fieldLink "LockTurnsModel" (84 : Nat) "LockTurnsModel" "from" "I") ∈ lw_all := lw_g (lw_at lw_m4 182 rfl) rfl
theorem q985 : (Jvm.Cond.fieldLink "LockTurnsModel" (105 : Nat) "LockTurnsModel" "sort" "I") ∈ lw_all := lw_g (lw_at lw_m4 183 rfl) rfl
theorem q986 : (Jvm.Cond.fieldLink "LockTurnsModel" (116 : Nat) "LockTurnsModel" "value" "I") ∈ lw_all := lw_g (lw_at lw_m4 184 rfl) rfl
theorem q987 : (Jvm.Cond.fieldLink "LockTurnsModel" (81 : Nat) "LockTurnsModel" "fault" "I") ∈ lw_all := lw_g (lw_at lw_m4 185 rfl) rfl
theorem q988 : (Jvm.Cond.fieldLink "LockTurnsModel" (87 : Nat) "LockTurnsModel" "wrongAt" "I") ∈ lw_all := lw_g (lw_at lw_m4 186 rfl) rfl
theorem q989 : (Jvm.Cond.fieldLink "LockTurnsModel" (163 : Nat) "LockTurnsModel" "caught" "I") ∈ lw_all := lw_g (lw_at lw_m4 187 rfl) rfl
theorem q990 : (Jvm.Cond.fieldLink "LockTurnsModel" (26 : Nat) "LockTurnsModel" "passed" "[I") ∈ lw_all := lw_g (lw_at lw_m4 188 rfl) rfl
theorem q991 : (Jvm.Cond.fieldLink "LockTurnsModel" (29 : Nat) "LockTurnsModel" "done" "[I") ∈ lw_all := lw_g (lw_at lw_m4 189 rfl) rfl
theorem q992 : (Jvm.Cond.fieldLink "LockTurnsModel" (32 : Nat) "LockTurnsModel" "stands" "[I") ∈ lw_all := lw_g (lw_at lw_m4 190 rfl) rfl
theorem q993 : (Jvm.Cond.fieldLink "LockTurnsModel" (169 : Nat) "LockTurnsModel" "passedMany" "I") ∈ lw_all := lw_g (lw_at lw_m4 191 rfl) rfl
theorem q994 : (Jvm.Cond.fieldLink "LockTurnsModel" (172 : Nat) "LockTurnsModel" "free" "I") ∈ lw_all := lw_g (lw_at lw_m4 192 rfl) rfl
theorem q995 : (Jvm.Cond.fieldLink "LockTurnsModel" (175 : Nat) "LockTurnsModel" "ready" "I") ∈ lw_all := lw_g (lw_at lw_m4 193 rfl) rfl
theorem q996 : (Jvm.Cond.fieldLink "LockTurnsModel" (178 : Nat) "LockTurnsModel" "water" "I") ∈ lw_all := lw_g (lw_at lw_m4 194 rfl) rfl
theorem q997 : (Jvm.Cond.fieldLink "LockTurnsModel" (181 : Nat) "LockTurnsModel" "turned" "I") ∈ lw_all := lw_g (lw_at lw_m4 195 rfl) rfl
theorem q998 : (Jvm.Cond.fieldLink "LockTurnsModel" (35 : Nat) "LockTurnsModel" "row" "[I") ∈ lw_all := lw_g (lw_at lw_m4 196 rfl) rfl
theorem q999 : (Jvm.Cond.fieldLink "LockTurnsModel" (38 : Nat) "LockTurnsModel" "lanes" "[I") ∈ lw_all := lw_g (lw_at lw_m4 197 rfl) rfl
theorem q1000 : (Jvm.Cond.fieldLink "LockTurnsModel" (41 : Nat) "LockTurnsModel" "sizes" "[I") ∈ lw_all := lw_g (lw_at lw_m4 198 rfl) rfl
theorem q1001 : (Jvm.Cond.fieldLink "LockTurnsModel" (44 : Nat) "LockTurnsModel" "cells" "[I") ∈ lw_all := lw_g (lw_at lw_m4 199 rfl) rfl
theorem q1002 : (Jvm.Cond.fieldLink "LockTurnsModel" (335 : Nat) "LockTurnsModel" "torn" "I") ∈ lw_all := lw_g (lw_at lw_m4 200 rfl) rfl
theorem q1003 : (Jvm.Cond.fieldLink "LockTurnsModel" (47 : Nat) "LockTurnsModel" "had" "[I") ∈ lw_all := lw_g (lw_at lw_m4 201 rfl) rfl
theorem q1004 : (Jvm.Cond.laysFinal "LockTurnsModel" "LockTurnsModel" "st" "[I") ∈ lw_all := lw_g (lw_at lw_m4 202 rfl) rfl
theorem q1005 : (Jvm.Cond.soleField "LockTurnsModel" "st") ∈ lw_all := lw_g (lw_at lw_m4 203 rfl) rfl
theorem q1006 : (Jvm.Cond.laysFinal "LockTurnsModel" "LockTurnsModel" "at" "[I") ∈ lw_all := lw_g (lw_at lw_m4 204 rfl) rfl
theorem q1007 : (Jvm.Cond.soleField "LockTurnsModel" "at") ∈ lw_all := lw_g (lw_at lw_m4 205 rfl) rfl
theorem q1008 : (Jvm.Cond.laysFinal "LockTurnsModel" "LockTurnsModel" "isKept" "[Z") ∈ lw_all := lw_g (lw_at lw_m4 206 rfl) rfl
theorem q1009 : (Jvm.Cond.soleField "LockTurnsModel" "isKept") ∈ lw_all := lw_g (lw_at lw_m4 207 rfl) rfl
theorem q1010 : (Jvm.Cond.lays "LockTurnsModel" "LockTurnsModel" "boats" "I") ∈ lw_all := lw_g (lw_at lw_m4 208 rfl) rfl
theorem q1011 : (Jvm.Cond.soleField "LockTurnsModel" "boats") ∈ lw_all := lw_g (lw_at lw_m4 209 rfl) rfl
theorem q1012 : (Jvm.Cond.laysFinal "LockTurnsModel" "LockTurnsModel" "draft" "[I") ∈ lw_all := lw_g (lw_at lw_m4 210 rfl) rfl
theorem q1013 : (Jvm.Cond.soleField "LockTurnsModel" "draft") ∈ lw_all := lw_g (lw_at lw_m4 211 rfl) rfl
theorem q1014 : (Jvm.Cond.lays "LockTurnsModel" "LockTurnsModel" "dBoats" "I") ∈ lw_all := lw_g (lw_at lw_m4 212 rfl) rfl
theorem q1015 : (Jvm.Cond.soleField "LockTurnsModel" "dBoats") ∈ lw_all := lw_g (lw_at lw_m4 213 rfl) rfl
theorem q1016 : (Jvm.Cond.lays "LockTurnsModel" "LockTurnsModel" "toldLines" "I") ∈ lw_all := lw_g (lw_at lw_m4 214 rfl) rfl
theorem q1017 : (Jvm.Cond.soleField "LockTurnsModel" "toldLines") ∈ lw_all := lw_g (lw_at lw_m4 215 rfl) rfl
theorem q1018 : (Jvm.Cond.lays "LockTurnsModel" "LockTurnsModel" "toldLiars" "I") ∈ lw_all := lw_g (lw_at lw_m4 216 rfl) rfl
theorem q1019 : (Jvm.Cond.soleField "LockTurnsModel" "toldLiars") ∈ lw_all := lw_g (lw_at lw_m4 217 rfl) rfl
theorem q1020 : (Jvm.Cond.lays "LockTurnsModel" "LockTurnsModel" "highest" "I") ∈ lw_all := lw_g (lw_at lw_m4 218 rfl) rfl
theorem q1021 : (Jvm.Cond.soleField "LockTurnsModel" "highest") ∈ lw_all := lw_g (lw_at lw_m4 219 rfl) rfl
theorem q1022 : (Jvm.Cond.laysFinal "LockTurnsModel" "LockTurnsModel" "tape" "[I") ∈ lw_all := lw_g (lw_at lw_m4 220 rfl) rfl
theorem q1023 : (Jvm.Cond.soleField "LockTurnsModel" "tape") ∈ lw_all := lw_g (lw_at lw_m4 221 rfl) rfl
theorem q1024 : (Jvm.Cond.lays "LockTurnsModel" "LockTurnsModel" "taped" "I") ∈ lw_all := lw_g (lw_at lw_m4 222 rfl) rfl
theorem q1025 : (Jvm.Cond.soleField "LockTurnsModel" "taped") ∈ lw_all := lw_g (lw_at lw_m4 223 rfl) rfl
theorem q1026 : (Jvm.Cond.lays "LockTurnsModel" "LockTurnsModel" "pos" "I") ∈ lw_all := lw_g (lw_at lw_m4 224 rfl) rfl
theorem q1027 : (Jvm.Cond.soleField "LockTurnsModel" "pos") ∈ lw_all := lw_g (lw_at lw_m4 225 rfl) rfl
theorem q1028 : (Jvm.Cond.lays "LockTurnsModel" "LockTurnsModel" "from" "I") ∈ lw_all := lw_g (lw_at lw_m4 226 rfl) rfl
theorem q1029 : (Jvm.Cond.soleField "LockTurnsModel" "from") ∈ lw_all := lw_g (lw_at lw_m4 227 rfl) rfl
theorem q1030 : (Jvm.Cond.lays "LockTurnsModel" "LockTurnsModel" "sort" "I") ∈ lw_all := lw_g (lw_at lw_m4 228 rfl) rfl
theorem q1031 : (Jvm.Cond.soleField "LockTurnsModel" "sort") ∈ lw_all := lw_g (lw_at lw_m4 229 rfl) rfl
theorem q1032 : (Jvm.Cond.lays "LockTurnsModel" "LockTurnsModel" "value" "I") ∈ lw_all := lw_g (lw_at lw_m4 230 rfl) rfl
theorem q1033 : (Jvm.Cond.soleField "LockTurnsModel" "value") ∈ lw_all := lw_g (lw_at lw_m4 231 rfl) rfl
theorem q1034 : (Jvm.Cond.lays "LockTurnsModel" "LockTurnsModel" "fault" "I") ∈ lw_all := lw_g (lw_at lw_m4 232 rfl) rfl
theorem q1035 : (Jvm.Cond.soleField "LockTurnsModel" "fault") ∈ lw_all := lw_g (lw_at lw_m4 233 rfl) rfl
theorem q1036 : (Jvm.Cond.lays "LockTurnsModel" "LockTurnsModel" "wrongAt" "I") ∈ lw_all := lw_g (lw_at lw_m4 234 rfl) rfl
theorem q1037 : (Jvm.Cond.soleField "LockTurnsModel" "wrongAt") ∈ lw_all := lw_g (lw_at lw_m4 235 rfl) rfl
theorem q1038 : (Jvm.Cond.lays "LockTurnsModel" "LockTurnsModel" "caught" "I") ∈ lw_all := lw_g (lw_at lw_m4 236 rfl) rfl
theorem q1039 : (Jvm.Cond.soleField "LockTurnsModel" "caught") ∈ lw_all := lw_g (lw_at lw_m4 237 rfl) rfl
theorem q1040 : (Jvm.Cond.laysFinal "LockTurnsModel" "LockTurnsModel" "passed" "[I") ∈ lw_all := lw_g (lw_at lw_m4 238 rfl) rfl
theorem q1041 : (Jvm.Cond.soleField "LockTurnsModel" "passed") ∈ lw_all := lw_g (lw_at lw_m4 239 rfl) rfl
theorem q1042 : (Jvm.Cond.laysFinal "LockTurnsModel" "LockTurnsModel" "done" "[I") ∈ lw_all := lw_g (lw_at lw_m5 0 rfl) rfl
theorem q1043 : (Jvm.Cond.soleField "LockTurnsModel" "done") ∈ lw_all := lw_g (lw_at lw_m5 1 rfl) rfl
theorem q1044 : (Jvm.Cond.laysFinal "LockTurnsModel" "LockTurnsModel" "stands" "[I") ∈ lw_all := lw_g (lw_at lw_m5 2 rfl) rfl
theorem q1045 : (Jvm.Cond.soleField "LockTurnsModel" "stands") ∈ lw_all := lw_g (lw_at lw_m5 3 rfl) rfl
theorem q1046 : (Jvm.Cond.lays "LockTurnsModel" "LockTurnsModel" "passedMany" "I") ∈ lw_all := lw_g (lw_at lw_m5 4 rfl) rfl
theorem q1047 : (Jvm.Cond.soleField "LockTurnsModel" "passedMany") ∈ lw_all := lw_g (lw_at lw_m5 5 rfl) rfl
theorem q1048 : (Jvm.Cond.lays "LockTurnsModel" "LockTurnsModel" "free" "I") ∈ lw_all := lw_g (lw_at lw_m5 6 rfl) rfl
theorem q1049 : (Jvm.Cond.soleField "LockTurnsModel" "free") ∈ lw_all := lw_g (lw_at lw_m5 7 rfl) rfl
theorem q1050 : (Jvm.Cond.lays "LockTurnsModel" "LockTurnsModel" "ready" "I") ∈ lw_all := lw_g (lw_at lw_m5 8 rfl) rfl
theorem q1051 : (Jvm.Cond.soleField "LockTurnsModel" "ready") ∈ lw_all := lw_g (lw_at lw_m5 9 rfl) rfl
theorem q1052 : (Jvm.Cond.lays "LockTurnsModel" "LockTurnsModel" "water" "I") ∈ lw_all := lw_g (lw_at lw_m5 10 rfl) rfl
theorem q1053 : (Jvm.Cond.soleField "LockTurnsModel" "water") ∈ lw_all := lw_g (lw_at lw_m5 11 rfl) rfl
theorem q1054 : (Jvm.Cond.lays "LockTurnsModel" "LockTurnsModel" "turned" "I") ∈ lw_all := lw_g (lw_at lw_m5 12 rfl) rfl
theorem q1055 : (Jvm.Cond.soleField "LockTurnsModel" "turned") ∈ lw_all := lw_g (lw_at lw_m5 13 rfl) rfl
theorem q1056 : (Jvm.Cond.laysFinal "LockTurnsModel" "LockTurnsModel" "row" "[I") ∈ lw_all := lw_g (lw_at lw_m5 14 rfl) rfl
theorem q1057 : (Jvm.Cond.soleField "LockTurnsModel" "row") ∈ lw_all := lw_g (lw_at lw_m5 15 rfl) rfl
theorem q1058 : (Jvm.Cond.laysFinal "LockTurnsModel" "LockTurnsModel" "lanes" "[I") ∈ lw_all := lw_g (lw_at lw_m5 16 rfl) rfl
theorem q1059 : (Jvm.Cond.soleField "LockTurnsModel" "lanes") ∈ lw_all := lw_g (lw_at lw_m5 17 rfl) rfl
theorem q1060 : (Jvm.Cond.laysFinal "LockTurnsModel" "LockTurnsModel" "sizes" "[I") ∈ lw_all := lw_g (lw_at lw_m5 18 rfl) rfl
theorem q1061 : (Jvm.Cond.soleField "LockTurnsModel" "sizes") ∈ lw_all := lw_g (lw_at lw_m5 19 rfl) rfl
theorem q1062 : (Jvm.Cond.laysFinal "LockTurnsModel" "LockTurnsModel" "cells" "[I") ∈ lw_all := lw_g (lw_at lw_m5 20 rfl) rfl
theorem q1063 : (Jvm.Cond.soleField "LockTurnsModel" "cells") ∈ lw_all := lw_g (lw_at lw_m5 21 rfl) rfl
theorem q1064 : (Jvm.Cond.lays "LockTurnsModel" "LockTurnsModel" "torn" "I") ∈ lw_all := lw_g (lw_at lw_m5 22 rfl) rfl
theorem q1065 : (Jvm.Cond.soleField "LockTurnsModel" "torn") ∈ lw_all := lw_g (lw_at lw_m5 23 rfl) rfl
theorem q1066 : (Jvm.Cond.laysFinal "LockTurnsModel" "LockTurnsModel" "had" "[I") ∈ lw_all := lw_g (lw_at lw_m5 24 rfl) rfl
theorem q1067 : (Jvm.Cond.soleField "LockTurnsModel" "had") ∈ lw_all := lw_g (lw_at lw_m5 25 rfl) rfl
theorem q1068 : (Jvm.Cond.superclass "LockTurnsModel" "java/lang/Object") ∈ lw_all := lw_g (lw_at lw_m5 26 rfl) rfl
theorem q1071 : (Jvm.Cond.instanceMethod ({ cls := "LockTurnsModel", name := "feed", desc := "(I)I" } : Jvm.MethodName)) ∈ lw_all := lw_g (lw_at lw_m5 29 rfl) rfl
theorem q1072 : (Jvm.Cond.selects "LockTurnsModel" ({ cls := "LockTurnsModel", name := "feed", desc := "(I)I" } : Jvm.MethodName) ({ cls := "LockTurnsModel", name := "feed", desc := "(I)I" } : Jvm.MethodName)) ∈ lw_all := lw_g (lw_at lw_m5 30 rfl) rfl
theorem q1073 : (Jvm.Cond.code ({ cls := "LockTurnsModel", name := "feed", desc := "(I)I" } : Jvm.MethodName) prog_14_method_7_code (2 : Nat) (Option.some Jvm.ClassFile.FieldType.int)) ∈ lw_all := lw_g (lw_at lw_m5 31 rfl) rfl
theorem q1074 : (Jvm.Cond.constantLong "LockTurnsModel" (72 : Nat) (127 : Int64)) ∈ lw_all := lw_g (lw_at lw_m5 32 rfl) rfl
theorem q1075 : (Jvm.Cond.methodLink "LockTurnsModel" (74 : Nat) ({ cls := "LockTurnsModel", name := "in", desc := "(JJJ)Z" } : Jvm.MethodName)) ∈ lw_all := lw_g (lw_at lw_m5 33 rfl) rfl
theorem q1076 : (Jvm.Cond.static ({ cls := "LockTurnsModel", name := "in", desc := "(JJJ)Z" } : Jvm.MethodName)) ∈ lw_all := lw_g (lw_at lw_m5 34 rfl) rfl
theorem q1077 : (Jvm.Cond.code ({ cls := "LockTurnsModel", name := "in", desc := "(JJJ)Z" } : Jvm.MethodName) prog_14_method_3_code (6 : Nat) (Option.some Jvm.ClassFile.FieldType.boolean)) ∈ lw_all := lw_g (lw_at lw_m5 35 rfl) rfl
theorem q1079 : (Jvm.Cond.instanceMethod ({ cls := "LockTurnsModel", name := "end", desc := "(I)I" } : Jvm.MethodName)) ∈ lw_all := lw_g (lw_at lw_m5 37 rfl) rfl
theorem q1080 : (Jvm.Cond.selects "LockTurnsModel" ({ cls := "LockTurnsModel", name := "end", desc := "(I)I" } : Jvm.MethodName) ({ cls := "LockTurnsModel", name := "end", desc := "(I)I" } : Jvm.MethodName)) ∈ lw_all := lw_g (lw_at lw_m5 38 rfl) rfl
theorem q1081 : (Jvm.Cond.code ({ cls := "LockTurnsModel", name := "end", desc := "(I)I" } : Jvm.MethodName) prog_14_method_8_code (3 : Nat) (Option.some Jvm.ClassFile.FieldType.int)) ∈ lw_all := lw_g (lw_at lw_m5 39 rfl) rfl
theorem q1083 : (Jvm.Cond.instanceMethod ({ cls := "LockTurnsModel", name := "text", desc := "()I" } : Jvm.MethodName)) ∈ lw_all := lw_g (lw_at lw_m5 41 rfl) rfl
theorem q1084 : (Jvm.Cond.selects "LockTurnsModel" ({ cls := "LockTurnsModel", name := "text", desc := "()I" } : Jvm.MethodName) ({ cls := "LockTurnsModel", name := "text", desc := "()I" } : Jvm.MethodName)) ∈ lw_all := lw_g (lw_at lw_m5 42 rfl) rfl
theorem q1085 : (Jvm.Cond.code ({ cls := "LockTurnsModel", name := "text", desc := "()I" } : Jvm.MethodName) prog_14_method_24_code (2 : Nat) (Option.some Jvm.ClassFile.FieldType.int)) ∈ lw_all := lw_g (lw_at lw_m5 43 rfl) rfl
theorem q1086 : (Jvm.Cond.methodLink "LockTurnsModel" (127 : Nat) ({ cls := "LockTurnsModel", name := "next", desc := "()V" } : Jvm.MethodName)) ∈ lw_all := lw_g (lw_at lw_m5 44 rfl) rfl
theorem q1087 : (Jvm.Cond.privateMethod ({ cls := "LockTurnsModel", name := "next", desc := "()V" } : Jvm.MethodName)) ∈ lw_tbl := lw_at lw_m5 45 rfl
theorem q1088 : (Jvm.Cond.instanceMethod ({ cls := "LockTurnsModel", name := "next", desc := "()V" } : Jvm.MethodName)) ∈ lw_all := lw_g (lw_at lw_m5 46 rfl) rfl
theorem q1089 : (Jvm.Cond.code ({ cls := "LockTurnsModel", name := "next", desc := "()V" } : Jvm.MethodName) prog_14_method_16_code (2 : Nat) (Option.none : Option Jvm.ClassFile.FieldType)) ∈ lw_all := lw_g (lw_at lw_m5 47 rfl) rfl
theorem q1090 : (Jvm.Cond.methodLink "LockTurnsModel" (93 : Nat) ({ cls := "LockTurnsModel", name := "byteAt", desc := "(I)I" } : Jvm.MethodName)) ∈ lw_all := lw_g (lw_at lw_m5 48 rfl) rfl
theorem q1091 : (Jvm.Cond.privateMethod ({ cls := "LockTurnsModel", name := "byteAt", desc := "(I)I" } : Jvm.MethodName)) ∈ lw_tbl := lw_at lw_m5 49 rfl
theorem q1092 : (Jvm.Cond.instanceMethod ({ cls := "LockTurnsModel", name := "byteAt", desc := "(I)I" } : Jvm.MethodName)) ∈ lw_all := lw_g (lw_at lw_m5 50 rfl) rfl
theorem q1093 : (Jvm.Cond.code ({ cls := "LockTurnsModel", name := "byteAt", desc := "(I)I" } : Jvm.MethodName) prog_14_method_10_code (2 : Nat) (Option.some Jvm.ClassFile.FieldType.int)) ∈ lw_all := lw_g (lw_at lw_m5 51 rfl) rfl
theorem q1094 : (Jvm.Cond.constantLong "LockTurnsModel" (108 : Nat) (97 : Int64)) ∈ lw_all := lw_g (lw_at lw_m5 52 rfl) rfl
theorem q1095 : (Jvm.Cond.constantLong "LockTurnsModel" (110 : Nat) (122 : Int64)) ∈ lw_all := lw_g (lw_at lw_m5 53 rfl) rfl
theorem q1096 : (Jvm.Cond.constantLong "LockTurnsModel" (112 : Nat) (48 : Int64)) ∈ lw_all := lw_g (lw_at lw_m5 54 rfl) rfl
theorem q1097 : (Jvm.Cond.constantLong "LockTurnsModel" (114 : Nat) (57 : Int64)) ∈ lw_all := lw_g (lw_at lw_m5 55 rfl) rfl
theorem q1098 : (Jvm.Cond.methodLink "LockTurnsModel" (119 : Nat) ({ cls := "LockTurnsModel", name := "needs", desc := "(ZI)V" } : Jvm.MethodName)) ∈ lw_all := lw_g (lw_at lw_m5 56 rfl) rfl
theorem q1099 : (Jvm.Cond.privateMethod ({ cls := "LockTurnsModel", name := "needs", desc := "(ZI)V" } : Jvm.MethodName)) ∈ lw_tbl := lw_at lw_m5 57 rfl
theorem q1100 : (Jvm.Cond.instanceMethod ({ cls := "LockTurnsModel", name := "needs", desc := "(ZI)V" } : Jvm.MethodName)) ∈ lw_all := lw_g (lw_at lw_m5 58 rfl) rfl
theorem q1101 : (Jvm.Cond.code ({ cls := "LockTurnsModel", name := "needs", desc := "(ZI)V" } : Jvm.MethodName) prog_14_method_9_code (3 : Nat) (Option.none : Option Jvm.ClassFile.FieldType)) ∈ lw_all := lw_g (lw_at lw_m5 59 rfl) rfl
theorem q1102 : (Jvm.Cond.methodLink "LockTurnsModel" (160 : Nat) ({ cls := "LockTurnsModel", name := "readLine", desc := "()V" } : Jvm.MethodName)) ∈ lw_all := lw_g (lw_at lw_m5 60 rfl) rfl
theorem q1103 : (Jvm.Cond.privateMethod ({ cls := "LockTurnsModel", name := "readLine", desc := "()V" } : Jvm.MethodName)) ∈ lw_tbl := lw_at lw_m5 61 rfl
theorem q1104 : (Jvm.Cond.instanceMethod ({ cls := "LockTurnsModel", name := "readLine", desc := "()V" } : Jvm.MethodName)) ∈ lw_all := lw_g (lw_at lw_m5 62 rfl) rfl
theorem q1105 : (Jvm.Cond.code ({ cls := "LockTurnsModel", name := "readLine", desc := "()V" } : Jvm.MethodName) prog_14_method_23_code (2 : Nat) (Option.none : Option Jvm.ClassFile.FieldType)) ∈ lw_all := lw_g (lw_at lw_m5 63 rfl) rfl
theorem q1106 : (Jvm.Cond.methodLink "LockTurnsModel" (150 : Nat) ({ cls := "LockTurnsModel", name := "lineNow", desc := "()I" } : Jvm.MethodName)) ∈ lw_all := lw_g (lw_at lw_m5 64 rfl) rfl
theorem q1107 : (Jvm.Cond.privateMethod ({ cls := "LockTurnsModel", name := "lineNow", desc := "()I" } : Jvm.MethodName)) ∈ lw_tbl := lw_at lw_m5 65 rfl
theorem q1108 : (Jvm.Cond.instanceMethod ({ cls := "LockTurnsModel", name := "lineNow", desc := "()I" } : Jvm.MethodName)) ∈ lw_all := lw_g (lw_at lw_m5 66 rfl) rfl
theorem q1109 : (Jvm.Cond.code ({ cls := "LockTurnsModel", name := "lineNow", desc := "()I" } : Jvm.MethodName) prog_14_method_13_code (1 : Nat) (Option.some Jvm.ClassFile.FieldType.int)) ∈ lw_all := lw_g (lw_at lw_m5 67 rfl) rfl
theorem q1110 : (Jvm.Cond.methodLink "LockTurnsModel" (97 : Nat) ({ cls := "LockTurnsModel", name := "is", desc := "(IIIII)Z" } : Jvm.MethodName)) ∈ lw_all := lw_g (lw_at lw_m5 68 rfl) rfl
theorem q1111 : (Jvm.Cond.privateMethod ({ cls := "LockTurnsModel", name := "is", desc := "(IIIII)Z" } : Jvm.MethodName)) ∈ lw_tbl := lw_at lw_m5 69 rfl
theorem q1112 : (Jvm.Cond.instanceMethod ({ cls := "LockTurnsModel", name := "is", desc := "(IIIII)Z" } : Jvm.MethodName)) ∈ lw_all := lw_g (lw_at lw_m5 70 rfl) rfl
theorem q1113 : (Jvm.Cond.code ({ cls := "LockTurnsModel", name := "is", desc := "(IIIII)Z" } : Jvm.MethodName) prog_14_method_11_code (6 : Nat) (Option.some Jvm.ClassFile.FieldType.boolean)) ∈ lw_all := lw_g (lw_at lw_m5 71 rfl) rfl
theorem q1114 : (Jvm.Cond.methodLink "LockTurnsModel" (101 : Nat) ({ cls := "LockTurnsModel", name := "endsWith", desc := "(I)Z" } : Jvm.MethodName)) ∈ lw_all := lw_g (lw_at lw_m5 72 rfl) rfl
theorem q1115 : (Jvm.Cond.privateMethod ({ cls := "LockTurnsModel", name := "endsWith", desc := "(I)Z" } : Jvm.MethodName)) ∈ lw_tbl := lw_at lw_m5 73 rfl
theorem q1116 : (Jvm.Cond.instanceMethod ({ cls := "LockTurnsModel", name := "endsWith", desc := "(I)Z" } : Jvm.MethodName)) ∈ lw_all := lw_g (lw_at lw_m5 74 rfl) rfl
theorem q1117 : (Jvm.Cond.code ({ cls := "LockTurnsModel", name := "endsWith", desc := "(I)Z" } : Jvm.MethodName) prog_14_method_12_code (2 : Nat) (Option.some Jvm.ClassFile.FieldType.boolean)) ∈ lw_all := lw_g (lw_at lw_m5 75 rfl) rfl
theorem q1118 : (Jvm.Cond.constantLong "LockTurnsModel" (153 : Nat) (2 : Int64)) ∈ lw_all := lw_g (lw_at lw_m5 76 rfl) rfl
theorem q1119 : (Jvm.Cond.constantLong "LockTurnsModel" (155 : Nat) (5 : Int64)) ∈ lw_all := lw_g (lw_at lw_m5 77 rfl) rfl
theorem q1120 : (Jvm.Cond.methodLink "LockTurnsModel" (157 : Nat) ({ cls := "LockTurnsModel", name := "readLineOf", desc := "(I)V" } : Jvm.MethodName)) ∈ lw_all := lw_g (lw_at lw_m5 78 rfl) rfl
theorem q1121 : (Jvm.Cond.privateMethod ({ cls := "LockTurnsModel", name := "readLineOf", desc := "(I)V" } : Jvm.MethodName)) ∈ lw_tbl := lw_at lw_m5 79 rfl
theorem q1122 : (Jvm.Cond.instanceMethod ({ cls := "LockTurnsModel", name := "readLineOf", desc := "(I)V" } : Jvm.MethodName)) ∈ lw_all := lw_g (lw_at lw_m5 80 rfl) rfl
theorem q1123 : (Jvm.Cond.code ({ cls := "LockTurnsModel", name := "readLineOf", desc := "(I)V" } : Jvm.MethodName) prog_14_method_22_code (2 : Nat) (Option.none : Option Jvm.ClassFile.FieldType)) ∈ lw_all := lw_g (lw_at lw_m5 81 rfl) rfl
theorem q1124 : (Jvm.Cond.methodLink "LockTurnsModel" (137 : Nat) ({ cls := "LockTurnsModel", name := "readNumber", desc := "(II)I" } : Jvm.MethodName)) ∈ lw_all := lw_g (lw_at lw_m5 82 rfl) rfl
theorem q1125 : (Jvm.Cond.privateMethod ({ cls := "LockTurnsModel", name := "readNumber", desc := "(II)I" } : Jvm.MethodName)) ∈ lw_tbl := lw_at lw_m5 83 rfl
theorem q1126 : (Jvm.Cond.instanceMethod ({ cls := "LockTurnsModel", name := "readNumber", desc := "(II)I" } : Jvm.MethodName)) ∈ lw_all := lw_g (lw_at lw_m5 84 rfl) rfl
theorem q1127 : (Jvm.Cond.code ({ cls := "LockTurnsModel", name := "readNumber", desc := "(II)I" } : Jvm.MethodName) prog_14_method_18_code (4 : Nat) (Option.some Jvm.ClassFile.FieldType.int)) ∈ lw_all := lw_g (lw_at lw_m5 85 rfl) rfl
theorem q1128 : (Jvm.Cond.methodLink "LockTurnsModel" (123 : Nat) ({ cls := "LockTurnsModel", name := "looked", desc := "(II)I" } : Jvm.MethodName)) ∈ lw_all := lw_g (lw_at lw_m5 86 rfl) rfl
theorem q1129 : (Jvm.Cond.privateMethod ({ cls := "LockTurnsModel", name := "looked", desc := "(II)I" } : Jvm.MethodName)) ∈ lw_tbl := lw_at lw_m5 87 rfl
theorem q1130 : (Jvm.Cond.instanceMethod ({ cls := "LockTurnsModel", name := "looked", desc := "(II)I" } : Jvm.MethodName)) ∈ lw_all := lw_g (lw_at lw_m5 88 rfl) rfl
theorem q1131 : (Jvm.Cond.code ({ cls := "LockTurnsModel", name := "looked", desc := "(II)I" } : Jvm.MethodName) prog_14_method_17_code (3 : Nat) (Option.some Jvm.ClassFile.FieldType.int)) ∈ lw_all := lw_g (lw_at lw_m5 89 rfl) rfl
theorem q1132 : (Jvm.Cond.methodLink "LockTurnsModel" (140 : Nat) ({ cls := "LockTurnsModel", name := "lawNow", desc := "()I" } : Jvm.MethodName)) ∈ lw_all := lw_g (lw_at lw_m5 90 rfl) rfl
theorem q1133 : (Jvm.Cond.privateMethod ({ cls := "LockTurnsModel", name := "lawNow", desc := "()I" } : Jvm.MethodName)) ∈ lw_tbl := lw_at lw_m5 91 rfl
theorem q1134 : (Jvm.Cond.instanceMethod ({ cls := "LockTurnsModel", name := "lawNow", desc := "()I" } : Jvm.MethodName)) ∈ lw_all := lw_g (lw_at lw_m5 92 rfl) rfl
theorem q1135 : (Jvm.Cond.code ({ cls := "LockTurnsModel", name := "lawNow", desc := "()I" } : Jvm.MethodName) prog_14_method_15_code (1 : Nat) (Option.some Jvm.ClassFile.FieldType.int)) ∈ lw_all := lw_g (lw_at lw_m5 93 rfl) rfl
theorem q1136 : (Jvm.Cond.methodLink "LockTurnsModel" (134 : Nat) ({ cls := "LockTurnsModel", name := "readName", desc := "(I)I" } : Jvm.MethodName)) ∈ lw_all := lw_g (lw_at lw_m5 94 rfl) rfl
theorem q1137 : (Jvm.Cond.privateMethod ({ cls := "LockTurnsModel", name := "readName", desc := "(I)I" } : Jvm.MethodName)) ∈ lw_tbl := lw_at lw_m5 95 rfl
theorem q1138 : (Jvm.Cond.instanceMethod ({ cls := "LockTurnsModel", name := "readName", desc := "(I)I" } : Jvm.MethodName)) ∈ lw_all := lw_g (lw_at lw_m5 96 rfl) rfl
theorem q1139 : (Jvm.Cond.code ({ cls := "LockTurnsModel", name := "readName", desc := "(I)I" } : Jvm.MethodName) prog_14_method_19_code (3 : Nat) (Option.some Jvm.ClassFile.FieldType.int)) ∈ lw_all := lw_g (lw_at lw_m5 97 rfl) rfl
theorem q1140 : (Jvm.Cond.methodLink "LockTurnsModel" (143 : Nat) ({ cls := "LockTurnsModel", name := "readLiar", desc := "()V" } : Jvm.MethodName)) ∈ lw_all := lw_g (lw_at lw_m5 98 rfl) rfl
theorem q1141 : (Jvm.Cond.privateMethod ({ cls := "LockTurnsModel", name := "readLiar", desc := "()V" } : Jvm.MethodName)) ∈ lw_tbl := lw_at lw_m5 99 rfl
theorem q1142 : (Jvm.Cond.instanceMethod ({ cls := "LockTurnsModel", name := "readLiar", desc := "()V" } : Jvm.MethodName)) ∈ lw_all := lw_g (lw_at lw_m5 100 rfl) rfl
theorem q1143 : (Jvm.Cond.code ({ cls := "LockTurnsModel", name := "readLiar", desc := "()V" } : Jvm.MethodName) prog_14_method_21_code (2 : Nat) (Option.none : Option Jvm.ClassFile.FieldType)) ∈ lw_all := lw_g (lw_at lw_m5 101 rfl) rfl
theorem q1144 : (Jvm.Cond.methodLink "LockTurnsModel" (146 : Nat) ({ cls := "LockTurnsModel", name := "readBoat", desc := "(I)V" } : Jvm.MethodName)) ∈ lw_all := lw_g (lw_at lw_m5 102 rfl) rfl
theorem q1145 : (Jvm.Cond.privateMethod ({ cls := "LockTurnsModel", name := "readBoat", desc := "(I)V" } : Jvm.MethodName)) ∈ lw_tbl := lw_at lw_m5 103 rfl
theorem q1146 : (Jvm.Cond.instanceMethod ({ cls := "LockTurnsModel", name := "readBoat", desc := "(I)V" } : Jvm.MethodName)) ∈ lw_all := lw_g (lw_at lw_m5 104 rfl) rfl
theorem q1147 : (Jvm.Cond.code ({ cls := "LockTurnsModel", name := "readBoat", desc := "(I)V" } : Jvm.MethodName) prog_14_method_20_code (3 : Nat) (Option.none : Option Jvm.ClassFile.FieldType)) ∈ lw_all := lw_g (lw_at lw_m5 105 rfl) rfl
theorem q1148 : (Jvm.Cond.methodLink "LockTurnsModel" (130 : Nat) ({ cls := "LockTurnsModel", name := "cargoNow", desc := "()I" } : Jvm.MethodName)) ∈ lw_all := lw_g (lw_at lw_m5 106 rfl) rfl
theorem q1149 : (Jvm.Cond.privateMethod ({ cls := "LockTurnsModel", name := "cargoNow", desc := "()I" } : Jvm.MethodName)) ∈ lw_tbl := lw_at lw_m5 107 rfl
theorem q1150 : (Jvm.Cond.instanceMethod ({ cls := "LockTurnsModel", name := "cargoNow", desc := "()I" } : Jvm.MethodName)) ∈ lw_all := lw_g (lw_at lw_m5 108 rfl) rfl
theorem q1151 : (Jvm.Cond.code ({ cls := "LockTurnsModel", name := "cargoNow", desc := "()I" } : Jvm.MethodName) prog_14_method_14_code (1 : Nat) (Option.some Jvm.ClassFile.FieldType.int)) ∈ lw_all := lw_g (lw_at lw_m5 109 rfl) rfl
theorem q1153 : (Jvm.Cond.instanceMethod ({ cls := "LockTurnsModel", name := "fault", desc := "()I" } : Jvm.MethodName)) ∈ lw_all := lw_g (lw_at lw_m5 111 rfl) rfl
theorem q1154 : (Jvm.Cond.selects "LockTurnsModel" ({ cls := "LockTurnsModel", name := "fault", desc := "()I" } : Jvm.MethodName) ({ cls := "LockTurnsModel", name := "fault", desc := "()I" } : Jvm.MethodName)) ∈ lw_all := lw_g (lw_at lw_m5 112 rfl) rfl
theorem q1155 : (Jvm.Cond.code ({ cls := "LockTurnsModel", name := "fault", desc := "()I" } : Jvm.MethodName) prog_14_method_25_code (1 : Nat) (Option.some Jvm.ClassFile.FieldType.int)) ∈ lw_all := lw_g (lw_at lw_m5 113 rfl) rfl
theorem q1157 : (Jvm.Cond.instanceMethod ({ cls := "LockTurnsModel", name := "rule", desc := "(I)I" } : Jvm.MethodName)) ∈ lw_all := lw_g (lw_at lw_m5 115 rfl) rfl
theorem q1158 : (Jvm.Cond.selects "LockTurnsModel" ({ cls := "LockTurnsModel", name := "rule", desc := "(I)I" } : Jvm.MethodName) ({ cls := "LockTurnsModel", name := "rule", desc := "(I)I" } : Jvm.MethodName)) ∈ lw_all := lw_g (lw_at lw_m5 116 rfl) rfl
theorem q1159 : (Jvm.Cond.code ({ cls := "LockTurnsModel", name := "rule", desc := "(I)I" } : Jvm.MethodName) prog_14_method_49_code (2 : Nat) (Option.some Jvm.ClassFile.FieldType.int)) ∈ lw_all := lw_g (lw_at lw_m5 117 rfl) rfl
theorem q1160 : (Jvm.Cond.methodLink "LockTurnsModel" (234 : Nat) ({ cls := "LockTurnsModel", name := "liars", desc := "()I" } : Jvm.MethodName)) ∈ lw_all := lw_g (lw_at lw_m5 118 rfl) rfl
theorem q1161 : (Jvm.Cond.privateMethod ({ cls := "LockTurnsModel", name := "liars", desc := "()I" } : Jvm.MethodName)) ∈ lw_tbl := lw_at lw_m5 119 rfl
theorem q1162 : (Jvm.Cond.instanceMethod ({ cls := "LockTurnsModel", name := "liars", desc := "()I" } : Jvm.MethodName)) ∈ lw_all := lw_g (lw_at lw_m5 120 rfl) rfl
theorem q1163 : (Jvm.Cond.code ({ cls := "LockTurnsModel", name := "liars", desc := "()I" } : Jvm.MethodName) prog_14_method_48_code (3 : Nat) (Option.some Jvm.ClassFile.FieldType.int)) ∈ lw_all := lw_g (lw_at lw_m5 121 rfl) rfl
theorem q1165 : (Jvm.Cond.instanceMethod ({ cls := "LockTurnsModel", name := "boat", desc := "(II)I" } : Jvm.MethodName)) ∈ lw_all := lw_g (lw_at lw_m5 123 rfl) rfl
theorem q1166 : (Jvm.Cond.selects "LockTurnsModel" ({ cls := "LockTurnsModel", name := "boat", desc := "(II)I" } : Jvm.MethodName) ({ cls := "LockTurnsModel", name := "boat", desc := "(II)I" } : Jvm.MethodName)) ∈ lw_all := lw_g (lw_at lw_m5 124 rfl) rfl
theorem q1167 : (Jvm.Cond.code ({ cls := "LockTurnsModel", name := "boat", desc := "(II)I" } : Jvm.MethodName) prog_14_method_50_code (3 : Nat) (Option.some Jvm.ClassFile.FieldType.int)) ∈ lw_all := lw_g (lw_at lw_m5 125 rfl) rfl
theorem q1168 : (Jvm.Cond.methodLink "LockTurnsModel" (237 : Nat) ({ cls := "LockTurnsModel", name := "isBoat", desc := "(I)Z" } : Jvm.MethodName)) ∈ lw_all := lw_g (lw_at lw_m5 126 rfl) rfl
theorem q1169 : (Jvm.Cond.privateMethod ({ cls := "LockTurnsModel", name := "isBoat", desc := "(I)Z" } : Jvm.MethodName)) ∈ lw_tbl := lw_at lw_m5 127 rfl
theorem q1170 : (Jvm.Cond.instanceMethod ({ cls := "LockTurnsModel", name := "isBoat", desc := "(I)Z" } : Jvm.MethodName)) ∈ lw_all := lw_g (lw_at lw_m5 128 rfl) rfl
theorem q1171 : (Jvm.Cond.code ({ cls := "LockTurnsModel", name := "isBoat", desc := "(I)Z" } : Jvm.MethodName) prog_14_method_26_code (2 : Nat) (Option.some Jvm.ClassFile.FieldType.boolean)) ∈ lw_all := lw_g (lw_at lw_m5 129 rfl) rfl
theorem q1172 : (Jvm.Cond.constantLong "LockTurnsModel" (240 : Nat) (6 : Int64)) ∈ lw_all := lw_g (lw_at lw_m5 130 rfl) rfl
theorem q1173 : (Jvm.Cond.methodLink "LockTurnsModel" (228 : Nat) ({ cls := "LockTurnsModel", name := "starts", desc := "()V" } : Jvm.MethodName)) ∈ lw_all := lw_g (lw_at lw_m5 131 rfl) rfl
theorem q1174 : (Jvm.Cond.privateMethod ({ cls := "LockTurnsModel", name := "starts", desc := "()V" } : Jvm.MethodName)) ∈ lw_tbl := lw_at lw_m5 132 rfl
theorem q1175 : (Jvm.Cond.instanceMethod ({ cls := "LockTurnsModel", name := "starts", desc := "()V" } : Jvm.MethodName)) ∈ lw_all := lw_g (lw_at lw_m5 133 rfl) rfl
theorem q1176 : (Jvm.Cond.code ({ cls := "LockTurnsModel", name := "starts", desc := "()V" } : Jvm.MethodName) prog_14_method_28_code (2 : Nat) (Option.none : Option Jvm.ClassFile.FieldType)) ∈ lw_all := lw_g (lw_at lw_m5 134 rfl) rfl
theorem q1177 : (Jvm.Cond.methodLink "LockTurnsModel" (166 : Nat) ({ cls := "LockTurnsModel", name := "of", desc := "(II)I" } : Jvm.MethodName)) ∈ lw_all := lw_g (lw_at lw_m5 135 rfl) rfl
theorem q1178 : (Jvm.Cond.privateMethod ({ cls := "LockTurnsModel", name := "of", desc := "(II)I" } : Jvm.MethodName)) ∈ lw_tbl := lw_at lw_m5 136 rfl
theorem q1179 : (Jvm.Cond.instanceMethod ({ cls := "LockTurnsModel", name := "of", desc := "(II)I" } : Jvm.MethodName)) ∈ lw_all := lw_g (lw_at lw_m5 137 rfl) rfl
theorem q1180 : (Jvm.Cond.code ({ cls := "LockTurnsModel", name := "of", desc := "(II)I" } : Jvm.MethodName) prog_14_method_29_code (3 : Nat) (Option.some Jvm.ClassFile.FieldType.int)) ∈ lw_all := lw_g (lw_at lw_m5 138 rfl) rfl
theorem q1181 : (Jvm.Cond.methodLink "LockTurnsModel" (207 : Nat) ({ cls := "LockTurnsModel", name := "countsFrom", desc := "(I)I" } : Jvm.MethodName)) ∈ lw_all := lw_g (lw_at lw_m5 139 rfl) rfl
theorem q1182 : (Jvm.Cond.privateMethod ({ cls := "LockTurnsModel", name := "countsFrom", desc := "(I)I" } : Jvm.MethodName)) ∈ lw_tbl := lw_at lw_m5 140 rfl
theorem q1183 : (Jvm.Cond.instanceMethod ({ cls := "LockTurnsModel", name := "countsFrom", desc := "(I)I" } : Jvm.MethodName)) ∈ lw_all := lw_g (lw_at lw_m5 141 rfl) rfl
theorem q1184 : (Jvm.Cond.code ({ cls := "LockTurnsModel", name := "countsFrom", desc := "(I)I" } : Jvm.MethodName) prog_14_method_31_code (4 : Nat) (Option.some Jvm.ClassFile.FieldType.int)) ∈ lw_all := lw_g (lw_at lw_m5 142 rfl) rfl
theorem q1186 : (Jvm.Cond.instanceMethod ({ cls := "LockTurnsModel", name := "set", desc := "(II)I" } : Jvm.MethodName)) ∈ lw_all := lw_g (lw_at lw_m5 144 rfl) rfl
theorem q1187 : (Jvm.Cond.selects "LockTurnsModel" ({ cls := "LockTurnsModel", name := "set", desc := "(II)I" } : Jvm.MethodName) ({ cls := "LockTurnsModel", name := "set", desc := "(II)I" } : Jvm.MethodName)) ∈ lw_all := lw_g (lw_at lw_m5 145 rfl) rfl
theorem q1188 : (Jvm.Cond.code ({ cls := "LockTurnsModel", name := "set", desc := "(II)I" } : Jvm.MethodName) prog_14_method_53_code (3 : Nat) (Option.some Jvm.ClassFile.FieldType.int)) ∈ lw_all := lw_g (lw_at lw_m5 146 rfl) rfl
theorem q1189 : (Jvm.Cond.methodLink "LockTurnsModel" (242 : Nat) ({ cls := "LockTurnsModel", name := "mostOf", desc := "(I)I" } : Jvm.MethodName)) ∈ lw_all := lw_g (lw_at lw_m5 147 rfl) rfl
theorem q1190 : (Jvm.Cond.static ({ cls := "LockTurnsModel", name := "mostOf", desc := "(I)I" } : Jvm.MethodName)) ∈ lw_all := lw_g (lw_at lw_m5 148 rfl) rfl
theorem q1191 : (Jvm.Cond.code ({ cls := "LockTurnsModel", name := "mostOf", desc := "(I)I" } : Jvm.MethodName) prog_14_method_52_code (1 : Nat) (Option.some Jvm.ClassFile.FieldType.int)) ∈ lw_all := lw_g (lw_at lw_m5 149 rfl) rfl
theorem q1192 : (Jvm.Cond.methodLink "LockTurnsModel" (245 : Nat) ({ cls := "LockTurnsModel", name := "becomes", desc := "(II)I" } : Jvm.MethodName)) ∈ lw_all := lw_g (lw_at lw_m5 150 rfl) rfl
theorem q1193 : (Jvm.Cond.privateMethod ({ cls := "LockTurnsModel", name := "becomes", desc := "(II)I" } : Jvm.MethodName)) ∈ lw_tbl := lw_at lw_m5 151 rfl
theorem q1194 : (Jvm.Cond.instanceMethod ({ cls := "LockTurnsModel", name := "becomes", desc := "(II)I" } : Jvm.MethodName)) ∈ lw_all := lw_g (lw_at lw_m5 152 rfl) rfl
theorem q1195 : (Jvm.Cond.code ({ cls := "LockTurnsModel", name := "becomes", desc := "(II)I" } : Jvm.MethodName) prog_14_method_51_code (4 : Nat) (Option.some Jvm.ClassFile.FieldType.int)) ∈ lw_all := lw_g (lw_at lw_m5 153 rfl) rfl
theorem q1197 : (Jvm.Cond.instanceMethod ({ cls := "LockTurnsModel", name := "alter", desc := "(III)I" } : Jvm.MethodName)) ∈ lw_all := lw_g (lw_at lw_m5 155 rfl) rfl
theorem q1198 : (Jvm.Cond.selects "LockTurnsModel" ({ cls := "LockTurnsModel", name := "alter", desc := "(III)I" } : Jvm.MethodName) ({ cls := "LockTurnsModel", name := "alter", desc := "(III)I" } : Jvm.MethodName)) ∈ lw_all := lw_g (lw_at lw_m5 156 rfl) rfl
theorem q1199 : (Jvm.Cond.code ({ cls := "LockTurnsModel", name := "alter", desc := "(III)I" } : Jvm.MethodName) prog_14_method_54_code (4 : Nat) (Option.some Jvm.ClassFile.FieldType.int)) ∈ lw_all := lw_g (lw_at lw_m5 157 rfl) rfl
theorem q1200 : (Jvm.Cond.constantLong "LockTurnsModel" (248 : Nat) (4 : Int64)) ∈ lw_all := lw_g (lw_at lw_m5 158 rfl) rfl
theorem q1201 : (Jvm.Cond.constantLong "LockTurnsModel" (250 : Nat) (3 : Int64)) ∈ lw_all := lw_g (lw_at lw_m5 159 rfl) rfl
theorem q1202 : (Jvm.Cond.constantLong "LockTurnsModel" (252 : Nat) (99 : Int64)) ∈ lw_all := lw_g (lw_at lw_m5 160 rfl) rfl
theorem q1203 : (Jvm.Cond.constantLong "LockTurnsModel" (254 : Nat) (9 : Int64)) ∈ lw_all := lw_g (lw_at lw_m5 161 rfl) rfl
theorem q1205 : (Jvm.Cond.instanceMethod ({ cls := "LockTurnsModel", name := "lie", desc := "(IZ)I" } : Jvm.MethodName)) ∈ lw_all := lw_g (lw_at lw_m5 163 rfl) rfl
theorem q1206 : (Jvm.Cond.selects "LockTurnsModel" ({ cls := "LockTurnsModel", name := "lie", desc := "(IZ)I" } : Jvm.MethodName) ({ cls := "LockTurnsModel", name := "lie", desc := "(IZ)I" } : Jvm.MethodName)) ∈ lw_all := lw_g (lw_at lw_m5 164 rfl) rfl
theorem q1207 : (Jvm.Cond.code ({ cls := "LockTurnsModel", name := "lie", desc := "(IZ)I" } : Jvm.MethodName) prog_14_method_55_code (3 : Nat) (Option.some Jvm.ClassFile.FieldType.int)) ∈ lw_all := lw_g (lw_at lw_m5 165 rfl) rfl
theorem q1208 : (Jvm.Cond.methodLink "LockTurnsModel" (184 : Nat) ({ cls := "LockTurnsModel", name := "flag", desc := "(Z)I" } : Jvm.MethodName)) ∈ lw_all := lw_g (lw_at lw_m5 166 rfl) rfl
theorem q1209 : (Jvm.Cond.static ({ cls := "LockTurnsModel", name := "flag", desc := "(Z)I" } : Jvm.MethodName)) ∈ lw_all := lw_g (lw_at lw_m5 167 rfl) rfl
theorem q1210 : (Jvm.Cond.code ({ cls := "LockTurnsModel", name := "flag", desc := "(Z)I" } : Jvm.MethodName) prog_14_method_4_code (1 : Nat) (Option.some Jvm.ClassFile.FieldType.int)) ∈ lw_all := lw_g (lw_at lw_m5 168 rfl) rfl
theorem q1212 : (Jvm.Cond.instanceMethod ({ cls := "LockTurnsModel", name := "cross", desc := "(I)I" } : Jvm.MethodName)) ∈ lw_all := lw_g (lw_at lw_m5 170 rfl) rfl
theorem q1213 : (Jvm.Cond.selects "LockTurnsModel" ({ cls := "LockTurnsModel", name := "cross", desc := "(I)I" } : Jvm.MethodName) ({ cls := "LockTurnsModel", name := "cross", desc := "(I)I" } : Jvm.MethodName)) ∈ lw_all := lw_g (lw_at lw_m5 171 rfl) rfl
theorem q1214 : (Jvm.Cond.code ({ cls := "LockTurnsModel", name := "cross", desc := "(I)I" } : Jvm.MethodName) prog_14_method_56_code (3 : Nat) (Option.some Jvm.ClassFile.FieldType.int)) ∈ lw_all := lw_g (lw_at lw_m5 172 rfl) rfl
theorem q1216 : (Jvm.Cond.instanceMethod ({ cls := "LockTurnsModel", name := "passes", desc := "(I)I" } : Jvm.MethodName)) ∈ lw_all := lw_g (lw_at lw_m5 174 rfl) rfl
theorem q1217 : (Jvm.Cond.selects "LockTurnsModel" ({ cls := "LockTurnsModel", name := "passes", desc := "(I)I" } : Jvm.MethodName) ({ cls := "LockTurnsModel", name := "passes", desc := "(I)I" } : Jvm.MethodName)) ∈ lw_all := lw_g (lw_at lw_m5 175 rfl) rfl
theorem q1218 : (Jvm.Cond.code ({ cls := "LockTurnsModel", name := "passes", desc := "(I)I" } : Jvm.MethodName) prog_14_method_57_code (2 : Nat) (Option.some Jvm.ClassFile.FieldType.int)) ∈ lw_all := lw_g (lw_at lw_m5 176 rfl) rfl
theorem q1219 : (Jvm.Cond.methodLink "LockTurnsModel" (256 : Nat) ({ cls := "LockTurnsModel", name := "dayNow", desc := "()V" } : Jvm.MethodName)) ∈ lw_all := lw_g (lw_at lw_m5 177 rfl) rfl
theorem q1220 : (Jvm.Cond.privateMethod ({ cls := "LockTurnsModel", name := "dayNow", desc := "()V" } : Jvm.MethodName)) ∈ lw_tbl := lw_at lw_m5 178 rfl
theorem q1221 : (Jvm.Cond.instanceMethod ({ cls := "LockTurnsModel", name := "dayNow", desc := "()V" } : Jvm.MethodName)) ∈ lw_all := lw_g (lw_at lw_m5 179 rfl) rfl
theorem q1222 : (Jvm.Cond.code ({ cls := "LockTurnsModel", name := "dayNow", desc := "()V" } : Jvm.MethodName) prog_14_method_46_code (1 : Nat) (Option.none : Option Jvm.ClassFile.FieldType)) ∈ lw_all := lw_g (lw_at lw_m5 180 rfl) rfl
theorem q1223 : (Jvm.Cond.methodLink "LockTurnsModel" (231 : Nat) ({ cls := "LockTurnsModel", name := "dayGoes", desc := "()V" } : Jvm.MethodName)) ∈ lw_all := lw_g (lw_at lw_m5 181 rfl) rfl
theorem q1224 : (Jvm.Cond.privateMethod ({ cls := "LockTurnsModel", name := "dayGoes", desc := "()V" } : Jvm.MethodName)) ∈ lw_tbl := lw_at lw_m5 182 rfl
theorem q1225 : (Jvm.Cond.instanceMethod ({ cls := "LockTurnsModel", name := "dayGoes", desc := "()V" } : Jvm.MethodName)) ∈ lw_all := lw_g (lw_at lw_m5 183 rfl) rfl
theorem q1226 : (Jvm.Cond.code ({ cls := "LockTurnsModel", name := "dayGoes", desc := "()V" } : Jvm.MethodName) prog_14_method_43_code (3 : Nat) (Option.none : Option Jvm.ClassFile.FieldType)) ∈ lw_all := lw_g (lw_at lw_m5 184 rfl) rfl
theorem q1227 : (Jvm.Cond.methodLink "LockTurnsModel" (210 : Nat) ({ cls := "LockTurnsModel", name := "opens", desc := "()V" } : Jvm.MethodName)) ∈ lw_all := lw_g (lw_at lw_m5 185 rfl) rfl
theorem q1228 : (Jvm.Cond.privateMethod ({ cls := "LockTurnsModel", name := "opens", desc := "()V" } : Jvm.MethodName)) ∈ lw_tbl := lw_at lw_m5 186 rfl
theorem q1229 : (Jvm.Cond.instanceMethod ({ cls := "LockTurnsModel", name := "opens", desc := "()V" } : Jvm.MethodName)) ∈ lw_all := lw_g (lw_at lw_m5 187 rfl) rfl
theorem q1230 : (Jvm.Cond.code ({ cls := "LockTurnsModel", name := "opens", desc := "()V" } : Jvm.MethodName) prog_14_method_33_code (1 : Nat) (Option.none : Option Jvm.ClassFile.FieldType)) ∈ lw_all := lw_g (lw_at lw_m5 188 rfl) rfl
theorem q1231 : (Jvm.Cond.methodLink "LockTurnsModel" (213 : Nat) ({ cls := "LockTurnsModel", name := "counting", desc := "(I)I" } : Jvm.MethodName)) ∈ lw_all := lw_g (lw_at lw_m5 189 rfl) rfl
theorem q1232 : (Jvm.Cond.privateMethod ({ cls := "LockTurnsModel", name := "counting", desc := "(I)I" } : Jvm.MethodName)) ∈ lw_tbl := lw_at lw_m5 190 rfl
theorem q1233 : (Jvm.Cond.instanceMethod ({ cls := "LockTurnsModel", name := "counting", desc := "(I)I" } : Jvm.MethodName)) ∈ lw_all := lw_g (lw_at lw_m5 191 rfl) rfl
theorem q1234 : (Jvm.Cond.code ({ cls := "LockTurnsModel", name := "counting", desc := "(I)I" } : Jvm.MethodName) prog_14_method_42_code (4 : Nat) (Option.some Jvm.ClassFile.FieldType.int)) ∈ lw_all := lw_g (lw_at lw_m5 192 rfl) rfl
theorem q1235 : (Jvm.Cond.methodLink "LockTurnsModel" (216 : Nat) ({ cls := "LockTurnsModel", name := "earliest", desc := "(I)I" } : Jvm.MethodName)) ∈ lw_all := lw_g (lw_at lw_m5 193 rfl) rfl
theorem q1236 : (Jvm.Cond.privateMethod ({ cls := "LockTurnsModel", name := "earliest", desc := "(I)I" } : Jvm.MethodName)) ∈ lw_tbl := lw_at lw_m5 194 rfl
theorem q1237 : (Jvm.Cond.instanceMethod ({ cls := "LockTurnsModel", name := "earliest", desc := "(I)I" } : Jvm.MethodName)) ∈ lw_all := lw_g (lw_at lw_m5 195 rfl) rfl
theorem q1238 : (Jvm.Cond.code ({ cls := "LockTurnsModel", name := "earliest", desc := "(I)I" } : Jvm.MethodName) prog_14_method_41_code (5 : Nat) (Option.some Jvm.ClassFile.FieldType.int)) ∈ lw_all := lw_g (lw_at lw_m5 196 rfl) rfl
theorem q1239 : (Jvm.Cond.methodLink "LockTurnsModel" (219 : Nat) ({ cls := "LockTurnsModel", name := "taken", desc := "(I)I" } : Jvm.MethodName)) ∈ lw_all := lw_g (lw_at lw_m5 197 rfl) rfl
theorem q1240 : (Jvm.Cond.privateMethod ({ cls := "LockTurnsModel", name := "taken", desc := "(I)I" } : Jvm.MethodName)) ∈ lw_tbl := lw_at lw_m5 198 rfl
theorem q1241 : (Jvm.Cond.instanceMethod ({ cls := "LockTurnsModel", name := "taken", desc := "(I)I" } : Jvm.MethodName)) ∈ lw_all := lw_g (lw_at lw_m5 199 rfl) rfl
theorem q1242 : (Jvm.Cond.code ({ cls := "LockTurnsModel", name := "taken", desc := "(I)I" } : Jvm.MethodName) prog_14_method_40_code (5 : Nat) (Option.some Jvm.ClassFile.FieldType.int)) ∈ lw_all := lw_g (lw_at lw_m5 200 rfl) rfl
theorem q1243 : (Jvm.Cond.methodLink "LockTurnsModel" (188 : Nat) ({ cls := "LockTurnsModel", name := "comeFrom", desc := "(II)I" } : Jvm.MethodName)) ∈ lw_all := lw_g (lw_at lw_m5 201 rfl) rfl
theorem q1244 : (Jvm.Cond.privateMethod ({ cls := "LockTurnsModel", name := "comeFrom", desc := "(II)I" } : Jvm.MethodName)) ∈ lw_tbl := lw_at lw_m5 202 rfl
theorem q1245 : (Jvm.Cond.instanceMethod ({ cls := "LockTurnsModel", name := "comeFrom", desc := "(II)I" } : Jvm.MethodName)) ∈ lw_all := lw_g (lw_at lw_m5 203 rfl) rfl
theorem q1246 : (Jvm.Cond.code ({ cls := "LockTurnsModel", name := "comeFrom", desc := "(II)I" } : Jvm.MethodName) prog_14_method_36_code (5 : Nat) (Option.some Jvm.ClassFile.FieldType.int)) ∈ lw_all := lw_g (lw_at lw_m5 204 rfl) rfl
theorem q1247 : (Jvm.Cond.methodLink "LockTurnsModel" (195 : Nat) ({ cls := "LockTurnsModel", name := "bitsOf", desc := "(I)I" } : Jvm.MethodName)) ∈ lw_all := lw_g (lw_at lw_m5 205 rfl) rfl
theorem q1248 : (Jvm.Cond.static ({ cls := "LockTurnsModel", name := "bitsOf", desc := "(I)I" } : Jvm.MethodName)) ∈ lw_all := lw_g (lw_at lw_m5 206 rfl) rfl
theorem q1249 : (Jvm.Cond.code ({ cls := "LockTurnsModel", name := "bitsOf", desc := "(I)I" } : Jvm.MethodName) prog_14_method_37_code (3 : Nat) (Option.some Jvm.ClassFile.FieldType.int)) ∈ lw_all := lw_g (lw_at lw_m5 207 rfl) rfl
theorem q1250 : (Jvm.Cond.methodLink "LockTurnsModel" (198 : Nat) ({ cls := "LockTurnsModel", name := "preferred", desc := "(II)I" } : Jvm.MethodName)) ∈ lw_all := lw_g (lw_at lw_m5 208 rfl) rfl
theorem q1251 : (Jvm.Cond.privateMethod ({ cls := "LockTurnsModel", name := "preferred", desc := "(II)I" } : Jvm.MethodName)) ∈ lw_tbl := lw_at lw_m5 209 rfl
theorem q1252 : (Jvm.Cond.instanceMethod ({ cls := "LockTurnsModel", name := "preferred", desc := "(II)I" } : Jvm.MethodName)) ∈ lw_all := lw_g (lw_at lw_m5 210 rfl) rfl
theorem q1253 : (Jvm.Cond.code ({ cls := "LockTurnsModel", name := "preferred", desc := "(II)I" } : Jvm.MethodName) prog_14_method_38_code (4 : Nat) (Option.some Jvm.ClassFile.FieldType.int)) ∈ lw_all := lw_g (lw_at lw_m5 211 rfl) rfl
theorem q1254 : (Jvm.Cond.methodLink "LockTurnsModel" (201 : Nat) ({ cls := "LockTurnsModel", name := "sideOf", desc := "(I)I" } : Jvm.MethodName)) ∈ lw_all := lw_g (lw_at lw_m5 212 rfl) rfl
theorem q1255 : (Jvm.Cond.privateMethod ({ cls := "LockTurnsModel", name := "sideOf", desc := "(I)I" } : Jvm.MethodName)) ∈ lw_tbl := lw_at lw_m5 213 rfl
theorem q1256 : (Jvm.Cond.instanceMethod ({ cls := "LockTurnsModel", name := "sideOf", desc := "(I)I" } : Jvm.MethodName)) ∈ lw_all := lw_g (lw_at lw_m5 214 rfl) rfl
theorem q1257 : (Jvm.Cond.code ({ cls := "LockTurnsModel", name := "sideOf", desc := "(I)I" } : Jvm.MethodName) prog_14_method_35_code (2 : Nat) (Option.some Jvm.ClassFile.FieldType.int)) ∈ lw_all := lw_g (lw_at lw_m5 215 rfl) rfl
theorem q1258 : (Jvm.Cond.methodLink "LockTurnsModel" (204 : Nat) ({ cls := "LockTurnsModel", name := "leastCargo", desc := "(I)I" } : Jvm.MethodName)) ∈ lw_all := lw_g (lw_at lw_m5 216 rfl) rfl
theorem q1259 : (Jvm.Cond.privateMethod ({ cls := "LockTurnsModel", name := "leastCargo", desc := "(I)I" } : Jvm.MethodName)) ∈ lw_tbl := lw_at lw_m5 217 rfl
theorem q1260 : (Jvm.Cond.instanceMethod ({ cls := "LockTurnsModel", name := "leastCargo", desc := "(I)I" } : Jvm.MethodName)) ∈ lw_all := lw_g (lw_at lw_m5 218 rfl) rfl
theorem q1261 : (Jvm.Cond.code ({ cls := "LockTurnsModel", name := "leastCargo", desc := "(I)I" } : Jvm.MethodName) prog_14_method_39_code (6 : Nat) (Option.some Jvm.ClassFile.FieldType.int)) ∈ lw_all := lw_g (lw_at lw_m5 219 rfl) rfl
theorem q1262 : (Jvm.Cond.constant "LockTurnsModel" (191 : Nat) (1000000000 : Int32)) ∈ lw_all := lw_g (lw_at lw_m5 220 rfl) rfl
theorem q1263 : (Jvm.Cond.methodLink "LockTurnsModel" (192 : Nat) ({ cls := "LockTurnsModel", name := "cargoTold", desc := "(I)I" } : Jvm.MethodName)) ∈ lw_all := lw_g (lw_at lw_m5 221 rfl) rfl
theorem q1264 : (Jvm.Cond.privateMethod ({ cls := "LockTurnsModel", name := "cargoTold", desc := "(I)I" } : Jvm.MethodName)) ∈ lw_tbl := lw_at lw_m5 222 rfl
theorem q1265 : (Jvm.Cond.instanceMethod ({ cls := "LockTurnsModel", name := "cargoTold", desc := "(I)I" } : Jvm.MethodName)) ∈ lw_all := lw_g (lw_at lw_m5 223 rfl) rfl
theorem q1266 : (Jvm.Cond.code ({ cls := "LockTurnsModel", name := "cargoTold", desc := "(I)I" } : Jvm.MethodName) prog_14_method_32_code (2 : Nat) (Option.some Jvm.ClassFile.FieldType.int)) ∈ lw_all := lw_g (lw_at lw_m5 224 rfl) rfl
theorem q1267 : (Jvm.Cond.methodLink "LockTurnsModel" (222 : Nat) ({ cls := "LockTurnsModel", name := "lets", desc := "(I)V" } : Jvm.MethodName)) ∈ lw_all := lw_g (lw_at lw_m5 225 rfl) rfl
theorem q1268 : (Jvm.Cond.privateMethod ({ cls := "LockTurnsModel", name := "lets", desc := "(I)V" } : Jvm.MethodName)) ∈ lw_tbl := lw_at lw_m5 226 rfl
theorem q1269 : (Jvm.Cond.instanceMethod ({ cls := "LockTurnsModel", name := "lets", desc := "(I)V" } : Jvm.MethodName)) ∈ lw_all := lw_g (lw_at lw_m5 227 rfl) rfl
theorem q1270 : (Jvm.Cond.code ({ cls := "LockTurnsModel", name := "lets", desc := "(I)V" } : Jvm.MethodName) prog_14_method_34_code (4 : Nat) (Option.none : Option Jvm.ClassFile.FieldType)) ∈ lw_all := lw_g (lw_at lw_m5 228 rfl) rfl
theorem q1272 : (Jvm.Cond.instanceMethod ({ cls := "LockTurnsModel", name := "through", desc := "(I)I" } : Jvm.MethodName)) ∈ lw_all := lw_g (lw_at lw_m5 230 rfl) rfl
theorem q1273 : (Jvm.Cond.selects "LockTurnsModel" ({ cls := "LockTurnsModel", name := "through", desc := "(I)I" } : Jvm.MethodName) ({ cls := "LockTurnsModel", name := "through", desc := "(I)I" } : Jvm.MethodName)) ∈ lw_all := lw_g (lw_at lw_m5 231 rfl) rfl
theorem q1274 : (Jvm.Cond.code ({ cls := "LockTurnsModel", name := "through", desc := "(I)I" } : Jvm.MethodName) prog_14_method_58_code (2 : Nat) (Option.some Jvm.ClassFile.FieldType.int)) ∈ lw_all := lw_g (lw_at lw_m5 232 rfl) rfl
theorem q1276 : (Jvm.Cond.instanceMethod ({ cls := "LockTurnsModel", name := "stood", desc := "(I)I" } : Jvm.MethodName)) ∈ lw_all := lw_g (lw_at lw_m5 234 rfl) rfl
theorem q1277 : (Jvm.Cond.selects "LockTurnsModel" ({ cls := "LockTurnsModel", name := "stood", desc := "(I)I" } : Jvm.MethodName) ({ cls := "LockTurnsModel", name := "stood", desc := "(I)I" } : Jvm.MethodName)) ∈ lw_all := lw_g (lw_at lw_m5 235 rfl) rfl
theorem q1278 : (Jvm.Cond.code ({ cls := "LockTurnsModel", name := "stood", desc := "(I)I" } : Jvm.MethodName) prog_14_method_59_code (2 : Nat) (Option.some Jvm.ClassFile.FieldType.int)) ∈ lw_all := lw_g (lw_at lw_m5 236 rfl) rfl
theorem q1280 : (Jvm.Cond.instanceMethod ({ cls := "LockTurnsModel", name := "day", desc := "(I)I" } : Jvm.MethodName)) ∈ lw_all := lw_g (lw_at lw_m5 238 rfl) rfl
theorem q1281 : (Jvm.Cond.selects "LockTurnsModel" ({ cls := "LockTurnsModel", name := "day", desc := "(I)I" } : Jvm.MethodName) ({ cls := "LockTurnsModel", name := "day", desc := "(I)I" } : Jvm.MethodName)) ∈ lw_all := lw_g (lw_at lw_m5 239 rfl) rfl
theorem q1282 : (Jvm.Cond.code ({ cls := "LockTurnsModel", name := "day", desc := "(I)I" } : Jvm.MethodName) prog_14_method_60_code (2 : Nat) (Option.some Jvm.ClassFile.FieldType.int)) ∈ lw_all := lw_g (lw_at lw_m6 0 rfl) rfl
theorem q1283 : (Jvm.Cond.methodLink "LockTurnsModel" (259 : Nat) ({ cls := "LockTurnsModel", name := "tells", desc := "(I)I" } : Jvm.MethodName)) ∈ lw_all := lw_g (lw_at lw_m6 1 rfl) rfl
theorem q1284 : (Jvm.Cond.privateMethod ({ cls := "LockTurnsModel", name := "tells", desc := "(I)I" } : Jvm.MethodName)) ∈ lw_tbl := lw_at lw_m6 2 rfl
theorem q1285 : (Jvm.Cond.instanceMethod ({ cls := "LockTurnsModel", name := "tells", desc := "(I)I" } : Jvm.MethodName)) ∈ lw_all := lw_g (lw_at lw_m6 3 rfl) rfl
theorem q1286 : (Jvm.Cond.code ({ cls := "LockTurnsModel", name := "tells", desc := "(I)I" } : Jvm.MethodName) prog_14_method_45_code (4 : Nat) (Option.some Jvm.ClassFile.FieldType.int)) ∈ lw_all := lw_g (lw_at lw_m6 4 rfl) rfl
theorem q1287 : (Jvm.Cond.methodLink "LockTurnsModel" (225 : Nat) ({ cls := "LockTurnsModel", name := "costNow", desc := "()I" } : Jvm.MethodName)) ∈ lw_all := lw_g (lw_at lw_m6 5 rfl) rfl
theorem q1288 : (Jvm.Cond.privateMethod ({ cls := "LockTurnsModel", name := "costNow", desc := "()I" } : Jvm.MethodName)) ∈ lw_tbl := lw_at lw_m6 6 rfl
theorem q1289 : (Jvm.Cond.instanceMethod ({ cls := "LockTurnsModel", name := "costNow", desc := "()I" } : Jvm.MethodName)) ∈ lw_all := lw_g (lw_at lw_m6 7 rfl) rfl
theorem q1290 : (Jvm.Cond.code ({ cls := "LockTurnsModel", name := "costNow", desc := "()I" } : Jvm.MethodName) prog_14_method_44_code (3 : Nat) (Option.some Jvm.ClassFile.FieldType.int)) ∈ lw_all := lw_g (lw_at lw_m6 8 rfl) rfl
theorem q1292 : (Jvm.Cond.instanceMethod ({ cls := "LockTurnsModel", name := "table", desc := "(II)I" } : Jvm.MethodName)) ∈ lw_all := lw_g (lw_at lw_m6 10 rfl) rfl
theorem q1293 : (Jvm.Cond.selects "LockTurnsModel" ({ cls := "LockTurnsModel", name := "table", desc := "(II)I" } : Jvm.MethodName) ({ cls := "LockTurnsModel", name := "table", desc := "(II)I" } : Jvm.MethodName)) ∈ lw_all := lw_g (lw_at lw_m6 11 rfl) rfl
theorem q1294 : (Jvm.Cond.code ({ cls := "LockTurnsModel", name := "table", desc := "(II)I" } : Jvm.MethodName) prog_14_method_62_code (3 : Nat) (Option.some Jvm.ClassFile.FieldType.int)) ∈ lw_all := lw_g (lw_at lw_m6 12 rfl) rfl
theorem q1295 : (Jvm.Cond.methodLink "LockTurnsModel" (262 : Nat) ({ cls := "LockTurnsModel", name := "dayBy", desc := "(I)V" } : Jvm.MethodName)) ∈ lw_all := lw_g (lw_at lw_m6 13 rfl) rfl
theorem q1296 : (Jvm.Cond.privateMethod ({ cls := "LockTurnsModel", name := "dayBy", desc := "(I)V" } : Jvm.MethodName)) ∈ lw_tbl := lw_at lw_m6 14 rfl
theorem q1297 : (Jvm.Cond.instanceMethod ({ cls := "LockTurnsModel", name := "dayBy", desc := "(I)V" } : Jvm.MethodName)) ∈ lw_all := lw_g (lw_at lw_m6 15 rfl) rfl
theorem q1298 : (Jvm.Cond.code ({ cls := "LockTurnsModel", name := "dayBy", desc := "(I)V" } : Jvm.MethodName) prog_14_method_61_code (2 : Nat) (Option.none : Option Jvm.ClassFile.FieldType)) ∈ lw_all := lw_g (lw_at lw_m6 16 rfl) rfl
theorem q1300 : (Jvm.Cond.instanceMethod ({ cls := "LockTurnsModel", name := "best", desc := "(I)I" } : Jvm.MethodName)) ∈ lw_all := lw_g (lw_at lw_m6 18 rfl) rfl
theorem q1301 : (Jvm.Cond.selects "LockTurnsModel" ({ cls := "LockTurnsModel", name := "best", desc := "(I)I" } : Jvm.MethodName) ({ cls := "LockTurnsModel", name := "best", desc := "(I)I" } : Jvm.MethodName)) ∈ lw_all := lw_g (lw_at lw_m6 19 rfl) rfl
theorem q1302 : (Jvm.Cond.code ({ cls := "LockTurnsModel", name := "best", desc := "(I)I" } : Jvm.MethodName) prog_14_method_63_code (5 : Nat) (Option.some Jvm.ClassFile.FieldType.int)) ∈ lw_all := lw_g (lw_at lw_m6 20 rfl) rfl
theorem q1304 : (Jvm.Cond.instanceMethod ({ cls := "LockTurnsModel", name := "order", desc := "(I)I" } : Jvm.MethodName)) ∈ lw_all := lw_g (lw_at lw_m6 22 rfl) rfl
theorem q1305 : (Jvm.Cond.selects "LockTurnsModel" ({ cls := "LockTurnsModel", name := "order", desc := "(I)I" } : Jvm.MethodName) ({ cls := "LockTurnsModel", name := "order", desc := "(I)I" } : Jvm.MethodName)) ∈ lw_all := lw_g (lw_at lw_m6 23 rfl) rfl
theorem q1306 : (Jvm.Cond.code ({ cls := "LockTurnsModel", name := "order", desc := "(I)I" } : Jvm.MethodName) prog_14_method_67_code (6 : Nat) (Option.some Jvm.ClassFile.FieldType.int)) ∈ lw_all := lw_g (lw_at lw_m6 24 rfl) rfl
theorem q1307 : (Jvm.Cond.methodLink "LockTurnsModel" (265 : Nat) ({ cls := "LockTurnsModel", name := "rows", desc := "()I" } : Jvm.MethodName)) ∈ lw_all := lw_g (lw_at lw_m6 25 rfl) rfl
theorem q1308 : (Jvm.Cond.privateMethod ({ cls := "LockTurnsModel", name := "rows", desc := "()I" } : Jvm.MethodName)) ∈ lw_tbl := lw_at lw_m6 26 rfl
theorem q1309 : (Jvm.Cond.instanceMethod ({ cls := "LockTurnsModel", name := "rows", desc := "()I" } : Jvm.MethodName)) ∈ lw_all := lw_g (lw_at lw_m6 27 rfl) rfl
theorem q1310 : (Jvm.Cond.code ({ cls := "LockTurnsModel", name := "rows", desc := "()I" } : Jvm.MethodName) prog_14_method_64_code (3 : Nat) (Option.some Jvm.ClassFile.FieldType.int)) ∈ lw_all := lw_g (lw_at lw_m6 28 rfl) rfl
theorem q1311 : (Jvm.Cond.methodLink "LockTurnsModel" (268 : Nat) ({ cls := "LockTurnsModel", name := "isOrder", desc := "(I)Z" } : Jvm.MethodName)) ∈ lw_all := lw_g (lw_at lw_m6 29 rfl) rfl
theorem q1312 : (Jvm.Cond.privateMethod ({ cls := "LockTurnsModel", name := "isOrder", desc := "(I)Z" } : Jvm.MethodName)) ∈ lw_tbl := lw_at lw_m6 30 rfl
theorem q1313 : (Jvm.Cond.instanceMethod ({ cls := "LockTurnsModel", name := "isOrder", desc := "(I)Z" } : Jvm.MethodName)) ∈ lw_all := lw_g (lw_at lw_m6 31 rfl) rfl
theorem q1314 : (Jvm.Cond.code ({ cls := "LockTurnsModel", name := "isOrder", desc := "(I)Z" } : Jvm.MethodName) prog_14_method_65_code (5 : Nat) (Option.some Jvm.ClassFile.FieldType.boolean)) ∈ lw_all := lw_g (lw_at lw_m6 32 rfl) rfl
theorem q1315 : (Jvm.Cond.methodLink "LockTurnsModel" (271 : Nat) ({ cls := "LockTurnsModel", name := "goesInOrder", desc := "()V" } : Jvm.MethodName)) ∈ lw_all := lw_g (lw_at lw_m6 33 rfl) rfl
theorem q1316 : (Jvm.Cond.privateMethod ({ cls := "LockTurnsModel", name := "goesInOrder", desc := "()V" } : Jvm.MethodName)) ∈ lw_tbl := lw_at lw_m6 34 rfl
theorem q1317 : (Jvm.Cond.instanceMethod ({ cls := "LockTurnsModel", name := "goesInOrder", desc := "()V" } : Jvm.MethodName)) ∈ lw_all := lw_g (lw_at lw_m6 35 rfl) rfl
theorem q1318 : (Jvm.Cond.code ({ cls := "LockTurnsModel", name := "goesInOrder", desc := "()V" } : Jvm.MethodName) prog_14_method_66_code (2 : Nat) (Option.none : Option Jvm.ClassFile.FieldType)) ∈ lw_all := lw_g (lw_at lw_m6 36 rfl) rfl
theorem q1320 : (Jvm.Cond.instanceMethod ({ cls := "LockTurnsModel", name := "firsts", desc := "(I)I" } : Jvm.MethodName)) ∈ lw_all := lw_g (lw_at lw_m6 38 rfl) rfl
theorem q1321 : (Jvm.Cond.selects "LockTurnsModel" ({ cls := "LockTurnsModel", name := "firsts", desc := "(I)I" } : Jvm.MethodName) ({ cls := "LockTurnsModel", name := "firsts", desc := "(I)I" } : Jvm.MethodName)) ∈ lw_all := lw_g (lw_at lw_m6 39 rfl) rfl
theorem q1322 : (Jvm.Cond.code ({ cls := "LockTurnsModel", name := "firsts", desc := "(I)I" } : Jvm.MethodName) prog_14_method_68_code (4 : Nat) (Option.some Jvm.ClassFile.FieldType.int)) ∈ lw_all := lw_g (lw_at lw_m6 40 rfl) rfl
theorem q1324 : (Jvm.Cond.instanceMethod ({ cls := "LockTurnsModel", name := "gain", desc := "(I)I" } : Jvm.MethodName)) ∈ lw_all := lw_g (lw_at lw_m6 42 rfl) rfl
theorem q1325 : (Jvm.Cond.selects "LockTurnsModel" ({ cls := "LockTurnsModel", name := "gain", desc := "(I)I" } : Jvm.MethodName) ({ cls := "LockTurnsModel", name := "gain", desc := "(I)I" } : Jvm.MethodName)) ∈ lw_all := lw_g (lw_at lw_m6 43 rfl) rfl
theorem q1326 : (Jvm.Cond.code ({ cls := "LockTurnsModel", name := "gain", desc := "(I)I" } : Jvm.MethodName) prog_14_method_70_code (2 : Nat) (Option.some Jvm.ClassFile.FieldType.int)) ∈ lw_all := lw_g (lw_at lw_m6 44 rfl) rfl
theorem q1327 : (Jvm.Cond.methodLink "LockTurnsModel" (278 : Nat) ({ cls := "LockTurnsModel", name := "gainOf", desc := "(I)I" } : Jvm.MethodName)) ∈ lw_all := lw_g (lw_at lw_m6 45 rfl) rfl
theorem q1328 : (Jvm.Cond.privateMethod ({ cls := "LockTurnsModel", name := "gainOf", desc := "(I)I" } : Jvm.MethodName)) ∈ lw_tbl := lw_at lw_m6 46 rfl
theorem q1329 : (Jvm.Cond.instanceMethod ({ cls := "LockTurnsModel", name := "gainOf", desc := "(I)I" } : Jvm.MethodName)) ∈ lw_all := lw_g (lw_at lw_m6 47 rfl) rfl
theorem q1330 : (Jvm.Cond.code ({ cls := "LockTurnsModel", name := "gainOf", desc := "(I)I" } : Jvm.MethodName) prog_14_method_69_code (3 : Nat) (Option.some Jvm.ClassFile.FieldType.int)) ∈ lw_all := lw_g (lw_at lw_m6 48 rfl) rfl
theorem q1331 : (Jvm.Cond.methodLink "LockTurnsModel" (274 : Nat) ({ cls := "LockTurnsModel", name := "becomesOf", desc := "(III)V" } : Jvm.MethodName)) ∈ lw_all := lw_g (lw_at lw_m6 49 rfl) rfl
theorem q1332 : (Jvm.Cond.privateMethod ({ cls := "LockTurnsModel", name := "becomesOf", desc := "(III)V" } : Jvm.MethodName)) ∈ lw_tbl := lw_at lw_m6 50 rfl
theorem q1333 : (Jvm.Cond.instanceMethod ({ cls := "LockTurnsModel", name := "becomesOf", desc := "(III)V" } : Jvm.MethodName)) ∈ lw_all := lw_g (lw_at lw_m6 51 rfl) rfl
theorem q1334 : (Jvm.Cond.code ({ cls := "LockTurnsModel", name := "becomesOf", desc := "(III)V" } : Jvm.MethodName) prog_14_method_30_code (4 : Nat) (Option.none : Option Jvm.ClassFile.FieldType)) ∈ lw_all := lw_g (lw_at lw_m6 52 rfl) rfl
theorem q1336 : (Jvm.Cond.instanceMethod ({ cls := "LockTurnsModel", name := "calm", desc := "()I" } : Jvm.MethodName)) ∈ lw_all := lw_g (lw_at lw_m6 54 rfl) rfl
theorem q1337 : (Jvm.Cond.selects "LockTurnsModel" ({ cls := "LockTurnsModel", name := "calm", desc := "()I" } : Jvm.MethodName) ({ cls := "LockTurnsModel", name := "calm", desc := "()I" } : Jvm.MethodName)) ∈ lw_all := lw_g (lw_at lw_m6 55 rfl) rfl
theorem q1338 : (Jvm.Cond.code ({ cls := "LockTurnsModel", name := "calm", desc := "()I" } : Jvm.MethodName) prog_14_method_72_code (3 : Nat) (Option.some Jvm.ClassFile.FieldType.int)) ∈ lw_all := lw_g (lw_at lw_m6 56 rfl) rfl
theorem q1339 : (Jvm.Cond.methodLink "LockTurnsModel" (281 : Nat) ({ cls := "LockTurnsModel", name := "isCalm", desc := "()Z" } : Jvm.MethodName)) ∈ lw_all := lw_g (lw_at lw_m6 57 rfl) rfl
theorem q1340 : (Jvm.Cond.privateMethod ({ cls := "LockTurnsModel", name := "isCalm", desc := "()Z" } : Jvm.MethodName)) ∈ lw_tbl := lw_at lw_m6 58 rfl
theorem q1341 : (Jvm.Cond.instanceMethod ({ cls := "LockTurnsModel", name := "isCalm", desc := "()Z" } : Jvm.MethodName)) ∈ lw_all := lw_g (lw_at lw_m6 59 rfl) rfl
theorem q1342 : (Jvm.Cond.code ({ cls := "LockTurnsModel", name := "isCalm", desc := "()Z" } : Jvm.MethodName) prog_14_method_71_code (3 : Nat) (Option.some Jvm.ClassFile.FieldType.boolean)) ∈ lw_all := lw_g (lw_at lw_m6 60 rfl) rfl
theorem q1344 : (Jvm.Cond.instanceMethod ({ cls := "LockTurnsModel", name := "rests", desc := "(I)I" } : Jvm.MethodName)) ∈ lw_all := lw_g (lw_at lw_m6 62 rfl) rfl
theorem q1345 : (Jvm.Cond.selects "LockTurnsModel" ({ cls := "LockTurnsModel", name := "rests", desc := "(I)I" } : Jvm.MethodName) ({ cls := "LockTurnsModel", name := "rests", desc := "(I)I" } : Jvm.MethodName)) ∈ lw_all := lw_g (lw_at lw_m6 63 rfl) rfl
theorem q1346 : (Jvm.Cond.code ({ cls := "LockTurnsModel", name := "rests", desc := "(I)I" } : Jvm.MethodName) prog_14_method_74_code (5 : Nat) (Option.some Jvm.ClassFile.FieldType.int)) ∈ lw_all := lw_g (lw_at lw_m6 64 rfl) rfl
theorem q1347 : (Jvm.Cond.methodLink "LockTurnsModel" (285 : Nat) ({ cls := "LockTurnsModel", name := "isPart", desc := "(I)Z" } : Jvm.MethodName)) ∈ lw_all := lw_g (lw_at lw_m6 65 rfl) rfl
theorem q1348 : (Jvm.Cond.static ({ cls := "LockTurnsModel", name := "isPart", desc := "(I)Z" } : Jvm.MethodName)) ∈ lw_all := lw_g (lw_at lw_m6 66 rfl) rfl
theorem q1349 : (Jvm.Cond.code ({ cls := "LockTurnsModel", name := "isPart", desc := "(I)Z" } : Jvm.MethodName) prog_14_method_27_code (1 : Nat) (Option.some Jvm.ClassFile.FieldType.boolean)) ∈ lw_all := lw_g (lw_at lw_m6 67 rfl) rfl
theorem q1350 : (Jvm.Cond.methodLink "LockTurnsModel" (288 : Nat) ({ cls := "LockTurnsModel", name := "liesBy", desc := "(I)V" } : Jvm.MethodName)) ∈ lw_all := lw_g (lw_at lw_m6 68 rfl) rfl
theorem q1351 : (Jvm.Cond.privateMethod ({ cls := "LockTurnsModel", name := "liesBy", desc := "(I)V" } : Jvm.MethodName)) ∈ lw_tbl := lw_at lw_m6 69 rfl
theorem q1352 : (Jvm.Cond.instanceMethod ({ cls := "LockTurnsModel", name := "liesBy", desc := "(I)V" } : Jvm.MethodName)) ∈ lw_all := lw_g (lw_at lw_m6 70 rfl) rfl
theorem q1353 : (Jvm.Cond.code ({ cls := "LockTurnsModel", name := "liesBy", desc := "(I)V" } : Jvm.MethodName) prog_14_method_73_code (3 : Nat) (Option.none : Option Jvm.ClassFile.FieldType)) ∈ lw_all := lw_g (lw_at lw_m6 71 rfl) rfl
theorem q1355 : (Jvm.Cond.instanceMethod ({ cls := "LockTurnsModel", name := "boy", desc := "(II)I" } : Jvm.MethodName)) ∈ lw_all := lw_g (lw_at lw_m6 73 rfl) rfl
theorem q1356 : (Jvm.Cond.selects "LockTurnsModel" ({ cls := "LockTurnsModel", name := "boy", desc := "(II)I" } : Jvm.MethodName) ({ cls := "LockTurnsModel", name := "boy", desc := "(II)I" } : Jvm.MethodName)) ∈ lw_all := lw_g (lw_at lw_m6 74 rfl) rfl
theorem q1357 : (Jvm.Cond.code ({ cls := "LockTurnsModel", name := "boy", desc := "(II)I" } : Jvm.MethodName) prog_14_method_75_code (4 : Nat) (Option.some Jvm.ClassFile.FieldType.int)) ∈ lw_all := lw_g (lw_at lw_m6 75 rfl) rfl
theorem q1358 : (Jvm.Cond.methodLink "LockTurnsModel" (291 : Nat) ({ cls := "LockTurnsModel", name := "placeOf", desc := "(I)I" } : Jvm.MethodName)) ∈ lw_all := lw_g (lw_at lw_m6 76 rfl) rfl
theorem q1359 : (Jvm.Cond.privateMethod ({ cls := "LockTurnsModel", name := "placeOf", desc := "(I)I" } : Jvm.MethodName)) ∈ lw_tbl := lw_at lw_m6 77 rfl
theorem q1360 : (Jvm.Cond.instanceMethod ({ cls := "LockTurnsModel", name := "placeOf", desc := "(I)I" } : Jvm.MethodName)) ∈ lw_all := lw_g (lw_at lw_m6 78 rfl) rfl
theorem q1361 : (Jvm.Cond.code ({ cls := "LockTurnsModel", name := "placeOf", desc := "(I)I" } : Jvm.MethodName) prog_14_method_47_code (4 : Nat) (Option.some Jvm.ClassFile.FieldType.int)) ∈ lw_all := lw_g (lw_at lw_m6 79 rfl) rfl
theorem q1363 : (Jvm.Cond.instanceMethod ({ cls := "LockTurnsModel", name := "post", desc := "(I)I" } : Jvm.MethodName)) ∈ lw_all := lw_g (lw_at lw_m6 81 rfl) rfl
theorem q1364 : (Jvm.Cond.selects "LockTurnsModel" ({ cls := "LockTurnsModel", name := "post", desc := "(I)I" } : Jvm.MethodName) ({ cls := "LockTurnsModel", name := "post", desc := "(I)I" } : Jvm.MethodName)) ∈ lw_all := lw_g (lw_at lw_m6 82 rfl) rfl
theorem q1365 : (Jvm.Cond.code ({ cls := "LockTurnsModel", name := "post", desc := "(I)I" } : Jvm.MethodName) prog_14_method_76_code (6 : Nat) (Option.some Jvm.ClassFile.FieldType.int)) ∈ lw_all := lw_g (lw_at lw_m6 83 rfl) rfl
theorem q1367 : (Jvm.Cond.instanceMethod ({ cls := "LockTurnsModel", name := "late", desc := "(I)I" } : Jvm.MethodName)) ∈ lw_all := lw_g (lw_at lw_m6 85 rfl) rfl
theorem q1368 : (Jvm.Cond.selects "LockTurnsModel" ({ cls := "LockTurnsModel", name := "late", desc := "(I)I" } : Jvm.MethodName) ({ cls := "LockTurnsModel", name := "late", desc := "(I)I" } : Jvm.MethodName)) ∈ lw_all := lw_g (lw_at lw_m6 86 rfl) rfl
theorem q1369 : (Jvm.Cond.code ({ cls := "LockTurnsModel", name := "late", desc := "(I)I" } : Jvm.MethodName) prog_14_method_77_code (5 : Nat) (Option.some Jvm.ClassFile.FieldType.int)) ∈ lw_all := lw_g (lw_at lw_m6 87 rfl) rfl
theorem q1371 : (Jvm.Cond.instanceMethod ({ cls := "LockTurnsModel", name := "deal", desc := "(III)I" } : Jvm.MethodName)) ∈ lw_all := lw_g (lw_at lw_m6 89 rfl) rfl
theorem q1372 : (Jvm.Cond.selects "LockTurnsModel" ({ cls := "LockTurnsModel", name := "deal", desc := "(III)I" } : Jvm.MethodName) ({ cls := "LockTurnsModel", name := "deal", desc := "(III)I" } : Jvm.MethodName)) ∈ lw_all := lw_g (lw_at lw_m6 90 rfl) rfl
theorem q1373 : (Jvm.Cond.code ({ cls := "LockTurnsModel", name := "deal", desc := "(III)I" } : Jvm.MethodName) prog_14_method_78_code (8 : Nat) (Option.some Jvm.ClassFile.FieldType.int)) ∈ lw_all := lw_g (lw_at lw_m6 91 rfl) rfl
theorem q1375 : (Jvm.Cond.instanceMethod ({ cls := "LockTurnsModel", name := "mean", desc := "(III)J" } : Jvm.MethodName)) ∈ lw_all := lw_g (lw_at lw_m6 93 rfl) rfl
theorem q1376 : (Jvm.Cond.selects "LockTurnsModel" ({ cls := "LockTurnsModel", name := "mean", desc := "(III)J" } : Jvm.MethodName) ({ cls := "LockTurnsModel", name := "mean", desc := "(III)J" } : Jvm.MethodName)) ∈ lw_all := lw_g (lw_at lw_m6 94 rfl) rfl
theorem q1377 : (Jvm.Cond.code ({ cls := "LockTurnsModel", name := "mean", desc := "(III)J" } : Jvm.MethodName) prog_14_method_84_code (7 : Nat) (Option.some Jvm.ClassFile.FieldType.long)) ∈ lw_all := lw_g (lw_at lw_m6 95 rfl) rfl
theorem q1378 : (Jvm.Cond.constantLong "LockTurnsModel" (298 : Nat) (10 : Int64)) ∈ lw_all := lw_g (lw_at lw_m6 96 rfl) rfl
theorem q1379 : (Jvm.Cond.constantLong "LockTurnsModel" (300 : Nat) (-1 : Int64)) ∈ lw_all := lw_g (lw_at lw_m6 97 rfl) rfl
theorem q1380 : (Jvm.Cond.methodLink "LockTurnsModel" (302 : Nat) ({ cls := "LockTurnsModel", name := "dayCaught", desc := "(I)V" } : Jvm.MethodName)) ∈ lw_all := lw_g (lw_at lw_m6 98 rfl) rfl
theorem q1381 : (Jvm.Cond.privateMethod ({ cls := "LockTurnsModel", name := "dayCaught", desc := "(I)V" } : Jvm.MethodName)) ∈ lw_tbl := lw_at lw_m6 99 rfl
theorem q1382 : (Jvm.Cond.instanceMethod ({ cls := "LockTurnsModel", name := "dayCaught", desc := "(I)V" } : Jvm.MethodName)) ∈ lw_all := lw_g (lw_at lw_m6 100 rfl) rfl
theorem q1383 : (Jvm.Cond.code ({ cls := "LockTurnsModel", name := "dayCaught", desc := "(I)V" } : Jvm.MethodName) prog_14_method_83_code (2 : Nat) (Option.none : Option Jvm.ClassFile.FieldType)) ∈ lw_all := lw_g (lw_at lw_m6 101 rfl) rfl
theorem q1384 : (Jvm.Cond.methodLink "LockTurnsModel" (305 : Nat) ({ cls := "LockTurnsModel", name := "waysOf", desc := "(II)J" } : Jvm.MethodName)) ∈ lw_all := lw_g (lw_at lw_m6 102 rfl) rfl
theorem q1385 : (Jvm.Cond.privateMethod ({ cls := "LockTurnsModel", name := "waysOf", desc := "(II)J" } : Jvm.MethodName)) ∈ lw_tbl := lw_at lw_m6 103 rfl
theorem q1386 : (Jvm.Cond.instanceMethod ({ cls := "LockTurnsModel", name := "waysOf", desc := "(II)J" } : Jvm.MethodName)) ∈ lw_all := lw_g (lw_at lw_m6 104 rfl) rfl
theorem q1387 : (Jvm.Cond.code ({ cls := "LockTurnsModel", name := "waysOf", desc := "(II)J" } : Jvm.MethodName) prog_14_method_81_code (7 : Nat) (Option.some Jvm.ClassFile.FieldType.long)) ∈ lw_all := lw_g (lw_at lw_m6 105 rfl) rfl
theorem q1388 : (Jvm.Cond.methodLink "LockTurnsModel" (309 : Nat) ({ cls := "LockTurnsModel", name := "allWays", desc := "()J" } : Jvm.MethodName)) ∈ lw_all := lw_g (lw_at lw_m6 106 rfl) rfl
theorem q1389 : (Jvm.Cond.privateMethod ({ cls := "LockTurnsModel", name := "allWays", desc := "()J" } : Jvm.MethodName)) ∈ lw_tbl := lw_at lw_m6 107 rfl
theorem q1390 : (Jvm.Cond.instanceMethod ({ cls := "LockTurnsModel", name := "allWays", desc := "()J" } : Jvm.MethodName)) ∈ lw_all := lw_g (lw_at lw_m6 108 rfl) rfl
theorem q1391 : (Jvm.Cond.code ({ cls := "LockTurnsModel", name := "allWays", desc := "()J" } : Jvm.MethodName) prog_14_method_82_code (4 : Nat) (Option.some Jvm.ClassFile.FieldType.long)) ∈ lw_all := lw_g (lw_at lw_m6 109 rfl) rfl
theorem q1392 : (Jvm.Cond.methodLink "LockTurnsModel" (313 : Nat) ({ cls := "LockTurnsModel", name := "told", desc := "(JJI)J" } : Jvm.MethodName)) ∈ lw_all := lw_g (lw_at lw_m6 110 rfl) rfl
theorem q1393 : (Jvm.Cond.static ({ cls := "LockTurnsModel", name := "told", desc := "(JJI)J" } : Jvm.MethodName)) ∈ lw_all := lw_g (lw_at lw_m6 111 rfl) rfl
theorem q1394 : (Jvm.Cond.code ({ cls := "LockTurnsModel", name := "told", desc := "(JJI)J" } : Jvm.MethodName) prog_14_method_80_code (7 : Nat) (Option.some Jvm.ClassFile.FieldType.long)) ∈ lw_all := lw_g (lw_at lw_m6 112 rfl) rfl
theorem q1395 : (Jvm.Cond.methodLink "LockTurnsModel" (294 : Nat) ({ cls := "LockTurnsModel", name := "common", desc := "(JJ)J" } : Jvm.MethodName)) ∈ lw_all := lw_g (lw_at lw_m6 113 rfl) rfl
theorem q1396 : (Jvm.Cond.static ({ cls := "LockTurnsModel", name := "common", desc := "(JJ)J" } : Jvm.MethodName)) ∈ lw_all := lw_g (lw_at lw_m6 114 rfl) rfl
theorem q1397 : (Jvm.Cond.code ({ cls := "LockTurnsModel", name := "common", desc := "(JJ)J" } : Jvm.MethodName) prog_14_method_79_code (10 : Nat) (Option.some Jvm.ClassFile.FieldType.long)) ∈ lw_all := lw_g (lw_at lw_m6 115 rfl) rfl
theorem q1399 : (Jvm.Cond.instanceMethod ({ cls := "LockTurnsModel", name := "luck", desc := "(IIII)J" } : Jvm.MethodName)) ∈ lw_all := lw_g (lw_at lw_m6 117 rfl) rfl
theorem q1400 : (Jvm.Cond.selects "LockTurnsModel" ({ cls := "LockTurnsModel", name := "luck", desc := "(IIII)J" } : Jvm.MethodName) ({ cls := "LockTurnsModel", name := "luck", desc := "(IIII)J" } : Jvm.MethodName)) ∈ lw_all := lw_g (lw_at lw_m6 118 rfl) rfl
theorem q1401 : (Jvm.Cond.code ({ cls := "LockTurnsModel", name := "luck", desc := "(IIII)J" } : Jvm.MethodName) prog_14_method_85_code (8 : Nat) (Option.some Jvm.ClassFile.FieldType.long)) ∈ lw_all := lw_g (lw_at lw_m6 119 rfl) rfl
theorem q1403 : (Jvm.Cond.instanceMethod ({ cls := "LockTurnsModel", name := "see", desc := "(II)I" } : Jvm.MethodName)) ∈ lw_all := lw_g (lw_at lw_m6 121 rfl) rfl
theorem q1404 : (Jvm.Cond.selects "LockTurnsModel" ({ cls := "LockTurnsModel", name := "see", desc := "(II)I" } : Jvm.MethodName) ({ cls := "LockTurnsModel", name := "see", desc := "(II)I" } : Jvm.MethodName)) ∈ lw_all := lw_g (lw_at lw_m6 122 rfl) rfl
theorem q1405 : (Jvm.Cond.code ({ cls := "LockTurnsModel", name := "see", desc := "(II)I" } : Jvm.MethodName) prog_14_method_86_code (3 : Nat) (Option.some Jvm.ClassFile.FieldType.int)) ∈ lw_all := lw_g (lw_at lw_m6 123 rfl) rfl
theorem q1407 : (Jvm.Cond.instanceMethod ({ cls := "LockTurnsModel", name := "forget", desc := "(I)I" } : Jvm.MethodName)) ∈ lw_all := lw_g (lw_at lw_m6 125 rfl) rfl
theorem q1408 : (Jvm.Cond.selects "LockTurnsModel" ({ cls := "LockTurnsModel", name := "forget", desc := "(I)I" } : Jvm.MethodName) ({ cls := "LockTurnsModel", name := "forget", desc := "(I)I" } : Jvm.MethodName)) ∈ lw_all := lw_g (lw_at lw_m6 126 rfl) rfl
theorem q1409 : (Jvm.Cond.code ({ cls := "LockTurnsModel", name := "forget", desc := "(I)I" } : Jvm.MethodName) prog_14_method_87_code (2 : Nat) (Option.some Jvm.ClassFile.FieldType.int)) ∈ lw_all := lw_g (lw_at lw_m6 127 rfl) rfl
theorem q1411 : (Jvm.Cond.instanceMethod ({ cls := "LockTurnsModel", name := "fits", desc := "(I)I" } : Jvm.MethodName)) ∈ lw_all := lw_g (lw_at lw_m6 129 rfl) rfl
theorem q1412 : (Jvm.Cond.selects "LockTurnsModel" ({ cls := "LockTurnsModel", name := "fits", desc := "(I)I" } : Jvm.MethodName) ({ cls := "LockTurnsModel", name := "fits", desc := "(I)I" } : Jvm.MethodName)) ∈ lw_all := lw_g (lw_at lw_m6 130 rfl) rfl
theorem q1413 : (Jvm.Cond.code ({ cls := "LockTurnsModel", name := "fits", desc := "(I)I" } : Jvm.MethodName) prog_14_method_89_code (9 : Nat) (Option.some Jvm.ClassFile.FieldType.int)) ∈ lw_all := lw_g (lw_at lw_m6 131 rfl) rfl
theorem q1414 : (Jvm.Cond.methodLink "LockTurnsModel" (317 : Nat) ({ cls := "LockTurnsModel", name := "isSo", desc := "(II)Z" } : Jvm.MethodName)) ∈ lw_all := lw_g (lw_at lw_m6 132 rfl) rfl
theorem q1415 : (Jvm.Cond.privateMethod ({ cls := "LockTurnsModel", name := "isSo", desc := "(II)Z" } : Jvm.MethodName)) ∈ lw_tbl := lw_at lw_m6 133 rfl
theorem q1416 : (Jvm.Cond.instanceMethod ({ cls := "LockTurnsModel", name := "isSo", desc := "(II)Z" } : Jvm.MethodName)) ∈ lw_all := lw_g (lw_at lw_m6 134 rfl) rfl
theorem q1417 : (Jvm.Cond.code ({ cls := "LockTurnsModel", name := "isSo", desc := "(II)Z" } : Jvm.MethodName) prog_14_method_88_code (5 : Nat) (Option.some Jvm.ClassFile.FieldType.boolean)) ∈ lw_all := lw_g (lw_at lw_m6 135 rfl) rfl
theorem q1419 : (Jvm.Cond.instanceMethod ({ cls := "LockTurnsModel", name := "drift", desc := "(III)I" } : Jvm.MethodName)) ∈ lw_all := lw_g (lw_at lw_m6 137 rfl) rfl
theorem q1420 : (Jvm.Cond.selects "LockTurnsModel" ({ cls := "LockTurnsModel", name := "drift", desc := "(III)I" } : Jvm.MethodName) ({ cls := "LockTurnsModel", name := "drift", desc := "(III)I" } : Jvm.MethodName)) ∈ lw_all := lw_g (lw_at lw_m6 138 rfl) rfl
theorem q1421 : (Jvm.Cond.code ({ cls := "LockTurnsModel", name := "drift", desc := "(III)I" } : Jvm.MethodName) prog_14_method_90_code (8 : Nat) (Option.some Jvm.ClassFile.FieldType.int)) ∈ lw_all := lw_g (lw_at lw_m6 139 rfl) rfl
theorem q1422 : (Jvm.Cond.constantLong "LockTurnsModel" (321 : Nat) (20 : Int64)) ∈ lw_all := lw_g (lw_at lw_m6 140 rfl) rfl
theorem q1423 : (Jvm.Cond.constant "LockTurnsModel" (323 : Nat) (1103515245 : Int32)) ∈ lw_all := lw_g (lw_at lw_m6 141 rfl) rfl
theorem q1425 : (Jvm.Cond.instanceMethod ({ cls := "LockTurnsModel", name := "keep", desc := "(I)I" } : Jvm.MethodName)) ∈ lw_all := lw_g (lw_at lw_m6 143 rfl) rfl
theorem q1426 : (Jvm.Cond.selects "LockTurnsModel" ({ cls := "LockTurnsModel", name := "keep", desc := "(I)I" } : Jvm.MethodName) ({ cls := "LockTurnsModel", name := "keep", desc := "(I)I" } : Jvm.MethodName)) ∈ lw_all := lw_g (lw_at lw_m6 144 rfl) rfl
theorem q1427 : (Jvm.Cond.code ({ cls := "LockTurnsModel", name := "keep", desc := "(I)I" } : Jvm.MethodName) prog_14_method_92_code (3 : Nat) (Option.some Jvm.ClassFile.FieldType.int)) ∈ lw_all := lw_g (lw_at lw_m6 145 rfl) rfl
theorem q1428 : (Jvm.Cond.methodLink "LockTurnsModel" (324 : Nat) ({ cls := "LockTurnsModel", name := "copies", desc := "(II)V" } : Jvm.MethodName)) ∈ lw_all := lw_g (lw_at lw_m6 146 rfl) rfl
theorem q1429 : (Jvm.Cond.privateMethod ({ cls := "LockTurnsModel", name := "copies", desc := "(II)V" } : Jvm.MethodName)) ∈ lw_tbl := lw_at lw_m6 147 rfl
theorem q1430 : (Jvm.Cond.instanceMethod ({ cls := "LockTurnsModel", name := "copies", desc := "(II)V" } : Jvm.MethodName)) ∈ lw_all := lw_g (lw_at lw_m6 148 rfl) rfl
theorem q1431 : (Jvm.Cond.code ({ cls := "LockTurnsModel", name := "copies", desc := "(II)V" } : Jvm.MethodName) prog_14_method_91_code (4 : Nat) (Option.none : Option Jvm.ClassFile.FieldType)) ∈ lw_all := lw_g (lw_at lw_m6 149 rfl) rfl
theorem q1433 : (Jvm.Cond.instanceMethod ({ cls := "LockTurnsModel", name := "back", desc := "(I)I" } : Jvm.MethodName)) ∈ lw_all := lw_g (lw_at lw_m6 151 rfl) rfl
theorem q1434 : (Jvm.Cond.selects "LockTurnsModel" ({ cls := "LockTurnsModel", name := "back", desc := "(I)I" } : Jvm.MethodName) ({ cls := "LockTurnsModel", name := "back", desc := "(I)I" } : Jvm.MethodName)) ∈ lw_all := lw_g (lw_at lw_m6 152 rfl) rfl
theorem q1435 : (Jvm.Cond.code ({ cls := "LockTurnsModel", name := "back", desc := "(I)I" } : Jvm.MethodName) prog_14_method_93_code (2 : Nat) (Option.some Jvm.ClassFile.FieldType.int)) ∈ lw_all := lw_g (lw_at lw_m6 153 rfl) rfl
theorem q1437 : (Jvm.Cond.instanceMethod ({ cls := "LockTurnsModel", name := "sheet", desc := "(III)I" } : Jvm.MethodName)) ∈ lw_all := lw_g (lw_at lw_m6 155 rfl) rfl
theorem q1438 : (Jvm.Cond.selects "LockTurnsModel" ({ cls := "LockTurnsModel", name := "sheet", desc := "(III)I" } : Jvm.MethodName) ({ cls := "LockTurnsModel", name := "sheet", desc := "(III)I" } : Jvm.MethodName)) ∈ lw_all := lw_g (lw_at lw_m6 156 rfl) rfl
theorem q1439 : (Jvm.Cond.code ({ cls := "LockTurnsModel", name := "sheet", desc := "(III)I" } : Jvm.MethodName) prog_14_method_95_code (5 : Nat) (Option.some Jvm.ClassFile.FieldType.int)) ∈ lw_all := lw_g (lw_at lw_m6 157 rfl) rfl
theorem q1440 : (Jvm.Cond.methodLink "LockTurnsModel" (328 : Nat) ({ cls := "LockTurnsModel", name := "isSheet", desc := "(II)Z" } : Jvm.MethodName)) ∈ lw_all := lw_g (lw_at lw_m6 158 rfl) rfl
theorem q1441 : (Jvm.Cond.static ({ cls := "LockTurnsModel", name := "isSheet", desc := "(II)Z" } : Jvm.MethodName)) ∈ lw_all := lw_g (lw_at lw_m6 159 rfl) rfl
theorem q1442 : (Jvm.Cond.code ({ cls := "LockTurnsModel", name := "isSheet", desc := "(II)Z" } : Jvm.MethodName) prog_14_method_94_code (2 : Nat) (Option.some Jvm.ClassFile.FieldType.boolean)) ∈ lw_all := lw_g (lw_at lw_m6 160 rfl) rfl
theorem q1444 : (Jvm.Cond.instanceMethod ({ cls := "LockTurnsModel", name := "lay", desc := "(III)I" } : Jvm.MethodName)) ∈ lw_all := lw_g (lw_at lw_m6 162 rfl) rfl
theorem q1445 : (Jvm.Cond.selects "LockTurnsModel" ({ cls := "LockTurnsModel", name := "lay", desc := "(III)I" } : Jvm.MethodName) ({ cls := "LockTurnsModel", name := "lay", desc := "(III)I" } : Jvm.MethodName)) ∈ lw_all := lw_g (lw_at lw_m6 163 rfl) rfl
theorem q1446 : (Jvm.Cond.code ({ cls := "LockTurnsModel", name := "lay", desc := "(III)I" } : Jvm.MethodName) prog_14_method_96_code (4 : Nat) (Option.some Jvm.ClassFile.FieldType.int)) ∈ lw_all := lw_g (lw_at lw_m6 164 rfl) rfl
theorem q1448 : (Jvm.Cond.instanceMethod ({ cls := "LockTurnsModel", name := "read", desc := "(IIII)I" } : Jvm.MethodName)) ∈ lw_all := lw_g (lw_at lw_m6 166 rfl) rfl
theorem q1449 : (Jvm.Cond.selects "LockTurnsModel" ({ cls := "LockTurnsModel", name := "read", desc := "(IIII)I" } : Jvm.MethodName) ({ cls := "LockTurnsModel", name := "read", desc := "(IIII)I" } : Jvm.MethodName)) ∈ lw_all := lw_g (lw_at lw_m6 167 rfl) rfl
theorem q1450 : (Jvm.Cond.code ({ cls := "LockTurnsModel", name := "read", desc := "(IIII)I" } : Jvm.MethodName) prog_14_method_97_code (11 : Nat) (Option.some Jvm.ClassFile.FieldType.int)) ∈ lw_all := lw_g (lw_at lw_m6 168 rfl) rfl
theorem q1451 : (Jvm.Cond.methodLink "LockTurnsModel" (331 : Nat) ({ cls := "LockTurnsModel", name := "alter", desc := "(III)I" } : Jvm.MethodName)) ∈ lw_all := lw_g (lw_at lw_m6 169 rfl) rfl
theorem q1453 : (Jvm.Cond.instanceMethod ({ cls := "LockTurnsModel", name := "torn", desc := "()I" } : Jvm.MethodName)) ∈ lw_all := lw_g (lw_at lw_m6 171 rfl) rfl
theorem q1454 : (Jvm.Cond.selects "LockTurnsModel" ({ cls := "LockTurnsModel", name := "torn", desc := "()I" } : Jvm.MethodName) ({ cls := "LockTurnsModel", name := "torn", desc := "()I" } : Jvm.MethodName)) ∈ lw_all := lw_g (lw_at lw_m6 172 rfl) rfl
theorem q1455 : (Jvm.Cond.code ({ cls := "LockTurnsModel", name := "torn", desc := "()I" } : Jvm.MethodName) prog_14_method_98_code (1 : Nat) (Option.some Jvm.ClassFile.FieldType.int)) ∈ lw_all := lw_g (lw_at lw_m6 173 rfl) rfl
theorem q1457 : (Jvm.Cond.instanceMethod ({ cls := "LockTurnsModel", name := "count", desc := "(I)I" } : Jvm.MethodName)) ∈ lw_all := lw_g (lw_at lw_m6 175 rfl) rfl
theorem q1458 : (Jvm.Cond.selects "LockTurnsModel" ({ cls := "LockTurnsModel", name := "count", desc := "(I)I" } : Jvm.MethodName) ({ cls := "LockTurnsModel", name := "count", desc := "(I)I" } : Jvm.MethodName)) ∈ lw_all := lw_g (lw_at lw_m6 176 rfl) rfl
theorem q1459 : (Jvm.Cond.code ({ cls := "LockTurnsModel", name := "count", desc := "(I)I" } : Jvm.MethodName) prog_14_method_99_code (2 : Nat) (Option.some Jvm.ClassFile.FieldType.int)) ∈ lw_all := lw_g (lw_at lw_m6 177 rfl) rfl
theorem in_X5 : ∀ w ∈ wsX50, w ∈ lw_all := lw_in wsX50 [1004, 1006, 1008, 1010, 1012, 1014, 1016, 1018, 1020, 1022, 1024, 1026, 1028, 1030, 1032, 1034, 1036, 1038, 1040, 1042, 1044, 1046, 1048, 1050, 1052, 1054, 1056, 1058, 1060, 1062, 1064, 1066] (by decide +kernel) (by decide +kernel)
