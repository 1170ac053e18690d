/-! HurtStreetsModel -/
set_option maxRecDepth 100000
def RX2 : String := "HurtStreetsModel"
def TX2 : u_T := fun k => match k with
  | 0 => ("HurtStreetsModel", "page", "[I", true)
  | 1 => ("HurtStreetsModel", "pageMany", "I", false)
  | 2 => ("HurtStreetsModel", "endAt", "I", false)
  | 3 => ("HurtStreetsModel", "people", "I", false)
  | 4 => ("HurtStreetsModel", "streets", "I", false)
  | 5 => ("HurtStreetsModel", "days", "I", false)
  | 6 => ("HurtStreetsModel", "townsRead", "I", false)
  | 7 => ("HurtStreetsModel", "rows", "[I", true)
  | 8 => ("HurtStreetsModel", "folk", "[I", true)
  | 9 => ("HurtStreetsModel", "taken", "[I", true)
  | 10 => ("HurtStreetsModel", "drivers", "[I", true)
  | 11 => ("HurtStreetsModel", "away", "[I", true)
  | 12 => ("HurtStreetsModel", "wayRow", "[I", true)
  | 13 => ("HurtStreetsModel", "little", "[I", true)
  | 14 => ("HurtStreetsModel", "rails", "[I", true)
  | 15 => ("HurtStreetsModel", "seenMany", "I", false)
  | 16 => ("HurtStreetsModel", "sights", "[I", true)
  | 17 => ("HurtStreetsModel", "parts", "[I", true)
  | 18 => ("HurtStreetsModel", "seedNow", "I", false)
  | 19 => ("HurtStreetsModel", "savedTaken", "[I", true)
  | 20 => ("HurtStreetsModel", "keptTown", "I", false)
  | 21 => ("HurtStreetsModel", "keptDays", "I", false)
  | 22 => ("HurtStreetsModel", "keptSeen", "I", false)
  | 23 => ("HurtStreetsModel", "keptFolk", "[I", true)
  | 24 => ("HurtStreetsModel", "keptTaken", "[I", true)
  | 25 => ("HurtStreetsModel", "keptDrivers", "[I", true)
  | 26 => ("HurtStreetsModel", "keptSights", "[I", true)
  | _ => ("HurtStreetsModel", "hash", "J", false)
def tyX2 : Nat → FieldType := fun k => match k with
  | 0 => .array .int
  | 1 => .int
  | 2 => .int
  | 3 => .int
  | 4 => .int
  | 5 => .int
  | 6 => .int
  | 7 => .array .int
  | 8 => .array .int
  | 9 => .array .int
  | 10 => .array .int
  | 11 => .array .int
  | 12 => .array .int
  | 13 => .array .int
  | 14 => .array .int
  | 15 => .int
  | 16 => .array .int
  | 17 => .array .int
  | 18 => .int
  | 19 => .array .int
  | 20 => .int
  | 21 => .int
  | 22 => .int
  | 23 => .array .int
  | 24 => .array .int
  | 25 => .array .int
  | 26 => .array .int
  | _ => .long
abbrev wsX20 : List Cond := u_ws RX2 TX2 28
set_option maxRecDepth 100000 in
theorem nmX2 : ∀ a, a < 28 → ∀ b, b < 28 → a ≠ b → (TX2 a).2.1 ≠ (TX2 b).2.1 := by decide +kernel
set_option maxRecDepth 100000 in
theorem tyX2_ok : ∀ k, k < 28 → parseFieldDescriptor (TX2 k).2.2.1 = some (tyX2 k) := by decide +kernel
abbrev cX2_init : ByteArray := prog_11_method_1_code
def yX2_init : MethodName := ⟨RX2, "<init>", "()V"⟩
def dkwX2_init_5 : List UInt8 := [16, 6, 188, 10, 181, 0, 52, 42, 16, 24, 188, 10, 181, 0, 55, 42, 2, 181, 0, 58, 177]
abbrev dktX2_init_5 : List UInt8 := dkwX2_init_5 ++ []
def dkwX2_init_4 : List UInt8 := [16, 27, 188, 10, 181, 0, 43, 42, 16, 15, 188, 10, 181, 0, 46, 42, 16, 27, 188, 10, 181, 0, 49, 42]
abbrev dktX2_init_4 : List UInt8 := dkwX2_init_4 ++ dktX2_init_5
def dkwX2_init_3 : List UInt8 := [16, 8, 188, 10, 181, 0, 34, 42, 16, 24, 188, 10, 181, 0, 37, 42, 16, 10, 188, 10, 181, 0, 40, 42]
abbrev dktX2_init_3 : List UInt8 := dkwX2_init_3 ++ dktX2_init_4
def dkwX2_init_2 : List UInt8 := [188, 10, 181, 0, 25, 42, 16, 8, 188, 10, 181, 0, 28, 42, 17, 2, 144, 188, 10, 181, 0, 31, 42]
abbrev dktX2_init_2 : List UInt8 := dkwX2_init_2 ++ dktX2_init_3
def dkwX2_init_1 : List UInt8 := [188, 10, 181, 0, 16, 42, 16, 27, 188, 10, 181, 0, 19, 42, 16, 6, 188, 10, 181, 0, 22, 42, 16, 8]
abbrev dktX2_init_1 : List UInt8 := dkwX2_init_1 ++ dktX2_init_2
def dkwX2_init_0 : List UInt8 := [42, 183, 0, 1, 42, 16, 50, 188, 10, 181, 0, 7, 42, 16, 36, 188, 10, 181, 0, 13, 42, 16, 15]
abbrev dktX2_init_0 : List UInt8 := dkwX2_init_0 ++ dktX2_init_1
theorem dksX2_init_0 : cX2_init.data.toList.drop 0 = dktX2_init_0 := by decide +kernel
theorem dksX2_init_1 : cX2_init.data.toList.drop 23 = dktX2_init_1 := dk_seg dksX2_init_0 23 rfl rfl
theorem dksX2_init_2 : cX2_init.data.toList.drop 47 = dktX2_init_2 := dk_seg dksX2_init_1 24 rfl rfl
theorem dksX2_init_3 : cX2_init.data.toList.drop 70 = dktX2_init_3 := dk_seg dksX2_init_2 23 rfl rfl
theorem dksX2_init_4 : cX2_init.data.toList.drop 94 = dktX2_init_4 := dk_seg dksX2_init_3 24 rfl rfl
theorem dksX2_init_5 : cX2_init.data.toList.drop 118 = dktX2_init_5 := dk_seg dksX2_init_4 24 rfl rfl
theorem dX2_init_0 : decode cX2_init 0 = .ok (.aload_n 0, 1) := dk_42 (dk_at dksX2_init_0 0 rfl rfl)
theorem dX2_init_1 : decode cX2_init 1 = .ok (.invokespecial 1, 3) := dk_183 0 1 (dk_at dksX2_init_0 1 rfl rfl)
theorem dX2_init_4 : decode cX2_init 4 = .ok (.aload_n 0, 1) := dk_42 (dk_at dksX2_init_0 4 rfl rfl)
theorem dX2_init_5 : decode cX2_init 5 = .ok (.bipush 50, 2) := dk_16 50 (dk_at dksX2_init_0 5 rfl rfl)
theorem dX2_init_7 : decode cX2_init 7 = .ok (.newarray .int, 2) := dk_188_10 (dk_at dksX2_init_0 7 rfl rfl)
theorem dX2_init_9 : decode cX2_init 9 = .ok (.putfield 7, 3) := dk_181 0 7 (dk_at dksX2_init_0 9 rfl rfl)
theorem dX2_init_12 : decode cX2_init 12 = .ok (.aload_n 0, 1) := dk_42 (dk_at dksX2_init_0 12 rfl rfl)
theorem dX2_init_13 : decode cX2_init 13 = .ok (.bipush 36, 2) := dk_16 36 (dk_at dksX2_init_0 13 rfl rfl)
theorem dX2_init_15 : decode cX2_init 15 = .ok (.newarray .int, 2) := dk_188_10 (dk_at dksX2_init_0 15 rfl rfl)
theorem dX2_init_17 : decode cX2_init 17 = .ok (.putfield 13, 3) := dk_181 0 13 (dk_at dksX2_init_0 17 rfl rfl)
theorem dX2_init_20 : decode cX2_init 20 = .ok (.aload_n 0, 1) := dk_42 (dk_at dksX2_init_0 20 rfl rfl)
theorem dX2_init_21 : decode cX2_init 21 = .ok (.bipush 15, 2) := dk_16 15 (dk_at dksX2_init_0 21 rfl rfl)
theorem dX2_init_23 : decode cX2_init 23 = .ok (.newarray .int, 2) := dk_188_10 (dk_at dksX2_init_1 0 rfl rfl)
theorem dX2_init_25 : decode cX2_init 25 = .ok (.putfield 16, 3) := dk_181 0 16 (dk_at dksX2_init_1 2 rfl rfl)
theorem dX2_init_28 : decode cX2_init 28 = .ok (.aload_n 0, 1) := dk_42 (dk_at dksX2_init_1 5 rfl rfl)
theorem dX2_init_29 : decode cX2_init 29 = .ok (.bipush 27, 2) := dk_16 27 (dk_at dksX2_init_1 6 rfl rfl)
theorem dX2_init_31 : decode cX2_init 31 = .ok (.newarray .int, 2) := dk_188_10 (dk_at dksX2_init_1 8 rfl rfl)
theorem dX2_init_33 : decode cX2_init 33 = .ok (.putfield 19, 3) := dk_181 0 19 (dk_at dksX2_init_1 10 rfl rfl)
theorem dX2_init_36 : decode cX2_init 36 = .ok (.aload_n 0, 1) := dk_42 (dk_at dksX2_init_1 13 rfl rfl)
theorem dX2_init_37 : decode cX2_init 37 = .ok (.bipush 6, 2) := dk_16 6 (dk_at dksX2_init_1 14 rfl rfl)
theorem dX2_init_39 : decode cX2_init 39 = .ok (.newarray .int, 2) := dk_188_10 (dk_at dksX2_init_1 16 rfl rfl)
theorem dX2_init_41 : decode cX2_init 41 = .ok (.putfield 22, 3) := dk_181 0 22 (dk_at dksX2_init_1 18 rfl rfl)
theorem dX2_init_44 : decode cX2_init 44 = .ok (.aload_n 0, 1) := dk_42 (dk_at dksX2_init_1 21 rfl rfl)
theorem dX2_init_45 : decode cX2_init 45 = .ok (.bipush 8, 2) := dk_16 8 (dk_at dksX2_init_1 22 rfl rfl)
theorem dX2_init_47 : decode cX2_init 47 = .ok (.newarray .int, 2) := dk_188_10 (dk_at dksX2_init_2 0 rfl rfl)
theorem dX2_init_49 : decode cX2_init 49 = .ok (.putfield 25, 3) := dk_181 0 25 (dk_at dksX2_init_2 2 rfl rfl)
theorem dX2_init_52 : decode cX2_init 52 = .ok (.aload_n 0, 1) := dk_42 (dk_at dksX2_init_2 5 rfl rfl)
theorem dX2_init_53 : decode cX2_init 53 = .ok (.bipush 8, 2) := dk_16 8 (dk_at dksX2_init_2 6 rfl rfl)
theorem dX2_init_55 : decode cX2_init 55 = .ok (.newarray .int, 2) := dk_188_10 (dk_at dksX2_init_2 8 rfl rfl)
theorem dX2_init_57 : decode cX2_init 57 = .ok (.putfield 28, 3) := dk_181 0 28 (dk_at dksX2_init_2 10 rfl rfl)
theorem dX2_init_60 : decode cX2_init 60 = .ok (.aload_n 0, 1) := dk_42 (dk_at dksX2_init_2 13 rfl rfl)
theorem dX2_init_61 : decode cX2_init 61 = .ok (.sipush 656, 3) := dk_17 2 144 (dk_at dksX2_init_2 14 rfl rfl)
theorem dX2_init_64 : decode cX2_init 64 = .ok (.newarray .int, 2) := dk_188_10 (dk_at dksX2_init_2 17 rfl rfl)
theorem dX2_init_66 : decode cX2_init 66 = .ok (.putfield 31, 3) := dk_181 0 31 (dk_at dksX2_init_2 19 rfl rfl)
theorem dX2_init_69 : decode cX2_init 69 = .ok (.aload_n 0, 1) := dk_42 (dk_at dksX2_init_2 22 rfl rfl)
theorem dX2_init_70 : decode cX2_init 70 = .ok (.bipush 8, 2) := dk_16 8 (dk_at dksX2_init_3 0 rfl rfl)
theorem dX2_init_72 : decode cX2_init 72 = .ok (.newarray .int, 2) := dk_188_10 (dk_at dksX2_init_3 2 rfl rfl)
theorem dX2_init_74 : decode cX2_init 74 = .ok (.putfield 34, 3) := dk_181 0 34 (dk_at dksX2_init_3 4 rfl rfl)
theorem dX2_init_77 : decode cX2_init 77 = .ok (.aload_n 0, 1) := dk_42 (dk_at dksX2_init_3 7 rfl rfl)
theorem dX2_init_78 : decode cX2_init 78 = .ok (.bipush 24, 2) := dk_16 24 (dk_at dksX2_init_3 8 rfl rfl)
theorem dX2_init_80 : decode cX2_init 80 = .ok (.newarray .int, 2) := dk_188_10 (dk_at dksX2_init_3 10 rfl rfl)
theorem dX2_init_82 : decode cX2_init 82 = .ok (.putfield 37, 3) := dk_181 0 37 (dk_at dksX2_init_3 12 rfl rfl)
theorem dX2_init_85 : decode cX2_init 85 = .ok (.aload_n 0, 1) := dk_42 (dk_at dksX2_init_3 15 rfl rfl)
theorem dX2_init_86 : decode cX2_init 86 = .ok (.bipush 10, 2) := dk_16 10 (dk_at dksX2_init_3 16 rfl rfl)
theorem dX2_init_88 : decode cX2_init 88 = .ok (.newarray .int, 2) := dk_188_10 (dk_at dksX2_init_3 18 rfl rfl)
theorem dX2_init_90 : decode cX2_init 90 = .ok (.putfield 40, 3) := dk_181 0 40 (dk_at dksX2_init_3 20 rfl rfl)
theorem dX2_init_93 : decode cX2_init 93 = .ok (.aload_n 0, 1) := dk_42 (dk_at dksX2_init_3 23 rfl rfl)
theorem dX2_init_94 : decode cX2_init 94 = .ok (.bipush 27, 2) := dk_16 27 (dk_at dksX2_init_4 0 rfl rfl)
theorem dX2_init_96 : decode cX2_init 96 = .ok (.newarray .int, 2) := dk_188_10 (dk_at dksX2_init_4 2 rfl rfl)
theorem dX2_init_98 : decode cX2_init 98 = .ok (.putfield 43, 3) := dk_181 0 43 (dk_at dksX2_init_4 4 rfl rfl)
theorem dX2_init_101 : decode cX2_init 101 = .ok (.aload_n 0, 1) := dk_42 (dk_at dksX2_init_4 7 rfl rfl)
theorem dX2_init_102 : decode cX2_init 102 = .ok (.bipush 15, 2) := dk_16 15 (dk_at dksX2_init_4 8 rfl rfl)
theorem dX2_init_104 : decode cX2_init 104 = .ok (.newarray .int, 2) := dk_188_10 (dk_at dksX2_init_4 10 rfl rfl)
theorem dX2_init_106 : decode cX2_init 106 = .ok (.putfield 46, 3) := dk_181 0 46 (dk_at dksX2_init_4 12 rfl rfl)
theorem dX2_init_109 : decode cX2_init 109 = .ok (.aload_n 0, 1) := dk_42 (dk_at dksX2_init_4 15 rfl rfl)
theorem dX2_init_110 : decode cX2_init 110 = .ok (.bipush 27, 2) := dk_16 27 (dk_at dksX2_init_4 16 rfl rfl)
theorem dX2_init_112 : decode cX2_init 112 = .ok (.newarray .int, 2) := dk_188_10 (dk_at dksX2_init_4 18 rfl rfl)
theorem dX2_init_114 : decode cX2_init 114 = .ok (.putfield 49, 3) := dk_181 0 49 (dk_at dksX2_init_4 20 rfl rfl)
theorem dX2_init_117 : decode cX2_init 117 = .ok (.aload_n 0, 1) := dk_42 (dk_at dksX2_init_4 23 rfl rfl)
theorem dX2_init_118 : decode cX2_init 118 = .ok (.bipush 6, 2) := dk_16 6 (dk_at dksX2_init_5 0 rfl rfl)
theorem dX2_init_120 : decode cX2_init 120 = .ok (.newarray .int, 2) := dk_188_10 (dk_at dksX2_init_5 2 rfl rfl)
theorem dX2_init_122 : decode cX2_init 122 = .ok (.putfield 52, 3) := dk_181 0 52 (dk_at dksX2_init_5 4 rfl rfl)
theorem dX2_init_125 : decode cX2_init 125 = .ok (.aload_n 0, 1) := dk_42 (dk_at dksX2_init_5 7 rfl rfl)
theorem dX2_init_126 : decode cX2_init 126 = .ok (.bipush 24, 2) := dk_16 24 (dk_at dksX2_init_5 8 rfl rfl)
theorem dX2_init_128 : decode cX2_init 128 = .ok (.newarray .int, 2) := dk_188_10 (dk_at dksX2_init_5 10 rfl rfl)
theorem dX2_init_130 : decode cX2_init 130 = .ok (.putfield 55, 3) := dk_181 0 55 (dk_at dksX2_init_5 12 rfl rfl)
theorem dX2_init_133 : decode cX2_init 133 = .ok (.aload_n 0, 1) := dk_42 (dk_at dksX2_init_5 15 rfl rfl)
theorem dX2_init_134 : decode cX2_init 134 = .ok (.iconst (-1), 1) := dk_2 (dk_at dksX2_init_5 16 rfl rfl)
theorem dX2_init_135 : decode cX2_init 135 = .ok (.putfield 58, 3) := dk_181 0 58 (dk_at dksX2_init_5 17 rfl rfl)
theorem dX2_init_138 : decode cX2_init 138 = .ok (.return_, 1) := dk_177 (dk_at dksX2_init_5 20 rfl rfl)
abbrev cX2_letter : ByteArray := prog_11_method_5_code
def yX2_letter : MethodName := ⟨RX2, "letter", "(I)I"⟩
def dkwX2_letter_2 : List UInt8 := [180, 0, 68, 172]
abbrev dktX2_letter_2 : List UInt8 := dkwX2_letter_2 ++ []
def dkwX2_letter_1 : List UInt8 := [16, 152, 172, 42, 180, 0, 7, 42, 180, 0, 68, 27, 79, 42, 89, 180, 0, 68, 4, 96, 181, 0, 68, 42]
abbrev dktX2_letter_1 : List UInt8 := dkwX2_letter_1 ++ dktX2_letter_2
def dkwX2_letter_0 : List UInt8 := [27, 133, 10, 20, 0, 62, 184, 0, 64, 154, 0, 6, 16, 154, 172, 42, 180, 0, 68, 16, 50, 160, 0, 6]
abbrev dktX2_letter_0 : List UInt8 := dkwX2_letter_0 ++ dktX2_letter_1
theorem dksX2_letter_0 : cX2_letter.data.toList.drop 0 = dktX2_letter_0 := by decide +kernel
theorem dksX2_letter_1 : cX2_letter.data.toList.drop 24 = dktX2_letter_1 := dk_seg dksX2_letter_0 24 rfl rfl
theorem dksX2_letter_2 : cX2_letter.data.toList.drop 48 = dktX2_letter_2 := dk_seg dksX2_letter_1 24 rfl rfl
theorem dX2_letter_0 : decode cX2_letter 0 = .ok (.iload_n 1, 1) := dk_27 (dk_at dksX2_letter_0 0 rfl rfl)
theorem dX2_letter_1 : decode cX2_letter 1 = .ok (.i2l, 1) := dk_133 (dk_at dksX2_letter_0 1 rfl rfl)
theorem dX2_letter_2 : decode cX2_letter 2 = .ok (.lconst 1, 1) := dk_10 (dk_at dksX2_letter_0 2 rfl rfl)
theorem dX2_letter_3 : decode cX2_letter 3 = .ok (.ldc2_w 62, 3) := dk_20 0 62 (dk_at dksX2_letter_0 3 rfl rfl)
theorem dX2_letter_6 : decode cX2_letter 6 = .ok (.invokestatic 64, 3) := dk_184 0 64 (dk_at dksX2_letter_0 6 rfl rfl)
theorem dX2_letter_9 : decode cX2_letter 9 = .ok (.ifCond .ne 6, 3) := dk_154 0 6 (dk_at dksX2_letter_0 9 rfl rfl)
theorem dX2_letter_12 : decode cX2_letter 12 = .ok (.bipush (-102), 2) := dk_16 154 (dk_at dksX2_letter_0 12 rfl rfl)
theorem dX2_letter_14 : decode cX2_letter 14 = .ok (.ireturn, 1) := dk_172 (dk_at dksX2_letter_0 14 rfl rfl)
theorem dX2_letter_15 : decode cX2_letter 15 = .ok (.aload_n 0, 1) := dk_42 (dk_at dksX2_letter_0 15 rfl rfl)
theorem dX2_letter_16 : decode cX2_letter 16 = .ok (.getfield 68, 3) := dk_180 0 68 (dk_at dksX2_letter_0 16 rfl rfl)
theorem dX2_letter_19 : decode cX2_letter 19 = .ok (.bipush 50, 2) := dk_16 50 (dk_at dksX2_letter_0 19 rfl rfl)
theorem dX2_letter_21 : decode cX2_letter 21 = .ok (.if_icmp .ne 6, 3) := dk_160 0 6 (dk_at dksX2_letter_0 21 rfl rfl)
theorem dX2_letter_24 : decode cX2_letter 24 = .ok (.bipush (-104), 2) := dk_16 152 (dk_at dksX2_letter_1 0 rfl rfl)
theorem dX2_letter_26 : decode cX2_letter 26 = .ok (.ireturn, 1) := dk_172 (dk_at dksX2_letter_1 2 rfl rfl)
theorem dX2_letter_27 : decode cX2_letter 27 = .ok (.aload_n 0, 1) := dk_42 (dk_at dksX2_letter_1 3 rfl rfl)
theorem dX2_letter_28 : decode cX2_letter 28 = .ok (.getfield 7, 3) := dk_180 0 7 (dk_at dksX2_letter_1 4 rfl rfl)
theorem dX2_letter_31 : decode cX2_letter 31 = .ok (.aload_n 0, 1) := dk_42 (dk_at dksX2_letter_1 7 rfl rfl)
theorem dX2_letter_32 : decode cX2_letter 32 = .ok (.getfield 68, 3) := dk_180 0 68 (dk_at dksX2_letter_1 8 rfl rfl)
theorem dX2_letter_35 : decode cX2_letter 35 = .ok (.iload_n 1, 1) := dk_27 (dk_at dksX2_letter_1 11 rfl rfl)
theorem dX2_letter_36 : decode cX2_letter 36 = .ok (.iastore, 1) := dk_79 (dk_at dksX2_letter_1 12 rfl rfl)
theorem dX2_letter_37 : decode cX2_letter 37 = .ok (.aload_n 0, 1) := dk_42 (dk_at dksX2_letter_1 13 rfl rfl)
theorem dX2_letter_38 : decode cX2_letter 38 = .ok (.dup, 1) := dk_89 (dk_at dksX2_letter_1 14 rfl rfl)
theorem dX2_letter_39 : decode cX2_letter 39 = .ok (.getfield 68, 3) := dk_180 0 68 (dk_at dksX2_letter_1 15 rfl rfl)
theorem dX2_letter_42 : decode cX2_letter 42 = .ok (.iconst 1, 1) := dk_4 (dk_at dksX2_letter_1 18 rfl rfl)
theorem dX2_letter_43 : decode cX2_letter 43 = .ok (.iadd, 1) := dk_96 (dk_at dksX2_letter_1 19 rfl rfl)
theorem dX2_letter_44 : decode cX2_letter 44 = .ok (.putfield 68, 3) := dk_181 0 68 (dk_at dksX2_letter_1 20 rfl rfl)
theorem dX2_letter_47 : decode cX2_letter 47 = .ok (.aload_n 0, 1) := dk_42 (dk_at dksX2_letter_1 23 rfl rfl)
theorem dX2_letter_48 : decode cX2_letter 48 = .ok (.getfield 68, 3) := dk_180 0 68 (dk_at dksX2_letter_2 0 rfl rfl)
theorem dX2_letter_51 : decode cX2_letter 51 = .ok (.ireturn, 1) := dk_172 (dk_at dksX2_letter_2 3 rfl rfl)
abbrev cX2_in : ByteArray := prog_11_method_2_code
def yX2_in : MethodName := ⟨RX2, "in", "(JJJ)Z"⟩
def dkwX2_in_0 : List UInt8 := [30, 32, 148, 155, 0, 14, 30, 22, 4, 148, 157, 0, 7, 4, 167, 0, 4, 3, 172]
abbrev dktX2_in_0 : List UInt8 := dkwX2_in_0 ++ []
theorem dksX2_in_0 : cX2_in.data.toList.drop 0 = dktX2_in_0 := by decide +kernel
theorem dX2_in_0 : decode cX2_in 0 = .ok (.lload_n 0, 1) := dk_30 (dk_at dksX2_in_0 0 rfl rfl)
theorem dX2_in_1 : decode cX2_in 1 = .ok (.lload_n 2, 1) := dk_32 (dk_at dksX2_in_0 1 rfl rfl)
theorem dX2_in_2 : decode cX2_in 2 = .ok (.lcmp, 1) := dk_148 (dk_at dksX2_in_0 2 rfl rfl)
theorem dX2_in_3 : decode cX2_in 3 = .ok (.ifCond .lt 14, 3) := dk_155 0 14 (dk_at dksX2_in_0 3 rfl rfl)
theorem dX2_in_6 : decode cX2_in 6 = .ok (.lload_n 0, 1) := dk_30 (dk_at dksX2_in_0 6 rfl rfl)
theorem dX2_in_7 : decode cX2_in 7 = .ok (.lload 4, 2) := dk_22 4 (dk_at dksX2_in_0 7 rfl rfl)
theorem dX2_in_9 : decode cX2_in 9 = .ok (.lcmp, 1) := dk_148 (dk_at dksX2_in_0 9 rfl rfl)
theorem dX2_in_10 : decode cX2_in 10 = .ok (.ifCond .gt 7, 3) := dk_157 0 7 (dk_at dksX2_in_0 10 rfl rfl)
theorem dX2_in_13 : decode cX2_in 13 = .ok (.iconst 1, 1) := dk_4 (dk_at dksX2_in_0 13 rfl rfl)
theorem dX2_in_14 : decode cX2_in 14 = .ok (.goto 4, 3) := dk_167 0 4 (dk_at dksX2_in_0 14 rfl rfl)
theorem dX2_in_17 : decode cX2_in 17 = .ok (.iconst 0, 1) := dk_3 (dk_at dksX2_in_0 17 rfl rfl)
theorem dX2_in_18 : decode cX2_in 18 = .ok (.ireturn, 1) := dk_172 (dk_at dksX2_in_0 18 rfl rfl)
abbrev cX2_blank : ByteArray := prog_11_method_6_code
def yX2_blank : MethodName := ⟨RX2, "blank", "()I"⟩
def dkwX2_blank_0 : List UInt8 := [42, 180, 0, 68, 60, 42, 3, 181, 0, 68, 27, 172]
abbrev dktX2_blank_0 : List UInt8 := dkwX2_blank_0 ++ []
theorem dksX2_blank_0 : cX2_blank.data.toList.drop 0 = dktX2_blank_0 := by decide +kernel
theorem dX2_blank_0 : decode cX2_blank 0 = .ok (.aload_n 0, 1) := dk_42 (dk_at dksX2_blank_0 0 rfl rfl)
theorem dX2_blank_1 : decode cX2_blank 1 = .ok (.getfield 68, 3) := dk_180 0 68 (dk_at dksX2_blank_0 1 rfl rfl)
theorem dX2_blank_4 : decode cX2_blank 4 = .ok (.istore_n 1, 1) := dk_60 (dk_at dksX2_blank_0 4 rfl rfl)
theorem dX2_blank_5 : decode cX2_blank 5 = .ok (.aload_n 0, 1) := dk_42 (dk_at dksX2_blank_0 5 rfl rfl)
theorem dX2_blank_6 : decode cX2_blank 6 = .ok (.iconst 0, 1) := dk_3 (dk_at dksX2_blank_0 6 rfl rfl)
theorem dX2_blank_7 : decode cX2_blank 7 = .ok (.putfield 68, 3) := dk_181 0 68 (dk_at dksX2_blank_0 7 rfl rfl)
theorem dX2_blank_10 : decode cX2_blank 10 = .ok (.iload_n 1, 1) := dk_27 (dk_at dksX2_blank_0 10 rfl rfl)
theorem dX2_blank_11 : decode cX2_blank 11 = .ok (.ireturn, 1) := dk_172 (dk_at dksX2_blank_0 11 rfl rfl)
abbrev cX2_fault : ByteArray := prog_11_method_11_code
def yX2_fault : MethodName := ⟨RX2, "fault", "()I"⟩
theorem dX2_fault_0 : decode cX2_fault 0 = .ok (.aload_n 0, 1) := by decide +kernel
theorem dX2_fault_1 : decode cX2_fault 1 = .ok (.invokevirtual 94, 3) := by decide +kernel
theorem dX2_fault_4 : decode cX2_fault 4 = .ok (.ireturn, 1) := by decide +kernel
abbrev cX2_faultOf : ByteArray := prog_11_method_10_code
def yX2_faultOf : MethodName := ⟨RX2, "faultOf", "()I"⟩
def dkwX2_faultOf_1 : List UInt8 := [132, 1, 1, 167, 255, 237, 27, 172]
abbrev dktX2_faultOf_1 : List UInt8 := dkwX2_faultOf_1 ++ []
def dkwX2_faultOf_0 : List UInt8 := [42, 2, 181, 0, 83, 3, 60, 27, 42, 180, 0, 68, 162, 0, 17, 42, 27, 182, 0, 90, 153, 0, 9]
abbrev dktX2_faultOf_0 : List UInt8 := dkwX2_faultOf_0 ++ dktX2_faultOf_1
theorem dksX2_faultOf_0 : cX2_faultOf.data.toList.drop 0 = dktX2_faultOf_0 := by decide +kernel
theorem dksX2_faultOf_1 : cX2_faultOf.data.toList.drop 23 = dktX2_faultOf_1 := dk_seg dksX2_faultOf_0 23 rfl rfl
theorem dX2_faultOf_0 : decode cX2_faultOf 0 = .ok (.aload_n 0, 1) := dk_42 (dk_at dksX2_faultOf_0 0 rfl rfl)
theorem dX2_faultOf_1 : decode cX2_faultOf 1 = .ok (.iconst (-1), 1) := dk_2 (dk_at dksX2_faultOf_0 1 rfl rfl)
theorem dX2_faultOf_2 : decode cX2_faultOf 2 = .ok (.putfield 83, 3) := dk_181 0 83 (dk_at dksX2_faultOf_0 2 rfl rfl)
theorem dX2_faultOf_5 : decode cX2_faultOf 5 = .ok (.iconst 0, 1) := dk_3 (dk_at dksX2_faultOf_0 5 rfl rfl)
theorem dX2_faultOf_6 : decode cX2_faultOf 6 = .ok (.istore_n 1, 1) := dk_60 (dk_at dksX2_faultOf_0 6 rfl rfl)
theorem dX2_faultOf_7 : decode cX2_faultOf 7 = .ok (.iload_n 1, 1) := dk_27 (dk_at dksX2_faultOf_0 7 rfl rfl)
theorem dX2_faultOf_8 : decode cX2_faultOf 8 = .ok (.aload_n 0, 1) := dk_42 (dk_at dksX2_faultOf_0 8 rfl rfl)
theorem dX2_faultOf_9 : decode cX2_faultOf 9 = .ok (.getfield 68, 3) := dk_180 0 68 (dk_at dksX2_faultOf_0 9 rfl rfl)
theorem dX2_faultOf_12 : decode cX2_faultOf 12 = .ok (.if_icmp .ge 17, 3) := dk_162 0 17 (dk_at dksX2_faultOf_0 12 rfl rfl)
theorem dX2_faultOf_15 : decode cX2_faultOf 15 = .ok (.aload_n 0, 1) := dk_42 (dk_at dksX2_faultOf_0 15 rfl rfl)
theorem dX2_faultOf_16 : decode cX2_faultOf 16 = .ok (.iload_n 1, 1) := dk_27 (dk_at dksX2_faultOf_0 16 rfl rfl)
theorem dX2_faultOf_17 : decode cX2_faultOf 17 = .ok (.invokevirtual 90, 3) := dk_182 0 90 (dk_at dksX2_faultOf_0 17 rfl rfl)
theorem dX2_faultOf_20 : decode cX2_faultOf 20 = .ok (.ifCond .eq 9, 3) := dk_153 0 9 (dk_at dksX2_faultOf_0 20 rfl rfl)
theorem dX2_faultOf_23 : decode cX2_faultOf 23 = .ok (.iinc 1 1, 3) := dk_132 1 1 (dk_at dksX2_faultOf_1 0 rfl rfl)
theorem dX2_faultOf_26 : decode cX2_faultOf 26 = .ok (.goto (-19), 3) := dk_167 255 237 (dk_at dksX2_faultOf_1 3 rfl rfl)
theorem dX2_faultOf_29 : decode cX2_faultOf 29 = .ok (.iload_n 1, 1) := dk_27 (dk_at dksX2_faultOf_1 6 rfl rfl)
theorem dX2_faultOf_30 : decode cX2_faultOf 30 = .ok (.ireturn, 1) := dk_172 (dk_at dksX2_faultOf_1 7 rfl rfl)
abbrev cX2_isGood : ByteArray := prog_11_method_9_code
def yX2_isGood : MethodName := ⟨RX2, "isGood", "(I)Z"⟩
def dkwX2_isGood_2 : List UInt8 := [162, 0, 21, 28, 133, 20, 0, 75, 20, 0, 81, 184, 0, 64, 153, 0, 7, 4, 167, 0, 4, 3, 172]
abbrev dktX2_isGood_2 : List UInt8 := dkwX2_isGood_2 ++ []
def dkwX2_isGood_1 : List UInt8 := [100, 182, 0, 86, 172, 28, 16, 59, 160, 0, 14, 27, 158, 0, 10, 42, 27, 181, 0, 83, 4, 172, 27, 6]
abbrev dktX2_isGood_1 : List UInt8 := dkwX2_isGood_1 ++ dktX2_isGood_2
def dkwX2_isGood_0 : List UInt8 := [42, 180, 0, 7, 27, 46, 61, 42, 180, 0, 83, 2, 159, 0, 17, 42, 27, 27, 42, 180, 0, 83, 100, 4]
abbrev dktX2_isGood_0 : List UInt8 := dkwX2_isGood_0 ++ dktX2_isGood_1
theorem dksX2_isGood_0 : cX2_isGood.data.toList.drop 0 = dktX2_isGood_0 := by decide +kernel
theorem dksX2_isGood_1 : cX2_isGood.data.toList.drop 24 = dktX2_isGood_1 := dk_seg dksX2_isGood_0 24 rfl rfl
theorem dksX2_isGood_2 : cX2_isGood.data.toList.drop 48 = dktX2_isGood_2 := dk_seg dksX2_isGood_1 24 rfl rfl
theorem dX2_isGood_0 : decode cX2_isGood 0 = .ok (.aload_n 0, 1) := dk_42 (dk_at dksX2_isGood_0 0 rfl rfl)
theorem dX2_isGood_1 : decode cX2_isGood 1 = .ok (.getfield 7, 3) := dk_180 0 7 (dk_at dksX2_isGood_0 1 rfl rfl)
theorem dX2_isGood_4 : decode cX2_isGood 4 = .ok (.iload_n 1, 1) := dk_27 (dk_at dksX2_isGood_0 4 rfl rfl)
theorem dX2_isGood_5 : decode cX2_isGood 5 = .ok (.iaload, 1) := dk_46 (dk_at dksX2_isGood_0 5 rfl rfl)
theorem dX2_isGood_6 : decode cX2_isGood 6 = .ok (.istore_n 2, 1) := dk_61 (dk_at dksX2_isGood_0 6 rfl rfl)
theorem dX2_isGood_7 : decode cX2_isGood 7 = .ok (.aload_n 0, 1) := dk_42 (dk_at dksX2_isGood_0 7 rfl rfl)
theorem dX2_isGood_8 : decode cX2_isGood 8 = .ok (.getfield 83, 3) := dk_180 0 83 (dk_at dksX2_isGood_0 8 rfl rfl)
theorem dX2_isGood_11 : decode cX2_isGood 11 = .ok (.iconst (-1), 1) := dk_2 (dk_at dksX2_isGood_0 11 rfl rfl)
theorem dX2_isGood_12 : decode cX2_isGood 12 = .ok (.if_icmp .eq 17, 3) := dk_159 0 17 (dk_at dksX2_isGood_0 12 rfl rfl)
theorem dX2_isGood_15 : decode cX2_isGood 15 = .ok (.aload_n 0, 1) := dk_42 (dk_at dksX2_isGood_0 15 rfl rfl)
theorem dX2_isGood_16 : decode cX2_isGood 16 = .ok (.iload_n 1, 1) := dk_27 (dk_at dksX2_isGood_0 16 rfl rfl)
theorem dX2_isGood_17 : decode cX2_isGood 17 = .ok (.iload_n 1, 1) := dk_27 (dk_at dksX2_isGood_0 17 rfl rfl)
theorem dX2_isGood_18 : decode cX2_isGood 18 = .ok (.aload_n 0, 1) := dk_42 (dk_at dksX2_isGood_0 18 rfl rfl)
theorem dX2_isGood_19 : decode cX2_isGood 19 = .ok (.getfield 83, 3) := dk_180 0 83 (dk_at dksX2_isGood_0 19 rfl rfl)
theorem dX2_isGood_22 : decode cX2_isGood 22 = .ok (.isub, 1) := dk_100 (dk_at dksX2_isGood_0 22 rfl rfl)
theorem dX2_isGood_23 : decode cX2_isGood 23 = .ok (.iconst 1, 1) := dk_4 (dk_at dksX2_isGood_0 23 rfl rfl)
theorem dX2_isGood_24 : decode cX2_isGood 24 = .ok (.isub, 1) := dk_100 (dk_at dksX2_isGood_1 0 rfl rfl)
theorem dX2_isGood_25 : decode cX2_isGood 25 = .ok (.invokevirtual 86, 3) := dk_182 0 86 (dk_at dksX2_isGood_1 1 rfl rfl)
theorem dX2_isGood_28 : decode cX2_isGood 28 = .ok (.ireturn, 1) := dk_172 (dk_at dksX2_isGood_1 4 rfl rfl)
theorem dX2_isGood_29 : decode cX2_isGood 29 = .ok (.iload_n 2, 1) := dk_28 (dk_at dksX2_isGood_1 5 rfl rfl)
theorem dX2_isGood_30 : decode cX2_isGood 30 = .ok (.bipush 59, 2) := dk_16 59 (dk_at dksX2_isGood_1 6 rfl rfl)
theorem dX2_isGood_32 : decode cX2_isGood 32 = .ok (.if_icmp .ne 14, 3) := dk_160 0 14 (dk_at dksX2_isGood_1 8 rfl rfl)
theorem dX2_isGood_35 : decode cX2_isGood 35 = .ok (.iload_n 1, 1) := dk_27 (dk_at dksX2_isGood_1 11 rfl rfl)
theorem dX2_isGood_36 : decode cX2_isGood 36 = .ok (.ifCond .le 10, 3) := dk_158 0 10 (dk_at dksX2_isGood_1 12 rfl rfl)
theorem dX2_isGood_39 : decode cX2_isGood 39 = .ok (.aload_n 0, 1) := dk_42 (dk_at dksX2_isGood_1 15 rfl rfl)
theorem dX2_isGood_40 : decode cX2_isGood 40 = .ok (.iload_n 1, 1) := dk_27 (dk_at dksX2_isGood_1 16 rfl rfl)
theorem dX2_isGood_41 : decode cX2_isGood 41 = .ok (.putfield 83, 3) := dk_181 0 83 (dk_at dksX2_isGood_1 17 rfl rfl)
theorem dX2_isGood_44 : decode cX2_isGood 44 = .ok (.iconst 1, 1) := dk_4 (dk_at dksX2_isGood_1 20 rfl rfl)
theorem dX2_isGood_45 : decode cX2_isGood 45 = .ok (.ireturn, 1) := dk_172 (dk_at dksX2_isGood_1 21 rfl rfl)
theorem dX2_isGood_46 : decode cX2_isGood 46 = .ok (.iload_n 1, 1) := dk_27 (dk_at dksX2_isGood_1 22 rfl rfl)
theorem dX2_isGood_47 : decode cX2_isGood 47 = .ok (.iconst 3, 1) := dk_6 (dk_at dksX2_isGood_1 23 rfl rfl)
theorem dX2_isGood_48 : decode cX2_isGood 48 = .ok (.if_icmp .ge 21, 3) := dk_162 0 21 (dk_at dksX2_isGood_2 0 rfl rfl)
theorem dX2_isGood_51 : decode cX2_isGood 51 = .ok (.iload_n 2, 1) := dk_28 (dk_at dksX2_isGood_2 3 rfl rfl)
theorem dX2_isGood_52 : decode cX2_isGood 52 = .ok (.i2l, 1) := dk_133 (dk_at dksX2_isGood_2 4 rfl rfl)
theorem dX2_isGood_53 : decode cX2_isGood 53 = .ok (.ldc2_w 75, 3) := dk_20 0 75 (dk_at dksX2_isGood_2 5 rfl rfl)
theorem dX2_isGood_56 : decode cX2_isGood 56 = .ok (.ldc2_w 81, 3) := dk_20 0 81 (dk_at dksX2_isGood_2 8 rfl rfl)
theorem dX2_isGood_59 : decode cX2_isGood 59 = .ok (.invokestatic 64, 3) := dk_184 0 64 (dk_at dksX2_isGood_2 11 rfl rfl)
theorem dX2_isGood_62 : decode cX2_isGood 62 = .ok (.ifCond .eq 7, 3) := dk_153 0 7 (dk_at dksX2_isGood_2 14 rfl rfl)
theorem dX2_isGood_65 : decode cX2_isGood 65 = .ok (.iconst 1, 1) := dk_4 (dk_at dksX2_isGood_2 17 rfl rfl)
theorem dX2_isGood_66 : decode cX2_isGood 66 = .ok (.goto 4, 3) := dk_167 0 4 (dk_at dksX2_isGood_2 18 rfl rfl)
theorem dX2_isGood_69 : decode cX2_isGood 69 = .ok (.iconst 0, 1) := dk_3 (dk_at dksX2_isGood_2 21 rfl rfl)
theorem dX2_isGood_70 : decode cX2_isGood 70 = .ok (.ireturn, 1) := dk_172 (dk_at dksX2_isGood_2 22 rfl rfl)
abbrev cX2_isStreetLetter : ByteArray := prog_11_method_8_code
def yX2_isStreetLetter : MethodName := ⟨RX2, "isStreetLetter", "(II)Z"⟩
def dkwX2_isStreetLetter_5 : List UInt8 := [29, 16, 44, 160, 0, 13, 28, 16, 44, 162, 0, 7, 4, 167, 0, 4, 3, 172]
abbrev dktX2_isStreetLetter_5 : List UInt8 := dkwX2_isStreetLetter_5 ++ []
def dkwX2_isStreetLetter_4 : List UInt8 := [4, 100, 46, 159, 0, 7, 4, 167, 0, 4, 3, 172, 29, 133, 20, 0, 79, 20, 0, 81, 184, 0, 64, 172]
abbrev dktX2_isStreetLetter_4 : List UInt8 := dkwX2_isStreetLetter_4 ++ dktX2_isStreetLetter_5
def dkwX2_isStreetLetter_3 : List UInt8 := [184, 0, 64, 172, 29, 133, 20, 0, 75, 20, 0, 77, 184, 0, 64, 153, 0, 19, 29, 42, 180, 0, 7, 27]
abbrev dktX2_isStreetLetter_3 : List UInt8 := dkwX2_isStreetLetter_3 ++ dktX2_isStreetLetter_4
def dkwX2_isStreetLetter_2 : List UInt8 := [29, 184, 0, 71, 2, 159, 0, 7, 4, 167, 0, 4, 3, 172, 29, 133, 20, 0, 75, 20, 0, 77]
abbrev dktX2_isStreetLetter_2 : List UInt8 := dkwX2_isStreetLetter_2 ++ dktX2_isStreetLetter_3
def dkwX2_isStreetLetter_1 : List UInt8 := [170, 0, 0, 0, 0, 100, 0, 0, 0, 0, 0, 0, 0, 3, 0, 0, 0, 30, 0, 0, 0, 44, 0, 0, 0, 56, 0, 0, 0, 88]
abbrev dktX2_isStreetLetter_1 : List UInt8 := dkwX2_isStreetLetter_1 ++ dktX2_isStreetLetter_2
def dkwX2_isStreetLetter_0 : List UInt8 := [42, 180, 0, 7, 27, 46, 62, 28, 8, 112]
abbrev dktX2_isStreetLetter_0 : List UInt8 := dkwX2_isStreetLetter_0 ++ dktX2_isStreetLetter_1
theorem dksX2_isStreetLetter_0 : cX2_isStreetLetter.data.toList.drop 0 = dktX2_isStreetLetter_0 := by decide +kernel
theorem dksX2_isStreetLetter_1 : cX2_isStreetLetter.data.toList.drop 10 = dktX2_isStreetLetter_1 := dk_seg dksX2_isStreetLetter_0 10 rfl rfl
theorem dksX2_isStreetLetter_2 : cX2_isStreetLetter.data.toList.drop 40 = dktX2_isStreetLetter_2 := dk_seg dksX2_isStreetLetter_1 30 rfl rfl
theorem dksX2_isStreetLetter_3 : cX2_isStreetLetter.data.toList.drop 62 = dktX2_isStreetLetter_3 := dk_seg dksX2_isStreetLetter_2 22 rfl rfl
theorem dksX2_isStreetLetter_4 : cX2_isStreetLetter.data.toList.drop 86 = dktX2_isStreetLetter_4 := dk_seg dksX2_isStreetLetter_3 24 rfl rfl
theorem dksX2_isStreetLetter_5 : cX2_isStreetLetter.data.toList.drop 110 = dktX2_isStreetLetter_5 := dk_seg dksX2_isStreetLetter_4 24 rfl rfl
theorem dX2_isStreetLetter_0 : decode cX2_isStreetLetter 0 = .ok (.aload_n 0, 1) := dk_42 (dk_at dksX2_isStreetLetter_0 0 rfl rfl)
theorem dX2_isStreetLetter_1 : decode cX2_isStreetLetter 1 = .ok (.getfield 7, 3) := dk_180 0 7 (dk_at dksX2_isStreetLetter_0 1 rfl rfl)
theorem dX2_isStreetLetter_4 : decode cX2_isStreetLetter 4 = .ok (.iload_n 1, 1) := dk_27 (dk_at dksX2_isStreetLetter_0 4 rfl rfl)
theorem dX2_isStreetLetter_5 : decode cX2_isStreetLetter 5 = .ok (.iaload, 1) := dk_46 (dk_at dksX2_isStreetLetter_0 5 rfl rfl)
theorem dX2_isStreetLetter_6 : decode cX2_isStreetLetter 6 = .ok (.istore_n 3, 1) := dk_62 (dk_at dksX2_isStreetLetter_0 6 rfl rfl)
theorem dX2_isStreetLetter_7 : decode cX2_isStreetLetter 7 = .ok (.iload_n 2, 1) := dk_28 (dk_at dksX2_isStreetLetter_0 7 rfl rfl)
theorem dX2_isStreetLetter_8 : decode cX2_isStreetLetter 8 = .ok (.iconst 5, 1) := dk_8 (dk_at dksX2_isStreetLetter_0 8 rfl rfl)
theorem dX2_isStreetLetter_9 : decode cX2_isStreetLetter 9 = .ok (.irem, 1) := dk_112 (dk_at dksX2_isStreetLetter_0 9 rfl rfl)
theorem dX2_isStreetLetter_10 : decode cX2_isStreetLetter 10 = .ok (.tableswitch 100 0 3 #[30, 44, 56, 88], 30) := by decide +kernel
theorem dX2_isStreetLetter_40 : decode cX2_isStreetLetter 40 = .ok (.iload_n 3, 1) := dk_29 (dk_at dksX2_isStreetLetter_2 0 rfl rfl)
theorem dX2_isStreetLetter_41 : decode cX2_isStreetLetter 41 = .ok (.invokestatic 71, 3) := dk_184 0 71 (dk_at dksX2_isStreetLetter_2 1 rfl rfl)
theorem dX2_isStreetLetter_44 : decode cX2_isStreetLetter 44 = .ok (.iconst (-1), 1) := dk_2 (dk_at dksX2_isStreetLetter_2 4 rfl rfl)
theorem dX2_isStreetLetter_45 : decode cX2_isStreetLetter 45 = .ok (.if_icmp .eq 7, 3) := dk_159 0 7 (dk_at dksX2_isStreetLetter_2 5 rfl rfl)
theorem dX2_isStreetLetter_48 : decode cX2_isStreetLetter 48 = .ok (.iconst 1, 1) := dk_4 (dk_at dksX2_isStreetLetter_2 8 rfl rfl)
theorem dX2_isStreetLetter_49 : decode cX2_isStreetLetter 49 = .ok (.goto 4, 3) := dk_167 0 4 (dk_at dksX2_isStreetLetter_2 9 rfl rfl)
theorem dX2_isStreetLetter_52 : decode cX2_isStreetLetter 52 = .ok (.iconst 0, 1) := dk_3 (dk_at dksX2_isStreetLetter_2 12 rfl rfl)
theorem dX2_isStreetLetter_53 : decode cX2_isStreetLetter 53 = .ok (.ireturn, 1) := dk_172 (dk_at dksX2_isStreetLetter_2 13 rfl rfl)
theorem dX2_isStreetLetter_54 : decode cX2_isStreetLetter 54 = .ok (.iload_n 3, 1) := dk_29 (dk_at dksX2_isStreetLetter_2 14 rfl rfl)
theorem dX2_isStreetLetter_55 : decode cX2_isStreetLetter 55 = .ok (.i2l, 1) := dk_133 (dk_at dksX2_isStreetLetter_2 15 rfl rfl)
theorem dX2_isStreetLetter_56 : decode cX2_isStreetLetter 56 = .ok (.ldc2_w 75, 3) := dk_20 0 75 (dk_at dksX2_isStreetLetter_2 16 rfl rfl)
theorem dX2_isStreetLetter_59 : decode cX2_isStreetLetter 59 = .ok (.ldc2_w 77, 3) := dk_20 0 77 (dk_at dksX2_isStreetLetter_2 19 rfl rfl)
theorem dX2_isStreetLetter_62 : decode cX2_isStreetLetter 62 = .ok (.invokestatic 64, 3) := dk_184 0 64 (dk_at dksX2_isStreetLetter_3 0 rfl rfl)
theorem dX2_isStreetLetter_65 : decode cX2_isStreetLetter 65 = .ok (.ireturn, 1) := dk_172 (dk_at dksX2_isStreetLetter_3 3 rfl rfl)
theorem dX2_isStreetLetter_66 : decode cX2_isStreetLetter 66 = .ok (.iload_n 3, 1) := dk_29 (dk_at dksX2_isStreetLetter_3 4 rfl rfl)
theorem dX2_isStreetLetter_67 : decode cX2_isStreetLetter 67 = .ok (.i2l, 1) := dk_133 (dk_at dksX2_isStreetLetter_3 5 rfl rfl)
theorem dX2_isStreetLetter_68 : decode cX2_isStreetLetter 68 = .ok (.ldc2_w 75, 3) := dk_20 0 75 (dk_at dksX2_isStreetLetter_3 6 rfl rfl)
theorem dX2_isStreetLetter_71 : decode cX2_isStreetLetter 71 = .ok (.ldc2_w 77, 3) := dk_20 0 77 (dk_at dksX2_isStreetLetter_3 9 rfl rfl)
theorem dX2_isStreetLetter_74 : decode cX2_isStreetLetter 74 = .ok (.invokestatic 64, 3) := dk_184 0 64 (dk_at dksX2_isStreetLetter_3 12 rfl rfl)
theorem dX2_isStreetLetter_77 : decode cX2_isStreetLetter 77 = .ok (.ifCond .eq 19, 3) := dk_153 0 19 (dk_at dksX2_isStreetLetter_3 15 rfl rfl)
theorem dX2_isStreetLetter_80 : decode cX2_isStreetLetter 80 = .ok (.iload_n 3, 1) := dk_29 (dk_at dksX2_isStreetLetter_3 18 rfl rfl)
theorem dX2_isStreetLetter_81 : decode cX2_isStreetLetter 81 = .ok (.aload_n 0, 1) := dk_42 (dk_at dksX2_isStreetLetter_3 19 rfl rfl)
theorem dX2_isStreetLetter_82 : decode cX2_isStreetLetter 82 = .ok (.getfield 7, 3) := dk_180 0 7 (dk_at dksX2_isStreetLetter_3 20 rfl rfl)
theorem dX2_isStreetLetter_85 : decode cX2_isStreetLetter 85 = .ok (.iload_n 1, 1) := dk_27 (dk_at dksX2_isStreetLetter_3 23 rfl rfl)
theorem dX2_isStreetLetter_86 : decode cX2_isStreetLetter 86 = .ok (.iconst 1, 1) := dk_4 (dk_at dksX2_isStreetLetter_4 0 rfl rfl)
theorem dX2_isStreetLetter_87 : decode cX2_isStreetLetter 87 = .ok (.isub, 1) := dk_100 (dk_at dksX2_isStreetLetter_4 1 rfl rfl)
theorem dX2_isStreetLetter_88 : decode cX2_isStreetLetter 88 = .ok (.iaload, 1) := dk_46 (dk_at dksX2_isStreetLetter_4 2 rfl rfl)
theorem dX2_isStreetLetter_89 : decode cX2_isStreetLetter 89 = .ok (.if_icmp .eq 7, 3) := dk_159 0 7 (dk_at dksX2_isStreetLetter_4 3 rfl rfl)
theorem dX2_isStreetLetter_92 : decode cX2_isStreetLetter 92 = .ok (.iconst 1, 1) := dk_4 (dk_at dksX2_isStreetLetter_4 6 rfl rfl)
theorem dX2_isStreetLetter_93 : decode cX2_isStreetLetter 93 = .ok (.goto 4, 3) := dk_167 0 4 (dk_at dksX2_isStreetLetter_4 7 rfl rfl)
theorem dX2_isStreetLetter_96 : decode cX2_isStreetLetter 96 = .ok (.iconst 0, 1) := dk_3 (dk_at dksX2_isStreetLetter_4 10 rfl rfl)
theorem dX2_isStreetLetter_97 : decode cX2_isStreetLetter 97 = .ok (.ireturn, 1) := dk_172 (dk_at dksX2_isStreetLetter_4 11 rfl rfl)
theorem dX2_isStreetLetter_98 : decode cX2_isStreetLetter 98 = .ok (.iload_n 3, 1) := dk_29 (dk_at dksX2_isStreetLetter_4 12 rfl rfl)
theorem dX2_isStreetLetter_99 : decode cX2_isStreetLetter 99 = .ok (.i2l, 1) := dk_133 (dk_at dksX2_isStreetLetter_4 13 rfl rfl)
theorem dX2_isStreetLetter_100 : decode cX2_isStreetLetter 100 = .ok (.ldc2_w 79, 3) := dk_20 0 79 (dk_at dksX2_isStreetLetter_4 14 rfl rfl)
theorem dX2_isStreetLetter_103 : decode cX2_isStreetLetter 103 = .ok (.ldc2_w 81, 3) := dk_20 0 81 (dk_at dksX2_isStreetLetter_4 17 rfl rfl)
theorem dX2_isStreetLetter_106 : decode cX2_isStreetLetter 106 = .ok (.invokestatic 64, 3) := dk_184 0 64 (dk_at dksX2_isStreetLetter_4 20 rfl rfl)
theorem dX2_isStreetLetter_109 : decode cX2_isStreetLetter 109 = .ok (.ireturn, 1) := dk_172 (dk_at dksX2_isStreetLetter_4 23 rfl rfl)
theorem dX2_isStreetLetter_110 : decode cX2_isStreetLetter 110 = .ok (.iload_n 3, 1) := dk_29 (dk_at dksX2_isStreetLetter_5 0 rfl rfl)
theorem dX2_isStreetLetter_111 : decode cX2_isStreetLetter 111 = .ok (.bipush 44, 2) := dk_16 44 (dk_at dksX2_isStreetLetter_5 1 rfl rfl)
theorem dX2_isStreetLetter_113 : decode cX2_isStreetLetter 113 = .ok (.if_icmp .ne 13, 3) := dk_160 0 13 (dk_at dksX2_isStreetLetter_5 3 rfl rfl)
theorem dX2_isStreetLetter_116 : decode cX2_isStreetLetter 116 = .ok (.iload_n 2, 1) := dk_28 (dk_at dksX2_isStreetLetter_5 6 rfl rfl)
theorem dX2_isStreetLetter_117 : decode cX2_isStreetLetter 117 = .ok (.bipush 44, 2) := dk_16 44 (dk_at dksX2_isStreetLetter_5 7 rfl rfl)
theorem dX2_isStreetLetter_119 : decode cX2_isStreetLetter 119 = .ok (.if_icmp .ge 7, 3) := dk_162 0 7 (dk_at dksX2_isStreetLetter_5 9 rfl rfl)
theorem dX2_isStreetLetter_122 : decode cX2_isStreetLetter 122 = .ok (.iconst 1, 1) := dk_4 (dk_at dksX2_isStreetLetter_5 12 rfl rfl)
theorem dX2_isStreetLetter_123 : decode cX2_isStreetLetter 123 = .ok (.goto 4, 3) := dk_167 0 4 (dk_at dksX2_isStreetLetter_5 13 rfl rfl)
theorem dX2_isStreetLetter_126 : decode cX2_isStreetLetter 126 = .ok (.iconst 0, 1) := dk_3 (dk_at dksX2_isStreetLetter_5 16 rfl rfl)
theorem dX2_isStreetLetter_127 : decode cX2_isStreetLetter 127 = .ok (.ireturn, 1) := dk_172 (dk_at dksX2_isStreetLetter_5 17 rfl rfl)
abbrev cX2_kindBy : ByteArray := prog_11_method_7_code
def yX2_kindBy : MethodName := ⟨RX2, "kindBy", "(I)I"⟩
def dkwX2_kindBy_2 : List UInt8 := [3, 172, 4, 172, 5, 172, 6, 172, 7, 172, 2, 172]
abbrev dktX2_kindBy_2 : List UInt8 := dkwX2_kindBy_2 ++ []
def dkwX2_kindBy_1 : List UInt8 := [170, 0, 0, 0, 0, 0, 77, 0, 0, 0, 103, 0, 0, 0, 115, 0, 0, 0, 75, 0, 0, 0, 77, 0, 0, 0, 77, 0, 0, 0, 73, 0, 0, 0, 77, 0, 0, 0, 69, 0, 0, 0, 77, 0, 0, 0, 77, 0, 0, 0, 77, 0, 0, 0, 77, 0, 0, 0, 71, 0, 0, 0, 77, 0, 0, 0, 67]
abbrev dktX2_kindBy_1 : List UInt8 := dkwX2_kindBy_1 ++ dktX2_kindBy_2
def dkwX2_kindBy_0 : List UInt8 := [26]
abbrev dktX2_kindBy_0 : List UInt8 := dkwX2_kindBy_0 ++ dktX2_kindBy_1
theorem dksX2_kindBy_0 : cX2_kindBy.data.toList.drop 0 = dktX2_kindBy_0 := by decide +kernel
theorem dksX2_kindBy_1 : cX2_kindBy.data.toList.drop 1 = dktX2_kindBy_1 := dk_seg dksX2_kindBy_0 1 rfl rfl
theorem dksX2_kindBy_2 : cX2_kindBy.data.toList.drop 68 = dktX2_kindBy_2 := dk_seg dksX2_kindBy_1 67 rfl rfl
theorem dX2_kindBy_0 : decode cX2_kindBy 0 = .ok (.iload_n 0, 1) := dk_26 (dk_at dksX2_kindBy_0 0 rfl rfl)
theorem dX2_kindBy_1 : decode cX2_kindBy 1 = .ok (.tableswitch 77 103 115 #[75, 77, 77, 73, 77, 69, 77, 77, 77, 77, 71, 77, 67], 67) := by decide +kernel
theorem dX2_kindBy_68 : decode cX2_kindBy 68 = .ok (.iconst 0, 1) := dk_3 (dk_at dksX2_kindBy_2 0 rfl rfl)
theorem dX2_kindBy_69 : decode cX2_kindBy 69 = .ok (.ireturn, 1) := dk_172 (dk_at dksX2_kindBy_2 1 rfl rfl)
theorem dX2_kindBy_70 : decode cX2_kindBy 70 = .ok (.iconst 1, 1) := dk_4 (dk_at dksX2_kindBy_2 2 rfl rfl)
theorem dX2_kindBy_71 : decode cX2_kindBy 71 = .ok (.ireturn, 1) := dk_172 (dk_at dksX2_kindBy_2 3 rfl rfl)
theorem dX2_kindBy_72 : decode cX2_kindBy 72 = .ok (.iconst 2, 1) := dk_5 (dk_at dksX2_kindBy_2 4 rfl rfl)
theorem dX2_kindBy_73 : decode cX2_kindBy 73 = .ok (.ireturn, 1) := dk_172 (dk_at dksX2_kindBy_2 5 rfl rfl)
theorem dX2_kindBy_74 : decode cX2_kindBy 74 = .ok (.iconst 3, 1) := dk_6 (dk_at dksX2_kindBy_2 6 rfl rfl)
theorem dX2_kindBy_75 : decode cX2_kindBy 75 = .ok (.ireturn, 1) := dk_172 (dk_at dksX2_kindBy_2 7 rfl rfl)
theorem dX2_kindBy_76 : decode cX2_kindBy 76 = .ok (.iconst 4, 1) := dk_7 (dk_at dksX2_kindBy_2 8 rfl rfl)
theorem dX2_kindBy_77 : decode cX2_kindBy 77 = .ok (.ireturn, 1) := dk_172 (dk_at dksX2_kindBy_2 9 rfl rfl)
theorem dX2_kindBy_78 : decode cX2_kindBy 78 = .ok (.iconst (-1), 1) := dk_2 (dk_at dksX2_kindBy_2 10 rfl rfl)
theorem dX2_kindBy_79 : decode cX2_kindBy 79 = .ok (.ireturn, 1) := dk_172 (dk_at dksX2_kindBy_2 11 rfl rfl)
abbrev cX2_town : ByteArray := prog_11_method_12_code
def yX2_town : MethodName := ⟨RX2, "town", "()I"⟩
def dkwX2_town_13 : List UInt8 := [181, 0, 107, 42, 89, 180, 0, 110, 4, 96, 181, 0, 110, 42, 3, 181, 0, 68, 42, 180, 0, 101, 172]
abbrev dktX2_town_13 : List UInt8 := dkwX2_town_13 ++ []
def dkwX2_town_12 : List UInt8 := [162, 0, 16, 42, 180, 0, 22, 27, 3, 79, 132, 1, 1, 167, 255, 240, 42, 3, 181, 0, 104, 42, 3]
abbrev dktX2_town_12 : List UInt8 := dkwX2_town_12 ++ dktX2_town_13
def dkwX2_town_11 : List UInt8 := [180, 0, 7, 28, 6, 96, 46, 16, 48, 100, 79, 132, 1, 1, 167, 255, 154, 3, 60, 27, 16, 6]
abbrev dktX2_town_11 : List UInt8 := dkwX2_town_11 ++ dktX2_town_12
def dkwX2_town_10 : List UInt8 := [5, 96, 42, 180, 0, 7, 28, 5, 96, 46, 16, 48, 100, 79, 42, 180, 0, 13, 7, 27, 104, 6, 96, 42]
abbrev dktX2_town_10 : List UInt8 := dkwX2_town_10 ++ dktX2_town_11
def dkwX2_town_9 : List UInt8 := [7, 27, 104, 4, 96, 42, 180, 0, 7, 28, 4, 96, 46, 16, 48, 100, 79, 42, 180, 0, 13, 7, 27, 104]
abbrev dktX2_town_9 : List UInt8 := dkwX2_town_9 ++ dktX2_town_10
def dkwX2_town_8 : List UInt8 := [104, 96, 61, 42, 180, 0, 13, 7, 27, 104, 42, 180, 0, 7, 28, 46, 184, 0, 71, 79, 42, 180, 0, 13]
abbrev dktX2_town_8 : List UInt8 := dkwX2_town_8 ++ dktX2_town_9
def dkwX2_town_7 : List UInt8 := [132, 1, 1, 167, 255, 240, 3, 60, 27, 42, 180, 0, 101, 162, 0, 100, 42, 180, 0, 83, 4, 96, 8, 27]
abbrev dktX2_town_7 : List UInt8 := dkwX2_town_7 ++ dktX2_town_8
def dkwX2_town_6 : List UInt8 := [2, 79, 132, 1, 1, 167, 255, 184, 3, 60, 27, 16, 27, 162, 0, 16, 42, 180, 0, 19, 27, 3, 79]
abbrev dktX2_town_6 : List UInt8 := dkwX2_town_6 ++ dktX2_town_7
def dkwX2_town_5 : List UInt8 := [5, 96, 3, 79, 42, 180, 0, 16, 8, 27, 104, 6, 96, 2, 79, 42, 180, 0, 16, 8, 27, 104, 7, 96]
abbrev dktX2_town_5 : List UInt8 := dkwX2_town_5 ++ dktX2_town_6
def dkwX2_town_4 : List UInt8 := [27, 46, 16, 48, 100, 79, 42, 180, 0, 16, 8, 27, 104, 4, 96, 3, 79, 42, 180, 0, 16, 8, 27, 104]
abbrev dktX2_town_4 : List UInt8 := dkwX2_town_4 ++ dktX2_town_5
def dkwX2_town_3 : List UInt8 := [181, 0, 101, 3, 60, 27, 42, 180, 0, 98, 162, 0, 70, 42, 180, 0, 16, 8, 27, 104, 42, 180, 0, 7]
abbrev dktX2_town_3 : List UInt8 := dkwX2_town_3 ++ dktX2_town_4
def dkwX2_town_2 : List UInt8 := [16, 153, 172, 42, 42, 180, 0, 83, 181, 0, 98, 42, 42, 180, 0, 68, 42, 180, 0, 83, 100, 8, 108]
abbrev dktX2_town_2 : List UInt8 := dkwX2_town_2 ++ dktX2_town_3
def dkwX2_town_1 : List UInt8 := [180, 0, 83, 100, 16, 10, 161, 0, 17, 42, 180, 0, 68, 42, 180, 0, 83, 100, 8, 112, 153, 0, 6]
abbrev dktX2_town_1 : List UInt8 := dkwX2_town_1 ++ dktX2_town_2
def dkwX2_town_0 : List UInt8 := [42, 182, 0, 94, 42, 180, 0, 68, 161, 0, 39, 42, 180, 0, 83, 2, 159, 0, 31, 42, 180, 0, 68, 42]
abbrev dktX2_town_0 : List UInt8 := dkwX2_town_0 ++ dktX2_town_1
theorem dksX2_town_0 : cX2_town.data.toList.drop 0 = dktX2_town_0 := by decide +kernel
theorem dksX2_town_1 : cX2_town.data.toList.drop 24 = dktX2_town_1 := dk_seg dksX2_town_0 24 rfl rfl
theorem dksX2_town_2 : cX2_town.data.toList.drop 47 = dktX2_town_2 := dk_seg dksX2_town_1 23 rfl rfl
theorem dksX2_town_3 : cX2_town.data.toList.drop 70 = dktX2_town_3 := dk_seg dksX2_town_2 23 rfl rfl
theorem dksX2_town_4 : cX2_town.data.toList.drop 94 = dktX2_town_4 := dk_seg dksX2_town_3 24 rfl rfl
theorem dksX2_town_5 : cX2_town.data.toList.drop 118 = dktX2_town_5 := dk_seg dksX2_town_4 24 rfl rfl
theorem dksX2_town_6 : cX2_town.data.toList.drop 142 = dktX2_town_6 := dk_seg dksX2_town_5 24 rfl rfl
theorem dksX2_town_7 : cX2_town.data.toList.drop 165 = dktX2_town_7 := dk_seg dksX2_town_6 23 rfl rfl
theorem dksX2_town_8 : cX2_town.data.toList.drop 189 = dktX2_town_8 := dk_seg dksX2_town_7 24 rfl rfl
theorem dksX2_town_9 : cX2_town.data.toList.drop 213 = dktX2_town_9 := dk_seg dksX2_town_8 24 rfl rfl
theorem dksX2_town_10 : cX2_town.data.toList.drop 237 = dktX2_town_10 := dk_seg dksX2_town_9 24 rfl rfl
theorem dksX2_town_11 : cX2_town.data.toList.drop 261 = dktX2_town_11 := dk_seg dksX2_town_10 24 rfl rfl
theorem dksX2_town_12 : cX2_town.data.toList.drop 283 = dktX2_town_12 := dk_seg dksX2_town_11 22 rfl rfl
theorem dksX2_town_13 : cX2_town.data.toList.drop 306 = dktX2_town_13 := dk_seg dksX2_town_12 23 rfl rfl
theorem dX2_town_0 : decode cX2_town 0 = .ok (.aload_n 0, 1) := dk_42 (dk_at dksX2_town_0 0 rfl rfl)
theorem dX2_town_1 : decode cX2_town 1 = .ok (.invokevirtual 94, 3) := dk_182 0 94 (dk_at dksX2_town_0 1 rfl rfl)
theorem dX2_town_4 : decode cX2_town 4 = .ok (.aload_n 0, 1) := dk_42 (dk_at dksX2_town_0 4 rfl rfl)
theorem dX2_town_5 : decode cX2_town 5 = .ok (.getfield 68, 3) := dk_180 0 68 (dk_at dksX2_town_0 5 rfl rfl)
theorem dX2_town_8 : decode cX2_town 8 = .ok (.if_icmp .lt 39, 3) := dk_161 0 39 (dk_at dksX2_town_0 8 rfl rfl)
theorem dX2_town_11 : decode cX2_town 11 = .ok (.aload_n 0, 1) := dk_42 (dk_at dksX2_town_0 11 rfl rfl)
theorem dX2_town_12 : decode cX2_town 12 = .ok (.getfield 83, 3) := dk_180 0 83 (dk_at dksX2_town_0 12 rfl rfl)
theorem dX2_town_15 : decode cX2_town 15 = .ok (.iconst (-1), 1) := dk_2 (dk_at dksX2_town_0 15 rfl rfl)
theorem dX2_town_16 : decode cX2_town 16 = .ok (.if_icmp .eq 31, 3) := dk_159 0 31 (dk_at dksX2_town_0 16 rfl rfl)
theorem dX2_town_19 : decode cX2_town 19 = .ok (.aload_n 0, 1) := dk_42 (dk_at dksX2_town_0 19 rfl rfl)
theorem dX2_town_20 : decode cX2_town 20 = .ok (.getfield 68, 3) := dk_180 0 68 (dk_at dksX2_town_0 20 rfl rfl)
theorem dX2_town_23 : decode cX2_town 23 = .ok (.aload_n 0, 1) := dk_42 (dk_at dksX2_town_0 23 rfl rfl)
theorem dX2_town_24 : decode cX2_town 24 = .ok (.getfield 83, 3) := dk_180 0 83 (dk_at dksX2_town_1 0 rfl rfl)
theorem dX2_town_27 : decode cX2_town 27 = .ok (.isub, 1) := dk_100 (dk_at dksX2_town_1 3 rfl rfl)
theorem dX2_town_28 : decode cX2_town 28 = .ok (.bipush 10, 2) := dk_16 10 (dk_at dksX2_town_1 4 rfl rfl)
theorem dX2_town_30 : decode cX2_town 30 = .ok (.if_icmp .lt 17, 3) := dk_161 0 17 (dk_at dksX2_town_1 6 rfl rfl)
theorem dX2_town_33 : decode cX2_town 33 = .ok (.aload_n 0, 1) := dk_42 (dk_at dksX2_town_1 9 rfl rfl)
theorem dX2_town_34 : decode cX2_town 34 = .ok (.getfield 68, 3) := dk_180 0 68 (dk_at dksX2_town_1 10 rfl rfl)
theorem dX2_town_37 : decode cX2_town 37 = .ok (.aload_n 0, 1) := dk_42 (dk_at dksX2_town_1 13 rfl rfl)
theorem dX2_town_38 : decode cX2_town 38 = .ok (.getfield 83, 3) := dk_180 0 83 (dk_at dksX2_town_1 14 rfl rfl)
theorem dX2_town_41 : decode cX2_town 41 = .ok (.isub, 1) := dk_100 (dk_at dksX2_town_1 17 rfl rfl)
theorem dX2_town_42 : decode cX2_town 42 = .ok (.iconst 5, 1) := dk_8 (dk_at dksX2_town_1 18 rfl rfl)
theorem dX2_town_43 : decode cX2_town 43 = .ok (.irem, 1) := dk_112 (dk_at dksX2_town_1 19 rfl rfl)
theorem dX2_town_44 : decode cX2_town 44 = .ok (.ifCond .eq 6, 3) := dk_153 0 6 (dk_at dksX2_town_1 20 rfl rfl)
theorem dX2_town_47 : decode cX2_town 47 = .ok (.bipush (-103), 2) := dk_16 153 (dk_at dksX2_town_2 0 rfl rfl)
theorem dX2_town_49 : decode cX2_town 49 = .ok (.ireturn, 1) := dk_172 (dk_at dksX2_town_2 2 rfl rfl)
theorem dX2_town_50 : decode cX2_town 50 = .ok (.aload_n 0, 1) := dk_42 (dk_at dksX2_town_2 3 rfl rfl)
theorem dX2_town_51 : decode cX2_town 51 = .ok (.aload_n 0, 1) := dk_42 (dk_at dksX2_town_2 4 rfl rfl)
theorem dX2_town_52 : decode cX2_town 52 = .ok (.getfield 83, 3) := dk_180 0 83 (dk_at dksX2_town_2 5 rfl rfl)
theorem dX2_town_55 : decode cX2_town 55 = .ok (.putfield 98, 3) := dk_181 0 98 (dk_at dksX2_town_2 8 rfl rfl)
theorem dX2_town_58 : decode cX2_town 58 = .ok (.aload_n 0, 1) := dk_42 (dk_at dksX2_town_2 11 rfl rfl)
theorem dX2_town_59 : decode cX2_town 59 = .ok (.aload_n 0, 1) := dk_42 (dk_at dksX2_town_2 12 rfl rfl)
theorem dX2_town_60 : decode cX2_town 60 = .ok (.getfield 68, 3) := dk_180 0 68 (dk_at dksX2_town_2 13 rfl rfl)
theorem dX2_town_63 : decode cX2_town 63 = .ok (.aload_n 0, 1) := dk_42 (dk_at dksX2_town_2 16 rfl rfl)
theorem dX2_town_64 : decode cX2_town 64 = .ok (.getfield 83, 3) := dk_180 0 83 (dk_at dksX2_town_2 17 rfl rfl)
theorem dX2_town_67 : decode cX2_town 67 = .ok (.isub, 1) := dk_100 (dk_at dksX2_town_2 20 rfl rfl)
theorem dX2_town_68 : decode cX2_town 68 = .ok (.iconst 5, 1) := dk_8 (dk_at dksX2_town_2 21 rfl rfl)
theorem dX2_town_69 : decode cX2_town 69 = .ok (.idiv, 1) := dk_108 (dk_at dksX2_town_2 22 rfl rfl)
theorem dX2_town_70 : decode cX2_town 70 = .ok (.putfield 101, 3) := dk_181 0 101 (dk_at dksX2_town_3 0 rfl rfl)
theorem dX2_town_73 : decode cX2_town 73 = .ok (.iconst 0, 1) := dk_3 (dk_at dksX2_town_3 3 rfl rfl)
theorem dX2_town_74 : decode cX2_town 74 = .ok (.istore_n 1, 1) := dk_60 (dk_at dksX2_town_3 4 rfl rfl)
theorem dX2_town_75 : decode cX2_town 75 = .ok (.iload_n 1, 1) := dk_27 (dk_at dksX2_town_3 5 rfl rfl)
theorem dX2_town_76 : decode cX2_town 76 = .ok (.aload_n 0, 1) := dk_42 (dk_at dksX2_town_3 6 rfl rfl)
theorem dX2_town_77 : decode cX2_town 77 = .ok (.getfield 98, 3) := dk_180 0 98 (dk_at dksX2_town_3 7 rfl rfl)
theorem dX2_town_80 : decode cX2_town 80 = .ok (.if_icmp .ge 70, 3) := dk_162 0 70 (dk_at dksX2_town_3 10 rfl rfl)
theorem dX2_town_83 : decode cX2_town 83 = .ok (.aload_n 0, 1) := dk_42 (dk_at dksX2_town_3 13 rfl rfl)
theorem dX2_town_84 : decode cX2_town 84 = .ok (.getfield 16, 3) := dk_180 0 16 (dk_at dksX2_town_3 14 rfl rfl)
theorem dX2_town_87 : decode cX2_town 87 = .ok (.iconst 5, 1) := dk_8 (dk_at dksX2_town_3 17 rfl rfl)
theorem dX2_town_88 : decode cX2_town 88 = .ok (.iload_n 1, 1) := dk_27 (dk_at dksX2_town_3 18 rfl rfl)
theorem dX2_town_89 : decode cX2_town 89 = .ok (.imul, 1) := dk_104 (dk_at dksX2_town_3 19 rfl rfl)
theorem dX2_town_90 : decode cX2_town 90 = .ok (.aload_n 0, 1) := dk_42 (dk_at dksX2_town_3 20 rfl rfl)
theorem dX2_town_91 : decode cX2_town 91 = .ok (.getfield 7, 3) := dk_180 0 7 (dk_at dksX2_town_3 21 rfl rfl)
theorem dX2_town_94 : decode cX2_town 94 = .ok (.iload_n 1, 1) := dk_27 (dk_at dksX2_town_4 0 rfl rfl)
theorem dX2_town_95 : decode cX2_town 95 = .ok (.iaload, 1) := dk_46 (dk_at dksX2_town_4 1 rfl rfl)
theorem dX2_town_96 : decode cX2_town 96 = .ok (.bipush 48, 2) := dk_16 48 (dk_at dksX2_town_4 2 rfl rfl)
theorem dX2_town_98 : decode cX2_town 98 = .ok (.isub, 1) := dk_100 (dk_at dksX2_town_4 4 rfl rfl)
theorem dX2_town_99 : decode cX2_town 99 = .ok (.iastore, 1) := dk_79 (dk_at dksX2_town_4 5 rfl rfl)
theorem dX2_town_100 : decode cX2_town 100 = .ok (.aload_n 0, 1) := dk_42 (dk_at dksX2_town_4 6 rfl rfl)
theorem dX2_town_101 : decode cX2_town 101 = .ok (.getfield 16, 3) := dk_180 0 16 (dk_at dksX2_town_4 7 rfl rfl)
theorem dX2_town_104 : decode cX2_town 104 = .ok (.iconst 5, 1) := dk_8 (dk_at dksX2_town_4 10 rfl rfl)
theorem dX2_town_105 : decode cX2_town 105 = .ok (.iload_n 1, 1) := dk_27 (dk_at dksX2_town_4 11 rfl rfl)
theorem dX2_town_106 : decode cX2_town 106 = .ok (.imul, 1) := dk_104 (dk_at dksX2_town_4 12 rfl rfl)
theorem dX2_town_107 : decode cX2_town 107 = .ok (.iconst 1, 1) := dk_4 (dk_at dksX2_town_4 13 rfl rfl)
theorem dX2_town_108 : decode cX2_town 108 = .ok (.iadd, 1) := dk_96 (dk_at dksX2_town_4 14 rfl rfl)
theorem dX2_town_109 : decode cX2_town 109 = .ok (.iconst 0, 1) := dk_3 (dk_at dksX2_town_4 15 rfl rfl)
theorem dX2_town_110 : decode cX2_town 110 = .ok (.iastore, 1) := dk_79 (dk_at dksX2_town_4 16 rfl rfl)
theorem dX2_town_111 : decode cX2_town 111 = .ok (.aload_n 0, 1) := dk_42 (dk_at dksX2_town_4 17 rfl rfl)
theorem dX2_town_112 : decode cX2_town 112 = .ok (.getfield 16, 3) := dk_180 0 16 (dk_at dksX2_town_4 18 rfl rfl)
theorem dX2_town_115 : decode cX2_town 115 = .ok (.iconst 5, 1) := dk_8 (dk_at dksX2_town_4 21 rfl rfl)
theorem dX2_town_116 : decode cX2_town 116 = .ok (.iload_n 1, 1) := dk_27 (dk_at dksX2_town_4 22 rfl rfl)
theorem dX2_town_117 : decode cX2_town 117 = .ok (.imul, 1) := dk_104 (dk_at dksX2_town_4 23 rfl rfl)
theorem dX2_town_118 : decode cX2_town 118 = .ok (.iconst 2, 1) := dk_5 (dk_at dksX2_town_5 0 rfl rfl)
theorem dX2_town_119 : decode cX2_town 119 = .ok (.iadd, 1) := dk_96 (dk_at dksX2_town_5 1 rfl rfl)
theorem dX2_town_120 : decode cX2_town 120 = .ok (.iconst 0, 1) := dk_3 (dk_at dksX2_town_5 2 rfl rfl)
theorem dX2_town_121 : decode cX2_town 121 = .ok (.iastore, 1) := dk_79 (dk_at dksX2_town_5 3 rfl rfl)
theorem dX2_town_122 : decode cX2_town 122 = .ok (.aload_n 0, 1) := dk_42 (dk_at dksX2_town_5 4 rfl rfl)
theorem dX2_town_123 : decode cX2_town 123 = .ok (.getfield 16, 3) := dk_180 0 16 (dk_at dksX2_town_5 5 rfl rfl)
theorem dX2_town_126 : decode cX2_town 126 = .ok (.iconst 5, 1) := dk_8 (dk_at dksX2_town_5 8 rfl rfl)
theorem dX2_town_127 : decode cX2_town 127 = .ok (.iload_n 1, 1) := dk_27 (dk_at dksX2_town_5 9 rfl rfl)
theorem dX2_town_128 : decode cX2_town 128 = .ok (.imul, 1) := dk_104 (dk_at dksX2_town_5 10 rfl rfl)
theorem dX2_town_129 : decode cX2_town 129 = .ok (.iconst 3, 1) := dk_6 (dk_at dksX2_town_5 11 rfl rfl)
theorem dX2_town_130 : decode cX2_town 130 = .ok (.iadd, 1) := dk_96 (dk_at dksX2_town_5 12 rfl rfl)
theorem dX2_town_131 : decode cX2_town 131 = .ok (.iconst (-1), 1) := dk_2 (dk_at dksX2_town_5 13 rfl rfl)
theorem dX2_town_132 : decode cX2_town 132 = .ok (.iastore, 1) := dk_79 (dk_at dksX2_town_5 14 rfl rfl)
theorem dX2_town_133 : decode cX2_town 133 = .ok (.aload_n 0, 1) := dk_42 (dk_at dksX2_town_5 15 rfl rfl)
theorem dX2_town_134 : decode cX2_town 134 = .ok (.getfield 16, 3) := dk_180 0 16 (dk_at dksX2_town_5 16 rfl rfl)
theorem dX2_town_137 : decode cX2_town 137 = .ok (.iconst 5, 1) := dk_8 (dk_at dksX2_town_5 19 rfl rfl)
theorem dX2_town_138 : decode cX2_town 138 = .ok (.iload_n 1, 1) := dk_27 (dk_at dksX2_town_5 20 rfl rfl)
theorem dX2_town_139 : decode cX2_town 139 = .ok (.imul, 1) := dk_104 (dk_at dksX2_town_5 21 rfl rfl)
theorem dX2_town_140 : decode cX2_town 140 = .ok (.iconst 4, 1) := dk_7 (dk_at dksX2_town_5 22 rfl rfl)
theorem dX2_town_141 : decode cX2_town 141 = .ok (.iadd, 1) := dk_96 (dk_at dksX2_town_5 23 rfl rfl)
theorem dX2_town_142 : decode cX2_town 142 = .ok (.iconst (-1), 1) := dk_2 (dk_at dksX2_town_6 0 rfl rfl)
theorem dX2_town_143 : decode cX2_town 143 = .ok (.iastore, 1) := dk_79 (dk_at dksX2_town_6 1 rfl rfl)
theorem dX2_town_144 : decode cX2_town 144 = .ok (.iinc 1 1, 3) := dk_132 1 1 (dk_at dksX2_town_6 2 rfl rfl)
theorem dX2_town_147 : decode cX2_town 147 = .ok (.goto (-72), 3) := dk_167 255 184 (dk_at dksX2_town_6 5 rfl rfl)
theorem dX2_town_150 : decode cX2_town 150 = .ok (.iconst 0, 1) := dk_3 (dk_at dksX2_town_6 8 rfl rfl)
theorem dX2_town_151 : decode cX2_town 151 = .ok (.istore_n 1, 1) := dk_60 (dk_at dksX2_town_6 9 rfl rfl)
theorem dX2_town_152 : decode cX2_town 152 = .ok (.iload_n 1, 1) := dk_27 (dk_at dksX2_town_6 10 rfl rfl)
theorem dX2_town_153 : decode cX2_town 153 = .ok (.bipush 27, 2) := dk_16 27 (dk_at dksX2_town_6 11 rfl rfl)
theorem dX2_town_155 : decode cX2_town 155 = .ok (.if_icmp .ge 16, 3) := dk_162 0 16 (dk_at dksX2_town_6 13 rfl rfl)
theorem dX2_town_158 : decode cX2_town 158 = .ok (.aload_n 0, 1) := dk_42 (dk_at dksX2_town_6 16 rfl rfl)
theorem dX2_town_159 : decode cX2_town 159 = .ok (.getfield 19, 3) := dk_180 0 19 (dk_at dksX2_town_6 17 rfl rfl)
theorem dX2_town_162 : decode cX2_town 162 = .ok (.iload_n 1, 1) := dk_27 (dk_at dksX2_town_6 20 rfl rfl)
theorem dX2_town_163 : decode cX2_town 163 = .ok (.iconst 0, 1) := dk_3 (dk_at dksX2_town_6 21 rfl rfl)
theorem dX2_town_164 : decode cX2_town 164 = .ok (.iastore, 1) := dk_79 (dk_at dksX2_town_6 22 rfl rfl)
theorem dX2_town_165 : decode cX2_town 165 = .ok (.iinc 1 1, 3) := dk_132 1 1 (dk_at dksX2_town_7 0 rfl rfl)
theorem dX2_town_168 : decode cX2_town 168 = .ok (.goto (-16), 3) := dk_167 255 240 (dk_at dksX2_town_7 3 rfl rfl)
theorem dX2_town_171 : decode cX2_town 171 = .ok (.iconst 0, 1) := dk_3 (dk_at dksX2_town_7 6 rfl rfl)
theorem dX2_town_172 : decode cX2_town 172 = .ok (.istore_n 1, 1) := dk_60 (dk_at dksX2_town_7 7 rfl rfl)
theorem dX2_town_173 : decode cX2_town 173 = .ok (.iload_n 1, 1) := dk_27 (dk_at dksX2_town_7 8 rfl rfl)
theorem dX2_town_174 : decode cX2_town 174 = .ok (.aload_n 0, 1) := dk_42 (dk_at dksX2_town_7 9 rfl rfl)
theorem dX2_town_175 : decode cX2_town 175 = .ok (.getfield 101, 3) := dk_180 0 101 (dk_at dksX2_town_7 10 rfl rfl)
theorem dX2_town_178 : decode cX2_town 178 = .ok (.if_icmp .ge 100, 3) := dk_162 0 100 (dk_at dksX2_town_7 13 rfl rfl)
theorem dX2_town_181 : decode cX2_town 181 = .ok (.aload_n 0, 1) := dk_42 (dk_at dksX2_town_7 16 rfl rfl)
theorem dX2_town_182 : decode cX2_town 182 = .ok (.getfield 83, 3) := dk_180 0 83 (dk_at dksX2_town_7 17 rfl rfl)
theorem dX2_town_185 : decode cX2_town 185 = .ok (.iconst 1, 1) := dk_4 (dk_at dksX2_town_7 20 rfl rfl)
theorem dX2_town_186 : decode cX2_town 186 = .ok (.iadd, 1) := dk_96 (dk_at dksX2_town_7 21 rfl rfl)
theorem dX2_town_187 : decode cX2_town 187 = .ok (.iconst 5, 1) := dk_8 (dk_at dksX2_town_7 22 rfl rfl)
theorem dX2_town_188 : decode cX2_town 188 = .ok (.iload_n 1, 1) := dk_27 (dk_at dksX2_town_7 23 rfl rfl)
theorem dX2_town_189 : decode cX2_town 189 = .ok (.imul, 1) := dk_104 (dk_at dksX2_town_8 0 rfl rfl)
theorem dX2_town_190 : decode cX2_town 190 = .ok (.iadd, 1) := dk_96 (dk_at dksX2_town_8 1 rfl rfl)
theorem dX2_town_191 : decode cX2_town 191 = .ok (.istore_n 2, 1) := dk_61 (dk_at dksX2_town_8 2 rfl rfl)
theorem dX2_town_192 : decode cX2_town 192 = .ok (.aload_n 0, 1) := dk_42 (dk_at dksX2_town_8 3 rfl rfl)
theorem dX2_town_193 : decode cX2_town 193 = .ok (.getfield 13, 3) := dk_180 0 13 (dk_at dksX2_town_8 4 rfl rfl)
theorem dX2_town_196 : decode cX2_town 196 = .ok (.iconst 4, 1) := dk_7 (dk_at dksX2_town_8 7 rfl rfl)
theorem dX2_town_197 : decode cX2_town 197 = .ok (.iload_n 1, 1) := dk_27 (dk_at dksX2_town_8 8 rfl rfl)
theorem dX2_town_198 : decode cX2_town 198 = .ok (.imul, 1) := dk_104 (dk_at dksX2_town_8 9 rfl rfl)
theorem dX2_town_199 : decode cX2_town 199 = .ok (.aload_n 0, 1) := dk_42 (dk_at dksX2_town_8 10 rfl rfl)
theorem dX2_town_200 : decode cX2_town 200 = .ok (.getfield 7, 3) := dk_180 0 7 (dk_at dksX2_town_8 11 rfl rfl)
theorem dX2_town_203 : decode cX2_town 203 = .ok (.iload_n 2, 1) := dk_28 (dk_at dksX2_town_8 14 rfl rfl)
theorem dX2_town_204 : decode cX2_town 204 = .ok (.iaload, 1) := dk_46 (dk_at dksX2_town_8 15 rfl rfl)
theorem dX2_town_205 : decode cX2_town 205 = .ok (.invokestatic 71, 3) := dk_184 0 71 (dk_at dksX2_town_8 16 rfl rfl)
theorem dX2_town_208 : decode cX2_town 208 = .ok (.iastore, 1) := dk_79 (dk_at dksX2_town_8 19 rfl rfl)
theorem dX2_town_209 : decode cX2_town 209 = .ok (.aload_n 0, 1) := dk_42 (dk_at dksX2_town_8 20 rfl rfl)
theorem dX2_town_210 : decode cX2_town 210 = .ok (.getfield 13, 3) := dk_180 0 13 (dk_at dksX2_town_8 21 rfl rfl)
theorem dX2_town_213 : decode cX2_town 213 = .ok (.iconst 4, 1) := dk_7 (dk_at dksX2_town_9 0 rfl rfl)
theorem dX2_town_214 : decode cX2_town 214 = .ok (.iload_n 1, 1) := dk_27 (dk_at dksX2_town_9 1 rfl rfl)
theorem dX2_town_215 : decode cX2_town 215 = .ok (.imul, 1) := dk_104 (dk_at dksX2_town_9 2 rfl rfl)
theorem dX2_town_216 : decode cX2_town 216 = .ok (.iconst 1, 1) := dk_4 (dk_at dksX2_town_9 3 rfl rfl)
theorem dX2_town_217 : decode cX2_town 217 = .ok (.iadd, 1) := dk_96 (dk_at dksX2_town_9 4 rfl rfl)
theorem dX2_town_218 : decode cX2_town 218 = .ok (.aload_n 0, 1) := dk_42 (dk_at dksX2_town_9 5 rfl rfl)
theorem dX2_town_219 : decode cX2_town 219 = .ok (.getfield 7, 3) := dk_180 0 7 (dk_at dksX2_town_9 6 rfl rfl)
theorem dX2_town_222 : decode cX2_town 222 = .ok (.iload_n 2, 1) := dk_28 (dk_at dksX2_town_9 9 rfl rfl)
theorem dX2_town_223 : decode cX2_town 223 = .ok (.iconst 1, 1) := dk_4 (dk_at dksX2_town_9 10 rfl rfl)
theorem dX2_town_224 : decode cX2_town 224 = .ok (.iadd, 1) := dk_96 (dk_at dksX2_town_9 11 rfl rfl)
theorem dX2_town_225 : decode cX2_town 225 = .ok (.iaload, 1) := dk_46 (dk_at dksX2_town_9 12 rfl rfl)
theorem dX2_town_226 : decode cX2_town 226 = .ok (.bipush 48, 2) := dk_16 48 (dk_at dksX2_town_9 13 rfl rfl)
theorem dX2_town_228 : decode cX2_town 228 = .ok (.isub, 1) := dk_100 (dk_at dksX2_town_9 15 rfl rfl)
theorem dX2_town_229 : decode cX2_town 229 = .ok (.iastore, 1) := dk_79 (dk_at dksX2_town_9 16 rfl rfl)
theorem dX2_town_230 : decode cX2_town 230 = .ok (.aload_n 0, 1) := dk_42 (dk_at dksX2_town_9 17 rfl rfl)
theorem dX2_town_231 : decode cX2_town 231 = .ok (.getfield 13, 3) := dk_180 0 13 (dk_at dksX2_town_9 18 rfl rfl)
theorem dX2_town_234 : decode cX2_town 234 = .ok (.iconst 4, 1) := dk_7 (dk_at dksX2_town_9 21 rfl rfl)
theorem dX2_town_235 : decode cX2_town 235 = .ok (.iload_n 1, 1) := dk_27 (dk_at dksX2_town_9 22 rfl rfl)
theorem dX2_town_236 : decode cX2_town 236 = .ok (.imul, 1) := dk_104 (dk_at dksX2_town_9 23 rfl rfl)
theorem dX2_town_237 : decode cX2_town 237 = .ok (.iconst 2, 1) := dk_5 (dk_at dksX2_town_10 0 rfl rfl)
theorem dX2_town_238 : decode cX2_town 238 = .ok (.iadd, 1) := dk_96 (dk_at dksX2_town_10 1 rfl rfl)
theorem dX2_town_239 : decode cX2_town 239 = .ok (.aload_n 0, 1) := dk_42 (dk_at dksX2_town_10 2 rfl rfl)
theorem dX2_town_240 : decode cX2_town 240 = .ok (.getfield 7, 3) := dk_180 0 7 (dk_at dksX2_town_10 3 rfl rfl)
theorem dX2_town_243 : decode cX2_town 243 = .ok (.iload_n 2, 1) := dk_28 (dk_at dksX2_town_10 6 rfl rfl)
theorem dX2_town_244 : decode cX2_town 244 = .ok (.iconst 2, 1) := dk_5 (dk_at dksX2_town_10 7 rfl rfl)
theorem dX2_town_245 : decode cX2_town 245 = .ok (.iadd, 1) := dk_96 (dk_at dksX2_town_10 8 rfl rfl)
theorem dX2_town_246 : decode cX2_town 246 = .ok (.iaload, 1) := dk_46 (dk_at dksX2_town_10 9 rfl rfl)
theorem dX2_town_247 : decode cX2_town 247 = .ok (.bipush 48, 2) := dk_16 48 (dk_at dksX2_town_10 10 rfl rfl)
theorem dX2_town_249 : decode cX2_town 249 = .ok (.isub, 1) := dk_100 (dk_at dksX2_town_10 12 rfl rfl)
theorem dX2_town_250 : decode cX2_town 250 = .ok (.iastore, 1) := dk_79 (dk_at dksX2_town_10 13 rfl rfl)
theorem dX2_town_251 : decode cX2_town 251 = .ok (.aload_n 0, 1) := dk_42 (dk_at dksX2_town_10 14 rfl rfl)
theorem dX2_town_252 : decode cX2_town 252 = .ok (.getfield 13, 3) := dk_180 0 13 (dk_at dksX2_town_10 15 rfl rfl)
theorem dX2_town_255 : decode cX2_town 255 = .ok (.iconst 4, 1) := dk_7 (dk_at dksX2_town_10 18 rfl rfl)
theorem dX2_town_256 : decode cX2_town 256 = .ok (.iload_n 1, 1) := dk_27 (dk_at dksX2_town_10 19 rfl rfl)
theorem dX2_town_257 : decode cX2_town 257 = .ok (.imul, 1) := dk_104 (dk_at dksX2_town_10 20 rfl rfl)
theorem dX2_town_258 : decode cX2_town 258 = .ok (.iconst 3, 1) := dk_6 (dk_at dksX2_town_10 21 rfl rfl)
theorem dX2_town_259 : decode cX2_town 259 = .ok (.iadd, 1) := dk_96 (dk_at dksX2_town_10 22 rfl rfl)
theorem dX2_town_260 : decode cX2_town 260 = .ok (.aload_n 0, 1) := dk_42 (dk_at dksX2_town_10 23 rfl rfl)
theorem dX2_town_261 : decode cX2_town 261 = .ok (.getfield 7, 3) := dk_180 0 7 (dk_at dksX2_town_11 0 rfl rfl)
theorem dX2_town_264 : decode cX2_town 264 = .ok (.iload_n 2, 1) := dk_28 (dk_at dksX2_town_11 3 rfl rfl)
theorem dX2_town_265 : decode cX2_town 265 = .ok (.iconst 3, 1) := dk_6 (dk_at dksX2_town_11 4 rfl rfl)
theorem dX2_town_266 : decode cX2_town 266 = .ok (.iadd, 1) := dk_96 (dk_at dksX2_town_11 5 rfl rfl)
theorem dX2_town_267 : decode cX2_town 267 = .ok (.iaload, 1) := dk_46 (dk_at dksX2_town_11 6 rfl rfl)
theorem dX2_town_268 : decode cX2_town 268 = .ok (.bipush 48, 2) := dk_16 48 (dk_at dksX2_town_11 7 rfl rfl)
theorem dX2_town_270 : decode cX2_town 270 = .ok (.isub, 1) := dk_100 (dk_at dksX2_town_11 9 rfl rfl)
theorem dX2_town_271 : decode cX2_town 271 = .ok (.iastore, 1) := dk_79 (dk_at dksX2_town_11 10 rfl rfl)
theorem dX2_town_272 : decode cX2_town 272 = .ok (.iinc 1 1, 3) := dk_132 1 1 (dk_at dksX2_town_11 11 rfl rfl)
theorem dX2_town_275 : decode cX2_town 275 = .ok (.goto (-102), 3) := dk_167 255 154 (dk_at dksX2_town_11 14 rfl rfl)
theorem dX2_town_278 : decode cX2_town 278 = .ok (.iconst 0, 1) := dk_3 (dk_at dksX2_town_11 17 rfl rfl)
theorem dX2_town_279 : decode cX2_town 279 = .ok (.istore_n 1, 1) := dk_60 (dk_at dksX2_town_11 18 rfl rfl)
theorem dX2_town_280 : decode cX2_town 280 = .ok (.iload_n 1, 1) := dk_27 (dk_at dksX2_town_11 19 rfl rfl)
theorem dX2_town_281 : decode cX2_town 281 = .ok (.bipush 6, 2) := dk_16 6 (dk_at dksX2_town_11 20 rfl rfl)
theorem dX2_town_283 : decode cX2_town 283 = .ok (.if_icmp .ge 16, 3) := dk_162 0 16 (dk_at dksX2_town_12 0 rfl rfl)
theorem dX2_town_286 : decode cX2_town 286 = .ok (.aload_n 0, 1) := dk_42 (dk_at dksX2_town_12 3 rfl rfl)
theorem dX2_town_287 : decode cX2_town 287 = .ok (.getfield 22, 3) := dk_180 0 22 (dk_at dksX2_town_12 4 rfl rfl)
theorem dX2_town_290 : decode cX2_town 290 = .ok (.iload_n 1, 1) := dk_27 (dk_at dksX2_town_12 7 rfl rfl)
theorem dX2_town_291 : decode cX2_town 291 = .ok (.iconst 0, 1) := dk_3 (dk_at dksX2_town_12 8 rfl rfl)
theorem dX2_town_292 : decode cX2_town 292 = .ok (.iastore, 1) := dk_79 (dk_at dksX2_town_12 9 rfl rfl)
theorem dX2_town_293 : decode cX2_town 293 = .ok (.iinc 1 1, 3) := dk_132 1 1 (dk_at dksX2_town_12 10 rfl rfl)
theorem dX2_town_296 : decode cX2_town 296 = .ok (.goto (-16), 3) := dk_167 255 240 (dk_at dksX2_town_12 13 rfl rfl)
theorem dX2_town_299 : decode cX2_town 299 = .ok (.aload_n 0, 1) := dk_42 (dk_at dksX2_town_12 16 rfl rfl)
theorem dX2_town_300 : decode cX2_town 300 = .ok (.iconst 0, 1) := dk_3 (dk_at dksX2_town_12 17 rfl rfl)
theorem dX2_town_301 : decode cX2_town 301 = .ok (.putfield 104, 3) := dk_181 0 104 (dk_at dksX2_town_12 18 rfl rfl)
theorem dX2_town_304 : decode cX2_town 304 = .ok (.aload_n 0, 1) := dk_42 (dk_at dksX2_town_12 21 rfl rfl)
theorem dX2_town_305 : decode cX2_town 305 = .ok (.iconst 0, 1) := dk_3 (dk_at dksX2_town_12 22 rfl rfl)
theorem dX2_town_306 : decode cX2_town 306 = .ok (.putfield 107, 3) := dk_181 0 107 (dk_at dksX2_town_13 0 rfl rfl)
theorem dX2_town_309 : decode cX2_town 309 = .ok (.aload_n 0, 1) := dk_42 (dk_at dksX2_town_13 3 rfl rfl)
theorem dX2_town_310 : decode cX2_town 310 = .ok (.dup, 1) := dk_89 (dk_at dksX2_town_13 4 rfl rfl)
theorem dX2_town_311 : decode cX2_town 311 = .ok (.getfield 110, 3) := dk_180 0 110 (dk_at dksX2_town_13 5 rfl rfl)
theorem dX2_town_314 : decode cX2_town 314 = .ok (.iconst 1, 1) := dk_4 (dk_at dksX2_town_13 8 rfl rfl)
theorem dX2_town_315 : decode cX2_town 315 = .ok (.iadd, 1) := dk_96 (dk_at dksX2_town_13 9 rfl rfl)
theorem dX2_town_316 : decode cX2_town 316 = .ok (.putfield 110, 3) := dk_181 0 110 (dk_at dksX2_town_13 10 rfl rfl)
theorem dX2_town_319 : decode cX2_town 319 = .ok (.aload_n 0, 1) := dk_42 (dk_at dksX2_town_13 13 rfl rfl)
theorem dX2_town_320 : decode cX2_town 320 = .ok (.iconst 0, 1) := dk_3 (dk_at dksX2_town_13 14 rfl rfl)
theorem dX2_town_321 : decode cX2_town 321 = .ok (.putfield 68, 3) := dk_181 0 68 (dk_at dksX2_town_13 15 rfl rfl)
theorem dX2_town_324 : decode cX2_town 324 = .ok (.aload_n 0, 1) := dk_42 (dk_at dksX2_town_13 18 rfl rfl)
theorem dX2_town_325 : decode cX2_town 325 = .ok (.getfield 101, 3) := dk_180 0 101 (dk_at dksX2_town_13 19 rfl rfl)
theorem dX2_town_328 : decode cX2_town 328 = .ok (.ireturn, 1) := dk_172 (dk_at dksX2_town_13 22 rfl rfl)
abbrev cX2_way : ByteArray := prog_11_method_28_code
def yX2_way : MethodName := ⟨RX2, "way", "(IIII)I"⟩
def dkwX2_way_2 : List UInt8 := [182, 0, 161, 167, 0, 5, 16, 154, 172]
abbrev dktX2_way_2 : List UInt8 := dkwX2_way_2 ++ []
def dkwX2_way_1 : List UInt8 := [154, 0, 18, 21, 4, 133, 20, 0, 157, 20, 0, 159, 184, 0, 64, 153, 0, 15, 42, 27, 28, 29, 21, 4]
abbrev dktX2_way_1 : List UInt8 := dkwX2_way_1 ++ dktX2_way_2
def dkwX2_way_0 : List UInt8 := [42, 27, 28, 29, 182, 0, 151, 154, 0, 6, 16, 155, 172, 21, 4, 133, 9, 20, 0, 155, 184, 0, 64]
abbrev dktX2_way_0 : List UInt8 := dkwX2_way_0 ++ dktX2_way_1
theorem dksX2_way_0 : cX2_way.data.toList.drop 0 = dktX2_way_0 := by decide +kernel
theorem dksX2_way_1 : cX2_way.data.toList.drop 23 = dktX2_way_1 := dk_seg dksX2_way_0 23 rfl rfl
theorem dksX2_way_2 : cX2_way.data.toList.drop 47 = dktX2_way_2 := dk_seg dksX2_way_1 24 rfl rfl
theorem dX2_way_0 : decode cX2_way 0 = .ok (.aload_n 0, 1) := dk_42 (dk_at dksX2_way_0 0 rfl rfl)
theorem dX2_way_1 : decode cX2_way 1 = .ok (.iload_n 1, 1) := dk_27 (dk_at dksX2_way_0 1 rfl rfl)
theorem dX2_way_2 : decode cX2_way 2 = .ok (.iload_n 2, 1) := dk_28 (dk_at dksX2_way_0 2 rfl rfl)
theorem dX2_way_3 : decode cX2_way 3 = .ok (.iload_n 3, 1) := dk_29 (dk_at dksX2_way_0 3 rfl rfl)
theorem dX2_way_4 : decode cX2_way 4 = .ok (.invokevirtual 151, 3) := dk_182 0 151 (dk_at dksX2_way_0 4 rfl rfl)
theorem dX2_way_7 : decode cX2_way 7 = .ok (.ifCond .ne 6, 3) := dk_154 0 6 (dk_at dksX2_way_0 7 rfl rfl)
theorem dX2_way_10 : decode cX2_way 10 = .ok (.bipush (-101), 2) := dk_16 155 (dk_at dksX2_way_0 10 rfl rfl)
theorem dX2_way_12 : decode cX2_way 12 = .ok (.ireturn, 1) := dk_172 (dk_at dksX2_way_0 12 rfl rfl)
theorem dX2_way_13 : decode cX2_way 13 = .ok (.iload 4, 2) := dk_21 4 (dk_at dksX2_way_0 13 rfl rfl)
theorem dX2_way_15 : decode cX2_way 15 = .ok (.i2l, 1) := dk_133 (dk_at dksX2_way_0 15 rfl rfl)
theorem dX2_way_16 : decode cX2_way 16 = .ok (.lconst 0, 1) := dk_9 (dk_at dksX2_way_0 16 rfl rfl)
theorem dX2_way_17 : decode cX2_way 17 = .ok (.ldc2_w 155, 3) := dk_20 0 155 (dk_at dksX2_way_0 17 rfl rfl)
theorem dX2_way_20 : decode cX2_way 20 = .ok (.invokestatic 64, 3) := dk_184 0 64 (dk_at dksX2_way_0 20 rfl rfl)
theorem dX2_way_23 : decode cX2_way 23 = .ok (.ifCond .ne 18, 3) := dk_154 0 18 (dk_at dksX2_way_1 0 rfl rfl)
theorem dX2_way_26 : decode cX2_way 26 = .ok (.iload 4, 2) := dk_21 4 (dk_at dksX2_way_1 3 rfl rfl)
theorem dX2_way_28 : decode cX2_way 28 = .ok (.i2l, 1) := dk_133 (dk_at dksX2_way_1 5 rfl rfl)
theorem dX2_way_29 : decode cX2_way 29 = .ok (.ldc2_w 157, 3) := dk_20 0 157 (dk_at dksX2_way_1 6 rfl rfl)
theorem dX2_way_32 : decode cX2_way 32 = .ok (.ldc2_w 159, 3) := dk_20 0 159 (dk_at dksX2_way_1 9 rfl rfl)
theorem dX2_way_35 : decode cX2_way 35 = .ok (.invokestatic 64, 3) := dk_184 0 64 (dk_at dksX2_way_1 12 rfl rfl)
theorem dX2_way_38 : decode cX2_way 38 = .ok (.ifCond .eq 15, 3) := dk_153 0 15 (dk_at dksX2_way_1 15 rfl rfl)
theorem dX2_way_41 : decode cX2_way 41 = .ok (.aload_n 0, 1) := dk_42 (dk_at dksX2_way_1 18 rfl rfl)
theorem dX2_way_42 : decode cX2_way 42 = .ok (.iload_n 1, 1) := dk_27 (dk_at dksX2_way_1 19 rfl rfl)
theorem dX2_way_43 : decode cX2_way 43 = .ok (.iload_n 2, 1) := dk_28 (dk_at dksX2_way_1 20 rfl rfl)
theorem dX2_way_44 : decode cX2_way 44 = .ok (.iload_n 3, 1) := dk_29 (dk_at dksX2_way_1 21 rfl rfl)
theorem dX2_way_45 : decode cX2_way 45 = .ok (.iload 4, 2) := dk_21 4 (dk_at dksX2_way_1 22 rfl rfl)
theorem dX2_way_47 : decode cX2_way 47 = .ok (.invokevirtual 161, 3) := dk_182 0 161 (dk_at dksX2_way_2 0 rfl rfl)
theorem dX2_way_50 : decode cX2_way 50 = .ok (.goto 5, 3) := dk_167 0 5 (dk_at dksX2_way_2 3 rfl rfl)
theorem dX2_way_53 : decode cX2_way 53 = .ok (.bipush (-102), 2) := dk_16 154 (dk_at dksX2_way_2 6 rfl rfl)
theorem dX2_way_55 : decode cX2_way 55 = .ok (.ireturn, 1) := dk_172 (dk_at dksX2_way_2 8 rfl rfl)
abbrev cX2_isTrip : ByteArray := prog_11_method_27_code
def yX2_isTrip : MethodName := ⟨RX2, "isTrip", "(III)Z"⟩
def dkwX2_isTrip_1 : List UInt8 := [167, 0, 4, 3, 172]
abbrev dktX2_isTrip_1 : List UInt8 := dkwX2_isTrip_1 ++ []
def dkwX2_isTrip_0 : List UInt8 := [42, 27, 182, 0, 145, 153, 0, 21, 28, 184, 0, 148, 153, 0, 14, 29, 184, 0, 148, 153, 0, 7, 4]
abbrev dktX2_isTrip_0 : List UInt8 := dkwX2_isTrip_0 ++ dktX2_isTrip_1
theorem dksX2_isTrip_0 : cX2_isTrip.data.toList.drop 0 = dktX2_isTrip_0 := by decide +kernel
theorem dksX2_isTrip_1 : cX2_isTrip.data.toList.drop 23 = dktX2_isTrip_1 := dk_seg dksX2_isTrip_0 23 rfl rfl
theorem dX2_isTrip_0 : decode cX2_isTrip 0 = .ok (.aload_n 0, 1) := dk_42 (dk_at dksX2_isTrip_0 0 rfl rfl)
theorem dX2_isTrip_1 : decode cX2_isTrip 1 = .ok (.iload_n 1, 1) := dk_27 (dk_at dksX2_isTrip_0 1 rfl rfl)
theorem dX2_isTrip_2 : decode cX2_isTrip 2 = .ok (.invokevirtual 145, 3) := dk_182 0 145 (dk_at dksX2_isTrip_0 2 rfl rfl)
theorem dX2_isTrip_5 : decode cX2_isTrip 5 = .ok (.ifCond .eq 21, 3) := dk_153 0 21 (dk_at dksX2_isTrip_0 5 rfl rfl)
theorem dX2_isTrip_8 : decode cX2_isTrip 8 = .ok (.iload_n 2, 1) := dk_28 (dk_at dksX2_isTrip_0 8 rfl rfl)
theorem dX2_isTrip_9 : decode cX2_isTrip 9 = .ok (.invokestatic 148, 3) := dk_184 0 148 (dk_at dksX2_isTrip_0 9 rfl rfl)
theorem dX2_isTrip_12 : decode cX2_isTrip 12 = .ok (.ifCond .eq 14, 3) := dk_153 0 14 (dk_at dksX2_isTrip_0 12 rfl rfl)
theorem dX2_isTrip_15 : decode cX2_isTrip 15 = .ok (.iload_n 3, 1) := dk_29 (dk_at dksX2_isTrip_0 15 rfl rfl)
theorem dX2_isTrip_16 : decode cX2_isTrip 16 = .ok (.invokestatic 148, 3) := dk_184 0 148 (dk_at dksX2_isTrip_0 16 rfl rfl)
theorem dX2_isTrip_19 : decode cX2_isTrip 19 = .ok (.ifCond .eq 7, 3) := dk_153 0 7 (dk_at dksX2_isTrip_0 19 rfl rfl)
theorem dX2_isTrip_22 : decode cX2_isTrip 22 = .ok (.iconst 1, 1) := dk_4 (dk_at dksX2_isTrip_0 22 rfl rfl)
theorem dX2_isTrip_23 : decode cX2_isTrip 23 = .ok (.goto 4, 3) := dk_167 0 4 (dk_at dksX2_isTrip_1 0 rfl rfl)
theorem dX2_isTrip_26 : decode cX2_isTrip 26 = .ok (.iconst 0, 1) := dk_3 (dk_at dksX2_isTrip_1 3 rfl rfl)
theorem dX2_isTrip_27 : decode cX2_isTrip 27 = .ok (.ireturn, 1) := dk_172 (dk_at dksX2_isTrip_1 4 rfl rfl)
abbrev cX2_isPerson : ByteArray := prog_11_method_14_code
def yX2_isPerson : MethodName := ⟨RX2, "isPerson", "(I)Z"⟩
def dkwX2_isPerson_0 : List UInt8 := [27, 133, 9, 42, 180, 0, 98, 4, 100, 133, 184, 0, 64, 172]
abbrev dktX2_isPerson_0 : List UInt8 := dkwX2_isPerson_0 ++ []
theorem dksX2_isPerson_0 : cX2_isPerson.data.toList.drop 0 = dktX2_isPerson_0 := by decide +kernel
theorem dX2_isPerson_0 : decode cX2_isPerson 0 = .ok (.iload_n 1, 1) := dk_27 (dk_at dksX2_isPerson_0 0 rfl rfl)
theorem dX2_isPerson_1 : decode cX2_isPerson 1 = .ok (.i2l, 1) := dk_133 (dk_at dksX2_isPerson_0 1 rfl rfl)
theorem dX2_isPerson_2 : decode cX2_isPerson 2 = .ok (.lconst 0, 1) := dk_9 (dk_at dksX2_isPerson_0 2 rfl rfl)
theorem dX2_isPerson_3 : decode cX2_isPerson 3 = .ok (.aload_n 0, 1) := dk_42 (dk_at dksX2_isPerson_0 3 rfl rfl)
theorem dX2_isPerson_4 : decode cX2_isPerson 4 = .ok (.getfield 98, 3) := dk_180 0 98 (dk_at dksX2_isPerson_0 4 rfl rfl)
theorem dX2_isPerson_7 : decode cX2_isPerson 7 = .ok (.iconst 1, 1) := dk_4 (dk_at dksX2_isPerson_0 7 rfl rfl)
theorem dX2_isPerson_8 : decode cX2_isPerson 8 = .ok (.isub, 1) := dk_100 (dk_at dksX2_isPerson_0 8 rfl rfl)
theorem dX2_isPerson_9 : decode cX2_isPerson 9 = .ok (.i2l, 1) := dk_133 (dk_at dksX2_isPerson_0 9 rfl rfl)
theorem dX2_isPerson_10 : decode cX2_isPerson 10 = .ok (.invokestatic 64, 3) := dk_184 0 64 (dk_at dksX2_isPerson_0 10 rfl rfl)
theorem dX2_isPerson_13 : decode cX2_isPerson 13 = .ok (.ireturn, 1) := dk_172 (dk_at dksX2_isPerson_0 13 rfl rfl)
abbrev cX2_isCorner : ByteArray := prog_11_method_16_code
def yX2_isCorner : MethodName := ⟨RX2, "isCorner", "(I)Z"⟩
def dkwX2_isCorner_0 : List UInt8 := [26, 133, 9, 20, 0, 113, 184, 0, 64, 172]
abbrev dktX2_isCorner_0 : List UInt8 := dkwX2_isCorner_0 ++ []
theorem dksX2_isCorner_0 : cX2_isCorner.data.toList.drop 0 = dktX2_isCorner_0 := by decide +kernel
theorem dX2_isCorner_0 : decode cX2_isCorner 0 = .ok (.iload_n 0, 1) := dk_26 (dk_at dksX2_isCorner_0 0 rfl rfl)
theorem dX2_isCorner_1 : decode cX2_isCorner 1 = .ok (.i2l, 1) := dk_133 (dk_at dksX2_isCorner_0 1 rfl rfl)
theorem dX2_isCorner_2 : decode cX2_isCorner 2 = .ok (.lconst 0, 1) := dk_9 (dk_at dksX2_isCorner_0 2 rfl rfl)
theorem dX2_isCorner_3 : decode cX2_isCorner 3 = .ok (.ldc2_w 113, 3) := dk_20 0 113 (dk_at dksX2_isCorner_0 3 rfl rfl)
theorem dX2_isCorner_6 : decode cX2_isCorner 6 = .ok (.invokestatic 64, 3) := dk_184 0 64 (dk_at dksX2_isCorner_0 6 rfl rfl)
theorem dX2_isCorner_9 : decode cX2_isCorner 9 = .ok (.ireturn, 1) := dk_172 (dk_at dksX2_isCorner_0 9 rfl rfl)
abbrev cX2_tellWay : ByteArray := prog_11_method_26_code
def yX2_tellWay : MethodName := ⟨RX2, "tellWay", "(IIII)I"⟩
def dkwX2_tellWay_3 : List UInt8 := [21, 4, 4, 160, 0, 16, 42, 180, 0, 25, 28, 46, 17, 3, 232, 112, 167, 0, 5, 21, 5, 172]
abbrev dktX2_tellWay_3 : List UInt8 := dkwX2_tellWay_3 ++ []
def dkwX2_tellWay_2 : List UInt8 := [46, 167, 0, 4, 2, 172, 21, 4, 154, 0, 16, 42, 180, 0, 25, 28, 46, 17, 3, 232, 108, 167, 0, 24]
abbrev dktX2_tellWay_2 : List UInt8 := dkwX2_tellWay_2 ++ dktX2_tellWay_3
def dkwX2_tellWay_1 : List UInt8 := [16, 9, 164, 0, 28, 21, 4, 16, 10, 100, 21, 5, 162, 0, 16, 42, 180, 0, 28, 21, 4, 16, 10, 100]
abbrev dktX2_tellWay_1 : List UInt8 := dkwX2_tellWay_1 ++ dktX2_tellWay_2
def dkwX2_tellWay_0 : List UInt8 := [42, 27, 28, 29, 42, 182, 0, 139, 182, 0, 142, 54, 5, 21, 5, 2, 160, 0, 5, 2, 172, 21, 4]
abbrev dktX2_tellWay_0 : List UInt8 := dkwX2_tellWay_0 ++ dktX2_tellWay_1
theorem dksX2_tellWay_0 : cX2_tellWay.data.toList.drop 0 = dktX2_tellWay_0 := by decide +kernel
theorem dksX2_tellWay_1 : cX2_tellWay.data.toList.drop 23 = dktX2_tellWay_1 := dk_seg dksX2_tellWay_0 23 rfl rfl
theorem dksX2_tellWay_2 : cX2_tellWay.data.toList.drop 47 = dktX2_tellWay_2 := dk_seg dksX2_tellWay_1 24 rfl rfl
theorem dksX2_tellWay_3 : cX2_tellWay.data.toList.drop 71 = dktX2_tellWay_3 := dk_seg dksX2_tellWay_2 24 rfl rfl
theorem dX2_tellWay_0 : decode cX2_tellWay 0 = .ok (.aload_n 0, 1) := dk_42 (dk_at dksX2_tellWay_0 0 rfl rfl)
theorem dX2_tellWay_1 : decode cX2_tellWay 1 = .ok (.iload_n 1, 1) := dk_27 (dk_at dksX2_tellWay_0 1 rfl rfl)
theorem dX2_tellWay_2 : decode cX2_tellWay 2 = .ok (.iload_n 2, 1) := dk_28 (dk_at dksX2_tellWay_0 2 rfl rfl)
theorem dX2_tellWay_3 : decode cX2_tellWay 3 = .ok (.iload_n 3, 1) := dk_29 (dk_at dksX2_tellWay_0 3 rfl rfl)
theorem dX2_tellWay_4 : decode cX2_tellWay 4 = .ok (.aload_n 0, 1) := dk_42 (dk_at dksX2_tellWay_0 4 rfl rfl)
theorem dX2_tellWay_5 : decode cX2_tellWay 5 = .ok (.invokevirtual 139, 3) := dk_182 0 139 (dk_at dksX2_tellWay_0 5 rfl rfl)
theorem dX2_tellWay_8 : decode cX2_tellWay 8 = .ok (.invokevirtual 142, 3) := dk_182 0 142 (dk_at dksX2_tellWay_0 8 rfl rfl)
theorem dX2_tellWay_11 : decode cX2_tellWay 11 = .ok (.istore 5, 2) := dk_54 5 (dk_at dksX2_tellWay_0 11 rfl rfl)
theorem dX2_tellWay_13 : decode cX2_tellWay 13 = .ok (.iload 5, 2) := dk_21 5 (dk_at dksX2_tellWay_0 13 rfl rfl)
theorem dX2_tellWay_15 : decode cX2_tellWay 15 = .ok (.iconst (-1), 1) := dk_2 (dk_at dksX2_tellWay_0 15 rfl rfl)
theorem dX2_tellWay_16 : decode cX2_tellWay 16 = .ok (.if_icmp .ne 5, 3) := dk_160 0 5 (dk_at dksX2_tellWay_0 16 rfl rfl)
theorem dX2_tellWay_19 : decode cX2_tellWay 19 = .ok (.iconst (-1), 1) := dk_2 (dk_at dksX2_tellWay_0 19 rfl rfl)
theorem dX2_tellWay_20 : decode cX2_tellWay 20 = .ok (.ireturn, 1) := dk_172 (dk_at dksX2_tellWay_0 20 rfl rfl)
theorem dX2_tellWay_21 : decode cX2_tellWay 21 = .ok (.iload 4, 2) := dk_21 4 (dk_at dksX2_tellWay_0 21 rfl rfl)
theorem dX2_tellWay_23 : decode cX2_tellWay 23 = .ok (.bipush 9, 2) := dk_16 9 (dk_at dksX2_tellWay_1 0 rfl rfl)
theorem dX2_tellWay_25 : decode cX2_tellWay 25 = .ok (.if_icmp .le 28, 3) := dk_164 0 28 (dk_at dksX2_tellWay_1 2 rfl rfl)
theorem dX2_tellWay_28 : decode cX2_tellWay 28 = .ok (.iload 4, 2) := dk_21 4 (dk_at dksX2_tellWay_1 5 rfl rfl)
theorem dX2_tellWay_30 : decode cX2_tellWay 30 = .ok (.bipush 10, 2) := dk_16 10 (dk_at dksX2_tellWay_1 7 rfl rfl)
theorem dX2_tellWay_32 : decode cX2_tellWay 32 = .ok (.isub, 1) := dk_100 (dk_at dksX2_tellWay_1 9 rfl rfl)
theorem dX2_tellWay_33 : decode cX2_tellWay 33 = .ok (.iload 5, 2) := dk_21 5 (dk_at dksX2_tellWay_1 10 rfl rfl)
theorem dX2_tellWay_35 : decode cX2_tellWay 35 = .ok (.if_icmp .ge 16, 3) := dk_162 0 16 (dk_at dksX2_tellWay_1 12 rfl rfl)
theorem dX2_tellWay_38 : decode cX2_tellWay 38 = .ok (.aload_n 0, 1) := dk_42 (dk_at dksX2_tellWay_1 15 rfl rfl)
theorem dX2_tellWay_39 : decode cX2_tellWay 39 = .ok (.getfield 28, 3) := dk_180 0 28 (dk_at dksX2_tellWay_1 16 rfl rfl)
theorem dX2_tellWay_42 : decode cX2_tellWay 42 = .ok (.iload 4, 2) := dk_21 4 (dk_at dksX2_tellWay_1 19 rfl rfl)
theorem dX2_tellWay_44 : decode cX2_tellWay 44 = .ok (.bipush 10, 2) := dk_16 10 (dk_at dksX2_tellWay_1 21 rfl rfl)
theorem dX2_tellWay_46 : decode cX2_tellWay 46 = .ok (.isub, 1) := dk_100 (dk_at dksX2_tellWay_1 23 rfl rfl)
theorem dX2_tellWay_47 : decode cX2_tellWay 47 = .ok (.iaload, 1) := dk_46 (dk_at dksX2_tellWay_2 0 rfl rfl)
theorem dX2_tellWay_48 : decode cX2_tellWay 48 = .ok (.goto 4, 3) := dk_167 0 4 (dk_at dksX2_tellWay_2 1 rfl rfl)
theorem dX2_tellWay_51 : decode cX2_tellWay 51 = .ok (.iconst (-1), 1) := dk_2 (dk_at dksX2_tellWay_2 4 rfl rfl)
theorem dX2_tellWay_52 : decode cX2_tellWay 52 = .ok (.ireturn, 1) := dk_172 (dk_at dksX2_tellWay_2 5 rfl rfl)
theorem dX2_tellWay_53 : decode cX2_tellWay 53 = .ok (.iload 4, 2) := dk_21 4 (dk_at dksX2_tellWay_2 6 rfl rfl)
theorem dX2_tellWay_55 : decode cX2_tellWay 55 = .ok (.ifCond .ne 16, 3) := dk_154 0 16 (dk_at dksX2_tellWay_2 8 rfl rfl)
theorem dX2_tellWay_58 : decode cX2_tellWay 58 = .ok (.aload_n 0, 1) := dk_42 (dk_at dksX2_tellWay_2 11 rfl rfl)
theorem dX2_tellWay_59 : decode cX2_tellWay 59 = .ok (.getfield 25, 3) := dk_180 0 25 (dk_at dksX2_tellWay_2 12 rfl rfl)
theorem dX2_tellWay_62 : decode cX2_tellWay 62 = .ok (.iload_n 2, 1) := dk_28 (dk_at dksX2_tellWay_2 15 rfl rfl)
theorem dX2_tellWay_63 : decode cX2_tellWay 63 = .ok (.iaload, 1) := dk_46 (dk_at dksX2_tellWay_2 16 rfl rfl)
theorem dX2_tellWay_64 : decode cX2_tellWay 64 = .ok (.sipush 1000, 3) := dk_17 3 232 (dk_at dksX2_tellWay_2 17 rfl rfl)
theorem dX2_tellWay_67 : decode cX2_tellWay 67 = .ok (.idiv, 1) := dk_108 (dk_at dksX2_tellWay_2 20 rfl rfl)
theorem dX2_tellWay_68 : decode cX2_tellWay 68 = .ok (.goto 24, 3) := dk_167 0 24 (dk_at dksX2_tellWay_2 21 rfl rfl)
theorem dX2_tellWay_71 : decode cX2_tellWay 71 = .ok (.iload 4, 2) := dk_21 4 (dk_at dksX2_tellWay_3 0 rfl rfl)
theorem dX2_tellWay_73 : decode cX2_tellWay 73 = .ok (.iconst 1, 1) := dk_4 (dk_at dksX2_tellWay_3 2 rfl rfl)
theorem dX2_tellWay_74 : decode cX2_tellWay 74 = .ok (.if_icmp .ne 16, 3) := dk_160 0 16 (dk_at dksX2_tellWay_3 3 rfl rfl)
theorem dX2_tellWay_77 : decode cX2_tellWay 77 = .ok (.aload_n 0, 1) := dk_42 (dk_at dksX2_tellWay_3 6 rfl rfl)
theorem dX2_tellWay_78 : decode cX2_tellWay 78 = .ok (.getfield 25, 3) := dk_180 0 25 (dk_at dksX2_tellWay_3 7 rfl rfl)
theorem dX2_tellWay_81 : decode cX2_tellWay 81 = .ok (.iload_n 2, 1) := dk_28 (dk_at dksX2_tellWay_3 10 rfl rfl)
theorem dX2_tellWay_82 : decode cX2_tellWay 82 = .ok (.iaload, 1) := dk_46 (dk_at dksX2_tellWay_3 11 rfl rfl)
theorem dX2_tellWay_83 : decode cX2_tellWay 83 = .ok (.sipush 1000, 3) := dk_17 3 232 (dk_at dksX2_tellWay_3 12 rfl rfl)
theorem dX2_tellWay_86 : decode cX2_tellWay 86 = .ok (.irem, 1) := dk_112 (dk_at dksX2_tellWay_3 15 rfl rfl)
theorem dX2_tellWay_87 : decode cX2_tellWay 87 = .ok (.goto 5, 3) := dk_167 0 5 (dk_at dksX2_tellWay_3 16 rfl rfl)
theorem dX2_tellWay_90 : decode cX2_tellWay 90 = .ok (.iload 5, 2) := dk_21 5 (dk_at dksX2_tellWay_3 19 rfl rfl)
theorem dX2_tellWay_92 : decode cX2_tellWay 92 = .ok (.ireturn, 1) := dk_172 (dk_at dksX2_tellWay_3 21 rfl rfl)
abbrev cX2_everyStreet : ByteArray := prog_11_method_18_code
def yX2_everyStreet : MethodName := ⟨RX2, "everyStreet", "()I"⟩
def dkwX2_everyStreet_0 : List UInt8 := [4, 42, 180, 0, 101, 120, 4, 100, 172]
abbrev dktX2_everyStreet_0 : List UInt8 := dkwX2_everyStreet_0 ++ []
theorem dksX2_everyStreet_0 : cX2_everyStreet.data.toList.drop 0 = dktX2_everyStreet_0 := by decide +kernel
theorem dX2_everyStreet_0 : decode cX2_everyStreet 0 = .ok (.iconst 1, 1) := dk_4 (dk_at dksX2_everyStreet_0 0 rfl rfl)
theorem dX2_everyStreet_1 : decode cX2_everyStreet 1 = .ok (.aload_n 0, 1) := dk_42 (dk_at dksX2_everyStreet_0 1 rfl rfl)
theorem dX2_everyStreet_2 : decode cX2_everyStreet 2 = .ok (.getfield 101, 3) := dk_180 0 101 (dk_at dksX2_everyStreet_0 2 rfl rfl)
theorem dX2_everyStreet_5 : decode cX2_everyStreet 5 = .ok (.ishl, 1) := dk_120 (dk_at dksX2_everyStreet_0 5 rfl rfl)
theorem dX2_everyStreet_6 : decode cX2_everyStreet 6 = .ok (.iconst 1, 1) := dk_4 (dk_at dksX2_everyStreet_0 6 rfl rfl)
theorem dX2_everyStreet_7 : decode cX2_everyStreet 7 = .ok (.isub, 1) := dk_100 (dk_at dksX2_everyStreet_0 7 rfl rfl)
theorem dX2_everyStreet_8 : decode cX2_everyStreet 8 = .ok (.ireturn, 1) := dk_172 (dk_at dksX2_everyStreet_0 8 rfl rfl)
abbrev cX2_layWay : ByteArray := prog_11_method_25_code
def yX2_layWay : MethodName := ⟨RX2, "layWay", "(IIII)I"⟩
def dkwX2_layWay_3 : List UInt8 := [42, 21, 7, 21, 5, 182, 0, 127, 54, 5, 167, 255, 209, 21, 6, 172]
abbrev dktX2_layWay_3 : List UInt8 := dkwX2_layWay_3 ++ []
def dkwX2_layWay_2 : List UInt8 := [27, 104, 46, 21, 5, 21, 4, 182, 0, 135, 54, 7, 42, 180, 0, 28, 21, 6, 21, 7, 79, 132, 6, 1]
abbrev dktX2_layWay_2 : List UInt8 := dkwX2_layWay_2 ++ dktX2_layWay_3
def dkwX2_layWay_1 : List UInt8 := [161, 0, 5, 2, 172, 28, 54, 5, 3, 54, 6, 21, 5, 29, 159, 0, 47, 42, 27, 42, 180, 0, 16, 8]
abbrev dktX2_layWay_1 : List UInt8 := dkwX2_layWay_1 ++ dktX2_layWay_2
def dkwX2_layWay_0 : List UInt8 := [42, 27, 42, 180, 0, 16, 8, 27, 104, 46, 29, 21, 4, 182, 0, 131, 42, 180, 0, 25, 28, 46, 18, 123]
abbrev dktX2_layWay_0 : List UInt8 := dkwX2_layWay_0 ++ dktX2_layWay_1
theorem dksX2_layWay_0 : cX2_layWay.data.toList.drop 0 = dktX2_layWay_0 := by decide +kernel
theorem dksX2_layWay_1 : cX2_layWay.data.toList.drop 24 = dktX2_layWay_1 := dk_seg dksX2_layWay_0 24 rfl rfl
theorem dksX2_layWay_2 : cX2_layWay.data.toList.drop 48 = dktX2_layWay_2 := dk_seg dksX2_layWay_1 24 rfl rfl
theorem dksX2_layWay_3 : cX2_layWay.data.toList.drop 72 = dktX2_layWay_3 := dk_seg dksX2_layWay_2 24 rfl rfl
theorem dX2_layWay_0 : decode cX2_layWay 0 = .ok (.aload_n 0, 1) := dk_42 (dk_at dksX2_layWay_0 0 rfl rfl)
theorem dX2_layWay_1 : decode cX2_layWay 1 = .ok (.iload_n 1, 1) := dk_27 (dk_at dksX2_layWay_0 1 rfl rfl)
theorem dX2_layWay_2 : decode cX2_layWay 2 = .ok (.aload_n 0, 1) := dk_42 (dk_at dksX2_layWay_0 2 rfl rfl)
theorem dX2_layWay_3 : decode cX2_layWay 3 = .ok (.getfield 16, 3) := dk_180 0 16 (dk_at dksX2_layWay_0 3 rfl rfl)
theorem dX2_layWay_6 : decode cX2_layWay 6 = .ok (.iconst 5, 1) := dk_8 (dk_at dksX2_layWay_0 6 rfl rfl)
theorem dX2_layWay_7 : decode cX2_layWay 7 = .ok (.iload_n 1, 1) := dk_27 (dk_at dksX2_layWay_0 7 rfl rfl)
theorem dX2_layWay_8 : decode cX2_layWay 8 = .ok (.imul, 1) := dk_104 (dk_at dksX2_layWay_0 8 rfl rfl)
theorem dX2_layWay_9 : decode cX2_layWay 9 = .ok (.iaload, 1) := dk_46 (dk_at dksX2_layWay_0 9 rfl rfl)
theorem dX2_layWay_10 : decode cX2_layWay 10 = .ok (.iload_n 3, 1) := dk_29 (dk_at dksX2_layWay_0 10 rfl rfl)
theorem dX2_layWay_11 : decode cX2_layWay 11 = .ok (.iload 4, 2) := dk_21 4 (dk_at dksX2_layWay_0 11 rfl rfl)
theorem dX2_layWay_13 : decode cX2_layWay 13 = .ok (.invokevirtual 131, 3) := dk_182 0 131 (dk_at dksX2_layWay_0 13 rfl rfl)
theorem dX2_layWay_16 : decode cX2_layWay 16 = .ok (.aload_n 0, 1) := dk_42 (dk_at dksX2_layWay_0 16 rfl rfl)
theorem dX2_layWay_17 : decode cX2_layWay 17 = .ok (.getfield 25, 3) := dk_180 0 25 (dk_at dksX2_layWay_0 17 rfl rfl)
theorem dX2_layWay_20 : decode cX2_layWay 20 = .ok (.iload_n 2, 1) := dk_28 (dk_at dksX2_layWay_0 20 rfl rfl)
theorem dX2_layWay_21 : decode cX2_layWay 21 = .ok (.iaload, 1) := dk_46 (dk_at dksX2_layWay_0 21 rfl rfl)
theorem dX2_layWay_22 : decode cX2_layWay 22 = .ok (.ldc 123, 2) := dk_18 123 (dk_at dksX2_layWay_0 22 rfl rfl)
theorem dX2_layWay_24 : decode cX2_layWay 24 = .ok (.if_icmp .lt 5, 3) := dk_161 0 5 (dk_at dksX2_layWay_1 0 rfl rfl)
theorem dX2_layWay_27 : decode cX2_layWay 27 = .ok (.iconst (-1), 1) := dk_2 (dk_at dksX2_layWay_1 3 rfl rfl)
theorem dX2_layWay_28 : decode cX2_layWay 28 = .ok (.ireturn, 1) := dk_172 (dk_at dksX2_layWay_1 4 rfl rfl)
theorem dX2_layWay_29 : decode cX2_layWay 29 = .ok (.iload_n 2, 1) := dk_28 (dk_at dksX2_layWay_1 5 rfl rfl)
theorem dX2_layWay_30 : decode cX2_layWay 30 = .ok (.istore 5, 2) := dk_54 5 (dk_at dksX2_layWay_1 6 rfl rfl)
theorem dX2_layWay_32 : decode cX2_layWay 32 = .ok (.iconst 0, 1) := dk_3 (dk_at dksX2_layWay_1 8 rfl rfl)
theorem dX2_layWay_33 : decode cX2_layWay 33 = .ok (.istore 6, 2) := dk_54 6 (dk_at dksX2_layWay_1 9 rfl rfl)
theorem dX2_layWay_35 : decode cX2_layWay 35 = .ok (.iload 5, 2) := dk_21 5 (dk_at dksX2_layWay_1 11 rfl rfl)
theorem dX2_layWay_37 : decode cX2_layWay 37 = .ok (.iload_n 3, 1) := dk_29 (dk_at dksX2_layWay_1 13 rfl rfl)
theorem dX2_layWay_38 : decode cX2_layWay 38 = .ok (.if_icmp .eq 47, 3) := dk_159 0 47 (dk_at dksX2_layWay_1 14 rfl rfl)
theorem dX2_layWay_41 : decode cX2_layWay 41 = .ok (.aload_n 0, 1) := dk_42 (dk_at dksX2_layWay_1 17 rfl rfl)
theorem dX2_layWay_42 : decode cX2_layWay 42 = .ok (.iload_n 1, 1) := dk_27 (dk_at dksX2_layWay_1 18 rfl rfl)
theorem dX2_layWay_43 : decode cX2_layWay 43 = .ok (.aload_n 0, 1) := dk_42 (dk_at dksX2_layWay_1 19 rfl rfl)
theorem dX2_layWay_44 : decode cX2_layWay 44 = .ok (.getfield 16, 3) := dk_180 0 16 (dk_at dksX2_layWay_1 20 rfl rfl)
theorem dX2_layWay_47 : decode cX2_layWay 47 = .ok (.iconst 5, 1) := dk_8 (dk_at dksX2_layWay_1 23 rfl rfl)
theorem dX2_layWay_48 : decode cX2_layWay 48 = .ok (.iload_n 1, 1) := dk_27 (dk_at dksX2_layWay_2 0 rfl rfl)
theorem dX2_layWay_49 : decode cX2_layWay 49 = .ok (.imul, 1) := dk_104 (dk_at dksX2_layWay_2 1 rfl rfl)
theorem dX2_layWay_50 : decode cX2_layWay 50 = .ok (.iaload, 1) := dk_46 (dk_at dksX2_layWay_2 2 rfl rfl)
theorem dX2_layWay_51 : decode cX2_layWay 51 = .ok (.iload 5, 2) := dk_21 5 (dk_at dksX2_layWay_2 3 rfl rfl)
theorem dX2_layWay_53 : decode cX2_layWay 53 = .ok (.iload 4, 2) := dk_21 4 (dk_at dksX2_layWay_2 5 rfl rfl)
theorem dX2_layWay_55 : decode cX2_layWay 55 = .ok (.invokevirtual 135, 3) := dk_182 0 135 (dk_at dksX2_layWay_2 7 rfl rfl)
theorem dX2_layWay_58 : decode cX2_layWay 58 = .ok (.istore 7, 2) := dk_54 7 (dk_at dksX2_layWay_2 10 rfl rfl)
theorem dX2_layWay_60 : decode cX2_layWay 60 = .ok (.aload_n 0, 1) := dk_42 (dk_at dksX2_layWay_2 12 rfl rfl)
theorem dX2_layWay_61 : decode cX2_layWay 61 = .ok (.getfield 28, 3) := dk_180 0 28 (dk_at dksX2_layWay_2 13 rfl rfl)
theorem dX2_layWay_64 : decode cX2_layWay 64 = .ok (.iload 6, 2) := dk_21 6 (dk_at dksX2_layWay_2 16 rfl rfl)
theorem dX2_layWay_66 : decode cX2_layWay 66 = .ok (.iload 7, 2) := dk_21 7 (dk_at dksX2_layWay_2 18 rfl rfl)
theorem dX2_layWay_68 : decode cX2_layWay 68 = .ok (.iastore, 1) := dk_79 (dk_at dksX2_layWay_2 20 rfl rfl)
theorem dX2_layWay_69 : decode cX2_layWay 69 = .ok (.iinc 6 1, 3) := dk_132 6 1 (dk_at dksX2_layWay_2 21 rfl rfl)
theorem dX2_layWay_72 : decode cX2_layWay 72 = .ok (.aload_n 0, 1) := dk_42 (dk_at dksX2_layWay_3 0 rfl rfl)
theorem dX2_layWay_73 : decode cX2_layWay 73 = .ok (.iload 7, 2) := dk_21 7 (dk_at dksX2_layWay_3 1 rfl rfl)
theorem dX2_layWay_75 : decode cX2_layWay 75 = .ok (.iload 5, 2) := dk_21 5 (dk_at dksX2_layWay_3 3 rfl rfl)
theorem dX2_layWay_77 : decode cX2_layWay 77 = .ok (.invokevirtual 127, 3) := dk_182 0 127 (dk_at dksX2_layWay_3 5 rfl rfl)
theorem dX2_layWay_80 : decode cX2_layWay 80 = .ok (.istore 5, 2) := dk_54 5 (dk_at dksX2_layWay_3 8 rfl rfl)
theorem dX2_layWay_82 : decode cX2_layWay 82 = .ok (.goto (-47), 3) := dk_167 255 209 (dk_at dksX2_layWay_3 10 rfl rfl)
theorem dX2_layWay_85 : decode cX2_layWay 85 = .ok (.iload 6, 2) := dk_21 6 (dk_at dksX2_layWay_3 13 rfl rfl)
theorem dX2_layWay_87 : decode cX2_layWay 87 = .ok (.ireturn, 1) := dk_172 (dk_at dksX2_layWay_3 15 rfl rfl)
abbrev cX2_layAway : ByteArray := prog_11_method_23_code
def yX2_layAway : MethodName := ⟨RX2, "layAway", "(IIII)V"⟩
def dkwX2_layAway_8 : List UInt8 := [167, 0, 10, 42, 180, 0, 25, 21, 9, 46, 79, 132, 6, 1, 167, 255, 103, 132, 5, 1, 167, 255, 87, 177]
abbrev dktX2_layAway_8 : List UInt8 := dkwX2_layAway_8 ++ []
def dkwX2_layAway_7 : List UInt8 := [21, 7, 96, 42, 180, 0, 25, 21, 9, 46, 162, 0, 16, 42, 180, 0, 25, 21, 8, 46, 21, 7, 96]
abbrev dktX2_layAway_7 : List UInt8 := dkwX2_layAway_7 ++ dktX2_layAway_8
def dkwX2_layAway_6 : List UInt8 := [167, 0, 10, 42, 180, 0, 25, 21, 8, 46, 79, 42, 180, 0, 25, 21, 9, 42, 180, 0, 25, 21, 8, 46]
abbrev dktX2_layAway_6 : List UInt8 := dkwX2_layAway_6 ++ dktX2_layAway_7
def dkwX2_layAway_5 : List UInt8 := [46, 21, 7, 96, 42, 180, 0, 25, 21, 8, 46, 162, 0, 16, 42, 180, 0, 25, 21, 9, 46, 21, 7, 96]
abbrev dktX2_layAway_5 : List UInt8 := dkwX2_layAway_5 ++ dktX2_layAway_6
def dkwX2_layAway_4 : List UInt8 := [180, 0, 13, 7, 21, 6, 104, 5, 96, 46, 54, 9, 42, 180, 0, 25, 21, 8, 42, 180, 0, 25, 21, 9]
abbrev dktX2_layAway_4 : List UInt8 := dkwX2_layAway_4 ++ dktX2_layAway_5
def dkwX2_layAway_3 : List UInt8 := [28, 21, 6, 182, 0, 124, 54, 7, 42, 180, 0, 13, 7, 21, 6, 104, 4, 96, 46, 54, 8, 42]
abbrev dktX2_layAway_3 : List UInt8 := dkwX2_layAway_3 ++ dktX2_layAway_4
def dkwX2_layAway_2 : List UInt8 := [54, 6, 21, 6, 42, 180, 0, 101, 162, 0, 150, 21, 4, 21, 6, 122, 4, 126, 4, 160, 0, 133, 42, 27]
abbrev dktX2_layAway_2 : List UInt8 := dkwX2_layAway_2 ++ dktX2_layAway_3
def dkwX2_layAway_1 : List UInt8 := [167, 0, 5, 18, 123, 79, 132, 5, 1, 167, 255, 227, 3, 54, 5, 21, 5, 16, 8, 162, 0, 168, 3]
abbrev dktX2_layAway_1 : List UInt8 := dkwX2_layAway_1 ++ dktX2_layAway_2
def dkwX2_layAway_0 : List UInt8 := [3, 54, 5, 21, 5, 16, 8, 162, 0, 28, 42, 180, 0, 25, 21, 5, 21, 5, 29, 160, 0, 7, 3]
abbrev dktX2_layAway_0 : List UInt8 := dkwX2_layAway_0 ++ dktX2_layAway_1
theorem dksX2_layAway_0 : cX2_layAway.data.toList.drop 0 = dktX2_layAway_0 := by decide +kernel
theorem dksX2_layAway_1 : cX2_layAway.data.toList.drop 23 = dktX2_layAway_1 := dk_seg dksX2_layAway_0 23 rfl rfl
theorem dksX2_layAway_2 : cX2_layAway.data.toList.drop 46 = dktX2_layAway_2 := dk_seg dksX2_layAway_1 23 rfl rfl
theorem dksX2_layAway_3 : cX2_layAway.data.toList.drop 70 = dktX2_layAway_3 := dk_seg dksX2_layAway_2 24 rfl rfl
theorem dksX2_layAway_4 : cX2_layAway.data.toList.drop 92 = dktX2_layAway_4 := dk_seg dksX2_layAway_3 22 rfl rfl
theorem dksX2_layAway_5 : cX2_layAway.data.toList.drop 116 = dktX2_layAway_5 := dk_seg dksX2_layAway_4 24 rfl rfl
theorem dksX2_layAway_6 : cX2_layAway.data.toList.drop 140 = dktX2_layAway_6 := dk_seg dksX2_layAway_5 24 rfl rfl
theorem dksX2_layAway_7 : cX2_layAway.data.toList.drop 164 = dktX2_layAway_7 := dk_seg dksX2_layAway_6 24 rfl rfl
theorem dksX2_layAway_8 : cX2_layAway.data.toList.drop 187 = dktX2_layAway_8 := dk_seg dksX2_layAway_7 23 rfl rfl
theorem dX2_layAway_0 : decode cX2_layAway 0 = .ok (.iconst 0, 1) := dk_3 (dk_at dksX2_layAway_0 0 rfl rfl)
theorem dX2_layAway_1 : decode cX2_layAway 1 = .ok (.istore 5, 2) := dk_54 5 (dk_at dksX2_layAway_0 1 rfl rfl)
theorem dX2_layAway_3 : decode cX2_layAway 3 = .ok (.iload 5, 2) := dk_21 5 (dk_at dksX2_layAway_0 3 rfl rfl)
theorem dX2_layAway_5 : decode cX2_layAway 5 = .ok (.bipush 8, 2) := dk_16 8 (dk_at dksX2_layAway_0 5 rfl rfl)
theorem dX2_layAway_7 : decode cX2_layAway 7 = .ok (.if_icmp .ge 28, 3) := dk_162 0 28 (dk_at dksX2_layAway_0 7 rfl rfl)
theorem dX2_layAway_10 : decode cX2_layAway 10 = .ok (.aload_n 0, 1) := dk_42 (dk_at dksX2_layAway_0 10 rfl rfl)
theorem dX2_layAway_11 : decode cX2_layAway 11 = .ok (.getfield 25, 3) := dk_180 0 25 (dk_at dksX2_layAway_0 11 rfl rfl)
theorem dX2_layAway_14 : decode cX2_layAway 14 = .ok (.iload 5, 2) := dk_21 5 (dk_at dksX2_layAway_0 14 rfl rfl)
theorem dX2_layAway_16 : decode cX2_layAway 16 = .ok (.iload 5, 2) := dk_21 5 (dk_at dksX2_layAway_0 16 rfl rfl)
theorem dX2_layAway_18 : decode cX2_layAway 18 = .ok (.iload_n 3, 1) := dk_29 (dk_at dksX2_layAway_0 18 rfl rfl)
theorem dX2_layAway_19 : decode cX2_layAway 19 = .ok (.if_icmp .ne 7, 3) := dk_160 0 7 (dk_at dksX2_layAway_0 19 rfl rfl)
theorem dX2_layAway_22 : decode cX2_layAway 22 = .ok (.iconst 0, 1) := dk_3 (dk_at dksX2_layAway_0 22 rfl rfl)
theorem dX2_layAway_23 : decode cX2_layAway 23 = .ok (.goto 5, 3) := dk_167 0 5 (dk_at dksX2_layAway_1 0 rfl rfl)
theorem dX2_layAway_26 : decode cX2_layAway 26 = .ok (.ldc 123, 2) := dk_18 123 (dk_at dksX2_layAway_1 3 rfl rfl)
theorem dX2_layAway_28 : decode cX2_layAway 28 = .ok (.iastore, 1) := dk_79 (dk_at dksX2_layAway_1 5 rfl rfl)
theorem dX2_layAway_29 : decode cX2_layAway 29 = .ok (.iinc 5 1, 3) := dk_132 5 1 (dk_at dksX2_layAway_1 6 rfl rfl)
theorem dX2_layAway_32 : decode cX2_layAway 32 = .ok (.goto (-29), 3) := dk_167 255 227 (dk_at dksX2_layAway_1 9 rfl rfl)
theorem dX2_layAway_35 : decode cX2_layAway 35 = .ok (.iconst 0, 1) := dk_3 (dk_at dksX2_layAway_1 12 rfl rfl)
theorem dX2_layAway_36 : decode cX2_layAway 36 = .ok (.istore 5, 2) := dk_54 5 (dk_at dksX2_layAway_1 13 rfl rfl)
theorem dX2_layAway_38 : decode cX2_layAway 38 = .ok (.iload 5, 2) := dk_21 5 (dk_at dksX2_layAway_1 15 rfl rfl)
theorem dX2_layAway_40 : decode cX2_layAway 40 = .ok (.bipush 8, 2) := dk_16 8 (dk_at dksX2_layAway_1 17 rfl rfl)
theorem dX2_layAway_42 : decode cX2_layAway 42 = .ok (.if_icmp .ge 168, 3) := dk_162 0 168 (dk_at dksX2_layAway_1 19 rfl rfl)
theorem dX2_layAway_45 : decode cX2_layAway 45 = .ok (.iconst 0, 1) := dk_3 (dk_at dksX2_layAway_1 22 rfl rfl)
theorem dX2_layAway_46 : decode cX2_layAway 46 = .ok (.istore 6, 2) := dk_54 6 (dk_at dksX2_layAway_2 0 rfl rfl)
theorem dX2_layAway_48 : decode cX2_layAway 48 = .ok (.iload 6, 2) := dk_21 6 (dk_at dksX2_layAway_2 2 rfl rfl)
theorem dX2_layAway_50 : decode cX2_layAway 50 = .ok (.aload_n 0, 1) := dk_42 (dk_at dksX2_layAway_2 4 rfl rfl)
theorem dX2_layAway_51 : decode cX2_layAway 51 = .ok (.getfield 101, 3) := dk_180 0 101 (dk_at dksX2_layAway_2 5 rfl rfl)
theorem dX2_layAway_54 : decode cX2_layAway 54 = .ok (.if_icmp .ge 150, 3) := dk_162 0 150 (dk_at dksX2_layAway_2 8 rfl rfl)
theorem dX2_layAway_57 : decode cX2_layAway 57 = .ok (.iload 4, 2) := dk_21 4 (dk_at dksX2_layAway_2 11 rfl rfl)
theorem dX2_layAway_59 : decode cX2_layAway 59 = .ok (.iload 6, 2) := dk_21 6 (dk_at dksX2_layAway_2 13 rfl rfl)
theorem dX2_layAway_61 : decode cX2_layAway 61 = .ok (.ishr, 1) := dk_122 (dk_at dksX2_layAway_2 15 rfl rfl)
theorem dX2_layAway_62 : decode cX2_layAway 62 = .ok (.iconst 1, 1) := dk_4 (dk_at dksX2_layAway_2 16 rfl rfl)
theorem dX2_layAway_63 : decode cX2_layAway 63 = .ok (.iand, 1) := dk_126 (dk_at dksX2_layAway_2 17 rfl rfl)
theorem dX2_layAway_64 : decode cX2_layAway 64 = .ok (.iconst 1, 1) := dk_4 (dk_at dksX2_layAway_2 18 rfl rfl)
theorem dX2_layAway_65 : decode cX2_layAway 65 = .ok (.if_icmp .ne 133, 3) := dk_160 0 133 (dk_at dksX2_layAway_2 19 rfl rfl)
theorem dX2_layAway_68 : decode cX2_layAway 68 = .ok (.aload_n 0, 1) := dk_42 (dk_at dksX2_layAway_2 22 rfl rfl)
theorem dX2_layAway_69 : decode cX2_layAway 69 = .ok (.iload_n 1, 1) := dk_27 (dk_at dksX2_layAway_2 23 rfl rfl)
theorem dX2_layAway_70 : decode cX2_layAway 70 = .ok (.iload_n 2, 1) := dk_28 (dk_at dksX2_layAway_3 0 rfl rfl)
theorem dX2_layAway_71 : decode cX2_layAway 71 = .ok (.iload 6, 2) := dk_21 6 (dk_at dksX2_layAway_3 1 rfl rfl)
theorem dX2_layAway_73 : decode cX2_layAway 73 = .ok (.invokevirtual 124, 3) := dk_182 0 124 (dk_at dksX2_layAway_3 3 rfl rfl)
theorem dX2_layAway_76 : decode cX2_layAway 76 = .ok (.istore 7, 2) := dk_54 7 (dk_at dksX2_layAway_3 6 rfl rfl)
theorem dX2_layAway_78 : decode cX2_layAway 78 = .ok (.aload_n 0, 1) := dk_42 (dk_at dksX2_layAway_3 8 rfl rfl)
theorem dX2_layAway_79 : decode cX2_layAway 79 = .ok (.getfield 13, 3) := dk_180 0 13 (dk_at dksX2_layAway_3 9 rfl rfl)
theorem dX2_layAway_82 : decode cX2_layAway 82 = .ok (.iconst 4, 1) := dk_7 (dk_at dksX2_layAway_3 12 rfl rfl)
theorem dX2_layAway_83 : decode cX2_layAway 83 = .ok (.iload 6, 2) := dk_21 6 (dk_at dksX2_layAway_3 13 rfl rfl)
theorem dX2_layAway_85 : decode cX2_layAway 85 = .ok (.imul, 1) := dk_104 (dk_at dksX2_layAway_3 15 rfl rfl)
theorem dX2_layAway_86 : decode cX2_layAway 86 = .ok (.iconst 1, 1) := dk_4 (dk_at dksX2_layAway_3 16 rfl rfl)
theorem dX2_layAway_87 : decode cX2_layAway 87 = .ok (.iadd, 1) := dk_96 (dk_at dksX2_layAway_3 17 rfl rfl)
theorem dX2_layAway_88 : decode cX2_layAway 88 = .ok (.iaload, 1) := dk_46 (dk_at dksX2_layAway_3 18 rfl rfl)
theorem dX2_layAway_89 : decode cX2_layAway 89 = .ok (.istore 8, 2) := dk_54 8 (dk_at dksX2_layAway_3 19 rfl rfl)
theorem dX2_layAway_91 : decode cX2_layAway 91 = .ok (.aload_n 0, 1) := dk_42 (dk_at dksX2_layAway_3 21 rfl rfl)
theorem dX2_layAway_92 : decode cX2_layAway 92 = .ok (.getfield 13, 3) := dk_180 0 13 (dk_at dksX2_layAway_4 0 rfl rfl)
theorem dX2_layAway_95 : decode cX2_layAway 95 = .ok (.iconst 4, 1) := dk_7 (dk_at dksX2_layAway_4 3 rfl rfl)
theorem dX2_layAway_96 : decode cX2_layAway 96 = .ok (.iload 6, 2) := dk_21 6 (dk_at dksX2_layAway_4 4 rfl rfl)
theorem dX2_layAway_98 : decode cX2_layAway 98 = .ok (.imul, 1) := dk_104 (dk_at dksX2_layAway_4 6 rfl rfl)
theorem dX2_layAway_99 : decode cX2_layAway 99 = .ok (.iconst 2, 1) := dk_5 (dk_at dksX2_layAway_4 7 rfl rfl)
theorem dX2_layAway_100 : decode cX2_layAway 100 = .ok (.iadd, 1) := dk_96 (dk_at dksX2_layAway_4 8 rfl rfl)
theorem dX2_layAway_101 : decode cX2_layAway 101 = .ok (.iaload, 1) := dk_46 (dk_at dksX2_layAway_4 9 rfl rfl)
theorem dX2_layAway_102 : decode cX2_layAway 102 = .ok (.istore 9, 2) := dk_54 9 (dk_at dksX2_layAway_4 10 rfl rfl)
theorem dX2_layAway_104 : decode cX2_layAway 104 = .ok (.aload_n 0, 1) := dk_42 (dk_at dksX2_layAway_4 12 rfl rfl)
theorem dX2_layAway_105 : decode cX2_layAway 105 = .ok (.getfield 25, 3) := dk_180 0 25 (dk_at dksX2_layAway_4 13 rfl rfl)
theorem dX2_layAway_108 : decode cX2_layAway 108 = .ok (.iload 8, 2) := dk_21 8 (dk_at dksX2_layAway_4 16 rfl rfl)
theorem dX2_layAway_110 : decode cX2_layAway 110 = .ok (.aload_n 0, 1) := dk_42 (dk_at dksX2_layAway_4 18 rfl rfl)
theorem dX2_layAway_111 : decode cX2_layAway 111 = .ok (.getfield 25, 3) := dk_180 0 25 (dk_at dksX2_layAway_4 19 rfl rfl)
theorem dX2_layAway_114 : decode cX2_layAway 114 = .ok (.iload 9, 2) := dk_21 9 (dk_at dksX2_layAway_4 22 rfl rfl)
theorem dX2_layAway_116 : decode cX2_layAway 116 = .ok (.iaload, 1) := dk_46 (dk_at dksX2_layAway_5 0 rfl rfl)
theorem dX2_layAway_117 : decode cX2_layAway 117 = .ok (.iload 7, 2) := dk_21 7 (dk_at dksX2_layAway_5 1 rfl rfl)
theorem dX2_layAway_119 : decode cX2_layAway 119 = .ok (.iadd, 1) := dk_96 (dk_at dksX2_layAway_5 3 rfl rfl)
theorem dX2_layAway_120 : decode cX2_layAway 120 = .ok (.aload_n 0, 1) := dk_42 (dk_at dksX2_layAway_5 4 rfl rfl)
theorem dX2_layAway_121 : decode cX2_layAway 121 = .ok (.getfield 25, 3) := dk_180 0 25 (dk_at dksX2_layAway_5 5 rfl rfl)
theorem dX2_layAway_124 : decode cX2_layAway 124 = .ok (.iload 8, 2) := dk_21 8 (dk_at dksX2_layAway_5 8 rfl rfl)
theorem dX2_layAway_126 : decode cX2_layAway 126 = .ok (.iaload, 1) := dk_46 (dk_at dksX2_layAway_5 10 rfl rfl)
theorem dX2_layAway_127 : decode cX2_layAway 127 = .ok (.if_icmp .ge 16, 3) := dk_162 0 16 (dk_at dksX2_layAway_5 11 rfl rfl)
theorem dX2_layAway_130 : decode cX2_layAway 130 = .ok (.aload_n 0, 1) := dk_42 (dk_at dksX2_layAway_5 14 rfl rfl)
theorem dX2_layAway_131 : decode cX2_layAway 131 = .ok (.getfield 25, 3) := dk_180 0 25 (dk_at dksX2_layAway_5 15 rfl rfl)
theorem dX2_layAway_134 : decode cX2_layAway 134 = .ok (.iload 9, 2) := dk_21 9 (dk_at dksX2_layAway_5 18 rfl rfl)
theorem dX2_layAway_136 : decode cX2_layAway 136 = .ok (.iaload, 1) := dk_46 (dk_at dksX2_layAway_5 20 rfl rfl)
theorem dX2_layAway_137 : decode cX2_layAway 137 = .ok (.iload 7, 2) := dk_21 7 (dk_at dksX2_layAway_5 21 rfl rfl)
theorem dX2_layAway_139 : decode cX2_layAway 139 = .ok (.iadd, 1) := dk_96 (dk_at dksX2_layAway_5 23 rfl rfl)
theorem dX2_layAway_140 : decode cX2_layAway 140 = .ok (.goto 10, 3) := dk_167 0 10 (dk_at dksX2_layAway_6 0 rfl rfl)
theorem dX2_layAway_143 : decode cX2_layAway 143 = .ok (.aload_n 0, 1) := dk_42 (dk_at dksX2_layAway_6 3 rfl rfl)
theorem dX2_layAway_144 : decode cX2_layAway 144 = .ok (.getfield 25, 3) := dk_180 0 25 (dk_at dksX2_layAway_6 4 rfl rfl)
theorem dX2_layAway_147 : decode cX2_layAway 147 = .ok (.iload 8, 2) := dk_21 8 (dk_at dksX2_layAway_6 7 rfl rfl)
theorem dX2_layAway_149 : decode cX2_layAway 149 = .ok (.iaload, 1) := dk_46 (dk_at dksX2_layAway_6 9 rfl rfl)
theorem dX2_layAway_150 : decode cX2_layAway 150 = .ok (.iastore, 1) := dk_79 (dk_at dksX2_layAway_6 10 rfl rfl)
theorem dX2_layAway_151 : decode cX2_layAway 151 = .ok (.aload_n 0, 1) := dk_42 (dk_at dksX2_layAway_6 11 rfl rfl)
theorem dX2_layAway_152 : decode cX2_layAway 152 = .ok (.getfield 25, 3) := dk_180 0 25 (dk_at dksX2_layAway_6 12 rfl rfl)
theorem dX2_layAway_155 : decode cX2_layAway 155 = .ok (.iload 9, 2) := dk_21 9 (dk_at dksX2_layAway_6 15 rfl rfl)
theorem dX2_layAway_157 : decode cX2_layAway 157 = .ok (.aload_n 0, 1) := dk_42 (dk_at dksX2_layAway_6 17 rfl rfl)
theorem dX2_layAway_158 : decode cX2_layAway 158 = .ok (.getfield 25, 3) := dk_180 0 25 (dk_at dksX2_layAway_6 18 rfl rfl)
theorem dX2_layAway_161 : decode cX2_layAway 161 = .ok (.iload 8, 2) := dk_21 8 (dk_at dksX2_layAway_6 21 rfl rfl)
theorem dX2_layAway_163 : decode cX2_layAway 163 = .ok (.iaload, 1) := dk_46 (dk_at dksX2_layAway_6 23 rfl rfl)
theorem dX2_layAway_164 : decode cX2_layAway 164 = .ok (.iload 7, 2) := dk_21 7 (dk_at dksX2_layAway_7 0 rfl rfl)
theorem dX2_layAway_166 : decode cX2_layAway 166 = .ok (.iadd, 1) := dk_96 (dk_at dksX2_layAway_7 2 rfl rfl)
theorem dX2_layAway_167 : decode cX2_layAway 167 = .ok (.aload_n 0, 1) := dk_42 (dk_at dksX2_layAway_7 3 rfl rfl)
theorem dX2_layAway_168 : decode cX2_layAway 168 = .ok (.getfield 25, 3) := dk_180 0 25 (dk_at dksX2_layAway_7 4 rfl rfl)
theorem dX2_layAway_171 : decode cX2_layAway 171 = .ok (.iload 9, 2) := dk_21 9 (dk_at dksX2_layAway_7 7 rfl rfl)
theorem dX2_layAway_173 : decode cX2_layAway 173 = .ok (.iaload, 1) := dk_46 (dk_at dksX2_layAway_7 9 rfl rfl)
theorem dX2_layAway_174 : decode cX2_layAway 174 = .ok (.if_icmp .ge 16, 3) := dk_162 0 16 (dk_at dksX2_layAway_7 10 rfl rfl)
theorem dX2_layAway_177 : decode cX2_layAway 177 = .ok (.aload_n 0, 1) := dk_42 (dk_at dksX2_layAway_7 13 rfl rfl)
theorem dX2_layAway_178 : decode cX2_layAway 178 = .ok (.getfield 25, 3) := dk_180 0 25 (dk_at dksX2_layAway_7 14 rfl rfl)
theorem dX2_layAway_181 : decode cX2_layAway 181 = .ok (.iload 8, 2) := dk_21 8 (dk_at dksX2_layAway_7 17 rfl rfl)
theorem dX2_layAway_183 : decode cX2_layAway 183 = .ok (.iaload, 1) := dk_46 (dk_at dksX2_layAway_7 19 rfl rfl)
theorem dX2_layAway_184 : decode cX2_layAway 184 = .ok (.iload 7, 2) := dk_21 7 (dk_at dksX2_layAway_7 20 rfl rfl)
theorem dX2_layAway_186 : decode cX2_layAway 186 = .ok (.iadd, 1) := dk_96 (dk_at dksX2_layAway_7 22 rfl rfl)
theorem dX2_layAway_187 : decode cX2_layAway 187 = .ok (.goto 10, 3) := dk_167 0 10 (dk_at dksX2_layAway_8 0 rfl rfl)
theorem dX2_layAway_190 : decode cX2_layAway 190 = .ok (.aload_n 0, 1) := dk_42 (dk_at dksX2_layAway_8 3 rfl rfl)
theorem dX2_layAway_191 : decode cX2_layAway 191 = .ok (.getfield 25, 3) := dk_180 0 25 (dk_at dksX2_layAway_8 4 rfl rfl)
theorem dX2_layAway_194 : decode cX2_layAway 194 = .ok (.iload 9, 2) := dk_21 9 (dk_at dksX2_layAway_8 7 rfl rfl)
theorem dX2_layAway_196 : decode cX2_layAway 196 = .ok (.iaload, 1) := dk_46 (dk_at dksX2_layAway_8 9 rfl rfl)
theorem dX2_layAway_197 : decode cX2_layAway 197 = .ok (.iastore, 1) := dk_79 (dk_at dksX2_layAway_8 10 rfl rfl)
theorem dX2_layAway_198 : decode cX2_layAway 198 = .ok (.iinc 6 1, 3) := dk_132 6 1 (dk_at dksX2_layAway_8 11 rfl rfl)
theorem dX2_layAway_201 : decode cX2_layAway 201 = .ok (.goto (-153), 3) := dk_167 255 103 (dk_at dksX2_layAway_8 14 rfl rfl)
theorem dX2_layAway_204 : decode cX2_layAway 204 = .ok (.iinc 5 1, 3) := dk_132 5 1 (dk_at dksX2_layAway_8 17 rfl rfl)
theorem dX2_layAway_207 : decode cX2_layAway 207 = .ok (.goto (-169), 3) := dk_167 255 87 (dk_at dksX2_layAway_8 20 rfl rfl)
theorem dX2_layAway_210 : decode cX2_layAway 210 = .ok (.return_, 1) := dk_177 (dk_at dksX2_layAway_8 23 rfl rfl)
abbrev cX2_costBy : ByteArray := prog_11_method_21_code
def yX2_costBy : MethodName := ⟨RX2, "costBy", "(III)I"⟩
def dkwX2_costBy_0 : List UInt8 := [17, 3, 232, 42, 27, 28, 29, 182, 0, 119, 104, 42, 180, 0, 13, 7, 29, 104, 6, 96, 46, 96, 172]
abbrev dktX2_costBy_0 : List UInt8 := dkwX2_costBy_0 ++ []
theorem dksX2_costBy_0 : cX2_costBy.data.toList.drop 0 = dktX2_costBy_0 := by decide +kernel
theorem dX2_costBy_0 : decode cX2_costBy 0 = .ok (.sipush 1000, 3) := dk_17 3 232 (dk_at dksX2_costBy_0 0 rfl rfl)
theorem dX2_costBy_3 : decode cX2_costBy 3 = .ok (.aload_n 0, 1) := dk_42 (dk_at dksX2_costBy_0 3 rfl rfl)
theorem dX2_costBy_4 : decode cX2_costBy 4 = .ok (.iload_n 1, 1) := dk_27 (dk_at dksX2_costBy_0 4 rfl rfl)
theorem dX2_costBy_5 : decode cX2_costBy 5 = .ok (.iload_n 2, 1) := dk_28 (dk_at dksX2_costBy_0 5 rfl rfl)
theorem dX2_costBy_6 : decode cX2_costBy 6 = .ok (.iload_n 3, 1) := dk_29 (dk_at dksX2_costBy_0 6 rfl rfl)
theorem dX2_costBy_7 : decode cX2_costBy 7 = .ok (.invokevirtual 119, 3) := dk_182 0 119 (dk_at dksX2_costBy_0 7 rfl rfl)
theorem dX2_costBy_10 : decode cX2_costBy 10 = .ok (.imul, 1) := dk_104 (dk_at dksX2_costBy_0 10 rfl rfl)
theorem dX2_costBy_11 : decode cX2_costBy 11 = .ok (.aload_n 0, 1) := dk_42 (dk_at dksX2_costBy_0 11 rfl rfl)
theorem dX2_costBy_12 : decode cX2_costBy 12 = .ok (.getfield 13, 3) := dk_180 0 13 (dk_at dksX2_costBy_0 12 rfl rfl)
theorem dX2_costBy_15 : decode cX2_costBy 15 = .ok (.iconst 4, 1) := dk_7 (dk_at dksX2_costBy_0 15 rfl rfl)
theorem dX2_costBy_16 : decode cX2_costBy 16 = .ok (.iload_n 3, 1) := dk_29 (dk_at dksX2_costBy_0 16 rfl rfl)
theorem dX2_costBy_17 : decode cX2_costBy 17 = .ok (.imul, 1) := dk_104 (dk_at dksX2_costBy_0 17 rfl rfl)
theorem dX2_costBy_18 : decode cX2_costBy 18 = .ok (.iconst 3, 1) := dk_6 (dk_at dksX2_costBy_0 18 rfl rfl)
theorem dX2_costBy_19 : decode cX2_costBy 19 = .ok (.iadd, 1) := dk_96 (dk_at dksX2_costBy_0 19 rfl rfl)
theorem dX2_costBy_20 : decode cX2_costBy 20 = .ok (.iaload, 1) := dk_46 (dk_at dksX2_costBy_0 20 rfl rfl)
theorem dX2_costBy_21 : decode cX2_costBy 21 = .ok (.iadd, 1) := dk_96 (dk_at dksX2_costBy_0 21 rfl rfl)
theorem dX2_costBy_22 : decode cX2_costBy 22 = .ok (.ireturn, 1) := dk_172 (dk_at dksX2_costBy_0 22 rfl rfl)
abbrev cX2_hurtsBy : ByteArray := prog_11_method_19_code
def yX2_hurtsBy : MethodName := ⟨RX2, "hurtsBy", "(III)I"⟩
def dkwX2_hurtsBy_4 : List UInt8 := [96, 167, 0, 5, 21, 4, 172]
abbrev dktX2_hurtsBy_4 : List UInt8 := dkwX2_hurtsBy_4 ++ []
def dkwX2_hurtsBy_3 : List UInt8 := [180, 0, 13, 7, 29, 104, 46, 7, 160, 0, 20, 21, 4, 42, 180, 0, 19, 16, 9, 27, 104, 29, 96, 46]
abbrev dktX2_hurtsBy_3 : List UInt8 := dkwX2_hurtsBy_3 ++ dktX2_hurtsBy_4
def dkwX2_hurtsBy_2 : List UInt8 := [180, 0, 13, 7, 29, 104, 46, 153, 0, 8, 21, 4, 156, 0, 7, 3, 167, 0, 5, 21, 4, 54, 4, 42]
abbrev dktX2_hurtsBy_2 : List UInt8 := dkwX2_hurtsBy_2 ++ dktX2_hurtsBy_3
def dkwX2_hurtsBy_1 : List UInt8 := [180, 0, 13, 7, 29, 104, 46, 6, 160, 0, 10, 16, 9, 28, 100, 167, 0, 4, 28, 54, 4, 42]
abbrev dktX2_hurtsBy_1 : List UInt8 := dkwX2_hurtsBy_1 ++ dktX2_hurtsBy_2
def dkwX2_hurtsBy_0 : List UInt8 := [42, 180, 0, 13, 7, 29, 104, 46, 5, 160, 0, 14, 28, 5, 42, 180, 0, 104, 104, 100, 167, 0, 23, 42]
abbrev dktX2_hurtsBy_0 : List UInt8 := dkwX2_hurtsBy_0 ++ dktX2_hurtsBy_1
theorem dksX2_hurtsBy_0 : cX2_hurtsBy.data.toList.drop 0 = dktX2_hurtsBy_0 := by decide +kernel
theorem dksX2_hurtsBy_1 : cX2_hurtsBy.data.toList.drop 24 = dktX2_hurtsBy_1 := dk_seg dksX2_hurtsBy_0 24 rfl rfl
theorem dksX2_hurtsBy_2 : cX2_hurtsBy.data.toList.drop 46 = dktX2_hurtsBy_2 := dk_seg dksX2_hurtsBy_1 22 rfl rfl
theorem dksX2_hurtsBy_3 : cX2_hurtsBy.data.toList.drop 70 = dktX2_hurtsBy_3 := dk_seg dksX2_hurtsBy_2 24 rfl rfl
theorem dksX2_hurtsBy_4 : cX2_hurtsBy.data.toList.drop 94 = dktX2_hurtsBy_4 := dk_seg dksX2_hurtsBy_3 24 rfl rfl
theorem dX2_hurtsBy_0 : decode cX2_hurtsBy 0 = .ok (.aload_n 0, 1) := dk_42 (dk_at dksX2_hurtsBy_0 0 rfl rfl)
theorem dX2_hurtsBy_1 : decode cX2_hurtsBy 1 = .ok (.getfield 13, 3) := dk_180 0 13 (dk_at dksX2_hurtsBy_0 1 rfl rfl)
theorem dX2_hurtsBy_4 : decode cX2_hurtsBy 4 = .ok (.iconst 4, 1) := dk_7 (dk_at dksX2_hurtsBy_0 4 rfl rfl)
theorem dX2_hurtsBy_5 : decode cX2_hurtsBy 5 = .ok (.iload_n 3, 1) := dk_29 (dk_at dksX2_hurtsBy_0 5 rfl rfl)
theorem dX2_hurtsBy_6 : decode cX2_hurtsBy 6 = .ok (.imul, 1) := dk_104 (dk_at dksX2_hurtsBy_0 6 rfl rfl)
theorem dX2_hurtsBy_7 : decode cX2_hurtsBy 7 = .ok (.iaload, 1) := dk_46 (dk_at dksX2_hurtsBy_0 7 rfl rfl)
theorem dX2_hurtsBy_8 : decode cX2_hurtsBy 8 = .ok (.iconst 2, 1) := dk_5 (dk_at dksX2_hurtsBy_0 8 rfl rfl)
theorem dX2_hurtsBy_9 : decode cX2_hurtsBy 9 = .ok (.if_icmp .ne 14, 3) := dk_160 0 14 (dk_at dksX2_hurtsBy_0 9 rfl rfl)
theorem dX2_hurtsBy_12 : decode cX2_hurtsBy 12 = .ok (.iload_n 2, 1) := dk_28 (dk_at dksX2_hurtsBy_0 12 rfl rfl)
theorem dX2_hurtsBy_13 : decode cX2_hurtsBy 13 = .ok (.iconst 2, 1) := dk_5 (dk_at dksX2_hurtsBy_0 13 rfl rfl)
theorem dX2_hurtsBy_14 : decode cX2_hurtsBy 14 = .ok (.aload_n 0, 1) := dk_42 (dk_at dksX2_hurtsBy_0 14 rfl rfl)
theorem dX2_hurtsBy_15 : decode cX2_hurtsBy 15 = .ok (.getfield 104, 3) := dk_180 0 104 (dk_at dksX2_hurtsBy_0 15 rfl rfl)
theorem dX2_hurtsBy_18 : decode cX2_hurtsBy 18 = .ok (.imul, 1) := dk_104 (dk_at dksX2_hurtsBy_0 18 rfl rfl)
theorem dX2_hurtsBy_19 : decode cX2_hurtsBy 19 = .ok (.isub, 1) := dk_100 (dk_at dksX2_hurtsBy_0 19 rfl rfl)
theorem dX2_hurtsBy_20 : decode cX2_hurtsBy 20 = .ok (.goto 23, 3) := dk_167 0 23 (dk_at dksX2_hurtsBy_0 20 rfl rfl)
theorem dX2_hurtsBy_23 : decode cX2_hurtsBy 23 = .ok (.aload_n 0, 1) := dk_42 (dk_at dksX2_hurtsBy_0 23 rfl rfl)
theorem dX2_hurtsBy_24 : decode cX2_hurtsBy 24 = .ok (.getfield 13, 3) := dk_180 0 13 (dk_at dksX2_hurtsBy_1 0 rfl rfl)
theorem dX2_hurtsBy_27 : decode cX2_hurtsBy 27 = .ok (.iconst 4, 1) := dk_7 (dk_at dksX2_hurtsBy_1 3 rfl rfl)
theorem dX2_hurtsBy_28 : decode cX2_hurtsBy 28 = .ok (.iload_n 3, 1) := dk_29 (dk_at dksX2_hurtsBy_1 4 rfl rfl)
theorem dX2_hurtsBy_29 : decode cX2_hurtsBy 29 = .ok (.imul, 1) := dk_104 (dk_at dksX2_hurtsBy_1 5 rfl rfl)
theorem dX2_hurtsBy_30 : decode cX2_hurtsBy 30 = .ok (.iaload, 1) := dk_46 (dk_at dksX2_hurtsBy_1 6 rfl rfl)
theorem dX2_hurtsBy_31 : decode cX2_hurtsBy 31 = .ok (.iconst 3, 1) := dk_6 (dk_at dksX2_hurtsBy_1 7 rfl rfl)
theorem dX2_hurtsBy_32 : decode cX2_hurtsBy 32 = .ok (.if_icmp .ne 10, 3) := dk_160 0 10 (dk_at dksX2_hurtsBy_1 8 rfl rfl)
theorem dX2_hurtsBy_35 : decode cX2_hurtsBy 35 = .ok (.bipush 9, 2) := dk_16 9 (dk_at dksX2_hurtsBy_1 11 rfl rfl)
theorem dX2_hurtsBy_37 : decode cX2_hurtsBy 37 = .ok (.iload_n 2, 1) := dk_28 (dk_at dksX2_hurtsBy_1 13 rfl rfl)
theorem dX2_hurtsBy_38 : decode cX2_hurtsBy 38 = .ok (.isub, 1) := dk_100 (dk_at dksX2_hurtsBy_1 14 rfl rfl)
theorem dX2_hurtsBy_39 : decode cX2_hurtsBy 39 = .ok (.goto 4, 3) := dk_167 0 4 (dk_at dksX2_hurtsBy_1 15 rfl rfl)
theorem dX2_hurtsBy_42 : decode cX2_hurtsBy 42 = .ok (.iload_n 2, 1) := dk_28 (dk_at dksX2_hurtsBy_1 18 rfl rfl)
theorem dX2_hurtsBy_43 : decode cX2_hurtsBy 43 = .ok (.istore 4, 2) := dk_54 4 (dk_at dksX2_hurtsBy_1 19 rfl rfl)
theorem dX2_hurtsBy_45 : decode cX2_hurtsBy 45 = .ok (.aload_n 0, 1) := dk_42 (dk_at dksX2_hurtsBy_1 21 rfl rfl)
theorem dX2_hurtsBy_46 : decode cX2_hurtsBy 46 = .ok (.getfield 13, 3) := dk_180 0 13 (dk_at dksX2_hurtsBy_2 0 rfl rfl)
theorem dX2_hurtsBy_49 : decode cX2_hurtsBy 49 = .ok (.iconst 4, 1) := dk_7 (dk_at dksX2_hurtsBy_2 3 rfl rfl)
theorem dX2_hurtsBy_50 : decode cX2_hurtsBy 50 = .ok (.iload_n 3, 1) := dk_29 (dk_at dksX2_hurtsBy_2 4 rfl rfl)
theorem dX2_hurtsBy_51 : decode cX2_hurtsBy 51 = .ok (.imul, 1) := dk_104 (dk_at dksX2_hurtsBy_2 5 rfl rfl)
theorem dX2_hurtsBy_52 : decode cX2_hurtsBy 52 = .ok (.iaload, 1) := dk_46 (dk_at dksX2_hurtsBy_2 6 rfl rfl)
theorem dX2_hurtsBy_53 : decode cX2_hurtsBy 53 = .ok (.ifCond .eq 8, 3) := dk_153 0 8 (dk_at dksX2_hurtsBy_2 7 rfl rfl)
theorem dX2_hurtsBy_56 : decode cX2_hurtsBy 56 = .ok (.iload 4, 2) := dk_21 4 (dk_at dksX2_hurtsBy_2 10 rfl rfl)
theorem dX2_hurtsBy_58 : decode cX2_hurtsBy 58 = .ok (.ifCond .ge 7, 3) := dk_156 0 7 (dk_at dksX2_hurtsBy_2 12 rfl rfl)
theorem dX2_hurtsBy_61 : decode cX2_hurtsBy 61 = .ok (.iconst 0, 1) := dk_3 (dk_at dksX2_hurtsBy_2 15 rfl rfl)
theorem dX2_hurtsBy_62 : decode cX2_hurtsBy 62 = .ok (.goto 5, 3) := dk_167 0 5 (dk_at dksX2_hurtsBy_2 16 rfl rfl)
theorem dX2_hurtsBy_65 : decode cX2_hurtsBy 65 = .ok (.iload 4, 2) := dk_21 4 (dk_at dksX2_hurtsBy_2 19 rfl rfl)
theorem dX2_hurtsBy_67 : decode cX2_hurtsBy 67 = .ok (.istore 4, 2) := dk_54 4 (dk_at dksX2_hurtsBy_2 21 rfl rfl)
theorem dX2_hurtsBy_69 : decode cX2_hurtsBy 69 = .ok (.aload_n 0, 1) := dk_42 (dk_at dksX2_hurtsBy_2 23 rfl rfl)
theorem dX2_hurtsBy_70 : decode cX2_hurtsBy 70 = .ok (.getfield 13, 3) := dk_180 0 13 (dk_at dksX2_hurtsBy_3 0 rfl rfl)
theorem dX2_hurtsBy_73 : decode cX2_hurtsBy 73 = .ok (.iconst 4, 1) := dk_7 (dk_at dksX2_hurtsBy_3 3 rfl rfl)
theorem dX2_hurtsBy_74 : decode cX2_hurtsBy 74 = .ok (.iload_n 3, 1) := dk_29 (dk_at dksX2_hurtsBy_3 4 rfl rfl)
theorem dX2_hurtsBy_75 : decode cX2_hurtsBy 75 = .ok (.imul, 1) := dk_104 (dk_at dksX2_hurtsBy_3 5 rfl rfl)
theorem dX2_hurtsBy_76 : decode cX2_hurtsBy 76 = .ok (.iaload, 1) := dk_46 (dk_at dksX2_hurtsBy_3 6 rfl rfl)
theorem dX2_hurtsBy_77 : decode cX2_hurtsBy 77 = .ok (.iconst 4, 1) := dk_7 (dk_at dksX2_hurtsBy_3 7 rfl rfl)
theorem dX2_hurtsBy_78 : decode cX2_hurtsBy 78 = .ok (.if_icmp .ne 20, 3) := dk_160 0 20 (dk_at dksX2_hurtsBy_3 8 rfl rfl)
theorem dX2_hurtsBy_81 : decode cX2_hurtsBy 81 = .ok (.iload 4, 2) := dk_21 4 (dk_at dksX2_hurtsBy_3 11 rfl rfl)
theorem dX2_hurtsBy_83 : decode cX2_hurtsBy 83 = .ok (.aload_n 0, 1) := dk_42 (dk_at dksX2_hurtsBy_3 13 rfl rfl)
theorem dX2_hurtsBy_84 : decode cX2_hurtsBy 84 = .ok (.getfield 19, 3) := dk_180 0 19 (dk_at dksX2_hurtsBy_3 14 rfl rfl)
theorem dX2_hurtsBy_87 : decode cX2_hurtsBy 87 = .ok (.bipush 9, 2) := dk_16 9 (dk_at dksX2_hurtsBy_3 17 rfl rfl)
theorem dX2_hurtsBy_89 : decode cX2_hurtsBy 89 = .ok (.iload_n 1, 1) := dk_27 (dk_at dksX2_hurtsBy_3 19 rfl rfl)
theorem dX2_hurtsBy_90 : decode cX2_hurtsBy 90 = .ok (.imul, 1) := dk_104 (dk_at dksX2_hurtsBy_3 20 rfl rfl)
theorem dX2_hurtsBy_91 : decode cX2_hurtsBy 91 = .ok (.iload_n 3, 1) := dk_29 (dk_at dksX2_hurtsBy_3 21 rfl rfl)
theorem dX2_hurtsBy_92 : decode cX2_hurtsBy 92 = .ok (.iadd, 1) := dk_96 (dk_at dksX2_hurtsBy_3 22 rfl rfl)
theorem dX2_hurtsBy_93 : decode cX2_hurtsBy 93 = .ok (.iaload, 1) := dk_46 (dk_at dksX2_hurtsBy_3 23 rfl rfl)
theorem dX2_hurtsBy_94 : decode cX2_hurtsBy 94 = .ok (.iadd, 1) := dk_96 (dk_at dksX2_hurtsBy_4 0 rfl rfl)
theorem dX2_hurtsBy_95 : decode cX2_hurtsBy 95 = .ok (.goto 5, 3) := dk_167 0 5 (dk_at dksX2_hurtsBy_4 1 rfl rfl)
theorem dX2_hurtsBy_98 : decode cX2_hurtsBy 98 = .ok (.iload 4, 2) := dk_21 4 (dk_at dksX2_hurtsBy_4 4 rfl rfl)
theorem dX2_hurtsBy_100 : decode cX2_hurtsBy 100 = .ok (.ireturn, 1) := dk_172 (dk_at dksX2_hurtsBy_4 6 rfl rfl)
abbrev cX2_firstStreet : ByteArray := prog_11_method_24_code
def yX2_firstStreet : MethodName := ⟨RX2, "firstStreet", "(IIII)I"⟩
def dkwX2_firstStreet_4 : List UInt8 := [21, 5, 172]
abbrev dktX2_firstStreet_4 : List UInt8 := dkwX2_firstStreet_4 ++ []
def dkwX2_firstStreet_3 : List UInt8 := [180, 0, 25, 29, 46, 160, 0, 8, 21, 6, 167, 0, 5, 21, 5, 54, 5, 132, 6, 255, 167, 255, 177]
abbrev dktX2_firstStreet_3 : List UInt8 := dkwX2_firstStreet_3 ++ dktX2_firstStreet_4
def dkwX2_firstStreet_2 : List UInt8 := [46, 18, 123, 162, 0, 37, 42, 180, 0, 25, 21, 7, 46, 42, 27, 28, 21, 6, 182, 0, 124, 96, 42]
abbrev dktX2_firstStreet_2 : List UInt8 := dkwX2_firstStreet_2 ++ dktX2_firstStreet_3
def dkwX2_firstStreet_1 : List UInt8 := [54, 7, 21, 4, 21, 6, 122, 4, 126, 4, 160, 0, 54, 21, 7, 2, 159, 0, 48, 42, 180, 0, 25, 29]
abbrev dktX2_firstStreet_1 : List UInt8 := dkwX2_firstStreet_1 ++ dktX2_firstStreet_2
def dkwX2_firstStreet_0 : List UInt8 := [2, 54, 5, 42, 180, 0, 101, 4, 100, 54, 6, 21, 6, 155, 0, 80, 42, 21, 6, 29, 182, 0, 127]
abbrev dktX2_firstStreet_0 : List UInt8 := dkwX2_firstStreet_0 ++ dktX2_firstStreet_1
theorem dksX2_firstStreet_0 : cX2_firstStreet.data.toList.drop 0 = dktX2_firstStreet_0 := by decide +kernel
theorem dksX2_firstStreet_1 : cX2_firstStreet.data.toList.drop 23 = dktX2_firstStreet_1 := dk_seg dksX2_firstStreet_0 23 rfl rfl
theorem dksX2_firstStreet_2 : cX2_firstStreet.data.toList.drop 47 = dktX2_firstStreet_2 := dk_seg dksX2_firstStreet_1 24 rfl rfl
theorem dksX2_firstStreet_3 : cX2_firstStreet.data.toList.drop 70 = dktX2_firstStreet_3 := dk_seg dksX2_firstStreet_2 23 rfl rfl
theorem dksX2_firstStreet_4 : cX2_firstStreet.data.toList.drop 93 = dktX2_firstStreet_4 := dk_seg dksX2_firstStreet_3 23 rfl rfl
theorem dX2_firstStreet_0 : decode cX2_firstStreet 0 = .ok (.iconst (-1), 1) := dk_2 (dk_at dksX2_firstStreet_0 0 rfl rfl)
theorem dX2_firstStreet_1 : decode cX2_firstStreet 1 = .ok (.istore 5, 2) := dk_54 5 (dk_at dksX2_firstStreet_0 1 rfl rfl)
theorem dX2_firstStreet_3 : decode cX2_firstStreet 3 = .ok (.aload_n 0, 1) := dk_42 (dk_at dksX2_firstStreet_0 3 rfl rfl)
theorem dX2_firstStreet_4 : decode cX2_firstStreet 4 = .ok (.getfield 101, 3) := dk_180 0 101 (dk_at dksX2_firstStreet_0 4 rfl rfl)
theorem dX2_firstStreet_7 : decode cX2_firstStreet 7 = .ok (.iconst 1, 1) := dk_4 (dk_at dksX2_firstStreet_0 7 rfl rfl)
theorem dX2_firstStreet_8 : decode cX2_firstStreet 8 = .ok (.isub, 1) := dk_100 (dk_at dksX2_firstStreet_0 8 rfl rfl)
theorem dX2_firstStreet_9 : decode cX2_firstStreet 9 = .ok (.istore 6, 2) := dk_54 6 (dk_at dksX2_firstStreet_0 9 rfl rfl)
theorem dX2_firstStreet_11 : decode cX2_firstStreet 11 = .ok (.iload 6, 2) := dk_21 6 (dk_at dksX2_firstStreet_0 11 rfl rfl)
theorem dX2_firstStreet_13 : decode cX2_firstStreet 13 = .ok (.ifCond .lt 80, 3) := dk_155 0 80 (dk_at dksX2_firstStreet_0 13 rfl rfl)
theorem dX2_firstStreet_16 : decode cX2_firstStreet 16 = .ok (.aload_n 0, 1) := dk_42 (dk_at dksX2_firstStreet_0 16 rfl rfl)
theorem dX2_firstStreet_17 : decode cX2_firstStreet 17 = .ok (.iload 6, 2) := dk_21 6 (dk_at dksX2_firstStreet_0 17 rfl rfl)
theorem dX2_firstStreet_19 : decode cX2_firstStreet 19 = .ok (.iload_n 3, 1) := dk_29 (dk_at dksX2_firstStreet_0 19 rfl rfl)
theorem dX2_firstStreet_20 : decode cX2_firstStreet 20 = .ok (.invokevirtual 127, 3) := dk_182 0 127 (dk_at dksX2_firstStreet_0 20 rfl rfl)
theorem dX2_firstStreet_23 : decode cX2_firstStreet 23 = .ok (.istore 7, 2) := dk_54 7 (dk_at dksX2_firstStreet_1 0 rfl rfl)
theorem dX2_firstStreet_25 : decode cX2_firstStreet 25 = .ok (.iload 4, 2) := dk_21 4 (dk_at dksX2_firstStreet_1 2 rfl rfl)
theorem dX2_firstStreet_27 : decode cX2_firstStreet 27 = .ok (.iload 6, 2) := dk_21 6 (dk_at dksX2_firstStreet_1 4 rfl rfl)
theorem dX2_firstStreet_29 : decode cX2_firstStreet 29 = .ok (.ishr, 1) := dk_122 (dk_at dksX2_firstStreet_1 6 rfl rfl)
theorem dX2_firstStreet_30 : decode cX2_firstStreet 30 = .ok (.iconst 1, 1) := dk_4 (dk_at dksX2_firstStreet_1 7 rfl rfl)
theorem dX2_firstStreet_31 : decode cX2_firstStreet 31 = .ok (.iand, 1) := dk_126 (dk_at dksX2_firstStreet_1 8 rfl rfl)
theorem dX2_firstStreet_32 : decode cX2_firstStreet 32 = .ok (.iconst 1, 1) := dk_4 (dk_at dksX2_firstStreet_1 9 rfl rfl)
theorem dX2_firstStreet_33 : decode cX2_firstStreet 33 = .ok (.if_icmp .ne 54, 3) := dk_160 0 54 (dk_at dksX2_firstStreet_1 10 rfl rfl)
theorem dX2_firstStreet_36 : decode cX2_firstStreet 36 = .ok (.iload 7, 2) := dk_21 7 (dk_at dksX2_firstStreet_1 13 rfl rfl)
theorem dX2_firstStreet_38 : decode cX2_firstStreet 38 = .ok (.iconst (-1), 1) := dk_2 (dk_at dksX2_firstStreet_1 15 rfl rfl)
theorem dX2_firstStreet_39 : decode cX2_firstStreet 39 = .ok (.if_icmp .eq 48, 3) := dk_159 0 48 (dk_at dksX2_firstStreet_1 16 rfl rfl)
theorem dX2_firstStreet_42 : decode cX2_firstStreet 42 = .ok (.aload_n 0, 1) := dk_42 (dk_at dksX2_firstStreet_1 19 rfl rfl)
theorem dX2_firstStreet_43 : decode cX2_firstStreet 43 = .ok (.getfield 25, 3) := dk_180 0 25 (dk_at dksX2_firstStreet_1 20 rfl rfl)
theorem dX2_firstStreet_46 : decode cX2_firstStreet 46 = .ok (.iload_n 3, 1) := dk_29 (dk_at dksX2_firstStreet_1 23 rfl rfl)
theorem dX2_firstStreet_47 : decode cX2_firstStreet 47 = .ok (.iaload, 1) := dk_46 (dk_at dksX2_firstStreet_2 0 rfl rfl)
theorem dX2_firstStreet_48 : decode cX2_firstStreet 48 = .ok (.ldc 123, 2) := dk_18 123 (dk_at dksX2_firstStreet_2 1 rfl rfl)
theorem dX2_firstStreet_50 : decode cX2_firstStreet 50 = .ok (.if_icmp .ge 37, 3) := dk_162 0 37 (dk_at dksX2_firstStreet_2 3 rfl rfl)
theorem dX2_firstStreet_53 : decode cX2_firstStreet 53 = .ok (.aload_n 0, 1) := dk_42 (dk_at dksX2_firstStreet_2 6 rfl rfl)
theorem dX2_firstStreet_54 : decode cX2_firstStreet 54 = .ok (.getfield 25, 3) := dk_180 0 25 (dk_at dksX2_firstStreet_2 7 rfl rfl)
theorem dX2_firstStreet_57 : decode cX2_firstStreet 57 = .ok (.iload 7, 2) := dk_21 7 (dk_at dksX2_firstStreet_2 10 rfl rfl)
theorem dX2_firstStreet_59 : decode cX2_firstStreet 59 = .ok (.iaload, 1) := dk_46 (dk_at dksX2_firstStreet_2 12 rfl rfl)
theorem dX2_firstStreet_60 : decode cX2_firstStreet 60 = .ok (.aload_n 0, 1) := dk_42 (dk_at dksX2_firstStreet_2 13 rfl rfl)
theorem dX2_firstStreet_61 : decode cX2_firstStreet 61 = .ok (.iload_n 1, 1) := dk_27 (dk_at dksX2_firstStreet_2 14 rfl rfl)
theorem dX2_firstStreet_62 : decode cX2_firstStreet 62 = .ok (.iload_n 2, 1) := dk_28 (dk_at dksX2_firstStreet_2 15 rfl rfl)
theorem dX2_firstStreet_63 : decode cX2_firstStreet 63 = .ok (.iload 6, 2) := dk_21 6 (dk_at dksX2_firstStreet_2 16 rfl rfl)
theorem dX2_firstStreet_65 : decode cX2_firstStreet 65 = .ok (.invokevirtual 124, 3) := dk_182 0 124 (dk_at dksX2_firstStreet_2 18 rfl rfl)
theorem dX2_firstStreet_68 : decode cX2_firstStreet 68 = .ok (.iadd, 1) := dk_96 (dk_at dksX2_firstStreet_2 21 rfl rfl)
theorem dX2_firstStreet_69 : decode cX2_firstStreet 69 = .ok (.aload_n 0, 1) := dk_42 (dk_at dksX2_firstStreet_2 22 rfl rfl)
theorem dX2_firstStreet_70 : decode cX2_firstStreet 70 = .ok (.getfield 25, 3) := dk_180 0 25 (dk_at dksX2_firstStreet_3 0 rfl rfl)
theorem dX2_firstStreet_73 : decode cX2_firstStreet 73 = .ok (.iload_n 3, 1) := dk_29 (dk_at dksX2_firstStreet_3 3 rfl rfl)
theorem dX2_firstStreet_74 : decode cX2_firstStreet 74 = .ok (.iaload, 1) := dk_46 (dk_at dksX2_firstStreet_3 4 rfl rfl)
theorem dX2_firstStreet_75 : decode cX2_firstStreet 75 = .ok (.if_icmp .ne 8, 3) := dk_160 0 8 (dk_at dksX2_firstStreet_3 5 rfl rfl)
theorem dX2_firstStreet_78 : decode cX2_firstStreet 78 = .ok (.iload 6, 2) := dk_21 6 (dk_at dksX2_firstStreet_3 8 rfl rfl)
theorem dX2_firstStreet_80 : decode cX2_firstStreet 80 = .ok (.goto 5, 3) := dk_167 0 5 (dk_at dksX2_firstStreet_3 10 rfl rfl)
theorem dX2_firstStreet_83 : decode cX2_firstStreet 83 = .ok (.iload 5, 2) := dk_21 5 (dk_at dksX2_firstStreet_3 13 rfl rfl)
theorem dX2_firstStreet_85 : decode cX2_firstStreet 85 = .ok (.istore 5, 2) := dk_54 5 (dk_at dksX2_firstStreet_3 15 rfl rfl)
theorem dX2_firstStreet_87 : decode cX2_firstStreet 87 = .ok (.iinc 6 (-1), 3) := dk_132 6 255 (dk_at dksX2_firstStreet_3 17 rfl rfl)
theorem dX2_firstStreet_90 : decode cX2_firstStreet 90 = .ok (.goto (-79), 3) := dk_167 255 177 (dk_at dksX2_firstStreet_3 20 rfl rfl)
theorem dX2_firstStreet_93 : decode cX2_firstStreet 93 = .ok (.iload 5, 2) := dk_21 5 (dk_at dksX2_firstStreet_4 0 rfl rfl)
theorem dX2_firstStreet_95 : decode cX2_firstStreet 95 = .ok (.ireturn, 1) := dk_172 (dk_at dksX2_firstStreet_4 2 rfl rfl)
abbrev cX2_beyond : ByteArray := prog_11_method_22_code
def yX2_beyond : MethodName := ⟨RX2, "beyond", "(II)I"⟩
def dkwX2_beyond_2 : List UInt8 := [4, 96, 46, 167, 0, 4, 2, 172]
abbrev dktX2_beyond_2 : List UInt8 := dkwX2_beyond_2 ++ []
def dkwX2_beyond_1 : List UInt8 := [167, 0, 31, 42, 180, 0, 13, 7, 27, 104, 5, 96, 46, 28, 160, 0, 16, 42, 180, 0, 13, 7, 27, 104]
abbrev dktX2_beyond_1 : List UInt8 := dkwX2_beyond_1 ++ dktX2_beyond_2
def dkwX2_beyond_0 : List UInt8 := [42, 180, 0, 13, 7, 27, 104, 4, 96, 46, 28, 160, 0, 16, 42, 180, 0, 13, 7, 27, 104, 5, 96, 46]
abbrev dktX2_beyond_0 : List UInt8 := dkwX2_beyond_0 ++ dktX2_beyond_1
theorem dksX2_beyond_0 : cX2_beyond.data.toList.drop 0 = dktX2_beyond_0 := by decide +kernel
theorem dksX2_beyond_1 : cX2_beyond.data.toList.drop 24 = dktX2_beyond_1 := dk_seg dksX2_beyond_0 24 rfl rfl
theorem dksX2_beyond_2 : cX2_beyond.data.toList.drop 48 = dktX2_beyond_2 := dk_seg dksX2_beyond_1 24 rfl rfl
theorem dX2_beyond_0 : decode cX2_beyond 0 = .ok (.aload_n 0, 1) := dk_42 (dk_at dksX2_beyond_0 0 rfl rfl)
theorem dX2_beyond_1 : decode cX2_beyond 1 = .ok (.getfield 13, 3) := dk_180 0 13 (dk_at dksX2_beyond_0 1 rfl rfl)
theorem dX2_beyond_4 : decode cX2_beyond 4 = .ok (.iconst 4, 1) := dk_7 (dk_at dksX2_beyond_0 4 rfl rfl)
theorem dX2_beyond_5 : decode cX2_beyond 5 = .ok (.iload_n 1, 1) := dk_27 (dk_at dksX2_beyond_0 5 rfl rfl)
theorem dX2_beyond_6 : decode cX2_beyond 6 = .ok (.imul, 1) := dk_104 (dk_at dksX2_beyond_0 6 rfl rfl)
theorem dX2_beyond_7 : decode cX2_beyond 7 = .ok (.iconst 1, 1) := dk_4 (dk_at dksX2_beyond_0 7 rfl rfl)
theorem dX2_beyond_8 : decode cX2_beyond 8 = .ok (.iadd, 1) := dk_96 (dk_at dksX2_beyond_0 8 rfl rfl)
theorem dX2_beyond_9 : decode cX2_beyond 9 = .ok (.iaload, 1) := dk_46 (dk_at dksX2_beyond_0 9 rfl rfl)
theorem dX2_beyond_10 : decode cX2_beyond 10 = .ok (.iload_n 2, 1) := dk_28 (dk_at dksX2_beyond_0 10 rfl rfl)
theorem dX2_beyond_11 : decode cX2_beyond 11 = .ok (.if_icmp .ne 16, 3) := dk_160 0 16 (dk_at dksX2_beyond_0 11 rfl rfl)
theorem dX2_beyond_14 : decode cX2_beyond 14 = .ok (.aload_n 0, 1) := dk_42 (dk_at dksX2_beyond_0 14 rfl rfl)
theorem dX2_beyond_15 : decode cX2_beyond 15 = .ok (.getfield 13, 3) := dk_180 0 13 (dk_at dksX2_beyond_0 15 rfl rfl)
theorem dX2_beyond_18 : decode cX2_beyond 18 = .ok (.iconst 4, 1) := dk_7 (dk_at dksX2_beyond_0 18 rfl rfl)
theorem dX2_beyond_19 : decode cX2_beyond 19 = .ok (.iload_n 1, 1) := dk_27 (dk_at dksX2_beyond_0 19 rfl rfl)
theorem dX2_beyond_20 : decode cX2_beyond 20 = .ok (.imul, 1) := dk_104 (dk_at dksX2_beyond_0 20 rfl rfl)
theorem dX2_beyond_21 : decode cX2_beyond 21 = .ok (.iconst 2, 1) := dk_5 (dk_at dksX2_beyond_0 21 rfl rfl)
theorem dX2_beyond_22 : decode cX2_beyond 22 = .ok (.iadd, 1) := dk_96 (dk_at dksX2_beyond_0 22 rfl rfl)
theorem dX2_beyond_23 : decode cX2_beyond 23 = .ok (.iaload, 1) := dk_46 (dk_at dksX2_beyond_0 23 rfl rfl)
theorem dX2_beyond_24 : decode cX2_beyond 24 = .ok (.goto 31, 3) := dk_167 0 31 (dk_at dksX2_beyond_1 0 rfl rfl)
theorem dX2_beyond_27 : decode cX2_beyond 27 = .ok (.aload_n 0, 1) := dk_42 (dk_at dksX2_beyond_1 3 rfl rfl)
theorem dX2_beyond_28 : decode cX2_beyond 28 = .ok (.getfield 13, 3) := dk_180 0 13 (dk_at dksX2_beyond_1 4 rfl rfl)
theorem dX2_beyond_31 : decode cX2_beyond 31 = .ok (.iconst 4, 1) := dk_7 (dk_at dksX2_beyond_1 7 rfl rfl)
theorem dX2_beyond_32 : decode cX2_beyond 32 = .ok (.iload_n 1, 1) := dk_27 (dk_at dksX2_beyond_1 8 rfl rfl)
theorem dX2_beyond_33 : decode cX2_beyond 33 = .ok (.imul, 1) := dk_104 (dk_at dksX2_beyond_1 9 rfl rfl)
theorem dX2_beyond_34 : decode cX2_beyond 34 = .ok (.iconst 2, 1) := dk_5 (dk_at dksX2_beyond_1 10 rfl rfl)
theorem dX2_beyond_35 : decode cX2_beyond 35 = .ok (.iadd, 1) := dk_96 (dk_at dksX2_beyond_1 11 rfl rfl)
theorem dX2_beyond_36 : decode cX2_beyond 36 = .ok (.iaload, 1) := dk_46 (dk_at dksX2_beyond_1 12 rfl rfl)
theorem dX2_beyond_37 : decode cX2_beyond 37 = .ok (.iload_n 2, 1) := dk_28 (dk_at dksX2_beyond_1 13 rfl rfl)
theorem dX2_beyond_38 : decode cX2_beyond 38 = .ok (.if_icmp .ne 16, 3) := dk_160 0 16 (dk_at dksX2_beyond_1 14 rfl rfl)
theorem dX2_beyond_41 : decode cX2_beyond 41 = .ok (.aload_n 0, 1) := dk_42 (dk_at dksX2_beyond_1 17 rfl rfl)
theorem dX2_beyond_42 : decode cX2_beyond 42 = .ok (.getfield 13, 3) := dk_180 0 13 (dk_at dksX2_beyond_1 18 rfl rfl)
theorem dX2_beyond_45 : decode cX2_beyond 45 = .ok (.iconst 4, 1) := dk_7 (dk_at dksX2_beyond_1 21 rfl rfl)
theorem dX2_beyond_46 : decode cX2_beyond 46 = .ok (.iload_n 1, 1) := dk_27 (dk_at dksX2_beyond_1 22 rfl rfl)
theorem dX2_beyond_47 : decode cX2_beyond 47 = .ok (.imul, 1) := dk_104 (dk_at dksX2_beyond_1 23 rfl rfl)
theorem dX2_beyond_48 : decode cX2_beyond 48 = .ok (.iconst 1, 1) := dk_4 (dk_at dksX2_beyond_2 0 rfl rfl)
theorem dX2_beyond_49 : decode cX2_beyond 49 = .ok (.iadd, 1) := dk_96 (dk_at dksX2_beyond_2 1 rfl rfl)
theorem dX2_beyond_50 : decode cX2_beyond 50 = .ok (.iaload, 1) := dk_46 (dk_at dksX2_beyond_2 2 rfl rfl)
theorem dX2_beyond_51 : decode cX2_beyond 51 = .ok (.goto 4, 3) := dk_167 0 4 (dk_at dksX2_beyond_2 3 rfl rfl)
theorem dX2_beyond_54 : decode cX2_beyond 54 = .ok (.iconst (-1), 1) := dk_2 (dk_at dksX2_beyond_2 6 rfl rfl)
theorem dX2_beyond_55 : decode cX2_beyond 55 = .ok (.ireturn, 1) := dk_172 (dk_at dksX2_beyond_2 7 rfl rfl)
abbrev cX2_within : ByteArray := prog_11_method_31_code
def yX2_within : MethodName := ⟨RX2, "within", "(IIII)I"⟩
def dkwX2_within_1 : List UInt8 := [153, 0, 15, 42, 27, 28, 29, 21, 4, 182, 0, 173, 167, 0, 5, 16, 154, 172]
abbrev dktX2_within_1 : List UInt8 := dkwX2_within_1 ++ []
def dkwX2_within_0 : List UInt8 := [42, 27, 28, 29, 182, 0, 151, 154, 0, 6, 16, 155, 172, 21, 4, 133, 9, 20, 0, 171, 184, 0, 64]
abbrev dktX2_within_0 : List UInt8 := dkwX2_within_0 ++ dktX2_within_1
theorem dksX2_within_0 : cX2_within.data.toList.drop 0 = dktX2_within_0 := by decide +kernel
theorem dksX2_within_1 : cX2_within.data.toList.drop 23 = dktX2_within_1 := dk_seg dksX2_within_0 23 rfl rfl
theorem dX2_within_0 : decode cX2_within 0 = .ok (.aload_n 0, 1) := dk_42 (dk_at dksX2_within_0 0 rfl rfl)
theorem dX2_within_1 : decode cX2_within 1 = .ok (.iload_n 1, 1) := dk_27 (dk_at dksX2_within_0 1 rfl rfl)
theorem dX2_within_2 : decode cX2_within 2 = .ok (.iload_n 2, 1) := dk_28 (dk_at dksX2_within_0 2 rfl rfl)
theorem dX2_within_3 : decode cX2_within 3 = .ok (.iload_n 3, 1) := dk_29 (dk_at dksX2_within_0 3 rfl rfl)
theorem dX2_within_4 : decode cX2_within 4 = .ok (.invokevirtual 151, 3) := dk_182 0 151 (dk_at dksX2_within_0 4 rfl rfl)
theorem dX2_within_7 : decode cX2_within 7 = .ok (.ifCond .ne 6, 3) := dk_154 0 6 (dk_at dksX2_within_0 7 rfl rfl)
theorem dX2_within_10 : decode cX2_within 10 = .ok (.bipush (-101), 2) := dk_16 155 (dk_at dksX2_within_0 10 rfl rfl)
theorem dX2_within_12 : decode cX2_within 12 = .ok (.ireturn, 1) := dk_172 (dk_at dksX2_within_0 12 rfl rfl)
theorem dX2_within_13 : decode cX2_within 13 = .ok (.iload 4, 2) := dk_21 4 (dk_at dksX2_within_0 13 rfl rfl)
theorem dX2_within_15 : decode cX2_within 15 = .ok (.i2l, 1) := dk_133 (dk_at dksX2_within_0 15 rfl rfl)
theorem dX2_within_16 : decode cX2_within 16 = .ok (.lconst 0, 1) := dk_9 (dk_at dksX2_within_0 16 rfl rfl)
theorem dX2_within_17 : decode cX2_within 17 = .ok (.ldc2_w 171, 3) := dk_20 0 171 (dk_at dksX2_within_0 17 rfl rfl)
theorem dX2_within_20 : decode cX2_within 20 = .ok (.invokestatic 64, 3) := dk_184 0 64 (dk_at dksX2_within_0 20 rfl rfl)
theorem dX2_within_23 : decode cX2_within 23 = .ok (.ifCond .eq 15, 3) := dk_153 0 15 (dk_at dksX2_within_1 0 rfl rfl)
theorem dX2_within_26 : decode cX2_within 26 = .ok (.aload_n 0, 1) := dk_42 (dk_at dksX2_within_1 3 rfl rfl)
theorem dX2_within_27 : decode cX2_within 27 = .ok (.iload_n 1, 1) := dk_27 (dk_at dksX2_within_1 4 rfl rfl)
theorem dX2_within_28 : decode cX2_within 28 = .ok (.iload_n 2, 1) := dk_28 (dk_at dksX2_within_1 5 rfl rfl)
theorem dX2_within_29 : decode cX2_within 29 = .ok (.iload_n 3, 1) := dk_29 (dk_at dksX2_within_1 6 rfl rfl)
theorem dX2_within_30 : decode cX2_within 30 = .ok (.iload 4, 2) := dk_21 4 (dk_at dksX2_within_1 7 rfl rfl)
theorem dX2_within_32 : decode cX2_within 32 = .ok (.invokevirtual 173, 3) := dk_182 0 173 (dk_at dksX2_within_1 9 rfl rfl)
theorem dX2_within_35 : decode cX2_within 35 = .ok (.goto 5, 3) := dk_167 0 5 (dk_at dksX2_within_1 12 rfl rfl)
theorem dX2_within_38 : decode cX2_within 38 = .ok (.bipush (-102), 2) := dk_16 154 (dk_at dksX2_within_1 15 rfl rfl)
theorem dX2_within_40 : decode cX2_within 40 = .ok (.ireturn, 1) := dk_172 (dk_at dksX2_within_1 17 rfl rfl)
abbrev cX2_withinOf : ByteArray := prog_11_method_30_code
def yX2_withinOf : MethodName := ⟨RX2, "withinOf", "(IIII)I"⟩
def dkwX2_withinOf_3 : List UInt8 := [167, 0, 5, 21, 5, 172]
abbrev dktX2_withinOf_3 : List UInt8 := dkwX2_withinOf_3 ++ []
def dkwX2_withinOf_2 : List UInt8 := [46, 167, 0, 5, 21, 5, 54, 5, 132, 6, 1, 167, 255, 210, 21, 5, 18, 123, 161, 0, 7, 2]
abbrev dktX2_withinOf_2 : List UInt8 := dkwX2_withinOf_2 ++ dktX2_withinOf_3
def dkwX2_withinOf_1 : List UInt8 := [16, 8, 21, 6, 104, 29, 96, 46, 21, 5, 162, 0, 18, 42, 180, 0, 31, 16, 8, 21, 6, 104, 29, 96]
abbrev dktX2_withinOf_1 : List UInt8 := dkwX2_withinOf_1 ++ dktX2_withinOf_2
def dkwX2_withinOf_0 : List UInt8 := [42, 27, 28, 182, 0, 167, 18, 123, 54, 5, 3, 54, 6, 21, 6, 21, 4, 163, 0, 45, 42, 180, 0, 31]
abbrev dktX2_withinOf_0 : List UInt8 := dkwX2_withinOf_0 ++ dktX2_withinOf_1
theorem dksX2_withinOf_0 : cX2_withinOf.data.toList.drop 0 = dktX2_withinOf_0 := by decide +kernel
theorem dksX2_withinOf_1 : cX2_withinOf.data.toList.drop 24 = dktX2_withinOf_1 := dk_seg dksX2_withinOf_0 24 rfl rfl
theorem dksX2_withinOf_2 : cX2_withinOf.data.toList.drop 48 = dktX2_withinOf_2 := dk_seg dksX2_withinOf_1 24 rfl rfl
theorem dksX2_withinOf_3 : cX2_withinOf.data.toList.drop 70 = dktX2_withinOf_3 := dk_seg dksX2_withinOf_2 22 rfl rfl
theorem dX2_withinOf_0 : decode cX2_withinOf 0 = .ok (.aload_n 0, 1) := dk_42 (dk_at dksX2_withinOf_0 0 rfl rfl)
theorem dX2_withinOf_1 : decode cX2_withinOf 1 = .ok (.iload_n 1, 1) := dk_27 (dk_at dksX2_withinOf_0 1 rfl rfl)
theorem dX2_withinOf_2 : decode cX2_withinOf 2 = .ok (.iload_n 2, 1) := dk_28 (dk_at dksX2_withinOf_0 2 rfl rfl)
theorem dX2_withinOf_3 : decode cX2_withinOf 3 = .ok (.invokevirtual 167, 3) := dk_182 0 167 (dk_at dksX2_withinOf_0 3 rfl rfl)
theorem dX2_withinOf_6 : decode cX2_withinOf 6 = .ok (.ldc 123, 2) := dk_18 123 (dk_at dksX2_withinOf_0 6 rfl rfl)
theorem dX2_withinOf_8 : decode cX2_withinOf 8 = .ok (.istore 5, 2) := dk_54 5 (dk_at dksX2_withinOf_0 8 rfl rfl)
theorem dX2_withinOf_10 : decode cX2_withinOf 10 = .ok (.iconst 0, 1) := dk_3 (dk_at dksX2_withinOf_0 10 rfl rfl)
theorem dX2_withinOf_11 : decode cX2_withinOf 11 = .ok (.istore 6, 2) := dk_54 6 (dk_at dksX2_withinOf_0 11 rfl rfl)
theorem dX2_withinOf_13 : decode cX2_withinOf 13 = .ok (.iload 6, 2) := dk_21 6 (dk_at dksX2_withinOf_0 13 rfl rfl)
theorem dX2_withinOf_15 : decode cX2_withinOf 15 = .ok (.iload 4, 2) := dk_21 4 (dk_at dksX2_withinOf_0 15 rfl rfl)
theorem dX2_withinOf_17 : decode cX2_withinOf 17 = .ok (.if_icmp .gt 45, 3) := dk_163 0 45 (dk_at dksX2_withinOf_0 17 rfl rfl)
theorem dX2_withinOf_20 : decode cX2_withinOf 20 = .ok (.aload_n 0, 1) := dk_42 (dk_at dksX2_withinOf_0 20 rfl rfl)
theorem dX2_withinOf_21 : decode cX2_withinOf 21 = .ok (.getfield 31, 3) := dk_180 0 31 (dk_at dksX2_withinOf_0 21 rfl rfl)
theorem dX2_withinOf_24 : decode cX2_withinOf 24 = .ok (.bipush 8, 2) := dk_16 8 (dk_at dksX2_withinOf_1 0 rfl rfl)
theorem dX2_withinOf_26 : decode cX2_withinOf 26 = .ok (.iload 6, 2) := dk_21 6 (dk_at dksX2_withinOf_1 2 rfl rfl)
theorem dX2_withinOf_28 : decode cX2_withinOf 28 = .ok (.imul, 1) := dk_104 (dk_at dksX2_withinOf_1 4 rfl rfl)
theorem dX2_withinOf_29 : decode cX2_withinOf 29 = .ok (.iload_n 3, 1) := dk_29 (dk_at dksX2_withinOf_1 5 rfl rfl)
theorem dX2_withinOf_30 : decode cX2_withinOf 30 = .ok (.iadd, 1) := dk_96 (dk_at dksX2_withinOf_1 6 rfl rfl)
theorem dX2_withinOf_31 : decode cX2_withinOf 31 = .ok (.iaload, 1) := dk_46 (dk_at dksX2_withinOf_1 7 rfl rfl)
theorem dX2_withinOf_32 : decode cX2_withinOf 32 = .ok (.iload 5, 2) := dk_21 5 (dk_at dksX2_withinOf_1 8 rfl rfl)
theorem dX2_withinOf_34 : decode cX2_withinOf 34 = .ok (.if_icmp .ge 18, 3) := dk_162 0 18 (dk_at dksX2_withinOf_1 10 rfl rfl)
theorem dX2_withinOf_37 : decode cX2_withinOf 37 = .ok (.aload_n 0, 1) := dk_42 (dk_at dksX2_withinOf_1 13 rfl rfl)
theorem dX2_withinOf_38 : decode cX2_withinOf 38 = .ok (.getfield 31, 3) := dk_180 0 31 (dk_at dksX2_withinOf_1 14 rfl rfl)
theorem dX2_withinOf_41 : decode cX2_withinOf 41 = .ok (.bipush 8, 2) := dk_16 8 (dk_at dksX2_withinOf_1 17 rfl rfl)
theorem dX2_withinOf_43 : decode cX2_withinOf 43 = .ok (.iload 6, 2) := dk_21 6 (dk_at dksX2_withinOf_1 19 rfl rfl)
theorem dX2_withinOf_45 : decode cX2_withinOf 45 = .ok (.imul, 1) := dk_104 (dk_at dksX2_withinOf_1 21 rfl rfl)
theorem dX2_withinOf_46 : decode cX2_withinOf 46 = .ok (.iload_n 3, 1) := dk_29 (dk_at dksX2_withinOf_1 22 rfl rfl)
theorem dX2_withinOf_47 : decode cX2_withinOf 47 = .ok (.iadd, 1) := dk_96 (dk_at dksX2_withinOf_1 23 rfl rfl)
theorem dX2_withinOf_48 : decode cX2_withinOf 48 = .ok (.iaload, 1) := dk_46 (dk_at dksX2_withinOf_2 0 rfl rfl)
theorem dX2_withinOf_49 : decode cX2_withinOf 49 = .ok (.goto 5, 3) := dk_167 0 5 (dk_at dksX2_withinOf_2 1 rfl rfl)
theorem dX2_withinOf_52 : decode cX2_withinOf 52 = .ok (.iload 5, 2) := dk_21 5 (dk_at dksX2_withinOf_2 4 rfl rfl)
theorem dX2_withinOf_54 : decode cX2_withinOf 54 = .ok (.istore 5, 2) := dk_54 5 (dk_at dksX2_withinOf_2 6 rfl rfl)
theorem dX2_withinOf_56 : decode cX2_withinOf 56 = .ok (.iinc 6 1, 3) := dk_132 6 1 (dk_at dksX2_withinOf_2 8 rfl rfl)
theorem dX2_withinOf_59 : decode cX2_withinOf 59 = .ok (.goto (-46), 3) := dk_167 255 210 (dk_at dksX2_withinOf_2 11 rfl rfl)
theorem dX2_withinOf_62 : decode cX2_withinOf 62 = .ok (.iload 5, 2) := dk_21 5 (dk_at dksX2_withinOf_2 14 rfl rfl)
theorem dX2_withinOf_64 : decode cX2_withinOf 64 = .ok (.ldc 123, 2) := dk_18 123 (dk_at dksX2_withinOf_2 16 rfl rfl)
theorem dX2_withinOf_66 : decode cX2_withinOf 66 = .ok (.if_icmp .lt 7, 3) := dk_161 0 7 (dk_at dksX2_withinOf_2 18 rfl rfl)
theorem dX2_withinOf_69 : decode cX2_withinOf 69 = .ok (.iconst (-1), 1) := dk_2 (dk_at dksX2_withinOf_2 21 rfl rfl)
theorem dX2_withinOf_70 : decode cX2_withinOf 70 = .ok (.goto 5, 3) := dk_167 0 5 (dk_at dksX2_withinOf_3 0 rfl rfl)
theorem dX2_withinOf_73 : decode cX2_withinOf 73 = .ok (.iload 5, 2) := dk_21 5 (dk_at dksX2_withinOf_3 3 rfl rfl)
theorem dX2_withinOf_75 : decode cX2_withinOf 75 = .ok (.ireturn, 1) := dk_172 (dk_at dksX2_withinOf_3 5 rfl rfl)
abbrev cX2_layLittle : ByteArray := prog_11_method_29_code
def yX2_layLittle : MethodName := ⟨RX2, "layLittle", "(II)V"⟩
def dkwX2_layLittle_8 : List UInt8 := [167, 255, 99, 177]
abbrev dktX2_layLittle_8 : List UInt8 := dkwX2_layLittle_8 ++ []
def dkwX2_layLittle_7 : List UInt8 := [16, 8, 29, 104, 21, 7, 96, 46, 79, 132, 6, 1, 167, 255, 147, 132, 4, 1, 167, 255, 114, 132, 3, 1]
abbrev dktX2_layLittle_7 : List UInt8 := dkwX2_layLittle_7 ++ dktX2_layLittle_8
def dkwX2_layLittle_6 : List UInt8 := [180, 0, 31, 16, 8, 29, 104, 21, 7, 96, 46, 162, 0, 8, 21, 8, 167, 0, 15, 42, 180, 0, 31]
abbrev dktX2_layLittle_6 : List UInt8 := dkwX2_layLittle_6 ++ dktX2_layLittle_7
def dkwX2_layLittle_5 : List UInt8 := [42, 27, 21, 4, 182, 0, 164, 96, 54, 8, 42, 180, 0, 31, 16, 8, 29, 104, 21, 7, 96, 21, 8, 42]
abbrev dktX2_layLittle_5 : List UInt8 := dkwX2_layLittle_5 ++ dktX2_layLittle_6
def dkwX2_layLittle_4 : List UInt8 := [180, 0, 31, 16, 8, 21, 5, 104, 42, 180, 0, 13, 7, 21, 4, 104, 6, 96, 21, 6, 100, 46, 96, 46]
abbrev dktX2_layLittle_4 : List UInt8 := dkwX2_layLittle_4 ++ dktX2_layLittle_5
def dkwX2_layLittle_3 : List UInt8 := [162, 0, 109, 21, 5, 155, 0, 104, 42, 180, 0, 13, 7, 21, 4, 104, 21, 6, 96, 46, 54, 7, 42]
abbrev dktX2_layLittle_3 : List UInt8 := dkwX2_layLittle_3 ++ dktX2_layLittle_4
def dkwX2_layLittle_2 : List UInt8 := [162, 0, 139, 29, 42, 180, 0, 13, 7, 21, 4, 104, 6, 96, 46, 100, 54, 5, 4, 54, 6, 21, 6, 6]
abbrev dktX2_layLittle_2 : List UInt8 := dkwX2_layLittle_2 ++ dktX2_layLittle_3
def dkwX2_layLittle_1 : List UInt8 := [180, 0, 31, 28, 3, 79, 4, 62, 29, 16, 82, 162, 0, 157, 3, 54, 4, 21, 4, 42, 180, 0, 101]
abbrev dktX2_layLittle_1 : List UInt8 := dkwX2_layLittle_1 ++ dktX2_layLittle_2
def dkwX2_layLittle_0 : List UInt8 := [3, 62, 29, 17, 2, 144, 162, 0, 17, 42, 180, 0, 31, 29, 18, 123, 79, 132, 3, 1, 167, 255, 238, 42]
abbrev dktX2_layLittle_0 : List UInt8 := dkwX2_layLittle_0 ++ dktX2_layLittle_1
theorem dksX2_layLittle_0 : cX2_layLittle.data.toList.drop 0 = dktX2_layLittle_0 := by decide +kernel
theorem dksX2_layLittle_1 : cX2_layLittle.data.toList.drop 24 = dktX2_layLittle_1 := dk_seg dksX2_layLittle_0 24 rfl rfl
theorem dksX2_layLittle_2 : cX2_layLittle.data.toList.drop 47 = dktX2_layLittle_2 := dk_seg dksX2_layLittle_1 23 rfl rfl
theorem dksX2_layLittle_3 : cX2_layLittle.data.toList.drop 71 = dktX2_layLittle_3 := dk_seg dksX2_layLittle_2 24 rfl rfl
theorem dksX2_layLittle_4 : cX2_layLittle.data.toList.drop 94 = dktX2_layLittle_4 := dk_seg dksX2_layLittle_3 23 rfl rfl
theorem dksX2_layLittle_5 : cX2_layLittle.data.toList.drop 118 = dktX2_layLittle_5 := dk_seg dksX2_layLittle_4 24 rfl rfl
theorem dksX2_layLittle_6 : cX2_layLittle.data.toList.drop 142 = dktX2_layLittle_6 := dk_seg dksX2_layLittle_5 24 rfl rfl
theorem dksX2_layLittle_7 : cX2_layLittle.data.toList.drop 165 = dktX2_layLittle_7 := dk_seg dksX2_layLittle_6 23 rfl rfl
theorem dksX2_layLittle_8 : cX2_layLittle.data.toList.drop 189 = dktX2_layLittle_8 := dk_seg dksX2_layLittle_7 24 rfl rfl
theorem dX2_layLittle_0 : decode cX2_layLittle 0 = .ok (.iconst 0, 1) := dk_3 (dk_at dksX2_layLittle_0 0 rfl rfl)
theorem dX2_layLittle_1 : decode cX2_layLittle 1 = .ok (.istore_n 3, 1) := dk_62 (dk_at dksX2_layLittle_0 1 rfl rfl)
theorem dX2_layLittle_2 : decode cX2_layLittle 2 = .ok (.iload_n 3, 1) := dk_29 (dk_at dksX2_layLittle_0 2 rfl rfl)
theorem dX2_layLittle_3 : decode cX2_layLittle 3 = .ok (.sipush 656, 3) := dk_17 2 144 (dk_at dksX2_layLittle_0 3 rfl rfl)
theorem dX2_layLittle_6 : decode cX2_layLittle 6 = .ok (.if_icmp .ge 17, 3) := dk_162 0 17 (dk_at dksX2_layLittle_0 6 rfl rfl)
theorem dX2_layLittle_9 : decode cX2_layLittle 9 = .ok (.aload_n 0, 1) := dk_42 (dk_at dksX2_layLittle_0 9 rfl rfl)
theorem dX2_layLittle_10 : decode cX2_layLittle 10 = .ok (.getfield 31, 3) := dk_180 0 31 (dk_at dksX2_layLittle_0 10 rfl rfl)
theorem dX2_layLittle_13 : decode cX2_layLittle 13 = .ok (.iload_n 3, 1) := dk_29 (dk_at dksX2_layLittle_0 13 rfl rfl)
theorem dX2_layLittle_14 : decode cX2_layLittle 14 = .ok (.ldc 123, 2) := dk_18 123 (dk_at dksX2_layLittle_0 14 rfl rfl)
theorem dX2_layLittle_16 : decode cX2_layLittle 16 = .ok (.iastore, 1) := dk_79 (dk_at dksX2_layLittle_0 16 rfl rfl)
theorem dX2_layLittle_17 : decode cX2_layLittle 17 = .ok (.iinc 3 1, 3) := dk_132 3 1 (dk_at dksX2_layLittle_0 17 rfl rfl)
theorem dX2_layLittle_20 : decode cX2_layLittle 20 = .ok (.goto (-18), 3) := dk_167 255 238 (dk_at dksX2_layLittle_0 20 rfl rfl)
theorem dX2_layLittle_23 : decode cX2_layLittle 23 = .ok (.aload_n 0, 1) := dk_42 (dk_at dksX2_layLittle_0 23 rfl rfl)
theorem dX2_layLittle_24 : decode cX2_layLittle 24 = .ok (.getfield 31, 3) := dk_180 0 31 (dk_at dksX2_layLittle_1 0 rfl rfl)
theorem dX2_layLittle_27 : decode cX2_layLittle 27 = .ok (.iload_n 2, 1) := dk_28 (dk_at dksX2_layLittle_1 3 rfl rfl)
theorem dX2_layLittle_28 : decode cX2_layLittle 28 = .ok (.iconst 0, 1) := dk_3 (dk_at dksX2_layLittle_1 4 rfl rfl)
theorem dX2_layLittle_29 : decode cX2_layLittle 29 = .ok (.iastore, 1) := dk_79 (dk_at dksX2_layLittle_1 5 rfl rfl)
theorem dX2_layLittle_30 : decode cX2_layLittle 30 = .ok (.iconst 1, 1) := dk_4 (dk_at dksX2_layLittle_1 6 rfl rfl)
theorem dX2_layLittle_31 : decode cX2_layLittle 31 = .ok (.istore_n 3, 1) := dk_62 (dk_at dksX2_layLittle_1 7 rfl rfl)
theorem dX2_layLittle_32 : decode cX2_layLittle 32 = .ok (.iload_n 3, 1) := dk_29 (dk_at dksX2_layLittle_1 8 rfl rfl)
theorem dX2_layLittle_33 : decode cX2_layLittle 33 = .ok (.bipush 82, 2) := dk_16 82 (dk_at dksX2_layLittle_1 9 rfl rfl)
theorem dX2_layLittle_35 : decode cX2_layLittle 35 = .ok (.if_icmp .ge 157, 3) := dk_162 0 157 (dk_at dksX2_layLittle_1 11 rfl rfl)
theorem dX2_layLittle_38 : decode cX2_layLittle 38 = .ok (.iconst 0, 1) := dk_3 (dk_at dksX2_layLittle_1 14 rfl rfl)
theorem dX2_layLittle_39 : decode cX2_layLittle 39 = .ok (.istore 4, 2) := dk_54 4 (dk_at dksX2_layLittle_1 15 rfl rfl)
theorem dX2_layLittle_41 : decode cX2_layLittle 41 = .ok (.iload 4, 2) := dk_21 4 (dk_at dksX2_layLittle_1 17 rfl rfl)
theorem dX2_layLittle_43 : decode cX2_layLittle 43 = .ok (.aload_n 0, 1) := dk_42 (dk_at dksX2_layLittle_1 19 rfl rfl)
theorem dX2_layLittle_44 : decode cX2_layLittle 44 = .ok (.getfield 101, 3) := dk_180 0 101 (dk_at dksX2_layLittle_1 20 rfl rfl)
theorem dX2_layLittle_47 : decode cX2_layLittle 47 = .ok (.if_icmp .ge 139, 3) := dk_162 0 139 (dk_at dksX2_layLittle_2 0 rfl rfl)
theorem dX2_layLittle_50 : decode cX2_layLittle 50 = .ok (.iload_n 3, 1) := dk_29 (dk_at dksX2_layLittle_2 3 rfl rfl)
theorem dX2_layLittle_51 : decode cX2_layLittle 51 = .ok (.aload_n 0, 1) := dk_42 (dk_at dksX2_layLittle_2 4 rfl rfl)
theorem dX2_layLittle_52 : decode cX2_layLittle 52 = .ok (.getfield 13, 3) := dk_180 0 13 (dk_at dksX2_layLittle_2 5 rfl rfl)
theorem dX2_layLittle_55 : decode cX2_layLittle 55 = .ok (.iconst 4, 1) := dk_7 (dk_at dksX2_layLittle_2 8 rfl rfl)
theorem dX2_layLittle_56 : decode cX2_layLittle 56 = .ok (.iload 4, 2) := dk_21 4 (dk_at dksX2_layLittle_2 9 rfl rfl)
theorem dX2_layLittle_58 : decode cX2_layLittle 58 = .ok (.imul, 1) := dk_104 (dk_at dksX2_layLittle_2 11 rfl rfl)
theorem dX2_layLittle_59 : decode cX2_layLittle 59 = .ok (.iconst 3, 1) := dk_6 (dk_at dksX2_layLittle_2 12 rfl rfl)
theorem dX2_layLittle_60 : decode cX2_layLittle 60 = .ok (.iadd, 1) := dk_96 (dk_at dksX2_layLittle_2 13 rfl rfl)
theorem dX2_layLittle_61 : decode cX2_layLittle 61 = .ok (.iaload, 1) := dk_46 (dk_at dksX2_layLittle_2 14 rfl rfl)
theorem dX2_layLittle_62 : decode cX2_layLittle 62 = .ok (.isub, 1) := dk_100 (dk_at dksX2_layLittle_2 15 rfl rfl)
theorem dX2_layLittle_63 : decode cX2_layLittle 63 = .ok (.istore 5, 2) := dk_54 5 (dk_at dksX2_layLittle_2 16 rfl rfl)
theorem dX2_layLittle_65 : decode cX2_layLittle 65 = .ok (.iconst 1, 1) := dk_4 (dk_at dksX2_layLittle_2 18 rfl rfl)
theorem dX2_layLittle_66 : decode cX2_layLittle 66 = .ok (.istore 6, 2) := dk_54 6 (dk_at dksX2_layLittle_2 19 rfl rfl)
theorem dX2_layLittle_68 : decode cX2_layLittle 68 = .ok (.iload 6, 2) := dk_21 6 (dk_at dksX2_layLittle_2 21 rfl rfl)
theorem dX2_layLittle_70 : decode cX2_layLittle 70 = .ok (.iconst 3, 1) := dk_6 (dk_at dksX2_layLittle_2 23 rfl rfl)
theorem dX2_layLittle_71 : decode cX2_layLittle 71 = .ok (.if_icmp .ge 109, 3) := dk_162 0 109 (dk_at dksX2_layLittle_3 0 rfl rfl)
theorem dX2_layLittle_74 : decode cX2_layLittle 74 = .ok (.iload 5, 2) := dk_21 5 (dk_at dksX2_layLittle_3 3 rfl rfl)
theorem dX2_layLittle_76 : decode cX2_layLittle 76 = .ok (.ifCond .lt 104, 3) := dk_155 0 104 (dk_at dksX2_layLittle_3 5 rfl rfl)
theorem dX2_layLittle_79 : decode cX2_layLittle 79 = .ok (.aload_n 0, 1) := dk_42 (dk_at dksX2_layLittle_3 8 rfl rfl)
theorem dX2_layLittle_80 : decode cX2_layLittle 80 = .ok (.getfield 13, 3) := dk_180 0 13 (dk_at dksX2_layLittle_3 9 rfl rfl)
theorem dX2_layLittle_83 : decode cX2_layLittle 83 = .ok (.iconst 4, 1) := dk_7 (dk_at dksX2_layLittle_3 12 rfl rfl)
theorem dX2_layLittle_84 : decode cX2_layLittle 84 = .ok (.iload 4, 2) := dk_21 4 (dk_at dksX2_layLittle_3 13 rfl rfl)
theorem dX2_layLittle_86 : decode cX2_layLittle 86 = .ok (.imul, 1) := dk_104 (dk_at dksX2_layLittle_3 15 rfl rfl)
theorem dX2_layLittle_87 : decode cX2_layLittle 87 = .ok (.iload 6, 2) := dk_21 6 (dk_at dksX2_layLittle_3 16 rfl rfl)
theorem dX2_layLittle_89 : decode cX2_layLittle 89 = .ok (.iadd, 1) := dk_96 (dk_at dksX2_layLittle_3 18 rfl rfl)
theorem dX2_layLittle_90 : decode cX2_layLittle 90 = .ok (.iaload, 1) := dk_46 (dk_at dksX2_layLittle_3 19 rfl rfl)
theorem dX2_layLittle_91 : decode cX2_layLittle 91 = .ok (.istore 7, 2) := dk_54 7 (dk_at dksX2_layLittle_3 20 rfl rfl)
theorem dX2_layLittle_93 : decode cX2_layLittle 93 = .ok (.aload_n 0, 1) := dk_42 (dk_at dksX2_layLittle_3 22 rfl rfl)
theorem dX2_layLittle_94 : decode cX2_layLittle 94 = .ok (.getfield 31, 3) := dk_180 0 31 (dk_at dksX2_layLittle_4 0 rfl rfl)
theorem dX2_layLittle_97 : decode cX2_layLittle 97 = .ok (.bipush 8, 2) := dk_16 8 (dk_at dksX2_layLittle_4 3 rfl rfl)
theorem dX2_layLittle_99 : decode cX2_layLittle 99 = .ok (.iload 5, 2) := dk_21 5 (dk_at dksX2_layLittle_4 5 rfl rfl)
theorem dX2_layLittle_101 : decode cX2_layLittle 101 = .ok (.imul, 1) := dk_104 (dk_at dksX2_layLittle_4 7 rfl rfl)
theorem dX2_layLittle_102 : decode cX2_layLittle 102 = .ok (.aload_n 0, 1) := dk_42 (dk_at dksX2_layLittle_4 8 rfl rfl)
theorem dX2_layLittle_103 : decode cX2_layLittle 103 = .ok (.getfield 13, 3) := dk_180 0 13 (dk_at dksX2_layLittle_4 9 rfl rfl)
theorem dX2_layLittle_106 : decode cX2_layLittle 106 = .ok (.iconst 4, 1) := dk_7 (dk_at dksX2_layLittle_4 12 rfl rfl)
theorem dX2_layLittle_107 : decode cX2_layLittle 107 = .ok (.iload 4, 2) := dk_21 4 (dk_at dksX2_layLittle_4 13 rfl rfl)
theorem dX2_layLittle_109 : decode cX2_layLittle 109 = .ok (.imul, 1) := dk_104 (dk_at dksX2_layLittle_4 15 rfl rfl)
theorem dX2_layLittle_110 : decode cX2_layLittle 110 = .ok (.iconst 3, 1) := dk_6 (dk_at dksX2_layLittle_4 16 rfl rfl)
theorem dX2_layLittle_111 : decode cX2_layLittle 111 = .ok (.iadd, 1) := dk_96 (dk_at dksX2_layLittle_4 17 rfl rfl)
theorem dX2_layLittle_112 : decode cX2_layLittle 112 = .ok (.iload 6, 2) := dk_21 6 (dk_at dksX2_layLittle_4 18 rfl rfl)
theorem dX2_layLittle_114 : decode cX2_layLittle 114 = .ok (.isub, 1) := dk_100 (dk_at dksX2_layLittle_4 20 rfl rfl)
theorem dX2_layLittle_115 : decode cX2_layLittle 115 = .ok (.iaload, 1) := dk_46 (dk_at dksX2_layLittle_4 21 rfl rfl)
theorem dX2_layLittle_116 : decode cX2_layLittle 116 = .ok (.iadd, 1) := dk_96 (dk_at dksX2_layLittle_4 22 rfl rfl)
theorem dX2_layLittle_117 : decode cX2_layLittle 117 = .ok (.iaload, 1) := dk_46 (dk_at dksX2_layLittle_4 23 rfl rfl)
theorem dX2_layLittle_118 : decode cX2_layLittle 118 = .ok (.aload_n 0, 1) := dk_42 (dk_at dksX2_layLittle_5 0 rfl rfl)
theorem dX2_layLittle_119 : decode cX2_layLittle 119 = .ok (.iload_n 1, 1) := dk_27 (dk_at dksX2_layLittle_5 1 rfl rfl)
theorem dX2_layLittle_120 : decode cX2_layLittle 120 = .ok (.iload 4, 2) := dk_21 4 (dk_at dksX2_layLittle_5 2 rfl rfl)
theorem dX2_layLittle_122 : decode cX2_layLittle 122 = .ok (.invokevirtual 164, 3) := dk_182 0 164 (dk_at dksX2_layLittle_5 4 rfl rfl)
theorem dX2_layLittle_125 : decode cX2_layLittle 125 = .ok (.iadd, 1) := dk_96 (dk_at dksX2_layLittle_5 7 rfl rfl)
theorem dX2_layLittle_126 : decode cX2_layLittle 126 = .ok (.istore 8, 2) := dk_54 8 (dk_at dksX2_layLittle_5 8 rfl rfl)
theorem dX2_layLittle_128 : decode cX2_layLittle 128 = .ok (.aload_n 0, 1) := dk_42 (dk_at dksX2_layLittle_5 10 rfl rfl)
theorem dX2_layLittle_129 : decode cX2_layLittle 129 = .ok (.getfield 31, 3) := dk_180 0 31 (dk_at dksX2_layLittle_5 11 rfl rfl)
theorem dX2_layLittle_132 : decode cX2_layLittle 132 = .ok (.bipush 8, 2) := dk_16 8 (dk_at dksX2_layLittle_5 14 rfl rfl)
theorem dX2_layLittle_134 : decode cX2_layLittle 134 = .ok (.iload_n 3, 1) := dk_29 (dk_at dksX2_layLittle_5 16 rfl rfl)
theorem dX2_layLittle_135 : decode cX2_layLittle 135 = .ok (.imul, 1) := dk_104 (dk_at dksX2_layLittle_5 17 rfl rfl)
theorem dX2_layLittle_136 : decode cX2_layLittle 136 = .ok (.iload 7, 2) := dk_21 7 (dk_at dksX2_layLittle_5 18 rfl rfl)
theorem dX2_layLittle_138 : decode cX2_layLittle 138 = .ok (.iadd, 1) := dk_96 (dk_at dksX2_layLittle_5 20 rfl rfl)
theorem dX2_layLittle_139 : decode cX2_layLittle 139 = .ok (.iload 8, 2) := dk_21 8 (dk_at dksX2_layLittle_5 21 rfl rfl)
theorem dX2_layLittle_141 : decode cX2_layLittle 141 = .ok (.aload_n 0, 1) := dk_42 (dk_at dksX2_layLittle_5 23 rfl rfl)
theorem dX2_layLittle_142 : decode cX2_layLittle 142 = .ok (.getfield 31, 3) := dk_180 0 31 (dk_at dksX2_layLittle_6 0 rfl rfl)
theorem dX2_layLittle_145 : decode cX2_layLittle 145 = .ok (.bipush 8, 2) := dk_16 8 (dk_at dksX2_layLittle_6 3 rfl rfl)
theorem dX2_layLittle_147 : decode cX2_layLittle 147 = .ok (.iload_n 3, 1) := dk_29 (dk_at dksX2_layLittle_6 5 rfl rfl)
theorem dX2_layLittle_148 : decode cX2_layLittle 148 = .ok (.imul, 1) := dk_104 (dk_at dksX2_layLittle_6 6 rfl rfl)
theorem dX2_layLittle_149 : decode cX2_layLittle 149 = .ok (.iload 7, 2) := dk_21 7 (dk_at dksX2_layLittle_6 7 rfl rfl)
theorem dX2_layLittle_151 : decode cX2_layLittle 151 = .ok (.iadd, 1) := dk_96 (dk_at dksX2_layLittle_6 9 rfl rfl)
theorem dX2_layLittle_152 : decode cX2_layLittle 152 = .ok (.iaload, 1) := dk_46 (dk_at dksX2_layLittle_6 10 rfl rfl)
theorem dX2_layLittle_153 : decode cX2_layLittle 153 = .ok (.if_icmp .ge 8, 3) := dk_162 0 8 (dk_at dksX2_layLittle_6 11 rfl rfl)
theorem dX2_layLittle_156 : decode cX2_layLittle 156 = .ok (.iload 8, 2) := dk_21 8 (dk_at dksX2_layLittle_6 14 rfl rfl)
theorem dX2_layLittle_158 : decode cX2_layLittle 158 = .ok (.goto 15, 3) := dk_167 0 15 (dk_at dksX2_layLittle_6 16 rfl rfl)
theorem dX2_layLittle_161 : decode cX2_layLittle 161 = .ok (.aload_n 0, 1) := dk_42 (dk_at dksX2_layLittle_6 19 rfl rfl)
theorem dX2_layLittle_162 : decode cX2_layLittle 162 = .ok (.getfield 31, 3) := dk_180 0 31 (dk_at dksX2_layLittle_6 20 rfl rfl)
theorem dX2_layLittle_165 : decode cX2_layLittle 165 = .ok (.bipush 8, 2) := dk_16 8 (dk_at dksX2_layLittle_7 0 rfl rfl)
theorem dX2_layLittle_167 : decode cX2_layLittle 167 = .ok (.iload_n 3, 1) := dk_29 (dk_at dksX2_layLittle_7 2 rfl rfl)
theorem dX2_layLittle_168 : decode cX2_layLittle 168 = .ok (.imul, 1) := dk_104 (dk_at dksX2_layLittle_7 3 rfl rfl)
theorem dX2_layLittle_169 : decode cX2_layLittle 169 = .ok (.iload 7, 2) := dk_21 7 (dk_at dksX2_layLittle_7 4 rfl rfl)
theorem dX2_layLittle_171 : decode cX2_layLittle 171 = .ok (.iadd, 1) := dk_96 (dk_at dksX2_layLittle_7 6 rfl rfl)
theorem dX2_layLittle_172 : decode cX2_layLittle 172 = .ok (.iaload, 1) := dk_46 (dk_at dksX2_layLittle_7 7 rfl rfl)
theorem dX2_layLittle_173 : decode cX2_layLittle 173 = .ok (.iastore, 1) := dk_79 (dk_at dksX2_layLittle_7 8 rfl rfl)
theorem dX2_layLittle_174 : decode cX2_layLittle 174 = .ok (.iinc 6 1, 3) := dk_132 6 1 (dk_at dksX2_layLittle_7 9 rfl rfl)
theorem dX2_layLittle_177 : decode cX2_layLittle 177 = .ok (.goto (-109), 3) := dk_167 255 147 (dk_at dksX2_layLittle_7 12 rfl rfl)
theorem dX2_layLittle_180 : decode cX2_layLittle 180 = .ok (.iinc 4 1, 3) := dk_132 4 1 (dk_at dksX2_layLittle_7 15 rfl rfl)
theorem dX2_layLittle_183 : decode cX2_layLittle 183 = .ok (.goto (-142), 3) := dk_167 255 114 (dk_at dksX2_layLittle_7 18 rfl rfl)
theorem dX2_layLittle_186 : decode cX2_layLittle 186 = .ok (.iinc 3 1, 3) := dk_132 3 1 (dk_at dksX2_layLittle_7 21 rfl rfl)
theorem dX2_layLittle_189 : decode cX2_layLittle 189 = .ok (.goto (-157), 3) := dk_167 255 99 (dk_at dksX2_layLittle_8 0 rfl rfl)
theorem dX2_layLittle_192 : decode cX2_layLittle 192 = .ok (.return_, 1) := dk_177 (dk_at dksX2_layLittle_8 3 rfl rfl)
abbrev cX2_hurtsOf : ByteArray := prog_11_method_20_code
def yX2_hurtsOf : MethodName := ⟨RX2, "hurtsOf", "(II)I"⟩
def dkwX2_hurtsOf_0 : List UInt8 := [42, 27, 42, 180, 0, 16, 8, 27, 104, 46, 28, 182, 0, 119, 172]
abbrev dktX2_hurtsOf_0 : List UInt8 := dkwX2_hurtsOf_0 ++ []
theorem dksX2_hurtsOf_0 : cX2_hurtsOf.data.toList.drop 0 = dktX2_hurtsOf_0 := by decide +kernel
theorem dX2_hurtsOf_0 : decode cX2_hurtsOf 0 = .ok (.aload_n 0, 1) := dk_42 (dk_at dksX2_hurtsOf_0 0 rfl rfl)
theorem dX2_hurtsOf_1 : decode cX2_hurtsOf 1 = .ok (.iload_n 1, 1) := dk_27 (dk_at dksX2_hurtsOf_0 1 rfl rfl)
theorem dX2_hurtsOf_2 : decode cX2_hurtsOf 2 = .ok (.aload_n 0, 1) := dk_42 (dk_at dksX2_hurtsOf_0 2 rfl rfl)
theorem dX2_hurtsOf_3 : decode cX2_hurtsOf 3 = .ok (.getfield 16, 3) := dk_180 0 16 (dk_at dksX2_hurtsOf_0 3 rfl rfl)
theorem dX2_hurtsOf_6 : decode cX2_hurtsOf 6 = .ok (.iconst 5, 1) := dk_8 (dk_at dksX2_hurtsOf_0 6 rfl rfl)
theorem dX2_hurtsOf_7 : decode cX2_hurtsOf 7 = .ok (.iload_n 1, 1) := dk_27 (dk_at dksX2_hurtsOf_0 7 rfl rfl)
theorem dX2_hurtsOf_8 : decode cX2_hurtsOf 8 = .ok (.imul, 1) := dk_104 (dk_at dksX2_hurtsOf_0 8 rfl rfl)
theorem dX2_hurtsOf_9 : decode cX2_hurtsOf 9 = .ok (.iaload, 1) := dk_46 (dk_at dksX2_hurtsOf_0 9 rfl rfl)
theorem dX2_hurtsOf_10 : decode cX2_hurtsOf 10 = .ok (.iload_n 2, 1) := dk_28 (dk_at dksX2_hurtsOf_0 10 rfl rfl)
theorem dX2_hurtsOf_11 : decode cX2_hurtsOf 11 = .ok (.invokevirtual 119, 3) := dk_182 0 119 (dk_at dksX2_hurtsOf_0 11 rfl rfl)
theorem dX2_hurtsOf_14 : decode cX2_hurtsOf 14 = .ok (.ireturn, 1) := dk_172 (dk_at dksX2_hurtsOf_0 14 rfl rfl)
abbrev cX2_edge : ByteArray := prog_11_method_33_code
def yX2_edge : MethodName := ⟨RX2, "edge", "(IIII)I"⟩
def dkwX2_edge_1 : List UInt8 := [153, 0, 15, 42, 27, 28, 29, 21, 4, 182, 0, 178, 167, 0, 5, 16, 154, 172]
abbrev dktX2_edge_1 : List UInt8 := dkwX2_edge_1 ++ []
def dkwX2_edge_0 : List UInt8 := [42, 27, 28, 29, 182, 0, 151, 154, 0, 6, 16, 155, 172, 21, 4, 133, 9, 20, 0, 176, 184, 0, 64]
abbrev dktX2_edge_0 : List UInt8 := dkwX2_edge_0 ++ dktX2_edge_1
theorem dksX2_edge_0 : cX2_edge.data.toList.drop 0 = dktX2_edge_0 := by decide +kernel
theorem dksX2_edge_1 : cX2_edge.data.toList.drop 23 = dktX2_edge_1 := dk_seg dksX2_edge_0 23 rfl rfl
theorem dX2_edge_0 : decode cX2_edge 0 = .ok (.aload_n 0, 1) := dk_42 (dk_at dksX2_edge_0 0 rfl rfl)
theorem dX2_edge_1 : decode cX2_edge 1 = .ok (.iload_n 1, 1) := dk_27 (dk_at dksX2_edge_0 1 rfl rfl)
theorem dX2_edge_2 : decode cX2_edge 2 = .ok (.iload_n 2, 1) := dk_28 (dk_at dksX2_edge_0 2 rfl rfl)
theorem dX2_edge_3 : decode cX2_edge 3 = .ok (.iload_n 3, 1) := dk_29 (dk_at dksX2_edge_0 3 rfl rfl)
theorem dX2_edge_4 : decode cX2_edge 4 = .ok (.invokevirtual 151, 3) := dk_182 0 151 (dk_at dksX2_edge_0 4 rfl rfl)
theorem dX2_edge_7 : decode cX2_edge 7 = .ok (.ifCond .ne 6, 3) := dk_154 0 6 (dk_at dksX2_edge_0 7 rfl rfl)
theorem dX2_edge_10 : decode cX2_edge 10 = .ok (.bipush (-101), 2) := dk_16 155 (dk_at dksX2_edge_0 10 rfl rfl)
theorem dX2_edge_12 : decode cX2_edge 12 = .ok (.ireturn, 1) := dk_172 (dk_at dksX2_edge_0 12 rfl rfl)
theorem dX2_edge_13 : decode cX2_edge 13 = .ok (.iload 4, 2) := dk_21 4 (dk_at dksX2_edge_0 13 rfl rfl)
theorem dX2_edge_15 : decode cX2_edge 15 = .ok (.i2l, 1) := dk_133 (dk_at dksX2_edge_0 15 rfl rfl)
theorem dX2_edge_16 : decode cX2_edge 16 = .ok (.lconst 0, 1) := dk_9 (dk_at dksX2_edge_0 16 rfl rfl)
theorem dX2_edge_17 : decode cX2_edge 17 = .ok (.ldc2_w 176, 3) := dk_20 0 176 (dk_at dksX2_edge_0 17 rfl rfl)
theorem dX2_edge_20 : decode cX2_edge 20 = .ok (.invokestatic 64, 3) := dk_184 0 64 (dk_at dksX2_edge_0 20 rfl rfl)
theorem dX2_edge_23 : decode cX2_edge 23 = .ok (.ifCond .eq 15, 3) := dk_153 0 15 (dk_at dksX2_edge_1 0 rfl rfl)
theorem dX2_edge_26 : decode cX2_edge 26 = .ok (.aload_n 0, 1) := dk_42 (dk_at dksX2_edge_1 3 rfl rfl)
theorem dX2_edge_27 : decode cX2_edge 27 = .ok (.iload_n 1, 1) := dk_27 (dk_at dksX2_edge_1 4 rfl rfl)
theorem dX2_edge_28 : decode cX2_edge 28 = .ok (.iload_n 2, 1) := dk_28 (dk_at dksX2_edge_1 5 rfl rfl)
theorem dX2_edge_29 : decode cX2_edge 29 = .ok (.iload_n 3, 1) := dk_29 (dk_at dksX2_edge_1 6 rfl rfl)
theorem dX2_edge_30 : decode cX2_edge 30 = .ok (.iload 4, 2) := dk_21 4 (dk_at dksX2_edge_1 7 rfl rfl)
theorem dX2_edge_32 : decode cX2_edge 32 = .ok (.invokevirtual 178, 3) := dk_182 0 178 (dk_at dksX2_edge_1 9 rfl rfl)
theorem dX2_edge_35 : decode cX2_edge 35 = .ok (.goto 5, 3) := dk_167 0 5 (dk_at dksX2_edge_1 12 rfl rfl)
theorem dX2_edge_38 : decode cX2_edge 38 = .ok (.bipush (-102), 2) := dk_16 154 (dk_at dksX2_edge_1 15 rfl rfl)
theorem dX2_edge_40 : decode cX2_edge 40 = .ok (.ireturn, 1) := dk_172 (dk_at dksX2_edge_1 17 rfl rfl)
abbrev cX2_edgeOf : ByteArray := prog_11_method_32_code
def yX2_edgeOf : MethodName := ⟨RX2, "edgeOf", "(IIII)I"⟩
def dkwX2_edgeOf_4 : List UInt8 := [21, 7, 172]
abbrev dktX2_edgeOf_4 : List UInt8 := dkwX2_edgeOf_4 ++ []
def dkwX2_edgeOf_3 : List UInt8 := [167, 0, 5, 21, 7, 54, 7, 132, 8, 1, 167, 255, 195, 21, 4, 154, 0, 8, 21, 6, 167, 0, 5]
abbrev dktX2_edgeOf_3 : List UInt8 := dkwX2_edgeOf_3 ++ dktX2_edgeOf_4
def dkwX2_edgeOf_2 : List UInt8 := [21, 9, 54, 5, 132, 6, 1, 21, 6, 21, 4, 160, 0, 15, 17, 39, 16, 21, 8, 104, 21, 9, 96]
abbrev dktX2_edgeOf_2 : List UInt8 := dkwX2_edgeOf_2 ++ dktX2_edgeOf_3
def dkwX2_edgeOf_1 : List UInt8 := [162, 0, 60, 42, 180, 0, 31, 16, 8, 21, 8, 104, 29, 96, 46, 54, 9, 21, 9, 21, 5, 162, 0, 33]
abbrev dktX2_edgeOf_1 : List UInt8 := dkwX2_edgeOf_1 ++ dktX2_edgeOf_2
def dkwX2_edgeOf_0 : List UInt8 := [42, 27, 28, 182, 0, 167, 18, 123, 54, 5, 3, 54, 6, 2, 54, 7, 3, 54, 8, 21, 8, 16, 82]
abbrev dktX2_edgeOf_0 : List UInt8 := dkwX2_edgeOf_0 ++ dktX2_edgeOf_1
theorem dksX2_edgeOf_0 : cX2_edgeOf.data.toList.drop 0 = dktX2_edgeOf_0 := by decide +kernel
theorem dksX2_edgeOf_1 : cX2_edgeOf.data.toList.drop 23 = dktX2_edgeOf_1 := dk_seg dksX2_edgeOf_0 23 rfl rfl
theorem dksX2_edgeOf_2 : cX2_edgeOf.data.toList.drop 47 = dktX2_edgeOf_2 := dk_seg dksX2_edgeOf_1 24 rfl rfl
theorem dksX2_edgeOf_3 : cX2_edgeOf.data.toList.drop 70 = dktX2_edgeOf_3 := dk_seg dksX2_edgeOf_2 23 rfl rfl
theorem dksX2_edgeOf_4 : cX2_edgeOf.data.toList.drop 93 = dktX2_edgeOf_4 := dk_seg dksX2_edgeOf_3 23 rfl rfl
theorem dX2_edgeOf_0 : decode cX2_edgeOf 0 = .ok (.aload_n 0, 1) := dk_42 (dk_at dksX2_edgeOf_0 0 rfl rfl)
theorem dX2_edgeOf_1 : decode cX2_edgeOf 1 = .ok (.iload_n 1, 1) := dk_27 (dk_at dksX2_edgeOf_0 1 rfl rfl)
theorem dX2_edgeOf_2 : decode cX2_edgeOf 2 = .ok (.iload_n 2, 1) := dk_28 (dk_at dksX2_edgeOf_0 2 rfl rfl)
theorem dX2_edgeOf_3 : decode cX2_edgeOf 3 = .ok (.invokevirtual 167, 3) := dk_182 0 167 (dk_at dksX2_edgeOf_0 3 rfl rfl)
theorem dX2_edgeOf_6 : decode cX2_edgeOf 6 = .ok (.ldc 123, 2) := dk_18 123 (dk_at dksX2_edgeOf_0 6 rfl rfl)
theorem dX2_edgeOf_8 : decode cX2_edgeOf 8 = .ok (.istore 5, 2) := dk_54 5 (dk_at dksX2_edgeOf_0 8 rfl rfl)
theorem dX2_edgeOf_10 : decode cX2_edgeOf 10 = .ok (.iconst 0, 1) := dk_3 (dk_at dksX2_edgeOf_0 10 rfl rfl)
theorem dX2_edgeOf_11 : decode cX2_edgeOf 11 = .ok (.istore 6, 2) := dk_54 6 (dk_at dksX2_edgeOf_0 11 rfl rfl)
theorem dX2_edgeOf_13 : decode cX2_edgeOf 13 = .ok (.iconst (-1), 1) := dk_2 (dk_at dksX2_edgeOf_0 13 rfl rfl)
theorem dX2_edgeOf_14 : decode cX2_edgeOf 14 = .ok (.istore 7, 2) := dk_54 7 (dk_at dksX2_edgeOf_0 14 rfl rfl)
theorem dX2_edgeOf_16 : decode cX2_edgeOf 16 = .ok (.iconst 0, 1) := dk_3 (dk_at dksX2_edgeOf_0 16 rfl rfl)
theorem dX2_edgeOf_17 : decode cX2_edgeOf 17 = .ok (.istore 8, 2) := dk_54 8 (dk_at dksX2_edgeOf_0 17 rfl rfl)
theorem dX2_edgeOf_19 : decode cX2_edgeOf 19 = .ok (.iload 8, 2) := dk_21 8 (dk_at dksX2_edgeOf_0 19 rfl rfl)
theorem dX2_edgeOf_21 : decode cX2_edgeOf 21 = .ok (.bipush 82, 2) := dk_16 82 (dk_at dksX2_edgeOf_0 21 rfl rfl)
theorem dX2_edgeOf_23 : decode cX2_edgeOf 23 = .ok (.if_icmp .ge 60, 3) := dk_162 0 60 (dk_at dksX2_edgeOf_1 0 rfl rfl)
theorem dX2_edgeOf_26 : decode cX2_edgeOf 26 = .ok (.aload_n 0, 1) := dk_42 (dk_at dksX2_edgeOf_1 3 rfl rfl)
theorem dX2_edgeOf_27 : decode cX2_edgeOf 27 = .ok (.getfield 31, 3) := dk_180 0 31 (dk_at dksX2_edgeOf_1 4 rfl rfl)
theorem dX2_edgeOf_30 : decode cX2_edgeOf 30 = .ok (.bipush 8, 2) := dk_16 8 (dk_at dksX2_edgeOf_1 7 rfl rfl)
theorem dX2_edgeOf_32 : decode cX2_edgeOf 32 = .ok (.iload 8, 2) := dk_21 8 (dk_at dksX2_edgeOf_1 9 rfl rfl)
theorem dX2_edgeOf_34 : decode cX2_edgeOf 34 = .ok (.imul, 1) := dk_104 (dk_at dksX2_edgeOf_1 11 rfl rfl)
theorem dX2_edgeOf_35 : decode cX2_edgeOf 35 = .ok (.iload_n 3, 1) := dk_29 (dk_at dksX2_edgeOf_1 12 rfl rfl)
theorem dX2_edgeOf_36 : decode cX2_edgeOf 36 = .ok (.iadd, 1) := dk_96 (dk_at dksX2_edgeOf_1 13 rfl rfl)
theorem dX2_edgeOf_37 : decode cX2_edgeOf 37 = .ok (.iaload, 1) := dk_46 (dk_at dksX2_edgeOf_1 14 rfl rfl)
theorem dX2_edgeOf_38 : decode cX2_edgeOf 38 = .ok (.istore 9, 2) := dk_54 9 (dk_at dksX2_edgeOf_1 15 rfl rfl)
theorem dX2_edgeOf_40 : decode cX2_edgeOf 40 = .ok (.iload 9, 2) := dk_21 9 (dk_at dksX2_edgeOf_1 17 rfl rfl)
theorem dX2_edgeOf_42 : decode cX2_edgeOf 42 = .ok (.iload 5, 2) := dk_21 5 (dk_at dksX2_edgeOf_1 19 rfl rfl)
theorem dX2_edgeOf_44 : decode cX2_edgeOf 44 = .ok (.if_icmp .ge 33, 3) := dk_162 0 33 (dk_at dksX2_edgeOf_1 21 rfl rfl)
theorem dX2_edgeOf_47 : decode cX2_edgeOf 47 = .ok (.iload 9, 2) := dk_21 9 (dk_at dksX2_edgeOf_2 0 rfl rfl)
theorem dX2_edgeOf_49 : decode cX2_edgeOf 49 = .ok (.istore 5, 2) := dk_54 5 (dk_at dksX2_edgeOf_2 2 rfl rfl)
theorem dX2_edgeOf_51 : decode cX2_edgeOf 51 = .ok (.iinc 6 1, 3) := dk_132 6 1 (dk_at dksX2_edgeOf_2 4 rfl rfl)
theorem dX2_edgeOf_54 : decode cX2_edgeOf 54 = .ok (.iload 6, 2) := dk_21 6 (dk_at dksX2_edgeOf_2 7 rfl rfl)
theorem dX2_edgeOf_56 : decode cX2_edgeOf 56 = .ok (.iload 4, 2) := dk_21 4 (dk_at dksX2_edgeOf_2 9 rfl rfl)
theorem dX2_edgeOf_58 : decode cX2_edgeOf 58 = .ok (.if_icmp .ne 15, 3) := dk_160 0 15 (dk_at dksX2_edgeOf_2 11 rfl rfl)
theorem dX2_edgeOf_61 : decode cX2_edgeOf 61 = .ok (.sipush 10000, 3) := dk_17 39 16 (dk_at dksX2_edgeOf_2 14 rfl rfl)
theorem dX2_edgeOf_64 : decode cX2_edgeOf 64 = .ok (.iload 8, 2) := dk_21 8 (dk_at dksX2_edgeOf_2 17 rfl rfl)
theorem dX2_edgeOf_66 : decode cX2_edgeOf 66 = .ok (.imul, 1) := dk_104 (dk_at dksX2_edgeOf_2 19 rfl rfl)
theorem dX2_edgeOf_67 : decode cX2_edgeOf 67 = .ok (.iload 9, 2) := dk_21 9 (dk_at dksX2_edgeOf_2 20 rfl rfl)
theorem dX2_edgeOf_69 : decode cX2_edgeOf 69 = .ok (.iadd, 1) := dk_96 (dk_at dksX2_edgeOf_2 22 rfl rfl)
theorem dX2_edgeOf_70 : decode cX2_edgeOf 70 = .ok (.goto 5, 3) := dk_167 0 5 (dk_at dksX2_edgeOf_3 0 rfl rfl)
theorem dX2_edgeOf_73 : decode cX2_edgeOf 73 = .ok (.iload 7, 2) := dk_21 7 (dk_at dksX2_edgeOf_3 3 rfl rfl)
theorem dX2_edgeOf_75 : decode cX2_edgeOf 75 = .ok (.istore 7, 2) := dk_54 7 (dk_at dksX2_edgeOf_3 5 rfl rfl)
theorem dX2_edgeOf_77 : decode cX2_edgeOf 77 = .ok (.iinc 8 1, 3) := dk_132 8 1 (dk_at dksX2_edgeOf_3 7 rfl rfl)
theorem dX2_edgeOf_80 : decode cX2_edgeOf 80 = .ok (.goto (-61), 3) := dk_167 255 195 (dk_at dksX2_edgeOf_3 10 rfl rfl)
theorem dX2_edgeOf_83 : decode cX2_edgeOf 83 = .ok (.iload 4, 2) := dk_21 4 (dk_at dksX2_edgeOf_3 13 rfl rfl)
theorem dX2_edgeOf_85 : decode cX2_edgeOf 85 = .ok (.ifCond .ne 8, 3) := dk_154 0 8 (dk_at dksX2_edgeOf_3 15 rfl rfl)
theorem dX2_edgeOf_88 : decode cX2_edgeOf 88 = .ok (.iload 6, 2) := dk_21 6 (dk_at dksX2_edgeOf_3 18 rfl rfl)
theorem dX2_edgeOf_90 : decode cX2_edgeOf 90 = .ok (.goto 5, 3) := dk_167 0 5 (dk_at dksX2_edgeOf_3 20 rfl rfl)
theorem dX2_edgeOf_93 : decode cX2_edgeOf 93 = .ok (.iload 7, 2) := dk_21 7 (dk_at dksX2_edgeOf_4 0 rfl rfl)
theorem dX2_edgeOf_95 : decode cX2_edgeOf 95 = .ok (.ireturn, 1) := dk_172 (dk_at dksX2_edgeOf_4 2 rfl rfl)
abbrev cX2_rail : ByteArray := prog_11_method_35_code
def yX2_rail : MethodName := ⟨RX2, "rail", "(III)I"⟩
def dkwX2_rail_0 : List UInt8 := [42, 27, 28, 29, 182, 0, 151, 153, 0, 13, 42, 27, 28, 29, 182, 0, 181, 167, 0, 5, 16, 155, 172]
abbrev dktX2_rail_0 : List UInt8 := dkwX2_rail_0 ++ []
theorem dksX2_rail_0 : cX2_rail.data.toList.drop 0 = dktX2_rail_0 := by decide +kernel
theorem dX2_rail_0 : decode cX2_rail 0 = .ok (.aload_n 0, 1) := dk_42 (dk_at dksX2_rail_0 0 rfl rfl)
theorem dX2_rail_1 : decode cX2_rail 1 = .ok (.iload_n 1, 1) := dk_27 (dk_at dksX2_rail_0 1 rfl rfl)
theorem dX2_rail_2 : decode cX2_rail 2 = .ok (.iload_n 2, 1) := dk_28 (dk_at dksX2_rail_0 2 rfl rfl)
theorem dX2_rail_3 : decode cX2_rail 3 = .ok (.iload_n 3, 1) := dk_29 (dk_at dksX2_rail_0 3 rfl rfl)
theorem dX2_rail_4 : decode cX2_rail 4 = .ok (.invokevirtual 151, 3) := dk_182 0 151 (dk_at dksX2_rail_0 4 rfl rfl)
theorem dX2_rail_7 : decode cX2_rail 7 = .ok (.ifCond .eq 13, 3) := dk_153 0 13 (dk_at dksX2_rail_0 7 rfl rfl)
theorem dX2_rail_10 : decode cX2_rail 10 = .ok (.aload_n 0, 1) := dk_42 (dk_at dksX2_rail_0 10 rfl rfl)
theorem dX2_rail_11 : decode cX2_rail 11 = .ok (.iload_n 1, 1) := dk_27 (dk_at dksX2_rail_0 11 rfl rfl)
theorem dX2_rail_12 : decode cX2_rail 12 = .ok (.iload_n 2, 1) := dk_28 (dk_at dksX2_rail_0 12 rfl rfl)
theorem dX2_rail_13 : decode cX2_rail 13 = .ok (.iload_n 3, 1) := dk_29 (dk_at dksX2_rail_0 13 rfl rfl)
theorem dX2_rail_14 : decode cX2_rail 14 = .ok (.invokevirtual 181, 3) := dk_182 0 181 (dk_at dksX2_rail_0 14 rfl rfl)
theorem dX2_rail_17 : decode cX2_rail 17 = .ok (.goto 5, 3) := dk_167 0 5 (dk_at dksX2_rail_0 17 rfl rfl)
theorem dX2_rail_20 : decode cX2_rail 20 = .ok (.bipush (-101), 2) := dk_16 155 (dk_at dksX2_rail_0 20 rfl rfl)
theorem dX2_rail_22 : decode cX2_rail 22 = .ok (.ireturn, 1) := dk_172 (dk_at dksX2_rail_0 22 rfl rfl)
abbrev cX2_railOf : ByteArray := prog_11_method_34_code
def yX2_railOf : MethodName := ⟨RX2, "railOf", "(III)I"⟩
def dkwX2_railOf_8 : List UInt8 := [167, 0, 9, 42, 180, 0, 34, 29, 46, 172]
abbrev dktX2_railOf_8 : List UInt8 := dkwX2_railOf_8 ++ []
def dkwX2_railOf_7 : List UInt8 := [132, 5, 1, 167, 255, 137, 132, 4, 1, 167, 255, 121, 42, 180, 0, 34, 29, 46, 18, 123, 161, 0, 7, 2]
abbrev dktX2_railOf_7 : List UInt8 := dkwX2_railOf_7 ++ dktX2_railOf_8
def dkwX2_railOf_6 : List UInt8 := [162, 0, 8, 21, 8, 167, 0, 10, 42, 180, 0, 34, 21, 9, 46, 79, 132, 6, 1, 167, 255, 155]
abbrev dktX2_railOf_6 : List UInt8 := dkwX2_railOf_6 ++ dktX2_railOf_7
def dkwX2_railOf_5 : List UInt8 := [21, 5, 104, 21, 6, 96, 46, 54, 9, 42, 180, 0, 34, 21, 9, 21, 8, 42, 180, 0, 34, 21, 9, 46]
abbrev dktX2_railOf_5 : List UInt8 := dkwX2_railOf_5 ++ dktX2_railOf_6
def dkwX2_railOf_4 : List UInt8 := [21, 7, 164, 0, 13, 42, 27, 21, 5, 182, 0, 164, 167, 0, 5, 21, 7, 54, 8, 42, 180, 0, 13, 7]
abbrev dktX2_railOf_4 : List UInt8 := dkwX2_railOf_4 ++ dktX2_railOf_5
def dkwX2_railOf_3 : List UInt8 := [42, 180, 0, 13, 7, 21, 5, 104, 6, 96, 21, 6, 100, 46, 46, 54, 7, 42, 27, 21, 5, 182, 0, 164]
abbrev dktX2_railOf_3 : List UInt8 := dkwX2_railOf_3 ++ dktX2_railOf_4
def dkwX2_railOf_2 : List UInt8 := [54, 5, 21, 5, 42, 180, 0, 101, 162, 0, 116, 4, 54, 6, 21, 6, 6, 162, 0, 101, 42, 180, 0, 34]
abbrev dktX2_railOf_2 : List UInt8 := dkwX2_railOf_2 ++ dktX2_railOf_3
def dkwX2_railOf_1 : List UInt8 := [167, 0, 5, 18, 123, 79, 132, 4, 1, 167, 255, 227, 3, 54, 4, 21, 4, 16, 8, 162, 0, 134, 3]
abbrev dktX2_railOf_1 : List UInt8 := dkwX2_railOf_1 ++ dktX2_railOf_2
def dkwX2_railOf_0 : List UInt8 := [3, 54, 4, 21, 4, 16, 8, 162, 0, 28, 42, 180, 0, 34, 21, 4, 21, 4, 28, 160, 0, 7, 3]
abbrev dktX2_railOf_0 : List UInt8 := dkwX2_railOf_0 ++ dktX2_railOf_1
theorem dksX2_railOf_0 : cX2_railOf.data.toList.drop 0 = dktX2_railOf_0 := by decide +kernel
theorem dksX2_railOf_1 : cX2_railOf.data.toList.drop 23 = dktX2_railOf_1 := dk_seg dksX2_railOf_0 23 rfl rfl
theorem dksX2_railOf_2 : cX2_railOf.data.toList.drop 46 = dktX2_railOf_2 := dk_seg dksX2_railOf_1 23 rfl rfl
theorem dksX2_railOf_3 : cX2_railOf.data.toList.drop 70 = dktX2_railOf_3 := dk_seg dksX2_railOf_2 24 rfl rfl
theorem dksX2_railOf_4 : cX2_railOf.data.toList.drop 94 = dktX2_railOf_4 := dk_seg dksX2_railOf_3 24 rfl rfl
theorem dksX2_railOf_5 : cX2_railOf.data.toList.drop 118 = dktX2_railOf_5 := dk_seg dksX2_railOf_4 24 rfl rfl
theorem dksX2_railOf_6 : cX2_railOf.data.toList.drop 142 = dktX2_railOf_6 := dk_seg dksX2_railOf_5 24 rfl rfl
theorem dksX2_railOf_7 : cX2_railOf.data.toList.drop 164 = dktX2_railOf_7 := dk_seg dksX2_railOf_6 22 rfl rfl
theorem dksX2_railOf_8 : cX2_railOf.data.toList.drop 188 = dktX2_railOf_8 := dk_seg dksX2_railOf_7 24 rfl rfl
theorem dX2_railOf_0 : decode cX2_railOf 0 = .ok (.iconst 0, 1) := dk_3 (dk_at dksX2_railOf_0 0 rfl rfl)
theorem dX2_railOf_1 : decode cX2_railOf 1 = .ok (.istore 4, 2) := dk_54 4 (dk_at dksX2_railOf_0 1 rfl rfl)
theorem dX2_railOf_3 : decode cX2_railOf 3 = .ok (.iload 4, 2) := dk_21 4 (dk_at dksX2_railOf_0 3 rfl rfl)
theorem dX2_railOf_5 : decode cX2_railOf 5 = .ok (.bipush 8, 2) := dk_16 8 (dk_at dksX2_railOf_0 5 rfl rfl)
theorem dX2_railOf_7 : decode cX2_railOf 7 = .ok (.if_icmp .ge 28, 3) := dk_162 0 28 (dk_at dksX2_railOf_0 7 rfl rfl)
theorem dX2_railOf_10 : decode cX2_railOf 10 = .ok (.aload_n 0, 1) := dk_42 (dk_at dksX2_railOf_0 10 rfl rfl)
theorem dX2_railOf_11 : decode cX2_railOf 11 = .ok (.getfield 34, 3) := dk_180 0 34 (dk_at dksX2_railOf_0 11 rfl rfl)
theorem dX2_railOf_14 : decode cX2_railOf 14 = .ok (.iload 4, 2) := dk_21 4 (dk_at dksX2_railOf_0 14 rfl rfl)
theorem dX2_railOf_16 : decode cX2_railOf 16 = .ok (.iload 4, 2) := dk_21 4 (dk_at dksX2_railOf_0 16 rfl rfl)
theorem dX2_railOf_18 : decode cX2_railOf 18 = .ok (.iload_n 2, 1) := dk_28 (dk_at dksX2_railOf_0 18 rfl rfl)
theorem dX2_railOf_19 : decode cX2_railOf 19 = .ok (.if_icmp .ne 7, 3) := dk_160 0 7 (dk_at dksX2_railOf_0 19 rfl rfl)
theorem dX2_railOf_22 : decode cX2_railOf 22 = .ok (.iconst 0, 1) := dk_3 (dk_at dksX2_railOf_0 22 rfl rfl)
theorem dX2_railOf_23 : decode cX2_railOf 23 = .ok (.goto 5, 3) := dk_167 0 5 (dk_at dksX2_railOf_1 0 rfl rfl)
theorem dX2_railOf_26 : decode cX2_railOf 26 = .ok (.ldc 123, 2) := dk_18 123 (dk_at dksX2_railOf_1 3 rfl rfl)
theorem dX2_railOf_28 : decode cX2_railOf 28 = .ok (.iastore, 1) := dk_79 (dk_at dksX2_railOf_1 5 rfl rfl)
theorem dX2_railOf_29 : decode cX2_railOf 29 = .ok (.iinc 4 1, 3) := dk_132 4 1 (dk_at dksX2_railOf_1 6 rfl rfl)
theorem dX2_railOf_32 : decode cX2_railOf 32 = .ok (.goto (-29), 3) := dk_167 255 227 (dk_at dksX2_railOf_1 9 rfl rfl)
theorem dX2_railOf_35 : decode cX2_railOf 35 = .ok (.iconst 0, 1) := dk_3 (dk_at dksX2_railOf_1 12 rfl rfl)
theorem dX2_railOf_36 : decode cX2_railOf 36 = .ok (.istore 4, 2) := dk_54 4 (dk_at dksX2_railOf_1 13 rfl rfl)
theorem dX2_railOf_38 : decode cX2_railOf 38 = .ok (.iload 4, 2) := dk_21 4 (dk_at dksX2_railOf_1 15 rfl rfl)
theorem dX2_railOf_40 : decode cX2_railOf 40 = .ok (.bipush 8, 2) := dk_16 8 (dk_at dksX2_railOf_1 17 rfl rfl)
theorem dX2_railOf_42 : decode cX2_railOf 42 = .ok (.if_icmp .ge 134, 3) := dk_162 0 134 (dk_at dksX2_railOf_1 19 rfl rfl)
theorem dX2_railOf_45 : decode cX2_railOf 45 = .ok (.iconst 0, 1) := dk_3 (dk_at dksX2_railOf_1 22 rfl rfl)
theorem dX2_railOf_46 : decode cX2_railOf 46 = .ok (.istore 5, 2) := dk_54 5 (dk_at dksX2_railOf_2 0 rfl rfl)
theorem dX2_railOf_48 : decode cX2_railOf 48 = .ok (.iload 5, 2) := dk_21 5 (dk_at dksX2_railOf_2 2 rfl rfl)
theorem dX2_railOf_50 : decode cX2_railOf 50 = .ok (.aload_n 0, 1) := dk_42 (dk_at dksX2_railOf_2 4 rfl rfl)
theorem dX2_railOf_51 : decode cX2_railOf 51 = .ok (.getfield 101, 3) := dk_180 0 101 (dk_at dksX2_railOf_2 5 rfl rfl)
theorem dX2_railOf_54 : decode cX2_railOf 54 = .ok (.if_icmp .ge 116, 3) := dk_162 0 116 (dk_at dksX2_railOf_2 8 rfl rfl)
theorem dX2_railOf_57 : decode cX2_railOf 57 = .ok (.iconst 1, 1) := dk_4 (dk_at dksX2_railOf_2 11 rfl rfl)
theorem dX2_railOf_58 : decode cX2_railOf 58 = .ok (.istore 6, 2) := dk_54 6 (dk_at dksX2_railOf_2 12 rfl rfl)
theorem dX2_railOf_60 : decode cX2_railOf 60 = .ok (.iload 6, 2) := dk_21 6 (dk_at dksX2_railOf_2 14 rfl rfl)
theorem dX2_railOf_62 : decode cX2_railOf 62 = .ok (.iconst 3, 1) := dk_6 (dk_at dksX2_railOf_2 16 rfl rfl)
theorem dX2_railOf_63 : decode cX2_railOf 63 = .ok (.if_icmp .ge 101, 3) := dk_162 0 101 (dk_at dksX2_railOf_2 17 rfl rfl)
theorem dX2_railOf_66 : decode cX2_railOf 66 = .ok (.aload_n 0, 1) := dk_42 (dk_at dksX2_railOf_2 20 rfl rfl)
theorem dX2_railOf_67 : decode cX2_railOf 67 = .ok (.getfield 34, 3) := dk_180 0 34 (dk_at dksX2_railOf_2 21 rfl rfl)
theorem dX2_railOf_70 : decode cX2_railOf 70 = .ok (.aload_n 0, 1) := dk_42 (dk_at dksX2_railOf_3 0 rfl rfl)
theorem dX2_railOf_71 : decode cX2_railOf 71 = .ok (.getfield 13, 3) := dk_180 0 13 (dk_at dksX2_railOf_3 1 rfl rfl)
theorem dX2_railOf_74 : decode cX2_railOf 74 = .ok (.iconst 4, 1) := dk_7 (dk_at dksX2_railOf_3 4 rfl rfl)
theorem dX2_railOf_75 : decode cX2_railOf 75 = .ok (.iload 5, 2) := dk_21 5 (dk_at dksX2_railOf_3 5 rfl rfl)
theorem dX2_railOf_77 : decode cX2_railOf 77 = .ok (.imul, 1) := dk_104 (dk_at dksX2_railOf_3 7 rfl rfl)
theorem dX2_railOf_78 : decode cX2_railOf 78 = .ok (.iconst 3, 1) := dk_6 (dk_at dksX2_railOf_3 8 rfl rfl)
theorem dX2_railOf_79 : decode cX2_railOf 79 = .ok (.iadd, 1) := dk_96 (dk_at dksX2_railOf_3 9 rfl rfl)
theorem dX2_railOf_80 : decode cX2_railOf 80 = .ok (.iload 6, 2) := dk_21 6 (dk_at dksX2_railOf_3 10 rfl rfl)
theorem dX2_railOf_82 : decode cX2_railOf 82 = .ok (.isub, 1) := dk_100 (dk_at dksX2_railOf_3 12 rfl rfl)
theorem dX2_railOf_83 : decode cX2_railOf 83 = .ok (.iaload, 1) := dk_46 (dk_at dksX2_railOf_3 13 rfl rfl)
theorem dX2_railOf_84 : decode cX2_railOf 84 = .ok (.iaload, 1) := dk_46 (dk_at dksX2_railOf_3 14 rfl rfl)
theorem dX2_railOf_85 : decode cX2_railOf 85 = .ok (.istore 7, 2) := dk_54 7 (dk_at dksX2_railOf_3 15 rfl rfl)
theorem dX2_railOf_87 : decode cX2_railOf 87 = .ok (.aload_n 0, 1) := dk_42 (dk_at dksX2_railOf_3 17 rfl rfl)
theorem dX2_railOf_88 : decode cX2_railOf 88 = .ok (.iload_n 1, 1) := dk_27 (dk_at dksX2_railOf_3 18 rfl rfl)
theorem dX2_railOf_89 : decode cX2_railOf 89 = .ok (.iload 5, 2) := dk_21 5 (dk_at dksX2_railOf_3 19 rfl rfl)
theorem dX2_railOf_91 : decode cX2_railOf 91 = .ok (.invokevirtual 164, 3) := dk_182 0 164 (dk_at dksX2_railOf_3 21 rfl rfl)
theorem dX2_railOf_94 : decode cX2_railOf 94 = .ok (.iload 7, 2) := dk_21 7 (dk_at dksX2_railOf_4 0 rfl rfl)
theorem dX2_railOf_96 : decode cX2_railOf 96 = .ok (.if_icmp .le 13, 3) := dk_164 0 13 (dk_at dksX2_railOf_4 2 rfl rfl)
theorem dX2_railOf_99 : decode cX2_railOf 99 = .ok (.aload_n 0, 1) := dk_42 (dk_at dksX2_railOf_4 5 rfl rfl)
theorem dX2_railOf_100 : decode cX2_railOf 100 = .ok (.iload_n 1, 1) := dk_27 (dk_at dksX2_railOf_4 6 rfl rfl)
theorem dX2_railOf_101 : decode cX2_railOf 101 = .ok (.iload 5, 2) := dk_21 5 (dk_at dksX2_railOf_4 7 rfl rfl)
theorem dX2_railOf_103 : decode cX2_railOf 103 = .ok (.invokevirtual 164, 3) := dk_182 0 164 (dk_at dksX2_railOf_4 9 rfl rfl)
theorem dX2_railOf_106 : decode cX2_railOf 106 = .ok (.goto 5, 3) := dk_167 0 5 (dk_at dksX2_railOf_4 12 rfl rfl)
theorem dX2_railOf_109 : decode cX2_railOf 109 = .ok (.iload 7, 2) := dk_21 7 (dk_at dksX2_railOf_4 15 rfl rfl)
theorem dX2_railOf_111 : decode cX2_railOf 111 = .ok (.istore 8, 2) := dk_54 8 (dk_at dksX2_railOf_4 17 rfl rfl)
theorem dX2_railOf_113 : decode cX2_railOf 113 = .ok (.aload_n 0, 1) := dk_42 (dk_at dksX2_railOf_4 19 rfl rfl)
theorem dX2_railOf_114 : decode cX2_railOf 114 = .ok (.getfield 13, 3) := dk_180 0 13 (dk_at dksX2_railOf_4 20 rfl rfl)
theorem dX2_railOf_117 : decode cX2_railOf 117 = .ok (.iconst 4, 1) := dk_7 (dk_at dksX2_railOf_4 23 rfl rfl)
theorem dX2_railOf_118 : decode cX2_railOf 118 = .ok (.iload 5, 2) := dk_21 5 (dk_at dksX2_railOf_5 0 rfl rfl)
theorem dX2_railOf_120 : decode cX2_railOf 120 = .ok (.imul, 1) := dk_104 (dk_at dksX2_railOf_5 2 rfl rfl)
theorem dX2_railOf_121 : decode cX2_railOf 121 = .ok (.iload 6, 2) := dk_21 6 (dk_at dksX2_railOf_5 3 rfl rfl)
theorem dX2_railOf_123 : decode cX2_railOf 123 = .ok (.iadd, 1) := dk_96 (dk_at dksX2_railOf_5 5 rfl rfl)
theorem dX2_railOf_124 : decode cX2_railOf 124 = .ok (.iaload, 1) := dk_46 (dk_at dksX2_railOf_5 6 rfl rfl)
theorem dX2_railOf_125 : decode cX2_railOf 125 = .ok (.istore 9, 2) := dk_54 9 (dk_at dksX2_railOf_5 7 rfl rfl)
theorem dX2_railOf_127 : decode cX2_railOf 127 = .ok (.aload_n 0, 1) := dk_42 (dk_at dksX2_railOf_5 9 rfl rfl)
theorem dX2_railOf_128 : decode cX2_railOf 128 = .ok (.getfield 34, 3) := dk_180 0 34 (dk_at dksX2_railOf_5 10 rfl rfl)
theorem dX2_railOf_131 : decode cX2_railOf 131 = .ok (.iload 9, 2) := dk_21 9 (dk_at dksX2_railOf_5 13 rfl rfl)
theorem dX2_railOf_133 : decode cX2_railOf 133 = .ok (.iload 8, 2) := dk_21 8 (dk_at dksX2_railOf_5 15 rfl rfl)
theorem dX2_railOf_135 : decode cX2_railOf 135 = .ok (.aload_n 0, 1) := dk_42 (dk_at dksX2_railOf_5 17 rfl rfl)
theorem dX2_railOf_136 : decode cX2_railOf 136 = .ok (.getfield 34, 3) := dk_180 0 34 (dk_at dksX2_railOf_5 18 rfl rfl)
theorem dX2_railOf_139 : decode cX2_railOf 139 = .ok (.iload 9, 2) := dk_21 9 (dk_at dksX2_railOf_5 21 rfl rfl)
theorem dX2_railOf_141 : decode cX2_railOf 141 = .ok (.iaload, 1) := dk_46 (dk_at dksX2_railOf_5 23 rfl rfl)
theorem dX2_railOf_142 : decode cX2_railOf 142 = .ok (.if_icmp .ge 8, 3) := dk_162 0 8 (dk_at dksX2_railOf_6 0 rfl rfl)
theorem dX2_railOf_145 : decode cX2_railOf 145 = .ok (.iload 8, 2) := dk_21 8 (dk_at dksX2_railOf_6 3 rfl rfl)
theorem dX2_railOf_147 : decode cX2_railOf 147 = .ok (.goto 10, 3) := dk_167 0 10 (dk_at dksX2_railOf_6 5 rfl rfl)
theorem dX2_railOf_150 : decode cX2_railOf 150 = .ok (.aload_n 0, 1) := dk_42 (dk_at dksX2_railOf_6 8 rfl rfl)
theorem dX2_railOf_151 : decode cX2_railOf 151 = .ok (.getfield 34, 3) := dk_180 0 34 (dk_at dksX2_railOf_6 9 rfl rfl)
theorem dX2_railOf_154 : decode cX2_railOf 154 = .ok (.iload 9, 2) := dk_21 9 (dk_at dksX2_railOf_6 12 rfl rfl)
theorem dX2_railOf_156 : decode cX2_railOf 156 = .ok (.iaload, 1) := dk_46 (dk_at dksX2_railOf_6 14 rfl rfl)
theorem dX2_railOf_157 : decode cX2_railOf 157 = .ok (.iastore, 1) := dk_79 (dk_at dksX2_railOf_6 15 rfl rfl)
theorem dX2_railOf_158 : decode cX2_railOf 158 = .ok (.iinc 6 1, 3) := dk_132 6 1 (dk_at dksX2_railOf_6 16 rfl rfl)
theorem dX2_railOf_161 : decode cX2_railOf 161 = .ok (.goto (-101), 3) := dk_167 255 155 (dk_at dksX2_railOf_6 19 rfl rfl)
theorem dX2_railOf_164 : decode cX2_railOf 164 = .ok (.iinc 5 1, 3) := dk_132 5 1 (dk_at dksX2_railOf_7 0 rfl rfl)
theorem dX2_railOf_167 : decode cX2_railOf 167 = .ok (.goto (-119), 3) := dk_167 255 137 (dk_at dksX2_railOf_7 3 rfl rfl)
theorem dX2_railOf_170 : decode cX2_railOf 170 = .ok (.iinc 4 1, 3) := dk_132 4 1 (dk_at dksX2_railOf_7 6 rfl rfl)
theorem dX2_railOf_173 : decode cX2_railOf 173 = .ok (.goto (-135), 3) := dk_167 255 121 (dk_at dksX2_railOf_7 9 rfl rfl)
theorem dX2_railOf_176 : decode cX2_railOf 176 = .ok (.aload_n 0, 1) := dk_42 (dk_at dksX2_railOf_7 12 rfl rfl)
theorem dX2_railOf_177 : decode cX2_railOf 177 = .ok (.getfield 34, 3) := dk_180 0 34 (dk_at dksX2_railOf_7 13 rfl rfl)
theorem dX2_railOf_180 : decode cX2_railOf 180 = .ok (.iload_n 3, 1) := dk_29 (dk_at dksX2_railOf_7 16 rfl rfl)
theorem dX2_railOf_181 : decode cX2_railOf 181 = .ok (.iaload, 1) := dk_46 (dk_at dksX2_railOf_7 17 rfl rfl)
theorem dX2_railOf_182 : decode cX2_railOf 182 = .ok (.ldc 123, 2) := dk_18 123 (dk_at dksX2_railOf_7 18 rfl rfl)
theorem dX2_railOf_184 : decode cX2_railOf 184 = .ok (.if_icmp .lt 7, 3) := dk_161 0 7 (dk_at dksX2_railOf_7 20 rfl rfl)
theorem dX2_railOf_187 : decode cX2_railOf 187 = .ok (.iconst (-1), 1) := dk_2 (dk_at dksX2_railOf_7 23 rfl rfl)
theorem dX2_railOf_188 : decode cX2_railOf 188 = .ok (.goto 9, 3) := dk_167 0 9 (dk_at dksX2_railOf_8 0 rfl rfl)
theorem dX2_railOf_191 : decode cX2_railOf 191 = .ok (.aload_n 0, 1) := dk_42 (dk_at dksX2_railOf_8 3 rfl rfl)
theorem dX2_railOf_192 : decode cX2_railOf 192 = .ok (.getfield 34, 3) := dk_180 0 34 (dk_at dksX2_railOf_8 4 rfl rfl)
theorem dX2_railOf_195 : decode cX2_railOf 195 = .ok (.iload_n 3, 1) := dk_29 (dk_at dksX2_railOf_8 7 rfl rfl)
theorem dX2_railOf_196 : decode cX2_railOf 196 = .ok (.iaload, 1) := dk_46 (dk_at dksX2_railOf_8 8 rfl rfl)
theorem dX2_railOf_197 : decode cX2_railOf 197 = .ok (.ireturn, 1) := dk_172 (dk_at dksX2_railOf_8 9 rfl rfl)
abbrev cX2_person : ByteArray := prog_11_method_37_code
def yX2_person : MethodName := ⟨RX2, "person", "(II)I"⟩
def dkwX2_person_0 : List UInt8 := [42, 27, 182, 0, 145, 153, 0, 12, 42, 27, 28, 182, 0, 187, 167, 0, 5, 16, 155, 172]
abbrev dktX2_person_0 : List UInt8 := dkwX2_person_0 ++ []
theorem dksX2_person_0 : cX2_person.data.toList.drop 0 = dktX2_person_0 := by decide +kernel
theorem dX2_person_0 : decode cX2_person 0 = .ok (.aload_n 0, 1) := dk_42 (dk_at dksX2_person_0 0 rfl rfl)
theorem dX2_person_1 : decode cX2_person 1 = .ok (.iload_n 1, 1) := dk_27 (dk_at dksX2_person_0 1 rfl rfl)
theorem dX2_person_2 : decode cX2_person 2 = .ok (.invokevirtual 145, 3) := dk_182 0 145 (dk_at dksX2_person_0 2 rfl rfl)
theorem dX2_person_5 : decode cX2_person 5 = .ok (.ifCond .eq 12, 3) := dk_153 0 12 (dk_at dksX2_person_0 5 rfl rfl)
theorem dX2_person_8 : decode cX2_person 8 = .ok (.aload_n 0, 1) := dk_42 (dk_at dksX2_person_0 8 rfl rfl)
theorem dX2_person_9 : decode cX2_person 9 = .ok (.iload_n 1, 1) := dk_27 (dk_at dksX2_person_0 9 rfl rfl)
theorem dX2_person_10 : decode cX2_person 10 = .ok (.iload_n 2, 1) := dk_28 (dk_at dksX2_person_0 10 rfl rfl)
theorem dX2_person_11 : decode cX2_person 11 = .ok (.invokevirtual 187, 3) := dk_182 0 187 (dk_at dksX2_person_0 11 rfl rfl)
theorem dX2_person_14 : decode cX2_person 14 = .ok (.goto 5, 3) := dk_167 0 5 (dk_at dksX2_person_0 14 rfl rfl)
theorem dX2_person_17 : decode cX2_person 17 = .ok (.bipush (-101), 2) := dk_16 155 (dk_at dksX2_person_0 17 rfl rfl)
theorem dX2_person_19 : decode cX2_person 19 = .ok (.ireturn, 1) := dk_172 (dk_at dksX2_person_0 19 rfl rfl)
abbrev cX2_tellPerson : ByteArray := prog_11_method_36_code
def yX2_tellPerson : MethodName := ⟨RX2, "tellPerson", "(II)I"⟩
def dkwX2_tellPerson_3 : List UInt8 := [28, 96, 4, 100, 46, 172, 16, 154, 172]
abbrev dktX2_tellPerson_3 : List UInt8 := dkwX2_tellPerson_3 ++ []
def dkwX2_tellPerson_2 : List UInt8 := [42, 180, 0, 16, 8, 27, 104, 28, 96, 46, 172, 42, 27, 182, 0, 184, 172, 42, 180, 0, 16, 8, 27, 104]
abbrev dktX2_tellPerson_2 : List UInt8 := dkwX2_tellPerson_2 ++ dktX2_tellPerson_3
def dkwX2_tellPerson_1 : List UInt8 := [170, 0, 0, 0, 0, 0, 69, 0, 0, 0, 0, 0, 0, 0, 5, 0, 0, 0, 39, 0, 0, 0, 39, 0, 0, 0, 39, 0, 0, 0, 50, 0, 0, 0, 56, 0, 0, 0, 56]
abbrev dktX2_tellPerson_1 : List UInt8 := dkwX2_tellPerson_1 ++ dktX2_tellPerson_2
def dkwX2_tellPerson_0 : List UInt8 := [28]
abbrev dktX2_tellPerson_0 : List UInt8 := dkwX2_tellPerson_0 ++ dktX2_tellPerson_1
theorem dksX2_tellPerson_0 : cX2_tellPerson.data.toList.drop 0 = dktX2_tellPerson_0 := by decide +kernel
theorem dksX2_tellPerson_1 : cX2_tellPerson.data.toList.drop 1 = dktX2_tellPerson_1 := dk_seg dksX2_tellPerson_0 1 rfl rfl
theorem dksX2_tellPerson_2 : cX2_tellPerson.data.toList.drop 40 = dktX2_tellPerson_2 := dk_seg dksX2_tellPerson_1 39 rfl rfl
theorem dksX2_tellPerson_3 : cX2_tellPerson.data.toList.drop 64 = dktX2_tellPerson_3 := dk_seg dksX2_tellPerson_2 24 rfl rfl
theorem dX2_tellPerson_0 : decode cX2_tellPerson 0 = .ok (.iload_n 2, 1) := dk_28 (dk_at dksX2_tellPerson_0 0 rfl rfl)
theorem dX2_tellPerson_1 : decode cX2_tellPerson 1 = .ok (.tableswitch 69 0 5 #[39, 39, 39, 50, 56, 56], 39) := by decide +kernel
theorem dX2_tellPerson_40 : decode cX2_tellPerson 40 = .ok (.aload_n 0, 1) := dk_42 (dk_at dksX2_tellPerson_2 0 rfl rfl)
theorem dX2_tellPerson_41 : decode cX2_tellPerson 41 = .ok (.getfield 16, 3) := dk_180 0 16 (dk_at dksX2_tellPerson_2 1 rfl rfl)
theorem dX2_tellPerson_44 : decode cX2_tellPerson 44 = .ok (.iconst 5, 1) := dk_8 (dk_at dksX2_tellPerson_2 4 rfl rfl)
theorem dX2_tellPerson_45 : decode cX2_tellPerson 45 = .ok (.iload_n 1, 1) := dk_27 (dk_at dksX2_tellPerson_2 5 rfl rfl)
theorem dX2_tellPerson_46 : decode cX2_tellPerson 46 = .ok (.imul, 1) := dk_104 (dk_at dksX2_tellPerson_2 6 rfl rfl)
theorem dX2_tellPerson_47 : decode cX2_tellPerson 47 = .ok (.iload_n 2, 1) := dk_28 (dk_at dksX2_tellPerson_2 7 rfl rfl)
theorem dX2_tellPerson_48 : decode cX2_tellPerson 48 = .ok (.iadd, 1) := dk_96 (dk_at dksX2_tellPerson_2 8 rfl rfl)
theorem dX2_tellPerson_49 : decode cX2_tellPerson 49 = .ok (.iaload, 1) := dk_46 (dk_at dksX2_tellPerson_2 9 rfl rfl)
theorem dX2_tellPerson_50 : decode cX2_tellPerson 50 = .ok (.ireturn, 1) := dk_172 (dk_at dksX2_tellPerson_2 10 rfl rfl)
theorem dX2_tellPerson_51 : decode cX2_tellPerson 51 = .ok (.aload_n 0, 1) := dk_42 (dk_at dksX2_tellPerson_2 11 rfl rfl)
theorem dX2_tellPerson_52 : decode cX2_tellPerson 52 = .ok (.iload_n 1, 1) := dk_27 (dk_at dksX2_tellPerson_2 12 rfl rfl)
theorem dX2_tellPerson_53 : decode cX2_tellPerson 53 = .ok (.invokevirtual 184, 3) := dk_182 0 184 (dk_at dksX2_tellPerson_2 13 rfl rfl)
theorem dX2_tellPerson_56 : decode cX2_tellPerson 56 = .ok (.ireturn, 1) := dk_172 (dk_at dksX2_tellPerson_2 16 rfl rfl)
theorem dX2_tellPerson_57 : decode cX2_tellPerson 57 = .ok (.aload_n 0, 1) := dk_42 (dk_at dksX2_tellPerson_2 17 rfl rfl)
theorem dX2_tellPerson_58 : decode cX2_tellPerson 58 = .ok (.getfield 16, 3) := dk_180 0 16 (dk_at dksX2_tellPerson_2 18 rfl rfl)
theorem dX2_tellPerson_61 : decode cX2_tellPerson 61 = .ok (.iconst 5, 1) := dk_8 (dk_at dksX2_tellPerson_2 21 rfl rfl)
theorem dX2_tellPerson_62 : decode cX2_tellPerson 62 = .ok (.iload_n 1, 1) := dk_27 (dk_at dksX2_tellPerson_2 22 rfl rfl)
theorem dX2_tellPerson_63 : decode cX2_tellPerson 63 = .ok (.imul, 1) := dk_104 (dk_at dksX2_tellPerson_2 23 rfl rfl)
theorem dX2_tellPerson_64 : decode cX2_tellPerson 64 = .ok (.iload_n 2, 1) := dk_28 (dk_at dksX2_tellPerson_3 0 rfl rfl)
theorem dX2_tellPerson_65 : decode cX2_tellPerson 65 = .ok (.iadd, 1) := dk_96 (dk_at dksX2_tellPerson_3 1 rfl rfl)
theorem dX2_tellPerson_66 : decode cX2_tellPerson 66 = .ok (.iconst 1, 1) := dk_4 (dk_at dksX2_tellPerson_3 2 rfl rfl)
theorem dX2_tellPerson_67 : decode cX2_tellPerson 67 = .ok (.isub, 1) := dk_100 (dk_at dksX2_tellPerson_3 3 rfl rfl)
theorem dX2_tellPerson_68 : decode cX2_tellPerson 68 = .ok (.iaload, 1) := dk_46 (dk_at dksX2_tellPerson_3 4 rfl rfl)
theorem dX2_tellPerson_69 : decode cX2_tellPerson 69 = .ok (.ireturn, 1) := dk_172 (dk_at dksX2_tellPerson_3 5 rfl rfl)
theorem dX2_tellPerson_70 : decode cX2_tellPerson 70 = .ok (.bipush (-102), 2) := dk_16 154 (dk_at dksX2_tellPerson_3 6 rfl rfl)
theorem dX2_tellPerson_72 : decode cX2_tellPerson 72 = .ok (.ireturn, 1) := dk_172 (dk_at dksX2_tellPerson_3 8 rfl rfl)
abbrev cX2_tendersOf : ByteArray := prog_11_method_64_code
def yX2_tendersOf : MethodName := ⟨RX2, "tendersOf", "(I)I"⟩
def dkwX2_tendersOf_4 : List UInt8 := [153, 0, 9, 4, 29, 120, 167, 0, 4, 3, 128, 61, 132, 3, 1, 167, 255, 150, 28, 172]
abbrev dktX2_tendersOf_4 : List UInt8 := dkwX2_tendersOf_4 ++ []
def dkwX2_tendersOf_3 : List UInt8 := [21, 5, 6, 96, 46, 160, 0, 7, 4, 167, 0, 4, 3, 54, 4, 132, 5, 4, 167, 255, 183, 28, 21, 4]
abbrev dktX2_tendersOf_3 : List UInt8 := dkwX2_tendersOf_3 ++ dktX2_tendersOf_4
def dkwX2_tendersOf_2 : List UInt8 := [180, 0, 37, 21, 5, 4, 96, 46, 42, 180, 0, 37, 21, 5, 5, 96, 46, 182, 0, 240, 42, 180, 0, 37]
abbrev dktX2_tendersOf_2 : List UInt8 := dkwX2_tendersOf_2 ++ dktX2_tendersOf_3
def dkwX2_tendersOf_1 : List UInt8 := [162, 0, 68, 42, 180, 0, 37, 21, 5, 46, 27, 160, 0, 51, 21, 4, 153, 0, 43, 42, 27, 29, 42]
abbrev dktX2_tendersOf_1 : List UInt8 := dkwX2_tendersOf_1 ++ dktX2_tendersOf_2
def dkwX2_tendersOf_0 : List UInt8 := [3, 61, 3, 62, 29, 16, 10, 162, 0, 106, 4, 54, 4, 3, 54, 5, 21, 5, 7, 42, 180, 0, 107, 104]
abbrev dktX2_tendersOf_0 : List UInt8 := dkwX2_tendersOf_0 ++ dktX2_tendersOf_1
theorem dksX2_tendersOf_0 : cX2_tendersOf.data.toList.drop 0 = dktX2_tendersOf_0 := by decide +kernel
theorem dksX2_tendersOf_1 : cX2_tendersOf.data.toList.drop 24 = dktX2_tendersOf_1 := dk_seg dksX2_tendersOf_0 24 rfl rfl
theorem dksX2_tendersOf_2 : cX2_tendersOf.data.toList.drop 47 = dktX2_tendersOf_2 := dk_seg dksX2_tendersOf_1 23 rfl rfl
theorem dksX2_tendersOf_3 : cX2_tendersOf.data.toList.drop 71 = dktX2_tendersOf_3 := dk_seg dksX2_tendersOf_2 24 rfl rfl
theorem dksX2_tendersOf_4 : cX2_tendersOf.data.toList.drop 95 = dktX2_tendersOf_4 := dk_seg dksX2_tendersOf_3 24 rfl rfl
theorem dX2_tendersOf_0 : decode cX2_tendersOf 0 = .ok (.iconst 0, 1) := dk_3 (dk_at dksX2_tendersOf_0 0 rfl rfl)
theorem dX2_tendersOf_1 : decode cX2_tendersOf 1 = .ok (.istore_n 2, 1) := dk_61 (dk_at dksX2_tendersOf_0 1 rfl rfl)
theorem dX2_tendersOf_2 : decode cX2_tendersOf 2 = .ok (.iconst 0, 1) := dk_3 (dk_at dksX2_tendersOf_0 2 rfl rfl)
theorem dX2_tendersOf_3 : decode cX2_tendersOf 3 = .ok (.istore_n 3, 1) := dk_62 (dk_at dksX2_tendersOf_0 3 rfl rfl)
theorem dX2_tendersOf_4 : decode cX2_tendersOf 4 = .ok (.iload_n 3, 1) := dk_29 (dk_at dksX2_tendersOf_0 4 rfl rfl)
theorem dX2_tendersOf_5 : decode cX2_tendersOf 5 = .ok (.bipush 10, 2) := dk_16 10 (dk_at dksX2_tendersOf_0 5 rfl rfl)
theorem dX2_tendersOf_7 : decode cX2_tendersOf 7 = .ok (.if_icmp .ge 106, 3) := dk_162 0 106 (dk_at dksX2_tendersOf_0 7 rfl rfl)
theorem dX2_tendersOf_10 : decode cX2_tendersOf 10 = .ok (.iconst 1, 1) := dk_4 (dk_at dksX2_tendersOf_0 10 rfl rfl)
theorem dX2_tendersOf_11 : decode cX2_tendersOf 11 = .ok (.istore 4, 2) := dk_54 4 (dk_at dksX2_tendersOf_0 11 rfl rfl)
theorem dX2_tendersOf_13 : decode cX2_tendersOf 13 = .ok (.iconst 0, 1) := dk_3 (dk_at dksX2_tendersOf_0 13 rfl rfl)
theorem dX2_tendersOf_14 : decode cX2_tendersOf 14 = .ok (.istore 5, 2) := dk_54 5 (dk_at dksX2_tendersOf_0 14 rfl rfl)
theorem dX2_tendersOf_16 : decode cX2_tendersOf 16 = .ok (.iload 5, 2) := dk_21 5 (dk_at dksX2_tendersOf_0 16 rfl rfl)
theorem dX2_tendersOf_18 : decode cX2_tendersOf 18 = .ok (.iconst 4, 1) := dk_7 (dk_at dksX2_tendersOf_0 18 rfl rfl)
theorem dX2_tendersOf_19 : decode cX2_tendersOf 19 = .ok (.aload_n 0, 1) := dk_42 (dk_at dksX2_tendersOf_0 19 rfl rfl)
theorem dX2_tendersOf_20 : decode cX2_tendersOf 20 = .ok (.getfield 107, 3) := dk_180 0 107 (dk_at dksX2_tendersOf_0 20 rfl rfl)
theorem dX2_tendersOf_23 : decode cX2_tendersOf 23 = .ok (.imul, 1) := dk_104 (dk_at dksX2_tendersOf_0 23 rfl rfl)
theorem dX2_tendersOf_24 : decode cX2_tendersOf 24 = .ok (.if_icmp .ge 68, 3) := dk_162 0 68 (dk_at dksX2_tendersOf_1 0 rfl rfl)
theorem dX2_tendersOf_27 : decode cX2_tendersOf 27 = .ok (.aload_n 0, 1) := dk_42 (dk_at dksX2_tendersOf_1 3 rfl rfl)
theorem dX2_tendersOf_28 : decode cX2_tendersOf 28 = .ok (.getfield 37, 3) := dk_180 0 37 (dk_at dksX2_tendersOf_1 4 rfl rfl)
theorem dX2_tendersOf_31 : decode cX2_tendersOf 31 = .ok (.iload 5, 2) := dk_21 5 (dk_at dksX2_tendersOf_1 7 rfl rfl)
theorem dX2_tendersOf_33 : decode cX2_tendersOf 33 = .ok (.iaload, 1) := dk_46 (dk_at dksX2_tendersOf_1 9 rfl rfl)
theorem dX2_tendersOf_34 : decode cX2_tendersOf 34 = .ok (.iload_n 1, 1) := dk_27 (dk_at dksX2_tendersOf_1 10 rfl rfl)
theorem dX2_tendersOf_35 : decode cX2_tendersOf 35 = .ok (.if_icmp .ne 51, 3) := dk_160 0 51 (dk_at dksX2_tendersOf_1 11 rfl rfl)
theorem dX2_tendersOf_38 : decode cX2_tendersOf 38 = .ok (.iload 4, 2) := dk_21 4 (dk_at dksX2_tendersOf_1 14 rfl rfl)
theorem dX2_tendersOf_40 : decode cX2_tendersOf 40 = .ok (.ifCond .eq 43, 3) := dk_153 0 43 (dk_at dksX2_tendersOf_1 16 rfl rfl)
theorem dX2_tendersOf_43 : decode cX2_tendersOf 43 = .ok (.aload_n 0, 1) := dk_42 (dk_at dksX2_tendersOf_1 19 rfl rfl)
theorem dX2_tendersOf_44 : decode cX2_tendersOf 44 = .ok (.iload_n 1, 1) := dk_27 (dk_at dksX2_tendersOf_1 20 rfl rfl)
theorem dX2_tendersOf_45 : decode cX2_tendersOf 45 = .ok (.iload_n 3, 1) := dk_29 (dk_at dksX2_tendersOf_1 21 rfl rfl)
theorem dX2_tendersOf_46 : decode cX2_tendersOf 46 = .ok (.aload_n 0, 1) := dk_42 (dk_at dksX2_tendersOf_1 22 rfl rfl)
theorem dX2_tendersOf_47 : decode cX2_tendersOf 47 = .ok (.getfield 37, 3) := dk_180 0 37 (dk_at dksX2_tendersOf_2 0 rfl rfl)
theorem dX2_tendersOf_50 : decode cX2_tendersOf 50 = .ok (.iload 5, 2) := dk_21 5 (dk_at dksX2_tendersOf_2 3 rfl rfl)
theorem dX2_tendersOf_52 : decode cX2_tendersOf 52 = .ok (.iconst 1, 1) := dk_4 (dk_at dksX2_tendersOf_2 5 rfl rfl)
theorem dX2_tendersOf_53 : decode cX2_tendersOf 53 = .ok (.iadd, 1) := dk_96 (dk_at dksX2_tendersOf_2 6 rfl rfl)
theorem dX2_tendersOf_54 : decode cX2_tendersOf 54 = .ok (.iaload, 1) := dk_46 (dk_at dksX2_tendersOf_2 7 rfl rfl)
theorem dX2_tendersOf_55 : decode cX2_tendersOf 55 = .ok (.aload_n 0, 1) := dk_42 (dk_at dksX2_tendersOf_2 8 rfl rfl)
theorem dX2_tendersOf_56 : decode cX2_tendersOf 56 = .ok (.getfield 37, 3) := dk_180 0 37 (dk_at dksX2_tendersOf_2 9 rfl rfl)
theorem dX2_tendersOf_59 : decode cX2_tendersOf 59 = .ok (.iload 5, 2) := dk_21 5 (dk_at dksX2_tendersOf_2 12 rfl rfl)
theorem dX2_tendersOf_61 : decode cX2_tendersOf 61 = .ok (.iconst 2, 1) := dk_5 (dk_at dksX2_tendersOf_2 14 rfl rfl)
theorem dX2_tendersOf_62 : decode cX2_tendersOf 62 = .ok (.iadd, 1) := dk_96 (dk_at dksX2_tendersOf_2 15 rfl rfl)
theorem dX2_tendersOf_63 : decode cX2_tendersOf 63 = .ok (.iaload, 1) := dk_46 (dk_at dksX2_tendersOf_2 16 rfl rfl)
theorem dX2_tendersOf_64 : decode cX2_tendersOf 64 = .ok (.invokevirtual 240, 3) := dk_182 0 240 (dk_at dksX2_tendersOf_2 17 rfl rfl)
theorem dX2_tendersOf_67 : decode cX2_tendersOf 67 = .ok (.aload_n 0, 1) := dk_42 (dk_at dksX2_tendersOf_2 20 rfl rfl)
theorem dX2_tendersOf_68 : decode cX2_tendersOf 68 = .ok (.getfield 37, 3) := dk_180 0 37 (dk_at dksX2_tendersOf_2 21 rfl rfl)
theorem dX2_tendersOf_71 : decode cX2_tendersOf 71 = .ok (.iload 5, 2) := dk_21 5 (dk_at dksX2_tendersOf_3 0 rfl rfl)
theorem dX2_tendersOf_73 : decode cX2_tendersOf 73 = .ok (.iconst 3, 1) := dk_6 (dk_at dksX2_tendersOf_3 2 rfl rfl)
theorem dX2_tendersOf_74 : decode cX2_tendersOf 74 = .ok (.iadd, 1) := dk_96 (dk_at dksX2_tendersOf_3 3 rfl rfl)
theorem dX2_tendersOf_75 : decode cX2_tendersOf 75 = .ok (.iaload, 1) := dk_46 (dk_at dksX2_tendersOf_3 4 rfl rfl)
theorem dX2_tendersOf_76 : decode cX2_tendersOf 76 = .ok (.if_icmp .ne 7, 3) := dk_160 0 7 (dk_at dksX2_tendersOf_3 5 rfl rfl)
theorem dX2_tendersOf_79 : decode cX2_tendersOf 79 = .ok (.iconst 1, 1) := dk_4 (dk_at dksX2_tendersOf_3 8 rfl rfl)
theorem dX2_tendersOf_80 : decode cX2_tendersOf 80 = .ok (.goto 4, 3) := dk_167 0 4 (dk_at dksX2_tendersOf_3 9 rfl rfl)
theorem dX2_tendersOf_83 : decode cX2_tendersOf 83 = .ok (.iconst 0, 1) := dk_3 (dk_at dksX2_tendersOf_3 12 rfl rfl)
theorem dX2_tendersOf_84 : decode cX2_tendersOf 84 = .ok (.istore 4, 2) := dk_54 4 (dk_at dksX2_tendersOf_3 13 rfl rfl)
theorem dX2_tendersOf_86 : decode cX2_tendersOf 86 = .ok (.iinc 5 4, 3) := dk_132 5 4 (dk_at dksX2_tendersOf_3 15 rfl rfl)
theorem dX2_tendersOf_89 : decode cX2_tendersOf 89 = .ok (.goto (-73), 3) := dk_167 255 183 (dk_at dksX2_tendersOf_3 18 rfl rfl)
theorem dX2_tendersOf_92 : decode cX2_tendersOf 92 = .ok (.iload_n 2, 1) := dk_28 (dk_at dksX2_tendersOf_3 21 rfl rfl)
theorem dX2_tendersOf_93 : decode cX2_tendersOf 93 = .ok (.iload 4, 2) := dk_21 4 (dk_at dksX2_tendersOf_3 22 rfl rfl)
theorem dX2_tendersOf_95 : decode cX2_tendersOf 95 = .ok (.ifCond .eq 9, 3) := dk_153 0 9 (dk_at dksX2_tendersOf_4 0 rfl rfl)
theorem dX2_tendersOf_98 : decode cX2_tendersOf 98 = .ok (.iconst 1, 1) := dk_4 (dk_at dksX2_tendersOf_4 3 rfl rfl)
theorem dX2_tendersOf_99 : decode cX2_tendersOf 99 = .ok (.iload_n 3, 1) := dk_29 (dk_at dksX2_tendersOf_4 4 rfl rfl)
theorem dX2_tendersOf_100 : decode cX2_tendersOf 100 = .ok (.ishl, 1) := dk_120 (dk_at dksX2_tendersOf_4 5 rfl rfl)
theorem dX2_tendersOf_101 : decode cX2_tendersOf 101 = .ok (.goto 4, 3) := dk_167 0 4 (dk_at dksX2_tendersOf_4 6 rfl rfl)
theorem dX2_tendersOf_104 : decode cX2_tendersOf 104 = .ok (.iconst 0, 1) := dk_3 (dk_at dksX2_tendersOf_4 9 rfl rfl)
theorem dX2_tendersOf_105 : decode cX2_tendersOf 105 = .ok (.ior, 1) := dk_128 (dk_at dksX2_tendersOf_4 10 rfl rfl)
theorem dX2_tendersOf_106 : decode cX2_tendersOf 106 = .ok (.istore_n 2, 1) := dk_61 (dk_at dksX2_tendersOf_4 11 rfl rfl)
theorem dX2_tendersOf_107 : decode cX2_tendersOf 107 = .ok (.iinc 3 1, 3) := dk_132 3 1 (dk_at dksX2_tendersOf_4 12 rfl rfl)
theorem dX2_tendersOf_110 : decode cX2_tendersOf 110 = .ok (.goto (-106), 3) := dk_167 255 150 (dk_at dksX2_tendersOf_4 15 rfl rfl)
theorem dX2_tendersOf_113 : decode cX2_tendersOf 113 = .ok (.iload_n 2, 1) := dk_28 (dk_at dksX2_tendersOf_4 18 rfl rfl)
theorem dX2_tendersOf_114 : decode cX2_tendersOf 114 = .ok (.ireturn, 1) := dk_172 (dk_at dksX2_tendersOf_4 19 rfl rfl)
abbrev cX2_firstBy : ByteArray := prog_11_method_63_code
def yX2_firstBy : MethodName := ⟨RX2, "firstBy", "(IIII)I"⟩
def dkwX2_firstBy_0 : List UInt8 := [42, 27, 28, 21, 4, 42, 182, 0, 139, 182, 0, 131, 42, 27, 28, 29, 42, 182, 0, 139, 182, 0, 135, 172]
abbrev dktX2_firstBy_0 : List UInt8 := dkwX2_firstBy_0 ++ []
theorem dksX2_firstBy_0 : cX2_firstBy.data.toList.drop 0 = dktX2_firstBy_0 := by decide +kernel
theorem dX2_firstBy_0 : decode cX2_firstBy 0 = .ok (.aload_n 0, 1) := dk_42 (dk_at dksX2_firstBy_0 0 rfl rfl)
theorem dX2_firstBy_1 : decode cX2_firstBy 1 = .ok (.iload_n 1, 1) := dk_27 (dk_at dksX2_firstBy_0 1 rfl rfl)
theorem dX2_firstBy_2 : decode cX2_firstBy 2 = .ok (.iload_n 2, 1) := dk_28 (dk_at dksX2_firstBy_0 2 rfl rfl)
theorem dX2_firstBy_3 : decode cX2_firstBy 3 = .ok (.iload 4, 2) := dk_21 4 (dk_at dksX2_firstBy_0 3 rfl rfl)
theorem dX2_firstBy_5 : decode cX2_firstBy 5 = .ok (.aload_n 0, 1) := dk_42 (dk_at dksX2_firstBy_0 5 rfl rfl)
theorem dX2_firstBy_6 : decode cX2_firstBy 6 = .ok (.invokevirtual 139, 3) := dk_182 0 139 (dk_at dksX2_firstBy_0 6 rfl rfl)
theorem dX2_firstBy_9 : decode cX2_firstBy 9 = .ok (.invokevirtual 131, 3) := dk_182 0 131 (dk_at dksX2_firstBy_0 9 rfl rfl)
theorem dX2_firstBy_12 : decode cX2_firstBy 12 = .ok (.aload_n 0, 1) := dk_42 (dk_at dksX2_firstBy_0 12 rfl rfl)
theorem dX2_firstBy_13 : decode cX2_firstBy 13 = .ok (.iload_n 1, 1) := dk_27 (dk_at dksX2_firstBy_0 13 rfl rfl)
theorem dX2_firstBy_14 : decode cX2_firstBy 14 = .ok (.iload_n 2, 1) := dk_28 (dk_at dksX2_firstBy_0 14 rfl rfl)
theorem dX2_firstBy_15 : decode cX2_firstBy 15 = .ok (.iload_n 3, 1) := dk_29 (dk_at dksX2_firstBy_0 15 rfl rfl)
theorem dX2_firstBy_16 : decode cX2_firstBy 16 = .ok (.aload_n 0, 1) := dk_42 (dk_at dksX2_firstBy_0 16 rfl rfl)
theorem dX2_firstBy_17 : decode cX2_firstBy 17 = .ok (.invokevirtual 139, 3) := dk_182 0 139 (dk_at dksX2_firstBy_0 17 rfl rfl)
theorem dX2_firstBy_20 : decode cX2_firstBy 20 = .ok (.invokevirtual 135, 3) := dk_182 0 135 (dk_at dksX2_firstBy_0 20 rfl rfl)
theorem dX2_firstBy_23 : decode cX2_firstBy 23 = .ok (.ireturn, 1) := dk_172 (dk_at dksX2_firstBy_0 23 rfl rfl)
abbrev cX2_street : ByteArray := prog_11_method_40_code
def yX2_street : MethodName := ⟨RX2, "street", "(II)I"⟩
def dkwX2_street_0 : List UInt8 := [42, 27, 182, 0, 195, 153, 0, 12, 42, 27, 28, 182, 0, 198, 167, 0, 5, 16, 155, 172]
abbrev dktX2_street_0 : List UInt8 := dkwX2_street_0 ++ []
theorem dksX2_street_0 : cX2_street.data.toList.drop 0 = dktX2_street_0 := by decide +kernel
theorem dX2_street_0 : decode cX2_street 0 = .ok (.aload_n 0, 1) := dk_42 (dk_at dksX2_street_0 0 rfl rfl)
theorem dX2_street_1 : decode cX2_street 1 = .ok (.iload_n 1, 1) := dk_27 (dk_at dksX2_street_0 1 rfl rfl)
theorem dX2_street_2 : decode cX2_street 2 = .ok (.invokevirtual 195, 3) := dk_182 0 195 (dk_at dksX2_street_0 2 rfl rfl)
theorem dX2_street_5 : decode cX2_street 5 = .ok (.ifCond .eq 12, 3) := dk_153 0 12 (dk_at dksX2_street_0 5 rfl rfl)
theorem dX2_street_8 : decode cX2_street 8 = .ok (.aload_n 0, 1) := dk_42 (dk_at dksX2_street_0 8 rfl rfl)
theorem dX2_street_9 : decode cX2_street 9 = .ok (.iload_n 1, 1) := dk_27 (dk_at dksX2_street_0 9 rfl rfl)
theorem dX2_street_10 : decode cX2_street 10 = .ok (.iload_n 2, 1) := dk_28 (dk_at dksX2_street_0 10 rfl rfl)
theorem dX2_street_11 : decode cX2_street 11 = .ok (.invokevirtual 198, 3) := dk_182 0 198 (dk_at dksX2_street_0 11 rfl rfl)
theorem dX2_street_14 : decode cX2_street 14 = .ok (.goto 5, 3) := dk_167 0 5 (dk_at dksX2_street_0 14 rfl rfl)
theorem dX2_street_17 : decode cX2_street 17 = .ok (.bipush (-101), 2) := dk_16 155 (dk_at dksX2_street_0 17 rfl rfl)
theorem dX2_street_19 : decode cX2_street 19 = .ok (.ireturn, 1) := dk_172 (dk_at dksX2_street_0 19 rfl rfl)
abbrev cX2_isStreet : ByteArray := prog_11_method_15_code
def yX2_isStreet : MethodName := ⟨RX2, "isStreet", "(I)Z"⟩
def dkwX2_isStreet_0 : List UInt8 := [27, 133, 9, 42, 180, 0, 101, 4, 100, 133, 184, 0, 64, 172]
abbrev dktX2_isStreet_0 : List UInt8 := dkwX2_isStreet_0 ++ []
theorem dksX2_isStreet_0 : cX2_isStreet.data.toList.drop 0 = dktX2_isStreet_0 := by decide +kernel
theorem dX2_isStreet_0 : decode cX2_isStreet 0 = .ok (.iload_n 1, 1) := dk_27 (dk_at dksX2_isStreet_0 0 rfl rfl)
theorem dX2_isStreet_1 : decode cX2_isStreet 1 = .ok (.i2l, 1) := dk_133 (dk_at dksX2_isStreet_0 1 rfl rfl)
theorem dX2_isStreet_2 : decode cX2_isStreet 2 = .ok (.lconst 0, 1) := dk_9 (dk_at dksX2_isStreet_0 2 rfl rfl)
theorem dX2_isStreet_3 : decode cX2_isStreet 3 = .ok (.aload_n 0, 1) := dk_42 (dk_at dksX2_isStreet_0 3 rfl rfl)
theorem dX2_isStreet_4 : decode cX2_isStreet 4 = .ok (.getfield 101, 3) := dk_180 0 101 (dk_at dksX2_isStreet_0 4 rfl rfl)
theorem dX2_isStreet_7 : decode cX2_isStreet 7 = .ok (.iconst 1, 1) := dk_4 (dk_at dksX2_isStreet_0 7 rfl rfl)
theorem dX2_isStreet_8 : decode cX2_isStreet 8 = .ok (.isub, 1) := dk_100 (dk_at dksX2_isStreet_0 8 rfl rfl)
theorem dX2_isStreet_9 : decode cX2_isStreet 9 = .ok (.i2l, 1) := dk_133 (dk_at dksX2_isStreet_0 9 rfl rfl)
theorem dX2_isStreet_10 : decode cX2_isStreet 10 = .ok (.invokestatic 64, 3) := dk_184 0 64 (dk_at dksX2_isStreet_0 10 rfl rfl)
theorem dX2_isStreet_13 : decode cX2_isStreet 13 = .ok (.ireturn, 1) := dk_172 (dk_at dksX2_isStreet_0 13 rfl rfl)
abbrev cX2_tellStreet : ByteArray := prog_11_method_39_code
def yX2_tellStreet : MethodName := ⟨RX2, "tellStreet", "(II)I"⟩
def dkwX2_tellStreet_1 : List UInt8 := [167, 0, 18, 28, 7, 160, 0, 11, 42, 27, 182, 0, 192, 167, 0, 5, 16, 154, 172]
abbrev dktX2_tellStreet_1 : List UInt8 := dkwX2_tellStreet_1 ++ []
def dkwX2_tellStreet_0 : List UInt8 := [28, 133, 9, 20, 0, 190, 184, 0, 64, 153, 0, 16, 42, 180, 0, 13, 7, 27, 104, 28, 96, 46]
abbrev dktX2_tellStreet_0 : List UInt8 := dkwX2_tellStreet_0 ++ dktX2_tellStreet_1
theorem dksX2_tellStreet_0 : cX2_tellStreet.data.toList.drop 0 = dktX2_tellStreet_0 := by decide +kernel
theorem dksX2_tellStreet_1 : cX2_tellStreet.data.toList.drop 22 = dktX2_tellStreet_1 := dk_seg dksX2_tellStreet_0 22 rfl rfl
theorem dX2_tellStreet_0 : decode cX2_tellStreet 0 = .ok (.iload_n 2, 1) := dk_28 (dk_at dksX2_tellStreet_0 0 rfl rfl)
theorem dX2_tellStreet_1 : decode cX2_tellStreet 1 = .ok (.i2l, 1) := dk_133 (dk_at dksX2_tellStreet_0 1 rfl rfl)
theorem dX2_tellStreet_2 : decode cX2_tellStreet 2 = .ok (.lconst 0, 1) := dk_9 (dk_at dksX2_tellStreet_0 2 rfl rfl)
theorem dX2_tellStreet_3 : decode cX2_tellStreet 3 = .ok (.ldc2_w 190, 3) := dk_20 0 190 (dk_at dksX2_tellStreet_0 3 rfl rfl)
theorem dX2_tellStreet_6 : decode cX2_tellStreet 6 = .ok (.invokestatic 64, 3) := dk_184 0 64 (dk_at dksX2_tellStreet_0 6 rfl rfl)
theorem dX2_tellStreet_9 : decode cX2_tellStreet 9 = .ok (.ifCond .eq 16, 3) := dk_153 0 16 (dk_at dksX2_tellStreet_0 9 rfl rfl)
theorem dX2_tellStreet_12 : decode cX2_tellStreet 12 = .ok (.aload_n 0, 1) := dk_42 (dk_at dksX2_tellStreet_0 12 rfl rfl)
theorem dX2_tellStreet_13 : decode cX2_tellStreet 13 = .ok (.getfield 13, 3) := dk_180 0 13 (dk_at dksX2_tellStreet_0 13 rfl rfl)
theorem dX2_tellStreet_16 : decode cX2_tellStreet 16 = .ok (.iconst 4, 1) := dk_7 (dk_at dksX2_tellStreet_0 16 rfl rfl)
theorem dX2_tellStreet_17 : decode cX2_tellStreet 17 = .ok (.iload_n 1, 1) := dk_27 (dk_at dksX2_tellStreet_0 17 rfl rfl)
theorem dX2_tellStreet_18 : decode cX2_tellStreet 18 = .ok (.imul, 1) := dk_104 (dk_at dksX2_tellStreet_0 18 rfl rfl)
theorem dX2_tellStreet_19 : decode cX2_tellStreet 19 = .ok (.iload_n 2, 1) := dk_28 (dk_at dksX2_tellStreet_0 19 rfl rfl)
theorem dX2_tellStreet_20 : decode cX2_tellStreet 20 = .ok (.iadd, 1) := dk_96 (dk_at dksX2_tellStreet_0 20 rfl rfl)
theorem dX2_tellStreet_21 : decode cX2_tellStreet 21 = .ok (.iaload, 1) := dk_46 (dk_at dksX2_tellStreet_0 21 rfl rfl)
theorem dX2_tellStreet_22 : decode cX2_tellStreet 22 = .ok (.goto 18, 3) := dk_167 0 18 (dk_at dksX2_tellStreet_1 0 rfl rfl)
theorem dX2_tellStreet_25 : decode cX2_tellStreet 25 = .ok (.iload_n 2, 1) := dk_28 (dk_at dksX2_tellStreet_1 3 rfl rfl)
theorem dX2_tellStreet_26 : decode cX2_tellStreet 26 = .ok (.iconst 4, 1) := dk_7 (dk_at dksX2_tellStreet_1 4 rfl rfl)
theorem dX2_tellStreet_27 : decode cX2_tellStreet 27 = .ok (.if_icmp .ne 11, 3) := dk_160 0 11 (dk_at dksX2_tellStreet_1 5 rfl rfl)
theorem dX2_tellStreet_30 : decode cX2_tellStreet 30 = .ok (.aload_n 0, 1) := dk_42 (dk_at dksX2_tellStreet_1 8 rfl rfl)
theorem dX2_tellStreet_31 : decode cX2_tellStreet 31 = .ok (.iload_n 1, 1) := dk_27 (dk_at dksX2_tellStreet_1 9 rfl rfl)
theorem dX2_tellStreet_32 : decode cX2_tellStreet 32 = .ok (.invokevirtual 192, 3) := dk_182 0 192 (dk_at dksX2_tellStreet_1 10 rfl rfl)
theorem dX2_tellStreet_35 : decode cX2_tellStreet 35 = .ok (.goto 5, 3) := dk_167 0 5 (dk_at dksX2_tellStreet_1 13 rfl rfl)
theorem dX2_tellStreet_38 : decode cX2_tellStreet 38 = .ok (.bipush (-102), 2) := dk_16 154 (dk_at dksX2_tellStreet_1 16 rfl rfl)
theorem dX2_tellStreet_40 : decode cX2_tellStreet 40 = .ok (.ireturn, 1) := dk_172 (dk_at dksX2_tellStreet_1 18 rfl rfl)
abbrev cX2_knownBy : ByteArray := prog_11_method_38_code
def yX2_knownBy : MethodName := ⟨RX2, "knownBy", "(I)I"⟩
def dkwX2_knownBy_0 : List UInt8 := [42, 180, 0, 22, 4, 46, 27, 122, 4, 126, 5, 42, 180, 0, 22, 7, 46, 27, 122, 4, 126, 104, 96, 172]
abbrev dktX2_knownBy_0 : List UInt8 := dkwX2_knownBy_0 ++ []
theorem dksX2_knownBy_0 : cX2_knownBy.data.toList.drop 0 = dktX2_knownBy_0 := by decide +kernel
theorem dX2_knownBy_0 : decode cX2_knownBy 0 = .ok (.aload_n 0, 1) := dk_42 (dk_at dksX2_knownBy_0 0 rfl rfl)
theorem dX2_knownBy_1 : decode cX2_knownBy 1 = .ok (.getfield 22, 3) := dk_180 0 22 (dk_at dksX2_knownBy_0 1 rfl rfl)
theorem dX2_knownBy_4 : decode cX2_knownBy 4 = .ok (.iconst 1, 1) := dk_4 (dk_at dksX2_knownBy_0 4 rfl rfl)
theorem dX2_knownBy_5 : decode cX2_knownBy 5 = .ok (.iaload, 1) := dk_46 (dk_at dksX2_knownBy_0 5 rfl rfl)
theorem dX2_knownBy_6 : decode cX2_knownBy 6 = .ok (.iload_n 1, 1) := dk_27 (dk_at dksX2_knownBy_0 6 rfl rfl)
theorem dX2_knownBy_7 : decode cX2_knownBy 7 = .ok (.ishr, 1) := dk_122 (dk_at dksX2_knownBy_0 7 rfl rfl)
theorem dX2_knownBy_8 : decode cX2_knownBy 8 = .ok (.iconst 1, 1) := dk_4 (dk_at dksX2_knownBy_0 8 rfl rfl)
theorem dX2_knownBy_9 : decode cX2_knownBy 9 = .ok (.iand, 1) := dk_126 (dk_at dksX2_knownBy_0 9 rfl rfl)
theorem dX2_knownBy_10 : decode cX2_knownBy 10 = .ok (.iconst 2, 1) := dk_5 (dk_at dksX2_knownBy_0 10 rfl rfl)
theorem dX2_knownBy_11 : decode cX2_knownBy 11 = .ok (.aload_n 0, 1) := dk_42 (dk_at dksX2_knownBy_0 11 rfl rfl)
theorem dX2_knownBy_12 : decode cX2_knownBy 12 = .ok (.getfield 22, 3) := dk_180 0 22 (dk_at dksX2_knownBy_0 12 rfl rfl)
theorem dX2_knownBy_15 : decode cX2_knownBy 15 = .ok (.iconst 4, 1) := dk_7 (dk_at dksX2_knownBy_0 15 rfl rfl)
theorem dX2_knownBy_16 : decode cX2_knownBy 16 = .ok (.iaload, 1) := dk_46 (dk_at dksX2_knownBy_0 16 rfl rfl)
theorem dX2_knownBy_17 : decode cX2_knownBy 17 = .ok (.iload_n 1, 1) := dk_27 (dk_at dksX2_knownBy_0 17 rfl rfl)
theorem dX2_knownBy_18 : decode cX2_knownBy 18 = .ok (.ishr, 1) := dk_122 (dk_at dksX2_knownBy_0 18 rfl rfl)
theorem dX2_knownBy_19 : decode cX2_knownBy 19 = .ok (.iconst 1, 1) := dk_4 (dk_at dksX2_knownBy_0 19 rfl rfl)
theorem dX2_knownBy_20 : decode cX2_knownBy 20 = .ok (.iand, 1) := dk_126 (dk_at dksX2_knownBy_0 20 rfl rfl)
theorem dX2_knownBy_21 : decode cX2_knownBy 21 = .ok (.imul, 1) := dk_104 (dk_at dksX2_knownBy_0 21 rfl rfl)
theorem dX2_knownBy_22 : decode cX2_knownBy 22 = .ok (.iadd, 1) := dk_96 (dk_at dksX2_knownBy_0 22 rfl rfl)
theorem dX2_knownBy_23 : decode cX2_knownBy 23 = .ok (.ireturn, 1) := dk_172 (dk_at dksX2_knownBy_0 23 rfl rfl)
abbrev cX2_as : ByteArray := prog_11_method_41_code
def yX2_as : MethodName := ⟨RX2, "as", "(II)I"⟩
def dkwX2_as_3 : List UInt8 := [2, 172]
abbrev dktX2_as_3 : List UInt8 := dkwX2_as_3 ++ []
def dkwX2_as_2 : List UInt8 := [160, 0, 12, 29, 7, 160, 0, 7, 4, 167, 0, 4, 3, 54, 4, 21, 4, 153, 0, 7, 27, 167, 0, 4]
abbrev dktX2_as_2 : List UInt8 := dkwX2_as_2 ++ dktX2_as_3
def dkwX2_as_1 : List UInt8 := [16, 154, 172, 42, 180, 0, 13, 7, 27, 104, 46, 62, 28, 153, 0, 18, 28, 29, 159, 0, 13, 28, 4]
abbrev dktX2_as_1 : List UInt8 := dkwX2_as_1 ++ dktX2_as_2
def dkwX2_as_0 : List UInt8 := [42, 27, 182, 0, 195, 154, 0, 6, 16, 155, 172, 28, 133, 9, 20, 0, 201, 184, 0, 64, 154, 0, 6]
abbrev dktX2_as_0 : List UInt8 := dkwX2_as_0 ++ dktX2_as_1
theorem dksX2_as_0 : cX2_as.data.toList.drop 0 = dktX2_as_0 := by decide +kernel
theorem dksX2_as_1 : cX2_as.data.toList.drop 23 = dktX2_as_1 := dk_seg dksX2_as_0 23 rfl rfl
theorem dksX2_as_2 : cX2_as.data.toList.drop 46 = dktX2_as_2 := dk_seg dksX2_as_1 23 rfl rfl
theorem dksX2_as_3 : cX2_as.data.toList.drop 70 = dktX2_as_3 := dk_seg dksX2_as_2 24 rfl rfl
theorem dX2_as_0 : decode cX2_as 0 = .ok (.aload_n 0, 1) := dk_42 (dk_at dksX2_as_0 0 rfl rfl)
theorem dX2_as_1 : decode cX2_as 1 = .ok (.iload_n 1, 1) := dk_27 (dk_at dksX2_as_0 1 rfl rfl)
theorem dX2_as_2 : decode cX2_as 2 = .ok (.invokevirtual 195, 3) := dk_182 0 195 (dk_at dksX2_as_0 2 rfl rfl)
theorem dX2_as_5 : decode cX2_as 5 = .ok (.ifCond .ne 6, 3) := dk_154 0 6 (dk_at dksX2_as_0 5 rfl rfl)
theorem dX2_as_8 : decode cX2_as 8 = .ok (.bipush (-101), 2) := dk_16 155 (dk_at dksX2_as_0 8 rfl rfl)
theorem dX2_as_10 : decode cX2_as 10 = .ok (.ireturn, 1) := dk_172 (dk_at dksX2_as_0 10 rfl rfl)
theorem dX2_as_11 : decode cX2_as 11 = .ok (.iload_n 2, 1) := dk_28 (dk_at dksX2_as_0 11 rfl rfl)
theorem dX2_as_12 : decode cX2_as 12 = .ok (.i2l, 1) := dk_133 (dk_at dksX2_as_0 12 rfl rfl)
theorem dX2_as_13 : decode cX2_as 13 = .ok (.lconst 0, 1) := dk_9 (dk_at dksX2_as_0 13 rfl rfl)
theorem dX2_as_14 : decode cX2_as 14 = .ok (.ldc2_w 201, 3) := dk_20 0 201 (dk_at dksX2_as_0 14 rfl rfl)
theorem dX2_as_17 : decode cX2_as 17 = .ok (.invokestatic 64, 3) := dk_184 0 64 (dk_at dksX2_as_0 17 rfl rfl)
theorem dX2_as_20 : decode cX2_as 20 = .ok (.ifCond .ne 6, 3) := dk_154 0 6 (dk_at dksX2_as_0 20 rfl rfl)
theorem dX2_as_23 : decode cX2_as 23 = .ok (.bipush (-102), 2) := dk_16 154 (dk_at dksX2_as_1 0 rfl rfl)
theorem dX2_as_25 : decode cX2_as 25 = .ok (.ireturn, 1) := dk_172 (dk_at dksX2_as_1 2 rfl rfl)
theorem dX2_as_26 : decode cX2_as 26 = .ok (.aload_n 0, 1) := dk_42 (dk_at dksX2_as_1 3 rfl rfl)
theorem dX2_as_27 : decode cX2_as 27 = .ok (.getfield 13, 3) := dk_180 0 13 (dk_at dksX2_as_1 4 rfl rfl)
theorem dX2_as_30 : decode cX2_as 30 = .ok (.iconst 4, 1) := dk_7 (dk_at dksX2_as_1 7 rfl rfl)
theorem dX2_as_31 : decode cX2_as 31 = .ok (.iload_n 1, 1) := dk_27 (dk_at dksX2_as_1 8 rfl rfl)
theorem dX2_as_32 : decode cX2_as 32 = .ok (.imul, 1) := dk_104 (dk_at dksX2_as_1 9 rfl rfl)
theorem dX2_as_33 : decode cX2_as 33 = .ok (.iaload, 1) := dk_46 (dk_at dksX2_as_1 10 rfl rfl)
theorem dX2_as_34 : decode cX2_as 34 = .ok (.istore_n 3, 1) := dk_62 (dk_at dksX2_as_1 11 rfl rfl)
theorem dX2_as_35 : decode cX2_as 35 = .ok (.iload_n 2, 1) := dk_28 (dk_at dksX2_as_1 12 rfl rfl)
theorem dX2_as_36 : decode cX2_as 36 = .ok (.ifCond .eq 18, 3) := dk_153 0 18 (dk_at dksX2_as_1 13 rfl rfl)
theorem dX2_as_39 : decode cX2_as 39 = .ok (.iload_n 2, 1) := dk_28 (dk_at dksX2_as_1 16 rfl rfl)
theorem dX2_as_40 : decode cX2_as 40 = .ok (.iload_n 3, 1) := dk_29 (dk_at dksX2_as_1 17 rfl rfl)
theorem dX2_as_41 : decode cX2_as 41 = .ok (.if_icmp .eq 13, 3) := dk_159 0 13 (dk_at dksX2_as_1 18 rfl rfl)
theorem dX2_as_44 : decode cX2_as 44 = .ok (.iload_n 2, 1) := dk_28 (dk_at dksX2_as_1 21 rfl rfl)
theorem dX2_as_45 : decode cX2_as 45 = .ok (.iconst 1, 1) := dk_4 (dk_at dksX2_as_1 22 rfl rfl)
theorem dX2_as_46 : decode cX2_as 46 = .ok (.if_icmp .ne 12, 3) := dk_160 0 12 (dk_at dksX2_as_2 0 rfl rfl)
theorem dX2_as_49 : decode cX2_as 49 = .ok (.iload_n 3, 1) := dk_29 (dk_at dksX2_as_2 3 rfl rfl)
theorem dX2_as_50 : decode cX2_as 50 = .ok (.iconst 4, 1) := dk_7 (dk_at dksX2_as_2 4 rfl rfl)
theorem dX2_as_51 : decode cX2_as 51 = .ok (.if_icmp .ne 7, 3) := dk_160 0 7 (dk_at dksX2_as_2 5 rfl rfl)
theorem dX2_as_54 : decode cX2_as 54 = .ok (.iconst 1, 1) := dk_4 (dk_at dksX2_as_2 8 rfl rfl)
theorem dX2_as_55 : decode cX2_as 55 = .ok (.goto 4, 3) := dk_167 0 4 (dk_at dksX2_as_2 9 rfl rfl)
theorem dX2_as_58 : decode cX2_as 58 = .ok (.iconst 0, 1) := dk_3 (dk_at dksX2_as_2 12 rfl rfl)
theorem dX2_as_59 : decode cX2_as 59 = .ok (.istore 4, 2) := dk_54 4 (dk_at dksX2_as_2 13 rfl rfl)
theorem dX2_as_61 : decode cX2_as 61 = .ok (.iload 4, 2) := dk_21 4 (dk_at dksX2_as_2 15 rfl rfl)
theorem dX2_as_63 : decode cX2_as 63 = .ok (.ifCond .eq 7, 3) := dk_153 0 7 (dk_at dksX2_as_2 17 rfl rfl)
theorem dX2_as_66 : decode cX2_as 66 = .ok (.iload_n 1, 1) := dk_27 (dk_at dksX2_as_2 20 rfl rfl)
theorem dX2_as_67 : decode cX2_as 67 = .ok (.goto 4, 3) := dk_167 0 4 (dk_at dksX2_as_2 21 rfl rfl)
theorem dX2_as_70 : decode cX2_as 70 = .ok (.iconst (-1), 1) := dk_2 (dk_at dksX2_as_3 0 rfl rfl)
theorem dX2_as_71 : decode cX2_as 71 = .ok (.ireturn, 1) := dk_172 (dk_at dksX2_as_3 1 rfl rfl)
abbrev cX2_hurts : ByteArray := prog_11_method_42_code
def yX2_hurts : MethodName := ⟨RX2, "hurts", "(II)I"⟩
def dkwX2_hurts_1 : List UInt8 := [167, 0, 5, 16, 155, 172]
abbrev dktX2_hurts_1 : List UInt8 := dkwX2_hurts_1 ++ []
def dkwX2_hurts_0 : List UInt8 := [42, 27, 182, 0, 145, 153, 0, 20, 42, 28, 182, 0, 195, 153, 0, 12, 42, 27, 28, 182, 0, 164]
abbrev dktX2_hurts_0 : List UInt8 := dkwX2_hurts_0 ++ dktX2_hurts_1
theorem dksX2_hurts_0 : cX2_hurts.data.toList.drop 0 = dktX2_hurts_0 := by decide +kernel
theorem dksX2_hurts_1 : cX2_hurts.data.toList.drop 22 = dktX2_hurts_1 := dk_seg dksX2_hurts_0 22 rfl rfl
theorem dX2_hurts_0 : decode cX2_hurts 0 = .ok (.aload_n 0, 1) := dk_42 (dk_at dksX2_hurts_0 0 rfl rfl)
theorem dX2_hurts_1 : decode cX2_hurts 1 = .ok (.iload_n 1, 1) := dk_27 (dk_at dksX2_hurts_0 1 rfl rfl)
theorem dX2_hurts_2 : decode cX2_hurts 2 = .ok (.invokevirtual 145, 3) := dk_182 0 145 (dk_at dksX2_hurts_0 2 rfl rfl)
theorem dX2_hurts_5 : decode cX2_hurts 5 = .ok (.ifCond .eq 20, 3) := dk_153 0 20 (dk_at dksX2_hurts_0 5 rfl rfl)
theorem dX2_hurts_8 : decode cX2_hurts 8 = .ok (.aload_n 0, 1) := dk_42 (dk_at dksX2_hurts_0 8 rfl rfl)
theorem dX2_hurts_9 : decode cX2_hurts 9 = .ok (.iload_n 2, 1) := dk_28 (dk_at dksX2_hurts_0 9 rfl rfl)
theorem dX2_hurts_10 : decode cX2_hurts 10 = .ok (.invokevirtual 195, 3) := dk_182 0 195 (dk_at dksX2_hurts_0 10 rfl rfl)
theorem dX2_hurts_13 : decode cX2_hurts 13 = .ok (.ifCond .eq 12, 3) := dk_153 0 12 (dk_at dksX2_hurts_0 13 rfl rfl)
theorem dX2_hurts_16 : decode cX2_hurts 16 = .ok (.aload_n 0, 1) := dk_42 (dk_at dksX2_hurts_0 16 rfl rfl)
theorem dX2_hurts_17 : decode cX2_hurts 17 = .ok (.iload_n 1, 1) := dk_27 (dk_at dksX2_hurts_0 17 rfl rfl)
theorem dX2_hurts_18 : decode cX2_hurts 18 = .ok (.iload_n 2, 1) := dk_28 (dk_at dksX2_hurts_0 18 rfl rfl)
theorem dX2_hurts_19 : decode cX2_hurts 19 = .ok (.invokevirtual 164, 3) := dk_182 0 164 (dk_at dksX2_hurts_0 19 rfl rfl)
theorem dX2_hurts_22 : decode cX2_hurts 22 = .ok (.goto 5, 3) := dk_167 0 5 (dk_at dksX2_hurts_1 0 rfl rfl)
theorem dX2_hurts_25 : decode cX2_hurts 25 = .ok (.bipush (-101), 2) := dk_16 155 (dk_at dksX2_hurts_1 3 rfl rfl)
theorem dX2_hurts_27 : decode cX2_hurts 27 = .ok (.ireturn, 1) := dk_172 (dk_at dksX2_hurts_1 5 rfl rfl)
abbrev cX2_tender : ByteArray := prog_11_method_43_code
def yX2_tender : MethodName := ⟨RX2, "tender", "(II)I"⟩
def dkwX2_tender_1 : List UInt8 := [16, 154, 172, 42, 180, 0, 16, 8, 27, 104, 46, 62, 42, 180, 0, 16, 8, 27, 104, 28, 79, 29, 172]
abbrev dktX2_tender_1 : List UInt8 := dkwX2_tender_1 ++ []
def dkwX2_tender_0 : List UInt8 := [42, 27, 182, 0, 145, 154, 0, 6, 16, 155, 172, 28, 133, 9, 20, 0, 203, 184, 0, 64, 154, 0, 6]
abbrev dktX2_tender_0 : List UInt8 := dkwX2_tender_0 ++ dktX2_tender_1
theorem dksX2_tender_0 : cX2_tender.data.toList.drop 0 = dktX2_tender_0 := by decide +kernel
theorem dksX2_tender_1 : cX2_tender.data.toList.drop 23 = dktX2_tender_1 := dk_seg dksX2_tender_0 23 rfl rfl
theorem dX2_tender_0 : decode cX2_tender 0 = .ok (.aload_n 0, 1) := dk_42 (dk_at dksX2_tender_0 0 rfl rfl)
theorem dX2_tender_1 : decode cX2_tender 1 = .ok (.iload_n 1, 1) := dk_27 (dk_at dksX2_tender_0 1 rfl rfl)
theorem dX2_tender_2 : decode cX2_tender 2 = .ok (.invokevirtual 145, 3) := dk_182 0 145 (dk_at dksX2_tender_0 2 rfl rfl)
theorem dX2_tender_5 : decode cX2_tender 5 = .ok (.ifCond .ne 6, 3) := dk_154 0 6 (dk_at dksX2_tender_0 5 rfl rfl)
theorem dX2_tender_8 : decode cX2_tender 8 = .ok (.bipush (-101), 2) := dk_16 155 (dk_at dksX2_tender_0 8 rfl rfl)
theorem dX2_tender_10 : decode cX2_tender 10 = .ok (.ireturn, 1) := dk_172 (dk_at dksX2_tender_0 10 rfl rfl)
theorem dX2_tender_11 : decode cX2_tender 11 = .ok (.iload_n 2, 1) := dk_28 (dk_at dksX2_tender_0 11 rfl rfl)
theorem dX2_tender_12 : decode cX2_tender 12 = .ok (.i2l, 1) := dk_133 (dk_at dksX2_tender_0 12 rfl rfl)
theorem dX2_tender_13 : decode cX2_tender 13 = .ok (.lconst 0, 1) := dk_9 (dk_at dksX2_tender_0 13 rfl rfl)
theorem dX2_tender_14 : decode cX2_tender 14 = .ok (.ldc2_w 203, 3) := dk_20 0 203 (dk_at dksX2_tender_0 14 rfl rfl)
theorem dX2_tender_17 : decode cX2_tender 17 = .ok (.invokestatic 64, 3) := dk_184 0 64 (dk_at dksX2_tender_0 17 rfl rfl)
theorem dX2_tender_20 : decode cX2_tender 20 = .ok (.ifCond .ne 6, 3) := dk_154 0 6 (dk_at dksX2_tender_0 20 rfl rfl)
theorem dX2_tender_23 : decode cX2_tender 23 = .ok (.bipush (-102), 2) := dk_16 154 (dk_at dksX2_tender_1 0 rfl rfl)
theorem dX2_tender_25 : decode cX2_tender 25 = .ok (.ireturn, 1) := dk_172 (dk_at dksX2_tender_1 2 rfl rfl)
theorem dX2_tender_26 : decode cX2_tender 26 = .ok (.aload_n 0, 1) := dk_42 (dk_at dksX2_tender_1 3 rfl rfl)
theorem dX2_tender_27 : decode cX2_tender 27 = .ok (.getfield 16, 3) := dk_180 0 16 (dk_at dksX2_tender_1 4 rfl rfl)
theorem dX2_tender_30 : decode cX2_tender 30 = .ok (.iconst 5, 1) := dk_8 (dk_at dksX2_tender_1 7 rfl rfl)
theorem dX2_tender_31 : decode cX2_tender 31 = .ok (.iload_n 1, 1) := dk_27 (dk_at dksX2_tender_1 8 rfl rfl)
theorem dX2_tender_32 : decode cX2_tender 32 = .ok (.imul, 1) := dk_104 (dk_at dksX2_tender_1 9 rfl rfl)
theorem dX2_tender_33 : decode cX2_tender 33 = .ok (.iaload, 1) := dk_46 (dk_at dksX2_tender_1 10 rfl rfl)
theorem dX2_tender_34 : decode cX2_tender 34 = .ok (.istore_n 3, 1) := dk_62 (dk_at dksX2_tender_1 11 rfl rfl)
theorem dX2_tender_35 : decode cX2_tender 35 = .ok (.aload_n 0, 1) := dk_42 (dk_at dksX2_tender_1 12 rfl rfl)
theorem dX2_tender_36 : decode cX2_tender 36 = .ok (.getfield 16, 3) := dk_180 0 16 (dk_at dksX2_tender_1 13 rfl rfl)
theorem dX2_tender_39 : decode cX2_tender 39 = .ok (.iconst 5, 1) := dk_8 (dk_at dksX2_tender_1 16 rfl rfl)
theorem dX2_tender_40 : decode cX2_tender 40 = .ok (.iload_n 1, 1) := dk_27 (dk_at dksX2_tender_1 17 rfl rfl)
theorem dX2_tender_41 : decode cX2_tender 41 = .ok (.imul, 1) := dk_104 (dk_at dksX2_tender_1 18 rfl rfl)
theorem dX2_tender_42 : decode cX2_tender 42 = .ok (.iload_n 2, 1) := dk_28 (dk_at dksX2_tender_1 19 rfl rfl)
theorem dX2_tender_43 : decode cX2_tender 43 = .ok (.iastore, 1) := dk_79 (dk_at dksX2_tender_1 20 rfl rfl)
theorem dX2_tender_44 : decode cX2_tender 44 = .ok (.iload_n 3, 1) := dk_29 (dk_at dksX2_tender_1 21 rfl rfl)
theorem dX2_tender_45 : decode cX2_tender 45 = .ok (.ireturn, 1) := dk_172 (dk_at dksX2_tender_1 22 rfl rfl)
abbrev cX2_day : ByteArray := prog_11_method_44_code
def yX2_day : MethodName := ⟨RX2, "day", "()I"⟩
def dkwX2_day_1 : List UInt8 := [180, 0, 104, 4, 96, 181, 0, 104, 42, 180, 0, 104, 172]
abbrev dktX2_day_1 : List UInt8 := dkwX2_day_1 ++ []
def dkwX2_day_0 : List UInt8 := [42, 182, 0, 115, 153, 0, 6, 16, 153, 172, 42, 180, 0, 104, 16, 99, 160, 0, 6, 16, 152, 172, 42, 89]
abbrev dktX2_day_0 : List UInt8 := dkwX2_day_0 ++ dktX2_day_1
theorem dksX2_day_0 : cX2_day.data.toList.drop 0 = dktX2_day_0 := by decide +kernel
theorem dksX2_day_1 : cX2_day.data.toList.drop 24 = dktX2_day_1 := dk_seg dksX2_day_0 24 rfl rfl
theorem dX2_day_0 : decode cX2_day 0 = .ok (.aload_n 0, 1) := dk_42 (dk_at dksX2_day_0 0 rfl rfl)
theorem dX2_day_1 : decode cX2_day 1 = .ok (.invokevirtual 115, 3) := dk_182 0 115 (dk_at dksX2_day_0 1 rfl rfl)
theorem dX2_day_4 : decode cX2_day 4 = .ok (.ifCond .eq 6, 3) := dk_153 0 6 (dk_at dksX2_day_0 4 rfl rfl)
theorem dX2_day_7 : decode cX2_day 7 = .ok (.bipush (-103), 2) := dk_16 153 (dk_at dksX2_day_0 7 rfl rfl)
theorem dX2_day_9 : decode cX2_day 9 = .ok (.ireturn, 1) := dk_172 (dk_at dksX2_day_0 9 rfl rfl)
theorem dX2_day_10 : decode cX2_day 10 = .ok (.aload_n 0, 1) := dk_42 (dk_at dksX2_day_0 10 rfl rfl)
theorem dX2_day_11 : decode cX2_day 11 = .ok (.getfield 104, 3) := dk_180 0 104 (dk_at dksX2_day_0 11 rfl rfl)
theorem dX2_day_14 : decode cX2_day 14 = .ok (.bipush 99, 2) := dk_16 99 (dk_at dksX2_day_0 14 rfl rfl)
theorem dX2_day_16 : decode cX2_day 16 = .ok (.if_icmp .ne 6, 3) := dk_160 0 6 (dk_at dksX2_day_0 16 rfl rfl)
theorem dX2_day_19 : decode cX2_day 19 = .ok (.bipush (-104), 2) := dk_16 152 (dk_at dksX2_day_0 19 rfl rfl)
theorem dX2_day_21 : decode cX2_day 21 = .ok (.ireturn, 1) := dk_172 (dk_at dksX2_day_0 21 rfl rfl)
theorem dX2_day_22 : decode cX2_day 22 = .ok (.aload_n 0, 1) := dk_42 (dk_at dksX2_day_0 22 rfl rfl)
theorem dX2_day_23 : decode cX2_day 23 = .ok (.dup, 1) := dk_89 (dk_at dksX2_day_0 23 rfl rfl)
theorem dX2_day_24 : decode cX2_day 24 = .ok (.getfield 104, 3) := dk_180 0 104 (dk_at dksX2_day_1 0 rfl rfl)
theorem dX2_day_27 : decode cX2_day 27 = .ok (.iconst 1, 1) := dk_4 (dk_at dksX2_day_1 3 rfl rfl)
theorem dX2_day_28 : decode cX2_day 28 = .ok (.iadd, 1) := dk_96 (dk_at dksX2_day_1 4 rfl rfl)
theorem dX2_day_29 : decode cX2_day 29 = .ok (.putfield 104, 3) := dk_181 0 104 (dk_at dksX2_day_1 5 rfl rfl)
theorem dX2_day_32 : decode cX2_day 32 = .ok (.aload_n 0, 1) := dk_42 (dk_at dksX2_day_1 8 rfl rfl)
theorem dX2_day_33 : decode cX2_day 33 = .ok (.getfield 104, 3) := dk_180 0 104 (dk_at dksX2_day_1 9 rfl rfl)
theorem dX2_day_36 : decode cX2_day 36 = .ok (.ireturn, 1) := dk_172 (dk_at dksX2_day_1 12 rfl rfl)
abbrev cX2_lacks : ByteArray := prog_11_method_13_code
def yX2_lacks : MethodName := ⟨RX2, "lacks", "()Z"⟩
def dkwX2_lacks_0 : List UInt8 := [42, 180, 0, 101, 154, 0, 7, 4, 167, 0, 4, 3, 172]
abbrev dktX2_lacks_0 : List UInt8 := dkwX2_lacks_0 ++ []
theorem dksX2_lacks_0 : cX2_lacks.data.toList.drop 0 = dktX2_lacks_0 := by decide +kernel
theorem dX2_lacks_0 : decode cX2_lacks 0 = .ok (.aload_n 0, 1) := dk_42 (dk_at dksX2_lacks_0 0 rfl rfl)
theorem dX2_lacks_1 : decode cX2_lacks 1 = .ok (.getfield 101, 3) := dk_180 0 101 (dk_at dksX2_lacks_0 1 rfl rfl)
theorem dX2_lacks_4 : decode cX2_lacks 4 = .ok (.ifCond .ne 7, 3) := dk_154 0 7 (dk_at dksX2_lacks_0 4 rfl rfl)
theorem dX2_lacks_7 : decode cX2_lacks 7 = .ok (.iconst 1, 1) := dk_4 (dk_at dksX2_lacks_0 7 rfl rfl)
theorem dX2_lacks_8 : decode cX2_lacks 8 = .ok (.goto 4, 3) := dk_167 0 4 (dk_at dksX2_lacks_0 8 rfl rfl)
theorem dX2_lacks_11 : decode cX2_lacks 11 = .ok (.iconst 0, 1) := dk_3 (dk_at dksX2_lacks_0 11 rfl rfl)
theorem dX2_lacks_12 : decode cX2_lacks 12 = .ok (.ireturn, 1) := dk_172 (dk_at dksX2_lacks_0 12 rfl rfl)
abbrev cX2_driver : ByteArray := prog_11_method_50_code
def yX2_driver : MethodName := ⟨RX2, "driver", "(II)I"⟩
def dkwX2_driver_0 : List UInt8 := [42, 27, 182, 0, 217, 153, 0, 12, 42, 27, 28, 182, 0, 220, 167, 0, 5, 16, 155, 172]
abbrev dktX2_driver_0 : List UInt8 := dkwX2_driver_0 ++ []
theorem dksX2_driver_0 : cX2_driver.data.toList.drop 0 = dktX2_driver_0 := by decide +kernel
theorem dX2_driver_0 : decode cX2_driver 0 = .ok (.aload_n 0, 1) := dk_42 (dk_at dksX2_driver_0 0 rfl rfl)
theorem dX2_driver_1 : decode cX2_driver 1 = .ok (.iload_n 1, 1) := dk_27 (dk_at dksX2_driver_0 1 rfl rfl)
theorem dX2_driver_2 : decode cX2_driver 2 = .ok (.invokevirtual 217, 3) := dk_182 0 217 (dk_at dksX2_driver_0 2 rfl rfl)
theorem dX2_driver_5 : decode cX2_driver 5 = .ok (.ifCond .eq 12, 3) := dk_153 0 12 (dk_at dksX2_driver_0 5 rfl rfl)
theorem dX2_driver_8 : decode cX2_driver 8 = .ok (.aload_n 0, 1) := dk_42 (dk_at dksX2_driver_0 8 rfl rfl)
theorem dX2_driver_9 : decode cX2_driver 9 = .ok (.iload_n 1, 1) := dk_27 (dk_at dksX2_driver_0 9 rfl rfl)
theorem dX2_driver_10 : decode cX2_driver 10 = .ok (.iload_n 2, 1) := dk_28 (dk_at dksX2_driver_0 10 rfl rfl)
theorem dX2_driver_11 : decode cX2_driver 11 = .ok (.invokevirtual 220, 3) := dk_182 0 220 (dk_at dksX2_driver_0 11 rfl rfl)
theorem dX2_driver_14 : decode cX2_driver 14 = .ok (.goto 5, 3) := dk_167 0 5 (dk_at dksX2_driver_0 14 rfl rfl)
theorem dX2_driver_17 : decode cX2_driver 17 = .ok (.bipush (-101), 2) := dk_16 155 (dk_at dksX2_driver_0 17 rfl rfl)
theorem dX2_driver_19 : decode cX2_driver 19 = .ok (.ireturn, 1) := dk_172 (dk_at dksX2_driver_0 19 rfl rfl)
abbrev cX2_isDriver : ByteArray := prog_11_method_17_code
def yX2_isDriver : MethodName := ⟨RX2, "isDriver", "(I)Z"⟩
def dkwX2_isDriver_0 : List UInt8 := [42, 182, 0, 115, 154, 0, 17, 27, 133, 9, 10, 184, 0, 64, 153, 0, 7, 4, 167, 0, 4, 3, 172]
abbrev dktX2_isDriver_0 : List UInt8 := dkwX2_isDriver_0 ++ []
theorem dksX2_isDriver_0 : cX2_isDriver.data.toList.drop 0 = dktX2_isDriver_0 := by decide +kernel
theorem dX2_isDriver_0 : decode cX2_isDriver 0 = .ok (.aload_n 0, 1) := dk_42 (dk_at dksX2_isDriver_0 0 rfl rfl)
theorem dX2_isDriver_1 : decode cX2_isDriver 1 = .ok (.invokevirtual 115, 3) := dk_182 0 115 (dk_at dksX2_isDriver_0 1 rfl rfl)
theorem dX2_isDriver_4 : decode cX2_isDriver 4 = .ok (.ifCond .ne 17, 3) := dk_154 0 17 (dk_at dksX2_isDriver_0 4 rfl rfl)
theorem dX2_isDriver_7 : decode cX2_isDriver 7 = .ok (.iload_n 1, 1) := dk_27 (dk_at dksX2_isDriver_0 7 rfl rfl)
theorem dX2_isDriver_8 : decode cX2_isDriver 8 = .ok (.i2l, 1) := dk_133 (dk_at dksX2_isDriver_0 8 rfl rfl)
theorem dX2_isDriver_9 : decode cX2_isDriver 9 = .ok (.lconst 0, 1) := dk_9 (dk_at dksX2_isDriver_0 9 rfl rfl)
theorem dX2_isDriver_10 : decode cX2_isDriver 10 = .ok (.lconst 1, 1) := dk_10 (dk_at dksX2_isDriver_0 10 rfl rfl)
theorem dX2_isDriver_11 : decode cX2_isDriver 11 = .ok (.invokestatic 64, 3) := dk_184 0 64 (dk_at dksX2_isDriver_0 11 rfl rfl)
theorem dX2_isDriver_14 : decode cX2_isDriver 14 = .ok (.ifCond .eq 7, 3) := dk_153 0 7 (dk_at dksX2_isDriver_0 14 rfl rfl)
theorem dX2_isDriver_17 : decode cX2_isDriver 17 = .ok (.iconst 1, 1) := dk_4 (dk_at dksX2_isDriver_0 17 rfl rfl)
theorem dX2_isDriver_18 : decode cX2_isDriver 18 = .ok (.goto 4, 3) := dk_167 0 4 (dk_at dksX2_isDriver_0 18 rfl rfl)
theorem dX2_isDriver_21 : decode cX2_isDriver 21 = .ok (.iconst 0, 1) := dk_3 (dk_at dksX2_isDriver_0 21 rfl rfl)
theorem dX2_isDriver_22 : decode cX2_isDriver 22 = .ok (.ireturn, 1) := dk_172 (dk_at dksX2_isDriver_0 22 rfl rfl)
abbrev cX2_tellDriver : ByteArray := prog_11_method_49_code
def yX2_tellDriver : MethodName := ⟨RX2, "tellDriver", "(II)I"⟩
def dkwX2_tellDriver_4 : List UInt8 := [180, 0, 22, 6, 27, 104, 46, 42, 180, 0, 22, 6, 27, 104, 4, 96, 46, 182, 0, 208, 172, 16, 154, 172]
abbrev dktX2_tellDriver_4 : List UInt8 := dkwX2_tellDriver_4 ++ []
def dkwX2_tellDriver_3 : List UInt8 := [182, 0, 211, 172, 42, 27, 182, 0, 214, 172, 42, 180, 0, 22, 6, 27, 104, 5, 96, 46, 172, 42, 42]
abbrev dktX2_tellDriver_3 : List UInt8 := dkwX2_tellDriver_3 ++ dktX2_tellDriver_4
def dkwX2_tellDriver_2 : List UInt8 := [42, 180, 0, 22, 6, 27, 104, 28, 96, 46, 172, 42, 42, 180, 0, 22, 6, 27, 104, 4, 96, 46]
abbrev dktX2_tellDriver_2 : List UInt8 := dkwX2_tellDriver_2 ++ dktX2_tellDriver_3
def dkwX2_tellDriver_1 : List UInt8 := [170, 0, 0, 0, 0, 0, 105, 0, 0, 0, 0, 0, 0, 0, 5, 0, 0, 0, 39, 0, 0, 0, 39, 0, 0, 0, 50, 0, 0, 0, 65, 0, 0, 0, 71, 0, 0, 0, 82]
abbrev dktX2_tellDriver_1 : List UInt8 := dkwX2_tellDriver_1 ++ dktX2_tellDriver_2
def dkwX2_tellDriver_0 : List UInt8 := [28]
abbrev dktX2_tellDriver_0 : List UInt8 := dkwX2_tellDriver_0 ++ dktX2_tellDriver_1
theorem dksX2_tellDriver_0 : cX2_tellDriver.data.toList.drop 0 = dktX2_tellDriver_0 := by decide +kernel
theorem dksX2_tellDriver_1 : cX2_tellDriver.data.toList.drop 1 = dktX2_tellDriver_1 := dk_seg dksX2_tellDriver_0 1 rfl rfl
theorem dksX2_tellDriver_2 : cX2_tellDriver.data.toList.drop 40 = dktX2_tellDriver_2 := dk_seg dksX2_tellDriver_1 39 rfl rfl
theorem dksX2_tellDriver_3 : cX2_tellDriver.data.toList.drop 62 = dktX2_tellDriver_3 := dk_seg dksX2_tellDriver_2 22 rfl rfl
theorem dksX2_tellDriver_4 : cX2_tellDriver.data.toList.drop 85 = dktX2_tellDriver_4 := dk_seg dksX2_tellDriver_3 23 rfl rfl
theorem dX2_tellDriver_0 : decode cX2_tellDriver 0 = .ok (.iload_n 2, 1) := dk_28 (dk_at dksX2_tellDriver_0 0 rfl rfl)
theorem dX2_tellDriver_1 : decode cX2_tellDriver 1 = .ok (.tableswitch 105 0 5 #[39, 39, 50, 65, 71, 82], 39) := by decide +kernel
theorem dX2_tellDriver_40 : decode cX2_tellDriver 40 = .ok (.aload_n 0, 1) := dk_42 (dk_at dksX2_tellDriver_2 0 rfl rfl)
theorem dX2_tellDriver_41 : decode cX2_tellDriver 41 = .ok (.getfield 22, 3) := dk_180 0 22 (dk_at dksX2_tellDriver_2 1 rfl rfl)
theorem dX2_tellDriver_44 : decode cX2_tellDriver 44 = .ok (.iconst 3, 1) := dk_6 (dk_at dksX2_tellDriver_2 4 rfl rfl)
theorem dX2_tellDriver_45 : decode cX2_tellDriver 45 = .ok (.iload_n 1, 1) := dk_27 (dk_at dksX2_tellDriver_2 5 rfl rfl)
theorem dX2_tellDriver_46 : decode cX2_tellDriver 46 = .ok (.imul, 1) := dk_104 (dk_at dksX2_tellDriver_2 6 rfl rfl)
theorem dX2_tellDriver_47 : decode cX2_tellDriver 47 = .ok (.iload_n 2, 1) := dk_28 (dk_at dksX2_tellDriver_2 7 rfl rfl)
theorem dX2_tellDriver_48 : decode cX2_tellDriver 48 = .ok (.iadd, 1) := dk_96 (dk_at dksX2_tellDriver_2 8 rfl rfl)
theorem dX2_tellDriver_49 : decode cX2_tellDriver 49 = .ok (.iaload, 1) := dk_46 (dk_at dksX2_tellDriver_2 9 rfl rfl)
theorem dX2_tellDriver_50 : decode cX2_tellDriver 50 = .ok (.ireturn, 1) := dk_172 (dk_at dksX2_tellDriver_2 10 rfl rfl)
theorem dX2_tellDriver_51 : decode cX2_tellDriver 51 = .ok (.aload_n 0, 1) := dk_42 (dk_at dksX2_tellDriver_2 11 rfl rfl)
theorem dX2_tellDriver_52 : decode cX2_tellDriver 52 = .ok (.aload_n 0, 1) := dk_42 (dk_at dksX2_tellDriver_2 12 rfl rfl)
theorem dX2_tellDriver_53 : decode cX2_tellDriver 53 = .ok (.getfield 22, 3) := dk_180 0 22 (dk_at dksX2_tellDriver_2 13 rfl rfl)
theorem dX2_tellDriver_56 : decode cX2_tellDriver 56 = .ok (.iconst 3, 1) := dk_6 (dk_at dksX2_tellDriver_2 16 rfl rfl)
theorem dX2_tellDriver_57 : decode cX2_tellDriver 57 = .ok (.iload_n 1, 1) := dk_27 (dk_at dksX2_tellDriver_2 17 rfl rfl)
theorem dX2_tellDriver_58 : decode cX2_tellDriver 58 = .ok (.imul, 1) := dk_104 (dk_at dksX2_tellDriver_2 18 rfl rfl)
theorem dX2_tellDriver_59 : decode cX2_tellDriver 59 = .ok (.iconst 1, 1) := dk_4 (dk_at dksX2_tellDriver_2 19 rfl rfl)
theorem dX2_tellDriver_60 : decode cX2_tellDriver 60 = .ok (.iadd, 1) := dk_96 (dk_at dksX2_tellDriver_2 20 rfl rfl)
theorem dX2_tellDriver_61 : decode cX2_tellDriver 61 = .ok (.iaload, 1) := dk_46 (dk_at dksX2_tellDriver_2 21 rfl rfl)
theorem dX2_tellDriver_62 : decode cX2_tellDriver 62 = .ok (.invokevirtual 211, 3) := dk_182 0 211 (dk_at dksX2_tellDriver_3 0 rfl rfl)
theorem dX2_tellDriver_65 : decode cX2_tellDriver 65 = .ok (.ireturn, 1) := dk_172 (dk_at dksX2_tellDriver_3 3 rfl rfl)
theorem dX2_tellDriver_66 : decode cX2_tellDriver 66 = .ok (.aload_n 0, 1) := dk_42 (dk_at dksX2_tellDriver_3 4 rfl rfl)
theorem dX2_tellDriver_67 : decode cX2_tellDriver 67 = .ok (.iload_n 1, 1) := dk_27 (dk_at dksX2_tellDriver_3 5 rfl rfl)
theorem dX2_tellDriver_68 : decode cX2_tellDriver 68 = .ok (.invokevirtual 214, 3) := dk_182 0 214 (dk_at dksX2_tellDriver_3 6 rfl rfl)
theorem dX2_tellDriver_71 : decode cX2_tellDriver 71 = .ok (.ireturn, 1) := dk_172 (dk_at dksX2_tellDriver_3 9 rfl rfl)
theorem dX2_tellDriver_72 : decode cX2_tellDriver 72 = .ok (.aload_n 0, 1) := dk_42 (dk_at dksX2_tellDriver_3 10 rfl rfl)
theorem dX2_tellDriver_73 : decode cX2_tellDriver 73 = .ok (.getfield 22, 3) := dk_180 0 22 (dk_at dksX2_tellDriver_3 11 rfl rfl)
theorem dX2_tellDriver_76 : decode cX2_tellDriver 76 = .ok (.iconst 3, 1) := dk_6 (dk_at dksX2_tellDriver_3 14 rfl rfl)
theorem dX2_tellDriver_77 : decode cX2_tellDriver 77 = .ok (.iload_n 1, 1) := dk_27 (dk_at dksX2_tellDriver_3 15 rfl rfl)
theorem dX2_tellDriver_78 : decode cX2_tellDriver 78 = .ok (.imul, 1) := dk_104 (dk_at dksX2_tellDriver_3 16 rfl rfl)
theorem dX2_tellDriver_79 : decode cX2_tellDriver 79 = .ok (.iconst 2, 1) := dk_5 (dk_at dksX2_tellDriver_3 17 rfl rfl)
theorem dX2_tellDriver_80 : decode cX2_tellDriver 80 = .ok (.iadd, 1) := dk_96 (dk_at dksX2_tellDriver_3 18 rfl rfl)
theorem dX2_tellDriver_81 : decode cX2_tellDriver 81 = .ok (.iaload, 1) := dk_46 (dk_at dksX2_tellDriver_3 19 rfl rfl)
theorem dX2_tellDriver_82 : decode cX2_tellDriver 82 = .ok (.ireturn, 1) := dk_172 (dk_at dksX2_tellDriver_3 20 rfl rfl)
theorem dX2_tellDriver_83 : decode cX2_tellDriver 83 = .ok (.aload_n 0, 1) := dk_42 (dk_at dksX2_tellDriver_3 21 rfl rfl)
theorem dX2_tellDriver_84 : decode cX2_tellDriver 84 = .ok (.aload_n 0, 1) := dk_42 (dk_at dksX2_tellDriver_3 22 rfl rfl)
theorem dX2_tellDriver_85 : decode cX2_tellDriver 85 = .ok (.getfield 22, 3) := dk_180 0 22 (dk_at dksX2_tellDriver_4 0 rfl rfl)
theorem dX2_tellDriver_88 : decode cX2_tellDriver 88 = .ok (.iconst 3, 1) := dk_6 (dk_at dksX2_tellDriver_4 3 rfl rfl)
theorem dX2_tellDriver_89 : decode cX2_tellDriver 89 = .ok (.iload_n 1, 1) := dk_27 (dk_at dksX2_tellDriver_4 4 rfl rfl)
theorem dX2_tellDriver_90 : decode cX2_tellDriver 90 = .ok (.imul, 1) := dk_104 (dk_at dksX2_tellDriver_4 5 rfl rfl)
theorem dX2_tellDriver_91 : decode cX2_tellDriver 91 = .ok (.iaload, 1) := dk_46 (dk_at dksX2_tellDriver_4 6 rfl rfl)
theorem dX2_tellDriver_92 : decode cX2_tellDriver 92 = .ok (.aload_n 0, 1) := dk_42 (dk_at dksX2_tellDriver_4 7 rfl rfl)
theorem dX2_tellDriver_93 : decode cX2_tellDriver 93 = .ok (.getfield 22, 3) := dk_180 0 22 (dk_at dksX2_tellDriver_4 8 rfl rfl)
theorem dX2_tellDriver_96 : decode cX2_tellDriver 96 = .ok (.iconst 3, 1) := dk_6 (dk_at dksX2_tellDriver_4 11 rfl rfl)
theorem dX2_tellDriver_97 : decode cX2_tellDriver 97 = .ok (.iload_n 1, 1) := dk_27 (dk_at dksX2_tellDriver_4 12 rfl rfl)
theorem dX2_tellDriver_98 : decode cX2_tellDriver 98 = .ok (.imul, 1) := dk_104 (dk_at dksX2_tellDriver_4 13 rfl rfl)
theorem dX2_tellDriver_99 : decode cX2_tellDriver 99 = .ok (.iconst 1, 1) := dk_4 (dk_at dksX2_tellDriver_4 14 rfl rfl)
theorem dX2_tellDriver_100 : decode cX2_tellDriver 100 = .ok (.iadd, 1) := dk_96 (dk_at dksX2_tellDriver_4 15 rfl rfl)
theorem dX2_tellDriver_101 : decode cX2_tellDriver 101 = .ok (.iaload, 1) := dk_46 (dk_at dksX2_tellDriver_4 16 rfl rfl)
theorem dX2_tellDriver_102 : decode cX2_tellDriver 102 = .ok (.invokevirtual 208, 3) := dk_182 0 208 (dk_at dksX2_tellDriver_4 17 rfl rfl)
theorem dX2_tellDriver_105 : decode cX2_tellDriver 105 = .ok (.ireturn, 1) := dk_172 (dk_at dksX2_tellDriver_4 20 rfl rfl)
theorem dX2_tellDriver_106 : decode cX2_tellDriver 106 = .ok (.bipush (-102), 2) := dk_16 154 (dk_at dksX2_tellDriver_4 21 rfl rfl)
theorem dX2_tellDriver_108 : decode cX2_tellDriver 108 = .ok (.ireturn, 1) := dk_172 (dk_at dksX2_tellDriver_4 23 rfl rfl)
abbrev cX2_gapsBy : ByteArray := prog_11_method_47_code
def yX2_gapsBy : MethodName := ⟨RX2, "gapsBy", "(I)I"⟩
def dkwX2_gapsBy_4 : List UInt8 := [167, 255, 171, 29, 172]
abbrev dktX2_gapsBy_4 : List UInt8 := dkwX2_gapsBy_4 ++ []
def dkwX2_gapsBy_3 : List UInt8 := [21, 6, 122, 4, 126, 154, 0, 7, 4, 167, 0, 4, 3, 96, 62, 132, 6, 1, 167, 255, 196, 132, 4, 1]
abbrev dktX2_gapsBy_3 : List UInt8 := dkwX2_gapsBy_3 ++ dktX2_gapsBy_4
def dkwX2_gapsBy_2 : List UInt8 := [21, 6, 122, 4, 126, 4, 160, 0, 7, 4, 167, 0, 4, 3, 54, 7, 29, 21, 7, 153, 0, 17, 21, 5]
abbrev dktX2_gapsBy_2 : List UInt8 := dkwX2_gapsBy_2 ++ dktX2_gapsBy_3
def dkwX2_gapsBy_1 : List UInt8 := [54, 5, 3, 54, 6, 21, 6, 21, 4, 162, 0, 59, 28, 21, 4, 122, 4, 126, 4, 160, 0, 17, 28]
abbrev dktX2_gapsBy_1 : List UInt8 := dkwX2_gapsBy_1 ++ dktX2_gapsBy_2
def dkwX2_gapsBy_0 : List UInt8 := [42, 182, 0, 205, 61, 3, 62, 3, 54, 4, 21, 4, 16, 8, 162, 0, 84, 42, 21, 4, 27, 182, 0, 208]
abbrev dktX2_gapsBy_0 : List UInt8 := dkwX2_gapsBy_0 ++ dktX2_gapsBy_1
theorem dksX2_gapsBy_0 : cX2_gapsBy.data.toList.drop 0 = dktX2_gapsBy_0 := by decide +kernel
theorem dksX2_gapsBy_1 : cX2_gapsBy.data.toList.drop 24 = dktX2_gapsBy_1 := dk_seg dksX2_gapsBy_0 24 rfl rfl
theorem dksX2_gapsBy_2 : cX2_gapsBy.data.toList.drop 47 = dktX2_gapsBy_2 := dk_seg dksX2_gapsBy_1 23 rfl rfl
theorem dksX2_gapsBy_3 : cX2_gapsBy.data.toList.drop 71 = dktX2_gapsBy_3 := dk_seg dksX2_gapsBy_2 24 rfl rfl
theorem dksX2_gapsBy_4 : cX2_gapsBy.data.toList.drop 95 = dktX2_gapsBy_4 := dk_seg dksX2_gapsBy_3 24 rfl rfl
theorem dX2_gapsBy_0 : decode cX2_gapsBy 0 = .ok (.aload_n 0, 1) := dk_42 (dk_at dksX2_gapsBy_0 0 rfl rfl)
theorem dX2_gapsBy_1 : decode cX2_gapsBy 1 = .ok (.invokevirtual 205, 3) := dk_182 0 205 (dk_at dksX2_gapsBy_0 1 rfl rfl)
theorem dX2_gapsBy_4 : decode cX2_gapsBy 4 = .ok (.istore_n 2, 1) := dk_61 (dk_at dksX2_gapsBy_0 4 rfl rfl)
theorem dX2_gapsBy_5 : decode cX2_gapsBy 5 = .ok (.iconst 0, 1) := dk_3 (dk_at dksX2_gapsBy_0 5 rfl rfl)
theorem dX2_gapsBy_6 : decode cX2_gapsBy 6 = .ok (.istore_n 3, 1) := dk_62 (dk_at dksX2_gapsBy_0 6 rfl rfl)
theorem dX2_gapsBy_7 : decode cX2_gapsBy 7 = .ok (.iconst 0, 1) := dk_3 (dk_at dksX2_gapsBy_0 7 rfl rfl)
theorem dX2_gapsBy_8 : decode cX2_gapsBy 8 = .ok (.istore 4, 2) := dk_54 4 (dk_at dksX2_gapsBy_0 8 rfl rfl)
theorem dX2_gapsBy_10 : decode cX2_gapsBy 10 = .ok (.iload 4, 2) := dk_21 4 (dk_at dksX2_gapsBy_0 10 rfl rfl)
theorem dX2_gapsBy_12 : decode cX2_gapsBy 12 = .ok (.bipush 8, 2) := dk_16 8 (dk_at dksX2_gapsBy_0 12 rfl rfl)
theorem dX2_gapsBy_14 : decode cX2_gapsBy 14 = .ok (.if_icmp .ge 84, 3) := dk_162 0 84 (dk_at dksX2_gapsBy_0 14 rfl rfl)
theorem dX2_gapsBy_17 : decode cX2_gapsBy 17 = .ok (.aload_n 0, 1) := dk_42 (dk_at dksX2_gapsBy_0 17 rfl rfl)
theorem dX2_gapsBy_18 : decode cX2_gapsBy 18 = .ok (.iload 4, 2) := dk_21 4 (dk_at dksX2_gapsBy_0 18 rfl rfl)
theorem dX2_gapsBy_20 : decode cX2_gapsBy 20 = .ok (.iload_n 1, 1) := dk_27 (dk_at dksX2_gapsBy_0 20 rfl rfl)
theorem dX2_gapsBy_21 : decode cX2_gapsBy 21 = .ok (.invokevirtual 208, 3) := dk_182 0 208 (dk_at dksX2_gapsBy_0 21 rfl rfl)
theorem dX2_gapsBy_24 : decode cX2_gapsBy 24 = .ok (.istore 5, 2) := dk_54 5 (dk_at dksX2_gapsBy_1 0 rfl rfl)
theorem dX2_gapsBy_26 : decode cX2_gapsBy 26 = .ok (.iconst 0, 1) := dk_3 (dk_at dksX2_gapsBy_1 2 rfl rfl)
theorem dX2_gapsBy_27 : decode cX2_gapsBy 27 = .ok (.istore 6, 2) := dk_54 6 (dk_at dksX2_gapsBy_1 3 rfl rfl)
theorem dX2_gapsBy_29 : decode cX2_gapsBy 29 = .ok (.iload 6, 2) := dk_21 6 (dk_at dksX2_gapsBy_1 5 rfl rfl)
theorem dX2_gapsBy_31 : decode cX2_gapsBy 31 = .ok (.iload 4, 2) := dk_21 4 (dk_at dksX2_gapsBy_1 7 rfl rfl)
theorem dX2_gapsBy_33 : decode cX2_gapsBy 33 = .ok (.if_icmp .ge 59, 3) := dk_162 0 59 (dk_at dksX2_gapsBy_1 9 rfl rfl)
theorem dX2_gapsBy_36 : decode cX2_gapsBy 36 = .ok (.iload_n 2, 1) := dk_28 (dk_at dksX2_gapsBy_1 12 rfl rfl)
theorem dX2_gapsBy_37 : decode cX2_gapsBy 37 = .ok (.iload 4, 2) := dk_21 4 (dk_at dksX2_gapsBy_1 13 rfl rfl)
theorem dX2_gapsBy_39 : decode cX2_gapsBy 39 = .ok (.ishr, 1) := dk_122 (dk_at dksX2_gapsBy_1 15 rfl rfl)
theorem dX2_gapsBy_40 : decode cX2_gapsBy 40 = .ok (.iconst 1, 1) := dk_4 (dk_at dksX2_gapsBy_1 16 rfl rfl)
theorem dX2_gapsBy_41 : decode cX2_gapsBy 41 = .ok (.iand, 1) := dk_126 (dk_at dksX2_gapsBy_1 17 rfl rfl)
theorem dX2_gapsBy_42 : decode cX2_gapsBy 42 = .ok (.iconst 1, 1) := dk_4 (dk_at dksX2_gapsBy_1 18 rfl rfl)
theorem dX2_gapsBy_43 : decode cX2_gapsBy 43 = .ok (.if_icmp .ne 17, 3) := dk_160 0 17 (dk_at dksX2_gapsBy_1 19 rfl rfl)
theorem dX2_gapsBy_46 : decode cX2_gapsBy 46 = .ok (.iload_n 2, 1) := dk_28 (dk_at dksX2_gapsBy_1 22 rfl rfl)
theorem dX2_gapsBy_47 : decode cX2_gapsBy 47 = .ok (.iload 6, 2) := dk_21 6 (dk_at dksX2_gapsBy_2 0 rfl rfl)
theorem dX2_gapsBy_49 : decode cX2_gapsBy 49 = .ok (.ishr, 1) := dk_122 (dk_at dksX2_gapsBy_2 2 rfl rfl)
theorem dX2_gapsBy_50 : decode cX2_gapsBy 50 = .ok (.iconst 1, 1) := dk_4 (dk_at dksX2_gapsBy_2 3 rfl rfl)
theorem dX2_gapsBy_51 : decode cX2_gapsBy 51 = .ok (.iand, 1) := dk_126 (dk_at dksX2_gapsBy_2 4 rfl rfl)
theorem dX2_gapsBy_52 : decode cX2_gapsBy 52 = .ok (.iconst 1, 1) := dk_4 (dk_at dksX2_gapsBy_2 5 rfl rfl)
theorem dX2_gapsBy_53 : decode cX2_gapsBy 53 = .ok (.if_icmp .ne 7, 3) := dk_160 0 7 (dk_at dksX2_gapsBy_2 6 rfl rfl)
theorem dX2_gapsBy_56 : decode cX2_gapsBy 56 = .ok (.iconst 1, 1) := dk_4 (dk_at dksX2_gapsBy_2 9 rfl rfl)
theorem dX2_gapsBy_57 : decode cX2_gapsBy 57 = .ok (.goto 4, 3) := dk_167 0 4 (dk_at dksX2_gapsBy_2 10 rfl rfl)
theorem dX2_gapsBy_60 : decode cX2_gapsBy 60 = .ok (.iconst 0, 1) := dk_3 (dk_at dksX2_gapsBy_2 13 rfl rfl)
theorem dX2_gapsBy_61 : decode cX2_gapsBy 61 = .ok (.istore 7, 2) := dk_54 7 (dk_at dksX2_gapsBy_2 14 rfl rfl)
theorem dX2_gapsBy_63 : decode cX2_gapsBy 63 = .ok (.iload_n 3, 1) := dk_29 (dk_at dksX2_gapsBy_2 16 rfl rfl)
theorem dX2_gapsBy_64 : decode cX2_gapsBy 64 = .ok (.iload 7, 2) := dk_21 7 (dk_at dksX2_gapsBy_2 17 rfl rfl)
theorem dX2_gapsBy_66 : decode cX2_gapsBy 66 = .ok (.ifCond .eq 17, 3) := dk_153 0 17 (dk_at dksX2_gapsBy_2 19 rfl rfl)
theorem dX2_gapsBy_69 : decode cX2_gapsBy 69 = .ok (.iload 5, 2) := dk_21 5 (dk_at dksX2_gapsBy_2 22 rfl rfl)
theorem dX2_gapsBy_71 : decode cX2_gapsBy 71 = .ok (.iload 6, 2) := dk_21 6 (dk_at dksX2_gapsBy_3 0 rfl rfl)
theorem dX2_gapsBy_73 : decode cX2_gapsBy 73 = .ok (.ishr, 1) := dk_122 (dk_at dksX2_gapsBy_3 2 rfl rfl)
theorem dX2_gapsBy_74 : decode cX2_gapsBy 74 = .ok (.iconst 1, 1) := dk_4 (dk_at dksX2_gapsBy_3 3 rfl rfl)
theorem dX2_gapsBy_75 : decode cX2_gapsBy 75 = .ok (.iand, 1) := dk_126 (dk_at dksX2_gapsBy_3 4 rfl rfl)
theorem dX2_gapsBy_76 : decode cX2_gapsBy 76 = .ok (.ifCond .ne 7, 3) := dk_154 0 7 (dk_at dksX2_gapsBy_3 5 rfl rfl)
theorem dX2_gapsBy_79 : decode cX2_gapsBy 79 = .ok (.iconst 1, 1) := dk_4 (dk_at dksX2_gapsBy_3 8 rfl rfl)
theorem dX2_gapsBy_80 : decode cX2_gapsBy 80 = .ok (.goto 4, 3) := dk_167 0 4 (dk_at dksX2_gapsBy_3 9 rfl rfl)
theorem dX2_gapsBy_83 : decode cX2_gapsBy 83 = .ok (.iconst 0, 1) := dk_3 (dk_at dksX2_gapsBy_3 12 rfl rfl)
theorem dX2_gapsBy_84 : decode cX2_gapsBy 84 = .ok (.iadd, 1) := dk_96 (dk_at dksX2_gapsBy_3 13 rfl rfl)
theorem dX2_gapsBy_85 : decode cX2_gapsBy 85 = .ok (.istore_n 3, 1) := dk_62 (dk_at dksX2_gapsBy_3 14 rfl rfl)
theorem dX2_gapsBy_86 : decode cX2_gapsBy 86 = .ok (.iinc 6 1, 3) := dk_132 6 1 (dk_at dksX2_gapsBy_3 15 rfl rfl)
theorem dX2_gapsBy_89 : decode cX2_gapsBy 89 = .ok (.goto (-60), 3) := dk_167 255 196 (dk_at dksX2_gapsBy_3 18 rfl rfl)
theorem dX2_gapsBy_92 : decode cX2_gapsBy 92 = .ok (.iinc 4 1, 3) := dk_132 4 1 (dk_at dksX2_gapsBy_3 21 rfl rfl)
theorem dX2_gapsBy_95 : decode cX2_gapsBy 95 = .ok (.goto (-85), 3) := dk_167 255 171 (dk_at dksX2_gapsBy_4 0 rfl rfl)
theorem dX2_gapsBy_98 : decode cX2_gapsBy 98 = .ok (.iload_n 3, 1) := dk_29 (dk_at dksX2_gapsBy_4 3 rfl rfl)
theorem dX2_gapsBy_99 : decode cX2_gapsBy 99 = .ok (.ireturn, 1) := dk_172 (dk_at dksX2_gapsBy_4 4 rfl rfl)
abbrev cX2_cornersWithEnds : ByteArray := prog_11_method_46_code
def yX2_cornersWithEnds : MethodName := ⟨RX2, "cornersWithEnds", "()I"⟩
def dkwX2_cornersWithEnds_1 : List UInt8 := [120, 4, 42, 180, 0, 13, 7, 28, 104, 5, 96, 46, 120, 128, 128, 60, 132, 2, 1, 167, 255, 217, 27, 172]
abbrev dktX2_cornersWithEnds_1 : List UInt8 := dkwX2_cornersWithEnds_1 ++ []
def dkwX2_cornersWithEnds_0 : List UInt8 := [3, 60, 3, 61, 28, 42, 180, 0, 101, 162, 0, 37, 27, 4, 42, 180, 0, 13, 7, 28, 104, 4, 96, 46]
abbrev dktX2_cornersWithEnds_0 : List UInt8 := dkwX2_cornersWithEnds_0 ++ dktX2_cornersWithEnds_1
theorem dksX2_cornersWithEnds_0 : cX2_cornersWithEnds.data.toList.drop 0 = dktX2_cornersWithEnds_0 := by decide +kernel
theorem dksX2_cornersWithEnds_1 : cX2_cornersWithEnds.data.toList.drop 24 = dktX2_cornersWithEnds_1 := dk_seg dksX2_cornersWithEnds_0 24 rfl rfl
theorem dX2_cornersWithEnds_0 : decode cX2_cornersWithEnds 0 = .ok (.iconst 0, 1) := dk_3 (dk_at dksX2_cornersWithEnds_0 0 rfl rfl)
theorem dX2_cornersWithEnds_1 : decode cX2_cornersWithEnds 1 = .ok (.istore_n 1, 1) := dk_60 (dk_at dksX2_cornersWithEnds_0 1 rfl rfl)
theorem dX2_cornersWithEnds_2 : decode cX2_cornersWithEnds 2 = .ok (.iconst 0, 1) := dk_3 (dk_at dksX2_cornersWithEnds_0 2 rfl rfl)
theorem dX2_cornersWithEnds_3 : decode cX2_cornersWithEnds 3 = .ok (.istore_n 2, 1) := dk_61 (dk_at dksX2_cornersWithEnds_0 3 rfl rfl)
theorem dX2_cornersWithEnds_4 : decode cX2_cornersWithEnds 4 = .ok (.iload_n 2, 1) := dk_28 (dk_at dksX2_cornersWithEnds_0 4 rfl rfl)
theorem dX2_cornersWithEnds_5 : decode cX2_cornersWithEnds 5 = .ok (.aload_n 0, 1) := dk_42 (dk_at dksX2_cornersWithEnds_0 5 rfl rfl)
theorem dX2_cornersWithEnds_6 : decode cX2_cornersWithEnds 6 = .ok (.getfield 101, 3) := dk_180 0 101 (dk_at dksX2_cornersWithEnds_0 6 rfl rfl)
theorem dX2_cornersWithEnds_9 : decode cX2_cornersWithEnds 9 = .ok (.if_icmp .ge 37, 3) := dk_162 0 37 (dk_at dksX2_cornersWithEnds_0 9 rfl rfl)
theorem dX2_cornersWithEnds_12 : decode cX2_cornersWithEnds 12 = .ok (.iload_n 1, 1) := dk_27 (dk_at dksX2_cornersWithEnds_0 12 rfl rfl)
theorem dX2_cornersWithEnds_13 : decode cX2_cornersWithEnds 13 = .ok (.iconst 1, 1) := dk_4 (dk_at dksX2_cornersWithEnds_0 13 rfl rfl)
theorem dX2_cornersWithEnds_14 : decode cX2_cornersWithEnds 14 = .ok (.aload_n 0, 1) := dk_42 (dk_at dksX2_cornersWithEnds_0 14 rfl rfl)
theorem dX2_cornersWithEnds_15 : decode cX2_cornersWithEnds 15 = .ok (.getfield 13, 3) := dk_180 0 13 (dk_at dksX2_cornersWithEnds_0 15 rfl rfl)
theorem dX2_cornersWithEnds_18 : decode cX2_cornersWithEnds 18 = .ok (.iconst 4, 1) := dk_7 (dk_at dksX2_cornersWithEnds_0 18 rfl rfl)
theorem dX2_cornersWithEnds_19 : decode cX2_cornersWithEnds 19 = .ok (.iload_n 2, 1) := dk_28 (dk_at dksX2_cornersWithEnds_0 19 rfl rfl)
theorem dX2_cornersWithEnds_20 : decode cX2_cornersWithEnds 20 = .ok (.imul, 1) := dk_104 (dk_at dksX2_cornersWithEnds_0 20 rfl rfl)
theorem dX2_cornersWithEnds_21 : decode cX2_cornersWithEnds 21 = .ok (.iconst 1, 1) := dk_4 (dk_at dksX2_cornersWithEnds_0 21 rfl rfl)
theorem dX2_cornersWithEnds_22 : decode cX2_cornersWithEnds 22 = .ok (.iadd, 1) := dk_96 (dk_at dksX2_cornersWithEnds_0 22 rfl rfl)
theorem dX2_cornersWithEnds_23 : decode cX2_cornersWithEnds 23 = .ok (.iaload, 1) := dk_46 (dk_at dksX2_cornersWithEnds_0 23 rfl rfl)
theorem dX2_cornersWithEnds_24 : decode cX2_cornersWithEnds 24 = .ok (.ishl, 1) := dk_120 (dk_at dksX2_cornersWithEnds_1 0 rfl rfl)
theorem dX2_cornersWithEnds_25 : decode cX2_cornersWithEnds 25 = .ok (.iconst 1, 1) := dk_4 (dk_at dksX2_cornersWithEnds_1 1 rfl rfl)
theorem dX2_cornersWithEnds_26 : decode cX2_cornersWithEnds 26 = .ok (.aload_n 0, 1) := dk_42 (dk_at dksX2_cornersWithEnds_1 2 rfl rfl)
theorem dX2_cornersWithEnds_27 : decode cX2_cornersWithEnds 27 = .ok (.getfield 13, 3) := dk_180 0 13 (dk_at dksX2_cornersWithEnds_1 3 rfl rfl)
theorem dX2_cornersWithEnds_30 : decode cX2_cornersWithEnds 30 = .ok (.iconst 4, 1) := dk_7 (dk_at dksX2_cornersWithEnds_1 6 rfl rfl)
theorem dX2_cornersWithEnds_31 : decode cX2_cornersWithEnds 31 = .ok (.iload_n 2, 1) := dk_28 (dk_at dksX2_cornersWithEnds_1 7 rfl rfl)
theorem dX2_cornersWithEnds_32 : decode cX2_cornersWithEnds 32 = .ok (.imul, 1) := dk_104 (dk_at dksX2_cornersWithEnds_1 8 rfl rfl)
theorem dX2_cornersWithEnds_33 : decode cX2_cornersWithEnds 33 = .ok (.iconst 2, 1) := dk_5 (dk_at dksX2_cornersWithEnds_1 9 rfl rfl)
theorem dX2_cornersWithEnds_34 : decode cX2_cornersWithEnds 34 = .ok (.iadd, 1) := dk_96 (dk_at dksX2_cornersWithEnds_1 10 rfl rfl)
theorem dX2_cornersWithEnds_35 : decode cX2_cornersWithEnds 35 = .ok (.iaload, 1) := dk_46 (dk_at dksX2_cornersWithEnds_1 11 rfl rfl)
theorem dX2_cornersWithEnds_36 : decode cX2_cornersWithEnds 36 = .ok (.ishl, 1) := dk_120 (dk_at dksX2_cornersWithEnds_1 12 rfl rfl)
theorem dX2_cornersWithEnds_37 : decode cX2_cornersWithEnds 37 = .ok (.ior, 1) := dk_128 (dk_at dksX2_cornersWithEnds_1 13 rfl rfl)
theorem dX2_cornersWithEnds_38 : decode cX2_cornersWithEnds 38 = .ok (.ior, 1) := dk_128 (dk_at dksX2_cornersWithEnds_1 14 rfl rfl)
theorem dX2_cornersWithEnds_39 : decode cX2_cornersWithEnds 39 = .ok (.istore_n 1, 1) := dk_60 (dk_at dksX2_cornersWithEnds_1 15 rfl rfl)
theorem dX2_cornersWithEnds_40 : decode cX2_cornersWithEnds 40 = .ok (.iinc 2 1, 3) := dk_132 2 1 (dk_at dksX2_cornersWithEnds_1 16 rfl rfl)
theorem dX2_cornersWithEnds_43 : decode cX2_cornersWithEnds 43 = .ok (.goto (-39), 3) := dk_167 255 217 (dk_at dksX2_cornersWithEnds_1 19 rfl rfl)
theorem dX2_cornersWithEnds_46 : decode cX2_cornersWithEnds 46 = .ok (.iload_n 1, 1) := dk_27 (dk_at dksX2_cornersWithEnds_1 22 rfl rfl)
theorem dX2_cornersWithEnds_47 : decode cX2_cornersWithEnds 47 = .ok (.ireturn, 1) := dk_172 (dk_at dksX2_cornersWithEnds_1 23 rfl rfl)
abbrev cX2_reachOf : ByteArray := prog_11_method_45_code
def yX2_reachOf : MethodName := ⟨RX2, "reachOf", "(II)I"⟩
def dkwX2_reachOf_4 : List UInt8 := [172]
abbrev dktX2_reachOf_4 : List UInt8 := dkwX2_reachOf_4 ++ []
def dkwX2_reachOf_3 : List UInt8 := [153, 0, 8, 21, 6, 167, 0, 4, 3, 128, 62, 132, 5, 1, 167, 255, 189, 132, 4, 1, 167, 255, 173, 29]
abbrev dktX2_reachOf_3 : List UInt8 := dkwX2_reachOf_3 ++ dktX2_reachOf_4
def dkwX2_reachOf_2 : List UInt8 := [104, 5, 96, 46, 120, 128, 54, 6, 29, 28, 21, 5, 122, 4, 126, 4, 160, 0, 15, 29, 21, 6, 126]
abbrev dktX2_reachOf_2 : List UInt8 := dkwX2_reachOf_2 ++ dktX2_reachOf_3
def dkwX2_reachOf_1 : List UInt8 := [162, 0, 64, 4, 42, 180, 0, 13, 7, 21, 5, 104, 4, 96, 46, 120, 4, 42, 180, 0, 13, 7, 21, 5]
abbrev dktX2_reachOf_1 : List UInt8 := dkwX2_reachOf_1 ++ dktX2_reachOf_2
def dkwX2_reachOf_0 : List UInt8 := [4, 27, 120, 62, 3, 54, 4, 21, 4, 16, 8, 162, 0, 82, 3, 54, 5, 21, 5, 42, 180, 0, 101]
abbrev dktX2_reachOf_0 : List UInt8 := dkwX2_reachOf_0 ++ dktX2_reachOf_1
theorem dksX2_reachOf_0 : cX2_reachOf.data.toList.drop 0 = dktX2_reachOf_0 := by decide +kernel
theorem dksX2_reachOf_1 : cX2_reachOf.data.toList.drop 23 = dktX2_reachOf_1 := dk_seg dksX2_reachOf_0 23 rfl rfl
theorem dksX2_reachOf_2 : cX2_reachOf.data.toList.drop 47 = dktX2_reachOf_2 := dk_seg dksX2_reachOf_1 24 rfl rfl
theorem dksX2_reachOf_3 : cX2_reachOf.data.toList.drop 70 = dktX2_reachOf_3 := dk_seg dksX2_reachOf_2 23 rfl rfl
theorem dksX2_reachOf_4 : cX2_reachOf.data.toList.drop 94 = dktX2_reachOf_4 := dk_seg dksX2_reachOf_3 24 rfl rfl
theorem dX2_reachOf_0 : decode cX2_reachOf 0 = .ok (.iconst 1, 1) := dk_4 (dk_at dksX2_reachOf_0 0 rfl rfl)
theorem dX2_reachOf_1 : decode cX2_reachOf 1 = .ok (.iload_n 1, 1) := dk_27 (dk_at dksX2_reachOf_0 1 rfl rfl)
theorem dX2_reachOf_2 : decode cX2_reachOf 2 = .ok (.ishl, 1) := dk_120 (dk_at dksX2_reachOf_0 2 rfl rfl)
theorem dX2_reachOf_3 : decode cX2_reachOf 3 = .ok (.istore_n 3, 1) := dk_62 (dk_at dksX2_reachOf_0 3 rfl rfl)
theorem dX2_reachOf_4 : decode cX2_reachOf 4 = .ok (.iconst 0, 1) := dk_3 (dk_at dksX2_reachOf_0 4 rfl rfl)
theorem dX2_reachOf_5 : decode cX2_reachOf 5 = .ok (.istore 4, 2) := dk_54 4 (dk_at dksX2_reachOf_0 5 rfl rfl)
theorem dX2_reachOf_7 : decode cX2_reachOf 7 = .ok (.iload 4, 2) := dk_21 4 (dk_at dksX2_reachOf_0 7 rfl rfl)
theorem dX2_reachOf_9 : decode cX2_reachOf 9 = .ok (.bipush 8, 2) := dk_16 8 (dk_at dksX2_reachOf_0 9 rfl rfl)
theorem dX2_reachOf_11 : decode cX2_reachOf 11 = .ok (.if_icmp .ge 82, 3) := dk_162 0 82 (dk_at dksX2_reachOf_0 11 rfl rfl)
theorem dX2_reachOf_14 : decode cX2_reachOf 14 = .ok (.iconst 0, 1) := dk_3 (dk_at dksX2_reachOf_0 14 rfl rfl)
theorem dX2_reachOf_15 : decode cX2_reachOf 15 = .ok (.istore 5, 2) := dk_54 5 (dk_at dksX2_reachOf_0 15 rfl rfl)
theorem dX2_reachOf_17 : decode cX2_reachOf 17 = .ok (.iload 5, 2) := dk_21 5 (dk_at dksX2_reachOf_0 17 rfl rfl)
theorem dX2_reachOf_19 : decode cX2_reachOf 19 = .ok (.aload_n 0, 1) := dk_42 (dk_at dksX2_reachOf_0 19 rfl rfl)
theorem dX2_reachOf_20 : decode cX2_reachOf 20 = .ok (.getfield 101, 3) := dk_180 0 101 (dk_at dksX2_reachOf_0 20 rfl rfl)
theorem dX2_reachOf_23 : decode cX2_reachOf 23 = .ok (.if_icmp .ge 64, 3) := dk_162 0 64 (dk_at dksX2_reachOf_1 0 rfl rfl)
theorem dX2_reachOf_26 : decode cX2_reachOf 26 = .ok (.iconst 1, 1) := dk_4 (dk_at dksX2_reachOf_1 3 rfl rfl)
theorem dX2_reachOf_27 : decode cX2_reachOf 27 = .ok (.aload_n 0, 1) := dk_42 (dk_at dksX2_reachOf_1 4 rfl rfl)
theorem dX2_reachOf_28 : decode cX2_reachOf 28 = .ok (.getfield 13, 3) := dk_180 0 13 (dk_at dksX2_reachOf_1 5 rfl rfl)
theorem dX2_reachOf_31 : decode cX2_reachOf 31 = .ok (.iconst 4, 1) := dk_7 (dk_at dksX2_reachOf_1 8 rfl rfl)
theorem dX2_reachOf_32 : decode cX2_reachOf 32 = .ok (.iload 5, 2) := dk_21 5 (dk_at dksX2_reachOf_1 9 rfl rfl)
theorem dX2_reachOf_34 : decode cX2_reachOf 34 = .ok (.imul, 1) := dk_104 (dk_at dksX2_reachOf_1 11 rfl rfl)
theorem dX2_reachOf_35 : decode cX2_reachOf 35 = .ok (.iconst 1, 1) := dk_4 (dk_at dksX2_reachOf_1 12 rfl rfl)
theorem dX2_reachOf_36 : decode cX2_reachOf 36 = .ok (.iadd, 1) := dk_96 (dk_at dksX2_reachOf_1 13 rfl rfl)
theorem dX2_reachOf_37 : decode cX2_reachOf 37 = .ok (.iaload, 1) := dk_46 (dk_at dksX2_reachOf_1 14 rfl rfl)
theorem dX2_reachOf_38 : decode cX2_reachOf 38 = .ok (.ishl, 1) := dk_120 (dk_at dksX2_reachOf_1 15 rfl rfl)
theorem dX2_reachOf_39 : decode cX2_reachOf 39 = .ok (.iconst 1, 1) := dk_4 (dk_at dksX2_reachOf_1 16 rfl rfl)
theorem dX2_reachOf_40 : decode cX2_reachOf 40 = .ok (.aload_n 0, 1) := dk_42 (dk_at dksX2_reachOf_1 17 rfl rfl)
theorem dX2_reachOf_41 : decode cX2_reachOf 41 = .ok (.getfield 13, 3) := dk_180 0 13 (dk_at dksX2_reachOf_1 18 rfl rfl)
theorem dX2_reachOf_44 : decode cX2_reachOf 44 = .ok (.iconst 4, 1) := dk_7 (dk_at dksX2_reachOf_1 21 rfl rfl)
theorem dX2_reachOf_45 : decode cX2_reachOf 45 = .ok (.iload 5, 2) := dk_21 5 (dk_at dksX2_reachOf_1 22 rfl rfl)
theorem dX2_reachOf_47 : decode cX2_reachOf 47 = .ok (.imul, 1) := dk_104 (dk_at dksX2_reachOf_2 0 rfl rfl)
theorem dX2_reachOf_48 : decode cX2_reachOf 48 = .ok (.iconst 2, 1) := dk_5 (dk_at dksX2_reachOf_2 1 rfl rfl)
theorem dX2_reachOf_49 : decode cX2_reachOf 49 = .ok (.iadd, 1) := dk_96 (dk_at dksX2_reachOf_2 2 rfl rfl)
theorem dX2_reachOf_50 : decode cX2_reachOf 50 = .ok (.iaload, 1) := dk_46 (dk_at dksX2_reachOf_2 3 rfl rfl)
theorem dX2_reachOf_51 : decode cX2_reachOf 51 = .ok (.ishl, 1) := dk_120 (dk_at dksX2_reachOf_2 4 rfl rfl)
theorem dX2_reachOf_52 : decode cX2_reachOf 52 = .ok (.ior, 1) := dk_128 (dk_at dksX2_reachOf_2 5 rfl rfl)
theorem dX2_reachOf_53 : decode cX2_reachOf 53 = .ok (.istore 6, 2) := dk_54 6 (dk_at dksX2_reachOf_2 6 rfl rfl)
theorem dX2_reachOf_55 : decode cX2_reachOf 55 = .ok (.iload_n 3, 1) := dk_29 (dk_at dksX2_reachOf_2 8 rfl rfl)
theorem dX2_reachOf_56 : decode cX2_reachOf 56 = .ok (.iload_n 2, 1) := dk_28 (dk_at dksX2_reachOf_2 9 rfl rfl)
theorem dX2_reachOf_57 : decode cX2_reachOf 57 = .ok (.iload 5, 2) := dk_21 5 (dk_at dksX2_reachOf_2 10 rfl rfl)
theorem dX2_reachOf_59 : decode cX2_reachOf 59 = .ok (.ishr, 1) := dk_122 (dk_at dksX2_reachOf_2 12 rfl rfl)
theorem dX2_reachOf_60 : decode cX2_reachOf 60 = .ok (.iconst 1, 1) := dk_4 (dk_at dksX2_reachOf_2 13 rfl rfl)
theorem dX2_reachOf_61 : decode cX2_reachOf 61 = .ok (.iand, 1) := dk_126 (dk_at dksX2_reachOf_2 14 rfl rfl)
theorem dX2_reachOf_62 : decode cX2_reachOf 62 = .ok (.iconst 1, 1) := dk_4 (dk_at dksX2_reachOf_2 15 rfl rfl)
theorem dX2_reachOf_63 : decode cX2_reachOf 63 = .ok (.if_icmp .ne 15, 3) := dk_160 0 15 (dk_at dksX2_reachOf_2 16 rfl rfl)
theorem dX2_reachOf_66 : decode cX2_reachOf 66 = .ok (.iload_n 3, 1) := dk_29 (dk_at dksX2_reachOf_2 19 rfl rfl)
theorem dX2_reachOf_67 : decode cX2_reachOf 67 = .ok (.iload 6, 2) := dk_21 6 (dk_at dksX2_reachOf_2 20 rfl rfl)
theorem dX2_reachOf_69 : decode cX2_reachOf 69 = .ok (.iand, 1) := dk_126 (dk_at dksX2_reachOf_2 22 rfl rfl)
theorem dX2_reachOf_70 : decode cX2_reachOf 70 = .ok (.ifCond .eq 8, 3) := dk_153 0 8 (dk_at dksX2_reachOf_3 0 rfl rfl)
theorem dX2_reachOf_73 : decode cX2_reachOf 73 = .ok (.iload 6, 2) := dk_21 6 (dk_at dksX2_reachOf_3 3 rfl rfl)
theorem dX2_reachOf_75 : decode cX2_reachOf 75 = .ok (.goto 4, 3) := dk_167 0 4 (dk_at dksX2_reachOf_3 5 rfl rfl)
theorem dX2_reachOf_78 : decode cX2_reachOf 78 = .ok (.iconst 0, 1) := dk_3 (dk_at dksX2_reachOf_3 8 rfl rfl)
theorem dX2_reachOf_79 : decode cX2_reachOf 79 = .ok (.ior, 1) := dk_128 (dk_at dksX2_reachOf_3 9 rfl rfl)
theorem dX2_reachOf_80 : decode cX2_reachOf 80 = .ok (.istore_n 3, 1) := dk_62 (dk_at dksX2_reachOf_3 10 rfl rfl)
theorem dX2_reachOf_81 : decode cX2_reachOf 81 = .ok (.iinc 5 1, 3) := dk_132 5 1 (dk_at dksX2_reachOf_3 11 rfl rfl)
theorem dX2_reachOf_84 : decode cX2_reachOf 84 = .ok (.goto (-67), 3) := dk_167 255 189 (dk_at dksX2_reachOf_3 14 rfl rfl)
theorem dX2_reachOf_87 : decode cX2_reachOf 87 = .ok (.iinc 4 1, 3) := dk_132 4 1 (dk_at dksX2_reachOf_3 17 rfl rfl)
theorem dX2_reachOf_90 : decode cX2_reachOf 90 = .ok (.goto (-83), 3) := dk_167 255 173 (dk_at dksX2_reachOf_3 20 rfl rfl)
theorem dX2_reachOf_93 : decode cX2_reachOf 93 = .ok (.iload_n 3, 1) := dk_29 (dk_at dksX2_reachOf_3 23 rfl rfl)
theorem dX2_reachOf_94 : decode cX2_reachOf 94 = .ok (.ireturn, 1) := dk_172 (dk_at dksX2_reachOf_4 0 rfl rfl)
abbrev cX2_learnNextOf : ByteArray := prog_11_method_48_code
def yX2_learnNextOf : MethodName := ⟨RX2, "learnNextOf", "(I)I"⟩
def dkwX2_learnNextOf_3 : List UInt8 := [21, 4, 54, 4, 132, 5, 1, 167, 255, 202, 29, 172]
abbrev dktX2_learnNextOf_3 : List UInt8 := dkwX2_learnNextOf_3 ++ []
def dkwX2_learnNextOf_2 : List UInt8 := [21, 4, 162, 0, 8, 21, 5, 167, 0, 4, 29, 62, 21, 6, 21, 4, 162, 0, 8, 21, 6, 167, 0, 5]
abbrev dktX2_learnNextOf_2 : List UInt8 := dkwX2_learnNextOf_2 ++ dktX2_learnNextOf_3
def dkwX2_learnNextOf_1 : List UInt8 := [21, 5, 42, 180, 0, 101, 162, 0, 51, 42, 28, 4, 21, 5, 120, 128, 182, 0, 211, 54, 6, 21, 6]
abbrev dktX2_learnNextOf_1 : List UInt8 := dkwX2_learnNextOf_1 ++ dktX2_learnNextOf_2
def dkwX2_learnNextOf_0 : List UInt8 := [42, 180, 0, 22, 6, 27, 104, 4, 96, 46, 61, 2, 62, 42, 28, 182, 0, 211, 54, 4, 3, 54, 5]
abbrev dktX2_learnNextOf_0 : List UInt8 := dkwX2_learnNextOf_0 ++ dktX2_learnNextOf_1
theorem dksX2_learnNextOf_0 : cX2_learnNextOf.data.toList.drop 0 = dktX2_learnNextOf_0 := by decide +kernel
theorem dksX2_learnNextOf_1 : cX2_learnNextOf.data.toList.drop 23 = dktX2_learnNextOf_1 := dk_seg dksX2_learnNextOf_0 23 rfl rfl
theorem dksX2_learnNextOf_2 : cX2_learnNextOf.data.toList.drop 46 = dktX2_learnNextOf_2 := dk_seg dksX2_learnNextOf_1 23 rfl rfl
theorem dksX2_learnNextOf_3 : cX2_learnNextOf.data.toList.drop 70 = dktX2_learnNextOf_3 := dk_seg dksX2_learnNextOf_2 24 rfl rfl
theorem dX2_learnNextOf_0 : decode cX2_learnNextOf 0 = .ok (.aload_n 0, 1) := dk_42 (dk_at dksX2_learnNextOf_0 0 rfl rfl)
theorem dX2_learnNextOf_1 : decode cX2_learnNextOf 1 = .ok (.getfield 22, 3) := dk_180 0 22 (dk_at dksX2_learnNextOf_0 1 rfl rfl)
theorem dX2_learnNextOf_4 : decode cX2_learnNextOf 4 = .ok (.iconst 3, 1) := dk_6 (dk_at dksX2_learnNextOf_0 4 rfl rfl)
theorem dX2_learnNextOf_5 : decode cX2_learnNextOf 5 = .ok (.iload_n 1, 1) := dk_27 (dk_at dksX2_learnNextOf_0 5 rfl rfl)
theorem dX2_learnNextOf_6 : decode cX2_learnNextOf 6 = .ok (.imul, 1) := dk_104 (dk_at dksX2_learnNextOf_0 6 rfl rfl)
theorem dX2_learnNextOf_7 : decode cX2_learnNextOf 7 = .ok (.iconst 1, 1) := dk_4 (dk_at dksX2_learnNextOf_0 7 rfl rfl)
theorem dX2_learnNextOf_8 : decode cX2_learnNextOf 8 = .ok (.iadd, 1) := dk_96 (dk_at dksX2_learnNextOf_0 8 rfl rfl)
theorem dX2_learnNextOf_9 : decode cX2_learnNextOf 9 = .ok (.iaload, 1) := dk_46 (dk_at dksX2_learnNextOf_0 9 rfl rfl)
theorem dX2_learnNextOf_10 : decode cX2_learnNextOf 10 = .ok (.istore_n 2, 1) := dk_61 (dk_at dksX2_learnNextOf_0 10 rfl rfl)
theorem dX2_learnNextOf_11 : decode cX2_learnNextOf 11 = .ok (.iconst (-1), 1) := dk_2 (dk_at dksX2_learnNextOf_0 11 rfl rfl)
theorem dX2_learnNextOf_12 : decode cX2_learnNextOf 12 = .ok (.istore_n 3, 1) := dk_62 (dk_at dksX2_learnNextOf_0 12 rfl rfl)
theorem dX2_learnNextOf_13 : decode cX2_learnNextOf 13 = .ok (.aload_n 0, 1) := dk_42 (dk_at dksX2_learnNextOf_0 13 rfl rfl)
theorem dX2_learnNextOf_14 : decode cX2_learnNextOf 14 = .ok (.iload_n 2, 1) := dk_28 (dk_at dksX2_learnNextOf_0 14 rfl rfl)
theorem dX2_learnNextOf_15 : decode cX2_learnNextOf 15 = .ok (.invokevirtual 211, 3) := dk_182 0 211 (dk_at dksX2_learnNextOf_0 15 rfl rfl)
theorem dX2_learnNextOf_18 : decode cX2_learnNextOf 18 = .ok (.istore 4, 2) := dk_54 4 (dk_at dksX2_learnNextOf_0 18 rfl rfl)
theorem dX2_learnNextOf_20 : decode cX2_learnNextOf 20 = .ok (.iconst 0, 1) := dk_3 (dk_at dksX2_learnNextOf_0 20 rfl rfl)
theorem dX2_learnNextOf_21 : decode cX2_learnNextOf 21 = .ok (.istore 5, 2) := dk_54 5 (dk_at dksX2_learnNextOf_0 21 rfl rfl)
theorem dX2_learnNextOf_23 : decode cX2_learnNextOf 23 = .ok (.iload 5, 2) := dk_21 5 (dk_at dksX2_learnNextOf_1 0 rfl rfl)
theorem dX2_learnNextOf_25 : decode cX2_learnNextOf 25 = .ok (.aload_n 0, 1) := dk_42 (dk_at dksX2_learnNextOf_1 2 rfl rfl)
theorem dX2_learnNextOf_26 : decode cX2_learnNextOf 26 = .ok (.getfield 101, 3) := dk_180 0 101 (dk_at dksX2_learnNextOf_1 3 rfl rfl)
theorem dX2_learnNextOf_29 : decode cX2_learnNextOf 29 = .ok (.if_icmp .ge 51, 3) := dk_162 0 51 (dk_at dksX2_learnNextOf_1 6 rfl rfl)
theorem dX2_learnNextOf_32 : decode cX2_learnNextOf 32 = .ok (.aload_n 0, 1) := dk_42 (dk_at dksX2_learnNextOf_1 9 rfl rfl)
theorem dX2_learnNextOf_33 : decode cX2_learnNextOf 33 = .ok (.iload_n 2, 1) := dk_28 (dk_at dksX2_learnNextOf_1 10 rfl rfl)
theorem dX2_learnNextOf_34 : decode cX2_learnNextOf 34 = .ok (.iconst 1, 1) := dk_4 (dk_at dksX2_learnNextOf_1 11 rfl rfl)
theorem dX2_learnNextOf_35 : decode cX2_learnNextOf 35 = .ok (.iload 5, 2) := dk_21 5 (dk_at dksX2_learnNextOf_1 12 rfl rfl)
theorem dX2_learnNextOf_37 : decode cX2_learnNextOf 37 = .ok (.ishl, 1) := dk_120 (dk_at dksX2_learnNextOf_1 14 rfl rfl)
theorem dX2_learnNextOf_38 : decode cX2_learnNextOf 38 = .ok (.ior, 1) := dk_128 (dk_at dksX2_learnNextOf_1 15 rfl rfl)
theorem dX2_learnNextOf_39 : decode cX2_learnNextOf 39 = .ok (.invokevirtual 211, 3) := dk_182 0 211 (dk_at dksX2_learnNextOf_1 16 rfl rfl)
theorem dX2_learnNextOf_42 : decode cX2_learnNextOf 42 = .ok (.istore 6, 2) := dk_54 6 (dk_at dksX2_learnNextOf_1 19 rfl rfl)
theorem dX2_learnNextOf_44 : decode cX2_learnNextOf 44 = .ok (.iload 6, 2) := dk_21 6 (dk_at dksX2_learnNextOf_1 21 rfl rfl)
theorem dX2_learnNextOf_46 : decode cX2_learnNextOf 46 = .ok (.iload 4, 2) := dk_21 4 (dk_at dksX2_learnNextOf_2 0 rfl rfl)
theorem dX2_learnNextOf_48 : decode cX2_learnNextOf 48 = .ok (.if_icmp .ge 8, 3) := dk_162 0 8 (dk_at dksX2_learnNextOf_2 2 rfl rfl)
theorem dX2_learnNextOf_51 : decode cX2_learnNextOf 51 = .ok (.iload 5, 2) := dk_21 5 (dk_at dksX2_learnNextOf_2 5 rfl rfl)
theorem dX2_learnNextOf_53 : decode cX2_learnNextOf 53 = .ok (.goto 4, 3) := dk_167 0 4 (dk_at dksX2_learnNextOf_2 7 rfl rfl)
theorem dX2_learnNextOf_56 : decode cX2_learnNextOf 56 = .ok (.iload_n 3, 1) := dk_29 (dk_at dksX2_learnNextOf_2 10 rfl rfl)
theorem dX2_learnNextOf_57 : decode cX2_learnNextOf 57 = .ok (.istore_n 3, 1) := dk_62 (dk_at dksX2_learnNextOf_2 11 rfl rfl)
theorem dX2_learnNextOf_58 : decode cX2_learnNextOf 58 = .ok (.iload 6, 2) := dk_21 6 (dk_at dksX2_learnNextOf_2 12 rfl rfl)
theorem dX2_learnNextOf_60 : decode cX2_learnNextOf 60 = .ok (.iload 4, 2) := dk_21 4 (dk_at dksX2_learnNextOf_2 14 rfl rfl)
theorem dX2_learnNextOf_62 : decode cX2_learnNextOf 62 = .ok (.if_icmp .ge 8, 3) := dk_162 0 8 (dk_at dksX2_learnNextOf_2 16 rfl rfl)
theorem dX2_learnNextOf_65 : decode cX2_learnNextOf 65 = .ok (.iload 6, 2) := dk_21 6 (dk_at dksX2_learnNextOf_2 19 rfl rfl)
theorem dX2_learnNextOf_67 : decode cX2_learnNextOf 67 = .ok (.goto 5, 3) := dk_167 0 5 (dk_at dksX2_learnNextOf_2 21 rfl rfl)
theorem dX2_learnNextOf_70 : decode cX2_learnNextOf 70 = .ok (.iload 4, 2) := dk_21 4 (dk_at dksX2_learnNextOf_3 0 rfl rfl)
theorem dX2_learnNextOf_72 : decode cX2_learnNextOf 72 = .ok (.istore 4, 2) := dk_54 4 (dk_at dksX2_learnNextOf_3 2 rfl rfl)
theorem dX2_learnNextOf_74 : decode cX2_learnNextOf 74 = .ok (.iinc 5 1, 3) := dk_132 5 1 (dk_at dksX2_learnNextOf_3 4 rfl rfl)
theorem dX2_learnNextOf_77 : decode cX2_learnNextOf 77 = .ok (.goto (-54), 3) := dk_167 255 202 (dk_at dksX2_learnNextOf_3 7 rfl rfl)
theorem dX2_learnNextOf_80 : decode cX2_learnNextOf 80 = .ok (.iload_n 3, 1) := dk_29 (dk_at dksX2_learnNextOf_3 10 rfl rfl)
theorem dX2_learnNextOf_81 : decode cX2_learnNextOf 81 = .ok (.ireturn, 1) := dk_172 (dk_at dksX2_learnNextOf_3 11 rfl rfl)
abbrev cX2_learn : ByteArray := prog_11_method_52_code
def yX2_learn : MethodName := ⟨RX2, "learn", "(II)I"⟩
def dkwX2_learn_2 : List UInt8 := [79, 42, 180, 0, 22, 6, 27, 104, 4, 96, 46, 184, 0, 226, 172]
abbrev dktX2_learn_2 : List UInt8 := dkwX2_learn_2 ++ []
def dkwX2_learn_1 : List UInt8 := [182, 0, 223, 153, 0, 6, 16, 153, 172, 42, 180, 0, 22, 6, 27, 104, 4, 96, 92, 46, 4, 28, 120, 128]
abbrev dktX2_learn_1 : List UInt8 := dkwX2_learn_1 ++ dktX2_learn_2
def dkwX2_learn_0 : List UInt8 := [42, 27, 182, 0, 217, 153, 0, 11, 42, 28, 182, 0, 195, 154, 0, 6, 16, 155, 172, 42, 27, 28]
abbrev dktX2_learn_0 : List UInt8 := dkwX2_learn_0 ++ dktX2_learn_1
theorem dksX2_learn_0 : cX2_learn.data.toList.drop 0 = dktX2_learn_0 := by decide +kernel
theorem dksX2_learn_1 : cX2_learn.data.toList.drop 22 = dktX2_learn_1 := dk_seg dksX2_learn_0 22 rfl rfl
theorem dksX2_learn_2 : cX2_learn.data.toList.drop 46 = dktX2_learn_2 := dk_seg dksX2_learn_1 24 rfl rfl
theorem dX2_learn_0 : decode cX2_learn 0 = .ok (.aload_n 0, 1) := dk_42 (dk_at dksX2_learn_0 0 rfl rfl)
theorem dX2_learn_1 : decode cX2_learn 1 = .ok (.iload_n 1, 1) := dk_27 (dk_at dksX2_learn_0 1 rfl rfl)
theorem dX2_learn_2 : decode cX2_learn 2 = .ok (.invokevirtual 217, 3) := dk_182 0 217 (dk_at dksX2_learn_0 2 rfl rfl)
theorem dX2_learn_5 : decode cX2_learn 5 = .ok (.ifCond .eq 11, 3) := dk_153 0 11 (dk_at dksX2_learn_0 5 rfl rfl)
theorem dX2_learn_8 : decode cX2_learn 8 = .ok (.aload_n 0, 1) := dk_42 (dk_at dksX2_learn_0 8 rfl rfl)
theorem dX2_learn_9 : decode cX2_learn 9 = .ok (.iload_n 2, 1) := dk_28 (dk_at dksX2_learn_0 9 rfl rfl)
theorem dX2_learn_10 : decode cX2_learn 10 = .ok (.invokevirtual 195, 3) := dk_182 0 195 (dk_at dksX2_learn_0 10 rfl rfl)
theorem dX2_learn_13 : decode cX2_learn 13 = .ok (.ifCond .ne 6, 3) := dk_154 0 6 (dk_at dksX2_learn_0 13 rfl rfl)
theorem dX2_learn_16 : decode cX2_learn 16 = .ok (.bipush (-101), 2) := dk_16 155 (dk_at dksX2_learn_0 16 rfl rfl)
theorem dX2_learn_18 : decode cX2_learn 18 = .ok (.ireturn, 1) := dk_172 (dk_at dksX2_learn_0 18 rfl rfl)
theorem dX2_learn_19 : decode cX2_learn 19 = .ok (.aload_n 0, 1) := dk_42 (dk_at dksX2_learn_0 19 rfl rfl)
theorem dX2_learn_20 : decode cX2_learn 20 = .ok (.iload_n 1, 1) := dk_27 (dk_at dksX2_learn_0 20 rfl rfl)
theorem dX2_learn_21 : decode cX2_learn 21 = .ok (.iload_n 2, 1) := dk_28 (dk_at dksX2_learn_0 21 rfl rfl)
theorem dX2_learn_22 : decode cX2_learn 22 = .ok (.invokevirtual 223, 3) := dk_182 0 223 (dk_at dksX2_learn_1 0 rfl rfl)
theorem dX2_learn_25 : decode cX2_learn 25 = .ok (.ifCond .eq 6, 3) := dk_153 0 6 (dk_at dksX2_learn_1 3 rfl rfl)
theorem dX2_learn_28 : decode cX2_learn 28 = .ok (.bipush (-103), 2) := dk_16 153 (dk_at dksX2_learn_1 6 rfl rfl)
theorem dX2_learn_30 : decode cX2_learn 30 = .ok (.ireturn, 1) := dk_172 (dk_at dksX2_learn_1 8 rfl rfl)
theorem dX2_learn_31 : decode cX2_learn 31 = .ok (.aload_n 0, 1) := dk_42 (dk_at dksX2_learn_1 9 rfl rfl)
theorem dX2_learn_32 : decode cX2_learn 32 = .ok (.getfield 22, 3) := dk_180 0 22 (dk_at dksX2_learn_1 10 rfl rfl)
theorem dX2_learn_35 : decode cX2_learn 35 = .ok (.iconst 3, 1) := dk_6 (dk_at dksX2_learn_1 13 rfl rfl)
theorem dX2_learn_36 : decode cX2_learn 36 = .ok (.iload_n 1, 1) := dk_27 (dk_at dksX2_learn_1 14 rfl rfl)
theorem dX2_learn_37 : decode cX2_learn 37 = .ok (.imul, 1) := dk_104 (dk_at dksX2_learn_1 15 rfl rfl)
theorem dX2_learn_38 : decode cX2_learn 38 = .ok (.iconst 1, 1) := dk_4 (dk_at dksX2_learn_1 16 rfl rfl)
theorem dX2_learn_39 : decode cX2_learn 39 = .ok (.iadd, 1) := dk_96 (dk_at dksX2_learn_1 17 rfl rfl)
theorem dX2_learn_40 : decode cX2_learn 40 = .ok (.dup2, 1) := dk_92 (dk_at dksX2_learn_1 18 rfl rfl)
theorem dX2_learn_41 : decode cX2_learn 41 = .ok (.iaload, 1) := dk_46 (dk_at dksX2_learn_1 19 rfl rfl)
theorem dX2_learn_42 : decode cX2_learn 42 = .ok (.iconst 1, 1) := dk_4 (dk_at dksX2_learn_1 20 rfl rfl)
theorem dX2_learn_43 : decode cX2_learn 43 = .ok (.iload_n 2, 1) := dk_28 (dk_at dksX2_learn_1 21 rfl rfl)
theorem dX2_learn_44 : decode cX2_learn 44 = .ok (.ishl, 1) := dk_120 (dk_at dksX2_learn_1 22 rfl rfl)
theorem dX2_learn_45 : decode cX2_learn 45 = .ok (.ior, 1) := dk_128 (dk_at dksX2_learn_1 23 rfl rfl)
theorem dX2_learn_46 : decode cX2_learn 46 = .ok (.iastore, 1) := dk_79 (dk_at dksX2_learn_2 0 rfl rfl)
theorem dX2_learn_47 : decode cX2_learn 47 = .ok (.aload_n 0, 1) := dk_42 (dk_at dksX2_learn_2 1 rfl rfl)
theorem dX2_learn_48 : decode cX2_learn 48 = .ok (.getfield 22, 3) := dk_180 0 22 (dk_at dksX2_learn_2 2 rfl rfl)
theorem dX2_learn_51 : decode cX2_learn 51 = .ok (.iconst 3, 1) := dk_6 (dk_at dksX2_learn_2 5 rfl rfl)
theorem dX2_learn_52 : decode cX2_learn 52 = .ok (.iload_n 1, 1) := dk_27 (dk_at dksX2_learn_2 6 rfl rfl)
theorem dX2_learn_53 : decode cX2_learn 53 = .ok (.imul, 1) := dk_104 (dk_at dksX2_learn_2 7 rfl rfl)
theorem dX2_learn_54 : decode cX2_learn 54 = .ok (.iconst 1, 1) := dk_4 (dk_at dksX2_learn_2 8 rfl rfl)
theorem dX2_learn_55 : decode cX2_learn 55 = .ok (.iadd, 1) := dk_96 (dk_at dksX2_learn_2 9 rfl rfl)
theorem dX2_learn_56 : decode cX2_learn 56 = .ok (.iaload, 1) := dk_46 (dk_at dksX2_learn_2 10 rfl rfl)
theorem dX2_learn_57 : decode cX2_learn 57 = .ok (.invokestatic 226, 3) := dk_184 0 226 (dk_at dksX2_learn_2 11 rfl rfl)
theorem dX2_learn_60 : decode cX2_learn 60 = .ok (.ireturn, 1) := dk_172 (dk_at dksX2_learn_2 14 rfl rfl)
abbrev cX2_knows : ByteArray := prog_11_method_51_code
def yX2_knows : MethodName := ⟨RX2, "knows", "(II)Z"⟩
def dkwX2_knows_0 : List UInt8 := [42, 180, 0, 22, 6, 27, 104, 4, 96, 46, 28, 122, 4, 126, 4, 160, 0, 7, 4, 167, 0, 4, 3, 172]
abbrev dktX2_knows_0 : List UInt8 := dkwX2_knows_0 ++ []
theorem dksX2_knows_0 : cX2_knows.data.toList.drop 0 = dktX2_knows_0 := by decide +kernel
theorem dX2_knows_0 : decode cX2_knows 0 = .ok (.aload_n 0, 1) := dk_42 (dk_at dksX2_knows_0 0 rfl rfl)
theorem dX2_knows_1 : decode cX2_knows 1 = .ok (.getfield 22, 3) := dk_180 0 22 (dk_at dksX2_knows_0 1 rfl rfl)
theorem dX2_knows_4 : decode cX2_knows 4 = .ok (.iconst 3, 1) := dk_6 (dk_at dksX2_knows_0 4 rfl rfl)
theorem dX2_knows_5 : decode cX2_knows 5 = .ok (.iload_n 1, 1) := dk_27 (dk_at dksX2_knows_0 5 rfl rfl)
theorem dX2_knows_6 : decode cX2_knows 6 = .ok (.imul, 1) := dk_104 (dk_at dksX2_knows_0 6 rfl rfl)
theorem dX2_knows_7 : decode cX2_knows 7 = .ok (.iconst 1, 1) := dk_4 (dk_at dksX2_knows_0 7 rfl rfl)
theorem dX2_knows_8 : decode cX2_knows 8 = .ok (.iadd, 1) := dk_96 (dk_at dksX2_knows_0 8 rfl rfl)
theorem dX2_knows_9 : decode cX2_knows 9 = .ok (.iaload, 1) := dk_46 (dk_at dksX2_knows_0 9 rfl rfl)
theorem dX2_knows_10 : decode cX2_knows 10 = .ok (.iload_n 2, 1) := dk_28 (dk_at dksX2_knows_0 10 rfl rfl)
theorem dX2_knows_11 : decode cX2_knows 11 = .ok (.ishr, 1) := dk_122 (dk_at dksX2_knows_0 11 rfl rfl)
theorem dX2_knows_12 : decode cX2_knows 12 = .ok (.iconst 1, 1) := dk_4 (dk_at dksX2_knows_0 12 rfl rfl)
theorem dX2_knows_13 : decode cX2_knows 13 = .ok (.iand, 1) := dk_126 (dk_at dksX2_knows_0 13 rfl rfl)
theorem dX2_knows_14 : decode cX2_knows 14 = .ok (.iconst 1, 1) := dk_4 (dk_at dksX2_knows_0 14 rfl rfl)
theorem dX2_knows_15 : decode cX2_knows 15 = .ok (.if_icmp .ne 7, 3) := dk_160 0 7 (dk_at dksX2_knows_0 15 rfl rfl)
theorem dX2_knows_18 : decode cX2_knows 18 = .ok (.iconst 1, 1) := dk_4 (dk_at dksX2_knows_0 18 rfl rfl)
theorem dX2_knows_19 : decode cX2_knows 19 = .ok (.goto 4, 3) := dk_167 0 4 (dk_at dksX2_knows_0 19 rfl rfl)
theorem dX2_knows_22 : decode cX2_knows 22 = .ok (.iconst 0, 1) := dk_3 (dk_at dksX2_knows_0 22 rfl rfl)
theorem dX2_knows_23 : decode cX2_knows 23 = .ok (.ireturn, 1) := dk_172 (dk_at dksX2_knows_0 23 rfl rfl)
abbrev cX2_ones : ByteArray := prog_11_method_4_code
def yX2_ones : MethodName := ⟨RX2, "ones", "(I)I"⟩
def dkwX2_ones_1 : List UInt8 := [27, 172]
abbrev dktX2_ones_1 : List UInt8 := dkwX2_ones_1 ++ []
def dkwX2_ones_0 : List UInt8 := [3, 60, 3, 61, 28, 16, 10, 162, 0, 17, 27, 26, 28, 122, 4, 126, 96, 60, 132, 2, 1, 167, 255, 239]
abbrev dktX2_ones_0 : List UInt8 := dkwX2_ones_0 ++ dktX2_ones_1
theorem dksX2_ones_0 : cX2_ones.data.toList.drop 0 = dktX2_ones_0 := by decide +kernel
theorem dksX2_ones_1 : cX2_ones.data.toList.drop 24 = dktX2_ones_1 := dk_seg dksX2_ones_0 24 rfl rfl
theorem dX2_ones_0 : decode cX2_ones 0 = .ok (.iconst 0, 1) := dk_3 (dk_at dksX2_ones_0 0 rfl rfl)
theorem dX2_ones_1 : decode cX2_ones 1 = .ok (.istore_n 1, 1) := dk_60 (dk_at dksX2_ones_0 1 rfl rfl)
theorem dX2_ones_2 : decode cX2_ones 2 = .ok (.iconst 0, 1) := dk_3 (dk_at dksX2_ones_0 2 rfl rfl)
theorem dX2_ones_3 : decode cX2_ones 3 = .ok (.istore_n 2, 1) := dk_61 (dk_at dksX2_ones_0 3 rfl rfl)
theorem dX2_ones_4 : decode cX2_ones 4 = .ok (.iload_n 2, 1) := dk_28 (dk_at dksX2_ones_0 4 rfl rfl)
theorem dX2_ones_5 : decode cX2_ones 5 = .ok (.bipush 10, 2) := dk_16 10 (dk_at dksX2_ones_0 5 rfl rfl)
theorem dX2_ones_7 : decode cX2_ones 7 = .ok (.if_icmp .ge 17, 3) := dk_162 0 17 (dk_at dksX2_ones_0 7 rfl rfl)
theorem dX2_ones_10 : decode cX2_ones 10 = .ok (.iload_n 1, 1) := dk_27 (dk_at dksX2_ones_0 10 rfl rfl)
theorem dX2_ones_11 : decode cX2_ones 11 = .ok (.iload_n 0, 1) := dk_26 (dk_at dksX2_ones_0 11 rfl rfl)
theorem dX2_ones_12 : decode cX2_ones 12 = .ok (.iload_n 2, 1) := dk_28 (dk_at dksX2_ones_0 12 rfl rfl)
theorem dX2_ones_13 : decode cX2_ones 13 = .ok (.ishr, 1) := dk_122 (dk_at dksX2_ones_0 13 rfl rfl)
theorem dX2_ones_14 : decode cX2_ones 14 = .ok (.iconst 1, 1) := dk_4 (dk_at dksX2_ones_0 14 rfl rfl)
theorem dX2_ones_15 : decode cX2_ones 15 = .ok (.iand, 1) := dk_126 (dk_at dksX2_ones_0 15 rfl rfl)
theorem dX2_ones_16 : decode cX2_ones 16 = .ok (.iadd, 1) := dk_96 (dk_at dksX2_ones_0 16 rfl rfl)
theorem dX2_ones_17 : decode cX2_ones 17 = .ok (.istore_n 1, 1) := dk_60 (dk_at dksX2_ones_0 17 rfl rfl)
theorem dX2_ones_18 : decode cX2_ones 18 = .ok (.iinc 2 1, 3) := dk_132 2 1 (dk_at dksX2_ones_0 18 rfl rfl)
theorem dX2_ones_21 : decode cX2_ones 21 = .ok (.goto (-17), 3) := dk_167 255 239 (dk_at dksX2_ones_0 21 rfl rfl)
theorem dX2_ones_24 : decode cX2_ones 24 = .ok (.iload_n 1, 1) := dk_27 (dk_at dksX2_ones_1 0 rfl rfl)
theorem dX2_ones_25 : decode cX2_ones 25 = .ok (.ireturn, 1) := dk_172 (dk_at dksX2_ones_1 1 rfl rfl)
abbrev cX2_lose : ByteArray := prog_11_method_53_code
def yX2_lose : MethodName := ⟨RX2, "lose", "(II)I"⟩
def dkwX2_lose_2 : List UInt8 := [79, 42, 180, 0, 22, 6, 27, 104, 4, 96, 46, 184, 0, 226, 172]
abbrev dktX2_lose_2 : List UInt8 := dkwX2_lose_2 ++ []
def dkwX2_lose_1 : List UInt8 := [182, 0, 223, 154, 0, 6, 16, 153, 172, 42, 180, 0, 22, 6, 27, 104, 4, 96, 92, 46, 4, 28, 120, 100]
abbrev dktX2_lose_1 : List UInt8 := dkwX2_lose_1 ++ dktX2_lose_2
def dkwX2_lose_0 : List UInt8 := [42, 27, 182, 0, 217, 153, 0, 11, 42, 28, 182, 0, 195, 154, 0, 6, 16, 155, 172, 42, 27, 28]
abbrev dktX2_lose_0 : List UInt8 := dkwX2_lose_0 ++ dktX2_lose_1
theorem dksX2_lose_0 : cX2_lose.data.toList.drop 0 = dktX2_lose_0 := by decide +kernel
theorem dksX2_lose_1 : cX2_lose.data.toList.drop 22 = dktX2_lose_1 := dk_seg dksX2_lose_0 22 rfl rfl
theorem dksX2_lose_2 : cX2_lose.data.toList.drop 46 = dktX2_lose_2 := dk_seg dksX2_lose_1 24 rfl rfl
theorem dX2_lose_0 : decode cX2_lose 0 = .ok (.aload_n 0, 1) := dk_42 (dk_at dksX2_lose_0 0 rfl rfl)
theorem dX2_lose_1 : decode cX2_lose 1 = .ok (.iload_n 1, 1) := dk_27 (dk_at dksX2_lose_0 1 rfl rfl)
theorem dX2_lose_2 : decode cX2_lose 2 = .ok (.invokevirtual 217, 3) := dk_182 0 217 (dk_at dksX2_lose_0 2 rfl rfl)
theorem dX2_lose_5 : decode cX2_lose 5 = .ok (.ifCond .eq 11, 3) := dk_153 0 11 (dk_at dksX2_lose_0 5 rfl rfl)
theorem dX2_lose_8 : decode cX2_lose 8 = .ok (.aload_n 0, 1) := dk_42 (dk_at dksX2_lose_0 8 rfl rfl)
theorem dX2_lose_9 : decode cX2_lose 9 = .ok (.iload_n 2, 1) := dk_28 (dk_at dksX2_lose_0 9 rfl rfl)
theorem dX2_lose_10 : decode cX2_lose 10 = .ok (.invokevirtual 195, 3) := dk_182 0 195 (dk_at dksX2_lose_0 10 rfl rfl)
theorem dX2_lose_13 : decode cX2_lose 13 = .ok (.ifCond .ne 6, 3) := dk_154 0 6 (dk_at dksX2_lose_0 13 rfl rfl)
theorem dX2_lose_16 : decode cX2_lose 16 = .ok (.bipush (-101), 2) := dk_16 155 (dk_at dksX2_lose_0 16 rfl rfl)
theorem dX2_lose_18 : decode cX2_lose 18 = .ok (.ireturn, 1) := dk_172 (dk_at dksX2_lose_0 18 rfl rfl)
theorem dX2_lose_19 : decode cX2_lose 19 = .ok (.aload_n 0, 1) := dk_42 (dk_at dksX2_lose_0 19 rfl rfl)
theorem dX2_lose_20 : decode cX2_lose 20 = .ok (.iload_n 1, 1) := dk_27 (dk_at dksX2_lose_0 20 rfl rfl)
theorem dX2_lose_21 : decode cX2_lose 21 = .ok (.iload_n 2, 1) := dk_28 (dk_at dksX2_lose_0 21 rfl rfl)
theorem dX2_lose_22 : decode cX2_lose 22 = .ok (.invokevirtual 223, 3) := dk_182 0 223 (dk_at dksX2_lose_1 0 rfl rfl)
theorem dX2_lose_25 : decode cX2_lose 25 = .ok (.ifCond .ne 6, 3) := dk_154 0 6 (dk_at dksX2_lose_1 3 rfl rfl)
theorem dX2_lose_28 : decode cX2_lose 28 = .ok (.bipush (-103), 2) := dk_16 153 (dk_at dksX2_lose_1 6 rfl rfl)
theorem dX2_lose_30 : decode cX2_lose 30 = .ok (.ireturn, 1) := dk_172 (dk_at dksX2_lose_1 8 rfl rfl)
theorem dX2_lose_31 : decode cX2_lose 31 = .ok (.aload_n 0, 1) := dk_42 (dk_at dksX2_lose_1 9 rfl rfl)
theorem dX2_lose_32 : decode cX2_lose 32 = .ok (.getfield 22, 3) := dk_180 0 22 (dk_at dksX2_lose_1 10 rfl rfl)
theorem dX2_lose_35 : decode cX2_lose 35 = .ok (.iconst 3, 1) := dk_6 (dk_at dksX2_lose_1 13 rfl rfl)
theorem dX2_lose_36 : decode cX2_lose 36 = .ok (.iload_n 1, 1) := dk_27 (dk_at dksX2_lose_1 14 rfl rfl)
theorem dX2_lose_37 : decode cX2_lose 37 = .ok (.imul, 1) := dk_104 (dk_at dksX2_lose_1 15 rfl rfl)
theorem dX2_lose_38 : decode cX2_lose 38 = .ok (.iconst 1, 1) := dk_4 (dk_at dksX2_lose_1 16 rfl rfl)
theorem dX2_lose_39 : decode cX2_lose 39 = .ok (.iadd, 1) := dk_96 (dk_at dksX2_lose_1 17 rfl rfl)
theorem dX2_lose_40 : decode cX2_lose 40 = .ok (.dup2, 1) := dk_92 (dk_at dksX2_lose_1 18 rfl rfl)
theorem dX2_lose_41 : decode cX2_lose 41 = .ok (.iaload, 1) := dk_46 (dk_at dksX2_lose_1 19 rfl rfl)
theorem dX2_lose_42 : decode cX2_lose 42 = .ok (.iconst 1, 1) := dk_4 (dk_at dksX2_lose_1 20 rfl rfl)
theorem dX2_lose_43 : decode cX2_lose 43 = .ok (.iload_n 2, 1) := dk_28 (dk_at dksX2_lose_1 21 rfl rfl)
theorem dX2_lose_44 : decode cX2_lose 44 = .ok (.ishl, 1) := dk_120 (dk_at dksX2_lose_1 22 rfl rfl)
theorem dX2_lose_45 : decode cX2_lose 45 = .ok (.isub, 1) := dk_100 (dk_at dksX2_lose_1 23 rfl rfl)
theorem dX2_lose_46 : decode cX2_lose 46 = .ok (.iastore, 1) := dk_79 (dk_at dksX2_lose_2 0 rfl rfl)
theorem dX2_lose_47 : decode cX2_lose 47 = .ok (.aload_n 0, 1) := dk_42 (dk_at dksX2_lose_2 1 rfl rfl)
theorem dX2_lose_48 : decode cX2_lose 48 = .ok (.getfield 22, 3) := dk_180 0 22 (dk_at dksX2_lose_2 2 rfl rfl)
theorem dX2_lose_51 : decode cX2_lose 51 = .ok (.iconst 3, 1) := dk_6 (dk_at dksX2_lose_2 5 rfl rfl)
theorem dX2_lose_52 : decode cX2_lose 52 = .ok (.iload_n 1, 1) := dk_27 (dk_at dksX2_lose_2 6 rfl rfl)
theorem dX2_lose_53 : decode cX2_lose 53 = .ok (.imul, 1) := dk_104 (dk_at dksX2_lose_2 7 rfl rfl)
theorem dX2_lose_54 : decode cX2_lose 54 = .ok (.iconst 1, 1) := dk_4 (dk_at dksX2_lose_2 8 rfl rfl)
theorem dX2_lose_55 : decode cX2_lose 55 = .ok (.iadd, 1) := dk_96 (dk_at dksX2_lose_2 9 rfl rfl)
theorem dX2_lose_56 : decode cX2_lose 56 = .ok (.iaload, 1) := dk_46 (dk_at dksX2_lose_2 10 rfl rfl)
theorem dX2_lose_57 : decode cX2_lose 57 = .ok (.invokestatic 226, 3) := dk_184 0 226 (dk_at dksX2_lose_2 11 rfl rfl)
theorem dX2_lose_60 : decode cX2_lose 60 = .ok (.ireturn, 1) := dk_172 (dk_at dksX2_lose_2 14 rfl rfl)
abbrev cX2_stand : ByteArray := prog_11_method_54_code
def yX2_stand : MethodName := ⟨RX2, "stand", "(II)I"⟩
def dkwX2_stand_1 : List UInt8 := [104, 46, 62, 42, 180, 0, 22, 6, 27, 104, 28, 79, 29, 172]
abbrev dktX2_stand_1 : List UInt8 := dkwX2_stand_1 ++ []
def dkwX2_stand_0 : List UInt8 := [42, 27, 182, 0, 217, 153, 0, 10, 28, 184, 0, 148, 154, 0, 6, 16, 155, 172, 42, 180, 0, 22, 6, 27]
abbrev dktX2_stand_0 : List UInt8 := dkwX2_stand_0 ++ dktX2_stand_1
theorem dksX2_stand_0 : cX2_stand.data.toList.drop 0 = dktX2_stand_0 := by decide +kernel
theorem dksX2_stand_1 : cX2_stand.data.toList.drop 24 = dktX2_stand_1 := dk_seg dksX2_stand_0 24 rfl rfl
theorem dX2_stand_0 : decode cX2_stand 0 = .ok (.aload_n 0, 1) := dk_42 (dk_at dksX2_stand_0 0 rfl rfl)
theorem dX2_stand_1 : decode cX2_stand 1 = .ok (.iload_n 1, 1) := dk_27 (dk_at dksX2_stand_0 1 rfl rfl)
theorem dX2_stand_2 : decode cX2_stand 2 = .ok (.invokevirtual 217, 3) := dk_182 0 217 (dk_at dksX2_stand_0 2 rfl rfl)
theorem dX2_stand_5 : decode cX2_stand 5 = .ok (.ifCond .eq 10, 3) := dk_153 0 10 (dk_at dksX2_stand_0 5 rfl rfl)
theorem dX2_stand_8 : decode cX2_stand 8 = .ok (.iload_n 2, 1) := dk_28 (dk_at dksX2_stand_0 8 rfl rfl)
theorem dX2_stand_9 : decode cX2_stand 9 = .ok (.invokestatic 148, 3) := dk_184 0 148 (dk_at dksX2_stand_0 9 rfl rfl)
theorem dX2_stand_12 : decode cX2_stand 12 = .ok (.ifCond .ne 6, 3) := dk_154 0 6 (dk_at dksX2_stand_0 12 rfl rfl)
theorem dX2_stand_15 : decode cX2_stand 15 = .ok (.bipush (-101), 2) := dk_16 155 (dk_at dksX2_stand_0 15 rfl rfl)
theorem dX2_stand_17 : decode cX2_stand 17 = .ok (.ireturn, 1) := dk_172 (dk_at dksX2_stand_0 17 rfl rfl)
theorem dX2_stand_18 : decode cX2_stand 18 = .ok (.aload_n 0, 1) := dk_42 (dk_at dksX2_stand_0 18 rfl rfl)
theorem dX2_stand_19 : decode cX2_stand 19 = .ok (.getfield 22, 3) := dk_180 0 22 (dk_at dksX2_stand_0 19 rfl rfl)
theorem dX2_stand_22 : decode cX2_stand 22 = .ok (.iconst 3, 1) := dk_6 (dk_at dksX2_stand_0 22 rfl rfl)
theorem dX2_stand_23 : decode cX2_stand 23 = .ok (.iload_n 1, 1) := dk_27 (dk_at dksX2_stand_0 23 rfl rfl)
theorem dX2_stand_24 : decode cX2_stand 24 = .ok (.imul, 1) := dk_104 (dk_at dksX2_stand_1 0 rfl rfl)
theorem dX2_stand_25 : decode cX2_stand 25 = .ok (.iaload, 1) := dk_46 (dk_at dksX2_stand_1 1 rfl rfl)
theorem dX2_stand_26 : decode cX2_stand 26 = .ok (.istore_n 3, 1) := dk_62 (dk_at dksX2_stand_1 2 rfl rfl)
theorem dX2_stand_27 : decode cX2_stand 27 = .ok (.aload_n 0, 1) := dk_42 (dk_at dksX2_stand_1 3 rfl rfl)
theorem dX2_stand_28 : decode cX2_stand 28 = .ok (.getfield 22, 3) := dk_180 0 22 (dk_at dksX2_stand_1 4 rfl rfl)
theorem dX2_stand_31 : decode cX2_stand 31 = .ok (.iconst 3, 1) := dk_6 (dk_at dksX2_stand_1 7 rfl rfl)
theorem dX2_stand_32 : decode cX2_stand 32 = .ok (.iload_n 1, 1) := dk_27 (dk_at dksX2_stand_1 8 rfl rfl)
theorem dX2_stand_33 : decode cX2_stand 33 = .ok (.imul, 1) := dk_104 (dk_at dksX2_stand_1 9 rfl rfl)
theorem dX2_stand_34 : decode cX2_stand 34 = .ok (.iload_n 2, 1) := dk_28 (dk_at dksX2_stand_1 10 rfl rfl)
theorem dX2_stand_35 : decode cX2_stand 35 = .ok (.iastore, 1) := dk_79 (dk_at dksX2_stand_1 11 rfl rfl)
theorem dX2_stand_36 : decode cX2_stand 36 = .ok (.iload_n 3, 1) := dk_29 (dk_at dksX2_stand_1 12 rfl rfl)
theorem dX2_stand_37 : decode cX2_stand 37 = .ok (.ireturn, 1) := dk_172 (dk_at dksX2_stand_1 13 rfl rfl)
abbrev cX2_ride : ByteArray := prog_11_method_56_code
def yX2_ride : MethodName := ⟨RX2, "ride", "(III)I"⟩
def dkwX2_ride_5 : List UInt8 := [92, 46, 4, 96, 79, 42, 180, 0, 16, 8, 28, 104, 5, 96, 92, 46, 21, 5, 96, 79, 21, 5, 172]
abbrev dktX2_ride_5 : List UInt8 := dkwX2_ride_5 ++ []
def dkwX2_ride_4 : List UInt8 := [79, 42, 180, 0, 22, 6, 27, 104, 5, 96, 92, 46, 4, 96, 79, 42, 180, 0, 16, 8, 28, 104, 4, 96]
abbrev dktX2_ride_4 : List UInt8 := dkwX2_ride_4 ++ dktX2_ride_5
def dkwX2_ride_3 : List UInt8 := [104, 46, 46, 17, 3, 232, 108, 54, 5, 42, 28, 21, 4, 182, 0, 229, 42, 180, 0, 22, 6, 27, 104, 29]
abbrev dktX2_ride_3 : List UInt8 := dkwX2_ride_3 ++ dktX2_ride_4
def dkwX2_ride_2 : List UInt8 := [182, 0, 142, 54, 4, 21, 4, 2, 160, 0, 6, 16, 153, 172, 42, 180, 0, 25, 42, 180, 0, 22, 6, 27]
abbrev dktX2_ride_2 : List UInt8 := dkwX2_ride_2 ++ dktX2_ride_3
def dkwX2_ride_1 : List UInt8 := [16, 155, 172, 42, 28, 42, 180, 0, 22, 6, 27, 104, 46, 29, 42, 180, 0, 22, 6, 27, 104, 4, 96, 46]
abbrev dktX2_ride_1 : List UInt8 := dkwX2_ride_1 ++ dktX2_ride_2
def dkwX2_ride_0 : List UInt8 := [42, 27, 182, 0, 217, 153, 0, 18, 42, 28, 182, 0, 145, 153, 0, 10, 29, 184, 0, 148, 154, 0, 6]
abbrev dktX2_ride_0 : List UInt8 := dkwX2_ride_0 ++ dktX2_ride_1
theorem dksX2_ride_0 : cX2_ride.data.toList.drop 0 = dktX2_ride_0 := by decide +kernel
theorem dksX2_ride_1 : cX2_ride.data.toList.drop 23 = dktX2_ride_1 := dk_seg dksX2_ride_0 23 rfl rfl
theorem dksX2_ride_2 : cX2_ride.data.toList.drop 47 = dktX2_ride_2 := dk_seg dksX2_ride_1 24 rfl rfl
theorem dksX2_ride_3 : cX2_ride.data.toList.drop 71 = dktX2_ride_3 := dk_seg dksX2_ride_2 24 rfl rfl
theorem dksX2_ride_4 : cX2_ride.data.toList.drop 95 = dktX2_ride_4 := dk_seg dksX2_ride_3 24 rfl rfl
theorem dksX2_ride_5 : cX2_ride.data.toList.drop 119 = dktX2_ride_5 := dk_seg dksX2_ride_4 24 rfl rfl
theorem dX2_ride_0 : decode cX2_ride 0 = .ok (.aload_n 0, 1) := dk_42 (dk_at dksX2_ride_0 0 rfl rfl)
theorem dX2_ride_1 : decode cX2_ride 1 = .ok (.iload_n 1, 1) := dk_27 (dk_at dksX2_ride_0 1 rfl rfl)
theorem dX2_ride_2 : decode cX2_ride 2 = .ok (.invokevirtual 217, 3) := dk_182 0 217 (dk_at dksX2_ride_0 2 rfl rfl)
theorem dX2_ride_5 : decode cX2_ride 5 = .ok (.ifCond .eq 18, 3) := dk_153 0 18 (dk_at dksX2_ride_0 5 rfl rfl)
theorem dX2_ride_8 : decode cX2_ride 8 = .ok (.aload_n 0, 1) := dk_42 (dk_at dksX2_ride_0 8 rfl rfl)
theorem dX2_ride_9 : decode cX2_ride 9 = .ok (.iload_n 2, 1) := dk_28 (dk_at dksX2_ride_0 9 rfl rfl)
theorem dX2_ride_10 : decode cX2_ride 10 = .ok (.invokevirtual 145, 3) := dk_182 0 145 (dk_at dksX2_ride_0 10 rfl rfl)
theorem dX2_ride_13 : decode cX2_ride 13 = .ok (.ifCond .eq 10, 3) := dk_153 0 10 (dk_at dksX2_ride_0 13 rfl rfl)
theorem dX2_ride_16 : decode cX2_ride 16 = .ok (.iload_n 3, 1) := dk_29 (dk_at dksX2_ride_0 16 rfl rfl)
theorem dX2_ride_17 : decode cX2_ride 17 = .ok (.invokestatic 148, 3) := dk_184 0 148 (dk_at dksX2_ride_0 17 rfl rfl)
theorem dX2_ride_20 : decode cX2_ride 20 = .ok (.ifCond .ne 6, 3) := dk_154 0 6 (dk_at dksX2_ride_0 20 rfl rfl)
theorem dX2_ride_23 : decode cX2_ride 23 = .ok (.bipush (-101), 2) := dk_16 155 (dk_at dksX2_ride_1 0 rfl rfl)
theorem dX2_ride_25 : decode cX2_ride 25 = .ok (.ireturn, 1) := dk_172 (dk_at dksX2_ride_1 2 rfl rfl)
theorem dX2_ride_26 : decode cX2_ride 26 = .ok (.aload_n 0, 1) := dk_42 (dk_at dksX2_ride_1 3 rfl rfl)
theorem dX2_ride_27 : decode cX2_ride 27 = .ok (.iload_n 2, 1) := dk_28 (dk_at dksX2_ride_1 4 rfl rfl)
theorem dX2_ride_28 : decode cX2_ride 28 = .ok (.aload_n 0, 1) := dk_42 (dk_at dksX2_ride_1 5 rfl rfl)
theorem dX2_ride_29 : decode cX2_ride 29 = .ok (.getfield 22, 3) := dk_180 0 22 (dk_at dksX2_ride_1 6 rfl rfl)
theorem dX2_ride_32 : decode cX2_ride 32 = .ok (.iconst 3, 1) := dk_6 (dk_at dksX2_ride_1 9 rfl rfl)
theorem dX2_ride_33 : decode cX2_ride 33 = .ok (.iload_n 1, 1) := dk_27 (dk_at dksX2_ride_1 10 rfl rfl)
theorem dX2_ride_34 : decode cX2_ride 34 = .ok (.imul, 1) := dk_104 (dk_at dksX2_ride_1 11 rfl rfl)
theorem dX2_ride_35 : decode cX2_ride 35 = .ok (.iaload, 1) := dk_46 (dk_at dksX2_ride_1 12 rfl rfl)
theorem dX2_ride_36 : decode cX2_ride 36 = .ok (.iload_n 3, 1) := dk_29 (dk_at dksX2_ride_1 13 rfl rfl)
theorem dX2_ride_37 : decode cX2_ride 37 = .ok (.aload_n 0, 1) := dk_42 (dk_at dksX2_ride_1 14 rfl rfl)
theorem dX2_ride_38 : decode cX2_ride 38 = .ok (.getfield 22, 3) := dk_180 0 22 (dk_at dksX2_ride_1 15 rfl rfl)
theorem dX2_ride_41 : decode cX2_ride 41 = .ok (.iconst 3, 1) := dk_6 (dk_at dksX2_ride_1 18 rfl rfl)
theorem dX2_ride_42 : decode cX2_ride 42 = .ok (.iload_n 1, 1) := dk_27 (dk_at dksX2_ride_1 19 rfl rfl)
theorem dX2_ride_43 : decode cX2_ride 43 = .ok (.imul, 1) := dk_104 (dk_at dksX2_ride_1 20 rfl rfl)
theorem dX2_ride_44 : decode cX2_ride 44 = .ok (.iconst 1, 1) := dk_4 (dk_at dksX2_ride_1 21 rfl rfl)
theorem dX2_ride_45 : decode cX2_ride 45 = .ok (.iadd, 1) := dk_96 (dk_at dksX2_ride_1 22 rfl rfl)
theorem dX2_ride_46 : decode cX2_ride 46 = .ok (.iaload, 1) := dk_46 (dk_at dksX2_ride_1 23 rfl rfl)
theorem dX2_ride_47 : decode cX2_ride 47 = .ok (.invokevirtual 142, 3) := dk_182 0 142 (dk_at dksX2_ride_2 0 rfl rfl)
theorem dX2_ride_50 : decode cX2_ride 50 = .ok (.istore 4, 2) := dk_54 4 (dk_at dksX2_ride_2 3 rfl rfl)
theorem dX2_ride_52 : decode cX2_ride 52 = .ok (.iload 4, 2) := dk_21 4 (dk_at dksX2_ride_2 5 rfl rfl)
theorem dX2_ride_54 : decode cX2_ride 54 = .ok (.iconst (-1), 1) := dk_2 (dk_at dksX2_ride_2 7 rfl rfl)
theorem dX2_ride_55 : decode cX2_ride 55 = .ok (.if_icmp .ne 6, 3) := dk_160 0 6 (dk_at dksX2_ride_2 8 rfl rfl)
theorem dX2_ride_58 : decode cX2_ride 58 = .ok (.bipush (-103), 2) := dk_16 153 (dk_at dksX2_ride_2 11 rfl rfl)
theorem dX2_ride_60 : decode cX2_ride 60 = .ok (.ireturn, 1) := dk_172 (dk_at dksX2_ride_2 13 rfl rfl)
theorem dX2_ride_61 : decode cX2_ride 61 = .ok (.aload_n 0, 1) := dk_42 (dk_at dksX2_ride_2 14 rfl rfl)
theorem dX2_ride_62 : decode cX2_ride 62 = .ok (.getfield 25, 3) := dk_180 0 25 (dk_at dksX2_ride_2 15 rfl rfl)
theorem dX2_ride_65 : decode cX2_ride 65 = .ok (.aload_n 0, 1) := dk_42 (dk_at dksX2_ride_2 18 rfl rfl)
theorem dX2_ride_66 : decode cX2_ride 66 = .ok (.getfield 22, 3) := dk_180 0 22 (dk_at dksX2_ride_2 19 rfl rfl)
theorem dX2_ride_69 : decode cX2_ride 69 = .ok (.iconst 3, 1) := dk_6 (dk_at dksX2_ride_2 22 rfl rfl)
theorem dX2_ride_70 : decode cX2_ride 70 = .ok (.iload_n 1, 1) := dk_27 (dk_at dksX2_ride_2 23 rfl rfl)
theorem dX2_ride_71 : decode cX2_ride 71 = .ok (.imul, 1) := dk_104 (dk_at dksX2_ride_3 0 rfl rfl)
theorem dX2_ride_72 : decode cX2_ride 72 = .ok (.iaload, 1) := dk_46 (dk_at dksX2_ride_3 1 rfl rfl)
theorem dX2_ride_73 : decode cX2_ride 73 = .ok (.iaload, 1) := dk_46 (dk_at dksX2_ride_3 2 rfl rfl)
theorem dX2_ride_74 : decode cX2_ride 74 = .ok (.sipush 1000, 3) := dk_17 3 232 (dk_at dksX2_ride_3 3 rfl rfl)
theorem dX2_ride_77 : decode cX2_ride 77 = .ok (.idiv, 1) := dk_108 (dk_at dksX2_ride_3 6 rfl rfl)
theorem dX2_ride_78 : decode cX2_ride 78 = .ok (.istore 5, 2) := dk_54 5 (dk_at dksX2_ride_3 7 rfl rfl)
theorem dX2_ride_80 : decode cX2_ride 80 = .ok (.aload_n 0, 1) := dk_42 (dk_at dksX2_ride_3 9 rfl rfl)
theorem dX2_ride_81 : decode cX2_ride 81 = .ok (.iload_n 2, 1) := dk_28 (dk_at dksX2_ride_3 10 rfl rfl)
theorem dX2_ride_82 : decode cX2_ride 82 = .ok (.iload 4, 2) := dk_21 4 (dk_at dksX2_ride_3 11 rfl rfl)
theorem dX2_ride_84 : decode cX2_ride 84 = .ok (.invokevirtual 229, 3) := dk_182 0 229 (dk_at dksX2_ride_3 13 rfl rfl)
theorem dX2_ride_87 : decode cX2_ride 87 = .ok (.aload_n 0, 1) := dk_42 (dk_at dksX2_ride_3 16 rfl rfl)
theorem dX2_ride_88 : decode cX2_ride 88 = .ok (.getfield 22, 3) := dk_180 0 22 (dk_at dksX2_ride_3 17 rfl rfl)
theorem dX2_ride_91 : decode cX2_ride 91 = .ok (.iconst 3, 1) := dk_6 (dk_at dksX2_ride_3 20 rfl rfl)
theorem dX2_ride_92 : decode cX2_ride 92 = .ok (.iload_n 1, 1) := dk_27 (dk_at dksX2_ride_3 21 rfl rfl)
theorem dX2_ride_93 : decode cX2_ride 93 = .ok (.imul, 1) := dk_104 (dk_at dksX2_ride_3 22 rfl rfl)
theorem dX2_ride_94 : decode cX2_ride 94 = .ok (.iload_n 3, 1) := dk_29 (dk_at dksX2_ride_3 23 rfl rfl)
theorem dX2_ride_95 : decode cX2_ride 95 = .ok (.iastore, 1) := dk_79 (dk_at dksX2_ride_4 0 rfl rfl)
theorem dX2_ride_96 : decode cX2_ride 96 = .ok (.aload_n 0, 1) := dk_42 (dk_at dksX2_ride_4 1 rfl rfl)
theorem dX2_ride_97 : decode cX2_ride 97 = .ok (.getfield 22, 3) := dk_180 0 22 (dk_at dksX2_ride_4 2 rfl rfl)
theorem dX2_ride_100 : decode cX2_ride 100 = .ok (.iconst 3, 1) := dk_6 (dk_at dksX2_ride_4 5 rfl rfl)
theorem dX2_ride_101 : decode cX2_ride 101 = .ok (.iload_n 1, 1) := dk_27 (dk_at dksX2_ride_4 6 rfl rfl)
theorem dX2_ride_102 : decode cX2_ride 102 = .ok (.imul, 1) := dk_104 (dk_at dksX2_ride_4 7 rfl rfl)
theorem dX2_ride_103 : decode cX2_ride 103 = .ok (.iconst 2, 1) := dk_5 (dk_at dksX2_ride_4 8 rfl rfl)
theorem dX2_ride_104 : decode cX2_ride 104 = .ok (.iadd, 1) := dk_96 (dk_at dksX2_ride_4 9 rfl rfl)
theorem dX2_ride_105 : decode cX2_ride 105 = .ok (.dup2, 1) := dk_92 (dk_at dksX2_ride_4 10 rfl rfl)
theorem dX2_ride_106 : decode cX2_ride 106 = .ok (.iaload, 1) := dk_46 (dk_at dksX2_ride_4 11 rfl rfl)
theorem dX2_ride_107 : decode cX2_ride 107 = .ok (.iconst 1, 1) := dk_4 (dk_at dksX2_ride_4 12 rfl rfl)
theorem dX2_ride_108 : decode cX2_ride 108 = .ok (.iadd, 1) := dk_96 (dk_at dksX2_ride_4 13 rfl rfl)
theorem dX2_ride_109 : decode cX2_ride 109 = .ok (.iastore, 1) := dk_79 (dk_at dksX2_ride_4 14 rfl rfl)
theorem dX2_ride_110 : decode cX2_ride 110 = .ok (.aload_n 0, 1) := dk_42 (dk_at dksX2_ride_4 15 rfl rfl)
theorem dX2_ride_111 : decode cX2_ride 111 = .ok (.getfield 16, 3) := dk_180 0 16 (dk_at dksX2_ride_4 16 rfl rfl)
theorem dX2_ride_114 : decode cX2_ride 114 = .ok (.iconst 5, 1) := dk_8 (dk_at dksX2_ride_4 19 rfl rfl)
theorem dX2_ride_115 : decode cX2_ride 115 = .ok (.iload_n 2, 1) := dk_28 (dk_at dksX2_ride_4 20 rfl rfl)
theorem dX2_ride_116 : decode cX2_ride 116 = .ok (.imul, 1) := dk_104 (dk_at dksX2_ride_4 21 rfl rfl)
theorem dX2_ride_117 : decode cX2_ride 117 = .ok (.iconst 1, 1) := dk_4 (dk_at dksX2_ride_4 22 rfl rfl)
theorem dX2_ride_118 : decode cX2_ride 118 = .ok (.iadd, 1) := dk_96 (dk_at dksX2_ride_4 23 rfl rfl)
theorem dX2_ride_119 : decode cX2_ride 119 = .ok (.dup2, 1) := dk_92 (dk_at dksX2_ride_5 0 rfl rfl)
theorem dX2_ride_120 : decode cX2_ride 120 = .ok (.iaload, 1) := dk_46 (dk_at dksX2_ride_5 1 rfl rfl)
theorem dX2_ride_121 : decode cX2_ride 121 = .ok (.iconst 1, 1) := dk_4 (dk_at dksX2_ride_5 2 rfl rfl)
theorem dX2_ride_122 : decode cX2_ride 122 = .ok (.iadd, 1) := dk_96 (dk_at dksX2_ride_5 3 rfl rfl)
theorem dX2_ride_123 : decode cX2_ride 123 = .ok (.iastore, 1) := dk_79 (dk_at dksX2_ride_5 4 rfl rfl)
theorem dX2_ride_124 : decode cX2_ride 124 = .ok (.aload_n 0, 1) := dk_42 (dk_at dksX2_ride_5 5 rfl rfl)
theorem dX2_ride_125 : decode cX2_ride 125 = .ok (.getfield 16, 3) := dk_180 0 16 (dk_at dksX2_ride_5 6 rfl rfl)
theorem dX2_ride_128 : decode cX2_ride 128 = .ok (.iconst 5, 1) := dk_8 (dk_at dksX2_ride_5 9 rfl rfl)
theorem dX2_ride_129 : decode cX2_ride 129 = .ok (.iload_n 2, 1) := dk_28 (dk_at dksX2_ride_5 10 rfl rfl)
theorem dX2_ride_130 : decode cX2_ride 130 = .ok (.imul, 1) := dk_104 (dk_at dksX2_ride_5 11 rfl rfl)
theorem dX2_ride_131 : decode cX2_ride 131 = .ok (.iconst 2, 1) := dk_5 (dk_at dksX2_ride_5 12 rfl rfl)
theorem dX2_ride_132 : decode cX2_ride 132 = .ok (.iadd, 1) := dk_96 (dk_at dksX2_ride_5 13 rfl rfl)
theorem dX2_ride_133 : decode cX2_ride 133 = .ok (.dup2, 1) := dk_92 (dk_at dksX2_ride_5 14 rfl rfl)
theorem dX2_ride_134 : decode cX2_ride 134 = .ok (.iaload, 1) := dk_46 (dk_at dksX2_ride_5 15 rfl rfl)
theorem dX2_ride_135 : decode cX2_ride 135 = .ok (.iload 5, 2) := dk_21 5 (dk_at dksX2_ride_5 16 rfl rfl)
theorem dX2_ride_137 : decode cX2_ride 137 = .ok (.iadd, 1) := dk_96 (dk_at dksX2_ride_5 18 rfl rfl)
theorem dX2_ride_138 : decode cX2_ride 138 = .ok (.iastore, 1) := dk_79 (dk_at dksX2_ride_5 19 rfl rfl)
theorem dX2_ride_139 : decode cX2_ride 139 = .ok (.iload 5, 2) := dk_21 5 (dk_at dksX2_ride_5 20 rfl rfl)
theorem dX2_ride_141 : decode cX2_ride 141 = .ok (.ireturn, 1) := dk_172 (dk_at dksX2_ride_5 22 rfl rfl)
abbrev cX2_takeThrough : ByteArray := prog_11_method_55_code
def yX2_takeThrough : MethodName := ⟨RX2, "takeThrough", "(II)V"⟩
def dkwX2_takeThrough_1 : List UInt8 := [4, 96, 79, 132, 3, 1, 167, 255, 228, 177]
abbrev dktX2_takeThrough_1 : List UInt8 := dkwX2_takeThrough_1 ++ []
def dkwX2_takeThrough_0 : List UInt8 := [3, 62, 29, 28, 162, 0, 29, 42, 180, 0, 19, 16, 9, 27, 104, 42, 180, 0, 28, 29, 46, 96, 92, 46]
abbrev dktX2_takeThrough_0 : List UInt8 := dkwX2_takeThrough_0 ++ dktX2_takeThrough_1
theorem dksX2_takeThrough_0 : cX2_takeThrough.data.toList.drop 0 = dktX2_takeThrough_0 := by decide +kernel
theorem dksX2_takeThrough_1 : cX2_takeThrough.data.toList.drop 24 = dktX2_takeThrough_1 := dk_seg dksX2_takeThrough_0 24 rfl rfl
theorem dX2_takeThrough_0 : decode cX2_takeThrough 0 = .ok (.iconst 0, 1) := dk_3 (dk_at dksX2_takeThrough_0 0 rfl rfl)
theorem dX2_takeThrough_1 : decode cX2_takeThrough 1 = .ok (.istore_n 3, 1) := dk_62 (dk_at dksX2_takeThrough_0 1 rfl rfl)
theorem dX2_takeThrough_2 : decode cX2_takeThrough 2 = .ok (.iload_n 3, 1) := dk_29 (dk_at dksX2_takeThrough_0 2 rfl rfl)
theorem dX2_takeThrough_3 : decode cX2_takeThrough 3 = .ok (.iload_n 2, 1) := dk_28 (dk_at dksX2_takeThrough_0 3 rfl rfl)
theorem dX2_takeThrough_4 : decode cX2_takeThrough 4 = .ok (.if_icmp .ge 29, 3) := dk_162 0 29 (dk_at dksX2_takeThrough_0 4 rfl rfl)
theorem dX2_takeThrough_7 : decode cX2_takeThrough 7 = .ok (.aload_n 0, 1) := dk_42 (dk_at dksX2_takeThrough_0 7 rfl rfl)
theorem dX2_takeThrough_8 : decode cX2_takeThrough 8 = .ok (.getfield 19, 3) := dk_180 0 19 (dk_at dksX2_takeThrough_0 8 rfl rfl)
theorem dX2_takeThrough_11 : decode cX2_takeThrough 11 = .ok (.bipush 9, 2) := dk_16 9 (dk_at dksX2_takeThrough_0 11 rfl rfl)
theorem dX2_takeThrough_13 : decode cX2_takeThrough 13 = .ok (.iload_n 1, 1) := dk_27 (dk_at dksX2_takeThrough_0 13 rfl rfl)
theorem dX2_takeThrough_14 : decode cX2_takeThrough 14 = .ok (.imul, 1) := dk_104 (dk_at dksX2_takeThrough_0 14 rfl rfl)
theorem dX2_takeThrough_15 : decode cX2_takeThrough 15 = .ok (.aload_n 0, 1) := dk_42 (dk_at dksX2_takeThrough_0 15 rfl rfl)
theorem dX2_takeThrough_16 : decode cX2_takeThrough 16 = .ok (.getfield 28, 3) := dk_180 0 28 (dk_at dksX2_takeThrough_0 16 rfl rfl)
theorem dX2_takeThrough_19 : decode cX2_takeThrough 19 = .ok (.iload_n 3, 1) := dk_29 (dk_at dksX2_takeThrough_0 19 rfl rfl)
theorem dX2_takeThrough_20 : decode cX2_takeThrough 20 = .ok (.iaload, 1) := dk_46 (dk_at dksX2_takeThrough_0 20 rfl rfl)
theorem dX2_takeThrough_21 : decode cX2_takeThrough 21 = .ok (.iadd, 1) := dk_96 (dk_at dksX2_takeThrough_0 21 rfl rfl)
theorem dX2_takeThrough_22 : decode cX2_takeThrough 22 = .ok (.dup2, 1) := dk_92 (dk_at dksX2_takeThrough_0 22 rfl rfl)
theorem dX2_takeThrough_23 : decode cX2_takeThrough 23 = .ok (.iaload, 1) := dk_46 (dk_at dksX2_takeThrough_0 23 rfl rfl)
theorem dX2_takeThrough_24 : decode cX2_takeThrough 24 = .ok (.iconst 1, 1) := dk_4 (dk_at dksX2_takeThrough_1 0 rfl rfl)
theorem dX2_takeThrough_25 : decode cX2_takeThrough 25 = .ok (.iadd, 1) := dk_96 (dk_at dksX2_takeThrough_1 1 rfl rfl)
theorem dX2_takeThrough_26 : decode cX2_takeThrough 26 = .ok (.iastore, 1) := dk_79 (dk_at dksX2_takeThrough_1 2 rfl rfl)
theorem dX2_takeThrough_27 : decode cX2_takeThrough 27 = .ok (.iinc 3 1, 3) := dk_132 3 1 (dk_at dksX2_takeThrough_1 3 rfl rfl)
theorem dX2_takeThrough_30 : decode cX2_takeThrough 30 = .ok (.goto (-28), 3) := dk_167 255 228 (dk_at dksX2_takeThrough_1 6 rfl rfl)
theorem dX2_takeThrough_33 : decode cX2_takeThrough 33 = .ok (.return_, 1) := dk_177 (dk_at dksX2_takeThrough_1 9 rfl rfl)
abbrev cX2_waits : ByteArray := prog_11_method_57_code
def yX2_waits : MethodName := ⟨RX2, "waits", "(III)I"⟩
def dkwX2_waits_3 : List UInt8 := [104, 7, 96, 28, 2, 160, 0, 7, 2, 167, 0, 4, 29, 79, 21, 4, 172]
abbrev dktX2_waits_3 : List UInt8 := dkwX2_waits_3 ++ []
def dkwX2_waits_2 : List UInt8 := [27, 104, 6, 96, 46, 54, 4, 42, 180, 0, 16, 8, 27, 104, 6, 96, 28, 79, 42, 180, 0, 16, 8, 27]
abbrev dktX2_waits_2 : List UInt8 := dkwX2_waits_2 ++ dktX2_waits_3
def dkwX2_waits_1 : List UInt8 := [154, 0, 6, 16, 155, 172, 28, 2, 159, 0, 11, 28, 29, 160, 0, 6, 16, 153, 172, 42, 180, 0, 16, 8]
abbrev dktX2_waits_1 : List UInt8 := dkwX2_waits_1 ++ dktX2_waits_2
def dkwX2_waits_0 : List UInt8 := [42, 27, 182, 0, 145, 153, 0, 22, 28, 2, 159, 0, 20, 28, 184, 0, 148, 153, 0, 10, 29, 184, 0, 148]
abbrev dktX2_waits_0 : List UInt8 := dkwX2_waits_0 ++ dktX2_waits_1
theorem dksX2_waits_0 : cX2_waits.data.toList.drop 0 = dktX2_waits_0 := by decide +kernel
theorem dksX2_waits_1 : cX2_waits.data.toList.drop 24 = dktX2_waits_1 := dk_seg dksX2_waits_0 24 rfl rfl
theorem dksX2_waits_2 : cX2_waits.data.toList.drop 48 = dktX2_waits_2 := dk_seg dksX2_waits_1 24 rfl rfl
theorem dksX2_waits_3 : cX2_waits.data.toList.drop 72 = dktX2_waits_3 := dk_seg dksX2_waits_2 24 rfl rfl
theorem dX2_waits_0 : decode cX2_waits 0 = .ok (.aload_n 0, 1) := dk_42 (dk_at dksX2_waits_0 0 rfl rfl)
theorem dX2_waits_1 : decode cX2_waits 1 = .ok (.iload_n 1, 1) := dk_27 (dk_at dksX2_waits_0 1 rfl rfl)
theorem dX2_waits_2 : decode cX2_waits 2 = .ok (.invokevirtual 145, 3) := dk_182 0 145 (dk_at dksX2_waits_0 2 rfl rfl)
theorem dX2_waits_5 : decode cX2_waits 5 = .ok (.ifCond .eq 22, 3) := dk_153 0 22 (dk_at dksX2_waits_0 5 rfl rfl)
theorem dX2_waits_8 : decode cX2_waits 8 = .ok (.iload_n 2, 1) := dk_28 (dk_at dksX2_waits_0 8 rfl rfl)
theorem dX2_waits_9 : decode cX2_waits 9 = .ok (.iconst (-1), 1) := dk_2 (dk_at dksX2_waits_0 9 rfl rfl)
theorem dX2_waits_10 : decode cX2_waits 10 = .ok (.if_icmp .eq 20, 3) := dk_159 0 20 (dk_at dksX2_waits_0 10 rfl rfl)
theorem dX2_waits_13 : decode cX2_waits 13 = .ok (.iload_n 2, 1) := dk_28 (dk_at dksX2_waits_0 13 rfl rfl)
theorem dX2_waits_14 : decode cX2_waits 14 = .ok (.invokestatic 148, 3) := dk_184 0 148 (dk_at dksX2_waits_0 14 rfl rfl)
theorem dX2_waits_17 : decode cX2_waits 17 = .ok (.ifCond .eq 10, 3) := dk_153 0 10 (dk_at dksX2_waits_0 17 rfl rfl)
theorem dX2_waits_20 : decode cX2_waits 20 = .ok (.iload_n 3, 1) := dk_29 (dk_at dksX2_waits_0 20 rfl rfl)
theorem dX2_waits_21 : decode cX2_waits 21 = .ok (.invokestatic 148, 3) := dk_184 0 148 (dk_at dksX2_waits_0 21 rfl rfl)
theorem dX2_waits_24 : decode cX2_waits 24 = .ok (.ifCond .ne 6, 3) := dk_154 0 6 (dk_at dksX2_waits_1 0 rfl rfl)
theorem dX2_waits_27 : decode cX2_waits 27 = .ok (.bipush (-101), 2) := dk_16 155 (dk_at dksX2_waits_1 3 rfl rfl)
theorem dX2_waits_29 : decode cX2_waits 29 = .ok (.ireturn, 1) := dk_172 (dk_at dksX2_waits_1 5 rfl rfl)
theorem dX2_waits_30 : decode cX2_waits 30 = .ok (.iload_n 2, 1) := dk_28 (dk_at dksX2_waits_1 6 rfl rfl)
theorem dX2_waits_31 : decode cX2_waits 31 = .ok (.iconst (-1), 1) := dk_2 (dk_at dksX2_waits_1 7 rfl rfl)
theorem dX2_waits_32 : decode cX2_waits 32 = .ok (.if_icmp .eq 11, 3) := dk_159 0 11 (dk_at dksX2_waits_1 8 rfl rfl)
theorem dX2_waits_35 : decode cX2_waits 35 = .ok (.iload_n 2, 1) := dk_28 (dk_at dksX2_waits_1 11 rfl rfl)
theorem dX2_waits_36 : decode cX2_waits 36 = .ok (.iload_n 3, 1) := dk_29 (dk_at dksX2_waits_1 12 rfl rfl)
theorem dX2_waits_37 : decode cX2_waits 37 = .ok (.if_icmp .ne 6, 3) := dk_160 0 6 (dk_at dksX2_waits_1 13 rfl rfl)
theorem dX2_waits_40 : decode cX2_waits 40 = .ok (.bipush (-103), 2) := dk_16 153 (dk_at dksX2_waits_1 16 rfl rfl)
theorem dX2_waits_42 : decode cX2_waits 42 = .ok (.ireturn, 1) := dk_172 (dk_at dksX2_waits_1 18 rfl rfl)
theorem dX2_waits_43 : decode cX2_waits 43 = .ok (.aload_n 0, 1) := dk_42 (dk_at dksX2_waits_1 19 rfl rfl)
theorem dX2_waits_44 : decode cX2_waits 44 = .ok (.getfield 16, 3) := dk_180 0 16 (dk_at dksX2_waits_1 20 rfl rfl)
theorem dX2_waits_47 : decode cX2_waits 47 = .ok (.iconst 5, 1) := dk_8 (dk_at dksX2_waits_1 23 rfl rfl)
theorem dX2_waits_48 : decode cX2_waits 48 = .ok (.iload_n 1, 1) := dk_27 (dk_at dksX2_waits_2 0 rfl rfl)
theorem dX2_waits_49 : decode cX2_waits 49 = .ok (.imul, 1) := dk_104 (dk_at dksX2_waits_2 1 rfl rfl)
theorem dX2_waits_50 : decode cX2_waits 50 = .ok (.iconst 3, 1) := dk_6 (dk_at dksX2_waits_2 2 rfl rfl)
theorem dX2_waits_51 : decode cX2_waits 51 = .ok (.iadd, 1) := dk_96 (dk_at dksX2_waits_2 3 rfl rfl)
theorem dX2_waits_52 : decode cX2_waits 52 = .ok (.iaload, 1) := dk_46 (dk_at dksX2_waits_2 4 rfl rfl)
theorem dX2_waits_53 : decode cX2_waits 53 = .ok (.istore 4, 2) := dk_54 4 (dk_at dksX2_waits_2 5 rfl rfl)
theorem dX2_waits_55 : decode cX2_waits 55 = .ok (.aload_n 0, 1) := dk_42 (dk_at dksX2_waits_2 7 rfl rfl)
theorem dX2_waits_56 : decode cX2_waits 56 = .ok (.getfield 16, 3) := dk_180 0 16 (dk_at dksX2_waits_2 8 rfl rfl)
theorem dX2_waits_59 : decode cX2_waits 59 = .ok (.iconst 5, 1) := dk_8 (dk_at dksX2_waits_2 11 rfl rfl)
theorem dX2_waits_60 : decode cX2_waits 60 = .ok (.iload_n 1, 1) := dk_27 (dk_at dksX2_waits_2 12 rfl rfl)
theorem dX2_waits_61 : decode cX2_waits 61 = .ok (.imul, 1) := dk_104 (dk_at dksX2_waits_2 13 rfl rfl)
theorem dX2_waits_62 : decode cX2_waits 62 = .ok (.iconst 3, 1) := dk_6 (dk_at dksX2_waits_2 14 rfl rfl)
theorem dX2_waits_63 : decode cX2_waits 63 = .ok (.iadd, 1) := dk_96 (dk_at dksX2_waits_2 15 rfl rfl)
theorem dX2_waits_64 : decode cX2_waits 64 = .ok (.iload_n 2, 1) := dk_28 (dk_at dksX2_waits_2 16 rfl rfl)
theorem dX2_waits_65 : decode cX2_waits 65 = .ok (.iastore, 1) := dk_79 (dk_at dksX2_waits_2 17 rfl rfl)
theorem dX2_waits_66 : decode cX2_waits 66 = .ok (.aload_n 0, 1) := dk_42 (dk_at dksX2_waits_2 18 rfl rfl)
theorem dX2_waits_67 : decode cX2_waits 67 = .ok (.getfield 16, 3) := dk_180 0 16 (dk_at dksX2_waits_2 19 rfl rfl)
theorem dX2_waits_70 : decode cX2_waits 70 = .ok (.iconst 5, 1) := dk_8 (dk_at dksX2_waits_2 22 rfl rfl)
theorem dX2_waits_71 : decode cX2_waits 71 = .ok (.iload_n 1, 1) := dk_27 (dk_at dksX2_waits_2 23 rfl rfl)
theorem dX2_waits_72 : decode cX2_waits 72 = .ok (.imul, 1) := dk_104 (dk_at dksX2_waits_3 0 rfl rfl)
theorem dX2_waits_73 : decode cX2_waits 73 = .ok (.iconst 4, 1) := dk_7 (dk_at dksX2_waits_3 1 rfl rfl)
theorem dX2_waits_74 : decode cX2_waits 74 = .ok (.iadd, 1) := dk_96 (dk_at dksX2_waits_3 2 rfl rfl)
theorem dX2_waits_75 : decode cX2_waits 75 = .ok (.iload_n 2, 1) := dk_28 (dk_at dksX2_waits_3 3 rfl rfl)
theorem dX2_waits_76 : decode cX2_waits 76 = .ok (.iconst (-1), 1) := dk_2 (dk_at dksX2_waits_3 4 rfl rfl)
theorem dX2_waits_77 : decode cX2_waits 77 = .ok (.if_icmp .ne 7, 3) := dk_160 0 7 (dk_at dksX2_waits_3 5 rfl rfl)
theorem dX2_waits_80 : decode cX2_waits 80 = .ok (.iconst (-1), 1) := dk_2 (dk_at dksX2_waits_3 8 rfl rfl)
theorem dX2_waits_81 : decode cX2_waits 81 = .ok (.goto 4, 3) := dk_167 0 4 (dk_at dksX2_waits_3 9 rfl rfl)
theorem dX2_waits_84 : decode cX2_waits 84 = .ok (.iload_n 3, 1) := dk_29 (dk_at dksX2_waits_3 12 rfl rfl)
theorem dX2_waits_85 : decode cX2_waits 85 = .ok (.iastore, 1) := dk_79 (dk_at dksX2_waits_3 13 rfl rfl)
theorem dX2_waits_86 : decode cX2_waits 86 = .ok (.iload 4, 2) := dk_21 4 (dk_at dksX2_waits_3 14 rfl rfl)
theorem dX2_waits_88 : decode cX2_waits 88 = .ok (.ireturn, 1) := dk_172 (dk_at dksX2_waits_3 16 rfl rfl)
abbrev cX2_match : ByteArray := prog_11_method_60_code
def yX2_match : MethodName := ⟨RX2, "match", "(I)I"⟩
def dkwX2_match_1 : List UInt8 := [16, 154, 172, 42, 182, 0, 115, 153, 0, 8, 16, 153, 167, 0, 8, 42, 27, 182, 0, 237, 172]
abbrev dktX2_match_1 : List UInt8 := dkwX2_match_1 ++ []
def dkwX2_match_0 : List UInt8 := [27, 133, 9, 10, 184, 0, 64, 154, 0, 20, 27, 133, 20, 0, 157, 20, 0, 235, 184, 0, 64, 154, 0, 6]
abbrev dktX2_match_0 : List UInt8 := dkwX2_match_0 ++ dktX2_match_1
theorem dksX2_match_0 : cX2_match.data.toList.drop 0 = dktX2_match_0 := by decide +kernel
theorem dksX2_match_1 : cX2_match.data.toList.drop 24 = dktX2_match_1 := dk_seg dksX2_match_0 24 rfl rfl
theorem dX2_match_0 : decode cX2_match 0 = .ok (.iload_n 1, 1) := dk_27 (dk_at dksX2_match_0 0 rfl rfl)
theorem dX2_match_1 : decode cX2_match 1 = .ok (.i2l, 1) := dk_133 (dk_at dksX2_match_0 1 rfl rfl)
theorem dX2_match_2 : decode cX2_match 2 = .ok (.lconst 0, 1) := dk_9 (dk_at dksX2_match_0 2 rfl rfl)
theorem dX2_match_3 : decode cX2_match 3 = .ok (.lconst 1, 1) := dk_10 (dk_at dksX2_match_0 3 rfl rfl)
theorem dX2_match_4 : decode cX2_match 4 = .ok (.invokestatic 64, 3) := dk_184 0 64 (dk_at dksX2_match_0 4 rfl rfl)
theorem dX2_match_7 : decode cX2_match 7 = .ok (.ifCond .ne 20, 3) := dk_154 0 20 (dk_at dksX2_match_0 7 rfl rfl)
theorem dX2_match_10 : decode cX2_match 10 = .ok (.iload_n 1, 1) := dk_27 (dk_at dksX2_match_0 10 rfl rfl)
theorem dX2_match_11 : decode cX2_match 11 = .ok (.i2l, 1) := dk_133 (dk_at dksX2_match_0 11 rfl rfl)
theorem dX2_match_12 : decode cX2_match 12 = .ok (.ldc2_w 157, 3) := dk_20 0 157 (dk_at dksX2_match_0 12 rfl rfl)
theorem dX2_match_15 : decode cX2_match 15 = .ok (.ldc2_w 235, 3) := dk_20 0 235 (dk_at dksX2_match_0 15 rfl rfl)
theorem dX2_match_18 : decode cX2_match 18 = .ok (.invokestatic 64, 3) := dk_184 0 64 (dk_at dksX2_match_0 18 rfl rfl)
theorem dX2_match_21 : decode cX2_match 21 = .ok (.ifCond .ne 6, 3) := dk_154 0 6 (dk_at dksX2_match_0 21 rfl rfl)
theorem dX2_match_24 : decode cX2_match 24 = .ok (.bipush (-102), 2) := dk_16 154 (dk_at dksX2_match_1 0 rfl rfl)
theorem dX2_match_26 : decode cX2_match 26 = .ok (.ireturn, 1) := dk_172 (dk_at dksX2_match_1 2 rfl rfl)
theorem dX2_match_27 : decode cX2_match 27 = .ok (.aload_n 0, 1) := dk_42 (dk_at dksX2_match_1 3 rfl rfl)
theorem dX2_match_28 : decode cX2_match 28 = .ok (.invokevirtual 115, 3) := dk_182 0 115 (dk_at dksX2_match_1 4 rfl rfl)
theorem dX2_match_31 : decode cX2_match 31 = .ok (.ifCond .eq 8, 3) := dk_153 0 8 (dk_at dksX2_match_1 7 rfl rfl)
theorem dX2_match_34 : decode cX2_match 34 = .ok (.bipush (-103), 2) := dk_16 153 (dk_at dksX2_match_1 10 rfl rfl)
theorem dX2_match_36 : decode cX2_match 36 = .ok (.goto 8, 3) := dk_167 0 8 (dk_at dksX2_match_1 12 rfl rfl)
theorem dX2_match_39 : decode cX2_match 39 = .ok (.aload_n 0, 1) := dk_42 (dk_at dksX2_match_1 15 rfl rfl)
theorem dX2_match_40 : decode cX2_match 40 = .ok (.iload_n 1, 1) := dk_27 (dk_at dksX2_match_1 16 rfl rfl)
theorem dX2_match_41 : decode cX2_match 41 = .ok (.invokevirtual 237, 3) := dk_182 0 237 (dk_at dksX2_match_1 17 rfl rfl)
theorem dX2_match_44 : decode cX2_match 44 = .ok (.ireturn, 1) := dk_172 (dk_at dksX2_match_1 20 rfl rfl)
abbrev cX2_matchOf : ByteArray := prog_11_method_59_code
def yX2_matchOf : MethodName := ⟨RX2, "matchOf", "(I)I"⟩
def dkwX2_matchOf_9 : List UInt8 := [21, 5, 172]
abbrev dktX2_matchOf_9 : List UInt8 := dkwX2_matchOf_9 ++ []
def dkwX2_matchOf_8 : List UInt8 := [167, 0, 25, 27, 4, 160, 0, 7, 29, 167, 0, 16, 27, 16, 10, 160, 0, 8, 21, 4, 167, 0, 5]
abbrev dktX2_matchOf_8 : List UInt8 := dkwX2_matchOf_8 ++ dktX2_matchOf_9
def dkwX2_matchOf_7 : List UInt8 := [54, 4, 21, 7, 54, 5, 132, 7, 1, 167, 255, 106, 132, 6, 1, 167, 255, 88, 27, 154, 0, 7, 28]
abbrev dktX2_matchOf_7 : List UInt8 := dkwX2_matchOf_7 ++ dktX2_matchOf_8
def dkwX2_matchOf_6 : List UInt8 := [28, 160, 0, 29, 21, 8, 21, 9, 96, 29, 162, 0, 20, 21, 10, 61, 21, 8, 21, 9, 96, 62, 21, 6]
abbrev dktX2_matchOf_6 : List UInt8 := dkwX2_matchOf_6 ++ dktX2_matchOf_7
def dkwX2_matchOf_5 : List UInt8 := [2, 160, 0, 7, 4, 167, 0, 4, 3, 54, 11, 21, 11, 153, 0, 41, 21, 10, 28, 163, 0, 18, 21, 10]
abbrev dktX2_matchOf_5 : List UInt8 := dkwX2_matchOf_5 ++ dktX2_matchOf_6
def dkwX2_matchOf_4 : List UInt8 := [96, 54, 10, 21, 8, 2, 159, 0, 26, 21, 9, 2, 159, 0, 20, 21, 6, 21, 7, 160, 0, 9, 21, 6]
abbrev dktX2_matchOf_4 : List UInt8 := dkwX2_matchOf_4 ++ dktX2_matchOf_5
def dkwX2_matchOf_3 : List UInt8 := [54, 9, 21, 6, 2, 160, 0, 7, 3, 167, 0, 4, 4, 21, 7, 2, 160, 0, 7, 3, 167, 0, 4, 4]
abbrev dktX2_matchOf_3 : List UInt8 := dkwX2_matchOf_3 ++ dktX2_matchOf_4
def dkwX2_matchOf_2 : List UInt8 := [21, 6, 182, 0, 232, 54, 8, 21, 7, 2, 160, 0, 7, 3, 167, 0, 10, 42, 4, 21, 7, 182, 0, 232]
abbrev dktX2_matchOf_2 : List UInt8 := dkwX2_matchOf_2 ++ dktX2_matchOf_3
def dkwX2_matchOf_1 : List UInt8 := [54, 7, 21, 7, 42, 180, 0, 98, 162, 0, 147, 21, 6, 2, 160, 0, 7, 3, 167, 0, 10, 42, 3]
abbrev dktX2_matchOf_1 : List UInt8 := dkwX2_matchOf_1 ++ dktX2_matchOf_2
def dkwX2_matchOf_0 : List UInt8 := [3, 61, 3, 62, 2, 54, 4, 2, 54, 5, 2, 54, 6, 21, 6, 42, 180, 0, 98, 162, 0, 165, 2]
abbrev dktX2_matchOf_0 : List UInt8 := dkwX2_matchOf_0 ++ dktX2_matchOf_1
theorem dksX2_matchOf_0 : cX2_matchOf.data.toList.drop 0 = dktX2_matchOf_0 := by decide +kernel
theorem dksX2_matchOf_1 : cX2_matchOf.data.toList.drop 23 = dktX2_matchOf_1 := dk_seg dksX2_matchOf_0 23 rfl rfl
theorem dksX2_matchOf_2 : cX2_matchOf.data.toList.drop 46 = dktX2_matchOf_2 := dk_seg dksX2_matchOf_1 23 rfl rfl
theorem dksX2_matchOf_3 : cX2_matchOf.data.toList.drop 70 = dktX2_matchOf_3 := dk_seg dksX2_matchOf_2 24 rfl rfl
theorem dksX2_matchOf_4 : cX2_matchOf.data.toList.drop 94 = dktX2_matchOf_4 := dk_seg dksX2_matchOf_3 24 rfl rfl
theorem dksX2_matchOf_5 : cX2_matchOf.data.toList.drop 118 = dktX2_matchOf_5 := dk_seg dksX2_matchOf_4 24 rfl rfl
theorem dksX2_matchOf_6 : cX2_matchOf.data.toList.drop 142 = dktX2_matchOf_6 := dk_seg dksX2_matchOf_5 24 rfl rfl
theorem dksX2_matchOf_7 : cX2_matchOf.data.toList.drop 166 = dktX2_matchOf_7 := dk_seg dksX2_matchOf_6 24 rfl rfl
theorem dksX2_matchOf_8 : cX2_matchOf.data.toList.drop 189 = dktX2_matchOf_8 := dk_seg dksX2_matchOf_7 23 rfl rfl
theorem dksX2_matchOf_9 : cX2_matchOf.data.toList.drop 212 = dktX2_matchOf_9 := dk_seg dksX2_matchOf_8 23 rfl rfl
theorem dX2_matchOf_0 : decode cX2_matchOf 0 = .ok (.iconst 0, 1) := dk_3 (dk_at dksX2_matchOf_0 0 rfl rfl)
theorem dX2_matchOf_1 : decode cX2_matchOf 1 = .ok (.istore_n 2, 1) := dk_61 (dk_at dksX2_matchOf_0 1 rfl rfl)
theorem dX2_matchOf_2 : decode cX2_matchOf 2 = .ok (.iconst 0, 1) := dk_3 (dk_at dksX2_matchOf_0 2 rfl rfl)
theorem dX2_matchOf_3 : decode cX2_matchOf 3 = .ok (.istore_n 3, 1) := dk_62 (dk_at dksX2_matchOf_0 3 rfl rfl)
theorem dX2_matchOf_4 : decode cX2_matchOf 4 = .ok (.iconst (-1), 1) := dk_2 (dk_at dksX2_matchOf_0 4 rfl rfl)
theorem dX2_matchOf_5 : decode cX2_matchOf 5 = .ok (.istore 4, 2) := dk_54 4 (dk_at dksX2_matchOf_0 5 rfl rfl)
theorem dX2_matchOf_7 : decode cX2_matchOf 7 = .ok (.iconst (-1), 1) := dk_2 (dk_at dksX2_matchOf_0 7 rfl rfl)
theorem dX2_matchOf_8 : decode cX2_matchOf 8 = .ok (.istore 5, 2) := dk_54 5 (dk_at dksX2_matchOf_0 8 rfl rfl)
theorem dX2_matchOf_10 : decode cX2_matchOf 10 = .ok (.iconst (-1), 1) := dk_2 (dk_at dksX2_matchOf_0 10 rfl rfl)
theorem dX2_matchOf_11 : decode cX2_matchOf 11 = .ok (.istore 6, 2) := dk_54 6 (dk_at dksX2_matchOf_0 11 rfl rfl)
theorem dX2_matchOf_13 : decode cX2_matchOf 13 = .ok (.iload 6, 2) := dk_21 6 (dk_at dksX2_matchOf_0 13 rfl rfl)
theorem dX2_matchOf_15 : decode cX2_matchOf 15 = .ok (.aload_n 0, 1) := dk_42 (dk_at dksX2_matchOf_0 15 rfl rfl)
theorem dX2_matchOf_16 : decode cX2_matchOf 16 = .ok (.getfield 98, 3) := dk_180 0 98 (dk_at dksX2_matchOf_0 16 rfl rfl)
theorem dX2_matchOf_19 : decode cX2_matchOf 19 = .ok (.if_icmp .ge 165, 3) := dk_162 0 165 (dk_at dksX2_matchOf_0 19 rfl rfl)
theorem dX2_matchOf_22 : decode cX2_matchOf 22 = .ok (.iconst (-1), 1) := dk_2 (dk_at dksX2_matchOf_0 22 rfl rfl)
theorem dX2_matchOf_23 : decode cX2_matchOf 23 = .ok (.istore 7, 2) := dk_54 7 (dk_at dksX2_matchOf_1 0 rfl rfl)
theorem dX2_matchOf_25 : decode cX2_matchOf 25 = .ok (.iload 7, 2) := dk_21 7 (dk_at dksX2_matchOf_1 2 rfl rfl)
theorem dX2_matchOf_27 : decode cX2_matchOf 27 = .ok (.aload_n 0, 1) := dk_42 (dk_at dksX2_matchOf_1 4 rfl rfl)
theorem dX2_matchOf_28 : decode cX2_matchOf 28 = .ok (.getfield 98, 3) := dk_180 0 98 (dk_at dksX2_matchOf_1 5 rfl rfl)
theorem dX2_matchOf_31 : decode cX2_matchOf 31 = .ok (.if_icmp .ge 147, 3) := dk_162 0 147 (dk_at dksX2_matchOf_1 8 rfl rfl)
theorem dX2_matchOf_34 : decode cX2_matchOf 34 = .ok (.iload 6, 2) := dk_21 6 (dk_at dksX2_matchOf_1 11 rfl rfl)
theorem dX2_matchOf_36 : decode cX2_matchOf 36 = .ok (.iconst (-1), 1) := dk_2 (dk_at dksX2_matchOf_1 13 rfl rfl)
theorem dX2_matchOf_37 : decode cX2_matchOf 37 = .ok (.if_icmp .ne 7, 3) := dk_160 0 7 (dk_at dksX2_matchOf_1 14 rfl rfl)
theorem dX2_matchOf_40 : decode cX2_matchOf 40 = .ok (.iconst 0, 1) := dk_3 (dk_at dksX2_matchOf_1 17 rfl rfl)
theorem dX2_matchOf_41 : decode cX2_matchOf 41 = .ok (.goto 10, 3) := dk_167 0 10 (dk_at dksX2_matchOf_1 18 rfl rfl)
theorem dX2_matchOf_44 : decode cX2_matchOf 44 = .ok (.aload_n 0, 1) := dk_42 (dk_at dksX2_matchOf_1 21 rfl rfl)
theorem dX2_matchOf_45 : decode cX2_matchOf 45 = .ok (.iconst 0, 1) := dk_3 (dk_at dksX2_matchOf_1 22 rfl rfl)
theorem dX2_matchOf_46 : decode cX2_matchOf 46 = .ok (.iload 6, 2) := dk_21 6 (dk_at dksX2_matchOf_2 0 rfl rfl)
theorem dX2_matchOf_48 : decode cX2_matchOf 48 = .ok (.invokevirtual 232, 3) := dk_182 0 232 (dk_at dksX2_matchOf_2 2 rfl rfl)
theorem dX2_matchOf_51 : decode cX2_matchOf 51 = .ok (.istore 8, 2) := dk_54 8 (dk_at dksX2_matchOf_2 5 rfl rfl)
theorem dX2_matchOf_53 : decode cX2_matchOf 53 = .ok (.iload 7, 2) := dk_21 7 (dk_at dksX2_matchOf_2 7 rfl rfl)
theorem dX2_matchOf_55 : decode cX2_matchOf 55 = .ok (.iconst (-1), 1) := dk_2 (dk_at dksX2_matchOf_2 9 rfl rfl)
theorem dX2_matchOf_56 : decode cX2_matchOf 56 = .ok (.if_icmp .ne 7, 3) := dk_160 0 7 (dk_at dksX2_matchOf_2 10 rfl rfl)
theorem dX2_matchOf_59 : decode cX2_matchOf 59 = .ok (.iconst 0, 1) := dk_3 (dk_at dksX2_matchOf_2 13 rfl rfl)
theorem dX2_matchOf_60 : decode cX2_matchOf 60 = .ok (.goto 10, 3) := dk_167 0 10 (dk_at dksX2_matchOf_2 14 rfl rfl)
theorem dX2_matchOf_63 : decode cX2_matchOf 63 = .ok (.aload_n 0, 1) := dk_42 (dk_at dksX2_matchOf_2 17 rfl rfl)
theorem dX2_matchOf_64 : decode cX2_matchOf 64 = .ok (.iconst 1, 1) := dk_4 (dk_at dksX2_matchOf_2 18 rfl rfl)
theorem dX2_matchOf_65 : decode cX2_matchOf 65 = .ok (.iload 7, 2) := dk_21 7 (dk_at dksX2_matchOf_2 19 rfl rfl)
theorem dX2_matchOf_67 : decode cX2_matchOf 67 = .ok (.invokevirtual 232, 3) := dk_182 0 232 (dk_at dksX2_matchOf_2 21 rfl rfl)
theorem dX2_matchOf_70 : decode cX2_matchOf 70 = .ok (.istore 9, 2) := dk_54 9 (dk_at dksX2_matchOf_3 0 rfl rfl)
theorem dX2_matchOf_72 : decode cX2_matchOf 72 = .ok (.iload 6, 2) := dk_21 6 (dk_at dksX2_matchOf_3 2 rfl rfl)
theorem dX2_matchOf_74 : decode cX2_matchOf 74 = .ok (.iconst (-1), 1) := dk_2 (dk_at dksX2_matchOf_3 4 rfl rfl)
theorem dX2_matchOf_75 : decode cX2_matchOf 75 = .ok (.if_icmp .ne 7, 3) := dk_160 0 7 (dk_at dksX2_matchOf_3 5 rfl rfl)
theorem dX2_matchOf_78 : decode cX2_matchOf 78 = .ok (.iconst 0, 1) := dk_3 (dk_at dksX2_matchOf_3 8 rfl rfl)
theorem dX2_matchOf_79 : decode cX2_matchOf 79 = .ok (.goto 4, 3) := dk_167 0 4 (dk_at dksX2_matchOf_3 9 rfl rfl)
theorem dX2_matchOf_82 : decode cX2_matchOf 82 = .ok (.iconst 1, 1) := dk_4 (dk_at dksX2_matchOf_3 12 rfl rfl)
theorem dX2_matchOf_83 : decode cX2_matchOf 83 = .ok (.iload 7, 2) := dk_21 7 (dk_at dksX2_matchOf_3 13 rfl rfl)
theorem dX2_matchOf_85 : decode cX2_matchOf 85 = .ok (.iconst (-1), 1) := dk_2 (dk_at dksX2_matchOf_3 15 rfl rfl)
theorem dX2_matchOf_86 : decode cX2_matchOf 86 = .ok (.if_icmp .ne 7, 3) := dk_160 0 7 (dk_at dksX2_matchOf_3 16 rfl rfl)
theorem dX2_matchOf_89 : decode cX2_matchOf 89 = .ok (.iconst 0, 1) := dk_3 (dk_at dksX2_matchOf_3 19 rfl rfl)
theorem dX2_matchOf_90 : decode cX2_matchOf 90 = .ok (.goto 4, 3) := dk_167 0 4 (dk_at dksX2_matchOf_3 20 rfl rfl)
theorem dX2_matchOf_93 : decode cX2_matchOf 93 = .ok (.iconst 1, 1) := dk_4 (dk_at dksX2_matchOf_3 23 rfl rfl)
theorem dX2_matchOf_94 : decode cX2_matchOf 94 = .ok (.iadd, 1) := dk_96 (dk_at dksX2_matchOf_4 0 rfl rfl)
theorem dX2_matchOf_95 : decode cX2_matchOf 95 = .ok (.istore 10, 2) := dk_54 10 (dk_at dksX2_matchOf_4 1 rfl rfl)
theorem dX2_matchOf_97 : decode cX2_matchOf 97 = .ok (.iload 8, 2) := dk_21 8 (dk_at dksX2_matchOf_4 3 rfl rfl)
theorem dX2_matchOf_99 : decode cX2_matchOf 99 = .ok (.iconst (-1), 1) := dk_2 (dk_at dksX2_matchOf_4 5 rfl rfl)
theorem dX2_matchOf_100 : decode cX2_matchOf 100 = .ok (.if_icmp .eq 26, 3) := dk_159 0 26 (dk_at dksX2_matchOf_4 6 rfl rfl)
theorem dX2_matchOf_103 : decode cX2_matchOf 103 = .ok (.iload 9, 2) := dk_21 9 (dk_at dksX2_matchOf_4 9 rfl rfl)
theorem dX2_matchOf_105 : decode cX2_matchOf 105 = .ok (.iconst (-1), 1) := dk_2 (dk_at dksX2_matchOf_4 11 rfl rfl)
theorem dX2_matchOf_106 : decode cX2_matchOf 106 = .ok (.if_icmp .eq 20, 3) := dk_159 0 20 (dk_at dksX2_matchOf_4 12 rfl rfl)
theorem dX2_matchOf_109 : decode cX2_matchOf 109 = .ok (.iload 6, 2) := dk_21 6 (dk_at dksX2_matchOf_4 15 rfl rfl)
theorem dX2_matchOf_111 : decode cX2_matchOf 111 = .ok (.iload 7, 2) := dk_21 7 (dk_at dksX2_matchOf_4 17 rfl rfl)
theorem dX2_matchOf_113 : decode cX2_matchOf 113 = .ok (.if_icmp .ne 9, 3) := dk_160 0 9 (dk_at dksX2_matchOf_4 19 rfl rfl)
theorem dX2_matchOf_116 : decode cX2_matchOf 116 = .ok (.iload 6, 2) := dk_21 6 (dk_at dksX2_matchOf_4 22 rfl rfl)
theorem dX2_matchOf_118 : decode cX2_matchOf 118 = .ok (.iconst (-1), 1) := dk_2 (dk_at dksX2_matchOf_5 0 rfl rfl)
theorem dX2_matchOf_119 : decode cX2_matchOf 119 = .ok (.if_icmp .ne 7, 3) := dk_160 0 7 (dk_at dksX2_matchOf_5 1 rfl rfl)
theorem dX2_matchOf_122 : decode cX2_matchOf 122 = .ok (.iconst 1, 1) := dk_4 (dk_at dksX2_matchOf_5 4 rfl rfl)
theorem dX2_matchOf_123 : decode cX2_matchOf 123 = .ok (.goto 4, 3) := dk_167 0 4 (dk_at dksX2_matchOf_5 5 rfl rfl)
theorem dX2_matchOf_126 : decode cX2_matchOf 126 = .ok (.iconst 0, 1) := dk_3 (dk_at dksX2_matchOf_5 8 rfl rfl)
theorem dX2_matchOf_127 : decode cX2_matchOf 127 = .ok (.istore 11, 2) := dk_54 11 (dk_at dksX2_matchOf_5 9 rfl rfl)
theorem dX2_matchOf_129 : decode cX2_matchOf 129 = .ok (.iload 11, 2) := dk_21 11 (dk_at dksX2_matchOf_5 11 rfl rfl)
theorem dX2_matchOf_131 : decode cX2_matchOf 131 = .ok (.ifCond .eq 41, 3) := dk_153 0 41 (dk_at dksX2_matchOf_5 13 rfl rfl)
theorem dX2_matchOf_134 : decode cX2_matchOf 134 = .ok (.iload 10, 2) := dk_21 10 (dk_at dksX2_matchOf_5 16 rfl rfl)
theorem dX2_matchOf_136 : decode cX2_matchOf 136 = .ok (.iload_n 2, 1) := dk_28 (dk_at dksX2_matchOf_5 18 rfl rfl)
theorem dX2_matchOf_137 : decode cX2_matchOf 137 = .ok (.if_icmp .gt 18, 3) := dk_163 0 18 (dk_at dksX2_matchOf_5 19 rfl rfl)
theorem dX2_matchOf_140 : decode cX2_matchOf 140 = .ok (.iload 10, 2) := dk_21 10 (dk_at dksX2_matchOf_5 22 rfl rfl)
theorem dX2_matchOf_142 : decode cX2_matchOf 142 = .ok (.iload_n 2, 1) := dk_28 (dk_at dksX2_matchOf_6 0 rfl rfl)
theorem dX2_matchOf_143 : decode cX2_matchOf 143 = .ok (.if_icmp .ne 29, 3) := dk_160 0 29 (dk_at dksX2_matchOf_6 1 rfl rfl)
theorem dX2_matchOf_146 : decode cX2_matchOf 146 = .ok (.iload 8, 2) := dk_21 8 (dk_at dksX2_matchOf_6 4 rfl rfl)
theorem dX2_matchOf_148 : decode cX2_matchOf 148 = .ok (.iload 9, 2) := dk_21 9 (dk_at dksX2_matchOf_6 6 rfl rfl)
theorem dX2_matchOf_150 : decode cX2_matchOf 150 = .ok (.iadd, 1) := dk_96 (dk_at dksX2_matchOf_6 8 rfl rfl)
theorem dX2_matchOf_151 : decode cX2_matchOf 151 = .ok (.iload_n 3, 1) := dk_29 (dk_at dksX2_matchOf_6 9 rfl rfl)
theorem dX2_matchOf_152 : decode cX2_matchOf 152 = .ok (.if_icmp .ge 20, 3) := dk_162 0 20 (dk_at dksX2_matchOf_6 10 rfl rfl)
theorem dX2_matchOf_155 : decode cX2_matchOf 155 = .ok (.iload 10, 2) := dk_21 10 (dk_at dksX2_matchOf_6 13 rfl rfl)
theorem dX2_matchOf_157 : decode cX2_matchOf 157 = .ok (.istore_n 2, 1) := dk_61 (dk_at dksX2_matchOf_6 15 rfl rfl)
theorem dX2_matchOf_158 : decode cX2_matchOf 158 = .ok (.iload 8, 2) := dk_21 8 (dk_at dksX2_matchOf_6 16 rfl rfl)
theorem dX2_matchOf_160 : decode cX2_matchOf 160 = .ok (.iload 9, 2) := dk_21 9 (dk_at dksX2_matchOf_6 18 rfl rfl)
theorem dX2_matchOf_162 : decode cX2_matchOf 162 = .ok (.iadd, 1) := dk_96 (dk_at dksX2_matchOf_6 20 rfl rfl)
theorem dX2_matchOf_163 : decode cX2_matchOf 163 = .ok (.istore_n 3, 1) := dk_62 (dk_at dksX2_matchOf_6 21 rfl rfl)
theorem dX2_matchOf_164 : decode cX2_matchOf 164 = .ok (.iload 6, 2) := dk_21 6 (dk_at dksX2_matchOf_6 22 rfl rfl)
theorem dX2_matchOf_166 : decode cX2_matchOf 166 = .ok (.istore 4, 2) := dk_54 4 (dk_at dksX2_matchOf_7 0 rfl rfl)
theorem dX2_matchOf_168 : decode cX2_matchOf 168 = .ok (.iload 7, 2) := dk_21 7 (dk_at dksX2_matchOf_7 2 rfl rfl)
theorem dX2_matchOf_170 : decode cX2_matchOf 170 = .ok (.istore 5, 2) := dk_54 5 (dk_at dksX2_matchOf_7 4 rfl rfl)
theorem dX2_matchOf_172 : decode cX2_matchOf 172 = .ok (.iinc 7 1, 3) := dk_132 7 1 (dk_at dksX2_matchOf_7 6 rfl rfl)
theorem dX2_matchOf_175 : decode cX2_matchOf 175 = .ok (.goto (-150), 3) := dk_167 255 106 (dk_at dksX2_matchOf_7 9 rfl rfl)
theorem dX2_matchOf_178 : decode cX2_matchOf 178 = .ok (.iinc 6 1, 3) := dk_132 6 1 (dk_at dksX2_matchOf_7 12 rfl rfl)
theorem dX2_matchOf_181 : decode cX2_matchOf 181 = .ok (.goto (-168), 3) := dk_167 255 88 (dk_at dksX2_matchOf_7 15 rfl rfl)
theorem dX2_matchOf_184 : decode cX2_matchOf 184 = .ok (.iload_n 1, 1) := dk_27 (dk_at dksX2_matchOf_7 18 rfl rfl)
theorem dX2_matchOf_185 : decode cX2_matchOf 185 = .ok (.ifCond .ne 7, 3) := dk_154 0 7 (dk_at dksX2_matchOf_7 19 rfl rfl)
theorem dX2_matchOf_188 : decode cX2_matchOf 188 = .ok (.iload_n 2, 1) := dk_28 (dk_at dksX2_matchOf_7 22 rfl rfl)
theorem dX2_matchOf_189 : decode cX2_matchOf 189 = .ok (.goto 25, 3) := dk_167 0 25 (dk_at dksX2_matchOf_8 0 rfl rfl)
theorem dX2_matchOf_192 : decode cX2_matchOf 192 = .ok (.iload_n 1, 1) := dk_27 (dk_at dksX2_matchOf_8 3 rfl rfl)
theorem dX2_matchOf_193 : decode cX2_matchOf 193 = .ok (.iconst 1, 1) := dk_4 (dk_at dksX2_matchOf_8 4 rfl rfl)
theorem dX2_matchOf_194 : decode cX2_matchOf 194 = .ok (.if_icmp .ne 7, 3) := dk_160 0 7 (dk_at dksX2_matchOf_8 5 rfl rfl)
theorem dX2_matchOf_197 : decode cX2_matchOf 197 = .ok (.iload_n 3, 1) := dk_29 (dk_at dksX2_matchOf_8 8 rfl rfl)
theorem dX2_matchOf_198 : decode cX2_matchOf 198 = .ok (.goto 16, 3) := dk_167 0 16 (dk_at dksX2_matchOf_8 9 rfl rfl)
theorem dX2_matchOf_201 : decode cX2_matchOf 201 = .ok (.iload_n 1, 1) := dk_27 (dk_at dksX2_matchOf_8 12 rfl rfl)
theorem dX2_matchOf_202 : decode cX2_matchOf 202 = .ok (.bipush 10, 2) := dk_16 10 (dk_at dksX2_matchOf_8 13 rfl rfl)
theorem dX2_matchOf_204 : decode cX2_matchOf 204 = .ok (.if_icmp .ne 8, 3) := dk_160 0 8 (dk_at dksX2_matchOf_8 15 rfl rfl)
theorem dX2_matchOf_207 : decode cX2_matchOf 207 = .ok (.iload 4, 2) := dk_21 4 (dk_at dksX2_matchOf_8 18 rfl rfl)
theorem dX2_matchOf_209 : decode cX2_matchOf 209 = .ok (.goto 5, 3) := dk_167 0 5 (dk_at dksX2_matchOf_8 20 rfl rfl)
theorem dX2_matchOf_212 : decode cX2_matchOf 212 = .ok (.iload 5, 2) := dk_21 5 (dk_at dksX2_matchOf_9 0 rfl rfl)
theorem dX2_matchOf_214 : decode cX2_matchOf 214 = .ok (.ireturn, 1) := dk_172 (dk_at dksX2_matchOf_9 2 rfl rfl)
abbrev cX2_takesBy : ByteArray := prog_11_method_58_code
def yX2_takesBy : MethodName := ⟨RX2, "takesBy", "(II)I"⟩
def dkwX2_takesBy_3 : List UInt8 := [17, 3, 232, 108, 172]
abbrev dktX2_takesBy_3 : List UInt8 := dkwX2_takesBy_3 ++ []
def dkwX2_takesBy_2 : List UInt8 := [6, 27, 104, 4, 96, 46, 182, 0, 142, 2, 160, 0, 7, 2, 167, 0, 13, 42, 180, 0, 25, 29, 46]
abbrev dktX2_takesBy_2 : List UInt8 := dkwX2_takesBy_2 ++ dktX2_takesBy_3
def dkwX2_takesBy_1 : List UInt8 := [4, 126, 154, 0, 5, 2, 172, 42, 28, 29, 42, 180, 0, 16, 8, 28, 104, 7, 96, 46, 42, 180, 0, 22]
abbrev dktX2_takesBy_1 : List UInt8 := dkwX2_takesBy_1 ++ dktX2_takesBy_2
def dkwX2_takesBy_0 : List UInt8 := [42, 180, 0, 16, 8, 28, 104, 6, 96, 46, 62, 29, 2, 159, 0, 16, 42, 27, 8, 182, 0, 220, 29, 122]
abbrev dktX2_takesBy_0 : List UInt8 := dkwX2_takesBy_0 ++ dktX2_takesBy_1
theorem dksX2_takesBy_0 : cX2_takesBy.data.toList.drop 0 = dktX2_takesBy_0 := by decide +kernel
theorem dksX2_takesBy_1 : cX2_takesBy.data.toList.drop 24 = dktX2_takesBy_1 := dk_seg dksX2_takesBy_0 24 rfl rfl
theorem dksX2_takesBy_2 : cX2_takesBy.data.toList.drop 48 = dktX2_takesBy_2 := dk_seg dksX2_takesBy_1 24 rfl rfl
theorem dksX2_takesBy_3 : cX2_takesBy.data.toList.drop 71 = dktX2_takesBy_3 := dk_seg dksX2_takesBy_2 23 rfl rfl
theorem dX2_takesBy_0 : decode cX2_takesBy 0 = .ok (.aload_n 0, 1) := dk_42 (dk_at dksX2_takesBy_0 0 rfl rfl)
theorem dX2_takesBy_1 : decode cX2_takesBy 1 = .ok (.getfield 16, 3) := dk_180 0 16 (dk_at dksX2_takesBy_0 1 rfl rfl)
theorem dX2_takesBy_4 : decode cX2_takesBy 4 = .ok (.iconst 5, 1) := dk_8 (dk_at dksX2_takesBy_0 4 rfl rfl)
theorem dX2_takesBy_5 : decode cX2_takesBy 5 = .ok (.iload_n 2, 1) := dk_28 (dk_at dksX2_takesBy_0 5 rfl rfl)
theorem dX2_takesBy_6 : decode cX2_takesBy 6 = .ok (.imul, 1) := dk_104 (dk_at dksX2_takesBy_0 6 rfl rfl)
theorem dX2_takesBy_7 : decode cX2_takesBy 7 = .ok (.iconst 3, 1) := dk_6 (dk_at dksX2_takesBy_0 7 rfl rfl)
theorem dX2_takesBy_8 : decode cX2_takesBy 8 = .ok (.iadd, 1) := dk_96 (dk_at dksX2_takesBy_0 8 rfl rfl)
theorem dX2_takesBy_9 : decode cX2_takesBy 9 = .ok (.iaload, 1) := dk_46 (dk_at dksX2_takesBy_0 9 rfl rfl)
theorem dX2_takesBy_10 : decode cX2_takesBy 10 = .ok (.istore_n 3, 1) := dk_62 (dk_at dksX2_takesBy_0 10 rfl rfl)
theorem dX2_takesBy_11 : decode cX2_takesBy 11 = .ok (.iload_n 3, 1) := dk_29 (dk_at dksX2_takesBy_0 11 rfl rfl)
theorem dX2_takesBy_12 : decode cX2_takesBy 12 = .ok (.iconst (-1), 1) := dk_2 (dk_at dksX2_takesBy_0 12 rfl rfl)
theorem dX2_takesBy_13 : decode cX2_takesBy 13 = .ok (.if_icmp .eq 16, 3) := dk_159 0 16 (dk_at dksX2_takesBy_0 13 rfl rfl)
theorem dX2_takesBy_16 : decode cX2_takesBy 16 = .ok (.aload_n 0, 1) := dk_42 (dk_at dksX2_takesBy_0 16 rfl rfl)
theorem dX2_takesBy_17 : decode cX2_takesBy 17 = .ok (.iload_n 1, 1) := dk_27 (dk_at dksX2_takesBy_0 17 rfl rfl)
theorem dX2_takesBy_18 : decode cX2_takesBy 18 = .ok (.iconst 5, 1) := dk_8 (dk_at dksX2_takesBy_0 18 rfl rfl)
theorem dX2_takesBy_19 : decode cX2_takesBy 19 = .ok (.invokevirtual 220, 3) := dk_182 0 220 (dk_at dksX2_takesBy_0 19 rfl rfl)
theorem dX2_takesBy_22 : decode cX2_takesBy 22 = .ok (.iload_n 3, 1) := dk_29 (dk_at dksX2_takesBy_0 22 rfl rfl)
theorem dX2_takesBy_23 : decode cX2_takesBy 23 = .ok (.ishr, 1) := dk_122 (dk_at dksX2_takesBy_0 23 rfl rfl)
theorem dX2_takesBy_24 : decode cX2_takesBy 24 = .ok (.iconst 1, 1) := dk_4 (dk_at dksX2_takesBy_1 0 rfl rfl)
theorem dX2_takesBy_25 : decode cX2_takesBy 25 = .ok (.iand, 1) := dk_126 (dk_at dksX2_takesBy_1 1 rfl rfl)
theorem dX2_takesBy_26 : decode cX2_takesBy 26 = .ok (.ifCond .ne 5, 3) := dk_154 0 5 (dk_at dksX2_takesBy_1 2 rfl rfl)
theorem dX2_takesBy_29 : decode cX2_takesBy 29 = .ok (.iconst (-1), 1) := dk_2 (dk_at dksX2_takesBy_1 5 rfl rfl)
theorem dX2_takesBy_30 : decode cX2_takesBy 30 = .ok (.ireturn, 1) := dk_172 (dk_at dksX2_takesBy_1 6 rfl rfl)
theorem dX2_takesBy_31 : decode cX2_takesBy 31 = .ok (.aload_n 0, 1) := dk_42 (dk_at dksX2_takesBy_1 7 rfl rfl)
theorem dX2_takesBy_32 : decode cX2_takesBy 32 = .ok (.iload_n 2, 1) := dk_28 (dk_at dksX2_takesBy_1 8 rfl rfl)
theorem dX2_takesBy_33 : decode cX2_takesBy 33 = .ok (.iload_n 3, 1) := dk_29 (dk_at dksX2_takesBy_1 9 rfl rfl)
theorem dX2_takesBy_34 : decode cX2_takesBy 34 = .ok (.aload_n 0, 1) := dk_42 (dk_at dksX2_takesBy_1 10 rfl rfl)
theorem dX2_takesBy_35 : decode cX2_takesBy 35 = .ok (.getfield 16, 3) := dk_180 0 16 (dk_at dksX2_takesBy_1 11 rfl rfl)
theorem dX2_takesBy_38 : decode cX2_takesBy 38 = .ok (.iconst 5, 1) := dk_8 (dk_at dksX2_takesBy_1 14 rfl rfl)
theorem dX2_takesBy_39 : decode cX2_takesBy 39 = .ok (.iload_n 2, 1) := dk_28 (dk_at dksX2_takesBy_1 15 rfl rfl)
theorem dX2_takesBy_40 : decode cX2_takesBy 40 = .ok (.imul, 1) := dk_104 (dk_at dksX2_takesBy_1 16 rfl rfl)
theorem dX2_takesBy_41 : decode cX2_takesBy 41 = .ok (.iconst 4, 1) := dk_7 (dk_at dksX2_takesBy_1 17 rfl rfl)
theorem dX2_takesBy_42 : decode cX2_takesBy 42 = .ok (.iadd, 1) := dk_96 (dk_at dksX2_takesBy_1 18 rfl rfl)
theorem dX2_takesBy_43 : decode cX2_takesBy 43 = .ok (.iaload, 1) := dk_46 (dk_at dksX2_takesBy_1 19 rfl rfl)
theorem dX2_takesBy_44 : decode cX2_takesBy 44 = .ok (.aload_n 0, 1) := dk_42 (dk_at dksX2_takesBy_1 20 rfl rfl)
theorem dX2_takesBy_45 : decode cX2_takesBy 45 = .ok (.getfield 22, 3) := dk_180 0 22 (dk_at dksX2_takesBy_1 21 rfl rfl)
theorem dX2_takesBy_48 : decode cX2_takesBy 48 = .ok (.iconst 3, 1) := dk_6 (dk_at dksX2_takesBy_2 0 rfl rfl)
theorem dX2_takesBy_49 : decode cX2_takesBy 49 = .ok (.iload_n 1, 1) := dk_27 (dk_at dksX2_takesBy_2 1 rfl rfl)
theorem dX2_takesBy_50 : decode cX2_takesBy 50 = .ok (.imul, 1) := dk_104 (dk_at dksX2_takesBy_2 2 rfl rfl)
theorem dX2_takesBy_51 : decode cX2_takesBy 51 = .ok (.iconst 1, 1) := dk_4 (dk_at dksX2_takesBy_2 3 rfl rfl)
theorem dX2_takesBy_52 : decode cX2_takesBy 52 = .ok (.iadd, 1) := dk_96 (dk_at dksX2_takesBy_2 4 rfl rfl)
theorem dX2_takesBy_53 : decode cX2_takesBy 53 = .ok (.iaload, 1) := dk_46 (dk_at dksX2_takesBy_2 5 rfl rfl)
theorem dX2_takesBy_54 : decode cX2_takesBy 54 = .ok (.invokevirtual 142, 3) := dk_182 0 142 (dk_at dksX2_takesBy_2 6 rfl rfl)
theorem dX2_takesBy_57 : decode cX2_takesBy 57 = .ok (.iconst (-1), 1) := dk_2 (dk_at dksX2_takesBy_2 9 rfl rfl)
theorem dX2_takesBy_58 : decode cX2_takesBy 58 = .ok (.if_icmp .ne 7, 3) := dk_160 0 7 (dk_at dksX2_takesBy_2 10 rfl rfl)
theorem dX2_takesBy_61 : decode cX2_takesBy 61 = .ok (.iconst (-1), 1) := dk_2 (dk_at dksX2_takesBy_2 13 rfl rfl)
theorem dX2_takesBy_62 : decode cX2_takesBy 62 = .ok (.goto 13, 3) := dk_167 0 13 (dk_at dksX2_takesBy_2 14 rfl rfl)
theorem dX2_takesBy_65 : decode cX2_takesBy 65 = .ok (.aload_n 0, 1) := dk_42 (dk_at dksX2_takesBy_2 17 rfl rfl)
theorem dX2_takesBy_66 : decode cX2_takesBy 66 = .ok (.getfield 25, 3) := dk_180 0 25 (dk_at dksX2_takesBy_2 18 rfl rfl)
theorem dX2_takesBy_69 : decode cX2_takesBy 69 = .ok (.iload_n 3, 1) := dk_29 (dk_at dksX2_takesBy_2 21 rfl rfl)
theorem dX2_takesBy_70 : decode cX2_takesBy 70 = .ok (.iaload, 1) := dk_46 (dk_at dksX2_takesBy_2 22 rfl rfl)
theorem dX2_takesBy_71 : decode cX2_takesBy 71 = .ok (.sipush 1000, 3) := dk_17 3 232 (dk_at dksX2_takesBy_3 0 rfl rfl)
theorem dX2_takesBy_74 : decode cX2_takesBy 74 = .ok (.idiv, 1) := dk_108 (dk_at dksX2_takesBy_3 3 rfl rfl)
theorem dX2_takesBy_75 : decode cX2_takesBy 75 = .ok (.ireturn, 1) := dk_172 (dk_at dksX2_takesBy_3 4 rfl rfl)
abbrev cX2_see : ByteArray := prog_11_method_61_code
def yX2_see : MethodName := ⟨RX2, "see", "(IIII)I"⟩
def dkwX2_see_4 : List UInt8 := [89, 180, 0, 107, 4, 96, 181, 0, 107, 42, 180, 0, 107, 172]
abbrev dktX2_see_4 : List UInt8 := dkwX2_see_4 ++ []
def dkwX2_see_3 : List UInt8 := [180, 0, 107, 104, 5, 96, 29, 79, 42, 180, 0, 37, 7, 42, 180, 0, 107, 104, 6, 96, 21, 4, 79, 42]
abbrev dktX2_see_3 : List UInt8 := dkwX2_see_3 ++ dktX2_see_4
def dkwX2_see_2 : List UInt8 := [104, 27, 79, 42, 180, 0, 37, 7, 42, 180, 0, 107, 104, 4, 96, 28, 79, 42, 180, 0, 37, 7, 42]
abbrev dktX2_see_2 : List UInt8 := dkwX2_see_2 ++ dktX2_see_3
def dkwX2_see_1 : List UInt8 := [16, 155, 172, 42, 180, 0, 107, 16, 6, 160, 0, 6, 16, 152, 172, 42, 180, 0, 37, 7, 42, 180, 0, 107]
abbrev dktX2_see_1 : List UInt8 := dkwX2_see_1 ++ dktX2_see_2
def dkwX2_see_0 : List UInt8 := [42, 27, 28, 29, 182, 0, 151, 153, 0, 17, 42, 21, 4, 182, 0, 195, 153, 0, 8, 28, 29, 160, 0, 6]
abbrev dktX2_see_0 : List UInt8 := dkwX2_see_0 ++ dktX2_see_1
theorem dksX2_see_0 : cX2_see.data.toList.drop 0 = dktX2_see_0 := by decide +kernel
theorem dksX2_see_1 : cX2_see.data.toList.drop 24 = dktX2_see_1 := dk_seg dksX2_see_0 24 rfl rfl
theorem dksX2_see_2 : cX2_see.data.toList.drop 48 = dktX2_see_2 := dk_seg dksX2_see_1 24 rfl rfl
theorem dksX2_see_3 : cX2_see.data.toList.drop 71 = dktX2_see_3 := dk_seg dksX2_see_2 23 rfl rfl
theorem dksX2_see_4 : cX2_see.data.toList.drop 95 = dktX2_see_4 := dk_seg dksX2_see_3 24 rfl rfl
theorem dX2_see_0 : decode cX2_see 0 = .ok (.aload_n 0, 1) := dk_42 (dk_at dksX2_see_0 0 rfl rfl)
theorem dX2_see_1 : decode cX2_see 1 = .ok (.iload_n 1, 1) := dk_27 (dk_at dksX2_see_0 1 rfl rfl)
theorem dX2_see_2 : decode cX2_see 2 = .ok (.iload_n 2, 1) := dk_28 (dk_at dksX2_see_0 2 rfl rfl)
theorem dX2_see_3 : decode cX2_see 3 = .ok (.iload_n 3, 1) := dk_29 (dk_at dksX2_see_0 3 rfl rfl)
theorem dX2_see_4 : decode cX2_see 4 = .ok (.invokevirtual 151, 3) := dk_182 0 151 (dk_at dksX2_see_0 4 rfl rfl)
theorem dX2_see_7 : decode cX2_see 7 = .ok (.ifCond .eq 17, 3) := dk_153 0 17 (dk_at dksX2_see_0 7 rfl rfl)
theorem dX2_see_10 : decode cX2_see 10 = .ok (.aload_n 0, 1) := dk_42 (dk_at dksX2_see_0 10 rfl rfl)
theorem dX2_see_11 : decode cX2_see 11 = .ok (.iload 4, 2) := dk_21 4 (dk_at dksX2_see_0 11 rfl rfl)
theorem dX2_see_13 : decode cX2_see 13 = .ok (.invokevirtual 195, 3) := dk_182 0 195 (dk_at dksX2_see_0 13 rfl rfl)
theorem dX2_see_16 : decode cX2_see 16 = .ok (.ifCond .eq 8, 3) := dk_153 0 8 (dk_at dksX2_see_0 16 rfl rfl)
theorem dX2_see_19 : decode cX2_see 19 = .ok (.iload_n 2, 1) := dk_28 (dk_at dksX2_see_0 19 rfl rfl)
theorem dX2_see_20 : decode cX2_see 20 = .ok (.iload_n 3, 1) := dk_29 (dk_at dksX2_see_0 20 rfl rfl)
theorem dX2_see_21 : decode cX2_see 21 = .ok (.if_icmp .ne 6, 3) := dk_160 0 6 (dk_at dksX2_see_0 21 rfl rfl)
theorem dX2_see_24 : decode cX2_see 24 = .ok (.bipush (-101), 2) := dk_16 155 (dk_at dksX2_see_1 0 rfl rfl)
theorem dX2_see_26 : decode cX2_see 26 = .ok (.ireturn, 1) := dk_172 (dk_at dksX2_see_1 2 rfl rfl)
theorem dX2_see_27 : decode cX2_see 27 = .ok (.aload_n 0, 1) := dk_42 (dk_at dksX2_see_1 3 rfl rfl)
theorem dX2_see_28 : decode cX2_see 28 = .ok (.getfield 107, 3) := dk_180 0 107 (dk_at dksX2_see_1 4 rfl rfl)
theorem dX2_see_31 : decode cX2_see 31 = .ok (.bipush 6, 2) := dk_16 6 (dk_at dksX2_see_1 7 rfl rfl)
theorem dX2_see_33 : decode cX2_see 33 = .ok (.if_icmp .ne 6, 3) := dk_160 0 6 (dk_at dksX2_see_1 9 rfl rfl)
theorem dX2_see_36 : decode cX2_see 36 = .ok (.bipush (-104), 2) := dk_16 152 (dk_at dksX2_see_1 12 rfl rfl)
theorem dX2_see_38 : decode cX2_see 38 = .ok (.ireturn, 1) := dk_172 (dk_at dksX2_see_1 14 rfl rfl)
theorem dX2_see_39 : decode cX2_see 39 = .ok (.aload_n 0, 1) := dk_42 (dk_at dksX2_see_1 15 rfl rfl)
theorem dX2_see_40 : decode cX2_see 40 = .ok (.getfield 37, 3) := dk_180 0 37 (dk_at dksX2_see_1 16 rfl rfl)
theorem dX2_see_43 : decode cX2_see 43 = .ok (.iconst 4, 1) := dk_7 (dk_at dksX2_see_1 19 rfl rfl)
theorem dX2_see_44 : decode cX2_see 44 = .ok (.aload_n 0, 1) := dk_42 (dk_at dksX2_see_1 20 rfl rfl)
theorem dX2_see_45 : decode cX2_see 45 = .ok (.getfield 107, 3) := dk_180 0 107 (dk_at dksX2_see_1 21 rfl rfl)
theorem dX2_see_48 : decode cX2_see 48 = .ok (.imul, 1) := dk_104 (dk_at dksX2_see_2 0 rfl rfl)
theorem dX2_see_49 : decode cX2_see 49 = .ok (.iload_n 1, 1) := dk_27 (dk_at dksX2_see_2 1 rfl rfl)
theorem dX2_see_50 : decode cX2_see 50 = .ok (.iastore, 1) := dk_79 (dk_at dksX2_see_2 2 rfl rfl)
theorem dX2_see_51 : decode cX2_see 51 = .ok (.aload_n 0, 1) := dk_42 (dk_at dksX2_see_2 3 rfl rfl)
theorem dX2_see_52 : decode cX2_see 52 = .ok (.getfield 37, 3) := dk_180 0 37 (dk_at dksX2_see_2 4 rfl rfl)
theorem dX2_see_55 : decode cX2_see 55 = .ok (.iconst 4, 1) := dk_7 (dk_at dksX2_see_2 7 rfl rfl)
theorem dX2_see_56 : decode cX2_see 56 = .ok (.aload_n 0, 1) := dk_42 (dk_at dksX2_see_2 8 rfl rfl)
theorem dX2_see_57 : decode cX2_see 57 = .ok (.getfield 107, 3) := dk_180 0 107 (dk_at dksX2_see_2 9 rfl rfl)
theorem dX2_see_60 : decode cX2_see 60 = .ok (.imul, 1) := dk_104 (dk_at dksX2_see_2 12 rfl rfl)
theorem dX2_see_61 : decode cX2_see 61 = .ok (.iconst 1, 1) := dk_4 (dk_at dksX2_see_2 13 rfl rfl)
theorem dX2_see_62 : decode cX2_see 62 = .ok (.iadd, 1) := dk_96 (dk_at dksX2_see_2 14 rfl rfl)
theorem dX2_see_63 : decode cX2_see 63 = .ok (.iload_n 2, 1) := dk_28 (dk_at dksX2_see_2 15 rfl rfl)
theorem dX2_see_64 : decode cX2_see 64 = .ok (.iastore, 1) := dk_79 (dk_at dksX2_see_2 16 rfl rfl)
theorem dX2_see_65 : decode cX2_see 65 = .ok (.aload_n 0, 1) := dk_42 (dk_at dksX2_see_2 17 rfl rfl)
theorem dX2_see_66 : decode cX2_see 66 = .ok (.getfield 37, 3) := dk_180 0 37 (dk_at dksX2_see_2 18 rfl rfl)
theorem dX2_see_69 : decode cX2_see 69 = .ok (.iconst 4, 1) := dk_7 (dk_at dksX2_see_2 21 rfl rfl)
theorem dX2_see_70 : decode cX2_see 70 = .ok (.aload_n 0, 1) := dk_42 (dk_at dksX2_see_2 22 rfl rfl)
theorem dX2_see_71 : decode cX2_see 71 = .ok (.getfield 107, 3) := dk_180 0 107 (dk_at dksX2_see_3 0 rfl rfl)
theorem dX2_see_74 : decode cX2_see 74 = .ok (.imul, 1) := dk_104 (dk_at dksX2_see_3 3 rfl rfl)
theorem dX2_see_75 : decode cX2_see 75 = .ok (.iconst 2, 1) := dk_5 (dk_at dksX2_see_3 4 rfl rfl)
theorem dX2_see_76 : decode cX2_see 76 = .ok (.iadd, 1) := dk_96 (dk_at dksX2_see_3 5 rfl rfl)
theorem dX2_see_77 : decode cX2_see 77 = .ok (.iload_n 3, 1) := dk_29 (dk_at dksX2_see_3 6 rfl rfl)
theorem dX2_see_78 : decode cX2_see 78 = .ok (.iastore, 1) := dk_79 (dk_at dksX2_see_3 7 rfl rfl)
theorem dX2_see_79 : decode cX2_see 79 = .ok (.aload_n 0, 1) := dk_42 (dk_at dksX2_see_3 8 rfl rfl)
theorem dX2_see_80 : decode cX2_see 80 = .ok (.getfield 37, 3) := dk_180 0 37 (dk_at dksX2_see_3 9 rfl rfl)
theorem dX2_see_83 : decode cX2_see 83 = .ok (.iconst 4, 1) := dk_7 (dk_at dksX2_see_3 12 rfl rfl)
theorem dX2_see_84 : decode cX2_see 84 = .ok (.aload_n 0, 1) := dk_42 (dk_at dksX2_see_3 13 rfl rfl)
theorem dX2_see_85 : decode cX2_see 85 = .ok (.getfield 107, 3) := dk_180 0 107 (dk_at dksX2_see_3 14 rfl rfl)
theorem dX2_see_88 : decode cX2_see 88 = .ok (.imul, 1) := dk_104 (dk_at dksX2_see_3 17 rfl rfl)
theorem dX2_see_89 : decode cX2_see 89 = .ok (.iconst 3, 1) := dk_6 (dk_at dksX2_see_3 18 rfl rfl)
theorem dX2_see_90 : decode cX2_see 90 = .ok (.iadd, 1) := dk_96 (dk_at dksX2_see_3 19 rfl rfl)
theorem dX2_see_91 : decode cX2_see 91 = .ok (.iload 4, 2) := dk_21 4 (dk_at dksX2_see_3 20 rfl rfl)
theorem dX2_see_93 : decode cX2_see 93 = .ok (.iastore, 1) := dk_79 (dk_at dksX2_see_3 22 rfl rfl)
theorem dX2_see_94 : decode cX2_see 94 = .ok (.aload_n 0, 1) := dk_42 (dk_at dksX2_see_3 23 rfl rfl)
theorem dX2_see_95 : decode cX2_see 95 = .ok (.dup, 1) := dk_89 (dk_at dksX2_see_4 0 rfl rfl)
theorem dX2_see_96 : decode cX2_see 96 = .ok (.getfield 107, 3) := dk_180 0 107 (dk_at dksX2_see_4 1 rfl rfl)
theorem dX2_see_99 : decode cX2_see 99 = .ok (.iconst 1, 1) := dk_4 (dk_at dksX2_see_4 4 rfl rfl)
theorem dX2_see_100 : decode cX2_see 100 = .ok (.iadd, 1) := dk_96 (dk_at dksX2_see_4 5 rfl rfl)
theorem dX2_see_101 : decode cX2_see 101 = .ok (.putfield 107, 3) := dk_181 0 107 (dk_at dksX2_see_4 6 rfl rfl)
theorem dX2_see_104 : decode cX2_see 104 = .ok (.aload_n 0, 1) := dk_42 (dk_at dksX2_see_4 9 rfl rfl)
theorem dX2_see_105 : decode cX2_see 105 = .ok (.getfield 107, 3) := dk_180 0 107 (dk_at dksX2_see_4 10 rfl rfl)
theorem dX2_see_108 : decode cX2_see 108 = .ok (.ireturn, 1) := dk_172 (dk_at dksX2_see_4 13 rfl rfl)
abbrev cX2_forget : ByteArray := prog_11_method_62_code
def yX2_forget : MethodName := ⟨RX2, "forget", "()I"⟩
def dkwX2_forget_0 : List UInt8 := [42, 180, 0, 107, 60, 42, 3, 181, 0, 107, 27, 172]
abbrev dktX2_forget_0 : List UInt8 := dkwX2_forget_0 ++ []
theorem dksX2_forget_0 : cX2_forget.data.toList.drop 0 = dktX2_forget_0 := by decide +kernel
theorem dX2_forget_0 : decode cX2_forget 0 = .ok (.aload_n 0, 1) := dk_42 (dk_at dksX2_forget_0 0 rfl rfl)
theorem dX2_forget_1 : decode cX2_forget 1 = .ok (.getfield 107, 3) := dk_180 0 107 (dk_at dksX2_forget_0 1 rfl rfl)
theorem dX2_forget_4 : decode cX2_forget 4 = .ok (.istore_n 1, 1) := dk_60 (dk_at dksX2_forget_0 4 rfl rfl)
theorem dX2_forget_5 : decode cX2_forget 5 = .ok (.aload_n 0, 1) := dk_42 (dk_at dksX2_forget_0 5 rfl rfl)
theorem dX2_forget_6 : decode cX2_forget 6 = .ok (.iconst 0, 1) := dk_3 (dk_at dksX2_forget_0 6 rfl rfl)
theorem dX2_forget_7 : decode cX2_forget 7 = .ok (.putfield 107, 3) := dk_181 0 107 (dk_at dksX2_forget_0 7 rfl rfl)
theorem dX2_forget_10 : decode cX2_forget 10 = .ok (.iload_n 1, 1) := dk_27 (dk_at dksX2_forget_0 10 rfl rfl)
theorem dX2_forget_11 : decode cX2_forget 11 = .ok (.ireturn, 1) := dk_172 (dk_at dksX2_forget_0 11 rfl rfl)
abbrev cX2_watch : ByteArray := prog_11_method_66_code
def yX2_watch : MethodName := ⟨RX2, "watch", "(II)I"⟩
def dkwX2_watch_1 : List UInt8 := [16, 155, 172]
abbrev dktX2_watch_1 : List UInt8 := dkwX2_watch_1 ++ []
def dkwX2_watch_0 : List UInt8 := [42, 27, 182, 0, 145, 153, 0, 19, 28, 184, 0, 148, 153, 0, 12, 42, 27, 28, 182, 0, 243, 167, 0, 5]
abbrev dktX2_watch_0 : List UInt8 := dkwX2_watch_0 ++ dktX2_watch_1
theorem dksX2_watch_0 : cX2_watch.data.toList.drop 0 = dktX2_watch_0 := by decide +kernel
theorem dksX2_watch_1 : cX2_watch.data.toList.drop 24 = dktX2_watch_1 := dk_seg dksX2_watch_0 24 rfl rfl
theorem dX2_watch_0 : decode cX2_watch 0 = .ok (.aload_n 0, 1) := dk_42 (dk_at dksX2_watch_0 0 rfl rfl)
theorem dX2_watch_1 : decode cX2_watch 1 = .ok (.iload_n 1, 1) := dk_27 (dk_at dksX2_watch_0 1 rfl rfl)
theorem dX2_watch_2 : decode cX2_watch 2 = .ok (.invokevirtual 145, 3) := dk_182 0 145 (dk_at dksX2_watch_0 2 rfl rfl)
theorem dX2_watch_5 : decode cX2_watch 5 = .ok (.ifCond .eq 19, 3) := dk_153 0 19 (dk_at dksX2_watch_0 5 rfl rfl)
theorem dX2_watch_8 : decode cX2_watch 8 = .ok (.iload_n 2, 1) := dk_28 (dk_at dksX2_watch_0 8 rfl rfl)
theorem dX2_watch_9 : decode cX2_watch 9 = .ok (.invokestatic 148, 3) := dk_184 0 148 (dk_at dksX2_watch_0 9 rfl rfl)
theorem dX2_watch_12 : decode cX2_watch 12 = .ok (.ifCond .eq 12, 3) := dk_153 0 12 (dk_at dksX2_watch_0 12 rfl rfl)
theorem dX2_watch_15 : decode cX2_watch 15 = .ok (.aload_n 0, 1) := dk_42 (dk_at dksX2_watch_0 15 rfl rfl)
theorem dX2_watch_16 : decode cX2_watch 16 = .ok (.iload_n 1, 1) := dk_27 (dk_at dksX2_watch_0 16 rfl rfl)
theorem dX2_watch_17 : decode cX2_watch 17 = .ok (.iload_n 2, 1) := dk_28 (dk_at dksX2_watch_0 17 rfl rfl)
theorem dX2_watch_18 : decode cX2_watch 18 = .ok (.invokevirtual 243, 3) := dk_182 0 243 (dk_at dksX2_watch_0 18 rfl rfl)
theorem dX2_watch_21 : decode cX2_watch 21 = .ok (.goto 5, 3) := dk_167 0 5 (dk_at dksX2_watch_0 21 rfl rfl)
theorem dX2_watch_24 : decode cX2_watch 24 = .ok (.bipush (-101), 2) := dk_16 155 (dk_at dksX2_watch_1 0 rfl rfl)
theorem dX2_watch_26 : decode cX2_watch 26 = .ok (.ireturn, 1) := dk_172 (dk_at dksX2_watch_1 2 rfl rfl)
abbrev cX2_watchOf : ByteArray := prog_11_method_65_code
def yX2_watchOf : MethodName := ⟨RX2, "watchOf", "(II)I"⟩
def dkwX2_watchOf_7 : List UInt8 := [162, 0, 8, 21, 7, 167, 0, 5, 21, 5, 54, 5, 132, 6, 1, 167, 255, 93, 21, 4, 172]
abbrev dktX2_watchOf_7 : List UInt8 := dkwX2_watchOf_7 ++ []
def dkwX2_watchOf_6 : List UInt8 := [162, 0, 8, 21, 6, 167, 0, 5, 21, 4, 54, 4, 21, 6, 28, 159, 0, 15, 21, 7, 21, 5]
abbrev dktX2_watchOf_6 : List UInt8 := dkwX2_watchOf_6 ++ dktX2_watchOf_7
def dkwX2_watchOf_5 : List UInt8 := [167, 0, 5, 21, 7, 54, 7, 132, 8, 1, 167, 255, 184, 21, 6, 28, 159, 0, 15, 21, 7, 21, 5]
abbrev dktX2_watchOf_5 : List UInt8 := dkwX2_watchOf_5 ++ dktX2_watchOf_6
def dkwX2_watchOf_4 : List UInt8 := [4, 126, 96, 79, 42, 180, 0, 40, 21, 9, 46, 21, 7, 164, 0, 13, 42, 180, 0, 40, 21, 9, 46]
abbrev dktX2_watchOf_4 : List UInt8 := dkwX2_watchOf_4 ++ dktX2_watchOf_5
def dkwX2_watchOf_3 : List UInt8 := [21, 8, 28, 21, 6, 182, 0, 240, 4, 96, 54, 9, 42, 180, 0, 40, 21, 9, 92, 46, 29, 21, 8, 122]
abbrev dktX2_watchOf_3 : List UInt8 := dkwX2_watchOf_3 ++ dktX2_watchOf_4
def dkwX2_watchOf_2 : List UInt8 := [167, 255, 238, 3, 54, 7, 3, 54, 8, 21, 8, 16, 10, 162, 0, 71, 21, 6, 28, 159, 0, 65, 42, 27]
abbrev dktX2_watchOf_2 : List UInt8 := dkwX2_watchOf_2 ++ dktX2_watchOf_3
def dkwX2_watchOf_1 : List UInt8 := [153, 0, 158, 3, 54, 7, 21, 7, 16, 10, 162, 0, 17, 42, 180, 0, 40, 21, 7, 3, 79, 132, 7, 1]
abbrev dktX2_watchOf_1 : List UInt8 := dkwX2_watchOf_1 ++ dktX2_watchOf_2
def dkwX2_watchOf_0 : List UInt8 := [42, 27, 182, 0, 184, 62, 2, 54, 4, 16, 11, 54, 5, 3, 54, 6, 21, 6, 16, 8, 162, 0, 162, 29]
abbrev dktX2_watchOf_0 : List UInt8 := dkwX2_watchOf_0 ++ dktX2_watchOf_1
theorem dksX2_watchOf_0 : cX2_watchOf.data.toList.drop 0 = dktX2_watchOf_0 := by decide +kernel
theorem dksX2_watchOf_1 : cX2_watchOf.data.toList.drop 24 = dktX2_watchOf_1 := dk_seg dksX2_watchOf_0 24 rfl rfl
theorem dksX2_watchOf_2 : cX2_watchOf.data.toList.drop 48 = dktX2_watchOf_2 := dk_seg dksX2_watchOf_1 24 rfl rfl
theorem dksX2_watchOf_3 : cX2_watchOf.data.toList.drop 72 = dktX2_watchOf_3 := dk_seg dksX2_watchOf_2 24 rfl rfl
theorem dksX2_watchOf_4 : cX2_watchOf.data.toList.drop 96 = dktX2_watchOf_4 := dk_seg dksX2_watchOf_3 24 rfl rfl
theorem dksX2_watchOf_5 : cX2_watchOf.data.toList.drop 119 = dktX2_watchOf_5 := dk_seg dksX2_watchOf_4 23 rfl rfl
theorem dksX2_watchOf_6 : cX2_watchOf.data.toList.drop 142 = dktX2_watchOf_6 := dk_seg dksX2_watchOf_5 23 rfl rfl
theorem dksX2_watchOf_7 : cX2_watchOf.data.toList.drop 164 = dktX2_watchOf_7 := dk_seg dksX2_watchOf_6 22 rfl rfl
theorem dX2_watchOf_0 : decode cX2_watchOf 0 = .ok (.aload_n 0, 1) := dk_42 (dk_at dksX2_watchOf_0 0 rfl rfl)
theorem dX2_watchOf_1 : decode cX2_watchOf 1 = .ok (.iload_n 1, 1) := dk_27 (dk_at dksX2_watchOf_0 1 rfl rfl)
theorem dX2_watchOf_2 : decode cX2_watchOf 2 = .ok (.invokevirtual 184, 3) := dk_182 0 184 (dk_at dksX2_watchOf_0 2 rfl rfl)
theorem dX2_watchOf_5 : decode cX2_watchOf 5 = .ok (.istore_n 3, 1) := dk_62 (dk_at dksX2_watchOf_0 5 rfl rfl)
theorem dX2_watchOf_6 : decode cX2_watchOf 6 = .ok (.iconst (-1), 1) := dk_2 (dk_at dksX2_watchOf_0 6 rfl rfl)
theorem dX2_watchOf_7 : decode cX2_watchOf 7 = .ok (.istore 4, 2) := dk_54 4 (dk_at dksX2_watchOf_0 7 rfl rfl)
theorem dX2_watchOf_9 : decode cX2_watchOf 9 = .ok (.bipush 11, 2) := dk_16 11 (dk_at dksX2_watchOf_0 9 rfl rfl)
theorem dX2_watchOf_11 : decode cX2_watchOf 11 = .ok (.istore 5, 2) := dk_54 5 (dk_at dksX2_watchOf_0 11 rfl rfl)
theorem dX2_watchOf_13 : decode cX2_watchOf 13 = .ok (.iconst 0, 1) := dk_3 (dk_at dksX2_watchOf_0 13 rfl rfl)
theorem dX2_watchOf_14 : decode cX2_watchOf 14 = .ok (.istore 6, 2) := dk_54 6 (dk_at dksX2_watchOf_0 14 rfl rfl)
theorem dX2_watchOf_16 : decode cX2_watchOf 16 = .ok (.iload 6, 2) := dk_21 6 (dk_at dksX2_watchOf_0 16 rfl rfl)
theorem dX2_watchOf_18 : decode cX2_watchOf 18 = .ok (.bipush 8, 2) := dk_16 8 (dk_at dksX2_watchOf_0 18 rfl rfl)
theorem dX2_watchOf_20 : decode cX2_watchOf 20 = .ok (.if_icmp .ge 162, 3) := dk_162 0 162 (dk_at dksX2_watchOf_0 20 rfl rfl)
theorem dX2_watchOf_23 : decode cX2_watchOf 23 = .ok (.iload_n 3, 1) := dk_29 (dk_at dksX2_watchOf_0 23 rfl rfl)
theorem dX2_watchOf_24 : decode cX2_watchOf 24 = .ok (.ifCond .eq 158, 3) := dk_153 0 158 (dk_at dksX2_watchOf_1 0 rfl rfl)
theorem dX2_watchOf_27 : decode cX2_watchOf 27 = .ok (.iconst 0, 1) := dk_3 (dk_at dksX2_watchOf_1 3 rfl rfl)
theorem dX2_watchOf_28 : decode cX2_watchOf 28 = .ok (.istore 7, 2) := dk_54 7 (dk_at dksX2_watchOf_1 4 rfl rfl)
theorem dX2_watchOf_30 : decode cX2_watchOf 30 = .ok (.iload 7, 2) := dk_21 7 (dk_at dksX2_watchOf_1 6 rfl rfl)
theorem dX2_watchOf_32 : decode cX2_watchOf 32 = .ok (.bipush 10, 2) := dk_16 10 (dk_at dksX2_watchOf_1 8 rfl rfl)
theorem dX2_watchOf_34 : decode cX2_watchOf 34 = .ok (.if_icmp .ge 17, 3) := dk_162 0 17 (dk_at dksX2_watchOf_1 10 rfl rfl)
theorem dX2_watchOf_37 : decode cX2_watchOf 37 = .ok (.aload_n 0, 1) := dk_42 (dk_at dksX2_watchOf_1 13 rfl rfl)
theorem dX2_watchOf_38 : decode cX2_watchOf 38 = .ok (.getfield 40, 3) := dk_180 0 40 (dk_at dksX2_watchOf_1 14 rfl rfl)
theorem dX2_watchOf_41 : decode cX2_watchOf 41 = .ok (.iload 7, 2) := dk_21 7 (dk_at dksX2_watchOf_1 17 rfl rfl)
theorem dX2_watchOf_43 : decode cX2_watchOf 43 = .ok (.iconst 0, 1) := dk_3 (dk_at dksX2_watchOf_1 19 rfl rfl)
theorem dX2_watchOf_44 : decode cX2_watchOf 44 = .ok (.iastore, 1) := dk_79 (dk_at dksX2_watchOf_1 20 rfl rfl)
theorem dX2_watchOf_45 : decode cX2_watchOf 45 = .ok (.iinc 7 1, 3) := dk_132 7 1 (dk_at dksX2_watchOf_1 21 rfl rfl)
theorem dX2_watchOf_48 : decode cX2_watchOf 48 = .ok (.goto (-18), 3) := dk_167 255 238 (dk_at dksX2_watchOf_2 0 rfl rfl)
theorem dX2_watchOf_51 : decode cX2_watchOf 51 = .ok (.iconst 0, 1) := dk_3 (dk_at dksX2_watchOf_2 3 rfl rfl)
theorem dX2_watchOf_52 : decode cX2_watchOf 52 = .ok (.istore 7, 2) := dk_54 7 (dk_at dksX2_watchOf_2 4 rfl rfl)
theorem dX2_watchOf_54 : decode cX2_watchOf 54 = .ok (.iconst 0, 1) := dk_3 (dk_at dksX2_watchOf_2 6 rfl rfl)
theorem dX2_watchOf_55 : decode cX2_watchOf 55 = .ok (.istore 8, 2) := dk_54 8 (dk_at dksX2_watchOf_2 7 rfl rfl)
theorem dX2_watchOf_57 : decode cX2_watchOf 57 = .ok (.iload 8, 2) := dk_21 8 (dk_at dksX2_watchOf_2 9 rfl rfl)
theorem dX2_watchOf_59 : decode cX2_watchOf 59 = .ok (.bipush 10, 2) := dk_16 10 (dk_at dksX2_watchOf_2 11 rfl rfl)
theorem dX2_watchOf_61 : decode cX2_watchOf 61 = .ok (.if_icmp .ge 71, 3) := dk_162 0 71 (dk_at dksX2_watchOf_2 13 rfl rfl)
theorem dX2_watchOf_64 : decode cX2_watchOf 64 = .ok (.iload 6, 2) := dk_21 6 (dk_at dksX2_watchOf_2 16 rfl rfl)
theorem dX2_watchOf_66 : decode cX2_watchOf 66 = .ok (.iload_n 2, 1) := dk_28 (dk_at dksX2_watchOf_2 18 rfl rfl)
theorem dX2_watchOf_67 : decode cX2_watchOf 67 = .ok (.if_icmp .eq 65, 3) := dk_159 0 65 (dk_at dksX2_watchOf_2 19 rfl rfl)
theorem dX2_watchOf_70 : decode cX2_watchOf 70 = .ok (.aload_n 0, 1) := dk_42 (dk_at dksX2_watchOf_2 22 rfl rfl)
theorem dX2_watchOf_71 : decode cX2_watchOf 71 = .ok (.iload_n 1, 1) := dk_27 (dk_at dksX2_watchOf_2 23 rfl rfl)
theorem dX2_watchOf_72 : decode cX2_watchOf 72 = .ok (.iload 8, 2) := dk_21 8 (dk_at dksX2_watchOf_3 0 rfl rfl)
theorem dX2_watchOf_74 : decode cX2_watchOf 74 = .ok (.iload_n 2, 1) := dk_28 (dk_at dksX2_watchOf_3 2 rfl rfl)
theorem dX2_watchOf_75 : decode cX2_watchOf 75 = .ok (.iload 6, 2) := dk_21 6 (dk_at dksX2_watchOf_3 3 rfl rfl)
theorem dX2_watchOf_77 : decode cX2_watchOf 77 = .ok (.invokevirtual 240, 3) := dk_182 0 240 (dk_at dksX2_watchOf_3 5 rfl rfl)
theorem dX2_watchOf_80 : decode cX2_watchOf 80 = .ok (.iconst 1, 1) := dk_4 (dk_at dksX2_watchOf_3 8 rfl rfl)
theorem dX2_watchOf_81 : decode cX2_watchOf 81 = .ok (.iadd, 1) := dk_96 (dk_at dksX2_watchOf_3 9 rfl rfl)
theorem dX2_watchOf_82 : decode cX2_watchOf 82 = .ok (.istore 9, 2) := dk_54 9 (dk_at dksX2_watchOf_3 10 rfl rfl)
theorem dX2_watchOf_84 : decode cX2_watchOf 84 = .ok (.aload_n 0, 1) := dk_42 (dk_at dksX2_watchOf_3 12 rfl rfl)
theorem dX2_watchOf_85 : decode cX2_watchOf 85 = .ok (.getfield 40, 3) := dk_180 0 40 (dk_at dksX2_watchOf_3 13 rfl rfl)
theorem dX2_watchOf_88 : decode cX2_watchOf 88 = .ok (.iload 9, 2) := dk_21 9 (dk_at dksX2_watchOf_3 16 rfl rfl)
theorem dX2_watchOf_90 : decode cX2_watchOf 90 = .ok (.dup2, 1) := dk_92 (dk_at dksX2_watchOf_3 18 rfl rfl)
theorem dX2_watchOf_91 : decode cX2_watchOf 91 = .ok (.iaload, 1) := dk_46 (dk_at dksX2_watchOf_3 19 rfl rfl)
theorem dX2_watchOf_92 : decode cX2_watchOf 92 = .ok (.iload_n 3, 1) := dk_29 (dk_at dksX2_watchOf_3 20 rfl rfl)
theorem dX2_watchOf_93 : decode cX2_watchOf 93 = .ok (.iload 8, 2) := dk_21 8 (dk_at dksX2_watchOf_3 21 rfl rfl)
theorem dX2_watchOf_95 : decode cX2_watchOf 95 = .ok (.ishr, 1) := dk_122 (dk_at dksX2_watchOf_3 23 rfl rfl)
theorem dX2_watchOf_96 : decode cX2_watchOf 96 = .ok (.iconst 1, 1) := dk_4 (dk_at dksX2_watchOf_4 0 rfl rfl)
theorem dX2_watchOf_97 : decode cX2_watchOf 97 = .ok (.iand, 1) := dk_126 (dk_at dksX2_watchOf_4 1 rfl rfl)
theorem dX2_watchOf_98 : decode cX2_watchOf 98 = .ok (.iadd, 1) := dk_96 (dk_at dksX2_watchOf_4 2 rfl rfl)
theorem dX2_watchOf_99 : decode cX2_watchOf 99 = .ok (.iastore, 1) := dk_79 (dk_at dksX2_watchOf_4 3 rfl rfl)
theorem dX2_watchOf_100 : decode cX2_watchOf 100 = .ok (.aload_n 0, 1) := dk_42 (dk_at dksX2_watchOf_4 4 rfl rfl)
theorem dX2_watchOf_101 : decode cX2_watchOf 101 = .ok (.getfield 40, 3) := dk_180 0 40 (dk_at dksX2_watchOf_4 5 rfl rfl)
theorem dX2_watchOf_104 : decode cX2_watchOf 104 = .ok (.iload 9, 2) := dk_21 9 (dk_at dksX2_watchOf_4 8 rfl rfl)
theorem dX2_watchOf_106 : decode cX2_watchOf 106 = .ok (.iaload, 1) := dk_46 (dk_at dksX2_watchOf_4 10 rfl rfl)
theorem dX2_watchOf_107 : decode cX2_watchOf 107 = .ok (.iload 7, 2) := dk_21 7 (dk_at dksX2_watchOf_4 11 rfl rfl)
theorem dX2_watchOf_109 : decode cX2_watchOf 109 = .ok (.if_icmp .le 13, 3) := dk_164 0 13 (dk_at dksX2_watchOf_4 13 rfl rfl)
theorem dX2_watchOf_112 : decode cX2_watchOf 112 = .ok (.aload_n 0, 1) := dk_42 (dk_at dksX2_watchOf_4 16 rfl rfl)
theorem dX2_watchOf_113 : decode cX2_watchOf 113 = .ok (.getfield 40, 3) := dk_180 0 40 (dk_at dksX2_watchOf_4 17 rfl rfl)
theorem dX2_watchOf_116 : decode cX2_watchOf 116 = .ok (.iload 9, 2) := dk_21 9 (dk_at dksX2_watchOf_4 20 rfl rfl)
theorem dX2_watchOf_118 : decode cX2_watchOf 118 = .ok (.iaload, 1) := dk_46 (dk_at dksX2_watchOf_4 22 rfl rfl)
theorem dX2_watchOf_119 : decode cX2_watchOf 119 = .ok (.goto 5, 3) := dk_167 0 5 (dk_at dksX2_watchOf_5 0 rfl rfl)
theorem dX2_watchOf_122 : decode cX2_watchOf 122 = .ok (.iload 7, 2) := dk_21 7 (dk_at dksX2_watchOf_5 3 rfl rfl)
theorem dX2_watchOf_124 : decode cX2_watchOf 124 = .ok (.istore 7, 2) := dk_54 7 (dk_at dksX2_watchOf_5 5 rfl rfl)
theorem dX2_watchOf_126 : decode cX2_watchOf 126 = .ok (.iinc 8 1, 3) := dk_132 8 1 (dk_at dksX2_watchOf_5 7 rfl rfl)
theorem dX2_watchOf_129 : decode cX2_watchOf 129 = .ok (.goto (-72), 3) := dk_167 255 184 (dk_at dksX2_watchOf_5 10 rfl rfl)
theorem dX2_watchOf_132 : decode cX2_watchOf 132 = .ok (.iload 6, 2) := dk_21 6 (dk_at dksX2_watchOf_5 13 rfl rfl)
theorem dX2_watchOf_134 : decode cX2_watchOf 134 = .ok (.iload_n 2, 1) := dk_28 (dk_at dksX2_watchOf_5 15 rfl rfl)
theorem dX2_watchOf_135 : decode cX2_watchOf 135 = .ok (.if_icmp .eq 15, 3) := dk_159 0 15 (dk_at dksX2_watchOf_5 16 rfl rfl)
theorem dX2_watchOf_138 : decode cX2_watchOf 138 = .ok (.iload 7, 2) := dk_21 7 (dk_at dksX2_watchOf_5 19 rfl rfl)
theorem dX2_watchOf_140 : decode cX2_watchOf 140 = .ok (.iload 5, 2) := dk_21 5 (dk_at dksX2_watchOf_5 21 rfl rfl)
theorem dX2_watchOf_142 : decode cX2_watchOf 142 = .ok (.if_icmp .ge 8, 3) := dk_162 0 8 (dk_at dksX2_watchOf_6 0 rfl rfl)
theorem dX2_watchOf_145 : decode cX2_watchOf 145 = .ok (.iload 6, 2) := dk_21 6 (dk_at dksX2_watchOf_6 3 rfl rfl)
theorem dX2_watchOf_147 : decode cX2_watchOf 147 = .ok (.goto 5, 3) := dk_167 0 5 (dk_at dksX2_watchOf_6 5 rfl rfl)
theorem dX2_watchOf_150 : decode cX2_watchOf 150 = .ok (.iload 4, 2) := dk_21 4 (dk_at dksX2_watchOf_6 8 rfl rfl)
theorem dX2_watchOf_152 : decode cX2_watchOf 152 = .ok (.istore 4, 2) := dk_54 4 (dk_at dksX2_watchOf_6 10 rfl rfl)
theorem dX2_watchOf_154 : decode cX2_watchOf 154 = .ok (.iload 6, 2) := dk_21 6 (dk_at dksX2_watchOf_6 12 rfl rfl)
theorem dX2_watchOf_156 : decode cX2_watchOf 156 = .ok (.iload_n 2, 1) := dk_28 (dk_at dksX2_watchOf_6 14 rfl rfl)
theorem dX2_watchOf_157 : decode cX2_watchOf 157 = .ok (.if_icmp .eq 15, 3) := dk_159 0 15 (dk_at dksX2_watchOf_6 15 rfl rfl)
theorem dX2_watchOf_160 : decode cX2_watchOf 160 = .ok (.iload 7, 2) := dk_21 7 (dk_at dksX2_watchOf_6 18 rfl rfl)
theorem dX2_watchOf_162 : decode cX2_watchOf 162 = .ok (.iload 5, 2) := dk_21 5 (dk_at dksX2_watchOf_6 20 rfl rfl)
theorem dX2_watchOf_164 : decode cX2_watchOf 164 = .ok (.if_icmp .ge 8, 3) := dk_162 0 8 (dk_at dksX2_watchOf_7 0 rfl rfl)
theorem dX2_watchOf_167 : decode cX2_watchOf 167 = .ok (.iload 7, 2) := dk_21 7 (dk_at dksX2_watchOf_7 3 rfl rfl)
theorem dX2_watchOf_169 : decode cX2_watchOf 169 = .ok (.goto 5, 3) := dk_167 0 5 (dk_at dksX2_watchOf_7 5 rfl rfl)
theorem dX2_watchOf_172 : decode cX2_watchOf 172 = .ok (.iload 5, 2) := dk_21 5 (dk_at dksX2_watchOf_7 8 rfl rfl)
theorem dX2_watchOf_174 : decode cX2_watchOf 174 = .ok (.istore 5, 2) := dk_54 5 (dk_at dksX2_watchOf_7 10 rfl rfl)
theorem dX2_watchOf_176 : decode cX2_watchOf 176 = .ok (.iinc 6 1, 3) := dk_132 6 1 (dk_at dksX2_watchOf_7 12 rfl rfl)
theorem dX2_watchOf_179 : decode cX2_watchOf 179 = .ok (.goto (-163), 3) := dk_167 255 93 (dk_at dksX2_watchOf_7 15 rfl rfl)
theorem dX2_watchOf_182 : decode cX2_watchOf 182 = .ok (.iload 4, 2) := dk_21 4 (dk_at dksX2_watchOf_7 18 rfl rfl)
theorem dX2_watchOf_184 : decode cX2_watchOf 184 = .ok (.ireturn, 1) := dk_172 (dk_at dksX2_watchOf_7 20 rfl rfl)
abbrev cX2_years : ByteArray := prog_11_method_68_code
def yX2_years : MethodName := ⟨RX2, "years", "(III)I"⟩
def dkwX2_years_8 : List UInt8 := [160, 0, 8, 21, 5, 167, 0, 7, 42, 180, 0, 248, 172]
abbrev dktX2_years_8 : List UInt8 := dkwX2_years_8 ++ []
def dkwX2_years_7 : List UInt8 := [42, 180, 0, 43, 42, 180, 0, 19, 184, 1, 2, 29, 154, 0, 8, 21, 4, 167, 0, 17, 29, 4]
abbrev dktX2_years_7 : List UInt8 := dkwX2_years_7 ++ dktX2_years_8
def dkwX2_years_6 : List UInt8 := [21, 8, 46, 17, 3, 232, 108, 96, 54, 5, 42, 21, 7, 21, 10, 182, 0, 229, 132, 6, 1, 167, 255, 161]
abbrev dktX2_years_6 : List UInt8 := dkwX2_years_6 ++ dktX2_years_7
def dkwX2_years_5 : List UInt8 := [182, 0, 139, 182, 0, 142, 54, 10, 21, 10, 2, 159, 0, 30, 132, 4, 1, 21, 5, 42, 180, 0, 25]
abbrev dktX2_years_5 : List UInt8 := dkwX2_years_5 ++ dktX2_years_6
def dkwX2_years_4 : List UInt8 := [182, 1, 6, 54, 9, 21, 8, 21, 9, 160, 0, 7, 2, 167, 0, 17, 42, 21, 7, 21, 8, 21, 9, 42]
abbrev dktX2_years_4 : List UInt8 := dkwX2_years_4 ++ dktX2_years_5
def dkwX2_years_3 : List UInt8 := [162, 0, 95, 42, 42, 180, 0, 98, 182, 1, 6, 54, 7, 42, 16, 8, 182, 1, 6, 54, 8, 42, 16, 8]
abbrev dktX2_years_3 : List UInt8 := dkwX2_years_3 ++ dktX2_years_4
def dkwX2_years_2 : List UInt8 := [180, 0, 43, 184, 1, 2, 42, 28, 181, 0, 248, 3, 54, 4, 3, 54, 5, 3, 54, 6, 21, 6, 27]
abbrev dktX2_years_2 : List UInt8 := dkwX2_years_2 ++ dktX2_years_3
def dkwX2_years_1 : List UInt8 := [184, 0, 64, 154, 0, 6, 16, 154, 172, 42, 182, 0, 115, 153, 0, 6, 16, 153, 172, 42, 180, 0, 19, 42]
abbrev dktX2_years_1 : List UInt8 := dkwX2_years_1 ++ dktX2_years_2
def dkwX2_years_0 : List UInt8 := [27, 133, 10, 20, 1, 0, 184, 0, 64, 153, 0, 19, 28, 155, 0, 15, 29, 133, 9, 20, 0, 155]
abbrev dktX2_years_0 : List UInt8 := dkwX2_years_0 ++ dktX2_years_1
theorem dksX2_years_0 : cX2_years.data.toList.drop 0 = dktX2_years_0 := by decide +kernel
theorem dksX2_years_1 : cX2_years.data.toList.drop 22 = dktX2_years_1 := dk_seg dksX2_years_0 22 rfl rfl
theorem dksX2_years_2 : cX2_years.data.toList.drop 46 = dktX2_years_2 := dk_seg dksX2_years_1 24 rfl rfl
theorem dksX2_years_3 : cX2_years.data.toList.drop 69 = dktX2_years_3 := dk_seg dksX2_years_2 23 rfl rfl
theorem dksX2_years_4 : cX2_years.data.toList.drop 93 = dktX2_years_4 := dk_seg dksX2_years_3 24 rfl rfl
theorem dksX2_years_5 : cX2_years.data.toList.drop 117 = dktX2_years_5 := dk_seg dksX2_years_4 24 rfl rfl
theorem dksX2_years_6 : cX2_years.data.toList.drop 140 = dktX2_years_6 := dk_seg dksX2_years_5 23 rfl rfl
theorem dksX2_years_7 : cX2_years.data.toList.drop 164 = dktX2_years_7 := dk_seg dksX2_years_6 24 rfl rfl
theorem dksX2_years_8 : cX2_years.data.toList.drop 186 = dktX2_years_8 := dk_seg dksX2_years_7 22 rfl rfl
theorem dX2_years_0 : decode cX2_years 0 = .ok (.iload_n 1, 1) := dk_27 (dk_at dksX2_years_0 0 rfl rfl)
theorem dX2_years_1 : decode cX2_years 1 = .ok (.i2l, 1) := dk_133 (dk_at dksX2_years_0 1 rfl rfl)
theorem dX2_years_2 : decode cX2_years 2 = .ok (.lconst 1, 1) := dk_10 (dk_at dksX2_years_0 2 rfl rfl)
theorem dX2_years_3 : decode cX2_years 3 = .ok (.ldc2_w 256, 3) := dk_20 1 0 (dk_at dksX2_years_0 3 rfl rfl)
theorem dX2_years_6 : decode cX2_years 6 = .ok (.invokestatic 64, 3) := dk_184 0 64 (dk_at dksX2_years_0 6 rfl rfl)
theorem dX2_years_9 : decode cX2_years 9 = .ok (.ifCond .eq 19, 3) := dk_153 0 19 (dk_at dksX2_years_0 9 rfl rfl)
theorem dX2_years_12 : decode cX2_years 12 = .ok (.iload_n 2, 1) := dk_28 (dk_at dksX2_years_0 12 rfl rfl)
theorem dX2_years_13 : decode cX2_years 13 = .ok (.ifCond .lt 15, 3) := dk_155 0 15 (dk_at dksX2_years_0 13 rfl rfl)
theorem dX2_years_16 : decode cX2_years 16 = .ok (.iload_n 3, 1) := dk_29 (dk_at dksX2_years_0 16 rfl rfl)
theorem dX2_years_17 : decode cX2_years 17 = .ok (.i2l, 1) := dk_133 (dk_at dksX2_years_0 17 rfl rfl)
theorem dX2_years_18 : decode cX2_years 18 = .ok (.lconst 0, 1) := dk_9 (dk_at dksX2_years_0 18 rfl rfl)
theorem dX2_years_19 : decode cX2_years 19 = .ok (.ldc2_w 155, 3) := dk_20 0 155 (dk_at dksX2_years_0 19 rfl rfl)
theorem dX2_years_22 : decode cX2_years 22 = .ok (.invokestatic 64, 3) := dk_184 0 64 (dk_at dksX2_years_1 0 rfl rfl)
theorem dX2_years_25 : decode cX2_years 25 = .ok (.ifCond .ne 6, 3) := dk_154 0 6 (dk_at dksX2_years_1 3 rfl rfl)
theorem dX2_years_28 : decode cX2_years 28 = .ok (.bipush (-102), 2) := dk_16 154 (dk_at dksX2_years_1 6 rfl rfl)
theorem dX2_years_30 : decode cX2_years 30 = .ok (.ireturn, 1) := dk_172 (dk_at dksX2_years_1 8 rfl rfl)
theorem dX2_years_31 : decode cX2_years 31 = .ok (.aload_n 0, 1) := dk_42 (dk_at dksX2_years_1 9 rfl rfl)
theorem dX2_years_32 : decode cX2_years 32 = .ok (.invokevirtual 115, 3) := dk_182 0 115 (dk_at dksX2_years_1 10 rfl rfl)
theorem dX2_years_35 : decode cX2_years 35 = .ok (.ifCond .eq 6, 3) := dk_153 0 6 (dk_at dksX2_years_1 13 rfl rfl)
theorem dX2_years_38 : decode cX2_years 38 = .ok (.bipush (-103), 2) := dk_16 153 (dk_at dksX2_years_1 16 rfl rfl)
theorem dX2_years_40 : decode cX2_years 40 = .ok (.ireturn, 1) := dk_172 (dk_at dksX2_years_1 18 rfl rfl)
theorem dX2_years_41 : decode cX2_years 41 = .ok (.aload_n 0, 1) := dk_42 (dk_at dksX2_years_1 19 rfl rfl)
theorem dX2_years_42 : decode cX2_years 42 = .ok (.getfield 19, 3) := dk_180 0 19 (dk_at dksX2_years_1 20 rfl rfl)
theorem dX2_years_45 : decode cX2_years 45 = .ok (.aload_n 0, 1) := dk_42 (dk_at dksX2_years_1 23 rfl rfl)
theorem dX2_years_46 : decode cX2_years 46 = .ok (.getfield 43, 3) := dk_180 0 43 (dk_at dksX2_years_2 0 rfl rfl)
theorem dX2_years_49 : decode cX2_years 49 = .ok (.invokestatic 258, 3) := dk_184 1 2 (dk_at dksX2_years_2 3 rfl rfl)
theorem dX2_years_52 : decode cX2_years 52 = .ok (.aload_n 0, 1) := dk_42 (dk_at dksX2_years_2 6 rfl rfl)
theorem dX2_years_53 : decode cX2_years 53 = .ok (.iload_n 2, 1) := dk_28 (dk_at dksX2_years_2 7 rfl rfl)
theorem dX2_years_54 : decode cX2_years 54 = .ok (.putfield 248, 3) := dk_181 0 248 (dk_at dksX2_years_2 8 rfl rfl)
theorem dX2_years_57 : decode cX2_years 57 = .ok (.iconst 0, 1) := dk_3 (dk_at dksX2_years_2 11 rfl rfl)
theorem dX2_years_58 : decode cX2_years 58 = .ok (.istore 4, 2) := dk_54 4 (dk_at dksX2_years_2 12 rfl rfl)
theorem dX2_years_60 : decode cX2_years 60 = .ok (.iconst 0, 1) := dk_3 (dk_at dksX2_years_2 14 rfl rfl)
theorem dX2_years_61 : decode cX2_years 61 = .ok (.istore 5, 2) := dk_54 5 (dk_at dksX2_years_2 15 rfl rfl)
theorem dX2_years_63 : decode cX2_years 63 = .ok (.iconst 0, 1) := dk_3 (dk_at dksX2_years_2 17 rfl rfl)
theorem dX2_years_64 : decode cX2_years 64 = .ok (.istore 6, 2) := dk_54 6 (dk_at dksX2_years_2 18 rfl rfl)
theorem dX2_years_66 : decode cX2_years 66 = .ok (.iload 6, 2) := dk_21 6 (dk_at dksX2_years_2 20 rfl rfl)
theorem dX2_years_68 : decode cX2_years 68 = .ok (.iload_n 1, 1) := dk_27 (dk_at dksX2_years_2 22 rfl rfl)
theorem dX2_years_69 : decode cX2_years 69 = .ok (.if_icmp .ge 95, 3) := dk_162 0 95 (dk_at dksX2_years_3 0 rfl rfl)
theorem dX2_years_72 : decode cX2_years 72 = .ok (.aload_n 0, 1) := dk_42 (dk_at dksX2_years_3 3 rfl rfl)
theorem dX2_years_73 : decode cX2_years 73 = .ok (.aload_n 0, 1) := dk_42 (dk_at dksX2_years_3 4 rfl rfl)
theorem dX2_years_74 : decode cX2_years 74 = .ok (.getfield 98, 3) := dk_180 0 98 (dk_at dksX2_years_3 5 rfl rfl)
theorem dX2_years_77 : decode cX2_years 77 = .ok (.invokevirtual 262, 3) := dk_182 1 6 (dk_at dksX2_years_3 8 rfl rfl)
theorem dX2_years_80 : decode cX2_years 80 = .ok (.istore 7, 2) := dk_54 7 (dk_at dksX2_years_3 11 rfl rfl)
theorem dX2_years_82 : decode cX2_years 82 = .ok (.aload_n 0, 1) := dk_42 (dk_at dksX2_years_3 13 rfl rfl)
theorem dX2_years_83 : decode cX2_years 83 = .ok (.bipush 8, 2) := dk_16 8 (dk_at dksX2_years_3 14 rfl rfl)
theorem dX2_years_85 : decode cX2_years 85 = .ok (.invokevirtual 262, 3) := dk_182 1 6 (dk_at dksX2_years_3 16 rfl rfl)
theorem dX2_years_88 : decode cX2_years 88 = .ok (.istore 8, 2) := dk_54 8 (dk_at dksX2_years_3 19 rfl rfl)
theorem dX2_years_90 : decode cX2_years 90 = .ok (.aload_n 0, 1) := dk_42 (dk_at dksX2_years_3 21 rfl rfl)
theorem dX2_years_91 : decode cX2_years 91 = .ok (.bipush 8, 2) := dk_16 8 (dk_at dksX2_years_3 22 rfl rfl)
theorem dX2_years_93 : decode cX2_years 93 = .ok (.invokevirtual 262, 3) := dk_182 1 6 (dk_at dksX2_years_4 0 rfl rfl)
theorem dX2_years_96 : decode cX2_years 96 = .ok (.istore 9, 2) := dk_54 9 (dk_at dksX2_years_4 3 rfl rfl)
theorem dX2_years_98 : decode cX2_years 98 = .ok (.iload 8, 2) := dk_21 8 (dk_at dksX2_years_4 5 rfl rfl)
theorem dX2_years_100 : decode cX2_years 100 = .ok (.iload 9, 2) := dk_21 9 (dk_at dksX2_years_4 7 rfl rfl)
theorem dX2_years_102 : decode cX2_years 102 = .ok (.if_icmp .ne 7, 3) := dk_160 0 7 (dk_at dksX2_years_4 9 rfl rfl)
theorem dX2_years_105 : decode cX2_years 105 = .ok (.iconst (-1), 1) := dk_2 (dk_at dksX2_years_4 12 rfl rfl)
theorem dX2_years_106 : decode cX2_years 106 = .ok (.goto 17, 3) := dk_167 0 17 (dk_at dksX2_years_4 13 rfl rfl)
theorem dX2_years_109 : decode cX2_years 109 = .ok (.aload_n 0, 1) := dk_42 (dk_at dksX2_years_4 16 rfl rfl)
theorem dX2_years_110 : decode cX2_years 110 = .ok (.iload 7, 2) := dk_21 7 (dk_at dksX2_years_4 17 rfl rfl)
theorem dX2_years_112 : decode cX2_years 112 = .ok (.iload 8, 2) := dk_21 8 (dk_at dksX2_years_4 19 rfl rfl)
theorem dX2_years_114 : decode cX2_years 114 = .ok (.iload 9, 2) := dk_21 9 (dk_at dksX2_years_4 21 rfl rfl)
theorem dX2_years_116 : decode cX2_years 116 = .ok (.aload_n 0, 1) := dk_42 (dk_at dksX2_years_4 23 rfl rfl)
theorem dX2_years_117 : decode cX2_years 117 = .ok (.invokevirtual 139, 3) := dk_182 0 139 (dk_at dksX2_years_5 0 rfl rfl)
theorem dX2_years_120 : decode cX2_years 120 = .ok (.invokevirtual 142, 3) := dk_182 0 142 (dk_at dksX2_years_5 3 rfl rfl)
theorem dX2_years_123 : decode cX2_years 123 = .ok (.istore 10, 2) := dk_54 10 (dk_at dksX2_years_5 6 rfl rfl)
theorem dX2_years_125 : decode cX2_years 125 = .ok (.iload 10, 2) := dk_21 10 (dk_at dksX2_years_5 8 rfl rfl)
theorem dX2_years_127 : decode cX2_years 127 = .ok (.iconst (-1), 1) := dk_2 (dk_at dksX2_years_5 10 rfl rfl)
theorem dX2_years_128 : decode cX2_years 128 = .ok (.if_icmp .eq 30, 3) := dk_159 0 30 (dk_at dksX2_years_5 11 rfl rfl)
theorem dX2_years_131 : decode cX2_years 131 = .ok (.iinc 4 1, 3) := dk_132 4 1 (dk_at dksX2_years_5 14 rfl rfl)
theorem dX2_years_134 : decode cX2_years 134 = .ok (.iload 5, 2) := dk_21 5 (dk_at dksX2_years_5 17 rfl rfl)
theorem dX2_years_136 : decode cX2_years 136 = .ok (.aload_n 0, 1) := dk_42 (dk_at dksX2_years_5 19 rfl rfl)
theorem dX2_years_137 : decode cX2_years 137 = .ok (.getfield 25, 3) := dk_180 0 25 (dk_at dksX2_years_5 20 rfl rfl)
theorem dX2_years_140 : decode cX2_years 140 = .ok (.iload 8, 2) := dk_21 8 (dk_at dksX2_years_6 0 rfl rfl)
theorem dX2_years_142 : decode cX2_years 142 = .ok (.iaload, 1) := dk_46 (dk_at dksX2_years_6 2 rfl rfl)
theorem dX2_years_143 : decode cX2_years 143 = .ok (.sipush 1000, 3) := dk_17 3 232 (dk_at dksX2_years_6 3 rfl rfl)
theorem dX2_years_146 : decode cX2_years 146 = .ok (.idiv, 1) := dk_108 (dk_at dksX2_years_6 6 rfl rfl)
theorem dX2_years_147 : decode cX2_years 147 = .ok (.iadd, 1) := dk_96 (dk_at dksX2_years_6 7 rfl rfl)
theorem dX2_years_148 : decode cX2_years 148 = .ok (.istore 5, 2) := dk_54 5 (dk_at dksX2_years_6 8 rfl rfl)
theorem dX2_years_150 : decode cX2_years 150 = .ok (.aload_n 0, 1) := dk_42 (dk_at dksX2_years_6 10 rfl rfl)
theorem dX2_years_151 : decode cX2_years 151 = .ok (.iload 7, 2) := dk_21 7 (dk_at dksX2_years_6 11 rfl rfl)
theorem dX2_years_153 : decode cX2_years 153 = .ok (.iload 10, 2) := dk_21 10 (dk_at dksX2_years_6 13 rfl rfl)
theorem dX2_years_155 : decode cX2_years 155 = .ok (.invokevirtual 229, 3) := dk_182 0 229 (dk_at dksX2_years_6 15 rfl rfl)
theorem dX2_years_158 : decode cX2_years 158 = .ok (.iinc 6 1, 3) := dk_132 6 1 (dk_at dksX2_years_6 18 rfl rfl)
theorem dX2_years_161 : decode cX2_years 161 = .ok (.goto (-95), 3) := dk_167 255 161 (dk_at dksX2_years_6 21 rfl rfl)
theorem dX2_years_164 : decode cX2_years 164 = .ok (.aload_n 0, 1) := dk_42 (dk_at dksX2_years_7 0 rfl rfl)
theorem dX2_years_165 : decode cX2_years 165 = .ok (.getfield 43, 3) := dk_180 0 43 (dk_at dksX2_years_7 1 rfl rfl)
theorem dX2_years_168 : decode cX2_years 168 = .ok (.aload_n 0, 1) := dk_42 (dk_at dksX2_years_7 4 rfl rfl)
theorem dX2_years_169 : decode cX2_years 169 = .ok (.getfield 19, 3) := dk_180 0 19 (dk_at dksX2_years_7 5 rfl rfl)
theorem dX2_years_172 : decode cX2_years 172 = .ok (.invokestatic 258, 3) := dk_184 1 2 (dk_at dksX2_years_7 8 rfl rfl)
theorem dX2_years_175 : decode cX2_years 175 = .ok (.iload_n 3, 1) := dk_29 (dk_at dksX2_years_7 11 rfl rfl)
theorem dX2_years_176 : decode cX2_years 176 = .ok (.ifCond .ne 8, 3) := dk_154 0 8 (dk_at dksX2_years_7 12 rfl rfl)
theorem dX2_years_179 : decode cX2_years 179 = .ok (.iload 4, 2) := dk_21 4 (dk_at dksX2_years_7 15 rfl rfl)
theorem dX2_years_181 : decode cX2_years 181 = .ok (.goto 17, 3) := dk_167 0 17 (dk_at dksX2_years_7 17 rfl rfl)
theorem dX2_years_184 : decode cX2_years 184 = .ok (.iload_n 3, 1) := dk_29 (dk_at dksX2_years_7 20 rfl rfl)
theorem dX2_years_185 : decode cX2_years 185 = .ok (.iconst 1, 1) := dk_4 (dk_at dksX2_years_7 21 rfl rfl)
theorem dX2_years_186 : decode cX2_years 186 = .ok (.if_icmp .ne 8, 3) := dk_160 0 8 (dk_at dksX2_years_8 0 rfl rfl)
theorem dX2_years_189 : decode cX2_years 189 = .ok (.iload 5, 2) := dk_21 5 (dk_at dksX2_years_8 3 rfl rfl)
theorem dX2_years_191 : decode cX2_years 191 = .ok (.goto 7, 3) := dk_167 0 7 (dk_at dksX2_years_8 5 rfl rfl)
theorem dX2_years_194 : decode cX2_years 194 = .ok (.aload_n 0, 1) := dk_42 (dk_at dksX2_years_8 8 rfl rfl)
theorem dX2_years_195 : decode cX2_years 195 = .ok (.getfield 248, 3) := dk_180 0 248 (dk_at dksX2_years_8 9 rfl rfl)
theorem dX2_years_198 : decode cX2_years 198 = .ok (.ireturn, 1) := dk_172 (dk_at dksX2_years_8 12 rfl rfl)
abbrev cX2_copy : ByteArray := prog_11_method_3_code
def yX2_copy : MethodName := ⟨RX2, "copy", "([I[I)V"⟩
def dkwX2_copy_0 : List UInt8 := [3, 61, 28, 42, 190, 162, 0, 15, 43, 28, 42, 28, 46, 79, 132, 2, 1, 167, 255, 241, 177]
abbrev dktX2_copy_0 : List UInt8 := dkwX2_copy_0 ++ []
theorem dksX2_copy_0 : cX2_copy.data.toList.drop 0 = dktX2_copy_0 := by decide +kernel
theorem dX2_copy_0 : decode cX2_copy 0 = .ok (.iconst 0, 1) := dk_3 (dk_at dksX2_copy_0 0 rfl rfl)
theorem dX2_copy_1 : decode cX2_copy 1 = .ok (.istore_n 2, 1) := dk_61 (dk_at dksX2_copy_0 1 rfl rfl)
theorem dX2_copy_2 : decode cX2_copy 2 = .ok (.iload_n 2, 1) := dk_28 (dk_at dksX2_copy_0 2 rfl rfl)
theorem dX2_copy_3 : decode cX2_copy 3 = .ok (.aload_n 0, 1) := dk_42 (dk_at dksX2_copy_0 3 rfl rfl)
theorem dX2_copy_4 : decode cX2_copy 4 = .ok (.arraylength, 1) := dk_190 (dk_at dksX2_copy_0 4 rfl rfl)
theorem dX2_copy_5 : decode cX2_copy 5 = .ok (.if_icmp .ge 15, 3) := dk_162 0 15 (dk_at dksX2_copy_0 5 rfl rfl)
theorem dX2_copy_8 : decode cX2_copy 8 = .ok (.aload_n 1, 1) := dk_43 (dk_at dksX2_copy_0 8 rfl rfl)
theorem dX2_copy_9 : decode cX2_copy 9 = .ok (.iload_n 2, 1) := dk_28 (dk_at dksX2_copy_0 9 rfl rfl)
theorem dX2_copy_10 : decode cX2_copy 10 = .ok (.aload_n 0, 1) := dk_42 (dk_at dksX2_copy_0 10 rfl rfl)
theorem dX2_copy_11 : decode cX2_copy 11 = .ok (.iload_n 2, 1) := dk_28 (dk_at dksX2_copy_0 11 rfl rfl)
theorem dX2_copy_12 : decode cX2_copy 12 = .ok (.iaload, 1) := dk_46 (dk_at dksX2_copy_0 12 rfl rfl)
theorem dX2_copy_13 : decode cX2_copy 13 = .ok (.iastore, 1) := dk_79 (dk_at dksX2_copy_0 13 rfl rfl)
theorem dX2_copy_14 : decode cX2_copy 14 = .ok (.iinc 2 1, 3) := dk_132 2 1 (dk_at dksX2_copy_0 14 rfl rfl)
theorem dX2_copy_17 : decode cX2_copy 17 = .ok (.goto (-15), 3) := dk_167 255 241 (dk_at dksX2_copy_0 17 rfl rfl)
theorem dX2_copy_20 : decode cX2_copy 20 = .ok (.return_, 1) := dk_177 (dk_at dksX2_copy_0 20 rfl rfl)
abbrev cX2_draw : ByteArray := prog_11_method_67_code
def yX2_draw : MethodName := ⟨RX2, "draw", "(I)I"⟩
def dkwX2_draw_1 : List UInt8 := [180, 0, 248, 18, 255, 108, 27, 112, 172]
abbrev dktX2_draw_1 : List UInt8 := dkwX2_draw_1 ++ []
def dkwX2_draw_0 : List UInt8 := [42, 20, 0, 246, 42, 180, 0, 248, 133, 105, 20, 0, 251, 97, 20, 0, 253, 127, 136, 181, 0, 248, 42]
abbrev dktX2_draw_0 : List UInt8 := dkwX2_draw_0 ++ dktX2_draw_1
theorem dksX2_draw_0 : cX2_draw.data.toList.drop 0 = dktX2_draw_0 := by decide +kernel
theorem dksX2_draw_1 : cX2_draw.data.toList.drop 23 = dktX2_draw_1 := dk_seg dksX2_draw_0 23 rfl rfl
theorem dX2_draw_0 : decode cX2_draw 0 = .ok (.aload_n 0, 1) := dk_42 (dk_at dksX2_draw_0 0 rfl rfl)
theorem dX2_draw_1 : decode cX2_draw 1 = .ok (.ldc2_w 246, 3) := dk_20 0 246 (dk_at dksX2_draw_0 1 rfl rfl)
theorem dX2_draw_4 : decode cX2_draw 4 = .ok (.aload_n 0, 1) := dk_42 (dk_at dksX2_draw_0 4 rfl rfl)
theorem dX2_draw_5 : decode cX2_draw 5 = .ok (.getfield 248, 3) := dk_180 0 248 (dk_at dksX2_draw_0 5 rfl rfl)
theorem dX2_draw_8 : decode cX2_draw 8 = .ok (.i2l, 1) := dk_133 (dk_at dksX2_draw_0 8 rfl rfl)
theorem dX2_draw_9 : decode cX2_draw 9 = .ok (.lmul, 1) := dk_105 (dk_at dksX2_draw_0 9 rfl rfl)
theorem dX2_draw_10 : decode cX2_draw 10 = .ok (.ldc2_w 251, 3) := dk_20 0 251 (dk_at dksX2_draw_0 10 rfl rfl)
theorem dX2_draw_13 : decode cX2_draw 13 = .ok (.ladd, 1) := dk_97 (dk_at dksX2_draw_0 13 rfl rfl)
theorem dX2_draw_14 : decode cX2_draw 14 = .ok (.ldc2_w 253, 3) := dk_20 0 253 (dk_at dksX2_draw_0 14 rfl rfl)
theorem dX2_draw_17 : decode cX2_draw 17 = .ok (.land, 1) := dk_127 (dk_at dksX2_draw_0 17 rfl rfl)
theorem dX2_draw_18 : decode cX2_draw 18 = .ok (.l2i, 1) := dk_136 (dk_at dksX2_draw_0 18 rfl rfl)
theorem dX2_draw_19 : decode cX2_draw 19 = .ok (.putfield 248, 3) := dk_181 0 248 (dk_at dksX2_draw_0 19 rfl rfl)
theorem dX2_draw_22 : decode cX2_draw 22 = .ok (.aload_n 0, 1) := dk_42 (dk_at dksX2_draw_0 22 rfl rfl)
theorem dX2_draw_23 : decode cX2_draw 23 = .ok (.getfield 248, 3) := dk_180 0 248 (dk_at dksX2_draw_1 0 rfl rfl)
theorem dX2_draw_26 : decode cX2_draw 26 = .ok (.ldc 255, 2) := dk_18 255 (dk_at dksX2_draw_1 3 rfl rfl)
theorem dX2_draw_28 : decode cX2_draw 28 = .ok (.idiv, 1) := dk_108 (dk_at dksX2_draw_1 5 rfl rfl)
theorem dX2_draw_29 : decode cX2_draw 29 = .ok (.iload_n 1, 1) := dk_27 (dk_at dksX2_draw_1 6 rfl rfl)
theorem dX2_draw_30 : decode cX2_draw 30 = .ok (.irem, 1) := dk_112 (dk_at dksX2_draw_1 7 rfl rfl)
theorem dX2_draw_31 : decode cX2_draw 31 = .ok (.ireturn, 1) := dk_172 (dk_at dksX2_draw_1 8 rfl rfl)
abbrev cX2_image : ByteArray := prog_11_method_69_code
def yX2_image : MethodName := ⟨RX2, "image", "()I"⟩
def dkwX2_image_3 : List UInt8 := [181, 1, 12, 42, 42, 180, 0, 110, 181, 0, 58, 42, 180, 0, 104, 172]
abbrev dktX2_image_3 : List UInt8 := dkwX2_image_3 ++ []
def dkwX2_image_2 : List UInt8 := [180, 0, 37, 42, 180, 0, 55, 184, 1, 2, 42, 42, 180, 0, 104, 181, 1, 9, 42, 42, 180, 0, 107]
abbrev dktX2_image_2 : List UInt8 := dkwX2_image_2 ++ dktX2_image_3
def dkwX2_image_1 : List UInt8 := [180, 0, 19, 42, 180, 0, 49, 184, 1, 2, 42, 180, 0, 22, 42, 180, 0, 52, 184, 1, 2, 42]
abbrev dktX2_image_1 : List UInt8 := dkwX2_image_1 ++ dktX2_image_2
def dkwX2_image_0 : List UInt8 := [42, 182, 0, 115, 153, 0, 6, 16, 153, 172, 42, 180, 0, 16, 42, 180, 0, 46, 184, 1, 2, 42]
abbrev dktX2_image_0 : List UInt8 := dkwX2_image_0 ++ dktX2_image_1
theorem dksX2_image_0 : cX2_image.data.toList.drop 0 = dktX2_image_0 := by decide +kernel
theorem dksX2_image_1 : cX2_image.data.toList.drop 22 = dktX2_image_1 := dk_seg dksX2_image_0 22 rfl rfl
theorem dksX2_image_2 : cX2_image.data.toList.drop 44 = dktX2_image_2 := dk_seg dksX2_image_1 22 rfl rfl
theorem dksX2_image_3 : cX2_image.data.toList.drop 67 = dktX2_image_3 := dk_seg dksX2_image_2 23 rfl rfl
theorem dX2_image_0 : decode cX2_image 0 = .ok (.aload_n 0, 1) := dk_42 (dk_at dksX2_image_0 0 rfl rfl)
theorem dX2_image_1 : decode cX2_image 1 = .ok (.invokevirtual 115, 3) := dk_182 0 115 (dk_at dksX2_image_0 1 rfl rfl)
theorem dX2_image_4 : decode cX2_image 4 = .ok (.ifCond .eq 6, 3) := dk_153 0 6 (dk_at dksX2_image_0 4 rfl rfl)
theorem dX2_image_7 : decode cX2_image 7 = .ok (.bipush (-103), 2) := dk_16 153 (dk_at dksX2_image_0 7 rfl rfl)
theorem dX2_image_9 : decode cX2_image 9 = .ok (.ireturn, 1) := dk_172 (dk_at dksX2_image_0 9 rfl rfl)
theorem dX2_image_10 : decode cX2_image 10 = .ok (.aload_n 0, 1) := dk_42 (dk_at dksX2_image_0 10 rfl rfl)
theorem dX2_image_11 : decode cX2_image 11 = .ok (.getfield 16, 3) := dk_180 0 16 (dk_at dksX2_image_0 11 rfl rfl)
theorem dX2_image_14 : decode cX2_image 14 = .ok (.aload_n 0, 1) := dk_42 (dk_at dksX2_image_0 14 rfl rfl)
theorem dX2_image_15 : decode cX2_image 15 = .ok (.getfield 46, 3) := dk_180 0 46 (dk_at dksX2_image_0 15 rfl rfl)
theorem dX2_image_18 : decode cX2_image 18 = .ok (.invokestatic 258, 3) := dk_184 1 2 (dk_at dksX2_image_0 18 rfl rfl)
theorem dX2_image_21 : decode cX2_image 21 = .ok (.aload_n 0, 1) := dk_42 (dk_at dksX2_image_0 21 rfl rfl)
theorem dX2_image_22 : decode cX2_image 22 = .ok (.getfield 19, 3) := dk_180 0 19 (dk_at dksX2_image_1 0 rfl rfl)
theorem dX2_image_25 : decode cX2_image 25 = .ok (.aload_n 0, 1) := dk_42 (dk_at dksX2_image_1 3 rfl rfl)
theorem dX2_image_26 : decode cX2_image 26 = .ok (.getfield 49, 3) := dk_180 0 49 (dk_at dksX2_image_1 4 rfl rfl)
theorem dX2_image_29 : decode cX2_image 29 = .ok (.invokestatic 258, 3) := dk_184 1 2 (dk_at dksX2_image_1 7 rfl rfl)
theorem dX2_image_32 : decode cX2_image 32 = .ok (.aload_n 0, 1) := dk_42 (dk_at dksX2_image_1 10 rfl rfl)
theorem dX2_image_33 : decode cX2_image 33 = .ok (.getfield 22, 3) := dk_180 0 22 (dk_at dksX2_image_1 11 rfl rfl)
theorem dX2_image_36 : decode cX2_image 36 = .ok (.aload_n 0, 1) := dk_42 (dk_at dksX2_image_1 14 rfl rfl)
theorem dX2_image_37 : decode cX2_image 37 = .ok (.getfield 52, 3) := dk_180 0 52 (dk_at dksX2_image_1 15 rfl rfl)
theorem dX2_image_40 : decode cX2_image 40 = .ok (.invokestatic 258, 3) := dk_184 1 2 (dk_at dksX2_image_1 18 rfl rfl)
theorem dX2_image_43 : decode cX2_image 43 = .ok (.aload_n 0, 1) := dk_42 (dk_at dksX2_image_1 21 rfl rfl)
theorem dX2_image_44 : decode cX2_image 44 = .ok (.getfield 37, 3) := dk_180 0 37 (dk_at dksX2_image_2 0 rfl rfl)
theorem dX2_image_47 : decode cX2_image 47 = .ok (.aload_n 0, 1) := dk_42 (dk_at dksX2_image_2 3 rfl rfl)
theorem dX2_image_48 : decode cX2_image 48 = .ok (.getfield 55, 3) := dk_180 0 55 (dk_at dksX2_image_2 4 rfl rfl)
theorem dX2_image_51 : decode cX2_image 51 = .ok (.invokestatic 258, 3) := dk_184 1 2 (dk_at dksX2_image_2 7 rfl rfl)
theorem dX2_image_54 : decode cX2_image 54 = .ok (.aload_n 0, 1) := dk_42 (dk_at dksX2_image_2 10 rfl rfl)
theorem dX2_image_55 : decode cX2_image 55 = .ok (.aload_n 0, 1) := dk_42 (dk_at dksX2_image_2 11 rfl rfl)
theorem dX2_image_56 : decode cX2_image 56 = .ok (.getfield 104, 3) := dk_180 0 104 (dk_at dksX2_image_2 12 rfl rfl)
theorem dX2_image_59 : decode cX2_image 59 = .ok (.putfield 265, 3) := dk_181 1 9 (dk_at dksX2_image_2 15 rfl rfl)
theorem dX2_image_62 : decode cX2_image 62 = .ok (.aload_n 0, 1) := dk_42 (dk_at dksX2_image_2 18 rfl rfl)
theorem dX2_image_63 : decode cX2_image 63 = .ok (.aload_n 0, 1) := dk_42 (dk_at dksX2_image_2 19 rfl rfl)
theorem dX2_image_64 : decode cX2_image 64 = .ok (.getfield 107, 3) := dk_180 0 107 (dk_at dksX2_image_2 20 rfl rfl)
theorem dX2_image_67 : decode cX2_image 67 = .ok (.putfield 268, 3) := dk_181 1 12 (dk_at dksX2_image_3 0 rfl rfl)
theorem dX2_image_70 : decode cX2_image 70 = .ok (.aload_n 0, 1) := dk_42 (dk_at dksX2_image_3 3 rfl rfl)
theorem dX2_image_71 : decode cX2_image 71 = .ok (.aload_n 0, 1) := dk_42 (dk_at dksX2_image_3 4 rfl rfl)
theorem dX2_image_72 : decode cX2_image 72 = .ok (.getfield 110, 3) := dk_180 0 110 (dk_at dksX2_image_3 5 rfl rfl)
theorem dX2_image_75 : decode cX2_image 75 = .ok (.putfield 58, 3) := dk_181 0 58 (dk_at dksX2_image_3 8 rfl rfl)
theorem dX2_image_78 : decode cX2_image 78 = .ok (.aload_n 0, 1) := dk_42 (dk_at dksX2_image_3 11 rfl rfl)
theorem dX2_image_79 : decode cX2_image 79 = .ok (.getfield 104, 3) := dk_180 0 104 (dk_at dksX2_image_3 12 rfl rfl)
theorem dX2_image_82 : decode cX2_image 82 = .ok (.ireturn, 1) := dk_172 (dk_at dksX2_image_3 15 rfl rfl)
abbrev cX2_restore : ByteArray := prog_11_method_70_code
def yX2_restore : MethodName := ⟨RX2, "restore", "()I"⟩
def dkwX2_restore_3 : List UInt8 := [180, 1, 12, 181, 0, 107, 42, 180, 0, 104, 172]
abbrev dktX2_restore_3 : List UInt8 := dkwX2_restore_3 ++ []
def dkwX2_restore_2 : List UInt8 := [184, 1, 2, 42, 180, 0, 55, 42, 180, 0, 37, 184, 1, 2, 42, 42, 180, 1, 9, 181, 0, 104, 42, 42]
abbrev dktX2_restore_2 : List UInt8 := dkwX2_restore_2 ++ dktX2_restore_3
def dkwX2_restore_1 : List UInt8 := [184, 1, 2, 42, 180, 0, 49, 42, 180, 0, 19, 184, 1, 2, 42, 180, 0, 52, 42, 180, 0, 22]
abbrev dktX2_restore_1 : List UInt8 := dkwX2_restore_1 ++ dktX2_restore_2
def dkwX2_restore_0 : List UInt8 := [42, 180, 0, 58, 42, 180, 0, 110, 159, 0, 6, 16, 153, 172, 42, 180, 0, 46, 42, 180, 0, 16]
abbrev dktX2_restore_0 : List UInt8 := dkwX2_restore_0 ++ dktX2_restore_1
theorem dksX2_restore_0 : cX2_restore.data.toList.drop 0 = dktX2_restore_0 := by decide +kernel
theorem dksX2_restore_1 : cX2_restore.data.toList.drop 22 = dktX2_restore_1 := dk_seg dksX2_restore_0 22 rfl rfl
theorem dksX2_restore_2 : cX2_restore.data.toList.drop 44 = dktX2_restore_2 := dk_seg dksX2_restore_1 22 rfl rfl
theorem dksX2_restore_3 : cX2_restore.data.toList.drop 68 = dktX2_restore_3 := dk_seg dksX2_restore_2 24 rfl rfl
theorem dX2_restore_0 : decode cX2_restore 0 = .ok (.aload_n 0, 1) := dk_42 (dk_at dksX2_restore_0 0 rfl rfl)
theorem dX2_restore_1 : decode cX2_restore 1 = .ok (.getfield 58, 3) := dk_180 0 58 (dk_at dksX2_restore_0 1 rfl rfl)
theorem dX2_restore_4 : decode cX2_restore 4 = .ok (.aload_n 0, 1) := dk_42 (dk_at dksX2_restore_0 4 rfl rfl)
theorem dX2_restore_5 : decode cX2_restore 5 = .ok (.getfield 110, 3) := dk_180 0 110 (dk_at dksX2_restore_0 5 rfl rfl)
theorem dX2_restore_8 : decode cX2_restore 8 = .ok (.if_icmp .eq 6, 3) := dk_159 0 6 (dk_at dksX2_restore_0 8 rfl rfl)
theorem dX2_restore_11 : decode cX2_restore 11 = .ok (.bipush (-103), 2) := dk_16 153 (dk_at dksX2_restore_0 11 rfl rfl)
theorem dX2_restore_13 : decode cX2_restore 13 = .ok (.ireturn, 1) := dk_172 (dk_at dksX2_restore_0 13 rfl rfl)
theorem dX2_restore_14 : decode cX2_restore 14 = .ok (.aload_n 0, 1) := dk_42 (dk_at dksX2_restore_0 14 rfl rfl)
theorem dX2_restore_15 : decode cX2_restore 15 = .ok (.getfield 46, 3) := dk_180 0 46 (dk_at dksX2_restore_0 15 rfl rfl)
theorem dX2_restore_18 : decode cX2_restore 18 = .ok (.aload_n 0, 1) := dk_42 (dk_at dksX2_restore_0 18 rfl rfl)
theorem dX2_restore_19 : decode cX2_restore 19 = .ok (.getfield 16, 3) := dk_180 0 16 (dk_at dksX2_restore_0 19 rfl rfl)
theorem dX2_restore_22 : decode cX2_restore 22 = .ok (.invokestatic 258, 3) := dk_184 1 2 (dk_at dksX2_restore_1 0 rfl rfl)
theorem dX2_restore_25 : decode cX2_restore 25 = .ok (.aload_n 0, 1) := dk_42 (dk_at dksX2_restore_1 3 rfl rfl)
theorem dX2_restore_26 : decode cX2_restore 26 = .ok (.getfield 49, 3) := dk_180 0 49 (dk_at dksX2_restore_1 4 rfl rfl)
theorem dX2_restore_29 : decode cX2_restore 29 = .ok (.aload_n 0, 1) := dk_42 (dk_at dksX2_restore_1 7 rfl rfl)
theorem dX2_restore_30 : decode cX2_restore 30 = .ok (.getfield 19, 3) := dk_180 0 19 (dk_at dksX2_restore_1 8 rfl rfl)
theorem dX2_restore_33 : decode cX2_restore 33 = .ok (.invokestatic 258, 3) := dk_184 1 2 (dk_at dksX2_restore_1 11 rfl rfl)
theorem dX2_restore_36 : decode cX2_restore 36 = .ok (.aload_n 0, 1) := dk_42 (dk_at dksX2_restore_1 14 rfl rfl)
theorem dX2_restore_37 : decode cX2_restore 37 = .ok (.getfield 52, 3) := dk_180 0 52 (dk_at dksX2_restore_1 15 rfl rfl)
theorem dX2_restore_40 : decode cX2_restore 40 = .ok (.aload_n 0, 1) := dk_42 (dk_at dksX2_restore_1 18 rfl rfl)
theorem dX2_restore_41 : decode cX2_restore 41 = .ok (.getfield 22, 3) := dk_180 0 22 (dk_at dksX2_restore_1 19 rfl rfl)
theorem dX2_restore_44 : decode cX2_restore 44 = .ok (.invokestatic 258, 3) := dk_184 1 2 (dk_at dksX2_restore_2 0 rfl rfl)
theorem dX2_restore_47 : decode cX2_restore 47 = .ok (.aload_n 0, 1) := dk_42 (dk_at dksX2_restore_2 3 rfl rfl)
theorem dX2_restore_48 : decode cX2_restore 48 = .ok (.getfield 55, 3) := dk_180 0 55 (dk_at dksX2_restore_2 4 rfl rfl)
theorem dX2_restore_51 : decode cX2_restore 51 = .ok (.aload_n 0, 1) := dk_42 (dk_at dksX2_restore_2 7 rfl rfl)
theorem dX2_restore_52 : decode cX2_restore 52 = .ok (.getfield 37, 3) := dk_180 0 37 (dk_at dksX2_restore_2 8 rfl rfl)
theorem dX2_restore_55 : decode cX2_restore 55 = .ok (.invokestatic 258, 3) := dk_184 1 2 (dk_at dksX2_restore_2 11 rfl rfl)
theorem dX2_restore_58 : decode cX2_restore 58 = .ok (.aload_n 0, 1) := dk_42 (dk_at dksX2_restore_2 14 rfl rfl)
theorem dX2_restore_59 : decode cX2_restore 59 = .ok (.aload_n 0, 1) := dk_42 (dk_at dksX2_restore_2 15 rfl rfl)
theorem dX2_restore_60 : decode cX2_restore 60 = .ok (.getfield 265, 3) := dk_180 1 9 (dk_at dksX2_restore_2 16 rfl rfl)
theorem dX2_restore_63 : decode cX2_restore 63 = .ok (.putfield 104, 3) := dk_181 0 104 (dk_at dksX2_restore_2 19 rfl rfl)
theorem dX2_restore_66 : decode cX2_restore 66 = .ok (.aload_n 0, 1) := dk_42 (dk_at dksX2_restore_2 22 rfl rfl)
theorem dX2_restore_67 : decode cX2_restore 67 = .ok (.aload_n 0, 1) := dk_42 (dk_at dksX2_restore_2 23 rfl rfl)
theorem dX2_restore_68 : decode cX2_restore 68 = .ok (.getfield 268, 3) := dk_180 1 12 (dk_at dksX2_restore_3 0 rfl rfl)
theorem dX2_restore_71 : decode cX2_restore 71 = .ok (.putfield 107, 3) := dk_181 0 107 (dk_at dksX2_restore_3 3 rfl rfl)
theorem dX2_restore_74 : decode cX2_restore 74 = .ok (.aload_n 0, 1) := dk_42 (dk_at dksX2_restore_3 6 rfl rfl)
theorem dX2_restore_75 : decode cX2_restore 75 = .ok (.getfield 104, 3) := dk_180 0 104 (dk_at dksX2_restore_3 7 rfl rfl)
theorem dX2_restore_78 : decode cX2_restore 78 = .ok (.ireturn, 1) := dk_172 (dk_at dksX2_restore_3 10 rfl rfl)
abbrev cX2_count : ByteArray := prog_11_method_75_code
def yX2_count : MethodName := ⟨RX2, "count", "(I)I"⟩
def dkwX2_count_0 : List UInt8 := [42, 27, 182, 1, 24, 172]
abbrev dktX2_count_0 : List UInt8 := dkwX2_count_0 ++ []
theorem dksX2_count_0 : cX2_count.data.toList.drop 0 = dktX2_count_0 := by decide +kernel
theorem dX2_count_0 : decode cX2_count 0 = .ok (.aload_n 0, 1) := dk_42 (dk_at dksX2_count_0 0 rfl rfl)
theorem dX2_count_1 : decode cX2_count 1 = .ok (.iload_n 1, 1) := dk_27 (dk_at dksX2_count_0 1 rfl rfl)
theorem dX2_count_2 : decode cX2_count 2 = .ok (.invokevirtual 280, 3) := dk_182 1 24 (dk_at dksX2_count_0 2 rfl rfl)
theorem dX2_count_5 : decode cX2_count 5 = .ok (.ireturn, 1) := dk_172 (dk_at dksX2_count_0 5 rfl rfl)
abbrev cX2_countOf : ByteArray := prog_11_method_74_code
def yX2_countOf : MethodName := ⟨RX2, "countOf", "(I)I"⟩
def dkwX2_countOf_5 : List UInt8 := [180, 0, 68, 172, 42, 180, 0, 110, 172, 42, 182, 1, 21, 172, 16, 154, 172]
abbrev dktX2_countOf_5 : List UInt8 := dkwX2_countOf_5 ++ []
def dkwX2_countOf_4 : List UInt8 := [42, 180, 0, 22, 7, 46, 128, 184, 0, 226, 172, 42, 182, 1, 18, 172, 42, 180, 0, 107, 172, 42]
abbrev dktX2_countOf_4 : List UInt8 := dkwX2_countOf_4 ++ dktX2_countOf_5
def dkwX2_countOf_3 : List UInt8 := [180, 0, 22, 5, 46, 42, 180, 0, 22, 8, 46, 96, 172, 42, 182, 1, 15, 172, 42, 180, 0, 22, 4, 46]
abbrev dktX2_countOf_3 : List UInt8 := dkwX2_countOf_3 ++ dktX2_countOf_4
def dkwX2_countOf_2 : List UInt8 := [42, 180, 0, 98, 172, 42, 180, 0, 101, 172, 42, 182, 0, 205, 184, 0, 226, 172, 42, 180, 0, 104, 172, 42]
abbrev dktX2_countOf_2 : List UInt8 := dkwX2_countOf_2 ++ dktX2_countOf_3
def dkwX2_countOf_1 : List UInt8 := [170, 0, 0, 0, 0, 0, 147, 0, 0, 0, 0, 0, 0, 0, 11, 0, 0, 0, 63, 0, 0, 0, 68, 0, 0, 0, 73, 0, 0, 0, 81, 0, 0, 0, 86, 0, 0, 0, 100, 0, 0, 0, 105, 0, 0, 0, 122, 0, 0, 0, 127, 0, 0, 0, 132, 0, 0, 0, 137, 0, 0, 0, 142]
abbrev dktX2_countOf_1 : List UInt8 := dkwX2_countOf_1 ++ dktX2_countOf_2
def dkwX2_countOf_0 : List UInt8 := [27]
abbrev dktX2_countOf_0 : List UInt8 := dkwX2_countOf_0 ++ dktX2_countOf_1
theorem dksX2_countOf_0 : cX2_countOf.data.toList.drop 0 = dktX2_countOf_0 := by decide +kernel
theorem dksX2_countOf_1 : cX2_countOf.data.toList.drop 1 = dktX2_countOf_1 := dk_seg dksX2_countOf_0 1 rfl rfl
theorem dksX2_countOf_2 : cX2_countOf.data.toList.drop 64 = dktX2_countOf_2 := dk_seg dksX2_countOf_1 63 rfl rfl
theorem dksX2_countOf_3 : cX2_countOf.data.toList.drop 88 = dktX2_countOf_3 := dk_seg dksX2_countOf_2 24 rfl rfl
theorem dksX2_countOf_4 : cX2_countOf.data.toList.drop 112 = dktX2_countOf_4 := dk_seg dksX2_countOf_3 24 rfl rfl
theorem dksX2_countOf_5 : cX2_countOf.data.toList.drop 134 = dktX2_countOf_5 := dk_seg dksX2_countOf_4 22 rfl rfl
theorem dX2_countOf_0 : decode cX2_countOf 0 = .ok (.iload_n 1, 1) := dk_27 (dk_at dksX2_countOf_0 0 rfl rfl)
theorem dX2_countOf_1 : decode cX2_countOf 1 = .ok (.tableswitch 147 0 11 #[63, 68, 73, 81, 86, 100, 105, 122, 127, 132, 137, 142], 63) := by decide +kernel
theorem dX2_countOf_64 : decode cX2_countOf 64 = .ok (.aload_n 0, 1) := dk_42 (dk_at dksX2_countOf_2 0 rfl rfl)
theorem dX2_countOf_65 : decode cX2_countOf 65 = .ok (.getfield 98, 3) := dk_180 0 98 (dk_at dksX2_countOf_2 1 rfl rfl)
theorem dX2_countOf_68 : decode cX2_countOf 68 = .ok (.ireturn, 1) := dk_172 (dk_at dksX2_countOf_2 4 rfl rfl)
theorem dX2_countOf_69 : decode cX2_countOf 69 = .ok (.aload_n 0, 1) := dk_42 (dk_at dksX2_countOf_2 5 rfl rfl)
theorem dX2_countOf_70 : decode cX2_countOf 70 = .ok (.getfield 101, 3) := dk_180 0 101 (dk_at dksX2_countOf_2 6 rfl rfl)
theorem dX2_countOf_73 : decode cX2_countOf 73 = .ok (.ireturn, 1) := dk_172 (dk_at dksX2_countOf_2 9 rfl rfl)
theorem dX2_countOf_74 : decode cX2_countOf 74 = .ok (.aload_n 0, 1) := dk_42 (dk_at dksX2_countOf_2 10 rfl rfl)
theorem dX2_countOf_75 : decode cX2_countOf 75 = .ok (.invokevirtual 205, 3) := dk_182 0 205 (dk_at dksX2_countOf_2 11 rfl rfl)
theorem dX2_countOf_78 : decode cX2_countOf 78 = .ok (.invokestatic 226, 3) := dk_184 0 226 (dk_at dksX2_countOf_2 14 rfl rfl)
theorem dX2_countOf_81 : decode cX2_countOf 81 = .ok (.ireturn, 1) := dk_172 (dk_at dksX2_countOf_2 17 rfl rfl)
theorem dX2_countOf_82 : decode cX2_countOf 82 = .ok (.aload_n 0, 1) := dk_42 (dk_at dksX2_countOf_2 18 rfl rfl)
theorem dX2_countOf_83 : decode cX2_countOf 83 = .ok (.getfield 104, 3) := dk_180 0 104 (dk_at dksX2_countOf_2 19 rfl rfl)
theorem dX2_countOf_86 : decode cX2_countOf 86 = .ok (.ireturn, 1) := dk_172 (dk_at dksX2_countOf_2 22 rfl rfl)
theorem dX2_countOf_87 : decode cX2_countOf 87 = .ok (.aload_n 0, 1) := dk_42 (dk_at dksX2_countOf_2 23 rfl rfl)
theorem dX2_countOf_88 : decode cX2_countOf 88 = .ok (.getfield 22, 3) := dk_180 0 22 (dk_at dksX2_countOf_3 0 rfl rfl)
theorem dX2_countOf_91 : decode cX2_countOf 91 = .ok (.iconst 2, 1) := dk_5 (dk_at dksX2_countOf_3 3 rfl rfl)
theorem dX2_countOf_92 : decode cX2_countOf 92 = .ok (.iaload, 1) := dk_46 (dk_at dksX2_countOf_3 4 rfl rfl)
theorem dX2_countOf_93 : decode cX2_countOf 93 = .ok (.aload_n 0, 1) := dk_42 (dk_at dksX2_countOf_3 5 rfl rfl)
theorem dX2_countOf_94 : decode cX2_countOf 94 = .ok (.getfield 22, 3) := dk_180 0 22 (dk_at dksX2_countOf_3 6 rfl rfl)
theorem dX2_countOf_97 : decode cX2_countOf 97 = .ok (.iconst 5, 1) := dk_8 (dk_at dksX2_countOf_3 9 rfl rfl)
theorem dX2_countOf_98 : decode cX2_countOf 98 = .ok (.iaload, 1) := dk_46 (dk_at dksX2_countOf_3 10 rfl rfl)
theorem dX2_countOf_99 : decode cX2_countOf 99 = .ok (.iadd, 1) := dk_96 (dk_at dksX2_countOf_3 11 rfl rfl)
theorem dX2_countOf_100 : decode cX2_countOf 100 = .ok (.ireturn, 1) := dk_172 (dk_at dksX2_countOf_3 12 rfl rfl)
theorem dX2_countOf_101 : decode cX2_countOf 101 = .ok (.aload_n 0, 1) := dk_42 (dk_at dksX2_countOf_3 13 rfl rfl)
theorem dX2_countOf_102 : decode cX2_countOf 102 = .ok (.invokevirtual 271, 3) := dk_182 1 15 (dk_at dksX2_countOf_3 14 rfl rfl)
theorem dX2_countOf_105 : decode cX2_countOf 105 = .ok (.ireturn, 1) := dk_172 (dk_at dksX2_countOf_3 17 rfl rfl)
theorem dX2_countOf_106 : decode cX2_countOf 106 = .ok (.aload_n 0, 1) := dk_42 (dk_at dksX2_countOf_3 18 rfl rfl)
theorem dX2_countOf_107 : decode cX2_countOf 107 = .ok (.getfield 22, 3) := dk_180 0 22 (dk_at dksX2_countOf_3 19 rfl rfl)
theorem dX2_countOf_110 : decode cX2_countOf 110 = .ok (.iconst 1, 1) := dk_4 (dk_at dksX2_countOf_3 22 rfl rfl)
theorem dX2_countOf_111 : decode cX2_countOf 111 = .ok (.iaload, 1) := dk_46 (dk_at dksX2_countOf_3 23 rfl rfl)
theorem dX2_countOf_112 : decode cX2_countOf 112 = .ok (.aload_n 0, 1) := dk_42 (dk_at dksX2_countOf_4 0 rfl rfl)
theorem dX2_countOf_113 : decode cX2_countOf 113 = .ok (.getfield 22, 3) := dk_180 0 22 (dk_at dksX2_countOf_4 1 rfl rfl)
theorem dX2_countOf_116 : decode cX2_countOf 116 = .ok (.iconst 4, 1) := dk_7 (dk_at dksX2_countOf_4 4 rfl rfl)
theorem dX2_countOf_117 : decode cX2_countOf 117 = .ok (.iaload, 1) := dk_46 (dk_at dksX2_countOf_4 5 rfl rfl)
theorem dX2_countOf_118 : decode cX2_countOf 118 = .ok (.ior, 1) := dk_128 (dk_at dksX2_countOf_4 6 rfl rfl)
theorem dX2_countOf_119 : decode cX2_countOf 119 = .ok (.invokestatic 226, 3) := dk_184 0 226 (dk_at dksX2_countOf_4 7 rfl rfl)
theorem dX2_countOf_122 : decode cX2_countOf 122 = .ok (.ireturn, 1) := dk_172 (dk_at dksX2_countOf_4 10 rfl rfl)
theorem dX2_countOf_123 : decode cX2_countOf 123 = .ok (.aload_n 0, 1) := dk_42 (dk_at dksX2_countOf_4 11 rfl rfl)
theorem dX2_countOf_124 : decode cX2_countOf 124 = .ok (.invokevirtual 274, 3) := dk_182 1 18 (dk_at dksX2_countOf_4 12 rfl rfl)
theorem dX2_countOf_127 : decode cX2_countOf 127 = .ok (.ireturn, 1) := dk_172 (dk_at dksX2_countOf_4 15 rfl rfl)
theorem dX2_countOf_128 : decode cX2_countOf 128 = .ok (.aload_n 0, 1) := dk_42 (dk_at dksX2_countOf_4 16 rfl rfl)
theorem dX2_countOf_129 : decode cX2_countOf 129 = .ok (.getfield 107, 3) := dk_180 0 107 (dk_at dksX2_countOf_4 17 rfl rfl)
theorem dX2_countOf_132 : decode cX2_countOf 132 = .ok (.ireturn, 1) := dk_172 (dk_at dksX2_countOf_4 20 rfl rfl)
theorem dX2_countOf_133 : decode cX2_countOf 133 = .ok (.aload_n 0, 1) := dk_42 (dk_at dksX2_countOf_4 21 rfl rfl)
theorem dX2_countOf_134 : decode cX2_countOf 134 = .ok (.getfield 68, 3) := dk_180 0 68 (dk_at dksX2_countOf_5 0 rfl rfl)
theorem dX2_countOf_137 : decode cX2_countOf 137 = .ok (.ireturn, 1) := dk_172 (dk_at dksX2_countOf_5 3 rfl rfl)
theorem dX2_countOf_138 : decode cX2_countOf 138 = .ok (.aload_n 0, 1) := dk_42 (dk_at dksX2_countOf_5 4 rfl rfl)
theorem dX2_countOf_139 : decode cX2_countOf 139 = .ok (.getfield 110, 3) := dk_180 0 110 (dk_at dksX2_countOf_5 5 rfl rfl)
theorem dX2_countOf_142 : decode cX2_countOf 142 = .ok (.ireturn, 1) := dk_172 (dk_at dksX2_countOf_5 8 rfl rfl)
theorem dX2_countOf_143 : decode cX2_countOf 143 = .ok (.aload_n 0, 1) := dk_42 (dk_at dksX2_countOf_5 9 rfl rfl)
theorem dX2_countOf_144 : decode cX2_countOf 144 = .ok (.invokevirtual 277, 3) := dk_182 1 21 (dk_at dksX2_countOf_5 10 rfl rfl)
theorem dX2_countOf_147 : decode cX2_countOf 147 = .ok (.ireturn, 1) := dk_172 (dk_at dksX2_countOf_5 13 rfl rfl)
theorem dX2_countOf_148 : decode cX2_countOf 148 = .ok (.bipush (-102), 2) := dk_16 154 (dk_at dksX2_countOf_5 14 rfl rfl)
theorem dX2_countOf_150 : decode cX2_countOf 150 = .ok (.ireturn, 1) := dk_172 (dk_at dksX2_countOf_5 16 rfl rfl)
abbrev cX2_hurtAll : ByteArray := prog_11_method_71_code
def yX2_hurtAll : MethodName := ⟨RX2, "hurtAll", "()I"⟩
def dkwX2_hurtAll_1 : List UInt8 := [60, 132, 2, 1, 167, 255, 232, 27, 172]
abbrev dktX2_hurtAll_1 : List UInt8 := dkwX2_hurtAll_1 ++ []
def dkwX2_hurtAll_0 : List UInt8 := [3, 60, 3, 61, 28, 42, 180, 0, 98, 162, 0, 22, 27, 42, 180, 0, 16, 8, 28, 104, 5, 96, 46, 96]
abbrev dktX2_hurtAll_0 : List UInt8 := dkwX2_hurtAll_0 ++ dktX2_hurtAll_1
theorem dksX2_hurtAll_0 : cX2_hurtAll.data.toList.drop 0 = dktX2_hurtAll_0 := by decide +kernel
theorem dksX2_hurtAll_1 : cX2_hurtAll.data.toList.drop 24 = dktX2_hurtAll_1 := dk_seg dksX2_hurtAll_0 24 rfl rfl
theorem dX2_hurtAll_0 : decode cX2_hurtAll 0 = .ok (.iconst 0, 1) := dk_3 (dk_at dksX2_hurtAll_0 0 rfl rfl)
theorem dX2_hurtAll_1 : decode cX2_hurtAll 1 = .ok (.istore_n 1, 1) := dk_60 (dk_at dksX2_hurtAll_0 1 rfl rfl)
theorem dX2_hurtAll_2 : decode cX2_hurtAll 2 = .ok (.iconst 0, 1) := dk_3 (dk_at dksX2_hurtAll_0 2 rfl rfl)
theorem dX2_hurtAll_3 : decode cX2_hurtAll 3 = .ok (.istore_n 2, 1) := dk_61 (dk_at dksX2_hurtAll_0 3 rfl rfl)
theorem dX2_hurtAll_4 : decode cX2_hurtAll 4 = .ok (.iload_n 2, 1) := dk_28 (dk_at dksX2_hurtAll_0 4 rfl rfl)
theorem dX2_hurtAll_5 : decode cX2_hurtAll 5 = .ok (.aload_n 0, 1) := dk_42 (dk_at dksX2_hurtAll_0 5 rfl rfl)
theorem dX2_hurtAll_6 : decode cX2_hurtAll 6 = .ok (.getfield 98, 3) := dk_180 0 98 (dk_at dksX2_hurtAll_0 6 rfl rfl)
theorem dX2_hurtAll_9 : decode cX2_hurtAll 9 = .ok (.if_icmp .ge 22, 3) := dk_162 0 22 (dk_at dksX2_hurtAll_0 9 rfl rfl)
theorem dX2_hurtAll_12 : decode cX2_hurtAll 12 = .ok (.iload_n 1, 1) := dk_27 (dk_at dksX2_hurtAll_0 12 rfl rfl)
theorem dX2_hurtAll_13 : decode cX2_hurtAll 13 = .ok (.aload_n 0, 1) := dk_42 (dk_at dksX2_hurtAll_0 13 rfl rfl)
theorem dX2_hurtAll_14 : decode cX2_hurtAll 14 = .ok (.getfield 16, 3) := dk_180 0 16 (dk_at dksX2_hurtAll_0 14 rfl rfl)
theorem dX2_hurtAll_17 : decode cX2_hurtAll 17 = .ok (.iconst 5, 1) := dk_8 (dk_at dksX2_hurtAll_0 17 rfl rfl)
theorem dX2_hurtAll_18 : decode cX2_hurtAll 18 = .ok (.iload_n 2, 1) := dk_28 (dk_at dksX2_hurtAll_0 18 rfl rfl)
theorem dX2_hurtAll_19 : decode cX2_hurtAll 19 = .ok (.imul, 1) := dk_104 (dk_at dksX2_hurtAll_0 19 rfl rfl)
theorem dX2_hurtAll_20 : decode cX2_hurtAll 20 = .ok (.iconst 2, 1) := dk_5 (dk_at dksX2_hurtAll_0 20 rfl rfl)
theorem dX2_hurtAll_21 : decode cX2_hurtAll 21 = .ok (.iadd, 1) := dk_96 (dk_at dksX2_hurtAll_0 21 rfl rfl)
theorem dX2_hurtAll_22 : decode cX2_hurtAll 22 = .ok (.iaload, 1) := dk_46 (dk_at dksX2_hurtAll_0 22 rfl rfl)
theorem dX2_hurtAll_23 : decode cX2_hurtAll 23 = .ok (.iadd, 1) := dk_96 (dk_at dksX2_hurtAll_0 23 rfl rfl)
theorem dX2_hurtAll_24 : decode cX2_hurtAll 24 = .ok (.istore_n 1, 1) := dk_60 (dk_at dksX2_hurtAll_1 0 rfl rfl)
theorem dX2_hurtAll_25 : decode cX2_hurtAll 25 = .ok (.iinc 2 1, 3) := dk_132 2 1 (dk_at dksX2_hurtAll_1 1 rfl rfl)
theorem dX2_hurtAll_28 : decode cX2_hurtAll 28 = .ok (.goto (-24), 3) := dk_167 255 232 (dk_at dksX2_hurtAll_1 4 rfl rfl)
theorem dX2_hurtAll_31 : decode cX2_hurtAll 31 = .ok (.iload_n 1, 1) := dk_27 (dk_at dksX2_hurtAll_1 7 rfl rfl)
theorem dX2_hurtAll_32 : decode cX2_hurtAll 32 = .ok (.ireturn, 1) := dk_172 (dk_at dksX2_hurtAll_1 8 rfl rfl)
abbrev cX2_waiting : ByteArray := prog_11_method_72_code
def yX2_waiting : MethodName := ⟨RX2, "waiting", "()I"⟩
def dkwX2_waiting_1 : List UInt8 := [160, 0, 7, 3, 167, 0, 4, 4, 96, 60, 132, 2, 1, 167, 255, 223, 27, 172]
abbrev dktX2_waiting_1 : List UInt8 := dkwX2_waiting_1 ++ []
def dkwX2_waiting_0 : List UInt8 := [3, 60, 3, 61, 28, 42, 180, 0, 98, 162, 0, 31, 27, 42, 180, 0, 16, 8, 28, 104, 6, 96, 46, 2]
abbrev dktX2_waiting_0 : List UInt8 := dkwX2_waiting_0 ++ dktX2_waiting_1
theorem dksX2_waiting_0 : cX2_waiting.data.toList.drop 0 = dktX2_waiting_0 := by decide +kernel
theorem dksX2_waiting_1 : cX2_waiting.data.toList.drop 24 = dktX2_waiting_1 := dk_seg dksX2_waiting_0 24 rfl rfl
theorem dX2_waiting_0 : decode cX2_waiting 0 = .ok (.iconst 0, 1) := dk_3 (dk_at dksX2_waiting_0 0 rfl rfl)
theorem dX2_waiting_1 : decode cX2_waiting 1 = .ok (.istore_n 1, 1) := dk_60 (dk_at dksX2_waiting_0 1 rfl rfl)
theorem dX2_waiting_2 : decode cX2_waiting 2 = .ok (.iconst 0, 1) := dk_3 (dk_at dksX2_waiting_0 2 rfl rfl)
theorem dX2_waiting_3 : decode cX2_waiting 3 = .ok (.istore_n 2, 1) := dk_61 (dk_at dksX2_waiting_0 3 rfl rfl)
theorem dX2_waiting_4 : decode cX2_waiting 4 = .ok (.iload_n 2, 1) := dk_28 (dk_at dksX2_waiting_0 4 rfl rfl)
theorem dX2_waiting_5 : decode cX2_waiting 5 = .ok (.aload_n 0, 1) := dk_42 (dk_at dksX2_waiting_0 5 rfl rfl)
theorem dX2_waiting_6 : decode cX2_waiting 6 = .ok (.getfield 98, 3) := dk_180 0 98 (dk_at dksX2_waiting_0 6 rfl rfl)
theorem dX2_waiting_9 : decode cX2_waiting 9 = .ok (.if_icmp .ge 31, 3) := dk_162 0 31 (dk_at dksX2_waiting_0 9 rfl rfl)
theorem dX2_waiting_12 : decode cX2_waiting 12 = .ok (.iload_n 1, 1) := dk_27 (dk_at dksX2_waiting_0 12 rfl rfl)
theorem dX2_waiting_13 : decode cX2_waiting 13 = .ok (.aload_n 0, 1) := dk_42 (dk_at dksX2_waiting_0 13 rfl rfl)
theorem dX2_waiting_14 : decode cX2_waiting 14 = .ok (.getfield 16, 3) := dk_180 0 16 (dk_at dksX2_waiting_0 14 rfl rfl)
theorem dX2_waiting_17 : decode cX2_waiting 17 = .ok (.iconst 5, 1) := dk_8 (dk_at dksX2_waiting_0 17 rfl rfl)
theorem dX2_waiting_18 : decode cX2_waiting 18 = .ok (.iload_n 2, 1) := dk_28 (dk_at dksX2_waiting_0 18 rfl rfl)
theorem dX2_waiting_19 : decode cX2_waiting 19 = .ok (.imul, 1) := dk_104 (dk_at dksX2_waiting_0 19 rfl rfl)
theorem dX2_waiting_20 : decode cX2_waiting 20 = .ok (.iconst 3, 1) := dk_6 (dk_at dksX2_waiting_0 20 rfl rfl)
theorem dX2_waiting_21 : decode cX2_waiting 21 = .ok (.iadd, 1) := dk_96 (dk_at dksX2_waiting_0 21 rfl rfl)
theorem dX2_waiting_22 : decode cX2_waiting 22 = .ok (.iaload, 1) := dk_46 (dk_at dksX2_waiting_0 22 rfl rfl)
theorem dX2_waiting_23 : decode cX2_waiting 23 = .ok (.iconst (-1), 1) := dk_2 (dk_at dksX2_waiting_0 23 rfl rfl)
theorem dX2_waiting_24 : decode cX2_waiting 24 = .ok (.if_icmp .ne 7, 3) := dk_160 0 7 (dk_at dksX2_waiting_1 0 rfl rfl)
theorem dX2_waiting_27 : decode cX2_waiting 27 = .ok (.iconst 0, 1) := dk_3 (dk_at dksX2_waiting_1 3 rfl rfl)
theorem dX2_waiting_28 : decode cX2_waiting 28 = .ok (.goto 4, 3) := dk_167 0 4 (dk_at dksX2_waiting_1 4 rfl rfl)
theorem dX2_waiting_31 : decode cX2_waiting 31 = .ok (.iconst 1, 1) := dk_4 (dk_at dksX2_waiting_1 7 rfl rfl)
theorem dX2_waiting_32 : decode cX2_waiting 32 = .ok (.iadd, 1) := dk_96 (dk_at dksX2_waiting_1 8 rfl rfl)
theorem dX2_waiting_33 : decode cX2_waiting 33 = .ok (.istore_n 1, 1) := dk_60 (dk_at dksX2_waiting_1 9 rfl rfl)
theorem dX2_waiting_34 : decode cX2_waiting 34 = .ok (.iinc 2 1, 3) := dk_132 2 1 (dk_at dksX2_waiting_1 10 rfl rfl)
theorem dX2_waiting_37 : decode cX2_waiting 37 = .ok (.goto (-33), 3) := dk_167 255 223 (dk_at dksX2_waiting_1 13 rfl rfl)
theorem dX2_waiting_40 : decode cX2_waiting 40 = .ok (.iload_n 1, 1) := dk_27 (dk_at dksX2_waiting_1 16 rfl rfl)
theorem dX2_waiting_41 : decode cX2_waiting 41 = .ok (.ireturn, 1) := dk_172 (dk_at dksX2_waiting_1 17 rfl rfl)
abbrev cX2_lengthAll : ByteArray := prog_11_method_73_code
def yX2_lengthAll : MethodName := ⟨RX2, "lengthAll", "()I"⟩
def dkwX2_lengthAll_1 : List UInt8 := [60, 132, 2, 1, 167, 255, 232, 27, 172]
abbrev dktX2_lengthAll_1 : List UInt8 := dkwX2_lengthAll_1 ++ []
def dkwX2_lengthAll_0 : List UInt8 := [3, 60, 3, 61, 28, 42, 180, 0, 101, 162, 0, 22, 27, 42, 180, 0, 13, 7, 28, 104, 6, 96, 46, 96]
abbrev dktX2_lengthAll_0 : List UInt8 := dkwX2_lengthAll_0 ++ dktX2_lengthAll_1
theorem dksX2_lengthAll_0 : cX2_lengthAll.data.toList.drop 0 = dktX2_lengthAll_0 := by decide +kernel
theorem dksX2_lengthAll_1 : cX2_lengthAll.data.toList.drop 24 = dktX2_lengthAll_1 := dk_seg dksX2_lengthAll_0 24 rfl rfl
theorem dX2_lengthAll_0 : decode cX2_lengthAll 0 = .ok (.iconst 0, 1) := dk_3 (dk_at dksX2_lengthAll_0 0 rfl rfl)
theorem dX2_lengthAll_1 : decode cX2_lengthAll 1 = .ok (.istore_n 1, 1) := dk_60 (dk_at dksX2_lengthAll_0 1 rfl rfl)
theorem dX2_lengthAll_2 : decode cX2_lengthAll 2 = .ok (.iconst 0, 1) := dk_3 (dk_at dksX2_lengthAll_0 2 rfl rfl)
theorem dX2_lengthAll_3 : decode cX2_lengthAll 3 = .ok (.istore_n 2, 1) := dk_61 (dk_at dksX2_lengthAll_0 3 rfl rfl)
theorem dX2_lengthAll_4 : decode cX2_lengthAll 4 = .ok (.iload_n 2, 1) := dk_28 (dk_at dksX2_lengthAll_0 4 rfl rfl)
theorem dX2_lengthAll_5 : decode cX2_lengthAll 5 = .ok (.aload_n 0, 1) := dk_42 (dk_at dksX2_lengthAll_0 5 rfl rfl)
theorem dX2_lengthAll_6 : decode cX2_lengthAll 6 = .ok (.getfield 101, 3) := dk_180 0 101 (dk_at dksX2_lengthAll_0 6 rfl rfl)
theorem dX2_lengthAll_9 : decode cX2_lengthAll 9 = .ok (.if_icmp .ge 22, 3) := dk_162 0 22 (dk_at dksX2_lengthAll_0 9 rfl rfl)
theorem dX2_lengthAll_12 : decode cX2_lengthAll 12 = .ok (.iload_n 1, 1) := dk_27 (dk_at dksX2_lengthAll_0 12 rfl rfl)
theorem dX2_lengthAll_13 : decode cX2_lengthAll 13 = .ok (.aload_n 0, 1) := dk_42 (dk_at dksX2_lengthAll_0 13 rfl rfl)
theorem dX2_lengthAll_14 : decode cX2_lengthAll 14 = .ok (.getfield 13, 3) := dk_180 0 13 (dk_at dksX2_lengthAll_0 14 rfl rfl)
theorem dX2_lengthAll_17 : decode cX2_lengthAll 17 = .ok (.iconst 4, 1) := dk_7 (dk_at dksX2_lengthAll_0 17 rfl rfl)
theorem dX2_lengthAll_18 : decode cX2_lengthAll 18 = .ok (.iload_n 2, 1) := dk_28 (dk_at dksX2_lengthAll_0 18 rfl rfl)
theorem dX2_lengthAll_19 : decode cX2_lengthAll 19 = .ok (.imul, 1) := dk_104 (dk_at dksX2_lengthAll_0 19 rfl rfl)
theorem dX2_lengthAll_20 : decode cX2_lengthAll 20 = .ok (.iconst 3, 1) := dk_6 (dk_at dksX2_lengthAll_0 20 rfl rfl)
theorem dX2_lengthAll_21 : decode cX2_lengthAll 21 = .ok (.iadd, 1) := dk_96 (dk_at dksX2_lengthAll_0 21 rfl rfl)
theorem dX2_lengthAll_22 : decode cX2_lengthAll 22 = .ok (.iaload, 1) := dk_46 (dk_at dksX2_lengthAll_0 22 rfl rfl)
theorem dX2_lengthAll_23 : decode cX2_lengthAll 23 = .ok (.iadd, 1) := dk_96 (dk_at dksX2_lengthAll_0 23 rfl rfl)
theorem dX2_lengthAll_24 : decode cX2_lengthAll 24 = .ok (.istore_n 1, 1) := dk_60 (dk_at dksX2_lengthAll_1 0 rfl rfl)
theorem dX2_lengthAll_25 : decode cX2_lengthAll 25 = .ok (.iinc 2 1, 3) := dk_132 2 1 (dk_at dksX2_lengthAll_1 1 rfl rfl)
theorem dX2_lengthAll_28 : decode cX2_lengthAll 28 = .ok (.goto (-24), 3) := dk_167 255 232 (dk_at dksX2_lengthAll_1 4 rfl rfl)
theorem dX2_lengthAll_31 : decode cX2_lengthAll 31 = .ok (.iload_n 1, 1) := dk_27 (dk_at dksX2_lengthAll_1 7 rfl rfl)
theorem dX2_lengthAll_32 : decode cX2_lengthAll 32 = .ok (.ireturn, 1) := dk_172 (dk_at dksX2_lengthAll_1 8 rfl rfl)
abbrev cX2_digest : ByteArray := prog_11_method_79_code
def yX2_digest : MethodName := ⟨RX2, "digest", "()J"⟩
def dkwX2_digest_5 : List UInt8 := [42, 27, 182, 1, 24, 133, 182, 1, 33, 132, 1, 1, 167, 255, 237, 42, 180, 1, 29, 173]
abbrev dktX2_digest_5 : List UInt8 := dkwX2_digest_5 ++ []
def dkwX2_digest_4 : List UInt8 := [180, 0, 7, 27, 46, 133, 182, 1, 33, 132, 1, 1, 167, 255, 234, 3, 60, 27, 16, 12, 162, 0, 19, 42]
abbrev dktX2_digest_4 : List UInt8 := dkwX2_digest_4 ++ dktX2_digest_5
def dkwX2_digest_3 : List UInt8 := [182, 0, 115, 154, 0, 7, 42, 182, 1, 43, 3, 60, 27, 42, 180, 0, 68, 162, 0, 20, 42, 42]
abbrev dktX2_digest_3 : List UInt8 := dkwX2_digest_3 ++ dktX2_digest_4
def dkwX2_digest_2 : List UInt8 := [42, 27, 28, 182, 0, 198, 133, 182, 1, 33, 132, 2, 1, 167, 255, 237, 132, 1, 1, 167, 255, 221, 42]
abbrev dktX2_digest_2 : List UInt8 := dkwX2_digest_2 ++ dktX2_digest_3
def dkwX2_digest_1 : List UInt8 := [132, 1, 1, 167, 255, 240, 3, 60, 27, 42, 180, 0, 101, 162, 0, 33, 3, 61, 28, 8, 162, 0, 20, 42]
abbrev dktX2_digest_1 : List UInt8 := dkwX2_digest_1 ++ dktX2_digest_2
def dkwX2_digest_0 : List UInt8 := [42, 20, 1, 37, 181, 1, 29, 3, 60, 27, 42, 180, 0, 98, 162, 0, 14, 42, 27, 182, 1, 39]
abbrev dktX2_digest_0 : List UInt8 := dkwX2_digest_0 ++ dktX2_digest_1
theorem dksX2_digest_0 : cX2_digest.data.toList.drop 0 = dktX2_digest_0 := by decide +kernel
theorem dksX2_digest_1 : cX2_digest.data.toList.drop 22 = dktX2_digest_1 := dk_seg dksX2_digest_0 22 rfl rfl
theorem dksX2_digest_2 : cX2_digest.data.toList.drop 46 = dktX2_digest_2 := dk_seg dksX2_digest_1 24 rfl rfl
theorem dksX2_digest_3 : cX2_digest.data.toList.drop 69 = dktX2_digest_3 := dk_seg dksX2_digest_2 23 rfl rfl
theorem dksX2_digest_4 : cX2_digest.data.toList.drop 91 = dktX2_digest_4 := dk_seg dksX2_digest_3 22 rfl rfl
theorem dksX2_digest_5 : cX2_digest.data.toList.drop 115 = dktX2_digest_5 := dk_seg dksX2_digest_4 24 rfl rfl
theorem dX2_digest_0 : decode cX2_digest 0 = .ok (.aload_n 0, 1) := dk_42 (dk_at dksX2_digest_0 0 rfl rfl)
theorem dX2_digest_1 : decode cX2_digest 1 = .ok (.ldc2_w 293, 3) := dk_20 1 37 (dk_at dksX2_digest_0 1 rfl rfl)
theorem dX2_digest_4 : decode cX2_digest 4 = .ok (.putfield 285, 3) := dk_181 1 29 (dk_at dksX2_digest_0 4 rfl rfl)
theorem dX2_digest_7 : decode cX2_digest 7 = .ok (.iconst 0, 1) := dk_3 (dk_at dksX2_digest_0 7 rfl rfl)
theorem dX2_digest_8 : decode cX2_digest 8 = .ok (.istore_n 1, 1) := dk_60 (dk_at dksX2_digest_0 8 rfl rfl)
theorem dX2_digest_9 : decode cX2_digest 9 = .ok (.iload_n 1, 1) := dk_27 (dk_at dksX2_digest_0 9 rfl rfl)
theorem dX2_digest_10 : decode cX2_digest 10 = .ok (.aload_n 0, 1) := dk_42 (dk_at dksX2_digest_0 10 rfl rfl)
theorem dX2_digest_11 : decode cX2_digest 11 = .ok (.getfield 98, 3) := dk_180 0 98 (dk_at dksX2_digest_0 11 rfl rfl)
theorem dX2_digest_14 : decode cX2_digest 14 = .ok (.if_icmp .ge 14, 3) := dk_162 0 14 (dk_at dksX2_digest_0 14 rfl rfl)
theorem dX2_digest_17 : decode cX2_digest 17 = .ok (.aload_n 0, 1) := dk_42 (dk_at dksX2_digest_0 17 rfl rfl)
theorem dX2_digest_18 : decode cX2_digest 18 = .ok (.iload_n 1, 1) := dk_27 (dk_at dksX2_digest_0 18 rfl rfl)
theorem dX2_digest_19 : decode cX2_digest 19 = .ok (.invokevirtual 295, 3) := dk_182 1 39 (dk_at dksX2_digest_0 19 rfl rfl)
theorem dX2_digest_22 : decode cX2_digest 22 = .ok (.iinc 1 1, 3) := dk_132 1 1 (dk_at dksX2_digest_1 0 rfl rfl)
theorem dX2_digest_25 : decode cX2_digest 25 = .ok (.goto (-16), 3) := dk_167 255 240 (dk_at dksX2_digest_1 3 rfl rfl)
theorem dX2_digest_28 : decode cX2_digest 28 = .ok (.iconst 0, 1) := dk_3 (dk_at dksX2_digest_1 6 rfl rfl)
theorem dX2_digest_29 : decode cX2_digest 29 = .ok (.istore_n 1, 1) := dk_60 (dk_at dksX2_digest_1 7 rfl rfl)
theorem dX2_digest_30 : decode cX2_digest 30 = .ok (.iload_n 1, 1) := dk_27 (dk_at dksX2_digest_1 8 rfl rfl)
theorem dX2_digest_31 : decode cX2_digest 31 = .ok (.aload_n 0, 1) := dk_42 (dk_at dksX2_digest_1 9 rfl rfl)
theorem dX2_digest_32 : decode cX2_digest 32 = .ok (.getfield 101, 3) := dk_180 0 101 (dk_at dksX2_digest_1 10 rfl rfl)
theorem dX2_digest_35 : decode cX2_digest 35 = .ok (.if_icmp .ge 33, 3) := dk_162 0 33 (dk_at dksX2_digest_1 13 rfl rfl)
theorem dX2_digest_38 : decode cX2_digest 38 = .ok (.iconst 0, 1) := dk_3 (dk_at dksX2_digest_1 16 rfl rfl)
theorem dX2_digest_39 : decode cX2_digest 39 = .ok (.istore_n 2, 1) := dk_61 (dk_at dksX2_digest_1 17 rfl rfl)
theorem dX2_digest_40 : decode cX2_digest 40 = .ok (.iload_n 2, 1) := dk_28 (dk_at dksX2_digest_1 18 rfl rfl)
theorem dX2_digest_41 : decode cX2_digest 41 = .ok (.iconst 5, 1) := dk_8 (dk_at dksX2_digest_1 19 rfl rfl)
theorem dX2_digest_42 : decode cX2_digest 42 = .ok (.if_icmp .ge 20, 3) := dk_162 0 20 (dk_at dksX2_digest_1 20 rfl rfl)
theorem dX2_digest_45 : decode cX2_digest 45 = .ok (.aload_n 0, 1) := dk_42 (dk_at dksX2_digest_1 23 rfl rfl)
theorem dX2_digest_46 : decode cX2_digest 46 = .ok (.aload_n 0, 1) := dk_42 (dk_at dksX2_digest_2 0 rfl rfl)
theorem dX2_digest_47 : decode cX2_digest 47 = .ok (.iload_n 1, 1) := dk_27 (dk_at dksX2_digest_2 1 rfl rfl)
theorem dX2_digest_48 : decode cX2_digest 48 = .ok (.iload_n 2, 1) := dk_28 (dk_at dksX2_digest_2 2 rfl rfl)
theorem dX2_digest_49 : decode cX2_digest 49 = .ok (.invokevirtual 198, 3) := dk_182 0 198 (dk_at dksX2_digest_2 3 rfl rfl)
theorem dX2_digest_52 : decode cX2_digest 52 = .ok (.i2l, 1) := dk_133 (dk_at dksX2_digest_2 6 rfl rfl)
theorem dX2_digest_53 : decode cX2_digest 53 = .ok (.invokevirtual 289, 3) := dk_182 1 33 (dk_at dksX2_digest_2 7 rfl rfl)
theorem dX2_digest_56 : decode cX2_digest 56 = .ok (.iinc 2 1, 3) := dk_132 2 1 (dk_at dksX2_digest_2 10 rfl rfl)
theorem dX2_digest_59 : decode cX2_digest 59 = .ok (.goto (-19), 3) := dk_167 255 237 (dk_at dksX2_digest_2 13 rfl rfl)
theorem dX2_digest_62 : decode cX2_digest 62 = .ok (.iinc 1 1, 3) := dk_132 1 1 (dk_at dksX2_digest_2 16 rfl rfl)
theorem dX2_digest_65 : decode cX2_digest 65 = .ok (.goto (-35), 3) := dk_167 255 221 (dk_at dksX2_digest_2 19 rfl rfl)
theorem dX2_digest_68 : decode cX2_digest 68 = .ok (.aload_n 0, 1) := dk_42 (dk_at dksX2_digest_2 22 rfl rfl)
theorem dX2_digest_69 : decode cX2_digest 69 = .ok (.invokevirtual 115, 3) := dk_182 0 115 (dk_at dksX2_digest_3 0 rfl rfl)
theorem dX2_digest_72 : decode cX2_digest 72 = .ok (.ifCond .ne 7, 3) := dk_154 0 7 (dk_at dksX2_digest_3 3 rfl rfl)
theorem dX2_digest_75 : decode cX2_digest 75 = .ok (.aload_n 0, 1) := dk_42 (dk_at dksX2_digest_3 6 rfl rfl)
theorem dX2_digest_76 : decode cX2_digest 76 = .ok (.invokevirtual 299, 3) := dk_182 1 43 (dk_at dksX2_digest_3 7 rfl rfl)
theorem dX2_digest_79 : decode cX2_digest 79 = .ok (.iconst 0, 1) := dk_3 (dk_at dksX2_digest_3 10 rfl rfl)
theorem dX2_digest_80 : decode cX2_digest 80 = .ok (.istore_n 1, 1) := dk_60 (dk_at dksX2_digest_3 11 rfl rfl)
theorem dX2_digest_81 : decode cX2_digest 81 = .ok (.iload_n 1, 1) := dk_27 (dk_at dksX2_digest_3 12 rfl rfl)
theorem dX2_digest_82 : decode cX2_digest 82 = .ok (.aload_n 0, 1) := dk_42 (dk_at dksX2_digest_3 13 rfl rfl)
theorem dX2_digest_83 : decode cX2_digest 83 = .ok (.getfield 68, 3) := dk_180 0 68 (dk_at dksX2_digest_3 14 rfl rfl)
theorem dX2_digest_86 : decode cX2_digest 86 = .ok (.if_icmp .ge 20, 3) := dk_162 0 20 (dk_at dksX2_digest_3 17 rfl rfl)
theorem dX2_digest_89 : decode cX2_digest 89 = .ok (.aload_n 0, 1) := dk_42 (dk_at dksX2_digest_3 20 rfl rfl)
theorem dX2_digest_90 : decode cX2_digest 90 = .ok (.aload_n 0, 1) := dk_42 (dk_at dksX2_digest_3 21 rfl rfl)
theorem dX2_digest_91 : decode cX2_digest 91 = .ok (.getfield 7, 3) := dk_180 0 7 (dk_at dksX2_digest_4 0 rfl rfl)
theorem dX2_digest_94 : decode cX2_digest 94 = .ok (.iload_n 1, 1) := dk_27 (dk_at dksX2_digest_4 3 rfl rfl)
theorem dX2_digest_95 : decode cX2_digest 95 = .ok (.iaload, 1) := dk_46 (dk_at dksX2_digest_4 4 rfl rfl)
theorem dX2_digest_96 : decode cX2_digest 96 = .ok (.i2l, 1) := dk_133 (dk_at dksX2_digest_4 5 rfl rfl)
theorem dX2_digest_97 : decode cX2_digest 97 = .ok (.invokevirtual 289, 3) := dk_182 1 33 (dk_at dksX2_digest_4 6 rfl rfl)
theorem dX2_digest_100 : decode cX2_digest 100 = .ok (.iinc 1 1, 3) := dk_132 1 1 (dk_at dksX2_digest_4 9 rfl rfl)
theorem dX2_digest_103 : decode cX2_digest 103 = .ok (.goto (-22), 3) := dk_167 255 234 (dk_at dksX2_digest_4 12 rfl rfl)
theorem dX2_digest_106 : decode cX2_digest 106 = .ok (.iconst 0, 1) := dk_3 (dk_at dksX2_digest_4 15 rfl rfl)
theorem dX2_digest_107 : decode cX2_digest 107 = .ok (.istore_n 1, 1) := dk_60 (dk_at dksX2_digest_4 16 rfl rfl)
theorem dX2_digest_108 : decode cX2_digest 108 = .ok (.iload_n 1, 1) := dk_27 (dk_at dksX2_digest_4 17 rfl rfl)
theorem dX2_digest_109 : decode cX2_digest 109 = .ok (.bipush 12, 2) := dk_16 12 (dk_at dksX2_digest_4 18 rfl rfl)
theorem dX2_digest_111 : decode cX2_digest 111 = .ok (.if_icmp .ge 19, 3) := dk_162 0 19 (dk_at dksX2_digest_4 20 rfl rfl)
theorem dX2_digest_114 : decode cX2_digest 114 = .ok (.aload_n 0, 1) := dk_42 (dk_at dksX2_digest_4 23 rfl rfl)
theorem dX2_digest_115 : decode cX2_digest 115 = .ok (.aload_n 0, 1) := dk_42 (dk_at dksX2_digest_5 0 rfl rfl)
theorem dX2_digest_116 : decode cX2_digest 116 = .ok (.iload_n 1, 1) := dk_27 (dk_at dksX2_digest_5 1 rfl rfl)
theorem dX2_digest_117 : decode cX2_digest 117 = .ok (.invokevirtual 280, 3) := dk_182 1 24 (dk_at dksX2_digest_5 2 rfl rfl)
theorem dX2_digest_120 : decode cX2_digest 120 = .ok (.i2l, 1) := dk_133 (dk_at dksX2_digest_5 5 rfl rfl)
theorem dX2_digest_121 : decode cX2_digest 121 = .ok (.invokevirtual 289, 3) := dk_182 1 33 (dk_at dksX2_digest_5 6 rfl rfl)
theorem dX2_digest_124 : decode cX2_digest 124 = .ok (.iinc 1 1, 3) := dk_132 1 1 (dk_at dksX2_digest_5 9 rfl rfl)
theorem dX2_digest_127 : decode cX2_digest 127 = .ok (.goto (-19), 3) := dk_167 255 237 (dk_at dksX2_digest_5 12 rfl rfl)
theorem dX2_digest_130 : decode cX2_digest 130 = .ok (.aload_n 0, 1) := dk_42 (dk_at dksX2_digest_5 15 rfl rfl)
theorem dX2_digest_131 : decode cX2_digest 131 = .ok (.getfield 285, 3) := dk_180 1 29 (dk_at dksX2_digest_5 16 rfl rfl)
theorem dX2_digest_134 : decode cX2_digest 134 = .ok (.lreturn, 1) := dk_173 (dk_at dksX2_digest_5 19 rfl rfl)
abbrev cX2_sayPerson : ByteArray := prog_11_method_77_code
def yX2_sayPerson : MethodName := ⟨RX2, "sayPerson", "(I)V"⟩
def dkwX2_sayPerson_5 : List UInt8 := [28, 182, 0, 181, 133, 182, 1, 33, 132, 2, 1, 167, 255, 183, 177]
abbrev dktX2_sayPerson_5 : List UInt8 := dkwX2_sayPerson_5 ++ []
def dkwX2_sayPerson_4 : List UInt8 := [182, 0, 161, 133, 182, 1, 33, 42, 42, 27, 3, 28, 3, 182, 0, 178, 133, 182, 1, 33, 42, 42, 27, 3]
abbrev dktX2_sayPerson_4 : List UInt8 := dkwX2_sayPerson_4 ++ dktX2_sayPerson_5
def dkwX2_sayPerson_3 : List UInt8 := [182, 1, 33, 42, 42, 27, 3, 28, 4, 182, 0, 161, 133, 182, 1, 33, 42, 42, 27, 3, 28, 5]
abbrev dktX2_sayPerson_3 : List UInt8 := dkwX2_sayPerson_3 ++ dktX2_sayPerson_4
def dkwX2_sayPerson_2 : List UInt8 := [132, 2, 1, 167, 255, 234, 4, 61, 28, 16, 8, 162, 0, 73, 42, 42, 27, 3, 28, 3, 182, 0, 161, 133]
abbrev dktX2_sayPerson_2 : List UInt8 := dkwX2_sayPerson_2 ++ dktX2_sayPerson_3
def dkwX2_sayPerson_1 : List UInt8 := [167, 255, 236, 3, 61, 28, 42, 180, 0, 101, 162, 0, 20, 42, 42, 27, 28, 182, 0, 164, 133, 182, 1, 33]
abbrev dktX2_sayPerson_1 : List UInt8 := dkwX2_sayPerson_1 ++ dktX2_sayPerson_2
def dkwX2_sayPerson_0 : List UInt8 := [3, 61, 28, 16, 6, 162, 0, 20, 42, 42, 27, 28, 182, 0, 187, 133, 182, 1, 33, 132, 2, 1]
abbrev dktX2_sayPerson_0 : List UInt8 := dkwX2_sayPerson_0 ++ dktX2_sayPerson_1
theorem dksX2_sayPerson_0 : cX2_sayPerson.data.toList.drop 0 = dktX2_sayPerson_0 := by decide +kernel
theorem dksX2_sayPerson_1 : cX2_sayPerson.data.toList.drop 22 = dktX2_sayPerson_1 := dk_seg dksX2_sayPerson_0 22 rfl rfl
theorem dksX2_sayPerson_2 : cX2_sayPerson.data.toList.drop 46 = dktX2_sayPerson_2 := dk_seg dksX2_sayPerson_1 24 rfl rfl
theorem dksX2_sayPerson_3 : cX2_sayPerson.data.toList.drop 70 = dktX2_sayPerson_3 := dk_seg dksX2_sayPerson_2 24 rfl rfl
theorem dksX2_sayPerson_4 : cX2_sayPerson.data.toList.drop 92 = dktX2_sayPerson_4 := dk_seg dksX2_sayPerson_3 22 rfl rfl
theorem dksX2_sayPerson_5 : cX2_sayPerson.data.toList.drop 116 = dktX2_sayPerson_5 := dk_seg dksX2_sayPerson_4 24 rfl rfl
theorem dX2_sayPerson_0 : decode cX2_sayPerson 0 = .ok (.iconst 0, 1) := dk_3 (dk_at dksX2_sayPerson_0 0 rfl rfl)
theorem dX2_sayPerson_1 : decode cX2_sayPerson 1 = .ok (.istore_n 2, 1) := dk_61 (dk_at dksX2_sayPerson_0 1 rfl rfl)
theorem dX2_sayPerson_2 : decode cX2_sayPerson 2 = .ok (.iload_n 2, 1) := dk_28 (dk_at dksX2_sayPerson_0 2 rfl rfl)
theorem dX2_sayPerson_3 : decode cX2_sayPerson 3 = .ok (.bipush 6, 2) := dk_16 6 (dk_at dksX2_sayPerson_0 3 rfl rfl)
theorem dX2_sayPerson_5 : decode cX2_sayPerson 5 = .ok (.if_icmp .ge 20, 3) := dk_162 0 20 (dk_at dksX2_sayPerson_0 5 rfl rfl)
theorem dX2_sayPerson_8 : decode cX2_sayPerson 8 = .ok (.aload_n 0, 1) := dk_42 (dk_at dksX2_sayPerson_0 8 rfl rfl)
theorem dX2_sayPerson_9 : decode cX2_sayPerson 9 = .ok (.aload_n 0, 1) := dk_42 (dk_at dksX2_sayPerson_0 9 rfl rfl)
theorem dX2_sayPerson_10 : decode cX2_sayPerson 10 = .ok (.iload_n 1, 1) := dk_27 (dk_at dksX2_sayPerson_0 10 rfl rfl)
theorem dX2_sayPerson_11 : decode cX2_sayPerson 11 = .ok (.iload_n 2, 1) := dk_28 (dk_at dksX2_sayPerson_0 11 rfl rfl)
theorem dX2_sayPerson_12 : decode cX2_sayPerson 12 = .ok (.invokevirtual 187, 3) := dk_182 0 187 (dk_at dksX2_sayPerson_0 12 rfl rfl)
theorem dX2_sayPerson_15 : decode cX2_sayPerson 15 = .ok (.i2l, 1) := dk_133 (dk_at dksX2_sayPerson_0 15 rfl rfl)
theorem dX2_sayPerson_16 : decode cX2_sayPerson 16 = .ok (.invokevirtual 289, 3) := dk_182 1 33 (dk_at dksX2_sayPerson_0 16 rfl rfl)
theorem dX2_sayPerson_19 : decode cX2_sayPerson 19 = .ok (.iinc 2 1, 3) := dk_132 2 1 (dk_at dksX2_sayPerson_0 19 rfl rfl)
theorem dX2_sayPerson_22 : decode cX2_sayPerson 22 = .ok (.goto (-20), 3) := dk_167 255 236 (dk_at dksX2_sayPerson_1 0 rfl rfl)
theorem dX2_sayPerson_25 : decode cX2_sayPerson 25 = .ok (.iconst 0, 1) := dk_3 (dk_at dksX2_sayPerson_1 3 rfl rfl)
theorem dX2_sayPerson_26 : decode cX2_sayPerson 26 = .ok (.istore_n 2, 1) := dk_61 (dk_at dksX2_sayPerson_1 4 rfl rfl)
theorem dX2_sayPerson_27 : decode cX2_sayPerson 27 = .ok (.iload_n 2, 1) := dk_28 (dk_at dksX2_sayPerson_1 5 rfl rfl)
theorem dX2_sayPerson_28 : decode cX2_sayPerson 28 = .ok (.aload_n 0, 1) := dk_42 (dk_at dksX2_sayPerson_1 6 rfl rfl)
theorem dX2_sayPerson_29 : decode cX2_sayPerson 29 = .ok (.getfield 101, 3) := dk_180 0 101 (dk_at dksX2_sayPerson_1 7 rfl rfl)
theorem dX2_sayPerson_32 : decode cX2_sayPerson 32 = .ok (.if_icmp .ge 20, 3) := dk_162 0 20 (dk_at dksX2_sayPerson_1 10 rfl rfl)
theorem dX2_sayPerson_35 : decode cX2_sayPerson 35 = .ok (.aload_n 0, 1) := dk_42 (dk_at dksX2_sayPerson_1 13 rfl rfl)
theorem dX2_sayPerson_36 : decode cX2_sayPerson 36 = .ok (.aload_n 0, 1) := dk_42 (dk_at dksX2_sayPerson_1 14 rfl rfl)
theorem dX2_sayPerson_37 : decode cX2_sayPerson 37 = .ok (.iload_n 1, 1) := dk_27 (dk_at dksX2_sayPerson_1 15 rfl rfl)
theorem dX2_sayPerson_38 : decode cX2_sayPerson 38 = .ok (.iload_n 2, 1) := dk_28 (dk_at dksX2_sayPerson_1 16 rfl rfl)
theorem dX2_sayPerson_39 : decode cX2_sayPerson 39 = .ok (.invokevirtual 164, 3) := dk_182 0 164 (dk_at dksX2_sayPerson_1 17 rfl rfl)
theorem dX2_sayPerson_42 : decode cX2_sayPerson 42 = .ok (.i2l, 1) := dk_133 (dk_at dksX2_sayPerson_1 20 rfl rfl)
theorem dX2_sayPerson_43 : decode cX2_sayPerson 43 = .ok (.invokevirtual 289, 3) := dk_182 1 33 (dk_at dksX2_sayPerson_1 21 rfl rfl)
theorem dX2_sayPerson_46 : decode cX2_sayPerson 46 = .ok (.iinc 2 1, 3) := dk_132 2 1 (dk_at dksX2_sayPerson_2 0 rfl rfl)
theorem dX2_sayPerson_49 : decode cX2_sayPerson 49 = .ok (.goto (-22), 3) := dk_167 255 234 (dk_at dksX2_sayPerson_2 3 rfl rfl)
theorem dX2_sayPerson_52 : decode cX2_sayPerson 52 = .ok (.iconst 1, 1) := dk_4 (dk_at dksX2_sayPerson_2 6 rfl rfl)
theorem dX2_sayPerson_53 : decode cX2_sayPerson 53 = .ok (.istore_n 2, 1) := dk_61 (dk_at dksX2_sayPerson_2 7 rfl rfl)
theorem dX2_sayPerson_54 : decode cX2_sayPerson 54 = .ok (.iload_n 2, 1) := dk_28 (dk_at dksX2_sayPerson_2 8 rfl rfl)
theorem dX2_sayPerson_55 : decode cX2_sayPerson 55 = .ok (.bipush 8, 2) := dk_16 8 (dk_at dksX2_sayPerson_2 9 rfl rfl)
theorem dX2_sayPerson_57 : decode cX2_sayPerson 57 = .ok (.if_icmp .ge 73, 3) := dk_162 0 73 (dk_at dksX2_sayPerson_2 11 rfl rfl)
theorem dX2_sayPerson_60 : decode cX2_sayPerson 60 = .ok (.aload_n 0, 1) := dk_42 (dk_at dksX2_sayPerson_2 14 rfl rfl)
theorem dX2_sayPerson_61 : decode cX2_sayPerson 61 = .ok (.aload_n 0, 1) := dk_42 (dk_at dksX2_sayPerson_2 15 rfl rfl)
theorem dX2_sayPerson_62 : decode cX2_sayPerson 62 = .ok (.iload_n 1, 1) := dk_27 (dk_at dksX2_sayPerson_2 16 rfl rfl)
theorem dX2_sayPerson_63 : decode cX2_sayPerson 63 = .ok (.iconst 0, 1) := dk_3 (dk_at dksX2_sayPerson_2 17 rfl rfl)
theorem dX2_sayPerson_64 : decode cX2_sayPerson 64 = .ok (.iload_n 2, 1) := dk_28 (dk_at dksX2_sayPerson_2 18 rfl rfl)
theorem dX2_sayPerson_65 : decode cX2_sayPerson 65 = .ok (.iconst 0, 1) := dk_3 (dk_at dksX2_sayPerson_2 19 rfl rfl)
theorem dX2_sayPerson_66 : decode cX2_sayPerson 66 = .ok (.invokevirtual 161, 3) := dk_182 0 161 (dk_at dksX2_sayPerson_2 20 rfl rfl)
theorem dX2_sayPerson_69 : decode cX2_sayPerson 69 = .ok (.i2l, 1) := dk_133 (dk_at dksX2_sayPerson_2 23 rfl rfl)
theorem dX2_sayPerson_70 : decode cX2_sayPerson 70 = .ok (.invokevirtual 289, 3) := dk_182 1 33 (dk_at dksX2_sayPerson_3 0 rfl rfl)
theorem dX2_sayPerson_73 : decode cX2_sayPerson 73 = .ok (.aload_n 0, 1) := dk_42 (dk_at dksX2_sayPerson_3 3 rfl rfl)
theorem dX2_sayPerson_74 : decode cX2_sayPerson 74 = .ok (.aload_n 0, 1) := dk_42 (dk_at dksX2_sayPerson_3 4 rfl rfl)
theorem dX2_sayPerson_75 : decode cX2_sayPerson 75 = .ok (.iload_n 1, 1) := dk_27 (dk_at dksX2_sayPerson_3 5 rfl rfl)
theorem dX2_sayPerson_76 : decode cX2_sayPerson 76 = .ok (.iconst 0, 1) := dk_3 (dk_at dksX2_sayPerson_3 6 rfl rfl)
theorem dX2_sayPerson_77 : decode cX2_sayPerson 77 = .ok (.iload_n 2, 1) := dk_28 (dk_at dksX2_sayPerson_3 7 rfl rfl)
theorem dX2_sayPerson_78 : decode cX2_sayPerson 78 = .ok (.iconst 1, 1) := dk_4 (dk_at dksX2_sayPerson_3 8 rfl rfl)
theorem dX2_sayPerson_79 : decode cX2_sayPerson 79 = .ok (.invokevirtual 161, 3) := dk_182 0 161 (dk_at dksX2_sayPerson_3 9 rfl rfl)
theorem dX2_sayPerson_82 : decode cX2_sayPerson 82 = .ok (.i2l, 1) := dk_133 (dk_at dksX2_sayPerson_3 12 rfl rfl)
theorem dX2_sayPerson_83 : decode cX2_sayPerson 83 = .ok (.invokevirtual 289, 3) := dk_182 1 33 (dk_at dksX2_sayPerson_3 13 rfl rfl)
theorem dX2_sayPerson_86 : decode cX2_sayPerson 86 = .ok (.aload_n 0, 1) := dk_42 (dk_at dksX2_sayPerson_3 16 rfl rfl)
theorem dX2_sayPerson_87 : decode cX2_sayPerson 87 = .ok (.aload_n 0, 1) := dk_42 (dk_at dksX2_sayPerson_3 17 rfl rfl)
theorem dX2_sayPerson_88 : decode cX2_sayPerson 88 = .ok (.iload_n 1, 1) := dk_27 (dk_at dksX2_sayPerson_3 18 rfl rfl)
theorem dX2_sayPerson_89 : decode cX2_sayPerson 89 = .ok (.iconst 0, 1) := dk_3 (dk_at dksX2_sayPerson_3 19 rfl rfl)
theorem dX2_sayPerson_90 : decode cX2_sayPerson 90 = .ok (.iload_n 2, 1) := dk_28 (dk_at dksX2_sayPerson_3 20 rfl rfl)
theorem dX2_sayPerson_91 : decode cX2_sayPerson 91 = .ok (.iconst 2, 1) := dk_5 (dk_at dksX2_sayPerson_3 21 rfl rfl)
theorem dX2_sayPerson_92 : decode cX2_sayPerson 92 = .ok (.invokevirtual 161, 3) := dk_182 0 161 (dk_at dksX2_sayPerson_4 0 rfl rfl)
theorem dX2_sayPerson_95 : decode cX2_sayPerson 95 = .ok (.i2l, 1) := dk_133 (dk_at dksX2_sayPerson_4 3 rfl rfl)
theorem dX2_sayPerson_96 : decode cX2_sayPerson 96 = .ok (.invokevirtual 289, 3) := dk_182 1 33 (dk_at dksX2_sayPerson_4 4 rfl rfl)
theorem dX2_sayPerson_99 : decode cX2_sayPerson 99 = .ok (.aload_n 0, 1) := dk_42 (dk_at dksX2_sayPerson_4 7 rfl rfl)
theorem dX2_sayPerson_100 : decode cX2_sayPerson 100 = .ok (.aload_n 0, 1) := dk_42 (dk_at dksX2_sayPerson_4 8 rfl rfl)
theorem dX2_sayPerson_101 : decode cX2_sayPerson 101 = .ok (.iload_n 1, 1) := dk_27 (dk_at dksX2_sayPerson_4 9 rfl rfl)
theorem dX2_sayPerson_102 : decode cX2_sayPerson 102 = .ok (.iconst 0, 1) := dk_3 (dk_at dksX2_sayPerson_4 10 rfl rfl)
theorem dX2_sayPerson_103 : decode cX2_sayPerson 103 = .ok (.iload_n 2, 1) := dk_28 (dk_at dksX2_sayPerson_4 11 rfl rfl)
theorem dX2_sayPerson_104 : decode cX2_sayPerson 104 = .ok (.iconst 0, 1) := dk_3 (dk_at dksX2_sayPerson_4 12 rfl rfl)
theorem dX2_sayPerson_105 : decode cX2_sayPerson 105 = .ok (.invokevirtual 178, 3) := dk_182 0 178 (dk_at dksX2_sayPerson_4 13 rfl rfl)
theorem dX2_sayPerson_108 : decode cX2_sayPerson 108 = .ok (.i2l, 1) := dk_133 (dk_at dksX2_sayPerson_4 16 rfl rfl)
theorem dX2_sayPerson_109 : decode cX2_sayPerson 109 = .ok (.invokevirtual 289, 3) := dk_182 1 33 (dk_at dksX2_sayPerson_4 17 rfl rfl)
theorem dX2_sayPerson_112 : decode cX2_sayPerson 112 = .ok (.aload_n 0, 1) := dk_42 (dk_at dksX2_sayPerson_4 20 rfl rfl)
theorem dX2_sayPerson_113 : decode cX2_sayPerson 113 = .ok (.aload_n 0, 1) := dk_42 (dk_at dksX2_sayPerson_4 21 rfl rfl)
theorem dX2_sayPerson_114 : decode cX2_sayPerson 114 = .ok (.iload_n 1, 1) := dk_27 (dk_at dksX2_sayPerson_4 22 rfl rfl)
theorem dX2_sayPerson_115 : decode cX2_sayPerson 115 = .ok (.iconst 0, 1) := dk_3 (dk_at dksX2_sayPerson_4 23 rfl rfl)
theorem dX2_sayPerson_116 : decode cX2_sayPerson 116 = .ok (.iload_n 2, 1) := dk_28 (dk_at dksX2_sayPerson_5 0 rfl rfl)
theorem dX2_sayPerson_117 : decode cX2_sayPerson 117 = .ok (.invokevirtual 181, 3) := dk_182 0 181 (dk_at dksX2_sayPerson_5 1 rfl rfl)
theorem dX2_sayPerson_120 : decode cX2_sayPerson 120 = .ok (.i2l, 1) := dk_133 (dk_at dksX2_sayPerson_5 4 rfl rfl)
theorem dX2_sayPerson_121 : decode cX2_sayPerson 121 = .ok (.invokevirtual 289, 3) := dk_182 1 33 (dk_at dksX2_sayPerson_5 5 rfl rfl)
theorem dX2_sayPerson_124 : decode cX2_sayPerson 124 = .ok (.iinc 2 1, 3) := dk_132 2 1 (dk_at dksX2_sayPerson_5 8 rfl rfl)
theorem dX2_sayPerson_127 : decode cX2_sayPerson 127 = .ok (.goto (-73), 3) := dk_167 255 183 (dk_at dksX2_sayPerson_5 11 rfl rfl)
theorem dX2_sayPerson_130 : decode cX2_sayPerson 130 = .ok (.return_, 1) := dk_177 (dk_at dksX2_sayPerson_5 14 rfl rfl)
abbrev cX2_say : ByteArray := prog_11_method_76_code
def yX2_say : MethodName := ⟨RX2, "say", "(J)V"⟩
def dkwX2_say_0 : List UInt8 := [42, 20, 1, 27, 42, 180, 1, 29, 105, 31, 97, 181, 1, 29, 177]
abbrev dktX2_say_0 : List UInt8 := dkwX2_say_0 ++ []
theorem dksX2_say_0 : cX2_say.data.toList.drop 0 = dktX2_say_0 := by decide +kernel
theorem dX2_say_0 : decode cX2_say 0 = .ok (.aload_n 0, 1) := dk_42 (dk_at dksX2_say_0 0 rfl rfl)
theorem dX2_say_1 : decode cX2_say 1 = .ok (.ldc2_w 283, 3) := dk_20 1 27 (dk_at dksX2_say_0 1 rfl rfl)
theorem dX2_say_4 : decode cX2_say 4 = .ok (.aload_n 0, 1) := dk_42 (dk_at dksX2_say_0 4 rfl rfl)
theorem dX2_say_5 : decode cX2_say 5 = .ok (.getfield 285, 3) := dk_180 1 29 (dk_at dksX2_say_0 5 rfl rfl)
theorem dX2_say_8 : decode cX2_say 8 = .ok (.lmul, 1) := dk_105 (dk_at dksX2_say_0 8 rfl rfl)
theorem dX2_say_9 : decode cX2_say 9 = .ok (.lload_n 1, 1) := dk_31 (dk_at dksX2_say_0 9 rfl rfl)
theorem dX2_say_10 : decode cX2_say 10 = .ok (.ladd, 1) := dk_97 (dk_at dksX2_say_0 10 rfl rfl)
theorem dX2_say_11 : decode cX2_say 11 = .ok (.putfield 285, 3) := dk_181 1 29 (dk_at dksX2_say_0 11 rfl rfl)
theorem dX2_say_14 : decode cX2_say 14 = .ok (.return_, 1) := dk_177 (dk_at dksX2_say_0 14 rfl rfl)
abbrev cX2_sayTown : ByteArray := prog_11_method_78_code
def yX2_sayTown : MethodName := ⟨RX2, "sayTown", "()V"⟩
def dkwX2_sayTown_3 : List UInt8 := [42, 42, 16, 11, 182, 0, 237, 133, 182, 1, 33, 177]
abbrev dktX2_sayTown_3 : List UInt8 := dkwX2_sayTown_3 ++ []
def dkwX2_sayTown_2 : List UInt8 := [182, 1, 33, 42, 42, 4, 182, 0, 237, 133, 182, 1, 33, 42, 42, 16, 10, 182, 0, 237, 133, 182, 1, 33]
abbrev dktX2_sayTown_2 : List UInt8 := dkwX2_sayTown_2 ++ dktX2_sayTown_3
def dkwX2_sayTown_1 : List UInt8 := [182, 1, 33, 132, 2, 1, 167, 255, 236, 132, 1, 1, 167, 255, 223, 42, 42, 3, 182, 0, 237, 133]
abbrev dktX2_sayTown_1 : List UInt8 := dkwX2_sayTown_1 ++ dktX2_sayTown_2
def dkwX2_sayTown_0 : List UInt8 := [3, 60, 27, 5, 162, 0, 34, 3, 61, 28, 16, 6, 162, 0, 20, 42, 42, 27, 28, 182, 0, 220, 133]
abbrev dktX2_sayTown_0 : List UInt8 := dkwX2_sayTown_0 ++ dktX2_sayTown_1
theorem dksX2_sayTown_0 : cX2_sayTown.data.toList.drop 0 = dktX2_sayTown_0 := by decide +kernel
theorem dksX2_sayTown_1 : cX2_sayTown.data.toList.drop 23 = dktX2_sayTown_1 := dk_seg dksX2_sayTown_0 23 rfl rfl
theorem dksX2_sayTown_2 : cX2_sayTown.data.toList.drop 45 = dktX2_sayTown_2 := dk_seg dksX2_sayTown_1 22 rfl rfl
theorem dksX2_sayTown_3 : cX2_sayTown.data.toList.drop 69 = dktX2_sayTown_3 := dk_seg dksX2_sayTown_2 24 rfl rfl
theorem dX2_sayTown_0 : decode cX2_sayTown 0 = .ok (.iconst 0, 1) := dk_3 (dk_at dksX2_sayTown_0 0 rfl rfl)
theorem dX2_sayTown_1 : decode cX2_sayTown 1 = .ok (.istore_n 1, 1) := dk_60 (dk_at dksX2_sayTown_0 1 rfl rfl)
theorem dX2_sayTown_2 : decode cX2_sayTown 2 = .ok (.iload_n 1, 1) := dk_27 (dk_at dksX2_sayTown_0 2 rfl rfl)
theorem dX2_sayTown_3 : decode cX2_sayTown 3 = .ok (.iconst 2, 1) := dk_5 (dk_at dksX2_sayTown_0 3 rfl rfl)
theorem dX2_sayTown_4 : decode cX2_sayTown 4 = .ok (.if_icmp .ge 34, 3) := dk_162 0 34 (dk_at dksX2_sayTown_0 4 rfl rfl)
theorem dX2_sayTown_7 : decode cX2_sayTown 7 = .ok (.iconst 0, 1) := dk_3 (dk_at dksX2_sayTown_0 7 rfl rfl)
theorem dX2_sayTown_8 : decode cX2_sayTown 8 = .ok (.istore_n 2, 1) := dk_61 (dk_at dksX2_sayTown_0 8 rfl rfl)
theorem dX2_sayTown_9 : decode cX2_sayTown 9 = .ok (.iload_n 2, 1) := dk_28 (dk_at dksX2_sayTown_0 9 rfl rfl)
theorem dX2_sayTown_10 : decode cX2_sayTown 10 = .ok (.bipush 6, 2) := dk_16 6 (dk_at dksX2_sayTown_0 10 rfl rfl)
theorem dX2_sayTown_12 : decode cX2_sayTown 12 = .ok (.if_icmp .ge 20, 3) := dk_162 0 20 (dk_at dksX2_sayTown_0 12 rfl rfl)
theorem dX2_sayTown_15 : decode cX2_sayTown 15 = .ok (.aload_n 0, 1) := dk_42 (dk_at dksX2_sayTown_0 15 rfl rfl)
theorem dX2_sayTown_16 : decode cX2_sayTown 16 = .ok (.aload_n 0, 1) := dk_42 (dk_at dksX2_sayTown_0 16 rfl rfl)
theorem dX2_sayTown_17 : decode cX2_sayTown 17 = .ok (.iload_n 1, 1) := dk_27 (dk_at dksX2_sayTown_0 17 rfl rfl)
theorem dX2_sayTown_18 : decode cX2_sayTown 18 = .ok (.iload_n 2, 1) := dk_28 (dk_at dksX2_sayTown_0 18 rfl rfl)
theorem dX2_sayTown_19 : decode cX2_sayTown 19 = .ok (.invokevirtual 220, 3) := dk_182 0 220 (dk_at dksX2_sayTown_0 19 rfl rfl)
theorem dX2_sayTown_22 : decode cX2_sayTown 22 = .ok (.i2l, 1) := dk_133 (dk_at dksX2_sayTown_0 22 rfl rfl)
theorem dX2_sayTown_23 : decode cX2_sayTown 23 = .ok (.invokevirtual 289, 3) := dk_182 1 33 (dk_at dksX2_sayTown_1 0 rfl rfl)
theorem dX2_sayTown_26 : decode cX2_sayTown 26 = .ok (.iinc 2 1, 3) := dk_132 2 1 (dk_at dksX2_sayTown_1 3 rfl rfl)
theorem dX2_sayTown_29 : decode cX2_sayTown 29 = .ok (.goto (-20), 3) := dk_167 255 236 (dk_at dksX2_sayTown_1 6 rfl rfl)
theorem dX2_sayTown_32 : decode cX2_sayTown 32 = .ok (.iinc 1 1, 3) := dk_132 1 1 (dk_at dksX2_sayTown_1 9 rfl rfl)
theorem dX2_sayTown_35 : decode cX2_sayTown 35 = .ok (.goto (-33), 3) := dk_167 255 223 (dk_at dksX2_sayTown_1 12 rfl rfl)
theorem dX2_sayTown_38 : decode cX2_sayTown 38 = .ok (.aload_n 0, 1) := dk_42 (dk_at dksX2_sayTown_1 15 rfl rfl)
theorem dX2_sayTown_39 : decode cX2_sayTown 39 = .ok (.aload_n 0, 1) := dk_42 (dk_at dksX2_sayTown_1 16 rfl rfl)
theorem dX2_sayTown_40 : decode cX2_sayTown 40 = .ok (.iconst 0, 1) := dk_3 (dk_at dksX2_sayTown_1 17 rfl rfl)
theorem dX2_sayTown_41 : decode cX2_sayTown 41 = .ok (.invokevirtual 237, 3) := dk_182 0 237 (dk_at dksX2_sayTown_1 18 rfl rfl)
theorem dX2_sayTown_44 : decode cX2_sayTown 44 = .ok (.i2l, 1) := dk_133 (dk_at dksX2_sayTown_1 21 rfl rfl)
theorem dX2_sayTown_45 : decode cX2_sayTown 45 = .ok (.invokevirtual 289, 3) := dk_182 1 33 (dk_at dksX2_sayTown_2 0 rfl rfl)
theorem dX2_sayTown_48 : decode cX2_sayTown 48 = .ok (.aload_n 0, 1) := dk_42 (dk_at dksX2_sayTown_2 3 rfl rfl)
theorem dX2_sayTown_49 : decode cX2_sayTown 49 = .ok (.aload_n 0, 1) := dk_42 (dk_at dksX2_sayTown_2 4 rfl rfl)
theorem dX2_sayTown_50 : decode cX2_sayTown 50 = .ok (.iconst 1, 1) := dk_4 (dk_at dksX2_sayTown_2 5 rfl rfl)
theorem dX2_sayTown_51 : decode cX2_sayTown 51 = .ok (.invokevirtual 237, 3) := dk_182 0 237 (dk_at dksX2_sayTown_2 6 rfl rfl)
theorem dX2_sayTown_54 : decode cX2_sayTown 54 = .ok (.i2l, 1) := dk_133 (dk_at dksX2_sayTown_2 9 rfl rfl)
theorem dX2_sayTown_55 : decode cX2_sayTown 55 = .ok (.invokevirtual 289, 3) := dk_182 1 33 (dk_at dksX2_sayTown_2 10 rfl rfl)
theorem dX2_sayTown_58 : decode cX2_sayTown 58 = .ok (.aload_n 0, 1) := dk_42 (dk_at dksX2_sayTown_2 13 rfl rfl)
theorem dX2_sayTown_59 : decode cX2_sayTown 59 = .ok (.aload_n 0, 1) := dk_42 (dk_at dksX2_sayTown_2 14 rfl rfl)
theorem dX2_sayTown_60 : decode cX2_sayTown 60 = .ok (.bipush 10, 2) := dk_16 10 (dk_at dksX2_sayTown_2 15 rfl rfl)
theorem dX2_sayTown_62 : decode cX2_sayTown 62 = .ok (.invokevirtual 237, 3) := dk_182 0 237 (dk_at dksX2_sayTown_2 17 rfl rfl)
theorem dX2_sayTown_65 : decode cX2_sayTown 65 = .ok (.i2l, 1) := dk_133 (dk_at dksX2_sayTown_2 20 rfl rfl)
theorem dX2_sayTown_66 : decode cX2_sayTown 66 = .ok (.invokevirtual 289, 3) := dk_182 1 33 (dk_at dksX2_sayTown_2 21 rfl rfl)
theorem dX2_sayTown_69 : decode cX2_sayTown 69 = .ok (.aload_n 0, 1) := dk_42 (dk_at dksX2_sayTown_3 0 rfl rfl)
theorem dX2_sayTown_70 : decode cX2_sayTown 70 = .ok (.aload_n 0, 1) := dk_42 (dk_at dksX2_sayTown_3 1 rfl rfl)
theorem dX2_sayTown_71 : decode cX2_sayTown 71 = .ok (.bipush 11, 2) := dk_16 11 (dk_at dksX2_sayTown_3 2 rfl rfl)
theorem dX2_sayTown_73 : decode cX2_sayTown 73 = .ok (.invokevirtual 237, 3) := dk_182 0 237 (dk_at dksX2_sayTown_3 4 rfl rfl)
theorem dX2_sayTown_76 : decode cX2_sayTown 76 = .ok (.i2l, 1) := dk_133 (dk_at dksX2_sayTown_3 7 rfl rfl)
theorem dX2_sayTown_77 : decode cX2_sayTown 77 = .ok (.invokevirtual 289, 3) := dk_182 1 33 (dk_at dksX2_sayTown_3 8 rfl rfl)
theorem dX2_sayTown_80 : decode cX2_sayTown 80 = .ok (.return_, 1) := dk_177 (dk_at dksX2_sayTown_3 11 rfl rfl)
theorem q97 : (Jvm.Cond.initialized "HurtStreetsModel") ∈ lw_all := lw_g (lw_at lw_m1 6 rfl) rfl
theorem q536 : (Jvm.Cond.selects "HurtStreetsModel" ({ cls := "java/lang/Object", name := "getClass", desc := "()Ljava/lang/Class;" } : Jvm.MethodName) ({ cls := "java/lang/Object", name := "getClass", desc := "()Ljava/lang/Class;" } : Jvm.MethodName)) ∈ lw_all := lw_g (lw_at lw_m2 205 rfl) rfl
theorem q966 : (Jvm.Cond.instantiable "HurtStreetsModel" (28 : Nat)) ∈ lw_all := lw_g (lw_at lw_m4 155 rfl) rfl
theorem q968 : (Jvm.Cond.instanceMethod ({ cls := "HurtStreetsModel", name := "<init>", desc := "()V" } : Jvm.MethodName)) ∈ lw_all := lw_g (lw_at lw_m4 157 rfl) rfl
theorem q969 : (Jvm.Cond.code ({ cls := "HurtStreetsModel", name := "<init>", desc := "()V" } : Jvm.MethodName) prog_11_method_1_code (1 : Nat) (Option.none : Option Jvm.ClassFile.FieldType)) ∈ lw_all := lw_g (lw_at lw_m4 158 rfl) rfl
theorem q970 : (Jvm.Cond.methodLink "HurtStreetsModel" (1 : Nat) ({ cls := "java/lang/Object", name := "<init>", desc := "()V" } : Jvm.MethodName)) ∈ lw_all := lw_g (lw_at lw_m4 159 rfl) rfl
theorem q971 : (Jvm.Cond.fieldLink "HurtStreetsModel" (7 : Nat) "HurtStreetsModel" "page" "[I") ∈ lw_all := lw_g (lw_at lw_m4 160 rfl) rfl
theorem q972 : (Jvm.Cond.fieldLink "HurtStreetsModel" (68 : Nat) "HurtStreetsModel" "pageMany" "I") ∈ lw_all := lw_g (lw_at lw_m4 161 rfl) rfl
theorem q973 : (Jvm.Cond.fieldLink "HurtStreetsModel" (83 : Nat) "HurtStreetsModel" "endAt" "I") ∈ lw_all := lw_g (lw_at lw_m4 162 rfl) rfl
theorem q974 : (Jvm.Cond.fieldLink "HurtStreetsModel" (98 : Nat) "HurtStreetsModel" "people" "I") ∈ lw_all := lw_g (lw_at lw_m4 163 rfl) rfl
theorem q975 : (Jvm.Cond.fieldLink "HurtStreetsModel" (101 : Nat) "HurtStreetsModel" "streets" "I") ∈ lw_all := lw_g (lw_at lw_m4 164 rfl) rfl
theorem q976 : (Jvm.Cond.fieldLink "HurtStreetsModel" (104 : Nat) "HurtStreetsModel" "days" "I") ∈ lw_all := lw_g (lw_at lw_m4 165 rfl) rfl
theorem q977 : (Jvm.Cond.fieldLink "HurtStreetsModel" (110 : Nat) "HurtStreetsModel" "townsRead" "I") ∈ lw_all := lw_g (lw_at lw_m4 166 rfl) rfl
theorem q978 : (Jvm.Cond.fieldLink "HurtStreetsModel" (13 : Nat) "HurtStreetsModel" "rows" "[I") ∈ lw_all := lw_g (lw_at lw_m4 167 rfl) rfl
theorem q979 : (Jvm.Cond.fieldLink "HurtStreetsModel" (16 : Nat) "HurtStreetsModel" "folk" "[I") ∈ lw_all := lw_g (lw_at lw_m4 168 rfl) rfl
theorem q980 : (Jvm.Cond.fieldLink "HurtStreetsModel" (19 : Nat) "HurtStreetsModel" "taken" "[I") ∈ lw_all := lw_g (lw_at lw_m4 169 rfl) rfl
theorem q981 : (Jvm.Cond.fieldLink "HurtStreetsModel" (22 : Nat) "HurtStreetsModel" "drivers" "[I") ∈ lw_all := lw_g (lw_at lw_m4 170 rfl) rfl
theorem q982 : (Jvm.Cond.fieldLink "HurtStreetsModel" (25 : Nat) "HurtStreetsModel" "away" "[I") ∈ lw_all := lw_g (lw_at lw_m4 171 rfl) rfl
theorem q983 : (Jvm.Cond.fieldLink "HurtStreetsModel" (28 : Nat) "HurtStreetsModel" "wayRow" "[I") ∈ lw_all := lw_g (lw_at lw_m4 172 rfl) rfl
theorem q984 : (Jvm.Cond.fieldLink "HurtStreetsModel" (31 : Nat) "HurtStreetsModel" "little" "[I") ∈ lw_all := lw_g (lw_at lw_m4 173 rfl) rfl
theorem q985 : (Jvm.Cond.fieldLink "HurtStreetsModel" (34 : Nat) "HurtStreetsModel" "rails" "[I") ∈ lw_all := lw_g (lw_at lw_m4 174 rfl) rfl
theorem q986 : (Jvm.Cond.fieldLink "HurtStreetsModel" (107 : Nat) "HurtStreetsModel" "seenMany" "I") ∈ lw_all := lw_g (lw_at lw_m4 175 rfl) rfl
theorem q987 : (Jvm.Cond.fieldLink "HurtStreetsModel" (37 : Nat) "HurtStreetsModel" "sights" "[I") ∈ lw_all := lw_g (lw_at lw_m4 176 rfl) rfl
theorem q988 : (Jvm.Cond.fieldLink "HurtStreetsModel" (40 : Nat) "HurtStreetsModel" "parts" "[I") ∈ lw_all := lw_g (lw_at lw_m4 177 rfl) rfl
theorem q989 : (Jvm.Cond.fieldLink "HurtStreetsModel" (248 : Nat) "HurtStreetsModel" "seedNow" "I") ∈ lw_all := lw_g (lw_at lw_m4 178 rfl) rfl
theorem q990 : (Jvm.Cond.fieldLink "HurtStreetsModel" (43 : Nat) "HurtStreetsModel" "savedTaken" "[I") ∈ lw_all := lw_g (lw_at lw_m4 179 rfl) rfl
theorem q991 : (Jvm.Cond.fieldLink "HurtStreetsModel" (58 : Nat) "HurtStreetsModel" "keptTown" "I") ∈ lw_all := lw_g (lw_at lw_m4 180 rfl) rfl
theorem q992 : (Jvm.Cond.fieldLink "HurtStreetsModel" (265 : Nat) "HurtStreetsModel" "keptDays" "I") ∈ lw_all := lw_g (lw_at lw_m4 181 rfl) rfl
theorem q993 : (Jvm.Cond.fieldLink "HurtStreetsModel" (268 : Nat) "HurtStreetsModel" "keptSeen" "I") ∈ lw_all := lw_g (lw_at lw_m4 182 rfl) rfl
theorem q994 : (Jvm.Cond.fieldLink "HurtStreetsModel" (46 : Nat) "HurtStreetsModel" "keptFolk" "[I") ∈ lw_all := lw_g (lw_at lw_m4 183 rfl) rfl
theorem q995 : (Jvm.Cond.fieldLink "HurtStreetsModel" (49 : Nat) "HurtStreetsModel" "keptTaken" "[I") ∈ lw_all := lw_g (lw_at lw_m4 184 rfl) rfl
theorem q996 : (Jvm.Cond.fieldLink "HurtStreetsModel" (52 : Nat) "HurtStreetsModel" "keptDrivers" "[I") ∈ lw_all := lw_g (lw_at lw_m4 185 rfl) rfl
theorem q997 : (Jvm.Cond.fieldLink "HurtStreetsModel" (55 : Nat) "HurtStreetsModel" "keptSights" "[I") ∈ lw_all := lw_g (lw_at lw_m4 186 rfl) rfl
theorem q998 : (Jvm.Cond.fieldLink "HurtStreetsModel" (285 : Nat) "HurtStreetsModel" "hash" "J") ∈ lw_all := lw_g (lw_at lw_m4 187 rfl) rfl
theorem q999 : (Jvm.Cond.laysFinal "HurtStreetsModel" "HurtStreetsModel" "page" "[I") ∈ lw_all := lw_g (lw_at lw_m4 188 rfl) rfl
theorem q1000 : (Jvm.Cond.soleField "HurtStreetsModel" "page") ∈ lw_all := lw_g (lw_at lw_m4 189 rfl) rfl
theorem q1001 : (Jvm.Cond.lays "HurtStreetsModel" "HurtStreetsModel" "pageMany" "I") ∈ lw_all := lw_g (lw_at lw_m4 190 rfl) rfl
theorem q1002 : (Jvm.Cond.soleField "HurtStreetsModel" "pageMany") ∈ lw_all := lw_g (lw_at lw_m4 191 rfl) rfl
theorem q1003 : (Jvm.Cond.lays "HurtStreetsModel" "HurtStreetsModel" "endAt" "I") ∈ lw_all := lw_g (lw_at lw_m4 192 rfl) rfl
theorem q1004 : (Jvm.Cond.soleField "HurtStreetsModel" "endAt") ∈ lw_all := lw_g (lw_at lw_m4 193 rfl) rfl
theorem q1005 : (Jvm.Cond.lays "HurtStreetsModel" "HurtStreetsModel" "people" "I") ∈ lw_all := lw_g (lw_at lw_m4 194 rfl) rfl
theorem q1006 : (Jvm.Cond.soleField "HurtStreetsModel" "people") ∈ lw_all := lw_g (lw_at lw_m4 195 rfl) rfl
theorem q1007 : (Jvm.Cond.lays "HurtStreetsModel" "HurtStreetsModel" "streets" "I") ∈ lw_all := lw_g (lw_at lw_m4 196 rfl) rfl
theorem q1008 : (Jvm.Cond.soleField "HurtStreetsModel" "streets") ∈ lw_all := lw_g (lw_at lw_m4 197 rfl) rfl
theorem q1009 : (Jvm.Cond.lays "HurtStreetsModel" "HurtStreetsModel" "days" "I") ∈ lw_all := lw_g (lw_at lw_m4 198 rfl) rfl
theorem q1010 : (Jvm.Cond.soleField "HurtStreetsModel" "days") ∈ lw_all := lw_g (lw_at lw_m4 199 rfl) rfl
theorem q1011 : (Jvm.Cond.lays "HurtStreetsModel" "HurtStreetsModel" "townsRead" "I") ∈ lw_all := lw_g (lw_at lw_m4 200 rfl) rfl
theorem q1012 : (Jvm.Cond.soleField "HurtStreetsModel" "townsRead") ∈ lw_all := lw_g (lw_at lw_m4 201 rfl) rfl
theorem q1013 : (Jvm.Cond.laysFinal "HurtStreetsModel" "HurtStreetsModel" "rows" "[I") ∈ lw_all := lw_g (lw_at lw_m4 202 rfl) rfl
theorem q1014 : (Jvm.Cond.soleField "HurtStreetsModel" "rows") ∈ lw_all := lw_g (lw_at lw_m4 203 rfl) rfl
theorem q1015 : (Jvm.Cond.laysFinal "HurtStreetsModel" "HurtStreetsModel" "folk" "[I") ∈ lw_all := lw_g (lw_at lw_m4 204 rfl) rfl
theorem q1016 : (Jvm.Cond.soleField "HurtStreetsModel" "folk") ∈ lw_all := lw_g (lw_at lw_m4 205 rfl) rfl
theorem q1017 : (Jvm.Cond.laysFinal "HurtStreetsModel" "HurtStreetsModel" "taken" "[I") ∈ lw_all := lw_g (lw_at lw_m4 206 rfl) rfl
theorem q1018 : (Jvm.Cond.soleField "HurtStreetsModel" "taken") ∈ lw_all := lw_g (lw_at lw_m4 207 rfl) rfl
theorem q1019 : (Jvm.Cond.laysFinal "HurtStreetsModel" "HurtStreetsModel" "drivers" "[I") ∈ lw_all := lw_g (lw_at lw_m4 208 rfl) rfl
theorem q1020 : (Jvm.Cond.soleField "HurtStreetsModel" "drivers") ∈ lw_all := lw_g (lw_at lw_m4 209 rfl) rfl
theorem q1021 : (Jvm.Cond.laysFinal "HurtStreetsModel" "HurtStreetsModel" "away" "[I") ∈ lw_all := lw_g (lw_at lw_m4 210 rfl) rfl
theorem q1022 : (Jvm.Cond.soleField "HurtStreetsModel" "away") ∈ lw_all := lw_g (lw_at lw_m4 211 rfl) rfl
theorem q1023 : (Jvm.Cond.laysFinal "HurtStreetsModel" "HurtStreetsModel" "wayRow" "[I") ∈ lw_all := lw_g (lw_at lw_m4 212 rfl) rfl
theorem q1024 : (Jvm.Cond.soleField "HurtStreetsModel" "wayRow") ∈ lw_all := lw_g (lw_at lw_m4 213 rfl) rfl
theorem q1025 : (Jvm.Cond.laysFinal "HurtStreetsModel" "HurtStreetsModel" "little" "[I") ∈ lw_all := lw_g (lw_at lw_m4 214 rfl) rfl
theorem q1026 : (Jvm.Cond.soleField "HurtStreetsModel" "little") ∈ lw_all := lw_g (lw_at lw_m4 215 rfl) rfl
theorem q1027 : (Jvm.Cond.laysFinal "HurtStreetsModel" "HurtStreetsModel" "rails" "[I") ∈ lw_all := lw_g (lw_at lw_m4 216 rfl) rfl
theorem q1028 : (Jvm.Cond.soleField "HurtStreetsModel" "rails") ∈ lw_all := lw_g (lw_at lw_m4 217 rfl) rfl
theorem q1029 : (Jvm.Cond.lays "HurtStreetsModel" "HurtStreetsModel" "seenMany" "I") ∈ lw_all := lw_g (lw_at lw_m4 218 rfl) rfl
theorem q1030 : (Jvm.Cond.soleField "HurtStreetsModel" "seenMany") ∈ lw_all := lw_g (lw_at lw_m4 219 rfl) rfl
theorem q1031 : (Jvm.Cond.laysFinal "HurtStreetsModel" "HurtStreetsModel" "sights" "[I") ∈ lw_all := lw_g (lw_at lw_m4 220 rfl) rfl
theorem q1032 : (Jvm.Cond.soleField "HurtStreetsModel" "sights") ∈ lw_all := lw_g (lw_at lw_m4 221 rfl) rfl
theorem q1033 : (Jvm.Cond.laysFinal "HurtStreetsModel" "HurtStreetsModel" "parts" "[I") ∈ lw_all := lw_g (lw_at lw_m4 222 rfl) rfl
theorem q1034 : (Jvm.Cond.soleField "HurtStreetsModel" "parts") ∈ lw_all := lw_g (lw_at lw_m4 223 rfl) rfl
theorem q1035 : (Jvm.Cond.lays "HurtStreetsModel" "HurtStreetsModel" "seedNow" "I") ∈ lw_all := lw_g (lw_at lw_m4 224 rfl) rfl
theorem q1036 : (Jvm.Cond.soleField "HurtStreetsModel" "seedNow") ∈ lw_all := lw_g (lw_at lw_m4 225 rfl) rfl
theorem q1037 : (Jvm.Cond.laysFinal "HurtStreetsModel" "HurtStreetsModel" "savedTaken" "[I") ∈ lw_all := lw_g (lw_at lw_m4 226 rfl) rfl
theorem q1038 : (Jvm.Cond.soleField "HurtStreetsModel" "savedTaken") ∈ lw_all := lw_g (lw_at lw_m4 227 rfl) rfl
theorem q1039 : (Jvm.Cond.lays "HurtStreetsModel" "HurtStreetsModel" "keptTown" "I") ∈ lw_all := lw_g (lw_at lw_m4 228 rfl) rfl
theorem q1040 : (Jvm.Cond.soleField "HurtStreetsModel" "keptTown") ∈ lw_all := lw_g (lw_at lw_m4 229 rfl) rfl
theorem q1041 : (Jvm.Cond.lays "HurtStreetsModel" "HurtStreetsModel" "keptDays" "I") ∈ lw_all := lw_g (lw_at lw_m4 230 rfl) rfl
theorem q1042 : (Jvm.Cond.soleField "HurtStreetsModel" "keptDays") ∈ lw_all := lw_g (lw_at lw_m4 231 rfl) rfl
theorem q1043 : (Jvm.Cond.lays "HurtStreetsModel" "HurtStreetsModel" "keptSeen" "I") ∈ lw_all := lw_g (lw_at lw_m4 232 rfl) rfl
theorem q1044 : (Jvm.Cond.soleField "HurtStreetsModel" "keptSeen") ∈ lw_all := lw_g (lw_at lw_m4 233 rfl) rfl
theorem q1045 : (Jvm.Cond.laysFinal "HurtStreetsModel" "HurtStreetsModel" "keptFolk" "[I") ∈ lw_all := lw_g (lw_at lw_m4 234 rfl) rfl
theorem q1046 : (Jvm.Cond.soleField "HurtStreetsModel" "keptFolk") ∈ lw_all := lw_g (lw_at lw_m4 235 rfl) rfl
theorem q1047 : (Jvm.Cond.laysFinal "HurtStreetsModel" "HurtStreetsModel" "keptTaken" "[I") ∈ lw_all := lw_g (lw_at lw_m4 236 rfl) rfl
theorem q1048 : (Jvm.Cond.soleField "HurtStreetsModel" "keptTaken") ∈ lw_all := lw_g (lw_at lw_m4 237 rfl) rfl
theorem q1049 : (Jvm.Cond.laysFinal "HurtStreetsModel" "HurtStreetsModel" "keptDrivers" "[I") ∈ lw_all := lw_g (lw_at lw_m4 238 rfl) rfl
theorem q1050 : (Jvm.Cond.soleField "HurtStreetsModel" "keptDrivers") ∈ lw_all := lw_g (lw_at lw_m4 239 rfl) rfl
theorem q1051 : (Jvm.Cond.laysFinal "HurtStreetsModel" "HurtStreetsModel" "keptSights" "[I") ∈ lw_all := lw_g (lw_at lw_m5 0 rfl) rfl
theorem q1052 : (Jvm.Cond.soleField "HurtStreetsModel" "keptSights") ∈ lw_all := lw_g (lw_at lw_m5 1 rfl) rfl
theorem q1053 : (Jvm.Cond.lays "HurtStreetsModel" "HurtStreetsModel" "hash" "J") ∈ lw_all := lw_g (lw_at lw_m5 2 rfl) rfl
theorem q1054 : (Jvm.Cond.soleField "HurtStreetsModel" "hash") ∈ lw_all := lw_g (lw_at lw_m5 3 rfl) rfl
theorem q1055 : (Jvm.Cond.superclass "HurtStreetsModel" "java/lang/Object") ∈ lw_all := lw_g (lw_at lw_m5 4 rfl) rfl
theorem q1057 : (Jvm.Cond.instanceMethod ({ cls := "HurtStreetsModel", name := "letter", desc := "(I)I" } : Jvm.MethodName)) ∈ lw_all := lw_g (lw_at lw_m5 6 rfl) rfl
theorem q1058 : (Jvm.Cond.selects "HurtStreetsModel" ({ cls := "HurtStreetsModel", name := "letter", desc := "(I)I" } : Jvm.MethodName) ({ cls := "HurtStreetsModel", name := "letter", desc := "(I)I" } : Jvm.MethodName)) ∈ lw_all := lw_g (lw_at lw_m5 7 rfl) rfl
theorem q1059 : (Jvm.Cond.code ({ cls := "HurtStreetsModel", name := "letter", desc := "(I)I" } : Jvm.MethodName) prog_11_method_5_code (2 : Nat) (Option.some Jvm.ClassFile.FieldType.int)) ∈ lw_all := lw_g (lw_at lw_m5 8 rfl) rfl
theorem q1060 : (Jvm.Cond.constantLong "HurtStreetsModel" (62 : Nat) (126 : Int64)) ∈ lw_all := lw_g (lw_at lw_m5 9 rfl) rfl
theorem q1061 : (Jvm.Cond.methodLink "HurtStreetsModel" (64 : Nat) ({ cls := "HurtStreetsModel", name := "in", desc := "(JJJ)Z" } : Jvm.MethodName)) ∈ lw_all := lw_g (lw_at lw_m5 10 rfl) rfl
theorem q1062 : (Jvm.Cond.static ({ cls := "HurtStreetsModel", name := "in", desc := "(JJJ)Z" } : Jvm.MethodName)) ∈ lw_all := lw_g (lw_at lw_m5 11 rfl) rfl
theorem q1063 : (Jvm.Cond.code ({ cls := "HurtStreetsModel", name := "in", desc := "(JJJ)Z" } : Jvm.MethodName) prog_11_method_2_code (6 : Nat) (Option.some Jvm.ClassFile.FieldType.boolean)) ∈ lw_all := lw_g (lw_at lw_m5 12 rfl) rfl
theorem q1065 : (Jvm.Cond.instanceMethod ({ cls := "HurtStreetsModel", name := "blank", desc := "()I" } : Jvm.MethodName)) ∈ lw_all := lw_g (lw_at lw_m5 14 rfl) rfl
theorem q1066 : (Jvm.Cond.selects "HurtStreetsModel" ({ cls := "HurtStreetsModel", name := "blank", desc := "()I" } : Jvm.MethodName) ({ cls := "HurtStreetsModel", name := "blank", desc := "()I" } : Jvm.MethodName)) ∈ lw_all := lw_g (lw_at lw_m5 15 rfl) rfl
theorem q1067 : (Jvm.Cond.code ({ cls := "HurtStreetsModel", name := "blank", desc := "()I" } : Jvm.MethodName) prog_11_method_6_code (2 : Nat) (Option.some Jvm.ClassFile.FieldType.int)) ∈ lw_all := lw_g (lw_at lw_m5 16 rfl) rfl
theorem q1069 : (Jvm.Cond.instanceMethod ({ cls := "HurtStreetsModel", name := "fault", desc := "()I" } : Jvm.MethodName)) ∈ lw_all := lw_g (lw_at lw_m5 18 rfl) rfl
theorem q1070 : (Jvm.Cond.selects "HurtStreetsModel" ({ cls := "HurtStreetsModel", name := "fault", desc := "()I" } : Jvm.MethodName) ({ cls := "HurtStreetsModel", name := "fault", desc := "()I" } : Jvm.MethodName)) ∈ lw_all := lw_g (lw_at lw_m5 19 rfl) rfl
theorem q1071 : (Jvm.Cond.code ({ cls := "HurtStreetsModel", name := "fault", desc := "()I" } : Jvm.MethodName) prog_11_method_11_code (1 : Nat) (Option.some Jvm.ClassFile.FieldType.int)) ∈ lw_all := lw_g (lw_at lw_m5 20 rfl) rfl
theorem q1072 : (Jvm.Cond.methodLink "HurtStreetsModel" (94 : Nat) ({ cls := "HurtStreetsModel", name := "faultOf", desc := "()I" } : Jvm.MethodName)) ∈ lw_all := lw_g (lw_at lw_m5 21 rfl) rfl
theorem q1073 : (Jvm.Cond.privateMethod ({ cls := "HurtStreetsModel", name := "faultOf", desc := "()I" } : Jvm.MethodName)) ∈ lw_tbl := lw_at lw_m5 22 rfl
theorem q1074 : (Jvm.Cond.instanceMethod ({ cls := "HurtStreetsModel", name := "faultOf", desc := "()I" } : Jvm.MethodName)) ∈ lw_all := lw_g (lw_at lw_m5 23 rfl) rfl
theorem q1075 : (Jvm.Cond.code ({ cls := "HurtStreetsModel", name := "faultOf", desc := "()I" } : Jvm.MethodName) prog_11_method_10_code (2 : Nat) (Option.some Jvm.ClassFile.FieldType.int)) ∈ lw_all := lw_g (lw_at lw_m5 24 rfl) rfl
theorem q1076 : (Jvm.Cond.methodLink "HurtStreetsModel" (90 : Nat) ({ cls := "HurtStreetsModel", name := "isGood", desc := "(I)Z" } : Jvm.MethodName)) ∈ lw_all := lw_g (lw_at lw_m5 25 rfl) rfl
theorem q1077 : (Jvm.Cond.privateMethod ({ cls := "HurtStreetsModel", name := "isGood", desc := "(I)Z" } : Jvm.MethodName)) ∈ lw_tbl := lw_at lw_m5 26 rfl
theorem q1078 : (Jvm.Cond.instanceMethod ({ cls := "HurtStreetsModel", name := "isGood", desc := "(I)Z" } : Jvm.MethodName)) ∈ lw_all := lw_g (lw_at lw_m5 27 rfl) rfl
theorem q1079 : (Jvm.Cond.code ({ cls := "HurtStreetsModel", name := "isGood", desc := "(I)Z" } : Jvm.MethodName) prog_11_method_9_code (3 : Nat) (Option.some Jvm.ClassFile.FieldType.boolean)) ∈ lw_all := lw_g (lw_at lw_m5 28 rfl) rfl
theorem q1080 : (Jvm.Cond.methodLink "HurtStreetsModel" (86 : Nat) ({ cls := "HurtStreetsModel", name := "isStreetLetter", desc := "(II)Z" } : Jvm.MethodName)) ∈ lw_all := lw_g (lw_at lw_m5 29 rfl) rfl
theorem q1081 : (Jvm.Cond.privateMethod ({ cls := "HurtStreetsModel", name := "isStreetLetter", desc := "(II)Z" } : Jvm.MethodName)) ∈ lw_tbl := lw_at lw_m5 30 rfl
theorem q1082 : (Jvm.Cond.instanceMethod ({ cls := "HurtStreetsModel", name := "isStreetLetter", desc := "(II)Z" } : Jvm.MethodName)) ∈ lw_all := lw_g (lw_at lw_m5 31 rfl) rfl
theorem q1083 : (Jvm.Cond.code ({ cls := "HurtStreetsModel", name := "isStreetLetter", desc := "(II)Z" } : Jvm.MethodName) prog_11_method_8_code (4 : Nat) (Option.some Jvm.ClassFile.FieldType.boolean)) ∈ lw_all := lw_g (lw_at lw_m5 32 rfl) rfl
theorem q1084 : (Jvm.Cond.methodLink "HurtStreetsModel" (71 : Nat) ({ cls := "HurtStreetsModel", name := "kindBy", desc := "(I)I" } : Jvm.MethodName)) ∈ lw_all := lw_g (lw_at lw_m5 33 rfl) rfl
theorem q1085 : (Jvm.Cond.static ({ cls := "HurtStreetsModel", name := "kindBy", desc := "(I)I" } : Jvm.MethodName)) ∈ lw_all := lw_g (lw_at lw_m5 34 rfl) rfl
theorem q1086 : (Jvm.Cond.code ({ cls := "HurtStreetsModel", name := "kindBy", desc := "(I)I" } : Jvm.MethodName) prog_11_method_7_code (1 : Nat) (Option.some Jvm.ClassFile.FieldType.int)) ∈ lw_all := lw_g (lw_at lw_m5 35 rfl) rfl
theorem q1087 : (Jvm.Cond.constantLong "HurtStreetsModel" (75 : Nat) (48 : Int64)) ∈ lw_all := lw_g (lw_at lw_m5 36 rfl) rfl
theorem q1088 : (Jvm.Cond.constantLong "HurtStreetsModel" (77 : Nat) (55 : Int64)) ∈ lw_all := lw_g (lw_at lw_m5 37 rfl) rfl
theorem q1089 : (Jvm.Cond.constantLong "HurtStreetsModel" (79 : Nat) (49 : Int64)) ∈ lw_all := lw_g (lw_at lw_m5 38 rfl) rfl
theorem q1090 : (Jvm.Cond.constantLong "HurtStreetsModel" (81 : Nat) (57 : Int64)) ∈ lw_all := lw_g (lw_at lw_m5 39 rfl) rfl
theorem q1092 : (Jvm.Cond.instanceMethod ({ cls := "HurtStreetsModel", name := "town", desc := "()I" } : Jvm.MethodName)) ∈ lw_all := lw_g (lw_at lw_m5 41 rfl) rfl
theorem q1093 : (Jvm.Cond.selects "HurtStreetsModel" ({ cls := "HurtStreetsModel", name := "town", desc := "()I" } : Jvm.MethodName) ({ cls := "HurtStreetsModel", name := "town", desc := "()I" } : Jvm.MethodName)) ∈ lw_all := lw_g (lw_at lw_m5 42 rfl) rfl
theorem q1094 : (Jvm.Cond.code ({ cls := "HurtStreetsModel", name := "town", desc := "()I" } : Jvm.MethodName) prog_11_method_12_code (3 : Nat) (Option.some Jvm.ClassFile.FieldType.int)) ∈ lw_all := lw_g (lw_at lw_m5 43 rfl) rfl
theorem q1096 : (Jvm.Cond.instanceMethod ({ cls := "HurtStreetsModel", name := "way", desc := "(IIII)I" } : Jvm.MethodName)) ∈ lw_all := lw_g (lw_at lw_m5 45 rfl) rfl
theorem q1097 : (Jvm.Cond.selects "HurtStreetsModel" ({ cls := "HurtStreetsModel", name := "way", desc := "(IIII)I" } : Jvm.MethodName) ({ cls := "HurtStreetsModel", name := "way", desc := "(IIII)I" } : Jvm.MethodName)) ∈ lw_all := lw_g (lw_at lw_m5 46 rfl) rfl
theorem q1098 : (Jvm.Cond.code ({ cls := "HurtStreetsModel", name := "way", desc := "(IIII)I" } : Jvm.MethodName) prog_11_method_28_code (5 : Nat) (Option.some Jvm.ClassFile.FieldType.int)) ∈ lw_all := lw_g (lw_at lw_m5 47 rfl) rfl
theorem q1099 : (Jvm.Cond.methodLink "HurtStreetsModel" (151 : Nat) ({ cls := "HurtStreetsModel", name := "isTrip", desc := "(III)Z" } : Jvm.MethodName)) ∈ lw_all := lw_g (lw_at lw_m5 48 rfl) rfl
theorem q1100 : (Jvm.Cond.privateMethod ({ cls := "HurtStreetsModel", name := "isTrip", desc := "(III)Z" } : Jvm.MethodName)) ∈ lw_tbl := lw_at lw_m5 49 rfl
theorem q1101 : (Jvm.Cond.instanceMethod ({ cls := "HurtStreetsModel", name := "isTrip", desc := "(III)Z" } : Jvm.MethodName)) ∈ lw_all := lw_g (lw_at lw_m5 50 rfl) rfl
theorem q1102 : (Jvm.Cond.code ({ cls := "HurtStreetsModel", name := "isTrip", desc := "(III)Z" } : Jvm.MethodName) prog_11_method_27_code (4 : Nat) (Option.some Jvm.ClassFile.FieldType.boolean)) ∈ lw_all := lw_g (lw_at lw_m5 51 rfl) rfl
theorem q1103 : (Jvm.Cond.methodLink "HurtStreetsModel" (145 : Nat) ({ cls := "HurtStreetsModel", name := "isPerson", desc := "(I)Z" } : Jvm.MethodName)) ∈ lw_all := lw_g (lw_at lw_m5 52 rfl) rfl
theorem q1104 : (Jvm.Cond.privateMethod ({ cls := "HurtStreetsModel", name := "isPerson", desc := "(I)Z" } : Jvm.MethodName)) ∈ lw_tbl := lw_at lw_m5 53 rfl
theorem q1105 : (Jvm.Cond.instanceMethod ({ cls := "HurtStreetsModel", name := "isPerson", desc := "(I)Z" } : Jvm.MethodName)) ∈ lw_all := lw_g (lw_at lw_m5 54 rfl) rfl
theorem q1106 : (Jvm.Cond.code ({ cls := "HurtStreetsModel", name := "isPerson", desc := "(I)Z" } : Jvm.MethodName) prog_11_method_14_code (2 : Nat) (Option.some Jvm.ClassFile.FieldType.boolean)) ∈ lw_all := lw_g (lw_at lw_m5 55 rfl) rfl
theorem q1107 : (Jvm.Cond.methodLink "HurtStreetsModel" (148 : Nat) ({ cls := "HurtStreetsModel", name := "isCorner", desc := "(I)Z" } : Jvm.MethodName)) ∈ lw_all := lw_g (lw_at lw_m5 56 rfl) rfl
theorem q1108 : (Jvm.Cond.static ({ cls := "HurtStreetsModel", name := "isCorner", desc := "(I)Z" } : Jvm.MethodName)) ∈ lw_all := lw_g (lw_at lw_m5 57 rfl) rfl
theorem q1109 : (Jvm.Cond.code ({ cls := "HurtStreetsModel", name := "isCorner", desc := "(I)Z" } : Jvm.MethodName) prog_11_method_16_code (1 : Nat) (Option.some Jvm.ClassFile.FieldType.boolean)) ∈ lw_all := lw_g (lw_at lw_m5 58 rfl) rfl
theorem q1110 : (Jvm.Cond.constantLong "HurtStreetsModel" (113 : Nat) (7 : Int64)) ∈ lw_all := lw_g (lw_at lw_m5 59 rfl) rfl
theorem q1111 : (Jvm.Cond.constantLong "HurtStreetsModel" (155 : Nat) (2 : Int64)) ∈ lw_all := lw_g (lw_at lw_m5 60 rfl) rfl
theorem q1112 : (Jvm.Cond.constantLong "HurtStreetsModel" (157 : Nat) (10 : Int64)) ∈ lw_all := lw_g (lw_at lw_m5 61 rfl) rfl
theorem q1113 : (Jvm.Cond.constantLong "HurtStreetsModel" (159 : Nat) (16 : Int64)) ∈ lw_all := lw_g (lw_at lw_m5 62 rfl) rfl
theorem q1114 : (Jvm.Cond.methodLink "HurtStreetsModel" (161 : Nat) ({ cls := "HurtStreetsModel", name := "tellWay", desc := "(IIII)I" } : Jvm.MethodName)) ∈ lw_all := lw_g (lw_at lw_m5 63 rfl) rfl
theorem q1115 : (Jvm.Cond.privateMethod ({ cls := "HurtStreetsModel", name := "tellWay", desc := "(IIII)I" } : Jvm.MethodName)) ∈ lw_tbl := lw_at lw_m5 64 rfl
theorem q1116 : (Jvm.Cond.instanceMethod ({ cls := "HurtStreetsModel", name := "tellWay", desc := "(IIII)I" } : Jvm.MethodName)) ∈ lw_all := lw_g (lw_at lw_m5 65 rfl) rfl
theorem q1117 : (Jvm.Cond.code ({ cls := "HurtStreetsModel", name := "tellWay", desc := "(IIII)I" } : Jvm.MethodName) prog_11_method_26_code (6 : Nat) (Option.some Jvm.ClassFile.FieldType.int)) ∈ lw_all := lw_g (lw_at lw_m5 66 rfl) rfl
theorem q1118 : (Jvm.Cond.methodLink "HurtStreetsModel" (139 : Nat) ({ cls := "HurtStreetsModel", name := "everyStreet", desc := "()I" } : Jvm.MethodName)) ∈ lw_all := lw_g (lw_at lw_m5 67 rfl) rfl
theorem q1119 : (Jvm.Cond.privateMethod ({ cls := "HurtStreetsModel", name := "everyStreet", desc := "()I" } : Jvm.MethodName)) ∈ lw_tbl := lw_at lw_m5 68 rfl
theorem q1120 : (Jvm.Cond.instanceMethod ({ cls := "HurtStreetsModel", name := "everyStreet", desc := "()I" } : Jvm.MethodName)) ∈ lw_all := lw_g (lw_at lw_m5 69 rfl) rfl
theorem q1121 : (Jvm.Cond.code ({ cls := "HurtStreetsModel", name := "everyStreet", desc := "()I" } : Jvm.MethodName) prog_11_method_18_code (1 : Nat) (Option.some Jvm.ClassFile.FieldType.int)) ∈ lw_all := lw_g (lw_at lw_m5 70 rfl) rfl
theorem q1122 : (Jvm.Cond.methodLink "HurtStreetsModel" (142 : Nat) ({ cls := "HurtStreetsModel", name := "layWay", desc := "(IIII)I" } : Jvm.MethodName)) ∈ lw_all := lw_g (lw_at lw_m5 71 rfl) rfl
theorem q1123 : (Jvm.Cond.privateMethod ({ cls := "HurtStreetsModel", name := "layWay", desc := "(IIII)I" } : Jvm.MethodName)) ∈ lw_tbl := lw_at lw_m5 72 rfl
theorem q1124 : (Jvm.Cond.instanceMethod ({ cls := "HurtStreetsModel", name := "layWay", desc := "(IIII)I" } : Jvm.MethodName)) ∈ lw_all := lw_g (lw_at lw_m5 73 rfl) rfl
theorem q1125 : (Jvm.Cond.code ({ cls := "HurtStreetsModel", name := "layWay", desc := "(IIII)I" } : Jvm.MethodName) prog_11_method_25_code (8 : Nat) (Option.some Jvm.ClassFile.FieldType.int)) ∈ lw_all := lw_g (lw_at lw_m5 74 rfl) rfl
theorem q1126 : (Jvm.Cond.methodLink "HurtStreetsModel" (131 : Nat) ({ cls := "HurtStreetsModel", name := "layAway", desc := "(IIII)V" } : Jvm.MethodName)) ∈ lw_all := lw_g (lw_at lw_m5 75 rfl) rfl
theorem q1127 : (Jvm.Cond.privateMethod ({ cls := "HurtStreetsModel", name := "layAway", desc := "(IIII)V" } : Jvm.MethodName)) ∈ lw_tbl := lw_at lw_m5 76 rfl
theorem q1128 : (Jvm.Cond.instanceMethod ({ cls := "HurtStreetsModel", name := "layAway", desc := "(IIII)V" } : Jvm.MethodName)) ∈ lw_all := lw_g (lw_at lw_m5 77 rfl) rfl
theorem q1129 : (Jvm.Cond.code ({ cls := "HurtStreetsModel", name := "layAway", desc := "(IIII)V" } : Jvm.MethodName) prog_11_method_23_code (10 : Nat) (Option.none : Option Jvm.ClassFile.FieldType)) ∈ lw_all := lw_g (lw_at lw_m5 78 rfl) rfl
theorem q1130 : (Jvm.Cond.constant "HurtStreetsModel" (123 : Nat) (1000000000 : Int32)) ∈ lw_all := lw_g (lw_at lw_m5 79 rfl) rfl
theorem q1131 : (Jvm.Cond.methodLink "HurtStreetsModel" (124 : Nat) ({ cls := "HurtStreetsModel", name := "costBy", desc := "(III)I" } : Jvm.MethodName)) ∈ lw_all := lw_g (lw_at lw_m5 80 rfl) rfl
theorem q1132 : (Jvm.Cond.privateMethod ({ cls := "HurtStreetsModel", name := "costBy", desc := "(III)I" } : Jvm.MethodName)) ∈ lw_tbl := lw_at lw_m5 81 rfl
theorem q1133 : (Jvm.Cond.instanceMethod ({ cls := "HurtStreetsModel", name := "costBy", desc := "(III)I" } : Jvm.MethodName)) ∈ lw_all := lw_g (lw_at lw_m5 82 rfl) rfl
theorem q1134 : (Jvm.Cond.code ({ cls := "HurtStreetsModel", name := "costBy", desc := "(III)I" } : Jvm.MethodName) prog_11_method_21_code (4 : Nat) (Option.some Jvm.ClassFile.FieldType.int)) ∈ lw_all := lw_g (lw_at lw_m5 83 rfl) rfl
theorem q1135 : (Jvm.Cond.methodLink "HurtStreetsModel" (119 : Nat) ({ cls := "HurtStreetsModel", name := "hurtsBy", desc := "(III)I" } : Jvm.MethodName)) ∈ lw_all := lw_g (lw_at lw_m5 84 rfl) rfl
theorem q1136 : (Jvm.Cond.privateMethod ({ cls := "HurtStreetsModel", name := "hurtsBy", desc := "(III)I" } : Jvm.MethodName)) ∈ lw_tbl := lw_at lw_m5 85 rfl
theorem q1137 : (Jvm.Cond.instanceMethod ({ cls := "HurtStreetsModel", name := "hurtsBy", desc := "(III)I" } : Jvm.MethodName)) ∈ lw_all := lw_g (lw_at lw_m5 86 rfl) rfl
theorem q1138 : (Jvm.Cond.code ({ cls := "HurtStreetsModel", name := "hurtsBy", desc := "(III)I" } : Jvm.MethodName) prog_11_method_19_code (5 : Nat) (Option.some Jvm.ClassFile.FieldType.int)) ∈ lw_all := lw_g (lw_at lw_m5 87 rfl) rfl
theorem q1139 : (Jvm.Cond.methodLink "HurtStreetsModel" (135 : Nat) ({ cls := "HurtStreetsModel", name := "firstStreet", desc := "(IIII)I" } : Jvm.MethodName)) ∈ lw_all := lw_g (lw_at lw_m5 88 rfl) rfl
theorem q1140 : (Jvm.Cond.privateMethod ({ cls := "HurtStreetsModel", name := "firstStreet", desc := "(IIII)I" } : Jvm.MethodName)) ∈ lw_tbl := lw_at lw_m5 89 rfl
theorem q1141 : (Jvm.Cond.instanceMethod ({ cls := "HurtStreetsModel", name := "firstStreet", desc := "(IIII)I" } : Jvm.MethodName)) ∈ lw_all := lw_g (lw_at lw_m5 90 rfl) rfl
theorem q1142 : (Jvm.Cond.code ({ cls := "HurtStreetsModel", name := "firstStreet", desc := "(IIII)I" } : Jvm.MethodName) prog_11_method_24_code (8 : Nat) (Option.some Jvm.ClassFile.FieldType.int)) ∈ lw_all := lw_g (lw_at lw_m5 91 rfl) rfl
theorem q1143 : (Jvm.Cond.methodLink "HurtStreetsModel" (127 : Nat) ({ cls := "HurtStreetsModel", name := "beyond", desc := "(II)I" } : Jvm.MethodName)) ∈ lw_all := lw_g (lw_at lw_m5 92 rfl) rfl
theorem q1144 : (Jvm.Cond.privateMethod ({ cls := "HurtStreetsModel", name := "beyond", desc := "(II)I" } : Jvm.MethodName)) ∈ lw_tbl := lw_at lw_m5 93 rfl
theorem q1145 : (Jvm.Cond.instanceMethod ({ cls := "HurtStreetsModel", name := "beyond", desc := "(II)I" } : Jvm.MethodName)) ∈ lw_all := lw_g (lw_at lw_m5 94 rfl) rfl
theorem q1146 : (Jvm.Cond.code ({ cls := "HurtStreetsModel", name := "beyond", desc := "(II)I" } : Jvm.MethodName) prog_11_method_22_code (3 : Nat) (Option.some Jvm.ClassFile.FieldType.int)) ∈ lw_all := lw_g (lw_at lw_m5 95 rfl) rfl
theorem q1148 : (Jvm.Cond.instanceMethod ({ cls := "HurtStreetsModel", name := "within", desc := "(IIII)I" } : Jvm.MethodName)) ∈ lw_all := lw_g (lw_at lw_m5 97 rfl) rfl
theorem q1149 : (Jvm.Cond.selects "HurtStreetsModel" ({ cls := "HurtStreetsModel", name := "within", desc := "(IIII)I" } : Jvm.MethodName) ({ cls := "HurtStreetsModel", name := "within", desc := "(IIII)I" } : Jvm.MethodName)) ∈ lw_all := lw_g (lw_at lw_m5 98 rfl) rfl
theorem q1150 : (Jvm.Cond.code ({ cls := "HurtStreetsModel", name := "within", desc := "(IIII)I" } : Jvm.MethodName) prog_11_method_31_code (5 : Nat) (Option.some Jvm.ClassFile.FieldType.int)) ∈ lw_all := lw_g (lw_at lw_m5 99 rfl) rfl
theorem q1151 : (Jvm.Cond.constantLong "HurtStreetsModel" (171 : Nat) (81 : Int64)) ∈ lw_all := lw_g (lw_at lw_m5 100 rfl) rfl
theorem q1152 : (Jvm.Cond.methodLink "HurtStreetsModel" (173 : Nat) ({ cls := "HurtStreetsModel", name := "withinOf", desc := "(IIII)I" } : Jvm.MethodName)) ∈ lw_all := lw_g (lw_at lw_m5 101 rfl) rfl
theorem q1153 : (Jvm.Cond.privateMethod ({ cls := "HurtStreetsModel", name := "withinOf", desc := "(IIII)I" } : Jvm.MethodName)) ∈ lw_tbl := lw_at lw_m5 102 rfl
theorem q1154 : (Jvm.Cond.instanceMethod ({ cls := "HurtStreetsModel", name := "withinOf", desc := "(IIII)I" } : Jvm.MethodName)) ∈ lw_all := lw_g (lw_at lw_m5 103 rfl) rfl
theorem q1155 : (Jvm.Cond.code ({ cls := "HurtStreetsModel", name := "withinOf", desc := "(IIII)I" } : Jvm.MethodName) prog_11_method_30_code (7 : Nat) (Option.some Jvm.ClassFile.FieldType.int)) ∈ lw_all := lw_g (lw_at lw_m5 104 rfl) rfl
theorem q1156 : (Jvm.Cond.methodLink "HurtStreetsModel" (167 : Nat) ({ cls := "HurtStreetsModel", name := "layLittle", desc := "(II)V" } : Jvm.MethodName)) ∈ lw_all := lw_g (lw_at lw_m5 105 rfl) rfl
theorem q1157 : (Jvm.Cond.privateMethod ({ cls := "HurtStreetsModel", name := "layLittle", desc := "(II)V" } : Jvm.MethodName)) ∈ lw_tbl := lw_at lw_m5 106 rfl
theorem q1158 : (Jvm.Cond.instanceMethod ({ cls := "HurtStreetsModel", name := "layLittle", desc := "(II)V" } : Jvm.MethodName)) ∈ lw_all := lw_g (lw_at lw_m5 107 rfl) rfl
theorem q1159 : (Jvm.Cond.code ({ cls := "HurtStreetsModel", name := "layLittle", desc := "(II)V" } : Jvm.MethodName) prog_11_method_29_code (9 : Nat) (Option.none : Option Jvm.ClassFile.FieldType)) ∈ lw_all := lw_g (lw_at lw_m5 108 rfl) rfl
theorem q1160 : (Jvm.Cond.methodLink "HurtStreetsModel" (164 : Nat) ({ cls := "HurtStreetsModel", name := "hurtsOf", desc := "(II)I" } : Jvm.MethodName)) ∈ lw_all := lw_g (lw_at lw_m5 109 rfl) rfl
theorem q1161 : (Jvm.Cond.privateMethod ({ cls := "HurtStreetsModel", name := "hurtsOf", desc := "(II)I" } : Jvm.MethodName)) ∈ lw_tbl := lw_at lw_m5 110 rfl
theorem q1162 : (Jvm.Cond.instanceMethod ({ cls := "HurtStreetsModel", name := "hurtsOf", desc := "(II)I" } : Jvm.MethodName)) ∈ lw_all := lw_g (lw_at lw_m5 111 rfl) rfl
theorem q1163 : (Jvm.Cond.code ({ cls := "HurtStreetsModel", name := "hurtsOf", desc := "(II)I" } : Jvm.MethodName) prog_11_method_20_code (3 : Nat) (Option.some Jvm.ClassFile.FieldType.int)) ∈ lw_all := lw_g (lw_at lw_m5 112 rfl) rfl
theorem q1165 : (Jvm.Cond.instanceMethod ({ cls := "HurtStreetsModel", name := "edge", desc := "(IIII)I" } : Jvm.MethodName)) ∈ lw_all := lw_g (lw_at lw_m5 114 rfl) rfl
theorem q1166 : (Jvm.Cond.selects "HurtStreetsModel" ({ cls := "HurtStreetsModel", name := "edge", desc := "(IIII)I" } : Jvm.MethodName) ({ cls := "HurtStreetsModel", name := "edge", desc := "(IIII)I" } : Jvm.MethodName)) ∈ lw_all := lw_g (lw_at lw_m5 115 rfl) rfl
theorem q1167 : (Jvm.Cond.code ({ cls := "HurtStreetsModel", name := "edge", desc := "(IIII)I" } : Jvm.MethodName) prog_11_method_33_code (5 : Nat) (Option.some Jvm.ClassFile.FieldType.int)) ∈ lw_all := lw_g (lw_at lw_m5 116 rfl) rfl
theorem q1168 : (Jvm.Cond.constantLong "HurtStreetsModel" (176 : Nat) (20 : Int64)) ∈ lw_all := lw_g (lw_at lw_m5 117 rfl) rfl
theorem q1169 : (Jvm.Cond.methodLink "HurtStreetsModel" (178 : Nat) ({ cls := "HurtStreetsModel", name := "edgeOf", desc := "(IIII)I" } : Jvm.MethodName)) ∈ lw_all := lw_g (lw_at lw_m5 118 rfl) rfl
theorem q1170 : (Jvm.Cond.privateMethod ({ cls := "HurtStreetsModel", name := "edgeOf", desc := "(IIII)I" } : Jvm.MethodName)) ∈ lw_tbl := lw_at lw_m5 119 rfl
theorem q1171 : (Jvm.Cond.instanceMethod ({ cls := "HurtStreetsModel", name := "edgeOf", desc := "(IIII)I" } : Jvm.MethodName)) ∈ lw_all := lw_g (lw_at lw_m5 120 rfl) rfl
theorem q1172 : (Jvm.Cond.code ({ cls := "HurtStreetsModel", name := "edgeOf", desc := "(IIII)I" } : Jvm.MethodName) prog_11_method_32_code (10 : Nat) (Option.some Jvm.ClassFile.FieldType.int)) ∈ lw_all := lw_g (lw_at lw_m5 121 rfl) rfl
theorem q1174 : (Jvm.Cond.instanceMethod ({ cls := "HurtStreetsModel", name := "rail", desc := "(III)I" } : Jvm.MethodName)) ∈ lw_all := lw_g (lw_at lw_m5 123 rfl) rfl
theorem q1175 : (Jvm.Cond.selects "HurtStreetsModel" ({ cls := "HurtStreetsModel", name := "rail", desc := "(III)I" } : Jvm.MethodName) ({ cls := "HurtStreetsModel", name := "rail", desc := "(III)I" } : Jvm.MethodName)) ∈ lw_all := lw_g (lw_at lw_m5 124 rfl) rfl
theorem q1176 : (Jvm.Cond.code ({ cls := "HurtStreetsModel", name := "rail", desc := "(III)I" } : Jvm.MethodName) prog_11_method_35_code (4 : Nat) (Option.some Jvm.ClassFile.FieldType.int)) ∈ lw_all := lw_g (lw_at lw_m5 125 rfl) rfl
theorem q1177 : (Jvm.Cond.methodLink "HurtStreetsModel" (181 : Nat) ({ cls := "HurtStreetsModel", name := "railOf", desc := "(III)I" } : Jvm.MethodName)) ∈ lw_all := lw_g (lw_at lw_m5 126 rfl) rfl
theorem q1178 : (Jvm.Cond.privateMethod ({ cls := "HurtStreetsModel", name := "railOf", desc := "(III)I" } : Jvm.MethodName)) ∈ lw_tbl := lw_at lw_m5 127 rfl
theorem q1179 : (Jvm.Cond.instanceMethod ({ cls := "HurtStreetsModel", name := "railOf", desc := "(III)I" } : Jvm.MethodName)) ∈ lw_all := lw_g (lw_at lw_m5 128 rfl) rfl
theorem q1180 : (Jvm.Cond.code ({ cls := "HurtStreetsModel", name := "railOf", desc := "(III)I" } : Jvm.MethodName) prog_11_method_34_code (10 : Nat) (Option.some Jvm.ClassFile.FieldType.int)) ∈ lw_all := lw_g (lw_at lw_m5 129 rfl) rfl
theorem q1182 : (Jvm.Cond.instanceMethod ({ cls := "HurtStreetsModel", name := "person", desc := "(II)I" } : Jvm.MethodName)) ∈ lw_all := lw_g (lw_at lw_m5 131 rfl) rfl
theorem q1183 : (Jvm.Cond.selects "HurtStreetsModel" ({ cls := "HurtStreetsModel", name := "person", desc := "(II)I" } : Jvm.MethodName) ({ cls := "HurtStreetsModel", name := "person", desc := "(II)I" } : Jvm.MethodName)) ∈ lw_all := lw_g (lw_at lw_m5 132 rfl) rfl
theorem q1184 : (Jvm.Cond.code ({ cls := "HurtStreetsModel", name := "person", desc := "(II)I" } : Jvm.MethodName) prog_11_method_37_code (3 : Nat) (Option.some Jvm.ClassFile.FieldType.int)) ∈ lw_all := lw_g (lw_at lw_m5 133 rfl) rfl
theorem q1185 : (Jvm.Cond.methodLink "HurtStreetsModel" (187 : Nat) ({ cls := "HurtStreetsModel", name := "tellPerson", desc := "(II)I" } : Jvm.MethodName)) ∈ lw_all := lw_g (lw_at lw_m5 134 rfl) rfl
theorem q1186 : (Jvm.Cond.privateMethod ({ cls := "HurtStreetsModel", name := "tellPerson", desc := "(II)I" } : Jvm.MethodName)) ∈ lw_tbl := lw_at lw_m5 135 rfl
theorem q1187 : (Jvm.Cond.instanceMethod ({ cls := "HurtStreetsModel", name := "tellPerson", desc := "(II)I" } : Jvm.MethodName)) ∈ lw_all := lw_g (lw_at lw_m5 136 rfl) rfl
theorem q1188 : (Jvm.Cond.code ({ cls := "HurtStreetsModel", name := "tellPerson", desc := "(II)I" } : Jvm.MethodName) prog_11_method_36_code (3 : Nat) (Option.some Jvm.ClassFile.FieldType.int)) ∈ lw_all := lw_g (lw_at lw_m5 137 rfl) rfl
theorem q1189 : (Jvm.Cond.methodLink "HurtStreetsModel" (184 : Nat) ({ cls := "HurtStreetsModel", name := "tendersOf", desc := "(I)I" } : Jvm.MethodName)) ∈ lw_all := lw_g (lw_at lw_m5 138 rfl) rfl
theorem q1190 : (Jvm.Cond.privateMethod ({ cls := "HurtStreetsModel", name := "tendersOf", desc := "(I)I" } : Jvm.MethodName)) ∈ lw_tbl := lw_at lw_m5 139 rfl
theorem q1191 : (Jvm.Cond.instanceMethod ({ cls := "HurtStreetsModel", name := "tendersOf", desc := "(I)I" } : Jvm.MethodName)) ∈ lw_all := lw_g (lw_at lw_m5 140 rfl) rfl
theorem q1192 : (Jvm.Cond.code ({ cls := "HurtStreetsModel", name := "tendersOf", desc := "(I)I" } : Jvm.MethodName) prog_11_method_64_code (6 : Nat) (Option.some Jvm.ClassFile.FieldType.int)) ∈ lw_all := lw_g (lw_at lw_m5 141 rfl) rfl
theorem q1193 : (Jvm.Cond.methodLink "HurtStreetsModel" (240 : Nat) ({ cls := "HurtStreetsModel", name := "firstBy", desc := "(IIII)I" } : Jvm.MethodName)) ∈ lw_all := lw_g (lw_at lw_m5 142 rfl) rfl
theorem q1194 : (Jvm.Cond.privateMethod ({ cls := "HurtStreetsModel", name := "firstBy", desc := "(IIII)I" } : Jvm.MethodName)) ∈ lw_tbl := lw_at lw_m5 143 rfl
theorem q1195 : (Jvm.Cond.instanceMethod ({ cls := "HurtStreetsModel", name := "firstBy", desc := "(IIII)I" } : Jvm.MethodName)) ∈ lw_all := lw_g (lw_at lw_m5 144 rfl) rfl
theorem q1196 : (Jvm.Cond.code ({ cls := "HurtStreetsModel", name := "firstBy", desc := "(IIII)I" } : Jvm.MethodName) prog_11_method_63_code (5 : Nat) (Option.some Jvm.ClassFile.FieldType.int)) ∈ lw_all := lw_g (lw_at lw_m5 145 rfl) rfl
theorem q1198 : (Jvm.Cond.instanceMethod ({ cls := "HurtStreetsModel", name := "street", desc := "(II)I" } : Jvm.MethodName)) ∈ lw_all := lw_g (lw_at lw_m5 147 rfl) rfl
theorem q1199 : (Jvm.Cond.selects "HurtStreetsModel" ({ cls := "HurtStreetsModel", name := "street", desc := "(II)I" } : Jvm.MethodName) ({ cls := "HurtStreetsModel", name := "street", desc := "(II)I" } : Jvm.MethodName)) ∈ lw_all := lw_g (lw_at lw_m5 148 rfl) rfl
theorem q1200 : (Jvm.Cond.code ({ cls := "HurtStreetsModel", name := "street", desc := "(II)I" } : Jvm.MethodName) prog_11_method_40_code (3 : Nat) (Option.some Jvm.ClassFile.FieldType.int)) ∈ lw_all := lw_g (lw_at lw_m5 149 rfl) rfl
theorem q1201 : (Jvm.Cond.methodLink "HurtStreetsModel" (195 : Nat) ({ cls := "HurtStreetsModel", name := "isStreet", desc := "(I)Z" } : Jvm.MethodName)) ∈ lw_all := lw_g (lw_at lw_m5 150 rfl) rfl
theorem q1202 : (Jvm.Cond.privateMethod ({ cls := "HurtStreetsModel", name := "isStreet", desc := "(I)Z" } : Jvm.MethodName)) ∈ lw_tbl := lw_at lw_m5 151 rfl
theorem q1203 : (Jvm.Cond.instanceMethod ({ cls := "HurtStreetsModel", name := "isStreet", desc := "(I)Z" } : Jvm.MethodName)) ∈ lw_all := lw_g (lw_at lw_m5 152 rfl) rfl
theorem q1204 : (Jvm.Cond.code ({ cls := "HurtStreetsModel", name := "isStreet", desc := "(I)Z" } : Jvm.MethodName) prog_11_method_15_code (2 : Nat) (Option.some Jvm.ClassFile.FieldType.boolean)) ∈ lw_all := lw_g (lw_at lw_m5 153 rfl) rfl
theorem q1205 : (Jvm.Cond.methodLink "HurtStreetsModel" (198 : Nat) ({ cls := "HurtStreetsModel", name := "tellStreet", desc := "(II)I" } : Jvm.MethodName)) ∈ lw_all := lw_g (lw_at lw_m5 154 rfl) rfl
theorem q1206 : (Jvm.Cond.privateMethod ({ cls := "HurtStreetsModel", name := "tellStreet", desc := "(II)I" } : Jvm.MethodName)) ∈ lw_tbl := lw_at lw_m5 155 rfl
theorem q1207 : (Jvm.Cond.instanceMethod ({ cls := "HurtStreetsModel", name := "tellStreet", desc := "(II)I" } : Jvm.MethodName)) ∈ lw_all := lw_g (lw_at lw_m5 156 rfl) rfl
theorem q1208 : (Jvm.Cond.code ({ cls := "HurtStreetsModel", name := "tellStreet", desc := "(II)I" } : Jvm.MethodName) prog_11_method_39_code (3 : Nat) (Option.some Jvm.ClassFile.FieldType.int)) ∈ lw_all := lw_g (lw_at lw_m5 157 rfl) rfl
theorem q1209 : (Jvm.Cond.constantLong "HurtStreetsModel" (190 : Nat) (3 : Int64)) ∈ lw_all := lw_g (lw_at lw_m5 158 rfl) rfl
theorem q1210 : (Jvm.Cond.methodLink "HurtStreetsModel" (192 : Nat) ({ cls := "HurtStreetsModel", name := "knownBy", desc := "(I)I" } : Jvm.MethodName)) ∈ lw_all := lw_g (lw_at lw_m5 159 rfl) rfl
theorem q1211 : (Jvm.Cond.privateMethod ({ cls := "HurtStreetsModel", name := "knownBy", desc := "(I)I" } : Jvm.MethodName)) ∈ lw_tbl := lw_at lw_m5 160 rfl
theorem q1212 : (Jvm.Cond.instanceMethod ({ cls := "HurtStreetsModel", name := "knownBy", desc := "(I)I" } : Jvm.MethodName)) ∈ lw_all := lw_g (lw_at lw_m5 161 rfl) rfl
theorem q1213 : (Jvm.Cond.code ({ cls := "HurtStreetsModel", name := "knownBy", desc := "(I)I" } : Jvm.MethodName) prog_11_method_38_code (2 : Nat) (Option.some Jvm.ClassFile.FieldType.int)) ∈ lw_all := lw_g (lw_at lw_m5 162 rfl) rfl
theorem q1215 : (Jvm.Cond.instanceMethod ({ cls := "HurtStreetsModel", name := "as", desc := "(II)I" } : Jvm.MethodName)) ∈ lw_all := lw_g (lw_at lw_m5 164 rfl) rfl
theorem q1216 : (Jvm.Cond.selects "HurtStreetsModel" ({ cls := "HurtStreetsModel", name := "as", desc := "(II)I" } : Jvm.MethodName) ({ cls := "HurtStreetsModel", name := "as", desc := "(II)I" } : Jvm.MethodName)) ∈ lw_all := lw_g (lw_at lw_m5 165 rfl) rfl
theorem q1217 : (Jvm.Cond.code ({ cls := "HurtStreetsModel", name := "as", desc := "(II)I" } : Jvm.MethodName) prog_11_method_41_code (5 : Nat) (Option.some Jvm.ClassFile.FieldType.int)) ∈ lw_all := lw_g (lw_at lw_m5 166 rfl) rfl
theorem q1218 : (Jvm.Cond.constantLong "HurtStreetsModel" (201 : Nat) (4 : Int64)) ∈ lw_all := lw_g (lw_at lw_m5 167 rfl) rfl
theorem q1220 : (Jvm.Cond.instanceMethod ({ cls := "HurtStreetsModel", name := "hurts", desc := "(II)I" } : Jvm.MethodName)) ∈ lw_all := lw_g (lw_at lw_m5 169 rfl) rfl
theorem q1221 : (Jvm.Cond.selects "HurtStreetsModel" ({ cls := "HurtStreetsModel", name := "hurts", desc := "(II)I" } : Jvm.MethodName) ({ cls := "HurtStreetsModel", name := "hurts", desc := "(II)I" } : Jvm.MethodName)) ∈ lw_all := lw_g (lw_at lw_m5 170 rfl) rfl
theorem q1222 : (Jvm.Cond.code ({ cls := "HurtStreetsModel", name := "hurts", desc := "(II)I" } : Jvm.MethodName) prog_11_method_42_code (3 : Nat) (Option.some Jvm.ClassFile.FieldType.int)) ∈ lw_all := lw_g (lw_at lw_m5 171 rfl) rfl
theorem q1224 : (Jvm.Cond.instanceMethod ({ cls := "HurtStreetsModel", name := "tender", desc := "(II)I" } : Jvm.MethodName)) ∈ lw_all := lw_g (lw_at lw_m5 173 rfl) rfl
theorem q1225 : (Jvm.Cond.selects "HurtStreetsModel" ({ cls := "HurtStreetsModel", name := "tender", desc := "(II)I" } : Jvm.MethodName) ({ cls := "HurtStreetsModel", name := "tender", desc := "(II)I" } : Jvm.MethodName)) ∈ lw_all := lw_g (lw_at lw_m5 174 rfl) rfl
theorem q1226 : (Jvm.Cond.code ({ cls := "HurtStreetsModel", name := "tender", desc := "(II)I" } : Jvm.MethodName) prog_11_method_43_code (4 : Nat) (Option.some Jvm.ClassFile.FieldType.int)) ∈ lw_all := lw_g (lw_at lw_m5 175 rfl) rfl
theorem q1227 : (Jvm.Cond.constantLong "HurtStreetsModel" (203 : Nat) (9 : Int64)) ∈ lw_all := lw_g (lw_at lw_m5 176 rfl) rfl
theorem q1229 : (Jvm.Cond.instanceMethod ({ cls := "HurtStreetsModel", name := "day", desc := "()I" } : Jvm.MethodName)) ∈ lw_all := lw_g (lw_at lw_m5 178 rfl) rfl
theorem q1230 : (Jvm.Cond.selects "HurtStreetsModel" ({ cls := "HurtStreetsModel", name := "day", desc := "()I" } : Jvm.MethodName) ({ cls := "HurtStreetsModel", name := "day", desc := "()I" } : Jvm.MethodName)) ∈ lw_all := lw_g (lw_at lw_m5 179 rfl) rfl
theorem q1231 : (Jvm.Cond.code ({ cls := "HurtStreetsModel", name := "day", desc := "()I" } : Jvm.MethodName) prog_11_method_44_code (1 : Nat) (Option.some Jvm.ClassFile.FieldType.int)) ∈ lw_all := lw_g (lw_at lw_m5 180 rfl) rfl
theorem q1232 : (Jvm.Cond.methodLink "HurtStreetsModel" (115 : Nat) ({ cls := "HurtStreetsModel", name := "lacks", desc := "()Z" } : Jvm.MethodName)) ∈ lw_all := lw_g (lw_at lw_m5 181 rfl) rfl
theorem q1233 : (Jvm.Cond.privateMethod ({ cls := "HurtStreetsModel", name := "lacks", desc := "()Z" } : Jvm.MethodName)) ∈ lw_tbl := lw_at lw_m5 182 rfl
theorem q1234 : (Jvm.Cond.instanceMethod ({ cls := "HurtStreetsModel", name := "lacks", desc := "()Z" } : Jvm.MethodName)) ∈ lw_all := lw_g (lw_at lw_m5 183 rfl) rfl
theorem q1235 : (Jvm.Cond.code ({ cls := "HurtStreetsModel", name := "lacks", desc := "()Z" } : Jvm.MethodName) prog_11_method_13_code (1 : Nat) (Option.some Jvm.ClassFile.FieldType.boolean)) ∈ lw_all := lw_g (lw_at lw_m5 184 rfl) rfl
theorem q1237 : (Jvm.Cond.instanceMethod ({ cls := "HurtStreetsModel", name := "driver", desc := "(II)I" } : Jvm.MethodName)) ∈ lw_all := lw_g (lw_at lw_m5 186 rfl) rfl
theorem q1238 : (Jvm.Cond.selects "HurtStreetsModel" ({ cls := "HurtStreetsModel", name := "driver", desc := "(II)I" } : Jvm.MethodName) ({ cls := "HurtStreetsModel", name := "driver", desc := "(II)I" } : Jvm.MethodName)) ∈ lw_all := lw_g (lw_at lw_m5 187 rfl) rfl
theorem q1239 : (Jvm.Cond.code ({ cls := "HurtStreetsModel", name := "driver", desc := "(II)I" } : Jvm.MethodName) prog_11_method_50_code (3 : Nat) (Option.some Jvm.ClassFile.FieldType.int)) ∈ lw_all := lw_g (lw_at lw_m5 188 rfl) rfl
theorem q1240 : (Jvm.Cond.methodLink "HurtStreetsModel" (217 : Nat) ({ cls := "HurtStreetsModel", name := "isDriver", desc := "(I)Z" } : Jvm.MethodName)) ∈ lw_all := lw_g (lw_at lw_m5 189 rfl) rfl
theorem q1241 : (Jvm.Cond.privateMethod ({ cls := "HurtStreetsModel", name := "isDriver", desc := "(I)Z" } : Jvm.MethodName)) ∈ lw_tbl := lw_at lw_m5 190 rfl
theorem q1242 : (Jvm.Cond.instanceMethod ({ cls := "HurtStreetsModel", name := "isDriver", desc := "(I)Z" } : Jvm.MethodName)) ∈ lw_all := lw_g (lw_at lw_m5 191 rfl) rfl
theorem q1243 : (Jvm.Cond.code ({ cls := "HurtStreetsModel", name := "isDriver", desc := "(I)Z" } : Jvm.MethodName) prog_11_method_17_code (2 : Nat) (Option.some Jvm.ClassFile.FieldType.boolean)) ∈ lw_all := lw_g (lw_at lw_m5 192 rfl) rfl
theorem q1244 : (Jvm.Cond.methodLink "HurtStreetsModel" (220 : Nat) ({ cls := "HurtStreetsModel", name := "tellDriver", desc := "(II)I" } : Jvm.MethodName)) ∈ lw_all := lw_g (lw_at lw_m5 193 rfl) rfl
theorem q1245 : (Jvm.Cond.privateMethod ({ cls := "HurtStreetsModel", name := "tellDriver", desc := "(II)I" } : Jvm.MethodName)) ∈ lw_tbl := lw_at lw_m5 194 rfl
theorem q1246 : (Jvm.Cond.instanceMethod ({ cls := "HurtStreetsModel", name := "tellDriver", desc := "(II)I" } : Jvm.MethodName)) ∈ lw_all := lw_g (lw_at lw_m5 195 rfl) rfl
theorem q1247 : (Jvm.Cond.code ({ cls := "HurtStreetsModel", name := "tellDriver", desc := "(II)I" } : Jvm.MethodName) prog_11_method_49_code (3 : Nat) (Option.some Jvm.ClassFile.FieldType.int)) ∈ lw_all := lw_g (lw_at lw_m5 196 rfl) rfl
theorem q1248 : (Jvm.Cond.methodLink "HurtStreetsModel" (211 : Nat) ({ cls := "HurtStreetsModel", name := "gapsBy", desc := "(I)I" } : Jvm.MethodName)) ∈ lw_all := lw_g (lw_at lw_m5 197 rfl) rfl
theorem q1249 : (Jvm.Cond.privateMethod ({ cls := "HurtStreetsModel", name := "gapsBy", desc := "(I)I" } : Jvm.MethodName)) ∈ lw_tbl := lw_at lw_m5 198 rfl
theorem q1250 : (Jvm.Cond.instanceMethod ({ cls := "HurtStreetsModel", name := "gapsBy", desc := "(I)I" } : Jvm.MethodName)) ∈ lw_all := lw_g (lw_at lw_m5 199 rfl) rfl
theorem q1251 : (Jvm.Cond.code ({ cls := "HurtStreetsModel", name := "gapsBy", desc := "(I)I" } : Jvm.MethodName) prog_11_method_47_code (8 : Nat) (Option.some Jvm.ClassFile.FieldType.int)) ∈ lw_all := lw_g (lw_at lw_m5 200 rfl) rfl
theorem q1252 : (Jvm.Cond.methodLink "HurtStreetsModel" (205 : Nat) ({ cls := "HurtStreetsModel", name := "cornersWithEnds", desc := "()I" } : Jvm.MethodName)) ∈ lw_all := lw_g (lw_at lw_m5 201 rfl) rfl
theorem q1253 : (Jvm.Cond.privateMethod ({ cls := "HurtStreetsModel", name := "cornersWithEnds", desc := "()I" } : Jvm.MethodName)) ∈ lw_tbl := lw_at lw_m5 202 rfl
theorem q1254 : (Jvm.Cond.instanceMethod ({ cls := "HurtStreetsModel", name := "cornersWithEnds", desc := "()I" } : Jvm.MethodName)) ∈ lw_all := lw_g (lw_at lw_m5 203 rfl) rfl
theorem q1255 : (Jvm.Cond.code ({ cls := "HurtStreetsModel", name := "cornersWithEnds", desc := "()I" } : Jvm.MethodName) prog_11_method_46_code (3 : Nat) (Option.some Jvm.ClassFile.FieldType.int)) ∈ lw_all := lw_g (lw_at lw_m5 204 rfl) rfl
theorem q1256 : (Jvm.Cond.methodLink "HurtStreetsModel" (208 : Nat) ({ cls := "HurtStreetsModel", name := "reachOf", desc := "(II)I" } : Jvm.MethodName)) ∈ lw_all := lw_g (lw_at lw_m5 205 rfl) rfl
theorem q1257 : (Jvm.Cond.privateMethod ({ cls := "HurtStreetsModel", name := "reachOf", desc := "(II)I" } : Jvm.MethodName)) ∈ lw_tbl := lw_at lw_m5 206 rfl
theorem q1258 : (Jvm.Cond.instanceMethod ({ cls := "HurtStreetsModel", name := "reachOf", desc := "(II)I" } : Jvm.MethodName)) ∈ lw_all := lw_g (lw_at lw_m5 207 rfl) rfl
theorem q1259 : (Jvm.Cond.code ({ cls := "HurtStreetsModel", name := "reachOf", desc := "(II)I" } : Jvm.MethodName) prog_11_method_45_code (7 : Nat) (Option.some Jvm.ClassFile.FieldType.int)) ∈ lw_all := lw_g (lw_at lw_m5 208 rfl) rfl
theorem q1260 : (Jvm.Cond.methodLink "HurtStreetsModel" (214 : Nat) ({ cls := "HurtStreetsModel", name := "learnNextOf", desc := "(I)I" } : Jvm.MethodName)) ∈ lw_all := lw_g (lw_at lw_m5 209 rfl) rfl
theorem q1261 : (Jvm.Cond.privateMethod ({ cls := "HurtStreetsModel", name := "learnNextOf", desc := "(I)I" } : Jvm.MethodName)) ∈ lw_tbl := lw_at lw_m5 210 rfl
theorem q1262 : (Jvm.Cond.instanceMethod ({ cls := "HurtStreetsModel", name := "learnNextOf", desc := "(I)I" } : Jvm.MethodName)) ∈ lw_all := lw_g (lw_at lw_m5 211 rfl) rfl
theorem q1263 : (Jvm.Cond.code ({ cls := "HurtStreetsModel", name := "learnNextOf", desc := "(I)I" } : Jvm.MethodName) prog_11_method_48_code (7 : Nat) (Option.some Jvm.ClassFile.FieldType.int)) ∈ lw_all := lw_g (lw_at lw_m5 212 rfl) rfl
theorem q1265 : (Jvm.Cond.instanceMethod ({ cls := "HurtStreetsModel", name := "learn", desc := "(II)I" } : Jvm.MethodName)) ∈ lw_all := lw_g (lw_at lw_m5 214 rfl) rfl
theorem q1266 : (Jvm.Cond.selects "HurtStreetsModel" ({ cls := "HurtStreetsModel", name := "learn", desc := "(II)I" } : Jvm.MethodName) ({ cls := "HurtStreetsModel", name := "learn", desc := "(II)I" } : Jvm.MethodName)) ∈ lw_all := lw_g (lw_at lw_m5 215 rfl) rfl
theorem q1267 : (Jvm.Cond.code ({ cls := "HurtStreetsModel", name := "learn", desc := "(II)I" } : Jvm.MethodName) prog_11_method_52_code (3 : Nat) (Option.some Jvm.ClassFile.FieldType.int)) ∈ lw_all := lw_g (lw_at lw_m5 216 rfl) rfl
theorem q1268 : (Jvm.Cond.methodLink "HurtStreetsModel" (223 : Nat) ({ cls := "HurtStreetsModel", name := "knows", desc := "(II)Z" } : Jvm.MethodName)) ∈ lw_all := lw_g (lw_at lw_m5 217 rfl) rfl
theorem q1269 : (Jvm.Cond.privateMethod ({ cls := "HurtStreetsModel", name := "knows", desc := "(II)Z" } : Jvm.MethodName)) ∈ lw_tbl := lw_at lw_m5 218 rfl
theorem q1270 : (Jvm.Cond.instanceMethod ({ cls := "HurtStreetsModel", name := "knows", desc := "(II)Z" } : Jvm.MethodName)) ∈ lw_all := lw_g (lw_at lw_m5 219 rfl) rfl
theorem q1271 : (Jvm.Cond.code ({ cls := "HurtStreetsModel", name := "knows", desc := "(II)Z" } : Jvm.MethodName) prog_11_method_51_code (3 : Nat) (Option.some Jvm.ClassFile.FieldType.boolean)) ∈ lw_all := lw_g (lw_at lw_m5 220 rfl) rfl
theorem q1272 : (Jvm.Cond.methodLink "HurtStreetsModel" (226 : Nat) ({ cls := "HurtStreetsModel", name := "ones", desc := "(I)I" } : Jvm.MethodName)) ∈ lw_all := lw_g (lw_at lw_m5 221 rfl) rfl
theorem q1273 : (Jvm.Cond.static ({ cls := "HurtStreetsModel", name := "ones", desc := "(I)I" } : Jvm.MethodName)) ∈ lw_all := lw_g (lw_at lw_m5 222 rfl) rfl
theorem q1274 : (Jvm.Cond.code ({ cls := "HurtStreetsModel", name := "ones", desc := "(I)I" } : Jvm.MethodName) prog_11_method_4_code (3 : Nat) (Option.some Jvm.ClassFile.FieldType.int)) ∈ lw_all := lw_g (lw_at lw_m5 223 rfl) rfl
theorem q1276 : (Jvm.Cond.instanceMethod ({ cls := "HurtStreetsModel", name := "lose", desc := "(II)I" } : Jvm.MethodName)) ∈ lw_all := lw_g (lw_at lw_m5 225 rfl) rfl
theorem q1277 : (Jvm.Cond.selects "HurtStreetsModel" ({ cls := "HurtStreetsModel", name := "lose", desc := "(II)I" } : Jvm.MethodName) ({ cls := "HurtStreetsModel", name := "lose", desc := "(II)I" } : Jvm.MethodName)) ∈ lw_all := lw_g (lw_at lw_m5 226 rfl) rfl
theorem q1278 : (Jvm.Cond.code ({ cls := "HurtStreetsModel", name := "lose", desc := "(II)I" } : Jvm.MethodName) prog_11_method_53_code (3 : Nat) (Option.some Jvm.ClassFile.FieldType.int)) ∈ lw_all := lw_g (lw_at lw_m5 227 rfl) rfl
theorem q1280 : (Jvm.Cond.instanceMethod ({ cls := "HurtStreetsModel", name := "stand", desc := "(II)I" } : Jvm.MethodName)) ∈ lw_all := lw_g (lw_at lw_m5 229 rfl) rfl
theorem q1281 : (Jvm.Cond.selects "HurtStreetsModel" ({ cls := "HurtStreetsModel", name := "stand", desc := "(II)I" } : Jvm.MethodName) ({ cls := "HurtStreetsModel", name := "stand", desc := "(II)I" } : Jvm.MethodName)) ∈ lw_all := lw_g (lw_at lw_m5 230 rfl) rfl
theorem q1282 : (Jvm.Cond.code ({ cls := "HurtStreetsModel", name := "stand", desc := "(II)I" } : Jvm.MethodName) prog_11_method_54_code (4 : Nat) (Option.some Jvm.ClassFile.FieldType.int)) ∈ lw_all := lw_g (lw_at lw_m5 231 rfl) rfl
theorem q1284 : (Jvm.Cond.instanceMethod ({ cls := "HurtStreetsModel", name := "ride", desc := "(III)I" } : Jvm.MethodName)) ∈ lw_all := lw_g (lw_at lw_m5 233 rfl) rfl
theorem q1285 : (Jvm.Cond.selects "HurtStreetsModel" ({ cls := "HurtStreetsModel", name := "ride", desc := "(III)I" } : Jvm.MethodName) ({ cls := "HurtStreetsModel", name := "ride", desc := "(III)I" } : Jvm.MethodName)) ∈ lw_all := lw_g (lw_at lw_m5 234 rfl) rfl
theorem q1286 : (Jvm.Cond.code ({ cls := "HurtStreetsModel", name := "ride", desc := "(III)I" } : Jvm.MethodName) prog_11_method_56_code (6 : Nat) (Option.some Jvm.ClassFile.FieldType.int)) ∈ lw_all := lw_g (lw_at lw_m5 235 rfl) rfl
theorem q1287 : (Jvm.Cond.methodLink "HurtStreetsModel" (229 : Nat) ({ cls := "HurtStreetsModel", name := "takeThrough", desc := "(II)V" } : Jvm.MethodName)) ∈ lw_all := lw_g (lw_at lw_m5 236 rfl) rfl
theorem q1288 : (Jvm.Cond.privateMethod ({ cls := "HurtStreetsModel", name := "takeThrough", desc := "(II)V" } : Jvm.MethodName)) ∈ lw_tbl := lw_at lw_m5 237 rfl
theorem q1289 : (Jvm.Cond.instanceMethod ({ cls := "HurtStreetsModel", name := "takeThrough", desc := "(II)V" } : Jvm.MethodName)) ∈ lw_all := lw_g (lw_at lw_m5 238 rfl) rfl
theorem q1290 : (Jvm.Cond.code ({ cls := "HurtStreetsModel", name := "takeThrough", desc := "(II)V" } : Jvm.MethodName) prog_11_method_55_code (4 : Nat) (Option.none : Option Jvm.ClassFile.FieldType)) ∈ lw_all := lw_g (lw_at lw_m5 239 rfl) rfl
theorem q1292 : (Jvm.Cond.instanceMethod ({ cls := "HurtStreetsModel", name := "waits", desc := "(III)I" } : Jvm.MethodName)) ∈ lw_all := lw_g (lw_at lw_m6 1 rfl) rfl
theorem q1293 : (Jvm.Cond.selects "HurtStreetsModel" ({ cls := "HurtStreetsModel", name := "waits", desc := "(III)I" } : Jvm.MethodName) ({ cls := "HurtStreetsModel", name := "waits", desc := "(III)I" } : Jvm.MethodName)) ∈ lw_all := lw_g (lw_at lw_m6 2 rfl) rfl
theorem q1294 : (Jvm.Cond.code ({ cls := "HurtStreetsModel", name := "waits", desc := "(III)I" } : Jvm.MethodName) prog_11_method_57_code (5 : Nat) (Option.some Jvm.ClassFile.FieldType.int)) ∈ lw_all := lw_g (lw_at lw_m6 3 rfl) rfl
theorem q1296 : (Jvm.Cond.instanceMethod ({ cls := "HurtStreetsModel", name := "match", desc := "(I)I" } : Jvm.MethodName)) ∈ lw_all := lw_g (lw_at lw_m6 5 rfl) rfl
theorem q1297 : (Jvm.Cond.selects "HurtStreetsModel" ({ cls := "HurtStreetsModel", name := "match", desc := "(I)I" } : Jvm.MethodName) ({ cls := "HurtStreetsModel", name := "match", desc := "(I)I" } : Jvm.MethodName)) ∈ lw_all := lw_g (lw_at lw_m6 6 rfl) rfl
theorem q1298 : (Jvm.Cond.code ({ cls := "HurtStreetsModel", name := "match", desc := "(I)I" } : Jvm.MethodName) prog_11_method_60_code (2 : Nat) (Option.some Jvm.ClassFile.FieldType.int)) ∈ lw_all := lw_g (lw_at lw_m6 7 rfl) rfl
theorem q1299 : (Jvm.Cond.constantLong "HurtStreetsModel" (235 : Nat) (11 : Int64)) ∈ lw_all := lw_g (lw_at lw_m6 8 rfl) rfl
theorem q1300 : (Jvm.Cond.methodLink "HurtStreetsModel" (237 : Nat) ({ cls := "HurtStreetsModel", name := "matchOf", desc := "(I)I" } : Jvm.MethodName)) ∈ lw_all := lw_g (lw_at lw_m6 9 rfl) rfl
theorem q1301 : (Jvm.Cond.privateMethod ({ cls := "HurtStreetsModel", name := "matchOf", desc := "(I)I" } : Jvm.MethodName)) ∈ lw_tbl := lw_at lw_m6 10 rfl
theorem q1302 : (Jvm.Cond.instanceMethod ({ cls := "HurtStreetsModel", name := "matchOf", desc := "(I)I" } : Jvm.MethodName)) ∈ lw_all := lw_g (lw_at lw_m6 11 rfl) rfl
theorem q1303 : (Jvm.Cond.code ({ cls := "HurtStreetsModel", name := "matchOf", desc := "(I)I" } : Jvm.MethodName) prog_11_method_59_code (12 : Nat) (Option.some Jvm.ClassFile.FieldType.int)) ∈ lw_all := lw_g (lw_at lw_m6 12 rfl) rfl
theorem q1304 : (Jvm.Cond.methodLink "HurtStreetsModel" (232 : Nat) ({ cls := "HurtStreetsModel", name := "takesBy", desc := "(II)I" } : Jvm.MethodName)) ∈ lw_all := lw_g (lw_at lw_m6 13 rfl) rfl
theorem q1305 : (Jvm.Cond.privateMethod ({ cls := "HurtStreetsModel", name := "takesBy", desc := "(II)I" } : Jvm.MethodName)) ∈ lw_tbl := lw_at lw_m6 14 rfl
theorem q1306 : (Jvm.Cond.instanceMethod ({ cls := "HurtStreetsModel", name := "takesBy", desc := "(II)I" } : Jvm.MethodName)) ∈ lw_all := lw_g (lw_at lw_m6 15 rfl) rfl
theorem q1307 : (Jvm.Cond.code ({ cls := "HurtStreetsModel", name := "takesBy", desc := "(II)I" } : Jvm.MethodName) prog_11_method_58_code (4 : Nat) (Option.some Jvm.ClassFile.FieldType.int)) ∈ lw_all := lw_g (lw_at lw_m6 16 rfl) rfl
theorem q1309 : (Jvm.Cond.instanceMethod ({ cls := "HurtStreetsModel", name := "see", desc := "(IIII)I" } : Jvm.MethodName)) ∈ lw_all := lw_g (lw_at lw_m6 18 rfl) rfl
theorem q1310 : (Jvm.Cond.selects "HurtStreetsModel" ({ cls := "HurtStreetsModel", name := "see", desc := "(IIII)I" } : Jvm.MethodName) ({ cls := "HurtStreetsModel", name := "see", desc := "(IIII)I" } : Jvm.MethodName)) ∈ lw_all := lw_g (lw_at lw_m6 19 rfl) rfl
theorem q1311 : (Jvm.Cond.code ({ cls := "HurtStreetsModel", name := "see", desc := "(IIII)I" } : Jvm.MethodName) prog_11_method_61_code (5 : Nat) (Option.some Jvm.ClassFile.FieldType.int)) ∈ lw_all := lw_g (lw_at lw_m6 20 rfl) rfl
theorem q1313 : (Jvm.Cond.instanceMethod ({ cls := "HurtStreetsModel", name := "forget", desc := "()I" } : Jvm.MethodName)) ∈ lw_all := lw_g (lw_at lw_m6 22 rfl) rfl
theorem q1314 : (Jvm.Cond.selects "HurtStreetsModel" ({ cls := "HurtStreetsModel", name := "forget", desc := "()I" } : Jvm.MethodName) ({ cls := "HurtStreetsModel", name := "forget", desc := "()I" } : Jvm.MethodName)) ∈ lw_all := lw_g (lw_at lw_m6 23 rfl) rfl
theorem q1315 : (Jvm.Cond.code ({ cls := "HurtStreetsModel", name := "forget", desc := "()I" } : Jvm.MethodName) prog_11_method_62_code (2 : Nat) (Option.some Jvm.ClassFile.FieldType.int)) ∈ lw_all := lw_g (lw_at lw_m6 24 rfl) rfl
theorem q1317 : (Jvm.Cond.instanceMethod ({ cls := "HurtStreetsModel", name := "watch", desc := "(II)I" } : Jvm.MethodName)) ∈ lw_all := lw_g (lw_at lw_m6 26 rfl) rfl
theorem q1318 : (Jvm.Cond.selects "HurtStreetsModel" ({ cls := "HurtStreetsModel", name := "watch", desc := "(II)I" } : Jvm.MethodName) ({ cls := "HurtStreetsModel", name := "watch", desc := "(II)I" } : Jvm.MethodName)) ∈ lw_all := lw_g (lw_at lw_m6 27 rfl) rfl
theorem q1319 : (Jvm.Cond.code ({ cls := "HurtStreetsModel", name := "watch", desc := "(II)I" } : Jvm.MethodName) prog_11_method_66_code (3 : Nat) (Option.some Jvm.ClassFile.FieldType.int)) ∈ lw_all := lw_g (lw_at lw_m6 28 rfl) rfl
theorem q1320 : (Jvm.Cond.methodLink "HurtStreetsModel" (243 : Nat) ({ cls := "HurtStreetsModel", name := "watchOf", desc := "(II)I" } : Jvm.MethodName)) ∈ lw_all := lw_g (lw_at lw_m6 29 rfl) rfl
theorem q1321 : (Jvm.Cond.privateMethod ({ cls := "HurtStreetsModel", name := "watchOf", desc := "(II)I" } : Jvm.MethodName)) ∈ lw_tbl := lw_at lw_m6 30 rfl
theorem q1322 : (Jvm.Cond.instanceMethod ({ cls := "HurtStreetsModel", name := "watchOf", desc := "(II)I" } : Jvm.MethodName)) ∈ lw_all := lw_g (lw_at lw_m6 31 rfl) rfl
theorem q1323 : (Jvm.Cond.code ({ cls := "HurtStreetsModel", name := "watchOf", desc := "(II)I" } : Jvm.MethodName) prog_11_method_65_code (10 : Nat) (Option.some Jvm.ClassFile.FieldType.int)) ∈ lw_all := lw_g (lw_at lw_m6 32 rfl) rfl
theorem q1325 : (Jvm.Cond.instanceMethod ({ cls := "HurtStreetsModel", name := "years", desc := "(III)I" } : Jvm.MethodName)) ∈ lw_all := lw_g (lw_at lw_m6 34 rfl) rfl
theorem q1326 : (Jvm.Cond.selects "HurtStreetsModel" ({ cls := "HurtStreetsModel", name := "years", desc := "(III)I" } : Jvm.MethodName) ({ cls := "HurtStreetsModel", name := "years", desc := "(III)I" } : Jvm.MethodName)) ∈ lw_all := lw_g (lw_at lw_m6 35 rfl) rfl
theorem q1327 : (Jvm.Cond.code ({ cls := "HurtStreetsModel", name := "years", desc := "(III)I" } : Jvm.MethodName) prog_11_method_68_code (11 : Nat) (Option.some Jvm.ClassFile.FieldType.int)) ∈ lw_all := lw_g (lw_at lw_m6 36 rfl) rfl
theorem q1328 : (Jvm.Cond.constantLong "HurtStreetsModel" (256 : Nat) (40 : Int64)) ∈ lw_all := lw_g (lw_at lw_m6 37 rfl) rfl
theorem q1329 : (Jvm.Cond.methodLink "HurtStreetsModel" (258 : Nat) ({ cls := "HurtStreetsModel", name := "copy", desc := "([I[I)V" } : Jvm.MethodName)) ∈ lw_all := lw_g (lw_at lw_m6 38 rfl) rfl
theorem q1330 : (Jvm.Cond.static ({ cls := "HurtStreetsModel", name := "copy", desc := "([I[I)V" } : Jvm.MethodName)) ∈ lw_all := lw_g (lw_at lw_m6 39 rfl) rfl
theorem q1331 : (Jvm.Cond.code ({ cls := "HurtStreetsModel", name := "copy", desc := "([I[I)V" } : Jvm.MethodName) prog_11_method_3_code (3 : Nat) (Option.none : Option Jvm.ClassFile.FieldType)) ∈ lw_all := lw_g (lw_at lw_m6 40 rfl) rfl
theorem q1332 : (Jvm.Cond.methodLink "HurtStreetsModel" (262 : Nat) ({ cls := "HurtStreetsModel", name := "draw", desc := "(I)I" } : Jvm.MethodName)) ∈ lw_all := lw_g (lw_at lw_m6 41 rfl) rfl
theorem q1333 : (Jvm.Cond.privateMethod ({ cls := "HurtStreetsModel", name := "draw", desc := "(I)I" } : Jvm.MethodName)) ∈ lw_tbl := lw_at lw_m6 42 rfl
theorem q1334 : (Jvm.Cond.instanceMethod ({ cls := "HurtStreetsModel", name := "draw", desc := "(I)I" } : Jvm.MethodName)) ∈ lw_all := lw_g (lw_at lw_m6 43 rfl) rfl
theorem q1335 : (Jvm.Cond.code ({ cls := "HurtStreetsModel", name := "draw", desc := "(I)I" } : Jvm.MethodName) prog_11_method_67_code (2 : Nat) (Option.some Jvm.ClassFile.FieldType.int)) ∈ lw_all := lw_g (lw_at lw_m6 44 rfl) rfl
theorem q1336 : (Jvm.Cond.constantLong "HurtStreetsModel" (246 : Nat) (1103515245 : Int64)) ∈ lw_all := lw_g (lw_at lw_m6 45 rfl) rfl
theorem q1337 : (Jvm.Cond.constantLong "HurtStreetsModel" (251 : Nat) (12345 : Int64)) ∈ lw_all := lw_g (lw_at lw_m6 46 rfl) rfl
theorem q1338 : (Jvm.Cond.constantLong "HurtStreetsModel" (253 : Nat) (2147483647 : Int64)) ∈ lw_all := lw_g (lw_at lw_m6 47 rfl) rfl
theorem q1339 : (Jvm.Cond.constant "HurtStreetsModel" (255 : Nat) (65536 : Int32)) ∈ lw_all := lw_g (lw_at lw_m6 48 rfl) rfl
theorem q1341 : (Jvm.Cond.instanceMethod ({ cls := "HurtStreetsModel", name := "image", desc := "()I" } : Jvm.MethodName)) ∈ lw_all := lw_g (lw_at lw_m6 50 rfl) rfl
theorem q1342 : (Jvm.Cond.selects "HurtStreetsModel" ({ cls := "HurtStreetsModel", name := "image", desc := "()I" } : Jvm.MethodName) ({ cls := "HurtStreetsModel", name := "image", desc := "()I" } : Jvm.MethodName)) ∈ lw_all := lw_g (lw_at lw_m6 51 rfl) rfl
theorem q1343 : (Jvm.Cond.code ({ cls := "HurtStreetsModel", name := "image", desc := "()I" } : Jvm.MethodName) prog_11_method_69_code (1 : Nat) (Option.some Jvm.ClassFile.FieldType.int)) ∈ lw_all := lw_g (lw_at lw_m6 52 rfl) rfl
theorem q1345 : (Jvm.Cond.instanceMethod ({ cls := "HurtStreetsModel", name := "restore", desc := "()I" } : Jvm.MethodName)) ∈ lw_all := lw_g (lw_at lw_m6 54 rfl) rfl
theorem q1346 : (Jvm.Cond.selects "HurtStreetsModel" ({ cls := "HurtStreetsModel", name := "restore", desc := "()I" } : Jvm.MethodName) ({ cls := "HurtStreetsModel", name := "restore", desc := "()I" } : Jvm.MethodName)) ∈ lw_all := lw_g (lw_at lw_m6 55 rfl) rfl
theorem q1347 : (Jvm.Cond.code ({ cls := "HurtStreetsModel", name := "restore", desc := "()I" } : Jvm.MethodName) prog_11_method_70_code (1 : Nat) (Option.some Jvm.ClassFile.FieldType.int)) ∈ lw_all := lw_g (lw_at lw_m6 56 rfl) rfl
theorem q1349 : (Jvm.Cond.instanceMethod ({ cls := "HurtStreetsModel", name := "count", desc := "(I)I" } : Jvm.MethodName)) ∈ lw_all := lw_g (lw_at lw_m6 58 rfl) rfl
theorem q1350 : (Jvm.Cond.selects "HurtStreetsModel" ({ cls := "HurtStreetsModel", name := "count", desc := "(I)I" } : Jvm.MethodName) ({ cls := "HurtStreetsModel", name := "count", desc := "(I)I" } : Jvm.MethodName)) ∈ lw_all := lw_g (lw_at lw_m6 59 rfl) rfl
theorem q1351 : (Jvm.Cond.code ({ cls := "HurtStreetsModel", name := "count", desc := "(I)I" } : Jvm.MethodName) prog_11_method_75_code (2 : Nat) (Option.some Jvm.ClassFile.FieldType.int)) ∈ lw_all := lw_g (lw_at lw_m6 60 rfl) rfl
theorem q1352 : (Jvm.Cond.methodLink "HurtStreetsModel" (280 : Nat) ({ cls := "HurtStreetsModel", name := "countOf", desc := "(I)I" } : Jvm.MethodName)) ∈ lw_all := lw_g (lw_at lw_m6 61 rfl) rfl
theorem q1353 : (Jvm.Cond.privateMethod ({ cls := "HurtStreetsModel", name := "countOf", desc := "(I)I" } : Jvm.MethodName)) ∈ lw_tbl := lw_at lw_m6 62 rfl
theorem q1354 : (Jvm.Cond.instanceMethod ({ cls := "HurtStreetsModel", name := "countOf", desc := "(I)I" } : Jvm.MethodName)) ∈ lw_all := lw_g (lw_at lw_m6 63 rfl) rfl
theorem q1355 : (Jvm.Cond.code ({ cls := "HurtStreetsModel", name := "countOf", desc := "(I)I" } : Jvm.MethodName) prog_11_method_74_code (2 : Nat) (Option.some Jvm.ClassFile.FieldType.int)) ∈ lw_all := lw_g (lw_at lw_m6 64 rfl) rfl
theorem q1356 : (Jvm.Cond.methodLink "HurtStreetsModel" (271 : Nat) ({ cls := "HurtStreetsModel", name := "hurtAll", desc := "()I" } : Jvm.MethodName)) ∈ lw_all := lw_g (lw_at lw_m6 65 rfl) rfl
theorem q1357 : (Jvm.Cond.privateMethod ({ cls := "HurtStreetsModel", name := "hurtAll", desc := "()I" } : Jvm.MethodName)) ∈ lw_tbl := lw_at lw_m6 66 rfl
theorem q1358 : (Jvm.Cond.instanceMethod ({ cls := "HurtStreetsModel", name := "hurtAll", desc := "()I" } : Jvm.MethodName)) ∈ lw_all := lw_g (lw_at lw_m6 67 rfl) rfl
theorem q1359 : (Jvm.Cond.code ({ cls := "HurtStreetsModel", name := "hurtAll", desc := "()I" } : Jvm.MethodName) prog_11_method_71_code (3 : Nat) (Option.some Jvm.ClassFile.FieldType.int)) ∈ lw_all := lw_g (lw_at lw_m6 68 rfl) rfl
theorem q1360 : (Jvm.Cond.methodLink "HurtStreetsModel" (274 : Nat) ({ cls := "HurtStreetsModel", name := "waiting", desc := "()I" } : Jvm.MethodName)) ∈ lw_all := lw_g (lw_at lw_m6 69 rfl) rfl
theorem q1361 : (Jvm.Cond.privateMethod ({ cls := "HurtStreetsModel", name := "waiting", desc := "()I" } : Jvm.MethodName)) ∈ lw_tbl := lw_at lw_m6 70 rfl
theorem q1362 : (Jvm.Cond.instanceMethod ({ cls := "HurtStreetsModel", name := "waiting", desc := "()I" } : Jvm.MethodName)) ∈ lw_all := lw_g (lw_at lw_m6 71 rfl) rfl
theorem q1363 : (Jvm.Cond.code ({ cls := "HurtStreetsModel", name := "waiting", desc := "()I" } : Jvm.MethodName) prog_11_method_72_code (3 : Nat) (Option.some Jvm.ClassFile.FieldType.int)) ∈ lw_all := lw_g (lw_at lw_m6 72 rfl) rfl
theorem q1364 : (Jvm.Cond.methodLink "HurtStreetsModel" (277 : Nat) ({ cls := "HurtStreetsModel", name := "lengthAll", desc := "()I" } : Jvm.MethodName)) ∈ lw_all := lw_g (lw_at lw_m6 73 rfl) rfl
theorem q1365 : (Jvm.Cond.privateMethod ({ cls := "HurtStreetsModel", name := "lengthAll", desc := "()I" } : Jvm.MethodName)) ∈ lw_tbl := lw_at lw_m6 74 rfl
theorem q1366 : (Jvm.Cond.instanceMethod ({ cls := "HurtStreetsModel", name := "lengthAll", desc := "()I" } : Jvm.MethodName)) ∈ lw_all := lw_g (lw_at lw_m6 75 rfl) rfl
theorem q1367 : (Jvm.Cond.code ({ cls := "HurtStreetsModel", name := "lengthAll", desc := "()I" } : Jvm.MethodName) prog_11_method_73_code (3 : Nat) (Option.some Jvm.ClassFile.FieldType.int)) ∈ lw_all := lw_g (lw_at lw_m6 76 rfl) rfl
theorem q1369 : (Jvm.Cond.instanceMethod ({ cls := "HurtStreetsModel", name := "digest", desc := "()J" } : Jvm.MethodName)) ∈ lw_all := lw_g (lw_at lw_m6 78 rfl) rfl
theorem q1370 : (Jvm.Cond.selects "HurtStreetsModel" ({ cls := "HurtStreetsModel", name := "digest", desc := "()J" } : Jvm.MethodName) ({ cls := "HurtStreetsModel", name := "digest", desc := "()J" } : Jvm.MethodName)) ∈ lw_all := lw_g (lw_at lw_m6 79 rfl) rfl
theorem q1371 : (Jvm.Cond.code ({ cls := "HurtStreetsModel", name := "digest", desc := "()J" } : Jvm.MethodName) prog_11_method_79_code (3 : Nat) (Option.some Jvm.ClassFile.FieldType.long)) ∈ lw_all := lw_g (lw_at lw_m6 80 rfl) rfl
theorem q1372 : (Jvm.Cond.constantLong "HurtStreetsModel" (293 : Nat) (1109 : Int64)) ∈ lw_all := lw_g (lw_at lw_m6 81 rfl) rfl
theorem q1373 : (Jvm.Cond.methodLink "HurtStreetsModel" (295 : Nat) ({ cls := "HurtStreetsModel", name := "sayPerson", desc := "(I)V" } : Jvm.MethodName)) ∈ lw_all := lw_g (lw_at lw_m6 82 rfl) rfl
theorem q1374 : (Jvm.Cond.privateMethod ({ cls := "HurtStreetsModel", name := "sayPerson", desc := "(I)V" } : Jvm.MethodName)) ∈ lw_tbl := lw_at lw_m6 83 rfl
theorem q1375 : (Jvm.Cond.instanceMethod ({ cls := "HurtStreetsModel", name := "sayPerson", desc := "(I)V" } : Jvm.MethodName)) ∈ lw_all := lw_g (lw_at lw_m6 84 rfl) rfl
theorem q1376 : (Jvm.Cond.code ({ cls := "HurtStreetsModel", name := "sayPerson", desc := "(I)V" } : Jvm.MethodName) prog_11_method_77_code (3 : Nat) (Option.none : Option Jvm.ClassFile.FieldType)) ∈ lw_all := lw_g (lw_at lw_m6 85 rfl) rfl
theorem q1377 : (Jvm.Cond.methodLink "HurtStreetsModel" (289 : Nat) ({ cls := "HurtStreetsModel", name := "say", desc := "(J)V" } : Jvm.MethodName)) ∈ lw_all := lw_g (lw_at lw_m6 86 rfl) rfl
theorem q1378 : (Jvm.Cond.privateMethod ({ cls := "HurtStreetsModel", name := "say", desc := "(J)V" } : Jvm.MethodName)) ∈ lw_tbl := lw_at lw_m6 87 rfl
theorem q1379 : (Jvm.Cond.instanceMethod ({ cls := "HurtStreetsModel", name := "say", desc := "(J)V" } : Jvm.MethodName)) ∈ lw_all := lw_g (lw_at lw_m6 88 rfl) rfl
theorem q1380 : (Jvm.Cond.code ({ cls := "HurtStreetsModel", name := "say", desc := "(J)V" } : Jvm.MethodName) prog_11_method_76_code (3 : Nat) (Option.none : Option Jvm.ClassFile.FieldType)) ∈ lw_all := lw_g (lw_at lw_m6 89 rfl) rfl
theorem q1381 : (Jvm.Cond.constantLong "HurtStreetsModel" (283 : Nat) (31 : Int64)) ∈ lw_all := lw_g (lw_at lw_m6 90 rfl) rfl
theorem q1382 : (Jvm.Cond.methodLink "HurtStreetsModel" (299 : Nat) ({ cls := "HurtStreetsModel", name := "sayTown", desc := "()V" } : Jvm.MethodName)) ∈ lw_all := lw_g (lw_at lw_m6 91 rfl) rfl
theorem q1383 : (Jvm.Cond.privateMethod ({ cls := "HurtStreetsModel", name := "sayTown", desc := "()V" } : Jvm.MethodName)) ∈ lw_tbl := lw_at lw_m6 92 rfl
theorem q1384 : (Jvm.Cond.instanceMethod ({ cls := "HurtStreetsModel", name := "sayTown", desc := "()V" } : Jvm.MethodName)) ∈ lw_all := lw_g (lw_at lw_m6 93 rfl) rfl
theorem q1385 : (Jvm.Cond.code ({ cls := "HurtStreetsModel", name := "sayTown", desc := "()V" } : Jvm.MethodName) prog_11_method_78_code (3 : Nat) (Option.none : Option Jvm.ClassFile.FieldType)) ∈ lw_all := lw_g (lw_at lw_m6 94 rfl) rfl
theorem q1396 : (Jvm.Cond.castable "HurtStreetsModel" "java/lang/Object") ∈ lw_tbl := lw_at lw_m6 105 rfl
theorem in_X2 : ∀ w ∈ wsX20, w ∈ lw_all := lw_in wsX20 [999, 1001, 1003, 1005, 1007, 1009, 1011, 1013, 1015, 1017, 1019, 1021, 1023, 1025, 1027, 1029, 1031, 1033, 1035, 1037, 1039, 1041, 1043, 1045, 1047, 1049, 1051, 1053] (by decide +kernel) (by decide +kernel)
