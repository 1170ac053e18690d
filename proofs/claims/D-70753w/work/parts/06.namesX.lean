/-! HurtStreets -/
set_option maxRecDepth 100000
def RX0 : String := "HurtStreets"
def TX0 : u_T := fun k => match k with
  | 0 => ("HurtStreets", "streets", "Ljava/util/ArrayList;", true)
  | 1 => ("HurtStreets", "people", "I", false)
  | 2 => ("HurtStreets", "towns", "I", false)
  | 3 => ("HurtStreets", "state", "LHurtStreets$State;", true)
  | 4 => ("HurtStreets", "thought", "LHurtStreets$State;", true)
  | 5 => ("HurtStreets", "kept", "LHurtStreets$State;", true)
  | 6 => ("HurtStreets", "page", "[B", true)
  | 7 => ("HurtStreets", "pageLength", "I", false)
  | 8 => ("HurtStreets", "leastBy", "[I", true)
  | 9 => ("HurtStreets", "matchMany", "I", false)
  | 10 => ("HurtStreets", "matchHurts", "I", false)
  | 11 => ("HurtStreets", "matched", "[I", true)
  | 12 => ("HurtStreets", "seen", "I", false)
  | 13 => ("HurtStreets", "seenWho", "[I", true)
  | 14 => ("HurtStreets", "seenFrom", "[I", true)
  | 15 => ("HurtStreets", "seenTo", "[I", true)
  | 16 => ("HurtStreets", "seenStreet", "[I", true)
  | 17 => ("HurtStreets", "firstOf", "[I", true)
  | 18 => ("HurtStreets", "drawn", "J", false)
  | 19 => ("HurtStreets", "keptTown", "I", false)
  | 20 => ("HurtStreets", "keptSeen", "I", false)
  | 21 => ("HurtStreets", "keptWho", "[I", true)
  | 22 => ("HurtStreets", "keptFrom", "[I", true)
  | 23 => ("HurtStreets", "keptTo", "[I", true)
  | _ => ("HurtStreets", "keptStreet", "[I", true)
def tyX0 : Nat → FieldType := fun k => match k with
  | 0 => .object "java/util/ArrayList"
  | 1 => .int
  | 2 => .int
  | 3 => .object "HurtStreets$State"
  | 4 => .object "HurtStreets$State"
  | 5 => .object "HurtStreets$State"
  | 6 => .array .byte
  | 7 => .int
  | 8 => .array .int
  | 9 => .int
  | 10 => .int
  | 11 => .array .int
  | 12 => .int
  | 13 => .array .int
  | 14 => .array .int
  | 15 => .array .int
  | 16 => .array .int
  | 17 => .array .int
  | 18 => .long
  | 19 => .int
  | 20 => .int
  | 21 => .array .int
  | 22 => .array .int
  | 23 => .array .int
  | _ => .array .int
abbrev wsX00 : List Cond := u_ws RX0 TX0 25
set_option maxRecDepth 100000 in
theorem nmX0 : ∀ a, a < 25 → ∀ b, b < 25 → a ≠ b → (TX0 a).2.1 ≠ (TX0 b).2.1 := by decide +kernel
set_option maxRecDepth 100000 in
theorem tyX0_ok : ∀ k, k < 25 → parseFieldDescriptor (TX0 k).2.2.1 = some (tyX0 k) := by decide +kernel
abbrev cX0_init : ByteArray := prog_1_method_4_code
def yX0_init : MethodName := ⟨RX0, "<init>", "()V"⟩
def dkwX0_init_6 : List UInt8 := [181, 0, 70, 177]
abbrev dktX0_init_6 : List UInt8 := dkwX0_init_6 ++ []
def dkwX0_init_5 : List UInt8 := [181, 0, 61, 42, 16, 6, 188, 10, 181, 0, 64, 42, 16, 6, 188, 10, 181, 0, 67, 42, 16, 6, 188, 10]
abbrev dktX0_init_5 : List UInt8 := dkwX0_init_5 ++ dktX0_init_6
def dkwX0_init_4 : List UInt8 := [181, 0, 52, 42, 16, 6, 188, 10, 181, 0, 55, 42, 16, 10, 188, 10, 181, 0, 58, 42, 16, 6, 188, 10]
abbrev dktX0_init_4 : List UInt8 := dkwX0_init_4 ++ dktX0_init_5
def dkwX0_init_3 : List UInt8 := [181, 0, 43, 42, 16, 6, 188, 10, 181, 0, 46, 42, 16, 6, 188, 10, 181, 0, 49, 42, 16, 6, 188, 10]
abbrev dktX0_init_3 : List UInt8 := dkwX0_init_3 ++ dktX0_init_4
def dkwX0_init_2 : List UInt8 := [181, 0, 32, 42, 16, 50, 188, 8, 181, 0, 35, 42, 17, 2, 144, 188, 10, 181, 0, 39, 42, 5, 188, 10]
abbrev dktX0_init_2 : List UInt8 := dkwX0_init_2 ++ dktX0_init_3
def dkwX0_init_1 : List UInt8 := [181, 0, 25, 42, 187, 0, 20, 89, 42, 183, 0, 22, 181, 0, 29, 42, 187, 0, 20, 89, 42, 183, 0, 22]
abbrev dktX0_init_1 : List UInt8 := dkwX0_init_1 ++ dktX0_init_2
def dkwX0_init_0 : List UInt8 := [42, 183, 0, 7, 42, 187, 0, 13, 89, 183, 0, 15, 181, 0, 16, 42, 187, 0, 20, 89, 42, 183, 0, 22]
abbrev dktX0_init_0 : List UInt8 := dkwX0_init_0 ++ dktX0_init_1
theorem dksX0_init_0 : cX0_init.data.toList.drop 0 = dktX0_init_0 := by decide +kernel
theorem dksX0_init_1 : cX0_init.data.toList.drop 24 = dktX0_init_1 := dk_seg dksX0_init_0 24 rfl rfl
theorem dksX0_init_2 : cX0_init.data.toList.drop 48 = dktX0_init_2 := dk_seg dksX0_init_1 24 rfl rfl
theorem dksX0_init_3 : cX0_init.data.toList.drop 72 = dktX0_init_3 := dk_seg dksX0_init_2 24 rfl rfl
theorem dksX0_init_4 : cX0_init.data.toList.drop 96 = dktX0_init_4 := dk_seg dksX0_init_3 24 rfl rfl
theorem dksX0_init_5 : cX0_init.data.toList.drop 120 = dktX0_init_5 := dk_seg dksX0_init_4 24 rfl rfl
theorem dksX0_init_6 : cX0_init.data.toList.drop 144 = dktX0_init_6 := dk_seg dksX0_init_5 24 rfl rfl
theorem dX0_init_0 : decode cX0_init 0 = .ok (.aload_n 0, 1) := dk_42 (dk_at dksX0_init_0 0 rfl rfl)
theorem dX0_init_1 : decode cX0_init 1 = .ok (.invokespecial 7, 3) := dk_183 0 7 (dk_at dksX0_init_0 1 rfl rfl)
theorem dX0_init_4 : decode cX0_init 4 = .ok (.aload_n 0, 1) := dk_42 (dk_at dksX0_init_0 4 rfl rfl)
theorem dX0_init_5 : decode cX0_init 5 = .ok (.new 13, 3) := dk_187 0 13 (dk_at dksX0_init_0 5 rfl rfl)
theorem dX0_init_8 : decode cX0_init 8 = .ok (.dup, 1) := dk_89 (dk_at dksX0_init_0 8 rfl rfl)
theorem dX0_init_9 : decode cX0_init 9 = .ok (.invokespecial 15, 3) := dk_183 0 15 (dk_at dksX0_init_0 9 rfl rfl)
theorem dX0_init_12 : decode cX0_init 12 = .ok (.putfield 16, 3) := dk_181 0 16 (dk_at dksX0_init_0 12 rfl rfl)
theorem dX0_init_15 : decode cX0_init 15 = .ok (.aload_n 0, 1) := dk_42 (dk_at dksX0_init_0 15 rfl rfl)
theorem dX0_init_16 : decode cX0_init 16 = .ok (.new 20, 3) := dk_187 0 20 (dk_at dksX0_init_0 16 rfl rfl)
theorem dX0_init_19 : decode cX0_init 19 = .ok (.dup, 1) := dk_89 (dk_at dksX0_init_0 19 rfl rfl)
theorem dX0_init_20 : decode cX0_init 20 = .ok (.aload_n 0, 1) := dk_42 (dk_at dksX0_init_0 20 rfl rfl)
theorem dX0_init_21 : decode cX0_init 21 = .ok (.invokespecial 22, 3) := dk_183 0 22 (dk_at dksX0_init_0 21 rfl rfl)
theorem dX0_init_24 : decode cX0_init 24 = .ok (.putfield 25, 3) := dk_181 0 25 (dk_at dksX0_init_1 0 rfl rfl)
theorem dX0_init_27 : decode cX0_init 27 = .ok (.aload_n 0, 1) := dk_42 (dk_at dksX0_init_1 3 rfl rfl)
theorem dX0_init_28 : decode cX0_init 28 = .ok (.new 20, 3) := dk_187 0 20 (dk_at dksX0_init_1 4 rfl rfl)
theorem dX0_init_31 : decode cX0_init 31 = .ok (.dup, 1) := dk_89 (dk_at dksX0_init_1 7 rfl rfl)
theorem dX0_init_32 : decode cX0_init 32 = .ok (.aload_n 0, 1) := dk_42 (dk_at dksX0_init_1 8 rfl rfl)
theorem dX0_init_33 : decode cX0_init 33 = .ok (.invokespecial 22, 3) := dk_183 0 22 (dk_at dksX0_init_1 9 rfl rfl)
theorem dX0_init_36 : decode cX0_init 36 = .ok (.putfield 29, 3) := dk_181 0 29 (dk_at dksX0_init_1 12 rfl rfl)
theorem dX0_init_39 : decode cX0_init 39 = .ok (.aload_n 0, 1) := dk_42 (dk_at dksX0_init_1 15 rfl rfl)
theorem dX0_init_40 : decode cX0_init 40 = .ok (.new 20, 3) := dk_187 0 20 (dk_at dksX0_init_1 16 rfl rfl)
theorem dX0_init_43 : decode cX0_init 43 = .ok (.dup, 1) := dk_89 (dk_at dksX0_init_1 19 rfl rfl)
theorem dX0_init_44 : decode cX0_init 44 = .ok (.aload_n 0, 1) := dk_42 (dk_at dksX0_init_1 20 rfl rfl)
theorem dX0_init_45 : decode cX0_init 45 = .ok (.invokespecial 22, 3) := dk_183 0 22 (dk_at dksX0_init_1 21 rfl rfl)
theorem dX0_init_48 : decode cX0_init 48 = .ok (.putfield 32, 3) := dk_181 0 32 (dk_at dksX0_init_2 0 rfl rfl)
theorem dX0_init_51 : decode cX0_init 51 = .ok (.aload_n 0, 1) := dk_42 (dk_at dksX0_init_2 3 rfl rfl)
theorem dX0_init_52 : decode cX0_init 52 = .ok (.bipush 50, 2) := dk_16 50 (dk_at dksX0_init_2 4 rfl rfl)
theorem dX0_init_54 : decode cX0_init 54 = .ok (.newarray .byte, 2) := dk_188_8 (dk_at dksX0_init_2 6 rfl rfl)
theorem dX0_init_56 : decode cX0_init 56 = .ok (.putfield 35, 3) := dk_181 0 35 (dk_at dksX0_init_2 8 rfl rfl)
theorem dX0_init_59 : decode cX0_init 59 = .ok (.aload_n 0, 1) := dk_42 (dk_at dksX0_init_2 11 rfl rfl)
theorem dX0_init_60 : decode cX0_init 60 = .ok (.sipush 656, 3) := dk_17 2 144 (dk_at dksX0_init_2 12 rfl rfl)
theorem dX0_init_63 : decode cX0_init 63 = .ok (.newarray .int, 2) := dk_188_10 (dk_at dksX0_init_2 15 rfl rfl)
theorem dX0_init_65 : decode cX0_init 65 = .ok (.putfield 39, 3) := dk_181 0 39 (dk_at dksX0_init_2 17 rfl rfl)
theorem dX0_init_68 : decode cX0_init 68 = .ok (.aload_n 0, 1) := dk_42 (dk_at dksX0_init_2 20 rfl rfl)
theorem dX0_init_69 : decode cX0_init 69 = .ok (.iconst 2, 1) := dk_5 (dk_at dksX0_init_2 21 rfl rfl)
theorem dX0_init_70 : decode cX0_init 70 = .ok (.newarray .int, 2) := dk_188_10 (dk_at dksX0_init_2 22 rfl rfl)
theorem dX0_init_72 : decode cX0_init 72 = .ok (.putfield 43, 3) := dk_181 0 43 (dk_at dksX0_init_3 0 rfl rfl)
theorem dX0_init_75 : decode cX0_init 75 = .ok (.aload_n 0, 1) := dk_42 (dk_at dksX0_init_3 3 rfl rfl)
theorem dX0_init_76 : decode cX0_init 76 = .ok (.bipush 6, 2) := dk_16 6 (dk_at dksX0_init_3 4 rfl rfl)
theorem dX0_init_78 : decode cX0_init 78 = .ok (.newarray .int, 2) := dk_188_10 (dk_at dksX0_init_3 6 rfl rfl)
theorem dX0_init_80 : decode cX0_init 80 = .ok (.putfield 46, 3) := dk_181 0 46 (dk_at dksX0_init_3 8 rfl rfl)
theorem dX0_init_83 : decode cX0_init 83 = .ok (.aload_n 0, 1) := dk_42 (dk_at dksX0_init_3 11 rfl rfl)
theorem dX0_init_84 : decode cX0_init 84 = .ok (.bipush 6, 2) := dk_16 6 (dk_at dksX0_init_3 12 rfl rfl)
theorem dX0_init_86 : decode cX0_init 86 = .ok (.newarray .int, 2) := dk_188_10 (dk_at dksX0_init_3 14 rfl rfl)
theorem dX0_init_88 : decode cX0_init 88 = .ok (.putfield 49, 3) := dk_181 0 49 (dk_at dksX0_init_3 16 rfl rfl)
theorem dX0_init_91 : decode cX0_init 91 = .ok (.aload_n 0, 1) := dk_42 (dk_at dksX0_init_3 19 rfl rfl)
theorem dX0_init_92 : decode cX0_init 92 = .ok (.bipush 6, 2) := dk_16 6 (dk_at dksX0_init_3 20 rfl rfl)
theorem dX0_init_94 : decode cX0_init 94 = .ok (.newarray .int, 2) := dk_188_10 (dk_at dksX0_init_3 22 rfl rfl)
theorem dX0_init_96 : decode cX0_init 96 = .ok (.putfield 52, 3) := dk_181 0 52 (dk_at dksX0_init_4 0 rfl rfl)
theorem dX0_init_99 : decode cX0_init 99 = .ok (.aload_n 0, 1) := dk_42 (dk_at dksX0_init_4 3 rfl rfl)
theorem dX0_init_100 : decode cX0_init 100 = .ok (.bipush 6, 2) := dk_16 6 (dk_at dksX0_init_4 4 rfl rfl)
theorem dX0_init_102 : decode cX0_init 102 = .ok (.newarray .int, 2) := dk_188_10 (dk_at dksX0_init_4 6 rfl rfl)
theorem dX0_init_104 : decode cX0_init 104 = .ok (.putfield 55, 3) := dk_181 0 55 (dk_at dksX0_init_4 8 rfl rfl)
theorem dX0_init_107 : decode cX0_init 107 = .ok (.aload_n 0, 1) := dk_42 (dk_at dksX0_init_4 11 rfl rfl)
theorem dX0_init_108 : decode cX0_init 108 = .ok (.bipush 10, 2) := dk_16 10 (dk_at dksX0_init_4 12 rfl rfl)
theorem dX0_init_110 : decode cX0_init 110 = .ok (.newarray .int, 2) := dk_188_10 (dk_at dksX0_init_4 14 rfl rfl)
theorem dX0_init_112 : decode cX0_init 112 = .ok (.putfield 58, 3) := dk_181 0 58 (dk_at dksX0_init_4 16 rfl rfl)
theorem dX0_init_115 : decode cX0_init 115 = .ok (.aload_n 0, 1) := dk_42 (dk_at dksX0_init_4 19 rfl rfl)
theorem dX0_init_116 : decode cX0_init 116 = .ok (.bipush 6, 2) := dk_16 6 (dk_at dksX0_init_4 20 rfl rfl)
theorem dX0_init_118 : decode cX0_init 118 = .ok (.newarray .int, 2) := dk_188_10 (dk_at dksX0_init_4 22 rfl rfl)
theorem dX0_init_120 : decode cX0_init 120 = .ok (.putfield 61, 3) := dk_181 0 61 (dk_at dksX0_init_5 0 rfl rfl)
theorem dX0_init_123 : decode cX0_init 123 = .ok (.aload_n 0, 1) := dk_42 (dk_at dksX0_init_5 3 rfl rfl)
theorem dX0_init_124 : decode cX0_init 124 = .ok (.bipush 6, 2) := dk_16 6 (dk_at dksX0_init_5 4 rfl rfl)
theorem dX0_init_126 : decode cX0_init 126 = .ok (.newarray .int, 2) := dk_188_10 (dk_at dksX0_init_5 6 rfl rfl)
theorem dX0_init_128 : decode cX0_init 128 = .ok (.putfield 64, 3) := dk_181 0 64 (dk_at dksX0_init_5 8 rfl rfl)
theorem dX0_init_131 : decode cX0_init 131 = .ok (.aload_n 0, 1) := dk_42 (dk_at dksX0_init_5 11 rfl rfl)
theorem dX0_init_132 : decode cX0_init 132 = .ok (.bipush 6, 2) := dk_16 6 (dk_at dksX0_init_5 12 rfl rfl)
theorem dX0_init_134 : decode cX0_init 134 = .ok (.newarray .int, 2) := dk_188_10 (dk_at dksX0_init_5 14 rfl rfl)
theorem dX0_init_136 : decode cX0_init 136 = .ok (.putfield 67, 3) := dk_181 0 67 (dk_at dksX0_init_5 16 rfl rfl)
theorem dX0_init_139 : decode cX0_init 139 = .ok (.aload_n 0, 1) := dk_42 (dk_at dksX0_init_5 19 rfl rfl)
theorem dX0_init_140 : decode cX0_init 140 = .ok (.bipush 6, 2) := dk_16 6 (dk_at dksX0_init_5 20 rfl rfl)
theorem dX0_init_142 : decode cX0_init 142 = .ok (.newarray .int, 2) := dk_188_10 (dk_at dksX0_init_5 22 rfl rfl)
theorem dX0_init_144 : decode cX0_init 144 = .ok (.putfield 70, 3) := dk_181 0 70 (dk_at dksX0_init_6 0 rfl rfl)
theorem dX0_init_147 : decode cX0_init 147 = .ok (.return_, 1) := dk_177 (dk_at dksX0_init_6 3 rfl rfl)
abbrev cX0_letter : ByteArray := prog_1_method_12_code
def yX0_letter : MethodName := ⟨RX0, "letter", "(I)I"⟩
def dkwX0_letter_2 : List UInt8 := [180, 0, 107, 172]
abbrev dktX0_letter_2 : List UInt8 := dkwX0_letter_2 ++ []
def dkwX0_letter_1 : List UInt8 := [172, 42, 180, 0, 35, 42, 180, 0, 107, 27, 145, 84, 42, 89, 180, 0, 107, 4, 96, 181, 0, 107, 42]
abbrev dktX0_letter_1 : List UInt8 := dkwX0_letter_1 ++ dktX0_letter_2
def dkwX0_letter_0 : List UInt8 := [27, 4, 16, 126, 184, 0, 3, 154, 0, 6, 16, 154, 172, 42, 180, 0, 107, 16, 50, 160, 0, 6, 16, 152]
abbrev dktX0_letter_0 : List UInt8 := dkwX0_letter_0 ++ dktX0_letter_1
theorem dksX0_letter_0 : cX0_letter.data.toList.drop 0 = dktX0_letter_0 := by decide +kernel
theorem dksX0_letter_1 : cX0_letter.data.toList.drop 24 = dktX0_letter_1 := dk_seg dksX0_letter_0 24 rfl rfl
theorem dksX0_letter_2 : cX0_letter.data.toList.drop 47 = dktX0_letter_2 := dk_seg dksX0_letter_1 23 rfl rfl
theorem dX0_letter_0 : decode cX0_letter 0 = .ok (.iload_n 1, 1) := dk_27 (dk_at dksX0_letter_0 0 rfl rfl)
theorem dX0_letter_1 : decode cX0_letter 1 = .ok (.iconst 1, 1) := dk_4 (dk_at dksX0_letter_0 1 rfl rfl)
theorem dX0_letter_2 : decode cX0_letter 2 = .ok (.bipush 126, 2) := dk_16 126 (dk_at dksX0_letter_0 2 rfl rfl)
theorem dX0_letter_4 : decode cX0_letter 4 = .ok (.invokestatic 3, 3) := dk_184 0 3 (dk_at dksX0_letter_0 4 rfl rfl)
theorem dX0_letter_7 : decode cX0_letter 7 = .ok (.ifCond .ne 6, 3) := dk_154 0 6 (dk_at dksX0_letter_0 7 rfl rfl)
theorem dX0_letter_10 : decode cX0_letter 10 = .ok (.bipush (-102), 2) := dk_16 154 (dk_at dksX0_letter_0 10 rfl rfl)
theorem dX0_letter_12 : decode cX0_letter 12 = .ok (.ireturn, 1) := dk_172 (dk_at dksX0_letter_0 12 rfl rfl)
theorem dX0_letter_13 : decode cX0_letter 13 = .ok (.aload_n 0, 1) := dk_42 (dk_at dksX0_letter_0 13 rfl rfl)
theorem dX0_letter_14 : decode cX0_letter 14 = .ok (.getfield 107, 3) := dk_180 0 107 (dk_at dksX0_letter_0 14 rfl rfl)
theorem dX0_letter_17 : decode cX0_letter 17 = .ok (.bipush 50, 2) := dk_16 50 (dk_at dksX0_letter_0 17 rfl rfl)
theorem dX0_letter_19 : decode cX0_letter 19 = .ok (.if_icmp .ne 6, 3) := dk_160 0 6 (dk_at dksX0_letter_0 19 rfl rfl)
theorem dX0_letter_22 : decode cX0_letter 22 = .ok (.bipush (-104), 2) := dk_16 152 (dk_at dksX0_letter_0 22 rfl rfl)
theorem dX0_letter_24 : decode cX0_letter 24 = .ok (.ireturn, 1) := dk_172 (dk_at dksX0_letter_1 0 rfl rfl)
theorem dX0_letter_25 : decode cX0_letter 25 = .ok (.aload_n 0, 1) := dk_42 (dk_at dksX0_letter_1 1 rfl rfl)
theorem dX0_letter_26 : decode cX0_letter 26 = .ok (.getfield 35, 3) := dk_180 0 35 (dk_at dksX0_letter_1 2 rfl rfl)
theorem dX0_letter_29 : decode cX0_letter 29 = .ok (.aload_n 0, 1) := dk_42 (dk_at dksX0_letter_1 5 rfl rfl)
theorem dX0_letter_30 : decode cX0_letter 30 = .ok (.getfield 107, 3) := dk_180 0 107 (dk_at dksX0_letter_1 6 rfl rfl)
theorem dX0_letter_33 : decode cX0_letter 33 = .ok (.iload_n 1, 1) := dk_27 (dk_at dksX0_letter_1 9 rfl rfl)
theorem dX0_letter_34 : decode cX0_letter 34 = .ok (.i2b, 1) := dk_145 (dk_at dksX0_letter_1 10 rfl rfl)
theorem dX0_letter_35 : decode cX0_letter 35 = .ok (.bastore, 1) := dk_84 (dk_at dksX0_letter_1 11 rfl rfl)
theorem dX0_letter_36 : decode cX0_letter 36 = .ok (.aload_n 0, 1) := dk_42 (dk_at dksX0_letter_1 12 rfl rfl)
theorem dX0_letter_37 : decode cX0_letter 37 = .ok (.dup, 1) := dk_89 (dk_at dksX0_letter_1 13 rfl rfl)
theorem dX0_letter_38 : decode cX0_letter 38 = .ok (.getfield 107, 3) := dk_180 0 107 (dk_at dksX0_letter_1 14 rfl rfl)
theorem dX0_letter_41 : decode cX0_letter 41 = .ok (.iconst 1, 1) := dk_4 (dk_at dksX0_letter_1 17 rfl rfl)
theorem dX0_letter_42 : decode cX0_letter 42 = .ok (.iadd, 1) := dk_96 (dk_at dksX0_letter_1 18 rfl rfl)
theorem dX0_letter_43 : decode cX0_letter 43 = .ok (.putfield 107, 3) := dk_181 0 107 (dk_at dksX0_letter_1 19 rfl rfl)
theorem dX0_letter_46 : decode cX0_letter 46 = .ok (.aload_n 0, 1) := dk_42 (dk_at dksX0_letter_1 22 rfl rfl)
theorem dX0_letter_47 : decode cX0_letter 47 = .ok (.getfield 107, 3) := dk_180 0 107 (dk_at dksX0_letter_2 0 rfl rfl)
theorem dX0_letter_50 : decode cX0_letter 50 = .ok (.ireturn, 1) := dk_172 (dk_at dksX0_letter_2 3 rfl rfl)
abbrev cX0_in : ByteArray := prog_1_method_1_code
def yX0_in : MethodName := ⟨RX0, "in", "(III)Z"⟩
def dkwX0_in_0 : List UInt8 := [26, 27, 161, 0, 12, 26, 28, 163, 0, 7, 4, 167, 0, 4, 3, 172]
abbrev dktX0_in_0 : List UInt8 := dkwX0_in_0 ++ []
theorem dksX0_in_0 : cX0_in.data.toList.drop 0 = dktX0_in_0 := by decide +kernel
theorem dX0_in_0 : decode cX0_in 0 = .ok (.iload_n 0, 1) := dk_26 (dk_at dksX0_in_0 0 rfl rfl)
theorem dX0_in_1 : decode cX0_in 1 = .ok (.iload_n 1, 1) := dk_27 (dk_at dksX0_in_0 1 rfl rfl)
theorem dX0_in_2 : decode cX0_in 2 = .ok (.if_icmp .lt 12, 3) := dk_161 0 12 (dk_at dksX0_in_0 2 rfl rfl)
theorem dX0_in_5 : decode cX0_in 5 = .ok (.iload_n 0, 1) := dk_26 (dk_at dksX0_in_0 5 rfl rfl)
theorem dX0_in_6 : decode cX0_in 6 = .ok (.iload_n 2, 1) := dk_28 (dk_at dksX0_in_0 6 rfl rfl)
theorem dX0_in_7 : decode cX0_in 7 = .ok (.if_icmp .gt 7, 3) := dk_163 0 7 (dk_at dksX0_in_0 7 rfl rfl)
theorem dX0_in_10 : decode cX0_in 10 = .ok (.iconst 1, 1) := dk_4 (dk_at dksX0_in_0 10 rfl rfl)
theorem dX0_in_11 : decode cX0_in 11 = .ok (.goto 4, 3) := dk_167 0 4 (dk_at dksX0_in_0 11 rfl rfl)
theorem dX0_in_14 : decode cX0_in 14 = .ok (.iconst 0, 1) := dk_3 (dk_at dksX0_in_0 14 rfl rfl)
theorem dX0_in_15 : decode cX0_in 15 = .ok (.ireturn, 1) := dk_172 (dk_at dksX0_in_0 15 rfl rfl)
abbrev cX0_blank : ByteArray := prog_1_method_13_code
def yX0_blank : MethodName := ⟨RX0, "blank", "()I"⟩
def dkwX0_blank_0 : List UInt8 := [42, 180, 0, 107, 60, 42, 3, 181, 0, 107, 27, 172]
abbrev dktX0_blank_0 : List UInt8 := dkwX0_blank_0 ++ []
theorem dksX0_blank_0 : cX0_blank.data.toList.drop 0 = dktX0_blank_0 := by decide +kernel
theorem dX0_blank_0 : decode cX0_blank 0 = .ok (.aload_n 0, 1) := dk_42 (dk_at dksX0_blank_0 0 rfl rfl)
theorem dX0_blank_1 : decode cX0_blank 1 = .ok (.getfield 107, 3) := dk_180 0 107 (dk_at dksX0_blank_0 1 rfl rfl)
theorem dX0_blank_4 : decode cX0_blank 4 = .ok (.istore_n 1, 1) := dk_60 (dk_at dksX0_blank_0 4 rfl rfl)
theorem dX0_blank_5 : decode cX0_blank 5 = .ok (.aload_n 0, 1) := dk_42 (dk_at dksX0_blank_0 5 rfl rfl)
theorem dX0_blank_6 : decode cX0_blank 6 = .ok (.iconst 0, 1) := dk_3 (dk_at dksX0_blank_0 6 rfl rfl)
theorem dX0_blank_7 : decode cX0_blank 7 = .ok (.putfield 107, 3) := dk_181 0 107 (dk_at dksX0_blank_0 7 rfl rfl)
theorem dX0_blank_10 : decode cX0_blank 10 = .ok (.iload_n 1, 1) := dk_27 (dk_at dksX0_blank_0 10 rfl rfl)
theorem dX0_blank_11 : decode cX0_blank 11 = .ok (.ireturn, 1) := dk_172 (dk_at dksX0_blank_0 11 rfl rfl)
abbrev cX0_fault : ByteArray := prog_1_method_14_code
def yX0_fault : MethodName := ⟨RX0, "fault", "()I"⟩
def dkwX0_fault_0 : List UInt8 := [187, 0, 110, 89, 42, 183, 0, 112, 182, 0, 113, 87, 42, 180, 0, 107, 172, 76, 43, 180, 0, 119, 172]
abbrev dktX0_fault_0 : List UInt8 := dkwX0_fault_0 ++ []
theorem dksX0_fault_0 : cX0_fault.data.toList.drop 0 = dktX0_fault_0 := by decide +kernel
theorem dX0_fault_0 : decode cX0_fault 0 = .ok (.new 110, 3) := dk_187 0 110 (dk_at dksX0_fault_0 0 rfl rfl)
theorem dX0_fault_3 : decode cX0_fault 3 = .ok (.dup, 1) := dk_89 (dk_at dksX0_fault_0 3 rfl rfl)
theorem dX0_fault_4 : decode cX0_fault 4 = .ok (.aload_n 0, 1) := dk_42 (dk_at dksX0_fault_0 4 rfl rfl)
theorem dX0_fault_5 : decode cX0_fault 5 = .ok (.invokespecial 112, 3) := dk_183 0 112 (dk_at dksX0_fault_0 5 rfl rfl)
theorem dX0_fault_8 : decode cX0_fault 8 = .ok (.invokevirtual 113, 3) := dk_182 0 113 (dk_at dksX0_fault_0 8 rfl rfl)
theorem dX0_fault_11 : decode cX0_fault 11 = .ok (.pop, 1) := dk_87 (dk_at dksX0_fault_0 11 rfl rfl)
theorem dX0_fault_12 : decode cX0_fault 12 = .ok (.aload_n 0, 1) := dk_42 (dk_at dksX0_fault_0 12 rfl rfl)
theorem dX0_fault_13 : decode cX0_fault 13 = .ok (.getfield 107, 3) := dk_180 0 107 (dk_at dksX0_fault_0 13 rfl rfl)
theorem dX0_fault_16 : decode cX0_fault 16 = .ok (.ireturn, 1) := dk_172 (dk_at dksX0_fault_0 16 rfl rfl)
theorem dX0_fault_17 : decode cX0_fault 17 = .ok (.astore_n 1, 1) := dk_76 (dk_at dksX0_fault_0 17 rfl rfl)
theorem dX0_fault_18 : decode cX0_fault 18 = .ok (.aload_n 1, 1) := dk_43 (dk_at dksX0_fault_0 18 rfl rfl)
theorem dX0_fault_19 : decode cX0_fault 19 = .ok (.getfield 119, 3) := dk_180 0 119 (dk_at dksX0_fault_0 19 rfl rfl)
theorem dX0_fault_22 : decode cX0_fault 22 = .ok (.ireturn, 1) := dk_172 (dk_at dksX0_fault_0 22 rfl rfl)
abbrev cX0_made : ByteArray := prog_1_method_5_code
def yX0_made : MethodName := ⟨RX0, "made", "(I)LHurtStreets$Street;"⟩
def dkwX0_made_3 : List UInt8 := [187, 0, 82, 89, 183, 0, 84, 176, 187, 0, 85, 89, 183, 0, 87, 176]
abbrev dktX0_made_3 : List UInt8 := dkwX0_made_3 ++ []
def dkwX0_made_2 : List UInt8 := [187, 0, 73, 89, 183, 0, 75, 176, 187, 0, 76, 89, 183, 0, 78, 176, 187, 0, 79, 89, 183, 0, 81, 176]
abbrev dktX0_made_2 : List UInt8 := dkwX0_made_2 ++ dktX0_made_3
def dkwX0_made_1 : List UInt8 := [170, 0, 0, 0, 0, 0, 63, 0, 0, 0, 1, 0, 0, 0, 4, 0, 0, 0, 31, 0, 0, 0, 39, 0, 0, 0, 47, 0, 0, 0, 55]
abbrev dktX0_made_1 : List UInt8 := dkwX0_made_1 ++ dktX0_made_2
def dkwX0_made_0 : List UInt8 := [26]
abbrev dktX0_made_0 : List UInt8 := dkwX0_made_0 ++ dktX0_made_1
theorem dksX0_made_0 : cX0_made.data.toList.drop 0 = dktX0_made_0 := by decide +kernel
theorem dksX0_made_1 : cX0_made.data.toList.drop 1 = dktX0_made_1 := dk_seg dksX0_made_0 1 rfl rfl
theorem dksX0_made_2 : cX0_made.data.toList.drop 32 = dktX0_made_2 := dk_seg dksX0_made_1 31 rfl rfl
theorem dksX0_made_3 : cX0_made.data.toList.drop 56 = dktX0_made_3 := dk_seg dksX0_made_2 24 rfl rfl
theorem dX0_made_0 : decode cX0_made 0 = .ok (.iload_n 0, 1) := dk_26 (dk_at dksX0_made_0 0 rfl rfl)
theorem dX0_made_1 : decode cX0_made 1 = .ok (.tableswitch 63 1 4 #[31, 39, 47, 55], 31) := by decide +kernel
theorem dX0_made_32 : decode cX0_made 32 = .ok (.new 73, 3) := dk_187 0 73 (dk_at dksX0_made_2 0 rfl rfl)
theorem dX0_made_35 : decode cX0_made 35 = .ok (.dup, 1) := dk_89 (dk_at dksX0_made_2 3 rfl rfl)
theorem dX0_made_36 : decode cX0_made 36 = .ok (.invokespecial 75, 3) := dk_183 0 75 (dk_at dksX0_made_2 4 rfl rfl)
theorem dX0_made_39 : decode cX0_made 39 = .ok (.areturn, 1) := dk_176 (dk_at dksX0_made_2 7 rfl rfl)
theorem dX0_made_40 : decode cX0_made 40 = .ok (.new 76, 3) := dk_187 0 76 (dk_at dksX0_made_2 8 rfl rfl)
theorem dX0_made_43 : decode cX0_made 43 = .ok (.dup, 1) := dk_89 (dk_at dksX0_made_2 11 rfl rfl)
theorem dX0_made_44 : decode cX0_made 44 = .ok (.invokespecial 78, 3) := dk_183 0 78 (dk_at dksX0_made_2 12 rfl rfl)
theorem dX0_made_47 : decode cX0_made 47 = .ok (.areturn, 1) := dk_176 (dk_at dksX0_made_2 15 rfl rfl)
theorem dX0_made_48 : decode cX0_made 48 = .ok (.new 79, 3) := dk_187 0 79 (dk_at dksX0_made_2 16 rfl rfl)
theorem dX0_made_51 : decode cX0_made 51 = .ok (.dup, 1) := dk_89 (dk_at dksX0_made_2 19 rfl rfl)
theorem dX0_made_52 : decode cX0_made 52 = .ok (.invokespecial 81, 3) := dk_183 0 81 (dk_at dksX0_made_2 20 rfl rfl)
theorem dX0_made_55 : decode cX0_made 55 = .ok (.areturn, 1) := dk_176 (dk_at dksX0_made_2 23 rfl rfl)
theorem dX0_made_56 : decode cX0_made 56 = .ok (.new 82, 3) := dk_187 0 82 (dk_at dksX0_made_3 0 rfl rfl)
theorem dX0_made_59 : decode cX0_made 59 = .ok (.dup, 1) := dk_89 (dk_at dksX0_made_3 3 rfl rfl)
theorem dX0_made_60 : decode cX0_made 60 = .ok (.invokespecial 84, 3) := dk_183 0 84 (dk_at dksX0_made_3 4 rfl rfl)
theorem dX0_made_63 : decode cX0_made 63 = .ok (.areturn, 1) := dk_176 (dk_at dksX0_made_3 7 rfl rfl)
theorem dX0_made_64 : decode cX0_made 64 = .ok (.new 85, 3) := dk_187 0 85 (dk_at dksX0_made_3 8 rfl rfl)
theorem dX0_made_67 : decode cX0_made 67 = .ok (.dup, 1) := dk_89 (dk_at dksX0_made_3 11 rfl rfl)
theorem dX0_made_68 : decode cX0_made 68 = .ok (.invokespecial 87, 3) := dk_183 0 87 (dk_at dksX0_made_3 12 rfl rfl)
theorem dX0_made_71 : decode cX0_made 71 = .ok (.areturn, 1) := dk_176 (dk_at dksX0_made_3 15 rfl rfl)
abbrev cX0_town : ByteArray := prog_1_method_16_code
def yX0_town : MethodName := ⟨RX0, "town", "()I"⟩
def dkwX0_town_2 : List UInt8 := [172]
abbrev dktX0_town_2 : List UInt8 := dkwX0_town_2 ++ []
def dkwX0_town_1 : List UInt8 := [181, 0, 146, 42, 3, 181, 0, 149, 42, 3, 181, 0, 107, 42, 180, 0, 16, 182, 0, 92, 172, 76, 16, 153]
abbrev dktX0_town_1 : List UInt8 := dkwX0_town_1 ++ dktX0_town_2
def dkwX0_town_0 : List UInt8 := [42, 187, 0, 110, 89, 42, 183, 0, 112, 182, 0, 113, 182, 0, 142, 42, 89, 180, 0, 146, 4, 96]
abbrev dktX0_town_0 : List UInt8 := dkwX0_town_0 ++ dktX0_town_1
theorem dksX0_town_0 : cX0_town.data.toList.drop 0 = dktX0_town_0 := by decide +kernel
theorem dksX0_town_1 : cX0_town.data.toList.drop 22 = dktX0_town_1 := dk_seg dksX0_town_0 22 rfl rfl
theorem dksX0_town_2 : cX0_town.data.toList.drop 46 = dktX0_town_2 := dk_seg dksX0_town_1 24 rfl rfl
theorem dX0_town_0 : decode cX0_town 0 = .ok (.aload_n 0, 1) := dk_42 (dk_at dksX0_town_0 0 rfl rfl)
theorem dX0_town_1 : decode cX0_town 1 = .ok (.new 110, 3) := dk_187 0 110 (dk_at dksX0_town_0 1 rfl rfl)
theorem dX0_town_4 : decode cX0_town 4 = .ok (.dup, 1) := dk_89 (dk_at dksX0_town_0 4 rfl rfl)
theorem dX0_town_5 : decode cX0_town 5 = .ok (.aload_n 0, 1) := dk_42 (dk_at dksX0_town_0 5 rfl rfl)
theorem dX0_town_6 : decode cX0_town 6 = .ok (.invokespecial 112, 3) := dk_183 0 112 (dk_at dksX0_town_0 6 rfl rfl)
theorem dX0_town_9 : decode cX0_town 9 = .ok (.invokevirtual 113, 3) := dk_182 0 113 (dk_at dksX0_town_0 9 rfl rfl)
theorem dX0_town_12 : decode cX0_town 12 = .ok (.invokevirtual 142, 3) := dk_182 0 142 (dk_at dksX0_town_0 12 rfl rfl)
theorem dX0_town_15 : decode cX0_town 15 = .ok (.aload_n 0, 1) := dk_42 (dk_at dksX0_town_0 15 rfl rfl)
theorem dX0_town_16 : decode cX0_town 16 = .ok (.dup, 1) := dk_89 (dk_at dksX0_town_0 16 rfl rfl)
theorem dX0_town_17 : decode cX0_town 17 = .ok (.getfield 146, 3) := dk_180 0 146 (dk_at dksX0_town_0 17 rfl rfl)
theorem dX0_town_20 : decode cX0_town 20 = .ok (.iconst 1, 1) := dk_4 (dk_at dksX0_town_0 20 rfl rfl)
theorem dX0_town_21 : decode cX0_town 21 = .ok (.iadd, 1) := dk_96 (dk_at dksX0_town_0 21 rfl rfl)
theorem dX0_town_22 : decode cX0_town 22 = .ok (.putfield 146, 3) := dk_181 0 146 (dk_at dksX0_town_1 0 rfl rfl)
theorem dX0_town_25 : decode cX0_town 25 = .ok (.aload_n 0, 1) := dk_42 (dk_at dksX0_town_1 3 rfl rfl)
theorem dX0_town_26 : decode cX0_town 26 = .ok (.iconst 0, 1) := dk_3 (dk_at dksX0_town_1 4 rfl rfl)
theorem dX0_town_27 : decode cX0_town 27 = .ok (.putfield 149, 3) := dk_181 0 149 (dk_at dksX0_town_1 5 rfl rfl)
theorem dX0_town_30 : decode cX0_town 30 = .ok (.aload_n 0, 1) := dk_42 (dk_at dksX0_town_1 8 rfl rfl)
theorem dX0_town_31 : decode cX0_town 31 = .ok (.iconst 0, 1) := dk_3 (dk_at dksX0_town_1 9 rfl rfl)
theorem dX0_town_32 : decode cX0_town 32 = .ok (.putfield 107, 3) := dk_181 0 107 (dk_at dksX0_town_1 10 rfl rfl)
theorem dX0_town_35 : decode cX0_town 35 = .ok (.aload_n 0, 1) := dk_42 (dk_at dksX0_town_1 13 rfl rfl)
theorem dX0_town_36 : decode cX0_town 36 = .ok (.getfield 16, 3) := dk_180 0 16 (dk_at dksX0_town_1 14 rfl rfl)
theorem dX0_town_39 : decode cX0_town 39 = .ok (.invokevirtual 92, 3) := dk_182 0 92 (dk_at dksX0_town_1 17 rfl rfl)
theorem dX0_town_42 : decode cX0_town 42 = .ok (.ireturn, 1) := dk_172 (dk_at dksX0_town_1 20 rfl rfl)
theorem dX0_town_43 : decode cX0_town 43 = .ok (.astore_n 1, 1) := dk_76 (dk_at dksX0_town_1 21 rfl rfl)
theorem dX0_town_44 : decode cX0_town 44 = .ok (.bipush (-103), 2) := dk_16 153 (dk_at dksX0_town_1 22 rfl rfl)
theorem dX0_town_46 : decode cX0_town 46 = .ok (.ireturn, 1) := dk_172 (dk_at dksX0_town_2 0 rfl rfl)
abbrev cX0_lay : ByteArray := prog_1_method_15_code
def yX0_lay : MethodName := ⟨RX0, "lay", "(LHurtStreets$Reader;)V"⟩
def dkwX0_lay_3 : List UInt8 := [180, 0, 25, 180, 0, 138, 28, 43, 180, 0, 141, 28, 46, 79, 132, 2, 1, 167, 255, 230, 177]
abbrev dktX0_lay_3 : List UInt8 := dkwX0_lay_3 ++ []
def dkwX0_lay_2 : List UInt8 := [180, 0, 134, 181, 0, 88, 42, 180, 0, 25, 182, 0, 135, 3, 61, 28, 42, 180, 0, 88, 162, 0, 24, 42]
abbrev dktX0_lay_2 : List UInt8 := dkwX0_lay_2 ++ dktX0_lay_3
def dkwX0_lay_1 : List UInt8 := [43, 180, 0, 125, 28, 182, 0, 126, 192, 0, 85, 182, 0, 130, 87, 132, 2, 1, 167, 255, 223, 42, 43]
abbrev dktX0_lay_1 : List UInt8 := dkwX0_lay_1 ++ dktX0_lay_2
def dkwX0_lay_0 : List UInt8 := [42, 180, 0, 16, 182, 0, 122, 3, 61, 28, 43, 180, 0, 125, 182, 0, 92, 162, 0, 28, 42, 180, 0, 16]
abbrev dktX0_lay_0 : List UInt8 := dkwX0_lay_0 ++ dktX0_lay_1
theorem dksX0_lay_0 : cX0_lay.data.toList.drop 0 = dktX0_lay_0 := by decide +kernel
theorem dksX0_lay_1 : cX0_lay.data.toList.drop 24 = dktX0_lay_1 := dk_seg dksX0_lay_0 24 rfl rfl
theorem dksX0_lay_2 : cX0_lay.data.toList.drop 47 = dktX0_lay_2 := dk_seg dksX0_lay_1 23 rfl rfl
theorem dksX0_lay_3 : cX0_lay.data.toList.drop 71 = dktX0_lay_3 := dk_seg dksX0_lay_2 24 rfl rfl
theorem dX0_lay_0 : decode cX0_lay 0 = .ok (.aload_n 0, 1) := dk_42 (dk_at dksX0_lay_0 0 rfl rfl)
theorem dX0_lay_1 : decode cX0_lay 1 = .ok (.getfield 16, 3) := dk_180 0 16 (dk_at dksX0_lay_0 1 rfl rfl)
theorem dX0_lay_4 : decode cX0_lay 4 = .ok (.invokevirtual 122, 3) := dk_182 0 122 (dk_at dksX0_lay_0 4 rfl rfl)
theorem dX0_lay_7 : decode cX0_lay 7 = .ok (.iconst 0, 1) := dk_3 (dk_at dksX0_lay_0 7 rfl rfl)
theorem dX0_lay_8 : decode cX0_lay 8 = .ok (.istore_n 2, 1) := dk_61 (dk_at dksX0_lay_0 8 rfl rfl)
theorem dX0_lay_9 : decode cX0_lay 9 = .ok (.iload_n 2, 1) := dk_28 (dk_at dksX0_lay_0 9 rfl rfl)
theorem dX0_lay_10 : decode cX0_lay 10 = .ok (.aload_n 1, 1) := dk_43 (dk_at dksX0_lay_0 10 rfl rfl)
theorem dX0_lay_11 : decode cX0_lay 11 = .ok (.getfield 125, 3) := dk_180 0 125 (dk_at dksX0_lay_0 11 rfl rfl)
theorem dX0_lay_14 : decode cX0_lay 14 = .ok (.invokevirtual 92, 3) := dk_182 0 92 (dk_at dksX0_lay_0 14 rfl rfl)
theorem dX0_lay_17 : decode cX0_lay 17 = .ok (.if_icmp .ge 28, 3) := dk_162 0 28 (dk_at dksX0_lay_0 17 rfl rfl)
theorem dX0_lay_20 : decode cX0_lay 20 = .ok (.aload_n 0, 1) := dk_42 (dk_at dksX0_lay_0 20 rfl rfl)
theorem dX0_lay_21 : decode cX0_lay 21 = .ok (.getfield 16, 3) := dk_180 0 16 (dk_at dksX0_lay_0 21 rfl rfl)
theorem dX0_lay_24 : decode cX0_lay 24 = .ok (.aload_n 1, 1) := dk_43 (dk_at dksX0_lay_1 0 rfl rfl)
theorem dX0_lay_25 : decode cX0_lay 25 = .ok (.getfield 125, 3) := dk_180 0 125 (dk_at dksX0_lay_1 1 rfl rfl)
theorem dX0_lay_28 : decode cX0_lay 28 = .ok (.iload_n 2, 1) := dk_28 (dk_at dksX0_lay_1 4 rfl rfl)
theorem dX0_lay_29 : decode cX0_lay 29 = .ok (.invokevirtual 126, 3) := dk_182 0 126 (dk_at dksX0_lay_1 5 rfl rfl)
theorem dX0_lay_32 : decode cX0_lay 32 = .ok (.checkcast 85, 3) := dk_192 0 85 (dk_at dksX0_lay_1 8 rfl rfl)
theorem dX0_lay_35 : decode cX0_lay 35 = .ok (.invokevirtual 130, 3) := dk_182 0 130 (dk_at dksX0_lay_1 11 rfl rfl)
theorem dX0_lay_38 : decode cX0_lay 38 = .ok (.pop, 1) := dk_87 (dk_at dksX0_lay_1 14 rfl rfl)
theorem dX0_lay_39 : decode cX0_lay 39 = .ok (.iinc 2 1, 3) := dk_132 2 1 (dk_at dksX0_lay_1 15 rfl rfl)
theorem dX0_lay_42 : decode cX0_lay 42 = .ok (.goto (-33), 3) := dk_167 255 223 (dk_at dksX0_lay_1 18 rfl rfl)
theorem dX0_lay_45 : decode cX0_lay 45 = .ok (.aload_n 0, 1) := dk_42 (dk_at dksX0_lay_1 21 rfl rfl)
theorem dX0_lay_46 : decode cX0_lay 46 = .ok (.aload_n 1, 1) := dk_43 (dk_at dksX0_lay_1 22 rfl rfl)
theorem dX0_lay_47 : decode cX0_lay 47 = .ok (.getfield 134, 3) := dk_180 0 134 (dk_at dksX0_lay_2 0 rfl rfl)
theorem dX0_lay_50 : decode cX0_lay 50 = .ok (.putfield 88, 3) := dk_181 0 88 (dk_at dksX0_lay_2 3 rfl rfl)
theorem dX0_lay_53 : decode cX0_lay 53 = .ok (.aload_n 0, 1) := dk_42 (dk_at dksX0_lay_2 6 rfl rfl)
theorem dX0_lay_54 : decode cX0_lay 54 = .ok (.getfield 25, 3) := dk_180 0 25 (dk_at dksX0_lay_2 7 rfl rfl)
theorem dX0_lay_57 : decode cX0_lay 57 = .ok (.invokevirtual 135, 3) := dk_182 0 135 (dk_at dksX0_lay_2 10 rfl rfl)
theorem dX0_lay_60 : decode cX0_lay 60 = .ok (.iconst 0, 1) := dk_3 (dk_at dksX0_lay_2 13 rfl rfl)
theorem dX0_lay_61 : decode cX0_lay 61 = .ok (.istore_n 2, 1) := dk_61 (dk_at dksX0_lay_2 14 rfl rfl)
theorem dX0_lay_62 : decode cX0_lay 62 = .ok (.iload_n 2, 1) := dk_28 (dk_at dksX0_lay_2 15 rfl rfl)
theorem dX0_lay_63 : decode cX0_lay 63 = .ok (.aload_n 0, 1) := dk_42 (dk_at dksX0_lay_2 16 rfl rfl)
theorem dX0_lay_64 : decode cX0_lay 64 = .ok (.getfield 88, 3) := dk_180 0 88 (dk_at dksX0_lay_2 17 rfl rfl)
theorem dX0_lay_67 : decode cX0_lay 67 = .ok (.if_icmp .ge 24, 3) := dk_162 0 24 (dk_at dksX0_lay_2 20 rfl rfl)
theorem dX0_lay_70 : decode cX0_lay 70 = .ok (.aload_n 0, 1) := dk_42 (dk_at dksX0_lay_2 23 rfl rfl)
theorem dX0_lay_71 : decode cX0_lay 71 = .ok (.getfield 25, 3) := dk_180 0 25 (dk_at dksX0_lay_3 0 rfl rfl)
theorem dX0_lay_74 : decode cX0_lay 74 = .ok (.getfield 138, 3) := dk_180 0 138 (dk_at dksX0_lay_3 3 rfl rfl)
theorem dX0_lay_77 : decode cX0_lay 77 = .ok (.iload_n 2, 1) := dk_28 (dk_at dksX0_lay_3 6 rfl rfl)
theorem dX0_lay_78 : decode cX0_lay 78 = .ok (.aload_n 1, 1) := dk_43 (dk_at dksX0_lay_3 7 rfl rfl)
theorem dX0_lay_79 : decode cX0_lay 79 = .ok (.getfield 141, 3) := dk_180 0 141 (dk_at dksX0_lay_3 8 rfl rfl)
theorem dX0_lay_82 : decode cX0_lay 82 = .ok (.iload_n 2, 1) := dk_28 (dk_at dksX0_lay_3 11 rfl rfl)
theorem dX0_lay_83 : decode cX0_lay 83 = .ok (.iaload, 1) := dk_46 (dk_at dksX0_lay_3 12 rfl rfl)
theorem dX0_lay_84 : decode cX0_lay 84 = .ok (.iastore, 1) := dk_79 (dk_at dksX0_lay_3 13 rfl rfl)
theorem dX0_lay_85 : decode cX0_lay 85 = .ok (.iinc 2 1, 3) := dk_132 2 1 (dk_at dksX0_lay_3 14 rfl rfl)
theorem dX0_lay_88 : decode cX0_lay 88 = .ok (.goto (-26), 3) := dk_167 255 230 (dk_at dksX0_lay_3 17 rfl rfl)
theorem dX0_lay_91 : decode cX0_lay 91 = .ok (.return_, 1) := dk_177 (dk_at dksX0_lay_3 20 rfl rfl)
abbrev cX0_person : ByteArray := prog_1_method_18_code
def yX0_person : MethodName := ⟨RX0, "person", "(II)I"⟩
def dkwX0_person_1 : List UInt8 := [28, 182, 0, 168, 167, 0, 5, 16, 154, 172]
abbrev dktX0_person_1 : List UInt8 := dkwX0_person_1 ++ []
def dkwX0_person_0 : List UInt8 := [42, 27, 182, 0, 100, 154, 0, 8, 16, 155, 167, 0, 23, 28, 3, 8, 184, 0, 3, 153, 0, 12, 42, 27]
abbrev dktX0_person_0 : List UInt8 := dkwX0_person_0 ++ dktX0_person_1
theorem dksX0_person_0 : cX0_person.data.toList.drop 0 = dktX0_person_0 := by decide +kernel
theorem dksX0_person_1 : cX0_person.data.toList.drop 24 = dktX0_person_1 := dk_seg dksX0_person_0 24 rfl rfl
theorem dX0_person_0 : decode cX0_person 0 = .ok (.aload_n 0, 1) := dk_42 (dk_at dksX0_person_0 0 rfl rfl)
theorem dX0_person_1 : decode cX0_person 1 = .ok (.iload_n 1, 1) := dk_27 (dk_at dksX0_person_0 1 rfl rfl)
theorem dX0_person_2 : decode cX0_person 2 = .ok (.invokevirtual 100, 3) := dk_182 0 100 (dk_at dksX0_person_0 2 rfl rfl)
theorem dX0_person_5 : decode cX0_person 5 = .ok (.ifCond .ne 8, 3) := dk_154 0 8 (dk_at dksX0_person_0 5 rfl rfl)
theorem dX0_person_8 : decode cX0_person 8 = .ok (.bipush (-101), 2) := dk_16 155 (dk_at dksX0_person_0 8 rfl rfl)
theorem dX0_person_10 : decode cX0_person 10 = .ok (.goto 23, 3) := dk_167 0 23 (dk_at dksX0_person_0 10 rfl rfl)
theorem dX0_person_13 : decode cX0_person 13 = .ok (.iload_n 2, 1) := dk_28 (dk_at dksX0_person_0 13 rfl rfl)
theorem dX0_person_14 : decode cX0_person 14 = .ok (.iconst 0, 1) := dk_3 (dk_at dksX0_person_0 14 rfl rfl)
theorem dX0_person_15 : decode cX0_person 15 = .ok (.iconst 5, 1) := dk_8 (dk_at dksX0_person_0 15 rfl rfl)
theorem dX0_person_16 : decode cX0_person 16 = .ok (.invokestatic 3, 3) := dk_184 0 3 (dk_at dksX0_person_0 16 rfl rfl)
theorem dX0_person_19 : decode cX0_person 19 = .ok (.ifCond .eq 12, 3) := dk_153 0 12 (dk_at dksX0_person_0 19 rfl rfl)
theorem dX0_person_22 : decode cX0_person 22 = .ok (.aload_n 0, 1) := dk_42 (dk_at dksX0_person_0 22 rfl rfl)
theorem dX0_person_23 : decode cX0_person 23 = .ok (.iload_n 1, 1) := dk_27 (dk_at dksX0_person_0 23 rfl rfl)
theorem dX0_person_24 : decode cX0_person 24 = .ok (.iload_n 2, 1) := dk_28 (dk_at dksX0_person_1 0 rfl rfl)
theorem dX0_person_25 : decode cX0_person 25 = .ok (.invokevirtual 168, 3) := dk_182 0 168 (dk_at dksX0_person_1 1 rfl rfl)
theorem dX0_person_28 : decode cX0_person 28 = .ok (.goto 5, 3) := dk_167 0 5 (dk_at dksX0_person_1 4 rfl rfl)
theorem dX0_person_31 : decode cX0_person 31 = .ok (.bipush (-102), 2) := dk_16 154 (dk_at dksX0_person_1 7 rfl rfl)
theorem dX0_person_33 : decode cX0_person 33 = .ok (.ireturn, 1) := dk_172 (dk_at dksX0_person_1 9 rfl rfl)
abbrev cX0_isPerson : ByteArray := prog_1_method_6_code
def yX0_isPerson : MethodName := ⟨RX0, "isPerson", "(I)Z"⟩
def dkwX0_isPerson_0 : List UInt8 := [27, 3, 42, 180, 0, 88, 4, 100, 184, 0, 3, 172]
abbrev dktX0_isPerson_0 : List UInt8 := dkwX0_isPerson_0 ++ []
theorem dksX0_isPerson_0 : cX0_isPerson.data.toList.drop 0 = dktX0_isPerson_0 := by decide +kernel
theorem dX0_isPerson_0 : decode cX0_isPerson 0 = .ok (.iload_n 1, 1) := dk_27 (dk_at dksX0_isPerson_0 0 rfl rfl)
theorem dX0_isPerson_1 : decode cX0_isPerson 1 = .ok (.iconst 0, 1) := dk_3 (dk_at dksX0_isPerson_0 1 rfl rfl)
theorem dX0_isPerson_2 : decode cX0_isPerson 2 = .ok (.aload_n 0, 1) := dk_42 (dk_at dksX0_isPerson_0 2 rfl rfl)
theorem dX0_isPerson_3 : decode cX0_isPerson 3 = .ok (.getfield 88, 3) := dk_180 0 88 (dk_at dksX0_isPerson_0 3 rfl rfl)
theorem dX0_isPerson_6 : decode cX0_isPerson 6 = .ok (.iconst 1, 1) := dk_4 (dk_at dksX0_isPerson_0 6 rfl rfl)
theorem dX0_isPerson_7 : decode cX0_isPerson 7 = .ok (.isub, 1) := dk_100 (dk_at dksX0_isPerson_0 7 rfl rfl)
theorem dX0_isPerson_8 : decode cX0_isPerson 8 = .ok (.invokestatic 3, 3) := dk_184 0 3 (dk_at dksX0_isPerson_0 8 rfl rfl)
theorem dX0_isPerson_11 : decode cX0_isPerson 11 = .ok (.ireturn, 1) := dk_172 (dk_at dksX0_isPerson_0 11 rfl rfl)
abbrev cX0_personTold : ByteArray := prog_1_method_17_code
def yX0_personTold : MethodName := ⟨RX0, "personTold", "(II)I"⟩
def dkwX0_personTold_4 : List UInt8 := [180, 0, 25, 180, 0, 165, 27, 46, 172]
abbrev dktX0_personTold_4 : List UInt8 := dkwX0_personTold_4 ++ []
def dkwX0_personTold_3 : List UInt8 := [180, 0, 155, 27, 46, 172, 42, 27, 182, 0, 158, 172, 42, 180, 0, 25, 180, 0, 162, 27, 46, 172, 42]
abbrev dktX0_personTold_3 : List UInt8 := dkwX0_personTold_3 ++ dktX0_personTold_4
def dkwX0_personTold_2 : List UInt8 := [42, 180, 0, 25, 180, 0, 138, 27, 46, 172, 42, 180, 0, 25, 180, 0, 152, 27, 46, 172, 42, 180, 0, 25]
abbrev dktX0_personTold_2 : List UInt8 := dkwX0_personTold_2 ++ dktX0_personTold_3
def dkwX0_personTold_1 : List UInt8 := [170, 0, 0, 0, 0, 0, 81, 0, 0, 0, 0, 0, 0, 0, 4, 0, 0, 0, 35, 0, 0, 0, 45, 0, 0, 0, 55, 0, 0, 0, 65, 0, 0, 0, 71]
abbrev dktX0_personTold_1 : List UInt8 := dkwX0_personTold_1 ++ dktX0_personTold_2
def dkwX0_personTold_0 : List UInt8 := [28]
abbrev dktX0_personTold_0 : List UInt8 := dkwX0_personTold_0 ++ dktX0_personTold_1
theorem dksX0_personTold_0 : cX0_personTold.data.toList.drop 0 = dktX0_personTold_0 := by decide +kernel
theorem dksX0_personTold_1 : cX0_personTold.data.toList.drop 1 = dktX0_personTold_1 := dk_seg dksX0_personTold_0 1 rfl rfl
theorem dksX0_personTold_2 : cX0_personTold.data.toList.drop 36 = dktX0_personTold_2 := dk_seg dksX0_personTold_1 35 rfl rfl
theorem dksX0_personTold_3 : cX0_personTold.data.toList.drop 60 = dktX0_personTold_3 := dk_seg dksX0_personTold_2 24 rfl rfl
theorem dksX0_personTold_4 : cX0_personTold.data.toList.drop 83 = dktX0_personTold_4 := dk_seg dksX0_personTold_3 23 rfl rfl
theorem dX0_personTold_0 : decode cX0_personTold 0 = .ok (.iload_n 2, 1) := dk_28 (dk_at dksX0_personTold_0 0 rfl rfl)
theorem dX0_personTold_1 : decode cX0_personTold 1 = .ok (.tableswitch 81 0 4 #[35, 45, 55, 65, 71], 35) := by decide +kernel
theorem dX0_personTold_36 : decode cX0_personTold 36 = .ok (.aload_n 0, 1) := dk_42 (dk_at dksX0_personTold_2 0 rfl rfl)
theorem dX0_personTold_37 : decode cX0_personTold 37 = .ok (.getfield 25, 3) := dk_180 0 25 (dk_at dksX0_personTold_2 1 rfl rfl)
theorem dX0_personTold_40 : decode cX0_personTold 40 = .ok (.getfield 138, 3) := dk_180 0 138 (dk_at dksX0_personTold_2 4 rfl rfl)
theorem dX0_personTold_43 : decode cX0_personTold 43 = .ok (.iload_n 1, 1) := dk_27 (dk_at dksX0_personTold_2 7 rfl rfl)
theorem dX0_personTold_44 : decode cX0_personTold 44 = .ok (.iaload, 1) := dk_46 (dk_at dksX0_personTold_2 8 rfl rfl)
theorem dX0_personTold_45 : decode cX0_personTold 45 = .ok (.ireturn, 1) := dk_172 (dk_at dksX0_personTold_2 9 rfl rfl)
theorem dX0_personTold_46 : decode cX0_personTold 46 = .ok (.aload_n 0, 1) := dk_42 (dk_at dksX0_personTold_2 10 rfl rfl)
theorem dX0_personTold_47 : decode cX0_personTold 47 = .ok (.getfield 25, 3) := dk_180 0 25 (dk_at dksX0_personTold_2 11 rfl rfl)
theorem dX0_personTold_50 : decode cX0_personTold 50 = .ok (.getfield 152, 3) := dk_180 0 152 (dk_at dksX0_personTold_2 14 rfl rfl)
theorem dX0_personTold_53 : decode cX0_personTold 53 = .ok (.iload_n 1, 1) := dk_27 (dk_at dksX0_personTold_2 17 rfl rfl)
theorem dX0_personTold_54 : decode cX0_personTold 54 = .ok (.iaload, 1) := dk_46 (dk_at dksX0_personTold_2 18 rfl rfl)
theorem dX0_personTold_55 : decode cX0_personTold 55 = .ok (.ireturn, 1) := dk_172 (dk_at dksX0_personTold_2 19 rfl rfl)
theorem dX0_personTold_56 : decode cX0_personTold 56 = .ok (.aload_n 0, 1) := dk_42 (dk_at dksX0_personTold_2 20 rfl rfl)
theorem dX0_personTold_57 : decode cX0_personTold 57 = .ok (.getfield 25, 3) := dk_180 0 25 (dk_at dksX0_personTold_2 21 rfl rfl)
theorem dX0_personTold_60 : decode cX0_personTold 60 = .ok (.getfield 155, 3) := dk_180 0 155 (dk_at dksX0_personTold_3 0 rfl rfl)
theorem dX0_personTold_63 : decode cX0_personTold 63 = .ok (.iload_n 1, 1) := dk_27 (dk_at dksX0_personTold_3 3 rfl rfl)
theorem dX0_personTold_64 : decode cX0_personTold 64 = .ok (.iaload, 1) := dk_46 (dk_at dksX0_personTold_3 4 rfl rfl)
theorem dX0_personTold_65 : decode cX0_personTold 65 = .ok (.ireturn, 1) := dk_172 (dk_at dksX0_personTold_3 5 rfl rfl)
theorem dX0_personTold_66 : decode cX0_personTold 66 = .ok (.aload_n 0, 1) := dk_42 (dk_at dksX0_personTold_3 6 rfl rfl)
theorem dX0_personTold_67 : decode cX0_personTold 67 = .ok (.iload_n 1, 1) := dk_27 (dk_at dksX0_personTold_3 7 rfl rfl)
theorem dX0_personTold_68 : decode cX0_personTold 68 = .ok (.invokevirtual 158, 3) := dk_182 0 158 (dk_at dksX0_personTold_3 8 rfl rfl)
theorem dX0_personTold_71 : decode cX0_personTold 71 = .ok (.ireturn, 1) := dk_172 (dk_at dksX0_personTold_3 11 rfl rfl)
theorem dX0_personTold_72 : decode cX0_personTold 72 = .ok (.aload_n 0, 1) := dk_42 (dk_at dksX0_personTold_3 12 rfl rfl)
theorem dX0_personTold_73 : decode cX0_personTold 73 = .ok (.getfield 25, 3) := dk_180 0 25 (dk_at dksX0_personTold_3 13 rfl rfl)
theorem dX0_personTold_76 : decode cX0_personTold 76 = .ok (.getfield 162, 3) := dk_180 0 162 (dk_at dksX0_personTold_3 16 rfl rfl)
theorem dX0_personTold_79 : decode cX0_personTold 79 = .ok (.iload_n 1, 1) := dk_27 (dk_at dksX0_personTold_3 19 rfl rfl)
theorem dX0_personTold_80 : decode cX0_personTold 80 = .ok (.iaload, 1) := dk_46 (dk_at dksX0_personTold_3 20 rfl rfl)
theorem dX0_personTold_81 : decode cX0_personTold 81 = .ok (.ireturn, 1) := dk_172 (dk_at dksX0_personTold_3 21 rfl rfl)
theorem dX0_personTold_82 : decode cX0_personTold 82 = .ok (.aload_n 0, 1) := dk_42 (dk_at dksX0_personTold_3 22 rfl rfl)
theorem dX0_personTold_83 : decode cX0_personTold 83 = .ok (.getfield 25, 3) := dk_180 0 25 (dk_at dksX0_personTold_4 0 rfl rfl)
theorem dX0_personTold_86 : decode cX0_personTold 86 = .ok (.getfield 165, 3) := dk_180 0 165 (dk_at dksX0_personTold_4 3 rfl rfl)
theorem dX0_personTold_89 : decode cX0_personTold 89 = .ok (.iload_n 1, 1) := dk_27 (dk_at dksX0_personTold_4 6 rfl rfl)
theorem dX0_personTold_90 : decode cX0_personTold 90 = .ok (.iaload, 1) := dk_46 (dk_at dksX0_personTold_4 7 rfl rfl)
theorem dX0_personTold_91 : decode cX0_personTold 91 = .ok (.ireturn, 1) := dk_172 (dk_at dksX0_personTold_4 8 rfl rfl)
abbrev cX0_tendersOf : ByteArray := prog_1_method_54_code
def yX0_tendersOf : MethodName := ⟨RX0, "tendersOf", "(I)I"⟩
def dkwX0_tendersOf_4 : List UInt8 := [167, 0, 4, 3, 128, 61, 132, 3, 1, 167, 255, 160, 28, 172]
abbrev dktX0_tendersOf_4 : List UInt8 := dkwX0_tendersOf_4 ++ []
def dkwX0_tendersOf_3 : List UInt8 := [167, 0, 4, 3, 126, 54, 4, 132, 5, 1, 167, 255, 193, 28, 21, 4, 153, 0, 9, 4, 29, 120]
abbrev dktX0_tendersOf_3 : List UInt8 := dkwX0_tendersOf_3 ++ dktX0_tendersOf_4
def dkwX0_tendersOf_2 : List UInt8 := [21, 5, 46, 42, 180, 0, 52, 21, 5, 46, 182, 1, 54, 42, 180, 0, 55, 21, 5, 46, 160, 0, 7, 4]
abbrev dktX0_tendersOf_2 : List UInt8 := dkwX0_tendersOf_2 ++ dktX0_tendersOf_3
def dkwX0_tendersOf_1 : List UInt8 := [162, 0, 60, 21, 4, 42, 180, 0, 46, 21, 5, 46, 27, 160, 0, 33, 42, 27, 29, 42, 180, 0, 49]
abbrev dktX0_tendersOf_1 : List UInt8 := dkwX0_tendersOf_1 ++ dktX0_tendersOf_2
def dkwX0_tendersOf_0 : List UInt8 := [3, 61, 3, 62, 29, 16, 9, 163, 0, 96, 4, 54, 4, 3, 54, 5, 21, 5, 42, 180, 0, 149]
abbrev dktX0_tendersOf_0 : List UInt8 := dkwX0_tendersOf_0 ++ dktX0_tendersOf_1
theorem dksX0_tendersOf_0 : cX0_tendersOf.data.toList.drop 0 = dktX0_tendersOf_0 := by decide +kernel
theorem dksX0_tendersOf_1 : cX0_tendersOf.data.toList.drop 22 = dktX0_tendersOf_1 := dk_seg dksX0_tendersOf_0 22 rfl rfl
theorem dksX0_tendersOf_2 : cX0_tendersOf.data.toList.drop 45 = dktX0_tendersOf_2 := dk_seg dksX0_tendersOf_1 23 rfl rfl
theorem dksX0_tendersOf_3 : cX0_tendersOf.data.toList.drop 69 = dktX0_tendersOf_3 := dk_seg dksX0_tendersOf_2 24 rfl rfl
theorem dksX0_tendersOf_4 : cX0_tendersOf.data.toList.drop 91 = dktX0_tendersOf_4 := dk_seg dksX0_tendersOf_3 22 rfl rfl
theorem dX0_tendersOf_0 : decode cX0_tendersOf 0 = .ok (.iconst 0, 1) := dk_3 (dk_at dksX0_tendersOf_0 0 rfl rfl)
theorem dX0_tendersOf_1 : decode cX0_tendersOf 1 = .ok (.istore_n 2, 1) := dk_61 (dk_at dksX0_tendersOf_0 1 rfl rfl)
theorem dX0_tendersOf_2 : decode cX0_tendersOf 2 = .ok (.iconst 0, 1) := dk_3 (dk_at dksX0_tendersOf_0 2 rfl rfl)
theorem dX0_tendersOf_3 : decode cX0_tendersOf 3 = .ok (.istore_n 3, 1) := dk_62 (dk_at dksX0_tendersOf_0 3 rfl rfl)
theorem dX0_tendersOf_4 : decode cX0_tendersOf 4 = .ok (.iload_n 3, 1) := dk_29 (dk_at dksX0_tendersOf_0 4 rfl rfl)
theorem dX0_tendersOf_5 : decode cX0_tendersOf 5 = .ok (.bipush 9, 2) := dk_16 9 (dk_at dksX0_tendersOf_0 5 rfl rfl)
theorem dX0_tendersOf_7 : decode cX0_tendersOf 7 = .ok (.if_icmp .gt 96, 3) := dk_163 0 96 (dk_at dksX0_tendersOf_0 7 rfl rfl)
theorem dX0_tendersOf_10 : decode cX0_tendersOf 10 = .ok (.iconst 1, 1) := dk_4 (dk_at dksX0_tendersOf_0 10 rfl rfl)
theorem dX0_tendersOf_11 : decode cX0_tendersOf 11 = .ok (.istore 4, 2) := dk_54 4 (dk_at dksX0_tendersOf_0 11 rfl rfl)
theorem dX0_tendersOf_13 : decode cX0_tendersOf 13 = .ok (.iconst 0, 1) := dk_3 (dk_at dksX0_tendersOf_0 13 rfl rfl)
theorem dX0_tendersOf_14 : decode cX0_tendersOf 14 = .ok (.istore 5, 2) := dk_54 5 (dk_at dksX0_tendersOf_0 14 rfl rfl)
theorem dX0_tendersOf_16 : decode cX0_tendersOf 16 = .ok (.iload 5, 2) := dk_21 5 (dk_at dksX0_tendersOf_0 16 rfl rfl)
theorem dX0_tendersOf_18 : decode cX0_tendersOf 18 = .ok (.aload_n 0, 1) := dk_42 (dk_at dksX0_tendersOf_0 18 rfl rfl)
theorem dX0_tendersOf_19 : decode cX0_tendersOf 19 = .ok (.getfield 149, 3) := dk_180 0 149 (dk_at dksX0_tendersOf_0 19 rfl rfl)
theorem dX0_tendersOf_22 : decode cX0_tendersOf 22 = .ok (.if_icmp .ge 60, 3) := dk_162 0 60 (dk_at dksX0_tendersOf_1 0 rfl rfl)
theorem dX0_tendersOf_25 : decode cX0_tendersOf 25 = .ok (.iload 4, 2) := dk_21 4 (dk_at dksX0_tendersOf_1 3 rfl rfl)
theorem dX0_tendersOf_27 : decode cX0_tendersOf 27 = .ok (.aload_n 0, 1) := dk_42 (dk_at dksX0_tendersOf_1 5 rfl rfl)
theorem dX0_tendersOf_28 : decode cX0_tendersOf 28 = .ok (.getfield 46, 3) := dk_180 0 46 (dk_at dksX0_tendersOf_1 6 rfl rfl)
theorem dX0_tendersOf_31 : decode cX0_tendersOf 31 = .ok (.iload 5, 2) := dk_21 5 (dk_at dksX0_tendersOf_1 9 rfl rfl)
theorem dX0_tendersOf_33 : decode cX0_tendersOf 33 = .ok (.iaload, 1) := dk_46 (dk_at dksX0_tendersOf_1 11 rfl rfl)
theorem dX0_tendersOf_34 : decode cX0_tendersOf 34 = .ok (.iload_n 1, 1) := dk_27 (dk_at dksX0_tendersOf_1 12 rfl rfl)
theorem dX0_tendersOf_35 : decode cX0_tendersOf 35 = .ok (.if_icmp .ne 33, 3) := dk_160 0 33 (dk_at dksX0_tendersOf_1 13 rfl rfl)
theorem dX0_tendersOf_38 : decode cX0_tendersOf 38 = .ok (.aload_n 0, 1) := dk_42 (dk_at dksX0_tendersOf_1 16 rfl rfl)
theorem dX0_tendersOf_39 : decode cX0_tendersOf 39 = .ok (.iload_n 1, 1) := dk_27 (dk_at dksX0_tendersOf_1 17 rfl rfl)
theorem dX0_tendersOf_40 : decode cX0_tendersOf 40 = .ok (.iload_n 3, 1) := dk_29 (dk_at dksX0_tendersOf_1 18 rfl rfl)
theorem dX0_tendersOf_41 : decode cX0_tendersOf 41 = .ok (.aload_n 0, 1) := dk_42 (dk_at dksX0_tendersOf_1 19 rfl rfl)
theorem dX0_tendersOf_42 : decode cX0_tendersOf 42 = .ok (.getfield 49, 3) := dk_180 0 49 (dk_at dksX0_tendersOf_1 20 rfl rfl)
theorem dX0_tendersOf_45 : decode cX0_tendersOf 45 = .ok (.iload 5, 2) := dk_21 5 (dk_at dksX0_tendersOf_2 0 rfl rfl)
theorem dX0_tendersOf_47 : decode cX0_tendersOf 47 = .ok (.iaload, 1) := dk_46 (dk_at dksX0_tendersOf_2 2 rfl rfl)
theorem dX0_tendersOf_48 : decode cX0_tendersOf 48 = .ok (.aload_n 0, 1) := dk_42 (dk_at dksX0_tendersOf_2 3 rfl rfl)
theorem dX0_tendersOf_49 : decode cX0_tendersOf 49 = .ok (.getfield 52, 3) := dk_180 0 52 (dk_at dksX0_tendersOf_2 4 rfl rfl)
theorem dX0_tendersOf_52 : decode cX0_tendersOf 52 = .ok (.iload 5, 2) := dk_21 5 (dk_at dksX0_tendersOf_2 7 rfl rfl)
theorem dX0_tendersOf_54 : decode cX0_tendersOf 54 = .ok (.iaload, 1) := dk_46 (dk_at dksX0_tendersOf_2 9 rfl rfl)
theorem dX0_tendersOf_55 : decode cX0_tendersOf 55 = .ok (.invokevirtual 310, 3) := dk_182 1 54 (dk_at dksX0_tendersOf_2 10 rfl rfl)
theorem dX0_tendersOf_58 : decode cX0_tendersOf 58 = .ok (.aload_n 0, 1) := dk_42 (dk_at dksX0_tendersOf_2 13 rfl rfl)
theorem dX0_tendersOf_59 : decode cX0_tendersOf 59 = .ok (.getfield 55, 3) := dk_180 0 55 (dk_at dksX0_tendersOf_2 14 rfl rfl)
theorem dX0_tendersOf_62 : decode cX0_tendersOf 62 = .ok (.iload 5, 2) := dk_21 5 (dk_at dksX0_tendersOf_2 17 rfl rfl)
theorem dX0_tendersOf_64 : decode cX0_tendersOf 64 = .ok (.iaload, 1) := dk_46 (dk_at dksX0_tendersOf_2 19 rfl rfl)
theorem dX0_tendersOf_65 : decode cX0_tendersOf 65 = .ok (.if_icmp .ne 7, 3) := dk_160 0 7 (dk_at dksX0_tendersOf_2 20 rfl rfl)
theorem dX0_tendersOf_68 : decode cX0_tendersOf 68 = .ok (.iconst 1, 1) := dk_4 (dk_at dksX0_tendersOf_2 23 rfl rfl)
theorem dX0_tendersOf_69 : decode cX0_tendersOf 69 = .ok (.goto 4, 3) := dk_167 0 4 (dk_at dksX0_tendersOf_3 0 rfl rfl)
theorem dX0_tendersOf_72 : decode cX0_tendersOf 72 = .ok (.iconst 0, 1) := dk_3 (dk_at dksX0_tendersOf_3 3 rfl rfl)
theorem dX0_tendersOf_73 : decode cX0_tendersOf 73 = .ok (.iand, 1) := dk_126 (dk_at dksX0_tendersOf_3 4 rfl rfl)
theorem dX0_tendersOf_74 : decode cX0_tendersOf 74 = .ok (.istore 4, 2) := dk_54 4 (dk_at dksX0_tendersOf_3 5 rfl rfl)
theorem dX0_tendersOf_76 : decode cX0_tendersOf 76 = .ok (.iinc 5 1, 3) := dk_132 5 1 (dk_at dksX0_tendersOf_3 7 rfl rfl)
theorem dX0_tendersOf_79 : decode cX0_tendersOf 79 = .ok (.goto (-63), 3) := dk_167 255 193 (dk_at dksX0_tendersOf_3 10 rfl rfl)
theorem dX0_tendersOf_82 : decode cX0_tendersOf 82 = .ok (.iload_n 2, 1) := dk_28 (dk_at dksX0_tendersOf_3 13 rfl rfl)
theorem dX0_tendersOf_83 : decode cX0_tendersOf 83 = .ok (.iload 4, 2) := dk_21 4 (dk_at dksX0_tendersOf_3 14 rfl rfl)
theorem dX0_tendersOf_85 : decode cX0_tendersOf 85 = .ok (.ifCond .eq 9, 3) := dk_153 0 9 (dk_at dksX0_tendersOf_3 16 rfl rfl)
theorem dX0_tendersOf_88 : decode cX0_tendersOf 88 = .ok (.iconst 1, 1) := dk_4 (dk_at dksX0_tendersOf_3 19 rfl rfl)
theorem dX0_tendersOf_89 : decode cX0_tendersOf 89 = .ok (.iload_n 3, 1) := dk_29 (dk_at dksX0_tendersOf_3 20 rfl rfl)
theorem dX0_tendersOf_90 : decode cX0_tendersOf 90 = .ok (.ishl, 1) := dk_120 (dk_at dksX0_tendersOf_3 21 rfl rfl)
theorem dX0_tendersOf_91 : decode cX0_tendersOf 91 = .ok (.goto 4, 3) := dk_167 0 4 (dk_at dksX0_tendersOf_4 0 rfl rfl)
theorem dX0_tendersOf_94 : decode cX0_tendersOf 94 = .ok (.iconst 0, 1) := dk_3 (dk_at dksX0_tendersOf_4 3 rfl rfl)
theorem dX0_tendersOf_95 : decode cX0_tendersOf 95 = .ok (.ior, 1) := dk_128 (dk_at dksX0_tendersOf_4 4 rfl rfl)
theorem dX0_tendersOf_96 : decode cX0_tendersOf 96 = .ok (.istore_n 2, 1) := dk_61 (dk_at dksX0_tendersOf_4 5 rfl rfl)
theorem dX0_tendersOf_97 : decode cX0_tendersOf 97 = .ok (.iinc 3 1, 3) := dk_132 3 1 (dk_at dksX0_tendersOf_4 6 rfl rfl)
theorem dX0_tendersOf_100 : decode cX0_tendersOf 100 = .ok (.goto (-96), 3) := dk_167 255 160 (dk_at dksX0_tendersOf_4 9 rfl rfl)
theorem dX0_tendersOf_103 : decode cX0_tendersOf 103 = .ok (.iload_n 2, 1) := dk_28 (dk_at dksX0_tendersOf_4 12 rfl rfl)
theorem dX0_tendersOf_104 : decode cX0_tendersOf 104 = .ok (.ireturn, 1) := dk_172 (dk_at dksX0_tendersOf_4 13 rfl rfl)
abbrev cX0_firstBy : ByteArray := prog_1_method_53_code
def yX0_firstBy : MethodName := ⟨RX0, "firstBy", "(IIII)I"⟩
def dkwX0_firstBy_2 : List UInt8 := [3, 46, 167, 0, 4, 2, 54, 6, 42, 180, 0, 25, 180, 0, 138, 27, 21, 5, 79, 21, 6, 172]
abbrev dktX0_firstBy_2 : List UInt8 := dkwX0_firstBy_2 ++ []
def dkwX0_firstBy_1 : List UInt8 := [180, 0, 25, 27, 29, 21, 4, 42, 182, 0, 209, 182, 0, 212, 153, 0, 15, 42, 180, 0, 25, 180, 0, 225]
abbrev dktX0_firstBy_1 : List UInt8 := dkwX0_firstBy_1 ++ dktX0_firstBy_2
def dkwX0_firstBy_0 : List UInt8 := [42, 180, 0, 25, 180, 0, 138, 27, 46, 54, 5, 42, 180, 0, 25, 180, 0, 138, 27, 28, 79, 42]
abbrev dktX0_firstBy_0 : List UInt8 := dkwX0_firstBy_0 ++ dktX0_firstBy_1
theorem dksX0_firstBy_0 : cX0_firstBy.data.toList.drop 0 = dktX0_firstBy_0 := by decide +kernel
theorem dksX0_firstBy_1 : cX0_firstBy.data.toList.drop 22 = dktX0_firstBy_1 := dk_seg dksX0_firstBy_0 22 rfl rfl
theorem dksX0_firstBy_2 : cX0_firstBy.data.toList.drop 46 = dktX0_firstBy_2 := dk_seg dksX0_firstBy_1 24 rfl rfl
theorem dX0_firstBy_0 : decode cX0_firstBy 0 = .ok (.aload_n 0, 1) := dk_42 (dk_at dksX0_firstBy_0 0 rfl rfl)
theorem dX0_firstBy_1 : decode cX0_firstBy 1 = .ok (.getfield 25, 3) := dk_180 0 25 (dk_at dksX0_firstBy_0 1 rfl rfl)
theorem dX0_firstBy_4 : decode cX0_firstBy 4 = .ok (.getfield 138, 3) := dk_180 0 138 (dk_at dksX0_firstBy_0 4 rfl rfl)
theorem dX0_firstBy_7 : decode cX0_firstBy 7 = .ok (.iload_n 1, 1) := dk_27 (dk_at dksX0_firstBy_0 7 rfl rfl)
theorem dX0_firstBy_8 : decode cX0_firstBy 8 = .ok (.iaload, 1) := dk_46 (dk_at dksX0_firstBy_0 8 rfl rfl)
theorem dX0_firstBy_9 : decode cX0_firstBy 9 = .ok (.istore 5, 2) := dk_54 5 (dk_at dksX0_firstBy_0 9 rfl rfl)
theorem dX0_firstBy_11 : decode cX0_firstBy 11 = .ok (.aload_n 0, 1) := dk_42 (dk_at dksX0_firstBy_0 11 rfl rfl)
theorem dX0_firstBy_12 : decode cX0_firstBy 12 = .ok (.getfield 25, 3) := dk_180 0 25 (dk_at dksX0_firstBy_0 12 rfl rfl)
theorem dX0_firstBy_15 : decode cX0_firstBy 15 = .ok (.getfield 138, 3) := dk_180 0 138 (dk_at dksX0_firstBy_0 15 rfl rfl)
theorem dX0_firstBy_18 : decode cX0_firstBy 18 = .ok (.iload_n 1, 1) := dk_27 (dk_at dksX0_firstBy_0 18 rfl rfl)
theorem dX0_firstBy_19 : decode cX0_firstBy 19 = .ok (.iload_n 2, 1) := dk_28 (dk_at dksX0_firstBy_0 19 rfl rfl)
theorem dX0_firstBy_20 : decode cX0_firstBy 20 = .ok (.iastore, 1) := dk_79 (dk_at dksX0_firstBy_0 20 rfl rfl)
theorem dX0_firstBy_21 : decode cX0_firstBy 21 = .ok (.aload_n 0, 1) := dk_42 (dk_at dksX0_firstBy_0 21 rfl rfl)
theorem dX0_firstBy_22 : decode cX0_firstBy 22 = .ok (.getfield 25, 3) := dk_180 0 25 (dk_at dksX0_firstBy_1 0 rfl rfl)
theorem dX0_firstBy_25 : decode cX0_firstBy 25 = .ok (.iload_n 1, 1) := dk_27 (dk_at dksX0_firstBy_1 3 rfl rfl)
theorem dX0_firstBy_26 : decode cX0_firstBy 26 = .ok (.iload_n 3, 1) := dk_29 (dk_at dksX0_firstBy_1 4 rfl rfl)
theorem dX0_firstBy_27 : decode cX0_firstBy 27 = .ok (.iload 4, 2) := dk_21 4 (dk_at dksX0_firstBy_1 5 rfl rfl)
theorem dX0_firstBy_29 : decode cX0_firstBy 29 = .ok (.aload_n 0, 1) := dk_42 (dk_at dksX0_firstBy_1 7 rfl rfl)
theorem dX0_firstBy_30 : decode cX0_firstBy 30 = .ok (.invokevirtual 209, 3) := dk_182 0 209 (dk_at dksX0_firstBy_1 8 rfl rfl)
theorem dX0_firstBy_33 : decode cX0_firstBy 33 = .ok (.invokevirtual 212, 3) := dk_182 0 212 (dk_at dksX0_firstBy_1 11 rfl rfl)
theorem dX0_firstBy_36 : decode cX0_firstBy 36 = .ok (.ifCond .eq 15, 3) := dk_153 0 15 (dk_at dksX0_firstBy_1 14 rfl rfl)
theorem dX0_firstBy_39 : decode cX0_firstBy 39 = .ok (.aload_n 0, 1) := dk_42 (dk_at dksX0_firstBy_1 17 rfl rfl)
theorem dX0_firstBy_40 : decode cX0_firstBy 40 = .ok (.getfield 25, 3) := dk_180 0 25 (dk_at dksX0_firstBy_1 18 rfl rfl)
theorem dX0_firstBy_43 : decode cX0_firstBy 43 = .ok (.getfield 225, 3) := dk_180 0 225 (dk_at dksX0_firstBy_1 21 rfl rfl)
theorem dX0_firstBy_46 : decode cX0_firstBy 46 = .ok (.iconst 0, 1) := dk_3 (dk_at dksX0_firstBy_2 0 rfl rfl)
theorem dX0_firstBy_47 : decode cX0_firstBy 47 = .ok (.iaload, 1) := dk_46 (dk_at dksX0_firstBy_2 1 rfl rfl)
theorem dX0_firstBy_48 : decode cX0_firstBy 48 = .ok (.goto 4, 3) := dk_167 0 4 (dk_at dksX0_firstBy_2 2 rfl rfl)
theorem dX0_firstBy_51 : decode cX0_firstBy 51 = .ok (.iconst (-1), 1) := dk_2 (dk_at dksX0_firstBy_2 5 rfl rfl)
theorem dX0_firstBy_52 : decode cX0_firstBy 52 = .ok (.istore 6, 2) := dk_54 6 (dk_at dksX0_firstBy_2 6 rfl rfl)
theorem dX0_firstBy_54 : decode cX0_firstBy 54 = .ok (.aload_n 0, 1) := dk_42 (dk_at dksX0_firstBy_2 8 rfl rfl)
theorem dX0_firstBy_55 : decode cX0_firstBy 55 = .ok (.getfield 25, 3) := dk_180 0 25 (dk_at dksX0_firstBy_2 9 rfl rfl)
theorem dX0_firstBy_58 : decode cX0_firstBy 58 = .ok (.getfield 138, 3) := dk_180 0 138 (dk_at dksX0_firstBy_2 12 rfl rfl)
theorem dX0_firstBy_61 : decode cX0_firstBy 61 = .ok (.iload_n 1, 1) := dk_27 (dk_at dksX0_firstBy_2 15 rfl rfl)
theorem dX0_firstBy_62 : decode cX0_firstBy 62 = .ok (.iload 5, 2) := dk_21 5 (dk_at dksX0_firstBy_2 16 rfl rfl)
theorem dX0_firstBy_64 : decode cX0_firstBy 64 = .ok (.iastore, 1) := dk_79 (dk_at dksX0_firstBy_2 18 rfl rfl)
theorem dX0_firstBy_65 : decode cX0_firstBy 65 = .ok (.iload 6, 2) := dk_21 6 (dk_at dksX0_firstBy_2 19 rfl rfl)
theorem dX0_firstBy_67 : decode cX0_firstBy 67 = .ok (.ireturn, 1) := dk_172 (dk_at dksX0_firstBy_2 21 rfl rfl)
abbrev cX0_all : ByteArray := prog_1_method_11_code
def yX0_all : MethodName := ⟨RX0, "all", "()I"⟩
def dkwX0_all_0 : List UInt8 := [4, 42, 180, 0, 16, 182, 0, 92, 120, 4, 100, 172]
abbrev dktX0_all_0 : List UInt8 := dkwX0_all_0 ++ []
theorem dksX0_all_0 : cX0_all.data.toList.drop 0 = dktX0_all_0 := by decide +kernel
theorem dX0_all_0 : decode cX0_all 0 = .ok (.iconst 1, 1) := dk_4 (dk_at dksX0_all_0 0 rfl rfl)
theorem dX0_all_1 : decode cX0_all 1 = .ok (.aload_n 0, 1) := dk_42 (dk_at dksX0_all_0 1 rfl rfl)
theorem dX0_all_2 : decode cX0_all 2 = .ok (.getfield 16, 3) := dk_180 0 16 (dk_at dksX0_all_0 2 rfl rfl)
theorem dX0_all_5 : decode cX0_all 5 = .ok (.invokevirtual 92, 3) := dk_182 0 92 (dk_at dksX0_all_0 5 rfl rfl)
theorem dX0_all_8 : decode cX0_all 8 = .ok (.ishl, 1) := dk_120 (dk_at dksX0_all_0 8 rfl rfl)
theorem dX0_all_9 : decode cX0_all 9 = .ok (.iconst 1, 1) := dk_4 (dk_at dksX0_all_0 9 rfl rfl)
theorem dX0_all_10 : decode cX0_all 10 = .ok (.isub, 1) := dk_100 (dk_at dksX0_all_0 10 rfl rfl)
theorem dX0_all_11 : decode cX0_all 11 = .ok (.ireturn, 1) := dk_172 (dk_at dksX0_all_0 11 rfl rfl)
abbrev cX0_isIn : ByteArray := prog_1_method_2_code
def yX0_isIn : MethodName := ⟨RX0, "isIn", "(II)Z"⟩
def dkwX0_isIn_0 : List UInt8 := [26, 27, 122, 4, 126, 4, 160, 0, 7, 4, 167, 0, 4, 3, 172]
abbrev dktX0_isIn_0 : List UInt8 := dkwX0_isIn_0 ++ []
theorem dksX0_isIn_0 : cX0_isIn.data.toList.drop 0 = dktX0_isIn_0 := by decide +kernel
theorem dX0_isIn_0 : decode cX0_isIn 0 = .ok (.iload_n 0, 1) := dk_26 (dk_at dksX0_isIn_0 0 rfl rfl)
theorem dX0_isIn_1 : decode cX0_isIn 1 = .ok (.iload_n 1, 1) := dk_27 (dk_at dksX0_isIn_0 1 rfl rfl)
theorem dX0_isIn_2 : decode cX0_isIn 2 = .ok (.ishr, 1) := dk_122 (dk_at dksX0_isIn_0 2 rfl rfl)
theorem dX0_isIn_3 : decode cX0_isIn 3 = .ok (.iconst 1, 1) := dk_4 (dk_at dksX0_isIn_0 3 rfl rfl)
theorem dX0_isIn_4 : decode cX0_isIn 4 = .ok (.iand, 1) := dk_126 (dk_at dksX0_isIn_0 4 rfl rfl)
theorem dX0_isIn_5 : decode cX0_isIn 5 = .ok (.iconst 1, 1) := dk_4 (dk_at dksX0_isIn_0 5 rfl rfl)
theorem dX0_isIn_6 : decode cX0_isIn 6 = .ok (.if_icmp .ne 7, 3) := dk_160 0 7 (dk_at dksX0_isIn_0 6 rfl rfl)
theorem dX0_isIn_9 : decode cX0_isIn 9 = .ok (.iconst 1, 1) := dk_4 (dk_at dksX0_isIn_0 9 rfl rfl)
theorem dX0_isIn_10 : decode cX0_isIn 10 = .ok (.goto 4, 3) := dk_167 0 4 (dk_at dksX0_isIn_0 10 rfl rfl)
theorem dX0_isIn_13 : decode cX0_isIn 13 = .ok (.iconst 0, 1) := dk_3 (dk_at dksX0_isIn_0 13 rfl rfl)
theorem dX0_isIn_14 : decode cX0_isIn 14 = .ok (.ireturn, 1) := dk_172 (dk_at dksX0_isIn_0 14 rfl rfl)
abbrev cX0_street : ByteArray := prog_1_method_21_code
def yX0_street : MethodName := ⟨RX0, "street", "(II)I"⟩
def dkwX0_street_1 : List UInt8 := [28, 182, 0, 197, 167, 0, 5, 16, 154, 172]
abbrev dktX0_street_1 : List UInt8 := dkwX0_street_1 ++ []
def dkwX0_street_0 : List UInt8 := [42, 27, 182, 0, 194, 154, 0, 8, 16, 155, 167, 0, 23, 28, 3, 7, 184, 0, 3, 153, 0, 12, 42, 27]
abbrev dktX0_street_0 : List UInt8 := dkwX0_street_0 ++ dktX0_street_1
theorem dksX0_street_0 : cX0_street.data.toList.drop 0 = dktX0_street_0 := by decide +kernel
theorem dksX0_street_1 : cX0_street.data.toList.drop 24 = dktX0_street_1 := dk_seg dksX0_street_0 24 rfl rfl
theorem dX0_street_0 : decode cX0_street 0 = .ok (.aload_n 0, 1) := dk_42 (dk_at dksX0_street_0 0 rfl rfl)
theorem dX0_street_1 : decode cX0_street 1 = .ok (.iload_n 1, 1) := dk_27 (dk_at dksX0_street_0 1 rfl rfl)
theorem dX0_street_2 : decode cX0_street 2 = .ok (.invokevirtual 194, 3) := dk_182 0 194 (dk_at dksX0_street_0 2 rfl rfl)
theorem dX0_street_5 : decode cX0_street 5 = .ok (.ifCond .ne 8, 3) := dk_154 0 8 (dk_at dksX0_street_0 5 rfl rfl)
theorem dX0_street_8 : decode cX0_street 8 = .ok (.bipush (-101), 2) := dk_16 155 (dk_at dksX0_street_0 8 rfl rfl)
theorem dX0_street_10 : decode cX0_street 10 = .ok (.goto 23, 3) := dk_167 0 23 (dk_at dksX0_street_0 10 rfl rfl)
theorem dX0_street_13 : decode cX0_street 13 = .ok (.iload_n 2, 1) := dk_28 (dk_at dksX0_street_0 13 rfl rfl)
theorem dX0_street_14 : decode cX0_street 14 = .ok (.iconst 0, 1) := dk_3 (dk_at dksX0_street_0 14 rfl rfl)
theorem dX0_street_15 : decode cX0_street 15 = .ok (.iconst 4, 1) := dk_7 (dk_at dksX0_street_0 15 rfl rfl)
theorem dX0_street_16 : decode cX0_street 16 = .ok (.invokestatic 3, 3) := dk_184 0 3 (dk_at dksX0_street_0 16 rfl rfl)
theorem dX0_street_19 : decode cX0_street 19 = .ok (.ifCond .eq 12, 3) := dk_153 0 12 (dk_at dksX0_street_0 19 rfl rfl)
theorem dX0_street_22 : decode cX0_street 22 = .ok (.aload_n 0, 1) := dk_42 (dk_at dksX0_street_0 22 rfl rfl)
theorem dX0_street_23 : decode cX0_street 23 = .ok (.iload_n 1, 1) := dk_27 (dk_at dksX0_street_0 23 rfl rfl)
theorem dX0_street_24 : decode cX0_street 24 = .ok (.iload_n 2, 1) := dk_28 (dk_at dksX0_street_1 0 rfl rfl)
theorem dX0_street_25 : decode cX0_street 25 = .ok (.invokevirtual 197, 3) := dk_182 0 197 (dk_at dksX0_street_1 1 rfl rfl)
theorem dX0_street_28 : decode cX0_street 28 = .ok (.goto 5, 3) := dk_167 0 5 (dk_at dksX0_street_1 4 rfl rfl)
theorem dX0_street_31 : decode cX0_street 31 = .ok (.bipush (-102), 2) := dk_16 154 (dk_at dksX0_street_1 7 rfl rfl)
theorem dX0_street_33 : decode cX0_street 33 = .ok (.ireturn, 1) := dk_172 (dk_at dksX0_street_1 9 rfl rfl)
abbrev cX0_isStreet : ByteArray := prog_1_method_7_code
def yX0_isStreet : MethodName := ⟨RX0, "isStreet", "(I)Z"⟩
def dkwX0_isStreet_0 : List UInt8 := [27, 3, 42, 180, 0, 16, 182, 0, 92, 4, 100, 184, 0, 3, 172]
abbrev dktX0_isStreet_0 : List UInt8 := dkwX0_isStreet_0 ++ []
theorem dksX0_isStreet_0 : cX0_isStreet.data.toList.drop 0 = dktX0_isStreet_0 := by decide +kernel
theorem dX0_isStreet_0 : decode cX0_isStreet 0 = .ok (.iload_n 1, 1) := dk_27 (dk_at dksX0_isStreet_0 0 rfl rfl)
theorem dX0_isStreet_1 : decode cX0_isStreet 1 = .ok (.iconst 0, 1) := dk_3 (dk_at dksX0_isStreet_0 1 rfl rfl)
theorem dX0_isStreet_2 : decode cX0_isStreet 2 = .ok (.aload_n 0, 1) := dk_42 (dk_at dksX0_isStreet_0 2 rfl rfl)
theorem dX0_isStreet_3 : decode cX0_isStreet 3 = .ok (.getfield 16, 3) := dk_180 0 16 (dk_at dksX0_isStreet_0 3 rfl rfl)
theorem dX0_isStreet_6 : decode cX0_isStreet 6 = .ok (.invokevirtual 92, 3) := dk_182 0 92 (dk_at dksX0_isStreet_0 6 rfl rfl)
theorem dX0_isStreet_9 : decode cX0_isStreet 9 = .ok (.iconst 1, 1) := dk_4 (dk_at dksX0_isStreet_0 9 rfl rfl)
theorem dX0_isStreet_10 : decode cX0_isStreet 10 = .ok (.isub, 1) := dk_100 (dk_at dksX0_isStreet_0 10 rfl rfl)
theorem dX0_isStreet_11 : decode cX0_isStreet 11 = .ok (.invokestatic 3, 3) := dk_184 0 3 (dk_at dksX0_isStreet_0 11 rfl rfl)
theorem dX0_isStreet_14 : decode cX0_isStreet 14 = .ok (.ireturn, 1) := dk_172 (dk_at dksX0_isStreet_0 14 rfl rfl)
abbrev cX0_streetTold : ByteArray := prog_1_method_20_code
def yX0_streetTold : MethodName := ⟨RX0, "streetTold", "(II)I"⟩
def dkwX0_streetTold_4 : List UInt8 := [180, 0, 16, 27, 182, 0, 126, 192, 0, 85, 180, 0, 188, 172, 42, 27, 182, 0, 191, 172]
abbrev dktX0_streetTold_4 : List UInt8 := dkwX0_streetTold_4 ++ []
def dkwX0_streetTold_3 : List UInt8 := [192, 0, 85, 180, 0, 182, 172, 42, 180, 0, 16, 27, 182, 0, 126, 192, 0, 85, 180, 0, 185, 172, 42]
abbrev dktX0_streetTold_3 : List UInt8 := dkwX0_streetTold_3 ++ dktX0_streetTold_4
def dkwX0_streetTold_2 : List UInt8 := [42, 180, 0, 16, 27, 182, 0, 126, 192, 0, 85, 182, 0, 179, 172, 42, 180, 0, 16, 27, 182, 0, 126]
abbrev dktX0_streetTold_2 : List UInt8 := dkwX0_streetTold_2 ++ dktX0_streetTold_3
def dkwX0_streetTold_1 : List UInt8 := [170, 0, 0, 0, 0, 0, 91, 0, 0, 0, 0, 0, 0, 0, 3, 0, 0, 0, 31, 0, 0, 0, 46, 0, 0, 0, 61, 0, 0, 0, 76]
abbrev dktX0_streetTold_1 : List UInt8 := dkwX0_streetTold_1 ++ dktX0_streetTold_2
def dkwX0_streetTold_0 : List UInt8 := [28]
abbrev dktX0_streetTold_0 : List UInt8 := dkwX0_streetTold_0 ++ dktX0_streetTold_1
theorem dksX0_streetTold_0 : cX0_streetTold.data.toList.drop 0 = dktX0_streetTold_0 := by decide +kernel
theorem dksX0_streetTold_1 : cX0_streetTold.data.toList.drop 1 = dktX0_streetTold_1 := dk_seg dksX0_streetTold_0 1 rfl rfl
theorem dksX0_streetTold_2 : cX0_streetTold.data.toList.drop 32 = dktX0_streetTold_2 := dk_seg dksX0_streetTold_1 31 rfl rfl
theorem dksX0_streetTold_3 : cX0_streetTold.data.toList.drop 55 = dktX0_streetTold_3 := dk_seg dksX0_streetTold_2 23 rfl rfl
theorem dksX0_streetTold_4 : cX0_streetTold.data.toList.drop 78 = dktX0_streetTold_4 := dk_seg dksX0_streetTold_3 23 rfl rfl
theorem dX0_streetTold_0 : decode cX0_streetTold 0 = .ok (.iload_n 2, 1) := dk_28 (dk_at dksX0_streetTold_0 0 rfl rfl)
theorem dX0_streetTold_1 : decode cX0_streetTold 1 = .ok (.tableswitch 91 0 3 #[31, 46, 61, 76], 31) := by decide +kernel
theorem dX0_streetTold_32 : decode cX0_streetTold 32 = .ok (.aload_n 0, 1) := dk_42 (dk_at dksX0_streetTold_2 0 rfl rfl)
theorem dX0_streetTold_33 : decode cX0_streetTold 33 = .ok (.getfield 16, 3) := dk_180 0 16 (dk_at dksX0_streetTold_2 1 rfl rfl)
theorem dX0_streetTold_36 : decode cX0_streetTold 36 = .ok (.iload_n 1, 1) := dk_27 (dk_at dksX0_streetTold_2 4 rfl rfl)
theorem dX0_streetTold_37 : decode cX0_streetTold 37 = .ok (.invokevirtual 126, 3) := dk_182 0 126 (dk_at dksX0_streetTold_2 5 rfl rfl)
theorem dX0_streetTold_40 : decode cX0_streetTold 40 = .ok (.checkcast 85, 3) := dk_192 0 85 (dk_at dksX0_streetTold_2 8 rfl rfl)
theorem dX0_streetTold_43 : decode cX0_streetTold 43 = .ok (.invokevirtual 179, 3) := dk_182 0 179 (dk_at dksX0_streetTold_2 11 rfl rfl)
theorem dX0_streetTold_46 : decode cX0_streetTold 46 = .ok (.ireturn, 1) := dk_172 (dk_at dksX0_streetTold_2 14 rfl rfl)
theorem dX0_streetTold_47 : decode cX0_streetTold 47 = .ok (.aload_n 0, 1) := dk_42 (dk_at dksX0_streetTold_2 15 rfl rfl)
theorem dX0_streetTold_48 : decode cX0_streetTold 48 = .ok (.getfield 16, 3) := dk_180 0 16 (dk_at dksX0_streetTold_2 16 rfl rfl)
theorem dX0_streetTold_51 : decode cX0_streetTold 51 = .ok (.iload_n 1, 1) := dk_27 (dk_at dksX0_streetTold_2 19 rfl rfl)
theorem dX0_streetTold_52 : decode cX0_streetTold 52 = .ok (.invokevirtual 126, 3) := dk_182 0 126 (dk_at dksX0_streetTold_2 20 rfl rfl)
theorem dX0_streetTold_55 : decode cX0_streetTold 55 = .ok (.checkcast 85, 3) := dk_192 0 85 (dk_at dksX0_streetTold_3 0 rfl rfl)
theorem dX0_streetTold_58 : decode cX0_streetTold 58 = .ok (.getfield 182, 3) := dk_180 0 182 (dk_at dksX0_streetTold_3 3 rfl rfl)
theorem dX0_streetTold_61 : decode cX0_streetTold 61 = .ok (.ireturn, 1) := dk_172 (dk_at dksX0_streetTold_3 6 rfl rfl)
theorem dX0_streetTold_62 : decode cX0_streetTold 62 = .ok (.aload_n 0, 1) := dk_42 (dk_at dksX0_streetTold_3 7 rfl rfl)
theorem dX0_streetTold_63 : decode cX0_streetTold 63 = .ok (.getfield 16, 3) := dk_180 0 16 (dk_at dksX0_streetTold_3 8 rfl rfl)
theorem dX0_streetTold_66 : decode cX0_streetTold 66 = .ok (.iload_n 1, 1) := dk_27 (dk_at dksX0_streetTold_3 11 rfl rfl)
theorem dX0_streetTold_67 : decode cX0_streetTold 67 = .ok (.invokevirtual 126, 3) := dk_182 0 126 (dk_at dksX0_streetTold_3 12 rfl rfl)
theorem dX0_streetTold_70 : decode cX0_streetTold 70 = .ok (.checkcast 85, 3) := dk_192 0 85 (dk_at dksX0_streetTold_3 15 rfl rfl)
theorem dX0_streetTold_73 : decode cX0_streetTold 73 = .ok (.getfield 185, 3) := dk_180 0 185 (dk_at dksX0_streetTold_3 18 rfl rfl)
theorem dX0_streetTold_76 : decode cX0_streetTold 76 = .ok (.ireturn, 1) := dk_172 (dk_at dksX0_streetTold_3 21 rfl rfl)
theorem dX0_streetTold_77 : decode cX0_streetTold 77 = .ok (.aload_n 0, 1) := dk_42 (dk_at dksX0_streetTold_3 22 rfl rfl)
theorem dX0_streetTold_78 : decode cX0_streetTold 78 = .ok (.getfield 16, 3) := dk_180 0 16 (dk_at dksX0_streetTold_4 0 rfl rfl)
theorem dX0_streetTold_81 : decode cX0_streetTold 81 = .ok (.iload_n 1, 1) := dk_27 (dk_at dksX0_streetTold_4 3 rfl rfl)
theorem dX0_streetTold_82 : decode cX0_streetTold 82 = .ok (.invokevirtual 126, 3) := dk_182 0 126 (dk_at dksX0_streetTold_4 4 rfl rfl)
theorem dX0_streetTold_85 : decode cX0_streetTold 85 = .ok (.checkcast 85, 3) := dk_192 0 85 (dk_at dksX0_streetTold_4 7 rfl rfl)
theorem dX0_streetTold_88 : decode cX0_streetTold 88 = .ok (.getfield 188, 3) := dk_180 0 188 (dk_at dksX0_streetTold_4 10 rfl rfl)
theorem dX0_streetTold_91 : decode cX0_streetTold 91 = .ok (.ireturn, 1) := dk_172 (dk_at dksX0_streetTold_4 13 rfl rfl)
theorem dX0_streetTold_92 : decode cX0_streetTold 92 = .ok (.aload_n 0, 1) := dk_42 (dk_at dksX0_streetTold_4 14 rfl rfl)
theorem dX0_streetTold_93 : decode cX0_streetTold 93 = .ok (.iload_n 1, 1) := dk_27 (dk_at dksX0_streetTold_4 15 rfl rfl)
theorem dX0_streetTold_94 : decode cX0_streetTold 94 = .ok (.invokevirtual 191, 3) := dk_182 0 191 (dk_at dksX0_streetTold_4 16 rfl rfl)
theorem dX0_streetTold_97 : decode cX0_streetTold 97 = .ok (.ireturn, 1) := dk_172 (dk_at dksX0_streetTold_4 19 rfl rfl)
abbrev cX0_knownBy : ByteArray := prog_1_method_19_code
def yX0_knownBy : MethodName := ⟨RX0, "knownBy", "(I)I"⟩
def dkwX0_knownBy_1 : List UInt8 := [153, 0, 9, 4, 29, 120, 167, 0, 4, 3, 128, 61, 132, 3, 1, 167, 255, 222, 28, 172]
abbrev dktX0_knownBy_1 : List UInt8 := dkwX0_knownBy_1 ++ []
def dkwX0_knownBy_0 : List UInt8 := [3, 61, 3, 62, 29, 5, 162, 0, 35, 28, 42, 180, 0, 25, 180, 0, 172, 29, 46, 27, 184, 0, 175]
abbrev dktX0_knownBy_0 : List UInt8 := dkwX0_knownBy_0 ++ dktX0_knownBy_1
theorem dksX0_knownBy_0 : cX0_knownBy.data.toList.drop 0 = dktX0_knownBy_0 := by decide +kernel
theorem dksX0_knownBy_1 : cX0_knownBy.data.toList.drop 23 = dktX0_knownBy_1 := dk_seg dksX0_knownBy_0 23 rfl rfl
theorem dX0_knownBy_0 : decode cX0_knownBy 0 = .ok (.iconst 0, 1) := dk_3 (dk_at dksX0_knownBy_0 0 rfl rfl)
theorem dX0_knownBy_1 : decode cX0_knownBy 1 = .ok (.istore_n 2, 1) := dk_61 (dk_at dksX0_knownBy_0 1 rfl rfl)
theorem dX0_knownBy_2 : decode cX0_knownBy 2 = .ok (.iconst 0, 1) := dk_3 (dk_at dksX0_knownBy_0 2 rfl rfl)
theorem dX0_knownBy_3 : decode cX0_knownBy 3 = .ok (.istore_n 3, 1) := dk_62 (dk_at dksX0_knownBy_0 3 rfl rfl)
theorem dX0_knownBy_4 : decode cX0_knownBy 4 = .ok (.iload_n 3, 1) := dk_29 (dk_at dksX0_knownBy_0 4 rfl rfl)
theorem dX0_knownBy_5 : decode cX0_knownBy 5 = .ok (.iconst 2, 1) := dk_5 (dk_at dksX0_knownBy_0 5 rfl rfl)
theorem dX0_knownBy_6 : decode cX0_knownBy 6 = .ok (.if_icmp .ge 35, 3) := dk_162 0 35 (dk_at dksX0_knownBy_0 6 rfl rfl)
theorem dX0_knownBy_9 : decode cX0_knownBy 9 = .ok (.iload_n 2, 1) := dk_28 (dk_at dksX0_knownBy_0 9 rfl rfl)
theorem dX0_knownBy_10 : decode cX0_knownBy 10 = .ok (.aload_n 0, 1) := dk_42 (dk_at dksX0_knownBy_0 10 rfl rfl)
theorem dX0_knownBy_11 : decode cX0_knownBy 11 = .ok (.getfield 25, 3) := dk_180 0 25 (dk_at dksX0_knownBy_0 11 rfl rfl)
theorem dX0_knownBy_14 : decode cX0_knownBy 14 = .ok (.getfield 172, 3) := dk_180 0 172 (dk_at dksX0_knownBy_0 14 rfl rfl)
theorem dX0_knownBy_17 : decode cX0_knownBy 17 = .ok (.iload_n 3, 1) := dk_29 (dk_at dksX0_knownBy_0 17 rfl rfl)
theorem dX0_knownBy_18 : decode cX0_knownBy 18 = .ok (.iaload, 1) := dk_46 (dk_at dksX0_knownBy_0 18 rfl rfl)
theorem dX0_knownBy_19 : decode cX0_knownBy 19 = .ok (.iload_n 1, 1) := dk_27 (dk_at dksX0_knownBy_0 19 rfl rfl)
theorem dX0_knownBy_20 : decode cX0_knownBy 20 = .ok (.invokestatic 175, 3) := dk_184 0 175 (dk_at dksX0_knownBy_0 20 rfl rfl)
theorem dX0_knownBy_23 : decode cX0_knownBy 23 = .ok (.ifCond .eq 9, 3) := dk_153 0 9 (dk_at dksX0_knownBy_1 0 rfl rfl)
theorem dX0_knownBy_26 : decode cX0_knownBy 26 = .ok (.iconst 1, 1) := dk_4 (dk_at dksX0_knownBy_1 3 rfl rfl)
theorem dX0_knownBy_27 : decode cX0_knownBy 27 = .ok (.iload_n 3, 1) := dk_29 (dk_at dksX0_knownBy_1 4 rfl rfl)
theorem dX0_knownBy_28 : decode cX0_knownBy 28 = .ok (.ishl, 1) := dk_120 (dk_at dksX0_knownBy_1 5 rfl rfl)
theorem dX0_knownBy_29 : decode cX0_knownBy 29 = .ok (.goto 4, 3) := dk_167 0 4 (dk_at dksX0_knownBy_1 6 rfl rfl)
theorem dX0_knownBy_32 : decode cX0_knownBy 32 = .ok (.iconst 0, 1) := dk_3 (dk_at dksX0_knownBy_1 9 rfl rfl)
theorem dX0_knownBy_33 : decode cX0_knownBy 33 = .ok (.ior, 1) := dk_128 (dk_at dksX0_knownBy_1 10 rfl rfl)
theorem dX0_knownBy_34 : decode cX0_knownBy 34 = .ok (.istore_n 2, 1) := dk_61 (dk_at dksX0_knownBy_1 11 rfl rfl)
theorem dX0_knownBy_35 : decode cX0_knownBy 35 = .ok (.iinc 3 1, 3) := dk_132 3 1 (dk_at dksX0_knownBy_1 12 rfl rfl)
theorem dX0_knownBy_38 : decode cX0_knownBy 38 = .ok (.goto (-34), 3) := dk_167 255 222 (dk_at dksX0_knownBy_1 15 rfl rfl)
theorem dX0_knownBy_41 : decode cX0_knownBy 41 = .ok (.iload_n 2, 1) := dk_28 (dk_at dksX0_knownBy_1 18 rfl rfl)
theorem dX0_knownBy_42 : decode cX0_knownBy 42 = .ok (.ireturn, 1) := dk_172 (dk_at dksX0_knownBy_1 19 rfl rfl)
abbrev cX0_as : ByteArray := prog_1_method_22_code
def yX0_as : MethodName := ⟨RX0, "as", "(II)I"⟩
def dkwX0_as_2 : List UInt8 := [167, 0, 4, 2, 172]
abbrev dktX0_as_2 : List UInt8 := dkwX0_as_2 ++ []
def dkwX0_as_1 : List UInt8 := [167, 0, 26, 42, 180, 0, 16, 27, 182, 0, 126, 192, 0, 85, 28, 182, 0, 200, 153, 0, 7, 27]
abbrev dktX0_as_1 : List UInt8 := dkwX0_as_1 ++ dktX0_as_2
def dkwX0_as_0 : List UInt8 := [42, 27, 182, 0, 194, 154, 0, 6, 16, 155, 172, 28, 3, 7, 184, 0, 3, 154, 0, 8, 16, 154]
abbrev dktX0_as_0 : List UInt8 := dkwX0_as_0 ++ dktX0_as_1
theorem dksX0_as_0 : cX0_as.data.toList.drop 0 = dktX0_as_0 := by decide +kernel
theorem dksX0_as_1 : cX0_as.data.toList.drop 22 = dktX0_as_1 := dk_seg dksX0_as_0 22 rfl rfl
theorem dksX0_as_2 : cX0_as.data.toList.drop 44 = dktX0_as_2 := dk_seg dksX0_as_1 22 rfl rfl
theorem dX0_as_0 : decode cX0_as 0 = .ok (.aload_n 0, 1) := dk_42 (dk_at dksX0_as_0 0 rfl rfl)
theorem dX0_as_1 : decode cX0_as 1 = .ok (.iload_n 1, 1) := dk_27 (dk_at dksX0_as_0 1 rfl rfl)
theorem dX0_as_2 : decode cX0_as 2 = .ok (.invokevirtual 194, 3) := dk_182 0 194 (dk_at dksX0_as_0 2 rfl rfl)
theorem dX0_as_5 : decode cX0_as 5 = .ok (.ifCond .ne 6, 3) := dk_154 0 6 (dk_at dksX0_as_0 5 rfl rfl)
theorem dX0_as_8 : decode cX0_as 8 = .ok (.bipush (-101), 2) := dk_16 155 (dk_at dksX0_as_0 8 rfl rfl)
theorem dX0_as_10 : decode cX0_as 10 = .ok (.ireturn, 1) := dk_172 (dk_at dksX0_as_0 10 rfl rfl)
theorem dX0_as_11 : decode cX0_as 11 = .ok (.iload_n 2, 1) := dk_28 (dk_at dksX0_as_0 11 rfl rfl)
theorem dX0_as_12 : decode cX0_as 12 = .ok (.iconst 0, 1) := dk_3 (dk_at dksX0_as_0 12 rfl rfl)
theorem dX0_as_13 : decode cX0_as 13 = .ok (.iconst 4, 1) := dk_7 (dk_at dksX0_as_0 13 rfl rfl)
theorem dX0_as_14 : decode cX0_as 14 = .ok (.invokestatic 3, 3) := dk_184 0 3 (dk_at dksX0_as_0 14 rfl rfl)
theorem dX0_as_17 : decode cX0_as 17 = .ok (.ifCond .ne 8, 3) := dk_154 0 8 (dk_at dksX0_as_0 17 rfl rfl)
theorem dX0_as_20 : decode cX0_as 20 = .ok (.bipush (-102), 2) := dk_16 154 (dk_at dksX0_as_0 20 rfl rfl)
theorem dX0_as_22 : decode cX0_as 22 = .ok (.goto 26, 3) := dk_167 0 26 (dk_at dksX0_as_1 0 rfl rfl)
theorem dX0_as_25 : decode cX0_as 25 = .ok (.aload_n 0, 1) := dk_42 (dk_at dksX0_as_1 3 rfl rfl)
theorem dX0_as_26 : decode cX0_as 26 = .ok (.getfield 16, 3) := dk_180 0 16 (dk_at dksX0_as_1 4 rfl rfl)
theorem dX0_as_29 : decode cX0_as 29 = .ok (.iload_n 1, 1) := dk_27 (dk_at dksX0_as_1 7 rfl rfl)
theorem dX0_as_30 : decode cX0_as 30 = .ok (.invokevirtual 126, 3) := dk_182 0 126 (dk_at dksX0_as_1 8 rfl rfl)
theorem dX0_as_33 : decode cX0_as 33 = .ok (.checkcast 85, 3) := dk_192 0 85 (dk_at dksX0_as_1 11 rfl rfl)
theorem dX0_as_36 : decode cX0_as 36 = .ok (.iload_n 2, 1) := dk_28 (dk_at dksX0_as_1 14 rfl rfl)
theorem dX0_as_37 : decode cX0_as 37 = .ok (.invokevirtual 200, 3) := dk_182 0 200 (dk_at dksX0_as_1 15 rfl rfl)
theorem dX0_as_40 : decode cX0_as 40 = .ok (.ifCond .eq 7, 3) := dk_153 0 7 (dk_at dksX0_as_1 18 rfl rfl)
theorem dX0_as_43 : decode cX0_as 43 = .ok (.iload_n 1, 1) := dk_27 (dk_at dksX0_as_1 21 rfl rfl)
theorem dX0_as_44 : decode cX0_as 44 = .ok (.goto 4, 3) := dk_167 0 4 (dk_at dksX0_as_2 0 rfl rfl)
theorem dX0_as_47 : decode cX0_as 47 = .ok (.iconst (-1), 1) := dk_2 (dk_at dksX0_as_2 3 rfl rfl)
theorem dX0_as_48 : decode cX0_as 48 = .ok (.ireturn, 1) := dk_172 (dk_at dksX0_as_2 4 rfl rfl)
abbrev cX0_hurts : ByteArray := prog_1_method_23_code
def yX0_hurts : MethodName := ⟨RX0, "hurts", "(II)I"⟩
def dkwX0_hurts_1 : List UInt8 := [182, 0, 203, 167, 0, 5, 16, 155, 172]
abbrev dktX0_hurts_1 : List UInt8 := dkwX0_hurts_1 ++ []
def dkwX0_hurts_0 : List UInt8 := [42, 27, 182, 0, 100, 153, 0, 23, 42, 28, 182, 0, 194, 153, 0, 15, 42, 180, 0, 25, 27, 28]
abbrev dktX0_hurts_0 : List UInt8 := dkwX0_hurts_0 ++ dktX0_hurts_1
theorem dksX0_hurts_0 : cX0_hurts.data.toList.drop 0 = dktX0_hurts_0 := by decide +kernel
theorem dksX0_hurts_1 : cX0_hurts.data.toList.drop 22 = dktX0_hurts_1 := dk_seg dksX0_hurts_0 22 rfl rfl
theorem dX0_hurts_0 : decode cX0_hurts 0 = .ok (.aload_n 0, 1) := dk_42 (dk_at dksX0_hurts_0 0 rfl rfl)
theorem dX0_hurts_1 : decode cX0_hurts 1 = .ok (.iload_n 1, 1) := dk_27 (dk_at dksX0_hurts_0 1 rfl rfl)
theorem dX0_hurts_2 : decode cX0_hurts 2 = .ok (.invokevirtual 100, 3) := dk_182 0 100 (dk_at dksX0_hurts_0 2 rfl rfl)
theorem dX0_hurts_5 : decode cX0_hurts 5 = .ok (.ifCond .eq 23, 3) := dk_153 0 23 (dk_at dksX0_hurts_0 5 rfl rfl)
theorem dX0_hurts_8 : decode cX0_hurts 8 = .ok (.aload_n 0, 1) := dk_42 (dk_at dksX0_hurts_0 8 rfl rfl)
theorem dX0_hurts_9 : decode cX0_hurts 9 = .ok (.iload_n 2, 1) := dk_28 (dk_at dksX0_hurts_0 9 rfl rfl)
theorem dX0_hurts_10 : decode cX0_hurts 10 = .ok (.invokevirtual 194, 3) := dk_182 0 194 (dk_at dksX0_hurts_0 10 rfl rfl)
theorem dX0_hurts_13 : decode cX0_hurts 13 = .ok (.ifCond .eq 15, 3) := dk_153 0 15 (dk_at dksX0_hurts_0 13 rfl rfl)
theorem dX0_hurts_16 : decode cX0_hurts 16 = .ok (.aload_n 0, 1) := dk_42 (dk_at dksX0_hurts_0 16 rfl rfl)
theorem dX0_hurts_17 : decode cX0_hurts 17 = .ok (.getfield 25, 3) := dk_180 0 25 (dk_at dksX0_hurts_0 17 rfl rfl)
theorem dX0_hurts_20 : decode cX0_hurts 20 = .ok (.iload_n 1, 1) := dk_27 (dk_at dksX0_hurts_0 20 rfl rfl)
theorem dX0_hurts_21 : decode cX0_hurts 21 = .ok (.iload_n 2, 1) := dk_28 (dk_at dksX0_hurts_0 21 rfl rfl)
theorem dX0_hurts_22 : decode cX0_hurts 22 = .ok (.invokevirtual 203, 3) := dk_182 0 203 (dk_at dksX0_hurts_1 0 rfl rfl)
theorem dX0_hurts_25 : decode cX0_hurts 25 = .ok (.goto 5, 3) := dk_167 0 5 (dk_at dksX0_hurts_1 3 rfl rfl)
theorem dX0_hurts_28 : decode cX0_hurts 28 = .ok (.bipush (-101), 2) := dk_16 155 (dk_at dksX0_hurts_1 6 rfl rfl)
theorem dX0_hurts_30 : decode cX0_hurts 30 = .ok (.ireturn, 1) := dk_172 (dk_at dksX0_hurts_1 8 rfl rfl)
abbrev cX0_tender : ByteArray := prog_1_method_24_code
def yX0_tender : MethodName := ⟨RX0, "tender", "(II)I"⟩
def dkwX0_tender_1 : List UInt8 := [42, 180, 0, 25, 180, 0, 138, 27, 46, 62, 42, 180, 0, 25, 180, 0, 138, 27, 28, 79, 29, 172]
abbrev dktX0_tender_1 : List UInt8 := dkwX0_tender_1 ++ []
def dkwX0_tender_0 : List UInt8 := [42, 27, 182, 0, 100, 154, 0, 6, 16, 155, 172, 28, 3, 16, 9, 184, 0, 3, 154, 0, 6, 16, 154, 172]
abbrev dktX0_tender_0 : List UInt8 := dkwX0_tender_0 ++ dktX0_tender_1
theorem dksX0_tender_0 : cX0_tender.data.toList.drop 0 = dktX0_tender_0 := by decide +kernel
theorem dksX0_tender_1 : cX0_tender.data.toList.drop 24 = dktX0_tender_1 := dk_seg dksX0_tender_0 24 rfl rfl
theorem dX0_tender_0 : decode cX0_tender 0 = .ok (.aload_n 0, 1) := dk_42 (dk_at dksX0_tender_0 0 rfl rfl)
theorem dX0_tender_1 : decode cX0_tender 1 = .ok (.iload_n 1, 1) := dk_27 (dk_at dksX0_tender_0 1 rfl rfl)
theorem dX0_tender_2 : decode cX0_tender 2 = .ok (.invokevirtual 100, 3) := dk_182 0 100 (dk_at dksX0_tender_0 2 rfl rfl)
theorem dX0_tender_5 : decode cX0_tender 5 = .ok (.ifCond .ne 6, 3) := dk_154 0 6 (dk_at dksX0_tender_0 5 rfl rfl)
theorem dX0_tender_8 : decode cX0_tender 8 = .ok (.bipush (-101), 2) := dk_16 155 (dk_at dksX0_tender_0 8 rfl rfl)
theorem dX0_tender_10 : decode cX0_tender 10 = .ok (.ireturn, 1) := dk_172 (dk_at dksX0_tender_0 10 rfl rfl)
theorem dX0_tender_11 : decode cX0_tender 11 = .ok (.iload_n 2, 1) := dk_28 (dk_at dksX0_tender_0 11 rfl rfl)
theorem dX0_tender_12 : decode cX0_tender 12 = .ok (.iconst 0, 1) := dk_3 (dk_at dksX0_tender_0 12 rfl rfl)
theorem dX0_tender_13 : decode cX0_tender 13 = .ok (.bipush 9, 2) := dk_16 9 (dk_at dksX0_tender_0 13 rfl rfl)
theorem dX0_tender_15 : decode cX0_tender 15 = .ok (.invokestatic 3, 3) := dk_184 0 3 (dk_at dksX0_tender_0 15 rfl rfl)
theorem dX0_tender_18 : decode cX0_tender 18 = .ok (.ifCond .ne 6, 3) := dk_154 0 6 (dk_at dksX0_tender_0 18 rfl rfl)
theorem dX0_tender_21 : decode cX0_tender 21 = .ok (.bipush (-102), 2) := dk_16 154 (dk_at dksX0_tender_0 21 rfl rfl)
theorem dX0_tender_23 : decode cX0_tender 23 = .ok (.ireturn, 1) := dk_172 (dk_at dksX0_tender_0 23 rfl rfl)
theorem dX0_tender_24 : decode cX0_tender 24 = .ok (.aload_n 0, 1) := dk_42 (dk_at dksX0_tender_1 0 rfl rfl)
theorem dX0_tender_25 : decode cX0_tender 25 = .ok (.getfield 25, 3) := dk_180 0 25 (dk_at dksX0_tender_1 1 rfl rfl)
theorem dX0_tender_28 : decode cX0_tender 28 = .ok (.getfield 138, 3) := dk_180 0 138 (dk_at dksX0_tender_1 4 rfl rfl)
theorem dX0_tender_31 : decode cX0_tender 31 = .ok (.iload_n 1, 1) := dk_27 (dk_at dksX0_tender_1 7 rfl rfl)
theorem dX0_tender_32 : decode cX0_tender 32 = .ok (.iaload, 1) := dk_46 (dk_at dksX0_tender_1 8 rfl rfl)
theorem dX0_tender_33 : decode cX0_tender 33 = .ok (.istore_n 3, 1) := dk_62 (dk_at dksX0_tender_1 9 rfl rfl)
theorem dX0_tender_34 : decode cX0_tender 34 = .ok (.aload_n 0, 1) := dk_42 (dk_at dksX0_tender_1 10 rfl rfl)
theorem dX0_tender_35 : decode cX0_tender 35 = .ok (.getfield 25, 3) := dk_180 0 25 (dk_at dksX0_tender_1 11 rfl rfl)
theorem dX0_tender_38 : decode cX0_tender 38 = .ok (.getfield 138, 3) := dk_180 0 138 (dk_at dksX0_tender_1 14 rfl rfl)
theorem dX0_tender_41 : decode cX0_tender 41 = .ok (.iload_n 1, 1) := dk_27 (dk_at dksX0_tender_1 17 rfl rfl)
theorem dX0_tender_42 : decode cX0_tender 42 = .ok (.iload_n 2, 1) := dk_28 (dk_at dksX0_tender_1 18 rfl rfl)
theorem dX0_tender_43 : decode cX0_tender 43 = .ok (.iastore, 1) := dk_79 (dk_at dksX0_tender_1 19 rfl rfl)
theorem dX0_tender_44 : decode cX0_tender 44 = .ok (.iload_n 3, 1) := dk_29 (dk_at dksX0_tender_1 20 rfl rfl)
theorem dX0_tender_45 : decode cX0_tender 45 = .ok (.ireturn, 1) := dk_172 (dk_at dksX0_tender_1 21 rfl rfl)
abbrev cX0_day : ByteArray := prog_1_method_25_code
def yX0_day : MethodName := ⟨RX0, "day", "()I"⟩
def dkwX0_day_1 : List UInt8 := [172, 42, 180, 0, 25, 89, 180, 0, 206, 4, 96, 181, 0, 206, 42, 180, 0, 25, 180, 0, 206, 172]
abbrev dktX0_day_1 : List UInt8 := dkwX0_day_1 ++ []
def dkwX0_day_0 : List UInt8 := [42, 182, 0, 96, 154, 0, 6, 16, 153, 172, 42, 180, 0, 25, 180, 0, 206, 16, 99, 160, 0, 6, 16, 152]
abbrev dktX0_day_0 : List UInt8 := dkwX0_day_0 ++ dktX0_day_1
theorem dksX0_day_0 : cX0_day.data.toList.drop 0 = dktX0_day_0 := by decide +kernel
theorem dksX0_day_1 : cX0_day.data.toList.drop 24 = dktX0_day_1 := dk_seg dksX0_day_0 24 rfl rfl
theorem dX0_day_0 : decode cX0_day 0 = .ok (.aload_n 0, 1) := dk_42 (dk_at dksX0_day_0 0 rfl rfl)
theorem dX0_day_1 : decode cX0_day 1 = .ok (.invokevirtual 96, 3) := dk_182 0 96 (dk_at dksX0_day_0 1 rfl rfl)
theorem dX0_day_4 : decode cX0_day 4 = .ok (.ifCond .ne 6, 3) := dk_154 0 6 (dk_at dksX0_day_0 4 rfl rfl)
theorem dX0_day_7 : decode cX0_day 7 = .ok (.bipush (-103), 2) := dk_16 153 (dk_at dksX0_day_0 7 rfl rfl)
theorem dX0_day_9 : decode cX0_day 9 = .ok (.ireturn, 1) := dk_172 (dk_at dksX0_day_0 9 rfl rfl)
theorem dX0_day_10 : decode cX0_day 10 = .ok (.aload_n 0, 1) := dk_42 (dk_at dksX0_day_0 10 rfl rfl)
theorem dX0_day_11 : decode cX0_day 11 = .ok (.getfield 25, 3) := dk_180 0 25 (dk_at dksX0_day_0 11 rfl rfl)
theorem dX0_day_14 : decode cX0_day 14 = .ok (.getfield 206, 3) := dk_180 0 206 (dk_at dksX0_day_0 14 rfl rfl)
theorem dX0_day_17 : decode cX0_day 17 = .ok (.bipush 99, 2) := dk_16 99 (dk_at dksX0_day_0 17 rfl rfl)
theorem dX0_day_19 : decode cX0_day 19 = .ok (.if_icmp .ne 6, 3) := dk_160 0 6 (dk_at dksX0_day_0 19 rfl rfl)
theorem dX0_day_22 : decode cX0_day 22 = .ok (.bipush (-104), 2) := dk_16 152 (dk_at dksX0_day_0 22 rfl rfl)
theorem dX0_day_24 : decode cX0_day 24 = .ok (.ireturn, 1) := dk_172 (dk_at dksX0_day_1 0 rfl rfl)
theorem dX0_day_25 : decode cX0_day 25 = .ok (.aload_n 0, 1) := dk_42 (dk_at dksX0_day_1 1 rfl rfl)
theorem dX0_day_26 : decode cX0_day 26 = .ok (.getfield 25, 3) := dk_180 0 25 (dk_at dksX0_day_1 2 rfl rfl)
theorem dX0_day_29 : decode cX0_day 29 = .ok (.dup, 1) := dk_89 (dk_at dksX0_day_1 5 rfl rfl)
theorem dX0_day_30 : decode cX0_day 30 = .ok (.getfield 206, 3) := dk_180 0 206 (dk_at dksX0_day_1 6 rfl rfl)
theorem dX0_day_33 : decode cX0_day 33 = .ok (.iconst 1, 1) := dk_4 (dk_at dksX0_day_1 9 rfl rfl)
theorem dX0_day_34 : decode cX0_day 34 = .ok (.iadd, 1) := dk_96 (dk_at dksX0_day_1 10 rfl rfl)
theorem dX0_day_35 : decode cX0_day 35 = .ok (.putfield 206, 3) := dk_181 0 206 (dk_at dksX0_day_1 11 rfl rfl)
theorem dX0_day_38 : decode cX0_day 38 = .ok (.aload_n 0, 1) := dk_42 (dk_at dksX0_day_1 14 rfl rfl)
theorem dX0_day_39 : decode cX0_day 39 = .ok (.getfield 25, 3) := dk_180 0 25 (dk_at dksX0_day_1 15 rfl rfl)
theorem dX0_day_42 : decode cX0_day 42 = .ok (.getfield 206, 3) := dk_180 0 206 (dk_at dksX0_day_1 18 rfl rfl)
theorem dX0_day_45 : decode cX0_day 45 = .ok (.ireturn, 1) := dk_172 (dk_at dksX0_day_1 21 rfl rfl)
abbrev cX0_isTown : ByteArray := prog_1_method_8_code
def yX0_isTown : MethodName := ⟨RX0, "isTown", "()Z"⟩
def dkwX0_isTown_0 : List UInt8 := [42, 180, 0, 88, 158, 0, 7, 4, 167, 0, 4, 3, 172]
abbrev dktX0_isTown_0 : List UInt8 := dkwX0_isTown_0 ++ []
theorem dksX0_isTown_0 : cX0_isTown.data.toList.drop 0 = dktX0_isTown_0 := by decide +kernel
theorem dX0_isTown_0 : decode cX0_isTown 0 = .ok (.aload_n 0, 1) := dk_42 (dk_at dksX0_isTown_0 0 rfl rfl)
theorem dX0_isTown_1 : decode cX0_isTown 1 = .ok (.getfield 88, 3) := dk_180 0 88 (dk_at dksX0_isTown_0 1 rfl rfl)
theorem dX0_isTown_4 : decode cX0_isTown 4 = .ok (.ifCond .le 7, 3) := dk_158 0 7 (dk_at dksX0_isTown_0 4 rfl rfl)
theorem dX0_isTown_7 : decode cX0_isTown 7 = .ok (.iconst 1, 1) := dk_4 (dk_at dksX0_isTown_0 7 rfl rfl)
theorem dX0_isTown_8 : decode cX0_isTown 8 = .ok (.goto 4, 3) := dk_167 0 4 (dk_at dksX0_isTown_0 8 rfl rfl)
theorem dX0_isTown_11 : decode cX0_isTown 11 = .ok (.iconst 0, 1) := dk_3 (dk_at dksX0_isTown_0 11 rfl rfl)
theorem dX0_isTown_12 : decode cX0_isTown 12 = .ok (.ireturn, 1) := dk_172 (dk_at dksX0_isTown_0 12 rfl rfl)
abbrev cX0_way : ByteArray := prog_1_method_27_code
def yX0_way : MethodName := ⟨RX0, "way", "(IIII)I"⟩
def dkwX0_way_2 : List UInt8 := [16, 154, 172]
abbrev dktX0_way_2 : List UInt8 := dkwX0_way_2 ++ []
def dkwX0_way_1 : List UInt8 := [21, 4, 16, 10, 16, 16, 184, 0, 3, 153, 0, 15, 42, 27, 28, 29, 21, 4, 182, 0, 231, 167, 0, 5]
abbrev dktX0_way_1 : List UInt8 := dkwX0_way_1 ++ dktX0_way_2
def dkwX0_way_0 : List UInt8 := [42, 27, 28, 29, 182, 0, 228, 154, 0, 6, 16, 155, 172, 21, 4, 3, 5, 184, 0, 3, 154, 0, 15]
abbrev dktX0_way_0 : List UInt8 := dkwX0_way_0 ++ dktX0_way_1
theorem dksX0_way_0 : cX0_way.data.toList.drop 0 = dktX0_way_0 := by decide +kernel
theorem dksX0_way_1 : cX0_way.data.toList.drop 23 = dktX0_way_1 := dk_seg dksX0_way_0 23 rfl rfl
theorem dksX0_way_2 : cX0_way.data.toList.drop 47 = dktX0_way_2 := dk_seg dksX0_way_1 24 rfl rfl
theorem dX0_way_0 : decode cX0_way 0 = .ok (.aload_n 0, 1) := dk_42 (dk_at dksX0_way_0 0 rfl rfl)
theorem dX0_way_1 : decode cX0_way 1 = .ok (.iload_n 1, 1) := dk_27 (dk_at dksX0_way_0 1 rfl rfl)
theorem dX0_way_2 : decode cX0_way 2 = .ok (.iload_n 2, 1) := dk_28 (dk_at dksX0_way_0 2 rfl rfl)
theorem dX0_way_3 : decode cX0_way 3 = .ok (.iload_n 3, 1) := dk_29 (dk_at dksX0_way_0 3 rfl rfl)
theorem dX0_way_4 : decode cX0_way 4 = .ok (.invokevirtual 228, 3) := dk_182 0 228 (dk_at dksX0_way_0 4 rfl rfl)
theorem dX0_way_7 : decode cX0_way 7 = .ok (.ifCond .ne 6, 3) := dk_154 0 6 (dk_at dksX0_way_0 7 rfl rfl)
theorem dX0_way_10 : decode cX0_way 10 = .ok (.bipush (-101), 2) := dk_16 155 (dk_at dksX0_way_0 10 rfl rfl)
theorem dX0_way_12 : decode cX0_way 12 = .ok (.ireturn, 1) := dk_172 (dk_at dksX0_way_0 12 rfl rfl)
theorem dX0_way_13 : decode cX0_way 13 = .ok (.iload 4, 2) := dk_21 4 (dk_at dksX0_way_0 13 rfl rfl)
theorem dX0_way_15 : decode cX0_way 15 = .ok (.iconst 0, 1) := dk_3 (dk_at dksX0_way_0 15 rfl rfl)
theorem dX0_way_16 : decode cX0_way 16 = .ok (.iconst 2, 1) := dk_5 (dk_at dksX0_way_0 16 rfl rfl)
theorem dX0_way_17 : decode cX0_way 17 = .ok (.invokestatic 3, 3) := dk_184 0 3 (dk_at dksX0_way_0 17 rfl rfl)
theorem dX0_way_20 : decode cX0_way 20 = .ok (.ifCond .ne 15, 3) := dk_154 0 15 (dk_at dksX0_way_0 20 rfl rfl)
theorem dX0_way_23 : decode cX0_way 23 = .ok (.iload 4, 2) := dk_21 4 (dk_at dksX0_way_1 0 rfl rfl)
theorem dX0_way_25 : decode cX0_way 25 = .ok (.bipush 10, 2) := dk_16 10 (dk_at dksX0_way_1 2 rfl rfl)
theorem dX0_way_27 : decode cX0_way 27 = .ok (.bipush 16, 2) := dk_16 16 (dk_at dksX0_way_1 4 rfl rfl)
theorem dX0_way_29 : decode cX0_way 29 = .ok (.invokestatic 3, 3) := dk_184 0 3 (dk_at dksX0_way_1 6 rfl rfl)
theorem dX0_way_32 : decode cX0_way 32 = .ok (.ifCond .eq 15, 3) := dk_153 0 15 (dk_at dksX0_way_1 9 rfl rfl)
theorem dX0_way_35 : decode cX0_way 35 = .ok (.aload_n 0, 1) := dk_42 (dk_at dksX0_way_1 12 rfl rfl)
theorem dX0_way_36 : decode cX0_way 36 = .ok (.iload_n 1, 1) := dk_27 (dk_at dksX0_way_1 13 rfl rfl)
theorem dX0_way_37 : decode cX0_way 37 = .ok (.iload_n 2, 1) := dk_28 (dk_at dksX0_way_1 14 rfl rfl)
theorem dX0_way_38 : decode cX0_way 38 = .ok (.iload_n 3, 1) := dk_29 (dk_at dksX0_way_1 15 rfl rfl)
theorem dX0_way_39 : decode cX0_way 39 = .ok (.iload 4, 2) := dk_21 4 (dk_at dksX0_way_1 16 rfl rfl)
theorem dX0_way_41 : decode cX0_way 41 = .ok (.invokevirtual 231, 3) := dk_182 0 231 (dk_at dksX0_way_1 18 rfl rfl)
theorem dX0_way_44 : decode cX0_way 44 = .ok (.goto 5, 3) := dk_167 0 5 (dk_at dksX0_way_1 21 rfl rfl)
theorem dX0_way_47 : decode cX0_way 47 = .ok (.bipush (-102), 2) := dk_16 154 (dk_at dksX0_way_2 0 rfl rfl)
theorem dX0_way_49 : decode cX0_way 49 = .ok (.ireturn, 1) := dk_172 (dk_at dksX0_way_2 2 rfl rfl)
abbrev cX0_isWay : ByteArray := prog_1_method_10_code
def yX0_isWay : MethodName := ⟨RX0, "isWay", "(III)Z"⟩
def dkwX0_isWay_1 : List UInt8 := [167, 0, 4, 3, 172]
abbrev dktX0_isWay_1 : List UInt8 := dkwX0_isWay_1 ++ []
def dkwX0_isWay_0 : List UInt8 := [42, 27, 182, 0, 100, 153, 0, 21, 28, 184, 0, 104, 153, 0, 14, 29, 184, 0, 104, 153, 0, 7, 4]
abbrev dktX0_isWay_0 : List UInt8 := dkwX0_isWay_0 ++ dktX0_isWay_1
theorem dksX0_isWay_0 : cX0_isWay.data.toList.drop 0 = dktX0_isWay_0 := by decide +kernel
theorem dksX0_isWay_1 : cX0_isWay.data.toList.drop 23 = dktX0_isWay_1 := dk_seg dksX0_isWay_0 23 rfl rfl
theorem dX0_isWay_0 : decode cX0_isWay 0 = .ok (.aload_n 0, 1) := dk_42 (dk_at dksX0_isWay_0 0 rfl rfl)
theorem dX0_isWay_1 : decode cX0_isWay 1 = .ok (.iload_n 1, 1) := dk_27 (dk_at dksX0_isWay_0 1 rfl rfl)
theorem dX0_isWay_2 : decode cX0_isWay 2 = .ok (.invokevirtual 100, 3) := dk_182 0 100 (dk_at dksX0_isWay_0 2 rfl rfl)
theorem dX0_isWay_5 : decode cX0_isWay 5 = .ok (.ifCond .eq 21, 3) := dk_153 0 21 (dk_at dksX0_isWay_0 5 rfl rfl)
theorem dX0_isWay_8 : decode cX0_isWay 8 = .ok (.iload_n 2, 1) := dk_28 (dk_at dksX0_isWay_0 8 rfl rfl)
theorem dX0_isWay_9 : decode cX0_isWay 9 = .ok (.invokestatic 104, 3) := dk_184 0 104 (dk_at dksX0_isWay_0 9 rfl rfl)
theorem dX0_isWay_12 : decode cX0_isWay 12 = .ok (.ifCond .eq 14, 3) := dk_153 0 14 (dk_at dksX0_isWay_0 12 rfl rfl)
theorem dX0_isWay_15 : decode cX0_isWay 15 = .ok (.iload_n 3, 1) := dk_29 (dk_at dksX0_isWay_0 15 rfl rfl)
theorem dX0_isWay_16 : decode cX0_isWay 16 = .ok (.invokestatic 104, 3) := dk_184 0 104 (dk_at dksX0_isWay_0 16 rfl rfl)
theorem dX0_isWay_19 : decode cX0_isWay 19 = .ok (.ifCond .eq 7, 3) := dk_153 0 7 (dk_at dksX0_isWay_0 19 rfl rfl)
theorem dX0_isWay_22 : decode cX0_isWay 22 = .ok (.iconst 1, 1) := dk_4 (dk_at dksX0_isWay_0 22 rfl rfl)
theorem dX0_isWay_23 : decode cX0_isWay 23 = .ok (.goto 4, 3) := dk_167 0 4 (dk_at dksX0_isWay_1 0 rfl rfl)
theorem dX0_isWay_26 : decode cX0_isWay 26 = .ok (.iconst 0, 1) := dk_3 (dk_at dksX0_isWay_1 3 rfl rfl)
theorem dX0_isWay_27 : decode cX0_isWay 27 = .ok (.ireturn, 1) := dk_172 (dk_at dksX0_isWay_1 4 rfl rfl)
abbrev cX0_isCorner : ByteArray := prog_1_method_3_code
def yX0_isCorner : MethodName := ⟨RX0, "isCorner", "(I)Z"⟩
def dkwX0_isCorner_0 : List UInt8 := [26, 3, 16, 7, 184, 0, 3, 172]
abbrev dktX0_isCorner_0 : List UInt8 := dkwX0_isCorner_0 ++ []
theorem dksX0_isCorner_0 : cX0_isCorner.data.toList.drop 0 = dktX0_isCorner_0 := by decide +kernel
theorem dX0_isCorner_0 : decode cX0_isCorner 0 = .ok (.iload_n 0, 1) := dk_26 (dk_at dksX0_isCorner_0 0 rfl rfl)
theorem dX0_isCorner_1 : decode cX0_isCorner 1 = .ok (.iconst 0, 1) := dk_3 (dk_at dksX0_isCorner_0 1 rfl rfl)
theorem dX0_isCorner_2 : decode cX0_isCorner 2 = .ok (.bipush 7, 2) := dk_16 7 (dk_at dksX0_isCorner_0 2 rfl rfl)
theorem dX0_isCorner_4 : decode cX0_isCorner 4 = .ok (.invokestatic 3, 3) := dk_184 0 3 (dk_at dksX0_isCorner_0 4 rfl rfl)
theorem dX0_isCorner_7 : decode cX0_isCorner 7 = .ok (.ireturn, 1) := dk_172 (dk_at dksX0_isCorner_0 7 rfl rfl)
abbrev cX0_wayTold : ByteArray := prog_1_method_26_code
def yX0_wayTold : MethodName := ⟨RX0, "wayTold", "(IIII)I"⟩
def dkwX0_wayTold_4 : List UInt8 := [16, 10, 100, 46, 167, 0, 4, 2, 172]
abbrev dktX0_wayTold_4 : List UInt8 := dkwX0_wayTold_4 ++ []
def dkwX0_wayTold_3 : List UInt8 := [21, 4, 16, 10, 100, 42, 180, 0, 25, 180, 0, 222, 162, 0, 19, 42, 180, 0, 25, 180, 0, 225, 21, 4]
abbrev dktX0_wayTold_3 : List UInt8 := dkwX0_wayTold_3 ++ dktX0_wayTold_4
def dkwX0_wayTold_2 : List UInt8 := [42, 180, 0, 25, 180, 0, 216, 172, 42, 180, 0, 25, 180, 0, 219, 172, 42, 180, 0, 25, 180, 0, 222, 172]
abbrev dktX0_wayTold_2 : List UInt8 := dkwX0_wayTold_2 ++ dktX0_wayTold_3
def dkwX0_wayTold_1 : List UInt8 := [170, 0, 0, 0, 0, 0, 51, 0, 0, 0, 0, 0, 0, 0, 2, 0, 0, 0, 27, 0, 0, 0, 35, 0, 0, 0, 43]
abbrev dktX0_wayTold_1 : List UInt8 := dkwX0_wayTold_1 ++ dktX0_wayTold_2
def dkwX0_wayTold_0 : List UInt8 := [42, 180, 0, 25, 27, 28, 29, 42, 182, 0, 209, 182, 0, 212, 154, 0, 5, 2, 172, 21, 4]
abbrev dktX0_wayTold_0 : List UInt8 := dkwX0_wayTold_0 ++ dktX0_wayTold_1
theorem dksX0_wayTold_0 : cX0_wayTold.data.toList.drop 0 = dktX0_wayTold_0 := by decide +kernel
theorem dksX0_wayTold_1 : cX0_wayTold.data.toList.drop 21 = dktX0_wayTold_1 := dk_seg dksX0_wayTold_0 21 rfl rfl
theorem dksX0_wayTold_2 : cX0_wayTold.data.toList.drop 48 = dktX0_wayTold_2 := dk_seg dksX0_wayTold_1 27 rfl rfl
theorem dksX0_wayTold_3 : cX0_wayTold.data.toList.drop 72 = dktX0_wayTold_3 := dk_seg dksX0_wayTold_2 24 rfl rfl
theorem dksX0_wayTold_4 : cX0_wayTold.data.toList.drop 96 = dktX0_wayTold_4 := dk_seg dksX0_wayTold_3 24 rfl rfl
theorem dX0_wayTold_0 : decode cX0_wayTold 0 = .ok (.aload_n 0, 1) := dk_42 (dk_at dksX0_wayTold_0 0 rfl rfl)
theorem dX0_wayTold_1 : decode cX0_wayTold 1 = .ok (.getfield 25, 3) := dk_180 0 25 (dk_at dksX0_wayTold_0 1 rfl rfl)
theorem dX0_wayTold_4 : decode cX0_wayTold 4 = .ok (.iload_n 1, 1) := dk_27 (dk_at dksX0_wayTold_0 4 rfl rfl)
theorem dX0_wayTold_5 : decode cX0_wayTold 5 = .ok (.iload_n 2, 1) := dk_28 (dk_at dksX0_wayTold_0 5 rfl rfl)
theorem dX0_wayTold_6 : decode cX0_wayTold 6 = .ok (.iload_n 3, 1) := dk_29 (dk_at dksX0_wayTold_0 6 rfl rfl)
theorem dX0_wayTold_7 : decode cX0_wayTold 7 = .ok (.aload_n 0, 1) := dk_42 (dk_at dksX0_wayTold_0 7 rfl rfl)
theorem dX0_wayTold_8 : decode cX0_wayTold 8 = .ok (.invokevirtual 209, 3) := dk_182 0 209 (dk_at dksX0_wayTold_0 8 rfl rfl)
theorem dX0_wayTold_11 : decode cX0_wayTold 11 = .ok (.invokevirtual 212, 3) := dk_182 0 212 (dk_at dksX0_wayTold_0 11 rfl rfl)
theorem dX0_wayTold_14 : decode cX0_wayTold 14 = .ok (.ifCond .ne 5, 3) := dk_154 0 5 (dk_at dksX0_wayTold_0 14 rfl rfl)
theorem dX0_wayTold_17 : decode cX0_wayTold 17 = .ok (.iconst (-1), 1) := dk_2 (dk_at dksX0_wayTold_0 17 rfl rfl)
theorem dX0_wayTold_18 : decode cX0_wayTold 18 = .ok (.ireturn, 1) := dk_172 (dk_at dksX0_wayTold_0 18 rfl rfl)
theorem dX0_wayTold_19 : decode cX0_wayTold 19 = .ok (.iload 4, 2) := dk_21 4 (dk_at dksX0_wayTold_0 19 rfl rfl)
theorem dX0_wayTold_21 : decode cX0_wayTold 21 = .ok (.tableswitch 51 0 2 #[27, 35, 43], 27) := by decide +kernel
theorem dX0_wayTold_48 : decode cX0_wayTold 48 = .ok (.aload_n 0, 1) := dk_42 (dk_at dksX0_wayTold_2 0 rfl rfl)
theorem dX0_wayTold_49 : decode cX0_wayTold 49 = .ok (.getfield 25, 3) := dk_180 0 25 (dk_at dksX0_wayTold_2 1 rfl rfl)
theorem dX0_wayTold_52 : decode cX0_wayTold 52 = .ok (.getfield 216, 3) := dk_180 0 216 (dk_at dksX0_wayTold_2 4 rfl rfl)
theorem dX0_wayTold_55 : decode cX0_wayTold 55 = .ok (.ireturn, 1) := dk_172 (dk_at dksX0_wayTold_2 7 rfl rfl)
theorem dX0_wayTold_56 : decode cX0_wayTold 56 = .ok (.aload_n 0, 1) := dk_42 (dk_at dksX0_wayTold_2 8 rfl rfl)
theorem dX0_wayTold_57 : decode cX0_wayTold 57 = .ok (.getfield 25, 3) := dk_180 0 25 (dk_at dksX0_wayTold_2 9 rfl rfl)
theorem dX0_wayTold_60 : decode cX0_wayTold 60 = .ok (.getfield 219, 3) := dk_180 0 219 (dk_at dksX0_wayTold_2 12 rfl rfl)
theorem dX0_wayTold_63 : decode cX0_wayTold 63 = .ok (.ireturn, 1) := dk_172 (dk_at dksX0_wayTold_2 15 rfl rfl)
theorem dX0_wayTold_64 : decode cX0_wayTold 64 = .ok (.aload_n 0, 1) := dk_42 (dk_at dksX0_wayTold_2 16 rfl rfl)
theorem dX0_wayTold_65 : decode cX0_wayTold 65 = .ok (.getfield 25, 3) := dk_180 0 25 (dk_at dksX0_wayTold_2 17 rfl rfl)
theorem dX0_wayTold_68 : decode cX0_wayTold 68 = .ok (.getfield 222, 3) := dk_180 0 222 (dk_at dksX0_wayTold_2 20 rfl rfl)
theorem dX0_wayTold_71 : decode cX0_wayTold 71 = .ok (.ireturn, 1) := dk_172 (dk_at dksX0_wayTold_2 23 rfl rfl)
theorem dX0_wayTold_72 : decode cX0_wayTold 72 = .ok (.iload 4, 2) := dk_21 4 (dk_at dksX0_wayTold_3 0 rfl rfl)
theorem dX0_wayTold_74 : decode cX0_wayTold 74 = .ok (.bipush 10, 2) := dk_16 10 (dk_at dksX0_wayTold_3 2 rfl rfl)
theorem dX0_wayTold_76 : decode cX0_wayTold 76 = .ok (.isub, 1) := dk_100 (dk_at dksX0_wayTold_3 4 rfl rfl)
theorem dX0_wayTold_77 : decode cX0_wayTold 77 = .ok (.aload_n 0, 1) := dk_42 (dk_at dksX0_wayTold_3 5 rfl rfl)
theorem dX0_wayTold_78 : decode cX0_wayTold 78 = .ok (.getfield 25, 3) := dk_180 0 25 (dk_at dksX0_wayTold_3 6 rfl rfl)
theorem dX0_wayTold_81 : decode cX0_wayTold 81 = .ok (.getfield 222, 3) := dk_180 0 222 (dk_at dksX0_wayTold_3 9 rfl rfl)
theorem dX0_wayTold_84 : decode cX0_wayTold 84 = .ok (.if_icmp .ge 19, 3) := dk_162 0 19 (dk_at dksX0_wayTold_3 12 rfl rfl)
theorem dX0_wayTold_87 : decode cX0_wayTold 87 = .ok (.aload_n 0, 1) := dk_42 (dk_at dksX0_wayTold_3 15 rfl rfl)
theorem dX0_wayTold_88 : decode cX0_wayTold 88 = .ok (.getfield 25, 3) := dk_180 0 25 (dk_at dksX0_wayTold_3 16 rfl rfl)
theorem dX0_wayTold_91 : decode cX0_wayTold 91 = .ok (.getfield 225, 3) := dk_180 0 225 (dk_at dksX0_wayTold_3 19 rfl rfl)
theorem dX0_wayTold_94 : decode cX0_wayTold 94 = .ok (.iload 4, 2) := dk_21 4 (dk_at dksX0_wayTold_3 22 rfl rfl)
theorem dX0_wayTold_96 : decode cX0_wayTold 96 = .ok (.bipush 10, 2) := dk_16 10 (dk_at dksX0_wayTold_4 0 rfl rfl)
theorem dX0_wayTold_98 : decode cX0_wayTold 98 = .ok (.isub, 1) := dk_100 (dk_at dksX0_wayTold_4 2 rfl rfl)
theorem dX0_wayTold_99 : decode cX0_wayTold 99 = .ok (.iaload, 1) := dk_46 (dk_at dksX0_wayTold_4 3 rfl rfl)
theorem dX0_wayTold_100 : decode cX0_wayTold 100 = .ok (.goto 4, 3) := dk_167 0 4 (dk_at dksX0_wayTold_4 4 rfl rfl)
theorem dX0_wayTold_103 : decode cX0_wayTold 103 = .ok (.iconst (-1), 1) := dk_2 (dk_at dksX0_wayTold_4 7 rfl rfl)
theorem dX0_wayTold_104 : decode cX0_wayTold 104 = .ok (.ireturn, 1) := dk_172 (dk_at dksX0_wayTold_4 8 rfl rfl)
abbrev cX0_within : ByteArray := prog_1_method_31_code
def yX0_within : MethodName := ⟨RX0, "within", "(IIII)I"⟩
def dkwX0_within_1 : List UInt8 := [42, 27, 28, 29, 21, 4, 182, 0, 249, 167, 0, 5, 16, 154, 172]
abbrev dktX0_within_1 : List UInt8 := dkwX0_within_1 ++ []
def dkwX0_within_0 : List UInt8 := [42, 27, 28, 29, 182, 0, 228, 154, 0, 6, 16, 155, 172, 21, 4, 3, 16, 81, 184, 0, 3, 153, 0, 15]
abbrev dktX0_within_0 : List UInt8 := dkwX0_within_0 ++ dktX0_within_1
theorem dksX0_within_0 : cX0_within.data.toList.drop 0 = dktX0_within_0 := by decide +kernel
theorem dksX0_within_1 : cX0_within.data.toList.drop 24 = dktX0_within_1 := dk_seg dksX0_within_0 24 rfl rfl
theorem dX0_within_0 : decode cX0_within 0 = .ok (.aload_n 0, 1) := dk_42 (dk_at dksX0_within_0 0 rfl rfl)
theorem dX0_within_1 : decode cX0_within 1 = .ok (.iload_n 1, 1) := dk_27 (dk_at dksX0_within_0 1 rfl rfl)
theorem dX0_within_2 : decode cX0_within 2 = .ok (.iload_n 2, 1) := dk_28 (dk_at dksX0_within_0 2 rfl rfl)
theorem dX0_within_3 : decode cX0_within 3 = .ok (.iload_n 3, 1) := dk_29 (dk_at dksX0_within_0 3 rfl rfl)
theorem dX0_within_4 : decode cX0_within 4 = .ok (.invokevirtual 228, 3) := dk_182 0 228 (dk_at dksX0_within_0 4 rfl rfl)
theorem dX0_within_7 : decode cX0_within 7 = .ok (.ifCond .ne 6, 3) := dk_154 0 6 (dk_at dksX0_within_0 7 rfl rfl)
theorem dX0_within_10 : decode cX0_within 10 = .ok (.bipush (-101), 2) := dk_16 155 (dk_at dksX0_within_0 10 rfl rfl)
theorem dX0_within_12 : decode cX0_within 12 = .ok (.ireturn, 1) := dk_172 (dk_at dksX0_within_0 12 rfl rfl)
theorem dX0_within_13 : decode cX0_within 13 = .ok (.iload 4, 2) := dk_21 4 (dk_at dksX0_within_0 13 rfl rfl)
theorem dX0_within_15 : decode cX0_within 15 = .ok (.iconst 0, 1) := dk_3 (dk_at dksX0_within_0 15 rfl rfl)
theorem dX0_within_16 : decode cX0_within 16 = .ok (.bipush 81, 2) := dk_16 81 (dk_at dksX0_within_0 16 rfl rfl)
theorem dX0_within_18 : decode cX0_within 18 = .ok (.invokestatic 3, 3) := dk_184 0 3 (dk_at dksX0_within_0 18 rfl rfl)
theorem dX0_within_21 : decode cX0_within 21 = .ok (.ifCond .eq 15, 3) := dk_153 0 15 (dk_at dksX0_within_0 21 rfl rfl)
theorem dX0_within_24 : decode cX0_within 24 = .ok (.aload_n 0, 1) := dk_42 (dk_at dksX0_within_1 0 rfl rfl)
theorem dX0_within_25 : decode cX0_within 25 = .ok (.iload_n 1, 1) := dk_27 (dk_at dksX0_within_1 1 rfl rfl)
theorem dX0_within_26 : decode cX0_within 26 = .ok (.iload_n 2, 1) := dk_28 (dk_at dksX0_within_1 2 rfl rfl)
theorem dX0_within_27 : decode cX0_within 27 = .ok (.iload_n 3, 1) := dk_29 (dk_at dksX0_within_1 3 rfl rfl)
theorem dX0_within_28 : decode cX0_within 28 = .ok (.iload 4, 2) := dk_21 4 (dk_at dksX0_within_1 4 rfl rfl)
theorem dX0_within_30 : decode cX0_within 30 = .ok (.invokevirtual 249, 3) := dk_182 0 249 (dk_at dksX0_within_1 6 rfl rfl)
theorem dX0_within_33 : decode cX0_within 33 = .ok (.goto 5, 3) := dk_167 0 5 (dk_at dksX0_within_1 9 rfl rfl)
theorem dX0_within_36 : decode cX0_within 36 = .ok (.bipush (-102), 2) := dk_16 154 (dk_at dksX0_within_1 12 rfl rfl)
theorem dX0_within_38 : decode cX0_within 38 = .ok (.ireturn, 1) := dk_172 (dk_at dksX0_within_1 14 rfl rfl)
abbrev cX0_withinTold : ByteArray := prog_1_method_30_code
def yX0_withinTold : MethodName := ⟨RX0, "withinTold", "(IIII)I"⟩
def dkwX0_withinTold_2 : List UInt8 := [18, 240, 161, 0, 7, 2, 167, 0, 5, 21, 5, 172]
abbrev dktX0_withinTold_2 : List UInt8 := dkwX0_withinTold_2 ++ []
def dkwX0_withinTold_1 : List UInt8 := [180, 0, 39, 16, 8, 21, 6, 104, 29, 96, 46, 184, 0, 235, 54, 5, 132, 6, 1, 167, 255, 227, 21, 5]
abbrev dktX0_withinTold_1 : List UInt8 := dkwX0_withinTold_1 ++ dktX0_withinTold_2
def dkwX0_withinTold_0 : List UInt8 := [42, 27, 28, 182, 0, 245, 18, 240, 54, 5, 3, 54, 6, 21, 6, 21, 4, 163, 0, 28, 21, 5, 42]
abbrev dktX0_withinTold_0 : List UInt8 := dkwX0_withinTold_0 ++ dktX0_withinTold_1
theorem dksX0_withinTold_0 : cX0_withinTold.data.toList.drop 0 = dktX0_withinTold_0 := by decide +kernel
theorem dksX0_withinTold_1 : cX0_withinTold.data.toList.drop 23 = dktX0_withinTold_1 := dk_seg dksX0_withinTold_0 23 rfl rfl
theorem dksX0_withinTold_2 : cX0_withinTold.data.toList.drop 47 = dktX0_withinTold_2 := dk_seg dksX0_withinTold_1 24 rfl rfl
theorem dX0_withinTold_0 : decode cX0_withinTold 0 = .ok (.aload_n 0, 1) := dk_42 (dk_at dksX0_withinTold_0 0 rfl rfl)
theorem dX0_withinTold_1 : decode cX0_withinTold 1 = .ok (.iload_n 1, 1) := dk_27 (dk_at dksX0_withinTold_0 1 rfl rfl)
theorem dX0_withinTold_2 : decode cX0_withinTold 2 = .ok (.iload_n 2, 1) := dk_28 (dk_at dksX0_withinTold_0 2 rfl rfl)
theorem dX0_withinTold_3 : decode cX0_withinTold 3 = .ok (.invokevirtual 245, 3) := dk_182 0 245 (dk_at dksX0_withinTold_0 3 rfl rfl)
theorem dX0_withinTold_6 : decode cX0_withinTold 6 = .ok (.ldc 240, 2) := dk_18 240 (dk_at dksX0_withinTold_0 6 rfl rfl)
theorem dX0_withinTold_8 : decode cX0_withinTold 8 = .ok (.istore 5, 2) := dk_54 5 (dk_at dksX0_withinTold_0 8 rfl rfl)
theorem dX0_withinTold_10 : decode cX0_withinTold 10 = .ok (.iconst 0, 1) := dk_3 (dk_at dksX0_withinTold_0 10 rfl rfl)
theorem dX0_withinTold_11 : decode cX0_withinTold 11 = .ok (.istore 6, 2) := dk_54 6 (dk_at dksX0_withinTold_0 11 rfl rfl)
theorem dX0_withinTold_13 : decode cX0_withinTold 13 = .ok (.iload 6, 2) := dk_21 6 (dk_at dksX0_withinTold_0 13 rfl rfl)
theorem dX0_withinTold_15 : decode cX0_withinTold 15 = .ok (.iload 4, 2) := dk_21 4 (dk_at dksX0_withinTold_0 15 rfl rfl)
theorem dX0_withinTold_17 : decode cX0_withinTold 17 = .ok (.if_icmp .gt 28, 3) := dk_163 0 28 (dk_at dksX0_withinTold_0 17 rfl rfl)
theorem dX0_withinTold_20 : decode cX0_withinTold 20 = .ok (.iload 5, 2) := dk_21 5 (dk_at dksX0_withinTold_0 20 rfl rfl)
theorem dX0_withinTold_22 : decode cX0_withinTold 22 = .ok (.aload_n 0, 1) := dk_42 (dk_at dksX0_withinTold_0 22 rfl rfl)
theorem dX0_withinTold_23 : decode cX0_withinTold 23 = .ok (.getfield 39, 3) := dk_180 0 39 (dk_at dksX0_withinTold_1 0 rfl rfl)
theorem dX0_withinTold_26 : decode cX0_withinTold 26 = .ok (.bipush 8, 2) := dk_16 8 (dk_at dksX0_withinTold_1 3 rfl rfl)
theorem dX0_withinTold_28 : decode cX0_withinTold 28 = .ok (.iload 6, 2) := dk_21 6 (dk_at dksX0_withinTold_1 5 rfl rfl)
theorem dX0_withinTold_30 : decode cX0_withinTold 30 = .ok (.imul, 1) := dk_104 (dk_at dksX0_withinTold_1 7 rfl rfl)
theorem dX0_withinTold_31 : decode cX0_withinTold 31 = .ok (.iload_n 3, 1) := dk_29 (dk_at dksX0_withinTold_1 8 rfl rfl)
theorem dX0_withinTold_32 : decode cX0_withinTold 32 = .ok (.iadd, 1) := dk_96 (dk_at dksX0_withinTold_1 9 rfl rfl)
theorem dX0_withinTold_33 : decode cX0_withinTold 33 = .ok (.iaload, 1) := dk_46 (dk_at dksX0_withinTold_1 10 rfl rfl)
theorem dX0_withinTold_34 : decode cX0_withinTold 34 = .ok (.invokestatic 235, 3) := dk_184 0 235 (dk_at dksX0_withinTold_1 11 rfl rfl)
theorem dX0_withinTold_37 : decode cX0_withinTold 37 = .ok (.istore 5, 2) := dk_54 5 (dk_at dksX0_withinTold_1 14 rfl rfl)
theorem dX0_withinTold_39 : decode cX0_withinTold 39 = .ok (.iinc 6 1, 3) := dk_132 6 1 (dk_at dksX0_withinTold_1 16 rfl rfl)
theorem dX0_withinTold_42 : decode cX0_withinTold 42 = .ok (.goto (-29), 3) := dk_167 255 227 (dk_at dksX0_withinTold_1 19 rfl rfl)
theorem dX0_withinTold_45 : decode cX0_withinTold 45 = .ok (.iload 5, 2) := dk_21 5 (dk_at dksX0_withinTold_1 22 rfl rfl)
theorem dX0_withinTold_47 : decode cX0_withinTold 47 = .ok (.ldc 240, 2) := dk_18 240 (dk_at dksX0_withinTold_2 0 rfl rfl)
theorem dX0_withinTold_49 : decode cX0_withinTold 49 = .ok (.if_icmp .lt 7, 3) := dk_161 0 7 (dk_at dksX0_withinTold_2 2 rfl rfl)
theorem dX0_withinTold_52 : decode cX0_withinTold 52 = .ok (.iconst (-1), 1) := dk_2 (dk_at dksX0_withinTold_2 5 rfl rfl)
theorem dX0_withinTold_53 : decode cX0_withinTold 53 = .ok (.goto 5, 3) := dk_167 0 5 (dk_at dksX0_withinTold_2 6 rfl rfl)
theorem dX0_withinTold_56 : decode cX0_withinTold 56 = .ok (.iload 5, 2) := dk_21 5 (dk_at dksX0_withinTold_2 9 rfl rfl)
theorem dX0_withinTold_58 : decode cX0_withinTold 58 = .ok (.ireturn, 1) := dk_172 (dk_at dksX0_withinTold_2 11 rfl rfl)
abbrev cX0_layLengths : ByteArray := prog_1_method_29_code
def yX0_layLengths : MethodName := ⟨RX0, "layLengths", "(II)V"⟩
def dkwX0_layLengths_7 : List UInt8 := [167, 255, 124, 177]
abbrev dktX0_layLengths_7 : List UInt8 := dkwX0_layLengths_7 ++ []
def dkwX0_layLengths_6 : List UInt8 := [180, 0, 25, 27, 21, 4, 182, 0, 203, 96, 182, 0, 241, 132, 4, 1, 167, 255, 139, 132, 3, 1]
abbrev dktX0_layLengths_6 : List UInt8 := dkwX0_layLengths_6 ++ dktX0_layLengths_7
def dkwX0_layLengths_5 : List UInt8 := [42, 29, 25, 5, 180, 0, 185, 42, 180, 0, 39, 16, 8, 21, 6, 104, 25, 5, 180, 0, 182, 96, 46, 42]
abbrev dktX0_layLengths_5 : List UInt8 := dkwX0_layLengths_5 ++ dktX0_layLengths_6
def dkwX0_layLengths_4 : List UInt8 := [21, 6, 104, 25, 5, 180, 0, 185, 96, 46, 42, 180, 0, 25, 27, 21, 4, 182, 0, 203, 96, 182, 0, 241]
abbrev dktX0_layLengths_4 : List UInt8 := dkwX0_layLengths_4 ++ dktX0_layLengths_5
def dkwX0_layLengths_3 : List UInt8 := [180, 0, 188, 100, 54, 6, 21, 6, 155, 0, 77, 42, 29, 25, 5, 180, 0, 182, 42, 180, 0, 39, 16, 8]
abbrev dktX0_layLengths_3 : List UInt8 := dkwX0_layLengths_3 ++ dktX0_layLengths_4
def dkwX0_layLengths_2 : List UInt8 := [182, 0, 92, 162, 0, 111, 42, 180, 0, 16, 21, 4, 182, 0, 126, 192, 0, 85, 58, 5, 29, 25, 5]
abbrev dktX0_layLengths_2 : List UInt8 := dkwX0_layLengths_2 ++ dktX0_layLengths_3
def dkwX0_layLengths_1 : List UInt8 := [180, 0, 39, 28, 3, 79, 4, 62, 29, 16, 81, 163, 0, 132, 3, 54, 4, 21, 4, 42, 180, 0, 16]
abbrev dktX0_layLengths_1 : List UInt8 := dkwX0_layLengths_1 ++ dktX0_layLengths_2
def dkwX0_layLengths_0 : List UInt8 := [3, 62, 29, 17, 2, 144, 162, 0, 17, 42, 180, 0, 39, 29, 18, 240, 79, 132, 3, 1, 167, 255, 238, 42]
abbrev dktX0_layLengths_0 : List UInt8 := dkwX0_layLengths_0 ++ dktX0_layLengths_1
theorem dksX0_layLengths_0 : cX0_layLengths.data.toList.drop 0 = dktX0_layLengths_0 := by decide +kernel
theorem dksX0_layLengths_1 : cX0_layLengths.data.toList.drop 24 = dktX0_layLengths_1 := dk_seg dksX0_layLengths_0 24 rfl rfl
theorem dksX0_layLengths_2 : cX0_layLengths.data.toList.drop 47 = dktX0_layLengths_2 := dk_seg dksX0_layLengths_1 23 rfl rfl
theorem dksX0_layLengths_3 : cX0_layLengths.data.toList.drop 70 = dktX0_layLengths_3 := dk_seg dksX0_layLengths_2 23 rfl rfl
theorem dksX0_layLengths_4 : cX0_layLengths.data.toList.drop 94 = dktX0_layLengths_4 := dk_seg dksX0_layLengths_3 24 rfl rfl
theorem dksX0_layLengths_5 : cX0_layLengths.data.toList.drop 118 = dktX0_layLengths_5 := dk_seg dksX0_layLengths_4 24 rfl rfl
theorem dksX0_layLengths_6 : cX0_layLengths.data.toList.drop 142 = dktX0_layLengths_6 := dk_seg dksX0_layLengths_5 24 rfl rfl
theorem dksX0_layLengths_7 : cX0_layLengths.data.toList.drop 164 = dktX0_layLengths_7 := dk_seg dksX0_layLengths_6 22 rfl rfl
theorem dX0_layLengths_0 : decode cX0_layLengths 0 = .ok (.iconst 0, 1) := dk_3 (dk_at dksX0_layLengths_0 0 rfl rfl)
theorem dX0_layLengths_1 : decode cX0_layLengths 1 = .ok (.istore_n 3, 1) := dk_62 (dk_at dksX0_layLengths_0 1 rfl rfl)
theorem dX0_layLengths_2 : decode cX0_layLengths 2 = .ok (.iload_n 3, 1) := dk_29 (dk_at dksX0_layLengths_0 2 rfl rfl)
theorem dX0_layLengths_3 : decode cX0_layLengths 3 = .ok (.sipush 656, 3) := dk_17 2 144 (dk_at dksX0_layLengths_0 3 rfl rfl)
theorem dX0_layLengths_6 : decode cX0_layLengths 6 = .ok (.if_icmp .ge 17, 3) := dk_162 0 17 (dk_at dksX0_layLengths_0 6 rfl rfl)
theorem dX0_layLengths_9 : decode cX0_layLengths 9 = .ok (.aload_n 0, 1) := dk_42 (dk_at dksX0_layLengths_0 9 rfl rfl)
theorem dX0_layLengths_10 : decode cX0_layLengths 10 = .ok (.getfield 39, 3) := dk_180 0 39 (dk_at dksX0_layLengths_0 10 rfl rfl)
theorem dX0_layLengths_13 : decode cX0_layLengths 13 = .ok (.iload_n 3, 1) := dk_29 (dk_at dksX0_layLengths_0 13 rfl rfl)
theorem dX0_layLengths_14 : decode cX0_layLengths 14 = .ok (.ldc 240, 2) := dk_18 240 (dk_at dksX0_layLengths_0 14 rfl rfl)
theorem dX0_layLengths_16 : decode cX0_layLengths 16 = .ok (.iastore, 1) := dk_79 (dk_at dksX0_layLengths_0 16 rfl rfl)
theorem dX0_layLengths_17 : decode cX0_layLengths 17 = .ok (.iinc 3 1, 3) := dk_132 3 1 (dk_at dksX0_layLengths_0 17 rfl rfl)
theorem dX0_layLengths_20 : decode cX0_layLengths 20 = .ok (.goto (-18), 3) := dk_167 255 238 (dk_at dksX0_layLengths_0 20 rfl rfl)
theorem dX0_layLengths_23 : decode cX0_layLengths 23 = .ok (.aload_n 0, 1) := dk_42 (dk_at dksX0_layLengths_0 23 rfl rfl)
theorem dX0_layLengths_24 : decode cX0_layLengths 24 = .ok (.getfield 39, 3) := dk_180 0 39 (dk_at dksX0_layLengths_1 0 rfl rfl)
theorem dX0_layLengths_27 : decode cX0_layLengths 27 = .ok (.iload_n 2, 1) := dk_28 (dk_at dksX0_layLengths_1 3 rfl rfl)
theorem dX0_layLengths_28 : decode cX0_layLengths 28 = .ok (.iconst 0, 1) := dk_3 (dk_at dksX0_layLengths_1 4 rfl rfl)
theorem dX0_layLengths_29 : decode cX0_layLengths 29 = .ok (.iastore, 1) := dk_79 (dk_at dksX0_layLengths_1 5 rfl rfl)
theorem dX0_layLengths_30 : decode cX0_layLengths 30 = .ok (.iconst 1, 1) := dk_4 (dk_at dksX0_layLengths_1 6 rfl rfl)
theorem dX0_layLengths_31 : decode cX0_layLengths 31 = .ok (.istore_n 3, 1) := dk_62 (dk_at dksX0_layLengths_1 7 rfl rfl)
theorem dX0_layLengths_32 : decode cX0_layLengths 32 = .ok (.iload_n 3, 1) := dk_29 (dk_at dksX0_layLengths_1 8 rfl rfl)
theorem dX0_layLengths_33 : decode cX0_layLengths 33 = .ok (.bipush 81, 2) := dk_16 81 (dk_at dksX0_layLengths_1 9 rfl rfl)
theorem dX0_layLengths_35 : decode cX0_layLengths 35 = .ok (.if_icmp .gt 132, 3) := dk_163 0 132 (dk_at dksX0_layLengths_1 11 rfl rfl)
theorem dX0_layLengths_38 : decode cX0_layLengths 38 = .ok (.iconst 0, 1) := dk_3 (dk_at dksX0_layLengths_1 14 rfl rfl)
theorem dX0_layLengths_39 : decode cX0_layLengths 39 = .ok (.istore 4, 2) := dk_54 4 (dk_at dksX0_layLengths_1 15 rfl rfl)
theorem dX0_layLengths_41 : decode cX0_layLengths 41 = .ok (.iload 4, 2) := dk_21 4 (dk_at dksX0_layLengths_1 17 rfl rfl)
theorem dX0_layLengths_43 : decode cX0_layLengths 43 = .ok (.aload_n 0, 1) := dk_42 (dk_at dksX0_layLengths_1 19 rfl rfl)
theorem dX0_layLengths_44 : decode cX0_layLengths 44 = .ok (.getfield 16, 3) := dk_180 0 16 (dk_at dksX0_layLengths_1 20 rfl rfl)
theorem dX0_layLengths_47 : decode cX0_layLengths 47 = .ok (.invokevirtual 92, 3) := dk_182 0 92 (dk_at dksX0_layLengths_2 0 rfl rfl)
theorem dX0_layLengths_50 : decode cX0_layLengths 50 = .ok (.if_icmp .ge 111, 3) := dk_162 0 111 (dk_at dksX0_layLengths_2 3 rfl rfl)
theorem dX0_layLengths_53 : decode cX0_layLengths 53 = .ok (.aload_n 0, 1) := dk_42 (dk_at dksX0_layLengths_2 6 rfl rfl)
theorem dX0_layLengths_54 : decode cX0_layLengths 54 = .ok (.getfield 16, 3) := dk_180 0 16 (dk_at dksX0_layLengths_2 7 rfl rfl)
theorem dX0_layLengths_57 : decode cX0_layLengths 57 = .ok (.iload 4, 2) := dk_21 4 (dk_at dksX0_layLengths_2 10 rfl rfl)
theorem dX0_layLengths_59 : decode cX0_layLengths 59 = .ok (.invokevirtual 126, 3) := dk_182 0 126 (dk_at dksX0_layLengths_2 12 rfl rfl)
theorem dX0_layLengths_62 : decode cX0_layLengths 62 = .ok (.checkcast 85, 3) := dk_192 0 85 (dk_at dksX0_layLengths_2 15 rfl rfl)
theorem dX0_layLengths_65 : decode cX0_layLengths 65 = .ok (.astore 5, 2) := dk_58 5 (dk_at dksX0_layLengths_2 18 rfl rfl)
theorem dX0_layLengths_67 : decode cX0_layLengths 67 = .ok (.iload_n 3, 1) := dk_29 (dk_at dksX0_layLengths_2 20 rfl rfl)
theorem dX0_layLengths_68 : decode cX0_layLengths 68 = .ok (.aload 5, 2) := dk_25 5 (dk_at dksX0_layLengths_2 21 rfl rfl)
theorem dX0_layLengths_70 : decode cX0_layLengths 70 = .ok (.getfield 188, 3) := dk_180 0 188 (dk_at dksX0_layLengths_3 0 rfl rfl)
theorem dX0_layLengths_73 : decode cX0_layLengths 73 = .ok (.isub, 1) := dk_100 (dk_at dksX0_layLengths_3 3 rfl rfl)
theorem dX0_layLengths_74 : decode cX0_layLengths 74 = .ok (.istore 6, 2) := dk_54 6 (dk_at dksX0_layLengths_3 4 rfl rfl)
theorem dX0_layLengths_76 : decode cX0_layLengths 76 = .ok (.iload 6, 2) := dk_21 6 (dk_at dksX0_layLengths_3 6 rfl rfl)
theorem dX0_layLengths_78 : decode cX0_layLengths 78 = .ok (.ifCond .lt 77, 3) := dk_155 0 77 (dk_at dksX0_layLengths_3 8 rfl rfl)
theorem dX0_layLengths_81 : decode cX0_layLengths 81 = .ok (.aload_n 0, 1) := dk_42 (dk_at dksX0_layLengths_3 11 rfl rfl)
theorem dX0_layLengths_82 : decode cX0_layLengths 82 = .ok (.iload_n 3, 1) := dk_29 (dk_at dksX0_layLengths_3 12 rfl rfl)
theorem dX0_layLengths_83 : decode cX0_layLengths 83 = .ok (.aload 5, 2) := dk_25 5 (dk_at dksX0_layLengths_3 13 rfl rfl)
theorem dX0_layLengths_85 : decode cX0_layLengths 85 = .ok (.getfield 182, 3) := dk_180 0 182 (dk_at dksX0_layLengths_3 15 rfl rfl)
theorem dX0_layLengths_88 : decode cX0_layLengths 88 = .ok (.aload_n 0, 1) := dk_42 (dk_at dksX0_layLengths_3 18 rfl rfl)
theorem dX0_layLengths_89 : decode cX0_layLengths 89 = .ok (.getfield 39, 3) := dk_180 0 39 (dk_at dksX0_layLengths_3 19 rfl rfl)
theorem dX0_layLengths_92 : decode cX0_layLengths 92 = .ok (.bipush 8, 2) := dk_16 8 (dk_at dksX0_layLengths_3 22 rfl rfl)
theorem dX0_layLengths_94 : decode cX0_layLengths 94 = .ok (.iload 6, 2) := dk_21 6 (dk_at dksX0_layLengths_4 0 rfl rfl)
theorem dX0_layLengths_96 : decode cX0_layLengths 96 = .ok (.imul, 1) := dk_104 (dk_at dksX0_layLengths_4 2 rfl rfl)
theorem dX0_layLengths_97 : decode cX0_layLengths 97 = .ok (.aload 5, 2) := dk_25 5 (dk_at dksX0_layLengths_4 3 rfl rfl)
theorem dX0_layLengths_99 : decode cX0_layLengths 99 = .ok (.getfield 185, 3) := dk_180 0 185 (dk_at dksX0_layLengths_4 5 rfl rfl)
theorem dX0_layLengths_102 : decode cX0_layLengths 102 = .ok (.iadd, 1) := dk_96 (dk_at dksX0_layLengths_4 8 rfl rfl)
theorem dX0_layLengths_103 : decode cX0_layLengths 103 = .ok (.iaload, 1) := dk_46 (dk_at dksX0_layLengths_4 9 rfl rfl)
theorem dX0_layLengths_104 : decode cX0_layLengths 104 = .ok (.aload_n 0, 1) := dk_42 (dk_at dksX0_layLengths_4 10 rfl rfl)
theorem dX0_layLengths_105 : decode cX0_layLengths 105 = .ok (.getfield 25, 3) := dk_180 0 25 (dk_at dksX0_layLengths_4 11 rfl rfl)
theorem dX0_layLengths_108 : decode cX0_layLengths 108 = .ok (.iload_n 1, 1) := dk_27 (dk_at dksX0_layLengths_4 14 rfl rfl)
theorem dX0_layLengths_109 : decode cX0_layLengths 109 = .ok (.iload 4, 2) := dk_21 4 (dk_at dksX0_layLengths_4 15 rfl rfl)
theorem dX0_layLengths_111 : decode cX0_layLengths 111 = .ok (.invokevirtual 203, 3) := dk_182 0 203 (dk_at dksX0_layLengths_4 17 rfl rfl)
theorem dX0_layLengths_114 : decode cX0_layLengths 114 = .ok (.iadd, 1) := dk_96 (dk_at dksX0_layLengths_4 20 rfl rfl)
theorem dX0_layLengths_115 : decode cX0_layLengths 115 = .ok (.invokevirtual 241, 3) := dk_182 0 241 (dk_at dksX0_layLengths_4 21 rfl rfl)
theorem dX0_layLengths_118 : decode cX0_layLengths 118 = .ok (.aload_n 0, 1) := dk_42 (dk_at dksX0_layLengths_5 0 rfl rfl)
theorem dX0_layLengths_119 : decode cX0_layLengths 119 = .ok (.iload_n 3, 1) := dk_29 (dk_at dksX0_layLengths_5 1 rfl rfl)
theorem dX0_layLengths_120 : decode cX0_layLengths 120 = .ok (.aload 5, 2) := dk_25 5 (dk_at dksX0_layLengths_5 2 rfl rfl)
theorem dX0_layLengths_122 : decode cX0_layLengths 122 = .ok (.getfield 185, 3) := dk_180 0 185 (dk_at dksX0_layLengths_5 4 rfl rfl)
theorem dX0_layLengths_125 : decode cX0_layLengths 125 = .ok (.aload_n 0, 1) := dk_42 (dk_at dksX0_layLengths_5 7 rfl rfl)
theorem dX0_layLengths_126 : decode cX0_layLengths 126 = .ok (.getfield 39, 3) := dk_180 0 39 (dk_at dksX0_layLengths_5 8 rfl rfl)
theorem dX0_layLengths_129 : decode cX0_layLengths 129 = .ok (.bipush 8, 2) := dk_16 8 (dk_at dksX0_layLengths_5 11 rfl rfl)
theorem dX0_layLengths_131 : decode cX0_layLengths 131 = .ok (.iload 6, 2) := dk_21 6 (dk_at dksX0_layLengths_5 13 rfl rfl)
theorem dX0_layLengths_133 : decode cX0_layLengths 133 = .ok (.imul, 1) := dk_104 (dk_at dksX0_layLengths_5 15 rfl rfl)
theorem dX0_layLengths_134 : decode cX0_layLengths 134 = .ok (.aload 5, 2) := dk_25 5 (dk_at dksX0_layLengths_5 16 rfl rfl)
theorem dX0_layLengths_136 : decode cX0_layLengths 136 = .ok (.getfield 182, 3) := dk_180 0 182 (dk_at dksX0_layLengths_5 18 rfl rfl)
theorem dX0_layLengths_139 : decode cX0_layLengths 139 = .ok (.iadd, 1) := dk_96 (dk_at dksX0_layLengths_5 21 rfl rfl)
theorem dX0_layLengths_140 : decode cX0_layLengths 140 = .ok (.iaload, 1) := dk_46 (dk_at dksX0_layLengths_5 22 rfl rfl)
theorem dX0_layLengths_141 : decode cX0_layLengths 141 = .ok (.aload_n 0, 1) := dk_42 (dk_at dksX0_layLengths_5 23 rfl rfl)
theorem dX0_layLengths_142 : decode cX0_layLengths 142 = .ok (.getfield 25, 3) := dk_180 0 25 (dk_at dksX0_layLengths_6 0 rfl rfl)
theorem dX0_layLengths_145 : decode cX0_layLengths 145 = .ok (.iload_n 1, 1) := dk_27 (dk_at dksX0_layLengths_6 3 rfl rfl)
theorem dX0_layLengths_146 : decode cX0_layLengths 146 = .ok (.iload 4, 2) := dk_21 4 (dk_at dksX0_layLengths_6 4 rfl rfl)
theorem dX0_layLengths_148 : decode cX0_layLengths 148 = .ok (.invokevirtual 203, 3) := dk_182 0 203 (dk_at dksX0_layLengths_6 6 rfl rfl)
theorem dX0_layLengths_151 : decode cX0_layLengths 151 = .ok (.iadd, 1) := dk_96 (dk_at dksX0_layLengths_6 9 rfl rfl)
theorem dX0_layLengths_152 : decode cX0_layLengths 152 = .ok (.invokevirtual 241, 3) := dk_182 0 241 (dk_at dksX0_layLengths_6 10 rfl rfl)
theorem dX0_layLengths_155 : decode cX0_layLengths 155 = .ok (.iinc 4 1, 3) := dk_132 4 1 (dk_at dksX0_layLengths_6 13 rfl rfl)
theorem dX0_layLengths_158 : decode cX0_layLengths 158 = .ok (.goto (-117), 3) := dk_167 255 139 (dk_at dksX0_layLengths_6 16 rfl rfl)
theorem dX0_layLengths_161 : decode cX0_layLengths 161 = .ok (.iinc 3 1, 3) := dk_132 3 1 (dk_at dksX0_layLengths_6 19 rfl rfl)
theorem dX0_layLengths_164 : decode cX0_layLengths 164 = .ok (.goto (-132), 3) := dk_167 255 124 (dk_at dksX0_layLengths_7 0 rfl rfl)
theorem dX0_layLengths_167 : decode cX0_layLengths 167 = .ok (.return_, 1) := dk_177 (dk_at dksX0_layLengths_7 3 rfl rfl)
abbrev cX0_better : ByteArray := prog_1_method_28_code
def yX0_better : MethodName := ⟨RX0, "better", "(III)V"⟩
def dkwX0_better_1 : List UInt8 := [184, 0, 235, 79, 177]
abbrev dktX0_better_1 : List UInt8 := dkwX0_better_1 ++ []
def dkwX0_better_0 : List UInt8 := [42, 180, 0, 39, 16, 8, 27, 104, 28, 96, 42, 180, 0, 39, 16, 8, 27, 104, 28, 96, 46, 29]
abbrev dktX0_better_0 : List UInt8 := dkwX0_better_0 ++ dktX0_better_1
theorem dksX0_better_0 : cX0_better.data.toList.drop 0 = dktX0_better_0 := by decide +kernel
theorem dksX0_better_1 : cX0_better.data.toList.drop 22 = dktX0_better_1 := dk_seg dksX0_better_0 22 rfl rfl
theorem dX0_better_0 : decode cX0_better 0 = .ok (.aload_n 0, 1) := dk_42 (dk_at dksX0_better_0 0 rfl rfl)
theorem dX0_better_1 : decode cX0_better 1 = .ok (.getfield 39, 3) := dk_180 0 39 (dk_at dksX0_better_0 1 rfl rfl)
theorem dX0_better_4 : decode cX0_better 4 = .ok (.bipush 8, 2) := dk_16 8 (dk_at dksX0_better_0 4 rfl rfl)
theorem dX0_better_6 : decode cX0_better 6 = .ok (.iload_n 1, 1) := dk_27 (dk_at dksX0_better_0 6 rfl rfl)
theorem dX0_better_7 : decode cX0_better 7 = .ok (.imul, 1) := dk_104 (dk_at dksX0_better_0 7 rfl rfl)
theorem dX0_better_8 : decode cX0_better 8 = .ok (.iload_n 2, 1) := dk_28 (dk_at dksX0_better_0 8 rfl rfl)
theorem dX0_better_9 : decode cX0_better 9 = .ok (.iadd, 1) := dk_96 (dk_at dksX0_better_0 9 rfl rfl)
theorem dX0_better_10 : decode cX0_better 10 = .ok (.aload_n 0, 1) := dk_42 (dk_at dksX0_better_0 10 rfl rfl)
theorem dX0_better_11 : decode cX0_better 11 = .ok (.getfield 39, 3) := dk_180 0 39 (dk_at dksX0_better_0 11 rfl rfl)
theorem dX0_better_14 : decode cX0_better 14 = .ok (.bipush 8, 2) := dk_16 8 (dk_at dksX0_better_0 14 rfl rfl)
theorem dX0_better_16 : decode cX0_better 16 = .ok (.iload_n 1, 1) := dk_27 (dk_at dksX0_better_0 16 rfl rfl)
theorem dX0_better_17 : decode cX0_better 17 = .ok (.imul, 1) := dk_104 (dk_at dksX0_better_0 17 rfl rfl)
theorem dX0_better_18 : decode cX0_better 18 = .ok (.iload_n 2, 1) := dk_28 (dk_at dksX0_better_0 18 rfl rfl)
theorem dX0_better_19 : decode cX0_better 19 = .ok (.iadd, 1) := dk_96 (dk_at dksX0_better_0 19 rfl rfl)
theorem dX0_better_20 : decode cX0_better 20 = .ok (.iaload, 1) := dk_46 (dk_at dksX0_better_0 20 rfl rfl)
theorem dX0_better_21 : decode cX0_better 21 = .ok (.iload_n 3, 1) := dk_29 (dk_at dksX0_better_0 21 rfl rfl)
theorem dX0_better_22 : decode cX0_better 22 = .ok (.invokestatic 235, 3) := dk_184 0 235 (dk_at dksX0_better_1 0 rfl rfl)
theorem dX0_better_25 : decode cX0_better 25 = .ok (.iastore, 1) := dk_79 (dk_at dksX0_better_1 3 rfl rfl)
theorem dX0_better_26 : decode cX0_better 26 = .ok (.return_, 1) := dk_177 (dk_at dksX0_better_1 4 rfl rfl)
abbrev cX0_edge : ByteArray := prog_1_method_33_code
def yX0_edge : MethodName := ⟨RX0, "edge", "(IIII)I"⟩
def dkwX0_edge_1 : List UInt8 := [42, 27, 28, 29, 21, 4, 182, 0, 252, 167, 0, 5, 16, 154, 172]
abbrev dktX0_edge_1 : List UInt8 := dkwX0_edge_1 ++ []
def dkwX0_edge_0 : List UInt8 := [42, 27, 28, 29, 182, 0, 228, 154, 0, 6, 16, 155, 172, 21, 4, 3, 16, 20, 184, 0, 3, 153, 0, 15]
abbrev dktX0_edge_0 : List UInt8 := dkwX0_edge_0 ++ dktX0_edge_1
theorem dksX0_edge_0 : cX0_edge.data.toList.drop 0 = dktX0_edge_0 := by decide +kernel
theorem dksX0_edge_1 : cX0_edge.data.toList.drop 24 = dktX0_edge_1 := dk_seg dksX0_edge_0 24 rfl rfl
theorem dX0_edge_0 : decode cX0_edge 0 = .ok (.aload_n 0, 1) := dk_42 (dk_at dksX0_edge_0 0 rfl rfl)
theorem dX0_edge_1 : decode cX0_edge 1 = .ok (.iload_n 1, 1) := dk_27 (dk_at dksX0_edge_0 1 rfl rfl)
theorem dX0_edge_2 : decode cX0_edge 2 = .ok (.iload_n 2, 1) := dk_28 (dk_at dksX0_edge_0 2 rfl rfl)
theorem dX0_edge_3 : decode cX0_edge 3 = .ok (.iload_n 3, 1) := dk_29 (dk_at dksX0_edge_0 3 rfl rfl)
theorem dX0_edge_4 : decode cX0_edge 4 = .ok (.invokevirtual 228, 3) := dk_182 0 228 (dk_at dksX0_edge_0 4 rfl rfl)
theorem dX0_edge_7 : decode cX0_edge 7 = .ok (.ifCond .ne 6, 3) := dk_154 0 6 (dk_at dksX0_edge_0 7 rfl rfl)
theorem dX0_edge_10 : decode cX0_edge 10 = .ok (.bipush (-101), 2) := dk_16 155 (dk_at dksX0_edge_0 10 rfl rfl)
theorem dX0_edge_12 : decode cX0_edge 12 = .ok (.ireturn, 1) := dk_172 (dk_at dksX0_edge_0 12 rfl rfl)
theorem dX0_edge_13 : decode cX0_edge 13 = .ok (.iload 4, 2) := dk_21 4 (dk_at dksX0_edge_0 13 rfl rfl)
theorem dX0_edge_15 : decode cX0_edge 15 = .ok (.iconst 0, 1) := dk_3 (dk_at dksX0_edge_0 15 rfl rfl)
theorem dX0_edge_16 : decode cX0_edge 16 = .ok (.bipush 20, 2) := dk_16 20 (dk_at dksX0_edge_0 16 rfl rfl)
theorem dX0_edge_18 : decode cX0_edge 18 = .ok (.invokestatic 3, 3) := dk_184 0 3 (dk_at dksX0_edge_0 18 rfl rfl)
theorem dX0_edge_21 : decode cX0_edge 21 = .ok (.ifCond .eq 15, 3) := dk_153 0 15 (dk_at dksX0_edge_0 21 rfl rfl)
theorem dX0_edge_24 : decode cX0_edge 24 = .ok (.aload_n 0, 1) := dk_42 (dk_at dksX0_edge_1 0 rfl rfl)
theorem dX0_edge_25 : decode cX0_edge 25 = .ok (.iload_n 1, 1) := dk_27 (dk_at dksX0_edge_1 1 rfl rfl)
theorem dX0_edge_26 : decode cX0_edge 26 = .ok (.iload_n 2, 1) := dk_28 (dk_at dksX0_edge_1 2 rfl rfl)
theorem dX0_edge_27 : decode cX0_edge 27 = .ok (.iload_n 3, 1) := dk_29 (dk_at dksX0_edge_1 3 rfl rfl)
theorem dX0_edge_28 : decode cX0_edge 28 = .ok (.iload 4, 2) := dk_21 4 (dk_at dksX0_edge_1 4 rfl rfl)
theorem dX0_edge_30 : decode cX0_edge 30 = .ok (.invokevirtual 252, 3) := dk_182 0 252 (dk_at dksX0_edge_1 6 rfl rfl)
theorem dX0_edge_33 : decode cX0_edge 33 = .ok (.goto 5, 3) := dk_167 0 5 (dk_at dksX0_edge_1 9 rfl rfl)
theorem dX0_edge_36 : decode cX0_edge 36 = .ok (.bipush (-102), 2) := dk_16 154 (dk_at dksX0_edge_1 12 rfl rfl)
theorem dX0_edge_38 : decode cX0_edge 38 = .ok (.ireturn, 1) := dk_172 (dk_at dksX0_edge_1 14 rfl rfl)
abbrev cX0_edgeTold : ByteArray := prog_1_method_32_code
def yX0_edgeTold : MethodName := ⟨RX0, "edgeTold", "(IIII)I"⟩
def dkwX0_edgeTold_4 : List UInt8 := [21, 7, 172]
abbrev dktX0_edgeTold_4 : List UInt8 := dkwX0_edgeTold_4 ++ []
def dkwX0_edgeTold_3 : List UInt8 := [167, 0, 5, 21, 7, 54, 7, 132, 8, 1, 167, 255, 195, 21, 4, 154, 0, 8, 21, 5, 167, 0, 5]
abbrev dktX0_edgeTold_3 : List UInt8 := dkwX0_edgeTold_3 ++ dktX0_edgeTold_4
def dkwX0_edgeTold_2 : List UInt8 := [21, 9, 54, 6, 132, 5, 1, 21, 5, 21, 4, 160, 0, 15, 17, 39, 16, 21, 8, 104, 21, 9, 96]
abbrev dktX0_edgeTold_2 : List UInt8 := dkwX0_edgeTold_2 ++ dktX0_edgeTold_3
def dkwX0_edgeTold_1 : List UInt8 := [163, 0, 60, 42, 180, 0, 39, 16, 8, 21, 8, 104, 29, 96, 46, 54, 9, 21, 9, 21, 6, 162, 0, 33]
abbrev dktX0_edgeTold_1 : List UInt8 := dkwX0_edgeTold_1 ++ dktX0_edgeTold_2
def dkwX0_edgeTold_0 : List UInt8 := [42, 27, 28, 182, 0, 245, 3, 54, 5, 18, 240, 54, 6, 2, 54, 7, 3, 54, 8, 21, 8, 16, 81]
abbrev dktX0_edgeTold_0 : List UInt8 := dkwX0_edgeTold_0 ++ dktX0_edgeTold_1
theorem dksX0_edgeTold_0 : cX0_edgeTold.data.toList.drop 0 = dktX0_edgeTold_0 := by decide +kernel
theorem dksX0_edgeTold_1 : cX0_edgeTold.data.toList.drop 23 = dktX0_edgeTold_1 := dk_seg dksX0_edgeTold_0 23 rfl rfl
theorem dksX0_edgeTold_2 : cX0_edgeTold.data.toList.drop 47 = dktX0_edgeTold_2 := dk_seg dksX0_edgeTold_1 24 rfl rfl
theorem dksX0_edgeTold_3 : cX0_edgeTold.data.toList.drop 70 = dktX0_edgeTold_3 := dk_seg dksX0_edgeTold_2 23 rfl rfl
theorem dksX0_edgeTold_4 : cX0_edgeTold.data.toList.drop 93 = dktX0_edgeTold_4 := dk_seg dksX0_edgeTold_3 23 rfl rfl
theorem dX0_edgeTold_0 : decode cX0_edgeTold 0 = .ok (.aload_n 0, 1) := dk_42 (dk_at dksX0_edgeTold_0 0 rfl rfl)
theorem dX0_edgeTold_1 : decode cX0_edgeTold 1 = .ok (.iload_n 1, 1) := dk_27 (dk_at dksX0_edgeTold_0 1 rfl rfl)
theorem dX0_edgeTold_2 : decode cX0_edgeTold 2 = .ok (.iload_n 2, 1) := dk_28 (dk_at dksX0_edgeTold_0 2 rfl rfl)
theorem dX0_edgeTold_3 : decode cX0_edgeTold 3 = .ok (.invokevirtual 245, 3) := dk_182 0 245 (dk_at dksX0_edgeTold_0 3 rfl rfl)
theorem dX0_edgeTold_6 : decode cX0_edgeTold 6 = .ok (.iconst 0, 1) := dk_3 (dk_at dksX0_edgeTold_0 6 rfl rfl)
theorem dX0_edgeTold_7 : decode cX0_edgeTold 7 = .ok (.istore 5, 2) := dk_54 5 (dk_at dksX0_edgeTold_0 7 rfl rfl)
theorem dX0_edgeTold_9 : decode cX0_edgeTold 9 = .ok (.ldc 240, 2) := dk_18 240 (dk_at dksX0_edgeTold_0 9 rfl rfl)
theorem dX0_edgeTold_11 : decode cX0_edgeTold 11 = .ok (.istore 6, 2) := dk_54 6 (dk_at dksX0_edgeTold_0 11 rfl rfl)
theorem dX0_edgeTold_13 : decode cX0_edgeTold 13 = .ok (.iconst (-1), 1) := dk_2 (dk_at dksX0_edgeTold_0 13 rfl rfl)
theorem dX0_edgeTold_14 : decode cX0_edgeTold 14 = .ok (.istore 7, 2) := dk_54 7 (dk_at dksX0_edgeTold_0 14 rfl rfl)
theorem dX0_edgeTold_16 : decode cX0_edgeTold 16 = .ok (.iconst 0, 1) := dk_3 (dk_at dksX0_edgeTold_0 16 rfl rfl)
theorem dX0_edgeTold_17 : decode cX0_edgeTold 17 = .ok (.istore 8, 2) := dk_54 8 (dk_at dksX0_edgeTold_0 17 rfl rfl)
theorem dX0_edgeTold_19 : decode cX0_edgeTold 19 = .ok (.iload 8, 2) := dk_21 8 (dk_at dksX0_edgeTold_0 19 rfl rfl)
theorem dX0_edgeTold_21 : decode cX0_edgeTold 21 = .ok (.bipush 81, 2) := dk_16 81 (dk_at dksX0_edgeTold_0 21 rfl rfl)
theorem dX0_edgeTold_23 : decode cX0_edgeTold 23 = .ok (.if_icmp .gt 60, 3) := dk_163 0 60 (dk_at dksX0_edgeTold_1 0 rfl rfl)
theorem dX0_edgeTold_26 : decode cX0_edgeTold 26 = .ok (.aload_n 0, 1) := dk_42 (dk_at dksX0_edgeTold_1 3 rfl rfl)
theorem dX0_edgeTold_27 : decode cX0_edgeTold 27 = .ok (.getfield 39, 3) := dk_180 0 39 (dk_at dksX0_edgeTold_1 4 rfl rfl)
theorem dX0_edgeTold_30 : decode cX0_edgeTold 30 = .ok (.bipush 8, 2) := dk_16 8 (dk_at dksX0_edgeTold_1 7 rfl rfl)
theorem dX0_edgeTold_32 : decode cX0_edgeTold 32 = .ok (.iload 8, 2) := dk_21 8 (dk_at dksX0_edgeTold_1 9 rfl rfl)
theorem dX0_edgeTold_34 : decode cX0_edgeTold 34 = .ok (.imul, 1) := dk_104 (dk_at dksX0_edgeTold_1 11 rfl rfl)
theorem dX0_edgeTold_35 : decode cX0_edgeTold 35 = .ok (.iload_n 3, 1) := dk_29 (dk_at dksX0_edgeTold_1 12 rfl rfl)
theorem dX0_edgeTold_36 : decode cX0_edgeTold 36 = .ok (.iadd, 1) := dk_96 (dk_at dksX0_edgeTold_1 13 rfl rfl)
theorem dX0_edgeTold_37 : decode cX0_edgeTold 37 = .ok (.iaload, 1) := dk_46 (dk_at dksX0_edgeTold_1 14 rfl rfl)
theorem dX0_edgeTold_38 : decode cX0_edgeTold 38 = .ok (.istore 9, 2) := dk_54 9 (dk_at dksX0_edgeTold_1 15 rfl rfl)
theorem dX0_edgeTold_40 : decode cX0_edgeTold 40 = .ok (.iload 9, 2) := dk_21 9 (dk_at dksX0_edgeTold_1 17 rfl rfl)
theorem dX0_edgeTold_42 : decode cX0_edgeTold 42 = .ok (.iload 6, 2) := dk_21 6 (dk_at dksX0_edgeTold_1 19 rfl rfl)
theorem dX0_edgeTold_44 : decode cX0_edgeTold 44 = .ok (.if_icmp .ge 33, 3) := dk_162 0 33 (dk_at dksX0_edgeTold_1 21 rfl rfl)
theorem dX0_edgeTold_47 : decode cX0_edgeTold 47 = .ok (.iload 9, 2) := dk_21 9 (dk_at dksX0_edgeTold_2 0 rfl rfl)
theorem dX0_edgeTold_49 : decode cX0_edgeTold 49 = .ok (.istore 6, 2) := dk_54 6 (dk_at dksX0_edgeTold_2 2 rfl rfl)
theorem dX0_edgeTold_51 : decode cX0_edgeTold 51 = .ok (.iinc 5 1, 3) := dk_132 5 1 (dk_at dksX0_edgeTold_2 4 rfl rfl)
theorem dX0_edgeTold_54 : decode cX0_edgeTold 54 = .ok (.iload 5, 2) := dk_21 5 (dk_at dksX0_edgeTold_2 7 rfl rfl)
theorem dX0_edgeTold_56 : decode cX0_edgeTold 56 = .ok (.iload 4, 2) := dk_21 4 (dk_at dksX0_edgeTold_2 9 rfl rfl)
theorem dX0_edgeTold_58 : decode cX0_edgeTold 58 = .ok (.if_icmp .ne 15, 3) := dk_160 0 15 (dk_at dksX0_edgeTold_2 11 rfl rfl)
theorem dX0_edgeTold_61 : decode cX0_edgeTold 61 = .ok (.sipush 10000, 3) := dk_17 39 16 (dk_at dksX0_edgeTold_2 14 rfl rfl)
theorem dX0_edgeTold_64 : decode cX0_edgeTold 64 = .ok (.iload 8, 2) := dk_21 8 (dk_at dksX0_edgeTold_2 17 rfl rfl)
theorem dX0_edgeTold_66 : decode cX0_edgeTold 66 = .ok (.imul, 1) := dk_104 (dk_at dksX0_edgeTold_2 19 rfl rfl)
theorem dX0_edgeTold_67 : decode cX0_edgeTold 67 = .ok (.iload 9, 2) := dk_21 9 (dk_at dksX0_edgeTold_2 20 rfl rfl)
theorem dX0_edgeTold_69 : decode cX0_edgeTold 69 = .ok (.iadd, 1) := dk_96 (dk_at dksX0_edgeTold_2 22 rfl rfl)
theorem dX0_edgeTold_70 : decode cX0_edgeTold 70 = .ok (.goto 5, 3) := dk_167 0 5 (dk_at dksX0_edgeTold_3 0 rfl rfl)
theorem dX0_edgeTold_73 : decode cX0_edgeTold 73 = .ok (.iload 7, 2) := dk_21 7 (dk_at dksX0_edgeTold_3 3 rfl rfl)
theorem dX0_edgeTold_75 : decode cX0_edgeTold 75 = .ok (.istore 7, 2) := dk_54 7 (dk_at dksX0_edgeTold_3 5 rfl rfl)
theorem dX0_edgeTold_77 : decode cX0_edgeTold 77 = .ok (.iinc 8 1, 3) := dk_132 8 1 (dk_at dksX0_edgeTold_3 7 rfl rfl)
theorem dX0_edgeTold_80 : decode cX0_edgeTold 80 = .ok (.goto (-61), 3) := dk_167 255 195 (dk_at dksX0_edgeTold_3 10 rfl rfl)
theorem dX0_edgeTold_83 : decode cX0_edgeTold 83 = .ok (.iload 4, 2) := dk_21 4 (dk_at dksX0_edgeTold_3 13 rfl rfl)
theorem dX0_edgeTold_85 : decode cX0_edgeTold 85 = .ok (.ifCond .ne 8, 3) := dk_154 0 8 (dk_at dksX0_edgeTold_3 15 rfl rfl)
theorem dX0_edgeTold_88 : decode cX0_edgeTold 88 = .ok (.iload 5, 2) := dk_21 5 (dk_at dksX0_edgeTold_3 18 rfl rfl)
theorem dX0_edgeTold_90 : decode cX0_edgeTold 90 = .ok (.goto 5, 3) := dk_167 0 5 (dk_at dksX0_edgeTold_3 20 rfl rfl)
theorem dX0_edgeTold_93 : decode cX0_edgeTold 93 = .ok (.iload 7, 2) := dk_21 7 (dk_at dksX0_edgeTold_4 0 rfl rfl)
theorem dX0_edgeTold_95 : decode cX0_edgeTold 95 = .ok (.ireturn, 1) := dk_172 (dk_at dksX0_edgeTold_4 2 rfl rfl)
abbrev cX0_rail : ByteArray := prog_1_method_36_code
def yX0_rail : MethodName := ⟨RX0, "rail", "(III)I"⟩
def dkwX0_rail_0 : List UInt8 := [42, 27, 28, 29, 182, 0, 228, 153, 0, 13, 42, 27, 28, 29, 182, 1, 5, 167, 0, 5, 16, 155, 172]
abbrev dktX0_rail_0 : List UInt8 := dkwX0_rail_0 ++ []
theorem dksX0_rail_0 : cX0_rail.data.toList.drop 0 = dktX0_rail_0 := by decide +kernel
theorem dX0_rail_0 : decode cX0_rail 0 = .ok (.aload_n 0, 1) := dk_42 (dk_at dksX0_rail_0 0 rfl rfl)
theorem dX0_rail_1 : decode cX0_rail 1 = .ok (.iload_n 1, 1) := dk_27 (dk_at dksX0_rail_0 1 rfl rfl)
theorem dX0_rail_2 : decode cX0_rail 2 = .ok (.iload_n 2, 1) := dk_28 (dk_at dksX0_rail_0 2 rfl rfl)
theorem dX0_rail_3 : decode cX0_rail 3 = .ok (.iload_n 3, 1) := dk_29 (dk_at dksX0_rail_0 3 rfl rfl)
theorem dX0_rail_4 : decode cX0_rail 4 = .ok (.invokevirtual 228, 3) := dk_182 0 228 (dk_at dksX0_rail_0 4 rfl rfl)
theorem dX0_rail_7 : decode cX0_rail 7 = .ok (.ifCond .eq 13, 3) := dk_153 0 13 (dk_at dksX0_rail_0 7 rfl rfl)
theorem dX0_rail_10 : decode cX0_rail 10 = .ok (.aload_n 0, 1) := dk_42 (dk_at dksX0_rail_0 10 rfl rfl)
theorem dX0_rail_11 : decode cX0_rail 11 = .ok (.iload_n 1, 1) := dk_27 (dk_at dksX0_rail_0 11 rfl rfl)
theorem dX0_rail_12 : decode cX0_rail 12 = .ok (.iload_n 2, 1) := dk_28 (dk_at dksX0_rail_0 12 rfl rfl)
theorem dX0_rail_13 : decode cX0_rail 13 = .ok (.iload_n 3, 1) := dk_29 (dk_at dksX0_rail_0 13 rfl rfl)
theorem dX0_rail_14 : decode cX0_rail 14 = .ok (.invokevirtual 261, 3) := dk_182 1 5 (dk_at dksX0_rail_0 14 rfl rfl)
theorem dX0_rail_17 : decode cX0_rail 17 = .ok (.goto 5, 3) := dk_167 0 5 (dk_at dksX0_rail_0 17 rfl rfl)
theorem dX0_rail_20 : decode cX0_rail 20 = .ok (.bipush (-101), 2) := dk_16 155 (dk_at dksX0_rail_0 20 rfl rfl)
theorem dX0_rail_22 : decode cX0_rail 22 = .ok (.ireturn, 1) := dk_172 (dk_at dksX0_rail_0 22 rfl rfl)
abbrev cX0_railTold : ByteArray := prog_1_method_35_code
def yX0_railTold : MethodName := ⟨RX0, "railTold", "(III)I"⟩
def dkwX0_railTold_3 : List UInt8 := [132, 5, 1, 167, 255, 201, 21, 4, 18, 240, 161, 0, 7, 2, 167, 0, 5, 21, 4, 172]
abbrev dktX0_railTold_3 : List UInt8 := dkwX0_railTold_3 ++ []
def dkwX0_railTold_2 : List UInt8 := [162, 0, 20, 42, 27, 28, 29, 21, 6, 182, 1, 2, 153, 0, 8, 21, 6, 167, 0, 5, 21, 4, 54, 4]
abbrev dktX0_railTold_2 : List UInt8 := dkwX0_railTold_2 ++ dktX0_railTold_3
def dkwX0_railTold_1 : List UInt8 := [182, 0, 92, 162, 0, 49, 42, 180, 0, 25, 27, 21, 5, 182, 0, 203, 54, 6, 21, 6, 21, 4]
abbrev dktX0_railTold_1 : List UInt8 := dkwX0_railTold_1 ++ dktX0_railTold_2
def dkwX0_railTold_0 : List UInt8 := [28, 29, 160, 0, 7, 3, 167, 0, 5, 18, 240, 54, 4, 3, 54, 5, 21, 5, 42, 180, 0, 16]
abbrev dktX0_railTold_0 : List UInt8 := dkwX0_railTold_0 ++ dktX0_railTold_1
theorem dksX0_railTold_0 : cX0_railTold.data.toList.drop 0 = dktX0_railTold_0 := by decide +kernel
theorem dksX0_railTold_1 : cX0_railTold.data.toList.drop 22 = dktX0_railTold_1 := dk_seg dksX0_railTold_0 22 rfl rfl
theorem dksX0_railTold_2 : cX0_railTold.data.toList.drop 44 = dktX0_railTold_2 := dk_seg dksX0_railTold_1 22 rfl rfl
theorem dksX0_railTold_3 : cX0_railTold.data.toList.drop 68 = dktX0_railTold_3 := dk_seg dksX0_railTold_2 24 rfl rfl
theorem dX0_railTold_0 : decode cX0_railTold 0 = .ok (.iload_n 2, 1) := dk_28 (dk_at dksX0_railTold_0 0 rfl rfl)
theorem dX0_railTold_1 : decode cX0_railTold 1 = .ok (.iload_n 3, 1) := dk_29 (dk_at dksX0_railTold_0 1 rfl rfl)
theorem dX0_railTold_2 : decode cX0_railTold 2 = .ok (.if_icmp .ne 7, 3) := dk_160 0 7 (dk_at dksX0_railTold_0 2 rfl rfl)
theorem dX0_railTold_5 : decode cX0_railTold 5 = .ok (.iconst 0, 1) := dk_3 (dk_at dksX0_railTold_0 5 rfl rfl)
theorem dX0_railTold_6 : decode cX0_railTold 6 = .ok (.goto 5, 3) := dk_167 0 5 (dk_at dksX0_railTold_0 6 rfl rfl)
theorem dX0_railTold_9 : decode cX0_railTold 9 = .ok (.ldc 240, 2) := dk_18 240 (dk_at dksX0_railTold_0 9 rfl rfl)
theorem dX0_railTold_11 : decode cX0_railTold 11 = .ok (.istore 4, 2) := dk_54 4 (dk_at dksX0_railTold_0 11 rfl rfl)
theorem dX0_railTold_13 : decode cX0_railTold 13 = .ok (.iconst 0, 1) := dk_3 (dk_at dksX0_railTold_0 13 rfl rfl)
theorem dX0_railTold_14 : decode cX0_railTold 14 = .ok (.istore 5, 2) := dk_54 5 (dk_at dksX0_railTold_0 14 rfl rfl)
theorem dX0_railTold_16 : decode cX0_railTold 16 = .ok (.iload 5, 2) := dk_21 5 (dk_at dksX0_railTold_0 16 rfl rfl)
theorem dX0_railTold_18 : decode cX0_railTold 18 = .ok (.aload_n 0, 1) := dk_42 (dk_at dksX0_railTold_0 18 rfl rfl)
theorem dX0_railTold_19 : decode cX0_railTold 19 = .ok (.getfield 16, 3) := dk_180 0 16 (dk_at dksX0_railTold_0 19 rfl rfl)
theorem dX0_railTold_22 : decode cX0_railTold 22 = .ok (.invokevirtual 92, 3) := dk_182 0 92 (dk_at dksX0_railTold_1 0 rfl rfl)
theorem dX0_railTold_25 : decode cX0_railTold 25 = .ok (.if_icmp .ge 49, 3) := dk_162 0 49 (dk_at dksX0_railTold_1 3 rfl rfl)
theorem dX0_railTold_28 : decode cX0_railTold 28 = .ok (.aload_n 0, 1) := dk_42 (dk_at dksX0_railTold_1 6 rfl rfl)
theorem dX0_railTold_29 : decode cX0_railTold 29 = .ok (.getfield 25, 3) := dk_180 0 25 (dk_at dksX0_railTold_1 7 rfl rfl)
theorem dX0_railTold_32 : decode cX0_railTold 32 = .ok (.iload_n 1, 1) := dk_27 (dk_at dksX0_railTold_1 10 rfl rfl)
theorem dX0_railTold_33 : decode cX0_railTold 33 = .ok (.iload 5, 2) := dk_21 5 (dk_at dksX0_railTold_1 11 rfl rfl)
theorem dX0_railTold_35 : decode cX0_railTold 35 = .ok (.invokevirtual 203, 3) := dk_182 0 203 (dk_at dksX0_railTold_1 13 rfl rfl)
theorem dX0_railTold_38 : decode cX0_railTold 38 = .ok (.istore 6, 2) := dk_54 6 (dk_at dksX0_railTold_1 16 rfl rfl)
theorem dX0_railTold_40 : decode cX0_railTold 40 = .ok (.iload 6, 2) := dk_21 6 (dk_at dksX0_railTold_1 18 rfl rfl)
theorem dX0_railTold_42 : decode cX0_railTold 42 = .ok (.iload 4, 2) := dk_21 4 (dk_at dksX0_railTold_1 20 rfl rfl)
theorem dX0_railTold_44 : decode cX0_railTold 44 = .ok (.if_icmp .ge 20, 3) := dk_162 0 20 (dk_at dksX0_railTold_2 0 rfl rfl)
theorem dX0_railTold_47 : decode cX0_railTold 47 = .ok (.aload_n 0, 1) := dk_42 (dk_at dksX0_railTold_2 3 rfl rfl)
theorem dX0_railTold_48 : decode cX0_railTold 48 = .ok (.iload_n 1, 1) := dk_27 (dk_at dksX0_railTold_2 4 rfl rfl)
theorem dX0_railTold_49 : decode cX0_railTold 49 = .ok (.iload_n 2, 1) := dk_28 (dk_at dksX0_railTold_2 5 rfl rfl)
theorem dX0_railTold_50 : decode cX0_railTold 50 = .ok (.iload_n 3, 1) := dk_29 (dk_at dksX0_railTold_2 6 rfl rfl)
theorem dX0_railTold_51 : decode cX0_railTold 51 = .ok (.iload 6, 2) := dk_21 6 (dk_at dksX0_railTold_2 7 rfl rfl)
theorem dX0_railTold_53 : decode cX0_railTold 53 = .ok (.invokevirtual 258, 3) := dk_182 1 2 (dk_at dksX0_railTold_2 9 rfl rfl)
theorem dX0_railTold_56 : decode cX0_railTold 56 = .ok (.ifCond .eq 8, 3) := dk_153 0 8 (dk_at dksX0_railTold_2 12 rfl rfl)
theorem dX0_railTold_59 : decode cX0_railTold 59 = .ok (.iload 6, 2) := dk_21 6 (dk_at dksX0_railTold_2 15 rfl rfl)
theorem dX0_railTold_61 : decode cX0_railTold 61 = .ok (.goto 5, 3) := dk_167 0 5 (dk_at dksX0_railTold_2 17 rfl rfl)
theorem dX0_railTold_64 : decode cX0_railTold 64 = .ok (.iload 4, 2) := dk_21 4 (dk_at dksX0_railTold_2 20 rfl rfl)
theorem dX0_railTold_66 : decode cX0_railTold 66 = .ok (.istore 4, 2) := dk_54 4 (dk_at dksX0_railTold_2 22 rfl rfl)
theorem dX0_railTold_68 : decode cX0_railTold 68 = .ok (.iinc 5 1, 3) := dk_132 5 1 (dk_at dksX0_railTold_3 0 rfl rfl)
theorem dX0_railTold_71 : decode cX0_railTold 71 = .ok (.goto (-55), 3) := dk_167 255 201 (dk_at dksX0_railTold_3 3 rfl rfl)
theorem dX0_railTold_74 : decode cX0_railTold 74 = .ok (.iload 4, 2) := dk_21 4 (dk_at dksX0_railTold_3 6 rfl rfl)
theorem dX0_railTold_76 : decode cX0_railTold 76 = .ok (.ldc 240, 2) := dk_18 240 (dk_at dksX0_railTold_3 8 rfl rfl)
theorem dX0_railTold_78 : decode cX0_railTold 78 = .ok (.if_icmp .lt 7, 3) := dk_161 0 7 (dk_at dksX0_railTold_3 10 rfl rfl)
theorem dX0_railTold_81 : decode cX0_railTold 81 = .ok (.iconst (-1), 1) := dk_2 (dk_at dksX0_railTold_3 13 rfl rfl)
theorem dX0_railTold_82 : decode cX0_railTold 82 = .ok (.goto 5, 3) := dk_167 0 5 (dk_at dksX0_railTold_3 14 rfl rfl)
theorem dX0_railTold_85 : decode cX0_railTold 85 = .ok (.iload 4, 2) := dk_21 4 (dk_at dksX0_railTold_3 17 rfl rfl)
theorem dX0_railTold_87 : decode cX0_railTold 87 = .ok (.ireturn, 1) := dk_172 (dk_at dksX0_railTold_3 19 rfl rfl)
abbrev cX0_comesBy : ByteArray := prog_1_method_34_code
def yX0_comesBy : MethodName := ⟨RX0, "comesBy", "(IIII)Z"⟩
def dkwX0_comesBy_2 : List UInt8 := [132, 6, 1, 167, 255, 213, 42, 180, 0, 25, 28, 21, 5, 182, 0, 255, 29, 184, 0, 175, 172]
abbrev dktX0_comesBy_2 : List UInt8 := dkwX0_comesBy_2 ++ []
def dkwX0_comesBy_1 : List UInt8 := [27, 21, 6, 182, 0, 203, 21, 4, 163, 0, 10, 4, 21, 6, 120, 167, 0, 4, 3, 128, 54, 5]
abbrev dktX0_comesBy_1 : List UInt8 := dkwX0_comesBy_1 ++ dktX0_comesBy_2
def dkwX0_comesBy_0 : List UInt8 := [3, 54, 5, 3, 54, 6, 21, 6, 42, 180, 0, 16, 182, 0, 92, 162, 0, 37, 21, 5, 42, 180, 0, 25]
abbrev dktX0_comesBy_0 : List UInt8 := dkwX0_comesBy_0 ++ dktX0_comesBy_1
theorem dksX0_comesBy_0 : cX0_comesBy.data.toList.drop 0 = dktX0_comesBy_0 := by decide +kernel
theorem dksX0_comesBy_1 : cX0_comesBy.data.toList.drop 24 = dktX0_comesBy_1 := dk_seg dksX0_comesBy_0 24 rfl rfl
theorem dksX0_comesBy_2 : cX0_comesBy.data.toList.drop 46 = dktX0_comesBy_2 := dk_seg dksX0_comesBy_1 22 rfl rfl
theorem dX0_comesBy_0 : decode cX0_comesBy 0 = .ok (.iconst 0, 1) := dk_3 (dk_at dksX0_comesBy_0 0 rfl rfl)
theorem dX0_comesBy_1 : decode cX0_comesBy 1 = .ok (.istore 5, 2) := dk_54 5 (dk_at dksX0_comesBy_0 1 rfl rfl)
theorem dX0_comesBy_3 : decode cX0_comesBy 3 = .ok (.iconst 0, 1) := dk_3 (dk_at dksX0_comesBy_0 3 rfl rfl)
theorem dX0_comesBy_4 : decode cX0_comesBy 4 = .ok (.istore 6, 2) := dk_54 6 (dk_at dksX0_comesBy_0 4 rfl rfl)
theorem dX0_comesBy_6 : decode cX0_comesBy 6 = .ok (.iload 6, 2) := dk_21 6 (dk_at dksX0_comesBy_0 6 rfl rfl)
theorem dX0_comesBy_8 : decode cX0_comesBy 8 = .ok (.aload_n 0, 1) := dk_42 (dk_at dksX0_comesBy_0 8 rfl rfl)
theorem dX0_comesBy_9 : decode cX0_comesBy 9 = .ok (.getfield 16, 3) := dk_180 0 16 (dk_at dksX0_comesBy_0 9 rfl rfl)
theorem dX0_comesBy_12 : decode cX0_comesBy 12 = .ok (.invokevirtual 92, 3) := dk_182 0 92 (dk_at dksX0_comesBy_0 12 rfl rfl)
theorem dX0_comesBy_15 : decode cX0_comesBy 15 = .ok (.if_icmp .ge 37, 3) := dk_162 0 37 (dk_at dksX0_comesBy_0 15 rfl rfl)
theorem dX0_comesBy_18 : decode cX0_comesBy 18 = .ok (.iload 5, 2) := dk_21 5 (dk_at dksX0_comesBy_0 18 rfl rfl)
theorem dX0_comesBy_20 : decode cX0_comesBy 20 = .ok (.aload_n 0, 1) := dk_42 (dk_at dksX0_comesBy_0 20 rfl rfl)
theorem dX0_comesBy_21 : decode cX0_comesBy 21 = .ok (.getfield 25, 3) := dk_180 0 25 (dk_at dksX0_comesBy_0 21 rfl rfl)
theorem dX0_comesBy_24 : decode cX0_comesBy 24 = .ok (.iload_n 1, 1) := dk_27 (dk_at dksX0_comesBy_1 0 rfl rfl)
theorem dX0_comesBy_25 : decode cX0_comesBy 25 = .ok (.iload 6, 2) := dk_21 6 (dk_at dksX0_comesBy_1 1 rfl rfl)
theorem dX0_comesBy_27 : decode cX0_comesBy 27 = .ok (.invokevirtual 203, 3) := dk_182 0 203 (dk_at dksX0_comesBy_1 3 rfl rfl)
theorem dX0_comesBy_30 : decode cX0_comesBy 30 = .ok (.iload 4, 2) := dk_21 4 (dk_at dksX0_comesBy_1 6 rfl rfl)
theorem dX0_comesBy_32 : decode cX0_comesBy 32 = .ok (.if_icmp .gt 10, 3) := dk_163 0 10 (dk_at dksX0_comesBy_1 8 rfl rfl)
theorem dX0_comesBy_35 : decode cX0_comesBy 35 = .ok (.iconst 1, 1) := dk_4 (dk_at dksX0_comesBy_1 11 rfl rfl)
theorem dX0_comesBy_36 : decode cX0_comesBy 36 = .ok (.iload 6, 2) := dk_21 6 (dk_at dksX0_comesBy_1 12 rfl rfl)
theorem dX0_comesBy_38 : decode cX0_comesBy 38 = .ok (.ishl, 1) := dk_120 (dk_at dksX0_comesBy_1 14 rfl rfl)
theorem dX0_comesBy_39 : decode cX0_comesBy 39 = .ok (.goto 4, 3) := dk_167 0 4 (dk_at dksX0_comesBy_1 15 rfl rfl)
theorem dX0_comesBy_42 : decode cX0_comesBy 42 = .ok (.iconst 0, 1) := dk_3 (dk_at dksX0_comesBy_1 18 rfl rfl)
theorem dX0_comesBy_43 : decode cX0_comesBy 43 = .ok (.ior, 1) := dk_128 (dk_at dksX0_comesBy_1 19 rfl rfl)
theorem dX0_comesBy_44 : decode cX0_comesBy 44 = .ok (.istore 5, 2) := dk_54 5 (dk_at dksX0_comesBy_1 20 rfl rfl)
theorem dX0_comesBy_46 : decode cX0_comesBy 46 = .ok (.iinc 6 1, 3) := dk_132 6 1 (dk_at dksX0_comesBy_2 0 rfl rfl)
theorem dX0_comesBy_49 : decode cX0_comesBy 49 = .ok (.goto (-43), 3) := dk_167 255 213 (dk_at dksX0_comesBy_2 3 rfl rfl)
theorem dX0_comesBy_52 : decode cX0_comesBy 52 = .ok (.aload_n 0, 1) := dk_42 (dk_at dksX0_comesBy_2 6 rfl rfl)
theorem dX0_comesBy_53 : decode cX0_comesBy 53 = .ok (.getfield 25, 3) := dk_180 0 25 (dk_at dksX0_comesBy_2 7 rfl rfl)
theorem dX0_comesBy_56 : decode cX0_comesBy 56 = .ok (.iload_n 2, 1) := dk_28 (dk_at dksX0_comesBy_2 10 rfl rfl)
theorem dX0_comesBy_57 : decode cX0_comesBy 57 = .ok (.iload 5, 2) := dk_21 5 (dk_at dksX0_comesBy_2 11 rfl rfl)
theorem dX0_comesBy_59 : decode cX0_comesBy 59 = .ok (.invokevirtual 255, 3) := dk_182 0 255 (dk_at dksX0_comesBy_2 13 rfl rfl)
theorem dX0_comesBy_62 : decode cX0_comesBy 62 = .ok (.iload_n 3, 1) := dk_29 (dk_at dksX0_comesBy_2 16 rfl rfl)
theorem dX0_comesBy_63 : decode cX0_comesBy 63 = .ok (.invokestatic 175, 3) := dk_184 0 175 (dk_at dksX0_comesBy_2 17 rfl rfl)
theorem dX0_comesBy_66 : decode cX0_comesBy 66 = .ok (.ireturn, 1) := dk_172 (dk_at dksX0_comesBy_2 20 rfl rfl)
abbrev cX0_driver : ByteArray := prog_1_method_41_code
def yX0_driver : MethodName := ⟨RX0, "driver", "(II)I"⟩
def dkwX0_driver_1 : List UInt8 := [28, 182, 1, 32, 167, 0, 5, 16, 154, 172]
abbrev dktX0_driver_1 : List UInt8 := dkwX0_driver_1 ++ []
def dkwX0_driver_0 : List UInt8 := [42, 27, 182, 1, 29, 154, 0, 8, 16, 155, 167, 0, 23, 28, 3, 8, 184, 0, 3, 153, 0, 12, 42, 27]
abbrev dktX0_driver_0 : List UInt8 := dkwX0_driver_0 ++ dktX0_driver_1
theorem dksX0_driver_0 : cX0_driver.data.toList.drop 0 = dktX0_driver_0 := by decide +kernel
theorem dksX0_driver_1 : cX0_driver.data.toList.drop 24 = dktX0_driver_1 := dk_seg dksX0_driver_0 24 rfl rfl
theorem dX0_driver_0 : decode cX0_driver 0 = .ok (.aload_n 0, 1) := dk_42 (dk_at dksX0_driver_0 0 rfl rfl)
theorem dX0_driver_1 : decode cX0_driver 1 = .ok (.iload_n 1, 1) := dk_27 (dk_at dksX0_driver_0 1 rfl rfl)
theorem dX0_driver_2 : decode cX0_driver 2 = .ok (.invokevirtual 285, 3) := dk_182 1 29 (dk_at dksX0_driver_0 2 rfl rfl)
theorem dX0_driver_5 : decode cX0_driver 5 = .ok (.ifCond .ne 8, 3) := dk_154 0 8 (dk_at dksX0_driver_0 5 rfl rfl)
theorem dX0_driver_8 : decode cX0_driver 8 = .ok (.bipush (-101), 2) := dk_16 155 (dk_at dksX0_driver_0 8 rfl rfl)
theorem dX0_driver_10 : decode cX0_driver 10 = .ok (.goto 23, 3) := dk_167 0 23 (dk_at dksX0_driver_0 10 rfl rfl)
theorem dX0_driver_13 : decode cX0_driver 13 = .ok (.iload_n 2, 1) := dk_28 (dk_at dksX0_driver_0 13 rfl rfl)
theorem dX0_driver_14 : decode cX0_driver 14 = .ok (.iconst 0, 1) := dk_3 (dk_at dksX0_driver_0 14 rfl rfl)
theorem dX0_driver_15 : decode cX0_driver 15 = .ok (.iconst 5, 1) := dk_8 (dk_at dksX0_driver_0 15 rfl rfl)
theorem dX0_driver_16 : decode cX0_driver 16 = .ok (.invokestatic 3, 3) := dk_184 0 3 (dk_at dksX0_driver_0 16 rfl rfl)
theorem dX0_driver_19 : decode cX0_driver 19 = .ok (.ifCond .eq 12, 3) := dk_153 0 12 (dk_at dksX0_driver_0 19 rfl rfl)
theorem dX0_driver_22 : decode cX0_driver 22 = .ok (.aload_n 0, 1) := dk_42 (dk_at dksX0_driver_0 22 rfl rfl)
theorem dX0_driver_23 : decode cX0_driver 23 = .ok (.iload_n 1, 1) := dk_27 (dk_at dksX0_driver_0 23 rfl rfl)
theorem dX0_driver_24 : decode cX0_driver 24 = .ok (.iload_n 2, 1) := dk_28 (dk_at dksX0_driver_1 0 rfl rfl)
theorem dX0_driver_25 : decode cX0_driver 25 = .ok (.invokevirtual 288, 3) := dk_182 1 32 (dk_at dksX0_driver_1 1 rfl rfl)
theorem dX0_driver_28 : decode cX0_driver 28 = .ok (.goto 5, 3) := dk_167 0 5 (dk_at dksX0_driver_1 4 rfl rfl)
theorem dX0_driver_31 : decode cX0_driver 31 = .ok (.bipush (-102), 2) := dk_16 154 (dk_at dksX0_driver_1 7 rfl rfl)
theorem dX0_driver_33 : decode cX0_driver 33 = .ok (.ireturn, 1) := dk_172 (dk_at dksX0_driver_1 9 rfl rfl)
abbrev cX0_isDriver : ByteArray := prog_1_method_9_code
def yX0_isDriver : MethodName := ⟨RX0, "isDriver", "(I)Z"⟩
def dkwX0_isDriver_0 : List UInt8 := [42, 182, 0, 96, 153, 0, 16, 27, 3, 4, 184, 0, 3, 153, 0, 7, 4, 167, 0, 4, 3, 172]
abbrev dktX0_isDriver_0 : List UInt8 := dkwX0_isDriver_0 ++ []
theorem dksX0_isDriver_0 : cX0_isDriver.data.toList.drop 0 = dktX0_isDriver_0 := by decide +kernel
theorem dX0_isDriver_0 : decode cX0_isDriver 0 = .ok (.aload_n 0, 1) := dk_42 (dk_at dksX0_isDriver_0 0 rfl rfl)
theorem dX0_isDriver_1 : decode cX0_isDriver 1 = .ok (.invokevirtual 96, 3) := dk_182 0 96 (dk_at dksX0_isDriver_0 1 rfl rfl)
theorem dX0_isDriver_4 : decode cX0_isDriver 4 = .ok (.ifCond .eq 16, 3) := dk_153 0 16 (dk_at dksX0_isDriver_0 4 rfl rfl)
theorem dX0_isDriver_7 : decode cX0_isDriver 7 = .ok (.iload_n 1, 1) := dk_27 (dk_at dksX0_isDriver_0 7 rfl rfl)
theorem dX0_isDriver_8 : decode cX0_isDriver 8 = .ok (.iconst 0, 1) := dk_3 (dk_at dksX0_isDriver_0 8 rfl rfl)
theorem dX0_isDriver_9 : decode cX0_isDriver 9 = .ok (.iconst 1, 1) := dk_4 (dk_at dksX0_isDriver_0 9 rfl rfl)
theorem dX0_isDriver_10 : decode cX0_isDriver 10 = .ok (.invokestatic 3, 3) := dk_184 0 3 (dk_at dksX0_isDriver_0 10 rfl rfl)
theorem dX0_isDriver_13 : decode cX0_isDriver 13 = .ok (.ifCond .eq 7, 3) := dk_153 0 7 (dk_at dksX0_isDriver_0 13 rfl rfl)
theorem dX0_isDriver_16 : decode cX0_isDriver 16 = .ok (.iconst 1, 1) := dk_4 (dk_at dksX0_isDriver_0 16 rfl rfl)
theorem dX0_isDriver_17 : decode cX0_isDriver 17 = .ok (.goto 4, 3) := dk_167 0 4 (dk_at dksX0_isDriver_0 17 rfl rfl)
theorem dX0_isDriver_20 : decode cX0_isDriver 20 = .ok (.iconst 0, 1) := dk_3 (dk_at dksX0_isDriver_0 20 rfl rfl)
theorem dX0_isDriver_21 : decode cX0_isDriver 21 = .ok (.ireturn, 1) := dk_172 (dk_at dksX0_isDriver_0 21 rfl rfl)
abbrev cX0_driverTold : ByteArray := prog_1_method_40_code
def yX0_driverTold : MethodName := ⟨RX0, "driverTold", "(II)I"⟩
def dkwX0_driverTold_5 : List UInt8 := [180, 0, 172, 27, 46, 182, 0, 255, 172]
abbrev dktX0_driverTold_5 : List UInt8 := dkwX0_driverTold_5 ++ []
def dkwX0_driverTold_4 : List UInt8 := [180, 1, 26, 27, 46, 172, 42, 180, 0, 25, 42, 180, 0, 25, 180, 1, 20, 27, 46, 42, 180, 0, 25]
abbrev dktX0_driverTold_4 : List UInt8 := dkwX0_driverTold_4 ++ dktX0_driverTold_5
def dkwX0_driverTold_3 : List UInt8 := [180, 0, 25, 180, 0, 172, 27, 46, 182, 1, 17, 172, 42, 27, 182, 1, 23, 172, 42, 180, 0, 25]
abbrev dktX0_driverTold_3 : List UInt8 := dkwX0_driverTold_3 ++ dktX0_driverTold_4
def dkwX0_driverTold_2 : List UInt8 := [42, 180, 0, 25, 180, 1, 20, 27, 46, 172, 42, 180, 0, 25, 180, 0, 172, 27, 46, 172, 42, 42]
abbrev dktX0_driverTold_2 : List UInt8 := dkwX0_driverTold_2 ++ dktX0_driverTold_3
def dkwX0_driverTold_1 : List UInt8 := [170, 0, 0, 0, 0, 0, 85, 0, 0, 0, 0, 0, 0, 0, 4, 0, 0, 0, 35, 0, 0, 0, 45, 0, 0, 0, 55, 0, 0, 0, 69, 0, 0, 0, 75]
abbrev dktX0_driverTold_1 : List UInt8 := dkwX0_driverTold_1 ++ dktX0_driverTold_2
def dkwX0_driverTold_0 : List UInt8 := [28]
abbrev dktX0_driverTold_0 : List UInt8 := dkwX0_driverTold_0 ++ dktX0_driverTold_1
theorem dksX0_driverTold_0 : cX0_driverTold.data.toList.drop 0 = dktX0_driverTold_0 := by decide +kernel
theorem dksX0_driverTold_1 : cX0_driverTold.data.toList.drop 1 = dktX0_driverTold_1 := dk_seg dksX0_driverTold_0 1 rfl rfl
theorem dksX0_driverTold_2 : cX0_driverTold.data.toList.drop 36 = dktX0_driverTold_2 := dk_seg dksX0_driverTold_1 35 rfl rfl
theorem dksX0_driverTold_3 : cX0_driverTold.data.toList.drop 58 = dktX0_driverTold_3 := dk_seg dksX0_driverTold_2 22 rfl rfl
theorem dksX0_driverTold_4 : cX0_driverTold.data.toList.drop 80 = dktX0_driverTold_4 := dk_seg dksX0_driverTold_3 22 rfl rfl
theorem dksX0_driverTold_5 : cX0_driverTold.data.toList.drop 103 = dktX0_driverTold_5 := dk_seg dksX0_driverTold_4 23 rfl rfl
theorem dX0_driverTold_0 : decode cX0_driverTold 0 = .ok (.iload_n 2, 1) := dk_28 (dk_at dksX0_driverTold_0 0 rfl rfl)
theorem dX0_driverTold_1 : decode cX0_driverTold 1 = .ok (.tableswitch 85 0 4 #[35, 45, 55, 69, 75], 35) := by decide +kernel
theorem dX0_driverTold_36 : decode cX0_driverTold 36 = .ok (.aload_n 0, 1) := dk_42 (dk_at dksX0_driverTold_2 0 rfl rfl)
theorem dX0_driverTold_37 : decode cX0_driverTold 37 = .ok (.getfield 25, 3) := dk_180 0 25 (dk_at dksX0_driverTold_2 1 rfl rfl)
theorem dX0_driverTold_40 : decode cX0_driverTold 40 = .ok (.getfield 276, 3) := dk_180 1 20 (dk_at dksX0_driverTold_2 4 rfl rfl)
theorem dX0_driverTold_43 : decode cX0_driverTold 43 = .ok (.iload_n 1, 1) := dk_27 (dk_at dksX0_driverTold_2 7 rfl rfl)
theorem dX0_driverTold_44 : decode cX0_driverTold 44 = .ok (.iaload, 1) := dk_46 (dk_at dksX0_driverTold_2 8 rfl rfl)
theorem dX0_driverTold_45 : decode cX0_driverTold 45 = .ok (.ireturn, 1) := dk_172 (dk_at dksX0_driverTold_2 9 rfl rfl)
theorem dX0_driverTold_46 : decode cX0_driverTold 46 = .ok (.aload_n 0, 1) := dk_42 (dk_at dksX0_driverTold_2 10 rfl rfl)
theorem dX0_driverTold_47 : decode cX0_driverTold 47 = .ok (.getfield 25, 3) := dk_180 0 25 (dk_at dksX0_driverTold_2 11 rfl rfl)
theorem dX0_driverTold_50 : decode cX0_driverTold 50 = .ok (.getfield 172, 3) := dk_180 0 172 (dk_at dksX0_driverTold_2 14 rfl rfl)
theorem dX0_driverTold_53 : decode cX0_driverTold 53 = .ok (.iload_n 1, 1) := dk_27 (dk_at dksX0_driverTold_2 17 rfl rfl)
theorem dX0_driverTold_54 : decode cX0_driverTold 54 = .ok (.iaload, 1) := dk_46 (dk_at dksX0_driverTold_2 18 rfl rfl)
theorem dX0_driverTold_55 : decode cX0_driverTold 55 = .ok (.ireturn, 1) := dk_172 (dk_at dksX0_driverTold_2 19 rfl rfl)
theorem dX0_driverTold_56 : decode cX0_driverTold 56 = .ok (.aload_n 0, 1) := dk_42 (dk_at dksX0_driverTold_2 20 rfl rfl)
theorem dX0_driverTold_57 : decode cX0_driverTold 57 = .ok (.aload_n 0, 1) := dk_42 (dk_at dksX0_driverTold_2 21 rfl rfl)
theorem dX0_driverTold_58 : decode cX0_driverTold 58 = .ok (.getfield 25, 3) := dk_180 0 25 (dk_at dksX0_driverTold_3 0 rfl rfl)
theorem dX0_driverTold_61 : decode cX0_driverTold 61 = .ok (.getfield 172, 3) := dk_180 0 172 (dk_at dksX0_driverTold_3 3 rfl rfl)
theorem dX0_driverTold_64 : decode cX0_driverTold 64 = .ok (.iload_n 1, 1) := dk_27 (dk_at dksX0_driverTold_3 6 rfl rfl)
theorem dX0_driverTold_65 : decode cX0_driverTold 65 = .ok (.iaload, 1) := dk_46 (dk_at dksX0_driverTold_3 7 rfl rfl)
theorem dX0_driverTold_66 : decode cX0_driverTold 66 = .ok (.invokevirtual 273, 3) := dk_182 1 17 (dk_at dksX0_driverTold_3 8 rfl rfl)
theorem dX0_driverTold_69 : decode cX0_driverTold 69 = .ok (.ireturn, 1) := dk_172 (dk_at dksX0_driverTold_3 11 rfl rfl)
theorem dX0_driverTold_70 : decode cX0_driverTold 70 = .ok (.aload_n 0, 1) := dk_42 (dk_at dksX0_driverTold_3 12 rfl rfl)
theorem dX0_driverTold_71 : decode cX0_driverTold 71 = .ok (.iload_n 1, 1) := dk_27 (dk_at dksX0_driverTold_3 13 rfl rfl)
theorem dX0_driverTold_72 : decode cX0_driverTold 72 = .ok (.invokevirtual 279, 3) := dk_182 1 23 (dk_at dksX0_driverTold_3 14 rfl rfl)
theorem dX0_driverTold_75 : decode cX0_driverTold 75 = .ok (.ireturn, 1) := dk_172 (dk_at dksX0_driverTold_3 17 rfl rfl)
theorem dX0_driverTold_76 : decode cX0_driverTold 76 = .ok (.aload_n 0, 1) := dk_42 (dk_at dksX0_driverTold_3 18 rfl rfl)
theorem dX0_driverTold_77 : decode cX0_driverTold 77 = .ok (.getfield 25, 3) := dk_180 0 25 (dk_at dksX0_driverTold_3 19 rfl rfl)
theorem dX0_driverTold_80 : decode cX0_driverTold 80 = .ok (.getfield 282, 3) := dk_180 1 26 (dk_at dksX0_driverTold_4 0 rfl rfl)
theorem dX0_driverTold_83 : decode cX0_driverTold 83 = .ok (.iload_n 1, 1) := dk_27 (dk_at dksX0_driverTold_4 3 rfl rfl)
theorem dX0_driverTold_84 : decode cX0_driverTold 84 = .ok (.iaload, 1) := dk_46 (dk_at dksX0_driverTold_4 4 rfl rfl)
theorem dX0_driverTold_85 : decode cX0_driverTold 85 = .ok (.ireturn, 1) := dk_172 (dk_at dksX0_driverTold_4 5 rfl rfl)
theorem dX0_driverTold_86 : decode cX0_driverTold 86 = .ok (.aload_n 0, 1) := dk_42 (dk_at dksX0_driverTold_4 6 rfl rfl)
theorem dX0_driverTold_87 : decode cX0_driverTold 87 = .ok (.getfield 25, 3) := dk_180 0 25 (dk_at dksX0_driverTold_4 7 rfl rfl)
theorem dX0_driverTold_90 : decode cX0_driverTold 90 = .ok (.aload_n 0, 1) := dk_42 (dk_at dksX0_driverTold_4 10 rfl rfl)
theorem dX0_driverTold_91 : decode cX0_driverTold 91 = .ok (.getfield 25, 3) := dk_180 0 25 (dk_at dksX0_driverTold_4 11 rfl rfl)
theorem dX0_driverTold_94 : decode cX0_driverTold 94 = .ok (.getfield 276, 3) := dk_180 1 20 (dk_at dksX0_driverTold_4 14 rfl rfl)
theorem dX0_driverTold_97 : decode cX0_driverTold 97 = .ok (.iload_n 1, 1) := dk_27 (dk_at dksX0_driverTold_4 17 rfl rfl)
theorem dX0_driverTold_98 : decode cX0_driverTold 98 = .ok (.iaload, 1) := dk_46 (dk_at dksX0_driverTold_4 18 rfl rfl)
theorem dX0_driverTold_99 : decode cX0_driverTold 99 = .ok (.aload_n 0, 1) := dk_42 (dk_at dksX0_driverTold_4 19 rfl rfl)
theorem dX0_driverTold_100 : decode cX0_driverTold 100 = .ok (.getfield 25, 3) := dk_180 0 25 (dk_at dksX0_driverTold_4 20 rfl rfl)
theorem dX0_driverTold_103 : decode cX0_driverTold 103 = .ok (.getfield 172, 3) := dk_180 0 172 (dk_at dksX0_driverTold_5 0 rfl rfl)
theorem dX0_driverTold_106 : decode cX0_driverTold 106 = .ok (.iload_n 1, 1) := dk_27 (dk_at dksX0_driverTold_5 3 rfl rfl)
theorem dX0_driverTold_107 : decode cX0_driverTold 107 = .ok (.iaload, 1) := dk_46 (dk_at dksX0_driverTold_5 4 rfl rfl)
theorem dX0_driverTold_108 : decode cX0_driverTold 108 = .ok (.invokevirtual 255, 3) := dk_182 0 255 (dk_at dksX0_driverTold_5 5 rfl rfl)
theorem dX0_driverTold_111 : decode cX0_driverTold 111 = .ok (.ireturn, 1) := dk_172 (dk_at dksX0_driverTold_5 8 rfl rfl)
abbrev cX0_gapsBy : ByteArray := prog_1_method_38_code
def yX0_gapsBy : MethodName := ⟨RX0, "gapsBy", "(I)I"⟩
def dkwX0_gapsBy_2 : List UInt8 := [21, 5, 184, 1, 12, 96, 62, 132, 4, 1, 167, 255, 209, 29, 5, 108, 172]
abbrev dktX0_gapsBy_2 : List UInt8 := dkwX0_gapsBy_2 ++ []
def dkwX0_gapsBy_1 : List UInt8 := [153, 0, 20, 28, 42, 180, 0, 25, 21, 4, 27, 182, 0, 255, 2, 130, 126, 167, 0, 4, 3, 54, 5, 29]
abbrev dktX0_gapsBy_1 : List UInt8 := dkwX0_gapsBy_1 ++ dktX0_gapsBy_2
def dkwX0_gapsBy_0 : List UInt8 := [42, 182, 1, 9, 61, 3, 62, 3, 54, 4, 21, 4, 16, 8, 162, 0, 46, 28, 21, 4, 184, 0, 175]
abbrev dktX0_gapsBy_0 : List UInt8 := dkwX0_gapsBy_0 ++ dktX0_gapsBy_1
theorem dksX0_gapsBy_0 : cX0_gapsBy.data.toList.drop 0 = dktX0_gapsBy_0 := by decide +kernel
theorem dksX0_gapsBy_1 : cX0_gapsBy.data.toList.drop 23 = dktX0_gapsBy_1 := dk_seg dksX0_gapsBy_0 23 rfl rfl
theorem dksX0_gapsBy_2 : cX0_gapsBy.data.toList.drop 47 = dktX0_gapsBy_2 := dk_seg dksX0_gapsBy_1 24 rfl rfl
theorem dX0_gapsBy_0 : decode cX0_gapsBy 0 = .ok (.aload_n 0, 1) := dk_42 (dk_at dksX0_gapsBy_0 0 rfl rfl)
theorem dX0_gapsBy_1 : decode cX0_gapsBy 1 = .ok (.invokevirtual 265, 3) := dk_182 1 9 (dk_at dksX0_gapsBy_0 1 rfl rfl)
theorem dX0_gapsBy_4 : decode cX0_gapsBy 4 = .ok (.istore_n 2, 1) := dk_61 (dk_at dksX0_gapsBy_0 4 rfl rfl)
theorem dX0_gapsBy_5 : decode cX0_gapsBy 5 = .ok (.iconst 0, 1) := dk_3 (dk_at dksX0_gapsBy_0 5 rfl rfl)
theorem dX0_gapsBy_6 : decode cX0_gapsBy 6 = .ok (.istore_n 3, 1) := dk_62 (dk_at dksX0_gapsBy_0 6 rfl rfl)
theorem dX0_gapsBy_7 : decode cX0_gapsBy 7 = .ok (.iconst 0, 1) := dk_3 (dk_at dksX0_gapsBy_0 7 rfl rfl)
theorem dX0_gapsBy_8 : decode cX0_gapsBy 8 = .ok (.istore 4, 2) := dk_54 4 (dk_at dksX0_gapsBy_0 8 rfl rfl)
theorem dX0_gapsBy_10 : decode cX0_gapsBy 10 = .ok (.iload 4, 2) := dk_21 4 (dk_at dksX0_gapsBy_0 10 rfl rfl)
theorem dX0_gapsBy_12 : decode cX0_gapsBy 12 = .ok (.bipush 8, 2) := dk_16 8 (dk_at dksX0_gapsBy_0 12 rfl rfl)
theorem dX0_gapsBy_14 : decode cX0_gapsBy 14 = .ok (.if_icmp .ge 46, 3) := dk_162 0 46 (dk_at dksX0_gapsBy_0 14 rfl rfl)
theorem dX0_gapsBy_17 : decode cX0_gapsBy 17 = .ok (.iload_n 2, 1) := dk_28 (dk_at dksX0_gapsBy_0 17 rfl rfl)
theorem dX0_gapsBy_18 : decode cX0_gapsBy 18 = .ok (.iload 4, 2) := dk_21 4 (dk_at dksX0_gapsBy_0 18 rfl rfl)
theorem dX0_gapsBy_20 : decode cX0_gapsBy 20 = .ok (.invokestatic 175, 3) := dk_184 0 175 (dk_at dksX0_gapsBy_0 20 rfl rfl)
theorem dX0_gapsBy_23 : decode cX0_gapsBy 23 = .ok (.ifCond .eq 20, 3) := dk_153 0 20 (dk_at dksX0_gapsBy_1 0 rfl rfl)
theorem dX0_gapsBy_26 : decode cX0_gapsBy 26 = .ok (.iload_n 2, 1) := dk_28 (dk_at dksX0_gapsBy_1 3 rfl rfl)
theorem dX0_gapsBy_27 : decode cX0_gapsBy 27 = .ok (.aload_n 0, 1) := dk_42 (dk_at dksX0_gapsBy_1 4 rfl rfl)
theorem dX0_gapsBy_28 : decode cX0_gapsBy 28 = .ok (.getfield 25, 3) := dk_180 0 25 (dk_at dksX0_gapsBy_1 5 rfl rfl)
theorem dX0_gapsBy_31 : decode cX0_gapsBy 31 = .ok (.iload 4, 2) := dk_21 4 (dk_at dksX0_gapsBy_1 8 rfl rfl)
theorem dX0_gapsBy_33 : decode cX0_gapsBy 33 = .ok (.iload_n 1, 1) := dk_27 (dk_at dksX0_gapsBy_1 10 rfl rfl)
theorem dX0_gapsBy_34 : decode cX0_gapsBy 34 = .ok (.invokevirtual 255, 3) := dk_182 0 255 (dk_at dksX0_gapsBy_1 11 rfl rfl)
theorem dX0_gapsBy_37 : decode cX0_gapsBy 37 = .ok (.iconst (-1), 1) := dk_2 (dk_at dksX0_gapsBy_1 14 rfl rfl)
theorem dX0_gapsBy_38 : decode cX0_gapsBy 38 = .ok (.ixor, 1) := dk_130 (dk_at dksX0_gapsBy_1 15 rfl rfl)
theorem dX0_gapsBy_39 : decode cX0_gapsBy 39 = .ok (.iand, 1) := dk_126 (dk_at dksX0_gapsBy_1 16 rfl rfl)
theorem dX0_gapsBy_40 : decode cX0_gapsBy 40 = .ok (.goto 4, 3) := dk_167 0 4 (dk_at dksX0_gapsBy_1 17 rfl rfl)
theorem dX0_gapsBy_43 : decode cX0_gapsBy 43 = .ok (.iconst 0, 1) := dk_3 (dk_at dksX0_gapsBy_1 20 rfl rfl)
theorem dX0_gapsBy_44 : decode cX0_gapsBy 44 = .ok (.istore 5, 2) := dk_54 5 (dk_at dksX0_gapsBy_1 21 rfl rfl)
theorem dX0_gapsBy_46 : decode cX0_gapsBy 46 = .ok (.iload_n 3, 1) := dk_29 (dk_at dksX0_gapsBy_1 23 rfl rfl)
theorem dX0_gapsBy_47 : decode cX0_gapsBy 47 = .ok (.iload 5, 2) := dk_21 5 (dk_at dksX0_gapsBy_2 0 rfl rfl)
theorem dX0_gapsBy_49 : decode cX0_gapsBy 49 = .ok (.invokestatic 268, 3) := dk_184 1 12 (dk_at dksX0_gapsBy_2 2 rfl rfl)
theorem dX0_gapsBy_52 : decode cX0_gapsBy 52 = .ok (.iadd, 1) := dk_96 (dk_at dksX0_gapsBy_2 5 rfl rfl)
theorem dX0_gapsBy_53 : decode cX0_gapsBy 53 = .ok (.istore_n 3, 1) := dk_62 (dk_at dksX0_gapsBy_2 6 rfl rfl)
theorem dX0_gapsBy_54 : decode cX0_gapsBy 54 = .ok (.iinc 4 1, 3) := dk_132 4 1 (dk_at dksX0_gapsBy_2 7 rfl rfl)
theorem dX0_gapsBy_57 : decode cX0_gapsBy 57 = .ok (.goto (-47), 3) := dk_167 255 209 (dk_at dksX0_gapsBy_2 10 rfl rfl)
theorem dX0_gapsBy_60 : decode cX0_gapsBy 60 = .ok (.iload_n 3, 1) := dk_29 (dk_at dksX0_gapsBy_2 13 rfl rfl)
theorem dX0_gapsBy_61 : decode cX0_gapsBy 61 = .ok (.iconst 2, 1) := dk_5 (dk_at dksX0_gapsBy_2 14 rfl rfl)
theorem dX0_gapsBy_62 : decode cX0_gapsBy 62 = .ok (.idiv, 1) := dk_108 (dk_at dksX0_gapsBy_2 15 rfl rfl)
theorem dX0_gapsBy_63 : decode cX0_gapsBy 63 = .ok (.ireturn, 1) := dk_172 (dk_at dksX0_gapsBy_2 16 rfl rfl)
abbrev cX0_cornersUsed : ByteArray := prog_1_method_37_code
def yX0_cornersUsed : MethodName := ⟨RX0, "cornersUsed", "()I"⟩
def dkwX0_cornersUsed_2 : List UInt8 := [180, 0, 185, 120, 128, 128, 60, 132, 2, 1, 167, 255, 206, 27, 172]
abbrev dktX0_cornersUsed_2 : List UInt8 := dkwX0_cornersUsed_2 ++ []
def dkwX0_cornersUsed_1 : List UInt8 := [182, 0, 126, 192, 0, 85, 180, 0, 182, 120, 4, 42, 180, 0, 16, 28, 182, 0, 126, 192, 0, 85]
abbrev dktX0_cornersUsed_1 : List UInt8 := dkwX0_cornersUsed_1 ++ dktX0_cornersUsed_2
def dkwX0_cornersUsed_0 : List UInt8 := [3, 60, 3, 61, 28, 42, 180, 0, 16, 182, 0, 92, 162, 0, 45, 27, 4, 42, 180, 0, 16, 28]
abbrev dktX0_cornersUsed_0 : List UInt8 := dkwX0_cornersUsed_0 ++ dktX0_cornersUsed_1
theorem dksX0_cornersUsed_0 : cX0_cornersUsed.data.toList.drop 0 = dktX0_cornersUsed_0 := by decide +kernel
theorem dksX0_cornersUsed_1 : cX0_cornersUsed.data.toList.drop 22 = dktX0_cornersUsed_1 := dk_seg dksX0_cornersUsed_0 22 rfl rfl
theorem dksX0_cornersUsed_2 : cX0_cornersUsed.data.toList.drop 44 = dktX0_cornersUsed_2 := dk_seg dksX0_cornersUsed_1 22 rfl rfl
theorem dX0_cornersUsed_0 : decode cX0_cornersUsed 0 = .ok (.iconst 0, 1) := dk_3 (dk_at dksX0_cornersUsed_0 0 rfl rfl)
theorem dX0_cornersUsed_1 : decode cX0_cornersUsed 1 = .ok (.istore_n 1, 1) := dk_60 (dk_at dksX0_cornersUsed_0 1 rfl rfl)
theorem dX0_cornersUsed_2 : decode cX0_cornersUsed 2 = .ok (.iconst 0, 1) := dk_3 (dk_at dksX0_cornersUsed_0 2 rfl rfl)
theorem dX0_cornersUsed_3 : decode cX0_cornersUsed 3 = .ok (.istore_n 2, 1) := dk_61 (dk_at dksX0_cornersUsed_0 3 rfl rfl)
theorem dX0_cornersUsed_4 : decode cX0_cornersUsed 4 = .ok (.iload_n 2, 1) := dk_28 (dk_at dksX0_cornersUsed_0 4 rfl rfl)
theorem dX0_cornersUsed_5 : decode cX0_cornersUsed 5 = .ok (.aload_n 0, 1) := dk_42 (dk_at dksX0_cornersUsed_0 5 rfl rfl)
theorem dX0_cornersUsed_6 : decode cX0_cornersUsed 6 = .ok (.getfield 16, 3) := dk_180 0 16 (dk_at dksX0_cornersUsed_0 6 rfl rfl)
theorem dX0_cornersUsed_9 : decode cX0_cornersUsed 9 = .ok (.invokevirtual 92, 3) := dk_182 0 92 (dk_at dksX0_cornersUsed_0 9 rfl rfl)
theorem dX0_cornersUsed_12 : decode cX0_cornersUsed 12 = .ok (.if_icmp .ge 45, 3) := dk_162 0 45 (dk_at dksX0_cornersUsed_0 12 rfl rfl)
theorem dX0_cornersUsed_15 : decode cX0_cornersUsed 15 = .ok (.iload_n 1, 1) := dk_27 (dk_at dksX0_cornersUsed_0 15 rfl rfl)
theorem dX0_cornersUsed_16 : decode cX0_cornersUsed 16 = .ok (.iconst 1, 1) := dk_4 (dk_at dksX0_cornersUsed_0 16 rfl rfl)
theorem dX0_cornersUsed_17 : decode cX0_cornersUsed 17 = .ok (.aload_n 0, 1) := dk_42 (dk_at dksX0_cornersUsed_0 17 rfl rfl)
theorem dX0_cornersUsed_18 : decode cX0_cornersUsed 18 = .ok (.getfield 16, 3) := dk_180 0 16 (dk_at dksX0_cornersUsed_0 18 rfl rfl)
theorem dX0_cornersUsed_21 : decode cX0_cornersUsed 21 = .ok (.iload_n 2, 1) := dk_28 (dk_at dksX0_cornersUsed_0 21 rfl rfl)
theorem dX0_cornersUsed_22 : decode cX0_cornersUsed 22 = .ok (.invokevirtual 126, 3) := dk_182 0 126 (dk_at dksX0_cornersUsed_1 0 rfl rfl)
theorem dX0_cornersUsed_25 : decode cX0_cornersUsed 25 = .ok (.checkcast 85, 3) := dk_192 0 85 (dk_at dksX0_cornersUsed_1 3 rfl rfl)
theorem dX0_cornersUsed_28 : decode cX0_cornersUsed 28 = .ok (.getfield 182, 3) := dk_180 0 182 (dk_at dksX0_cornersUsed_1 6 rfl rfl)
theorem dX0_cornersUsed_31 : decode cX0_cornersUsed 31 = .ok (.ishl, 1) := dk_120 (dk_at dksX0_cornersUsed_1 9 rfl rfl)
theorem dX0_cornersUsed_32 : decode cX0_cornersUsed 32 = .ok (.iconst 1, 1) := dk_4 (dk_at dksX0_cornersUsed_1 10 rfl rfl)
theorem dX0_cornersUsed_33 : decode cX0_cornersUsed 33 = .ok (.aload_n 0, 1) := dk_42 (dk_at dksX0_cornersUsed_1 11 rfl rfl)
theorem dX0_cornersUsed_34 : decode cX0_cornersUsed 34 = .ok (.getfield 16, 3) := dk_180 0 16 (dk_at dksX0_cornersUsed_1 12 rfl rfl)
theorem dX0_cornersUsed_37 : decode cX0_cornersUsed 37 = .ok (.iload_n 2, 1) := dk_28 (dk_at dksX0_cornersUsed_1 15 rfl rfl)
theorem dX0_cornersUsed_38 : decode cX0_cornersUsed 38 = .ok (.invokevirtual 126, 3) := dk_182 0 126 (dk_at dksX0_cornersUsed_1 16 rfl rfl)
theorem dX0_cornersUsed_41 : decode cX0_cornersUsed 41 = .ok (.checkcast 85, 3) := dk_192 0 85 (dk_at dksX0_cornersUsed_1 19 rfl rfl)
theorem dX0_cornersUsed_44 : decode cX0_cornersUsed 44 = .ok (.getfield 185, 3) := dk_180 0 185 (dk_at dksX0_cornersUsed_2 0 rfl rfl)
theorem dX0_cornersUsed_47 : decode cX0_cornersUsed 47 = .ok (.ishl, 1) := dk_120 (dk_at dksX0_cornersUsed_2 3 rfl rfl)
theorem dX0_cornersUsed_48 : decode cX0_cornersUsed 48 = .ok (.ior, 1) := dk_128 (dk_at dksX0_cornersUsed_2 4 rfl rfl)
theorem dX0_cornersUsed_49 : decode cX0_cornersUsed 49 = .ok (.ior, 1) := dk_128 (dk_at dksX0_cornersUsed_2 5 rfl rfl)
theorem dX0_cornersUsed_50 : decode cX0_cornersUsed 50 = .ok (.istore_n 1, 1) := dk_60 (dk_at dksX0_cornersUsed_2 6 rfl rfl)
theorem dX0_cornersUsed_51 : decode cX0_cornersUsed 51 = .ok (.iinc 2 1, 3) := dk_132 2 1 (dk_at dksX0_cornersUsed_2 7 rfl rfl)
theorem dX0_cornersUsed_54 : decode cX0_cornersUsed 54 = .ok (.goto (-50), 3) := dk_167 255 206 (dk_at dksX0_cornersUsed_2 10 rfl rfl)
theorem dX0_cornersUsed_57 : decode cX0_cornersUsed 57 = .ok (.iload_n 1, 1) := dk_27 (dk_at dksX0_cornersUsed_2 13 rfl rfl)
theorem dX0_cornersUsed_58 : decode cX0_cornersUsed 58 = .ok (.ireturn, 1) := dk_172 (dk_at dksX0_cornersUsed_2 14 rfl rfl)
abbrev cX0_learnNext : ByteArray := prog_1_method_39_code
def yX0_learnNext : MethodName := ⟨RX0, "learnNext", "(I)I"⟩
def dkwX0_learnNext_3 : List UInt8 := [62, 132, 4, 1, 167, 255, 201, 28, 172]
abbrev dktX0_learnNext_3 : List UInt8 := dkwX0_learnNext_3 ++ []
def dkwX0_learnNext_2 : List UInt8 := [182, 1, 17, 54, 5, 21, 5, 29, 162, 0, 8, 21, 4, 167, 0, 4, 28, 61, 29, 21, 5, 184, 0, 235]
abbrev dktX0_learnNext_2 : List UInt8 := dkwX0_learnNext_2 ++ dktX0_learnNext_3
def dkwX0_learnNext_1 : List UInt8 := [180, 0, 16, 182, 0, 92, 162, 0, 49, 42, 42, 180, 0, 25, 180, 0, 172, 27, 46, 4, 21, 4, 120, 128]
abbrev dktX0_learnNext_1 : List UInt8 := dkwX0_learnNext_1 ++ dktX0_learnNext_2
def dkwX0_learnNext_0 : List UInt8 := [2, 61, 42, 42, 180, 0, 25, 180, 0, 172, 27, 46, 182, 1, 17, 62, 3, 54, 4, 21, 4, 42]
abbrev dktX0_learnNext_0 : List UInt8 := dkwX0_learnNext_0 ++ dktX0_learnNext_1
theorem dksX0_learnNext_0 : cX0_learnNext.data.toList.drop 0 = dktX0_learnNext_0 := by decide +kernel
theorem dksX0_learnNext_1 : cX0_learnNext.data.toList.drop 22 = dktX0_learnNext_1 := dk_seg dksX0_learnNext_0 22 rfl rfl
theorem dksX0_learnNext_2 : cX0_learnNext.data.toList.drop 46 = dktX0_learnNext_2 := dk_seg dksX0_learnNext_1 24 rfl rfl
theorem dksX0_learnNext_3 : cX0_learnNext.data.toList.drop 70 = dktX0_learnNext_3 := dk_seg dksX0_learnNext_2 24 rfl rfl
theorem dX0_learnNext_0 : decode cX0_learnNext 0 = .ok (.iconst (-1), 1) := dk_2 (dk_at dksX0_learnNext_0 0 rfl rfl)
theorem dX0_learnNext_1 : decode cX0_learnNext 1 = .ok (.istore_n 2, 1) := dk_61 (dk_at dksX0_learnNext_0 1 rfl rfl)
theorem dX0_learnNext_2 : decode cX0_learnNext 2 = .ok (.aload_n 0, 1) := dk_42 (dk_at dksX0_learnNext_0 2 rfl rfl)
theorem dX0_learnNext_3 : decode cX0_learnNext 3 = .ok (.aload_n 0, 1) := dk_42 (dk_at dksX0_learnNext_0 3 rfl rfl)
theorem dX0_learnNext_4 : decode cX0_learnNext 4 = .ok (.getfield 25, 3) := dk_180 0 25 (dk_at dksX0_learnNext_0 4 rfl rfl)
theorem dX0_learnNext_7 : decode cX0_learnNext 7 = .ok (.getfield 172, 3) := dk_180 0 172 (dk_at dksX0_learnNext_0 7 rfl rfl)
theorem dX0_learnNext_10 : decode cX0_learnNext 10 = .ok (.iload_n 1, 1) := dk_27 (dk_at dksX0_learnNext_0 10 rfl rfl)
theorem dX0_learnNext_11 : decode cX0_learnNext 11 = .ok (.iaload, 1) := dk_46 (dk_at dksX0_learnNext_0 11 rfl rfl)
theorem dX0_learnNext_12 : decode cX0_learnNext 12 = .ok (.invokevirtual 273, 3) := dk_182 1 17 (dk_at dksX0_learnNext_0 12 rfl rfl)
theorem dX0_learnNext_15 : decode cX0_learnNext 15 = .ok (.istore_n 3, 1) := dk_62 (dk_at dksX0_learnNext_0 15 rfl rfl)
theorem dX0_learnNext_16 : decode cX0_learnNext 16 = .ok (.iconst 0, 1) := dk_3 (dk_at dksX0_learnNext_0 16 rfl rfl)
theorem dX0_learnNext_17 : decode cX0_learnNext 17 = .ok (.istore 4, 2) := dk_54 4 (dk_at dksX0_learnNext_0 17 rfl rfl)
theorem dX0_learnNext_19 : decode cX0_learnNext 19 = .ok (.iload 4, 2) := dk_21 4 (dk_at dksX0_learnNext_0 19 rfl rfl)
theorem dX0_learnNext_21 : decode cX0_learnNext 21 = .ok (.aload_n 0, 1) := dk_42 (dk_at dksX0_learnNext_0 21 rfl rfl)
theorem dX0_learnNext_22 : decode cX0_learnNext 22 = .ok (.getfield 16, 3) := dk_180 0 16 (dk_at dksX0_learnNext_1 0 rfl rfl)
theorem dX0_learnNext_25 : decode cX0_learnNext 25 = .ok (.invokevirtual 92, 3) := dk_182 0 92 (dk_at dksX0_learnNext_1 3 rfl rfl)
theorem dX0_learnNext_28 : decode cX0_learnNext 28 = .ok (.if_icmp .ge 49, 3) := dk_162 0 49 (dk_at dksX0_learnNext_1 6 rfl rfl)
theorem dX0_learnNext_31 : decode cX0_learnNext 31 = .ok (.aload_n 0, 1) := dk_42 (dk_at dksX0_learnNext_1 9 rfl rfl)
theorem dX0_learnNext_32 : decode cX0_learnNext 32 = .ok (.aload_n 0, 1) := dk_42 (dk_at dksX0_learnNext_1 10 rfl rfl)
theorem dX0_learnNext_33 : decode cX0_learnNext 33 = .ok (.getfield 25, 3) := dk_180 0 25 (dk_at dksX0_learnNext_1 11 rfl rfl)
theorem dX0_learnNext_36 : decode cX0_learnNext 36 = .ok (.getfield 172, 3) := dk_180 0 172 (dk_at dksX0_learnNext_1 14 rfl rfl)
theorem dX0_learnNext_39 : decode cX0_learnNext 39 = .ok (.iload_n 1, 1) := dk_27 (dk_at dksX0_learnNext_1 17 rfl rfl)
theorem dX0_learnNext_40 : decode cX0_learnNext 40 = .ok (.iaload, 1) := dk_46 (dk_at dksX0_learnNext_1 18 rfl rfl)
theorem dX0_learnNext_41 : decode cX0_learnNext 41 = .ok (.iconst 1, 1) := dk_4 (dk_at dksX0_learnNext_1 19 rfl rfl)
theorem dX0_learnNext_42 : decode cX0_learnNext 42 = .ok (.iload 4, 2) := dk_21 4 (dk_at dksX0_learnNext_1 20 rfl rfl)
theorem dX0_learnNext_44 : decode cX0_learnNext 44 = .ok (.ishl, 1) := dk_120 (dk_at dksX0_learnNext_1 22 rfl rfl)
theorem dX0_learnNext_45 : decode cX0_learnNext 45 = .ok (.ior, 1) := dk_128 (dk_at dksX0_learnNext_1 23 rfl rfl)
theorem dX0_learnNext_46 : decode cX0_learnNext 46 = .ok (.invokevirtual 273, 3) := dk_182 1 17 (dk_at dksX0_learnNext_2 0 rfl rfl)
theorem dX0_learnNext_49 : decode cX0_learnNext 49 = .ok (.istore 5, 2) := dk_54 5 (dk_at dksX0_learnNext_2 3 rfl rfl)
theorem dX0_learnNext_51 : decode cX0_learnNext 51 = .ok (.iload 5, 2) := dk_21 5 (dk_at dksX0_learnNext_2 5 rfl rfl)
theorem dX0_learnNext_53 : decode cX0_learnNext 53 = .ok (.iload_n 3, 1) := dk_29 (dk_at dksX0_learnNext_2 7 rfl rfl)
theorem dX0_learnNext_54 : decode cX0_learnNext 54 = .ok (.if_icmp .ge 8, 3) := dk_162 0 8 (dk_at dksX0_learnNext_2 8 rfl rfl)
theorem dX0_learnNext_57 : decode cX0_learnNext 57 = .ok (.iload 4, 2) := dk_21 4 (dk_at dksX0_learnNext_2 11 rfl rfl)
theorem dX0_learnNext_59 : decode cX0_learnNext 59 = .ok (.goto 4, 3) := dk_167 0 4 (dk_at dksX0_learnNext_2 13 rfl rfl)
theorem dX0_learnNext_62 : decode cX0_learnNext 62 = .ok (.iload_n 2, 1) := dk_28 (dk_at dksX0_learnNext_2 16 rfl rfl)
theorem dX0_learnNext_63 : decode cX0_learnNext 63 = .ok (.istore_n 2, 1) := dk_61 (dk_at dksX0_learnNext_2 17 rfl rfl)
theorem dX0_learnNext_64 : decode cX0_learnNext 64 = .ok (.iload_n 3, 1) := dk_29 (dk_at dksX0_learnNext_2 18 rfl rfl)
theorem dX0_learnNext_65 : decode cX0_learnNext 65 = .ok (.iload 5, 2) := dk_21 5 (dk_at dksX0_learnNext_2 19 rfl rfl)
theorem dX0_learnNext_67 : decode cX0_learnNext 67 = .ok (.invokestatic 235, 3) := dk_184 0 235 (dk_at dksX0_learnNext_2 21 rfl rfl)
theorem dX0_learnNext_70 : decode cX0_learnNext 70 = .ok (.istore_n 3, 1) := dk_62 (dk_at dksX0_learnNext_3 0 rfl rfl)
theorem dX0_learnNext_71 : decode cX0_learnNext 71 = .ok (.iinc 4 1, 3) := dk_132 4 1 (dk_at dksX0_learnNext_3 1 rfl rfl)
theorem dX0_learnNext_74 : decode cX0_learnNext 74 = .ok (.goto (-55), 3) := dk_167 255 201 (dk_at dksX0_learnNext_3 4 rfl rfl)
theorem dX0_learnNext_77 : decode cX0_learnNext 77 = .ok (.iload_n 2, 1) := dk_28 (dk_at dksX0_learnNext_3 7 rfl rfl)
theorem dX0_learnNext_78 : decode cX0_learnNext 78 = .ok (.ireturn, 1) := dk_172 (dk_at dksX0_learnNext_3 8 rfl rfl)
abbrev cX0_learn : ByteArray := prog_1_method_42_code
def yX0_learn : MethodName := ⟨RX0, "learn", "(II)I"⟩
def dkwX0_learn_2 : List UInt8 := [46, 4, 28, 120, 128, 79, 42, 180, 0, 25, 180, 0, 172, 27, 46, 184, 1, 12, 172]
abbrev dktX0_learn_2 : List UInt8 := dkwX0_learn_2 ++ []
def dkwX0_learn_1 : List UInt8 := [180, 0, 172, 27, 46, 28, 184, 0, 175, 153, 0, 6, 16, 153, 172, 42, 180, 0, 25, 180, 0, 172, 27, 92]
abbrev dktX0_learn_1 : List UInt8 := dkwX0_learn_1 ++ dktX0_learn_2
def dkwX0_learn_0 : List UInt8 := [42, 27, 182, 1, 29, 153, 0, 11, 42, 28, 182, 0, 194, 154, 0, 6, 16, 155, 172, 42, 180, 0, 25]
abbrev dktX0_learn_0 : List UInt8 := dkwX0_learn_0 ++ dktX0_learn_1
theorem dksX0_learn_0 : cX0_learn.data.toList.drop 0 = dktX0_learn_0 := by decide +kernel
theorem dksX0_learn_1 : cX0_learn.data.toList.drop 23 = dktX0_learn_1 := dk_seg dksX0_learn_0 23 rfl rfl
theorem dksX0_learn_2 : cX0_learn.data.toList.drop 47 = dktX0_learn_2 := dk_seg dksX0_learn_1 24 rfl rfl
theorem dX0_learn_0 : decode cX0_learn 0 = .ok (.aload_n 0, 1) := dk_42 (dk_at dksX0_learn_0 0 rfl rfl)
theorem dX0_learn_1 : decode cX0_learn 1 = .ok (.iload_n 1, 1) := dk_27 (dk_at dksX0_learn_0 1 rfl rfl)
theorem dX0_learn_2 : decode cX0_learn 2 = .ok (.invokevirtual 285, 3) := dk_182 1 29 (dk_at dksX0_learn_0 2 rfl rfl)
theorem dX0_learn_5 : decode cX0_learn 5 = .ok (.ifCond .eq 11, 3) := dk_153 0 11 (dk_at dksX0_learn_0 5 rfl rfl)
theorem dX0_learn_8 : decode cX0_learn 8 = .ok (.aload_n 0, 1) := dk_42 (dk_at dksX0_learn_0 8 rfl rfl)
theorem dX0_learn_9 : decode cX0_learn 9 = .ok (.iload_n 2, 1) := dk_28 (dk_at dksX0_learn_0 9 rfl rfl)
theorem dX0_learn_10 : decode cX0_learn 10 = .ok (.invokevirtual 194, 3) := dk_182 0 194 (dk_at dksX0_learn_0 10 rfl rfl)
theorem dX0_learn_13 : decode cX0_learn 13 = .ok (.ifCond .ne 6, 3) := dk_154 0 6 (dk_at dksX0_learn_0 13 rfl rfl)
theorem dX0_learn_16 : decode cX0_learn 16 = .ok (.bipush (-101), 2) := dk_16 155 (dk_at dksX0_learn_0 16 rfl rfl)
theorem dX0_learn_18 : decode cX0_learn 18 = .ok (.ireturn, 1) := dk_172 (dk_at dksX0_learn_0 18 rfl rfl)
theorem dX0_learn_19 : decode cX0_learn 19 = .ok (.aload_n 0, 1) := dk_42 (dk_at dksX0_learn_0 19 rfl rfl)
theorem dX0_learn_20 : decode cX0_learn 20 = .ok (.getfield 25, 3) := dk_180 0 25 (dk_at dksX0_learn_0 20 rfl rfl)
theorem dX0_learn_23 : decode cX0_learn 23 = .ok (.getfield 172, 3) := dk_180 0 172 (dk_at dksX0_learn_1 0 rfl rfl)
theorem dX0_learn_26 : decode cX0_learn 26 = .ok (.iload_n 1, 1) := dk_27 (dk_at dksX0_learn_1 3 rfl rfl)
theorem dX0_learn_27 : decode cX0_learn 27 = .ok (.iaload, 1) := dk_46 (dk_at dksX0_learn_1 4 rfl rfl)
theorem dX0_learn_28 : decode cX0_learn 28 = .ok (.iload_n 2, 1) := dk_28 (dk_at dksX0_learn_1 5 rfl rfl)
theorem dX0_learn_29 : decode cX0_learn 29 = .ok (.invokestatic 175, 3) := dk_184 0 175 (dk_at dksX0_learn_1 6 rfl rfl)
theorem dX0_learn_32 : decode cX0_learn 32 = .ok (.ifCond .eq 6, 3) := dk_153 0 6 (dk_at dksX0_learn_1 9 rfl rfl)
theorem dX0_learn_35 : decode cX0_learn 35 = .ok (.bipush (-103), 2) := dk_16 153 (dk_at dksX0_learn_1 12 rfl rfl)
theorem dX0_learn_37 : decode cX0_learn 37 = .ok (.ireturn, 1) := dk_172 (dk_at dksX0_learn_1 14 rfl rfl)
theorem dX0_learn_38 : decode cX0_learn 38 = .ok (.aload_n 0, 1) := dk_42 (dk_at dksX0_learn_1 15 rfl rfl)
theorem dX0_learn_39 : decode cX0_learn 39 = .ok (.getfield 25, 3) := dk_180 0 25 (dk_at dksX0_learn_1 16 rfl rfl)
theorem dX0_learn_42 : decode cX0_learn 42 = .ok (.getfield 172, 3) := dk_180 0 172 (dk_at dksX0_learn_1 19 rfl rfl)
theorem dX0_learn_45 : decode cX0_learn 45 = .ok (.iload_n 1, 1) := dk_27 (dk_at dksX0_learn_1 22 rfl rfl)
theorem dX0_learn_46 : decode cX0_learn 46 = .ok (.dup2, 1) := dk_92 (dk_at dksX0_learn_1 23 rfl rfl)
theorem dX0_learn_47 : decode cX0_learn 47 = .ok (.iaload, 1) := dk_46 (dk_at dksX0_learn_2 0 rfl rfl)
theorem dX0_learn_48 : decode cX0_learn 48 = .ok (.iconst 1, 1) := dk_4 (dk_at dksX0_learn_2 1 rfl rfl)
theorem dX0_learn_49 : decode cX0_learn 49 = .ok (.iload_n 2, 1) := dk_28 (dk_at dksX0_learn_2 2 rfl rfl)
theorem dX0_learn_50 : decode cX0_learn 50 = .ok (.ishl, 1) := dk_120 (dk_at dksX0_learn_2 3 rfl rfl)
theorem dX0_learn_51 : decode cX0_learn 51 = .ok (.ior, 1) := dk_128 (dk_at dksX0_learn_2 4 rfl rfl)
theorem dX0_learn_52 : decode cX0_learn 52 = .ok (.iastore, 1) := dk_79 (dk_at dksX0_learn_2 5 rfl rfl)
theorem dX0_learn_53 : decode cX0_learn 53 = .ok (.aload_n 0, 1) := dk_42 (dk_at dksX0_learn_2 6 rfl rfl)
theorem dX0_learn_54 : decode cX0_learn 54 = .ok (.getfield 25, 3) := dk_180 0 25 (dk_at dksX0_learn_2 7 rfl rfl)
theorem dX0_learn_57 : decode cX0_learn 57 = .ok (.getfield 172, 3) := dk_180 0 172 (dk_at dksX0_learn_2 10 rfl rfl)
theorem dX0_learn_60 : decode cX0_learn 60 = .ok (.iload_n 1, 1) := dk_27 (dk_at dksX0_learn_2 13 rfl rfl)
theorem dX0_learn_61 : decode cX0_learn 61 = .ok (.iaload, 1) := dk_46 (dk_at dksX0_learn_2 14 rfl rfl)
theorem dX0_learn_62 : decode cX0_learn 62 = .ok (.invokestatic 268, 3) := dk_184 1 12 (dk_at dksX0_learn_2 15 rfl rfl)
theorem dX0_learn_65 : decode cX0_learn 65 = .ok (.ireturn, 1) := dk_172 (dk_at dksX0_learn_2 18 rfl rfl)
abbrev cX0_lose : ByteArray := prog_1_method_43_code
def yX0_lose : MethodName := ⟨RX0, "lose", "(II)I"⟩
def dkwX0_lose_2 : List UInt8 := [46, 4, 28, 120, 2, 130, 126, 79, 42, 180, 0, 25, 180, 0, 172, 27, 46, 184, 1, 12, 172]
abbrev dktX0_lose_2 : List UInt8 := dkwX0_lose_2 ++ []
def dkwX0_lose_1 : List UInt8 := [180, 0, 172, 27, 46, 28, 184, 0, 175, 154, 0, 6, 16, 153, 172, 42, 180, 0, 25, 180, 0, 172, 27, 92]
abbrev dktX0_lose_1 : List UInt8 := dkwX0_lose_1 ++ dktX0_lose_2
def dkwX0_lose_0 : List UInt8 := [42, 27, 182, 1, 29, 153, 0, 11, 42, 28, 182, 0, 194, 154, 0, 6, 16, 155, 172, 42, 180, 0, 25]
abbrev dktX0_lose_0 : List UInt8 := dkwX0_lose_0 ++ dktX0_lose_1
theorem dksX0_lose_0 : cX0_lose.data.toList.drop 0 = dktX0_lose_0 := by decide +kernel
theorem dksX0_lose_1 : cX0_lose.data.toList.drop 23 = dktX0_lose_1 := dk_seg dksX0_lose_0 23 rfl rfl
theorem dksX0_lose_2 : cX0_lose.data.toList.drop 47 = dktX0_lose_2 := dk_seg dksX0_lose_1 24 rfl rfl
theorem dX0_lose_0 : decode cX0_lose 0 = .ok (.aload_n 0, 1) := dk_42 (dk_at dksX0_lose_0 0 rfl rfl)
theorem dX0_lose_1 : decode cX0_lose 1 = .ok (.iload_n 1, 1) := dk_27 (dk_at dksX0_lose_0 1 rfl rfl)
theorem dX0_lose_2 : decode cX0_lose 2 = .ok (.invokevirtual 285, 3) := dk_182 1 29 (dk_at dksX0_lose_0 2 rfl rfl)
theorem dX0_lose_5 : decode cX0_lose 5 = .ok (.ifCond .eq 11, 3) := dk_153 0 11 (dk_at dksX0_lose_0 5 rfl rfl)
theorem dX0_lose_8 : decode cX0_lose 8 = .ok (.aload_n 0, 1) := dk_42 (dk_at dksX0_lose_0 8 rfl rfl)
theorem dX0_lose_9 : decode cX0_lose 9 = .ok (.iload_n 2, 1) := dk_28 (dk_at dksX0_lose_0 9 rfl rfl)
theorem dX0_lose_10 : decode cX0_lose 10 = .ok (.invokevirtual 194, 3) := dk_182 0 194 (dk_at dksX0_lose_0 10 rfl rfl)
theorem dX0_lose_13 : decode cX0_lose 13 = .ok (.ifCond .ne 6, 3) := dk_154 0 6 (dk_at dksX0_lose_0 13 rfl rfl)
theorem dX0_lose_16 : decode cX0_lose 16 = .ok (.bipush (-101), 2) := dk_16 155 (dk_at dksX0_lose_0 16 rfl rfl)
theorem dX0_lose_18 : decode cX0_lose 18 = .ok (.ireturn, 1) := dk_172 (dk_at dksX0_lose_0 18 rfl rfl)
theorem dX0_lose_19 : decode cX0_lose 19 = .ok (.aload_n 0, 1) := dk_42 (dk_at dksX0_lose_0 19 rfl rfl)
theorem dX0_lose_20 : decode cX0_lose 20 = .ok (.getfield 25, 3) := dk_180 0 25 (dk_at dksX0_lose_0 20 rfl rfl)
theorem dX0_lose_23 : decode cX0_lose 23 = .ok (.getfield 172, 3) := dk_180 0 172 (dk_at dksX0_lose_1 0 rfl rfl)
theorem dX0_lose_26 : decode cX0_lose 26 = .ok (.iload_n 1, 1) := dk_27 (dk_at dksX0_lose_1 3 rfl rfl)
theorem dX0_lose_27 : decode cX0_lose 27 = .ok (.iaload, 1) := dk_46 (dk_at dksX0_lose_1 4 rfl rfl)
theorem dX0_lose_28 : decode cX0_lose 28 = .ok (.iload_n 2, 1) := dk_28 (dk_at dksX0_lose_1 5 rfl rfl)
theorem dX0_lose_29 : decode cX0_lose 29 = .ok (.invokestatic 175, 3) := dk_184 0 175 (dk_at dksX0_lose_1 6 rfl rfl)
theorem dX0_lose_32 : decode cX0_lose 32 = .ok (.ifCond .ne 6, 3) := dk_154 0 6 (dk_at dksX0_lose_1 9 rfl rfl)
theorem dX0_lose_35 : decode cX0_lose 35 = .ok (.bipush (-103), 2) := dk_16 153 (dk_at dksX0_lose_1 12 rfl rfl)
theorem dX0_lose_37 : decode cX0_lose 37 = .ok (.ireturn, 1) := dk_172 (dk_at dksX0_lose_1 14 rfl rfl)
theorem dX0_lose_38 : decode cX0_lose 38 = .ok (.aload_n 0, 1) := dk_42 (dk_at dksX0_lose_1 15 rfl rfl)
theorem dX0_lose_39 : decode cX0_lose 39 = .ok (.getfield 25, 3) := dk_180 0 25 (dk_at dksX0_lose_1 16 rfl rfl)
theorem dX0_lose_42 : decode cX0_lose 42 = .ok (.getfield 172, 3) := dk_180 0 172 (dk_at dksX0_lose_1 19 rfl rfl)
theorem dX0_lose_45 : decode cX0_lose 45 = .ok (.iload_n 1, 1) := dk_27 (dk_at dksX0_lose_1 22 rfl rfl)
theorem dX0_lose_46 : decode cX0_lose 46 = .ok (.dup2, 1) := dk_92 (dk_at dksX0_lose_1 23 rfl rfl)
theorem dX0_lose_47 : decode cX0_lose 47 = .ok (.iaload, 1) := dk_46 (dk_at dksX0_lose_2 0 rfl rfl)
theorem dX0_lose_48 : decode cX0_lose 48 = .ok (.iconst 1, 1) := dk_4 (dk_at dksX0_lose_2 1 rfl rfl)
theorem dX0_lose_49 : decode cX0_lose 49 = .ok (.iload_n 2, 1) := dk_28 (dk_at dksX0_lose_2 2 rfl rfl)
theorem dX0_lose_50 : decode cX0_lose 50 = .ok (.ishl, 1) := dk_120 (dk_at dksX0_lose_2 3 rfl rfl)
theorem dX0_lose_51 : decode cX0_lose 51 = .ok (.iconst (-1), 1) := dk_2 (dk_at dksX0_lose_2 4 rfl rfl)
theorem dX0_lose_52 : decode cX0_lose 52 = .ok (.ixor, 1) := dk_130 (dk_at dksX0_lose_2 5 rfl rfl)
theorem dX0_lose_53 : decode cX0_lose 53 = .ok (.iand, 1) := dk_126 (dk_at dksX0_lose_2 6 rfl rfl)
theorem dX0_lose_54 : decode cX0_lose 54 = .ok (.iastore, 1) := dk_79 (dk_at dksX0_lose_2 7 rfl rfl)
theorem dX0_lose_55 : decode cX0_lose 55 = .ok (.aload_n 0, 1) := dk_42 (dk_at dksX0_lose_2 8 rfl rfl)
theorem dX0_lose_56 : decode cX0_lose 56 = .ok (.getfield 25, 3) := dk_180 0 25 (dk_at dksX0_lose_2 9 rfl rfl)
theorem dX0_lose_59 : decode cX0_lose 59 = .ok (.getfield 172, 3) := dk_180 0 172 (dk_at dksX0_lose_2 12 rfl rfl)
theorem dX0_lose_62 : decode cX0_lose 62 = .ok (.iload_n 1, 1) := dk_27 (dk_at dksX0_lose_2 15 rfl rfl)
theorem dX0_lose_63 : decode cX0_lose 63 = .ok (.iaload, 1) := dk_46 (dk_at dksX0_lose_2 16 rfl rfl)
theorem dX0_lose_64 : decode cX0_lose 64 = .ok (.invokestatic 268, 3) := dk_184 1 12 (dk_at dksX0_lose_2 17 rfl rfl)
theorem dX0_lose_67 : decode cX0_lose 67 = .ok (.ireturn, 1) := dk_172 (dk_at dksX0_lose_2 20 rfl rfl)
abbrev cX0_stand : ByteArray := prog_1_method_44_code
def yX0_stand : MethodName := ⟨RX0, "stand", "(II)I"⟩
def dkwX0_stand_1 : List UInt8 := [180, 1, 20, 27, 46, 62, 42, 180, 0, 25, 180, 1, 20, 27, 28, 79, 29, 172]
abbrev dktX0_stand_1 : List UInt8 := dkwX0_stand_1 ++ []
def dkwX0_stand_0 : List UInt8 := [42, 27, 182, 1, 29, 153, 0, 10, 28, 184, 0, 104, 154, 0, 6, 16, 155, 172, 42, 180, 0, 25]
abbrev dktX0_stand_0 : List UInt8 := dkwX0_stand_0 ++ dktX0_stand_1
theorem dksX0_stand_0 : cX0_stand.data.toList.drop 0 = dktX0_stand_0 := by decide +kernel
theorem dksX0_stand_1 : cX0_stand.data.toList.drop 22 = dktX0_stand_1 := dk_seg dksX0_stand_0 22 rfl rfl
theorem dX0_stand_0 : decode cX0_stand 0 = .ok (.aload_n 0, 1) := dk_42 (dk_at dksX0_stand_0 0 rfl rfl)
theorem dX0_stand_1 : decode cX0_stand 1 = .ok (.iload_n 1, 1) := dk_27 (dk_at dksX0_stand_0 1 rfl rfl)
theorem dX0_stand_2 : decode cX0_stand 2 = .ok (.invokevirtual 285, 3) := dk_182 1 29 (dk_at dksX0_stand_0 2 rfl rfl)
theorem dX0_stand_5 : decode cX0_stand 5 = .ok (.ifCond .eq 10, 3) := dk_153 0 10 (dk_at dksX0_stand_0 5 rfl rfl)
theorem dX0_stand_8 : decode cX0_stand 8 = .ok (.iload_n 2, 1) := dk_28 (dk_at dksX0_stand_0 8 rfl rfl)
theorem dX0_stand_9 : decode cX0_stand 9 = .ok (.invokestatic 104, 3) := dk_184 0 104 (dk_at dksX0_stand_0 9 rfl rfl)
theorem dX0_stand_12 : decode cX0_stand 12 = .ok (.ifCond .ne 6, 3) := dk_154 0 6 (dk_at dksX0_stand_0 12 rfl rfl)
theorem dX0_stand_15 : decode cX0_stand 15 = .ok (.bipush (-101), 2) := dk_16 155 (dk_at dksX0_stand_0 15 rfl rfl)
theorem dX0_stand_17 : decode cX0_stand 17 = .ok (.ireturn, 1) := dk_172 (dk_at dksX0_stand_0 17 rfl rfl)
theorem dX0_stand_18 : decode cX0_stand 18 = .ok (.aload_n 0, 1) := dk_42 (dk_at dksX0_stand_0 18 rfl rfl)
theorem dX0_stand_19 : decode cX0_stand 19 = .ok (.getfield 25, 3) := dk_180 0 25 (dk_at dksX0_stand_0 19 rfl rfl)
theorem dX0_stand_22 : decode cX0_stand 22 = .ok (.getfield 276, 3) := dk_180 1 20 (dk_at dksX0_stand_1 0 rfl rfl)
theorem dX0_stand_25 : decode cX0_stand 25 = .ok (.iload_n 1, 1) := dk_27 (dk_at dksX0_stand_1 3 rfl rfl)
theorem dX0_stand_26 : decode cX0_stand 26 = .ok (.iaload, 1) := dk_46 (dk_at dksX0_stand_1 4 rfl rfl)
theorem dX0_stand_27 : decode cX0_stand 27 = .ok (.istore_n 3, 1) := dk_62 (dk_at dksX0_stand_1 5 rfl rfl)
theorem dX0_stand_28 : decode cX0_stand 28 = .ok (.aload_n 0, 1) := dk_42 (dk_at dksX0_stand_1 6 rfl rfl)
theorem dX0_stand_29 : decode cX0_stand 29 = .ok (.getfield 25, 3) := dk_180 0 25 (dk_at dksX0_stand_1 7 rfl rfl)
theorem dX0_stand_32 : decode cX0_stand 32 = .ok (.getfield 276, 3) := dk_180 1 20 (dk_at dksX0_stand_1 10 rfl rfl)
theorem dX0_stand_35 : decode cX0_stand 35 = .ok (.iload_n 1, 1) := dk_27 (dk_at dksX0_stand_1 13 rfl rfl)
theorem dX0_stand_36 : decode cX0_stand 36 = .ok (.iload_n 2, 1) := dk_28 (dk_at dksX0_stand_1 14 rfl rfl)
theorem dX0_stand_37 : decode cX0_stand 37 = .ok (.iastore, 1) := dk_79 (dk_at dksX0_stand_1 15 rfl rfl)
theorem dX0_stand_38 : decode cX0_stand 38 = .ok (.iload_n 3, 1) := dk_29 (dk_at dksX0_stand_1 16 rfl rfl)
theorem dX0_stand_39 : decode cX0_stand 39 = .ok (.ireturn, 1) := dk_172 (dk_at dksX0_stand_1 17 rfl rfl)
abbrev cX0_ride : ByteArray := prog_1_method_45_code
def yX0_ride : MethodName := ⟨RX0, "ride", "(III)I"⟩
def dkwX0_ride_5 : List UInt8 := [180, 0, 25, 180, 0, 216, 96, 79, 42, 180, 0, 25, 180, 0, 216, 172]
abbrev dktX0_ride_5 : List UInt8 := dkwX0_ride_5 ++ []
def dkwX0_ride_4 : List UInt8 := [180, 0, 25, 180, 0, 152, 28, 92, 46, 4, 96, 79, 42, 180, 0, 25, 180, 0, 155, 28, 92, 46, 42]
abbrev dktX0_ride_4 : List UInt8 := dkwX0_ride_4 ++ dktX0_ride_5
def dkwX0_ride_3 : List UInt8 := [180, 0, 25, 180, 1, 20, 27, 29, 79, 42, 180, 0, 25, 180, 1, 26, 27, 92, 46, 4, 96, 79, 42]
abbrev dktX0_ride_3 : List UInt8 := dkwX0_ride_3 ++ dktX0_ride_4
def dkwX0_ride_2 : List UInt8 := [180, 0, 172, 27, 46, 182, 0, 212, 154, 0, 6, 16, 153, 172, 42, 180, 0, 25, 28, 182, 1, 35, 42]
abbrev dktX0_ride_2 : List UInt8 := dkwX0_ride_2 ++ dktX0_ride_3
def dkwX0_ride_1 : List UInt8 := [16, 155, 172, 42, 180, 0, 25, 28, 42, 180, 0, 25, 180, 1, 20, 27, 46, 29, 42, 180, 0, 25]
abbrev dktX0_ride_1 : List UInt8 := dkwX0_ride_1 ++ dktX0_ride_2
def dkwX0_ride_0 : List UInt8 := [42, 27, 182, 1, 29, 153, 0, 18, 42, 28, 182, 0, 100, 153, 0, 10, 29, 184, 0, 104, 154, 0, 6]
abbrev dktX0_ride_0 : List UInt8 := dkwX0_ride_0 ++ dktX0_ride_1
theorem dksX0_ride_0 : cX0_ride.data.toList.drop 0 = dktX0_ride_0 := by decide +kernel
theorem dksX0_ride_1 : cX0_ride.data.toList.drop 23 = dktX0_ride_1 := dk_seg dksX0_ride_0 23 rfl rfl
theorem dksX0_ride_2 : cX0_ride.data.toList.drop 45 = dktX0_ride_2 := dk_seg dksX0_ride_1 22 rfl rfl
theorem dksX0_ride_3 : cX0_ride.data.toList.drop 68 = dktX0_ride_3 := dk_seg dksX0_ride_2 23 rfl rfl
theorem dksX0_ride_4 : cX0_ride.data.toList.drop 91 = dktX0_ride_4 := dk_seg dksX0_ride_3 23 rfl rfl
theorem dksX0_ride_5 : cX0_ride.data.toList.drop 114 = dktX0_ride_5 := dk_seg dksX0_ride_4 23 rfl rfl
theorem dX0_ride_0 : decode cX0_ride 0 = .ok (.aload_n 0, 1) := dk_42 (dk_at dksX0_ride_0 0 rfl rfl)
theorem dX0_ride_1 : decode cX0_ride 1 = .ok (.iload_n 1, 1) := dk_27 (dk_at dksX0_ride_0 1 rfl rfl)
theorem dX0_ride_2 : decode cX0_ride 2 = .ok (.invokevirtual 285, 3) := dk_182 1 29 (dk_at dksX0_ride_0 2 rfl rfl)
theorem dX0_ride_5 : decode cX0_ride 5 = .ok (.ifCond .eq 18, 3) := dk_153 0 18 (dk_at dksX0_ride_0 5 rfl rfl)
theorem dX0_ride_8 : decode cX0_ride 8 = .ok (.aload_n 0, 1) := dk_42 (dk_at dksX0_ride_0 8 rfl rfl)
theorem dX0_ride_9 : decode cX0_ride 9 = .ok (.iload_n 2, 1) := dk_28 (dk_at dksX0_ride_0 9 rfl rfl)
theorem dX0_ride_10 : decode cX0_ride 10 = .ok (.invokevirtual 100, 3) := dk_182 0 100 (dk_at dksX0_ride_0 10 rfl rfl)
theorem dX0_ride_13 : decode cX0_ride 13 = .ok (.ifCond .eq 10, 3) := dk_153 0 10 (dk_at dksX0_ride_0 13 rfl rfl)
theorem dX0_ride_16 : decode cX0_ride 16 = .ok (.iload_n 3, 1) := dk_29 (dk_at dksX0_ride_0 16 rfl rfl)
theorem dX0_ride_17 : decode cX0_ride 17 = .ok (.invokestatic 104, 3) := dk_184 0 104 (dk_at dksX0_ride_0 17 rfl rfl)
theorem dX0_ride_20 : decode cX0_ride 20 = .ok (.ifCond .ne 6, 3) := dk_154 0 6 (dk_at dksX0_ride_0 20 rfl rfl)
theorem dX0_ride_23 : decode cX0_ride 23 = .ok (.bipush (-101), 2) := dk_16 155 (dk_at dksX0_ride_1 0 rfl rfl)
theorem dX0_ride_25 : decode cX0_ride 25 = .ok (.ireturn, 1) := dk_172 (dk_at dksX0_ride_1 2 rfl rfl)
theorem dX0_ride_26 : decode cX0_ride 26 = .ok (.aload_n 0, 1) := dk_42 (dk_at dksX0_ride_1 3 rfl rfl)
theorem dX0_ride_27 : decode cX0_ride 27 = .ok (.getfield 25, 3) := dk_180 0 25 (dk_at dksX0_ride_1 4 rfl rfl)
theorem dX0_ride_30 : decode cX0_ride 30 = .ok (.iload_n 2, 1) := dk_28 (dk_at dksX0_ride_1 7 rfl rfl)
theorem dX0_ride_31 : decode cX0_ride 31 = .ok (.aload_n 0, 1) := dk_42 (dk_at dksX0_ride_1 8 rfl rfl)
theorem dX0_ride_32 : decode cX0_ride 32 = .ok (.getfield 25, 3) := dk_180 0 25 (dk_at dksX0_ride_1 9 rfl rfl)
theorem dX0_ride_35 : decode cX0_ride 35 = .ok (.getfield 276, 3) := dk_180 1 20 (dk_at dksX0_ride_1 12 rfl rfl)
theorem dX0_ride_38 : decode cX0_ride 38 = .ok (.iload_n 1, 1) := dk_27 (dk_at dksX0_ride_1 15 rfl rfl)
theorem dX0_ride_39 : decode cX0_ride 39 = .ok (.iaload, 1) := dk_46 (dk_at dksX0_ride_1 16 rfl rfl)
theorem dX0_ride_40 : decode cX0_ride 40 = .ok (.iload_n 3, 1) := dk_29 (dk_at dksX0_ride_1 17 rfl rfl)
theorem dX0_ride_41 : decode cX0_ride 41 = .ok (.aload_n 0, 1) := dk_42 (dk_at dksX0_ride_1 18 rfl rfl)
theorem dX0_ride_42 : decode cX0_ride 42 = .ok (.getfield 25, 3) := dk_180 0 25 (dk_at dksX0_ride_1 19 rfl rfl)
theorem dX0_ride_45 : decode cX0_ride 45 = .ok (.getfield 172, 3) := dk_180 0 172 (dk_at dksX0_ride_2 0 rfl rfl)
theorem dX0_ride_48 : decode cX0_ride 48 = .ok (.iload_n 1, 1) := dk_27 (dk_at dksX0_ride_2 3 rfl rfl)
theorem dX0_ride_49 : decode cX0_ride 49 = .ok (.iaload, 1) := dk_46 (dk_at dksX0_ride_2 4 rfl rfl)
theorem dX0_ride_50 : decode cX0_ride 50 = .ok (.invokevirtual 212, 3) := dk_182 0 212 (dk_at dksX0_ride_2 5 rfl rfl)
theorem dX0_ride_53 : decode cX0_ride 53 = .ok (.ifCond .ne 6, 3) := dk_154 0 6 (dk_at dksX0_ride_2 8 rfl rfl)
theorem dX0_ride_56 : decode cX0_ride 56 = .ok (.bipush (-103), 2) := dk_16 153 (dk_at dksX0_ride_2 11 rfl rfl)
theorem dX0_ride_58 : decode cX0_ride 58 = .ok (.ireturn, 1) := dk_172 (dk_at dksX0_ride_2 13 rfl rfl)
theorem dX0_ride_59 : decode cX0_ride 59 = .ok (.aload_n 0, 1) := dk_42 (dk_at dksX0_ride_2 14 rfl rfl)
theorem dX0_ride_60 : decode cX0_ride 60 = .ok (.getfield 25, 3) := dk_180 0 25 (dk_at dksX0_ride_2 15 rfl rfl)
theorem dX0_ride_63 : decode cX0_ride 63 = .ok (.iload_n 2, 1) := dk_28 (dk_at dksX0_ride_2 18 rfl rfl)
theorem dX0_ride_64 : decode cX0_ride 64 = .ok (.invokevirtual 291, 3) := dk_182 1 35 (dk_at dksX0_ride_2 19 rfl rfl)
theorem dX0_ride_67 : decode cX0_ride 67 = .ok (.aload_n 0, 1) := dk_42 (dk_at dksX0_ride_2 22 rfl rfl)
theorem dX0_ride_68 : decode cX0_ride 68 = .ok (.getfield 25, 3) := dk_180 0 25 (dk_at dksX0_ride_3 0 rfl rfl)
theorem dX0_ride_71 : decode cX0_ride 71 = .ok (.getfield 276, 3) := dk_180 1 20 (dk_at dksX0_ride_3 3 rfl rfl)
theorem dX0_ride_74 : decode cX0_ride 74 = .ok (.iload_n 1, 1) := dk_27 (dk_at dksX0_ride_3 6 rfl rfl)
theorem dX0_ride_75 : decode cX0_ride 75 = .ok (.iload_n 3, 1) := dk_29 (dk_at dksX0_ride_3 7 rfl rfl)
theorem dX0_ride_76 : decode cX0_ride 76 = .ok (.iastore, 1) := dk_79 (dk_at dksX0_ride_3 8 rfl rfl)
theorem dX0_ride_77 : decode cX0_ride 77 = .ok (.aload_n 0, 1) := dk_42 (dk_at dksX0_ride_3 9 rfl rfl)
theorem dX0_ride_78 : decode cX0_ride 78 = .ok (.getfield 25, 3) := dk_180 0 25 (dk_at dksX0_ride_3 10 rfl rfl)
theorem dX0_ride_81 : decode cX0_ride 81 = .ok (.getfield 282, 3) := dk_180 1 26 (dk_at dksX0_ride_3 13 rfl rfl)
theorem dX0_ride_84 : decode cX0_ride 84 = .ok (.iload_n 1, 1) := dk_27 (dk_at dksX0_ride_3 16 rfl rfl)
theorem dX0_ride_85 : decode cX0_ride 85 = .ok (.dup2, 1) := dk_92 (dk_at dksX0_ride_3 17 rfl rfl)
theorem dX0_ride_86 : decode cX0_ride 86 = .ok (.iaload, 1) := dk_46 (dk_at dksX0_ride_3 18 rfl rfl)
theorem dX0_ride_87 : decode cX0_ride 87 = .ok (.iconst 1, 1) := dk_4 (dk_at dksX0_ride_3 19 rfl rfl)
theorem dX0_ride_88 : decode cX0_ride 88 = .ok (.iadd, 1) := dk_96 (dk_at dksX0_ride_3 20 rfl rfl)
theorem dX0_ride_89 : decode cX0_ride 89 = .ok (.iastore, 1) := dk_79 (dk_at dksX0_ride_3 21 rfl rfl)
theorem dX0_ride_90 : decode cX0_ride 90 = .ok (.aload_n 0, 1) := dk_42 (dk_at dksX0_ride_3 22 rfl rfl)
theorem dX0_ride_91 : decode cX0_ride 91 = .ok (.getfield 25, 3) := dk_180 0 25 (dk_at dksX0_ride_4 0 rfl rfl)
theorem dX0_ride_94 : decode cX0_ride 94 = .ok (.getfield 152, 3) := dk_180 0 152 (dk_at dksX0_ride_4 3 rfl rfl)
theorem dX0_ride_97 : decode cX0_ride 97 = .ok (.iload_n 2, 1) := dk_28 (dk_at dksX0_ride_4 6 rfl rfl)
theorem dX0_ride_98 : decode cX0_ride 98 = .ok (.dup2, 1) := dk_92 (dk_at dksX0_ride_4 7 rfl rfl)
theorem dX0_ride_99 : decode cX0_ride 99 = .ok (.iaload, 1) := dk_46 (dk_at dksX0_ride_4 8 rfl rfl)
theorem dX0_ride_100 : decode cX0_ride 100 = .ok (.iconst 1, 1) := dk_4 (dk_at dksX0_ride_4 9 rfl rfl)
theorem dX0_ride_101 : decode cX0_ride 101 = .ok (.iadd, 1) := dk_96 (dk_at dksX0_ride_4 10 rfl rfl)
theorem dX0_ride_102 : decode cX0_ride 102 = .ok (.iastore, 1) := dk_79 (dk_at dksX0_ride_4 11 rfl rfl)
theorem dX0_ride_103 : decode cX0_ride 103 = .ok (.aload_n 0, 1) := dk_42 (dk_at dksX0_ride_4 12 rfl rfl)
theorem dX0_ride_104 : decode cX0_ride 104 = .ok (.getfield 25, 3) := dk_180 0 25 (dk_at dksX0_ride_4 13 rfl rfl)
theorem dX0_ride_107 : decode cX0_ride 107 = .ok (.getfield 155, 3) := dk_180 0 155 (dk_at dksX0_ride_4 16 rfl rfl)
theorem dX0_ride_110 : decode cX0_ride 110 = .ok (.iload_n 2, 1) := dk_28 (dk_at dksX0_ride_4 19 rfl rfl)
theorem dX0_ride_111 : decode cX0_ride 111 = .ok (.dup2, 1) := dk_92 (dk_at dksX0_ride_4 20 rfl rfl)
theorem dX0_ride_112 : decode cX0_ride 112 = .ok (.iaload, 1) := dk_46 (dk_at dksX0_ride_4 21 rfl rfl)
theorem dX0_ride_113 : decode cX0_ride 113 = .ok (.aload_n 0, 1) := dk_42 (dk_at dksX0_ride_4 22 rfl rfl)
theorem dX0_ride_114 : decode cX0_ride 114 = .ok (.getfield 25, 3) := dk_180 0 25 (dk_at dksX0_ride_5 0 rfl rfl)
theorem dX0_ride_117 : decode cX0_ride 117 = .ok (.getfield 216, 3) := dk_180 0 216 (dk_at dksX0_ride_5 3 rfl rfl)
theorem dX0_ride_120 : decode cX0_ride 120 = .ok (.iadd, 1) := dk_96 (dk_at dksX0_ride_5 6 rfl rfl)
theorem dX0_ride_121 : decode cX0_ride 121 = .ok (.iastore, 1) := dk_79 (dk_at dksX0_ride_5 7 rfl rfl)
theorem dX0_ride_122 : decode cX0_ride 122 = .ok (.aload_n 0, 1) := dk_42 (dk_at dksX0_ride_5 8 rfl rfl)
theorem dX0_ride_123 : decode cX0_ride 123 = .ok (.getfield 25, 3) := dk_180 0 25 (dk_at dksX0_ride_5 9 rfl rfl)
theorem dX0_ride_126 : decode cX0_ride 126 = .ok (.getfield 216, 3) := dk_180 0 216 (dk_at dksX0_ride_5 12 rfl rfl)
theorem dX0_ride_129 : decode cX0_ride 129 = .ok (.ireturn, 1) := dk_172 (dk_at dksX0_ride_5 15 rfl rfl)
abbrev cX0_waits : ByteArray := prog_1_method_46_code
def yX0_waits : MethodName := ⟨RX0, "waits", "(III)I"⟩
def dkwX0_waits_3 : List UInt8 := [27, 28, 2, 160, 0, 7, 2, 167, 0, 4, 29, 79, 21, 4, 172]
abbrev dktX0_waits_3 : List UInt8 := dkwX0_waits_3 ++ []
def dkwX0_waits_2 : List UInt8 := [180, 0, 162, 27, 46, 54, 4, 42, 180, 0, 25, 180, 0, 162, 27, 28, 79, 42, 180, 0, 25, 180, 0, 165]
abbrev dktX0_waits_2 : List UInt8 := dkwX0_waits_2 ++ dktX0_waits_3
def dkwX0_waits_1 : List UInt8 := [154, 0, 6, 16, 155, 172, 28, 2, 159, 0, 11, 28, 29, 160, 0, 6, 16, 153, 172, 42, 180, 0, 25]
abbrev dktX0_waits_1 : List UInt8 := dkwX0_waits_1 ++ dktX0_waits_2
def dkwX0_waits_0 : List UInt8 := [42, 27, 182, 0, 100, 153, 0, 22, 28, 2, 159, 0, 20, 28, 184, 0, 104, 153, 0, 10, 29, 184, 0, 104]
abbrev dktX0_waits_0 : List UInt8 := dkwX0_waits_0 ++ dktX0_waits_1
theorem dksX0_waits_0 : cX0_waits.data.toList.drop 0 = dktX0_waits_0 := by decide +kernel
theorem dksX0_waits_1 : cX0_waits.data.toList.drop 24 = dktX0_waits_1 := dk_seg dksX0_waits_0 24 rfl rfl
theorem dksX0_waits_2 : cX0_waits.data.toList.drop 47 = dktX0_waits_2 := dk_seg dksX0_waits_1 23 rfl rfl
theorem dksX0_waits_3 : cX0_waits.data.toList.drop 71 = dktX0_waits_3 := dk_seg dksX0_waits_2 24 rfl rfl
theorem dX0_waits_0 : decode cX0_waits 0 = .ok (.aload_n 0, 1) := dk_42 (dk_at dksX0_waits_0 0 rfl rfl)
theorem dX0_waits_1 : decode cX0_waits 1 = .ok (.iload_n 1, 1) := dk_27 (dk_at dksX0_waits_0 1 rfl rfl)
theorem dX0_waits_2 : decode cX0_waits 2 = .ok (.invokevirtual 100, 3) := dk_182 0 100 (dk_at dksX0_waits_0 2 rfl rfl)
theorem dX0_waits_5 : decode cX0_waits 5 = .ok (.ifCond .eq 22, 3) := dk_153 0 22 (dk_at dksX0_waits_0 5 rfl rfl)
theorem dX0_waits_8 : decode cX0_waits 8 = .ok (.iload_n 2, 1) := dk_28 (dk_at dksX0_waits_0 8 rfl rfl)
theorem dX0_waits_9 : decode cX0_waits 9 = .ok (.iconst (-1), 1) := dk_2 (dk_at dksX0_waits_0 9 rfl rfl)
theorem dX0_waits_10 : decode cX0_waits 10 = .ok (.if_icmp .eq 20, 3) := dk_159 0 20 (dk_at dksX0_waits_0 10 rfl rfl)
theorem dX0_waits_13 : decode cX0_waits 13 = .ok (.iload_n 2, 1) := dk_28 (dk_at dksX0_waits_0 13 rfl rfl)
theorem dX0_waits_14 : decode cX0_waits 14 = .ok (.invokestatic 104, 3) := dk_184 0 104 (dk_at dksX0_waits_0 14 rfl rfl)
theorem dX0_waits_17 : decode cX0_waits 17 = .ok (.ifCond .eq 10, 3) := dk_153 0 10 (dk_at dksX0_waits_0 17 rfl rfl)
theorem dX0_waits_20 : decode cX0_waits 20 = .ok (.iload_n 3, 1) := dk_29 (dk_at dksX0_waits_0 20 rfl rfl)
theorem dX0_waits_21 : decode cX0_waits 21 = .ok (.invokestatic 104, 3) := dk_184 0 104 (dk_at dksX0_waits_0 21 rfl rfl)
theorem dX0_waits_24 : decode cX0_waits 24 = .ok (.ifCond .ne 6, 3) := dk_154 0 6 (dk_at dksX0_waits_1 0 rfl rfl)
theorem dX0_waits_27 : decode cX0_waits 27 = .ok (.bipush (-101), 2) := dk_16 155 (dk_at dksX0_waits_1 3 rfl rfl)
theorem dX0_waits_29 : decode cX0_waits 29 = .ok (.ireturn, 1) := dk_172 (dk_at dksX0_waits_1 5 rfl rfl)
theorem dX0_waits_30 : decode cX0_waits 30 = .ok (.iload_n 2, 1) := dk_28 (dk_at dksX0_waits_1 6 rfl rfl)
theorem dX0_waits_31 : decode cX0_waits 31 = .ok (.iconst (-1), 1) := dk_2 (dk_at dksX0_waits_1 7 rfl rfl)
theorem dX0_waits_32 : decode cX0_waits 32 = .ok (.if_icmp .eq 11, 3) := dk_159 0 11 (dk_at dksX0_waits_1 8 rfl rfl)
theorem dX0_waits_35 : decode cX0_waits 35 = .ok (.iload_n 2, 1) := dk_28 (dk_at dksX0_waits_1 11 rfl rfl)
theorem dX0_waits_36 : decode cX0_waits 36 = .ok (.iload_n 3, 1) := dk_29 (dk_at dksX0_waits_1 12 rfl rfl)
theorem dX0_waits_37 : decode cX0_waits 37 = .ok (.if_icmp .ne 6, 3) := dk_160 0 6 (dk_at dksX0_waits_1 13 rfl rfl)
theorem dX0_waits_40 : decode cX0_waits 40 = .ok (.bipush (-103), 2) := dk_16 153 (dk_at dksX0_waits_1 16 rfl rfl)
theorem dX0_waits_42 : decode cX0_waits 42 = .ok (.ireturn, 1) := dk_172 (dk_at dksX0_waits_1 18 rfl rfl)
theorem dX0_waits_43 : decode cX0_waits 43 = .ok (.aload_n 0, 1) := dk_42 (dk_at dksX0_waits_1 19 rfl rfl)
theorem dX0_waits_44 : decode cX0_waits 44 = .ok (.getfield 25, 3) := dk_180 0 25 (dk_at dksX0_waits_1 20 rfl rfl)
theorem dX0_waits_47 : decode cX0_waits 47 = .ok (.getfield 162, 3) := dk_180 0 162 (dk_at dksX0_waits_2 0 rfl rfl)
theorem dX0_waits_50 : decode cX0_waits 50 = .ok (.iload_n 1, 1) := dk_27 (dk_at dksX0_waits_2 3 rfl rfl)
theorem dX0_waits_51 : decode cX0_waits 51 = .ok (.iaload, 1) := dk_46 (dk_at dksX0_waits_2 4 rfl rfl)
theorem dX0_waits_52 : decode cX0_waits 52 = .ok (.istore 4, 2) := dk_54 4 (dk_at dksX0_waits_2 5 rfl rfl)
theorem dX0_waits_54 : decode cX0_waits 54 = .ok (.aload_n 0, 1) := dk_42 (dk_at dksX0_waits_2 7 rfl rfl)
theorem dX0_waits_55 : decode cX0_waits 55 = .ok (.getfield 25, 3) := dk_180 0 25 (dk_at dksX0_waits_2 8 rfl rfl)
theorem dX0_waits_58 : decode cX0_waits 58 = .ok (.getfield 162, 3) := dk_180 0 162 (dk_at dksX0_waits_2 11 rfl rfl)
theorem dX0_waits_61 : decode cX0_waits 61 = .ok (.iload_n 1, 1) := dk_27 (dk_at dksX0_waits_2 14 rfl rfl)
theorem dX0_waits_62 : decode cX0_waits 62 = .ok (.iload_n 2, 1) := dk_28 (dk_at dksX0_waits_2 15 rfl rfl)
theorem dX0_waits_63 : decode cX0_waits 63 = .ok (.iastore, 1) := dk_79 (dk_at dksX0_waits_2 16 rfl rfl)
theorem dX0_waits_64 : decode cX0_waits 64 = .ok (.aload_n 0, 1) := dk_42 (dk_at dksX0_waits_2 17 rfl rfl)
theorem dX0_waits_65 : decode cX0_waits 65 = .ok (.getfield 25, 3) := dk_180 0 25 (dk_at dksX0_waits_2 18 rfl rfl)
theorem dX0_waits_68 : decode cX0_waits 68 = .ok (.getfield 165, 3) := dk_180 0 165 (dk_at dksX0_waits_2 21 rfl rfl)
theorem dX0_waits_71 : decode cX0_waits 71 = .ok (.iload_n 1, 1) := dk_27 (dk_at dksX0_waits_3 0 rfl rfl)
theorem dX0_waits_72 : decode cX0_waits 72 = .ok (.iload_n 2, 1) := dk_28 (dk_at dksX0_waits_3 1 rfl rfl)
theorem dX0_waits_73 : decode cX0_waits 73 = .ok (.iconst (-1), 1) := dk_2 (dk_at dksX0_waits_3 2 rfl rfl)
theorem dX0_waits_74 : decode cX0_waits 74 = .ok (.if_icmp .ne 7, 3) := dk_160 0 7 (dk_at dksX0_waits_3 3 rfl rfl)
theorem dX0_waits_77 : decode cX0_waits 77 = .ok (.iconst (-1), 1) := dk_2 (dk_at dksX0_waits_3 6 rfl rfl)
theorem dX0_waits_78 : decode cX0_waits 78 = .ok (.goto 4, 3) := dk_167 0 4 (dk_at dksX0_waits_3 7 rfl rfl)
theorem dX0_waits_81 : decode cX0_waits 81 = .ok (.iload_n 3, 1) := dk_29 (dk_at dksX0_waits_3 10 rfl rfl)
theorem dX0_waits_82 : decode cX0_waits 82 = .ok (.iastore, 1) := dk_79 (dk_at dksX0_waits_3 11 rfl rfl)
theorem dX0_waits_83 : decode cX0_waits 83 = .ok (.iload 4, 2) := dk_21 4 (dk_at dksX0_waits_3 12 rfl rfl)
theorem dX0_waits_85 : decode cX0_waits 85 = .ok (.ireturn, 1) := dk_172 (dk_at dksX0_waits_3 14 rfl rfl)
abbrev cX0_match : ByteArray := prog_1_method_50_code
def yX0_match : MethodName := ⟨RX0, "match", "(I)I"⟩
def dkwX0_match_1 : List UInt8 := [182, 0, 96, 154, 0, 6, 16, 153, 172, 42, 182, 1, 48, 42, 27, 182, 1, 51, 172]
abbrev dktX0_match_1 : List UInt8 := dkwX0_match_1 ++ []
def dkwX0_match_0 : List UInt8 := [27, 3, 4, 184, 0, 3, 154, 0, 17, 27, 16, 10, 16, 11, 184, 0, 3, 154, 0, 6, 16, 154, 172, 42]
abbrev dktX0_match_0 : List UInt8 := dkwX0_match_0 ++ dktX0_match_1
theorem dksX0_match_0 : cX0_match.data.toList.drop 0 = dktX0_match_0 := by decide +kernel
theorem dksX0_match_1 : cX0_match.data.toList.drop 24 = dktX0_match_1 := dk_seg dksX0_match_0 24 rfl rfl
theorem dX0_match_0 : decode cX0_match 0 = .ok (.iload_n 1, 1) := dk_27 (dk_at dksX0_match_0 0 rfl rfl)
theorem dX0_match_1 : decode cX0_match 1 = .ok (.iconst 0, 1) := dk_3 (dk_at dksX0_match_0 1 rfl rfl)
theorem dX0_match_2 : decode cX0_match 2 = .ok (.iconst 1, 1) := dk_4 (dk_at dksX0_match_0 2 rfl rfl)
theorem dX0_match_3 : decode cX0_match 3 = .ok (.invokestatic 3, 3) := dk_184 0 3 (dk_at dksX0_match_0 3 rfl rfl)
theorem dX0_match_6 : decode cX0_match 6 = .ok (.ifCond .ne 17, 3) := dk_154 0 17 (dk_at dksX0_match_0 6 rfl rfl)
theorem dX0_match_9 : decode cX0_match 9 = .ok (.iload_n 1, 1) := dk_27 (dk_at dksX0_match_0 9 rfl rfl)
theorem dX0_match_10 : decode cX0_match 10 = .ok (.bipush 10, 2) := dk_16 10 (dk_at dksX0_match_0 10 rfl rfl)
theorem dX0_match_12 : decode cX0_match 12 = .ok (.bipush 11, 2) := dk_16 11 (dk_at dksX0_match_0 12 rfl rfl)
theorem dX0_match_14 : decode cX0_match 14 = .ok (.invokestatic 3, 3) := dk_184 0 3 (dk_at dksX0_match_0 14 rfl rfl)
theorem dX0_match_17 : decode cX0_match 17 = .ok (.ifCond .ne 6, 3) := dk_154 0 6 (dk_at dksX0_match_0 17 rfl rfl)
theorem dX0_match_20 : decode cX0_match 20 = .ok (.bipush (-102), 2) := dk_16 154 (dk_at dksX0_match_0 20 rfl rfl)
theorem dX0_match_22 : decode cX0_match 22 = .ok (.ireturn, 1) := dk_172 (dk_at dksX0_match_0 22 rfl rfl)
theorem dX0_match_23 : decode cX0_match 23 = .ok (.aload_n 0, 1) := dk_42 (dk_at dksX0_match_0 23 rfl rfl)
theorem dX0_match_24 : decode cX0_match 24 = .ok (.invokevirtual 96, 3) := dk_182 0 96 (dk_at dksX0_match_1 0 rfl rfl)
theorem dX0_match_27 : decode cX0_match 27 = .ok (.ifCond .ne 6, 3) := dk_154 0 6 (dk_at dksX0_match_1 3 rfl rfl)
theorem dX0_match_30 : decode cX0_match 30 = .ok (.bipush (-103), 2) := dk_16 153 (dk_at dksX0_match_1 6 rfl rfl)
theorem dX0_match_32 : decode cX0_match 32 = .ok (.ireturn, 1) := dk_172 (dk_at dksX0_match_1 8 rfl rfl)
theorem dX0_match_33 : decode cX0_match 33 = .ok (.aload_n 0, 1) := dk_42 (dk_at dksX0_match_1 9 rfl rfl)
theorem dX0_match_34 : decode cX0_match 34 = .ok (.invokevirtual 304, 3) := dk_182 1 48 (dk_at dksX0_match_1 10 rfl rfl)
theorem dX0_match_37 : decode cX0_match 37 = .ok (.aload_n 0, 1) := dk_42 (dk_at dksX0_match_1 13 rfl rfl)
theorem dX0_match_38 : decode cX0_match 38 = .ok (.iload_n 1, 1) := dk_27 (dk_at dksX0_match_1 14 rfl rfl)
theorem dX0_match_39 : decode cX0_match 39 = .ok (.invokevirtual 307, 3) := dk_182 1 51 (dk_at dksX0_match_1 15 rfl rfl)
theorem dX0_match_42 : decode cX0_match 42 = .ok (.ireturn, 1) := dk_172 (dk_at dksX0_match_1 18 rfl rfl)
abbrev cX0_layMatch : ByteArray := prog_1_method_48_code
def yX0_layMatch : MethodName := ⟨RX0, "layMatch", "()V"⟩
def dkwX0_layMatch_8 : List UInt8 := [167, 255, 83, 177]
abbrev dktX0_layMatch_8 : List UInt8 := dkwX0_layMatch_8 ++ []
def dkwX0_layMatch_7 : List UInt8 := [180, 0, 43, 3, 27, 79, 42, 180, 0, 43, 4, 28, 79, 132, 2, 1, 167, 255, 99, 132, 1, 1]
abbrev dktX0_layMatch_7 : List UInt8 := dkwX0_layMatch_7 ++ dktX0_layMatch_8
def dkwX0_layMatch_6 : List UInt8 := [96, 42, 180, 1, 42, 162, 0, 31, 42, 21, 6, 181, 1, 39, 42, 29, 21, 4, 96, 181, 1, 42, 42]
abbrev dktX0_layMatch_6 : List UInt8 := dkwX0_layMatch_6 ++ dktX0_layMatch_7
def dkwX0_layMatch_5 : List UInt8 := [153, 0, 60, 21, 6, 42, 180, 1, 39, 163, 0, 23, 21, 6, 42, 180, 1, 39, 160, 0, 42, 29, 21, 4]
abbrev dktX0_layMatch_5 : List UInt8 := dkwX0_layMatch_5 ++ dktX0_layMatch_6
def dkwX0_layMatch_4 : List UInt8 := [160, 0, 7, 3, 167, 0, 4, 4, 28, 2, 160, 0, 7, 3, 167, 0, 4, 4, 96, 54, 6, 21, 5]
abbrev dktX0_layMatch_4 : List UInt8 := dkwX0_layMatch_4 ++ dktX0_layMatch_5
def dkwX0_layMatch_3 : List UInt8 := [159, 0, 17, 27, 2, 159, 0, 8, 27, 28, 159, 0, 7, 4, 167, 0, 4, 3, 54, 5, 27, 2]
abbrev dktX0_layMatch_3 : List UInt8 := dkwX0_layMatch_3 ++ dktX0_layMatch_4
def dkwX0_layMatch_2 : List UInt8 := [2, 160, 0, 7, 3, 167, 0, 9, 42, 4, 28, 182, 1, 45, 54, 4, 29, 2, 159, 0, 23, 21, 4, 2]
abbrev dktX0_layMatch_2 : List UInt8 := dkwX0_layMatch_2 ++ dktX0_layMatch_3
def dkwX0_layMatch_1 : List UInt8 := [42, 180, 0, 88, 162, 0, 155, 27, 2, 160, 0, 7, 3, 167, 0, 9, 42, 3, 27, 182, 1, 45, 62, 28]
abbrev dktX0_layMatch_1 : List UInt8 := dkwX0_layMatch_1 ++ dktX0_layMatch_2
def dkwX0_layMatch_0 : List UInt8 := [42, 2, 181, 1, 39, 42, 18, 240, 181, 1, 42, 2, 60, 27, 42, 180, 0, 88, 162, 0, 171, 2, 61, 28]
abbrev dktX0_layMatch_0 : List UInt8 := dkwX0_layMatch_0 ++ dktX0_layMatch_1
theorem dksX0_layMatch_0 : cX0_layMatch.data.toList.drop 0 = dktX0_layMatch_0 := by decide +kernel
theorem dksX0_layMatch_1 : cX0_layMatch.data.toList.drop 24 = dktX0_layMatch_1 := dk_seg dksX0_layMatch_0 24 rfl rfl
theorem dksX0_layMatch_2 : cX0_layMatch.data.toList.drop 48 = dktX0_layMatch_2 := dk_seg dksX0_layMatch_1 24 rfl rfl
theorem dksX0_layMatch_3 : cX0_layMatch.data.toList.drop 72 = dktX0_layMatch_3 := dk_seg dksX0_layMatch_2 24 rfl rfl
theorem dksX0_layMatch_4 : cX0_layMatch.data.toList.drop 94 = dktX0_layMatch_4 := dk_seg dksX0_layMatch_3 22 rfl rfl
theorem dksX0_layMatch_5 : cX0_layMatch.data.toList.drop 117 = dktX0_layMatch_5 := dk_seg dksX0_layMatch_4 23 rfl rfl
theorem dksX0_layMatch_6 : cX0_layMatch.data.toList.drop 141 = dktX0_layMatch_6 := dk_seg dksX0_layMatch_5 24 rfl rfl
theorem dksX0_layMatch_7 : cX0_layMatch.data.toList.drop 164 = dktX0_layMatch_7 := dk_seg dksX0_layMatch_6 23 rfl rfl
theorem dksX0_layMatch_8 : cX0_layMatch.data.toList.drop 186 = dktX0_layMatch_8 := dk_seg dksX0_layMatch_7 22 rfl rfl
theorem dX0_layMatch_0 : decode cX0_layMatch 0 = .ok (.aload_n 0, 1) := dk_42 (dk_at dksX0_layMatch_0 0 rfl rfl)
theorem dX0_layMatch_1 : decode cX0_layMatch 1 = .ok (.iconst (-1), 1) := dk_2 (dk_at dksX0_layMatch_0 1 rfl rfl)
theorem dX0_layMatch_2 : decode cX0_layMatch 2 = .ok (.putfield 295, 3) := dk_181 1 39 (dk_at dksX0_layMatch_0 2 rfl rfl)
theorem dX0_layMatch_5 : decode cX0_layMatch 5 = .ok (.aload_n 0, 1) := dk_42 (dk_at dksX0_layMatch_0 5 rfl rfl)
theorem dX0_layMatch_6 : decode cX0_layMatch 6 = .ok (.ldc 240, 2) := dk_18 240 (dk_at dksX0_layMatch_0 6 rfl rfl)
theorem dX0_layMatch_8 : decode cX0_layMatch 8 = .ok (.putfield 298, 3) := dk_181 1 42 (dk_at dksX0_layMatch_0 8 rfl rfl)
theorem dX0_layMatch_11 : decode cX0_layMatch 11 = .ok (.iconst (-1), 1) := dk_2 (dk_at dksX0_layMatch_0 11 rfl rfl)
theorem dX0_layMatch_12 : decode cX0_layMatch 12 = .ok (.istore_n 1, 1) := dk_60 (dk_at dksX0_layMatch_0 12 rfl rfl)
theorem dX0_layMatch_13 : decode cX0_layMatch 13 = .ok (.iload_n 1, 1) := dk_27 (dk_at dksX0_layMatch_0 13 rfl rfl)
theorem dX0_layMatch_14 : decode cX0_layMatch 14 = .ok (.aload_n 0, 1) := dk_42 (dk_at dksX0_layMatch_0 14 rfl rfl)
theorem dX0_layMatch_15 : decode cX0_layMatch 15 = .ok (.getfield 88, 3) := dk_180 0 88 (dk_at dksX0_layMatch_0 15 rfl rfl)
theorem dX0_layMatch_18 : decode cX0_layMatch 18 = .ok (.if_icmp .ge 171, 3) := dk_162 0 171 (dk_at dksX0_layMatch_0 18 rfl rfl)
theorem dX0_layMatch_21 : decode cX0_layMatch 21 = .ok (.iconst (-1), 1) := dk_2 (dk_at dksX0_layMatch_0 21 rfl rfl)
theorem dX0_layMatch_22 : decode cX0_layMatch 22 = .ok (.istore_n 2, 1) := dk_61 (dk_at dksX0_layMatch_0 22 rfl rfl)
theorem dX0_layMatch_23 : decode cX0_layMatch 23 = .ok (.iload_n 2, 1) := dk_28 (dk_at dksX0_layMatch_0 23 rfl rfl)
theorem dX0_layMatch_24 : decode cX0_layMatch 24 = .ok (.aload_n 0, 1) := dk_42 (dk_at dksX0_layMatch_1 0 rfl rfl)
theorem dX0_layMatch_25 : decode cX0_layMatch 25 = .ok (.getfield 88, 3) := dk_180 0 88 (dk_at dksX0_layMatch_1 1 rfl rfl)
theorem dX0_layMatch_28 : decode cX0_layMatch 28 = .ok (.if_icmp .ge 155, 3) := dk_162 0 155 (dk_at dksX0_layMatch_1 4 rfl rfl)
theorem dX0_layMatch_31 : decode cX0_layMatch 31 = .ok (.iload_n 1, 1) := dk_27 (dk_at dksX0_layMatch_1 7 rfl rfl)
theorem dX0_layMatch_32 : decode cX0_layMatch 32 = .ok (.iconst (-1), 1) := dk_2 (dk_at dksX0_layMatch_1 8 rfl rfl)
theorem dX0_layMatch_33 : decode cX0_layMatch 33 = .ok (.if_icmp .ne 7, 3) := dk_160 0 7 (dk_at dksX0_layMatch_1 9 rfl rfl)
theorem dX0_layMatch_36 : decode cX0_layMatch 36 = .ok (.iconst 0, 1) := dk_3 (dk_at dksX0_layMatch_1 12 rfl rfl)
theorem dX0_layMatch_37 : decode cX0_layMatch 37 = .ok (.goto 9, 3) := dk_167 0 9 (dk_at dksX0_layMatch_1 13 rfl rfl)
theorem dX0_layMatch_40 : decode cX0_layMatch 40 = .ok (.aload_n 0, 1) := dk_42 (dk_at dksX0_layMatch_1 16 rfl rfl)
theorem dX0_layMatch_41 : decode cX0_layMatch 41 = .ok (.iconst 0, 1) := dk_3 (dk_at dksX0_layMatch_1 17 rfl rfl)
theorem dX0_layMatch_42 : decode cX0_layMatch 42 = .ok (.iload_n 1, 1) := dk_27 (dk_at dksX0_layMatch_1 18 rfl rfl)
theorem dX0_layMatch_43 : decode cX0_layMatch 43 = .ok (.invokevirtual 301, 3) := dk_182 1 45 (dk_at dksX0_layMatch_1 19 rfl rfl)
theorem dX0_layMatch_46 : decode cX0_layMatch 46 = .ok (.istore_n 3, 1) := dk_62 (dk_at dksX0_layMatch_1 22 rfl rfl)
theorem dX0_layMatch_47 : decode cX0_layMatch 47 = .ok (.iload_n 2, 1) := dk_28 (dk_at dksX0_layMatch_1 23 rfl rfl)
theorem dX0_layMatch_48 : decode cX0_layMatch 48 = .ok (.iconst (-1), 1) := dk_2 (dk_at dksX0_layMatch_2 0 rfl rfl)
theorem dX0_layMatch_49 : decode cX0_layMatch 49 = .ok (.if_icmp .ne 7, 3) := dk_160 0 7 (dk_at dksX0_layMatch_2 1 rfl rfl)
theorem dX0_layMatch_52 : decode cX0_layMatch 52 = .ok (.iconst 0, 1) := dk_3 (dk_at dksX0_layMatch_2 4 rfl rfl)
theorem dX0_layMatch_53 : decode cX0_layMatch 53 = .ok (.goto 9, 3) := dk_167 0 9 (dk_at dksX0_layMatch_2 5 rfl rfl)
theorem dX0_layMatch_56 : decode cX0_layMatch 56 = .ok (.aload_n 0, 1) := dk_42 (dk_at dksX0_layMatch_2 8 rfl rfl)
theorem dX0_layMatch_57 : decode cX0_layMatch 57 = .ok (.iconst 1, 1) := dk_4 (dk_at dksX0_layMatch_2 9 rfl rfl)
theorem dX0_layMatch_58 : decode cX0_layMatch 58 = .ok (.iload_n 2, 1) := dk_28 (dk_at dksX0_layMatch_2 10 rfl rfl)
theorem dX0_layMatch_59 : decode cX0_layMatch 59 = .ok (.invokevirtual 301, 3) := dk_182 1 45 (dk_at dksX0_layMatch_2 11 rfl rfl)
theorem dX0_layMatch_62 : decode cX0_layMatch 62 = .ok (.istore 4, 2) := dk_54 4 (dk_at dksX0_layMatch_2 14 rfl rfl)
theorem dX0_layMatch_64 : decode cX0_layMatch 64 = .ok (.iload_n 3, 1) := dk_29 (dk_at dksX0_layMatch_2 16 rfl rfl)
theorem dX0_layMatch_65 : decode cX0_layMatch 65 = .ok (.iconst (-1), 1) := dk_2 (dk_at dksX0_layMatch_2 17 rfl rfl)
theorem dX0_layMatch_66 : decode cX0_layMatch 66 = .ok (.if_icmp .eq 23, 3) := dk_159 0 23 (dk_at dksX0_layMatch_2 18 rfl rfl)
theorem dX0_layMatch_69 : decode cX0_layMatch 69 = .ok (.iload 4, 2) := dk_21 4 (dk_at dksX0_layMatch_2 21 rfl rfl)
theorem dX0_layMatch_71 : decode cX0_layMatch 71 = .ok (.iconst (-1), 1) := dk_2 (dk_at dksX0_layMatch_2 23 rfl rfl)
theorem dX0_layMatch_72 : decode cX0_layMatch 72 = .ok (.if_icmp .eq 17, 3) := dk_159 0 17 (dk_at dksX0_layMatch_3 0 rfl rfl)
theorem dX0_layMatch_75 : decode cX0_layMatch 75 = .ok (.iload_n 1, 1) := dk_27 (dk_at dksX0_layMatch_3 3 rfl rfl)
theorem dX0_layMatch_76 : decode cX0_layMatch 76 = .ok (.iconst (-1), 1) := dk_2 (dk_at dksX0_layMatch_3 4 rfl rfl)
theorem dX0_layMatch_77 : decode cX0_layMatch 77 = .ok (.if_icmp .eq 8, 3) := dk_159 0 8 (dk_at dksX0_layMatch_3 5 rfl rfl)
theorem dX0_layMatch_80 : decode cX0_layMatch 80 = .ok (.iload_n 1, 1) := dk_27 (dk_at dksX0_layMatch_3 8 rfl rfl)
theorem dX0_layMatch_81 : decode cX0_layMatch 81 = .ok (.iload_n 2, 1) := dk_28 (dk_at dksX0_layMatch_3 9 rfl rfl)
theorem dX0_layMatch_82 : decode cX0_layMatch 82 = .ok (.if_icmp .eq 7, 3) := dk_159 0 7 (dk_at dksX0_layMatch_3 10 rfl rfl)
theorem dX0_layMatch_85 : decode cX0_layMatch 85 = .ok (.iconst 1, 1) := dk_4 (dk_at dksX0_layMatch_3 13 rfl rfl)
theorem dX0_layMatch_86 : decode cX0_layMatch 86 = .ok (.goto 4, 3) := dk_167 0 4 (dk_at dksX0_layMatch_3 14 rfl rfl)
theorem dX0_layMatch_89 : decode cX0_layMatch 89 = .ok (.iconst 0, 1) := dk_3 (dk_at dksX0_layMatch_3 17 rfl rfl)
theorem dX0_layMatch_90 : decode cX0_layMatch 90 = .ok (.istore 5, 2) := dk_54 5 (dk_at dksX0_layMatch_3 18 rfl rfl)
theorem dX0_layMatch_92 : decode cX0_layMatch 92 = .ok (.iload_n 1, 1) := dk_27 (dk_at dksX0_layMatch_3 20 rfl rfl)
theorem dX0_layMatch_93 : decode cX0_layMatch 93 = .ok (.iconst (-1), 1) := dk_2 (dk_at dksX0_layMatch_3 21 rfl rfl)
theorem dX0_layMatch_94 : decode cX0_layMatch 94 = .ok (.if_icmp .ne 7, 3) := dk_160 0 7 (dk_at dksX0_layMatch_4 0 rfl rfl)
theorem dX0_layMatch_97 : decode cX0_layMatch 97 = .ok (.iconst 0, 1) := dk_3 (dk_at dksX0_layMatch_4 3 rfl rfl)
theorem dX0_layMatch_98 : decode cX0_layMatch 98 = .ok (.goto 4, 3) := dk_167 0 4 (dk_at dksX0_layMatch_4 4 rfl rfl)
theorem dX0_layMatch_101 : decode cX0_layMatch 101 = .ok (.iconst 1, 1) := dk_4 (dk_at dksX0_layMatch_4 7 rfl rfl)
theorem dX0_layMatch_102 : decode cX0_layMatch 102 = .ok (.iload_n 2, 1) := dk_28 (dk_at dksX0_layMatch_4 8 rfl rfl)
theorem dX0_layMatch_103 : decode cX0_layMatch 103 = .ok (.iconst (-1), 1) := dk_2 (dk_at dksX0_layMatch_4 9 rfl rfl)
theorem dX0_layMatch_104 : decode cX0_layMatch 104 = .ok (.if_icmp .ne 7, 3) := dk_160 0 7 (dk_at dksX0_layMatch_4 10 rfl rfl)
theorem dX0_layMatch_107 : decode cX0_layMatch 107 = .ok (.iconst 0, 1) := dk_3 (dk_at dksX0_layMatch_4 13 rfl rfl)
theorem dX0_layMatch_108 : decode cX0_layMatch 108 = .ok (.goto 4, 3) := dk_167 0 4 (dk_at dksX0_layMatch_4 14 rfl rfl)
theorem dX0_layMatch_111 : decode cX0_layMatch 111 = .ok (.iconst 1, 1) := dk_4 (dk_at dksX0_layMatch_4 17 rfl rfl)
theorem dX0_layMatch_112 : decode cX0_layMatch 112 = .ok (.iadd, 1) := dk_96 (dk_at dksX0_layMatch_4 18 rfl rfl)
theorem dX0_layMatch_113 : decode cX0_layMatch 113 = .ok (.istore 6, 2) := dk_54 6 (dk_at dksX0_layMatch_4 19 rfl rfl)
theorem dX0_layMatch_115 : decode cX0_layMatch 115 = .ok (.iload 5, 2) := dk_21 5 (dk_at dksX0_layMatch_4 21 rfl rfl)
theorem dX0_layMatch_117 : decode cX0_layMatch 117 = .ok (.ifCond .eq 60, 3) := dk_153 0 60 (dk_at dksX0_layMatch_5 0 rfl rfl)
theorem dX0_layMatch_120 : decode cX0_layMatch 120 = .ok (.iload 6, 2) := dk_21 6 (dk_at dksX0_layMatch_5 3 rfl rfl)
theorem dX0_layMatch_122 : decode cX0_layMatch 122 = .ok (.aload_n 0, 1) := dk_42 (dk_at dksX0_layMatch_5 5 rfl rfl)
theorem dX0_layMatch_123 : decode cX0_layMatch 123 = .ok (.getfield 295, 3) := dk_180 1 39 (dk_at dksX0_layMatch_5 6 rfl rfl)
theorem dX0_layMatch_126 : decode cX0_layMatch 126 = .ok (.if_icmp .gt 23, 3) := dk_163 0 23 (dk_at dksX0_layMatch_5 9 rfl rfl)
theorem dX0_layMatch_129 : decode cX0_layMatch 129 = .ok (.iload 6, 2) := dk_21 6 (dk_at dksX0_layMatch_5 12 rfl rfl)
theorem dX0_layMatch_131 : decode cX0_layMatch 131 = .ok (.aload_n 0, 1) := dk_42 (dk_at dksX0_layMatch_5 14 rfl rfl)
theorem dX0_layMatch_132 : decode cX0_layMatch 132 = .ok (.getfield 295, 3) := dk_180 1 39 (dk_at dksX0_layMatch_5 15 rfl rfl)
theorem dX0_layMatch_135 : decode cX0_layMatch 135 = .ok (.if_icmp .ne 42, 3) := dk_160 0 42 (dk_at dksX0_layMatch_5 18 rfl rfl)
theorem dX0_layMatch_138 : decode cX0_layMatch 138 = .ok (.iload_n 3, 1) := dk_29 (dk_at dksX0_layMatch_5 21 rfl rfl)
theorem dX0_layMatch_139 : decode cX0_layMatch 139 = .ok (.iload 4, 2) := dk_21 4 (dk_at dksX0_layMatch_5 22 rfl rfl)
theorem dX0_layMatch_141 : decode cX0_layMatch 141 = .ok (.iadd, 1) := dk_96 (dk_at dksX0_layMatch_6 0 rfl rfl)
theorem dX0_layMatch_142 : decode cX0_layMatch 142 = .ok (.aload_n 0, 1) := dk_42 (dk_at dksX0_layMatch_6 1 rfl rfl)
theorem dX0_layMatch_143 : decode cX0_layMatch 143 = .ok (.getfield 298, 3) := dk_180 1 42 (dk_at dksX0_layMatch_6 2 rfl rfl)
theorem dX0_layMatch_146 : decode cX0_layMatch 146 = .ok (.if_icmp .ge 31, 3) := dk_162 0 31 (dk_at dksX0_layMatch_6 5 rfl rfl)
theorem dX0_layMatch_149 : decode cX0_layMatch 149 = .ok (.aload_n 0, 1) := dk_42 (dk_at dksX0_layMatch_6 8 rfl rfl)
theorem dX0_layMatch_150 : decode cX0_layMatch 150 = .ok (.iload 6, 2) := dk_21 6 (dk_at dksX0_layMatch_6 9 rfl rfl)
theorem dX0_layMatch_152 : decode cX0_layMatch 152 = .ok (.putfield 295, 3) := dk_181 1 39 (dk_at dksX0_layMatch_6 11 rfl rfl)
theorem dX0_layMatch_155 : decode cX0_layMatch 155 = .ok (.aload_n 0, 1) := dk_42 (dk_at dksX0_layMatch_6 14 rfl rfl)
theorem dX0_layMatch_156 : decode cX0_layMatch 156 = .ok (.iload_n 3, 1) := dk_29 (dk_at dksX0_layMatch_6 15 rfl rfl)
theorem dX0_layMatch_157 : decode cX0_layMatch 157 = .ok (.iload 4, 2) := dk_21 4 (dk_at dksX0_layMatch_6 16 rfl rfl)
theorem dX0_layMatch_159 : decode cX0_layMatch 159 = .ok (.iadd, 1) := dk_96 (dk_at dksX0_layMatch_6 18 rfl rfl)
theorem dX0_layMatch_160 : decode cX0_layMatch 160 = .ok (.putfield 298, 3) := dk_181 1 42 (dk_at dksX0_layMatch_6 19 rfl rfl)
theorem dX0_layMatch_163 : decode cX0_layMatch 163 = .ok (.aload_n 0, 1) := dk_42 (dk_at dksX0_layMatch_6 22 rfl rfl)
theorem dX0_layMatch_164 : decode cX0_layMatch 164 = .ok (.getfield 43, 3) := dk_180 0 43 (dk_at dksX0_layMatch_7 0 rfl rfl)
theorem dX0_layMatch_167 : decode cX0_layMatch 167 = .ok (.iconst 0, 1) := dk_3 (dk_at dksX0_layMatch_7 3 rfl rfl)
theorem dX0_layMatch_168 : decode cX0_layMatch 168 = .ok (.iload_n 1, 1) := dk_27 (dk_at dksX0_layMatch_7 4 rfl rfl)
theorem dX0_layMatch_169 : decode cX0_layMatch 169 = .ok (.iastore, 1) := dk_79 (dk_at dksX0_layMatch_7 5 rfl rfl)
theorem dX0_layMatch_170 : decode cX0_layMatch 170 = .ok (.aload_n 0, 1) := dk_42 (dk_at dksX0_layMatch_7 6 rfl rfl)
theorem dX0_layMatch_171 : decode cX0_layMatch 171 = .ok (.getfield 43, 3) := dk_180 0 43 (dk_at dksX0_layMatch_7 7 rfl rfl)
theorem dX0_layMatch_174 : decode cX0_layMatch 174 = .ok (.iconst 1, 1) := dk_4 (dk_at dksX0_layMatch_7 10 rfl rfl)
theorem dX0_layMatch_175 : decode cX0_layMatch 175 = .ok (.iload_n 2, 1) := dk_28 (dk_at dksX0_layMatch_7 11 rfl rfl)
theorem dX0_layMatch_176 : decode cX0_layMatch 176 = .ok (.iastore, 1) := dk_79 (dk_at dksX0_layMatch_7 12 rfl rfl)
theorem dX0_layMatch_177 : decode cX0_layMatch 177 = .ok (.iinc 2 1, 3) := dk_132 2 1 (dk_at dksX0_layMatch_7 13 rfl rfl)
theorem dX0_layMatch_180 : decode cX0_layMatch 180 = .ok (.goto (-157), 3) := dk_167 255 99 (dk_at dksX0_layMatch_7 16 rfl rfl)
theorem dX0_layMatch_183 : decode cX0_layMatch 183 = .ok (.iinc 1 1, 3) := dk_132 1 1 (dk_at dksX0_layMatch_7 19 rfl rfl)
theorem dX0_layMatch_186 : decode cX0_layMatch 186 = .ok (.goto (-173), 3) := dk_167 255 83 (dk_at dksX0_layMatch_8 0 rfl rfl)
theorem dX0_layMatch_189 : decode cX0_layMatch 189 = .ok (.return_, 1) := dk_177 (dk_at dksX0_layMatch_8 3 rfl rfl)
abbrev cX0_hurtsBy : ByteArray := prog_1_method_47_code
def yX0_hurtsBy : MethodName := ⟨RX0, "hurtsBy", "(II)I"⟩
def dkwX0_hurtsBy_4 : List UInt8 := [180, 0, 25, 180, 0, 216, 167, 0, 4, 2, 172]
abbrev dktX0_hurtsBy_4 : List UInt8 := dkwX0_hurtsBy_4 ++ []
def dkwX0_hurtsBy_3 : List UInt8 := [180, 0, 25, 180, 0, 165, 28, 46, 42, 180, 0, 25, 180, 0, 172, 27, 46, 182, 0, 212, 153, 0, 13, 42]
abbrev dktX0_hurtsBy_3 : List UInt8 := dkwX0_hurtsBy_3 ++ dktX0_hurtsBy_4
def dkwX0_hurtsBy_2 : List UInt8 := [184, 0, 175, 154, 0, 5, 2, 172, 42, 180, 0, 25, 28, 42, 180, 0, 25, 180, 0, 162, 28, 46, 42]
abbrev dktX0_hurtsBy_2 : List UInt8 := dkwX0_hurtsBy_2 ++ dktX0_hurtsBy_3
def dkwX0_hurtsBy_1 : List UInt8 := [27, 46, 42, 180, 0, 25, 180, 0, 172, 27, 46, 182, 0, 255, 42, 180, 0, 25, 180, 0, 162, 28, 46]
abbrev dktX0_hurtsBy_1 : List UInt8 := dkwX0_hurtsBy_1 ++ dktX0_hurtsBy_2
def dkwX0_hurtsBy_0 : List UInt8 := [42, 180, 0, 25, 180, 0, 162, 28, 46, 2, 159, 0, 43, 42, 180, 0, 25, 42, 180, 0, 25, 180, 1, 20]
abbrev dktX0_hurtsBy_0 : List UInt8 := dkwX0_hurtsBy_0 ++ dktX0_hurtsBy_1
theorem dksX0_hurtsBy_0 : cX0_hurtsBy.data.toList.drop 0 = dktX0_hurtsBy_0 := by decide +kernel
theorem dksX0_hurtsBy_1 : cX0_hurtsBy.data.toList.drop 24 = dktX0_hurtsBy_1 := dk_seg dksX0_hurtsBy_0 24 rfl rfl
theorem dksX0_hurtsBy_2 : cX0_hurtsBy.data.toList.drop 47 = dktX0_hurtsBy_2 := dk_seg dksX0_hurtsBy_1 23 rfl rfl
theorem dksX0_hurtsBy_3 : cX0_hurtsBy.data.toList.drop 70 = dktX0_hurtsBy_3 := dk_seg dksX0_hurtsBy_2 23 rfl rfl
theorem dksX0_hurtsBy_4 : cX0_hurtsBy.data.toList.drop 94 = dktX0_hurtsBy_4 := dk_seg dksX0_hurtsBy_3 24 rfl rfl
theorem dX0_hurtsBy_0 : decode cX0_hurtsBy 0 = .ok (.aload_n 0, 1) := dk_42 (dk_at dksX0_hurtsBy_0 0 rfl rfl)
theorem dX0_hurtsBy_1 : decode cX0_hurtsBy 1 = .ok (.getfield 25, 3) := dk_180 0 25 (dk_at dksX0_hurtsBy_0 1 rfl rfl)
theorem dX0_hurtsBy_4 : decode cX0_hurtsBy 4 = .ok (.getfield 162, 3) := dk_180 0 162 (dk_at dksX0_hurtsBy_0 4 rfl rfl)
theorem dX0_hurtsBy_7 : decode cX0_hurtsBy 7 = .ok (.iload_n 2, 1) := dk_28 (dk_at dksX0_hurtsBy_0 7 rfl rfl)
theorem dX0_hurtsBy_8 : decode cX0_hurtsBy 8 = .ok (.iaload, 1) := dk_46 (dk_at dksX0_hurtsBy_0 8 rfl rfl)
theorem dX0_hurtsBy_9 : decode cX0_hurtsBy 9 = .ok (.iconst (-1), 1) := dk_2 (dk_at dksX0_hurtsBy_0 9 rfl rfl)
theorem dX0_hurtsBy_10 : decode cX0_hurtsBy 10 = .ok (.if_icmp .eq 43, 3) := dk_159 0 43 (dk_at dksX0_hurtsBy_0 10 rfl rfl)
theorem dX0_hurtsBy_13 : decode cX0_hurtsBy 13 = .ok (.aload_n 0, 1) := dk_42 (dk_at dksX0_hurtsBy_0 13 rfl rfl)
theorem dX0_hurtsBy_14 : decode cX0_hurtsBy 14 = .ok (.getfield 25, 3) := dk_180 0 25 (dk_at dksX0_hurtsBy_0 14 rfl rfl)
theorem dX0_hurtsBy_17 : decode cX0_hurtsBy 17 = .ok (.aload_n 0, 1) := dk_42 (dk_at dksX0_hurtsBy_0 17 rfl rfl)
theorem dX0_hurtsBy_18 : decode cX0_hurtsBy 18 = .ok (.getfield 25, 3) := dk_180 0 25 (dk_at dksX0_hurtsBy_0 18 rfl rfl)
theorem dX0_hurtsBy_21 : decode cX0_hurtsBy 21 = .ok (.getfield 276, 3) := dk_180 1 20 (dk_at dksX0_hurtsBy_0 21 rfl rfl)
theorem dX0_hurtsBy_24 : decode cX0_hurtsBy 24 = .ok (.iload_n 1, 1) := dk_27 (dk_at dksX0_hurtsBy_1 0 rfl rfl)
theorem dX0_hurtsBy_25 : decode cX0_hurtsBy 25 = .ok (.iaload, 1) := dk_46 (dk_at dksX0_hurtsBy_1 1 rfl rfl)
theorem dX0_hurtsBy_26 : decode cX0_hurtsBy 26 = .ok (.aload_n 0, 1) := dk_42 (dk_at dksX0_hurtsBy_1 2 rfl rfl)
theorem dX0_hurtsBy_27 : decode cX0_hurtsBy 27 = .ok (.getfield 25, 3) := dk_180 0 25 (dk_at dksX0_hurtsBy_1 3 rfl rfl)
theorem dX0_hurtsBy_30 : decode cX0_hurtsBy 30 = .ok (.getfield 172, 3) := dk_180 0 172 (dk_at dksX0_hurtsBy_1 6 rfl rfl)
theorem dX0_hurtsBy_33 : decode cX0_hurtsBy 33 = .ok (.iload_n 1, 1) := dk_27 (dk_at dksX0_hurtsBy_1 9 rfl rfl)
theorem dX0_hurtsBy_34 : decode cX0_hurtsBy 34 = .ok (.iaload, 1) := dk_46 (dk_at dksX0_hurtsBy_1 10 rfl rfl)
theorem dX0_hurtsBy_35 : decode cX0_hurtsBy 35 = .ok (.invokevirtual 255, 3) := dk_182 0 255 (dk_at dksX0_hurtsBy_1 11 rfl rfl)
theorem dX0_hurtsBy_38 : decode cX0_hurtsBy 38 = .ok (.aload_n 0, 1) := dk_42 (dk_at dksX0_hurtsBy_1 14 rfl rfl)
theorem dX0_hurtsBy_39 : decode cX0_hurtsBy 39 = .ok (.getfield 25, 3) := dk_180 0 25 (dk_at dksX0_hurtsBy_1 15 rfl rfl)
theorem dX0_hurtsBy_42 : decode cX0_hurtsBy 42 = .ok (.getfield 162, 3) := dk_180 0 162 (dk_at dksX0_hurtsBy_1 18 rfl rfl)
theorem dX0_hurtsBy_45 : decode cX0_hurtsBy 45 = .ok (.iload_n 2, 1) := dk_28 (dk_at dksX0_hurtsBy_1 21 rfl rfl)
theorem dX0_hurtsBy_46 : decode cX0_hurtsBy 46 = .ok (.iaload, 1) := dk_46 (dk_at dksX0_hurtsBy_1 22 rfl rfl)
theorem dX0_hurtsBy_47 : decode cX0_hurtsBy 47 = .ok (.invokestatic 175, 3) := dk_184 0 175 (dk_at dksX0_hurtsBy_2 0 rfl rfl)
theorem dX0_hurtsBy_50 : decode cX0_hurtsBy 50 = .ok (.ifCond .ne 5, 3) := dk_154 0 5 (dk_at dksX0_hurtsBy_2 3 rfl rfl)
theorem dX0_hurtsBy_53 : decode cX0_hurtsBy 53 = .ok (.iconst (-1), 1) := dk_2 (dk_at dksX0_hurtsBy_2 6 rfl rfl)
theorem dX0_hurtsBy_54 : decode cX0_hurtsBy 54 = .ok (.ireturn, 1) := dk_172 (dk_at dksX0_hurtsBy_2 7 rfl rfl)
theorem dX0_hurtsBy_55 : decode cX0_hurtsBy 55 = .ok (.aload_n 0, 1) := dk_42 (dk_at dksX0_hurtsBy_2 8 rfl rfl)
theorem dX0_hurtsBy_56 : decode cX0_hurtsBy 56 = .ok (.getfield 25, 3) := dk_180 0 25 (dk_at dksX0_hurtsBy_2 9 rfl rfl)
theorem dX0_hurtsBy_59 : decode cX0_hurtsBy 59 = .ok (.iload_n 2, 1) := dk_28 (dk_at dksX0_hurtsBy_2 12 rfl rfl)
theorem dX0_hurtsBy_60 : decode cX0_hurtsBy 60 = .ok (.aload_n 0, 1) := dk_42 (dk_at dksX0_hurtsBy_2 13 rfl rfl)
theorem dX0_hurtsBy_61 : decode cX0_hurtsBy 61 = .ok (.getfield 25, 3) := dk_180 0 25 (dk_at dksX0_hurtsBy_2 14 rfl rfl)
theorem dX0_hurtsBy_64 : decode cX0_hurtsBy 64 = .ok (.getfield 162, 3) := dk_180 0 162 (dk_at dksX0_hurtsBy_2 17 rfl rfl)
theorem dX0_hurtsBy_67 : decode cX0_hurtsBy 67 = .ok (.iload_n 2, 1) := dk_28 (dk_at dksX0_hurtsBy_2 20 rfl rfl)
theorem dX0_hurtsBy_68 : decode cX0_hurtsBy 68 = .ok (.iaload, 1) := dk_46 (dk_at dksX0_hurtsBy_2 21 rfl rfl)
theorem dX0_hurtsBy_69 : decode cX0_hurtsBy 69 = .ok (.aload_n 0, 1) := dk_42 (dk_at dksX0_hurtsBy_2 22 rfl rfl)
theorem dX0_hurtsBy_70 : decode cX0_hurtsBy 70 = .ok (.getfield 25, 3) := dk_180 0 25 (dk_at dksX0_hurtsBy_3 0 rfl rfl)
theorem dX0_hurtsBy_73 : decode cX0_hurtsBy 73 = .ok (.getfield 165, 3) := dk_180 0 165 (dk_at dksX0_hurtsBy_3 3 rfl rfl)
theorem dX0_hurtsBy_76 : decode cX0_hurtsBy 76 = .ok (.iload_n 2, 1) := dk_28 (dk_at dksX0_hurtsBy_3 6 rfl rfl)
theorem dX0_hurtsBy_77 : decode cX0_hurtsBy 77 = .ok (.iaload, 1) := dk_46 (dk_at dksX0_hurtsBy_3 7 rfl rfl)
theorem dX0_hurtsBy_78 : decode cX0_hurtsBy 78 = .ok (.aload_n 0, 1) := dk_42 (dk_at dksX0_hurtsBy_3 8 rfl rfl)
theorem dX0_hurtsBy_79 : decode cX0_hurtsBy 79 = .ok (.getfield 25, 3) := dk_180 0 25 (dk_at dksX0_hurtsBy_3 9 rfl rfl)
theorem dX0_hurtsBy_82 : decode cX0_hurtsBy 82 = .ok (.getfield 172, 3) := dk_180 0 172 (dk_at dksX0_hurtsBy_3 12 rfl rfl)
theorem dX0_hurtsBy_85 : decode cX0_hurtsBy 85 = .ok (.iload_n 1, 1) := dk_27 (dk_at dksX0_hurtsBy_3 15 rfl rfl)
theorem dX0_hurtsBy_86 : decode cX0_hurtsBy 86 = .ok (.iaload, 1) := dk_46 (dk_at dksX0_hurtsBy_3 16 rfl rfl)
theorem dX0_hurtsBy_87 : decode cX0_hurtsBy 87 = .ok (.invokevirtual 212, 3) := dk_182 0 212 (dk_at dksX0_hurtsBy_3 17 rfl rfl)
theorem dX0_hurtsBy_90 : decode cX0_hurtsBy 90 = .ok (.ifCond .eq 13, 3) := dk_153 0 13 (dk_at dksX0_hurtsBy_3 20 rfl rfl)
theorem dX0_hurtsBy_93 : decode cX0_hurtsBy 93 = .ok (.aload_n 0, 1) := dk_42 (dk_at dksX0_hurtsBy_3 23 rfl rfl)
theorem dX0_hurtsBy_94 : decode cX0_hurtsBy 94 = .ok (.getfield 25, 3) := dk_180 0 25 (dk_at dksX0_hurtsBy_4 0 rfl rfl)
theorem dX0_hurtsBy_97 : decode cX0_hurtsBy 97 = .ok (.getfield 216, 3) := dk_180 0 216 (dk_at dksX0_hurtsBy_4 3 rfl rfl)
theorem dX0_hurtsBy_100 : decode cX0_hurtsBy 100 = .ok (.goto 4, 3) := dk_167 0 4 (dk_at dksX0_hurtsBy_4 6 rfl rfl)
theorem dX0_hurtsBy_103 : decode cX0_hurtsBy 103 = .ok (.iconst (-1), 1) := dk_2 (dk_at dksX0_hurtsBy_4 9 rfl rfl)
theorem dX0_hurtsBy_104 : decode cX0_hurtsBy 104 = .ok (.ireturn, 1) := dk_172 (dk_at dksX0_hurtsBy_4 10 rfl rfl)
abbrev cX0_matchTold : ByteArray := prog_1_method_49_code
def yX0_matchTold : MethodName := ⟨RX0, "matchTold", "(I)I"⟩
def dkwX0_matchTold_1 : List UInt8 := [180, 0, 43, 27, 16, 10, 100, 46, 172]
abbrev dktX0_matchTold_1 : List UInt8 := dkwX0_matchTold_1 ++ []
def dkwX0_matchTold_0 : List UInt8 := [27, 154, 0, 10, 42, 180, 1, 39, 167, 0, 24, 27, 4, 160, 0, 10, 42, 180, 1, 42, 167, 0, 12, 42]
abbrev dktX0_matchTold_0 : List UInt8 := dkwX0_matchTold_0 ++ dktX0_matchTold_1
theorem dksX0_matchTold_0 : cX0_matchTold.data.toList.drop 0 = dktX0_matchTold_0 := by decide +kernel
theorem dksX0_matchTold_1 : cX0_matchTold.data.toList.drop 24 = dktX0_matchTold_1 := dk_seg dksX0_matchTold_0 24 rfl rfl
theorem dX0_matchTold_0 : decode cX0_matchTold 0 = .ok (.iload_n 1, 1) := dk_27 (dk_at dksX0_matchTold_0 0 rfl rfl)
theorem dX0_matchTold_1 : decode cX0_matchTold 1 = .ok (.ifCond .ne 10, 3) := dk_154 0 10 (dk_at dksX0_matchTold_0 1 rfl rfl)
theorem dX0_matchTold_4 : decode cX0_matchTold 4 = .ok (.aload_n 0, 1) := dk_42 (dk_at dksX0_matchTold_0 4 rfl rfl)
theorem dX0_matchTold_5 : decode cX0_matchTold 5 = .ok (.getfield 295, 3) := dk_180 1 39 (dk_at dksX0_matchTold_0 5 rfl rfl)
theorem dX0_matchTold_8 : decode cX0_matchTold 8 = .ok (.goto 24, 3) := dk_167 0 24 (dk_at dksX0_matchTold_0 8 rfl rfl)
theorem dX0_matchTold_11 : decode cX0_matchTold 11 = .ok (.iload_n 1, 1) := dk_27 (dk_at dksX0_matchTold_0 11 rfl rfl)
theorem dX0_matchTold_12 : decode cX0_matchTold 12 = .ok (.iconst 1, 1) := dk_4 (dk_at dksX0_matchTold_0 12 rfl rfl)
theorem dX0_matchTold_13 : decode cX0_matchTold 13 = .ok (.if_icmp .ne 10, 3) := dk_160 0 10 (dk_at dksX0_matchTold_0 13 rfl rfl)
theorem dX0_matchTold_16 : decode cX0_matchTold 16 = .ok (.aload_n 0, 1) := dk_42 (dk_at dksX0_matchTold_0 16 rfl rfl)
theorem dX0_matchTold_17 : decode cX0_matchTold 17 = .ok (.getfield 298, 3) := dk_180 1 42 (dk_at dksX0_matchTold_0 17 rfl rfl)
theorem dX0_matchTold_20 : decode cX0_matchTold 20 = .ok (.goto 12, 3) := dk_167 0 12 (dk_at dksX0_matchTold_0 20 rfl rfl)
theorem dX0_matchTold_23 : decode cX0_matchTold 23 = .ok (.aload_n 0, 1) := dk_42 (dk_at dksX0_matchTold_0 23 rfl rfl)
theorem dX0_matchTold_24 : decode cX0_matchTold 24 = .ok (.getfield 43, 3) := dk_180 0 43 (dk_at dksX0_matchTold_1 0 rfl rfl)
theorem dX0_matchTold_27 : decode cX0_matchTold 27 = .ok (.iload_n 1, 1) := dk_27 (dk_at dksX0_matchTold_1 3 rfl rfl)
theorem dX0_matchTold_28 : decode cX0_matchTold 28 = .ok (.bipush 10, 2) := dk_16 10 (dk_at dksX0_matchTold_1 4 rfl rfl)
theorem dX0_matchTold_30 : decode cX0_matchTold 30 = .ok (.isub, 1) := dk_100 (dk_at dksX0_matchTold_1 6 rfl rfl)
theorem dX0_matchTold_31 : decode cX0_matchTold 31 = .ok (.iaload, 1) := dk_46 (dk_at dksX0_matchTold_1 7 rfl rfl)
theorem dX0_matchTold_32 : decode cX0_matchTold 32 = .ok (.ireturn, 1) := dk_172 (dk_at dksX0_matchTold_1 8 rfl rfl)
abbrev cX0_see : ByteArray := prog_1_method_51_code
def yX0_see : MethodName := ⟨RX0, "see", "(IIII)I"⟩
def dkwX0_see_4 : List UInt8 := [172]
abbrev dktX0_see_4 : List UInt8 := dkwX0_see_4 ++ []
def dkwX0_see_3 : List UInt8 := [180, 0, 55, 42, 180, 0, 149, 21, 4, 79, 42, 89, 180, 0, 149, 4, 96, 181, 0, 149, 42, 180, 0, 149]
abbrev dktX0_see_3 : List UInt8 := dkwX0_see_3 ++ dktX0_see_4
def dkwX0_see_2 : List UInt8 := [79, 42, 180, 0, 49, 42, 180, 0, 149, 28, 79, 42, 180, 0, 52, 42, 180, 0, 149, 29, 79, 42]
abbrev dktX0_see_2 : List UInt8 := dkwX0_see_2 ++ dktX0_see_3
def dkwX0_see_1 : List UInt8 := [16, 155, 172, 42, 180, 0, 149, 16, 6, 160, 0, 6, 16, 152, 172, 42, 180, 0, 46, 42, 180, 0, 149, 27]
abbrev dktX0_see_1 : List UInt8 := dkwX0_see_1 ++ dktX0_see_2
def dkwX0_see_0 : List UInt8 := [42, 27, 28, 29, 182, 0, 228, 153, 0, 17, 28, 29, 159, 0, 12, 42, 21, 4, 182, 0, 194, 154, 0, 6]
abbrev dktX0_see_0 : List UInt8 := dkwX0_see_0 ++ dktX0_see_1
theorem dksX0_see_0 : cX0_see.data.toList.drop 0 = dktX0_see_0 := by decide +kernel
theorem dksX0_see_1 : cX0_see.data.toList.drop 24 = dktX0_see_1 := dk_seg dksX0_see_0 24 rfl rfl
theorem dksX0_see_2 : cX0_see.data.toList.drop 48 = dktX0_see_2 := dk_seg dksX0_see_1 24 rfl rfl
theorem dksX0_see_3 : cX0_see.data.toList.drop 70 = dktX0_see_3 := dk_seg dksX0_see_2 22 rfl rfl
theorem dksX0_see_4 : cX0_see.data.toList.drop 94 = dktX0_see_4 := dk_seg dksX0_see_3 24 rfl rfl
theorem dX0_see_0 : decode cX0_see 0 = .ok (.aload_n 0, 1) := dk_42 (dk_at dksX0_see_0 0 rfl rfl)
theorem dX0_see_1 : decode cX0_see 1 = .ok (.iload_n 1, 1) := dk_27 (dk_at dksX0_see_0 1 rfl rfl)
theorem dX0_see_2 : decode cX0_see 2 = .ok (.iload_n 2, 1) := dk_28 (dk_at dksX0_see_0 2 rfl rfl)
theorem dX0_see_3 : decode cX0_see 3 = .ok (.iload_n 3, 1) := dk_29 (dk_at dksX0_see_0 3 rfl rfl)
theorem dX0_see_4 : decode cX0_see 4 = .ok (.invokevirtual 228, 3) := dk_182 0 228 (dk_at dksX0_see_0 4 rfl rfl)
theorem dX0_see_7 : decode cX0_see 7 = .ok (.ifCond .eq 17, 3) := dk_153 0 17 (dk_at dksX0_see_0 7 rfl rfl)
theorem dX0_see_10 : decode cX0_see 10 = .ok (.iload_n 2, 1) := dk_28 (dk_at dksX0_see_0 10 rfl rfl)
theorem dX0_see_11 : decode cX0_see 11 = .ok (.iload_n 3, 1) := dk_29 (dk_at dksX0_see_0 11 rfl rfl)
theorem dX0_see_12 : decode cX0_see 12 = .ok (.if_icmp .eq 12, 3) := dk_159 0 12 (dk_at dksX0_see_0 12 rfl rfl)
theorem dX0_see_15 : decode cX0_see 15 = .ok (.aload_n 0, 1) := dk_42 (dk_at dksX0_see_0 15 rfl rfl)
theorem dX0_see_16 : decode cX0_see 16 = .ok (.iload 4, 2) := dk_21 4 (dk_at dksX0_see_0 16 rfl rfl)
theorem dX0_see_18 : decode cX0_see 18 = .ok (.invokevirtual 194, 3) := dk_182 0 194 (dk_at dksX0_see_0 18 rfl rfl)
theorem dX0_see_21 : decode cX0_see 21 = .ok (.ifCond .ne 6, 3) := dk_154 0 6 (dk_at dksX0_see_0 21 rfl rfl)
theorem dX0_see_24 : decode cX0_see 24 = .ok (.bipush (-101), 2) := dk_16 155 (dk_at dksX0_see_1 0 rfl rfl)
theorem dX0_see_26 : decode cX0_see 26 = .ok (.ireturn, 1) := dk_172 (dk_at dksX0_see_1 2 rfl rfl)
theorem dX0_see_27 : decode cX0_see 27 = .ok (.aload_n 0, 1) := dk_42 (dk_at dksX0_see_1 3 rfl rfl)
theorem dX0_see_28 : decode cX0_see 28 = .ok (.getfield 149, 3) := dk_180 0 149 (dk_at dksX0_see_1 4 rfl rfl)
theorem dX0_see_31 : decode cX0_see 31 = .ok (.bipush 6, 2) := dk_16 6 (dk_at dksX0_see_1 7 rfl rfl)
theorem dX0_see_33 : decode cX0_see 33 = .ok (.if_icmp .ne 6, 3) := dk_160 0 6 (dk_at dksX0_see_1 9 rfl rfl)
theorem dX0_see_36 : decode cX0_see 36 = .ok (.bipush (-104), 2) := dk_16 152 (dk_at dksX0_see_1 12 rfl rfl)
theorem dX0_see_38 : decode cX0_see 38 = .ok (.ireturn, 1) := dk_172 (dk_at dksX0_see_1 14 rfl rfl)
theorem dX0_see_39 : decode cX0_see 39 = .ok (.aload_n 0, 1) := dk_42 (dk_at dksX0_see_1 15 rfl rfl)
theorem dX0_see_40 : decode cX0_see 40 = .ok (.getfield 46, 3) := dk_180 0 46 (dk_at dksX0_see_1 16 rfl rfl)
theorem dX0_see_43 : decode cX0_see 43 = .ok (.aload_n 0, 1) := dk_42 (dk_at dksX0_see_1 19 rfl rfl)
theorem dX0_see_44 : decode cX0_see 44 = .ok (.getfield 149, 3) := dk_180 0 149 (dk_at dksX0_see_1 20 rfl rfl)
theorem dX0_see_47 : decode cX0_see 47 = .ok (.iload_n 1, 1) := dk_27 (dk_at dksX0_see_1 23 rfl rfl)
theorem dX0_see_48 : decode cX0_see 48 = .ok (.iastore, 1) := dk_79 (dk_at dksX0_see_2 0 rfl rfl)
theorem dX0_see_49 : decode cX0_see 49 = .ok (.aload_n 0, 1) := dk_42 (dk_at dksX0_see_2 1 rfl rfl)
theorem dX0_see_50 : decode cX0_see 50 = .ok (.getfield 49, 3) := dk_180 0 49 (dk_at dksX0_see_2 2 rfl rfl)
theorem dX0_see_53 : decode cX0_see 53 = .ok (.aload_n 0, 1) := dk_42 (dk_at dksX0_see_2 5 rfl rfl)
theorem dX0_see_54 : decode cX0_see 54 = .ok (.getfield 149, 3) := dk_180 0 149 (dk_at dksX0_see_2 6 rfl rfl)
theorem dX0_see_57 : decode cX0_see 57 = .ok (.iload_n 2, 1) := dk_28 (dk_at dksX0_see_2 9 rfl rfl)
theorem dX0_see_58 : decode cX0_see 58 = .ok (.iastore, 1) := dk_79 (dk_at dksX0_see_2 10 rfl rfl)
theorem dX0_see_59 : decode cX0_see 59 = .ok (.aload_n 0, 1) := dk_42 (dk_at dksX0_see_2 11 rfl rfl)
theorem dX0_see_60 : decode cX0_see 60 = .ok (.getfield 52, 3) := dk_180 0 52 (dk_at dksX0_see_2 12 rfl rfl)
theorem dX0_see_63 : decode cX0_see 63 = .ok (.aload_n 0, 1) := dk_42 (dk_at dksX0_see_2 15 rfl rfl)
theorem dX0_see_64 : decode cX0_see 64 = .ok (.getfield 149, 3) := dk_180 0 149 (dk_at dksX0_see_2 16 rfl rfl)
theorem dX0_see_67 : decode cX0_see 67 = .ok (.iload_n 3, 1) := dk_29 (dk_at dksX0_see_2 19 rfl rfl)
theorem dX0_see_68 : decode cX0_see 68 = .ok (.iastore, 1) := dk_79 (dk_at dksX0_see_2 20 rfl rfl)
theorem dX0_see_69 : decode cX0_see 69 = .ok (.aload_n 0, 1) := dk_42 (dk_at dksX0_see_2 21 rfl rfl)
theorem dX0_see_70 : decode cX0_see 70 = .ok (.getfield 55, 3) := dk_180 0 55 (dk_at dksX0_see_3 0 rfl rfl)
theorem dX0_see_73 : decode cX0_see 73 = .ok (.aload_n 0, 1) := dk_42 (dk_at dksX0_see_3 3 rfl rfl)
theorem dX0_see_74 : decode cX0_see 74 = .ok (.getfield 149, 3) := dk_180 0 149 (dk_at dksX0_see_3 4 rfl rfl)
theorem dX0_see_77 : decode cX0_see 77 = .ok (.iload 4, 2) := dk_21 4 (dk_at dksX0_see_3 7 rfl rfl)
theorem dX0_see_79 : decode cX0_see 79 = .ok (.iastore, 1) := dk_79 (dk_at dksX0_see_3 9 rfl rfl)
theorem dX0_see_80 : decode cX0_see 80 = .ok (.aload_n 0, 1) := dk_42 (dk_at dksX0_see_3 10 rfl rfl)
theorem dX0_see_81 : decode cX0_see 81 = .ok (.dup, 1) := dk_89 (dk_at dksX0_see_3 11 rfl rfl)
theorem dX0_see_82 : decode cX0_see 82 = .ok (.getfield 149, 3) := dk_180 0 149 (dk_at dksX0_see_3 12 rfl rfl)
theorem dX0_see_85 : decode cX0_see 85 = .ok (.iconst 1, 1) := dk_4 (dk_at dksX0_see_3 15 rfl rfl)
theorem dX0_see_86 : decode cX0_see 86 = .ok (.iadd, 1) := dk_96 (dk_at dksX0_see_3 16 rfl rfl)
theorem dX0_see_87 : decode cX0_see 87 = .ok (.putfield 149, 3) := dk_181 0 149 (dk_at dksX0_see_3 17 rfl rfl)
theorem dX0_see_90 : decode cX0_see 90 = .ok (.aload_n 0, 1) := dk_42 (dk_at dksX0_see_3 20 rfl rfl)
theorem dX0_see_91 : decode cX0_see 91 = .ok (.getfield 149, 3) := dk_180 0 149 (dk_at dksX0_see_3 21 rfl rfl)
theorem dX0_see_94 : decode cX0_see 94 = .ok (.ireturn, 1) := dk_172 (dk_at dksX0_see_4 0 rfl rfl)
abbrev cX0_forget : ByteArray := prog_1_method_52_code
def yX0_forget : MethodName := ⟨RX0, "forget", "()I"⟩
def dkwX0_forget_0 : List UInt8 := [42, 180, 0, 149, 60, 42, 3, 181, 0, 149, 27, 172]
abbrev dktX0_forget_0 : List UInt8 := dkwX0_forget_0 ++ []
theorem dksX0_forget_0 : cX0_forget.data.toList.drop 0 = dktX0_forget_0 := by decide +kernel
theorem dX0_forget_0 : decode cX0_forget 0 = .ok (.aload_n 0, 1) := dk_42 (dk_at dksX0_forget_0 0 rfl rfl)
theorem dX0_forget_1 : decode cX0_forget 1 = .ok (.getfield 149, 3) := dk_180 0 149 (dk_at dksX0_forget_0 1 rfl rfl)
theorem dX0_forget_4 : decode cX0_forget 4 = .ok (.istore_n 1, 1) := dk_60 (dk_at dksX0_forget_0 4 rfl rfl)
theorem dX0_forget_5 : decode cX0_forget 5 = .ok (.aload_n 0, 1) := dk_42 (dk_at dksX0_forget_0 5 rfl rfl)
theorem dX0_forget_6 : decode cX0_forget 6 = .ok (.iconst 0, 1) := dk_3 (dk_at dksX0_forget_0 6 rfl rfl)
theorem dX0_forget_7 : decode cX0_forget 7 = .ok (.putfield 149, 3) := dk_181 0 149 (dk_at dksX0_forget_0 7 rfl rfl)
theorem dX0_forget_10 : decode cX0_forget 10 = .ok (.iload_n 1, 1) := dk_27 (dk_at dksX0_forget_0 10 rfl rfl)
theorem dX0_forget_11 : decode cX0_forget 11 = .ok (.ireturn, 1) := dk_172 (dk_at dksX0_forget_0 11 rfl rfl)
abbrev cX0_watch : ByteArray := prog_1_method_57_code
def yX0_watch : MethodName := ⟨RX0, "watch", "(II)I"⟩
def dkwX0_watch_1 : List UInt8 := [16, 155, 172]
abbrev dktX0_watch_1 : List UInt8 := dkwX0_watch_1 ++ []
def dkwX0_watch_0 : List UInt8 := [42, 27, 182, 0, 100, 153, 0, 19, 28, 184, 0, 104, 153, 0, 12, 42, 27, 28, 182, 1, 63, 167, 0, 5]
abbrev dktX0_watch_0 : List UInt8 := dkwX0_watch_0 ++ dktX0_watch_1
theorem dksX0_watch_0 : cX0_watch.data.toList.drop 0 = dktX0_watch_0 := by decide +kernel
theorem dksX0_watch_1 : cX0_watch.data.toList.drop 24 = dktX0_watch_1 := dk_seg dksX0_watch_0 24 rfl rfl
theorem dX0_watch_0 : decode cX0_watch 0 = .ok (.aload_n 0, 1) := dk_42 (dk_at dksX0_watch_0 0 rfl rfl)
theorem dX0_watch_1 : decode cX0_watch 1 = .ok (.iload_n 1, 1) := dk_27 (dk_at dksX0_watch_0 1 rfl rfl)
theorem dX0_watch_2 : decode cX0_watch 2 = .ok (.invokevirtual 100, 3) := dk_182 0 100 (dk_at dksX0_watch_0 2 rfl rfl)
theorem dX0_watch_5 : decode cX0_watch 5 = .ok (.ifCond .eq 19, 3) := dk_153 0 19 (dk_at dksX0_watch_0 5 rfl rfl)
theorem dX0_watch_8 : decode cX0_watch 8 = .ok (.iload_n 2, 1) := dk_28 (dk_at dksX0_watch_0 8 rfl rfl)
theorem dX0_watch_9 : decode cX0_watch 9 = .ok (.invokestatic 104, 3) := dk_184 0 104 (dk_at dksX0_watch_0 9 rfl rfl)
theorem dX0_watch_12 : decode cX0_watch 12 = .ok (.ifCond .eq 12, 3) := dk_153 0 12 (dk_at dksX0_watch_0 12 rfl rfl)
theorem dX0_watch_15 : decode cX0_watch 15 = .ok (.aload_n 0, 1) := dk_42 (dk_at dksX0_watch_0 15 rfl rfl)
theorem dX0_watch_16 : decode cX0_watch 16 = .ok (.iload_n 1, 1) := dk_27 (dk_at dksX0_watch_0 16 rfl rfl)
theorem dX0_watch_17 : decode cX0_watch 17 = .ok (.iload_n 2, 1) := dk_28 (dk_at dksX0_watch_0 17 rfl rfl)
theorem dX0_watch_18 : decode cX0_watch 18 = .ok (.invokevirtual 319, 3) := dk_182 1 63 (dk_at dksX0_watch_0 18 rfl rfl)
theorem dX0_watch_21 : decode cX0_watch 21 = .ok (.goto 5, 3) := dk_167 0 5 (dk_at dksX0_watch_0 21 rfl rfl)
theorem dX0_watch_24 : decode cX0_watch 24 = .ok (.bipush (-101), 2) := dk_16 155 (dk_at dksX0_watch_1 0 rfl rfl)
theorem dX0_watch_26 : decode cX0_watch 26 = .ok (.ireturn, 1) := dk_172 (dk_at dksX0_watch_1 2 rfl rfl)
abbrev cX0_watchFrom : ByteArray := prog_1_method_56_code
def yX0_watchFrom : MethodName := ⟨RX0, "watchFrom", "(II)I"⟩
def dkwX0_watchFrom_3 : List UInt8 := [21, 7, 184, 0, 235, 54, 5, 132, 6, 1, 167, 255, 199, 21, 4, 172]
abbrev dktX0_watchFrom_3 : List UInt8 := dkwX0_watchFrom_3 ++ []
def dkwX0_watchFrom_2 : List UInt8 := [182, 1, 60, 54, 7, 21, 7, 21, 5, 162, 0, 8, 21, 6, 167, 0, 5, 21, 4, 54, 4, 21, 5]
abbrev dktX0_watchFrom_2 : List UInt8 := dkwX0_watchFrom_2 ++ dktX0_watchFrom_3
def dkwX0_watchFrom_1 : List UInt8 := [21, 6, 16, 8, 162, 0, 56, 21, 6, 28, 160, 0, 8, 18, 240, 167, 0, 12, 42, 27, 29, 28, 21, 6]
abbrev dktX0_watchFrom_1 : List UInt8 := dkwX0_watchFrom_1 ++ dktX0_watchFrom_2
def dkwX0_watchFrom_0 : List UInt8 := [42, 27, 182, 0, 158, 62, 2, 54, 4, 29, 154, 0, 7, 3, 167, 0, 5, 18, 240, 54, 5, 3, 54, 6]
abbrev dktX0_watchFrom_0 : List UInt8 := dkwX0_watchFrom_0 ++ dktX0_watchFrom_1
theorem dksX0_watchFrom_0 : cX0_watchFrom.data.toList.drop 0 = dktX0_watchFrom_0 := by decide +kernel
theorem dksX0_watchFrom_1 : cX0_watchFrom.data.toList.drop 24 = dktX0_watchFrom_1 := dk_seg dksX0_watchFrom_0 24 rfl rfl
theorem dksX0_watchFrom_2 : cX0_watchFrom.data.toList.drop 48 = dktX0_watchFrom_2 := dk_seg dksX0_watchFrom_1 24 rfl rfl
theorem dksX0_watchFrom_3 : cX0_watchFrom.data.toList.drop 71 = dktX0_watchFrom_3 := dk_seg dksX0_watchFrom_2 23 rfl rfl
theorem dX0_watchFrom_0 : decode cX0_watchFrom 0 = .ok (.aload_n 0, 1) := dk_42 (dk_at dksX0_watchFrom_0 0 rfl rfl)
theorem dX0_watchFrom_1 : decode cX0_watchFrom 1 = .ok (.iload_n 1, 1) := dk_27 (dk_at dksX0_watchFrom_0 1 rfl rfl)
theorem dX0_watchFrom_2 : decode cX0_watchFrom 2 = .ok (.invokevirtual 158, 3) := dk_182 0 158 (dk_at dksX0_watchFrom_0 2 rfl rfl)
theorem dX0_watchFrom_5 : decode cX0_watchFrom 5 = .ok (.istore_n 3, 1) := dk_62 (dk_at dksX0_watchFrom_0 5 rfl rfl)
theorem dX0_watchFrom_6 : decode cX0_watchFrom 6 = .ok (.iconst (-1), 1) := dk_2 (dk_at dksX0_watchFrom_0 6 rfl rfl)
theorem dX0_watchFrom_7 : decode cX0_watchFrom 7 = .ok (.istore 4, 2) := dk_54 4 (dk_at dksX0_watchFrom_0 7 rfl rfl)
theorem dX0_watchFrom_9 : decode cX0_watchFrom 9 = .ok (.iload_n 3, 1) := dk_29 (dk_at dksX0_watchFrom_0 9 rfl rfl)
theorem dX0_watchFrom_10 : decode cX0_watchFrom 10 = .ok (.ifCond .ne 7, 3) := dk_154 0 7 (dk_at dksX0_watchFrom_0 10 rfl rfl)
theorem dX0_watchFrom_13 : decode cX0_watchFrom 13 = .ok (.iconst 0, 1) := dk_3 (dk_at dksX0_watchFrom_0 13 rfl rfl)
theorem dX0_watchFrom_14 : decode cX0_watchFrom 14 = .ok (.goto 5, 3) := dk_167 0 5 (dk_at dksX0_watchFrom_0 14 rfl rfl)
theorem dX0_watchFrom_17 : decode cX0_watchFrom 17 = .ok (.ldc 240, 2) := dk_18 240 (dk_at dksX0_watchFrom_0 17 rfl rfl)
theorem dX0_watchFrom_19 : decode cX0_watchFrom 19 = .ok (.istore 5, 2) := dk_54 5 (dk_at dksX0_watchFrom_0 19 rfl rfl)
theorem dX0_watchFrom_21 : decode cX0_watchFrom 21 = .ok (.iconst 0, 1) := dk_3 (dk_at dksX0_watchFrom_0 21 rfl rfl)
theorem dX0_watchFrom_22 : decode cX0_watchFrom 22 = .ok (.istore 6, 2) := dk_54 6 (dk_at dksX0_watchFrom_0 22 rfl rfl)
theorem dX0_watchFrom_24 : decode cX0_watchFrom 24 = .ok (.iload 6, 2) := dk_21 6 (dk_at dksX0_watchFrom_1 0 rfl rfl)
theorem dX0_watchFrom_26 : decode cX0_watchFrom 26 = .ok (.bipush 8, 2) := dk_16 8 (dk_at dksX0_watchFrom_1 2 rfl rfl)
theorem dX0_watchFrom_28 : decode cX0_watchFrom 28 = .ok (.if_icmp .ge 56, 3) := dk_162 0 56 (dk_at dksX0_watchFrom_1 4 rfl rfl)
theorem dX0_watchFrom_31 : decode cX0_watchFrom 31 = .ok (.iload 6, 2) := dk_21 6 (dk_at dksX0_watchFrom_1 7 rfl rfl)
theorem dX0_watchFrom_33 : decode cX0_watchFrom 33 = .ok (.iload_n 2, 1) := dk_28 (dk_at dksX0_watchFrom_1 9 rfl rfl)
theorem dX0_watchFrom_34 : decode cX0_watchFrom 34 = .ok (.if_icmp .ne 8, 3) := dk_160 0 8 (dk_at dksX0_watchFrom_1 10 rfl rfl)
theorem dX0_watchFrom_37 : decode cX0_watchFrom 37 = .ok (.ldc 240, 2) := dk_18 240 (dk_at dksX0_watchFrom_1 13 rfl rfl)
theorem dX0_watchFrom_39 : decode cX0_watchFrom 39 = .ok (.goto 12, 3) := dk_167 0 12 (dk_at dksX0_watchFrom_1 15 rfl rfl)
theorem dX0_watchFrom_42 : decode cX0_watchFrom 42 = .ok (.aload_n 0, 1) := dk_42 (dk_at dksX0_watchFrom_1 18 rfl rfl)
theorem dX0_watchFrom_43 : decode cX0_watchFrom 43 = .ok (.iload_n 1, 1) := dk_27 (dk_at dksX0_watchFrom_1 19 rfl rfl)
theorem dX0_watchFrom_44 : decode cX0_watchFrom 44 = .ok (.iload_n 3, 1) := dk_29 (dk_at dksX0_watchFrom_1 20 rfl rfl)
theorem dX0_watchFrom_45 : decode cX0_watchFrom 45 = .ok (.iload_n 2, 1) := dk_28 (dk_at dksX0_watchFrom_1 21 rfl rfl)
theorem dX0_watchFrom_46 : decode cX0_watchFrom 46 = .ok (.iload 6, 2) := dk_21 6 (dk_at dksX0_watchFrom_1 22 rfl rfl)
theorem dX0_watchFrom_48 : decode cX0_watchFrom 48 = .ok (.invokevirtual 316, 3) := dk_182 1 60 (dk_at dksX0_watchFrom_2 0 rfl rfl)
theorem dX0_watchFrom_51 : decode cX0_watchFrom 51 = .ok (.istore 7, 2) := dk_54 7 (dk_at dksX0_watchFrom_2 3 rfl rfl)
theorem dX0_watchFrom_53 : decode cX0_watchFrom 53 = .ok (.iload 7, 2) := dk_21 7 (dk_at dksX0_watchFrom_2 5 rfl rfl)
theorem dX0_watchFrom_55 : decode cX0_watchFrom 55 = .ok (.iload 5, 2) := dk_21 5 (dk_at dksX0_watchFrom_2 7 rfl rfl)
theorem dX0_watchFrom_57 : decode cX0_watchFrom 57 = .ok (.if_icmp .ge 8, 3) := dk_162 0 8 (dk_at dksX0_watchFrom_2 9 rfl rfl)
theorem dX0_watchFrom_60 : decode cX0_watchFrom 60 = .ok (.iload 6, 2) := dk_21 6 (dk_at dksX0_watchFrom_2 12 rfl rfl)
theorem dX0_watchFrom_62 : decode cX0_watchFrom 62 = .ok (.goto 5, 3) := dk_167 0 5 (dk_at dksX0_watchFrom_2 14 rfl rfl)
theorem dX0_watchFrom_65 : decode cX0_watchFrom 65 = .ok (.iload 4, 2) := dk_21 4 (dk_at dksX0_watchFrom_2 17 rfl rfl)
theorem dX0_watchFrom_67 : decode cX0_watchFrom 67 = .ok (.istore 4, 2) := dk_54 4 (dk_at dksX0_watchFrom_2 19 rfl rfl)
theorem dX0_watchFrom_69 : decode cX0_watchFrom 69 = .ok (.iload 5, 2) := dk_21 5 (dk_at dksX0_watchFrom_2 21 rfl rfl)
theorem dX0_watchFrom_71 : decode cX0_watchFrom 71 = .ok (.iload 7, 2) := dk_21 7 (dk_at dksX0_watchFrom_3 0 rfl rfl)
theorem dX0_watchFrom_73 : decode cX0_watchFrom 73 = .ok (.invokestatic 235, 3) := dk_184 0 235 (dk_at dksX0_watchFrom_3 2 rfl rfl)
theorem dX0_watchFrom_76 : decode cX0_watchFrom 76 = .ok (.istore 5, 2) := dk_54 5 (dk_at dksX0_watchFrom_3 5 rfl rfl)
theorem dX0_watchFrom_78 : decode cX0_watchFrom 78 = .ok (.iinc 6 1, 3) := dk_132 6 1 (dk_at dksX0_watchFrom_3 7 rfl rfl)
theorem dX0_watchFrom_81 : decode cX0_watchFrom 81 = .ok (.goto (-57), 3) := dk_167 255 199 (dk_at dksX0_watchFrom_3 10 rfl rfl)
theorem dX0_watchFrom_84 : decode cX0_watchFrom 84 = .ok (.iload 4, 2) := dk_21 4 (dk_at dksX0_watchFrom_3 13 rfl rfl)
theorem dX0_watchFrom_86 : decode cX0_watchFrom 86 = .ok (.ireturn, 1) := dk_172 (dk_at dksX0_watchFrom_3 15 rfl rfl)
abbrev cX0_worstTo : ByteArray := prog_1_method_55_code
def yX0_worstTo : MethodName := ⟨RX0, "worstTo", "(IIII)I"⟩
def dkwX0_worstTo_5 : List UInt8 := [54, 5, 132, 6, 1, 167, 255, 173, 21, 5, 172]
abbrev dktX0_worstTo_5 : List UInt8 := dkwX0_worstTo_5 ++ []
def dkwX0_worstTo_4 : List UInt8 := [160, 0, 7, 4, 167, 0, 4, 3, 96, 54, 7, 132, 8, 1, 167, 255, 201, 21, 5, 21, 7, 184, 1, 57]
abbrev dktX0_worstTo_4 : List UInt8 := dkwX0_worstTo_4 ++ dktX0_worstTo_5
def dkwX0_worstTo_3 : List UInt8 := [21, 8, 184, 0, 175, 153, 0, 24, 42, 180, 0, 58, 21, 6, 46, 42, 180, 0, 58, 21, 8, 46]
abbrev dktX0_worstTo_3 : List UInt8 := dkwX0_worstTo_3 ++ dktX0_worstTo_4
def dkwX0_worstTo_2 : List UInt8 := [54, 7, 3, 54, 8, 21, 8, 16, 9, 163, 0, 54, 21, 7, 28, 21, 6, 184, 0, 175, 153, 0, 33, 28]
abbrev dktX0_worstTo_2 : List UInt8 := dkwX0_worstTo_2 ++ dktX0_worstTo_3
def dkwX0_worstTo_1 : List UInt8 := [182, 1, 54, 79, 132, 5, 1, 167, 255, 229, 3, 54, 5, 3, 54, 6, 21, 6, 16, 9, 163, 0, 82, 3]
abbrev dktX0_worstTo_1 : List UInt8 := dkwX0_worstTo_1 ++ dktX0_worstTo_2
def dkwX0_worstTo_0 : List UInt8 := [3, 54, 5, 21, 5, 16, 9, 163, 0, 26, 42, 180, 0, 58, 21, 5, 42, 27, 21, 5, 29, 21, 4]
abbrev dktX0_worstTo_0 : List UInt8 := dkwX0_worstTo_0 ++ dktX0_worstTo_1
theorem dksX0_worstTo_0 : cX0_worstTo.data.toList.drop 0 = dktX0_worstTo_0 := by decide +kernel
theorem dksX0_worstTo_1 : cX0_worstTo.data.toList.drop 23 = dktX0_worstTo_1 := dk_seg dksX0_worstTo_0 23 rfl rfl
theorem dksX0_worstTo_2 : cX0_worstTo.data.toList.drop 47 = dktX0_worstTo_2 := dk_seg dksX0_worstTo_1 24 rfl rfl
theorem dksX0_worstTo_3 : cX0_worstTo.data.toList.drop 71 = dktX0_worstTo_3 := dk_seg dksX0_worstTo_2 24 rfl rfl
theorem dksX0_worstTo_4 : cX0_worstTo.data.toList.drop 93 = dktX0_worstTo_4 := dk_seg dksX0_worstTo_3 22 rfl rfl
theorem dksX0_worstTo_5 : cX0_worstTo.data.toList.drop 117 = dktX0_worstTo_5 := dk_seg dksX0_worstTo_4 24 rfl rfl
theorem dX0_worstTo_0 : decode cX0_worstTo 0 = .ok (.iconst 0, 1) := dk_3 (dk_at dksX0_worstTo_0 0 rfl rfl)
theorem dX0_worstTo_1 : decode cX0_worstTo 1 = .ok (.istore 5, 2) := dk_54 5 (dk_at dksX0_worstTo_0 1 rfl rfl)
theorem dX0_worstTo_3 : decode cX0_worstTo 3 = .ok (.iload 5, 2) := dk_21 5 (dk_at dksX0_worstTo_0 3 rfl rfl)
theorem dX0_worstTo_5 : decode cX0_worstTo 5 = .ok (.bipush 9, 2) := dk_16 9 (dk_at dksX0_worstTo_0 5 rfl rfl)
theorem dX0_worstTo_7 : decode cX0_worstTo 7 = .ok (.if_icmp .gt 26, 3) := dk_163 0 26 (dk_at dksX0_worstTo_0 7 rfl rfl)
theorem dX0_worstTo_10 : decode cX0_worstTo 10 = .ok (.aload_n 0, 1) := dk_42 (dk_at dksX0_worstTo_0 10 rfl rfl)
theorem dX0_worstTo_11 : decode cX0_worstTo 11 = .ok (.getfield 58, 3) := dk_180 0 58 (dk_at dksX0_worstTo_0 11 rfl rfl)
theorem dX0_worstTo_14 : decode cX0_worstTo 14 = .ok (.iload 5, 2) := dk_21 5 (dk_at dksX0_worstTo_0 14 rfl rfl)
theorem dX0_worstTo_16 : decode cX0_worstTo 16 = .ok (.aload_n 0, 1) := dk_42 (dk_at dksX0_worstTo_0 16 rfl rfl)
theorem dX0_worstTo_17 : decode cX0_worstTo 17 = .ok (.iload_n 1, 1) := dk_27 (dk_at dksX0_worstTo_0 17 rfl rfl)
theorem dX0_worstTo_18 : decode cX0_worstTo 18 = .ok (.iload 5, 2) := dk_21 5 (dk_at dksX0_worstTo_0 18 rfl rfl)
theorem dX0_worstTo_20 : decode cX0_worstTo 20 = .ok (.iload_n 3, 1) := dk_29 (dk_at dksX0_worstTo_0 20 rfl rfl)
theorem dX0_worstTo_21 : decode cX0_worstTo 21 = .ok (.iload 4, 2) := dk_21 4 (dk_at dksX0_worstTo_0 21 rfl rfl)
theorem dX0_worstTo_23 : decode cX0_worstTo 23 = .ok (.invokevirtual 310, 3) := dk_182 1 54 (dk_at dksX0_worstTo_1 0 rfl rfl)
theorem dX0_worstTo_26 : decode cX0_worstTo 26 = .ok (.iastore, 1) := dk_79 (dk_at dksX0_worstTo_1 3 rfl rfl)
theorem dX0_worstTo_27 : decode cX0_worstTo 27 = .ok (.iinc 5 1, 3) := dk_132 5 1 (dk_at dksX0_worstTo_1 4 rfl rfl)
theorem dX0_worstTo_30 : decode cX0_worstTo 30 = .ok (.goto (-27), 3) := dk_167 255 229 (dk_at dksX0_worstTo_1 7 rfl rfl)
theorem dX0_worstTo_33 : decode cX0_worstTo 33 = .ok (.iconst 0, 1) := dk_3 (dk_at dksX0_worstTo_1 10 rfl rfl)
theorem dX0_worstTo_34 : decode cX0_worstTo 34 = .ok (.istore 5, 2) := dk_54 5 (dk_at dksX0_worstTo_1 11 rfl rfl)
theorem dX0_worstTo_36 : decode cX0_worstTo 36 = .ok (.iconst 0, 1) := dk_3 (dk_at dksX0_worstTo_1 13 rfl rfl)
theorem dX0_worstTo_37 : decode cX0_worstTo 37 = .ok (.istore 6, 2) := dk_54 6 (dk_at dksX0_worstTo_1 14 rfl rfl)
theorem dX0_worstTo_39 : decode cX0_worstTo 39 = .ok (.iload 6, 2) := dk_21 6 (dk_at dksX0_worstTo_1 16 rfl rfl)
theorem dX0_worstTo_41 : decode cX0_worstTo 41 = .ok (.bipush 9, 2) := dk_16 9 (dk_at dksX0_worstTo_1 18 rfl rfl)
theorem dX0_worstTo_43 : decode cX0_worstTo 43 = .ok (.if_icmp .gt 82, 3) := dk_163 0 82 (dk_at dksX0_worstTo_1 20 rfl rfl)
theorem dX0_worstTo_46 : decode cX0_worstTo 46 = .ok (.iconst 0, 1) := dk_3 (dk_at dksX0_worstTo_1 23 rfl rfl)
theorem dX0_worstTo_47 : decode cX0_worstTo 47 = .ok (.istore 7, 2) := dk_54 7 (dk_at dksX0_worstTo_2 0 rfl rfl)
theorem dX0_worstTo_49 : decode cX0_worstTo 49 = .ok (.iconst 0, 1) := dk_3 (dk_at dksX0_worstTo_2 2 rfl rfl)
theorem dX0_worstTo_50 : decode cX0_worstTo 50 = .ok (.istore 8, 2) := dk_54 8 (dk_at dksX0_worstTo_2 3 rfl rfl)
theorem dX0_worstTo_52 : decode cX0_worstTo 52 = .ok (.iload 8, 2) := dk_21 8 (dk_at dksX0_worstTo_2 5 rfl rfl)
theorem dX0_worstTo_54 : decode cX0_worstTo 54 = .ok (.bipush 9, 2) := dk_16 9 (dk_at dksX0_worstTo_2 7 rfl rfl)
theorem dX0_worstTo_56 : decode cX0_worstTo 56 = .ok (.if_icmp .gt 54, 3) := dk_163 0 54 (dk_at dksX0_worstTo_2 9 rfl rfl)
theorem dX0_worstTo_59 : decode cX0_worstTo 59 = .ok (.iload 7, 2) := dk_21 7 (dk_at dksX0_worstTo_2 12 rfl rfl)
theorem dX0_worstTo_61 : decode cX0_worstTo 61 = .ok (.iload_n 2, 1) := dk_28 (dk_at dksX0_worstTo_2 14 rfl rfl)
theorem dX0_worstTo_62 : decode cX0_worstTo 62 = .ok (.iload 6, 2) := dk_21 6 (dk_at dksX0_worstTo_2 15 rfl rfl)
theorem dX0_worstTo_64 : decode cX0_worstTo 64 = .ok (.invokestatic 175, 3) := dk_184 0 175 (dk_at dksX0_worstTo_2 17 rfl rfl)
theorem dX0_worstTo_67 : decode cX0_worstTo 67 = .ok (.ifCond .eq 33, 3) := dk_153 0 33 (dk_at dksX0_worstTo_2 20 rfl rfl)
theorem dX0_worstTo_70 : decode cX0_worstTo 70 = .ok (.iload_n 2, 1) := dk_28 (dk_at dksX0_worstTo_2 23 rfl rfl)
theorem dX0_worstTo_71 : decode cX0_worstTo 71 = .ok (.iload 8, 2) := dk_21 8 (dk_at dksX0_worstTo_3 0 rfl rfl)
theorem dX0_worstTo_73 : decode cX0_worstTo 73 = .ok (.invokestatic 175, 3) := dk_184 0 175 (dk_at dksX0_worstTo_3 2 rfl rfl)
theorem dX0_worstTo_76 : decode cX0_worstTo 76 = .ok (.ifCond .eq 24, 3) := dk_153 0 24 (dk_at dksX0_worstTo_3 5 rfl rfl)
theorem dX0_worstTo_79 : decode cX0_worstTo 79 = .ok (.aload_n 0, 1) := dk_42 (dk_at dksX0_worstTo_3 8 rfl rfl)
theorem dX0_worstTo_80 : decode cX0_worstTo 80 = .ok (.getfield 58, 3) := dk_180 0 58 (dk_at dksX0_worstTo_3 9 rfl rfl)
theorem dX0_worstTo_83 : decode cX0_worstTo 83 = .ok (.iload 6, 2) := dk_21 6 (dk_at dksX0_worstTo_3 12 rfl rfl)
theorem dX0_worstTo_85 : decode cX0_worstTo 85 = .ok (.iaload, 1) := dk_46 (dk_at dksX0_worstTo_3 14 rfl rfl)
theorem dX0_worstTo_86 : decode cX0_worstTo 86 = .ok (.aload_n 0, 1) := dk_42 (dk_at dksX0_worstTo_3 15 rfl rfl)
theorem dX0_worstTo_87 : decode cX0_worstTo 87 = .ok (.getfield 58, 3) := dk_180 0 58 (dk_at dksX0_worstTo_3 16 rfl rfl)
theorem dX0_worstTo_90 : decode cX0_worstTo 90 = .ok (.iload 8, 2) := dk_21 8 (dk_at dksX0_worstTo_3 19 rfl rfl)
theorem dX0_worstTo_92 : decode cX0_worstTo 92 = .ok (.iaload, 1) := dk_46 (dk_at dksX0_worstTo_3 21 rfl rfl)
theorem dX0_worstTo_93 : decode cX0_worstTo 93 = .ok (.if_icmp .ne 7, 3) := dk_160 0 7 (dk_at dksX0_worstTo_4 0 rfl rfl)
theorem dX0_worstTo_96 : decode cX0_worstTo 96 = .ok (.iconst 1, 1) := dk_4 (dk_at dksX0_worstTo_4 3 rfl rfl)
theorem dX0_worstTo_97 : decode cX0_worstTo 97 = .ok (.goto 4, 3) := dk_167 0 4 (dk_at dksX0_worstTo_4 4 rfl rfl)
theorem dX0_worstTo_100 : decode cX0_worstTo 100 = .ok (.iconst 0, 1) := dk_3 (dk_at dksX0_worstTo_4 7 rfl rfl)
theorem dX0_worstTo_101 : decode cX0_worstTo 101 = .ok (.iadd, 1) := dk_96 (dk_at dksX0_worstTo_4 8 rfl rfl)
theorem dX0_worstTo_102 : decode cX0_worstTo 102 = .ok (.istore 7, 2) := dk_54 7 (dk_at dksX0_worstTo_4 9 rfl rfl)
theorem dX0_worstTo_104 : decode cX0_worstTo 104 = .ok (.iinc 8 1, 3) := dk_132 8 1 (dk_at dksX0_worstTo_4 11 rfl rfl)
theorem dX0_worstTo_107 : decode cX0_worstTo 107 = .ok (.goto (-55), 3) := dk_167 255 201 (dk_at dksX0_worstTo_4 14 rfl rfl)
theorem dX0_worstTo_110 : decode cX0_worstTo 110 = .ok (.iload 5, 2) := dk_21 5 (dk_at dksX0_worstTo_4 17 rfl rfl)
theorem dX0_worstTo_112 : decode cX0_worstTo 112 = .ok (.iload 7, 2) := dk_21 7 (dk_at dksX0_worstTo_4 19 rfl rfl)
theorem dX0_worstTo_114 : decode cX0_worstTo 114 = .ok (.invokestatic 313, 3) := dk_184 1 57 (dk_at dksX0_worstTo_4 21 rfl rfl)
theorem dX0_worstTo_117 : decode cX0_worstTo 117 = .ok (.istore 5, 2) := dk_54 5 (dk_at dksX0_worstTo_5 0 rfl rfl)
theorem dX0_worstTo_119 : decode cX0_worstTo 119 = .ok (.iinc 6 1, 3) := dk_132 6 1 (dk_at dksX0_worstTo_5 2 rfl rfl)
theorem dX0_worstTo_122 : decode cX0_worstTo 122 = .ok (.goto (-83), 3) := dk_167 255 173 (dk_at dksX0_worstTo_5 5 rfl rfl)
theorem dX0_worstTo_125 : decode cX0_worstTo 125 = .ok (.iload 5, 2) := dk_21 5 (dk_at dksX0_worstTo_5 8 rfl rfl)
theorem dX0_worstTo_127 : decode cX0_worstTo 127 = .ok (.ireturn, 1) := dk_172 (dk_at dksX0_worstTo_5 10 rfl rfl)
abbrev cX0_years : ByteArray := prog_1_method_60_code
def yX0_years : MethodName := ⟨RX0, "years", "(III)I"⟩
def dkwX0_years_1 : List UInt8 := [16, 154, 172, 42, 182, 0, 96, 153, 0, 13, 42, 27, 28, 29, 182, 1, 85, 167, 0, 5, 16, 153, 172]
abbrev dktX0_years_1 : List UInt8 := dkwX0_years_1 ++ []
def dkwX0_years_0 : List UInt8 := [27, 4, 16, 40, 184, 0, 3, 153, 0, 16, 28, 155, 0, 12, 29, 3, 5, 184, 0, 3, 154, 0, 6]
abbrev dktX0_years_0 : List UInt8 := dkwX0_years_0 ++ dktX0_years_1
theorem dksX0_years_0 : cX0_years.data.toList.drop 0 = dktX0_years_0 := by decide +kernel
theorem dksX0_years_1 : cX0_years.data.toList.drop 23 = dktX0_years_1 := dk_seg dksX0_years_0 23 rfl rfl
theorem dX0_years_0 : decode cX0_years 0 = .ok (.iload_n 1, 1) := dk_27 (dk_at dksX0_years_0 0 rfl rfl)
theorem dX0_years_1 : decode cX0_years 1 = .ok (.iconst 1, 1) := dk_4 (dk_at dksX0_years_0 1 rfl rfl)
theorem dX0_years_2 : decode cX0_years 2 = .ok (.bipush 40, 2) := dk_16 40 (dk_at dksX0_years_0 2 rfl rfl)
theorem dX0_years_4 : decode cX0_years 4 = .ok (.invokestatic 3, 3) := dk_184 0 3 (dk_at dksX0_years_0 4 rfl rfl)
theorem dX0_years_7 : decode cX0_years 7 = .ok (.ifCond .eq 16, 3) := dk_153 0 16 (dk_at dksX0_years_0 7 rfl rfl)
theorem dX0_years_10 : decode cX0_years 10 = .ok (.iload_n 2, 1) := dk_28 (dk_at dksX0_years_0 10 rfl rfl)
theorem dX0_years_11 : decode cX0_years 11 = .ok (.ifCond .lt 12, 3) := dk_155 0 12 (dk_at dksX0_years_0 11 rfl rfl)
theorem dX0_years_14 : decode cX0_years 14 = .ok (.iload_n 3, 1) := dk_29 (dk_at dksX0_years_0 14 rfl rfl)
theorem dX0_years_15 : decode cX0_years 15 = .ok (.iconst 0, 1) := dk_3 (dk_at dksX0_years_0 15 rfl rfl)
theorem dX0_years_16 : decode cX0_years 16 = .ok (.iconst 2, 1) := dk_5 (dk_at dksX0_years_0 16 rfl rfl)
theorem dX0_years_17 : decode cX0_years 17 = .ok (.invokestatic 3, 3) := dk_184 0 3 (dk_at dksX0_years_0 17 rfl rfl)
theorem dX0_years_20 : decode cX0_years 20 = .ok (.ifCond .ne 6, 3) := dk_154 0 6 (dk_at dksX0_years_0 20 rfl rfl)
theorem dX0_years_23 : decode cX0_years 23 = .ok (.bipush (-102), 2) := dk_16 154 (dk_at dksX0_years_1 0 rfl rfl)
theorem dX0_years_25 : decode cX0_years 25 = .ok (.ireturn, 1) := dk_172 (dk_at dksX0_years_1 2 rfl rfl)
theorem dX0_years_26 : decode cX0_years 26 = .ok (.aload_n 0, 1) := dk_42 (dk_at dksX0_years_1 3 rfl rfl)
theorem dX0_years_27 : decode cX0_years 27 = .ok (.invokevirtual 96, 3) := dk_182 0 96 (dk_at dksX0_years_1 4 rfl rfl)
theorem dX0_years_30 : decode cX0_years 30 = .ok (.ifCond .eq 13, 3) := dk_153 0 13 (dk_at dksX0_years_1 7 rfl rfl)
theorem dX0_years_33 : decode cX0_years 33 = .ok (.aload_n 0, 1) := dk_42 (dk_at dksX0_years_1 10 rfl rfl)
theorem dX0_years_34 : decode cX0_years 34 = .ok (.iload_n 1, 1) := dk_27 (dk_at dksX0_years_1 11 rfl rfl)
theorem dX0_years_35 : decode cX0_years 35 = .ok (.iload_n 2, 1) := dk_28 (dk_at dksX0_years_1 12 rfl rfl)
theorem dX0_years_36 : decode cX0_years 36 = .ok (.iload_n 3, 1) := dk_29 (dk_at dksX0_years_1 13 rfl rfl)
theorem dX0_years_37 : decode cX0_years 37 = .ok (.invokevirtual 341, 3) := dk_182 1 85 (dk_at dksX0_years_1 14 rfl rfl)
theorem dX0_years_40 : decode cX0_years 40 = .ok (.goto 5, 3) := dk_167 0 5 (dk_at dksX0_years_1 17 rfl rfl)
theorem dX0_years_43 : decode cX0_years 43 = .ok (.bipush (-103), 2) := dk_16 153 (dk_at dksX0_years_1 20 rfl rfl)
theorem dX0_years_45 : decode cX0_years 45 = .ok (.ireturn, 1) := dk_172 (dk_at dksX0_years_1 22 rfl rfl)
abbrev cX0_yearsTold : ByteArray := prog_1_method_59_code
def yX0_yearsTold : MethodName := ⟨RX0, "yearsTold", "(III)I"⟩
def dkwX0_yearsTold_5 : List UInt8 := [154, 0, 8, 21, 4, 167, 0, 18, 29, 4, 160, 0, 8, 21, 5, 167, 0, 8, 42, 180, 1, 68, 136, 172]
abbrev dktX0_yearsTold_5 : List UInt8 := dkwX0_yearsTold_5 ++ []
def dkwX0_yearsTold_4 : List UInt8 := [132, 4, 1, 21, 5, 42, 180, 0, 29, 180, 0, 216, 96, 54, 5, 132, 6, 1, 167, 255, 170, 29]
abbrev dktX0_yearsTold_4 : List UInt8 := dkwX0_yearsTold_4 ++ dktX0_yearsTold_5
def dkwX0_yearsTold_3 : List UInt8 := [21, 8, 21, 9, 42, 182, 0, 209, 182, 0, 212, 153, 0, 27, 42, 180, 0, 29, 21, 7, 182, 1, 35]
abbrev dktX0_yearsTold_3 : List UInt8 := dkwX0_yearsTold_3 ++ dktX0_yearsTold_4
def dkwX0_yearsTold_2 : List UInt8 := [54, 8, 42, 16, 8, 182, 1, 82, 54, 9, 21, 8, 21, 9, 159, 0, 47, 42, 180, 0, 29, 21, 7]
abbrev dktX0_yearsTold_2 : List UInt8 := dkwX0_yearsTold_2 ++ dktX0_yearsTold_3
def dkwX0_yearsTold_1 : List UInt8 := [54, 6, 21, 6, 27, 162, 0, 86, 42, 42, 180, 0, 88, 182, 1, 82, 54, 7, 42, 16, 8, 182, 1, 82]
abbrev dktX0_yearsTold_1 : List UInt8 := dkwX0_yearsTold_1 ++ dktX0_yearsTold_2
def dkwX0_yearsTold_0 : List UInt8 := [42, 180, 0, 29, 42, 180, 0, 25, 182, 1, 78, 42, 28, 133, 181, 1, 68, 3, 54, 4, 3, 54, 5, 3]
abbrev dktX0_yearsTold_0 : List UInt8 := dkwX0_yearsTold_0 ++ dktX0_yearsTold_1
theorem dksX0_yearsTold_0 : cX0_yearsTold.data.toList.drop 0 = dktX0_yearsTold_0 := by decide +kernel
theorem dksX0_yearsTold_1 : cX0_yearsTold.data.toList.drop 24 = dktX0_yearsTold_1 := dk_seg dksX0_yearsTold_0 24 rfl rfl
theorem dksX0_yearsTold_2 : cX0_yearsTold.data.toList.drop 48 = dktX0_yearsTold_2 := dk_seg dksX0_yearsTold_1 24 rfl rfl
theorem dksX0_yearsTold_3 : cX0_yearsTold.data.toList.drop 71 = dktX0_yearsTold_3 := dk_seg dksX0_yearsTold_2 23 rfl rfl
theorem dksX0_yearsTold_4 : cX0_yearsTold.data.toList.drop 94 = dktX0_yearsTold_4 := dk_seg dksX0_yearsTold_3 23 rfl rfl
theorem dksX0_yearsTold_5 : cX0_yearsTold.data.toList.drop 116 = dktX0_yearsTold_5 := dk_seg dksX0_yearsTold_4 22 rfl rfl
theorem dX0_yearsTold_0 : decode cX0_yearsTold 0 = .ok (.aload_n 0, 1) := dk_42 (dk_at dksX0_yearsTold_0 0 rfl rfl)
theorem dX0_yearsTold_1 : decode cX0_yearsTold 1 = .ok (.getfield 29, 3) := dk_180 0 29 (dk_at dksX0_yearsTold_0 1 rfl rfl)
theorem dX0_yearsTold_4 : decode cX0_yearsTold 4 = .ok (.aload_n 0, 1) := dk_42 (dk_at dksX0_yearsTold_0 4 rfl rfl)
theorem dX0_yearsTold_5 : decode cX0_yearsTold 5 = .ok (.getfield 25, 3) := dk_180 0 25 (dk_at dksX0_yearsTold_0 5 rfl rfl)
theorem dX0_yearsTold_8 : decode cX0_yearsTold 8 = .ok (.invokevirtual 334, 3) := dk_182 1 78 (dk_at dksX0_yearsTold_0 8 rfl rfl)
theorem dX0_yearsTold_11 : decode cX0_yearsTold 11 = .ok (.aload_n 0, 1) := dk_42 (dk_at dksX0_yearsTold_0 11 rfl rfl)
theorem dX0_yearsTold_12 : decode cX0_yearsTold 12 = .ok (.iload_n 2, 1) := dk_28 (dk_at dksX0_yearsTold_0 12 rfl rfl)
theorem dX0_yearsTold_13 : decode cX0_yearsTold 13 = .ok (.i2l, 1) := dk_133 (dk_at dksX0_yearsTold_0 13 rfl rfl)
theorem dX0_yearsTold_14 : decode cX0_yearsTold 14 = .ok (.putfield 324, 3) := dk_181 1 68 (dk_at dksX0_yearsTold_0 14 rfl rfl)
theorem dX0_yearsTold_17 : decode cX0_yearsTold 17 = .ok (.iconst 0, 1) := dk_3 (dk_at dksX0_yearsTold_0 17 rfl rfl)
theorem dX0_yearsTold_18 : decode cX0_yearsTold 18 = .ok (.istore 4, 2) := dk_54 4 (dk_at dksX0_yearsTold_0 18 rfl rfl)
theorem dX0_yearsTold_20 : decode cX0_yearsTold 20 = .ok (.iconst 0, 1) := dk_3 (dk_at dksX0_yearsTold_0 20 rfl rfl)
theorem dX0_yearsTold_21 : decode cX0_yearsTold 21 = .ok (.istore 5, 2) := dk_54 5 (dk_at dksX0_yearsTold_0 21 rfl rfl)
theorem dX0_yearsTold_23 : decode cX0_yearsTold 23 = .ok (.iconst 0, 1) := dk_3 (dk_at dksX0_yearsTold_0 23 rfl rfl)
theorem dX0_yearsTold_24 : decode cX0_yearsTold 24 = .ok (.istore 6, 2) := dk_54 6 (dk_at dksX0_yearsTold_1 0 rfl rfl)
theorem dX0_yearsTold_26 : decode cX0_yearsTold 26 = .ok (.iload 6, 2) := dk_21 6 (dk_at dksX0_yearsTold_1 2 rfl rfl)
theorem dX0_yearsTold_28 : decode cX0_yearsTold 28 = .ok (.iload_n 1, 1) := dk_27 (dk_at dksX0_yearsTold_1 4 rfl rfl)
theorem dX0_yearsTold_29 : decode cX0_yearsTold 29 = .ok (.if_icmp .ge 86, 3) := dk_162 0 86 (dk_at dksX0_yearsTold_1 5 rfl rfl)
theorem dX0_yearsTold_32 : decode cX0_yearsTold 32 = .ok (.aload_n 0, 1) := dk_42 (dk_at dksX0_yearsTold_1 8 rfl rfl)
theorem dX0_yearsTold_33 : decode cX0_yearsTold 33 = .ok (.aload_n 0, 1) := dk_42 (dk_at dksX0_yearsTold_1 9 rfl rfl)
theorem dX0_yearsTold_34 : decode cX0_yearsTold 34 = .ok (.getfield 88, 3) := dk_180 0 88 (dk_at dksX0_yearsTold_1 10 rfl rfl)
theorem dX0_yearsTold_37 : decode cX0_yearsTold 37 = .ok (.invokevirtual 338, 3) := dk_182 1 82 (dk_at dksX0_yearsTold_1 13 rfl rfl)
theorem dX0_yearsTold_40 : decode cX0_yearsTold 40 = .ok (.istore 7, 2) := dk_54 7 (dk_at dksX0_yearsTold_1 16 rfl rfl)
theorem dX0_yearsTold_42 : decode cX0_yearsTold 42 = .ok (.aload_n 0, 1) := dk_42 (dk_at dksX0_yearsTold_1 18 rfl rfl)
theorem dX0_yearsTold_43 : decode cX0_yearsTold 43 = .ok (.bipush 8, 2) := dk_16 8 (dk_at dksX0_yearsTold_1 19 rfl rfl)
theorem dX0_yearsTold_45 : decode cX0_yearsTold 45 = .ok (.invokevirtual 338, 3) := dk_182 1 82 (dk_at dksX0_yearsTold_1 21 rfl rfl)
theorem dX0_yearsTold_48 : decode cX0_yearsTold 48 = .ok (.istore 8, 2) := dk_54 8 (dk_at dksX0_yearsTold_2 0 rfl rfl)
theorem dX0_yearsTold_50 : decode cX0_yearsTold 50 = .ok (.aload_n 0, 1) := dk_42 (dk_at dksX0_yearsTold_2 2 rfl rfl)
theorem dX0_yearsTold_51 : decode cX0_yearsTold 51 = .ok (.bipush 8, 2) := dk_16 8 (dk_at dksX0_yearsTold_2 3 rfl rfl)
theorem dX0_yearsTold_53 : decode cX0_yearsTold 53 = .ok (.invokevirtual 338, 3) := dk_182 1 82 (dk_at dksX0_yearsTold_2 5 rfl rfl)
theorem dX0_yearsTold_56 : decode cX0_yearsTold 56 = .ok (.istore 9, 2) := dk_54 9 (dk_at dksX0_yearsTold_2 8 rfl rfl)
theorem dX0_yearsTold_58 : decode cX0_yearsTold 58 = .ok (.iload 8, 2) := dk_21 8 (dk_at dksX0_yearsTold_2 10 rfl rfl)
theorem dX0_yearsTold_60 : decode cX0_yearsTold 60 = .ok (.iload 9, 2) := dk_21 9 (dk_at dksX0_yearsTold_2 12 rfl rfl)
theorem dX0_yearsTold_62 : decode cX0_yearsTold 62 = .ok (.if_icmp .eq 47, 3) := dk_159 0 47 (dk_at dksX0_yearsTold_2 14 rfl rfl)
theorem dX0_yearsTold_65 : decode cX0_yearsTold 65 = .ok (.aload_n 0, 1) := dk_42 (dk_at dksX0_yearsTold_2 17 rfl rfl)
theorem dX0_yearsTold_66 : decode cX0_yearsTold 66 = .ok (.getfield 29, 3) := dk_180 0 29 (dk_at dksX0_yearsTold_2 18 rfl rfl)
theorem dX0_yearsTold_69 : decode cX0_yearsTold 69 = .ok (.iload 7, 2) := dk_21 7 (dk_at dksX0_yearsTold_2 21 rfl rfl)
theorem dX0_yearsTold_71 : decode cX0_yearsTold 71 = .ok (.iload 8, 2) := dk_21 8 (dk_at dksX0_yearsTold_3 0 rfl rfl)
theorem dX0_yearsTold_73 : decode cX0_yearsTold 73 = .ok (.iload 9, 2) := dk_21 9 (dk_at dksX0_yearsTold_3 2 rfl rfl)
theorem dX0_yearsTold_75 : decode cX0_yearsTold 75 = .ok (.aload_n 0, 1) := dk_42 (dk_at dksX0_yearsTold_3 4 rfl rfl)
theorem dX0_yearsTold_76 : decode cX0_yearsTold 76 = .ok (.invokevirtual 209, 3) := dk_182 0 209 (dk_at dksX0_yearsTold_3 5 rfl rfl)
theorem dX0_yearsTold_79 : decode cX0_yearsTold 79 = .ok (.invokevirtual 212, 3) := dk_182 0 212 (dk_at dksX0_yearsTold_3 8 rfl rfl)
theorem dX0_yearsTold_82 : decode cX0_yearsTold 82 = .ok (.ifCond .eq 27, 3) := dk_153 0 27 (dk_at dksX0_yearsTold_3 11 rfl rfl)
theorem dX0_yearsTold_85 : decode cX0_yearsTold 85 = .ok (.aload_n 0, 1) := dk_42 (dk_at dksX0_yearsTold_3 14 rfl rfl)
theorem dX0_yearsTold_86 : decode cX0_yearsTold 86 = .ok (.getfield 29, 3) := dk_180 0 29 (dk_at dksX0_yearsTold_3 15 rfl rfl)
theorem dX0_yearsTold_89 : decode cX0_yearsTold 89 = .ok (.iload 7, 2) := dk_21 7 (dk_at dksX0_yearsTold_3 18 rfl rfl)
theorem dX0_yearsTold_91 : decode cX0_yearsTold 91 = .ok (.invokevirtual 291, 3) := dk_182 1 35 (dk_at dksX0_yearsTold_3 20 rfl rfl)
theorem dX0_yearsTold_94 : decode cX0_yearsTold 94 = .ok (.iinc 4 1, 3) := dk_132 4 1 (dk_at dksX0_yearsTold_4 0 rfl rfl)
theorem dX0_yearsTold_97 : decode cX0_yearsTold 97 = .ok (.iload 5, 2) := dk_21 5 (dk_at dksX0_yearsTold_4 3 rfl rfl)
theorem dX0_yearsTold_99 : decode cX0_yearsTold 99 = .ok (.aload_n 0, 1) := dk_42 (dk_at dksX0_yearsTold_4 5 rfl rfl)
theorem dX0_yearsTold_100 : decode cX0_yearsTold 100 = .ok (.getfield 29, 3) := dk_180 0 29 (dk_at dksX0_yearsTold_4 6 rfl rfl)
theorem dX0_yearsTold_103 : decode cX0_yearsTold 103 = .ok (.getfield 216, 3) := dk_180 0 216 (dk_at dksX0_yearsTold_4 9 rfl rfl)
theorem dX0_yearsTold_106 : decode cX0_yearsTold 106 = .ok (.iadd, 1) := dk_96 (dk_at dksX0_yearsTold_4 12 rfl rfl)
theorem dX0_yearsTold_107 : decode cX0_yearsTold 107 = .ok (.istore 5, 2) := dk_54 5 (dk_at dksX0_yearsTold_4 13 rfl rfl)
theorem dX0_yearsTold_109 : decode cX0_yearsTold 109 = .ok (.iinc 6 1, 3) := dk_132 6 1 (dk_at dksX0_yearsTold_4 15 rfl rfl)
theorem dX0_yearsTold_112 : decode cX0_yearsTold 112 = .ok (.goto (-86), 3) := dk_167 255 170 (dk_at dksX0_yearsTold_4 18 rfl rfl)
theorem dX0_yearsTold_115 : decode cX0_yearsTold 115 = .ok (.iload_n 3, 1) := dk_29 (dk_at dksX0_yearsTold_4 21 rfl rfl)
theorem dX0_yearsTold_116 : decode cX0_yearsTold 116 = .ok (.ifCond .ne 8, 3) := dk_154 0 8 (dk_at dksX0_yearsTold_5 0 rfl rfl)
theorem dX0_yearsTold_119 : decode cX0_yearsTold 119 = .ok (.iload 4, 2) := dk_21 4 (dk_at dksX0_yearsTold_5 3 rfl rfl)
theorem dX0_yearsTold_121 : decode cX0_yearsTold 121 = .ok (.goto 18, 3) := dk_167 0 18 (dk_at dksX0_yearsTold_5 5 rfl rfl)
theorem dX0_yearsTold_124 : decode cX0_yearsTold 124 = .ok (.iload_n 3, 1) := dk_29 (dk_at dksX0_yearsTold_5 8 rfl rfl)
theorem dX0_yearsTold_125 : decode cX0_yearsTold 125 = .ok (.iconst 1, 1) := dk_4 (dk_at dksX0_yearsTold_5 9 rfl rfl)
theorem dX0_yearsTold_126 : decode cX0_yearsTold 126 = .ok (.if_icmp .ne 8, 3) := dk_160 0 8 (dk_at dksX0_yearsTold_5 10 rfl rfl)
theorem dX0_yearsTold_129 : decode cX0_yearsTold 129 = .ok (.iload 5, 2) := dk_21 5 (dk_at dksX0_yearsTold_5 13 rfl rfl)
theorem dX0_yearsTold_131 : decode cX0_yearsTold 131 = .ok (.goto 8, 3) := dk_167 0 8 (dk_at dksX0_yearsTold_5 15 rfl rfl)
theorem dX0_yearsTold_134 : decode cX0_yearsTold 134 = .ok (.aload_n 0, 1) := dk_42 (dk_at dksX0_yearsTold_5 18 rfl rfl)
theorem dX0_yearsTold_135 : decode cX0_yearsTold 135 = .ok (.getfield 324, 3) := dk_180 1 68 (dk_at dksX0_yearsTold_5 19 rfl rfl)
theorem dX0_yearsTold_138 : decode cX0_yearsTold 138 = .ok (.l2i, 1) := dk_136 (dk_at dksX0_yearsTold_5 22 rfl rfl)
theorem dX0_yearsTold_139 : decode cX0_yearsTold 139 = .ok (.ireturn, 1) := dk_172 (dk_at dksX0_yearsTold_5 23 rfl rfl)
abbrev cX0_draw : ByteArray := prog_1_method_58_code
def yX0_draw : MethodName := ⟨RX0, "draw", "(I)I"⟩
def dkwX0_draw_1 : List UInt8 := [20, 1, 76, 109, 27, 133, 113, 136, 172]
abbrev dktX0_draw_1 : List UInt8 := dkwX0_draw_1 ++ []
def dkwX0_draw_0 : List UInt8 := [42, 20, 1, 66, 42, 180, 1, 68, 105, 20, 1, 72, 97, 20, 1, 74, 127, 181, 1, 68, 42, 180, 1, 68]
abbrev dktX0_draw_0 : List UInt8 := dkwX0_draw_0 ++ dktX0_draw_1
theorem dksX0_draw_0 : cX0_draw.data.toList.drop 0 = dktX0_draw_0 := by decide +kernel
theorem dksX0_draw_1 : cX0_draw.data.toList.drop 24 = dktX0_draw_1 := dk_seg dksX0_draw_0 24 rfl rfl
theorem dX0_draw_0 : decode cX0_draw 0 = .ok (.aload_n 0, 1) := dk_42 (dk_at dksX0_draw_0 0 rfl rfl)
theorem dX0_draw_1 : decode cX0_draw 1 = .ok (.ldc2_w 322, 3) := dk_20 1 66 (dk_at dksX0_draw_0 1 rfl rfl)
theorem dX0_draw_4 : decode cX0_draw 4 = .ok (.aload_n 0, 1) := dk_42 (dk_at dksX0_draw_0 4 rfl rfl)
theorem dX0_draw_5 : decode cX0_draw 5 = .ok (.getfield 324, 3) := dk_180 1 68 (dk_at dksX0_draw_0 5 rfl rfl)
theorem dX0_draw_8 : decode cX0_draw 8 = .ok (.lmul, 1) := dk_105 (dk_at dksX0_draw_0 8 rfl rfl)
theorem dX0_draw_9 : decode cX0_draw 9 = .ok (.ldc2_w 328, 3) := dk_20 1 72 (dk_at dksX0_draw_0 9 rfl rfl)
theorem dX0_draw_12 : decode cX0_draw 12 = .ok (.ladd, 1) := dk_97 (dk_at dksX0_draw_0 12 rfl rfl)
theorem dX0_draw_13 : decode cX0_draw 13 = .ok (.ldc2_w 330, 3) := dk_20 1 74 (dk_at dksX0_draw_0 13 rfl rfl)
theorem dX0_draw_16 : decode cX0_draw 16 = .ok (.land, 1) := dk_127 (dk_at dksX0_draw_0 16 rfl rfl)
theorem dX0_draw_17 : decode cX0_draw 17 = .ok (.putfield 324, 3) := dk_181 1 68 (dk_at dksX0_draw_0 17 rfl rfl)
theorem dX0_draw_20 : decode cX0_draw 20 = .ok (.aload_n 0, 1) := dk_42 (dk_at dksX0_draw_0 20 rfl rfl)
theorem dX0_draw_21 : decode cX0_draw 21 = .ok (.getfield 324, 3) := dk_180 1 68 (dk_at dksX0_draw_0 21 rfl rfl)
theorem dX0_draw_24 : decode cX0_draw 24 = .ok (.ldc2_w 332, 3) := dk_20 1 76 (dk_at dksX0_draw_1 0 rfl rfl)
theorem dX0_draw_27 : decode cX0_draw 27 = .ok (.ldiv, 1) := dk_109 (dk_at dksX0_draw_1 3 rfl rfl)
theorem dX0_draw_28 : decode cX0_draw 28 = .ok (.iload_n 1, 1) := dk_27 (dk_at dksX0_draw_1 4 rfl rfl)
theorem dX0_draw_29 : decode cX0_draw 29 = .ok (.i2l, 1) := dk_133 (dk_at dksX0_draw_1 5 rfl rfl)
theorem dX0_draw_30 : decode cX0_draw 30 = .ok (.lrem, 1) := dk_113 (dk_at dksX0_draw_1 6 rfl rfl)
theorem dX0_draw_31 : decode cX0_draw 31 = .ok (.l2i, 1) := dk_136 (dk_at dksX0_draw_1 7 rfl rfl)
theorem dX0_draw_32 : decode cX0_draw 32 = .ok (.ireturn, 1) := dk_172 (dk_at dksX0_draw_1 8 rfl rfl)
abbrev cX0_image : ByteArray := prog_1_method_61_code
def yX0_image : MethodName := ⟨RX0, "image", "()I"⟩
def dkwX0_image_4 : List UInt8 := [132, 1, 1, 167, 255, 199, 42, 180, 0, 25, 180, 0, 206, 172]
abbrev dktX0_image_4 : List UInt8 := dkwX0_image_4 ++ []
def dkwX0_image_3 : List UInt8 := [180, 0, 67, 27, 42, 180, 0, 52, 27, 46, 79, 42, 180, 0, 70, 27, 42, 180, 0, 55, 27, 46, 79]
abbrev dktX0_image_3 : List UInt8 := dkwX0_image_3 ++ dktX0_image_4
def dkwX0_image_2 : List UInt8 := [180, 0, 61, 27, 42, 180, 0, 46, 27, 46, 79, 42, 180, 0, 64, 27, 42, 180, 0, 49, 27, 46, 79, 42]
abbrev dktX0_image_2 : List UInt8 := dkwX0_image_2 ++ dktX0_image_3
def dkwX0_image_1 : List UInt8 := [181, 1, 91, 42, 180, 0, 32, 42, 180, 0, 25, 182, 1, 78, 3, 60, 27, 16, 6, 162, 0, 57, 42]
abbrev dktX0_image_1 : List UInt8 := dkwX0_image_1 ++ dktX0_image_2
def dkwX0_image_0 : List UInt8 := [42, 182, 0, 96, 154, 0, 6, 16, 153, 172, 42, 42, 180, 0, 146, 181, 1, 88, 42, 42, 180, 0, 149]
abbrev dktX0_image_0 : List UInt8 := dkwX0_image_0 ++ dktX0_image_1
theorem dksX0_image_0 : cX0_image.data.toList.drop 0 = dktX0_image_0 := by decide +kernel
theorem dksX0_image_1 : cX0_image.data.toList.drop 23 = dktX0_image_1 := dk_seg dksX0_image_0 23 rfl rfl
theorem dksX0_image_2 : cX0_image.data.toList.drop 46 = dktX0_image_2 := dk_seg dksX0_image_1 23 rfl rfl
theorem dksX0_image_3 : cX0_image.data.toList.drop 70 = dktX0_image_3 := dk_seg dksX0_image_2 24 rfl rfl
theorem dksX0_image_4 : cX0_image.data.toList.drop 93 = dktX0_image_4 := dk_seg dksX0_image_3 23 rfl rfl
theorem dX0_image_0 : decode cX0_image 0 = .ok (.aload_n 0, 1) := dk_42 (dk_at dksX0_image_0 0 rfl rfl)
theorem dX0_image_1 : decode cX0_image 1 = .ok (.invokevirtual 96, 3) := dk_182 0 96 (dk_at dksX0_image_0 1 rfl rfl)
theorem dX0_image_4 : decode cX0_image 4 = .ok (.ifCond .ne 6, 3) := dk_154 0 6 (dk_at dksX0_image_0 4 rfl rfl)
theorem dX0_image_7 : decode cX0_image 7 = .ok (.bipush (-103), 2) := dk_16 153 (dk_at dksX0_image_0 7 rfl rfl)
theorem dX0_image_9 : decode cX0_image 9 = .ok (.ireturn, 1) := dk_172 (dk_at dksX0_image_0 9 rfl rfl)
theorem dX0_image_10 : decode cX0_image 10 = .ok (.aload_n 0, 1) := dk_42 (dk_at dksX0_image_0 10 rfl rfl)
theorem dX0_image_11 : decode cX0_image 11 = .ok (.aload_n 0, 1) := dk_42 (dk_at dksX0_image_0 11 rfl rfl)
theorem dX0_image_12 : decode cX0_image 12 = .ok (.getfield 146, 3) := dk_180 0 146 (dk_at dksX0_image_0 12 rfl rfl)
theorem dX0_image_15 : decode cX0_image 15 = .ok (.putfield 344, 3) := dk_181 1 88 (dk_at dksX0_image_0 15 rfl rfl)
theorem dX0_image_18 : decode cX0_image 18 = .ok (.aload_n 0, 1) := dk_42 (dk_at dksX0_image_0 18 rfl rfl)
theorem dX0_image_19 : decode cX0_image 19 = .ok (.aload_n 0, 1) := dk_42 (dk_at dksX0_image_0 19 rfl rfl)
theorem dX0_image_20 : decode cX0_image 20 = .ok (.getfield 149, 3) := dk_180 0 149 (dk_at dksX0_image_0 20 rfl rfl)
theorem dX0_image_23 : decode cX0_image 23 = .ok (.putfield 347, 3) := dk_181 1 91 (dk_at dksX0_image_1 0 rfl rfl)
theorem dX0_image_26 : decode cX0_image 26 = .ok (.aload_n 0, 1) := dk_42 (dk_at dksX0_image_1 3 rfl rfl)
theorem dX0_image_27 : decode cX0_image 27 = .ok (.getfield 32, 3) := dk_180 0 32 (dk_at dksX0_image_1 4 rfl rfl)
theorem dX0_image_30 : decode cX0_image 30 = .ok (.aload_n 0, 1) := dk_42 (dk_at dksX0_image_1 7 rfl rfl)
theorem dX0_image_31 : decode cX0_image 31 = .ok (.getfield 25, 3) := dk_180 0 25 (dk_at dksX0_image_1 8 rfl rfl)
theorem dX0_image_34 : decode cX0_image 34 = .ok (.invokevirtual 334, 3) := dk_182 1 78 (dk_at dksX0_image_1 11 rfl rfl)
theorem dX0_image_37 : decode cX0_image 37 = .ok (.iconst 0, 1) := dk_3 (dk_at dksX0_image_1 14 rfl rfl)
theorem dX0_image_38 : decode cX0_image 38 = .ok (.istore_n 1, 1) := dk_60 (dk_at dksX0_image_1 15 rfl rfl)
theorem dX0_image_39 : decode cX0_image 39 = .ok (.iload_n 1, 1) := dk_27 (dk_at dksX0_image_1 16 rfl rfl)
theorem dX0_image_40 : decode cX0_image 40 = .ok (.bipush 6, 2) := dk_16 6 (dk_at dksX0_image_1 17 rfl rfl)
theorem dX0_image_42 : decode cX0_image 42 = .ok (.if_icmp .ge 57, 3) := dk_162 0 57 (dk_at dksX0_image_1 19 rfl rfl)
theorem dX0_image_45 : decode cX0_image 45 = .ok (.aload_n 0, 1) := dk_42 (dk_at dksX0_image_1 22 rfl rfl)
theorem dX0_image_46 : decode cX0_image 46 = .ok (.getfield 61, 3) := dk_180 0 61 (dk_at dksX0_image_2 0 rfl rfl)
theorem dX0_image_49 : decode cX0_image 49 = .ok (.iload_n 1, 1) := dk_27 (dk_at dksX0_image_2 3 rfl rfl)
theorem dX0_image_50 : decode cX0_image 50 = .ok (.aload_n 0, 1) := dk_42 (dk_at dksX0_image_2 4 rfl rfl)
theorem dX0_image_51 : decode cX0_image 51 = .ok (.getfield 46, 3) := dk_180 0 46 (dk_at dksX0_image_2 5 rfl rfl)
theorem dX0_image_54 : decode cX0_image 54 = .ok (.iload_n 1, 1) := dk_27 (dk_at dksX0_image_2 8 rfl rfl)
theorem dX0_image_55 : decode cX0_image 55 = .ok (.iaload, 1) := dk_46 (dk_at dksX0_image_2 9 rfl rfl)
theorem dX0_image_56 : decode cX0_image 56 = .ok (.iastore, 1) := dk_79 (dk_at dksX0_image_2 10 rfl rfl)
theorem dX0_image_57 : decode cX0_image 57 = .ok (.aload_n 0, 1) := dk_42 (dk_at dksX0_image_2 11 rfl rfl)
theorem dX0_image_58 : decode cX0_image 58 = .ok (.getfield 64, 3) := dk_180 0 64 (dk_at dksX0_image_2 12 rfl rfl)
theorem dX0_image_61 : decode cX0_image 61 = .ok (.iload_n 1, 1) := dk_27 (dk_at dksX0_image_2 15 rfl rfl)
theorem dX0_image_62 : decode cX0_image 62 = .ok (.aload_n 0, 1) := dk_42 (dk_at dksX0_image_2 16 rfl rfl)
theorem dX0_image_63 : decode cX0_image 63 = .ok (.getfield 49, 3) := dk_180 0 49 (dk_at dksX0_image_2 17 rfl rfl)
theorem dX0_image_66 : decode cX0_image 66 = .ok (.iload_n 1, 1) := dk_27 (dk_at dksX0_image_2 20 rfl rfl)
theorem dX0_image_67 : decode cX0_image 67 = .ok (.iaload, 1) := dk_46 (dk_at dksX0_image_2 21 rfl rfl)
theorem dX0_image_68 : decode cX0_image 68 = .ok (.iastore, 1) := dk_79 (dk_at dksX0_image_2 22 rfl rfl)
theorem dX0_image_69 : decode cX0_image 69 = .ok (.aload_n 0, 1) := dk_42 (dk_at dksX0_image_2 23 rfl rfl)
theorem dX0_image_70 : decode cX0_image 70 = .ok (.getfield 67, 3) := dk_180 0 67 (dk_at dksX0_image_3 0 rfl rfl)
theorem dX0_image_73 : decode cX0_image 73 = .ok (.iload_n 1, 1) := dk_27 (dk_at dksX0_image_3 3 rfl rfl)
theorem dX0_image_74 : decode cX0_image 74 = .ok (.aload_n 0, 1) := dk_42 (dk_at dksX0_image_3 4 rfl rfl)
theorem dX0_image_75 : decode cX0_image 75 = .ok (.getfield 52, 3) := dk_180 0 52 (dk_at dksX0_image_3 5 rfl rfl)
theorem dX0_image_78 : decode cX0_image 78 = .ok (.iload_n 1, 1) := dk_27 (dk_at dksX0_image_3 8 rfl rfl)
theorem dX0_image_79 : decode cX0_image 79 = .ok (.iaload, 1) := dk_46 (dk_at dksX0_image_3 9 rfl rfl)
theorem dX0_image_80 : decode cX0_image 80 = .ok (.iastore, 1) := dk_79 (dk_at dksX0_image_3 10 rfl rfl)
theorem dX0_image_81 : decode cX0_image 81 = .ok (.aload_n 0, 1) := dk_42 (dk_at dksX0_image_3 11 rfl rfl)
theorem dX0_image_82 : decode cX0_image 82 = .ok (.getfield 70, 3) := dk_180 0 70 (dk_at dksX0_image_3 12 rfl rfl)
theorem dX0_image_85 : decode cX0_image 85 = .ok (.iload_n 1, 1) := dk_27 (dk_at dksX0_image_3 15 rfl rfl)
theorem dX0_image_86 : decode cX0_image 86 = .ok (.aload_n 0, 1) := dk_42 (dk_at dksX0_image_3 16 rfl rfl)
theorem dX0_image_87 : decode cX0_image 87 = .ok (.getfield 55, 3) := dk_180 0 55 (dk_at dksX0_image_3 17 rfl rfl)
theorem dX0_image_90 : decode cX0_image 90 = .ok (.iload_n 1, 1) := dk_27 (dk_at dksX0_image_3 20 rfl rfl)
theorem dX0_image_91 : decode cX0_image 91 = .ok (.iaload, 1) := dk_46 (dk_at dksX0_image_3 21 rfl rfl)
theorem dX0_image_92 : decode cX0_image 92 = .ok (.iastore, 1) := dk_79 (dk_at dksX0_image_3 22 rfl rfl)
theorem dX0_image_93 : decode cX0_image 93 = .ok (.iinc 1 1, 3) := dk_132 1 1 (dk_at dksX0_image_4 0 rfl rfl)
theorem dX0_image_96 : decode cX0_image 96 = .ok (.goto (-57), 3) := dk_167 255 199 (dk_at dksX0_image_4 3 rfl rfl)
theorem dX0_image_99 : decode cX0_image 99 = .ok (.aload_n 0, 1) := dk_42 (dk_at dksX0_image_4 6 rfl rfl)
theorem dX0_image_100 : decode cX0_image 100 = .ok (.getfield 25, 3) := dk_180 0 25 (dk_at dksX0_image_4 7 rfl rfl)
theorem dX0_image_103 : decode cX0_image 103 = .ok (.getfield 206, 3) := dk_180 0 206 (dk_at dksX0_image_4 10 rfl rfl)
theorem dX0_image_106 : decode cX0_image 106 = .ok (.ireturn, 1) := dk_172 (dk_at dksX0_image_4 13 rfl rfl)
abbrev cX0_restore : ByteArray := prog_1_method_62_code
def yX0_restore : MethodName := ⟨RX0, "restore", "()I"⟩
def dkwX0_restore_4 : List UInt8 := [27, 46, 79, 132, 1, 1, 167, 255, 199, 42, 180, 0, 25, 180, 0, 206, 172]
abbrev dktX0_restore_4 : List UInt8 := dkwX0_restore_4 ++ []
def dkwX0_restore_3 : List UInt8 := [27, 46, 79, 42, 180, 0, 52, 27, 42, 180, 0, 67, 27, 46, 79, 42, 180, 0, 55, 27, 42, 180, 0, 70]
abbrev dktX0_restore_3 : List UInt8 := dkwX0_restore_3 ++ dktX0_restore_4
def dkwX0_restore_2 : List UInt8 := [162, 0, 57, 42, 180, 0, 46, 27, 42, 180, 0, 61, 27, 46, 79, 42, 180, 0, 49, 27, 42, 180, 0, 64]
abbrev dktX0_restore_2 : List UInt8 := dkwX0_restore_2 ++ dktX0_restore_3
def dkwX0_restore_1 : List UInt8 := [180, 1, 91, 181, 0, 149, 42, 180, 0, 25, 42, 180, 0, 32, 182, 1, 78, 3, 60, 27, 16, 6]
abbrev dktX0_restore_1 : List UInt8 := dkwX0_restore_1 ++ dktX0_restore_2
def dkwX0_restore_0 : List UInt8 := [42, 180, 1, 88, 153, 0, 14, 42, 180, 1, 88, 42, 180, 0, 146, 159, 0, 6, 16, 153, 172, 42, 42]
abbrev dktX0_restore_0 : List UInt8 := dkwX0_restore_0 ++ dktX0_restore_1
theorem dksX0_restore_0 : cX0_restore.data.toList.drop 0 = dktX0_restore_0 := by decide +kernel
theorem dksX0_restore_1 : cX0_restore.data.toList.drop 23 = dktX0_restore_1 := dk_seg dksX0_restore_0 23 rfl rfl
theorem dksX0_restore_2 : cX0_restore.data.toList.drop 45 = dktX0_restore_2 := dk_seg dksX0_restore_1 22 rfl rfl
theorem dksX0_restore_3 : cX0_restore.data.toList.drop 69 = dktX0_restore_3 := dk_seg dksX0_restore_2 24 rfl rfl
theorem dksX0_restore_4 : cX0_restore.data.toList.drop 93 = dktX0_restore_4 := dk_seg dksX0_restore_3 24 rfl rfl
theorem dX0_restore_0 : decode cX0_restore 0 = .ok (.aload_n 0, 1) := dk_42 (dk_at dksX0_restore_0 0 rfl rfl)
theorem dX0_restore_1 : decode cX0_restore 1 = .ok (.getfield 344, 3) := dk_180 1 88 (dk_at dksX0_restore_0 1 rfl rfl)
theorem dX0_restore_4 : decode cX0_restore 4 = .ok (.ifCond .eq 14, 3) := dk_153 0 14 (dk_at dksX0_restore_0 4 rfl rfl)
theorem dX0_restore_7 : decode cX0_restore 7 = .ok (.aload_n 0, 1) := dk_42 (dk_at dksX0_restore_0 7 rfl rfl)
theorem dX0_restore_8 : decode cX0_restore 8 = .ok (.getfield 344, 3) := dk_180 1 88 (dk_at dksX0_restore_0 8 rfl rfl)
theorem dX0_restore_11 : decode cX0_restore 11 = .ok (.aload_n 0, 1) := dk_42 (dk_at dksX0_restore_0 11 rfl rfl)
theorem dX0_restore_12 : decode cX0_restore 12 = .ok (.getfield 146, 3) := dk_180 0 146 (dk_at dksX0_restore_0 12 rfl rfl)
theorem dX0_restore_15 : decode cX0_restore 15 = .ok (.if_icmp .eq 6, 3) := dk_159 0 6 (dk_at dksX0_restore_0 15 rfl rfl)
theorem dX0_restore_18 : decode cX0_restore 18 = .ok (.bipush (-103), 2) := dk_16 153 (dk_at dksX0_restore_0 18 rfl rfl)
theorem dX0_restore_20 : decode cX0_restore 20 = .ok (.ireturn, 1) := dk_172 (dk_at dksX0_restore_0 20 rfl rfl)
theorem dX0_restore_21 : decode cX0_restore 21 = .ok (.aload_n 0, 1) := dk_42 (dk_at dksX0_restore_0 21 rfl rfl)
theorem dX0_restore_22 : decode cX0_restore 22 = .ok (.aload_n 0, 1) := dk_42 (dk_at dksX0_restore_0 22 rfl rfl)
theorem dX0_restore_23 : decode cX0_restore 23 = .ok (.getfield 347, 3) := dk_180 1 91 (dk_at dksX0_restore_1 0 rfl rfl)
theorem dX0_restore_26 : decode cX0_restore 26 = .ok (.putfield 149, 3) := dk_181 0 149 (dk_at dksX0_restore_1 3 rfl rfl)
theorem dX0_restore_29 : decode cX0_restore 29 = .ok (.aload_n 0, 1) := dk_42 (dk_at dksX0_restore_1 6 rfl rfl)
theorem dX0_restore_30 : decode cX0_restore 30 = .ok (.getfield 25, 3) := dk_180 0 25 (dk_at dksX0_restore_1 7 rfl rfl)
theorem dX0_restore_33 : decode cX0_restore 33 = .ok (.aload_n 0, 1) := dk_42 (dk_at dksX0_restore_1 10 rfl rfl)
theorem dX0_restore_34 : decode cX0_restore 34 = .ok (.getfield 32, 3) := dk_180 0 32 (dk_at dksX0_restore_1 11 rfl rfl)
theorem dX0_restore_37 : decode cX0_restore 37 = .ok (.invokevirtual 334, 3) := dk_182 1 78 (dk_at dksX0_restore_1 14 rfl rfl)
theorem dX0_restore_40 : decode cX0_restore 40 = .ok (.iconst 0, 1) := dk_3 (dk_at dksX0_restore_1 17 rfl rfl)
theorem dX0_restore_41 : decode cX0_restore 41 = .ok (.istore_n 1, 1) := dk_60 (dk_at dksX0_restore_1 18 rfl rfl)
theorem dX0_restore_42 : decode cX0_restore 42 = .ok (.iload_n 1, 1) := dk_27 (dk_at dksX0_restore_1 19 rfl rfl)
theorem dX0_restore_43 : decode cX0_restore 43 = .ok (.bipush 6, 2) := dk_16 6 (dk_at dksX0_restore_1 20 rfl rfl)
theorem dX0_restore_45 : decode cX0_restore 45 = .ok (.if_icmp .ge 57, 3) := dk_162 0 57 (dk_at dksX0_restore_2 0 rfl rfl)
theorem dX0_restore_48 : decode cX0_restore 48 = .ok (.aload_n 0, 1) := dk_42 (dk_at dksX0_restore_2 3 rfl rfl)
theorem dX0_restore_49 : decode cX0_restore 49 = .ok (.getfield 46, 3) := dk_180 0 46 (dk_at dksX0_restore_2 4 rfl rfl)
theorem dX0_restore_52 : decode cX0_restore 52 = .ok (.iload_n 1, 1) := dk_27 (dk_at dksX0_restore_2 7 rfl rfl)
theorem dX0_restore_53 : decode cX0_restore 53 = .ok (.aload_n 0, 1) := dk_42 (dk_at dksX0_restore_2 8 rfl rfl)
theorem dX0_restore_54 : decode cX0_restore 54 = .ok (.getfield 61, 3) := dk_180 0 61 (dk_at dksX0_restore_2 9 rfl rfl)
theorem dX0_restore_57 : decode cX0_restore 57 = .ok (.iload_n 1, 1) := dk_27 (dk_at dksX0_restore_2 12 rfl rfl)
theorem dX0_restore_58 : decode cX0_restore 58 = .ok (.iaload, 1) := dk_46 (dk_at dksX0_restore_2 13 rfl rfl)
theorem dX0_restore_59 : decode cX0_restore 59 = .ok (.iastore, 1) := dk_79 (dk_at dksX0_restore_2 14 rfl rfl)
theorem dX0_restore_60 : decode cX0_restore 60 = .ok (.aload_n 0, 1) := dk_42 (dk_at dksX0_restore_2 15 rfl rfl)
theorem dX0_restore_61 : decode cX0_restore 61 = .ok (.getfield 49, 3) := dk_180 0 49 (dk_at dksX0_restore_2 16 rfl rfl)
theorem dX0_restore_64 : decode cX0_restore 64 = .ok (.iload_n 1, 1) := dk_27 (dk_at dksX0_restore_2 19 rfl rfl)
theorem dX0_restore_65 : decode cX0_restore 65 = .ok (.aload_n 0, 1) := dk_42 (dk_at dksX0_restore_2 20 rfl rfl)
theorem dX0_restore_66 : decode cX0_restore 66 = .ok (.getfield 64, 3) := dk_180 0 64 (dk_at dksX0_restore_2 21 rfl rfl)
theorem dX0_restore_69 : decode cX0_restore 69 = .ok (.iload_n 1, 1) := dk_27 (dk_at dksX0_restore_3 0 rfl rfl)
theorem dX0_restore_70 : decode cX0_restore 70 = .ok (.iaload, 1) := dk_46 (dk_at dksX0_restore_3 1 rfl rfl)
theorem dX0_restore_71 : decode cX0_restore 71 = .ok (.iastore, 1) := dk_79 (dk_at dksX0_restore_3 2 rfl rfl)
theorem dX0_restore_72 : decode cX0_restore 72 = .ok (.aload_n 0, 1) := dk_42 (dk_at dksX0_restore_3 3 rfl rfl)
theorem dX0_restore_73 : decode cX0_restore 73 = .ok (.getfield 52, 3) := dk_180 0 52 (dk_at dksX0_restore_3 4 rfl rfl)
theorem dX0_restore_76 : decode cX0_restore 76 = .ok (.iload_n 1, 1) := dk_27 (dk_at dksX0_restore_3 7 rfl rfl)
theorem dX0_restore_77 : decode cX0_restore 77 = .ok (.aload_n 0, 1) := dk_42 (dk_at dksX0_restore_3 8 rfl rfl)
theorem dX0_restore_78 : decode cX0_restore 78 = .ok (.getfield 67, 3) := dk_180 0 67 (dk_at dksX0_restore_3 9 rfl rfl)
theorem dX0_restore_81 : decode cX0_restore 81 = .ok (.iload_n 1, 1) := dk_27 (dk_at dksX0_restore_3 12 rfl rfl)
theorem dX0_restore_82 : decode cX0_restore 82 = .ok (.iaload, 1) := dk_46 (dk_at dksX0_restore_3 13 rfl rfl)
theorem dX0_restore_83 : decode cX0_restore 83 = .ok (.iastore, 1) := dk_79 (dk_at dksX0_restore_3 14 rfl rfl)
theorem dX0_restore_84 : decode cX0_restore 84 = .ok (.aload_n 0, 1) := dk_42 (dk_at dksX0_restore_3 15 rfl rfl)
theorem dX0_restore_85 : decode cX0_restore 85 = .ok (.getfield 55, 3) := dk_180 0 55 (dk_at dksX0_restore_3 16 rfl rfl)
theorem dX0_restore_88 : decode cX0_restore 88 = .ok (.iload_n 1, 1) := dk_27 (dk_at dksX0_restore_3 19 rfl rfl)
theorem dX0_restore_89 : decode cX0_restore 89 = .ok (.aload_n 0, 1) := dk_42 (dk_at dksX0_restore_3 20 rfl rfl)
theorem dX0_restore_90 : decode cX0_restore 90 = .ok (.getfield 70, 3) := dk_180 0 70 (dk_at dksX0_restore_3 21 rfl rfl)
theorem dX0_restore_93 : decode cX0_restore 93 = .ok (.iload_n 1, 1) := dk_27 (dk_at dksX0_restore_4 0 rfl rfl)
theorem dX0_restore_94 : decode cX0_restore 94 = .ok (.iaload, 1) := dk_46 (dk_at dksX0_restore_4 1 rfl rfl)
theorem dX0_restore_95 : decode cX0_restore 95 = .ok (.iastore, 1) := dk_79 (dk_at dksX0_restore_4 2 rfl rfl)
theorem dX0_restore_96 : decode cX0_restore 96 = .ok (.iinc 1 1, 3) := dk_132 1 1 (dk_at dksX0_restore_4 3 rfl rfl)
theorem dX0_restore_99 : decode cX0_restore 99 = .ok (.goto (-57), 3) := dk_167 255 199 (dk_at dksX0_restore_4 6 rfl rfl)
theorem dX0_restore_102 : decode cX0_restore 102 = .ok (.aload_n 0, 1) := dk_42 (dk_at dksX0_restore_4 9 rfl rfl)
theorem dX0_restore_103 : decode cX0_restore 103 = .ok (.getfield 25, 3) := dk_180 0 25 (dk_at dksX0_restore_4 10 rfl rfl)
theorem dX0_restore_106 : decode cX0_restore 106 = .ok (.getfield 206, 3) := dk_180 0 206 (dk_at dksX0_restore_4 13 rfl rfl)
theorem dX0_restore_109 : decode cX0_restore 109 = .ok (.ireturn, 1) := dk_172 (dk_at dksX0_restore_4 16 rfl rfl)
abbrev cX0_count : ByteArray := prog_1_method_66_code
def yX0_count : MethodName := ⟨RX0, "count", "(I)I"⟩
def dkwX0_count_0 : List UInt8 := [42, 27, 182, 1, 100, 172]
abbrev dktX0_count_0 : List UInt8 := dkwX0_count_0 ++ []
theorem dksX0_count_0 : cX0_count.data.toList.drop 0 = dktX0_count_0 := by decide +kernel
theorem dX0_count_0 : decode cX0_count 0 = .ok (.aload_n 0, 1) := dk_42 (dk_at dksX0_count_0 0 rfl rfl)
theorem dX0_count_1 : decode cX0_count 1 = .ok (.iload_n 1, 1) := dk_27 (dk_at dksX0_count_0 1 rfl rfl)
theorem dX0_count_2 : decode cX0_count 2 = .ok (.invokevirtual 356, 3) := dk_182 1 100 (dk_at dksX0_count_0 2 rfl rfl)
theorem dX0_count_5 : decode cX0_count 5 = .ok (.ireturn, 1) := dk_172 (dk_at dksX0_count_0 5 rfl rfl)
abbrev cX0_countOf : ByteArray := prog_1_method_65_code
def yX0_countOf : MethodName := ⟨RX0, "countOf", "(I)I"⟩
def dkwX0_countOf_5 : List UInt8 := [172, 42, 180, 0, 149, 172, 42, 180, 0, 107, 172, 42, 180, 0, 146, 172, 42, 182, 1, 97, 172, 16, 154, 172]
abbrev dktX0_countOf_5 : List UInt8 := dkwX0_countOf_5 ++ []
def dkwX0_countOf_4 : List UInt8 := [180, 0, 172, 3, 46, 42, 180, 0, 25, 180, 0, 172, 4, 46, 128, 184, 1, 12, 172, 42, 7, 182, 1, 94]
abbrev dktX0_countOf_4 : List UInt8 := dkwX0_countOf_4 ++ dktX0_countOf_5
def dkwX0_countOf_3 : List UInt8 := [180, 0, 25, 180, 0, 206, 172, 42, 4, 182, 1, 94, 172, 42, 5, 182, 1, 94, 172, 42, 180, 0, 25]
abbrev dktX0_countOf_3 : List UInt8 := dkwX0_countOf_3 ++ dktX0_countOf_4
def dkwX0_countOf_2 : List UInt8 := [42, 180, 0, 88, 172, 42, 180, 0, 16, 182, 0, 92, 172, 42, 182, 1, 9, 184, 1, 12, 172, 42]
abbrev dktX0_countOf_2 : List UInt8 := dkwX0_countOf_2 ++ dktX0_countOf_3
def dkwX0_countOf_1 : List UInt8 := [170, 0, 0, 0, 0, 0, 153, 0, 0, 0, 0, 0, 0, 0, 11, 0, 0, 0, 63, 0, 0, 0, 68, 0, 0, 0, 76, 0, 0, 0, 84, 0, 0, 0, 92, 0, 0, 0, 98, 0, 0, 0, 104, 0, 0, 0, 127, 0, 0, 0, 133, 0, 0, 0, 138, 0, 0, 0, 143, 0, 0, 0, 148]
abbrev dktX0_countOf_1 : List UInt8 := dkwX0_countOf_1 ++ dktX0_countOf_2
def dkwX0_countOf_0 : List UInt8 := [27]
abbrev dktX0_countOf_0 : List UInt8 := dkwX0_countOf_0 ++ dktX0_countOf_1
theorem dksX0_countOf_0 : cX0_countOf.data.toList.drop 0 = dktX0_countOf_0 := by decide +kernel
theorem dksX0_countOf_1 : cX0_countOf.data.toList.drop 1 = dktX0_countOf_1 := dk_seg dksX0_countOf_0 1 rfl rfl
theorem dksX0_countOf_2 : cX0_countOf.data.toList.drop 64 = dktX0_countOf_2 := dk_seg dksX0_countOf_1 63 rfl rfl
theorem dksX0_countOf_3 : cX0_countOf.data.toList.drop 86 = dktX0_countOf_3 := dk_seg dksX0_countOf_2 22 rfl rfl
theorem dksX0_countOf_4 : cX0_countOf.data.toList.drop 109 = dktX0_countOf_4 := dk_seg dksX0_countOf_3 23 rfl rfl
theorem dksX0_countOf_5 : cX0_countOf.data.toList.drop 133 = dktX0_countOf_5 := dk_seg dksX0_countOf_4 24 rfl rfl
theorem dX0_countOf_0 : decode cX0_countOf 0 = .ok (.iload_n 1, 1) := dk_27 (dk_at dksX0_countOf_0 0 rfl rfl)
theorem dX0_countOf_1 : decode cX0_countOf 1 = .ok (.tableswitch 153 0 11 #[63, 68, 76, 84, 92, 98, 104, 127, 133, 138, 143, 148], 63) := by decide +kernel
theorem dX0_countOf_64 : decode cX0_countOf 64 = .ok (.aload_n 0, 1) := dk_42 (dk_at dksX0_countOf_2 0 rfl rfl)
theorem dX0_countOf_65 : decode cX0_countOf 65 = .ok (.getfield 88, 3) := dk_180 0 88 (dk_at dksX0_countOf_2 1 rfl rfl)
theorem dX0_countOf_68 : decode cX0_countOf 68 = .ok (.ireturn, 1) := dk_172 (dk_at dksX0_countOf_2 4 rfl rfl)
theorem dX0_countOf_69 : decode cX0_countOf 69 = .ok (.aload_n 0, 1) := dk_42 (dk_at dksX0_countOf_2 5 rfl rfl)
theorem dX0_countOf_70 : decode cX0_countOf 70 = .ok (.getfield 16, 3) := dk_180 0 16 (dk_at dksX0_countOf_2 6 rfl rfl)
theorem dX0_countOf_73 : decode cX0_countOf 73 = .ok (.invokevirtual 92, 3) := dk_182 0 92 (dk_at dksX0_countOf_2 9 rfl rfl)
theorem dX0_countOf_76 : decode cX0_countOf 76 = .ok (.ireturn, 1) := dk_172 (dk_at dksX0_countOf_2 12 rfl rfl)
theorem dX0_countOf_77 : decode cX0_countOf 77 = .ok (.aload_n 0, 1) := dk_42 (dk_at dksX0_countOf_2 13 rfl rfl)
theorem dX0_countOf_78 : decode cX0_countOf 78 = .ok (.invokevirtual 265, 3) := dk_182 1 9 (dk_at dksX0_countOf_2 14 rfl rfl)
theorem dX0_countOf_81 : decode cX0_countOf 81 = .ok (.invokestatic 268, 3) := dk_184 1 12 (dk_at dksX0_countOf_2 17 rfl rfl)
theorem dX0_countOf_84 : decode cX0_countOf 84 = .ok (.ireturn, 1) := dk_172 (dk_at dksX0_countOf_2 20 rfl rfl)
theorem dX0_countOf_85 : decode cX0_countOf 85 = .ok (.aload_n 0, 1) := dk_42 (dk_at dksX0_countOf_2 21 rfl rfl)
theorem dX0_countOf_86 : decode cX0_countOf 86 = .ok (.getfield 25, 3) := dk_180 0 25 (dk_at dksX0_countOf_3 0 rfl rfl)
theorem dX0_countOf_89 : decode cX0_countOf 89 = .ok (.getfield 206, 3) := dk_180 0 206 (dk_at dksX0_countOf_3 3 rfl rfl)
theorem dX0_countOf_92 : decode cX0_countOf 92 = .ok (.ireturn, 1) := dk_172 (dk_at dksX0_countOf_3 6 rfl rfl)
theorem dX0_countOf_93 : decode cX0_countOf 93 = .ok (.aload_n 0, 1) := dk_42 (dk_at dksX0_countOf_3 7 rfl rfl)
theorem dX0_countOf_94 : decode cX0_countOf 94 = .ok (.iconst 1, 1) := dk_4 (dk_at dksX0_countOf_3 8 rfl rfl)
theorem dX0_countOf_95 : decode cX0_countOf 95 = .ok (.invokevirtual 350, 3) := dk_182 1 94 (dk_at dksX0_countOf_3 9 rfl rfl)
theorem dX0_countOf_98 : decode cX0_countOf 98 = .ok (.ireturn, 1) := dk_172 (dk_at dksX0_countOf_3 12 rfl rfl)
theorem dX0_countOf_99 : decode cX0_countOf 99 = .ok (.aload_n 0, 1) := dk_42 (dk_at dksX0_countOf_3 13 rfl rfl)
theorem dX0_countOf_100 : decode cX0_countOf 100 = .ok (.iconst 2, 1) := dk_5 (dk_at dksX0_countOf_3 14 rfl rfl)
theorem dX0_countOf_101 : decode cX0_countOf 101 = .ok (.invokevirtual 350, 3) := dk_182 1 94 (dk_at dksX0_countOf_3 15 rfl rfl)
theorem dX0_countOf_104 : decode cX0_countOf 104 = .ok (.ireturn, 1) := dk_172 (dk_at dksX0_countOf_3 18 rfl rfl)
theorem dX0_countOf_105 : decode cX0_countOf 105 = .ok (.aload_n 0, 1) := dk_42 (dk_at dksX0_countOf_3 19 rfl rfl)
theorem dX0_countOf_106 : decode cX0_countOf 106 = .ok (.getfield 25, 3) := dk_180 0 25 (dk_at dksX0_countOf_3 20 rfl rfl)
theorem dX0_countOf_109 : decode cX0_countOf 109 = .ok (.getfield 172, 3) := dk_180 0 172 (dk_at dksX0_countOf_4 0 rfl rfl)
theorem dX0_countOf_112 : decode cX0_countOf 112 = .ok (.iconst 0, 1) := dk_3 (dk_at dksX0_countOf_4 3 rfl rfl)
theorem dX0_countOf_113 : decode cX0_countOf 113 = .ok (.iaload, 1) := dk_46 (dk_at dksX0_countOf_4 4 rfl rfl)
theorem dX0_countOf_114 : decode cX0_countOf 114 = .ok (.aload_n 0, 1) := dk_42 (dk_at dksX0_countOf_4 5 rfl rfl)
theorem dX0_countOf_115 : decode cX0_countOf 115 = .ok (.getfield 25, 3) := dk_180 0 25 (dk_at dksX0_countOf_4 6 rfl rfl)
theorem dX0_countOf_118 : decode cX0_countOf 118 = .ok (.getfield 172, 3) := dk_180 0 172 (dk_at dksX0_countOf_4 9 rfl rfl)
theorem dX0_countOf_121 : decode cX0_countOf 121 = .ok (.iconst 1, 1) := dk_4 (dk_at dksX0_countOf_4 12 rfl rfl)
theorem dX0_countOf_122 : decode cX0_countOf 122 = .ok (.iaload, 1) := dk_46 (dk_at dksX0_countOf_4 13 rfl rfl)
theorem dX0_countOf_123 : decode cX0_countOf 123 = .ok (.ior, 1) := dk_128 (dk_at dksX0_countOf_4 14 rfl rfl)
theorem dX0_countOf_124 : decode cX0_countOf 124 = .ok (.invokestatic 268, 3) := dk_184 1 12 (dk_at dksX0_countOf_4 15 rfl rfl)
theorem dX0_countOf_127 : decode cX0_countOf 127 = .ok (.ireturn, 1) := dk_172 (dk_at dksX0_countOf_4 18 rfl rfl)
theorem dX0_countOf_128 : decode cX0_countOf 128 = .ok (.aload_n 0, 1) := dk_42 (dk_at dksX0_countOf_4 19 rfl rfl)
theorem dX0_countOf_129 : decode cX0_countOf 129 = .ok (.iconst 4, 1) := dk_7 (dk_at dksX0_countOf_4 20 rfl rfl)
theorem dX0_countOf_130 : decode cX0_countOf 130 = .ok (.invokevirtual 350, 3) := dk_182 1 94 (dk_at dksX0_countOf_4 21 rfl rfl)
theorem dX0_countOf_133 : decode cX0_countOf 133 = .ok (.ireturn, 1) := dk_172 (dk_at dksX0_countOf_5 0 rfl rfl)
theorem dX0_countOf_134 : decode cX0_countOf 134 = .ok (.aload_n 0, 1) := dk_42 (dk_at dksX0_countOf_5 1 rfl rfl)
theorem dX0_countOf_135 : decode cX0_countOf 135 = .ok (.getfield 149, 3) := dk_180 0 149 (dk_at dksX0_countOf_5 2 rfl rfl)
theorem dX0_countOf_138 : decode cX0_countOf 138 = .ok (.ireturn, 1) := dk_172 (dk_at dksX0_countOf_5 5 rfl rfl)
theorem dX0_countOf_139 : decode cX0_countOf 139 = .ok (.aload_n 0, 1) := dk_42 (dk_at dksX0_countOf_5 6 rfl rfl)
theorem dX0_countOf_140 : decode cX0_countOf 140 = .ok (.getfield 107, 3) := dk_180 0 107 (dk_at dksX0_countOf_5 7 rfl rfl)
theorem dX0_countOf_143 : decode cX0_countOf 143 = .ok (.ireturn, 1) := dk_172 (dk_at dksX0_countOf_5 10 rfl rfl)
theorem dX0_countOf_144 : decode cX0_countOf 144 = .ok (.aload_n 0, 1) := dk_42 (dk_at dksX0_countOf_5 11 rfl rfl)
theorem dX0_countOf_145 : decode cX0_countOf 145 = .ok (.getfield 146, 3) := dk_180 0 146 (dk_at dksX0_countOf_5 12 rfl rfl)
theorem dX0_countOf_148 : decode cX0_countOf 148 = .ok (.ireturn, 1) := dk_172 (dk_at dksX0_countOf_5 15 rfl rfl)
theorem dX0_countOf_149 : decode cX0_countOf 149 = .ok (.aload_n 0, 1) := dk_42 (dk_at dksX0_countOf_5 16 rfl rfl)
theorem dX0_countOf_150 : decode cX0_countOf 150 = .ok (.invokevirtual 353, 3) := dk_182 1 97 (dk_at dksX0_countOf_5 17 rfl rfl)
theorem dX0_countOf_153 : decode cX0_countOf 153 = .ok (.ireturn, 1) := dk_172 (dk_at dksX0_countOf_5 20 rfl rfl)
theorem dX0_countOf_154 : decode cX0_countOf 154 = .ok (.bipush (-102), 2) := dk_16 154 (dk_at dksX0_countOf_5 21 rfl rfl)
theorem dX0_countOf_156 : decode cX0_countOf 156 = .ok (.ireturn, 1) := dk_172 (dk_at dksX0_countOf_5 23 rfl rfl)
abbrev cX0_sumOfPeople : ByteArray := prog_1_method_63_code
def yX0_sumOfPeople : MethodName := ⟨RX0, "sumOfPeople", "(I)I"⟩
def dkwX0_sumOfPeople_3 : List UInt8 := [132, 3, 1, 167, 255, 190, 28, 172]
abbrev dktX0_sumOfPeople_3 : List UInt8 := dkwX0_sumOfPeople_3 ++ []
def dkwX0_sumOfPeople_2 : List UInt8 := [167, 0, 21, 42, 180, 0, 25, 180, 0, 162, 29, 46, 2, 160, 0, 7, 3, 167, 0, 4, 4, 96, 61]
abbrev dktX0_sumOfPeople_2 : List UInt8 := dkwX0_sumOfPeople_2 ++ dktX0_sumOfPeople_3
def dkwX0_sumOfPeople_1 : List UInt8 := [180, 0, 155, 29, 46, 167, 0, 38, 27, 4, 160, 0, 15, 42, 180, 0, 25, 180, 0, 152, 29, 46]
abbrev dktX0_sumOfPeople_1 : List UInt8 := dkwX0_sumOfPeople_1 ++ dktX0_sumOfPeople_2
def dkwX0_sumOfPeople_0 : List UInt8 := [3, 61, 3, 62, 29, 42, 180, 0, 88, 162, 0, 64, 28, 27, 5, 160, 0, 15, 42, 180, 0, 25]
abbrev dktX0_sumOfPeople_0 : List UInt8 := dkwX0_sumOfPeople_0 ++ dktX0_sumOfPeople_1
theorem dksX0_sumOfPeople_0 : cX0_sumOfPeople.data.toList.drop 0 = dktX0_sumOfPeople_0 := by decide +kernel
theorem dksX0_sumOfPeople_1 : cX0_sumOfPeople.data.toList.drop 22 = dktX0_sumOfPeople_1 := dk_seg dksX0_sumOfPeople_0 22 rfl rfl
theorem dksX0_sumOfPeople_2 : cX0_sumOfPeople.data.toList.drop 44 = dktX0_sumOfPeople_2 := dk_seg dksX0_sumOfPeople_1 22 rfl rfl
theorem dksX0_sumOfPeople_3 : cX0_sumOfPeople.data.toList.drop 67 = dktX0_sumOfPeople_3 := dk_seg dksX0_sumOfPeople_2 23 rfl rfl
theorem dX0_sumOfPeople_0 : decode cX0_sumOfPeople 0 = .ok (.iconst 0, 1) := dk_3 (dk_at dksX0_sumOfPeople_0 0 rfl rfl)
theorem dX0_sumOfPeople_1 : decode cX0_sumOfPeople 1 = .ok (.istore_n 2, 1) := dk_61 (dk_at dksX0_sumOfPeople_0 1 rfl rfl)
theorem dX0_sumOfPeople_2 : decode cX0_sumOfPeople 2 = .ok (.iconst 0, 1) := dk_3 (dk_at dksX0_sumOfPeople_0 2 rfl rfl)
theorem dX0_sumOfPeople_3 : decode cX0_sumOfPeople 3 = .ok (.istore_n 3, 1) := dk_62 (dk_at dksX0_sumOfPeople_0 3 rfl rfl)
theorem dX0_sumOfPeople_4 : decode cX0_sumOfPeople 4 = .ok (.iload_n 3, 1) := dk_29 (dk_at dksX0_sumOfPeople_0 4 rfl rfl)
theorem dX0_sumOfPeople_5 : decode cX0_sumOfPeople 5 = .ok (.aload_n 0, 1) := dk_42 (dk_at dksX0_sumOfPeople_0 5 rfl rfl)
theorem dX0_sumOfPeople_6 : decode cX0_sumOfPeople 6 = .ok (.getfield 88, 3) := dk_180 0 88 (dk_at dksX0_sumOfPeople_0 6 rfl rfl)
theorem dX0_sumOfPeople_9 : decode cX0_sumOfPeople 9 = .ok (.if_icmp .ge 64, 3) := dk_162 0 64 (dk_at dksX0_sumOfPeople_0 9 rfl rfl)
theorem dX0_sumOfPeople_12 : decode cX0_sumOfPeople 12 = .ok (.iload_n 2, 1) := dk_28 (dk_at dksX0_sumOfPeople_0 12 rfl rfl)
theorem dX0_sumOfPeople_13 : decode cX0_sumOfPeople 13 = .ok (.iload_n 1, 1) := dk_27 (dk_at dksX0_sumOfPeople_0 13 rfl rfl)
theorem dX0_sumOfPeople_14 : decode cX0_sumOfPeople 14 = .ok (.iconst 2, 1) := dk_5 (dk_at dksX0_sumOfPeople_0 14 rfl rfl)
theorem dX0_sumOfPeople_15 : decode cX0_sumOfPeople 15 = .ok (.if_icmp .ne 15, 3) := dk_160 0 15 (dk_at dksX0_sumOfPeople_0 15 rfl rfl)
theorem dX0_sumOfPeople_18 : decode cX0_sumOfPeople 18 = .ok (.aload_n 0, 1) := dk_42 (dk_at dksX0_sumOfPeople_0 18 rfl rfl)
theorem dX0_sumOfPeople_19 : decode cX0_sumOfPeople 19 = .ok (.getfield 25, 3) := dk_180 0 25 (dk_at dksX0_sumOfPeople_0 19 rfl rfl)
theorem dX0_sumOfPeople_22 : decode cX0_sumOfPeople 22 = .ok (.getfield 155, 3) := dk_180 0 155 (dk_at dksX0_sumOfPeople_1 0 rfl rfl)
theorem dX0_sumOfPeople_25 : decode cX0_sumOfPeople 25 = .ok (.iload_n 3, 1) := dk_29 (dk_at dksX0_sumOfPeople_1 3 rfl rfl)
theorem dX0_sumOfPeople_26 : decode cX0_sumOfPeople 26 = .ok (.iaload, 1) := dk_46 (dk_at dksX0_sumOfPeople_1 4 rfl rfl)
theorem dX0_sumOfPeople_27 : decode cX0_sumOfPeople 27 = .ok (.goto 38, 3) := dk_167 0 38 (dk_at dksX0_sumOfPeople_1 5 rfl rfl)
theorem dX0_sumOfPeople_30 : decode cX0_sumOfPeople 30 = .ok (.iload_n 1, 1) := dk_27 (dk_at dksX0_sumOfPeople_1 8 rfl rfl)
theorem dX0_sumOfPeople_31 : decode cX0_sumOfPeople 31 = .ok (.iconst 1, 1) := dk_4 (dk_at dksX0_sumOfPeople_1 9 rfl rfl)
theorem dX0_sumOfPeople_32 : decode cX0_sumOfPeople 32 = .ok (.if_icmp .ne 15, 3) := dk_160 0 15 (dk_at dksX0_sumOfPeople_1 10 rfl rfl)
theorem dX0_sumOfPeople_35 : decode cX0_sumOfPeople 35 = .ok (.aload_n 0, 1) := dk_42 (dk_at dksX0_sumOfPeople_1 13 rfl rfl)
theorem dX0_sumOfPeople_36 : decode cX0_sumOfPeople 36 = .ok (.getfield 25, 3) := dk_180 0 25 (dk_at dksX0_sumOfPeople_1 14 rfl rfl)
theorem dX0_sumOfPeople_39 : decode cX0_sumOfPeople 39 = .ok (.getfield 152, 3) := dk_180 0 152 (dk_at dksX0_sumOfPeople_1 17 rfl rfl)
theorem dX0_sumOfPeople_42 : decode cX0_sumOfPeople 42 = .ok (.iload_n 3, 1) := dk_29 (dk_at dksX0_sumOfPeople_1 20 rfl rfl)
theorem dX0_sumOfPeople_43 : decode cX0_sumOfPeople 43 = .ok (.iaload, 1) := dk_46 (dk_at dksX0_sumOfPeople_1 21 rfl rfl)
theorem dX0_sumOfPeople_44 : decode cX0_sumOfPeople 44 = .ok (.goto 21, 3) := dk_167 0 21 (dk_at dksX0_sumOfPeople_2 0 rfl rfl)
theorem dX0_sumOfPeople_47 : decode cX0_sumOfPeople 47 = .ok (.aload_n 0, 1) := dk_42 (dk_at dksX0_sumOfPeople_2 3 rfl rfl)
theorem dX0_sumOfPeople_48 : decode cX0_sumOfPeople 48 = .ok (.getfield 25, 3) := dk_180 0 25 (dk_at dksX0_sumOfPeople_2 4 rfl rfl)
theorem dX0_sumOfPeople_51 : decode cX0_sumOfPeople 51 = .ok (.getfield 162, 3) := dk_180 0 162 (dk_at dksX0_sumOfPeople_2 7 rfl rfl)
theorem dX0_sumOfPeople_54 : decode cX0_sumOfPeople 54 = .ok (.iload_n 3, 1) := dk_29 (dk_at dksX0_sumOfPeople_2 10 rfl rfl)
theorem dX0_sumOfPeople_55 : decode cX0_sumOfPeople 55 = .ok (.iaload, 1) := dk_46 (dk_at dksX0_sumOfPeople_2 11 rfl rfl)
theorem dX0_sumOfPeople_56 : decode cX0_sumOfPeople 56 = .ok (.iconst (-1), 1) := dk_2 (dk_at dksX0_sumOfPeople_2 12 rfl rfl)
theorem dX0_sumOfPeople_57 : decode cX0_sumOfPeople 57 = .ok (.if_icmp .ne 7, 3) := dk_160 0 7 (dk_at dksX0_sumOfPeople_2 13 rfl rfl)
theorem dX0_sumOfPeople_60 : decode cX0_sumOfPeople 60 = .ok (.iconst 0, 1) := dk_3 (dk_at dksX0_sumOfPeople_2 16 rfl rfl)
theorem dX0_sumOfPeople_61 : decode cX0_sumOfPeople 61 = .ok (.goto 4, 3) := dk_167 0 4 (dk_at dksX0_sumOfPeople_2 17 rfl rfl)
theorem dX0_sumOfPeople_64 : decode cX0_sumOfPeople 64 = .ok (.iconst 1, 1) := dk_4 (dk_at dksX0_sumOfPeople_2 20 rfl rfl)
theorem dX0_sumOfPeople_65 : decode cX0_sumOfPeople 65 = .ok (.iadd, 1) := dk_96 (dk_at dksX0_sumOfPeople_2 21 rfl rfl)
theorem dX0_sumOfPeople_66 : decode cX0_sumOfPeople 66 = .ok (.istore_n 2, 1) := dk_61 (dk_at dksX0_sumOfPeople_2 22 rfl rfl)
theorem dX0_sumOfPeople_67 : decode cX0_sumOfPeople 67 = .ok (.iinc 3 1, 3) := dk_132 3 1 (dk_at dksX0_sumOfPeople_3 0 rfl rfl)
theorem dX0_sumOfPeople_70 : decode cX0_sumOfPeople 70 = .ok (.goto (-66), 3) := dk_167 255 190 (dk_at dksX0_sumOfPeople_3 3 rfl rfl)
theorem dX0_sumOfPeople_73 : decode cX0_sumOfPeople 73 = .ok (.iload_n 2, 1) := dk_28 (dk_at dksX0_sumOfPeople_3 6 rfl rfl)
theorem dX0_sumOfPeople_74 : decode cX0_sumOfPeople 74 = .ok (.ireturn, 1) := dk_172 (dk_at dksX0_sumOfPeople_3 7 rfl rfl)
abbrev cX0_lengths : ByteArray := prog_1_method_64_code
def yX0_lengths : MethodName := ⟨RX0, "lengths", "()I"⟩
def dkwX0_lengths_1 : List UInt8 := [192, 0, 85, 180, 0, 188, 96, 60, 132, 2, 1, 167, 255, 225, 27, 172]
abbrev dktX0_lengths_1 : List UInt8 := dkwX0_lengths_1 ++ []
def dkwX0_lengths_0 : List UInt8 := [3, 60, 3, 61, 28, 42, 180, 0, 16, 182, 0, 92, 162, 0, 26, 27, 42, 180, 0, 16, 28, 182, 0, 126]
abbrev dktX0_lengths_0 : List UInt8 := dkwX0_lengths_0 ++ dktX0_lengths_1
theorem dksX0_lengths_0 : cX0_lengths.data.toList.drop 0 = dktX0_lengths_0 := by decide +kernel
theorem dksX0_lengths_1 : cX0_lengths.data.toList.drop 24 = dktX0_lengths_1 := dk_seg dksX0_lengths_0 24 rfl rfl
theorem dX0_lengths_0 : decode cX0_lengths 0 = .ok (.iconst 0, 1) := dk_3 (dk_at dksX0_lengths_0 0 rfl rfl)
theorem dX0_lengths_1 : decode cX0_lengths 1 = .ok (.istore_n 1, 1) := dk_60 (dk_at dksX0_lengths_0 1 rfl rfl)
theorem dX0_lengths_2 : decode cX0_lengths 2 = .ok (.iconst 0, 1) := dk_3 (dk_at dksX0_lengths_0 2 rfl rfl)
theorem dX0_lengths_3 : decode cX0_lengths 3 = .ok (.istore_n 2, 1) := dk_61 (dk_at dksX0_lengths_0 3 rfl rfl)
theorem dX0_lengths_4 : decode cX0_lengths 4 = .ok (.iload_n 2, 1) := dk_28 (dk_at dksX0_lengths_0 4 rfl rfl)
theorem dX0_lengths_5 : decode cX0_lengths 5 = .ok (.aload_n 0, 1) := dk_42 (dk_at dksX0_lengths_0 5 rfl rfl)
theorem dX0_lengths_6 : decode cX0_lengths 6 = .ok (.getfield 16, 3) := dk_180 0 16 (dk_at dksX0_lengths_0 6 rfl rfl)
theorem dX0_lengths_9 : decode cX0_lengths 9 = .ok (.invokevirtual 92, 3) := dk_182 0 92 (dk_at dksX0_lengths_0 9 rfl rfl)
theorem dX0_lengths_12 : decode cX0_lengths 12 = .ok (.if_icmp .ge 26, 3) := dk_162 0 26 (dk_at dksX0_lengths_0 12 rfl rfl)
theorem dX0_lengths_15 : decode cX0_lengths 15 = .ok (.iload_n 1, 1) := dk_27 (dk_at dksX0_lengths_0 15 rfl rfl)
theorem dX0_lengths_16 : decode cX0_lengths 16 = .ok (.aload_n 0, 1) := dk_42 (dk_at dksX0_lengths_0 16 rfl rfl)
theorem dX0_lengths_17 : decode cX0_lengths 17 = .ok (.getfield 16, 3) := dk_180 0 16 (dk_at dksX0_lengths_0 17 rfl rfl)
theorem dX0_lengths_20 : decode cX0_lengths 20 = .ok (.iload_n 2, 1) := dk_28 (dk_at dksX0_lengths_0 20 rfl rfl)
theorem dX0_lengths_21 : decode cX0_lengths 21 = .ok (.invokevirtual 126, 3) := dk_182 0 126 (dk_at dksX0_lengths_0 21 rfl rfl)
theorem dX0_lengths_24 : decode cX0_lengths 24 = .ok (.checkcast 85, 3) := dk_192 0 85 (dk_at dksX0_lengths_1 0 rfl rfl)
theorem dX0_lengths_27 : decode cX0_lengths 27 = .ok (.getfield 188, 3) := dk_180 0 188 (dk_at dksX0_lengths_1 3 rfl rfl)
theorem dX0_lengths_30 : decode cX0_lengths 30 = .ok (.iadd, 1) := dk_96 (dk_at dksX0_lengths_1 6 rfl rfl)
theorem dX0_lengths_31 : decode cX0_lengths 31 = .ok (.istore_n 1, 1) := dk_60 (dk_at dksX0_lengths_1 7 rfl rfl)
theorem dX0_lengths_32 : decode cX0_lengths 32 = .ok (.iinc 2 1, 3) := dk_132 2 1 (dk_at dksX0_lengths_1 8 rfl rfl)
theorem dX0_lengths_35 : decode cX0_lengths 35 = .ok (.goto (-31), 3) := dk_167 255 225 (dk_at dksX0_lengths_1 11 rfl rfl)
theorem dX0_lengths_38 : decode cX0_lengths 38 = .ok (.iload_n 1, 1) := dk_27 (dk_at dksX0_lengths_1 14 rfl rfl)
theorem dX0_lengths_39 : decode cX0_lengths 39 = .ok (.ireturn, 1) := dk_172 (dk_at dksX0_lengths_1 15 rfl rfl)
abbrev cX0_digest : ByteArray := prog_1_method_70_code
def yX0_digest : MethodName := ⟨RX0, "digest", "()J"⟩
def dkwX0_digest_6 : List UInt8 := [132, 3, 1, 167, 255, 236, 31, 173]
abbrev dktX0_digest_6 : List UInt8 := dkwX0_digest_6 ++ []
def dkwX0_digest_5 : List UInt8 := [167, 255, 233, 3, 62, 29, 16, 12, 162, 0, 20, 31, 42, 29, 182, 1, 100, 133, 184, 1, 105, 64]
abbrev dktX0_digest_5 : List UInt8 := dkwX0_digest_5 ++ dktX0_digest_6
def dkwX0_digest_4 : List UInt8 := [62, 29, 42, 180, 0, 107, 162, 0, 21, 31, 42, 180, 0, 35, 29, 51, 133, 184, 1, 105, 64, 132, 3, 1]
abbrev dktX0_digest_4 : List UInt8 := dkwX0_digest_4 ++ dktX0_digest_5
def dkwX0_digest_3 : List UInt8 := [132, 3, 1, 167, 255, 214, 42, 182, 0, 96, 153, 0, 11, 42, 31, 182, 1, 115, 167, 0, 4, 31, 64, 3]
abbrev dktX0_digest_3 : List UInt8 := dkwX0_digest_3 ++ dktX0_digest_4
def dkwX0_digest_2 : List UInt8 := [162, 0, 22, 31, 42, 29, 21, 4, 182, 0, 197, 133, 184, 1, 105, 64, 132, 4, 1, 167, 255, 234]
abbrev dktX0_digest_2 : List UInt8 := dkwX0_digest_2 ++ dktX0_digest_3
def dkwX0_digest_1 : List UInt8 := [167, 255, 238, 3, 62, 29, 42, 180, 0, 16, 182, 0, 92, 162, 0, 37, 3, 54, 4, 21, 4, 8]
abbrev dktX0_digest_1 : List UInt8 := dkwX0_digest_1 ++ dktX0_digest_2
def dkwX0_digest_0 : List UInt8 := [20, 1, 109, 64, 3, 62, 29, 42, 180, 0, 88, 162, 0, 16, 42, 31, 29, 182, 1, 111, 64, 132, 3, 1]
abbrev dktX0_digest_0 : List UInt8 := dkwX0_digest_0 ++ dktX0_digest_1
theorem dksX0_digest_0 : cX0_digest.data.toList.drop 0 = dktX0_digest_0 := by decide +kernel
theorem dksX0_digest_1 : cX0_digest.data.toList.drop 24 = dktX0_digest_1 := dk_seg dksX0_digest_0 24 rfl rfl
theorem dksX0_digest_2 : cX0_digest.data.toList.drop 46 = dktX0_digest_2 := dk_seg dksX0_digest_1 22 rfl rfl
theorem dksX0_digest_3 : cX0_digest.data.toList.drop 68 = dktX0_digest_3 := dk_seg dksX0_digest_2 22 rfl rfl
theorem dksX0_digest_4 : cX0_digest.data.toList.drop 92 = dktX0_digest_4 := dk_seg dksX0_digest_3 24 rfl rfl
theorem dksX0_digest_5 : cX0_digest.data.toList.drop 116 = dktX0_digest_5 := dk_seg dksX0_digest_4 24 rfl rfl
theorem dksX0_digest_6 : cX0_digest.data.toList.drop 138 = dktX0_digest_6 := dk_seg dksX0_digest_5 22 rfl rfl
theorem dX0_digest_0 : decode cX0_digest 0 = .ok (.ldc2_w 365, 3) := dk_20 1 109 (dk_at dksX0_digest_0 0 rfl rfl)
theorem dX0_digest_3 : decode cX0_digest 3 = .ok (.lstore_n 1, 1) := dk_64 (dk_at dksX0_digest_0 3 rfl rfl)
theorem dX0_digest_4 : decode cX0_digest 4 = .ok (.iconst 0, 1) := dk_3 (dk_at dksX0_digest_0 4 rfl rfl)
theorem dX0_digest_5 : decode cX0_digest 5 = .ok (.istore_n 3, 1) := dk_62 (dk_at dksX0_digest_0 5 rfl rfl)
theorem dX0_digest_6 : decode cX0_digest 6 = .ok (.iload_n 3, 1) := dk_29 (dk_at dksX0_digest_0 6 rfl rfl)
theorem dX0_digest_7 : decode cX0_digest 7 = .ok (.aload_n 0, 1) := dk_42 (dk_at dksX0_digest_0 7 rfl rfl)
theorem dX0_digest_8 : decode cX0_digest 8 = .ok (.getfield 88, 3) := dk_180 0 88 (dk_at dksX0_digest_0 8 rfl rfl)
theorem dX0_digest_11 : decode cX0_digest 11 = .ok (.if_icmp .ge 16, 3) := dk_162 0 16 (dk_at dksX0_digest_0 11 rfl rfl)
theorem dX0_digest_14 : decode cX0_digest 14 = .ok (.aload_n 0, 1) := dk_42 (dk_at dksX0_digest_0 14 rfl rfl)
theorem dX0_digest_15 : decode cX0_digest 15 = .ok (.lload_n 1, 1) := dk_31 (dk_at dksX0_digest_0 15 rfl rfl)
theorem dX0_digest_16 : decode cX0_digest 16 = .ok (.iload_n 3, 1) := dk_29 (dk_at dksX0_digest_0 16 rfl rfl)
theorem dX0_digest_17 : decode cX0_digest 17 = .ok (.invokevirtual 367, 3) := dk_182 1 111 (dk_at dksX0_digest_0 17 rfl rfl)
theorem dX0_digest_20 : decode cX0_digest 20 = .ok (.lstore_n 1, 1) := dk_64 (dk_at dksX0_digest_0 20 rfl rfl)
theorem dX0_digest_21 : decode cX0_digest 21 = .ok (.iinc 3 1, 3) := dk_132 3 1 (dk_at dksX0_digest_0 21 rfl rfl)
theorem dX0_digest_24 : decode cX0_digest 24 = .ok (.goto (-18), 3) := dk_167 255 238 (dk_at dksX0_digest_1 0 rfl rfl)
theorem dX0_digest_27 : decode cX0_digest 27 = .ok (.iconst 0, 1) := dk_3 (dk_at dksX0_digest_1 3 rfl rfl)
theorem dX0_digest_28 : decode cX0_digest 28 = .ok (.istore_n 3, 1) := dk_62 (dk_at dksX0_digest_1 4 rfl rfl)
theorem dX0_digest_29 : decode cX0_digest 29 = .ok (.iload_n 3, 1) := dk_29 (dk_at dksX0_digest_1 5 rfl rfl)
theorem dX0_digest_30 : decode cX0_digest 30 = .ok (.aload_n 0, 1) := dk_42 (dk_at dksX0_digest_1 6 rfl rfl)
theorem dX0_digest_31 : decode cX0_digest 31 = .ok (.getfield 16, 3) := dk_180 0 16 (dk_at dksX0_digest_1 7 rfl rfl)
theorem dX0_digest_34 : decode cX0_digest 34 = .ok (.invokevirtual 92, 3) := dk_182 0 92 (dk_at dksX0_digest_1 10 rfl rfl)
theorem dX0_digest_37 : decode cX0_digest 37 = .ok (.if_icmp .ge 37, 3) := dk_162 0 37 (dk_at dksX0_digest_1 13 rfl rfl)
theorem dX0_digest_40 : decode cX0_digest 40 = .ok (.iconst 0, 1) := dk_3 (dk_at dksX0_digest_1 16 rfl rfl)
theorem dX0_digest_41 : decode cX0_digest 41 = .ok (.istore 4, 2) := dk_54 4 (dk_at dksX0_digest_1 17 rfl rfl)
theorem dX0_digest_43 : decode cX0_digest 43 = .ok (.iload 4, 2) := dk_21 4 (dk_at dksX0_digest_1 19 rfl rfl)
theorem dX0_digest_45 : decode cX0_digest 45 = .ok (.iconst 5, 1) := dk_8 (dk_at dksX0_digest_1 21 rfl rfl)
theorem dX0_digest_46 : decode cX0_digest 46 = .ok (.if_icmp .ge 22, 3) := dk_162 0 22 (dk_at dksX0_digest_2 0 rfl rfl)
theorem dX0_digest_49 : decode cX0_digest 49 = .ok (.lload_n 1, 1) := dk_31 (dk_at dksX0_digest_2 3 rfl rfl)
theorem dX0_digest_50 : decode cX0_digest 50 = .ok (.aload_n 0, 1) := dk_42 (dk_at dksX0_digest_2 4 rfl rfl)
theorem dX0_digest_51 : decode cX0_digest 51 = .ok (.iload_n 3, 1) := dk_29 (dk_at dksX0_digest_2 5 rfl rfl)
theorem dX0_digest_52 : decode cX0_digest 52 = .ok (.iload 4, 2) := dk_21 4 (dk_at dksX0_digest_2 6 rfl rfl)
theorem dX0_digest_54 : decode cX0_digest 54 = .ok (.invokevirtual 197, 3) := dk_182 0 197 (dk_at dksX0_digest_2 8 rfl rfl)
theorem dX0_digest_57 : decode cX0_digest 57 = .ok (.i2l, 1) := dk_133 (dk_at dksX0_digest_2 11 rfl rfl)
theorem dX0_digest_58 : decode cX0_digest 58 = .ok (.invokestatic 361, 3) := dk_184 1 105 (dk_at dksX0_digest_2 12 rfl rfl)
theorem dX0_digest_61 : decode cX0_digest 61 = .ok (.lstore_n 1, 1) := dk_64 (dk_at dksX0_digest_2 15 rfl rfl)
theorem dX0_digest_62 : decode cX0_digest 62 = .ok (.iinc 4 1, 3) := dk_132 4 1 (dk_at dksX0_digest_2 16 rfl rfl)
theorem dX0_digest_65 : decode cX0_digest 65 = .ok (.goto (-22), 3) := dk_167 255 234 (dk_at dksX0_digest_2 19 rfl rfl)
theorem dX0_digest_68 : decode cX0_digest 68 = .ok (.iinc 3 1, 3) := dk_132 3 1 (dk_at dksX0_digest_3 0 rfl rfl)
theorem dX0_digest_71 : decode cX0_digest 71 = .ok (.goto (-42), 3) := dk_167 255 214 (dk_at dksX0_digest_3 3 rfl rfl)
theorem dX0_digest_74 : decode cX0_digest 74 = .ok (.aload_n 0, 1) := dk_42 (dk_at dksX0_digest_3 6 rfl rfl)
theorem dX0_digest_75 : decode cX0_digest 75 = .ok (.invokevirtual 96, 3) := dk_182 0 96 (dk_at dksX0_digest_3 7 rfl rfl)
theorem dX0_digest_78 : decode cX0_digest 78 = .ok (.ifCond .eq 11, 3) := dk_153 0 11 (dk_at dksX0_digest_3 10 rfl rfl)
theorem dX0_digest_81 : decode cX0_digest 81 = .ok (.aload_n 0, 1) := dk_42 (dk_at dksX0_digest_3 13 rfl rfl)
theorem dX0_digest_82 : decode cX0_digest 82 = .ok (.lload_n 1, 1) := dk_31 (dk_at dksX0_digest_3 14 rfl rfl)
theorem dX0_digest_83 : decode cX0_digest 83 = .ok (.invokevirtual 371, 3) := dk_182 1 115 (dk_at dksX0_digest_3 15 rfl rfl)
theorem dX0_digest_86 : decode cX0_digest 86 = .ok (.goto 4, 3) := dk_167 0 4 (dk_at dksX0_digest_3 18 rfl rfl)
theorem dX0_digest_89 : decode cX0_digest 89 = .ok (.lload_n 1, 1) := dk_31 (dk_at dksX0_digest_3 21 rfl rfl)
theorem dX0_digest_90 : decode cX0_digest 90 = .ok (.lstore_n 1, 1) := dk_64 (dk_at dksX0_digest_3 22 rfl rfl)
theorem dX0_digest_91 : decode cX0_digest 91 = .ok (.iconst 0, 1) := dk_3 (dk_at dksX0_digest_3 23 rfl rfl)
theorem dX0_digest_92 : decode cX0_digest 92 = .ok (.istore_n 3, 1) := dk_62 (dk_at dksX0_digest_4 0 rfl rfl)
theorem dX0_digest_93 : decode cX0_digest 93 = .ok (.iload_n 3, 1) := dk_29 (dk_at dksX0_digest_4 1 rfl rfl)
theorem dX0_digest_94 : decode cX0_digest 94 = .ok (.aload_n 0, 1) := dk_42 (dk_at dksX0_digest_4 2 rfl rfl)
theorem dX0_digest_95 : decode cX0_digest 95 = .ok (.getfield 107, 3) := dk_180 0 107 (dk_at dksX0_digest_4 3 rfl rfl)
theorem dX0_digest_98 : decode cX0_digest 98 = .ok (.if_icmp .ge 21, 3) := dk_162 0 21 (dk_at dksX0_digest_4 6 rfl rfl)
theorem dX0_digest_101 : decode cX0_digest 101 = .ok (.lload_n 1, 1) := dk_31 (dk_at dksX0_digest_4 9 rfl rfl)
theorem dX0_digest_102 : decode cX0_digest 102 = .ok (.aload_n 0, 1) := dk_42 (dk_at dksX0_digest_4 10 rfl rfl)
theorem dX0_digest_103 : decode cX0_digest 103 = .ok (.getfield 35, 3) := dk_180 0 35 (dk_at dksX0_digest_4 11 rfl rfl)
theorem dX0_digest_106 : decode cX0_digest 106 = .ok (.iload_n 3, 1) := dk_29 (dk_at dksX0_digest_4 14 rfl rfl)
theorem dX0_digest_107 : decode cX0_digest 107 = .ok (.baload, 1) := dk_51 (dk_at dksX0_digest_4 15 rfl rfl)
theorem dX0_digest_108 : decode cX0_digest 108 = .ok (.i2l, 1) := dk_133 (dk_at dksX0_digest_4 16 rfl rfl)
theorem dX0_digest_109 : decode cX0_digest 109 = .ok (.invokestatic 361, 3) := dk_184 1 105 (dk_at dksX0_digest_4 17 rfl rfl)
theorem dX0_digest_112 : decode cX0_digest 112 = .ok (.lstore_n 1, 1) := dk_64 (dk_at dksX0_digest_4 20 rfl rfl)
theorem dX0_digest_113 : decode cX0_digest 113 = .ok (.iinc 3 1, 3) := dk_132 3 1 (dk_at dksX0_digest_4 21 rfl rfl)
theorem dX0_digest_116 : decode cX0_digest 116 = .ok (.goto (-23), 3) := dk_167 255 233 (dk_at dksX0_digest_5 0 rfl rfl)
theorem dX0_digest_119 : decode cX0_digest 119 = .ok (.iconst 0, 1) := dk_3 (dk_at dksX0_digest_5 3 rfl rfl)
theorem dX0_digest_120 : decode cX0_digest 120 = .ok (.istore_n 3, 1) := dk_62 (dk_at dksX0_digest_5 4 rfl rfl)
theorem dX0_digest_121 : decode cX0_digest 121 = .ok (.iload_n 3, 1) := dk_29 (dk_at dksX0_digest_5 5 rfl rfl)
theorem dX0_digest_122 : decode cX0_digest 122 = .ok (.bipush 12, 2) := dk_16 12 (dk_at dksX0_digest_5 6 rfl rfl)
theorem dX0_digest_124 : decode cX0_digest 124 = .ok (.if_icmp .ge 20, 3) := dk_162 0 20 (dk_at dksX0_digest_5 8 rfl rfl)
theorem dX0_digest_127 : decode cX0_digest 127 = .ok (.lload_n 1, 1) := dk_31 (dk_at dksX0_digest_5 11 rfl rfl)
theorem dX0_digest_128 : decode cX0_digest 128 = .ok (.aload_n 0, 1) := dk_42 (dk_at dksX0_digest_5 12 rfl rfl)
theorem dX0_digest_129 : decode cX0_digest 129 = .ok (.iload_n 3, 1) := dk_29 (dk_at dksX0_digest_5 13 rfl rfl)
theorem dX0_digest_130 : decode cX0_digest 130 = .ok (.invokevirtual 356, 3) := dk_182 1 100 (dk_at dksX0_digest_5 14 rfl rfl)
theorem dX0_digest_133 : decode cX0_digest 133 = .ok (.i2l, 1) := dk_133 (dk_at dksX0_digest_5 17 rfl rfl)
theorem dX0_digest_134 : decode cX0_digest 134 = .ok (.invokestatic 361, 3) := dk_184 1 105 (dk_at dksX0_digest_5 18 rfl rfl)
theorem dX0_digest_137 : decode cX0_digest 137 = .ok (.lstore_n 1, 1) := dk_64 (dk_at dksX0_digest_5 21 rfl rfl)
theorem dX0_digest_138 : decode cX0_digest 138 = .ok (.iinc 3 1, 3) := dk_132 3 1 (dk_at dksX0_digest_6 0 rfl rfl)
theorem dX0_digest_141 : decode cX0_digest 141 = .ok (.goto (-20), 3) := dk_167 255 236 (dk_at dksX0_digest_6 3 rfl rfl)
theorem dX0_digest_144 : decode cX0_digest 144 = .ok (.lload_n 1, 1) := dk_31 (dk_at dksX0_digest_6 6 rfl rfl)
theorem dX0_digest_145 : decode cX0_digest 145 = .ok (.lreturn, 1) := dk_173 (dk_at dksX0_digest_6 7 rfl rfl)
abbrev cX0_mixedPerson : ByteArray := prog_1_method_68_code
def yX0_mixedPerson : MethodName := ⟨RX0, "mixedPerson", "(JI)J"⟩
def dkwX0_mixedPerson_6 : List UInt8 := [184, 1, 105, 55, 4, 132, 6, 1, 167, 255, 184, 22, 4, 173]
abbrev dktX0_mixedPerson_6 : List UInt8 := dkwX0_mixedPerson_6 ++ []
def dkwX0_mixedPerson_5 : List UInt8 := [42, 29, 3, 21, 6, 3, 182, 0, 252, 133, 184, 1, 105, 42, 29, 3, 21, 6, 182, 1, 5, 133]
abbrev dktX0_mixedPerson_5 : List UInt8 := dkwX0_mixedPerson_5 ++ dktX0_mixedPerson_6
def dkwX0_mixedPerson_4 : List UInt8 := [42, 29, 3, 21, 6, 21, 7, 182, 0, 231, 133, 184, 1, 105, 55, 4, 132, 7, 1, 167, 255, 229, 22, 4]
abbrev dktX0_mixedPerson_4 : List UInt8 := dkwX0_mixedPerson_4 ++ dktX0_mixedPerson_5
def dkwX0_mixedPerson_3 : List UInt8 := [167, 255, 223, 4, 54, 6, 21, 6, 16, 8, 162, 0, 71, 3, 54, 7, 21, 7, 6, 162, 0, 27, 22, 4]
abbrev dktX0_mixedPerson_3 : List UInt8 := dkwX0_mixedPerson_3 ++ dktX0_mixedPerson_4
def dkwX0_mixedPerson_2 : List UInt8 := [162, 0, 27, 22, 4, 42, 180, 0, 25, 29, 21, 6, 182, 0, 203, 133, 184, 1, 105, 55, 4, 132, 6, 1]
abbrev dktX0_mixedPerson_2 : List UInt8 := dkwX0_mixedPerson_2 ++ dktX0_mixedPerson_3
def dkwX0_mixedPerson_1 : List UInt8 := [184, 1, 105, 55, 4, 132, 6, 1, 167, 255, 231, 3, 54, 6, 21, 6, 42, 180, 0, 16, 182, 0, 92]
abbrev dktX0_mixedPerson_1 : List UInt8 := dkwX0_mixedPerson_1 ++ dktX0_mixedPerson_2
def dkwX0_mixedPerson_0 : List UInt8 := [31, 55, 4, 3, 54, 6, 21, 6, 16, 6, 162, 0, 24, 22, 4, 42, 29, 21, 6, 182, 0, 168, 133]
abbrev dktX0_mixedPerson_0 : List UInt8 := dkwX0_mixedPerson_0 ++ dktX0_mixedPerson_1
theorem dksX0_mixedPerson_0 : cX0_mixedPerson.data.toList.drop 0 = dktX0_mixedPerson_0 := by decide +kernel
theorem dksX0_mixedPerson_1 : cX0_mixedPerson.data.toList.drop 23 = dktX0_mixedPerson_1 := dk_seg dksX0_mixedPerson_0 23 rfl rfl
theorem dksX0_mixedPerson_2 : cX0_mixedPerson.data.toList.drop 46 = dktX0_mixedPerson_2 := dk_seg dksX0_mixedPerson_1 23 rfl rfl
theorem dksX0_mixedPerson_3 : cX0_mixedPerson.data.toList.drop 70 = dktX0_mixedPerson_3 := dk_seg dksX0_mixedPerson_2 24 rfl rfl
theorem dksX0_mixedPerson_4 : cX0_mixedPerson.data.toList.drop 94 = dktX0_mixedPerson_4 := dk_seg dksX0_mixedPerson_3 24 rfl rfl
theorem dksX0_mixedPerson_5 : cX0_mixedPerson.data.toList.drop 118 = dktX0_mixedPerson_5 := dk_seg dksX0_mixedPerson_4 24 rfl rfl
theorem dksX0_mixedPerson_6 : cX0_mixedPerson.data.toList.drop 140 = dktX0_mixedPerson_6 := dk_seg dksX0_mixedPerson_5 22 rfl rfl
theorem dX0_mixedPerson_0 : decode cX0_mixedPerson 0 = .ok (.lload_n 1, 1) := dk_31 (dk_at dksX0_mixedPerson_0 0 rfl rfl)
theorem dX0_mixedPerson_1 : decode cX0_mixedPerson 1 = .ok (.lstore 4, 2) := dk_55 4 (dk_at dksX0_mixedPerson_0 1 rfl rfl)
theorem dX0_mixedPerson_3 : decode cX0_mixedPerson 3 = .ok (.iconst 0, 1) := dk_3 (dk_at dksX0_mixedPerson_0 3 rfl rfl)
theorem dX0_mixedPerson_4 : decode cX0_mixedPerson 4 = .ok (.istore 6, 2) := dk_54 6 (dk_at dksX0_mixedPerson_0 4 rfl rfl)
theorem dX0_mixedPerson_6 : decode cX0_mixedPerson 6 = .ok (.iload 6, 2) := dk_21 6 (dk_at dksX0_mixedPerson_0 6 rfl rfl)
theorem dX0_mixedPerson_8 : decode cX0_mixedPerson 8 = .ok (.bipush 6, 2) := dk_16 6 (dk_at dksX0_mixedPerson_0 8 rfl rfl)
theorem dX0_mixedPerson_10 : decode cX0_mixedPerson 10 = .ok (.if_icmp .ge 24, 3) := dk_162 0 24 (dk_at dksX0_mixedPerson_0 10 rfl rfl)
theorem dX0_mixedPerson_13 : decode cX0_mixedPerson 13 = .ok (.lload 4, 2) := dk_22 4 (dk_at dksX0_mixedPerson_0 13 rfl rfl)
theorem dX0_mixedPerson_15 : decode cX0_mixedPerson 15 = .ok (.aload_n 0, 1) := dk_42 (dk_at dksX0_mixedPerson_0 15 rfl rfl)
theorem dX0_mixedPerson_16 : decode cX0_mixedPerson 16 = .ok (.iload_n 3, 1) := dk_29 (dk_at dksX0_mixedPerson_0 16 rfl rfl)
theorem dX0_mixedPerson_17 : decode cX0_mixedPerson 17 = .ok (.iload 6, 2) := dk_21 6 (dk_at dksX0_mixedPerson_0 17 rfl rfl)
theorem dX0_mixedPerson_19 : decode cX0_mixedPerson 19 = .ok (.invokevirtual 168, 3) := dk_182 0 168 (dk_at dksX0_mixedPerson_0 19 rfl rfl)
theorem dX0_mixedPerson_22 : decode cX0_mixedPerson 22 = .ok (.i2l, 1) := dk_133 (dk_at dksX0_mixedPerson_0 22 rfl rfl)
theorem dX0_mixedPerson_23 : decode cX0_mixedPerson 23 = .ok (.invokestatic 361, 3) := dk_184 1 105 (dk_at dksX0_mixedPerson_1 0 rfl rfl)
theorem dX0_mixedPerson_26 : decode cX0_mixedPerson 26 = .ok (.lstore 4, 2) := dk_55 4 (dk_at dksX0_mixedPerson_1 3 rfl rfl)
theorem dX0_mixedPerson_28 : decode cX0_mixedPerson 28 = .ok (.iinc 6 1, 3) := dk_132 6 1 (dk_at dksX0_mixedPerson_1 5 rfl rfl)
theorem dX0_mixedPerson_31 : decode cX0_mixedPerson 31 = .ok (.goto (-25), 3) := dk_167 255 231 (dk_at dksX0_mixedPerson_1 8 rfl rfl)
theorem dX0_mixedPerson_34 : decode cX0_mixedPerson 34 = .ok (.iconst 0, 1) := dk_3 (dk_at dksX0_mixedPerson_1 11 rfl rfl)
theorem dX0_mixedPerson_35 : decode cX0_mixedPerson 35 = .ok (.istore 6, 2) := dk_54 6 (dk_at dksX0_mixedPerson_1 12 rfl rfl)
theorem dX0_mixedPerson_37 : decode cX0_mixedPerson 37 = .ok (.iload 6, 2) := dk_21 6 (dk_at dksX0_mixedPerson_1 14 rfl rfl)
theorem dX0_mixedPerson_39 : decode cX0_mixedPerson 39 = .ok (.aload_n 0, 1) := dk_42 (dk_at dksX0_mixedPerson_1 16 rfl rfl)
theorem dX0_mixedPerson_40 : decode cX0_mixedPerson 40 = .ok (.getfield 16, 3) := dk_180 0 16 (dk_at dksX0_mixedPerson_1 17 rfl rfl)
theorem dX0_mixedPerson_43 : decode cX0_mixedPerson 43 = .ok (.invokevirtual 92, 3) := dk_182 0 92 (dk_at dksX0_mixedPerson_1 20 rfl rfl)
theorem dX0_mixedPerson_46 : decode cX0_mixedPerson 46 = .ok (.if_icmp .ge 27, 3) := dk_162 0 27 (dk_at dksX0_mixedPerson_2 0 rfl rfl)
theorem dX0_mixedPerson_49 : decode cX0_mixedPerson 49 = .ok (.lload 4, 2) := dk_22 4 (dk_at dksX0_mixedPerson_2 3 rfl rfl)
theorem dX0_mixedPerson_51 : decode cX0_mixedPerson 51 = .ok (.aload_n 0, 1) := dk_42 (dk_at dksX0_mixedPerson_2 5 rfl rfl)
theorem dX0_mixedPerson_52 : decode cX0_mixedPerson 52 = .ok (.getfield 25, 3) := dk_180 0 25 (dk_at dksX0_mixedPerson_2 6 rfl rfl)
theorem dX0_mixedPerson_55 : decode cX0_mixedPerson 55 = .ok (.iload_n 3, 1) := dk_29 (dk_at dksX0_mixedPerson_2 9 rfl rfl)
theorem dX0_mixedPerson_56 : decode cX0_mixedPerson 56 = .ok (.iload 6, 2) := dk_21 6 (dk_at dksX0_mixedPerson_2 10 rfl rfl)
theorem dX0_mixedPerson_58 : decode cX0_mixedPerson 58 = .ok (.invokevirtual 203, 3) := dk_182 0 203 (dk_at dksX0_mixedPerson_2 12 rfl rfl)
theorem dX0_mixedPerson_61 : decode cX0_mixedPerson 61 = .ok (.i2l, 1) := dk_133 (dk_at dksX0_mixedPerson_2 15 rfl rfl)
theorem dX0_mixedPerson_62 : decode cX0_mixedPerson 62 = .ok (.invokestatic 361, 3) := dk_184 1 105 (dk_at dksX0_mixedPerson_2 16 rfl rfl)
theorem dX0_mixedPerson_65 : decode cX0_mixedPerson 65 = .ok (.lstore 4, 2) := dk_55 4 (dk_at dksX0_mixedPerson_2 19 rfl rfl)
theorem dX0_mixedPerson_67 : decode cX0_mixedPerson 67 = .ok (.iinc 6 1, 3) := dk_132 6 1 (dk_at dksX0_mixedPerson_2 21 rfl rfl)
theorem dX0_mixedPerson_70 : decode cX0_mixedPerson 70 = .ok (.goto (-33), 3) := dk_167 255 223 (dk_at dksX0_mixedPerson_3 0 rfl rfl)
theorem dX0_mixedPerson_73 : decode cX0_mixedPerson 73 = .ok (.iconst 1, 1) := dk_4 (dk_at dksX0_mixedPerson_3 3 rfl rfl)
theorem dX0_mixedPerson_74 : decode cX0_mixedPerson 74 = .ok (.istore 6, 2) := dk_54 6 (dk_at dksX0_mixedPerson_3 4 rfl rfl)
theorem dX0_mixedPerson_76 : decode cX0_mixedPerson 76 = .ok (.iload 6, 2) := dk_21 6 (dk_at dksX0_mixedPerson_3 6 rfl rfl)
theorem dX0_mixedPerson_78 : decode cX0_mixedPerson 78 = .ok (.bipush 8, 2) := dk_16 8 (dk_at dksX0_mixedPerson_3 8 rfl rfl)
theorem dX0_mixedPerson_80 : decode cX0_mixedPerson 80 = .ok (.if_icmp .ge 71, 3) := dk_162 0 71 (dk_at dksX0_mixedPerson_3 10 rfl rfl)
theorem dX0_mixedPerson_83 : decode cX0_mixedPerson 83 = .ok (.iconst 0, 1) := dk_3 (dk_at dksX0_mixedPerson_3 13 rfl rfl)
theorem dX0_mixedPerson_84 : decode cX0_mixedPerson 84 = .ok (.istore 7, 2) := dk_54 7 (dk_at dksX0_mixedPerson_3 14 rfl rfl)
theorem dX0_mixedPerson_86 : decode cX0_mixedPerson 86 = .ok (.iload 7, 2) := dk_21 7 (dk_at dksX0_mixedPerson_3 16 rfl rfl)
theorem dX0_mixedPerson_88 : decode cX0_mixedPerson 88 = .ok (.iconst 3, 1) := dk_6 (dk_at dksX0_mixedPerson_3 18 rfl rfl)
theorem dX0_mixedPerson_89 : decode cX0_mixedPerson 89 = .ok (.if_icmp .ge 27, 3) := dk_162 0 27 (dk_at dksX0_mixedPerson_3 19 rfl rfl)
theorem dX0_mixedPerson_92 : decode cX0_mixedPerson 92 = .ok (.lload 4, 2) := dk_22 4 (dk_at dksX0_mixedPerson_3 22 rfl rfl)
theorem dX0_mixedPerson_94 : decode cX0_mixedPerson 94 = .ok (.aload_n 0, 1) := dk_42 (dk_at dksX0_mixedPerson_4 0 rfl rfl)
theorem dX0_mixedPerson_95 : decode cX0_mixedPerson 95 = .ok (.iload_n 3, 1) := dk_29 (dk_at dksX0_mixedPerson_4 1 rfl rfl)
theorem dX0_mixedPerson_96 : decode cX0_mixedPerson 96 = .ok (.iconst 0, 1) := dk_3 (dk_at dksX0_mixedPerson_4 2 rfl rfl)
theorem dX0_mixedPerson_97 : decode cX0_mixedPerson 97 = .ok (.iload 6, 2) := dk_21 6 (dk_at dksX0_mixedPerson_4 3 rfl rfl)
theorem dX0_mixedPerson_99 : decode cX0_mixedPerson 99 = .ok (.iload 7, 2) := dk_21 7 (dk_at dksX0_mixedPerson_4 5 rfl rfl)
theorem dX0_mixedPerson_101 : decode cX0_mixedPerson 101 = .ok (.invokevirtual 231, 3) := dk_182 0 231 (dk_at dksX0_mixedPerson_4 7 rfl rfl)
theorem dX0_mixedPerson_104 : decode cX0_mixedPerson 104 = .ok (.i2l, 1) := dk_133 (dk_at dksX0_mixedPerson_4 10 rfl rfl)
theorem dX0_mixedPerson_105 : decode cX0_mixedPerson 105 = .ok (.invokestatic 361, 3) := dk_184 1 105 (dk_at dksX0_mixedPerson_4 11 rfl rfl)
theorem dX0_mixedPerson_108 : decode cX0_mixedPerson 108 = .ok (.lstore 4, 2) := dk_55 4 (dk_at dksX0_mixedPerson_4 14 rfl rfl)
theorem dX0_mixedPerson_110 : decode cX0_mixedPerson 110 = .ok (.iinc 7 1, 3) := dk_132 7 1 (dk_at dksX0_mixedPerson_4 16 rfl rfl)
theorem dX0_mixedPerson_113 : decode cX0_mixedPerson 113 = .ok (.goto (-27), 3) := dk_167 255 229 (dk_at dksX0_mixedPerson_4 19 rfl rfl)
theorem dX0_mixedPerson_116 : decode cX0_mixedPerson 116 = .ok (.lload 4, 2) := dk_22 4 (dk_at dksX0_mixedPerson_4 22 rfl rfl)
theorem dX0_mixedPerson_118 : decode cX0_mixedPerson 118 = .ok (.aload_n 0, 1) := dk_42 (dk_at dksX0_mixedPerson_5 0 rfl rfl)
theorem dX0_mixedPerson_119 : decode cX0_mixedPerson 119 = .ok (.iload_n 3, 1) := dk_29 (dk_at dksX0_mixedPerson_5 1 rfl rfl)
theorem dX0_mixedPerson_120 : decode cX0_mixedPerson 120 = .ok (.iconst 0, 1) := dk_3 (dk_at dksX0_mixedPerson_5 2 rfl rfl)
theorem dX0_mixedPerson_121 : decode cX0_mixedPerson 121 = .ok (.iload 6, 2) := dk_21 6 (dk_at dksX0_mixedPerson_5 3 rfl rfl)
theorem dX0_mixedPerson_123 : decode cX0_mixedPerson 123 = .ok (.iconst 0, 1) := dk_3 (dk_at dksX0_mixedPerson_5 5 rfl rfl)
theorem dX0_mixedPerson_124 : decode cX0_mixedPerson 124 = .ok (.invokevirtual 252, 3) := dk_182 0 252 (dk_at dksX0_mixedPerson_5 6 rfl rfl)
theorem dX0_mixedPerson_127 : decode cX0_mixedPerson 127 = .ok (.i2l, 1) := dk_133 (dk_at dksX0_mixedPerson_5 9 rfl rfl)
theorem dX0_mixedPerson_128 : decode cX0_mixedPerson 128 = .ok (.invokestatic 361, 3) := dk_184 1 105 (dk_at dksX0_mixedPerson_5 10 rfl rfl)
theorem dX0_mixedPerson_131 : decode cX0_mixedPerson 131 = .ok (.aload_n 0, 1) := dk_42 (dk_at dksX0_mixedPerson_5 13 rfl rfl)
theorem dX0_mixedPerson_132 : decode cX0_mixedPerson 132 = .ok (.iload_n 3, 1) := dk_29 (dk_at dksX0_mixedPerson_5 14 rfl rfl)
theorem dX0_mixedPerson_133 : decode cX0_mixedPerson 133 = .ok (.iconst 0, 1) := dk_3 (dk_at dksX0_mixedPerson_5 15 rfl rfl)
theorem dX0_mixedPerson_134 : decode cX0_mixedPerson 134 = .ok (.iload 6, 2) := dk_21 6 (dk_at dksX0_mixedPerson_5 16 rfl rfl)
theorem dX0_mixedPerson_136 : decode cX0_mixedPerson 136 = .ok (.invokevirtual 261, 3) := dk_182 1 5 (dk_at dksX0_mixedPerson_5 18 rfl rfl)
theorem dX0_mixedPerson_139 : decode cX0_mixedPerson 139 = .ok (.i2l, 1) := dk_133 (dk_at dksX0_mixedPerson_5 21 rfl rfl)
theorem dX0_mixedPerson_140 : decode cX0_mixedPerson 140 = .ok (.invokestatic 361, 3) := dk_184 1 105 (dk_at dksX0_mixedPerson_6 0 rfl rfl)
theorem dX0_mixedPerson_143 : decode cX0_mixedPerson 143 = .ok (.lstore 4, 2) := dk_55 4 (dk_at dksX0_mixedPerson_6 3 rfl rfl)
theorem dX0_mixedPerson_145 : decode cX0_mixedPerson 145 = .ok (.iinc 6 1, 3) := dk_132 6 1 (dk_at dksX0_mixedPerson_6 5 rfl rfl)
theorem dX0_mixedPerson_148 : decode cX0_mixedPerson 148 = .ok (.goto (-72), 3) := dk_167 255 184 (dk_at dksX0_mixedPerson_6 8 rfl rfl)
theorem dX0_mixedPerson_151 : decode cX0_mixedPerson 151 = .ok (.lload 4, 2) := dk_22 4 (dk_at dksX0_mixedPerson_6 11 rfl rfl)
theorem dX0_mixedPerson_153 : decode cX0_mixedPerson 153 = .ok (.lreturn, 1) := dk_173 (dk_at dksX0_mixedPerson_6 13 rfl rfl)
abbrev cX0_mixed : ByteArray := prog_1_method_67_code
def yX0_mixed : MethodName := ⟨RX0, "mixed", "(JJ)J"⟩
def dkwX0_mixed_0 : List UInt8 := [20, 1, 103, 30, 105, 32, 97, 173]
abbrev dktX0_mixed_0 : List UInt8 := dkwX0_mixed_0 ++ []
theorem dksX0_mixed_0 : cX0_mixed.data.toList.drop 0 = dktX0_mixed_0 := by decide +kernel
theorem dX0_mixed_0 : decode cX0_mixed 0 = .ok (.ldc2_w 359, 3) := dk_20 1 103 (dk_at dksX0_mixed_0 0 rfl rfl)
theorem dX0_mixed_3 : decode cX0_mixed 3 = .ok (.lload_n 0, 1) := dk_30 (dk_at dksX0_mixed_0 3 rfl rfl)
theorem dX0_mixed_4 : decode cX0_mixed 4 = .ok (.lmul, 1) := dk_105 (dk_at dksX0_mixed_0 4 rfl rfl)
theorem dX0_mixed_5 : decode cX0_mixed 5 = .ok (.lload_n 2, 1) := dk_32 (dk_at dksX0_mixed_0 5 rfl rfl)
theorem dX0_mixed_6 : decode cX0_mixed 6 = .ok (.ladd, 1) := dk_97 (dk_at dksX0_mixed_0 6 rfl rfl)
theorem dX0_mixed_7 : decode cX0_mixed 7 = .ok (.lreturn, 1) := dk_173 (dk_at dksX0_mixed_0 7 rfl rfl)
abbrev cX0_mixedDrivers : ByteArray := prog_1_method_69_code
def yX0_mixedDrivers : MethodName := ⟨RX0, "mixedDrivers", "(J)J"⟩
def dkwX0_mixedDrivers_3 : List UInt8 := [16, 10, 182, 1, 51, 133, 184, 1, 105, 42, 16, 11, 182, 1, 51, 133, 184, 1, 105, 173]
abbrev dktX0_mixedDrivers_3 : List UInt8 := dkwX0_mixedDrivers_3 ++ []
def dkwX0_mixedDrivers_2 : List UInt8 := [42, 182, 1, 48, 33, 42, 3, 182, 1, 51, 133, 184, 1, 105, 42, 4, 182, 1, 51, 133, 184, 1, 105, 42]
abbrev dktX0_mixedDrivers_2 : List UInt8 := dkwX0_mixedDrivers_2 ++ dktX0_mixedDrivers_3
def dkwX0_mixedDrivers_1 : List UInt8 := [21, 5, 21, 6, 182, 1, 32, 133, 184, 1, 105, 66, 132, 6, 1, 167, 255, 232, 132, 5, 1, 167, 255, 217]
abbrev dktX0_mixedDrivers_1 : List UInt8 := dkwX0_mixedDrivers_1 ++ dktX0_mixedDrivers_2
def dkwX0_mixedDrivers_0 : List UInt8 := [31, 66, 3, 54, 5, 21, 5, 5, 162, 0, 39, 3, 54, 6, 21, 6, 16, 6, 162, 0, 23, 33, 42]
abbrev dktX0_mixedDrivers_0 : List UInt8 := dkwX0_mixedDrivers_0 ++ dktX0_mixedDrivers_1
theorem dksX0_mixedDrivers_0 : cX0_mixedDrivers.data.toList.drop 0 = dktX0_mixedDrivers_0 := by decide +kernel
theorem dksX0_mixedDrivers_1 : cX0_mixedDrivers.data.toList.drop 23 = dktX0_mixedDrivers_1 := dk_seg dksX0_mixedDrivers_0 23 rfl rfl
theorem dksX0_mixedDrivers_2 : cX0_mixedDrivers.data.toList.drop 47 = dktX0_mixedDrivers_2 := dk_seg dksX0_mixedDrivers_1 24 rfl rfl
theorem dksX0_mixedDrivers_3 : cX0_mixedDrivers.data.toList.drop 71 = dktX0_mixedDrivers_3 := dk_seg dksX0_mixedDrivers_2 24 rfl rfl
theorem dX0_mixedDrivers_0 : decode cX0_mixedDrivers 0 = .ok (.lload_n 1, 1) := dk_31 (dk_at dksX0_mixedDrivers_0 0 rfl rfl)
theorem dX0_mixedDrivers_1 : decode cX0_mixedDrivers 1 = .ok (.lstore_n 3, 1) := dk_66 (dk_at dksX0_mixedDrivers_0 1 rfl rfl)
theorem dX0_mixedDrivers_2 : decode cX0_mixedDrivers 2 = .ok (.iconst 0, 1) := dk_3 (dk_at dksX0_mixedDrivers_0 2 rfl rfl)
theorem dX0_mixedDrivers_3 : decode cX0_mixedDrivers 3 = .ok (.istore 5, 2) := dk_54 5 (dk_at dksX0_mixedDrivers_0 3 rfl rfl)
theorem dX0_mixedDrivers_5 : decode cX0_mixedDrivers 5 = .ok (.iload 5, 2) := dk_21 5 (dk_at dksX0_mixedDrivers_0 5 rfl rfl)
theorem dX0_mixedDrivers_7 : decode cX0_mixedDrivers 7 = .ok (.iconst 2, 1) := dk_5 (dk_at dksX0_mixedDrivers_0 7 rfl rfl)
theorem dX0_mixedDrivers_8 : decode cX0_mixedDrivers 8 = .ok (.if_icmp .ge 39, 3) := dk_162 0 39 (dk_at dksX0_mixedDrivers_0 8 rfl rfl)
theorem dX0_mixedDrivers_11 : decode cX0_mixedDrivers 11 = .ok (.iconst 0, 1) := dk_3 (dk_at dksX0_mixedDrivers_0 11 rfl rfl)
theorem dX0_mixedDrivers_12 : decode cX0_mixedDrivers 12 = .ok (.istore 6, 2) := dk_54 6 (dk_at dksX0_mixedDrivers_0 12 rfl rfl)
theorem dX0_mixedDrivers_14 : decode cX0_mixedDrivers 14 = .ok (.iload 6, 2) := dk_21 6 (dk_at dksX0_mixedDrivers_0 14 rfl rfl)
theorem dX0_mixedDrivers_16 : decode cX0_mixedDrivers 16 = .ok (.bipush 6, 2) := dk_16 6 (dk_at dksX0_mixedDrivers_0 16 rfl rfl)
theorem dX0_mixedDrivers_18 : decode cX0_mixedDrivers 18 = .ok (.if_icmp .ge 23, 3) := dk_162 0 23 (dk_at dksX0_mixedDrivers_0 18 rfl rfl)
theorem dX0_mixedDrivers_21 : decode cX0_mixedDrivers 21 = .ok (.lload_n 3, 1) := dk_33 (dk_at dksX0_mixedDrivers_0 21 rfl rfl)
theorem dX0_mixedDrivers_22 : decode cX0_mixedDrivers 22 = .ok (.aload_n 0, 1) := dk_42 (dk_at dksX0_mixedDrivers_0 22 rfl rfl)
theorem dX0_mixedDrivers_23 : decode cX0_mixedDrivers 23 = .ok (.iload 5, 2) := dk_21 5 (dk_at dksX0_mixedDrivers_1 0 rfl rfl)
theorem dX0_mixedDrivers_25 : decode cX0_mixedDrivers 25 = .ok (.iload 6, 2) := dk_21 6 (dk_at dksX0_mixedDrivers_1 2 rfl rfl)
theorem dX0_mixedDrivers_27 : decode cX0_mixedDrivers 27 = .ok (.invokevirtual 288, 3) := dk_182 1 32 (dk_at dksX0_mixedDrivers_1 4 rfl rfl)
theorem dX0_mixedDrivers_30 : decode cX0_mixedDrivers 30 = .ok (.i2l, 1) := dk_133 (dk_at dksX0_mixedDrivers_1 7 rfl rfl)
theorem dX0_mixedDrivers_31 : decode cX0_mixedDrivers 31 = .ok (.invokestatic 361, 3) := dk_184 1 105 (dk_at dksX0_mixedDrivers_1 8 rfl rfl)
theorem dX0_mixedDrivers_34 : decode cX0_mixedDrivers 34 = .ok (.lstore_n 3, 1) := dk_66 (dk_at dksX0_mixedDrivers_1 11 rfl rfl)
theorem dX0_mixedDrivers_35 : decode cX0_mixedDrivers 35 = .ok (.iinc 6 1, 3) := dk_132 6 1 (dk_at dksX0_mixedDrivers_1 12 rfl rfl)
theorem dX0_mixedDrivers_38 : decode cX0_mixedDrivers 38 = .ok (.goto (-24), 3) := dk_167 255 232 (dk_at dksX0_mixedDrivers_1 15 rfl rfl)
theorem dX0_mixedDrivers_41 : decode cX0_mixedDrivers 41 = .ok (.iinc 5 1, 3) := dk_132 5 1 (dk_at dksX0_mixedDrivers_1 18 rfl rfl)
theorem dX0_mixedDrivers_44 : decode cX0_mixedDrivers 44 = .ok (.goto (-39), 3) := dk_167 255 217 (dk_at dksX0_mixedDrivers_1 21 rfl rfl)
theorem dX0_mixedDrivers_47 : decode cX0_mixedDrivers 47 = .ok (.aload_n 0, 1) := dk_42 (dk_at dksX0_mixedDrivers_2 0 rfl rfl)
theorem dX0_mixedDrivers_48 : decode cX0_mixedDrivers 48 = .ok (.invokevirtual 304, 3) := dk_182 1 48 (dk_at dksX0_mixedDrivers_2 1 rfl rfl)
theorem dX0_mixedDrivers_51 : decode cX0_mixedDrivers 51 = .ok (.lload_n 3, 1) := dk_33 (dk_at dksX0_mixedDrivers_2 4 rfl rfl)
theorem dX0_mixedDrivers_52 : decode cX0_mixedDrivers 52 = .ok (.aload_n 0, 1) := dk_42 (dk_at dksX0_mixedDrivers_2 5 rfl rfl)
theorem dX0_mixedDrivers_53 : decode cX0_mixedDrivers 53 = .ok (.iconst 0, 1) := dk_3 (dk_at dksX0_mixedDrivers_2 6 rfl rfl)
theorem dX0_mixedDrivers_54 : decode cX0_mixedDrivers 54 = .ok (.invokevirtual 307, 3) := dk_182 1 51 (dk_at dksX0_mixedDrivers_2 7 rfl rfl)
theorem dX0_mixedDrivers_57 : decode cX0_mixedDrivers 57 = .ok (.i2l, 1) := dk_133 (dk_at dksX0_mixedDrivers_2 10 rfl rfl)
theorem dX0_mixedDrivers_58 : decode cX0_mixedDrivers 58 = .ok (.invokestatic 361, 3) := dk_184 1 105 (dk_at dksX0_mixedDrivers_2 11 rfl rfl)
theorem dX0_mixedDrivers_61 : decode cX0_mixedDrivers 61 = .ok (.aload_n 0, 1) := dk_42 (dk_at dksX0_mixedDrivers_2 14 rfl rfl)
theorem dX0_mixedDrivers_62 : decode cX0_mixedDrivers 62 = .ok (.iconst 1, 1) := dk_4 (dk_at dksX0_mixedDrivers_2 15 rfl rfl)
theorem dX0_mixedDrivers_63 : decode cX0_mixedDrivers 63 = .ok (.invokevirtual 307, 3) := dk_182 1 51 (dk_at dksX0_mixedDrivers_2 16 rfl rfl)
theorem dX0_mixedDrivers_66 : decode cX0_mixedDrivers 66 = .ok (.i2l, 1) := dk_133 (dk_at dksX0_mixedDrivers_2 19 rfl rfl)
theorem dX0_mixedDrivers_67 : decode cX0_mixedDrivers 67 = .ok (.invokestatic 361, 3) := dk_184 1 105 (dk_at dksX0_mixedDrivers_2 20 rfl rfl)
theorem dX0_mixedDrivers_70 : decode cX0_mixedDrivers 70 = .ok (.aload_n 0, 1) := dk_42 (dk_at dksX0_mixedDrivers_2 23 rfl rfl)
theorem dX0_mixedDrivers_71 : decode cX0_mixedDrivers 71 = .ok (.bipush 10, 2) := dk_16 10 (dk_at dksX0_mixedDrivers_3 0 rfl rfl)
theorem dX0_mixedDrivers_73 : decode cX0_mixedDrivers 73 = .ok (.invokevirtual 307, 3) := dk_182 1 51 (dk_at dksX0_mixedDrivers_3 2 rfl rfl)
theorem dX0_mixedDrivers_76 : decode cX0_mixedDrivers 76 = .ok (.i2l, 1) := dk_133 (dk_at dksX0_mixedDrivers_3 5 rfl rfl)
theorem dX0_mixedDrivers_77 : decode cX0_mixedDrivers 77 = .ok (.invokestatic 361, 3) := dk_184 1 105 (dk_at dksX0_mixedDrivers_3 6 rfl rfl)
theorem dX0_mixedDrivers_80 : decode cX0_mixedDrivers 80 = .ok (.aload_n 0, 1) := dk_42 (dk_at dksX0_mixedDrivers_3 9 rfl rfl)
theorem dX0_mixedDrivers_81 : decode cX0_mixedDrivers 81 = .ok (.bipush 11, 2) := dk_16 11 (dk_at dksX0_mixedDrivers_3 10 rfl rfl)
theorem dX0_mixedDrivers_83 : decode cX0_mixedDrivers 83 = .ok (.invokevirtual 307, 3) := dk_182 1 51 (dk_at dksX0_mixedDrivers_3 12 rfl rfl)
theorem dX0_mixedDrivers_86 : decode cX0_mixedDrivers 86 = .ok (.i2l, 1) := dk_133 (dk_at dksX0_mixedDrivers_3 15 rfl rfl)
theorem dX0_mixedDrivers_87 : decode cX0_mixedDrivers 87 = .ok (.invokestatic 361, 3) := dk_184 1 105 (dk_at dksX0_mixedDrivers_3 16 rfl rfl)
theorem dX0_mixedDrivers_90 : decode cX0_mixedDrivers 90 = .ok (.lreturn, 1) := dk_173 (dk_at dksX0_mixedDrivers_3 19 rfl rfl)
theorem q92 : (Jvm.Cond.initialized "HurtStreets") ∈ lw_all := lw_g (lw_at lw_m1 1 rfl) rfl
theorem q115 : (Jvm.Cond.instantiable "HurtStreets" (25 : Nat)) ∈ lw_all := lw_g (lw_at lw_m1 24 rfl) rfl
theorem q117 : (Jvm.Cond.instanceMethod ({ cls := "HurtStreets", name := "<init>", desc := "()V" } : Jvm.MethodName)) ∈ lw_all := lw_g (lw_at lw_m1 26 rfl) rfl
theorem q118 : (Jvm.Cond.code ({ cls := "HurtStreets", name := "<init>", desc := "()V" } : Jvm.MethodName) prog_1_method_4_code (1 : Nat) (Option.none : Option Jvm.ClassFile.FieldType)) ∈ lw_all := lw_g (lw_at lw_m1 27 rfl) rfl
theorem q119 : (Jvm.Cond.methodLink "HurtStreets" (7 : Nat) ({ cls := "java/lang/Object", name := "<init>", desc := "()V" } : Jvm.MethodName)) ∈ lw_all := lw_g (lw_at lw_m1 28 rfl) rfl
theorem q122 : (Jvm.Cond.classLink "HurtStreets" (13 : Nat) "java/util/ArrayList") ∈ lw_all := lw_g (lw_at lw_m1 31 rfl) rfl
theorem q124 : (Jvm.Cond.methodLink "HurtStreets" (15 : Nat) ({ cls := "java/util/ArrayList", name := "<init>", desc := "()V" } : Jvm.MethodName)) ∈ lw_all := lw_g (lw_at lw_m1 33 rfl) rfl
theorem q148 : (Jvm.Cond.classLink "HurtStreets" (20 : Nat) "HurtStreets$State") ∈ lw_all := lw_g (lw_at lw_m1 57 rfl) rfl
theorem q150 : (Jvm.Cond.methodLinkNest "HurtStreets" (22 : Nat) ({ cls := "HurtStreets$State", name := "<init>", desc := "(LHurtStreets;)V" } : Jvm.MethodName) "HurtStreets") ∈ lw_tbl := lw_at lw_m1 59 rfl
theorem q155 : (Jvm.Cond.fieldLinkNest "HurtStreets" (138 : Nat) "HurtStreets$State" "tender" "[I" "HurtStreets") ∈ lw_tbl := lw_at lw_m1 64 rfl
theorem q158 : (Jvm.Cond.fieldLinkNest "HurtStreets" (152 : Nat) "HurtStreets$State" "taken" "[I" "HurtStreets") ∈ lw_tbl := lw_at lw_m1 67 rfl
theorem q160 : (Jvm.Cond.fieldLinkNest "HurtStreets" (155 : Nat) "HurtStreets$State" "hurt" "[I" "HurtStreets") ∈ lw_tbl := lw_at lw_m1 69 rfl
theorem q162 : (Jvm.Cond.fieldLinkNest "HurtStreets" (162 : Nat) "HurtStreets$State" "waitsAt" "[I" "HurtStreets") ∈ lw_tbl := lw_at lw_m1 71 rfl
theorem q164 : (Jvm.Cond.fieldLinkNest "HurtStreets" (165 : Nat) "HurtStreets$State" "waitsFor" "[I" "HurtStreets") ∈ lw_tbl := lw_at lw_m1 73 rfl
theorem q166 : (Jvm.Cond.fieldLinkNest "HurtStreets" (276 : Nat) "HurtStreets$State" "at" "[I" "HurtStreets") ∈ lw_tbl := lw_at lw_m1 75 rfl
theorem q168 : (Jvm.Cond.fieldLinkNest "HurtStreets" (172 : Nat) "HurtStreets$State" "knows" "[I" "HurtStreets") ∈ lw_tbl := lw_at lw_m1 77 rfl
theorem q170 : (Jvm.Cond.fieldLinkNest "HurtStreets" (282 : Nat) "HurtStreets$State" "made" "[I" "HurtStreets") ∈ lw_tbl := lw_at lw_m1 79 rfl
theorem q172 : (Jvm.Cond.fieldLinkNest "HurtStreets" (206 : Nat) "HurtStreets$State" "days" "I" "HurtStreets") ∈ lw_tbl := lw_at lw_m1 81 rfl
theorem q175 : (Jvm.Cond.fieldLinkNest "HurtStreets" (225 : Nat) "HurtStreets$State" "row" "[I" "HurtStreets") ∈ lw_tbl := lw_at lw_m1 84 rfl
theorem q177 : (Jvm.Cond.fieldLinkNest "HurtStreets" (222 : Nat) "HurtStreets$State" "rowMany" "I" "HurtStreets") ∈ lw_tbl := lw_at lw_m1 86 rfl
theorem q179 : (Jvm.Cond.fieldLinkNest "HurtStreets" (216 : Nat) "HurtStreets$State" "rowHurts" "I" "HurtStreets") ∈ lw_tbl := lw_at lw_m1 88 rfl
theorem q181 : (Jvm.Cond.fieldLinkNest "HurtStreets" (219 : Nat) "HurtStreets$State" "rowLength" "I" "HurtStreets") ∈ lw_tbl := lw_at lw_m1 90 rfl
theorem q218 : (Jvm.Cond.fieldLink "HurtStreets" (16 : Nat) "HurtStreets" "streets" "Ljava/util/ArrayList;") ∈ lw_all := lw_g (lw_at lw_m1 127 rfl) rfl
theorem q219 : (Jvm.Cond.fieldLink "HurtStreets" (88 : Nat) "HurtStreets" "people" "I") ∈ lw_all := lw_g (lw_at lw_m1 128 rfl) rfl
theorem q220 : (Jvm.Cond.fieldLink "HurtStreets" (146 : Nat) "HurtStreets" "towns" "I") ∈ lw_all := lw_g (lw_at lw_m1 129 rfl) rfl
theorem q221 : (Jvm.Cond.fieldLink "HurtStreets" (25 : Nat) "HurtStreets" "state" "LHurtStreets$State;") ∈ lw_all := lw_g (lw_at lw_m1 130 rfl) rfl
theorem q222 : (Jvm.Cond.fieldLink "HurtStreets" (29 : Nat) "HurtStreets" "thought" "LHurtStreets$State;") ∈ lw_all := lw_g (lw_at lw_m1 131 rfl) rfl
theorem q223 : (Jvm.Cond.fieldLink "HurtStreets" (32 : Nat) "HurtStreets" "kept" "LHurtStreets$State;") ∈ lw_all := lw_g (lw_at lw_m1 132 rfl) rfl
theorem q225 : (Jvm.Cond.fieldLink "HurtStreets" (35 : Nat) "HurtStreets" "page" "[B") ∈ lw_all := lw_g (lw_at lw_m1 134 rfl) rfl
theorem q227 : (Jvm.Cond.fieldLink "HurtStreets" (107 : Nat) "HurtStreets" "pageLength" "I") ∈ lw_all := lw_g (lw_at lw_m1 136 rfl) rfl
theorem q228 : (Jvm.Cond.fieldLink "HurtStreets" (39 : Nat) "HurtStreets" "leastBy" "[I") ∈ lw_all := lw_g (lw_at lw_m1 137 rfl) rfl
theorem q229 : (Jvm.Cond.fieldLink "HurtStreets" (295 : Nat) "HurtStreets" "matchMany" "I") ∈ lw_all := lw_g (lw_at lw_m1 138 rfl) rfl
theorem q230 : (Jvm.Cond.fieldLink "HurtStreets" (298 : Nat) "HurtStreets" "matchHurts" "I") ∈ lw_all := lw_g (lw_at lw_m1 139 rfl) rfl
theorem q231 : (Jvm.Cond.fieldLink "HurtStreets" (43 : Nat) "HurtStreets" "matched" "[I") ∈ lw_all := lw_g (lw_at lw_m1 140 rfl) rfl
theorem q232 : (Jvm.Cond.fieldLink "HurtStreets" (149 : Nat) "HurtStreets" "seen" "I") ∈ lw_all := lw_g (lw_at lw_m1 141 rfl) rfl
theorem q233 : (Jvm.Cond.fieldLink "HurtStreets" (46 : Nat) "HurtStreets" "seenWho" "[I") ∈ lw_all := lw_g (lw_at lw_m1 142 rfl) rfl
theorem q234 : (Jvm.Cond.fieldLink "HurtStreets" (49 : Nat) "HurtStreets" "seenFrom" "[I") ∈ lw_all := lw_g (lw_at lw_m1 143 rfl) rfl
theorem q235 : (Jvm.Cond.fieldLink "HurtStreets" (52 : Nat) "HurtStreets" "seenTo" "[I") ∈ lw_all := lw_g (lw_at lw_m1 144 rfl) rfl
theorem q236 : (Jvm.Cond.fieldLink "HurtStreets" (55 : Nat) "HurtStreets" "seenStreet" "[I") ∈ lw_all := lw_g (lw_at lw_m1 145 rfl) rfl
theorem q237 : (Jvm.Cond.fieldLink "HurtStreets" (58 : Nat) "HurtStreets" "firstOf" "[I") ∈ lw_all := lw_g (lw_at lw_m1 146 rfl) rfl
theorem q238 : (Jvm.Cond.fieldLink "HurtStreets" (324 : Nat) "HurtStreets" "drawn" "J") ∈ lw_all := lw_g (lw_at lw_m1 147 rfl) rfl
theorem q239 : (Jvm.Cond.fieldLink "HurtStreets" (344 : Nat) "HurtStreets" "keptTown" "I") ∈ lw_all := lw_g (lw_at lw_m1 148 rfl) rfl
theorem q240 : (Jvm.Cond.fieldLink "HurtStreets" (347 : Nat) "HurtStreets" "keptSeen" "I") ∈ lw_all := lw_g (lw_at lw_m1 149 rfl) rfl
theorem q241 : (Jvm.Cond.fieldLink "HurtStreets" (61 : Nat) "HurtStreets" "keptWho" "[I") ∈ lw_all := lw_g (lw_at lw_m1 150 rfl) rfl
theorem q242 : (Jvm.Cond.fieldLink "HurtStreets" (64 : Nat) "HurtStreets" "keptFrom" "[I") ∈ lw_all := lw_g (lw_at lw_m1 151 rfl) rfl
theorem q243 : (Jvm.Cond.fieldLink "HurtStreets" (67 : Nat) "HurtStreets" "keptTo" "[I") ∈ lw_all := lw_g (lw_at lw_m1 152 rfl) rfl
theorem q244 : (Jvm.Cond.fieldLink "HurtStreets" (70 : Nat) "HurtStreets" "keptStreet" "[I") ∈ lw_all := lw_g (lw_at lw_m1 153 rfl) rfl
theorem q245 : (Jvm.Cond.laysFinal "HurtStreets" "HurtStreets" "streets" "Ljava/util/ArrayList;") ∈ lw_all := lw_g (lw_at lw_m1 154 rfl) rfl
theorem q246 : (Jvm.Cond.soleField "HurtStreets" "streets") ∈ lw_all := lw_g (lw_at lw_m1 155 rfl) rfl
theorem q247 : (Jvm.Cond.lays "HurtStreets" "HurtStreets" "people" "I") ∈ lw_all := lw_g (lw_at lw_m1 156 rfl) rfl
theorem q248 : (Jvm.Cond.soleField "HurtStreets" "people") ∈ lw_all := lw_g (lw_at lw_m1 157 rfl) rfl
theorem q249 : (Jvm.Cond.lays "HurtStreets" "HurtStreets" "towns" "I") ∈ lw_all := lw_g (lw_at lw_m1 158 rfl) rfl
theorem q250 : (Jvm.Cond.soleField "HurtStreets" "towns") ∈ lw_all := lw_g (lw_at lw_m1 159 rfl) rfl
theorem q251 : (Jvm.Cond.laysFinal "HurtStreets" "HurtStreets" "state" "LHurtStreets$State;") ∈ lw_all := lw_g (lw_at lw_m1 160 rfl) rfl
theorem q252 : (Jvm.Cond.soleField "HurtStreets" "state") ∈ lw_all := lw_g (lw_at lw_m1 161 rfl) rfl
theorem q253 : (Jvm.Cond.laysFinal "HurtStreets" "HurtStreets" "thought" "LHurtStreets$State;") ∈ lw_all := lw_g (lw_at lw_m1 162 rfl) rfl
theorem q254 : (Jvm.Cond.soleField "HurtStreets" "thought") ∈ lw_all := lw_g (lw_at lw_m1 163 rfl) rfl
theorem q255 : (Jvm.Cond.laysFinal "HurtStreets" "HurtStreets" "kept" "LHurtStreets$State;") ∈ lw_all := lw_g (lw_at lw_m1 164 rfl) rfl
theorem q256 : (Jvm.Cond.soleField "HurtStreets" "kept") ∈ lw_all := lw_g (lw_at lw_m1 165 rfl) rfl
theorem q257 : (Jvm.Cond.laysFinal "HurtStreets" "HurtStreets" "page" "[B") ∈ lw_all := lw_g (lw_at lw_m1 166 rfl) rfl
theorem q258 : (Jvm.Cond.soleField "HurtStreets" "page") ∈ lw_all := lw_g (lw_at lw_m1 167 rfl) rfl
theorem q259 : (Jvm.Cond.lays "HurtStreets" "HurtStreets" "pageLength" "I") ∈ lw_all := lw_g (lw_at lw_m1 168 rfl) rfl
theorem q260 : (Jvm.Cond.soleField "HurtStreets" "pageLength") ∈ lw_all := lw_g (lw_at lw_m1 169 rfl) rfl
theorem q261 : (Jvm.Cond.laysFinal "HurtStreets" "HurtStreets" "leastBy" "[I") ∈ lw_all := lw_g (lw_at lw_m1 170 rfl) rfl
theorem q262 : (Jvm.Cond.soleField "HurtStreets" "leastBy") ∈ lw_all := lw_g (lw_at lw_m1 171 rfl) rfl
theorem q263 : (Jvm.Cond.lays "HurtStreets" "HurtStreets" "matchMany" "I") ∈ lw_all := lw_g (lw_at lw_m1 172 rfl) rfl
theorem q264 : (Jvm.Cond.soleField "HurtStreets" "matchMany") ∈ lw_all := lw_g (lw_at lw_m1 173 rfl) rfl
theorem q265 : (Jvm.Cond.lays "HurtStreets" "HurtStreets" "matchHurts" "I") ∈ lw_all := lw_g (lw_at lw_m1 174 rfl) rfl
theorem q266 : (Jvm.Cond.soleField "HurtStreets" "matchHurts") ∈ lw_all := lw_g (lw_at lw_m1 175 rfl) rfl
theorem q267 : (Jvm.Cond.laysFinal "HurtStreets" "HurtStreets" "matched" "[I") ∈ lw_all := lw_g (lw_at lw_m1 176 rfl) rfl
theorem q268 : (Jvm.Cond.soleField "HurtStreets" "matched") ∈ lw_all := lw_g (lw_at lw_m1 177 rfl) rfl
theorem q269 : (Jvm.Cond.lays "HurtStreets" "HurtStreets" "seen" "I") ∈ lw_all := lw_g (lw_at lw_m1 178 rfl) rfl
theorem q270 : (Jvm.Cond.soleField "HurtStreets" "seen") ∈ lw_all := lw_g (lw_at lw_m1 179 rfl) rfl
theorem q271 : (Jvm.Cond.laysFinal "HurtStreets" "HurtStreets" "seenWho" "[I") ∈ lw_all := lw_g (lw_at lw_m1 180 rfl) rfl
theorem q272 : (Jvm.Cond.soleField "HurtStreets" "seenWho") ∈ lw_all := lw_g (lw_at lw_m1 181 rfl) rfl
theorem q273 : (Jvm.Cond.laysFinal "HurtStreets" "HurtStreets" "seenFrom" "[I") ∈ lw_all := lw_g (lw_at lw_m1 182 rfl) rfl
theorem q274 : (Jvm.Cond.soleField "HurtStreets" "seenFrom") ∈ lw_all := lw_g (lw_at lw_m1 183 rfl) rfl
theorem q275 : (Jvm.Cond.laysFinal "HurtStreets" "HurtStreets" "seenTo" "[I") ∈ lw_all := lw_g (lw_at lw_m1 184 rfl) rfl
theorem q276 : (Jvm.Cond.soleField "HurtStreets" "seenTo") ∈ lw_all := lw_g (lw_at lw_m1 185 rfl) rfl
theorem q277 : (Jvm.Cond.laysFinal "HurtStreets" "HurtStreets" "seenStreet" "[I") ∈ lw_all := lw_g (lw_at lw_m1 186 rfl) rfl
theorem q278 : (Jvm.Cond.soleField "HurtStreets" "seenStreet") ∈ lw_all := lw_g (lw_at lw_m1 187 rfl) rfl
theorem q279 : (Jvm.Cond.laysFinal "HurtStreets" "HurtStreets" "firstOf" "[I") ∈ lw_all := lw_g (lw_at lw_m1 188 rfl) rfl
theorem q280 : (Jvm.Cond.soleField "HurtStreets" "firstOf") ∈ lw_all := lw_g (lw_at lw_m1 189 rfl) rfl
theorem q281 : (Jvm.Cond.lays "HurtStreets" "HurtStreets" "drawn" "J") ∈ lw_all := lw_g (lw_at lw_m1 190 rfl) rfl
theorem q282 : (Jvm.Cond.soleField "HurtStreets" "drawn") ∈ lw_all := lw_g (lw_at lw_m1 191 rfl) rfl
theorem q283 : (Jvm.Cond.lays "HurtStreets" "HurtStreets" "keptTown" "I") ∈ lw_all := lw_g (lw_at lw_m1 192 rfl) rfl
theorem q284 : (Jvm.Cond.soleField "HurtStreets" "keptTown") ∈ lw_all := lw_g (lw_at lw_m1 193 rfl) rfl
theorem q285 : (Jvm.Cond.lays "HurtStreets" "HurtStreets" "keptSeen" "I") ∈ lw_all := lw_g (lw_at lw_m1 194 rfl) rfl
theorem q286 : (Jvm.Cond.soleField "HurtStreets" "keptSeen") ∈ lw_all := lw_g (lw_at lw_m1 195 rfl) rfl
theorem q287 : (Jvm.Cond.laysFinal "HurtStreets" "HurtStreets" "keptWho" "[I") ∈ lw_all := lw_g (lw_at lw_m1 196 rfl) rfl
theorem q288 : (Jvm.Cond.soleField "HurtStreets" "keptWho") ∈ lw_all := lw_g (lw_at lw_m1 197 rfl) rfl
theorem q289 : (Jvm.Cond.laysFinal "HurtStreets" "HurtStreets" "keptFrom" "[I") ∈ lw_all := lw_g (lw_at lw_m1 198 rfl) rfl
theorem q290 : (Jvm.Cond.soleField "HurtStreets" "keptFrom") ∈ lw_all := lw_g (lw_at lw_m1 199 rfl) rfl
theorem q291 : (Jvm.Cond.laysFinal "HurtStreets" "HurtStreets" "keptTo" "[I") ∈ lw_all := lw_g (lw_at lw_m1 200 rfl) rfl
theorem q292 : (Jvm.Cond.soleField "HurtStreets" "keptTo") ∈ lw_all := lw_g (lw_at lw_m1 201 rfl) rfl
theorem q293 : (Jvm.Cond.laysFinal "HurtStreets" "HurtStreets" "keptStreet" "[I") ∈ lw_all := lw_g (lw_at lw_m1 202 rfl) rfl
theorem q294 : (Jvm.Cond.soleField "HurtStreets" "keptStreet") ∈ lw_all := lw_g (lw_at lw_m1 203 rfl) rfl
theorem q295 : (Jvm.Cond.superclass "HurtStreets" "java/lang/Object") ∈ lw_all := lw_g (lw_at lw_m1 204 rfl) rfl
theorem q298 : (Jvm.Cond.instanceMethod ({ cls := "HurtStreets", name := "letter", desc := "(I)I" } : Jvm.MethodName)) ∈ lw_all := lw_g (lw_at lw_m1 207 rfl) rfl
theorem q299 : (Jvm.Cond.selects "HurtStreets" ({ cls := "HurtStreets", name := "letter", desc := "(I)I" } : Jvm.MethodName) ({ cls := "HurtStreets", name := "letter", desc := "(I)I" } : Jvm.MethodName)) ∈ lw_all := lw_g (lw_at lw_m1 208 rfl) rfl
theorem q300 : (Jvm.Cond.code ({ cls := "HurtStreets", name := "letter", desc := "(I)I" } : Jvm.MethodName) prog_1_method_12_code (2 : Nat) (Option.some Jvm.ClassFile.FieldType.int)) ∈ lw_all := lw_g (lw_at lw_m1 209 rfl) rfl
theorem q301 : (Jvm.Cond.methodLink "HurtStreets" (3 : Nat) ({ cls := "HurtStreets", name := "in", desc := "(III)Z" } : Jvm.MethodName)) ∈ lw_all := lw_g (lw_at lw_m1 210 rfl) rfl
theorem q302 : (Jvm.Cond.static ({ cls := "HurtStreets", name := "in", desc := "(III)Z" } : Jvm.MethodName)) ∈ lw_all := lw_g (lw_at lw_m1 211 rfl) rfl
theorem q303 : (Jvm.Cond.code ({ cls := "HurtStreets", name := "in", desc := "(III)Z" } : Jvm.MethodName) prog_1_method_1_code (3 : Nat) (Option.some Jvm.ClassFile.FieldType.boolean)) ∈ lw_all := lw_g (lw_at lw_m1 212 rfl) rfl
theorem q305 : (Jvm.Cond.instanceMethod ({ cls := "HurtStreets", name := "blank", desc := "()I" } : Jvm.MethodName)) ∈ lw_all := lw_g (lw_at lw_m1 214 rfl) rfl
theorem q306 : (Jvm.Cond.selects "HurtStreets" ({ cls := "HurtStreets", name := "blank", desc := "()I" } : Jvm.MethodName) ({ cls := "HurtStreets", name := "blank", desc := "()I" } : Jvm.MethodName)) ∈ lw_all := lw_g (lw_at lw_m1 215 rfl) rfl
theorem q307 : (Jvm.Cond.code ({ cls := "HurtStreets", name := "blank", desc := "()I" } : Jvm.MethodName) prog_1_method_13_code (2 : Nat) (Option.some Jvm.ClassFile.FieldType.int)) ∈ lw_all := lw_g (lw_at lw_m1 216 rfl) rfl
theorem q309 : (Jvm.Cond.instanceMethod ({ cls := "HurtStreets", name := "fault", desc := "()I" } : Jvm.MethodName)) ∈ lw_all := lw_g (lw_at lw_m1 218 rfl) rfl
theorem q310 : (Jvm.Cond.selects "HurtStreets" ({ cls := "HurtStreets", name := "fault", desc := "()I" } : Jvm.MethodName) ({ cls := "HurtStreets", name := "fault", desc := "()I" } : Jvm.MethodName)) ∈ lw_all := lw_g (lw_at lw_m1 219 rfl) rfl
theorem q311 : (Jvm.Cond.codeWith ({ cls := "HurtStreets", name := "fault", desc := "()I" } : Jvm.MethodName) prog_1_method_14_code (2 : Nat) (Option.some Jvm.ClassFile.FieldType.int) [((0 : Nat), (16 : Nat), (17 : Nat), (117 : Nat))]) ∈ lw_all := lw_g (lw_at lw_m1 220 rfl) rfl
theorem q312 : (Jvm.Cond.classLink "HurtStreets" (117 : Nat) "HurtStreets$Stop") ∈ lw_all := lw_g (lw_at lw_m1 221 rfl) rfl
theorem q313 : (Jvm.Cond.classLink "HurtStreets" (110 : Nat) "HurtStreets$Reader") ∈ lw_all := lw_g (lw_at lw_m1 222 rfl) rfl
theorem q315 : (Jvm.Cond.methodLinkNest "HurtStreets" (112 : Nat) ({ cls := "HurtStreets$Reader", name := "<init>", desc := "(LHurtStreets;)V" } : Jvm.MethodName) "HurtStreets") ∈ lw_tbl := lw_at lw_m1 224 rfl
theorem q323 : (Jvm.Cond.fieldLinkNest "HurtStreets" (134 : Nat) "HurtStreets$Reader" "people" "I" "HurtStreets") ∈ lw_tbl := lw_at lw_m1 232 rfl
theorem q325 : (Jvm.Cond.fieldLinkNest "HurtStreets" (141 : Nat) "HurtStreets$Reader" "tender" "[I" "HurtStreets") ∈ lw_tbl := lw_at lw_m1 234 rfl
theorem q327 : (Jvm.Cond.fieldLinkNest "HurtStreets" (125 : Nat) "HurtStreets$Reader" "streets" "Ljava/util/ArrayList;" "HurtStreets") ∈ lw_tbl := lw_at lw_m1 236 rfl
theorem q340 : (Jvm.Cond.methodLink "HurtStreets" (113 : Nat) ({ cls := "HurtStreets$Reader", name := "town", desc := "()LHurtStreets$Reader;" } : Jvm.MethodName)) ∈ lw_all := lw_g (lw_at lw_m2 9 rfl) rfl
theorem q404 : (Jvm.Cond.fieldLinkNest "HurtStreets" (119 : Nat) "HurtStreets$Stop" "place" "I" "HurtStreets") ∈ lw_tbl := lw_at lw_m2 73 rfl
theorem q429 : (Jvm.Cond.static ({ cls := "HurtStreets", name := "made", desc := "(I)LHurtStreets$Street;" } : Jvm.MethodName)) ∈ lw_all := lw_g (lw_at lw_m2 98 rfl) rfl
theorem q430 : (Jvm.Cond.code ({ cls := "HurtStreets", name := "made", desc := "(I)LHurtStreets$Street;" } : Jvm.MethodName) prog_1_method_5_code (1 : Nat) (Option.some (Jvm.ClassFile.FieldType.object "HurtStreets$Street"))) ∈ lw_all := lw_g (lw_at lw_m2 99 rfl) rfl
theorem q431 : (Jvm.Cond.classLink "HurtStreets" (73 : Nat) "HurtStreets$Loss") ∈ lw_all := lw_g (lw_at lw_m2 100 rfl) rfl
theorem q433 : (Jvm.Cond.methodLinkNest "HurtStreets" (75 : Nat) ({ cls := "HurtStreets$Loss", name := "<init>", desc := "()V" } : Jvm.MethodName) "HurtStreets") ∈ lw_tbl := lw_at lw_m2 102 rfl
theorem q443 : (Jvm.Cond.fieldLink "HurtStreets" (182 : Nat) "HurtStreets$Street" "one" "I") ∈ lw_all := lw_g (lw_at lw_m2 112 rfl) rfl
theorem q447 : (Jvm.Cond.fieldLink "HurtStreets" (185 : Nat) "HurtStreets$Street" "other" "I") ∈ lw_all := lw_g (lw_at lw_m2 116 rfl) rfl
theorem q450 : (Jvm.Cond.fieldLink "HurtStreets" (188 : Nat) "HurtStreets$Street" "length" "I") ∈ lw_all := lw_g (lw_at lw_m2 119 rfl) rfl
theorem q458 : (Jvm.Cond.classLink "HurtStreets" (76 : Nat) "HurtStreets$Quarrel") ∈ lw_all := lw_g (lw_at lw_m2 127 rfl) rfl
theorem q460 : (Jvm.Cond.methodLinkNest "HurtStreets" (78 : Nat) ({ cls := "HurtStreets$Quarrel", name := "<init>", desc := "()V" } : Jvm.MethodName) "HurtStreets") ∈ lw_tbl := lw_at lw_m2 129 rfl
theorem q468 : (Jvm.Cond.classLink "HurtStreets" (79 : Nat) "HurtStreets$Joy") ∈ lw_all := lw_g (lw_at lw_m2 137 rfl) rfl
theorem q470 : (Jvm.Cond.methodLinkNest "HurtStreets" (81 : Nat) ({ cls := "HurtStreets$Joy", name := "<init>", desc := "()V" } : Jvm.MethodName) "HurtStreets") ∈ lw_tbl := lw_at lw_m2 139 rfl
theorem q478 : (Jvm.Cond.classLink "HurtStreets" (82 : Nat) "HurtStreets$Grief") ∈ lw_all := lw_g (lw_at lw_m2 147 rfl) rfl
theorem q480 : (Jvm.Cond.methodLinkNest "HurtStreets" (84 : Nat) ({ cls := "HurtStreets$Grief", name := "<init>", desc := "()V" } : Jvm.MethodName) "HurtStreets") ∈ lw_tbl := lw_at lw_m2 149 rfl
theorem q488 : (Jvm.Cond.classLink "HurtStreets" (85 : Nat) "HurtStreets$Street") ∈ lw_all := lw_g (lw_at lw_m2 157 rfl) rfl
theorem q490 : (Jvm.Cond.methodLinkNest "HurtStreets" (87 : Nat) ({ cls := "HurtStreets$Street", name := "<init>", desc := "()V" } : Jvm.MethodName) "HurtStreets") ∈ lw_tbl := lw_at lw_m2 159 rfl
theorem q527 : (Jvm.Cond.selects "HurtStreets" ({ cls := "java/lang/Object", name := "getClass", desc := "()Ljava/lang/Class;" } : Jvm.MethodName) ({ cls := "java/lang/Object", name := "getClass", desc := "()Ljava/lang/Class;" } : Jvm.MethodName)) ∈ lw_all := lw_g (lw_at lw_m2 196 rfl) rfl
theorem q558 : (Jvm.Cond.instanceMethod ({ cls := "HurtStreets", name := "town", desc := "()I" } : Jvm.MethodName)) ∈ lw_all := lw_g (lw_at lw_m2 227 rfl) rfl
theorem q559 : (Jvm.Cond.selects "HurtStreets" ({ cls := "HurtStreets", name := "town", desc := "()I" } : Jvm.MethodName) ({ cls := "HurtStreets", name := "town", desc := "()I" } : Jvm.MethodName)) ∈ lw_all := lw_g (lw_at lw_m2 228 rfl) rfl
theorem q560 : (Jvm.Cond.codeWith ({ cls := "HurtStreets", name := "town", desc := "()I" } : Jvm.MethodName) prog_1_method_16_code (2 : Nat) (Option.some Jvm.ClassFile.FieldType.int) [((0 : Nat), (42 : Nat), (43 : Nat), (117 : Nat))]) ∈ lw_all := lw_g (lw_at lw_m2 229 rfl) rfl
theorem q561 : (Jvm.Cond.methodLink "HurtStreets" (142 : Nat) ({ cls := "HurtStreets", name := "lay", desc := "(LHurtStreets$Reader;)V" } : Jvm.MethodName)) ∈ lw_all := lw_g (lw_at lw_m2 230 rfl) rfl
theorem q562 : (Jvm.Cond.privateMethod ({ cls := "HurtStreets", name := "lay", desc := "(LHurtStreets$Reader;)V" } : Jvm.MethodName)) ∈ lw_tbl := lw_at lw_m2 231 rfl
theorem q563 : (Jvm.Cond.instanceMethod ({ cls := "HurtStreets", name := "lay", desc := "(LHurtStreets$Reader;)V" } : Jvm.MethodName)) ∈ lw_all := lw_g (lw_at lw_m2 232 rfl) rfl
theorem q564 : (Jvm.Cond.code ({ cls := "HurtStreets", name := "lay", desc := "(LHurtStreets$Reader;)V" } : Jvm.MethodName) prog_1_method_15_code (3 : Nat) (Option.none : Option Jvm.ClassFile.FieldType)) ∈ lw_all := lw_g (lw_at lw_m2 233 rfl) rfl
theorem q565 : (Jvm.Cond.methodLink "HurtStreets" (122 : Nat) ({ cls := "java/util/ArrayList", name := "clear", desc := "()V" } : Jvm.MethodName)) ∈ lw_all := lw_g (lw_at lw_m2 234 rfl) rfl
theorem q569 : (Jvm.Cond.methodLink "HurtStreets" (92 : Nat) ({ cls := "java/util/ArrayList", name := "size", desc := "()I" } : Jvm.MethodName)) ∈ lw_all := lw_g (lw_at lw_m2 238 rfl) rfl
theorem q570 : (Jvm.Cond.methodLink "HurtStreets" (126 : Nat) ({ cls := "java/util/ArrayList", name := "get", desc := "(I)Ljava/lang/Object;" } : Jvm.MethodName)) ∈ lw_all := lw_g (lw_at lw_m2 239 rfl) rfl
theorem q584 : (Jvm.Cond.methodLink "HurtStreets" (130 : Nat) ({ cls := "java/util/ArrayList", name := "add", desc := "(Ljava/lang/Object;)Z" } : Jvm.MethodName)) ∈ lw_all := lw_g (lw_at lw_m3 13 rfl) rfl
theorem q585 : (Jvm.Cond.methodLink "HurtStreets" (135 : Nat) ({ cls := "HurtStreets$State", name := "begin", desc := "()V" } : Jvm.MethodName)) ∈ lw_all := lw_g (lw_at lw_m3 14 rfl) rfl
theorem q590 : (Jvm.Cond.instanceMethod ({ cls := "HurtStreets", name := "person", desc := "(II)I" } : Jvm.MethodName)) ∈ lw_all := lw_g (lw_at lw_m3 19 rfl) rfl
theorem q591 : (Jvm.Cond.selects "HurtStreets" ({ cls := "HurtStreets", name := "person", desc := "(II)I" } : Jvm.MethodName) ({ cls := "HurtStreets", name := "person", desc := "(II)I" } : Jvm.MethodName)) ∈ lw_all := lw_g (lw_at lw_m3 20 rfl) rfl
theorem q592 : (Jvm.Cond.code ({ cls := "HurtStreets", name := "person", desc := "(II)I" } : Jvm.MethodName) prog_1_method_18_code (3 : Nat) (Option.some Jvm.ClassFile.FieldType.int)) ∈ lw_all := lw_g (lw_at lw_m3 21 rfl) rfl
theorem q593 : (Jvm.Cond.methodLink "HurtStreets" (100 : Nat) ({ cls := "HurtStreets", name := "isPerson", desc := "(I)Z" } : Jvm.MethodName)) ∈ lw_all := lw_g (lw_at lw_m3 22 rfl) rfl
theorem q594 : (Jvm.Cond.privateMethod ({ cls := "HurtStreets", name := "isPerson", desc := "(I)Z" } : Jvm.MethodName)) ∈ lw_tbl := lw_at lw_m3 23 rfl
theorem q595 : (Jvm.Cond.instanceMethod ({ cls := "HurtStreets", name := "isPerson", desc := "(I)Z" } : Jvm.MethodName)) ∈ lw_all := lw_g (lw_at lw_m3 24 rfl) rfl
theorem q596 : (Jvm.Cond.code ({ cls := "HurtStreets", name := "isPerson", desc := "(I)Z" } : Jvm.MethodName) prog_1_method_6_code (2 : Nat) (Option.some Jvm.ClassFile.FieldType.boolean)) ∈ lw_all := lw_g (lw_at lw_m3 25 rfl) rfl
theorem q597 : (Jvm.Cond.methodLink "HurtStreets" (168 : Nat) ({ cls := "HurtStreets", name := "personTold", desc := "(II)I" } : Jvm.MethodName)) ∈ lw_all := lw_g (lw_at lw_m3 26 rfl) rfl
theorem q598 : (Jvm.Cond.privateMethod ({ cls := "HurtStreets", name := "personTold", desc := "(II)I" } : Jvm.MethodName)) ∈ lw_tbl := lw_at lw_m3 27 rfl
theorem q599 : (Jvm.Cond.instanceMethod ({ cls := "HurtStreets", name := "personTold", desc := "(II)I" } : Jvm.MethodName)) ∈ lw_all := lw_g (lw_at lw_m3 28 rfl) rfl
theorem q600 : (Jvm.Cond.code ({ cls := "HurtStreets", name := "personTold", desc := "(II)I" } : Jvm.MethodName) prog_1_method_17_code (3 : Nat) (Option.some Jvm.ClassFile.FieldType.int)) ∈ lw_all := lw_g (lw_at lw_m3 29 rfl) rfl
theorem q601 : (Jvm.Cond.methodLink "HurtStreets" (158 : Nat) ({ cls := "HurtStreets", name := "tendersOf", desc := "(I)I" } : Jvm.MethodName)) ∈ lw_all := lw_g (lw_at lw_m3 30 rfl) rfl
theorem q602 : (Jvm.Cond.privateMethod ({ cls := "HurtStreets", name := "tendersOf", desc := "(I)I" } : Jvm.MethodName)) ∈ lw_tbl := lw_at lw_m3 31 rfl
theorem q603 : (Jvm.Cond.instanceMethod ({ cls := "HurtStreets", name := "tendersOf", desc := "(I)I" } : Jvm.MethodName)) ∈ lw_all := lw_g (lw_at lw_m3 32 rfl) rfl
theorem q604 : (Jvm.Cond.code ({ cls := "HurtStreets", name := "tendersOf", desc := "(I)I" } : Jvm.MethodName) prog_1_method_54_code (6 : Nat) (Option.some Jvm.ClassFile.FieldType.int)) ∈ lw_all := lw_g (lw_at lw_m3 33 rfl) rfl
theorem q605 : (Jvm.Cond.methodLink "HurtStreets" (310 : Nat) ({ cls := "HurtStreets", name := "firstBy", desc := "(IIII)I" } : Jvm.MethodName)) ∈ lw_all := lw_g (lw_at lw_m3 34 rfl) rfl
theorem q606 : (Jvm.Cond.privateMethod ({ cls := "HurtStreets", name := "firstBy", desc := "(IIII)I" } : Jvm.MethodName)) ∈ lw_tbl := lw_at lw_m3 35 rfl
theorem q607 : (Jvm.Cond.instanceMethod ({ cls := "HurtStreets", name := "firstBy", desc := "(IIII)I" } : Jvm.MethodName)) ∈ lw_all := lw_g (lw_at lw_m3 36 rfl) rfl
theorem q608 : (Jvm.Cond.code ({ cls := "HurtStreets", name := "firstBy", desc := "(IIII)I" } : Jvm.MethodName) prog_1_method_53_code (7 : Nat) (Option.some Jvm.ClassFile.FieldType.int)) ∈ lw_all := lw_g (lw_at lw_m3 37 rfl) rfl
theorem q609 : (Jvm.Cond.methodLink "HurtStreets" (209 : Nat) ({ cls := "HurtStreets", name := "all", desc := "()I" } : Jvm.MethodName)) ∈ lw_all := lw_g (lw_at lw_m3 38 rfl) rfl
theorem q610 : (Jvm.Cond.privateMethod ({ cls := "HurtStreets", name := "all", desc := "()I" } : Jvm.MethodName)) ∈ lw_tbl := lw_at lw_m3 39 rfl
theorem q611 : (Jvm.Cond.instanceMethod ({ cls := "HurtStreets", name := "all", desc := "()I" } : Jvm.MethodName)) ∈ lw_all := lw_g (lw_at lw_m3 40 rfl) rfl
theorem q612 : (Jvm.Cond.code ({ cls := "HurtStreets", name := "all", desc := "()I" } : Jvm.MethodName) prog_1_method_11_code (1 : Nat) (Option.some Jvm.ClassFile.FieldType.int)) ∈ lw_all := lw_g (lw_at lw_m3 41 rfl) rfl
theorem q613 : (Jvm.Cond.methodLink "HurtStreets" (212 : Nat) ({ cls := "HurtStreets$State", name := "layWay", desc := "(IIII)Z" } : Jvm.MethodName)) ∈ lw_all := lw_g (lw_at lw_m3 42 rfl) rfl
theorem q626 : (Jvm.Cond.static ({ cls := "HurtStreets", name := "isIn", desc := "(II)Z" } : Jvm.MethodName)) ∈ lw_all := lw_g (lw_at lw_m3 55 rfl) rfl
theorem q627 : (Jvm.Cond.code ({ cls := "HurtStreets", name := "isIn", desc := "(II)Z" } : Jvm.MethodName) prog_1_method_2_code (2 : Nat) (Option.some Jvm.ClassFile.FieldType.boolean)) ∈ lw_all := lw_g (lw_at lw_m3 56 rfl) rfl
theorem q686 : (Jvm.Cond.instanceMethod ({ cls := "HurtStreets", name := "street", desc := "(II)I" } : Jvm.MethodName)) ∈ lw_all := lw_g (lw_at lw_m3 115 rfl) rfl
theorem q687 : (Jvm.Cond.selects "HurtStreets" ({ cls := "HurtStreets", name := "street", desc := "(II)I" } : Jvm.MethodName) ({ cls := "HurtStreets", name := "street", desc := "(II)I" } : Jvm.MethodName)) ∈ lw_all := lw_g (lw_at lw_m3 116 rfl) rfl
theorem q688 : (Jvm.Cond.code ({ cls := "HurtStreets", name := "street", desc := "(II)I" } : Jvm.MethodName) prog_1_method_21_code (3 : Nat) (Option.some Jvm.ClassFile.FieldType.int)) ∈ lw_all := lw_g (lw_at lw_m3 117 rfl) rfl
theorem q689 : (Jvm.Cond.methodLink "HurtStreets" (194 : Nat) ({ cls := "HurtStreets", name := "isStreet", desc := "(I)Z" } : Jvm.MethodName)) ∈ lw_all := lw_g (lw_at lw_m3 118 rfl) rfl
theorem q690 : (Jvm.Cond.privateMethod ({ cls := "HurtStreets", name := "isStreet", desc := "(I)Z" } : Jvm.MethodName)) ∈ lw_tbl := lw_at lw_m3 119 rfl
theorem q691 : (Jvm.Cond.instanceMethod ({ cls := "HurtStreets", name := "isStreet", desc := "(I)Z" } : Jvm.MethodName)) ∈ lw_all := lw_g (lw_at lw_m3 120 rfl) rfl
theorem q692 : (Jvm.Cond.code ({ cls := "HurtStreets", name := "isStreet", desc := "(I)Z" } : Jvm.MethodName) prog_1_method_7_code (2 : Nat) (Option.some Jvm.ClassFile.FieldType.boolean)) ∈ lw_all := lw_g (lw_at lw_m3 121 rfl) rfl
theorem q693 : (Jvm.Cond.methodLink "HurtStreets" (197 : Nat) ({ cls := "HurtStreets", name := "streetTold", desc := "(II)I" } : Jvm.MethodName)) ∈ lw_all := lw_g (lw_at lw_m3 122 rfl) rfl
theorem q694 : (Jvm.Cond.privateMethod ({ cls := "HurtStreets", name := "streetTold", desc := "(II)I" } : Jvm.MethodName)) ∈ lw_tbl := lw_at lw_m3 123 rfl
theorem q695 : (Jvm.Cond.instanceMethod ({ cls := "HurtStreets", name := "streetTold", desc := "(II)I" } : Jvm.MethodName)) ∈ lw_all := lw_g (lw_at lw_m3 124 rfl) rfl
theorem q696 : (Jvm.Cond.code ({ cls := "HurtStreets", name := "streetTold", desc := "(II)I" } : Jvm.MethodName) prog_1_method_20_code (3 : Nat) (Option.some Jvm.ClassFile.FieldType.int)) ∈ lw_all := lw_g (lw_at lw_m3 125 rfl) rfl
theorem q697 : (Jvm.Cond.methodLink "HurtStreets" (179 : Nat) ({ cls := "HurtStreets$Street", name := "kind", desc := "()I" } : Jvm.MethodName)) ∈ lw_all := lw_g (lw_at lw_m3 126 rfl) rfl
theorem q714 : (Jvm.Cond.methodLink "HurtStreets" (191 : Nat) ({ cls := "HurtStreets", name := "knownBy", desc := "(I)I" } : Jvm.MethodName)) ∈ lw_all := lw_g (lw_at lw_m3 143 rfl) rfl
theorem q715 : (Jvm.Cond.privateMethod ({ cls := "HurtStreets", name := "knownBy", desc := "(I)I" } : Jvm.MethodName)) ∈ lw_tbl := lw_at lw_m3 144 rfl
theorem q716 : (Jvm.Cond.instanceMethod ({ cls := "HurtStreets", name := "knownBy", desc := "(I)I" } : Jvm.MethodName)) ∈ lw_all := lw_g (lw_at lw_m3 145 rfl) rfl
theorem q717 : (Jvm.Cond.code ({ cls := "HurtStreets", name := "knownBy", desc := "(I)I" } : Jvm.MethodName) prog_1_method_19_code (4 : Nat) (Option.some Jvm.ClassFile.FieldType.int)) ∈ lw_all := lw_g (lw_at lw_m3 146 rfl) rfl
theorem q718 : (Jvm.Cond.methodLink "HurtStreets" (175 : Nat) ({ cls := "HurtStreets", name := "isIn", desc := "(II)Z" } : Jvm.MethodName)) ∈ lw_all := lw_g (lw_at lw_m3 147 rfl) rfl
theorem q720 : (Jvm.Cond.instanceMethod ({ cls := "HurtStreets", name := "as", desc := "(II)I" } : Jvm.MethodName)) ∈ lw_all := lw_g (lw_at lw_m3 149 rfl) rfl
theorem q721 : (Jvm.Cond.selects "HurtStreets" ({ cls := "HurtStreets", name := "as", desc := "(II)I" } : Jvm.MethodName) ({ cls := "HurtStreets", name := "as", desc := "(II)I" } : Jvm.MethodName)) ∈ lw_all := lw_g (lw_at lw_m3 150 rfl) rfl
theorem q722 : (Jvm.Cond.code ({ cls := "HurtStreets", name := "as", desc := "(II)I" } : Jvm.MethodName) prog_1_method_22_code (3 : Nat) (Option.some Jvm.ClassFile.FieldType.int)) ∈ lw_all := lw_g (lw_at lw_m3 151 rfl) rfl
theorem q723 : (Jvm.Cond.methodLink "HurtStreets" (200 : Nat) ({ cls := "HurtStreets$Street", name := "isOf", desc := "(I)Z" } : Jvm.MethodName)) ∈ lw_all := lw_g (lw_at lw_m3 152 rfl) rfl
theorem q740 : (Jvm.Cond.instanceMethod ({ cls := "HurtStreets", name := "hurts", desc := "(II)I" } : Jvm.MethodName)) ∈ lw_all := lw_g (lw_at lw_m3 169 rfl) rfl
theorem q741 : (Jvm.Cond.selects "HurtStreets" ({ cls := "HurtStreets", name := "hurts", desc := "(II)I" } : Jvm.MethodName) ({ cls := "HurtStreets", name := "hurts", desc := "(II)I" } : Jvm.MethodName)) ∈ lw_all := lw_g (lw_at lw_m3 170 rfl) rfl
theorem q742 : (Jvm.Cond.code ({ cls := "HurtStreets", name := "hurts", desc := "(II)I" } : Jvm.MethodName) prog_1_method_23_code (3 : Nat) (Option.some Jvm.ClassFile.FieldType.int)) ∈ lw_all := lw_g (lw_at lw_m3 171 rfl) rfl
theorem q743 : (Jvm.Cond.methodLink "HurtStreets" (203 : Nat) ({ cls := "HurtStreets$State", name := "hurts", desc := "(II)I" } : Jvm.MethodName)) ∈ lw_all := lw_g (lw_at lw_m3 172 rfl) rfl
theorem q745 : (Jvm.Cond.instanceMethod ({ cls := "HurtStreets", name := "tender", desc := "(II)I" } : Jvm.MethodName)) ∈ lw_all := lw_g (lw_at lw_m3 174 rfl) rfl
theorem q746 : (Jvm.Cond.selects "HurtStreets" ({ cls := "HurtStreets", name := "tender", desc := "(II)I" } : Jvm.MethodName) ({ cls := "HurtStreets", name := "tender", desc := "(II)I" } : Jvm.MethodName)) ∈ lw_all := lw_g (lw_at lw_m3 175 rfl) rfl
theorem q747 : (Jvm.Cond.code ({ cls := "HurtStreets", name := "tender", desc := "(II)I" } : Jvm.MethodName) prog_1_method_24_code (4 : Nat) (Option.some Jvm.ClassFile.FieldType.int)) ∈ lw_all := lw_g (lw_at lw_m3 176 rfl) rfl
theorem q749 : (Jvm.Cond.instanceMethod ({ cls := "HurtStreets", name := "day", desc := "()I" } : Jvm.MethodName)) ∈ lw_all := lw_g (lw_at lw_m3 178 rfl) rfl
theorem q750 : (Jvm.Cond.selects "HurtStreets" ({ cls := "HurtStreets", name := "day", desc := "()I" } : Jvm.MethodName) ({ cls := "HurtStreets", name := "day", desc := "()I" } : Jvm.MethodName)) ∈ lw_all := lw_g (lw_at lw_m3 179 rfl) rfl
theorem q751 : (Jvm.Cond.code ({ cls := "HurtStreets", name := "day", desc := "()I" } : Jvm.MethodName) prog_1_method_25_code (1 : Nat) (Option.some Jvm.ClassFile.FieldType.int)) ∈ lw_all := lw_g (lw_at lw_m3 180 rfl) rfl
theorem q752 : (Jvm.Cond.methodLink "HurtStreets" (96 : Nat) ({ cls := "HurtStreets", name := "isTown", desc := "()Z" } : Jvm.MethodName)) ∈ lw_all := lw_g (lw_at lw_m3 181 rfl) rfl
theorem q753 : (Jvm.Cond.privateMethod ({ cls := "HurtStreets", name := "isTown", desc := "()Z" } : Jvm.MethodName)) ∈ lw_tbl := lw_at lw_m3 182 rfl
theorem q754 : (Jvm.Cond.instanceMethod ({ cls := "HurtStreets", name := "isTown", desc := "()Z" } : Jvm.MethodName)) ∈ lw_all := lw_g (lw_at lw_m3 183 rfl) rfl
theorem q755 : (Jvm.Cond.code ({ cls := "HurtStreets", name := "isTown", desc := "()Z" } : Jvm.MethodName) prog_1_method_8_code (1 : Nat) (Option.some Jvm.ClassFile.FieldType.boolean)) ∈ lw_all := lw_g (lw_at lw_m3 184 rfl) rfl
theorem q757 : (Jvm.Cond.instanceMethod ({ cls := "HurtStreets", name := "way", desc := "(IIII)I" } : Jvm.MethodName)) ∈ lw_all := lw_g (lw_at lw_m3 186 rfl) rfl
theorem q758 : (Jvm.Cond.selects "HurtStreets" ({ cls := "HurtStreets", name := "way", desc := "(IIII)I" } : Jvm.MethodName) ({ cls := "HurtStreets", name := "way", desc := "(IIII)I" } : Jvm.MethodName)) ∈ lw_all := lw_g (lw_at lw_m3 187 rfl) rfl
theorem q759 : (Jvm.Cond.code ({ cls := "HurtStreets", name := "way", desc := "(IIII)I" } : Jvm.MethodName) prog_1_method_27_code (5 : Nat) (Option.some Jvm.ClassFile.FieldType.int)) ∈ lw_all := lw_g (lw_at lw_m3 188 rfl) rfl
theorem q760 : (Jvm.Cond.methodLink "HurtStreets" (228 : Nat) ({ cls := "HurtStreets", name := "isWay", desc := "(III)Z" } : Jvm.MethodName)) ∈ lw_all := lw_g (lw_at lw_m3 189 rfl) rfl
theorem q761 : (Jvm.Cond.privateMethod ({ cls := "HurtStreets", name := "isWay", desc := "(III)Z" } : Jvm.MethodName)) ∈ lw_tbl := lw_at lw_m3 190 rfl
theorem q762 : (Jvm.Cond.instanceMethod ({ cls := "HurtStreets", name := "isWay", desc := "(III)Z" } : Jvm.MethodName)) ∈ lw_all := lw_g (lw_at lw_m3 191 rfl) rfl
theorem q763 : (Jvm.Cond.code ({ cls := "HurtStreets", name := "isWay", desc := "(III)Z" } : Jvm.MethodName) prog_1_method_10_code (4 : Nat) (Option.some Jvm.ClassFile.FieldType.boolean)) ∈ lw_all := lw_g (lw_at lw_m3 192 rfl) rfl
theorem q764 : (Jvm.Cond.methodLink "HurtStreets" (104 : Nat) ({ cls := "HurtStreets", name := "isCorner", desc := "(I)Z" } : Jvm.MethodName)) ∈ lw_all := lw_g (lw_at lw_m3 193 rfl) rfl
theorem q765 : (Jvm.Cond.static ({ cls := "HurtStreets", name := "isCorner", desc := "(I)Z" } : Jvm.MethodName)) ∈ lw_all := lw_g (lw_at lw_m3 194 rfl) rfl
theorem q766 : (Jvm.Cond.code ({ cls := "HurtStreets", name := "isCorner", desc := "(I)Z" } : Jvm.MethodName) prog_1_method_3_code (1 : Nat) (Option.some Jvm.ClassFile.FieldType.boolean)) ∈ lw_all := lw_g (lw_at lw_m3 195 rfl) rfl
theorem q767 : (Jvm.Cond.methodLink "HurtStreets" (231 : Nat) ({ cls := "HurtStreets", name := "wayTold", desc := "(IIII)I" } : Jvm.MethodName)) ∈ lw_all := lw_g (lw_at lw_m3 196 rfl) rfl
theorem q768 : (Jvm.Cond.privateMethod ({ cls := "HurtStreets", name := "wayTold", desc := "(IIII)I" } : Jvm.MethodName)) ∈ lw_tbl := lw_at lw_m3 197 rfl
theorem q769 : (Jvm.Cond.instanceMethod ({ cls := "HurtStreets", name := "wayTold", desc := "(IIII)I" } : Jvm.MethodName)) ∈ lw_all := lw_g (lw_at lw_m3 198 rfl) rfl
theorem q770 : (Jvm.Cond.code ({ cls := "HurtStreets", name := "wayTold", desc := "(IIII)I" } : Jvm.MethodName) prog_1_method_26_code (5 : Nat) (Option.some Jvm.ClassFile.FieldType.int)) ∈ lw_all := lw_g (lw_at lw_m3 199 rfl) rfl
theorem q772 : (Jvm.Cond.instanceMethod ({ cls := "HurtStreets", name := "within", desc := "(IIII)I" } : Jvm.MethodName)) ∈ lw_all := lw_g (lw_at lw_m3 201 rfl) rfl
theorem q773 : (Jvm.Cond.selects "HurtStreets" ({ cls := "HurtStreets", name := "within", desc := "(IIII)I" } : Jvm.MethodName) ({ cls := "HurtStreets", name := "within", desc := "(IIII)I" } : Jvm.MethodName)) ∈ lw_all := lw_g (lw_at lw_m3 202 rfl) rfl
theorem q774 : (Jvm.Cond.code ({ cls := "HurtStreets", name := "within", desc := "(IIII)I" } : Jvm.MethodName) prog_1_method_31_code (5 : Nat) (Option.some Jvm.ClassFile.FieldType.int)) ∈ lw_all := lw_g (lw_at lw_m3 203 rfl) rfl
theorem q775 : (Jvm.Cond.methodLink "HurtStreets" (249 : Nat) ({ cls := "HurtStreets", name := "withinTold", desc := "(IIII)I" } : Jvm.MethodName)) ∈ lw_all := lw_g (lw_at lw_m3 204 rfl) rfl
theorem q776 : (Jvm.Cond.privateMethod ({ cls := "HurtStreets", name := "withinTold", desc := "(IIII)I" } : Jvm.MethodName)) ∈ lw_tbl := lw_at lw_m3 205 rfl
theorem q777 : (Jvm.Cond.instanceMethod ({ cls := "HurtStreets", name := "withinTold", desc := "(IIII)I" } : Jvm.MethodName)) ∈ lw_all := lw_g (lw_at lw_m3 206 rfl) rfl
theorem q778 : (Jvm.Cond.code ({ cls := "HurtStreets", name := "withinTold", desc := "(IIII)I" } : Jvm.MethodName) prog_1_method_30_code (7 : Nat) (Option.some Jvm.ClassFile.FieldType.int)) ∈ lw_all := lw_g (lw_at lw_m3 207 rfl) rfl
theorem q779 : (Jvm.Cond.methodLink "HurtStreets" (245 : Nat) ({ cls := "HurtStreets", name := "layLengths", desc := "(II)V" } : Jvm.MethodName)) ∈ lw_all := lw_g (lw_at lw_m3 208 rfl) rfl
theorem q780 : (Jvm.Cond.privateMethod ({ cls := "HurtStreets", name := "layLengths", desc := "(II)V" } : Jvm.MethodName)) ∈ lw_tbl := lw_at lw_m3 209 rfl
theorem q781 : (Jvm.Cond.instanceMethod ({ cls := "HurtStreets", name := "layLengths", desc := "(II)V" } : Jvm.MethodName)) ∈ lw_all := lw_g (lw_at lw_m3 210 rfl) rfl
theorem q782 : (Jvm.Cond.code ({ cls := "HurtStreets", name := "layLengths", desc := "(II)V" } : Jvm.MethodName) prog_1_method_29_code (7 : Nat) (Option.none : Option Jvm.ClassFile.FieldType)) ∈ lw_all := lw_g (lw_at lw_m3 211 rfl) rfl
theorem q783 : (Jvm.Cond.constant "HurtStreets" (240 : Nat) (268435456 : Int32)) ∈ lw_all := lw_g (lw_at lw_m3 212 rfl) rfl
theorem q784 : (Jvm.Cond.methodLink "HurtStreets" (241 : Nat) ({ cls := "HurtStreets", name := "better", desc := "(III)V" } : Jvm.MethodName)) ∈ lw_all := lw_g (lw_at lw_m3 213 rfl) rfl
theorem q785 : (Jvm.Cond.privateMethod ({ cls := "HurtStreets", name := "better", desc := "(III)V" } : Jvm.MethodName)) ∈ lw_tbl := lw_at lw_m3 214 rfl
theorem q786 : (Jvm.Cond.instanceMethod ({ cls := "HurtStreets", name := "better", desc := "(III)V" } : Jvm.MethodName)) ∈ lw_all := lw_g (lw_at lw_m3 215 rfl) rfl
theorem q787 : (Jvm.Cond.code ({ cls := "HurtStreets", name := "better", desc := "(III)V" } : Jvm.MethodName) prog_1_method_28_code (4 : Nat) (Option.none : Option Jvm.ClassFile.FieldType)) ∈ lw_all := lw_g (lw_at lw_m3 216 rfl) rfl
theorem q788 : (Jvm.Cond.methodLink "HurtStreets" (235 : Nat) ({ cls := "java/lang/Math", name := "min", desc := "(II)I" } : Jvm.MethodName)) ∈ lw_all := lw_g (lw_at lw_m3 217 rfl) rfl
theorem q790 : (Jvm.Cond.instanceMethod ({ cls := "HurtStreets", name := "edge", desc := "(IIII)I" } : Jvm.MethodName)) ∈ lw_all := lw_g (lw_at lw_m3 219 rfl) rfl
theorem q791 : (Jvm.Cond.selects "HurtStreets" ({ cls := "HurtStreets", name := "edge", desc := "(IIII)I" } : Jvm.MethodName) ({ cls := "HurtStreets", name := "edge", desc := "(IIII)I" } : Jvm.MethodName)) ∈ lw_all := lw_g (lw_at lw_m3 220 rfl) rfl
theorem q792 : (Jvm.Cond.code ({ cls := "HurtStreets", name := "edge", desc := "(IIII)I" } : Jvm.MethodName) prog_1_method_33_code (5 : Nat) (Option.some Jvm.ClassFile.FieldType.int)) ∈ lw_all := lw_g (lw_at lw_m3 221 rfl) rfl
theorem q793 : (Jvm.Cond.methodLink "HurtStreets" (252 : Nat) ({ cls := "HurtStreets", name := "edgeTold", desc := "(IIII)I" } : Jvm.MethodName)) ∈ lw_all := lw_g (lw_at lw_m3 222 rfl) rfl
theorem q794 : (Jvm.Cond.privateMethod ({ cls := "HurtStreets", name := "edgeTold", desc := "(IIII)I" } : Jvm.MethodName)) ∈ lw_tbl := lw_at lw_m3 223 rfl
theorem q795 : (Jvm.Cond.instanceMethod ({ cls := "HurtStreets", name := "edgeTold", desc := "(IIII)I" } : Jvm.MethodName)) ∈ lw_all := lw_g (lw_at lw_m3 224 rfl) rfl
theorem q796 : (Jvm.Cond.code ({ cls := "HurtStreets", name := "edgeTold", desc := "(IIII)I" } : Jvm.MethodName) prog_1_method_32_code (10 : Nat) (Option.some Jvm.ClassFile.FieldType.int)) ∈ lw_all := lw_g (lw_at lw_m3 225 rfl) rfl
theorem q798 : (Jvm.Cond.instanceMethod ({ cls := "HurtStreets", name := "rail", desc := "(III)I" } : Jvm.MethodName)) ∈ lw_all := lw_g (lw_at lw_m3 227 rfl) rfl
theorem q799 : (Jvm.Cond.selects "HurtStreets" ({ cls := "HurtStreets", name := "rail", desc := "(III)I" } : Jvm.MethodName) ({ cls := "HurtStreets", name := "rail", desc := "(III)I" } : Jvm.MethodName)) ∈ lw_all := lw_g (lw_at lw_m3 228 rfl) rfl
theorem q800 : (Jvm.Cond.code ({ cls := "HurtStreets", name := "rail", desc := "(III)I" } : Jvm.MethodName) prog_1_method_36_code (4 : Nat) (Option.some Jvm.ClassFile.FieldType.int)) ∈ lw_all := lw_g (lw_at lw_m3 229 rfl) rfl
theorem q801 : (Jvm.Cond.methodLink "HurtStreets" (261 : Nat) ({ cls := "HurtStreets", name := "railTold", desc := "(III)I" } : Jvm.MethodName)) ∈ lw_all := lw_g (lw_at lw_m3 230 rfl) rfl
theorem q802 : (Jvm.Cond.privateMethod ({ cls := "HurtStreets", name := "railTold", desc := "(III)I" } : Jvm.MethodName)) ∈ lw_tbl := lw_at lw_m3 231 rfl
theorem q803 : (Jvm.Cond.instanceMethod ({ cls := "HurtStreets", name := "railTold", desc := "(III)I" } : Jvm.MethodName)) ∈ lw_all := lw_g (lw_at lw_m3 232 rfl) rfl
theorem q804 : (Jvm.Cond.code ({ cls := "HurtStreets", name := "railTold", desc := "(III)I" } : Jvm.MethodName) prog_1_method_35_code (7 : Nat) (Option.some Jvm.ClassFile.FieldType.int)) ∈ lw_all := lw_g (lw_at lw_m3 233 rfl) rfl
theorem q805 : (Jvm.Cond.methodLink "HurtStreets" (258 : Nat) ({ cls := "HurtStreets", name := "comesBy", desc := "(IIII)Z" } : Jvm.MethodName)) ∈ lw_all := lw_g (lw_at lw_m3 234 rfl) rfl
theorem q806 : (Jvm.Cond.privateMethod ({ cls := "HurtStreets", name := "comesBy", desc := "(IIII)Z" } : Jvm.MethodName)) ∈ lw_tbl := lw_at lw_m3 235 rfl
theorem q807 : (Jvm.Cond.instanceMethod ({ cls := "HurtStreets", name := "comesBy", desc := "(IIII)Z" } : Jvm.MethodName)) ∈ lw_all := lw_g (lw_at lw_m3 236 rfl) rfl
theorem q808 : (Jvm.Cond.code ({ cls := "HurtStreets", name := "comesBy", desc := "(IIII)Z" } : Jvm.MethodName) prog_1_method_34_code (7 : Nat) (Option.some Jvm.ClassFile.FieldType.boolean)) ∈ lw_all := lw_g (lw_at lw_m3 237 rfl) rfl
theorem q809 : (Jvm.Cond.methodLink "HurtStreets" (255 : Nat) ({ cls := "HurtStreets$State", name := "reach", desc := "(II)I" } : Jvm.MethodName)) ∈ lw_all := lw_g (lw_at lw_m3 238 rfl) rfl
theorem q814 : (Jvm.Cond.instanceMethod ({ cls := "HurtStreets", name := "driver", desc := "(II)I" } : Jvm.MethodName)) ∈ lw_all := lw_g (lw_at lw_m4 3 rfl) rfl
theorem q815 : (Jvm.Cond.selects "HurtStreets" ({ cls := "HurtStreets", name := "driver", desc := "(II)I" } : Jvm.MethodName) ({ cls := "HurtStreets", name := "driver", desc := "(II)I" } : Jvm.MethodName)) ∈ lw_all := lw_g (lw_at lw_m4 4 rfl) rfl
theorem q816 : (Jvm.Cond.code ({ cls := "HurtStreets", name := "driver", desc := "(II)I" } : Jvm.MethodName) prog_1_method_41_code (3 : Nat) (Option.some Jvm.ClassFile.FieldType.int)) ∈ lw_all := lw_g (lw_at lw_m4 5 rfl) rfl
theorem q817 : (Jvm.Cond.methodLink "HurtStreets" (285 : Nat) ({ cls := "HurtStreets", name := "isDriver", desc := "(I)Z" } : Jvm.MethodName)) ∈ lw_all := lw_g (lw_at lw_m4 6 rfl) rfl
theorem q818 : (Jvm.Cond.privateMethod ({ cls := "HurtStreets", name := "isDriver", desc := "(I)Z" } : Jvm.MethodName)) ∈ lw_tbl := lw_at lw_m4 7 rfl
theorem q819 : (Jvm.Cond.instanceMethod ({ cls := "HurtStreets", name := "isDriver", desc := "(I)Z" } : Jvm.MethodName)) ∈ lw_all := lw_g (lw_at lw_m4 8 rfl) rfl
theorem q820 : (Jvm.Cond.code ({ cls := "HurtStreets", name := "isDriver", desc := "(I)Z" } : Jvm.MethodName) prog_1_method_9_code (2 : Nat) (Option.some Jvm.ClassFile.FieldType.boolean)) ∈ lw_all := lw_g (lw_at lw_m4 9 rfl) rfl
theorem q821 : (Jvm.Cond.methodLink "HurtStreets" (288 : Nat) ({ cls := "HurtStreets", name := "driverTold", desc := "(II)I" } : Jvm.MethodName)) ∈ lw_all := lw_g (lw_at lw_m4 10 rfl) rfl
theorem q822 : (Jvm.Cond.privateMethod ({ cls := "HurtStreets", name := "driverTold", desc := "(II)I" } : Jvm.MethodName)) ∈ lw_tbl := lw_at lw_m4 11 rfl
theorem q823 : (Jvm.Cond.instanceMethod ({ cls := "HurtStreets", name := "driverTold", desc := "(II)I" } : Jvm.MethodName)) ∈ lw_all := lw_g (lw_at lw_m4 12 rfl) rfl
theorem q824 : (Jvm.Cond.code ({ cls := "HurtStreets", name := "driverTold", desc := "(II)I" } : Jvm.MethodName) prog_1_method_40_code (3 : Nat) (Option.some Jvm.ClassFile.FieldType.int)) ∈ lw_all := lw_g (lw_at lw_m4 13 rfl) rfl
theorem q825 : (Jvm.Cond.methodLink "HurtStreets" (273 : Nat) ({ cls := "HurtStreets", name := "gapsBy", desc := "(I)I" } : Jvm.MethodName)) ∈ lw_all := lw_g (lw_at lw_m4 14 rfl) rfl
theorem q826 : (Jvm.Cond.privateMethod ({ cls := "HurtStreets", name := "gapsBy", desc := "(I)I" } : Jvm.MethodName)) ∈ lw_tbl := lw_at lw_m4 15 rfl
theorem q827 : (Jvm.Cond.instanceMethod ({ cls := "HurtStreets", name := "gapsBy", desc := "(I)I" } : Jvm.MethodName)) ∈ lw_all := lw_g (lw_at lw_m4 16 rfl) rfl
theorem q828 : (Jvm.Cond.code ({ cls := "HurtStreets", name := "gapsBy", desc := "(I)I" } : Jvm.MethodName) prog_1_method_38_code (6 : Nat) (Option.some Jvm.ClassFile.FieldType.int)) ∈ lw_all := lw_g (lw_at lw_m4 17 rfl) rfl
theorem q829 : (Jvm.Cond.methodLink "HurtStreets" (265 : Nat) ({ cls := "HurtStreets", name := "cornersUsed", desc := "()I" } : Jvm.MethodName)) ∈ lw_all := lw_g (lw_at lw_m4 18 rfl) rfl
theorem q830 : (Jvm.Cond.privateMethod ({ cls := "HurtStreets", name := "cornersUsed", desc := "()I" } : Jvm.MethodName)) ∈ lw_tbl := lw_at lw_m4 19 rfl
theorem q831 : (Jvm.Cond.instanceMethod ({ cls := "HurtStreets", name := "cornersUsed", desc := "()I" } : Jvm.MethodName)) ∈ lw_all := lw_g (lw_at lw_m4 20 rfl) rfl
theorem q832 : (Jvm.Cond.code ({ cls := "HurtStreets", name := "cornersUsed", desc := "()I" } : Jvm.MethodName) prog_1_method_37_code (3 : Nat) (Option.some Jvm.ClassFile.FieldType.int)) ∈ lw_all := lw_g (lw_at lw_m4 21 rfl) rfl
theorem q833 : (Jvm.Cond.methodLink "HurtStreets" (268 : Nat) ({ cls := "java/lang/Integer", name := "bitCount", desc := "(I)I" } : Jvm.MethodName)) ∈ lw_all := lw_g (lw_at lw_m4 22 rfl) rfl
theorem q839 : (Jvm.Cond.methodLink "HurtStreets" (279 : Nat) ({ cls := "HurtStreets", name := "learnNext", desc := "(I)I" } : Jvm.MethodName)) ∈ lw_all := lw_g (lw_at lw_m4 28 rfl) rfl
theorem q840 : (Jvm.Cond.privateMethod ({ cls := "HurtStreets", name := "learnNext", desc := "(I)I" } : Jvm.MethodName)) ∈ lw_tbl := lw_at lw_m4 29 rfl
theorem q841 : (Jvm.Cond.instanceMethod ({ cls := "HurtStreets", name := "learnNext", desc := "(I)I" } : Jvm.MethodName)) ∈ lw_all := lw_g (lw_at lw_m4 30 rfl) rfl
theorem q842 : (Jvm.Cond.code ({ cls := "HurtStreets", name := "learnNext", desc := "(I)I" } : Jvm.MethodName) prog_1_method_39_code (6 : Nat) (Option.some Jvm.ClassFile.FieldType.int)) ∈ lw_all := lw_g (lw_at lw_m4 31 rfl) rfl
theorem q844 : (Jvm.Cond.instanceMethod ({ cls := "HurtStreets", name := "learn", desc := "(II)I" } : Jvm.MethodName)) ∈ lw_all := lw_g (lw_at lw_m4 33 rfl) rfl
theorem q845 : (Jvm.Cond.selects "HurtStreets" ({ cls := "HurtStreets", name := "learn", desc := "(II)I" } : Jvm.MethodName) ({ cls := "HurtStreets", name := "learn", desc := "(II)I" } : Jvm.MethodName)) ∈ lw_all := lw_g (lw_at lw_m4 34 rfl) rfl
theorem q846 : (Jvm.Cond.code ({ cls := "HurtStreets", name := "learn", desc := "(II)I" } : Jvm.MethodName) prog_1_method_42_code (3 : Nat) (Option.some Jvm.ClassFile.FieldType.int)) ∈ lw_all := lw_g (lw_at lw_m4 35 rfl) rfl
theorem q848 : (Jvm.Cond.instanceMethod ({ cls := "HurtStreets", name := "lose", desc := "(II)I" } : Jvm.MethodName)) ∈ lw_all := lw_g (lw_at lw_m4 37 rfl) rfl
theorem q849 : (Jvm.Cond.selects "HurtStreets" ({ cls := "HurtStreets", name := "lose", desc := "(II)I" } : Jvm.MethodName) ({ cls := "HurtStreets", name := "lose", desc := "(II)I" } : Jvm.MethodName)) ∈ lw_all := lw_g (lw_at lw_m4 38 rfl) rfl
theorem q850 : (Jvm.Cond.code ({ cls := "HurtStreets", name := "lose", desc := "(II)I" } : Jvm.MethodName) prog_1_method_43_code (3 : Nat) (Option.some Jvm.ClassFile.FieldType.int)) ∈ lw_all := lw_g (lw_at lw_m4 39 rfl) rfl
theorem q852 : (Jvm.Cond.instanceMethod ({ cls := "HurtStreets", name := "stand", desc := "(II)I" } : Jvm.MethodName)) ∈ lw_all := lw_g (lw_at lw_m4 41 rfl) rfl
theorem q853 : (Jvm.Cond.selects "HurtStreets" ({ cls := "HurtStreets", name := "stand", desc := "(II)I" } : Jvm.MethodName) ({ cls := "HurtStreets", name := "stand", desc := "(II)I" } : Jvm.MethodName)) ∈ lw_all := lw_g (lw_at lw_m4 42 rfl) rfl
theorem q854 : (Jvm.Cond.code ({ cls := "HurtStreets", name := "stand", desc := "(II)I" } : Jvm.MethodName) prog_1_method_44_code (4 : Nat) (Option.some Jvm.ClassFile.FieldType.int)) ∈ lw_all := lw_g (lw_at lw_m4 43 rfl) rfl
theorem q856 : (Jvm.Cond.instanceMethod ({ cls := "HurtStreets", name := "ride", desc := "(III)I" } : Jvm.MethodName)) ∈ lw_all := lw_g (lw_at lw_m4 45 rfl) rfl
theorem q857 : (Jvm.Cond.selects "HurtStreets" ({ cls := "HurtStreets", name := "ride", desc := "(III)I" } : Jvm.MethodName) ({ cls := "HurtStreets", name := "ride", desc := "(III)I" } : Jvm.MethodName)) ∈ lw_all := lw_g (lw_at lw_m4 46 rfl) rfl
theorem q858 : (Jvm.Cond.code ({ cls := "HurtStreets", name := "ride", desc := "(III)I" } : Jvm.MethodName) prog_1_method_45_code (4 : Nat) (Option.some Jvm.ClassFile.FieldType.int)) ∈ lw_all := lw_g (lw_at lw_m4 47 rfl) rfl
theorem q859 : (Jvm.Cond.methodLink "HurtStreets" (291 : Nat) ({ cls := "HurtStreets$State", name := "take", desc := "(I)V" } : Jvm.MethodName)) ∈ lw_all := lw_g (lw_at lw_m4 48 rfl) rfl
theorem q864 : (Jvm.Cond.instanceMethod ({ cls := "HurtStreets", name := "waits", desc := "(III)I" } : Jvm.MethodName)) ∈ lw_all := lw_g (lw_at lw_m4 53 rfl) rfl
theorem q865 : (Jvm.Cond.selects "HurtStreets" ({ cls := "HurtStreets", name := "waits", desc := "(III)I" } : Jvm.MethodName) ({ cls := "HurtStreets", name := "waits", desc := "(III)I" } : Jvm.MethodName)) ∈ lw_all := lw_g (lw_at lw_m4 54 rfl) rfl
theorem q866 : (Jvm.Cond.code ({ cls := "HurtStreets", name := "waits", desc := "(III)I" } : Jvm.MethodName) prog_1_method_46_code (5 : Nat) (Option.some Jvm.ClassFile.FieldType.int)) ∈ lw_all := lw_g (lw_at lw_m4 55 rfl) rfl
theorem q868 : (Jvm.Cond.instanceMethod ({ cls := "HurtStreets", name := "match", desc := "(I)I" } : Jvm.MethodName)) ∈ lw_all := lw_g (lw_at lw_m4 57 rfl) rfl
theorem q869 : (Jvm.Cond.selects "HurtStreets" ({ cls := "HurtStreets", name := "match", desc := "(I)I" } : Jvm.MethodName) ({ cls := "HurtStreets", name := "match", desc := "(I)I" } : Jvm.MethodName)) ∈ lw_all := lw_g (lw_at lw_m4 58 rfl) rfl
theorem q870 : (Jvm.Cond.code ({ cls := "HurtStreets", name := "match", desc := "(I)I" } : Jvm.MethodName) prog_1_method_50_code (2 : Nat) (Option.some Jvm.ClassFile.FieldType.int)) ∈ lw_all := lw_g (lw_at lw_m4 59 rfl) rfl
theorem q871 : (Jvm.Cond.methodLink "HurtStreets" (304 : Nat) ({ cls := "HurtStreets", name := "layMatch", desc := "()V" } : Jvm.MethodName)) ∈ lw_all := lw_g (lw_at lw_m4 60 rfl) rfl
theorem q872 : (Jvm.Cond.privateMethod ({ cls := "HurtStreets", name := "layMatch", desc := "()V" } : Jvm.MethodName)) ∈ lw_tbl := lw_at lw_m4 61 rfl
theorem q873 : (Jvm.Cond.instanceMethod ({ cls := "HurtStreets", name := "layMatch", desc := "()V" } : Jvm.MethodName)) ∈ lw_all := lw_g (lw_at lw_m4 62 rfl) rfl
theorem q874 : (Jvm.Cond.code ({ cls := "HurtStreets", name := "layMatch", desc := "()V" } : Jvm.MethodName) prog_1_method_48_code (7 : Nat) (Option.none : Option Jvm.ClassFile.FieldType)) ∈ lw_all := lw_g (lw_at lw_m4 63 rfl) rfl
theorem q875 : (Jvm.Cond.methodLink "HurtStreets" (301 : Nat) ({ cls := "HurtStreets", name := "hurtsBy", desc := "(II)I" } : Jvm.MethodName)) ∈ lw_all := lw_g (lw_at lw_m4 64 rfl) rfl
theorem q876 : (Jvm.Cond.privateMethod ({ cls := "HurtStreets", name := "hurtsBy", desc := "(II)I" } : Jvm.MethodName)) ∈ lw_tbl := lw_at lw_m4 65 rfl
theorem q877 : (Jvm.Cond.instanceMethod ({ cls := "HurtStreets", name := "hurtsBy", desc := "(II)I" } : Jvm.MethodName)) ∈ lw_all := lw_g (lw_at lw_m4 66 rfl) rfl
theorem q878 : (Jvm.Cond.code ({ cls := "HurtStreets", name := "hurtsBy", desc := "(II)I" } : Jvm.MethodName) prog_1_method_47_code (3 : Nat) (Option.some Jvm.ClassFile.FieldType.int)) ∈ lw_all := lw_g (lw_at lw_m4 67 rfl) rfl
theorem q879 : (Jvm.Cond.methodLink "HurtStreets" (307 : Nat) ({ cls := "HurtStreets", name := "matchTold", desc := "(I)I" } : Jvm.MethodName)) ∈ lw_all := lw_g (lw_at lw_m4 68 rfl) rfl
theorem q880 : (Jvm.Cond.privateMethod ({ cls := "HurtStreets", name := "matchTold", desc := "(I)I" } : Jvm.MethodName)) ∈ lw_tbl := lw_at lw_m4 69 rfl
theorem q881 : (Jvm.Cond.instanceMethod ({ cls := "HurtStreets", name := "matchTold", desc := "(I)I" } : Jvm.MethodName)) ∈ lw_all := lw_g (lw_at lw_m4 70 rfl) rfl
theorem q882 : (Jvm.Cond.code ({ cls := "HurtStreets", name := "matchTold", desc := "(I)I" } : Jvm.MethodName) prog_1_method_49_code (2 : Nat) (Option.some Jvm.ClassFile.FieldType.int)) ∈ lw_all := lw_g (lw_at lw_m4 71 rfl) rfl
theorem q884 : (Jvm.Cond.instanceMethod ({ cls := "HurtStreets", name := "see", desc := "(IIII)I" } : Jvm.MethodName)) ∈ lw_all := lw_g (lw_at lw_m4 73 rfl) rfl
theorem q885 : (Jvm.Cond.selects "HurtStreets" ({ cls := "HurtStreets", name := "see", desc := "(IIII)I" } : Jvm.MethodName) ({ cls := "HurtStreets", name := "see", desc := "(IIII)I" } : Jvm.MethodName)) ∈ lw_all := lw_g (lw_at lw_m4 74 rfl) rfl
theorem q886 : (Jvm.Cond.code ({ cls := "HurtStreets", name := "see", desc := "(IIII)I" } : Jvm.MethodName) prog_1_method_51_code (5 : Nat) (Option.some Jvm.ClassFile.FieldType.int)) ∈ lw_all := lw_g (lw_at lw_m4 75 rfl) rfl
theorem q888 : (Jvm.Cond.instanceMethod ({ cls := "HurtStreets", name := "forget", desc := "()I" } : Jvm.MethodName)) ∈ lw_all := lw_g (lw_at lw_m4 77 rfl) rfl
theorem q889 : (Jvm.Cond.selects "HurtStreets" ({ cls := "HurtStreets", name := "forget", desc := "()I" } : Jvm.MethodName) ({ cls := "HurtStreets", name := "forget", desc := "()I" } : Jvm.MethodName)) ∈ lw_all := lw_g (lw_at lw_m4 78 rfl) rfl
theorem q890 : (Jvm.Cond.code ({ cls := "HurtStreets", name := "forget", desc := "()I" } : Jvm.MethodName) prog_1_method_52_code (2 : Nat) (Option.some Jvm.ClassFile.FieldType.int)) ∈ lw_all := lw_g (lw_at lw_m4 79 rfl) rfl
theorem q892 : (Jvm.Cond.instanceMethod ({ cls := "HurtStreets", name := "watch", desc := "(II)I" } : Jvm.MethodName)) ∈ lw_all := lw_g (lw_at lw_m4 81 rfl) rfl
theorem q893 : (Jvm.Cond.selects "HurtStreets" ({ cls := "HurtStreets", name := "watch", desc := "(II)I" } : Jvm.MethodName) ({ cls := "HurtStreets", name := "watch", desc := "(II)I" } : Jvm.MethodName)) ∈ lw_all := lw_g (lw_at lw_m4 82 rfl) rfl
theorem q894 : (Jvm.Cond.code ({ cls := "HurtStreets", name := "watch", desc := "(II)I" } : Jvm.MethodName) prog_1_method_57_code (3 : Nat) (Option.some Jvm.ClassFile.FieldType.int)) ∈ lw_all := lw_g (lw_at lw_m4 83 rfl) rfl
theorem q895 : (Jvm.Cond.methodLink "HurtStreets" (319 : Nat) ({ cls := "HurtStreets", name := "watchFrom", desc := "(II)I" } : Jvm.MethodName)) ∈ lw_all := lw_g (lw_at lw_m4 84 rfl) rfl
theorem q896 : (Jvm.Cond.privateMethod ({ cls := "HurtStreets", name := "watchFrom", desc := "(II)I" } : Jvm.MethodName)) ∈ lw_tbl := lw_at lw_m4 85 rfl
theorem q897 : (Jvm.Cond.instanceMethod ({ cls := "HurtStreets", name := "watchFrom", desc := "(II)I" } : Jvm.MethodName)) ∈ lw_all := lw_g (lw_at lw_m4 86 rfl) rfl
theorem q898 : (Jvm.Cond.code ({ cls := "HurtStreets", name := "watchFrom", desc := "(II)I" } : Jvm.MethodName) prog_1_method_56_code (8 : Nat) (Option.some Jvm.ClassFile.FieldType.int)) ∈ lw_all := lw_g (lw_at lw_m4 87 rfl) rfl
theorem q899 : (Jvm.Cond.methodLink "HurtStreets" (316 : Nat) ({ cls := "HurtStreets", name := "worstTo", desc := "(IIII)I" } : Jvm.MethodName)) ∈ lw_all := lw_g (lw_at lw_m4 88 rfl) rfl
theorem q900 : (Jvm.Cond.privateMethod ({ cls := "HurtStreets", name := "worstTo", desc := "(IIII)I" } : Jvm.MethodName)) ∈ lw_tbl := lw_at lw_m4 89 rfl
theorem q901 : (Jvm.Cond.instanceMethod ({ cls := "HurtStreets", name := "worstTo", desc := "(IIII)I" } : Jvm.MethodName)) ∈ lw_all := lw_g (lw_at lw_m4 90 rfl) rfl
theorem q902 : (Jvm.Cond.code ({ cls := "HurtStreets", name := "worstTo", desc := "(IIII)I" } : Jvm.MethodName) prog_1_method_55_code (9 : Nat) (Option.some Jvm.ClassFile.FieldType.int)) ∈ lw_all := lw_g (lw_at lw_m4 91 rfl) rfl
theorem q903 : (Jvm.Cond.methodLink "HurtStreets" (313 : Nat) ({ cls := "java/lang/Math", name := "max", desc := "(II)I" } : Jvm.MethodName)) ∈ lw_all := lw_g (lw_at lw_m4 92 rfl) rfl
theorem q905 : (Jvm.Cond.instanceMethod ({ cls := "HurtStreets", name := "years", desc := "(III)I" } : Jvm.MethodName)) ∈ lw_all := lw_g (lw_at lw_m4 94 rfl) rfl
theorem q906 : (Jvm.Cond.selects "HurtStreets" ({ cls := "HurtStreets", name := "years", desc := "(III)I" } : Jvm.MethodName) ({ cls := "HurtStreets", name := "years", desc := "(III)I" } : Jvm.MethodName)) ∈ lw_all := lw_g (lw_at lw_m4 95 rfl) rfl
theorem q907 : (Jvm.Cond.code ({ cls := "HurtStreets", name := "years", desc := "(III)I" } : Jvm.MethodName) prog_1_method_60_code (4 : Nat) (Option.some Jvm.ClassFile.FieldType.int)) ∈ lw_all := lw_g (lw_at lw_m4 96 rfl) rfl
theorem q908 : (Jvm.Cond.methodLink "HurtStreets" (341 : Nat) ({ cls := "HurtStreets", name := "yearsTold", desc := "(III)I" } : Jvm.MethodName)) ∈ lw_all := lw_g (lw_at lw_m4 97 rfl) rfl
theorem q909 : (Jvm.Cond.privateMethod ({ cls := "HurtStreets", name := "yearsTold", desc := "(III)I" } : Jvm.MethodName)) ∈ lw_tbl := lw_at lw_m4 98 rfl
theorem q910 : (Jvm.Cond.instanceMethod ({ cls := "HurtStreets", name := "yearsTold", desc := "(III)I" } : Jvm.MethodName)) ∈ lw_all := lw_g (lw_at lw_m4 99 rfl) rfl
theorem q911 : (Jvm.Cond.code ({ cls := "HurtStreets", name := "yearsTold", desc := "(III)I" } : Jvm.MethodName) prog_1_method_59_code (10 : Nat) (Option.some Jvm.ClassFile.FieldType.int)) ∈ lw_all := lw_g (lw_at lw_m4 100 rfl) rfl
theorem q912 : (Jvm.Cond.methodLink "HurtStreets" (334 : Nat) ({ cls := "HurtStreets$State", name := "become", desc := "(LHurtStreets$State;)V" } : Jvm.MethodName)) ∈ lw_all := lw_g (lw_at lw_m4 101 rfl) rfl
theorem q916 : (Jvm.Cond.methodLink "HurtStreets" (338 : Nat) ({ cls := "HurtStreets", name := "draw", desc := "(I)I" } : Jvm.MethodName)) ∈ lw_all := lw_g (lw_at lw_m4 105 rfl) rfl
theorem q917 : (Jvm.Cond.privateMethod ({ cls := "HurtStreets", name := "draw", desc := "(I)I" } : Jvm.MethodName)) ∈ lw_tbl := lw_at lw_m4 106 rfl
theorem q918 : (Jvm.Cond.instanceMethod ({ cls := "HurtStreets", name := "draw", desc := "(I)I" } : Jvm.MethodName)) ∈ lw_all := lw_g (lw_at lw_m4 107 rfl) rfl
theorem q919 : (Jvm.Cond.code ({ cls := "HurtStreets", name := "draw", desc := "(I)I" } : Jvm.MethodName) prog_1_method_58_code (2 : Nat) (Option.some Jvm.ClassFile.FieldType.int)) ∈ lw_all := lw_g (lw_at lw_m4 108 rfl) rfl
theorem q920 : (Jvm.Cond.constantLong "HurtStreets" (322 : Nat) (1103515245 : Int64)) ∈ lw_all := lw_g (lw_at lw_m4 109 rfl) rfl
theorem q921 : (Jvm.Cond.constantLong "HurtStreets" (328 : Nat) (12345 : Int64)) ∈ lw_all := lw_g (lw_at lw_m4 110 rfl) rfl
theorem q922 : (Jvm.Cond.constantLong "HurtStreets" (330 : Nat) (2147483647 : Int64)) ∈ lw_all := lw_g (lw_at lw_m4 111 rfl) rfl
theorem q923 : (Jvm.Cond.constantLong "HurtStreets" (332 : Nat) (65536 : Int64)) ∈ lw_all := lw_g (lw_at lw_m4 112 rfl) rfl
theorem q925 : (Jvm.Cond.instanceMethod ({ cls := "HurtStreets", name := "image", desc := "()I" } : Jvm.MethodName)) ∈ lw_all := lw_g (lw_at lw_m4 114 rfl) rfl
theorem q926 : (Jvm.Cond.selects "HurtStreets" ({ cls := "HurtStreets", name := "image", desc := "()I" } : Jvm.MethodName) ({ cls := "HurtStreets", name := "image", desc := "()I" } : Jvm.MethodName)) ∈ lw_all := lw_g (lw_at lw_m4 115 rfl) rfl
theorem q927 : (Jvm.Cond.code ({ cls := "HurtStreets", name := "image", desc := "()I" } : Jvm.MethodName) prog_1_method_61_code (2 : Nat) (Option.some Jvm.ClassFile.FieldType.int)) ∈ lw_all := lw_g (lw_at lw_m4 116 rfl) rfl
theorem q929 : (Jvm.Cond.instanceMethod ({ cls := "HurtStreets", name := "restore", desc := "()I" } : Jvm.MethodName)) ∈ lw_all := lw_g (lw_at lw_m4 118 rfl) rfl
theorem q930 : (Jvm.Cond.selects "HurtStreets" ({ cls := "HurtStreets", name := "restore", desc := "()I" } : Jvm.MethodName) ({ cls := "HurtStreets", name := "restore", desc := "()I" } : Jvm.MethodName)) ∈ lw_all := lw_g (lw_at lw_m4 119 rfl) rfl
theorem q931 : (Jvm.Cond.code ({ cls := "HurtStreets", name := "restore", desc := "()I" } : Jvm.MethodName) prog_1_method_62_code (2 : Nat) (Option.some Jvm.ClassFile.FieldType.int)) ∈ lw_all := lw_g (lw_at lw_m4 120 rfl) rfl
theorem q933 : (Jvm.Cond.instanceMethod ({ cls := "HurtStreets", name := "count", desc := "(I)I" } : Jvm.MethodName)) ∈ lw_all := lw_g (lw_at lw_m4 122 rfl) rfl
theorem q934 : (Jvm.Cond.selects "HurtStreets" ({ cls := "HurtStreets", name := "count", desc := "(I)I" } : Jvm.MethodName) ({ cls := "HurtStreets", name := "count", desc := "(I)I" } : Jvm.MethodName)) ∈ lw_all := lw_g (lw_at lw_m4 123 rfl) rfl
theorem q935 : (Jvm.Cond.code ({ cls := "HurtStreets", name := "count", desc := "(I)I" } : Jvm.MethodName) prog_1_method_66_code (2 : Nat) (Option.some Jvm.ClassFile.FieldType.int)) ∈ lw_all := lw_g (lw_at lw_m4 124 rfl) rfl
theorem q936 : (Jvm.Cond.methodLink "HurtStreets" (356 : Nat) ({ cls := "HurtStreets", name := "countOf", desc := "(I)I" } : Jvm.MethodName)) ∈ lw_all := lw_g (lw_at lw_m4 125 rfl) rfl
theorem q937 : (Jvm.Cond.privateMethod ({ cls := "HurtStreets", name := "countOf", desc := "(I)I" } : Jvm.MethodName)) ∈ lw_tbl := lw_at lw_m4 126 rfl
theorem q938 : (Jvm.Cond.instanceMethod ({ cls := "HurtStreets", name := "countOf", desc := "(I)I" } : Jvm.MethodName)) ∈ lw_all := lw_g (lw_at lw_m4 127 rfl) rfl
theorem q939 : (Jvm.Cond.code ({ cls := "HurtStreets", name := "countOf", desc := "(I)I" } : Jvm.MethodName) prog_1_method_65_code (2 : Nat) (Option.some Jvm.ClassFile.FieldType.int)) ∈ lw_all := lw_g (lw_at lw_m4 128 rfl) rfl
theorem q940 : (Jvm.Cond.methodLink "HurtStreets" (350 : Nat) ({ cls := "HurtStreets", name := "sumOfPeople", desc := "(I)I" } : Jvm.MethodName)) ∈ lw_all := lw_g (lw_at lw_m4 129 rfl) rfl
theorem q941 : (Jvm.Cond.privateMethod ({ cls := "HurtStreets", name := "sumOfPeople", desc := "(I)I" } : Jvm.MethodName)) ∈ lw_tbl := lw_at lw_m4 130 rfl
theorem q942 : (Jvm.Cond.instanceMethod ({ cls := "HurtStreets", name := "sumOfPeople", desc := "(I)I" } : Jvm.MethodName)) ∈ lw_all := lw_g (lw_at lw_m4 131 rfl) rfl
theorem q943 : (Jvm.Cond.code ({ cls := "HurtStreets", name := "sumOfPeople", desc := "(I)I" } : Jvm.MethodName) prog_1_method_63_code (4 : Nat) (Option.some Jvm.ClassFile.FieldType.int)) ∈ lw_all := lw_g (lw_at lw_m4 132 rfl) rfl
theorem q944 : (Jvm.Cond.methodLink "HurtStreets" (353 : Nat) ({ cls := "HurtStreets", name := "lengths", desc := "()I" } : Jvm.MethodName)) ∈ lw_all := lw_g (lw_at lw_m4 133 rfl) rfl
theorem q945 : (Jvm.Cond.privateMethod ({ cls := "HurtStreets", name := "lengths", desc := "()I" } : Jvm.MethodName)) ∈ lw_tbl := lw_at lw_m4 134 rfl
theorem q946 : (Jvm.Cond.instanceMethod ({ cls := "HurtStreets", name := "lengths", desc := "()I" } : Jvm.MethodName)) ∈ lw_all := lw_g (lw_at lw_m4 135 rfl) rfl
theorem q947 : (Jvm.Cond.code ({ cls := "HurtStreets", name := "lengths", desc := "()I" } : Jvm.MethodName) prog_1_method_64_code (3 : Nat) (Option.some Jvm.ClassFile.FieldType.int)) ∈ lw_all := lw_g (lw_at lw_m4 136 rfl) rfl
theorem q949 : (Jvm.Cond.instanceMethod ({ cls := "HurtStreets", name := "digest", desc := "()J" } : Jvm.MethodName)) ∈ lw_all := lw_g (lw_at lw_m4 138 rfl) rfl
theorem q950 : (Jvm.Cond.selects "HurtStreets" ({ cls := "HurtStreets", name := "digest", desc := "()J" } : Jvm.MethodName) ({ cls := "HurtStreets", name := "digest", desc := "()J" } : Jvm.MethodName)) ∈ lw_all := lw_g (lw_at lw_m4 139 rfl) rfl
theorem q951 : (Jvm.Cond.code ({ cls := "HurtStreets", name := "digest", desc := "()J" } : Jvm.MethodName) prog_1_method_70_code (5 : Nat) (Option.some Jvm.ClassFile.FieldType.long)) ∈ lw_all := lw_g (lw_at lw_m4 140 rfl) rfl
theorem q952 : (Jvm.Cond.constantLong "HurtStreets" (365 : Nat) (1109 : Int64)) ∈ lw_all := lw_g (lw_at lw_m4 141 rfl) rfl
theorem q953 : (Jvm.Cond.methodLink "HurtStreets" (367 : Nat) ({ cls := "HurtStreets", name := "mixedPerson", desc := "(JI)J" } : Jvm.MethodName)) ∈ lw_all := lw_g (lw_at lw_m4 142 rfl) rfl
theorem q954 : (Jvm.Cond.privateMethod ({ cls := "HurtStreets", name := "mixedPerson", desc := "(JI)J" } : Jvm.MethodName)) ∈ lw_tbl := lw_at lw_m4 143 rfl
theorem q955 : (Jvm.Cond.instanceMethod ({ cls := "HurtStreets", name := "mixedPerson", desc := "(JI)J" } : Jvm.MethodName)) ∈ lw_all := lw_g (lw_at lw_m4 144 rfl) rfl
theorem q956 : (Jvm.Cond.code ({ cls := "HurtStreets", name := "mixedPerson", desc := "(JI)J" } : Jvm.MethodName) prog_1_method_68_code (8 : Nat) (Option.some Jvm.ClassFile.FieldType.long)) ∈ lw_all := lw_g (lw_at lw_m4 145 rfl) rfl
theorem q957 : (Jvm.Cond.methodLink "HurtStreets" (361 : Nat) ({ cls := "HurtStreets", name := "mixed", desc := "(JJ)J" } : Jvm.MethodName)) ∈ lw_all := lw_g (lw_at lw_m4 146 rfl) rfl
theorem q958 : (Jvm.Cond.static ({ cls := "HurtStreets", name := "mixed", desc := "(JJ)J" } : Jvm.MethodName)) ∈ lw_all := lw_g (lw_at lw_m4 147 rfl) rfl
theorem q959 : (Jvm.Cond.code ({ cls := "HurtStreets", name := "mixed", desc := "(JJ)J" } : Jvm.MethodName) prog_1_method_67_code (4 : Nat) (Option.some Jvm.ClassFile.FieldType.long)) ∈ lw_all := lw_g (lw_at lw_m4 148 rfl) rfl
theorem q960 : (Jvm.Cond.constantLong "HurtStreets" (359 : Nat) (31 : Int64)) ∈ lw_all := lw_g (lw_at lw_m4 149 rfl) rfl
theorem q961 : (Jvm.Cond.methodLink "HurtStreets" (371 : Nat) ({ cls := "HurtStreets", name := "mixedDrivers", desc := "(J)J" } : Jvm.MethodName)) ∈ lw_all := lw_g (lw_at lw_m4 150 rfl) rfl
theorem q962 : (Jvm.Cond.privateMethod ({ cls := "HurtStreets", name := "mixedDrivers", desc := "(J)J" } : Jvm.MethodName)) ∈ lw_tbl := lw_at lw_m4 151 rfl
theorem q963 : (Jvm.Cond.instanceMethod ({ cls := "HurtStreets", name := "mixedDrivers", desc := "(J)J" } : Jvm.MethodName)) ∈ lw_all := lw_g (lw_at lw_m4 152 rfl) rfl
theorem q964 : (Jvm.Cond.code ({ cls := "HurtStreets", name := "mixedDrivers", desc := "(J)J" } : Jvm.MethodName) prog_1_method_69_code (7 : Nat) (Option.some Jvm.ClassFile.FieldType.long)) ∈ lw_all := lw_g (lw_at lw_m4 153 rfl) rfl
theorem q1393 : (Jvm.Cond.castable "HurtStreets" "java/lang/Object") ∈ lw_tbl := lw_at lw_m6 102 rfl
theorem in_X0 : ∀ w ∈ wsX00, w ∈ lw_all := lw_in wsX00 [245, 247, 249, 251, 253, 255, 257, 259, 261, 263, 265, 267, 269, 271, 273, 275, 277, 279, 281, 283, 285, 287, 289, 291, 293] (by decide +kernel) (by decide +kernel)
