/-! HurtStreets$Street -/
set_option maxRecDepth 100000
def RX5 : String := "HurtStreets$Street"
def TX5 : u_T := fun k => match k with
  | 0 => ("HurtStreets$Street", "one", "I", false)
  | 1 => ("HurtStreets$Street", "other", "I", false)
  | _ => ("HurtStreets$Street", "length", "I", false)
def tyX5 : Nat → FieldType := fun k => match k with
  | 0 => .int
  | 1 => .int
  | _ => .int
abbrev wsX50 : List Cond := u_ws RX5 TX5 3
theorem nmX5 : ∀ a, a < 3 → ∀ b, b < 3 → a ≠ b → (TX5 a).2.1 ≠ (TX5 b).2.1 := by decide +kernel
theorem tyX5_ok : ∀ k, k < 3 → parseFieldDescriptor (TX5 k).2.2.1 = some (tyX5 k) := by decide +kernel
abbrev cX5_init : ByteArray := prog_9_method_1_code
def yX5_init : MethodName := ⟨RX5, "<init>", "()V"⟩
theorem dX5_init_0 : decode cX5_init 0 = .ok (.aload_n 0, 1) := by decide +kernel
theorem dX5_init_1 : decode cX5_init 1 = .ok (.invokespecial 1, 3) := by decide +kernel
theorem dX5_init_4 : decode cX5_init 4 = .ok (.return_, 1) := by decide +kernel
abbrev cX5_hurts : ByteArray := prog_9_method_4_code
def yX5_hurts : MethodName := ⟨RX5, "hurts", "(III)I"⟩
theorem dX5_hurts_0 : decode cX5_hurts 0 = .ok (.iconst 0, 1) := by decide +kernel
theorem dX5_hurts_1 : decode cX5_hurts 1 = .ok (.ireturn, 1) := by decide +kernel
abbrev cX5_endsAt : ByteArray := prog_9_method_5_code
def yX5_endsAt : MethodName := ⟨RX5, "endsAt", "(I)Z"⟩
def dkwX5_endsAt_0 : List UInt8 := [42, 180, 0, 13, 27, 159, 0, 11, 42, 180, 0, 17, 27, 160, 0, 7, 4, 167, 0, 4, 3, 172]
abbrev dktX5_endsAt_0 : List UInt8 := dkwX5_endsAt_0 ++ []
theorem dksX5_endsAt_0 : cX5_endsAt.data.toList.drop 0 = dktX5_endsAt_0 := by decide +kernel
theorem dX5_endsAt_0 : decode cX5_endsAt 0 = .ok (.aload_n 0, 1) := dk_42 (dk_at dksX5_endsAt_0 0 rfl rfl)
theorem dX5_endsAt_1 : decode cX5_endsAt 1 = .ok (.getfield 13, 3) := dk_180 0 13 (dk_at dksX5_endsAt_0 1 rfl rfl)
theorem dX5_endsAt_4 : decode cX5_endsAt 4 = .ok (.iload_n 1, 1) := dk_27 (dk_at dksX5_endsAt_0 4 rfl rfl)
theorem dX5_endsAt_5 : decode cX5_endsAt 5 = .ok (.if_icmp .eq 11, 3) := dk_159 0 11 (dk_at dksX5_endsAt_0 5 rfl rfl)
theorem dX5_endsAt_8 : decode cX5_endsAt 8 = .ok (.aload_n 0, 1) := dk_42 (dk_at dksX5_endsAt_0 8 rfl rfl)
theorem dX5_endsAt_9 : decode cX5_endsAt 9 = .ok (.getfield 17, 3) := dk_180 0 17 (dk_at dksX5_endsAt_0 9 rfl rfl)
theorem dX5_endsAt_12 : decode cX5_endsAt 12 = .ok (.iload_n 1, 1) := dk_27 (dk_at dksX5_endsAt_0 12 rfl rfl)
theorem dX5_endsAt_13 : decode cX5_endsAt 13 = .ok (.if_icmp .ne 7, 3) := dk_160 0 7 (dk_at dksX5_endsAt_0 13 rfl rfl)
theorem dX5_endsAt_16 : decode cX5_endsAt 16 = .ok (.iconst 1, 1) := dk_4 (dk_at dksX5_endsAt_0 16 rfl rfl)
theorem dX5_endsAt_17 : decode cX5_endsAt 17 = .ok (.goto 4, 3) := dk_167 0 4 (dk_at dksX5_endsAt_0 17 rfl rfl)
theorem dX5_endsAt_20 : decode cX5_endsAt 20 = .ok (.iconst 0, 1) := dk_3 (dk_at dksX5_endsAt_0 20 rfl rfl)
theorem dX5_endsAt_21 : decode cX5_endsAt 21 = .ok (.ireturn, 1) := dk_172 (dk_at dksX5_endsAt_0 21 rfl rfl)
abbrev cX5_from : ByteArray := prog_9_method_6_code
def yX5_from : MethodName := ⟨RX5, "from", "(I)I"⟩
def dkwX5_from_0 : List UInt8 := [42, 180, 0, 13, 27, 160, 0, 10, 42, 180, 0, 17, 167, 0, 7, 42, 180, 0, 13, 172]
abbrev dktX5_from_0 : List UInt8 := dkwX5_from_0 ++ []
theorem dksX5_from_0 : cX5_from.data.toList.drop 0 = dktX5_from_0 := by decide +kernel
theorem dX5_from_0 : decode cX5_from 0 = .ok (.aload_n 0, 1) := dk_42 (dk_at dksX5_from_0 0 rfl rfl)
theorem dX5_from_1 : decode cX5_from 1 = .ok (.getfield 13, 3) := dk_180 0 13 (dk_at dksX5_from_0 1 rfl rfl)
theorem dX5_from_4 : decode cX5_from 4 = .ok (.iload_n 1, 1) := dk_27 (dk_at dksX5_from_0 4 rfl rfl)
theorem dX5_from_5 : decode cX5_from 5 = .ok (.if_icmp .ne 10, 3) := dk_160 0 10 (dk_at dksX5_from_0 5 rfl rfl)
theorem dX5_from_8 : decode cX5_from 8 = .ok (.aload_n 0, 1) := dk_42 (dk_at dksX5_from_0 8 rfl rfl)
theorem dX5_from_9 : decode cX5_from 9 = .ok (.getfield 17, 3) := dk_180 0 17 (dk_at dksX5_from_0 9 rfl rfl)
theorem dX5_from_12 : decode cX5_from 12 = .ok (.goto 7, 3) := dk_167 0 7 (dk_at dksX5_from_0 12 rfl rfl)
theorem dX5_from_15 : decode cX5_from 15 = .ok (.aload_n 0, 1) := dk_42 (dk_at dksX5_from_0 15 rfl rfl)
theorem dX5_from_16 : decode cX5_from 16 = .ok (.getfield 13, 3) := dk_180 0 13 (dk_at dksX5_from_0 16 rfl rfl)
theorem dX5_from_19 : decode cX5_from 19 = .ok (.ireturn, 1) := dk_172 (dk_at dksX5_from_0 19 rfl rfl)
abbrev cX5_kind : ByteArray := prog_9_method_2_code
def yX5_kind : MethodName := ⟨RX5, "kind", "()I"⟩
theorem dX5_kind_0 : decode cX5_kind 0 = .ok (.iconst 0, 1) := by decide +kernel
theorem dX5_kind_1 : decode cX5_kind 1 = .ok (.ireturn, 1) := by decide +kernel
abbrev cX5_isOf : ByteArray := prog_9_method_3_code
def yX5_isOf : MethodName := ⟨RX5, "isOf", "(I)Z"⟩
def dkwX5_isOf_0 : List UInt8 := [27, 153, 0, 11, 27, 42, 182, 0, 7, 160, 0, 7, 4, 167, 0, 4, 3, 172]
abbrev dktX5_isOf_0 : List UInt8 := dkwX5_isOf_0 ++ []
theorem dksX5_isOf_0 : cX5_isOf.data.toList.drop 0 = dktX5_isOf_0 := by decide +kernel
theorem dX5_isOf_0 : decode cX5_isOf 0 = .ok (.iload_n 1, 1) := dk_27 (dk_at dksX5_isOf_0 0 rfl rfl)
theorem dX5_isOf_1 : decode cX5_isOf 1 = .ok (.ifCond .eq 11, 3) := dk_153 0 11 (dk_at dksX5_isOf_0 1 rfl rfl)
theorem dX5_isOf_4 : decode cX5_isOf 4 = .ok (.iload_n 1, 1) := dk_27 (dk_at dksX5_isOf_0 4 rfl rfl)
theorem dX5_isOf_5 : decode cX5_isOf 5 = .ok (.aload_n 0, 1) := dk_42 (dk_at dksX5_isOf_0 5 rfl rfl)
theorem dX5_isOf_6 : decode cX5_isOf 6 = .ok (.invokevirtual 7, 3) := dk_182 0 7 (dk_at dksX5_isOf_0 6 rfl rfl)
theorem dX5_isOf_9 : decode cX5_isOf 9 = .ok (.if_icmp .ne 7, 3) := dk_160 0 7 (dk_at dksX5_isOf_0 9 rfl rfl)
theorem dX5_isOf_12 : decode cX5_isOf 12 = .ok (.iconst 1, 1) := dk_4 (dk_at dksX5_isOf_0 12 rfl rfl)
theorem dX5_isOf_13 : decode cX5_isOf 13 = .ok (.goto 4, 3) := dk_167 0 4 (dk_at dksX5_isOf_0 13 rfl rfl)
theorem dX5_isOf_16 : decode cX5_isOf 16 = .ok (.iconst 0, 1) := dk_3 (dk_at dksX5_isOf_0 16 rfl rfl)
theorem dX5_isOf_17 : decode cX5_isOf 17 = .ok (.ireturn, 1) := dk_172 (dk_at dksX5_isOf_0 17 rfl rfl)
theorem q102 : (Jvm.Cond.initialized "HurtStreets$Street") ∈ lw_all := lw_g (lw_at lw_m1 11 rfl) rfl
theorem q437 : (Jvm.Cond.instanceMethod ({ cls := "HurtStreets$Street", name := "<init>", desc := "()V" } : Jvm.MethodName)) ∈ lw_all := lw_g (lw_at lw_m2 106 rfl) rfl
theorem q438 : (Jvm.Cond.code ({ cls := "HurtStreets$Street", name := "<init>", desc := "()V" } : Jvm.MethodName) prog_9_method_1_code (1 : Nat) (Option.none : Option Jvm.ClassFile.FieldType)) ∈ lw_all := lw_g (lw_at lw_m2 107 rfl) rfl
theorem q439 : (Jvm.Cond.methodLink "HurtStreets$Street" (1 : Nat) ({ cls := "java/lang/Object", name := "<init>", desc := "()V" } : Jvm.MethodName)) ∈ lw_all := lw_g (lw_at lw_m2 108 rfl) rfl
theorem q440 : (Jvm.Cond.fieldLink "HurtStreets$Street" (13 : Nat) "HurtStreets$Street" "one" "I") ∈ lw_all := lw_g (lw_at lw_m2 109 rfl) rfl
theorem q444 : (Jvm.Cond.fieldLink "HurtStreets$Street" (17 : Nat) "HurtStreets$Street" "other" "I") ∈ lw_all := lw_g (lw_at lw_m2 113 rfl) rfl
theorem q452 : (Jvm.Cond.soleField "HurtStreets$Street" "one") ∈ lw_all := lw_g (lw_at lw_m2 121 rfl) rfl
theorem q454 : (Jvm.Cond.soleField "HurtStreets$Street" "other") ∈ lw_all := lw_g (lw_at lw_m2 123 rfl) rfl
theorem q456 : (Jvm.Cond.soleField "HurtStreets$Street" "length") ∈ lw_all := lw_g (lw_at lw_m2 125 rfl) rfl
theorem q489 : (Jvm.Cond.instantiable "HurtStreets$Street" (3 : Nat)) ∈ lw_all := lw_g (lw_at lw_m2 158 rfl) rfl
theorem q491 : (Jvm.Cond.lays "HurtStreets$Street" "HurtStreets$Street" "one" "I") ∈ lw_all := lw_g (lw_at lw_m2 160 rfl) rfl
theorem q492 : (Jvm.Cond.lays "HurtStreets$Street" "HurtStreets$Street" "other" "I") ∈ lw_all := lw_g (lw_at lw_m2 161 rfl) rfl
theorem q493 : (Jvm.Cond.lays "HurtStreets$Street" "HurtStreets$Street" "length" "I") ∈ lw_all := lw_g (lw_at lw_m2 162 rfl) rfl
theorem q494 : (Jvm.Cond.superclass "HurtStreets$Street" "java/lang/Object") ∈ lw_all := lw_g (lw_at lw_m2 163 rfl) rfl
theorem q535 : (Jvm.Cond.selects "HurtStreets$Street" ({ cls := "java/lang/Object", name := "getClass", desc := "()Ljava/lang/Class;" } : Jvm.MethodName) ({ cls := "java/lang/Object", name := "getClass", desc := "()Ljava/lang/Class;" } : Jvm.MethodName)) ∈ lw_all := lw_g (lw_at lw_m2 204 rfl) rfl
theorem q637 : (Jvm.Cond.instanceMethod ({ cls := "HurtStreets$Street", name := "hurts", desc := "(III)I" } : Jvm.MethodName)) ∈ lw_all := lw_g (lw_at lw_m3 66 rfl) rfl
theorem q638 : (Jvm.Cond.selects "HurtStreets$Street" ({ cls := "HurtStreets$Street", name := "hurts", desc := "(III)I" } : Jvm.MethodName) ({ cls := "HurtStreets$Street", name := "hurts", desc := "(III)I" } : Jvm.MethodName)) ∈ lw_all := lw_g (lw_at lw_m3 67 rfl) rfl
theorem q639 : (Jvm.Cond.sameMethod "HurtStreets$Street" "HurtStreets$Street" "hurts" "(III)I") ∈ lw_all := lw_g (lw_at lw_m3 68 rfl) rfl
theorem q657 : (Jvm.Cond.code ({ cls := "HurtStreets$Street", name := "hurts", desc := "(III)I" } : Jvm.MethodName) prog_9_method_4_code (4 : Nat) (Option.some Jvm.ClassFile.FieldType.int)) ∈ lw_all := lw_g (lw_at lw_m3 86 rfl) rfl
theorem q668 : (Jvm.Cond.instanceMethod ({ cls := "HurtStreets$Street", name := "endsAt", desc := "(I)Z" } : Jvm.MethodName)) ∈ lw_all := lw_g (lw_at lw_m3 97 rfl) rfl
theorem q669 : (Jvm.Cond.selects "HurtStreets$Street" ({ cls := "HurtStreets$Street", name := "endsAt", desc := "(I)Z" } : Jvm.MethodName) ({ cls := "HurtStreets$Street", name := "endsAt", desc := "(I)Z" } : Jvm.MethodName)) ∈ lw_all := lw_g (lw_at lw_m3 98 rfl) rfl
theorem q670 : (Jvm.Cond.sameMethod "HurtStreets$Street" "HurtStreets$Street" "endsAt" "(I)Z") ∈ lw_all := lw_g (lw_at lw_m3 99 rfl) rfl
theorem q675 : (Jvm.Cond.code ({ cls := "HurtStreets$Street", name := "endsAt", desc := "(I)Z" } : Jvm.MethodName) prog_9_method_5_code (2 : Nat) (Option.some Jvm.ClassFile.FieldType.boolean)) ∈ lw_all := lw_g (lw_at lw_m3 104 rfl) rfl
theorem q677 : (Jvm.Cond.instanceMethod ({ cls := "HurtStreets$Street", name := "from", desc := "(I)I" } : Jvm.MethodName)) ∈ lw_all := lw_g (lw_at lw_m3 106 rfl) rfl
theorem q678 : (Jvm.Cond.selects "HurtStreets$Street" ({ cls := "HurtStreets$Street", name := "from", desc := "(I)I" } : Jvm.MethodName) ({ cls := "HurtStreets$Street", name := "from", desc := "(I)I" } : Jvm.MethodName)) ∈ lw_all := lw_g (lw_at lw_m3 107 rfl) rfl
theorem q679 : (Jvm.Cond.sameMethod "HurtStreets$Street" "HurtStreets$Street" "from" "(I)I") ∈ lw_all := lw_g (lw_at lw_m3 108 rfl) rfl
theorem q684 : (Jvm.Cond.code ({ cls := "HurtStreets$Street", name := "from", desc := "(I)I" } : Jvm.MethodName) prog_9_method_6_code (2 : Nat) (Option.some Jvm.ClassFile.FieldType.int)) ∈ lw_all := lw_g (lw_at lw_m3 113 rfl) rfl
theorem q698 : (Jvm.Cond.instanceMethod ({ cls := "HurtStreets$Street", name := "kind", desc := "()I" } : Jvm.MethodName)) ∈ lw_all := lw_g (lw_at lw_m3 127 rfl) rfl
theorem q699 : (Jvm.Cond.selects "HurtStreets$Street" ({ cls := "HurtStreets$Street", name := "kind", desc := "()I" } : Jvm.MethodName) ({ cls := "HurtStreets$Street", name := "kind", desc := "()I" } : Jvm.MethodName)) ∈ lw_all := lw_g (lw_at lw_m3 128 rfl) rfl
theorem q700 : (Jvm.Cond.sameMethod "HurtStreets$Street" "HurtStreets$Street" "kind" "()I") ∈ lw_all := lw_g (lw_at lw_m3 129 rfl) rfl
theorem q713 : (Jvm.Cond.code ({ cls := "HurtStreets$Street", name := "kind", desc := "()I" } : Jvm.MethodName) prog_9_method_2_code (1 : Nat) (Option.some Jvm.ClassFile.FieldType.int)) ∈ lw_all := lw_g (lw_at lw_m3 142 rfl) rfl
theorem q724 : (Jvm.Cond.instanceMethod ({ cls := "HurtStreets$Street", name := "isOf", desc := "(I)Z" } : Jvm.MethodName)) ∈ lw_all := lw_g (lw_at lw_m3 153 rfl) rfl
theorem q725 : (Jvm.Cond.selects "HurtStreets$Street" ({ cls := "HurtStreets$Street", name := "isOf", desc := "(I)Z" } : Jvm.MethodName) ({ cls := "HurtStreets$Street", name := "isOf", desc := "(I)Z" } : Jvm.MethodName)) ∈ lw_all := lw_g (lw_at lw_m3 154 rfl) rfl
theorem q726 : (Jvm.Cond.sameMethod "HurtStreets$Street" "HurtStreets$Street" "isOf" "(I)Z") ∈ lw_all := lw_g (lw_at lw_m3 155 rfl) rfl
theorem q737 : (Jvm.Cond.code ({ cls := "HurtStreets$Street", name := "isOf", desc := "(I)Z" } : Jvm.MethodName) prog_9_method_3_code (2 : Nat) (Option.some Jvm.ClassFile.FieldType.boolean)) ∈ lw_all := lw_g (lw_at lw_m3 166 rfl) rfl
theorem q738 : (Jvm.Cond.methodLink "HurtStreets$Street" (7 : Nat) ({ cls := "HurtStreets$Street", name := "kind", desc := "()I" } : Jvm.MethodName)) ∈ lw_all := lw_g (lw_at lw_m3 167 rfl) rfl
theorem q1403 : (Jvm.Cond.castable "HurtStreets$Street" "java/lang/Object") ∈ lw_tbl := lw_at lw_m6 112 rfl
theorem in_X5 : ∀ w ∈ wsX50, w ∈ lw_all := lw_in wsX50 [491, 492, 493] (by decide +kernel) (by decide +kernel)
/-! HurtStreets$Loss -/
set_option maxRecDepth 100000
def RX6 : String := "HurtStreets$Loss"
def TX6 : u_T := fun k => match k with
  | 0 => ("HurtStreets$Street", "one", "I", false)
  | 1 => ("HurtStreets$Street", "other", "I", false)
  | _ => ("HurtStreets$Street", "length", "I", false)
def tyX6 : Nat → FieldType := fun k => match k with
  | 0 => .int
  | 1 => .int
  | _ => .int
abbrev wsX60 : List Cond := u_ws RX6 TX6 3
theorem nmX6 : ∀ a, a < 3 → ∀ b, b < 3 → a ≠ b → (TX6 a).2.1 ≠ (TX6 b).2.1 := by decide +kernel
theorem tyX6_ok : ∀ k, k < 3 → parseFieldDescriptor (TX6 k).2.2.1 = some (tyX6 k) := by decide +kernel
abbrev cX6_init : ByteArray := prog_4_method_1_code
def yX6_init : MethodName := ⟨RX6, "<init>", "()V"⟩
theorem dX6_init_0 : decode cX6_init 0 = .ok (.aload_n 0, 1) := by decide +kernel
theorem dX6_init_1 : decode cX6_init 1 = .ok (.invokespecial 1, 3) := by decide +kernel
theorem dX6_init_4 : decode cX6_init 4 = .ok (.return_, 1) := by decide +kernel
abbrev cX6_hurts : ByteArray := prog_4_method_4_code
def yX6_hurts : MethodName := ⟨RX6, "hurts", "(III)I"⟩
def dkwX6_hurts_0 : List UInt8 := [42, 27, 28, 29, 183, 0, 11, 27, 96, 172]
abbrev dktX6_hurts_0 : List UInt8 := dkwX6_hurts_0 ++ []
theorem dksX6_hurts_0 : cX6_hurts.data.toList.drop 0 = dktX6_hurts_0 := by decide +kernel
theorem dX6_hurts_0 : decode cX6_hurts 0 = .ok (.aload_n 0, 1) := dk_42 (dk_at dksX6_hurts_0 0 rfl rfl)
theorem dX6_hurts_1 : decode cX6_hurts 1 = .ok (.iload_n 1, 1) := dk_27 (dk_at dksX6_hurts_0 1 rfl rfl)
theorem dX6_hurts_2 : decode cX6_hurts 2 = .ok (.iload_n 2, 1) := dk_28 (dk_at dksX6_hurts_0 2 rfl rfl)
theorem dX6_hurts_3 : decode cX6_hurts 3 = .ok (.iload_n 3, 1) := dk_29 (dk_at dksX6_hurts_0 3 rfl rfl)
theorem dX6_hurts_4 : decode cX6_hurts 4 = .ok (.invokespecial 11, 3) := dk_183 0 11 (dk_at dksX6_hurts_0 4 rfl rfl)
theorem dX6_hurts_7 : decode cX6_hurts 7 = .ok (.iload_n 1, 1) := dk_27 (dk_at dksX6_hurts_0 7 rfl rfl)
theorem dX6_hurts_8 : decode cX6_hurts 8 = .ok (.iadd, 1) := dk_96 (dk_at dksX6_hurts_0 8 rfl rfl)
theorem dX6_hurts_9 : decode cX6_hurts 9 = .ok (.ireturn, 1) := dk_172 (dk_at dksX6_hurts_0 9 rfl rfl)
abbrev cX6_kind : ByteArray := prog_4_method_2_code
def yX6_kind : MethodName := ⟨RX6, "kind", "()I"⟩
theorem dX6_kind_0 : decode cX6_kind 0 = .ok (.iconst 1, 1) := by decide +kernel
theorem dX6_kind_1 : decode cX6_kind 1 = .ok (.ireturn, 1) := by decide +kernel
abbrev cX6_isOf : ByteArray := prog_4_method_3_code
def yX6_isOf : MethodName := ⟨RX6, "isOf", "(I)Z"⟩
def dkwX6_isOf_0 : List UInt8 := [27, 4, 159, 0, 11, 42, 27, 183, 0, 7, 153, 0, 7, 4, 167, 0, 4, 3, 172]
abbrev dktX6_isOf_0 : List UInt8 := dkwX6_isOf_0 ++ []
theorem dksX6_isOf_0 : cX6_isOf.data.toList.drop 0 = dktX6_isOf_0 := by decide +kernel
theorem dX6_isOf_0 : decode cX6_isOf 0 = .ok (.iload_n 1, 1) := dk_27 (dk_at dksX6_isOf_0 0 rfl rfl)
theorem dX6_isOf_1 : decode cX6_isOf 1 = .ok (.iconst 1, 1) := dk_4 (dk_at dksX6_isOf_0 1 rfl rfl)
theorem dX6_isOf_2 : decode cX6_isOf 2 = .ok (.if_icmp .eq 11, 3) := dk_159 0 11 (dk_at dksX6_isOf_0 2 rfl rfl)
theorem dX6_isOf_5 : decode cX6_isOf 5 = .ok (.aload_n 0, 1) := dk_42 (dk_at dksX6_isOf_0 5 rfl rfl)
theorem dX6_isOf_6 : decode cX6_isOf 6 = .ok (.iload_n 1, 1) := dk_27 (dk_at dksX6_isOf_0 6 rfl rfl)
theorem dX6_isOf_7 : decode cX6_isOf 7 = .ok (.invokespecial 7, 3) := dk_183 0 7 (dk_at dksX6_isOf_0 7 rfl rfl)
theorem dX6_isOf_10 : decode cX6_isOf 10 = .ok (.ifCond .eq 7, 3) := dk_153 0 7 (dk_at dksX6_isOf_0 10 rfl rfl)
theorem dX6_isOf_13 : decode cX6_isOf 13 = .ok (.iconst 1, 1) := dk_4 (dk_at dksX6_isOf_0 13 rfl rfl)
theorem dX6_isOf_14 : decode cX6_isOf 14 = .ok (.goto 4, 3) := dk_167 0 4 (dk_at dksX6_isOf_0 14 rfl rfl)
theorem dX6_isOf_17 : decode cX6_isOf 17 = .ok (.iconst 0, 1) := dk_3 (dk_at dksX6_isOf_0 17 rfl rfl)
theorem dX6_isOf_18 : decode cX6_isOf 18 = .ok (.ireturn, 1) := dk_172 (dk_at dksX6_isOf_0 18 rfl rfl)
theorem q103 : (Jvm.Cond.initialized "HurtStreets$Loss") ∈ lw_all := lw_g (lw_at lw_m1 12 rfl) rfl
theorem q432 : (Jvm.Cond.instantiable "HurtStreets$Loss" (3 : Nat)) ∈ lw_all := lw_g (lw_at lw_m2 101 rfl) rfl
theorem q434 : (Jvm.Cond.instanceMethod ({ cls := "HurtStreets$Loss", name := "<init>", desc := "()V" } : Jvm.MethodName)) ∈ lw_all := lw_g (lw_at lw_m2 103 rfl) rfl
theorem q435 : (Jvm.Cond.code ({ cls := "HurtStreets$Loss", name := "<init>", desc := "()V" } : Jvm.MethodName) prog_4_method_1_code (1 : Nat) (Option.none : Option Jvm.ClassFile.FieldType)) ∈ lw_all := lw_g (lw_at lw_m2 104 rfl) rfl
theorem q436 : (Jvm.Cond.methodLinkNest "HurtStreets$Loss" (1 : Nat) ({ cls := "HurtStreets$Street", name := "<init>", desc := "()V" } : Jvm.MethodName) "HurtStreets") ∈ lw_tbl := lw_at lw_m2 105 rfl
theorem q451 : (Jvm.Cond.lays "HurtStreets$Loss" "HurtStreets$Street" "one" "I") ∈ lw_all := lw_g (lw_at lw_m2 120 rfl) rfl
theorem q453 : (Jvm.Cond.lays "HurtStreets$Loss" "HurtStreets$Street" "other" "I") ∈ lw_all := lw_g (lw_at lw_m2 122 rfl) rfl
theorem q455 : (Jvm.Cond.lays "HurtStreets$Loss" "HurtStreets$Street" "length" "I") ∈ lw_all := lw_g (lw_at lw_m2 124 rfl) rfl
theorem q457 : (Jvm.Cond.superclass "HurtStreets$Loss" "HurtStreets$Street") ∈ lw_all := lw_g (lw_at lw_m2 126 rfl) rfl
theorem q530 : (Jvm.Cond.selects "HurtStreets$Loss" ({ cls := "java/lang/Object", name := "getClass", desc := "()Ljava/lang/Class;" } : Jvm.MethodName) ({ cls := "java/lang/Object", name := "getClass", desc := "()Ljava/lang/Class;" } : Jvm.MethodName)) ∈ lw_all := lw_g (lw_at lw_m2 199 rfl) rfl
theorem q644 : (Jvm.Cond.instanceMethod ({ cls := "HurtStreets$Loss", name := "hurts", desc := "(III)I" } : Jvm.MethodName)) ∈ lw_all := lw_g (lw_at lw_m3 73 rfl) rfl
theorem q645 : (Jvm.Cond.code ({ cls := "HurtStreets$Loss", name := "hurts", desc := "(III)I" } : Jvm.MethodName) prog_4_method_4_code (4 : Nat) (Option.some Jvm.ClassFile.FieldType.int)) ∈ lw_all := lw_g (lw_at lw_m3 74 rfl) rfl
theorem q646 : (Jvm.Cond.methodLink "HurtStreets$Loss" (11 : Nat) ({ cls := "HurtStreets$Street", name := "hurts", desc := "(III)I" } : Jvm.MethodName)) ∈ lw_all := lw_g (lw_at lw_m3 75 rfl) rfl
theorem q651 : (Jvm.Cond.selects "HurtStreets$Loss" ({ cls := "HurtStreets$Street", name := "hurts", desc := "(III)I" } : Jvm.MethodName) ({ cls := "HurtStreets$Loss", name := "hurts", desc := "(III)I" } : Jvm.MethodName)) ∈ lw_all := lw_g (lw_at lw_m3 80 rfl) rfl
theorem q673 : (Jvm.Cond.selects "HurtStreets$Loss" ({ cls := "HurtStreets$Street", name := "endsAt", desc := "(I)Z" } : Jvm.MethodName) ({ cls := "HurtStreets$Street", name := "endsAt", desc := "(I)Z" } : Jvm.MethodName)) ∈ lw_all := lw_g (lw_at lw_m3 102 rfl) rfl
theorem q682 : (Jvm.Cond.selects "HurtStreets$Loss" ({ cls := "HurtStreets$Street", name := "from", desc := "(I)I" } : Jvm.MethodName) ({ cls := "HurtStreets$Street", name := "from", desc := "(I)I" } : Jvm.MethodName)) ∈ lw_all := lw_g (lw_at lw_m3 111 rfl) rfl
theorem q707 : (Jvm.Cond.selects "HurtStreets$Loss" ({ cls := "HurtStreets$Street", name := "kind", desc := "()I" } : Jvm.MethodName) ({ cls := "HurtStreets$Loss", name := "kind", desc := "()I" } : Jvm.MethodName)) ∈ lw_all := lw_g (lw_at lw_m3 136 rfl) rfl
theorem q708 : (Jvm.Cond.instanceMethod ({ cls := "HurtStreets$Loss", name := "kind", desc := "()I" } : Jvm.MethodName)) ∈ lw_all := lw_g (lw_at lw_m3 137 rfl) rfl
theorem q709 : (Jvm.Cond.code ({ cls := "HurtStreets$Loss", name := "kind", desc := "()I" } : Jvm.MethodName) prog_4_method_2_code (1 : Nat) (Option.some Jvm.ClassFile.FieldType.int)) ∈ lw_all := lw_g (lw_at lw_m3 138 rfl) rfl
theorem q731 : (Jvm.Cond.instanceMethod ({ cls := "HurtStreets$Loss", name := "isOf", desc := "(I)Z" } : Jvm.MethodName)) ∈ lw_all := lw_g (lw_at lw_m3 160 rfl) rfl
theorem q732 : (Jvm.Cond.code ({ cls := "HurtStreets$Loss", name := "isOf", desc := "(I)Z" } : Jvm.MethodName) prog_4_method_3_code (2 : Nat) (Option.some Jvm.ClassFile.FieldType.boolean)) ∈ lw_all := lw_g (lw_at lw_m3 161 rfl) rfl
theorem q733 : (Jvm.Cond.methodLink "HurtStreets$Loss" (7 : Nat) ({ cls := "HurtStreets$Street", name := "isOf", desc := "(I)Z" } : Jvm.MethodName)) ∈ lw_all := lw_g (lw_at lw_m3 162 rfl) rfl
theorem q735 : (Jvm.Cond.selects "HurtStreets$Loss" ({ cls := "HurtStreets$Street", name := "isOf", desc := "(I)Z" } : Jvm.MethodName) ({ cls := "HurtStreets$Loss", name := "isOf", desc := "(I)Z" } : Jvm.MethodName)) ∈ lw_all := lw_g (lw_at lw_m3 164 rfl) rfl
theorem q1387 : (Jvm.Cond.sameMethod "HurtStreets$Loss" "HurtStreets$Loss" "hurts" "(III)I") ∈ lw_all := lw_g (lw_at lw_m6 96 rfl) rfl
theorem q1388 : (Jvm.Cond.sameMethod "HurtStreets$Loss" "HurtStreets$Loss" "isOf" "(I)Z") ∈ lw_all := lw_g (lw_at lw_m6 97 rfl) rfl
theorem q1391 : (Jvm.Cond.castable "HurtStreets$Loss" "HurtStreets$Street") ∈ lw_tbl := lw_at lw_m6 100 rfl
theorem q1399 : (Jvm.Cond.castable "HurtStreets$Loss" "java/lang/Object") ∈ lw_tbl := lw_at lw_m6 108 rfl
theorem in_X6 : ∀ w ∈ wsX60, w ∈ lw_all := lw_in wsX60 [451, 453, 455] (by decide +kernel) (by decide +kernel)
/-! HurtStreets$Quarrel -/
set_option maxRecDepth 100000
def RX7 : String := "HurtStreets$Quarrel"
def TX7 : u_T := fun k => match k with
  | 0 => ("HurtStreets$Street", "one", "I", false)
  | 1 => ("HurtStreets$Street", "other", "I", false)
  | _ => ("HurtStreets$Street", "length", "I", false)
def tyX7 : Nat → FieldType := fun k => match k with
  | 0 => .int
  | 1 => .int
  | _ => .int
abbrev wsX70 : List Cond := u_ws RX7 TX7 3
theorem nmX7 : ∀ a, a < 3 → ∀ b, b < 3 → a ≠ b → (TX7 a).2.1 ≠ (TX7 b).2.1 := by decide +kernel
theorem tyX7_ok : ∀ k, k < 3 → parseFieldDescriptor (TX7 k).2.2.1 = some (tyX7 k) := by decide +kernel
abbrev cX7_init : ByteArray := prog_5_method_1_code
def yX7_init : MethodName := ⟨RX7, "<init>", "()V"⟩
theorem dX7_init_0 : decode cX7_init 0 = .ok (.aload_n 0, 1) := by decide +kernel
theorem dX7_init_1 : decode cX7_init 1 = .ok (.invokespecial 1, 3) := by decide +kernel
theorem dX7_init_4 : decode cX7_init 4 = .ok (.return_, 1) := by decide +kernel
abbrev cX7_hurts : ByteArray := prog_5_method_3_code
def yX7_hurts : MethodName := ⟨RX7, "hurts", "(III)I"⟩
def dkwX7_hurts_0 : List UInt8 := [42, 27, 28, 29, 183, 0, 7, 27, 5, 28, 104, 100, 184, 0, 11, 172]
abbrev dktX7_hurts_0 : List UInt8 := dkwX7_hurts_0 ++ []
theorem dksX7_hurts_0 : cX7_hurts.data.toList.drop 0 = dktX7_hurts_0 := by decide +kernel
theorem dX7_hurts_0 : decode cX7_hurts 0 = .ok (.aload_n 0, 1) := dk_42 (dk_at dksX7_hurts_0 0 rfl rfl)
theorem dX7_hurts_1 : decode cX7_hurts 1 = .ok (.iload_n 1, 1) := dk_27 (dk_at dksX7_hurts_0 1 rfl rfl)
theorem dX7_hurts_2 : decode cX7_hurts 2 = .ok (.iload_n 2, 1) := dk_28 (dk_at dksX7_hurts_0 2 rfl rfl)
theorem dX7_hurts_3 : decode cX7_hurts 3 = .ok (.iload_n 3, 1) := dk_29 (dk_at dksX7_hurts_0 3 rfl rfl)
theorem dX7_hurts_4 : decode cX7_hurts 4 = .ok (.invokespecial 7, 3) := dk_183 0 7 (dk_at dksX7_hurts_0 4 rfl rfl)
theorem dX7_hurts_7 : decode cX7_hurts 7 = .ok (.iload_n 1, 1) := dk_27 (dk_at dksX7_hurts_0 7 rfl rfl)
theorem dX7_hurts_8 : decode cX7_hurts 8 = .ok (.iconst 2, 1) := dk_5 (dk_at dksX7_hurts_0 8 rfl rfl)
theorem dX7_hurts_9 : decode cX7_hurts 9 = .ok (.iload_n 2, 1) := dk_28 (dk_at dksX7_hurts_0 9 rfl rfl)
theorem dX7_hurts_10 : decode cX7_hurts 10 = .ok (.imul, 1) := dk_104 (dk_at dksX7_hurts_0 10 rfl rfl)
theorem dX7_hurts_11 : decode cX7_hurts 11 = .ok (.isub, 1) := dk_100 (dk_at dksX7_hurts_0 11 rfl rfl)
theorem dX7_hurts_12 : decode cX7_hurts 12 = .ok (.invokestatic 11, 3) := dk_184 0 11 (dk_at dksX7_hurts_0 12 rfl rfl)
theorem dX7_hurts_15 : decode cX7_hurts 15 = .ok (.ireturn, 1) := dk_172 (dk_at dksX7_hurts_0 15 rfl rfl)
abbrev cX7_kind : ByteArray := prog_5_method_2_code
def yX7_kind : MethodName := ⟨RX7, "kind", "()I"⟩
theorem dX7_kind_0 : decode cX7_kind 0 = .ok (.iconst 2, 1) := by decide +kernel
theorem dX7_kind_1 : decode cX7_kind 1 = .ok (.ireturn, 1) := by decide +kernel
theorem q104 : (Jvm.Cond.initialized "HurtStreets$Quarrel") ∈ lw_all := lw_g (lw_at lw_m1 13 rfl) rfl
theorem q459 : (Jvm.Cond.instantiable "HurtStreets$Quarrel" (3 : Nat)) ∈ lw_all := lw_g (lw_at lw_m2 128 rfl) rfl
theorem q461 : (Jvm.Cond.instanceMethod ({ cls := "HurtStreets$Quarrel", name := "<init>", desc := "()V" } : Jvm.MethodName)) ∈ lw_all := lw_g (lw_at lw_m2 130 rfl) rfl
theorem q462 : (Jvm.Cond.code ({ cls := "HurtStreets$Quarrel", name := "<init>", desc := "()V" } : Jvm.MethodName) prog_5_method_1_code (1 : Nat) (Option.none : Option Jvm.ClassFile.FieldType)) ∈ lw_all := lw_g (lw_at lw_m2 131 rfl) rfl
theorem q463 : (Jvm.Cond.methodLinkNest "HurtStreets$Quarrel" (1 : Nat) ({ cls := "HurtStreets$Street", name := "<init>", desc := "()V" } : Jvm.MethodName) "HurtStreets") ∈ lw_tbl := lw_at lw_m2 132 rfl
theorem q464 : (Jvm.Cond.lays "HurtStreets$Quarrel" "HurtStreets$Street" "one" "I") ∈ lw_all := lw_g (lw_at lw_m2 133 rfl) rfl
theorem q465 : (Jvm.Cond.lays "HurtStreets$Quarrel" "HurtStreets$Street" "other" "I") ∈ lw_all := lw_g (lw_at lw_m2 134 rfl) rfl
theorem q466 : (Jvm.Cond.lays "HurtStreets$Quarrel" "HurtStreets$Street" "length" "I") ∈ lw_all := lw_g (lw_at lw_m2 135 rfl) rfl
theorem q467 : (Jvm.Cond.superclass "HurtStreets$Quarrel" "HurtStreets$Street") ∈ lw_all := lw_g (lw_at lw_m2 136 rfl) rfl
theorem q531 : (Jvm.Cond.selects "HurtStreets$Quarrel" ({ cls := "java/lang/Object", name := "getClass", desc := "()Ljava/lang/Class;" } : Jvm.MethodName) ({ cls := "java/lang/Object", name := "getClass", desc := "()Ljava/lang/Class;" } : Jvm.MethodName)) ∈ lw_all := lw_g (lw_at lw_m2 200 rfl) rfl
theorem q652 : (Jvm.Cond.selects "HurtStreets$Quarrel" ({ cls := "HurtStreets$Street", name := "hurts", desc := "(III)I" } : Jvm.MethodName) ({ cls := "HurtStreets$Quarrel", name := "hurts", desc := "(III)I" } : Jvm.MethodName)) ∈ lw_all := lw_g (lw_at lw_m3 81 rfl) rfl
theorem q653 : (Jvm.Cond.instanceMethod ({ cls := "HurtStreets$Quarrel", name := "hurts", desc := "(III)I" } : Jvm.MethodName)) ∈ lw_all := lw_g (lw_at lw_m3 82 rfl) rfl
theorem q654 : (Jvm.Cond.code ({ cls := "HurtStreets$Quarrel", name := "hurts", desc := "(III)I" } : Jvm.MethodName) prog_5_method_3_code (4 : Nat) (Option.some Jvm.ClassFile.FieldType.int)) ∈ lw_all := lw_g (lw_at lw_m3 83 rfl) rfl
theorem q655 : (Jvm.Cond.methodLink "HurtStreets$Quarrel" (7 : Nat) ({ cls := "HurtStreets$Street", name := "hurts", desc := "(III)I" } : Jvm.MethodName)) ∈ lw_all := lw_g (lw_at lw_m3 84 rfl) rfl
theorem q656 : (Jvm.Cond.methodLink "HurtStreets$Quarrel" (11 : Nat) ({ cls := "java/lang/Math", name := "max", desc := "(II)I" } : Jvm.MethodName)) ∈ lw_all := lw_g (lw_at lw_m3 85 rfl) rfl
theorem q674 : (Jvm.Cond.selects "HurtStreets$Quarrel" ({ cls := "HurtStreets$Street", name := "endsAt", desc := "(I)Z" } : Jvm.MethodName) ({ cls := "HurtStreets$Street", name := "endsAt", desc := "(I)Z" } : Jvm.MethodName)) ∈ lw_all := lw_g (lw_at lw_m3 103 rfl) rfl
theorem q683 : (Jvm.Cond.selects "HurtStreets$Quarrel" ({ cls := "HurtStreets$Street", name := "from", desc := "(I)I" } : Jvm.MethodName) ({ cls := "HurtStreets$Street", name := "from", desc := "(I)I" } : Jvm.MethodName)) ∈ lw_all := lw_g (lw_at lw_m3 112 rfl) rfl
theorem q710 : (Jvm.Cond.selects "HurtStreets$Quarrel" ({ cls := "HurtStreets$Street", name := "kind", desc := "()I" } : Jvm.MethodName) ({ cls := "HurtStreets$Quarrel", name := "kind", desc := "()I" } : Jvm.MethodName)) ∈ lw_all := lw_g (lw_at lw_m3 139 rfl) rfl
theorem q711 : (Jvm.Cond.instanceMethod ({ cls := "HurtStreets$Quarrel", name := "kind", desc := "()I" } : Jvm.MethodName)) ∈ lw_all := lw_g (lw_at lw_m3 140 rfl) rfl
theorem q712 : (Jvm.Cond.code ({ cls := "HurtStreets$Quarrel", name := "kind", desc := "()I" } : Jvm.MethodName) prog_5_method_2_code (1 : Nat) (Option.some Jvm.ClassFile.FieldType.int)) ∈ lw_all := lw_g (lw_at lw_m3 141 rfl) rfl
theorem q736 : (Jvm.Cond.selects "HurtStreets$Quarrel" ({ cls := "HurtStreets$Street", name := "isOf", desc := "(I)Z" } : Jvm.MethodName) ({ cls := "HurtStreets$Street", name := "isOf", desc := "(I)Z" } : Jvm.MethodName)) ∈ lw_all := lw_g (lw_at lw_m3 165 rfl) rfl
theorem q1392 : (Jvm.Cond.castable "HurtStreets$Quarrel" "HurtStreets$Street") ∈ lw_tbl := lw_at lw_m6 101 rfl
theorem q1400 : (Jvm.Cond.castable "HurtStreets$Quarrel" "java/lang/Object") ∈ lw_tbl := lw_at lw_m6 109 rfl
theorem in_X7 : ∀ w ∈ wsX70, w ∈ lw_all := lw_in wsX70 [464, 465, 466] (by decide +kernel) (by decide +kernel)
/-! HurtStreets$Joy -/
set_option maxRecDepth 100000
def RX8 : String := "HurtStreets$Joy"
def TX8 : u_T := fun k => match k with
  | 0 => ("HurtStreets$Street", "one", "I", false)
  | 1 => ("HurtStreets$Street", "other", "I", false)
  | _ => ("HurtStreets$Street", "length", "I", false)
def tyX8 : Nat → FieldType := fun k => match k with
  | 0 => .int
  | 1 => .int
  | _ => .int
abbrev wsX80 : List Cond := u_ws RX8 TX8 3
theorem nmX8 : ∀ a, a < 3 → ∀ b, b < 3 → a ≠ b → (TX8 a).2.1 ≠ (TX8 b).2.1 := by decide +kernel
theorem tyX8_ok : ∀ k, k < 3 → parseFieldDescriptor (TX8 k).2.2.1 = some (tyX8 k) := by decide +kernel
abbrev cX8_init : ByteArray := prog_3_method_1_code
def yX8_init : MethodName := ⟨RX8, "<init>", "()V"⟩
theorem dX8_init_0 : decode cX8_init 0 = .ok (.aload_n 0, 1) := by decide +kernel
theorem dX8_init_1 : decode cX8_init 1 = .ok (.invokespecial 3, 3) := by decide +kernel
theorem dX8_init_4 : decode cX8_init 4 = .ok (.return_, 1) := by decide +kernel
abbrev cX8_hurts : ByteArray := prog_3_method_3_code
def yX8_hurts : MethodName := ⟨RX8, "hurts", "(III)I"⟩
def dkwX8_hurts_0 : List UInt8 := [42, 27, 28, 29, 183, 0, 9, 16, 9, 96, 27, 100, 172]
abbrev dktX8_hurts_0 : List UInt8 := dkwX8_hurts_0 ++ []
theorem dksX8_hurts_0 : cX8_hurts.data.toList.drop 0 = dktX8_hurts_0 := by decide +kernel
theorem dX8_hurts_0 : decode cX8_hurts 0 = .ok (.aload_n 0, 1) := dk_42 (dk_at dksX8_hurts_0 0 rfl rfl)
theorem dX8_hurts_1 : decode cX8_hurts 1 = .ok (.iload_n 1, 1) := dk_27 (dk_at dksX8_hurts_0 1 rfl rfl)
theorem dX8_hurts_2 : decode cX8_hurts 2 = .ok (.iload_n 2, 1) := dk_28 (dk_at dksX8_hurts_0 2 rfl rfl)
theorem dX8_hurts_3 : decode cX8_hurts 3 = .ok (.iload_n 3, 1) := dk_29 (dk_at dksX8_hurts_0 3 rfl rfl)
theorem dX8_hurts_4 : decode cX8_hurts 4 = .ok (.invokespecial 9, 3) := dk_183 0 9 (dk_at dksX8_hurts_0 4 rfl rfl)
theorem dX8_hurts_7 : decode cX8_hurts 7 = .ok (.bipush 9, 2) := dk_16 9 (dk_at dksX8_hurts_0 7 rfl rfl)
theorem dX8_hurts_9 : decode cX8_hurts 9 = .ok (.iadd, 1) := dk_96 (dk_at dksX8_hurts_0 9 rfl rfl)
theorem dX8_hurts_10 : decode cX8_hurts 10 = .ok (.iload_n 1, 1) := dk_27 (dk_at dksX8_hurts_0 10 rfl rfl)
theorem dX8_hurts_11 : decode cX8_hurts 11 = .ok (.isub, 1) := dk_100 (dk_at dksX8_hurts_0 11 rfl rfl)
theorem dX8_hurts_12 : decode cX8_hurts 12 = .ok (.ireturn, 1) := dk_172 (dk_at dksX8_hurts_0 12 rfl rfl)
abbrev cX8_kind : ByteArray := prog_3_method_2_code
def yX8_kind : MethodName := ⟨RX8, "kind", "()I"⟩
theorem dX8_kind_0 : decode cX8_kind 0 = .ok (.iconst 3, 1) := by decide +kernel
theorem dX8_kind_1 : decode cX8_kind 1 = .ok (.ireturn, 1) := by decide +kernel
theorem q105 : (Jvm.Cond.initialized "HurtStreets$Joy") ∈ lw_all := lw_g (lw_at lw_m1 14 rfl) rfl
theorem q469 : (Jvm.Cond.instantiable "HurtStreets$Joy" (3 : Nat)) ∈ lw_all := lw_g (lw_at lw_m2 138 rfl) rfl
theorem q471 : (Jvm.Cond.instanceMethod ({ cls := "HurtStreets$Joy", name := "<init>", desc := "()V" } : Jvm.MethodName)) ∈ lw_all := lw_g (lw_at lw_m2 140 rfl) rfl
theorem q472 : (Jvm.Cond.code ({ cls := "HurtStreets$Joy", name := "<init>", desc := "()V" } : Jvm.MethodName) prog_3_method_1_code (1 : Nat) (Option.none : Option Jvm.ClassFile.FieldType)) ∈ lw_all := lw_g (lw_at lw_m2 141 rfl) rfl
theorem q473 : (Jvm.Cond.methodLinkNest "HurtStreets$Joy" (3 : Nat) ({ cls := "HurtStreets$Street", name := "<init>", desc := "()V" } : Jvm.MethodName) "HurtStreets") ∈ lw_tbl := lw_at lw_m2 142 rfl
theorem q474 : (Jvm.Cond.lays "HurtStreets$Joy" "HurtStreets$Street" "one" "I") ∈ lw_all := lw_g (lw_at lw_m2 143 rfl) rfl
theorem q475 : (Jvm.Cond.lays "HurtStreets$Joy" "HurtStreets$Street" "other" "I") ∈ lw_all := lw_g (lw_at lw_m2 144 rfl) rfl
theorem q476 : (Jvm.Cond.lays "HurtStreets$Joy" "HurtStreets$Street" "length" "I") ∈ lw_all := lw_g (lw_at lw_m2 145 rfl) rfl
theorem q477 : (Jvm.Cond.superclass "HurtStreets$Joy" "HurtStreets$Street") ∈ lw_all := lw_g (lw_at lw_m2 146 rfl) rfl
theorem q529 : (Jvm.Cond.selects "HurtStreets$Joy" ({ cls := "java/lang/Object", name := "getClass", desc := "()Ljava/lang/Class;" } : Jvm.MethodName) ({ cls := "java/lang/Object", name := "getClass", desc := "()Ljava/lang/Class;" } : Jvm.MethodName)) ∈ lw_all := lw_g (lw_at lw_m2 198 rfl) rfl
theorem q647 : (Jvm.Cond.selects "HurtStreets$Joy" ({ cls := "HurtStreets$Street", name := "hurts", desc := "(III)I" } : Jvm.MethodName) ({ cls := "HurtStreets$Joy", name := "hurts", desc := "(III)I" } : Jvm.MethodName)) ∈ lw_all := lw_g (lw_at lw_m3 76 rfl) rfl
theorem q648 : (Jvm.Cond.instanceMethod ({ cls := "HurtStreets$Joy", name := "hurts", desc := "(III)I" } : Jvm.MethodName)) ∈ lw_all := lw_g (lw_at lw_m3 77 rfl) rfl
theorem q649 : (Jvm.Cond.code ({ cls := "HurtStreets$Joy", name := "hurts", desc := "(III)I" } : Jvm.MethodName) prog_3_method_3_code (4 : Nat) (Option.some Jvm.ClassFile.FieldType.int)) ∈ lw_all := lw_g (lw_at lw_m3 78 rfl) rfl
theorem q650 : (Jvm.Cond.methodLink "HurtStreets$Joy" (9 : Nat) ({ cls := "HurtStreets$Street", name := "hurts", desc := "(III)I" } : Jvm.MethodName)) ∈ lw_all := lw_g (lw_at lw_m3 79 rfl) rfl
theorem q672 : (Jvm.Cond.selects "HurtStreets$Joy" ({ cls := "HurtStreets$Street", name := "endsAt", desc := "(I)Z" } : Jvm.MethodName) ({ cls := "HurtStreets$Street", name := "endsAt", desc := "(I)Z" } : Jvm.MethodName)) ∈ lw_all := lw_g (lw_at lw_m3 101 rfl) rfl
theorem q681 : (Jvm.Cond.selects "HurtStreets$Joy" ({ cls := "HurtStreets$Street", name := "from", desc := "(I)I" } : Jvm.MethodName) ({ cls := "HurtStreets$Street", name := "from", desc := "(I)I" } : Jvm.MethodName)) ∈ lw_all := lw_g (lw_at lw_m3 110 rfl) rfl
theorem q704 : (Jvm.Cond.selects "HurtStreets$Joy" ({ cls := "HurtStreets$Street", name := "kind", desc := "()I" } : Jvm.MethodName) ({ cls := "HurtStreets$Joy", name := "kind", desc := "()I" } : Jvm.MethodName)) ∈ lw_all := lw_g (lw_at lw_m3 133 rfl) rfl
theorem q705 : (Jvm.Cond.instanceMethod ({ cls := "HurtStreets$Joy", name := "kind", desc := "()I" } : Jvm.MethodName)) ∈ lw_all := lw_g (lw_at lw_m3 134 rfl) rfl
theorem q706 : (Jvm.Cond.code ({ cls := "HurtStreets$Joy", name := "kind", desc := "()I" } : Jvm.MethodName) prog_3_method_2_code (1 : Nat) (Option.some Jvm.ClassFile.FieldType.int)) ∈ lw_all := lw_g (lw_at lw_m3 135 rfl) rfl
theorem q734 : (Jvm.Cond.selects "HurtStreets$Joy" ({ cls := "HurtStreets$Street", name := "isOf", desc := "(I)Z" } : Jvm.MethodName) ({ cls := "HurtStreets$Street", name := "isOf", desc := "(I)Z" } : Jvm.MethodName)) ∈ lw_all := lw_g (lw_at lw_m3 163 rfl) rfl
theorem q1390 : (Jvm.Cond.castable "HurtStreets$Joy" "HurtStreets$Street") ∈ lw_tbl := lw_at lw_m6 99 rfl
theorem q1401 : (Jvm.Cond.castable "HurtStreets$Joy" "java/lang/Object") ∈ lw_tbl := lw_at lw_m6 110 rfl
theorem in_X8 : ∀ w ∈ wsX80, w ∈ lw_all := lw_in wsX80 [474, 475, 476] (by decide +kernel) (by decide +kernel)
/-! HurtStreets$Grief -/
set_option maxRecDepth 100000
def RX9 : String := "HurtStreets$Grief"
def TX9 : u_T := fun k => match k with
  | 0 => ("HurtStreets$Street", "one", "I", false)
  | 1 => ("HurtStreets$Street", "other", "I", false)
  | _ => ("HurtStreets$Street", "length", "I", false)
def tyX9 : Nat → FieldType := fun k => match k with
  | 0 => .int
  | 1 => .int
  | _ => .int
abbrev wsX90 : List Cond := u_ws RX9 TX9 3
theorem nmX9 : ∀ a, a < 3 → ∀ b, b < 3 → a ≠ b → (TX9 a).2.1 ≠ (TX9 b).2.1 := by decide +kernel
theorem tyX9_ok : ∀ k, k < 3 → parseFieldDescriptor (TX9 k).2.2.1 = some (tyX9 k) := by decide +kernel
abbrev cX9_init : ByteArray := prog_2_method_1_code
def yX9_init : MethodName := ⟨RX9, "<init>", "()V"⟩
theorem dX9_init_0 : decode cX9_init 0 = .ok (.aload_n 0, 1) := by decide +kernel
theorem dX9_init_1 : decode cX9_init 1 = .ok (.invokespecial 1, 3) := by decide +kernel
theorem dX9_init_4 : decode cX9_init 4 = .ok (.return_, 1) := by decide +kernel
abbrev cX9_hurts : ByteArray := prog_2_method_4_code
def yX9_hurts : MethodName := ⟨RX9, "hurts", "(III)I"⟩
def dkwX9_hurts_0 : List UInt8 := [42, 27, 28, 29, 183, 0, 11, 29, 96, 172]
abbrev dktX9_hurts_0 : List UInt8 := dkwX9_hurts_0 ++ []
theorem dksX9_hurts_0 : cX9_hurts.data.toList.drop 0 = dktX9_hurts_0 := by decide +kernel
theorem dX9_hurts_0 : decode cX9_hurts 0 = .ok (.aload_n 0, 1) := dk_42 (dk_at dksX9_hurts_0 0 rfl rfl)
theorem dX9_hurts_1 : decode cX9_hurts 1 = .ok (.iload_n 1, 1) := dk_27 (dk_at dksX9_hurts_0 1 rfl rfl)
theorem dX9_hurts_2 : decode cX9_hurts 2 = .ok (.iload_n 2, 1) := dk_28 (dk_at dksX9_hurts_0 2 rfl rfl)
theorem dX9_hurts_3 : decode cX9_hurts 3 = .ok (.iload_n 3, 1) := dk_29 (dk_at dksX9_hurts_0 3 rfl rfl)
theorem dX9_hurts_4 : decode cX9_hurts 4 = .ok (.invokespecial 11, 3) := dk_183 0 11 (dk_at dksX9_hurts_0 4 rfl rfl)
theorem dX9_hurts_7 : decode cX9_hurts 7 = .ok (.iload_n 3, 1) := dk_29 (dk_at dksX9_hurts_0 7 rfl rfl)
theorem dX9_hurts_8 : decode cX9_hurts 8 = .ok (.iadd, 1) := dk_96 (dk_at dksX9_hurts_0 8 rfl rfl)
theorem dX9_hurts_9 : decode cX9_hurts 9 = .ok (.ireturn, 1) := dk_172 (dk_at dksX9_hurts_0 9 rfl rfl)
abbrev cX9_kind : ByteArray := prog_2_method_2_code
def yX9_kind : MethodName := ⟨RX9, "kind", "()I"⟩
theorem dX9_kind_0 : decode cX9_kind 0 = .ok (.iconst 4, 1) := by decide +kernel
theorem dX9_kind_1 : decode cX9_kind 1 = .ok (.ireturn, 1) := by decide +kernel
abbrev cX9_isOf : ByteArray := prog_2_method_3_code
def yX9_isOf : MethodName := ⟨RX9, "isOf", "(I)Z"⟩
def dkwX9_isOf_0 : List UInt8 := [27, 7, 159, 0, 11, 42, 27, 183, 0, 7, 153, 0, 7, 4, 167, 0, 4, 3, 172]
abbrev dktX9_isOf_0 : List UInt8 := dkwX9_isOf_0 ++ []
theorem dksX9_isOf_0 : cX9_isOf.data.toList.drop 0 = dktX9_isOf_0 := by decide +kernel
theorem dX9_isOf_0 : decode cX9_isOf 0 = .ok (.iload_n 1, 1) := dk_27 (dk_at dksX9_isOf_0 0 rfl rfl)
theorem dX9_isOf_1 : decode cX9_isOf 1 = .ok (.iconst 4, 1) := dk_7 (dk_at dksX9_isOf_0 1 rfl rfl)
theorem dX9_isOf_2 : decode cX9_isOf 2 = .ok (.if_icmp .eq 11, 3) := dk_159 0 11 (dk_at dksX9_isOf_0 2 rfl rfl)
theorem dX9_isOf_5 : decode cX9_isOf 5 = .ok (.aload_n 0, 1) := dk_42 (dk_at dksX9_isOf_0 5 rfl rfl)
theorem dX9_isOf_6 : decode cX9_isOf 6 = .ok (.iload_n 1, 1) := dk_27 (dk_at dksX9_isOf_0 6 rfl rfl)
theorem dX9_isOf_7 : decode cX9_isOf 7 = .ok (.invokespecial 7, 3) := dk_183 0 7 (dk_at dksX9_isOf_0 7 rfl rfl)
theorem dX9_isOf_10 : decode cX9_isOf 10 = .ok (.ifCond .eq 7, 3) := dk_153 0 7 (dk_at dksX9_isOf_0 10 rfl rfl)
theorem dX9_isOf_13 : decode cX9_isOf 13 = .ok (.iconst 1, 1) := dk_4 (dk_at dksX9_isOf_0 13 rfl rfl)
theorem dX9_isOf_14 : decode cX9_isOf 14 = .ok (.goto 4, 3) := dk_167 0 4 (dk_at dksX9_isOf_0 14 rfl rfl)
theorem dX9_isOf_17 : decode cX9_isOf 17 = .ok (.iconst 0, 1) := dk_3 (dk_at dksX9_isOf_0 17 rfl rfl)
theorem dX9_isOf_18 : decode cX9_isOf 18 = .ok (.ireturn, 1) := dk_172 (dk_at dksX9_isOf_0 18 rfl rfl)
theorem q106 : (Jvm.Cond.initialized "HurtStreets$Grief") ∈ lw_all := lw_g (lw_at lw_m1 15 rfl) rfl
theorem q479 : (Jvm.Cond.instantiable "HurtStreets$Grief" (3 : Nat)) ∈ lw_all := lw_g (lw_at lw_m2 148 rfl) rfl
theorem q481 : (Jvm.Cond.instanceMethod ({ cls := "HurtStreets$Grief", name := "<init>", desc := "()V" } : Jvm.MethodName)) ∈ lw_all := lw_g (lw_at lw_m2 150 rfl) rfl
theorem q482 : (Jvm.Cond.code ({ cls := "HurtStreets$Grief", name := "<init>", desc := "()V" } : Jvm.MethodName) prog_2_method_1_code (1 : Nat) (Option.none : Option Jvm.ClassFile.FieldType)) ∈ lw_all := lw_g (lw_at lw_m2 151 rfl) rfl
theorem q483 : (Jvm.Cond.methodLinkNest "HurtStreets$Grief" (1 : Nat) ({ cls := "HurtStreets$Loss", name := "<init>", desc := "()V" } : Jvm.MethodName) "HurtStreets") ∈ lw_tbl := lw_at lw_m2 152 rfl
theorem q484 : (Jvm.Cond.lays "HurtStreets$Grief" "HurtStreets$Street" "one" "I") ∈ lw_all := lw_g (lw_at lw_m2 153 rfl) rfl
theorem q485 : (Jvm.Cond.lays "HurtStreets$Grief" "HurtStreets$Street" "other" "I") ∈ lw_all := lw_g (lw_at lw_m2 154 rfl) rfl
theorem q486 : (Jvm.Cond.lays "HurtStreets$Grief" "HurtStreets$Street" "length" "I") ∈ lw_all := lw_g (lw_at lw_m2 155 rfl) rfl
theorem q487 : (Jvm.Cond.superclass "HurtStreets$Grief" "HurtStreets$Loss") ∈ lw_all := lw_g (lw_at lw_m2 156 rfl) rfl
theorem q528 : (Jvm.Cond.selects "HurtStreets$Grief" ({ cls := "java/lang/Object", name := "getClass", desc := "()Ljava/lang/Class;" } : Jvm.MethodName) ({ cls := "java/lang/Object", name := "getClass", desc := "()Ljava/lang/Class;" } : Jvm.MethodName)) ∈ lw_all := lw_g (lw_at lw_m2 197 rfl) rfl
theorem q640 : (Jvm.Cond.selects "HurtStreets$Grief" ({ cls := "HurtStreets$Street", name := "hurts", desc := "(III)I" } : Jvm.MethodName) ({ cls := "HurtStreets$Grief", name := "hurts", desc := "(III)I" } : Jvm.MethodName)) ∈ lw_all := lw_g (lw_at lw_m3 69 rfl) rfl
theorem q641 : (Jvm.Cond.instanceMethod ({ cls := "HurtStreets$Grief", name := "hurts", desc := "(III)I" } : Jvm.MethodName)) ∈ lw_all := lw_g (lw_at lw_m3 70 rfl) rfl
theorem q642 : (Jvm.Cond.code ({ cls := "HurtStreets$Grief", name := "hurts", desc := "(III)I" } : Jvm.MethodName) prog_2_method_4_code (4 : Nat) (Option.some Jvm.ClassFile.FieldType.int)) ∈ lw_all := lw_g (lw_at lw_m3 71 rfl) rfl
theorem q643 : (Jvm.Cond.methodLink "HurtStreets$Grief" (11 : Nat) ({ cls := "HurtStreets$Loss", name := "hurts", desc := "(III)I" } : Jvm.MethodName)) ∈ lw_all := lw_g (lw_at lw_m3 72 rfl) rfl
theorem q671 : (Jvm.Cond.selects "HurtStreets$Grief" ({ cls := "HurtStreets$Street", name := "endsAt", desc := "(I)Z" } : Jvm.MethodName) ({ cls := "HurtStreets$Street", name := "endsAt", desc := "(I)Z" } : Jvm.MethodName)) ∈ lw_all := lw_g (lw_at lw_m3 100 rfl) rfl
theorem q680 : (Jvm.Cond.selects "HurtStreets$Grief" ({ cls := "HurtStreets$Street", name := "from", desc := "(I)I" } : Jvm.MethodName) ({ cls := "HurtStreets$Street", name := "from", desc := "(I)I" } : Jvm.MethodName)) ∈ lw_all := lw_g (lw_at lw_m3 109 rfl) rfl
theorem q701 : (Jvm.Cond.selects "HurtStreets$Grief" ({ cls := "HurtStreets$Street", name := "kind", desc := "()I" } : Jvm.MethodName) ({ cls := "HurtStreets$Grief", name := "kind", desc := "()I" } : Jvm.MethodName)) ∈ lw_all := lw_g (lw_at lw_m3 130 rfl) rfl
theorem q702 : (Jvm.Cond.instanceMethod ({ cls := "HurtStreets$Grief", name := "kind", desc := "()I" } : Jvm.MethodName)) ∈ lw_all := lw_g (lw_at lw_m3 131 rfl) rfl
theorem q703 : (Jvm.Cond.code ({ cls := "HurtStreets$Grief", name := "kind", desc := "()I" } : Jvm.MethodName) prog_2_method_2_code (1 : Nat) (Option.some Jvm.ClassFile.FieldType.int)) ∈ lw_all := lw_g (lw_at lw_m3 132 rfl) rfl
theorem q727 : (Jvm.Cond.selects "HurtStreets$Grief" ({ cls := "HurtStreets$Street", name := "isOf", desc := "(I)Z" } : Jvm.MethodName) ({ cls := "HurtStreets$Grief", name := "isOf", desc := "(I)Z" } : Jvm.MethodName)) ∈ lw_all := lw_g (lw_at lw_m3 156 rfl) rfl
theorem q728 : (Jvm.Cond.instanceMethod ({ cls := "HurtStreets$Grief", name := "isOf", desc := "(I)Z" } : Jvm.MethodName)) ∈ lw_all := lw_g (lw_at lw_m3 157 rfl) rfl
theorem q729 : (Jvm.Cond.code ({ cls := "HurtStreets$Grief", name := "isOf", desc := "(I)Z" } : Jvm.MethodName) prog_2_method_3_code (2 : Nat) (Option.some Jvm.ClassFile.FieldType.boolean)) ∈ lw_all := lw_g (lw_at lw_m3 158 rfl) rfl
theorem q730 : (Jvm.Cond.methodLink "HurtStreets$Grief" (7 : Nat) ({ cls := "HurtStreets$Loss", name := "isOf", desc := "(I)Z" } : Jvm.MethodName)) ∈ lw_all := lw_g (lw_at lw_m3 159 rfl) rfl
theorem q1389 : (Jvm.Cond.castable "HurtStreets$Grief" "HurtStreets$Street") ∈ lw_tbl := lw_at lw_m6 98 rfl
theorem q1402 : (Jvm.Cond.castable "HurtStreets$Grief" "java/lang/Object") ∈ lw_tbl := lw_at lw_m6 111 rfl
theorem in_X9 : ∀ w ∈ wsX90, w ∈ lw_all := lw_in wsX90 [484, 485, 486] (by decide +kernel) (by decide +kernel)
/-! HurtStreets$Stop -/
set_option maxRecDepth 100000
def RX4 : String := "HurtStreets$Stop"
def TX4 : u_T := fun k => match k with
  | 0 => ("java/lang/Throwable", "cause", "Ljava/lang/Throwable;", false)
  | 1 => ("java/lang/Throwable", "stackTrace", "[Ljava/lang/StackTraceElement;", false)
  | 2 => ("java/lang/Throwable", "suppressedExceptions", "Ljava/util/List;", false)
  | 3 => ("java/lang/Throwable", "detailMessage", "Ljava/lang/String;", false)
  | 4 => ("java/lang/Throwable", "backtrace", "Ljava/lang/Object;", false)
  | 5 => ("java/lang/Throwable", "depth", "I", false)
  | _ => ("HurtStreets$Stop", "place", "I", true)
def tyX4 : Nat → FieldType := fun k => match k with
  | 0 => .object "java/lang/Throwable"
  | 1 => .array (.object "java/lang/StackTraceElement")
  | 2 => .object "java/util/List"
  | 3 => .object "java/lang/String"
  | 4 => .object "java/lang/Object"
  | 5 => .int
  | _ => .int
abbrev wsX40 : List Cond := u_ws RX4 TX4 7
theorem nmX4 : ∀ a, a < 7 → ∀ b, b < 7 → a ≠ b → (TX4 a).2.1 ≠ (TX4 b).2.1 := by decide +kernel
theorem tyX4_ok : ∀ k, k < 7 → parseFieldDescriptor (TX4 k).2.2.1 = some (tyX4 k) := by decide +kernel
abbrev cX4_init : ByteArray := prog_8_method_1_code
def yX4_init : MethodName := ⟨RX4, "<init>", "(I)V"⟩
def dkwX4_init_0 : List UInt8 := [42, 1, 1, 3, 3, 183, 0, 1, 42, 27, 181, 0, 7, 177]
abbrev dktX4_init_0 : List UInt8 := dkwX4_init_0 ++ []
theorem dksX4_init_0 : cX4_init.data.toList.drop 0 = dktX4_init_0 := by decide +kernel
theorem dX4_init_0 : decode cX4_init 0 = .ok (.aload_n 0, 1) := dk_42 (dk_at dksX4_init_0 0 rfl rfl)
theorem dX4_init_1 : decode cX4_init 1 = .ok (.aconst_null, 1) := dk_1 (dk_at dksX4_init_0 1 rfl rfl)
theorem dX4_init_2 : decode cX4_init 2 = .ok (.aconst_null, 1) := dk_1 (dk_at dksX4_init_0 2 rfl rfl)
theorem dX4_init_3 : decode cX4_init 3 = .ok (.iconst 0, 1) := dk_3 (dk_at dksX4_init_0 3 rfl rfl)
theorem dX4_init_4 : decode cX4_init 4 = .ok (.iconst 0, 1) := dk_3 (dk_at dksX4_init_0 4 rfl rfl)
theorem dX4_init_5 : decode cX4_init 5 = .ok (.invokespecial 1, 3) := dk_183 0 1 (dk_at dksX4_init_0 5 rfl rfl)
theorem dX4_init_8 : decode cX4_init 8 = .ok (.aload_n 0, 1) := dk_42 (dk_at dksX4_init_0 8 rfl rfl)
theorem dX4_init_9 : decode cX4_init 9 = .ok (.iload_n 1, 1) := dk_27 (dk_at dksX4_init_0 9 rfl rfl)
theorem dX4_init_10 : decode cX4_init 10 = .ok (.putfield 7, 3) := dk_181 0 7 (dk_at dksX4_init_0 10 rfl rfl)
theorem dX4_init_13 : decode cX4_init 13 = .ok (.return_, 1) := dk_177 (dk_at dksX4_init_0 13 rfl rfl)
theorem q101 : (Jvm.Cond.initialized "HurtStreets$Stop") ∈ lw_all := lw_g (lw_at lw_m1 10 rfl) rfl
theorem q358 : (Jvm.Cond.instantiable "HurtStreets$Stop" (7 : Nat)) ∈ lw_all := lw_g (lw_at lw_m2 27 rfl) rfl
theorem q359 : (Jvm.Cond.castable "HurtStreets$Stop" "HurtStreets$Stop") ∈ lw_tbl := lw_at lw_m2 28 rfl
theorem q364 : (Jvm.Cond.selects "HurtStreets$Stop" ({ cls := "java/lang/Throwable", name := "fillInStackTrace", desc := "(I)Ljava/lang/Throwable;" } : Jvm.MethodName) ({ cls := "java/lang/Throwable", name := "fillInStackTrace", desc := "(I)Ljava/lang/Throwable;" } : Jvm.MethodName)) ∈ lw_all := lw_g (lw_at lw_m2 33 rfl) rfl
theorem q365 : (Jvm.Cond.selects "HurtStreets$Stop" ({ cls := "java/lang/Throwable", name := "fillInStackTrace", desc := "()Ljava/lang/Throwable;" } : Jvm.MethodName) ({ cls := "java/lang/Throwable", name := "fillInStackTrace", desc := "()Ljava/lang/Throwable;" } : Jvm.MethodName)) ∈ lw_all := lw_g (lw_at lw_m2 34 rfl) rfl
theorem q366 : (Jvm.Cond.lays "HurtStreets$Stop" "java/lang/Throwable" "cause" "Ljava/lang/Throwable;") ∈ lw_all := lw_g (lw_at lw_m2 35 rfl) rfl
theorem q368 : (Jvm.Cond.lays "HurtStreets$Stop" "java/lang/Throwable" "stackTrace" "[Ljava/lang/StackTraceElement;") ∈ lw_all := lw_g (lw_at lw_m2 37 rfl) rfl
theorem q370 : (Jvm.Cond.lays "HurtStreets$Stop" "java/lang/Throwable" "suppressedExceptions" "Ljava/util/List;") ∈ lw_all := lw_g (lw_at lw_m2 39 rfl) rfl
theorem q372 : (Jvm.Cond.lays "HurtStreets$Stop" "java/lang/Throwable" "detailMessage" "Ljava/lang/String;") ∈ lw_all := lw_g (lw_at lw_m2 41 rfl) rfl
theorem q374 : (Jvm.Cond.lays "HurtStreets$Stop" "java/lang/Throwable" "backtrace" "Ljava/lang/Object;") ∈ lw_all := lw_g (lw_at lw_m2 43 rfl) rfl
theorem q395 : (Jvm.Cond.instanceMethod ({ cls := "HurtStreets$Stop", name := "<init>", desc := "(I)V" } : Jvm.MethodName)) ∈ lw_all := lw_g (lw_at lw_m2 64 rfl) rfl
theorem q396 : (Jvm.Cond.code ({ cls := "HurtStreets$Stop", name := "<init>", desc := "(I)V" } : Jvm.MethodName) prog_8_method_1_code (2 : Nat) (Option.none : Option Jvm.ClassFile.FieldType)) ∈ lw_all := lw_g (lw_at lw_m2 65 rfl) rfl
theorem q397 : (Jvm.Cond.methodLink "HurtStreets$Stop" (1 : Nat) ({ cls := "java/lang/Exception", name := "<init>", desc := "(Ljava/lang/String;Ljava/lang/Throwable;ZZ)V" } : Jvm.MethodName)) ∈ lw_all := lw_g (lw_at lw_m2 66 rfl) rfl
theorem q403 : (Jvm.Cond.fieldLink "HurtStreets$Stop" (7 : Nat) "HurtStreets$Stop" "place" "I") ∈ lw_all := lw_g (lw_at lw_m2 72 rfl) rfl
theorem q410 : (Jvm.Cond.laysFinal "HurtStreets$Stop" "HurtStreets$Stop" "place" "I") ∈ lw_all := lw_g (lw_at lw_m2 79 rfl) rfl
theorem q411 : (Jvm.Cond.soleField "HurtStreets$Stop" "place") ∈ lw_all := lw_g (lw_at lw_m2 80 rfl) rfl
theorem q416 : (Jvm.Cond.lays "HurtStreets$Stop" "java/lang/Throwable" "depth" "I") ∈ lw_all := lw_g (lw_at lw_m2 85 rfl) rfl
theorem q419 : (Jvm.Cond.superclass "HurtStreets$Stop" "java/lang/Exception") ∈ lw_all := lw_g (lw_at lw_m2 88 rfl) rfl
theorem q534 : (Jvm.Cond.selects "HurtStreets$Stop" ({ cls := "java/lang/Object", name := "getClass", desc := "()Ljava/lang/Class;" } : Jvm.MethodName) ({ cls := "java/lang/Object", name := "getClass", desc := "()Ljava/lang/Class;" } : Jvm.MethodName)) ∈ lw_all := lw_g (lw_at lw_m2 203 rfl) rfl
theorem q1398 : (Jvm.Cond.castable "HurtStreets$Stop" "java/lang/Object") ∈ lw_tbl := lw_at lw_m6 107 rfl
theorem in_X4 : ∀ w ∈ wsX40, w ∈ lw_all := lw_in wsX40 [366, 368, 370, 372, 374, 416, 410] (by decide +kernel) (by decide +kernel)
/-! HurtStreets$Reader -/
set_option maxRecDepth 100000
def RX3 : String := "HurtStreets$Reader"
def TX3 : u_T := fun k => match k with
  | 0 => ("HurtStreets$Reader", "place", "I", false)
  | 1 => ("HurtStreets$Reader", "people", "I", false)
  | 2 => ("HurtStreets$Reader", "tender", "[I", true)
  | 3 => ("HurtStreets$Reader", "streets", "Ljava/util/ArrayList;", true)
  | _ => ("HurtStreets$Reader", "this$0", "LHurtStreets;", true)
def tyX3 : Nat → FieldType := fun k => match k with
  | 0 => .int
  | 1 => .int
  | 2 => .array .int
  | 3 => .object "java/util/ArrayList"
  | _ => .object "HurtStreets"
abbrev wsX30 : List Cond := u_ws RX3 TX3 5
theorem nmX3 : ∀ a, a < 5 → ∀ b, b < 5 → a ≠ b → (TX3 a).2.1 ≠ (TX3 b).2.1 := by decide +kernel
theorem tyX3_ok : ∀ k, k < 5 → parseFieldDescriptor (TX3 k).2.2.1 = some (tyX3 k) := by decide +kernel
abbrev cX3_init : ByteArray := prog_6_method_1_code
def yX3_init : MethodName := ⟨RX3, "<init>", "(LHurtStreets;)V"⟩
def dkwX3_init_1 : List UInt8 := [181, 0, 22, 177]
abbrev dktX3_init_1 : List UInt8 := dkwX3_init_1 ++ []
def dkwX3_init_0 : List UInt8 := [42, 43, 181, 0, 3, 42, 183, 0, 9, 42, 6, 188, 10, 181, 0, 15, 42, 187, 0, 19, 89, 183, 0, 21]
abbrev dktX3_init_0 : List UInt8 := dkwX3_init_0 ++ dktX3_init_1
theorem dksX3_init_0 : cX3_init.data.toList.drop 0 = dktX3_init_0 := by decide +kernel
theorem dksX3_init_1 : cX3_init.data.toList.drop 24 = dktX3_init_1 := dk_seg dksX3_init_0 24 rfl rfl
theorem dX3_init_0 : decode cX3_init 0 = .ok (.aload_n 0, 1) := dk_42 (dk_at dksX3_init_0 0 rfl rfl)
theorem dX3_init_1 : decode cX3_init 1 = .ok (.aload_n 1, 1) := dk_43 (dk_at dksX3_init_0 1 rfl rfl)
theorem dX3_init_2 : decode cX3_init 2 = .ok (.putfield 3, 3) := dk_181 0 3 (dk_at dksX3_init_0 2 rfl rfl)
theorem dX3_init_5 : decode cX3_init 5 = .ok (.aload_n 0, 1) := dk_42 (dk_at dksX3_init_0 5 rfl rfl)
theorem dX3_init_6 : decode cX3_init 6 = .ok (.invokespecial 9, 3) := dk_183 0 9 (dk_at dksX3_init_0 6 rfl rfl)
theorem dX3_init_9 : decode cX3_init 9 = .ok (.aload_n 0, 1) := dk_42 (dk_at dksX3_init_0 9 rfl rfl)
theorem dX3_init_10 : decode cX3_init 10 = .ok (.iconst 3, 1) := dk_6 (dk_at dksX3_init_0 10 rfl rfl)
theorem dX3_init_11 : decode cX3_init 11 = .ok (.newarray .int, 2) := dk_188_10 (dk_at dksX3_init_0 11 rfl rfl)
theorem dX3_init_13 : decode cX3_init 13 = .ok (.putfield 15, 3) := dk_181 0 15 (dk_at dksX3_init_0 13 rfl rfl)
theorem dX3_init_16 : decode cX3_init 16 = .ok (.aload_n 0, 1) := dk_42 (dk_at dksX3_init_0 16 rfl rfl)
theorem dX3_init_17 : decode cX3_init 17 = .ok (.new 19, 3) := dk_187 0 19 (dk_at dksX3_init_0 17 rfl rfl)
theorem dX3_init_20 : decode cX3_init 20 = .ok (.dup, 1) := dk_89 (dk_at dksX3_init_0 20 rfl rfl)
theorem dX3_init_21 : decode cX3_init 21 = .ok (.invokespecial 21, 3) := dk_183 0 21 (dk_at dksX3_init_0 21 rfl rfl)
theorem dX3_init_24 : decode cX3_init 24 = .ok (.putfield 22, 3) := dk_181 0 22 (dk_at dksX3_init_1 0 rfl rfl)
theorem dX3_init_27 : decode cX3_init 27 = .ok (.return_, 1) := dk_177 (dk_at dksX3_init_1 3 rfl rfl)
abbrev cX3_town : ByteArray := prog_6_method_7_code
def yX3_town : MethodName := ⟨RX3, "town", "()LHurtStreets$Reader;"⟩
def dkwX3_town_5 : List UInt8 := [180, 0, 26, 42, 180, 0, 3, 180, 0, 30, 160, 0, 7, 4, 167, 0, 4, 3, 182, 0, 50, 42, 176]
abbrev dktX3_town_5 : List UInt8 := dkwX3_town_5 ++ []
def dkwX3_town_4 : List UInt8 := [160, 0, 20, 42, 42, 16, 44, 182, 0, 54, 182, 0, 50, 42, 182, 0, 84, 167, 255, 210, 42, 42]
abbrev dktX3_town_4 : List UInt8 := dkwX3_town_4 ++ dktX3_town_5
def dkwX3_town_3 : List UInt8 := [5, 161, 0, 24, 42, 180, 0, 22, 182, 0, 87, 16, 9, 162, 0, 29, 42, 182, 0, 37, 16, 44]
abbrev dktX3_town_3 : List UInt8 := dkwX3_town_3 ++ dktX3_town_4
def dkwX3_town_2 : List UInt8 := [154, 255, 211, 42, 42, 16, 59, 182, 0, 54, 182, 0, 50, 42, 182, 0, 84, 42, 180, 0, 22, 182, 0, 87]
abbrev dktX3_town_2 : List UInt8 := dkwX3_town_2 ++ dktX3_town_3
def dkwX3_town_1 : List UInt8 := [181, 0, 81, 42, 180, 0, 81, 6, 162, 0, 17, 42, 182, 0, 37, 16, 48, 16, 57, 184, 0, 46]
abbrev dktX3_town_1 : List UInt8 := dkwX3_town_1 ++ dktX3_town_2
def dkwX3_town_0 : List UInt8 := [42, 180, 0, 15, 42, 180, 0, 81, 42, 3, 16, 9, 182, 0, 62, 79, 42, 89, 180, 0, 81, 4, 96]
abbrev dktX3_town_0 : List UInt8 := dkwX3_town_0 ++ dktX3_town_1
theorem dksX3_town_0 : cX3_town.data.toList.drop 0 = dktX3_town_0 := by decide +kernel
theorem dksX3_town_1 : cX3_town.data.toList.drop 23 = dktX3_town_1 := dk_seg dksX3_town_0 23 rfl rfl
theorem dksX3_town_2 : cX3_town.data.toList.drop 45 = dktX3_town_2 := dk_seg dksX3_town_1 22 rfl rfl
theorem dksX3_town_3 : cX3_town.data.toList.drop 69 = dktX3_town_3 := dk_seg dksX3_town_2 24 rfl rfl
theorem dksX3_town_4 : cX3_town.data.toList.drop 91 = dktX3_town_4 := dk_seg dksX3_town_3 22 rfl rfl
theorem dksX3_town_5 : cX3_town.data.toList.drop 113 = dktX3_town_5 := dk_seg dksX3_town_4 22 rfl rfl
theorem dX3_town_0 : decode cX3_town 0 = .ok (.aload_n 0, 1) := dk_42 (dk_at dksX3_town_0 0 rfl rfl)
theorem dX3_town_1 : decode cX3_town 1 = .ok (.getfield 15, 3) := dk_180 0 15 (dk_at dksX3_town_0 1 rfl rfl)
theorem dX3_town_4 : decode cX3_town 4 = .ok (.aload_n 0, 1) := dk_42 (dk_at dksX3_town_0 4 rfl rfl)
theorem dX3_town_5 : decode cX3_town 5 = .ok (.getfield 81, 3) := dk_180 0 81 (dk_at dksX3_town_0 5 rfl rfl)
theorem dX3_town_8 : decode cX3_town 8 = .ok (.aload_n 0, 1) := dk_42 (dk_at dksX3_town_0 8 rfl rfl)
theorem dX3_town_9 : decode cX3_town 9 = .ok (.iconst 0, 1) := dk_3 (dk_at dksX3_town_0 9 rfl rfl)
theorem dX3_town_10 : decode cX3_town 10 = .ok (.bipush 9, 2) := dk_16 9 (dk_at dksX3_town_0 10 rfl rfl)
theorem dX3_town_12 : decode cX3_town 12 = .ok (.invokevirtual 62, 3) := dk_182 0 62 (dk_at dksX3_town_0 12 rfl rfl)
theorem dX3_town_15 : decode cX3_town 15 = .ok (.iastore, 1) := dk_79 (dk_at dksX3_town_0 15 rfl rfl)
theorem dX3_town_16 : decode cX3_town 16 = .ok (.aload_n 0, 1) := dk_42 (dk_at dksX3_town_0 16 rfl rfl)
theorem dX3_town_17 : decode cX3_town 17 = .ok (.dup, 1) := dk_89 (dk_at dksX3_town_0 17 rfl rfl)
theorem dX3_town_18 : decode cX3_town 18 = .ok (.getfield 81, 3) := dk_180 0 81 (dk_at dksX3_town_0 18 rfl rfl)
theorem dX3_town_21 : decode cX3_town 21 = .ok (.iconst 1, 1) := dk_4 (dk_at dksX3_town_0 21 rfl rfl)
theorem dX3_town_22 : decode cX3_town 22 = .ok (.iadd, 1) := dk_96 (dk_at dksX3_town_0 22 rfl rfl)
theorem dX3_town_23 : decode cX3_town 23 = .ok (.putfield 81, 3) := dk_181 0 81 (dk_at dksX3_town_1 0 rfl rfl)
theorem dX3_town_26 : decode cX3_town 26 = .ok (.aload_n 0, 1) := dk_42 (dk_at dksX3_town_1 3 rfl rfl)
theorem dX3_town_27 : decode cX3_town 27 = .ok (.getfield 81, 3) := dk_180 0 81 (dk_at dksX3_town_1 4 rfl rfl)
theorem dX3_town_30 : decode cX3_town 30 = .ok (.iconst 3, 1) := dk_6 (dk_at dksX3_town_1 7 rfl rfl)
theorem dX3_town_31 : decode cX3_town 31 = .ok (.if_icmp .ge 17, 3) := dk_162 0 17 (dk_at dksX3_town_1 8 rfl rfl)
theorem dX3_town_34 : decode cX3_town 34 = .ok (.aload_n 0, 1) := dk_42 (dk_at dksX3_town_1 11 rfl rfl)
theorem dX3_town_35 : decode cX3_town 35 = .ok (.invokevirtual 37, 3) := dk_182 0 37 (dk_at dksX3_town_1 12 rfl rfl)
theorem dX3_town_38 : decode cX3_town 38 = .ok (.bipush 48, 2) := dk_16 48 (dk_at dksX3_town_1 15 rfl rfl)
theorem dX3_town_40 : decode cX3_town 40 = .ok (.bipush 57, 2) := dk_16 57 (dk_at dksX3_town_1 17 rfl rfl)
theorem dX3_town_42 : decode cX3_town 42 = .ok (.invokestatic 46, 3) := dk_184 0 46 (dk_at dksX3_town_1 19 rfl rfl)
theorem dX3_town_45 : decode cX3_town 45 = .ok (.ifCond .ne (-45), 3) := dk_154 255 211 (dk_at dksX3_town_2 0 rfl rfl)
theorem dX3_town_48 : decode cX3_town 48 = .ok (.aload_n 0, 1) := dk_42 (dk_at dksX3_town_2 3 rfl rfl)
theorem dX3_town_49 : decode cX3_town 49 = .ok (.aload_n 0, 1) := dk_42 (dk_at dksX3_town_2 4 rfl rfl)
theorem dX3_town_50 : decode cX3_town 50 = .ok (.bipush 59, 2) := dk_16 59 (dk_at dksX3_town_2 5 rfl rfl)
theorem dX3_town_52 : decode cX3_town 52 = .ok (.invokevirtual 54, 3) := dk_182 0 54 (dk_at dksX3_town_2 7 rfl rfl)
theorem dX3_town_55 : decode cX3_town 55 = .ok (.invokevirtual 50, 3) := dk_182 0 50 (dk_at dksX3_town_2 10 rfl rfl)
theorem dX3_town_58 : decode cX3_town 58 = .ok (.aload_n 0, 1) := dk_42 (dk_at dksX3_town_2 13 rfl rfl)
theorem dX3_town_59 : decode cX3_town 59 = .ok (.invokevirtual 84, 3) := dk_182 0 84 (dk_at dksX3_town_2 14 rfl rfl)
theorem dX3_town_62 : decode cX3_town 62 = .ok (.aload_n 0, 1) := dk_42 (dk_at dksX3_town_2 17 rfl rfl)
theorem dX3_town_63 : decode cX3_town 63 = .ok (.getfield 22, 3) := dk_180 0 22 (dk_at dksX3_town_2 18 rfl rfl)
theorem dX3_town_66 : decode cX3_town 66 = .ok (.invokevirtual 87, 3) := dk_182 0 87 (dk_at dksX3_town_2 21 rfl rfl)
theorem dX3_town_69 : decode cX3_town 69 = .ok (.iconst 2, 1) := dk_5 (dk_at dksX3_town_3 0 rfl rfl)
theorem dX3_town_70 : decode cX3_town 70 = .ok (.if_icmp .lt 24, 3) := dk_161 0 24 (dk_at dksX3_town_3 1 rfl rfl)
theorem dX3_town_73 : decode cX3_town 73 = .ok (.aload_n 0, 1) := dk_42 (dk_at dksX3_town_3 4 rfl rfl)
theorem dX3_town_74 : decode cX3_town 74 = .ok (.getfield 22, 3) := dk_180 0 22 (dk_at dksX3_town_3 5 rfl rfl)
theorem dX3_town_77 : decode cX3_town 77 = .ok (.invokevirtual 87, 3) := dk_182 0 87 (dk_at dksX3_town_3 8 rfl rfl)
theorem dX3_town_80 : decode cX3_town 80 = .ok (.bipush 9, 2) := dk_16 9 (dk_at dksX3_town_3 11 rfl rfl)
theorem dX3_town_82 : decode cX3_town 82 = .ok (.if_icmp .ge 29, 3) := dk_162 0 29 (dk_at dksX3_town_3 13 rfl rfl)
theorem dX3_town_85 : decode cX3_town 85 = .ok (.aload_n 0, 1) := dk_42 (dk_at dksX3_town_3 16 rfl rfl)
theorem dX3_town_86 : decode cX3_town 86 = .ok (.invokevirtual 37, 3) := dk_182 0 37 (dk_at dksX3_town_3 17 rfl rfl)
theorem dX3_town_89 : decode cX3_town 89 = .ok (.bipush 44, 2) := dk_16 44 (dk_at dksX3_town_3 20 rfl rfl)
theorem dX3_town_91 : decode cX3_town 91 = .ok (.if_icmp .ne 20, 3) := dk_160 0 20 (dk_at dksX3_town_4 0 rfl rfl)
theorem dX3_town_94 : decode cX3_town 94 = .ok (.aload_n 0, 1) := dk_42 (dk_at dksX3_town_4 3 rfl rfl)
theorem dX3_town_95 : decode cX3_town 95 = .ok (.aload_n 0, 1) := dk_42 (dk_at dksX3_town_4 4 rfl rfl)
theorem dX3_town_96 : decode cX3_town 96 = .ok (.bipush 44, 2) := dk_16 44 (dk_at dksX3_town_4 5 rfl rfl)
theorem dX3_town_98 : decode cX3_town 98 = .ok (.invokevirtual 54, 3) := dk_182 0 54 (dk_at dksX3_town_4 7 rfl rfl)
theorem dX3_town_101 : decode cX3_town 101 = .ok (.invokevirtual 50, 3) := dk_182 0 50 (dk_at dksX3_town_4 10 rfl rfl)
theorem dX3_town_104 : decode cX3_town 104 = .ok (.aload_n 0, 1) := dk_42 (dk_at dksX3_town_4 13 rfl rfl)
theorem dX3_town_105 : decode cX3_town 105 = .ok (.invokevirtual 84, 3) := dk_182 0 84 (dk_at dksX3_town_4 14 rfl rfl)
theorem dX3_town_108 : decode cX3_town 108 = .ok (.goto (-46), 3) := dk_167 255 210 (dk_at dksX3_town_4 17 rfl rfl)
theorem dX3_town_111 : decode cX3_town 111 = .ok (.aload_n 0, 1) := dk_42 (dk_at dksX3_town_4 20 rfl rfl)
theorem dX3_town_112 : decode cX3_town 112 = .ok (.aload_n 0, 1) := dk_42 (dk_at dksX3_town_4 21 rfl rfl)
theorem dX3_town_113 : decode cX3_town 113 = .ok (.getfield 26, 3) := dk_180 0 26 (dk_at dksX3_town_5 0 rfl rfl)
theorem dX3_town_116 : decode cX3_town 116 = .ok (.aload_n 0, 1) := dk_42 (dk_at dksX3_town_5 3 rfl rfl)
theorem dX3_town_117 : decode cX3_town 117 = .ok (.getfield 3, 3) := dk_180 0 3 (dk_at dksX3_town_5 4 rfl rfl)
theorem dX3_town_120 : decode cX3_town 120 = .ok (.getfield 30, 3) := dk_180 0 30 (dk_at dksX3_town_5 7 rfl rfl)
theorem dX3_town_123 : decode cX3_town 123 = .ok (.if_icmp .ne 7, 3) := dk_160 0 7 (dk_at dksX3_town_5 10 rfl rfl)
theorem dX3_town_126 : decode cX3_town 126 = .ok (.iconst 1, 1) := dk_4 (dk_at dksX3_town_5 13 rfl rfl)
theorem dX3_town_127 : decode cX3_town 127 = .ok (.goto 4, 3) := dk_167 0 4 (dk_at dksX3_town_5 14 rfl rfl)
theorem dX3_town_130 : decode cX3_town 130 = .ok (.iconst 0, 1) := dk_3 (dk_at dksX3_town_5 17 rfl rfl)
theorem dX3_town_131 : decode cX3_town 131 = .ok (.invokevirtual 50, 3) := dk_182 0 50 (dk_at dksX3_town_5 18 rfl rfl)
theorem dX3_town_134 : decode cX3_town 134 = .ok (.aload_n 0, 1) := dk_42 (dk_at dksX3_town_5 21 rfl rfl)
theorem dX3_town_135 : decode cX3_town 135 = .ok (.areturn, 1) := dk_176 (dk_at dksX3_town_5 22 rfl rfl)
abbrev cX3_digit : ByteArray := prog_6_method_5_code
def yX3_digit : MethodName := ⟨RX3, "digit", "(II)I"⟩
def dkwX3_digit_1 : List UInt8 := [181, 0, 26, 42, 180, 0, 3, 180, 0, 33, 42, 180, 0, 26, 4, 100, 51, 16, 48, 100, 172]
abbrev dktX3_digit_1 : List UInt8 := dkwX3_digit_1 ++ []
def dkwX3_digit_0 : List UInt8 := [42, 42, 182, 0, 37, 16, 48, 100, 27, 28, 184, 0, 46, 182, 0, 50, 42, 89, 180, 0, 26, 4, 96]
abbrev dktX3_digit_0 : List UInt8 := dkwX3_digit_0 ++ dktX3_digit_1
theorem dksX3_digit_0 : cX3_digit.data.toList.drop 0 = dktX3_digit_0 := by decide +kernel
theorem dksX3_digit_1 : cX3_digit.data.toList.drop 23 = dktX3_digit_1 := dk_seg dksX3_digit_0 23 rfl rfl
theorem dX3_digit_0 : decode cX3_digit 0 = .ok (.aload_n 0, 1) := dk_42 (dk_at dksX3_digit_0 0 rfl rfl)
theorem dX3_digit_1 : decode cX3_digit 1 = .ok (.aload_n 0, 1) := dk_42 (dk_at dksX3_digit_0 1 rfl rfl)
theorem dX3_digit_2 : decode cX3_digit 2 = .ok (.invokevirtual 37, 3) := dk_182 0 37 (dk_at dksX3_digit_0 2 rfl rfl)
theorem dX3_digit_5 : decode cX3_digit 5 = .ok (.bipush 48, 2) := dk_16 48 (dk_at dksX3_digit_0 5 rfl rfl)
theorem dX3_digit_7 : decode cX3_digit 7 = .ok (.isub, 1) := dk_100 (dk_at dksX3_digit_0 7 rfl rfl)
theorem dX3_digit_8 : decode cX3_digit 8 = .ok (.iload_n 1, 1) := dk_27 (dk_at dksX3_digit_0 8 rfl rfl)
theorem dX3_digit_9 : decode cX3_digit 9 = .ok (.iload_n 2, 1) := dk_28 (dk_at dksX3_digit_0 9 rfl rfl)
theorem dX3_digit_10 : decode cX3_digit 10 = .ok (.invokestatic 46, 3) := dk_184 0 46 (dk_at dksX3_digit_0 10 rfl rfl)
theorem dX3_digit_13 : decode cX3_digit 13 = .ok (.invokevirtual 50, 3) := dk_182 0 50 (dk_at dksX3_digit_0 13 rfl rfl)
theorem dX3_digit_16 : decode cX3_digit 16 = .ok (.aload_n 0, 1) := dk_42 (dk_at dksX3_digit_0 16 rfl rfl)
theorem dX3_digit_17 : decode cX3_digit 17 = .ok (.dup, 1) := dk_89 (dk_at dksX3_digit_0 17 rfl rfl)
theorem dX3_digit_18 : decode cX3_digit 18 = .ok (.getfield 26, 3) := dk_180 0 26 (dk_at dksX3_digit_0 18 rfl rfl)
theorem dX3_digit_21 : decode cX3_digit 21 = .ok (.iconst 1, 1) := dk_4 (dk_at dksX3_digit_0 21 rfl rfl)
theorem dX3_digit_22 : decode cX3_digit 22 = .ok (.iadd, 1) := dk_96 (dk_at dksX3_digit_0 22 rfl rfl)
theorem dX3_digit_23 : decode cX3_digit 23 = .ok (.putfield 26, 3) := dk_181 0 26 (dk_at dksX3_digit_1 0 rfl rfl)
theorem dX3_digit_26 : decode cX3_digit 26 = .ok (.aload_n 0, 1) := dk_42 (dk_at dksX3_digit_1 3 rfl rfl)
theorem dX3_digit_27 : decode cX3_digit 27 = .ok (.getfield 3, 3) := dk_180 0 3 (dk_at dksX3_digit_1 4 rfl rfl)
theorem dX3_digit_30 : decode cX3_digit 30 = .ok (.getfield 33, 3) := dk_180 0 33 (dk_at dksX3_digit_1 7 rfl rfl)
theorem dX3_digit_33 : decode cX3_digit 33 = .ok (.aload_n 0, 1) := dk_42 (dk_at dksX3_digit_1 10 rfl rfl)
theorem dX3_digit_34 : decode cX3_digit 34 = .ok (.getfield 26, 3) := dk_180 0 26 (dk_at dksX3_digit_1 11 rfl rfl)
theorem dX3_digit_37 : decode cX3_digit 37 = .ok (.iconst 1, 1) := dk_4 (dk_at dksX3_digit_1 14 rfl rfl)
theorem dX3_digit_38 : decode cX3_digit 38 = .ok (.isub, 1) := dk_100 (dk_at dksX3_digit_1 15 rfl rfl)
theorem dX3_digit_39 : decode cX3_digit 39 = .ok (.baload, 1) := dk_51 (dk_at dksX3_digit_1 16 rfl rfl)
theorem dX3_digit_40 : decode cX3_digit 40 = .ok (.bipush 48, 2) := dk_16 48 (dk_at dksX3_digit_1 17 rfl rfl)
theorem dX3_digit_42 : decode cX3_digit 42 = .ok (.isub, 1) := dk_100 (dk_at dksX3_digit_1 19 rfl rfl)
theorem dX3_digit_43 : decode cX3_digit 43 = .ok (.ireturn, 1) := dk_172 (dk_at dksX3_digit_1 20 rfl rfl)
abbrev cX3_next : ByteArray := prog_6_method_2_code
def yX3_next : MethodName := ⟨RX3, "next", "()I"⟩
def dkwX3_next_1 : List UInt8 := [180, 0, 26, 51, 167, 0, 4, 3, 172]
abbrev dktX3_next_1 : List UInt8 := dkwX3_next_1 ++ []
def dkwX3_next_0 : List UInt8 := [42, 180, 0, 26, 42, 180, 0, 3, 180, 0, 30, 162, 0, 18, 42, 180, 0, 3, 180, 0, 33, 42]
abbrev dktX3_next_0 : List UInt8 := dkwX3_next_0 ++ dktX3_next_1
theorem dksX3_next_0 : cX3_next.data.toList.drop 0 = dktX3_next_0 := by decide +kernel
theorem dksX3_next_1 : cX3_next.data.toList.drop 22 = dktX3_next_1 := dk_seg dksX3_next_0 22 rfl rfl
theorem dX3_next_0 : decode cX3_next 0 = .ok (.aload_n 0, 1) := dk_42 (dk_at dksX3_next_0 0 rfl rfl)
theorem dX3_next_1 : decode cX3_next 1 = .ok (.getfield 26, 3) := dk_180 0 26 (dk_at dksX3_next_0 1 rfl rfl)
theorem dX3_next_4 : decode cX3_next 4 = .ok (.aload_n 0, 1) := dk_42 (dk_at dksX3_next_0 4 rfl rfl)
theorem dX3_next_5 : decode cX3_next 5 = .ok (.getfield 3, 3) := dk_180 0 3 (dk_at dksX3_next_0 5 rfl rfl)
theorem dX3_next_8 : decode cX3_next 8 = .ok (.getfield 30, 3) := dk_180 0 30 (dk_at dksX3_next_0 8 rfl rfl)
theorem dX3_next_11 : decode cX3_next 11 = .ok (.if_icmp .ge 18, 3) := dk_162 0 18 (dk_at dksX3_next_0 11 rfl rfl)
theorem dX3_next_14 : decode cX3_next 14 = .ok (.aload_n 0, 1) := dk_42 (dk_at dksX3_next_0 14 rfl rfl)
theorem dX3_next_15 : decode cX3_next 15 = .ok (.getfield 3, 3) := dk_180 0 3 (dk_at dksX3_next_0 15 rfl rfl)
theorem dX3_next_18 : decode cX3_next 18 = .ok (.getfield 33, 3) := dk_180 0 33 (dk_at dksX3_next_0 18 rfl rfl)
theorem dX3_next_21 : decode cX3_next 21 = .ok (.aload_n 0, 1) := dk_42 (dk_at dksX3_next_0 21 rfl rfl)
theorem dX3_next_22 : decode cX3_next 22 = .ok (.getfield 26, 3) := dk_180 0 26 (dk_at dksX3_next_1 0 rfl rfl)
theorem dX3_next_25 : decode cX3_next 25 = .ok (.baload, 1) := dk_51 (dk_at dksX3_next_1 3 rfl rfl)
theorem dX3_next_26 : decode cX3_next 26 = .ok (.goto 4, 3) := dk_167 0 4 (dk_at dksX3_next_1 4 rfl rfl)
theorem dX3_next_29 : decode cX3_next 29 = .ok (.iconst 0, 1) := dk_3 (dk_at dksX3_next_1 7 rfl rfl)
theorem dX3_next_30 : decode cX3_next 30 = .ok (.ireturn, 1) := dk_172 (dk_at dksX3_next_1 8 rfl rfl)
abbrev cX3_want : ByteArray := prog_6_method_4_code
def yX3_want : MethodName := ⟨RX3, "want", "(Z)V"⟩
def dkwX3_want_0 : List UInt8 := [27, 154, 0, 15, 187, 0, 41, 89, 42, 180, 0, 26, 183, 0, 43, 191, 177]
abbrev dktX3_want_0 : List UInt8 := dkwX3_want_0 ++ []
theorem dksX3_want_0 : cX3_want.data.toList.drop 0 = dktX3_want_0 := by decide +kernel
theorem dX3_want_0 : decode cX3_want 0 = .ok (.iload_n 1, 1) := dk_27 (dk_at dksX3_want_0 0 rfl rfl)
theorem dX3_want_1 : decode cX3_want 1 = .ok (.ifCond .ne 15, 3) := dk_154 0 15 (dk_at dksX3_want_0 1 rfl rfl)
theorem dX3_want_4 : decode cX3_want 4 = .ok (.new 41, 3) := dk_187 0 41 (dk_at dksX3_want_0 4 rfl rfl)
theorem dX3_want_7 : decode cX3_want 7 = .ok (.dup, 1) := dk_89 (dk_at dksX3_want_0 7 rfl rfl)
theorem dX3_want_8 : decode cX3_want 8 = .ok (.aload_n 0, 1) := dk_42 (dk_at dksX3_want_0 8 rfl rfl)
theorem dX3_want_9 : decode cX3_want 9 = .ok (.getfield 26, 3) := dk_180 0 26 (dk_at dksX3_want_0 9 rfl rfl)
theorem dX3_want_12 : decode cX3_want 12 = .ok (.invokespecial 43, 3) := dk_183 0 43 (dk_at dksX3_want_0 12 rfl rfl)
theorem dX3_want_15 : decode cX3_want 15 = .ok (.athrow, 1) := dk_191 (dk_at dksX3_want_0 15 rfl rfl)
theorem dX3_want_16 : decode cX3_want 16 = .ok (.return_, 1) := dk_177 (dk_at dksX3_want_0 16 rfl rfl)
abbrev cX3_takes : ByteArray := prog_6_method_3_code
def yX3_takes : MethodName := ⟨RX3, "takes", "(C)Z"⟩
def dkwX3_takes_1 : List UInt8 := [167, 0, 4, 3, 96, 181, 0, 26, 28, 172]
abbrev dktX3_takes_1 : List UInt8 := dkwX3_takes_1 ++ []
def dkwX3_takes_0 : List UInt8 := [42, 182, 0, 37, 27, 160, 0, 7, 4, 167, 0, 4, 3, 61, 42, 89, 180, 0, 26, 28, 153, 0, 7, 4]
abbrev dktX3_takes_0 : List UInt8 := dkwX3_takes_0 ++ dktX3_takes_1
theorem dksX3_takes_0 : cX3_takes.data.toList.drop 0 = dktX3_takes_0 := by decide +kernel
theorem dksX3_takes_1 : cX3_takes.data.toList.drop 24 = dktX3_takes_1 := dk_seg dksX3_takes_0 24 rfl rfl
theorem dX3_takes_0 : decode cX3_takes 0 = .ok (.aload_n 0, 1) := dk_42 (dk_at dksX3_takes_0 0 rfl rfl)
theorem dX3_takes_1 : decode cX3_takes 1 = .ok (.invokevirtual 37, 3) := dk_182 0 37 (dk_at dksX3_takes_0 1 rfl rfl)
theorem dX3_takes_4 : decode cX3_takes 4 = .ok (.iload_n 1, 1) := dk_27 (dk_at dksX3_takes_0 4 rfl rfl)
theorem dX3_takes_5 : decode cX3_takes 5 = .ok (.if_icmp .ne 7, 3) := dk_160 0 7 (dk_at dksX3_takes_0 5 rfl rfl)
theorem dX3_takes_8 : decode cX3_takes 8 = .ok (.iconst 1, 1) := dk_4 (dk_at dksX3_takes_0 8 rfl rfl)
theorem dX3_takes_9 : decode cX3_takes 9 = .ok (.goto 4, 3) := dk_167 0 4 (dk_at dksX3_takes_0 9 rfl rfl)
theorem dX3_takes_12 : decode cX3_takes 12 = .ok (.iconst 0, 1) := dk_3 (dk_at dksX3_takes_0 12 rfl rfl)
theorem dX3_takes_13 : decode cX3_takes 13 = .ok (.istore_n 2, 1) := dk_61 (dk_at dksX3_takes_0 13 rfl rfl)
theorem dX3_takes_14 : decode cX3_takes 14 = .ok (.aload_n 0, 1) := dk_42 (dk_at dksX3_takes_0 14 rfl rfl)
theorem dX3_takes_15 : decode cX3_takes 15 = .ok (.dup, 1) := dk_89 (dk_at dksX3_takes_0 15 rfl rfl)
theorem dX3_takes_16 : decode cX3_takes 16 = .ok (.getfield 26, 3) := dk_180 0 26 (dk_at dksX3_takes_0 16 rfl rfl)
theorem dX3_takes_19 : decode cX3_takes 19 = .ok (.iload_n 2, 1) := dk_28 (dk_at dksX3_takes_0 19 rfl rfl)
theorem dX3_takes_20 : decode cX3_takes 20 = .ok (.ifCond .eq 7, 3) := dk_153 0 7 (dk_at dksX3_takes_0 20 rfl rfl)
theorem dX3_takes_23 : decode cX3_takes 23 = .ok (.iconst 1, 1) := dk_4 (dk_at dksX3_takes_0 23 rfl rfl)
theorem dX3_takes_24 : decode cX3_takes 24 = .ok (.goto 4, 3) := dk_167 0 4 (dk_at dksX3_takes_1 0 rfl rfl)
theorem dX3_takes_27 : decode cX3_takes 27 = .ok (.iconst 0, 1) := dk_3 (dk_at dksX3_takes_1 3 rfl rfl)
theorem dX3_takes_28 : decode cX3_takes 28 = .ok (.iadd, 1) := dk_96 (dk_at dksX3_takes_1 4 rfl rfl)
theorem dX3_takes_29 : decode cX3_takes 29 = .ok (.putfield 26, 3) := dk_181 0 26 (dk_at dksX3_takes_1 5 rfl rfl)
theorem dX3_takes_32 : decode cX3_takes 32 = .ok (.iload_n 2, 1) := dk_28 (dk_at dksX3_takes_1 8 rfl rfl)
theorem dX3_takes_33 : decode cX3_takes 33 = .ok (.ireturn, 1) := dk_172 (dk_at dksX3_takes_1 9 rfl rfl)
abbrev cX3_street : ByteArray := prog_6_method_6_code
def yX3_street : MethodName := ⟨RX3, "street", "()V"⟩
def dkwX3_street_6 : List UInt8 := [182, 0, 62, 181, 0, 74, 42, 180, 0, 22, 44, 182, 0, 77, 87, 177]
abbrev dktX3_street_6 : List UInt8 := dkwX3_street_6 ++ []
def dkwX3_street_5 : List UInt8 := [167, 0, 4, 3, 182, 0, 50, 44, 42, 3, 16, 7, 182, 0, 62, 181, 0, 71, 44, 42, 4, 16, 9]
abbrev dktX3_street_5 : List UInt8 := dkwX3_street_5 ++ dktX3_street_6
def dkwX3_street_4 : List UInt8 := [182, 0, 62, 181, 0, 66, 42, 42, 182, 0, 37, 16, 48, 100, 44, 180, 0, 66, 159, 0, 7, 4]
abbrev dktX3_street_4 : List UInt8 := dkwX3_street_4 ++ dktX3_street_5
def dkwX3_street_3 : List UInt8 := [2, 159, 0, 7, 4, 167, 0, 4, 3, 182, 0, 50, 27, 184, 0, 58, 77, 44, 42, 3, 16, 7]
abbrev dktX3_street_3 : List UInt8 := dkwX3_street_3 ++ dktX3_street_4
def dkwX3_street_2 : List UInt8 := [153, 0, 7, 6, 167, 0, 17, 42, 16, 103, 182, 0, 54, 153, 0, 7, 7, 167, 0, 4, 2, 60, 42, 27]
abbrev dktX3_street_2 : List UInt8 := dkwX3_street_2 ++ dktX3_street_3
def dkwX3_street_1 : List UInt8 := [167, 0, 43, 42, 16, 113, 182, 0, 54, 153, 0, 7, 5, 167, 0, 30, 42, 16, 106, 182, 0, 54]
abbrev dktX3_street_1 : List UInt8 := dkwX3_street_1 ++ dktX3_street_2
def dkwX3_street_0 : List UInt8 := [42, 16, 115, 182, 0, 54, 153, 0, 7, 3, 167, 0, 56, 42, 16, 108, 182, 0, 54, 153, 0, 7, 4]
abbrev dktX3_street_0 : List UInt8 := dkwX3_street_0 ++ dktX3_street_1
theorem dksX3_street_0 : cX3_street.data.toList.drop 0 = dktX3_street_0 := by decide +kernel
theorem dksX3_street_1 : cX3_street.data.toList.drop 23 = dktX3_street_1 := dk_seg dksX3_street_0 23 rfl rfl
theorem dksX3_street_2 : cX3_street.data.toList.drop 45 = dktX3_street_2 := dk_seg dksX3_street_1 22 rfl rfl
theorem dksX3_street_3 : cX3_street.data.toList.drop 69 = dktX3_street_3 := dk_seg dksX3_street_2 24 rfl rfl
theorem dksX3_street_4 : cX3_street.data.toList.drop 91 = dktX3_street_4 := dk_seg dksX3_street_3 22 rfl rfl
theorem dksX3_street_5 : cX3_street.data.toList.drop 113 = dktX3_street_5 := dk_seg dksX3_street_4 22 rfl rfl
theorem dksX3_street_6 : cX3_street.data.toList.drop 136 = dktX3_street_6 := dk_seg dksX3_street_5 23 rfl rfl
theorem dX3_street_0 : decode cX3_street 0 = .ok (.aload_n 0, 1) := dk_42 (dk_at dksX3_street_0 0 rfl rfl)
theorem dX3_street_1 : decode cX3_street 1 = .ok (.bipush 115, 2) := dk_16 115 (dk_at dksX3_street_0 1 rfl rfl)
theorem dX3_street_3 : decode cX3_street 3 = .ok (.invokevirtual 54, 3) := dk_182 0 54 (dk_at dksX3_street_0 3 rfl rfl)
theorem dX3_street_6 : decode cX3_street 6 = .ok (.ifCond .eq 7, 3) := dk_153 0 7 (dk_at dksX3_street_0 6 rfl rfl)
theorem dX3_street_9 : decode cX3_street 9 = .ok (.iconst 0, 1) := dk_3 (dk_at dksX3_street_0 9 rfl rfl)
theorem dX3_street_10 : decode cX3_street 10 = .ok (.goto 56, 3) := dk_167 0 56 (dk_at dksX3_street_0 10 rfl rfl)
theorem dX3_street_13 : decode cX3_street 13 = .ok (.aload_n 0, 1) := dk_42 (dk_at dksX3_street_0 13 rfl rfl)
theorem dX3_street_14 : decode cX3_street 14 = .ok (.bipush 108, 2) := dk_16 108 (dk_at dksX3_street_0 14 rfl rfl)
theorem dX3_street_16 : decode cX3_street 16 = .ok (.invokevirtual 54, 3) := dk_182 0 54 (dk_at dksX3_street_0 16 rfl rfl)
theorem dX3_street_19 : decode cX3_street 19 = .ok (.ifCond .eq 7, 3) := dk_153 0 7 (dk_at dksX3_street_0 19 rfl rfl)
theorem dX3_street_22 : decode cX3_street 22 = .ok (.iconst 1, 1) := dk_4 (dk_at dksX3_street_0 22 rfl rfl)
theorem dX3_street_23 : decode cX3_street 23 = .ok (.goto 43, 3) := dk_167 0 43 (dk_at dksX3_street_1 0 rfl rfl)
theorem dX3_street_26 : decode cX3_street 26 = .ok (.aload_n 0, 1) := dk_42 (dk_at dksX3_street_1 3 rfl rfl)
theorem dX3_street_27 : decode cX3_street 27 = .ok (.bipush 113, 2) := dk_16 113 (dk_at dksX3_street_1 4 rfl rfl)
theorem dX3_street_29 : decode cX3_street 29 = .ok (.invokevirtual 54, 3) := dk_182 0 54 (dk_at dksX3_street_1 6 rfl rfl)
theorem dX3_street_32 : decode cX3_street 32 = .ok (.ifCond .eq 7, 3) := dk_153 0 7 (dk_at dksX3_street_1 9 rfl rfl)
theorem dX3_street_35 : decode cX3_street 35 = .ok (.iconst 2, 1) := dk_5 (dk_at dksX3_street_1 12 rfl rfl)
theorem dX3_street_36 : decode cX3_street 36 = .ok (.goto 30, 3) := dk_167 0 30 (dk_at dksX3_street_1 13 rfl rfl)
theorem dX3_street_39 : decode cX3_street 39 = .ok (.aload_n 0, 1) := dk_42 (dk_at dksX3_street_1 16 rfl rfl)
theorem dX3_street_40 : decode cX3_street 40 = .ok (.bipush 106, 2) := dk_16 106 (dk_at dksX3_street_1 17 rfl rfl)
theorem dX3_street_42 : decode cX3_street 42 = .ok (.invokevirtual 54, 3) := dk_182 0 54 (dk_at dksX3_street_1 19 rfl rfl)
theorem dX3_street_45 : decode cX3_street 45 = .ok (.ifCond .eq 7, 3) := dk_153 0 7 (dk_at dksX3_street_2 0 rfl rfl)
theorem dX3_street_48 : decode cX3_street 48 = .ok (.iconst 3, 1) := dk_6 (dk_at dksX3_street_2 3 rfl rfl)
theorem dX3_street_49 : decode cX3_street 49 = .ok (.goto 17, 3) := dk_167 0 17 (dk_at dksX3_street_2 4 rfl rfl)
theorem dX3_street_52 : decode cX3_street 52 = .ok (.aload_n 0, 1) := dk_42 (dk_at dksX3_street_2 7 rfl rfl)
theorem dX3_street_53 : decode cX3_street 53 = .ok (.bipush 103, 2) := dk_16 103 (dk_at dksX3_street_2 8 rfl rfl)
theorem dX3_street_55 : decode cX3_street 55 = .ok (.invokevirtual 54, 3) := dk_182 0 54 (dk_at dksX3_street_2 10 rfl rfl)
theorem dX3_street_58 : decode cX3_street 58 = .ok (.ifCond .eq 7, 3) := dk_153 0 7 (dk_at dksX3_street_2 13 rfl rfl)
theorem dX3_street_61 : decode cX3_street 61 = .ok (.iconst 4, 1) := dk_7 (dk_at dksX3_street_2 16 rfl rfl)
theorem dX3_street_62 : decode cX3_street 62 = .ok (.goto 4, 3) := dk_167 0 4 (dk_at dksX3_street_2 17 rfl rfl)
theorem dX3_street_65 : decode cX3_street 65 = .ok (.iconst (-1), 1) := dk_2 (dk_at dksX3_street_2 20 rfl rfl)
theorem dX3_street_66 : decode cX3_street 66 = .ok (.istore_n 1, 1) := dk_60 (dk_at dksX3_street_2 21 rfl rfl)
theorem dX3_street_67 : decode cX3_street 67 = .ok (.aload_n 0, 1) := dk_42 (dk_at dksX3_street_2 22 rfl rfl)
theorem dX3_street_68 : decode cX3_street 68 = .ok (.iload_n 1, 1) := dk_27 (dk_at dksX3_street_2 23 rfl rfl)
theorem dX3_street_69 : decode cX3_street 69 = .ok (.iconst (-1), 1) := dk_2 (dk_at dksX3_street_3 0 rfl rfl)
theorem dX3_street_70 : decode cX3_street 70 = .ok (.if_icmp .eq 7, 3) := dk_159 0 7 (dk_at dksX3_street_3 1 rfl rfl)
theorem dX3_street_73 : decode cX3_street 73 = .ok (.iconst 1, 1) := dk_4 (dk_at dksX3_street_3 4 rfl rfl)
theorem dX3_street_74 : decode cX3_street 74 = .ok (.goto 4, 3) := dk_167 0 4 (dk_at dksX3_street_3 5 rfl rfl)
theorem dX3_street_77 : decode cX3_street 77 = .ok (.iconst 0, 1) := dk_3 (dk_at dksX3_street_3 8 rfl rfl)
theorem dX3_street_78 : decode cX3_street 78 = .ok (.invokevirtual 50, 3) := dk_182 0 50 (dk_at dksX3_street_3 9 rfl rfl)
theorem dX3_street_81 : decode cX3_street 81 = .ok (.iload_n 1, 1) := dk_27 (dk_at dksX3_street_3 12 rfl rfl)
theorem dX3_street_82 : decode cX3_street 82 = .ok (.invokestatic 58, 3) := dk_184 0 58 (dk_at dksX3_street_3 13 rfl rfl)
theorem dX3_street_85 : decode cX3_street 85 = .ok (.astore_n 2, 1) := dk_77 (dk_at dksX3_street_3 16 rfl rfl)
theorem dX3_street_86 : decode cX3_street 86 = .ok (.aload_n 2, 1) := dk_44 (dk_at dksX3_street_3 17 rfl rfl)
theorem dX3_street_87 : decode cX3_street 87 = .ok (.aload_n 0, 1) := dk_42 (dk_at dksX3_street_3 18 rfl rfl)
theorem dX3_street_88 : decode cX3_street 88 = .ok (.iconst 0, 1) := dk_3 (dk_at dksX3_street_3 19 rfl rfl)
theorem dX3_street_89 : decode cX3_street 89 = .ok (.bipush 7, 2) := dk_16 7 (dk_at dksX3_street_3 20 rfl rfl)
theorem dX3_street_91 : decode cX3_street 91 = .ok (.invokevirtual 62, 3) := dk_182 0 62 (dk_at dksX3_street_4 0 rfl rfl)
theorem dX3_street_94 : decode cX3_street 94 = .ok (.putfield 66, 3) := dk_181 0 66 (dk_at dksX3_street_4 3 rfl rfl)
theorem dX3_street_97 : decode cX3_street 97 = .ok (.aload_n 0, 1) := dk_42 (dk_at dksX3_street_4 6 rfl rfl)
theorem dX3_street_98 : decode cX3_street 98 = .ok (.aload_n 0, 1) := dk_42 (dk_at dksX3_street_4 7 rfl rfl)
theorem dX3_street_99 : decode cX3_street 99 = .ok (.invokevirtual 37, 3) := dk_182 0 37 (dk_at dksX3_street_4 8 rfl rfl)
theorem dX3_street_102 : decode cX3_street 102 = .ok (.bipush 48, 2) := dk_16 48 (dk_at dksX3_street_4 11 rfl rfl)
theorem dX3_street_104 : decode cX3_street 104 = .ok (.isub, 1) := dk_100 (dk_at dksX3_street_4 13 rfl rfl)
theorem dX3_street_105 : decode cX3_street 105 = .ok (.aload_n 2, 1) := dk_44 (dk_at dksX3_street_4 14 rfl rfl)
theorem dX3_street_106 : decode cX3_street 106 = .ok (.getfield 66, 3) := dk_180 0 66 (dk_at dksX3_street_4 15 rfl rfl)
theorem dX3_street_109 : decode cX3_street 109 = .ok (.if_icmp .eq 7, 3) := dk_159 0 7 (dk_at dksX3_street_4 18 rfl rfl)
theorem dX3_street_112 : decode cX3_street 112 = .ok (.iconst 1, 1) := dk_4 (dk_at dksX3_street_4 21 rfl rfl)
theorem dX3_street_113 : decode cX3_street 113 = .ok (.goto 4, 3) := dk_167 0 4 (dk_at dksX3_street_5 0 rfl rfl)
theorem dX3_street_116 : decode cX3_street 116 = .ok (.iconst 0, 1) := dk_3 (dk_at dksX3_street_5 3 rfl rfl)
theorem dX3_street_117 : decode cX3_street 117 = .ok (.invokevirtual 50, 3) := dk_182 0 50 (dk_at dksX3_street_5 4 rfl rfl)
theorem dX3_street_120 : decode cX3_street 120 = .ok (.aload_n 2, 1) := dk_44 (dk_at dksX3_street_5 7 rfl rfl)
theorem dX3_street_121 : decode cX3_street 121 = .ok (.aload_n 0, 1) := dk_42 (dk_at dksX3_street_5 8 rfl rfl)
theorem dX3_street_122 : decode cX3_street 122 = .ok (.iconst 0, 1) := dk_3 (dk_at dksX3_street_5 9 rfl rfl)
theorem dX3_street_123 : decode cX3_street 123 = .ok (.bipush 7, 2) := dk_16 7 (dk_at dksX3_street_5 10 rfl rfl)
theorem dX3_street_125 : decode cX3_street 125 = .ok (.invokevirtual 62, 3) := dk_182 0 62 (dk_at dksX3_street_5 12 rfl rfl)
theorem dX3_street_128 : decode cX3_street 128 = .ok (.putfield 71, 3) := dk_181 0 71 (dk_at dksX3_street_5 15 rfl rfl)
theorem dX3_street_131 : decode cX3_street 131 = .ok (.aload_n 2, 1) := dk_44 (dk_at dksX3_street_5 18 rfl rfl)
theorem dX3_street_132 : decode cX3_street 132 = .ok (.aload_n 0, 1) := dk_42 (dk_at dksX3_street_5 19 rfl rfl)
theorem dX3_street_133 : decode cX3_street 133 = .ok (.iconst 1, 1) := dk_4 (dk_at dksX3_street_5 20 rfl rfl)
theorem dX3_street_134 : decode cX3_street 134 = .ok (.bipush 9, 2) := dk_16 9 (dk_at dksX3_street_5 21 rfl rfl)
theorem dX3_street_136 : decode cX3_street 136 = .ok (.invokevirtual 62, 3) := dk_182 0 62 (dk_at dksX3_street_6 0 rfl rfl)
theorem dX3_street_139 : decode cX3_street 139 = .ok (.putfield 74, 3) := dk_181 0 74 (dk_at dksX3_street_6 3 rfl rfl)
theorem dX3_street_142 : decode cX3_street 142 = .ok (.aload_n 0, 1) := dk_42 (dk_at dksX3_street_6 6 rfl rfl)
theorem dX3_street_143 : decode cX3_street 143 = .ok (.getfield 22, 3) := dk_180 0 22 (dk_at dksX3_street_6 7 rfl rfl)
theorem dX3_street_146 : decode cX3_street 146 = .ok (.aload_n 2, 1) := dk_44 (dk_at dksX3_street_6 10 rfl rfl)
theorem dX3_street_147 : decode cX3_street 147 = .ok (.invokevirtual 77, 3) := dk_182 0 77 (dk_at dksX3_street_6 11 rfl rfl)
theorem dX3_street_150 : decode cX3_street 150 = .ok (.pop, 1) := dk_87 (dk_at dksX3_street_6 14 rfl rfl)
theorem dX3_street_151 : decode cX3_street 151 = .ok (.return_, 1) := dk_177 (dk_at dksX3_street_6 15 rfl rfl)
theorem q98 : (Jvm.Cond.initialized "HurtStreets$Reader") ∈ lw_all := lw_g (lw_at lw_m1 7 rfl) rfl
theorem q224 : (Jvm.Cond.fieldLinkNest "HurtStreets$Reader" (33 : Nat) "HurtStreets" "page" "[B" "HurtStreets") ∈ lw_tbl := lw_at lw_m1 133 rfl
theorem q226 : (Jvm.Cond.fieldLinkNest "HurtStreets$Reader" (30 : Nat) "HurtStreets" "pageLength" "I" "HurtStreets") ∈ lw_tbl := lw_at lw_m1 135 rfl
theorem q314 : (Jvm.Cond.instantiable "HurtStreets$Reader" (5 : Nat)) ∈ lw_all := lw_g (lw_at lw_m1 223 rfl) rfl
theorem q316 : (Jvm.Cond.instanceMethod ({ cls := "HurtStreets$Reader", name := "<init>", desc := "(LHurtStreets;)V" } : Jvm.MethodName)) ∈ lw_all := lw_g (lw_at lw_m1 225 rfl) rfl
theorem q317 : (Jvm.Cond.code ({ cls := "HurtStreets$Reader", name := "<init>", desc := "(LHurtStreets;)V" } : Jvm.MethodName) prog_6_method_1_code (2 : Nat) (Option.none : Option Jvm.ClassFile.FieldType)) ∈ lw_all := lw_g (lw_at lw_m1 226 rfl) rfl
theorem q318 : (Jvm.Cond.methodLink "HurtStreets$Reader" (9 : Nat) ({ cls := "java/lang/Object", name := "<init>", desc := "()V" } : Jvm.MethodName)) ∈ lw_all := lw_g (lw_at lw_m1 227 rfl) rfl
theorem q319 : (Jvm.Cond.classLink "HurtStreets$Reader" (19 : Nat) "java/util/ArrayList") ∈ lw_all := lw_g (lw_at lw_m1 228 rfl) rfl
theorem q320 : (Jvm.Cond.methodLink "HurtStreets$Reader" (21 : Nat) ({ cls := "java/util/ArrayList", name := "<init>", desc := "()V" } : Jvm.MethodName)) ∈ lw_all := lw_g (lw_at lw_m1 229 rfl) rfl
theorem q321 : (Jvm.Cond.fieldLink "HurtStreets$Reader" (26 : Nat) "HurtStreets$Reader" "place" "I") ∈ lw_all := lw_g (lw_at lw_m1 230 rfl) rfl
theorem q322 : (Jvm.Cond.fieldLink "HurtStreets$Reader" (81 : Nat) "HurtStreets$Reader" "people" "I") ∈ lw_all := lw_g (lw_at lw_m1 231 rfl) rfl
theorem q324 : (Jvm.Cond.fieldLink "HurtStreets$Reader" (15 : Nat) "HurtStreets$Reader" "tender" "[I") ∈ lw_all := lw_g (lw_at lw_m1 233 rfl) rfl
theorem q326 : (Jvm.Cond.fieldLink "HurtStreets$Reader" (22 : Nat) "HurtStreets$Reader" "streets" "Ljava/util/ArrayList;") ∈ lw_all := lw_g (lw_at lw_m1 235 rfl) rfl
theorem q328 : (Jvm.Cond.fieldLink "HurtStreets$Reader" (3 : Nat) "HurtStreets$Reader" "this$0" "LHurtStreets;") ∈ lw_all := lw_g (lw_at lw_m1 237 rfl) rfl
theorem q329 : (Jvm.Cond.lays "HurtStreets$Reader" "HurtStreets$Reader" "place" "I") ∈ lw_all := lw_g (lw_at lw_m1 238 rfl) rfl
theorem q330 : (Jvm.Cond.soleField "HurtStreets$Reader" "place") ∈ lw_all := lw_g (lw_at lw_m1 239 rfl) rfl
theorem q331 : (Jvm.Cond.lays "HurtStreets$Reader" "HurtStreets$Reader" "people" "I") ∈ lw_all := lw_g (lw_at lw_m2 0 rfl) rfl
theorem q332 : (Jvm.Cond.soleField "HurtStreets$Reader" "people") ∈ lw_all := lw_g (lw_at lw_m2 1 rfl) rfl
theorem q333 : (Jvm.Cond.laysFinal "HurtStreets$Reader" "HurtStreets$Reader" "tender" "[I") ∈ lw_all := lw_g (lw_at lw_m2 2 rfl) rfl
theorem q334 : (Jvm.Cond.soleField "HurtStreets$Reader" "tender") ∈ lw_all := lw_g (lw_at lw_m2 3 rfl) rfl
theorem q335 : (Jvm.Cond.laysFinal "HurtStreets$Reader" "HurtStreets$Reader" "streets" "Ljava/util/ArrayList;") ∈ lw_all := lw_g (lw_at lw_m2 4 rfl) rfl
theorem q336 : (Jvm.Cond.soleField "HurtStreets$Reader" "streets") ∈ lw_all := lw_g (lw_at lw_m2 5 rfl) rfl
theorem q337 : (Jvm.Cond.laysFinal "HurtStreets$Reader" "HurtStreets$Reader" "this$0" "LHurtStreets;") ∈ lw_all := lw_g (lw_at lw_m2 6 rfl) rfl
theorem q338 : (Jvm.Cond.soleField "HurtStreets$Reader" "this$0") ∈ lw_all := lw_g (lw_at lw_m2 7 rfl) rfl
theorem q339 : (Jvm.Cond.superclass "HurtStreets$Reader" "java/lang/Object") ∈ lw_all := lw_g (lw_at lw_m2 8 rfl) rfl
theorem q341 : (Jvm.Cond.instanceMethod ({ cls := "HurtStreets$Reader", name := "town", desc := "()LHurtStreets$Reader;" } : Jvm.MethodName)) ∈ lw_all := lw_g (lw_at lw_m2 10 rfl) rfl
theorem q342 : (Jvm.Cond.selects "HurtStreets$Reader" ({ cls := "HurtStreets$Reader", name := "town", desc := "()LHurtStreets$Reader;" } : Jvm.MethodName) ({ cls := "HurtStreets$Reader", name := "town", desc := "()LHurtStreets$Reader;" } : Jvm.MethodName)) ∈ lw_all := lw_g (lw_at lw_m2 11 rfl) rfl
theorem q343 : (Jvm.Cond.code ({ cls := "HurtStreets$Reader", name := "town", desc := "()LHurtStreets$Reader;" } : Jvm.MethodName) prog_6_method_7_code (1 : Nat) (Option.some (Jvm.ClassFile.FieldType.object "HurtStreets$Reader"))) ∈ lw_all := lw_g (lw_at lw_m2 12 rfl) rfl
theorem q344 : (Jvm.Cond.methodLink "HurtStreets$Reader" (62 : Nat) ({ cls := "HurtStreets$Reader", name := "digit", desc := "(II)I" } : Jvm.MethodName)) ∈ lw_all := lw_g (lw_at lw_m2 13 rfl) rfl
theorem q345 : (Jvm.Cond.privateMethod ({ cls := "HurtStreets$Reader", name := "digit", desc := "(II)I" } : Jvm.MethodName)) ∈ lw_tbl := lw_at lw_m2 14 rfl
theorem q346 : (Jvm.Cond.instanceMethod ({ cls := "HurtStreets$Reader", name := "digit", desc := "(II)I" } : Jvm.MethodName)) ∈ lw_all := lw_g (lw_at lw_m2 15 rfl) rfl
theorem q347 : (Jvm.Cond.code ({ cls := "HurtStreets$Reader", name := "digit", desc := "(II)I" } : Jvm.MethodName) prog_6_method_5_code (3 : Nat) (Option.some Jvm.ClassFile.FieldType.int)) ∈ lw_all := lw_g (lw_at lw_m2 16 rfl) rfl
theorem q348 : (Jvm.Cond.methodLink "HurtStreets$Reader" (37 : Nat) ({ cls := "HurtStreets$Reader", name := "next", desc := "()I" } : Jvm.MethodName)) ∈ lw_all := lw_g (lw_at lw_m2 17 rfl) rfl
theorem q349 : (Jvm.Cond.privateMethod ({ cls := "HurtStreets$Reader", name := "next", desc := "()I" } : Jvm.MethodName)) ∈ lw_tbl := lw_at lw_m2 18 rfl
theorem q350 : (Jvm.Cond.instanceMethod ({ cls := "HurtStreets$Reader", name := "next", desc := "()I" } : Jvm.MethodName)) ∈ lw_all := lw_g (lw_at lw_m2 19 rfl) rfl
theorem q351 : (Jvm.Cond.code ({ cls := "HurtStreets$Reader", name := "next", desc := "()I" } : Jvm.MethodName) prog_6_method_2_code (1 : Nat) (Option.some Jvm.ClassFile.FieldType.int)) ∈ lw_all := lw_g (lw_at lw_m2 20 rfl) rfl
theorem q352 : (Jvm.Cond.methodLinkNest "HurtStreets$Reader" (46 : Nat) ({ cls := "HurtStreets", name := "in", desc := "(III)Z" } : Jvm.MethodName) "HurtStreets") ∈ lw_tbl := lw_at lw_m2 21 rfl
theorem q353 : (Jvm.Cond.methodLink "HurtStreets$Reader" (50 : Nat) ({ cls := "HurtStreets$Reader", name := "want", desc := "(Z)V" } : Jvm.MethodName)) ∈ lw_all := lw_g (lw_at lw_m2 22 rfl) rfl
theorem q354 : (Jvm.Cond.privateMethod ({ cls := "HurtStreets$Reader", name := "want", desc := "(Z)V" } : Jvm.MethodName)) ∈ lw_tbl := lw_at lw_m2 23 rfl
theorem q355 : (Jvm.Cond.instanceMethod ({ cls := "HurtStreets$Reader", name := "want", desc := "(Z)V" } : Jvm.MethodName)) ∈ lw_all := lw_g (lw_at lw_m2 24 rfl) rfl
theorem q356 : (Jvm.Cond.code ({ cls := "HurtStreets$Reader", name := "want", desc := "(Z)V" } : Jvm.MethodName) prog_6_method_4_code (2 : Nat) (Option.none : Option Jvm.ClassFile.FieldType)) ∈ lw_all := lw_g (lw_at lw_m2 25 rfl) rfl
theorem q357 : (Jvm.Cond.classLink "HurtStreets$Reader" (41 : Nat) "HurtStreets$Stop") ∈ lw_all := lw_g (lw_at lw_m2 26 rfl) rfl
theorem q394 : (Jvm.Cond.methodLink "HurtStreets$Reader" (43 : Nat) ({ cls := "HurtStreets$Stop", name := "<init>", desc := "(I)V" } : Jvm.MethodName)) ∈ lw_all := lw_g (lw_at lw_m2 63 rfl) rfl
theorem q420 : (Jvm.Cond.methodLink "HurtStreets$Reader" (54 : Nat) ({ cls := "HurtStreets$Reader", name := "takes", desc := "(C)Z" } : Jvm.MethodName)) ∈ lw_all := lw_g (lw_at lw_m2 89 rfl) rfl
theorem q421 : (Jvm.Cond.privateMethod ({ cls := "HurtStreets$Reader", name := "takes", desc := "(C)Z" } : Jvm.MethodName)) ∈ lw_tbl := lw_at lw_m2 90 rfl
theorem q422 : (Jvm.Cond.instanceMethod ({ cls := "HurtStreets$Reader", name := "takes", desc := "(C)Z" } : Jvm.MethodName)) ∈ lw_all := lw_g (lw_at lw_m2 91 rfl) rfl
theorem q423 : (Jvm.Cond.code ({ cls := "HurtStreets$Reader", name := "takes", desc := "(C)Z" } : Jvm.MethodName) prog_6_method_3_code (3 : Nat) (Option.some Jvm.ClassFile.FieldType.boolean)) ∈ lw_all := lw_g (lw_at lw_m2 92 rfl) rfl
theorem q424 : (Jvm.Cond.methodLink "HurtStreets$Reader" (84 : Nat) ({ cls := "HurtStreets$Reader", name := "street", desc := "()V" } : Jvm.MethodName)) ∈ lw_all := lw_g (lw_at lw_m2 93 rfl) rfl
theorem q425 : (Jvm.Cond.privateMethod ({ cls := "HurtStreets$Reader", name := "street", desc := "()V" } : Jvm.MethodName)) ∈ lw_tbl := lw_at lw_m2 94 rfl
theorem q426 : (Jvm.Cond.instanceMethod ({ cls := "HurtStreets$Reader", name := "street", desc := "()V" } : Jvm.MethodName)) ∈ lw_all := lw_g (lw_at lw_m2 95 rfl) rfl
theorem q427 : (Jvm.Cond.code ({ cls := "HurtStreets$Reader", name := "street", desc := "()V" } : Jvm.MethodName) prog_6_method_6_code (3 : Nat) (Option.none : Option Jvm.ClassFile.FieldType)) ∈ lw_all := lw_g (lw_at lw_m2 96 rfl) rfl
theorem q428 : (Jvm.Cond.methodLinkNest "HurtStreets$Reader" (58 : Nat) ({ cls := "HurtStreets", name := "made", desc := "(I)LHurtStreets$Street;" } : Jvm.MethodName) "HurtStreets") ∈ lw_tbl := lw_at lw_m2 97 rfl
theorem q441 : (Jvm.Cond.fieldLink "HurtStreets$Reader" (66 : Nat) "HurtStreets$Street" "one" "I") ∈ lw_all := lw_g (lw_at lw_m2 110 rfl) rfl
theorem q445 : (Jvm.Cond.fieldLink "HurtStreets$Reader" (71 : Nat) "HurtStreets$Street" "other" "I") ∈ lw_all := lw_g (lw_at lw_m2 114 rfl) rfl
theorem q449 : (Jvm.Cond.fieldLink "HurtStreets$Reader" (74 : Nat) "HurtStreets$Street" "length" "I") ∈ lw_all := lw_g (lw_at lw_m2 118 rfl) rfl
theorem q495 : (Jvm.Cond.methodLink "HurtStreets$Reader" (77 : Nat) ({ cls := "java/util/ArrayList", name := "add", desc := "(Ljava/lang/Object;)Z" } : Jvm.MethodName)) ∈ lw_all := lw_g (lw_at lw_m2 164 rfl) rfl
theorem q532 : (Jvm.Cond.selects "HurtStreets$Reader" ({ cls := "java/lang/Object", name := "getClass", desc := "()Ljava/lang/Class;" } : Jvm.MethodName) ({ cls := "java/lang/Object", name := "getClass", desc := "()Ljava/lang/Class;" } : Jvm.MethodName)) ∈ lw_all := lw_g (lw_at lw_m2 201 rfl) rfl
theorem q553 : (Jvm.Cond.methodLink "HurtStreets$Reader" (87 : Nat) ({ cls := "java/util/ArrayList", name := "size", desc := "()I" } : Jvm.MethodName)) ∈ lw_all := lw_g (lw_at lw_m2 222 rfl) rfl
theorem q1397 : (Jvm.Cond.castable "HurtStreets$Reader" "java/lang/Object") ∈ lw_tbl := lw_at lw_m6 106 rfl
theorem in_X3 : ∀ w ∈ wsX30, w ∈ lw_all := lw_in wsX30 [329, 331, 333, 335, 337] (by decide +kernel) (by decide +kernel)
/-! HurtStreets$State -/
set_option maxRecDepth 100000
def RX1 : String := "HurtStreets$State"
def TX1 : u_T := fun k => match k with
  | 0 => ("HurtStreets$State", "tender", "[I", true)
  | 1 => ("HurtStreets$State", "often", "[I", true)
  | 2 => ("HurtStreets$State", "taken", "[I", true)
  | 3 => ("HurtStreets$State", "hurt", "[I", true)
  | 4 => ("HurtStreets$State", "waitsAt", "[I", true)
  | 5 => ("HurtStreets$State", "waitsFor", "[I", true)
  | 6 => ("HurtStreets$State", "at", "[I", true)
  | 7 => ("HurtStreets$State", "knows", "[I", true)
  | 8 => ("HurtStreets$State", "made", "[I", true)
  | 9 => ("HurtStreets$State", "days", "I", false)
  | 10 => ("HurtStreets$State", "costTo", "[I", true)
  | 11 => ("HurtStreets$State", "row", "[I", true)
  | 12 => ("HurtStreets$State", "rowMany", "I", false)
  | 13 => ("HurtStreets$State", "rowHurts", "I", false)
  | 14 => ("HurtStreets$State", "rowLength", "I", false)
  | _ => ("HurtStreets$State", "this$0", "LHurtStreets;", true)
def tyX1 : Nat → FieldType := fun k => match k with
  | 0 => .array .int
  | 1 => .array .int
  | 2 => .array .int
  | 3 => .array .int
  | 4 => .array .int
  | 5 => .array .int
  | 6 => .array .int
  | 7 => .array .int
  | 8 => .array .int
  | 9 => .int
  | 10 => .array .int
  | 11 => .array .int
  | 12 => .int
  | 13 => .int
  | 14 => .int
  | _ => .object "HurtStreets"
abbrev wsX10 : List Cond := u_ws RX1 TX1 16
set_option maxRecDepth 100000 in
theorem nmX1 : ∀ a, a < 16 → ∀ b, b < 16 → a ≠ b → (TX1 a).2.1 ≠ (TX1 b).2.1 := by decide +kernel
set_option maxRecDepth 100000 in
theorem tyX1_ok : ∀ k, k < 16 → parseFieldDescriptor (TX1 k).2.2.1 = some (tyX1 k) := by decide +kernel
abbrev cX1_init : ByteArray := prog_7_method_1_code
def yX1_init : MethodName := ⟨RX1, "<init>", "(LHurtStreets;)V"⟩
def dkwX1_init_3 : List UInt8 := [181, 0, 40, 42, 16, 8, 188, 10, 181, 0, 43, 42, 16, 8, 188, 10, 181, 0, 46, 177]
abbrev dktX1_init_3 : List UInt8 := dkwX1_init_3 ++ []
def dkwX1_init_2 : List UInt8 := [188, 10, 181, 0, 31, 42, 5, 188, 10, 181, 0, 34, 42, 5, 188, 10, 181, 0, 37, 42, 5, 188, 10]
abbrev dktX1_init_2 : List UInt8 := dkwX1_init_2 ++ dktX1_init_3
def dkwX1_init_1 : List UInt8 := [42, 6, 188, 10, 181, 0, 22, 42, 6, 188, 10, 181, 0, 25, 42, 6, 188, 10, 181, 0, 28, 42, 6]
abbrev dktX1_init_1 : List UInt8 := dkwX1_init_1 ++ dktX1_init_2
def dkwX1_init_0 : List UInt8 := [42, 43, 181, 0, 3, 42, 183, 0, 9, 42, 6, 188, 10, 181, 0, 15, 42, 16, 27, 188, 10, 181, 0, 19]
abbrev dktX1_init_0 : List UInt8 := dkwX1_init_0 ++ dktX1_init_1
theorem dksX1_init_0 : cX1_init.data.toList.drop 0 = dktX1_init_0 := by decide +kernel
theorem dksX1_init_1 : cX1_init.data.toList.drop 24 = dktX1_init_1 := dk_seg dksX1_init_0 24 rfl rfl
theorem dksX1_init_2 : cX1_init.data.toList.drop 47 = dktX1_init_2 := dk_seg dksX1_init_1 23 rfl rfl
theorem dksX1_init_3 : cX1_init.data.toList.drop 70 = dktX1_init_3 := dk_seg dksX1_init_2 23 rfl rfl
theorem dX1_init_0 : decode cX1_init 0 = .ok (.aload_n 0, 1) := dk_42 (dk_at dksX1_init_0 0 rfl rfl)
theorem dX1_init_1 : decode cX1_init 1 = .ok (.aload_n 1, 1) := dk_43 (dk_at dksX1_init_0 1 rfl rfl)
theorem dX1_init_2 : decode cX1_init 2 = .ok (.putfield 3, 3) := dk_181 0 3 (dk_at dksX1_init_0 2 rfl rfl)
theorem dX1_init_5 : decode cX1_init 5 = .ok (.aload_n 0, 1) := dk_42 (dk_at dksX1_init_0 5 rfl rfl)
theorem dX1_init_6 : decode cX1_init 6 = .ok (.invokespecial 9, 3) := dk_183 0 9 (dk_at dksX1_init_0 6 rfl rfl)
theorem dX1_init_9 : decode cX1_init 9 = .ok (.aload_n 0, 1) := dk_42 (dk_at dksX1_init_0 9 rfl rfl)
theorem dX1_init_10 : decode cX1_init 10 = .ok (.iconst 3, 1) := dk_6 (dk_at dksX1_init_0 10 rfl rfl)
theorem dX1_init_11 : decode cX1_init 11 = .ok (.newarray .int, 2) := dk_188_10 (dk_at dksX1_init_0 11 rfl rfl)
theorem dX1_init_13 : decode cX1_init 13 = .ok (.putfield 15, 3) := dk_181 0 15 (dk_at dksX1_init_0 13 rfl rfl)
theorem dX1_init_16 : decode cX1_init 16 = .ok (.aload_n 0, 1) := dk_42 (dk_at dksX1_init_0 16 rfl rfl)
theorem dX1_init_17 : decode cX1_init 17 = .ok (.bipush 27, 2) := dk_16 27 (dk_at dksX1_init_0 17 rfl rfl)
theorem dX1_init_19 : decode cX1_init 19 = .ok (.newarray .int, 2) := dk_188_10 (dk_at dksX1_init_0 19 rfl rfl)
theorem dX1_init_21 : decode cX1_init 21 = .ok (.putfield 19, 3) := dk_181 0 19 (dk_at dksX1_init_0 21 rfl rfl)
theorem dX1_init_24 : decode cX1_init 24 = .ok (.aload_n 0, 1) := dk_42 (dk_at dksX1_init_1 0 rfl rfl)
theorem dX1_init_25 : decode cX1_init 25 = .ok (.iconst 3, 1) := dk_6 (dk_at dksX1_init_1 1 rfl rfl)
theorem dX1_init_26 : decode cX1_init 26 = .ok (.newarray .int, 2) := dk_188_10 (dk_at dksX1_init_1 2 rfl rfl)
theorem dX1_init_28 : decode cX1_init 28 = .ok (.putfield 22, 3) := dk_181 0 22 (dk_at dksX1_init_1 4 rfl rfl)
theorem dX1_init_31 : decode cX1_init 31 = .ok (.aload_n 0, 1) := dk_42 (dk_at dksX1_init_1 7 rfl rfl)
theorem dX1_init_32 : decode cX1_init 32 = .ok (.iconst 3, 1) := dk_6 (dk_at dksX1_init_1 8 rfl rfl)
theorem dX1_init_33 : decode cX1_init 33 = .ok (.newarray .int, 2) := dk_188_10 (dk_at dksX1_init_1 9 rfl rfl)
theorem dX1_init_35 : decode cX1_init 35 = .ok (.putfield 25, 3) := dk_181 0 25 (dk_at dksX1_init_1 11 rfl rfl)
theorem dX1_init_38 : decode cX1_init 38 = .ok (.aload_n 0, 1) := dk_42 (dk_at dksX1_init_1 14 rfl rfl)
theorem dX1_init_39 : decode cX1_init 39 = .ok (.iconst 3, 1) := dk_6 (dk_at dksX1_init_1 15 rfl rfl)
theorem dX1_init_40 : decode cX1_init 40 = .ok (.newarray .int, 2) := dk_188_10 (dk_at dksX1_init_1 16 rfl rfl)
theorem dX1_init_42 : decode cX1_init 42 = .ok (.putfield 28, 3) := dk_181 0 28 (dk_at dksX1_init_1 18 rfl rfl)
theorem dX1_init_45 : decode cX1_init 45 = .ok (.aload_n 0, 1) := dk_42 (dk_at dksX1_init_1 21 rfl rfl)
theorem dX1_init_46 : decode cX1_init 46 = .ok (.iconst 3, 1) := dk_6 (dk_at dksX1_init_1 22 rfl rfl)
theorem dX1_init_47 : decode cX1_init 47 = .ok (.newarray .int, 2) := dk_188_10 (dk_at dksX1_init_2 0 rfl rfl)
theorem dX1_init_49 : decode cX1_init 49 = .ok (.putfield 31, 3) := dk_181 0 31 (dk_at dksX1_init_2 2 rfl rfl)
theorem dX1_init_52 : decode cX1_init 52 = .ok (.aload_n 0, 1) := dk_42 (dk_at dksX1_init_2 5 rfl rfl)
theorem dX1_init_53 : decode cX1_init 53 = .ok (.iconst 2, 1) := dk_5 (dk_at dksX1_init_2 6 rfl rfl)
theorem dX1_init_54 : decode cX1_init 54 = .ok (.newarray .int, 2) := dk_188_10 (dk_at dksX1_init_2 7 rfl rfl)
theorem dX1_init_56 : decode cX1_init 56 = .ok (.putfield 34, 3) := dk_181 0 34 (dk_at dksX1_init_2 9 rfl rfl)
theorem dX1_init_59 : decode cX1_init 59 = .ok (.aload_n 0, 1) := dk_42 (dk_at dksX1_init_2 12 rfl rfl)
theorem dX1_init_60 : decode cX1_init 60 = .ok (.iconst 2, 1) := dk_5 (dk_at dksX1_init_2 13 rfl rfl)
theorem dX1_init_61 : decode cX1_init 61 = .ok (.newarray .int, 2) := dk_188_10 (dk_at dksX1_init_2 14 rfl rfl)
theorem dX1_init_63 : decode cX1_init 63 = .ok (.putfield 37, 3) := dk_181 0 37 (dk_at dksX1_init_2 16 rfl rfl)
theorem dX1_init_66 : decode cX1_init 66 = .ok (.aload_n 0, 1) := dk_42 (dk_at dksX1_init_2 19 rfl rfl)
theorem dX1_init_67 : decode cX1_init 67 = .ok (.iconst 2, 1) := dk_5 (dk_at dksX1_init_2 20 rfl rfl)
theorem dX1_init_68 : decode cX1_init 68 = .ok (.newarray .int, 2) := dk_188_10 (dk_at dksX1_init_2 21 rfl rfl)
theorem dX1_init_70 : decode cX1_init 70 = .ok (.putfield 40, 3) := dk_181 0 40 (dk_at dksX1_init_3 0 rfl rfl)
theorem dX1_init_73 : decode cX1_init 73 = .ok (.aload_n 0, 1) := dk_42 (dk_at dksX1_init_3 3 rfl rfl)
theorem dX1_init_74 : decode cX1_init 74 = .ok (.bipush 8, 2) := dk_16 8 (dk_at dksX1_init_3 4 rfl rfl)
theorem dX1_init_76 : decode cX1_init 76 = .ok (.newarray .int, 2) := dk_188_10 (dk_at dksX1_init_3 6 rfl rfl)
theorem dX1_init_78 : decode cX1_init 78 = .ok (.putfield 43, 3) := dk_181 0 43 (dk_at dksX1_init_3 8 rfl rfl)
theorem dX1_init_81 : decode cX1_init 81 = .ok (.aload_n 0, 1) := dk_42 (dk_at dksX1_init_3 11 rfl rfl)
theorem dX1_init_82 : decode cX1_init 82 = .ok (.bipush 8, 2) := dk_16 8 (dk_at dksX1_init_3 12 rfl rfl)
theorem dX1_init_84 : decode cX1_init 84 = .ok (.newarray .int, 2) := dk_188_10 (dk_at dksX1_init_3 14 rfl rfl)
theorem dX1_init_86 : decode cX1_init 86 = .ok (.putfield 46, 3) := dk_181 0 46 (dk_at dksX1_init_3 16 rfl rfl)
theorem dX1_init_89 : decode cX1_init 89 = .ok (.return_, 1) := dk_177 (dk_at dksX1_init_3 19 rfl rfl)
abbrev cX1_begin : ByteArray := prog_7_method_2_code
def yX1_begin : MethodName := ⟨RX1, "begin", "()V"⟩
def dkwX1_begin_4 : List UInt8 := [167, 255, 227, 42, 3, 181, 0, 49, 177]
abbrev dktX1_begin_4 : List UInt8 := dkwX1_begin_4 ++ []
def dkwX1_begin_3 : List UInt8 := [180, 0, 34, 27, 3, 79, 42, 180, 0, 37, 27, 3, 79, 42, 180, 0, 40, 27, 3, 79, 132, 1, 1]
abbrev dktX1_begin_3 : List UInt8 := dkwX1_begin_3 ++ dktX1_begin_4
def dkwX1_begin_2 : List UInt8 := [79, 42, 180, 0, 31, 27, 2, 79, 132, 1, 1, 167, 255, 220, 3, 60, 27, 5, 162, 0, 30, 42]
abbrev dktX1_begin_2 : List UInt8 := dkwX1_begin_2 ++ dktX1_begin_3
def dkwX1_begin_1 : List UInt8 := [6, 162, 0, 37, 42, 180, 0, 22, 27, 3, 79, 42, 180, 0, 25, 27, 3, 79, 42, 180, 0, 28, 27, 2]
abbrev dktX1_begin_1 : List UInt8 := dkwX1_begin_1 ++ dktX1_begin_2
def dkwX1_begin_0 : List UInt8 := [3, 60, 27, 16, 27, 162, 0, 16, 42, 180, 0, 19, 27, 3, 79, 132, 1, 1, 167, 255, 240, 3, 60, 27]
abbrev dktX1_begin_0 : List UInt8 := dkwX1_begin_0 ++ dktX1_begin_1
theorem dksX1_begin_0 : cX1_begin.data.toList.drop 0 = dktX1_begin_0 := by decide +kernel
theorem dksX1_begin_1 : cX1_begin.data.toList.drop 24 = dktX1_begin_1 := dk_seg dksX1_begin_0 24 rfl rfl
theorem dksX1_begin_2 : cX1_begin.data.toList.drop 48 = dktX1_begin_2 := dk_seg dksX1_begin_1 24 rfl rfl
theorem dksX1_begin_3 : cX1_begin.data.toList.drop 70 = dktX1_begin_3 := dk_seg dksX1_begin_2 22 rfl rfl
theorem dksX1_begin_4 : cX1_begin.data.toList.drop 93 = dktX1_begin_4 := dk_seg dksX1_begin_3 23 rfl rfl
theorem dX1_begin_0 : decode cX1_begin 0 = .ok (.iconst 0, 1) := dk_3 (dk_at dksX1_begin_0 0 rfl rfl)
theorem dX1_begin_1 : decode cX1_begin 1 = .ok (.istore_n 1, 1) := dk_60 (dk_at dksX1_begin_0 1 rfl rfl)
theorem dX1_begin_2 : decode cX1_begin 2 = .ok (.iload_n 1, 1) := dk_27 (dk_at dksX1_begin_0 2 rfl rfl)
theorem dX1_begin_3 : decode cX1_begin 3 = .ok (.bipush 27, 2) := dk_16 27 (dk_at dksX1_begin_0 3 rfl rfl)
theorem dX1_begin_5 : decode cX1_begin 5 = .ok (.if_icmp .ge 16, 3) := dk_162 0 16 (dk_at dksX1_begin_0 5 rfl rfl)
theorem dX1_begin_8 : decode cX1_begin 8 = .ok (.aload_n 0, 1) := dk_42 (dk_at dksX1_begin_0 8 rfl rfl)
theorem dX1_begin_9 : decode cX1_begin 9 = .ok (.getfield 19, 3) := dk_180 0 19 (dk_at dksX1_begin_0 9 rfl rfl)
theorem dX1_begin_12 : decode cX1_begin 12 = .ok (.iload_n 1, 1) := dk_27 (dk_at dksX1_begin_0 12 rfl rfl)
theorem dX1_begin_13 : decode cX1_begin 13 = .ok (.iconst 0, 1) := dk_3 (dk_at dksX1_begin_0 13 rfl rfl)
theorem dX1_begin_14 : decode cX1_begin 14 = .ok (.iastore, 1) := dk_79 (dk_at dksX1_begin_0 14 rfl rfl)
theorem dX1_begin_15 : decode cX1_begin 15 = .ok (.iinc 1 1, 3) := dk_132 1 1 (dk_at dksX1_begin_0 15 rfl rfl)
theorem dX1_begin_18 : decode cX1_begin 18 = .ok (.goto (-16), 3) := dk_167 255 240 (dk_at dksX1_begin_0 18 rfl rfl)
theorem dX1_begin_21 : decode cX1_begin 21 = .ok (.iconst 0, 1) := dk_3 (dk_at dksX1_begin_0 21 rfl rfl)
theorem dX1_begin_22 : decode cX1_begin 22 = .ok (.istore_n 1, 1) := dk_60 (dk_at dksX1_begin_0 22 rfl rfl)
theorem dX1_begin_23 : decode cX1_begin 23 = .ok (.iload_n 1, 1) := dk_27 (dk_at dksX1_begin_0 23 rfl rfl)
theorem dX1_begin_24 : decode cX1_begin 24 = .ok (.iconst 3, 1) := dk_6 (dk_at dksX1_begin_1 0 rfl rfl)
theorem dX1_begin_25 : decode cX1_begin 25 = .ok (.if_icmp .ge 37, 3) := dk_162 0 37 (dk_at dksX1_begin_1 1 rfl rfl)
theorem dX1_begin_28 : decode cX1_begin 28 = .ok (.aload_n 0, 1) := dk_42 (dk_at dksX1_begin_1 4 rfl rfl)
theorem dX1_begin_29 : decode cX1_begin 29 = .ok (.getfield 22, 3) := dk_180 0 22 (dk_at dksX1_begin_1 5 rfl rfl)
theorem dX1_begin_32 : decode cX1_begin 32 = .ok (.iload_n 1, 1) := dk_27 (dk_at dksX1_begin_1 8 rfl rfl)
theorem dX1_begin_33 : decode cX1_begin 33 = .ok (.iconst 0, 1) := dk_3 (dk_at dksX1_begin_1 9 rfl rfl)
theorem dX1_begin_34 : decode cX1_begin 34 = .ok (.iastore, 1) := dk_79 (dk_at dksX1_begin_1 10 rfl rfl)
theorem dX1_begin_35 : decode cX1_begin 35 = .ok (.aload_n 0, 1) := dk_42 (dk_at dksX1_begin_1 11 rfl rfl)
theorem dX1_begin_36 : decode cX1_begin 36 = .ok (.getfield 25, 3) := dk_180 0 25 (dk_at dksX1_begin_1 12 rfl rfl)
theorem dX1_begin_39 : decode cX1_begin 39 = .ok (.iload_n 1, 1) := dk_27 (dk_at dksX1_begin_1 15 rfl rfl)
theorem dX1_begin_40 : decode cX1_begin 40 = .ok (.iconst 0, 1) := dk_3 (dk_at dksX1_begin_1 16 rfl rfl)
theorem dX1_begin_41 : decode cX1_begin 41 = .ok (.iastore, 1) := dk_79 (dk_at dksX1_begin_1 17 rfl rfl)
theorem dX1_begin_42 : decode cX1_begin 42 = .ok (.aload_n 0, 1) := dk_42 (dk_at dksX1_begin_1 18 rfl rfl)
theorem dX1_begin_43 : decode cX1_begin 43 = .ok (.getfield 28, 3) := dk_180 0 28 (dk_at dksX1_begin_1 19 rfl rfl)
theorem dX1_begin_46 : decode cX1_begin 46 = .ok (.iload_n 1, 1) := dk_27 (dk_at dksX1_begin_1 22 rfl rfl)
theorem dX1_begin_47 : decode cX1_begin 47 = .ok (.iconst (-1), 1) := dk_2 (dk_at dksX1_begin_1 23 rfl rfl)
theorem dX1_begin_48 : decode cX1_begin 48 = .ok (.iastore, 1) := dk_79 (dk_at dksX1_begin_2 0 rfl rfl)
theorem dX1_begin_49 : decode cX1_begin 49 = .ok (.aload_n 0, 1) := dk_42 (dk_at dksX1_begin_2 1 rfl rfl)
theorem dX1_begin_50 : decode cX1_begin 50 = .ok (.getfield 31, 3) := dk_180 0 31 (dk_at dksX1_begin_2 2 rfl rfl)
theorem dX1_begin_53 : decode cX1_begin 53 = .ok (.iload_n 1, 1) := dk_27 (dk_at dksX1_begin_2 5 rfl rfl)
theorem dX1_begin_54 : decode cX1_begin 54 = .ok (.iconst (-1), 1) := dk_2 (dk_at dksX1_begin_2 6 rfl rfl)
theorem dX1_begin_55 : decode cX1_begin 55 = .ok (.iastore, 1) := dk_79 (dk_at dksX1_begin_2 7 rfl rfl)
theorem dX1_begin_56 : decode cX1_begin 56 = .ok (.iinc 1 1, 3) := dk_132 1 1 (dk_at dksX1_begin_2 8 rfl rfl)
theorem dX1_begin_59 : decode cX1_begin 59 = .ok (.goto (-36), 3) := dk_167 255 220 (dk_at dksX1_begin_2 11 rfl rfl)
theorem dX1_begin_62 : decode cX1_begin 62 = .ok (.iconst 0, 1) := dk_3 (dk_at dksX1_begin_2 14 rfl rfl)
theorem dX1_begin_63 : decode cX1_begin 63 = .ok (.istore_n 1, 1) := dk_60 (dk_at dksX1_begin_2 15 rfl rfl)
theorem dX1_begin_64 : decode cX1_begin 64 = .ok (.iload_n 1, 1) := dk_27 (dk_at dksX1_begin_2 16 rfl rfl)
theorem dX1_begin_65 : decode cX1_begin 65 = .ok (.iconst 2, 1) := dk_5 (dk_at dksX1_begin_2 17 rfl rfl)
theorem dX1_begin_66 : decode cX1_begin 66 = .ok (.if_icmp .ge 30, 3) := dk_162 0 30 (dk_at dksX1_begin_2 18 rfl rfl)
theorem dX1_begin_69 : decode cX1_begin 69 = .ok (.aload_n 0, 1) := dk_42 (dk_at dksX1_begin_2 21 rfl rfl)
theorem dX1_begin_70 : decode cX1_begin 70 = .ok (.getfield 34, 3) := dk_180 0 34 (dk_at dksX1_begin_3 0 rfl rfl)
theorem dX1_begin_73 : decode cX1_begin 73 = .ok (.iload_n 1, 1) := dk_27 (dk_at dksX1_begin_3 3 rfl rfl)
theorem dX1_begin_74 : decode cX1_begin 74 = .ok (.iconst 0, 1) := dk_3 (dk_at dksX1_begin_3 4 rfl rfl)
theorem dX1_begin_75 : decode cX1_begin 75 = .ok (.iastore, 1) := dk_79 (dk_at dksX1_begin_3 5 rfl rfl)
theorem dX1_begin_76 : decode cX1_begin 76 = .ok (.aload_n 0, 1) := dk_42 (dk_at dksX1_begin_3 6 rfl rfl)
theorem dX1_begin_77 : decode cX1_begin 77 = .ok (.getfield 37, 3) := dk_180 0 37 (dk_at dksX1_begin_3 7 rfl rfl)
theorem dX1_begin_80 : decode cX1_begin 80 = .ok (.iload_n 1, 1) := dk_27 (dk_at dksX1_begin_3 10 rfl rfl)
theorem dX1_begin_81 : decode cX1_begin 81 = .ok (.iconst 0, 1) := dk_3 (dk_at dksX1_begin_3 11 rfl rfl)
theorem dX1_begin_82 : decode cX1_begin 82 = .ok (.iastore, 1) := dk_79 (dk_at dksX1_begin_3 12 rfl rfl)
theorem dX1_begin_83 : decode cX1_begin 83 = .ok (.aload_n 0, 1) := dk_42 (dk_at dksX1_begin_3 13 rfl rfl)
theorem dX1_begin_84 : decode cX1_begin 84 = .ok (.getfield 40, 3) := dk_180 0 40 (dk_at dksX1_begin_3 14 rfl rfl)
theorem dX1_begin_87 : decode cX1_begin 87 = .ok (.iload_n 1, 1) := dk_27 (dk_at dksX1_begin_3 17 rfl rfl)
theorem dX1_begin_88 : decode cX1_begin 88 = .ok (.iconst 0, 1) := dk_3 (dk_at dksX1_begin_3 18 rfl rfl)
theorem dX1_begin_89 : decode cX1_begin 89 = .ok (.iastore, 1) := dk_79 (dk_at dksX1_begin_3 19 rfl rfl)
theorem dX1_begin_90 : decode cX1_begin 90 = .ok (.iinc 1 1, 3) := dk_132 1 1 (dk_at dksX1_begin_3 20 rfl rfl)
theorem dX1_begin_93 : decode cX1_begin 93 = .ok (.goto (-29), 3) := dk_167 255 227 (dk_at dksX1_begin_4 0 rfl rfl)
theorem dX1_begin_96 : decode cX1_begin 96 = .ok (.aload_n 0, 1) := dk_42 (dk_at dksX1_begin_4 3 rfl rfl)
theorem dX1_begin_97 : decode cX1_begin 97 = .ok (.iconst 0, 1) := dk_3 (dk_at dksX1_begin_4 4 rfl rfl)
theorem dX1_begin_98 : decode cX1_begin 98 = .ok (.putfield 49, 3) := dk_181 0 49 (dk_at dksX1_begin_4 5 rfl rfl)
theorem dX1_begin_101 : decode cX1_begin 101 = .ok (.return_, 1) := dk_177 (dk_at dksX1_begin_4 8 rfl rfl)
abbrev cX1_layWay : ByteArray := prog_7_method_9_code
def yX1_layWay : MethodName := ⟨RX1, "layWay", "(IIII)Z"⟩
def dkwX1_layWay_6 : List UInt8 := [54, 5, 167, 255, 153, 4, 172]
abbrev dktX1_layWay_6 : List UInt8 := dkwX1_layWay_6 ++ []
def dkwX1_layWay_5 : List UInt8 := [181, 0, 119, 42, 180, 0, 3, 180, 0, 53, 21, 6, 182, 0, 57, 192, 0, 63, 21, 5, 182, 0, 105]
abbrev dktX1_layWay_5 : List UInt8 := dkwX1_layWay_5 ++ dktX1_layWay_6
def dkwX1_layWay_4 : List UInt8 := [42, 89, 180, 0, 119, 42, 180, 0, 3, 180, 0, 53, 21, 6, 182, 0, 57, 192, 0, 63, 180, 0, 72, 96]
abbrev dktX1_layWay_4 : List UInt8 := dkwX1_layWay_4 ++ dktX1_layWay_5
def dkwX1_layWay_3 : List UInt8 := [180, 0, 113, 4, 96, 181, 0, 113, 42, 89, 180, 0, 116, 42, 27, 21, 6, 182, 0, 69, 96, 181, 0, 116]
abbrev dktX1_layWay_3 : List UInt8 := dkwX1_layWay_3 ++ dktX1_layWay_4
def dkwX1_layWay_2 : List UInt8 := [21, 5, 21, 4, 182, 0, 122, 54, 6, 42, 180, 0, 46, 42, 180, 0, 113, 21, 6, 79, 42, 89]
abbrev dktX1_layWay_2 : List UInt8 := dkwX1_layWay_2 ++ dktX1_layWay_3
def dkwX1_layWay_1 : List UInt8 := [180, 0, 43, 28, 46, 18, 80, 161, 0, 5, 3, 172, 28, 54, 5, 21, 5, 29, 159, 0, 103, 42, 27]
abbrev dktX1_layWay_1 : List UInt8 := dkwX1_layWay_1 ++ dktX1_layWay_2
def dkwX1_layWay_0 : List UInt8 := [42, 27, 29, 21, 4, 182, 0, 109, 42, 3, 181, 0, 113, 42, 3, 181, 0, 116, 42, 3, 181, 0, 119, 42]
abbrev dktX1_layWay_0 : List UInt8 := dkwX1_layWay_0 ++ dktX1_layWay_1
theorem dksX1_layWay_0 : cX1_layWay.data.toList.drop 0 = dktX1_layWay_0 := by decide +kernel
theorem dksX1_layWay_1 : cX1_layWay.data.toList.drop 24 = dktX1_layWay_1 := dk_seg dksX1_layWay_0 24 rfl rfl
theorem dksX1_layWay_2 : cX1_layWay.data.toList.drop 47 = dktX1_layWay_2 := dk_seg dksX1_layWay_1 23 rfl rfl
theorem dksX1_layWay_3 : cX1_layWay.data.toList.drop 69 = dktX1_layWay_3 := dk_seg dksX1_layWay_2 22 rfl rfl
theorem dksX1_layWay_4 : cX1_layWay.data.toList.drop 93 = dktX1_layWay_4 := dk_seg dksX1_layWay_3 24 rfl rfl
theorem dksX1_layWay_5 : cX1_layWay.data.toList.drop 117 = dktX1_layWay_5 := dk_seg dksX1_layWay_4 24 rfl rfl
theorem dksX1_layWay_6 : cX1_layWay.data.toList.drop 140 = dktX1_layWay_6 := dk_seg dksX1_layWay_5 23 rfl rfl
theorem dX1_layWay_0 : decode cX1_layWay 0 = .ok (.aload_n 0, 1) := dk_42 (dk_at dksX1_layWay_0 0 rfl rfl)
theorem dX1_layWay_1 : decode cX1_layWay 1 = .ok (.iload_n 1, 1) := dk_27 (dk_at dksX1_layWay_0 1 rfl rfl)
theorem dX1_layWay_2 : decode cX1_layWay 2 = .ok (.iload_n 3, 1) := dk_29 (dk_at dksX1_layWay_0 2 rfl rfl)
theorem dX1_layWay_3 : decode cX1_layWay 3 = .ok (.iload 4, 2) := dk_21 4 (dk_at dksX1_layWay_0 3 rfl rfl)
theorem dX1_layWay_5 : decode cX1_layWay 5 = .ok (.invokevirtual 109, 3) := dk_182 0 109 (dk_at dksX1_layWay_0 5 rfl rfl)
theorem dX1_layWay_8 : decode cX1_layWay 8 = .ok (.aload_n 0, 1) := dk_42 (dk_at dksX1_layWay_0 8 rfl rfl)
theorem dX1_layWay_9 : decode cX1_layWay 9 = .ok (.iconst 0, 1) := dk_3 (dk_at dksX1_layWay_0 9 rfl rfl)
theorem dX1_layWay_10 : decode cX1_layWay 10 = .ok (.putfield 113, 3) := dk_181 0 113 (dk_at dksX1_layWay_0 10 rfl rfl)
theorem dX1_layWay_13 : decode cX1_layWay 13 = .ok (.aload_n 0, 1) := dk_42 (dk_at dksX1_layWay_0 13 rfl rfl)
theorem dX1_layWay_14 : decode cX1_layWay 14 = .ok (.iconst 0, 1) := dk_3 (dk_at dksX1_layWay_0 14 rfl rfl)
theorem dX1_layWay_15 : decode cX1_layWay 15 = .ok (.putfield 116, 3) := dk_181 0 116 (dk_at dksX1_layWay_0 15 rfl rfl)
theorem dX1_layWay_18 : decode cX1_layWay 18 = .ok (.aload_n 0, 1) := dk_42 (dk_at dksX1_layWay_0 18 rfl rfl)
theorem dX1_layWay_19 : decode cX1_layWay 19 = .ok (.iconst 0, 1) := dk_3 (dk_at dksX1_layWay_0 19 rfl rfl)
theorem dX1_layWay_20 : decode cX1_layWay 20 = .ok (.putfield 119, 3) := dk_181 0 119 (dk_at dksX1_layWay_0 20 rfl rfl)
theorem dX1_layWay_23 : decode cX1_layWay 23 = .ok (.aload_n 0, 1) := dk_42 (dk_at dksX1_layWay_0 23 rfl rfl)
theorem dX1_layWay_24 : decode cX1_layWay 24 = .ok (.getfield 43, 3) := dk_180 0 43 (dk_at dksX1_layWay_1 0 rfl rfl)
theorem dX1_layWay_27 : decode cX1_layWay 27 = .ok (.iload_n 2, 1) := dk_28 (dk_at dksX1_layWay_1 3 rfl rfl)
theorem dX1_layWay_28 : decode cX1_layWay 28 = .ok (.iaload, 1) := dk_46 (dk_at dksX1_layWay_1 4 rfl rfl)
theorem dX1_layWay_29 : decode cX1_layWay 29 = .ok (.ldc 80, 2) := dk_18 80 (dk_at dksX1_layWay_1 5 rfl rfl)
theorem dX1_layWay_31 : decode cX1_layWay 31 = .ok (.if_icmp .lt 5, 3) := dk_161 0 5 (dk_at dksX1_layWay_1 7 rfl rfl)
theorem dX1_layWay_34 : decode cX1_layWay 34 = .ok (.iconst 0, 1) := dk_3 (dk_at dksX1_layWay_1 10 rfl rfl)
theorem dX1_layWay_35 : decode cX1_layWay 35 = .ok (.ireturn, 1) := dk_172 (dk_at dksX1_layWay_1 11 rfl rfl)
theorem dX1_layWay_36 : decode cX1_layWay 36 = .ok (.iload_n 2, 1) := dk_28 (dk_at dksX1_layWay_1 12 rfl rfl)
theorem dX1_layWay_37 : decode cX1_layWay 37 = .ok (.istore 5, 2) := dk_54 5 (dk_at dksX1_layWay_1 13 rfl rfl)
theorem dX1_layWay_39 : decode cX1_layWay 39 = .ok (.iload 5, 2) := dk_21 5 (dk_at dksX1_layWay_1 15 rfl rfl)
theorem dX1_layWay_41 : decode cX1_layWay 41 = .ok (.iload_n 3, 1) := dk_29 (dk_at dksX1_layWay_1 17 rfl rfl)
theorem dX1_layWay_42 : decode cX1_layWay 42 = .ok (.if_icmp .eq 103, 3) := dk_159 0 103 (dk_at dksX1_layWay_1 18 rfl rfl)
theorem dX1_layWay_45 : decode cX1_layWay 45 = .ok (.aload_n 0, 1) := dk_42 (dk_at dksX1_layWay_1 21 rfl rfl)
theorem dX1_layWay_46 : decode cX1_layWay 46 = .ok (.iload_n 1, 1) := dk_27 (dk_at dksX1_layWay_1 22 rfl rfl)
theorem dX1_layWay_47 : decode cX1_layWay 47 = .ok (.iload 5, 2) := dk_21 5 (dk_at dksX1_layWay_2 0 rfl rfl)
theorem dX1_layWay_49 : decode cX1_layWay 49 = .ok (.iload 4, 2) := dk_21 4 (dk_at dksX1_layWay_2 2 rfl rfl)
theorem dX1_layWay_51 : decode cX1_layWay 51 = .ok (.invokevirtual 122, 3) := dk_182 0 122 (dk_at dksX1_layWay_2 4 rfl rfl)
theorem dX1_layWay_54 : decode cX1_layWay 54 = .ok (.istore 6, 2) := dk_54 6 (dk_at dksX1_layWay_2 7 rfl rfl)
theorem dX1_layWay_56 : decode cX1_layWay 56 = .ok (.aload_n 0, 1) := dk_42 (dk_at dksX1_layWay_2 9 rfl rfl)
theorem dX1_layWay_57 : decode cX1_layWay 57 = .ok (.getfield 46, 3) := dk_180 0 46 (dk_at dksX1_layWay_2 10 rfl rfl)
theorem dX1_layWay_60 : decode cX1_layWay 60 = .ok (.aload_n 0, 1) := dk_42 (dk_at dksX1_layWay_2 13 rfl rfl)
theorem dX1_layWay_61 : decode cX1_layWay 61 = .ok (.getfield 113, 3) := dk_180 0 113 (dk_at dksX1_layWay_2 14 rfl rfl)
theorem dX1_layWay_64 : decode cX1_layWay 64 = .ok (.iload 6, 2) := dk_21 6 (dk_at dksX1_layWay_2 17 rfl rfl)
theorem dX1_layWay_66 : decode cX1_layWay 66 = .ok (.iastore, 1) := dk_79 (dk_at dksX1_layWay_2 19 rfl rfl)
theorem dX1_layWay_67 : decode cX1_layWay 67 = .ok (.aload_n 0, 1) := dk_42 (dk_at dksX1_layWay_2 20 rfl rfl)
theorem dX1_layWay_68 : decode cX1_layWay 68 = .ok (.dup, 1) := dk_89 (dk_at dksX1_layWay_2 21 rfl rfl)
theorem dX1_layWay_69 : decode cX1_layWay 69 = .ok (.getfield 113, 3) := dk_180 0 113 (dk_at dksX1_layWay_3 0 rfl rfl)
theorem dX1_layWay_72 : decode cX1_layWay 72 = .ok (.iconst 1, 1) := dk_4 (dk_at dksX1_layWay_3 3 rfl rfl)
theorem dX1_layWay_73 : decode cX1_layWay 73 = .ok (.iadd, 1) := dk_96 (dk_at dksX1_layWay_3 4 rfl rfl)
theorem dX1_layWay_74 : decode cX1_layWay 74 = .ok (.putfield 113, 3) := dk_181 0 113 (dk_at dksX1_layWay_3 5 rfl rfl)
theorem dX1_layWay_77 : decode cX1_layWay 77 = .ok (.aload_n 0, 1) := dk_42 (dk_at dksX1_layWay_3 8 rfl rfl)
theorem dX1_layWay_78 : decode cX1_layWay 78 = .ok (.dup, 1) := dk_89 (dk_at dksX1_layWay_3 9 rfl rfl)
theorem dX1_layWay_79 : decode cX1_layWay 79 = .ok (.getfield 116, 3) := dk_180 0 116 (dk_at dksX1_layWay_3 10 rfl rfl)
theorem dX1_layWay_82 : decode cX1_layWay 82 = .ok (.aload_n 0, 1) := dk_42 (dk_at dksX1_layWay_3 13 rfl rfl)
theorem dX1_layWay_83 : decode cX1_layWay 83 = .ok (.iload_n 1, 1) := dk_27 (dk_at dksX1_layWay_3 14 rfl rfl)
theorem dX1_layWay_84 : decode cX1_layWay 84 = .ok (.iload 6, 2) := dk_21 6 (dk_at dksX1_layWay_3 15 rfl rfl)
theorem dX1_layWay_86 : decode cX1_layWay 86 = .ok (.invokevirtual 69, 3) := dk_182 0 69 (dk_at dksX1_layWay_3 17 rfl rfl)
theorem dX1_layWay_89 : decode cX1_layWay 89 = .ok (.iadd, 1) := dk_96 (dk_at dksX1_layWay_3 20 rfl rfl)
theorem dX1_layWay_90 : decode cX1_layWay 90 = .ok (.putfield 116, 3) := dk_181 0 116 (dk_at dksX1_layWay_3 21 rfl rfl)
theorem dX1_layWay_93 : decode cX1_layWay 93 = .ok (.aload_n 0, 1) := dk_42 (dk_at dksX1_layWay_4 0 rfl rfl)
theorem dX1_layWay_94 : decode cX1_layWay 94 = .ok (.dup, 1) := dk_89 (dk_at dksX1_layWay_4 1 rfl rfl)
theorem dX1_layWay_95 : decode cX1_layWay 95 = .ok (.getfield 119, 3) := dk_180 0 119 (dk_at dksX1_layWay_4 2 rfl rfl)
theorem dX1_layWay_98 : decode cX1_layWay 98 = .ok (.aload_n 0, 1) := dk_42 (dk_at dksX1_layWay_4 5 rfl rfl)
theorem dX1_layWay_99 : decode cX1_layWay 99 = .ok (.getfield 3, 3) := dk_180 0 3 (dk_at dksX1_layWay_4 6 rfl rfl)
theorem dX1_layWay_102 : decode cX1_layWay 102 = .ok (.getfield 53, 3) := dk_180 0 53 (dk_at dksX1_layWay_4 9 rfl rfl)
theorem dX1_layWay_105 : decode cX1_layWay 105 = .ok (.iload 6, 2) := dk_21 6 (dk_at dksX1_layWay_4 12 rfl rfl)
theorem dX1_layWay_107 : decode cX1_layWay 107 = .ok (.invokevirtual 57, 3) := dk_182 0 57 (dk_at dksX1_layWay_4 14 rfl rfl)
theorem dX1_layWay_110 : decode cX1_layWay 110 = .ok (.checkcast 63, 3) := dk_192 0 63 (dk_at dksX1_layWay_4 17 rfl rfl)
theorem dX1_layWay_113 : decode cX1_layWay 113 = .ok (.getfield 72, 3) := dk_180 0 72 (dk_at dksX1_layWay_4 20 rfl rfl)
theorem dX1_layWay_116 : decode cX1_layWay 116 = .ok (.iadd, 1) := dk_96 (dk_at dksX1_layWay_4 23 rfl rfl)
theorem dX1_layWay_117 : decode cX1_layWay 117 = .ok (.putfield 119, 3) := dk_181 0 119 (dk_at dksX1_layWay_5 0 rfl rfl)
theorem dX1_layWay_120 : decode cX1_layWay 120 = .ok (.aload_n 0, 1) := dk_42 (dk_at dksX1_layWay_5 3 rfl rfl)
theorem dX1_layWay_121 : decode cX1_layWay 121 = .ok (.getfield 3, 3) := dk_180 0 3 (dk_at dksX1_layWay_5 4 rfl rfl)
theorem dX1_layWay_124 : decode cX1_layWay 124 = .ok (.getfield 53, 3) := dk_180 0 53 (dk_at dksX1_layWay_5 7 rfl rfl)
theorem dX1_layWay_127 : decode cX1_layWay 127 = .ok (.iload 6, 2) := dk_21 6 (dk_at dksX1_layWay_5 10 rfl rfl)
theorem dX1_layWay_129 : decode cX1_layWay 129 = .ok (.invokevirtual 57, 3) := dk_182 0 57 (dk_at dksX1_layWay_5 12 rfl rfl)
theorem dX1_layWay_132 : decode cX1_layWay 132 = .ok (.checkcast 63, 3) := dk_192 0 63 (dk_at dksX1_layWay_5 15 rfl rfl)
theorem dX1_layWay_135 : decode cX1_layWay 135 = .ok (.iload 5, 2) := dk_21 5 (dk_at dksX1_layWay_5 18 rfl rfl)
theorem dX1_layWay_137 : decode cX1_layWay 137 = .ok (.invokevirtual 105, 3) := dk_182 0 105 (dk_at dksX1_layWay_5 20 rfl rfl)
theorem dX1_layWay_140 : decode cX1_layWay 140 = .ok (.istore 5, 2) := dk_54 5 (dk_at dksX1_layWay_6 0 rfl rfl)
theorem dX1_layWay_142 : decode cX1_layWay 142 = .ok (.goto (-103), 3) := dk_167 255 153 (dk_at dksX1_layWay_6 2 rfl rfl)
theorem dX1_layWay_145 : decode cX1_layWay 145 = .ok (.iconst 1, 1) := dk_4 (dk_at dksX1_layWay_6 5 rfl rfl)
theorem dX1_layWay_146 : decode cX1_layWay 146 = .ok (.ireturn, 1) := dk_172 (dk_at dksX1_layWay_6 6 rfl rfl)
abbrev cX1_layTo : ByteArray := prog_7_method_7_code
def yX1_layTo : MethodName := ⟨RX1, "layTo", "(III)V"⟩
def dkwX1_layTo_7 : List UInt8 := [167, 255, 130, 177]
abbrev dktX1_layTo_7 : List UInt8 := dkwX1_layTo_7 ++ []
def dkwX1_layTo_6 : List UInt8 := [180, 0, 43, 25, 6, 180, 0, 92, 46, 96, 182, 0, 98, 128, 54, 4, 132, 5, 1, 167, 255, 144]
abbrev dktX1_layTo_6 : List UInt8 := dkwX1_layTo_6 ++ dktX1_layTo_7
def dkwX1_layTo_5 : List UInt8 := [25, 6, 180, 0, 95, 46, 96, 182, 0, 98, 128, 54, 4, 21, 4, 42, 25, 6, 180, 0, 95, 21, 7, 42]
abbrev dktX1_layTo_5 : List UInt8 := dkwX1_layTo_5 ++ dktX1_layTo_6
def dkwX1_layTo_4 : List UInt8 := [182, 0, 89, 167, 0, 5, 18, 80, 54, 7, 21, 4, 42, 25, 6, 180, 0, 92, 21, 7, 42, 180, 0, 43]
abbrev dktX1_layTo_4 : List UInt8 := dkwX1_layTo_4 ++ dktX1_layTo_5
def dkwX1_layTo_3 : List UInt8 := [21, 5, 182, 0, 57, 192, 0, 63, 58, 6, 29, 21, 5, 184, 0, 85, 153, 0, 13, 42, 27, 21, 5]
abbrev dktX1_layTo_3 : List UInt8 := dkwX1_layTo_3 ++ dktX1_layTo_4
def dkwX1_layTo_2 : List UInt8 := [54, 5, 21, 5, 42, 180, 0, 3, 180, 0, 53, 182, 0, 81, 162, 0, 103, 42, 180, 0, 3, 180, 0, 53]
abbrev dktX1_layTo_2 : List UInt8 := dkwX1_layTo_2 ++ dktX1_layTo_3
def dkwX1_layTo_1 : List UInt8 := [167, 0, 5, 18, 80, 79, 132, 4, 1, 167, 255, 227, 4, 54, 4, 21, 4, 153, 0, 127, 3, 54, 4, 3]
abbrev dktX1_layTo_1 : List UInt8 := dkwX1_layTo_1 ++ dktX1_layTo_2
def dkwX1_layTo_0 : List UInt8 := [3, 54, 4, 21, 4, 16, 8, 162, 0, 28, 42, 180, 0, 43, 21, 4, 21, 4, 28, 160, 0, 7, 3]
abbrev dktX1_layTo_0 : List UInt8 := dkwX1_layTo_0 ++ dktX1_layTo_1
theorem dksX1_layTo_0 : cX1_layTo.data.toList.drop 0 = dktX1_layTo_0 := by decide +kernel
theorem dksX1_layTo_1 : cX1_layTo.data.toList.drop 23 = dktX1_layTo_1 := dk_seg dksX1_layTo_0 23 rfl rfl
theorem dksX1_layTo_2 : cX1_layTo.data.toList.drop 47 = dktX1_layTo_2 := dk_seg dksX1_layTo_1 24 rfl rfl
theorem dksX1_layTo_3 : cX1_layTo.data.toList.drop 71 = dktX1_layTo_3 := dk_seg dksX1_layTo_2 24 rfl rfl
theorem dksX1_layTo_4 : cX1_layTo.data.toList.drop 94 = dktX1_layTo_4 := dk_seg dksX1_layTo_3 23 rfl rfl
theorem dksX1_layTo_5 : cX1_layTo.data.toList.drop 118 = dktX1_layTo_5 := dk_seg dksX1_layTo_4 24 rfl rfl
theorem dksX1_layTo_6 : cX1_layTo.data.toList.drop 142 = dktX1_layTo_6 := dk_seg dksX1_layTo_5 24 rfl rfl
theorem dksX1_layTo_7 : cX1_layTo.data.toList.drop 164 = dktX1_layTo_7 := dk_seg dksX1_layTo_6 22 rfl rfl
theorem dX1_layTo_0 : decode cX1_layTo 0 = .ok (.iconst 0, 1) := dk_3 (dk_at dksX1_layTo_0 0 rfl rfl)
theorem dX1_layTo_1 : decode cX1_layTo 1 = .ok (.istore 4, 2) := dk_54 4 (dk_at dksX1_layTo_0 1 rfl rfl)
theorem dX1_layTo_3 : decode cX1_layTo 3 = .ok (.iload 4, 2) := dk_21 4 (dk_at dksX1_layTo_0 3 rfl rfl)
theorem dX1_layTo_5 : decode cX1_layTo 5 = .ok (.bipush 8, 2) := dk_16 8 (dk_at dksX1_layTo_0 5 rfl rfl)
theorem dX1_layTo_7 : decode cX1_layTo 7 = .ok (.if_icmp .ge 28, 3) := dk_162 0 28 (dk_at dksX1_layTo_0 7 rfl rfl)
theorem dX1_layTo_10 : decode cX1_layTo 10 = .ok (.aload_n 0, 1) := dk_42 (dk_at dksX1_layTo_0 10 rfl rfl)
theorem dX1_layTo_11 : decode cX1_layTo 11 = .ok (.getfield 43, 3) := dk_180 0 43 (dk_at dksX1_layTo_0 11 rfl rfl)
theorem dX1_layTo_14 : decode cX1_layTo 14 = .ok (.iload 4, 2) := dk_21 4 (dk_at dksX1_layTo_0 14 rfl rfl)
theorem dX1_layTo_16 : decode cX1_layTo 16 = .ok (.iload 4, 2) := dk_21 4 (dk_at dksX1_layTo_0 16 rfl rfl)
theorem dX1_layTo_18 : decode cX1_layTo 18 = .ok (.iload_n 2, 1) := dk_28 (dk_at dksX1_layTo_0 18 rfl rfl)
theorem dX1_layTo_19 : decode cX1_layTo 19 = .ok (.if_icmp .ne 7, 3) := dk_160 0 7 (dk_at dksX1_layTo_0 19 rfl rfl)
theorem dX1_layTo_22 : decode cX1_layTo 22 = .ok (.iconst 0, 1) := dk_3 (dk_at dksX1_layTo_0 22 rfl rfl)
theorem dX1_layTo_23 : decode cX1_layTo 23 = .ok (.goto 5, 3) := dk_167 0 5 (dk_at dksX1_layTo_1 0 rfl rfl)
theorem dX1_layTo_26 : decode cX1_layTo 26 = .ok (.ldc 80, 2) := dk_18 80 (dk_at dksX1_layTo_1 3 rfl rfl)
theorem dX1_layTo_28 : decode cX1_layTo 28 = .ok (.iastore, 1) := dk_79 (dk_at dksX1_layTo_1 5 rfl rfl)
theorem dX1_layTo_29 : decode cX1_layTo 29 = .ok (.iinc 4 1, 3) := dk_132 4 1 (dk_at dksX1_layTo_1 6 rfl rfl)
theorem dX1_layTo_32 : decode cX1_layTo 32 = .ok (.goto (-29), 3) := dk_167 255 227 (dk_at dksX1_layTo_1 9 rfl rfl)
theorem dX1_layTo_35 : decode cX1_layTo 35 = .ok (.iconst 1, 1) := dk_4 (dk_at dksX1_layTo_1 12 rfl rfl)
theorem dX1_layTo_36 : decode cX1_layTo 36 = .ok (.istore 4, 2) := dk_54 4 (dk_at dksX1_layTo_1 13 rfl rfl)
theorem dX1_layTo_38 : decode cX1_layTo 38 = .ok (.iload 4, 2) := dk_21 4 (dk_at dksX1_layTo_1 15 rfl rfl)
theorem dX1_layTo_40 : decode cX1_layTo 40 = .ok (.ifCond .eq 127, 3) := dk_153 0 127 (dk_at dksX1_layTo_1 17 rfl rfl)
theorem dX1_layTo_43 : decode cX1_layTo 43 = .ok (.iconst 0, 1) := dk_3 (dk_at dksX1_layTo_1 20 rfl rfl)
theorem dX1_layTo_44 : decode cX1_layTo 44 = .ok (.istore 4, 2) := dk_54 4 (dk_at dksX1_layTo_1 21 rfl rfl)
theorem dX1_layTo_46 : decode cX1_layTo 46 = .ok (.iconst 0, 1) := dk_3 (dk_at dksX1_layTo_1 23 rfl rfl)
theorem dX1_layTo_47 : decode cX1_layTo 47 = .ok (.istore 5, 2) := dk_54 5 (dk_at dksX1_layTo_2 0 rfl rfl)
theorem dX1_layTo_49 : decode cX1_layTo 49 = .ok (.iload 5, 2) := dk_21 5 (dk_at dksX1_layTo_2 2 rfl rfl)
theorem dX1_layTo_51 : decode cX1_layTo 51 = .ok (.aload_n 0, 1) := dk_42 (dk_at dksX1_layTo_2 4 rfl rfl)
theorem dX1_layTo_52 : decode cX1_layTo 52 = .ok (.getfield 3, 3) := dk_180 0 3 (dk_at dksX1_layTo_2 5 rfl rfl)
theorem dX1_layTo_55 : decode cX1_layTo 55 = .ok (.getfield 53, 3) := dk_180 0 53 (dk_at dksX1_layTo_2 8 rfl rfl)
theorem dX1_layTo_58 : decode cX1_layTo 58 = .ok (.invokevirtual 81, 3) := dk_182 0 81 (dk_at dksX1_layTo_2 11 rfl rfl)
theorem dX1_layTo_61 : decode cX1_layTo 61 = .ok (.if_icmp .ge 103, 3) := dk_162 0 103 (dk_at dksX1_layTo_2 14 rfl rfl)
theorem dX1_layTo_64 : decode cX1_layTo 64 = .ok (.aload_n 0, 1) := dk_42 (dk_at dksX1_layTo_2 17 rfl rfl)
theorem dX1_layTo_65 : decode cX1_layTo 65 = .ok (.getfield 3, 3) := dk_180 0 3 (dk_at dksX1_layTo_2 18 rfl rfl)
theorem dX1_layTo_68 : decode cX1_layTo 68 = .ok (.getfield 53, 3) := dk_180 0 53 (dk_at dksX1_layTo_2 21 rfl rfl)
theorem dX1_layTo_71 : decode cX1_layTo 71 = .ok (.iload 5, 2) := dk_21 5 (dk_at dksX1_layTo_3 0 rfl rfl)
theorem dX1_layTo_73 : decode cX1_layTo 73 = .ok (.invokevirtual 57, 3) := dk_182 0 57 (dk_at dksX1_layTo_3 2 rfl rfl)
theorem dX1_layTo_76 : decode cX1_layTo 76 = .ok (.checkcast 63, 3) := dk_192 0 63 (dk_at dksX1_layTo_3 5 rfl rfl)
theorem dX1_layTo_79 : decode cX1_layTo 79 = .ok (.astore 6, 2) := dk_58 6 (dk_at dksX1_layTo_3 8 rfl rfl)
theorem dX1_layTo_81 : decode cX1_layTo 81 = .ok (.iload_n 3, 1) := dk_29 (dk_at dksX1_layTo_3 10 rfl rfl)
theorem dX1_layTo_82 : decode cX1_layTo 82 = .ok (.iload 5, 2) := dk_21 5 (dk_at dksX1_layTo_3 11 rfl rfl)
theorem dX1_layTo_84 : decode cX1_layTo 84 = .ok (.invokestatic 85, 3) := dk_184 0 85 (dk_at dksX1_layTo_3 13 rfl rfl)
theorem dX1_layTo_87 : decode cX1_layTo 87 = .ok (.ifCond .eq 13, 3) := dk_153 0 13 (dk_at dksX1_layTo_3 16 rfl rfl)
theorem dX1_layTo_90 : decode cX1_layTo 90 = .ok (.aload_n 0, 1) := dk_42 (dk_at dksX1_layTo_3 19 rfl rfl)
theorem dX1_layTo_91 : decode cX1_layTo 91 = .ok (.iload_n 1, 1) := dk_27 (dk_at dksX1_layTo_3 20 rfl rfl)
theorem dX1_layTo_92 : decode cX1_layTo 92 = .ok (.iload 5, 2) := dk_21 5 (dk_at dksX1_layTo_3 21 rfl rfl)
theorem dX1_layTo_94 : decode cX1_layTo 94 = .ok (.invokevirtual 89, 3) := dk_182 0 89 (dk_at dksX1_layTo_4 0 rfl rfl)
theorem dX1_layTo_97 : decode cX1_layTo 97 = .ok (.goto 5, 3) := dk_167 0 5 (dk_at dksX1_layTo_4 3 rfl rfl)
theorem dX1_layTo_100 : decode cX1_layTo 100 = .ok (.ldc 80, 2) := dk_18 80 (dk_at dksX1_layTo_4 6 rfl rfl)
theorem dX1_layTo_102 : decode cX1_layTo 102 = .ok (.istore 7, 2) := dk_54 7 (dk_at dksX1_layTo_4 8 rfl rfl)
theorem dX1_layTo_104 : decode cX1_layTo 104 = .ok (.iload 4, 2) := dk_21 4 (dk_at dksX1_layTo_4 10 rfl rfl)
theorem dX1_layTo_106 : decode cX1_layTo 106 = .ok (.aload_n 0, 1) := dk_42 (dk_at dksX1_layTo_4 12 rfl rfl)
theorem dX1_layTo_107 : decode cX1_layTo 107 = .ok (.aload 6, 2) := dk_25 6 (dk_at dksX1_layTo_4 13 rfl rfl)
theorem dX1_layTo_109 : decode cX1_layTo 109 = .ok (.getfield 92, 3) := dk_180 0 92 (dk_at dksX1_layTo_4 15 rfl rfl)
theorem dX1_layTo_112 : decode cX1_layTo 112 = .ok (.iload 7, 2) := dk_21 7 (dk_at dksX1_layTo_4 18 rfl rfl)
theorem dX1_layTo_114 : decode cX1_layTo 114 = .ok (.aload_n 0, 1) := dk_42 (dk_at dksX1_layTo_4 20 rfl rfl)
theorem dX1_layTo_115 : decode cX1_layTo 115 = .ok (.getfield 43, 3) := dk_180 0 43 (dk_at dksX1_layTo_4 21 rfl rfl)
theorem dX1_layTo_118 : decode cX1_layTo 118 = .ok (.aload 6, 2) := dk_25 6 (dk_at dksX1_layTo_5 0 rfl rfl)
theorem dX1_layTo_120 : decode cX1_layTo 120 = .ok (.getfield 95, 3) := dk_180 0 95 (dk_at dksX1_layTo_5 2 rfl rfl)
theorem dX1_layTo_123 : decode cX1_layTo 123 = .ok (.iaload, 1) := dk_46 (dk_at dksX1_layTo_5 5 rfl rfl)
theorem dX1_layTo_124 : decode cX1_layTo 124 = .ok (.iadd, 1) := dk_96 (dk_at dksX1_layTo_5 6 rfl rfl)
theorem dX1_layTo_125 : decode cX1_layTo 125 = .ok (.invokevirtual 98, 3) := dk_182 0 98 (dk_at dksX1_layTo_5 7 rfl rfl)
theorem dX1_layTo_128 : decode cX1_layTo 128 = .ok (.ior, 1) := dk_128 (dk_at dksX1_layTo_5 10 rfl rfl)
theorem dX1_layTo_129 : decode cX1_layTo 129 = .ok (.istore 4, 2) := dk_54 4 (dk_at dksX1_layTo_5 11 rfl rfl)
theorem dX1_layTo_131 : decode cX1_layTo 131 = .ok (.iload 4, 2) := dk_21 4 (dk_at dksX1_layTo_5 13 rfl rfl)
theorem dX1_layTo_133 : decode cX1_layTo 133 = .ok (.aload_n 0, 1) := dk_42 (dk_at dksX1_layTo_5 15 rfl rfl)
theorem dX1_layTo_134 : decode cX1_layTo 134 = .ok (.aload 6, 2) := dk_25 6 (dk_at dksX1_layTo_5 16 rfl rfl)
theorem dX1_layTo_136 : decode cX1_layTo 136 = .ok (.getfield 95, 3) := dk_180 0 95 (dk_at dksX1_layTo_5 18 rfl rfl)
theorem dX1_layTo_139 : decode cX1_layTo 139 = .ok (.iload 7, 2) := dk_21 7 (dk_at dksX1_layTo_5 21 rfl rfl)
theorem dX1_layTo_141 : decode cX1_layTo 141 = .ok (.aload_n 0, 1) := dk_42 (dk_at dksX1_layTo_5 23 rfl rfl)
theorem dX1_layTo_142 : decode cX1_layTo 142 = .ok (.getfield 43, 3) := dk_180 0 43 (dk_at dksX1_layTo_6 0 rfl rfl)
theorem dX1_layTo_145 : decode cX1_layTo 145 = .ok (.aload 6, 2) := dk_25 6 (dk_at dksX1_layTo_6 3 rfl rfl)
theorem dX1_layTo_147 : decode cX1_layTo 147 = .ok (.getfield 92, 3) := dk_180 0 92 (dk_at dksX1_layTo_6 5 rfl rfl)
theorem dX1_layTo_150 : decode cX1_layTo 150 = .ok (.iaload, 1) := dk_46 (dk_at dksX1_layTo_6 8 rfl rfl)
theorem dX1_layTo_151 : decode cX1_layTo 151 = .ok (.iadd, 1) := dk_96 (dk_at dksX1_layTo_6 9 rfl rfl)
theorem dX1_layTo_152 : decode cX1_layTo 152 = .ok (.invokevirtual 98, 3) := dk_182 0 98 (dk_at dksX1_layTo_6 10 rfl rfl)
theorem dX1_layTo_155 : decode cX1_layTo 155 = .ok (.ior, 1) := dk_128 (dk_at dksX1_layTo_6 13 rfl rfl)
theorem dX1_layTo_156 : decode cX1_layTo 156 = .ok (.istore 4, 2) := dk_54 4 (dk_at dksX1_layTo_6 14 rfl rfl)
theorem dX1_layTo_158 : decode cX1_layTo 158 = .ok (.iinc 5 1, 3) := dk_132 5 1 (dk_at dksX1_layTo_6 16 rfl rfl)
theorem dX1_layTo_161 : decode cX1_layTo 161 = .ok (.goto (-112), 3) := dk_167 255 144 (dk_at dksX1_layTo_6 19 rfl rfl)
theorem dX1_layTo_164 : decode cX1_layTo 164 = .ok (.goto (-126), 3) := dk_167 255 130 (dk_at dksX1_layTo_7 0 rfl rfl)
theorem dX1_layTo_167 : decode cX1_layTo 167 = .ok (.return_, 1) := dk_177 (dk_at dksX1_layTo_7 3 rfl rfl)
abbrev cX1_cost : ByteArray := prog_7_method_5_code
def yX1_cost : MethodName := ⟨RX1, "cost", "(II)I"⟩
def dkwX1_cost_1 : List UInt8 := [180, 0, 72, 96, 172]
abbrev dktX1_cost_1 : List UInt8 := dkwX1_cost_1 ++ []
def dkwX1_cost_0 : List UInt8 := [17, 3, 232, 42, 27, 28, 182, 0, 69, 104, 42, 180, 0, 3, 180, 0, 53, 28, 182, 0, 57, 192, 0, 63]
abbrev dktX1_cost_0 : List UInt8 := dkwX1_cost_0 ++ dktX1_cost_1
theorem dksX1_cost_0 : cX1_cost.data.toList.drop 0 = dktX1_cost_0 := by decide +kernel
theorem dksX1_cost_1 : cX1_cost.data.toList.drop 24 = dktX1_cost_1 := dk_seg dksX1_cost_0 24 rfl rfl
theorem dX1_cost_0 : decode cX1_cost 0 = .ok (.sipush 1000, 3) := dk_17 3 232 (dk_at dksX1_cost_0 0 rfl rfl)
theorem dX1_cost_3 : decode cX1_cost 3 = .ok (.aload_n 0, 1) := dk_42 (dk_at dksX1_cost_0 3 rfl rfl)
theorem dX1_cost_4 : decode cX1_cost 4 = .ok (.iload_n 1, 1) := dk_27 (dk_at dksX1_cost_0 4 rfl rfl)
theorem dX1_cost_5 : decode cX1_cost 5 = .ok (.iload_n 2, 1) := dk_28 (dk_at dksX1_cost_0 5 rfl rfl)
theorem dX1_cost_6 : decode cX1_cost 6 = .ok (.invokevirtual 69, 3) := dk_182 0 69 (dk_at dksX1_cost_0 6 rfl rfl)
theorem dX1_cost_9 : decode cX1_cost 9 = .ok (.imul, 1) := dk_104 (dk_at dksX1_cost_0 9 rfl rfl)
theorem dX1_cost_10 : decode cX1_cost 10 = .ok (.aload_n 0, 1) := dk_42 (dk_at dksX1_cost_0 10 rfl rfl)
theorem dX1_cost_11 : decode cX1_cost 11 = .ok (.getfield 3, 3) := dk_180 0 3 (dk_at dksX1_cost_0 11 rfl rfl)
theorem dX1_cost_14 : decode cX1_cost 14 = .ok (.getfield 53, 3) := dk_180 0 53 (dk_at dksX1_cost_0 14 rfl rfl)
theorem dX1_cost_17 : decode cX1_cost 17 = .ok (.iload_n 2, 1) := dk_28 (dk_at dksX1_cost_0 17 rfl rfl)
theorem dX1_cost_18 : decode cX1_cost 18 = .ok (.invokevirtual 57, 3) := dk_182 0 57 (dk_at dksX1_cost_0 18 rfl rfl)
theorem dX1_cost_21 : decode cX1_cost 21 = .ok (.checkcast 63, 3) := dk_192 0 63 (dk_at dksX1_cost_0 21 rfl rfl)
theorem dX1_cost_24 : decode cX1_cost 24 = .ok (.getfield 72, 3) := dk_180 0 72 (dk_at dksX1_cost_1 0 rfl rfl)
theorem dX1_cost_27 : decode cX1_cost 27 = .ok (.iadd, 1) := dk_96 (dk_at dksX1_cost_1 3 rfl rfl)
theorem dX1_cost_28 : decode cX1_cost 28 = .ok (.ireturn, 1) := dk_172 (dk_at dksX1_cost_1 4 rfl rfl)
abbrev cX1_hurts : ByteArray := prog_7_method_4_code
def yX1_hurts : MethodName := ⟨RX1, "hurts", "(II)I"⟩
def dkwX1_hurts_1 : List UInt8 := [42, 180, 0, 19, 16, 9, 27, 104, 28, 96, 46, 182, 0, 65, 172]
abbrev dktX1_hurts_1 : List UInt8 := dkwX1_hurts_1 ++ []
def dkwX1_hurts_0 : List UInt8 := [42, 180, 0, 3, 180, 0, 53, 28, 182, 0, 57, 192, 0, 63, 42, 180, 0, 15, 27, 46, 42, 180, 0, 49]
abbrev dktX1_hurts_0 : List UInt8 := dkwX1_hurts_0 ++ dktX1_hurts_1
theorem dksX1_hurts_0 : cX1_hurts.data.toList.drop 0 = dktX1_hurts_0 := by decide +kernel
theorem dksX1_hurts_1 : cX1_hurts.data.toList.drop 24 = dktX1_hurts_1 := dk_seg dksX1_hurts_0 24 rfl rfl
theorem dX1_hurts_0 : decode cX1_hurts 0 = .ok (.aload_n 0, 1) := dk_42 (dk_at dksX1_hurts_0 0 rfl rfl)
theorem dX1_hurts_1 : decode cX1_hurts 1 = .ok (.getfield 3, 3) := dk_180 0 3 (dk_at dksX1_hurts_0 1 rfl rfl)
theorem dX1_hurts_4 : decode cX1_hurts 4 = .ok (.getfield 53, 3) := dk_180 0 53 (dk_at dksX1_hurts_0 4 rfl rfl)
theorem dX1_hurts_7 : decode cX1_hurts 7 = .ok (.iload_n 2, 1) := dk_28 (dk_at dksX1_hurts_0 7 rfl rfl)
theorem dX1_hurts_8 : decode cX1_hurts 8 = .ok (.invokevirtual 57, 3) := dk_182 0 57 (dk_at dksX1_hurts_0 8 rfl rfl)
theorem dX1_hurts_11 : decode cX1_hurts 11 = .ok (.checkcast 63, 3) := dk_192 0 63 (dk_at dksX1_hurts_0 11 rfl rfl)
theorem dX1_hurts_14 : decode cX1_hurts 14 = .ok (.aload_n 0, 1) := dk_42 (dk_at dksX1_hurts_0 14 rfl rfl)
theorem dX1_hurts_15 : decode cX1_hurts 15 = .ok (.getfield 15, 3) := dk_180 0 15 (dk_at dksX1_hurts_0 15 rfl rfl)
theorem dX1_hurts_18 : decode cX1_hurts 18 = .ok (.iload_n 1, 1) := dk_27 (dk_at dksX1_hurts_0 18 rfl rfl)
theorem dX1_hurts_19 : decode cX1_hurts 19 = .ok (.iaload, 1) := dk_46 (dk_at dksX1_hurts_0 19 rfl rfl)
theorem dX1_hurts_20 : decode cX1_hurts 20 = .ok (.aload_n 0, 1) := dk_42 (dk_at dksX1_hurts_0 20 rfl rfl)
theorem dX1_hurts_21 : decode cX1_hurts 21 = .ok (.getfield 49, 3) := dk_180 0 49 (dk_at dksX1_hurts_0 21 rfl rfl)
theorem dX1_hurts_24 : decode cX1_hurts 24 = .ok (.aload_n 0, 1) := dk_42 (dk_at dksX1_hurts_1 0 rfl rfl)
theorem dX1_hurts_25 : decode cX1_hurts 25 = .ok (.getfield 19, 3) := dk_180 0 19 (dk_at dksX1_hurts_1 1 rfl rfl)
theorem dX1_hurts_28 : decode cX1_hurts 28 = .ok (.bipush 9, 2) := dk_16 9 (dk_at dksX1_hurts_1 4 rfl rfl)
theorem dX1_hurts_30 : decode cX1_hurts 30 = .ok (.iload_n 1, 1) := dk_27 (dk_at dksX1_hurts_1 6 rfl rfl)
theorem dX1_hurts_31 : decode cX1_hurts 31 = .ok (.imul, 1) := dk_104 (dk_at dksX1_hurts_1 7 rfl rfl)
theorem dX1_hurts_32 : decode cX1_hurts 32 = .ok (.iload_n 2, 1) := dk_28 (dk_at dksX1_hurts_1 8 rfl rfl)
theorem dX1_hurts_33 : decode cX1_hurts 33 = .ok (.iadd, 1) := dk_96 (dk_at dksX1_hurts_1 9 rfl rfl)
theorem dX1_hurts_34 : decode cX1_hurts 34 = .ok (.iaload, 1) := dk_46 (dk_at dksX1_hurts_1 10 rfl rfl)
theorem dX1_hurts_35 : decode cX1_hurts 35 = .ok (.invokevirtual 65, 3) := dk_182 0 65 (dk_at dksX1_hurts_1 11 rfl rfl)
theorem dX1_hurts_38 : decode cX1_hurts 38 = .ok (.ireturn, 1) := dk_172 (dk_at dksX1_hurts_1 14 rfl rfl)
abbrev cX1_shortens : ByteArray := prog_7_method_6_code
def yX1_shortens : MethodName := ⟨RX1, "shortens", "(II)Z"⟩
def dkwX1_shortens_1 : List UInt8 := [180, 0, 43, 27, 46, 28, 184, 0, 75, 79, 29, 172]
abbrev dktX1_shortens_1 : List UInt8 := dkwX1_shortens_1 ++ []
def dkwX1_shortens_0 : List UInt8 := [28, 42, 180, 0, 43, 27, 46, 162, 0, 7, 4, 167, 0, 4, 3, 62, 42, 180, 0, 43, 27, 42]
abbrev dktX1_shortens_0 : List UInt8 := dkwX1_shortens_0 ++ dktX1_shortens_1
theorem dksX1_shortens_0 : cX1_shortens.data.toList.drop 0 = dktX1_shortens_0 := by decide +kernel
theorem dksX1_shortens_1 : cX1_shortens.data.toList.drop 22 = dktX1_shortens_1 := dk_seg dksX1_shortens_0 22 rfl rfl
theorem dX1_shortens_0 : decode cX1_shortens 0 = .ok (.iload_n 2, 1) := dk_28 (dk_at dksX1_shortens_0 0 rfl rfl)
theorem dX1_shortens_1 : decode cX1_shortens 1 = .ok (.aload_n 0, 1) := dk_42 (dk_at dksX1_shortens_0 1 rfl rfl)
theorem dX1_shortens_2 : decode cX1_shortens 2 = .ok (.getfield 43, 3) := dk_180 0 43 (dk_at dksX1_shortens_0 2 rfl rfl)
theorem dX1_shortens_5 : decode cX1_shortens 5 = .ok (.iload_n 1, 1) := dk_27 (dk_at dksX1_shortens_0 5 rfl rfl)
theorem dX1_shortens_6 : decode cX1_shortens 6 = .ok (.iaload, 1) := dk_46 (dk_at dksX1_shortens_0 6 rfl rfl)
theorem dX1_shortens_7 : decode cX1_shortens 7 = .ok (.if_icmp .ge 7, 3) := dk_162 0 7 (dk_at dksX1_shortens_0 7 rfl rfl)
theorem dX1_shortens_10 : decode cX1_shortens 10 = .ok (.iconst 1, 1) := dk_4 (dk_at dksX1_shortens_0 10 rfl rfl)
theorem dX1_shortens_11 : decode cX1_shortens 11 = .ok (.goto 4, 3) := dk_167 0 4 (dk_at dksX1_shortens_0 11 rfl rfl)
theorem dX1_shortens_14 : decode cX1_shortens 14 = .ok (.iconst 0, 1) := dk_3 (dk_at dksX1_shortens_0 14 rfl rfl)
theorem dX1_shortens_15 : decode cX1_shortens 15 = .ok (.istore_n 3, 1) := dk_62 (dk_at dksX1_shortens_0 15 rfl rfl)
theorem dX1_shortens_16 : decode cX1_shortens 16 = .ok (.aload_n 0, 1) := dk_42 (dk_at dksX1_shortens_0 16 rfl rfl)
theorem dX1_shortens_17 : decode cX1_shortens 17 = .ok (.getfield 43, 3) := dk_180 0 43 (dk_at dksX1_shortens_0 17 rfl rfl)
theorem dX1_shortens_20 : decode cX1_shortens 20 = .ok (.iload_n 1, 1) := dk_27 (dk_at dksX1_shortens_0 20 rfl rfl)
theorem dX1_shortens_21 : decode cX1_shortens 21 = .ok (.aload_n 0, 1) := dk_42 (dk_at dksX1_shortens_0 21 rfl rfl)
theorem dX1_shortens_22 : decode cX1_shortens 22 = .ok (.getfield 43, 3) := dk_180 0 43 (dk_at dksX1_shortens_1 0 rfl rfl)
theorem dX1_shortens_25 : decode cX1_shortens 25 = .ok (.iload_n 1, 1) := dk_27 (dk_at dksX1_shortens_1 3 rfl rfl)
theorem dX1_shortens_26 : decode cX1_shortens 26 = .ok (.iaload, 1) := dk_46 (dk_at dksX1_shortens_1 4 rfl rfl)
theorem dX1_shortens_27 : decode cX1_shortens 27 = .ok (.iload_n 2, 1) := dk_28 (dk_at dksX1_shortens_1 5 rfl rfl)
theorem dX1_shortens_28 : decode cX1_shortens 28 = .ok (.invokestatic 75, 3) := dk_184 0 75 (dk_at dksX1_shortens_1 6 rfl rfl)
theorem dX1_shortens_31 : decode cX1_shortens 31 = .ok (.iastore, 1) := dk_79 (dk_at dksX1_shortens_1 9 rfl rfl)
theorem dX1_shortens_32 : decode cX1_shortens 32 = .ok (.iload_n 3, 1) := dk_29 (dk_at dksX1_shortens_1 10 rfl rfl)
theorem dX1_shortens_33 : decode cX1_shortens 33 = .ok (.ireturn, 1) := dk_172 (dk_at dksX1_shortens_1 11 rfl rfl)
abbrev cX1_stepFrom : ByteArray := prog_7_method_8_code
def yX1_stepFrom : MethodName := ⟨RX1, "stepFrom", "(III)I"⟩
def dkwX1_stepFrom_3 : List UInt8 := [28, 46, 159, 0, 9, 132, 4, 1, 167, 255, 181, 21, 4, 172]
abbrev dktX1_stepFrom_3 : List UInt8 := dkwX1_stepFrom_3 ++ []
def dkwX1_stepFrom_2 : List UInt8 := [180, 0, 3, 180, 0, 53, 21, 4, 182, 0, 57, 192, 0, 63, 28, 182, 0, 105, 46, 96, 42, 180, 0, 43]
abbrev dktX1_stepFrom_2 : List UInt8 := dkwX1_stepFrom_2 ++ dktX1_stepFrom_3
def dkwX1_stepFrom_1 : List UInt8 := [192, 0, 63, 28, 182, 0, 101, 153, 0, 44, 42, 27, 21, 4, 182, 0, 89, 42, 180, 0, 43, 42]
abbrev dktX1_stepFrom_1 : List UInt8 := dkwX1_stepFrom_1 ++ dktX1_stepFrom_2
def dkwX1_stepFrom_0 : List UInt8 := [3, 54, 4, 29, 21, 4, 184, 0, 85, 153, 0, 66, 42, 180, 0, 3, 180, 0, 53, 21, 4, 182, 0, 57]
abbrev dktX1_stepFrom_0 : List UInt8 := dkwX1_stepFrom_0 ++ dktX1_stepFrom_1
theorem dksX1_stepFrom_0 : cX1_stepFrom.data.toList.drop 0 = dktX1_stepFrom_0 := by decide +kernel
theorem dksX1_stepFrom_1 : cX1_stepFrom.data.toList.drop 24 = dktX1_stepFrom_1 := dk_seg dksX1_stepFrom_0 24 rfl rfl
theorem dksX1_stepFrom_2 : cX1_stepFrom.data.toList.drop 46 = dktX1_stepFrom_2 := dk_seg dksX1_stepFrom_1 22 rfl rfl
theorem dksX1_stepFrom_3 : cX1_stepFrom.data.toList.drop 70 = dktX1_stepFrom_3 := dk_seg dksX1_stepFrom_2 24 rfl rfl
theorem dX1_stepFrom_0 : decode cX1_stepFrom 0 = .ok (.iconst 0, 1) := dk_3 (dk_at dksX1_stepFrom_0 0 rfl rfl)
theorem dX1_stepFrom_1 : decode cX1_stepFrom 1 = .ok (.istore 4, 2) := dk_54 4 (dk_at dksX1_stepFrom_0 1 rfl rfl)
theorem dX1_stepFrom_3 : decode cX1_stepFrom 3 = .ok (.iload_n 3, 1) := dk_29 (dk_at dksX1_stepFrom_0 3 rfl rfl)
theorem dX1_stepFrom_4 : decode cX1_stepFrom 4 = .ok (.iload 4, 2) := dk_21 4 (dk_at dksX1_stepFrom_0 4 rfl rfl)
theorem dX1_stepFrom_6 : decode cX1_stepFrom 6 = .ok (.invokestatic 85, 3) := dk_184 0 85 (dk_at dksX1_stepFrom_0 6 rfl rfl)
theorem dX1_stepFrom_9 : decode cX1_stepFrom 9 = .ok (.ifCond .eq 66, 3) := dk_153 0 66 (dk_at dksX1_stepFrom_0 9 rfl rfl)
theorem dX1_stepFrom_12 : decode cX1_stepFrom 12 = .ok (.aload_n 0, 1) := dk_42 (dk_at dksX1_stepFrom_0 12 rfl rfl)
theorem dX1_stepFrom_13 : decode cX1_stepFrom 13 = .ok (.getfield 3, 3) := dk_180 0 3 (dk_at dksX1_stepFrom_0 13 rfl rfl)
theorem dX1_stepFrom_16 : decode cX1_stepFrom 16 = .ok (.getfield 53, 3) := dk_180 0 53 (dk_at dksX1_stepFrom_0 16 rfl rfl)
theorem dX1_stepFrom_19 : decode cX1_stepFrom 19 = .ok (.iload 4, 2) := dk_21 4 (dk_at dksX1_stepFrom_0 19 rfl rfl)
theorem dX1_stepFrom_21 : decode cX1_stepFrom 21 = .ok (.invokevirtual 57, 3) := dk_182 0 57 (dk_at dksX1_stepFrom_0 21 rfl rfl)
theorem dX1_stepFrom_24 : decode cX1_stepFrom 24 = .ok (.checkcast 63, 3) := dk_192 0 63 (dk_at dksX1_stepFrom_1 0 rfl rfl)
theorem dX1_stepFrom_27 : decode cX1_stepFrom 27 = .ok (.iload_n 2, 1) := dk_28 (dk_at dksX1_stepFrom_1 3 rfl rfl)
theorem dX1_stepFrom_28 : decode cX1_stepFrom 28 = .ok (.invokevirtual 101, 3) := dk_182 0 101 (dk_at dksX1_stepFrom_1 4 rfl rfl)
theorem dX1_stepFrom_31 : decode cX1_stepFrom 31 = .ok (.ifCond .eq 44, 3) := dk_153 0 44 (dk_at dksX1_stepFrom_1 7 rfl rfl)
theorem dX1_stepFrom_34 : decode cX1_stepFrom 34 = .ok (.aload_n 0, 1) := dk_42 (dk_at dksX1_stepFrom_1 10 rfl rfl)
theorem dX1_stepFrom_35 : decode cX1_stepFrom 35 = .ok (.iload_n 1, 1) := dk_27 (dk_at dksX1_stepFrom_1 11 rfl rfl)
theorem dX1_stepFrom_36 : decode cX1_stepFrom 36 = .ok (.iload 4, 2) := dk_21 4 (dk_at dksX1_stepFrom_1 12 rfl rfl)
theorem dX1_stepFrom_38 : decode cX1_stepFrom 38 = .ok (.invokevirtual 89, 3) := dk_182 0 89 (dk_at dksX1_stepFrom_1 14 rfl rfl)
theorem dX1_stepFrom_41 : decode cX1_stepFrom 41 = .ok (.aload_n 0, 1) := dk_42 (dk_at dksX1_stepFrom_1 17 rfl rfl)
theorem dX1_stepFrom_42 : decode cX1_stepFrom 42 = .ok (.getfield 43, 3) := dk_180 0 43 (dk_at dksX1_stepFrom_1 18 rfl rfl)
theorem dX1_stepFrom_45 : decode cX1_stepFrom 45 = .ok (.aload_n 0, 1) := dk_42 (dk_at dksX1_stepFrom_1 21 rfl rfl)
theorem dX1_stepFrom_46 : decode cX1_stepFrom 46 = .ok (.getfield 3, 3) := dk_180 0 3 (dk_at dksX1_stepFrom_2 0 rfl rfl)
theorem dX1_stepFrom_49 : decode cX1_stepFrom 49 = .ok (.getfield 53, 3) := dk_180 0 53 (dk_at dksX1_stepFrom_2 3 rfl rfl)
theorem dX1_stepFrom_52 : decode cX1_stepFrom 52 = .ok (.iload 4, 2) := dk_21 4 (dk_at dksX1_stepFrom_2 6 rfl rfl)
theorem dX1_stepFrom_54 : decode cX1_stepFrom 54 = .ok (.invokevirtual 57, 3) := dk_182 0 57 (dk_at dksX1_stepFrom_2 8 rfl rfl)
theorem dX1_stepFrom_57 : decode cX1_stepFrom 57 = .ok (.checkcast 63, 3) := dk_192 0 63 (dk_at dksX1_stepFrom_2 11 rfl rfl)
theorem dX1_stepFrom_60 : decode cX1_stepFrom 60 = .ok (.iload_n 2, 1) := dk_28 (dk_at dksX1_stepFrom_2 14 rfl rfl)
theorem dX1_stepFrom_61 : decode cX1_stepFrom 61 = .ok (.invokevirtual 105, 3) := dk_182 0 105 (dk_at dksX1_stepFrom_2 15 rfl rfl)
theorem dX1_stepFrom_64 : decode cX1_stepFrom 64 = .ok (.iaload, 1) := dk_46 (dk_at dksX1_stepFrom_2 18 rfl rfl)
theorem dX1_stepFrom_65 : decode cX1_stepFrom 65 = .ok (.iadd, 1) := dk_96 (dk_at dksX1_stepFrom_2 19 rfl rfl)
theorem dX1_stepFrom_66 : decode cX1_stepFrom 66 = .ok (.aload_n 0, 1) := dk_42 (dk_at dksX1_stepFrom_2 20 rfl rfl)
theorem dX1_stepFrom_67 : decode cX1_stepFrom 67 = .ok (.getfield 43, 3) := dk_180 0 43 (dk_at dksX1_stepFrom_2 21 rfl rfl)
theorem dX1_stepFrom_70 : decode cX1_stepFrom 70 = .ok (.iload_n 2, 1) := dk_28 (dk_at dksX1_stepFrom_3 0 rfl rfl)
theorem dX1_stepFrom_71 : decode cX1_stepFrom 71 = .ok (.iaload, 1) := dk_46 (dk_at dksX1_stepFrom_3 1 rfl rfl)
theorem dX1_stepFrom_72 : decode cX1_stepFrom 72 = .ok (.if_icmp .eq 9, 3) := dk_159 0 9 (dk_at dksX1_stepFrom_3 2 rfl rfl)
theorem dX1_stepFrom_75 : decode cX1_stepFrom 75 = .ok (.iinc 4 1, 3) := dk_132 4 1 (dk_at dksX1_stepFrom_3 5 rfl rfl)
theorem dX1_stepFrom_78 : decode cX1_stepFrom 78 = .ok (.goto (-75), 3) := dk_167 255 181 (dk_at dksX1_stepFrom_3 8 rfl rfl)
theorem dX1_stepFrom_81 : decode cX1_stepFrom 81 = .ok (.iload 4, 2) := dk_21 4 (dk_at dksX1_stepFrom_3 11 rfl rfl)
theorem dX1_stepFrom_83 : decode cX1_stepFrom 83 = .ok (.ireturn, 1) := dk_172 (dk_at dksX1_stepFrom_3 13 rfl rfl)
abbrev cX1_reach : ByteArray := prog_7_method_11_code
def yX1_reach : MethodName := ⟨RX1, "reach", "(II)I"⟩
def dkwX1_reach_5 : List UInt8 := [167, 255, 154, 132, 4, 1, 167, 255, 138, 29, 172]
abbrev dktX1_reach_5 : List UInt8 := dkwX1_reach_5 ++ []
def dkwX1_reach_4 : List UInt8 := [4, 25, 6, 180, 0, 92, 120, 4, 25, 6, 180, 0, 95, 120, 128, 167, 0, 4, 3, 128, 62, 132, 5, 1]
abbrev dktX1_reach_4 : List UInt8 := dkwX1_reach_4 ++ dktX1_reach_5
def dkwX1_reach_3 : List UInt8 := [25, 6, 180, 0, 95, 184, 0, 85, 153, 0, 7, 4, 167, 0, 4, 3, 54, 7, 29, 21, 7, 153, 0, 21]
abbrev dktX1_reach_3 : List UInt8 := dkwX1_reach_3 ++ dktX1_reach_4
def dkwX1_reach_2 : List UInt8 := [58, 6, 28, 21, 5, 184, 0, 85, 153, 0, 31, 29, 25, 6, 180, 0, 92, 184, 0, 85, 154, 0, 15, 29]
abbrev dktX1_reach_2 : List UInt8 := dkwX1_reach_2 ++ dktX1_reach_3
def dkwX1_reach_1 : List UInt8 := [180, 0, 53, 182, 0, 81, 162, 0, 93, 42, 180, 0, 3, 180, 0, 53, 21, 5, 182, 0, 57, 192, 0, 63]
abbrev dktX1_reach_1 : List UInt8 := dkwX1_reach_1 ++ dktX1_reach_2
def dkwX1_reach_0 : List UInt8 := [4, 27, 120, 62, 3, 54, 4, 21, 4, 16, 8, 162, 0, 117, 3, 54, 5, 21, 5, 42, 180, 0, 3]
abbrev dktX1_reach_0 : List UInt8 := dkwX1_reach_0 ++ dktX1_reach_1
theorem dksX1_reach_0 : cX1_reach.data.toList.drop 0 = dktX1_reach_0 := by decide +kernel
theorem dksX1_reach_1 : cX1_reach.data.toList.drop 23 = dktX1_reach_1 := dk_seg dksX1_reach_0 23 rfl rfl
theorem dksX1_reach_2 : cX1_reach.data.toList.drop 47 = dktX1_reach_2 := dk_seg dksX1_reach_1 24 rfl rfl
theorem dksX1_reach_3 : cX1_reach.data.toList.drop 71 = dktX1_reach_3 := dk_seg dksX1_reach_2 24 rfl rfl
theorem dksX1_reach_4 : cX1_reach.data.toList.drop 95 = dktX1_reach_4 := dk_seg dksX1_reach_3 24 rfl rfl
theorem dksX1_reach_5 : cX1_reach.data.toList.drop 119 = dktX1_reach_5 := dk_seg dksX1_reach_4 24 rfl rfl
theorem dX1_reach_0 : decode cX1_reach 0 = .ok (.iconst 1, 1) := dk_4 (dk_at dksX1_reach_0 0 rfl rfl)
theorem dX1_reach_1 : decode cX1_reach 1 = .ok (.iload_n 1, 1) := dk_27 (dk_at dksX1_reach_0 1 rfl rfl)
theorem dX1_reach_2 : decode cX1_reach 2 = .ok (.ishl, 1) := dk_120 (dk_at dksX1_reach_0 2 rfl rfl)
theorem dX1_reach_3 : decode cX1_reach 3 = .ok (.istore_n 3, 1) := dk_62 (dk_at dksX1_reach_0 3 rfl rfl)
theorem dX1_reach_4 : decode cX1_reach 4 = .ok (.iconst 0, 1) := dk_3 (dk_at dksX1_reach_0 4 rfl rfl)
theorem dX1_reach_5 : decode cX1_reach 5 = .ok (.istore 4, 2) := dk_54 4 (dk_at dksX1_reach_0 5 rfl rfl)
theorem dX1_reach_7 : decode cX1_reach 7 = .ok (.iload 4, 2) := dk_21 4 (dk_at dksX1_reach_0 7 rfl rfl)
theorem dX1_reach_9 : decode cX1_reach 9 = .ok (.bipush 8, 2) := dk_16 8 (dk_at dksX1_reach_0 9 rfl rfl)
theorem dX1_reach_11 : decode cX1_reach 11 = .ok (.if_icmp .ge 117, 3) := dk_162 0 117 (dk_at dksX1_reach_0 11 rfl rfl)
theorem dX1_reach_14 : decode cX1_reach 14 = .ok (.iconst 0, 1) := dk_3 (dk_at dksX1_reach_0 14 rfl rfl)
theorem dX1_reach_15 : decode cX1_reach 15 = .ok (.istore 5, 2) := dk_54 5 (dk_at dksX1_reach_0 15 rfl rfl)
theorem dX1_reach_17 : decode cX1_reach 17 = .ok (.iload 5, 2) := dk_21 5 (dk_at dksX1_reach_0 17 rfl rfl)
theorem dX1_reach_19 : decode cX1_reach 19 = .ok (.aload_n 0, 1) := dk_42 (dk_at dksX1_reach_0 19 rfl rfl)
theorem dX1_reach_20 : decode cX1_reach 20 = .ok (.getfield 3, 3) := dk_180 0 3 (dk_at dksX1_reach_0 20 rfl rfl)
theorem dX1_reach_23 : decode cX1_reach 23 = .ok (.getfield 53, 3) := dk_180 0 53 (dk_at dksX1_reach_1 0 rfl rfl)
theorem dX1_reach_26 : decode cX1_reach 26 = .ok (.invokevirtual 81, 3) := dk_182 0 81 (dk_at dksX1_reach_1 3 rfl rfl)
theorem dX1_reach_29 : decode cX1_reach 29 = .ok (.if_icmp .ge 93, 3) := dk_162 0 93 (dk_at dksX1_reach_1 6 rfl rfl)
theorem dX1_reach_32 : decode cX1_reach 32 = .ok (.aload_n 0, 1) := dk_42 (dk_at dksX1_reach_1 9 rfl rfl)
theorem dX1_reach_33 : decode cX1_reach 33 = .ok (.getfield 3, 3) := dk_180 0 3 (dk_at dksX1_reach_1 10 rfl rfl)
theorem dX1_reach_36 : decode cX1_reach 36 = .ok (.getfield 53, 3) := dk_180 0 53 (dk_at dksX1_reach_1 13 rfl rfl)
theorem dX1_reach_39 : decode cX1_reach 39 = .ok (.iload 5, 2) := dk_21 5 (dk_at dksX1_reach_1 16 rfl rfl)
theorem dX1_reach_41 : decode cX1_reach 41 = .ok (.invokevirtual 57, 3) := dk_182 0 57 (dk_at dksX1_reach_1 18 rfl rfl)
theorem dX1_reach_44 : decode cX1_reach 44 = .ok (.checkcast 63, 3) := dk_192 0 63 (dk_at dksX1_reach_1 21 rfl rfl)
theorem dX1_reach_47 : decode cX1_reach 47 = .ok (.astore 6, 2) := dk_58 6 (dk_at dksX1_reach_2 0 rfl rfl)
theorem dX1_reach_49 : decode cX1_reach 49 = .ok (.iload_n 2, 1) := dk_28 (dk_at dksX1_reach_2 2 rfl rfl)
theorem dX1_reach_50 : decode cX1_reach 50 = .ok (.iload 5, 2) := dk_21 5 (dk_at dksX1_reach_2 3 rfl rfl)
theorem dX1_reach_52 : decode cX1_reach 52 = .ok (.invokestatic 85, 3) := dk_184 0 85 (dk_at dksX1_reach_2 5 rfl rfl)
theorem dX1_reach_55 : decode cX1_reach 55 = .ok (.ifCond .eq 31, 3) := dk_153 0 31 (dk_at dksX1_reach_2 8 rfl rfl)
theorem dX1_reach_58 : decode cX1_reach 58 = .ok (.iload_n 3, 1) := dk_29 (dk_at dksX1_reach_2 11 rfl rfl)
theorem dX1_reach_59 : decode cX1_reach 59 = .ok (.aload 6, 2) := dk_25 6 (dk_at dksX1_reach_2 12 rfl rfl)
theorem dX1_reach_61 : decode cX1_reach 61 = .ok (.getfield 92, 3) := dk_180 0 92 (dk_at dksX1_reach_2 14 rfl rfl)
theorem dX1_reach_64 : decode cX1_reach 64 = .ok (.invokestatic 85, 3) := dk_184 0 85 (dk_at dksX1_reach_2 17 rfl rfl)
theorem dX1_reach_67 : decode cX1_reach 67 = .ok (.ifCond .ne 15, 3) := dk_154 0 15 (dk_at dksX1_reach_2 20 rfl rfl)
theorem dX1_reach_70 : decode cX1_reach 70 = .ok (.iload_n 3, 1) := dk_29 (dk_at dksX1_reach_2 23 rfl rfl)
theorem dX1_reach_71 : decode cX1_reach 71 = .ok (.aload 6, 2) := dk_25 6 (dk_at dksX1_reach_3 0 rfl rfl)
theorem dX1_reach_73 : decode cX1_reach 73 = .ok (.getfield 95, 3) := dk_180 0 95 (dk_at dksX1_reach_3 2 rfl rfl)
theorem dX1_reach_76 : decode cX1_reach 76 = .ok (.invokestatic 85, 3) := dk_184 0 85 (dk_at dksX1_reach_3 5 rfl rfl)
theorem dX1_reach_79 : decode cX1_reach 79 = .ok (.ifCond .eq 7, 3) := dk_153 0 7 (dk_at dksX1_reach_3 8 rfl rfl)
theorem dX1_reach_82 : decode cX1_reach 82 = .ok (.iconst 1, 1) := dk_4 (dk_at dksX1_reach_3 11 rfl rfl)
theorem dX1_reach_83 : decode cX1_reach 83 = .ok (.goto 4, 3) := dk_167 0 4 (dk_at dksX1_reach_3 12 rfl rfl)
theorem dX1_reach_86 : decode cX1_reach 86 = .ok (.iconst 0, 1) := dk_3 (dk_at dksX1_reach_3 15 rfl rfl)
theorem dX1_reach_87 : decode cX1_reach 87 = .ok (.istore 7, 2) := dk_54 7 (dk_at dksX1_reach_3 16 rfl rfl)
theorem dX1_reach_89 : decode cX1_reach 89 = .ok (.iload_n 3, 1) := dk_29 (dk_at dksX1_reach_3 18 rfl rfl)
theorem dX1_reach_90 : decode cX1_reach 90 = .ok (.iload 7, 2) := dk_21 7 (dk_at dksX1_reach_3 19 rfl rfl)
theorem dX1_reach_92 : decode cX1_reach 92 = .ok (.ifCond .eq 21, 3) := dk_153 0 21 (dk_at dksX1_reach_3 21 rfl rfl)
theorem dX1_reach_95 : decode cX1_reach 95 = .ok (.iconst 1, 1) := dk_4 (dk_at dksX1_reach_4 0 rfl rfl)
theorem dX1_reach_96 : decode cX1_reach 96 = .ok (.aload 6, 2) := dk_25 6 (dk_at dksX1_reach_4 1 rfl rfl)
theorem dX1_reach_98 : decode cX1_reach 98 = .ok (.getfield 92, 3) := dk_180 0 92 (dk_at dksX1_reach_4 3 rfl rfl)
theorem dX1_reach_101 : decode cX1_reach 101 = .ok (.ishl, 1) := dk_120 (dk_at dksX1_reach_4 6 rfl rfl)
theorem dX1_reach_102 : decode cX1_reach 102 = .ok (.iconst 1, 1) := dk_4 (dk_at dksX1_reach_4 7 rfl rfl)
theorem dX1_reach_103 : decode cX1_reach 103 = .ok (.aload 6, 2) := dk_25 6 (dk_at dksX1_reach_4 8 rfl rfl)
theorem dX1_reach_105 : decode cX1_reach 105 = .ok (.getfield 95, 3) := dk_180 0 95 (dk_at dksX1_reach_4 10 rfl rfl)
theorem dX1_reach_108 : decode cX1_reach 108 = .ok (.ishl, 1) := dk_120 (dk_at dksX1_reach_4 13 rfl rfl)
theorem dX1_reach_109 : decode cX1_reach 109 = .ok (.ior, 1) := dk_128 (dk_at dksX1_reach_4 14 rfl rfl)
theorem dX1_reach_110 : decode cX1_reach 110 = .ok (.goto 4, 3) := dk_167 0 4 (dk_at dksX1_reach_4 15 rfl rfl)
theorem dX1_reach_113 : decode cX1_reach 113 = .ok (.iconst 0, 1) := dk_3 (dk_at dksX1_reach_4 18 rfl rfl)
theorem dX1_reach_114 : decode cX1_reach 114 = .ok (.ior, 1) := dk_128 (dk_at dksX1_reach_4 19 rfl rfl)
theorem dX1_reach_115 : decode cX1_reach 115 = .ok (.istore_n 3, 1) := dk_62 (dk_at dksX1_reach_4 20 rfl rfl)
theorem dX1_reach_116 : decode cX1_reach 116 = .ok (.iinc 5 1, 3) := dk_132 5 1 (dk_at dksX1_reach_4 21 rfl rfl)
theorem dX1_reach_119 : decode cX1_reach 119 = .ok (.goto (-102), 3) := dk_167 255 154 (dk_at dksX1_reach_5 0 rfl rfl)
theorem dX1_reach_122 : decode cX1_reach 122 = .ok (.iinc 4 1, 3) := dk_132 4 1 (dk_at dksX1_reach_5 3 rfl rfl)
theorem dX1_reach_125 : decode cX1_reach 125 = .ok (.goto (-118), 3) := dk_167 255 138 (dk_at dksX1_reach_5 6 rfl rfl)
theorem dX1_reach_128 : decode cX1_reach 128 = .ok (.iload_n 3, 1) := dk_29 (dk_at dksX1_reach_5 9 rfl rfl)
theorem dX1_reach_129 : decode cX1_reach 129 = .ok (.ireturn, 1) := dk_172 (dk_at dksX1_reach_5 10 rfl rfl)
abbrev cX1_take : ByteArray := prog_7_method_10_code
def yX1_take : MethodName := ⟨RX1, "take", "(I)V"⟩
def dkwX1_take_1 : List UInt8 := [96, 92, 46, 4, 96, 79, 132, 2, 1, 167, 255, 225, 177]
abbrev dktX1_take_1 : List UInt8 := dkwX1_take_1 ++ []
def dkwX1_take_0 : List UInt8 := [3, 61, 28, 42, 180, 0, 113, 162, 0, 29, 42, 180, 0, 19, 16, 9, 27, 104, 42, 180, 0, 46, 28, 46]
abbrev dktX1_take_0 : List UInt8 := dkwX1_take_0 ++ dktX1_take_1
theorem dksX1_take_0 : cX1_take.data.toList.drop 0 = dktX1_take_0 := by decide +kernel
theorem dksX1_take_1 : cX1_take.data.toList.drop 24 = dktX1_take_1 := dk_seg dksX1_take_0 24 rfl rfl
theorem dX1_take_0 : decode cX1_take 0 = .ok (.iconst 0, 1) := dk_3 (dk_at dksX1_take_0 0 rfl rfl)
theorem dX1_take_1 : decode cX1_take 1 = .ok (.istore_n 2, 1) := dk_61 (dk_at dksX1_take_0 1 rfl rfl)
theorem dX1_take_2 : decode cX1_take 2 = .ok (.iload_n 2, 1) := dk_28 (dk_at dksX1_take_0 2 rfl rfl)
theorem dX1_take_3 : decode cX1_take 3 = .ok (.aload_n 0, 1) := dk_42 (dk_at dksX1_take_0 3 rfl rfl)
theorem dX1_take_4 : decode cX1_take 4 = .ok (.getfield 113, 3) := dk_180 0 113 (dk_at dksX1_take_0 4 rfl rfl)
theorem dX1_take_7 : decode cX1_take 7 = .ok (.if_icmp .ge 29, 3) := dk_162 0 29 (dk_at dksX1_take_0 7 rfl rfl)
theorem dX1_take_10 : decode cX1_take 10 = .ok (.aload_n 0, 1) := dk_42 (dk_at dksX1_take_0 10 rfl rfl)
theorem dX1_take_11 : decode cX1_take 11 = .ok (.getfield 19, 3) := dk_180 0 19 (dk_at dksX1_take_0 11 rfl rfl)
theorem dX1_take_14 : decode cX1_take 14 = .ok (.bipush 9, 2) := dk_16 9 (dk_at dksX1_take_0 14 rfl rfl)
theorem dX1_take_16 : decode cX1_take 16 = .ok (.iload_n 1, 1) := dk_27 (dk_at dksX1_take_0 16 rfl rfl)
theorem dX1_take_17 : decode cX1_take 17 = .ok (.imul, 1) := dk_104 (dk_at dksX1_take_0 17 rfl rfl)
theorem dX1_take_18 : decode cX1_take 18 = .ok (.aload_n 0, 1) := dk_42 (dk_at dksX1_take_0 18 rfl rfl)
theorem dX1_take_19 : decode cX1_take 19 = .ok (.getfield 46, 3) := dk_180 0 46 (dk_at dksX1_take_0 19 rfl rfl)
theorem dX1_take_22 : decode cX1_take 22 = .ok (.iload_n 2, 1) := dk_28 (dk_at dksX1_take_0 22 rfl rfl)
theorem dX1_take_23 : decode cX1_take 23 = .ok (.iaload, 1) := dk_46 (dk_at dksX1_take_0 23 rfl rfl)
theorem dX1_take_24 : decode cX1_take 24 = .ok (.iadd, 1) := dk_96 (dk_at dksX1_take_1 0 rfl rfl)
theorem dX1_take_25 : decode cX1_take 25 = .ok (.dup2, 1) := dk_92 (dk_at dksX1_take_1 1 rfl rfl)
theorem dX1_take_26 : decode cX1_take 26 = .ok (.iaload, 1) := dk_46 (dk_at dksX1_take_1 2 rfl rfl)
theorem dX1_take_27 : decode cX1_take 27 = .ok (.iconst 1, 1) := dk_4 (dk_at dksX1_take_1 3 rfl rfl)
theorem dX1_take_28 : decode cX1_take 28 = .ok (.iadd, 1) := dk_96 (dk_at dksX1_take_1 4 rfl rfl)
theorem dX1_take_29 : decode cX1_take 29 = .ok (.iastore, 1) := dk_79 (dk_at dksX1_take_1 5 rfl rfl)
theorem dX1_take_30 : decode cX1_take 30 = .ok (.iinc 2 1, 3) := dk_132 2 1 (dk_at dksX1_take_1 6 rfl rfl)
theorem dX1_take_33 : decode cX1_take 33 = .ok (.goto (-31), 3) := dk_167 255 225 (dk_at dksX1_take_1 9 rfl rfl)
theorem dX1_take_36 : decode cX1_take 36 = .ok (.return_, 1) := dk_177 (dk_at dksX1_take_1 12 rfl rfl)
abbrev cX1_become : ByteArray := prog_7_method_3_code
def yX1_become : MethodName := ⟨RX1, "become", "(LHurtStreets$State;)V"⟩
def dkwX1_become_6 : List UInt8 := [79, 132, 2, 1, 167, 255, 212, 42, 43, 180, 0, 49, 181, 0, 49, 177]
abbrev dktX1_become_6 : List UInt8 := dkwX1_become_6 ++ []
def dkwX1_become_5 : List UInt8 := [79, 42, 180, 0, 37, 28, 43, 180, 0, 37, 28, 46, 79, 42, 180, 0, 40, 28, 43, 180, 0, 40, 28, 46]
abbrev dktX1_become_5 : List UInt8 := dkwX1_become_5 ++ dktX1_become_6
def dkwX1_become_4 : List UInt8 := [132, 2, 1, 167, 255, 188, 3, 61, 28, 5, 162, 0, 45, 42, 180, 0, 34, 28, 43, 180, 0, 34, 28, 46]
abbrev dktX1_become_4 : List UInt8 := dkwX1_become_4 ++ dktX1_become_5
def dkwX1_become_3 : List UInt8 := [180, 0, 28, 28, 43, 180, 0, 28, 28, 46, 79, 42, 180, 0, 31, 28, 43, 180, 0, 31, 28, 46, 79]
abbrev dktX1_become_3 : List UInt8 := dkwX1_become_3 ++ dktX1_become_4
def dkwX1_become_2 : List UInt8 := [180, 0, 22, 28, 43, 180, 0, 22, 28, 46, 79, 42, 180, 0, 25, 28, 43, 180, 0, 25, 28, 46, 79, 42]
abbrev dktX1_become_2 : List UInt8 := dkwX1_become_2 ++ dktX1_become_3
def dkwX1_become_1 : List UInt8 := [167, 255, 235, 3, 61, 28, 6, 162, 0, 69, 42, 180, 0, 15, 28, 43, 180, 0, 15, 28, 46, 79, 42]
abbrev dktX1_become_1 : List UInt8 := dkwX1_become_1 ++ dktX1_become_2
def dkwX1_become_0 : List UInt8 := [3, 61, 28, 16, 27, 162, 0, 21, 42, 180, 0, 19, 28, 43, 180, 0, 19, 28, 46, 79, 132, 2, 1]
abbrev dktX1_become_0 : List UInt8 := dkwX1_become_0 ++ dktX1_become_1
theorem dksX1_become_0 : cX1_become.data.toList.drop 0 = dktX1_become_0 := by decide +kernel
theorem dksX1_become_1 : cX1_become.data.toList.drop 23 = dktX1_become_1 := dk_seg dksX1_become_0 23 rfl rfl
theorem dksX1_become_2 : cX1_become.data.toList.drop 46 = dktX1_become_2 := dk_seg dksX1_become_1 23 rfl rfl
theorem dksX1_become_3 : cX1_become.data.toList.drop 70 = dktX1_become_3 := dk_seg dksX1_become_2 24 rfl rfl
theorem dksX1_become_4 : cX1_become.data.toList.drop 93 = dktX1_become_4 := dk_seg dksX1_become_3 23 rfl rfl
theorem dksX1_become_5 : cX1_become.data.toList.drop 117 = dktX1_become_5 := dk_seg dksX1_become_4 24 rfl rfl
theorem dksX1_become_6 : cX1_become.data.toList.drop 141 = dktX1_become_6 := dk_seg dksX1_become_5 24 rfl rfl
theorem dX1_become_0 : decode cX1_become 0 = .ok (.iconst 0, 1) := dk_3 (dk_at dksX1_become_0 0 rfl rfl)
theorem dX1_become_1 : decode cX1_become 1 = .ok (.istore_n 2, 1) := dk_61 (dk_at dksX1_become_0 1 rfl rfl)
theorem dX1_become_2 : decode cX1_become 2 = .ok (.iload_n 2, 1) := dk_28 (dk_at dksX1_become_0 2 rfl rfl)
theorem dX1_become_3 : decode cX1_become 3 = .ok (.bipush 27, 2) := dk_16 27 (dk_at dksX1_become_0 3 rfl rfl)
theorem dX1_become_5 : decode cX1_become 5 = .ok (.if_icmp .ge 21, 3) := dk_162 0 21 (dk_at dksX1_become_0 5 rfl rfl)
theorem dX1_become_8 : decode cX1_become 8 = .ok (.aload_n 0, 1) := dk_42 (dk_at dksX1_become_0 8 rfl rfl)
theorem dX1_become_9 : decode cX1_become 9 = .ok (.getfield 19, 3) := dk_180 0 19 (dk_at dksX1_become_0 9 rfl rfl)
theorem dX1_become_12 : decode cX1_become 12 = .ok (.iload_n 2, 1) := dk_28 (dk_at dksX1_become_0 12 rfl rfl)
theorem dX1_become_13 : decode cX1_become 13 = .ok (.aload_n 1, 1) := dk_43 (dk_at dksX1_become_0 13 rfl rfl)
theorem dX1_become_14 : decode cX1_become 14 = .ok (.getfield 19, 3) := dk_180 0 19 (dk_at dksX1_become_0 14 rfl rfl)
theorem dX1_become_17 : decode cX1_become 17 = .ok (.iload_n 2, 1) := dk_28 (dk_at dksX1_become_0 17 rfl rfl)
theorem dX1_become_18 : decode cX1_become 18 = .ok (.iaload, 1) := dk_46 (dk_at dksX1_become_0 18 rfl rfl)
theorem dX1_become_19 : decode cX1_become 19 = .ok (.iastore, 1) := dk_79 (dk_at dksX1_become_0 19 rfl rfl)
theorem dX1_become_20 : decode cX1_become 20 = .ok (.iinc 2 1, 3) := dk_132 2 1 (dk_at dksX1_become_0 20 rfl rfl)
theorem dX1_become_23 : decode cX1_become 23 = .ok (.goto (-21), 3) := dk_167 255 235 (dk_at dksX1_become_1 0 rfl rfl)
theorem dX1_become_26 : decode cX1_become 26 = .ok (.iconst 0, 1) := dk_3 (dk_at dksX1_become_1 3 rfl rfl)
theorem dX1_become_27 : decode cX1_become 27 = .ok (.istore_n 2, 1) := dk_61 (dk_at dksX1_become_1 4 rfl rfl)
theorem dX1_become_28 : decode cX1_become 28 = .ok (.iload_n 2, 1) := dk_28 (dk_at dksX1_become_1 5 rfl rfl)
theorem dX1_become_29 : decode cX1_become 29 = .ok (.iconst 3, 1) := dk_6 (dk_at dksX1_become_1 6 rfl rfl)
theorem dX1_become_30 : decode cX1_become 30 = .ok (.if_icmp .ge 69, 3) := dk_162 0 69 (dk_at dksX1_become_1 7 rfl rfl)
theorem dX1_become_33 : decode cX1_become 33 = .ok (.aload_n 0, 1) := dk_42 (dk_at dksX1_become_1 10 rfl rfl)
theorem dX1_become_34 : decode cX1_become 34 = .ok (.getfield 15, 3) := dk_180 0 15 (dk_at dksX1_become_1 11 rfl rfl)
theorem dX1_become_37 : decode cX1_become 37 = .ok (.iload_n 2, 1) := dk_28 (dk_at dksX1_become_1 14 rfl rfl)
theorem dX1_become_38 : decode cX1_become 38 = .ok (.aload_n 1, 1) := dk_43 (dk_at dksX1_become_1 15 rfl rfl)
theorem dX1_become_39 : decode cX1_become 39 = .ok (.getfield 15, 3) := dk_180 0 15 (dk_at dksX1_become_1 16 rfl rfl)
theorem dX1_become_42 : decode cX1_become 42 = .ok (.iload_n 2, 1) := dk_28 (dk_at dksX1_become_1 19 rfl rfl)
theorem dX1_become_43 : decode cX1_become 43 = .ok (.iaload, 1) := dk_46 (dk_at dksX1_become_1 20 rfl rfl)
theorem dX1_become_44 : decode cX1_become 44 = .ok (.iastore, 1) := dk_79 (dk_at dksX1_become_1 21 rfl rfl)
theorem dX1_become_45 : decode cX1_become 45 = .ok (.aload_n 0, 1) := dk_42 (dk_at dksX1_become_1 22 rfl rfl)
theorem dX1_become_46 : decode cX1_become 46 = .ok (.getfield 22, 3) := dk_180 0 22 (dk_at dksX1_become_2 0 rfl rfl)
theorem dX1_become_49 : decode cX1_become 49 = .ok (.iload_n 2, 1) := dk_28 (dk_at dksX1_become_2 3 rfl rfl)
theorem dX1_become_50 : decode cX1_become 50 = .ok (.aload_n 1, 1) := dk_43 (dk_at dksX1_become_2 4 rfl rfl)
theorem dX1_become_51 : decode cX1_become 51 = .ok (.getfield 22, 3) := dk_180 0 22 (dk_at dksX1_become_2 5 rfl rfl)
theorem dX1_become_54 : decode cX1_become 54 = .ok (.iload_n 2, 1) := dk_28 (dk_at dksX1_become_2 8 rfl rfl)
theorem dX1_become_55 : decode cX1_become 55 = .ok (.iaload, 1) := dk_46 (dk_at dksX1_become_2 9 rfl rfl)
theorem dX1_become_56 : decode cX1_become 56 = .ok (.iastore, 1) := dk_79 (dk_at dksX1_become_2 10 rfl rfl)
theorem dX1_become_57 : decode cX1_become 57 = .ok (.aload_n 0, 1) := dk_42 (dk_at dksX1_become_2 11 rfl rfl)
theorem dX1_become_58 : decode cX1_become 58 = .ok (.getfield 25, 3) := dk_180 0 25 (dk_at dksX1_become_2 12 rfl rfl)
theorem dX1_become_61 : decode cX1_become 61 = .ok (.iload_n 2, 1) := dk_28 (dk_at dksX1_become_2 15 rfl rfl)
theorem dX1_become_62 : decode cX1_become 62 = .ok (.aload_n 1, 1) := dk_43 (dk_at dksX1_become_2 16 rfl rfl)
theorem dX1_become_63 : decode cX1_become 63 = .ok (.getfield 25, 3) := dk_180 0 25 (dk_at dksX1_become_2 17 rfl rfl)
theorem dX1_become_66 : decode cX1_become 66 = .ok (.iload_n 2, 1) := dk_28 (dk_at dksX1_become_2 20 rfl rfl)
theorem dX1_become_67 : decode cX1_become 67 = .ok (.iaload, 1) := dk_46 (dk_at dksX1_become_2 21 rfl rfl)
theorem dX1_become_68 : decode cX1_become 68 = .ok (.iastore, 1) := dk_79 (dk_at dksX1_become_2 22 rfl rfl)
theorem dX1_become_69 : decode cX1_become 69 = .ok (.aload_n 0, 1) := dk_42 (dk_at dksX1_become_2 23 rfl rfl)
theorem dX1_become_70 : decode cX1_become 70 = .ok (.getfield 28, 3) := dk_180 0 28 (dk_at dksX1_become_3 0 rfl rfl)
theorem dX1_become_73 : decode cX1_become 73 = .ok (.iload_n 2, 1) := dk_28 (dk_at dksX1_become_3 3 rfl rfl)
theorem dX1_become_74 : decode cX1_become 74 = .ok (.aload_n 1, 1) := dk_43 (dk_at dksX1_become_3 4 rfl rfl)
theorem dX1_become_75 : decode cX1_become 75 = .ok (.getfield 28, 3) := dk_180 0 28 (dk_at dksX1_become_3 5 rfl rfl)
theorem dX1_become_78 : decode cX1_become 78 = .ok (.iload_n 2, 1) := dk_28 (dk_at dksX1_become_3 8 rfl rfl)
theorem dX1_become_79 : decode cX1_become 79 = .ok (.iaload, 1) := dk_46 (dk_at dksX1_become_3 9 rfl rfl)
theorem dX1_become_80 : decode cX1_become 80 = .ok (.iastore, 1) := dk_79 (dk_at dksX1_become_3 10 rfl rfl)
theorem dX1_become_81 : decode cX1_become 81 = .ok (.aload_n 0, 1) := dk_42 (dk_at dksX1_become_3 11 rfl rfl)
theorem dX1_become_82 : decode cX1_become 82 = .ok (.getfield 31, 3) := dk_180 0 31 (dk_at dksX1_become_3 12 rfl rfl)
theorem dX1_become_85 : decode cX1_become 85 = .ok (.iload_n 2, 1) := dk_28 (dk_at dksX1_become_3 15 rfl rfl)
theorem dX1_become_86 : decode cX1_become 86 = .ok (.aload_n 1, 1) := dk_43 (dk_at dksX1_become_3 16 rfl rfl)
theorem dX1_become_87 : decode cX1_become 87 = .ok (.getfield 31, 3) := dk_180 0 31 (dk_at dksX1_become_3 17 rfl rfl)
theorem dX1_become_90 : decode cX1_become 90 = .ok (.iload_n 2, 1) := dk_28 (dk_at dksX1_become_3 20 rfl rfl)
theorem dX1_become_91 : decode cX1_become 91 = .ok (.iaload, 1) := dk_46 (dk_at dksX1_become_3 21 rfl rfl)
theorem dX1_become_92 : decode cX1_become 92 = .ok (.iastore, 1) := dk_79 (dk_at dksX1_become_3 22 rfl rfl)
theorem dX1_become_93 : decode cX1_become 93 = .ok (.iinc 2 1, 3) := dk_132 2 1 (dk_at dksX1_become_4 0 rfl rfl)
theorem dX1_become_96 : decode cX1_become 96 = .ok (.goto (-68), 3) := dk_167 255 188 (dk_at dksX1_become_4 3 rfl rfl)
theorem dX1_become_99 : decode cX1_become 99 = .ok (.iconst 0, 1) := dk_3 (dk_at dksX1_become_4 6 rfl rfl)
theorem dX1_become_100 : decode cX1_become 100 = .ok (.istore_n 2, 1) := dk_61 (dk_at dksX1_become_4 7 rfl rfl)
theorem dX1_become_101 : decode cX1_become 101 = .ok (.iload_n 2, 1) := dk_28 (dk_at dksX1_become_4 8 rfl rfl)
theorem dX1_become_102 : decode cX1_become 102 = .ok (.iconst 2, 1) := dk_5 (dk_at dksX1_become_4 9 rfl rfl)
theorem dX1_become_103 : decode cX1_become 103 = .ok (.if_icmp .ge 45, 3) := dk_162 0 45 (dk_at dksX1_become_4 10 rfl rfl)
theorem dX1_become_106 : decode cX1_become 106 = .ok (.aload_n 0, 1) := dk_42 (dk_at dksX1_become_4 13 rfl rfl)
theorem dX1_become_107 : decode cX1_become 107 = .ok (.getfield 34, 3) := dk_180 0 34 (dk_at dksX1_become_4 14 rfl rfl)
theorem dX1_become_110 : decode cX1_become 110 = .ok (.iload_n 2, 1) := dk_28 (dk_at dksX1_become_4 17 rfl rfl)
theorem dX1_become_111 : decode cX1_become 111 = .ok (.aload_n 1, 1) := dk_43 (dk_at dksX1_become_4 18 rfl rfl)
theorem dX1_become_112 : decode cX1_become 112 = .ok (.getfield 34, 3) := dk_180 0 34 (dk_at dksX1_become_4 19 rfl rfl)
theorem dX1_become_115 : decode cX1_become 115 = .ok (.iload_n 2, 1) := dk_28 (dk_at dksX1_become_4 22 rfl rfl)
theorem dX1_become_116 : decode cX1_become 116 = .ok (.iaload, 1) := dk_46 (dk_at dksX1_become_4 23 rfl rfl)
theorem dX1_become_117 : decode cX1_become 117 = .ok (.iastore, 1) := dk_79 (dk_at dksX1_become_5 0 rfl rfl)
theorem dX1_become_118 : decode cX1_become 118 = .ok (.aload_n 0, 1) := dk_42 (dk_at dksX1_become_5 1 rfl rfl)
theorem dX1_become_119 : decode cX1_become 119 = .ok (.getfield 37, 3) := dk_180 0 37 (dk_at dksX1_become_5 2 rfl rfl)
theorem dX1_become_122 : decode cX1_become 122 = .ok (.iload_n 2, 1) := dk_28 (dk_at dksX1_become_5 5 rfl rfl)
theorem dX1_become_123 : decode cX1_become 123 = .ok (.aload_n 1, 1) := dk_43 (dk_at dksX1_become_5 6 rfl rfl)
theorem dX1_become_124 : decode cX1_become 124 = .ok (.getfield 37, 3) := dk_180 0 37 (dk_at dksX1_become_5 7 rfl rfl)
theorem dX1_become_127 : decode cX1_become 127 = .ok (.iload_n 2, 1) := dk_28 (dk_at dksX1_become_5 10 rfl rfl)
theorem dX1_become_128 : decode cX1_become 128 = .ok (.iaload, 1) := dk_46 (dk_at dksX1_become_5 11 rfl rfl)
theorem dX1_become_129 : decode cX1_become 129 = .ok (.iastore, 1) := dk_79 (dk_at dksX1_become_5 12 rfl rfl)
theorem dX1_become_130 : decode cX1_become 130 = .ok (.aload_n 0, 1) := dk_42 (dk_at dksX1_become_5 13 rfl rfl)
theorem dX1_become_131 : decode cX1_become 131 = .ok (.getfield 40, 3) := dk_180 0 40 (dk_at dksX1_become_5 14 rfl rfl)
theorem dX1_become_134 : decode cX1_become 134 = .ok (.iload_n 2, 1) := dk_28 (dk_at dksX1_become_5 17 rfl rfl)
theorem dX1_become_135 : decode cX1_become 135 = .ok (.aload_n 1, 1) := dk_43 (dk_at dksX1_become_5 18 rfl rfl)
theorem dX1_become_136 : decode cX1_become 136 = .ok (.getfield 40, 3) := dk_180 0 40 (dk_at dksX1_become_5 19 rfl rfl)
theorem dX1_become_139 : decode cX1_become 139 = .ok (.iload_n 2, 1) := dk_28 (dk_at dksX1_become_5 22 rfl rfl)
theorem dX1_become_140 : decode cX1_become 140 = .ok (.iaload, 1) := dk_46 (dk_at dksX1_become_5 23 rfl rfl)
theorem dX1_become_141 : decode cX1_become 141 = .ok (.iastore, 1) := dk_79 (dk_at dksX1_become_6 0 rfl rfl)
theorem dX1_become_142 : decode cX1_become 142 = .ok (.iinc 2 1, 3) := dk_132 2 1 (dk_at dksX1_become_6 1 rfl rfl)
theorem dX1_become_145 : decode cX1_become 145 = .ok (.goto (-44), 3) := dk_167 255 212 (dk_at dksX1_become_6 4 rfl rfl)
theorem dX1_become_148 : decode cX1_become 148 = .ok (.aload_n 0, 1) := dk_42 (dk_at dksX1_become_6 7 rfl rfl)
theorem dX1_become_149 : decode cX1_become 149 = .ok (.aload_n 1, 1) := dk_43 (dk_at dksX1_become_6 8 rfl rfl)
theorem dX1_become_150 : decode cX1_become 150 = .ok (.getfield 49, 3) := dk_180 0 49 (dk_at dksX1_become_6 9 rfl rfl)
theorem dX1_become_153 : decode cX1_become 153 = .ok (.putfield 49, 3) := dk_181 0 49 (dk_at dksX1_become_6 12 rfl rfl)
theorem dX1_become_156 : decode cX1_become 156 = .ok (.return_, 1) := dk_177 (dk_at dksX1_become_6 15 rfl rfl)
theorem q96 : (Jvm.Cond.initialized "HurtStreets$State") ∈ lw_all := lw_g (lw_at lw_m1 5 rfl) rfl
theorem q149 : (Jvm.Cond.instantiable "HurtStreets$State" (16 : Nat)) ∈ lw_all := lw_g (lw_at lw_m1 58 rfl) rfl
theorem q151 : (Jvm.Cond.instanceMethod ({ cls := "HurtStreets$State", name := "<init>", desc := "(LHurtStreets;)V" } : Jvm.MethodName)) ∈ lw_all := lw_g (lw_at lw_m1 60 rfl) rfl
theorem q152 : (Jvm.Cond.code ({ cls := "HurtStreets$State", name := "<init>", desc := "(LHurtStreets;)V" } : Jvm.MethodName) prog_7_method_1_code (2 : Nat) (Option.none : Option Jvm.ClassFile.FieldType)) ∈ lw_all := lw_g (lw_at lw_m1 61 rfl) rfl
theorem q153 : (Jvm.Cond.methodLink "HurtStreets$State" (9 : Nat) ({ cls := "java/lang/Object", name := "<init>", desc := "()V" } : Jvm.MethodName)) ∈ lw_all := lw_g (lw_at lw_m1 62 rfl) rfl
theorem q154 : (Jvm.Cond.fieldLink "HurtStreets$State" (15 : Nat) "HurtStreets$State" "tender" "[I") ∈ lw_all := lw_g (lw_at lw_m1 63 rfl) rfl
theorem q156 : (Jvm.Cond.fieldLink "HurtStreets$State" (19 : Nat) "HurtStreets$State" "often" "[I") ∈ lw_all := lw_g (lw_at lw_m1 65 rfl) rfl
theorem q157 : (Jvm.Cond.fieldLink "HurtStreets$State" (22 : Nat) "HurtStreets$State" "taken" "[I") ∈ lw_all := lw_g (lw_at lw_m1 66 rfl) rfl
theorem q159 : (Jvm.Cond.fieldLink "HurtStreets$State" (25 : Nat) "HurtStreets$State" "hurt" "[I") ∈ lw_all := lw_g (lw_at lw_m1 68 rfl) rfl
theorem q161 : (Jvm.Cond.fieldLink "HurtStreets$State" (28 : Nat) "HurtStreets$State" "waitsAt" "[I") ∈ lw_all := lw_g (lw_at lw_m1 70 rfl) rfl
theorem q163 : (Jvm.Cond.fieldLink "HurtStreets$State" (31 : Nat) "HurtStreets$State" "waitsFor" "[I") ∈ lw_all := lw_g (lw_at lw_m1 72 rfl) rfl
theorem q165 : (Jvm.Cond.fieldLink "HurtStreets$State" (34 : Nat) "HurtStreets$State" "at" "[I") ∈ lw_all := lw_g (lw_at lw_m1 74 rfl) rfl
theorem q167 : (Jvm.Cond.fieldLink "HurtStreets$State" (37 : Nat) "HurtStreets$State" "knows" "[I") ∈ lw_all := lw_g (lw_at lw_m1 76 rfl) rfl
theorem q169 : (Jvm.Cond.fieldLink "HurtStreets$State" (40 : Nat) "HurtStreets$State" "made" "[I") ∈ lw_all := lw_g (lw_at lw_m1 78 rfl) rfl
theorem q171 : (Jvm.Cond.fieldLink "HurtStreets$State" (49 : Nat) "HurtStreets$State" "days" "I") ∈ lw_all := lw_g (lw_at lw_m1 80 rfl) rfl
theorem q173 : (Jvm.Cond.fieldLink "HurtStreets$State" (43 : Nat) "HurtStreets$State" "costTo" "[I") ∈ lw_all := lw_g (lw_at lw_m1 82 rfl) rfl
theorem q174 : (Jvm.Cond.fieldLink "HurtStreets$State" (46 : Nat) "HurtStreets$State" "row" "[I") ∈ lw_all := lw_g (lw_at lw_m1 83 rfl) rfl
theorem q176 : (Jvm.Cond.fieldLink "HurtStreets$State" (113 : Nat) "HurtStreets$State" "rowMany" "I") ∈ lw_all := lw_g (lw_at lw_m1 85 rfl) rfl
theorem q178 : (Jvm.Cond.fieldLink "HurtStreets$State" (116 : Nat) "HurtStreets$State" "rowHurts" "I") ∈ lw_all := lw_g (lw_at lw_m1 87 rfl) rfl
theorem q180 : (Jvm.Cond.fieldLink "HurtStreets$State" (119 : Nat) "HurtStreets$State" "rowLength" "I") ∈ lw_all := lw_g (lw_at lw_m1 89 rfl) rfl
theorem q182 : (Jvm.Cond.fieldLink "HurtStreets$State" (3 : Nat) "HurtStreets$State" "this$0" "LHurtStreets;") ∈ lw_all := lw_g (lw_at lw_m1 91 rfl) rfl
theorem q183 : (Jvm.Cond.laysFinal "HurtStreets$State" "HurtStreets$State" "tender" "[I") ∈ lw_all := lw_g (lw_at lw_m1 92 rfl) rfl
theorem q184 : (Jvm.Cond.soleField "HurtStreets$State" "tender") ∈ lw_all := lw_g (lw_at lw_m1 93 rfl) rfl
theorem q185 : (Jvm.Cond.laysFinal "HurtStreets$State" "HurtStreets$State" "often" "[I") ∈ lw_all := lw_g (lw_at lw_m1 94 rfl) rfl
theorem q186 : (Jvm.Cond.soleField "HurtStreets$State" "often") ∈ lw_all := lw_g (lw_at lw_m1 95 rfl) rfl
theorem q187 : (Jvm.Cond.laysFinal "HurtStreets$State" "HurtStreets$State" "taken" "[I") ∈ lw_all := lw_g (lw_at lw_m1 96 rfl) rfl
theorem q188 : (Jvm.Cond.soleField "HurtStreets$State" "taken") ∈ lw_all := lw_g (lw_at lw_m1 97 rfl) rfl
theorem q189 : (Jvm.Cond.laysFinal "HurtStreets$State" "HurtStreets$State" "hurt" "[I") ∈ lw_all := lw_g (lw_at lw_m1 98 rfl) rfl
theorem q190 : (Jvm.Cond.soleField "HurtStreets$State" "hurt") ∈ lw_all := lw_g (lw_at lw_m1 99 rfl) rfl
theorem q191 : (Jvm.Cond.laysFinal "HurtStreets$State" "HurtStreets$State" "waitsAt" "[I") ∈ lw_all := lw_g (lw_at lw_m1 100 rfl) rfl
theorem q192 : (Jvm.Cond.soleField "HurtStreets$State" "waitsAt") ∈ lw_all := lw_g (lw_at lw_m1 101 rfl) rfl
theorem q193 : (Jvm.Cond.laysFinal "HurtStreets$State" "HurtStreets$State" "waitsFor" "[I") ∈ lw_all := lw_g (lw_at lw_m1 102 rfl) rfl
theorem q194 : (Jvm.Cond.soleField "HurtStreets$State" "waitsFor") ∈ lw_all := lw_g (lw_at lw_m1 103 rfl) rfl
theorem q195 : (Jvm.Cond.laysFinal "HurtStreets$State" "HurtStreets$State" "at" "[I") ∈ lw_all := lw_g (lw_at lw_m1 104 rfl) rfl
theorem q196 : (Jvm.Cond.soleField "HurtStreets$State" "at") ∈ lw_all := lw_g (lw_at lw_m1 105 rfl) rfl
theorem q197 : (Jvm.Cond.laysFinal "HurtStreets$State" "HurtStreets$State" "knows" "[I") ∈ lw_all := lw_g (lw_at lw_m1 106 rfl) rfl
theorem q198 : (Jvm.Cond.soleField "HurtStreets$State" "knows") ∈ lw_all := lw_g (lw_at lw_m1 107 rfl) rfl
theorem q199 : (Jvm.Cond.laysFinal "HurtStreets$State" "HurtStreets$State" "made" "[I") ∈ lw_all := lw_g (lw_at lw_m1 108 rfl) rfl
theorem q200 : (Jvm.Cond.soleField "HurtStreets$State" "made") ∈ lw_all := lw_g (lw_at lw_m1 109 rfl) rfl
theorem q201 : (Jvm.Cond.lays "HurtStreets$State" "HurtStreets$State" "days" "I") ∈ lw_all := lw_g (lw_at lw_m1 110 rfl) rfl
theorem q202 : (Jvm.Cond.soleField "HurtStreets$State" "days") ∈ lw_all := lw_g (lw_at lw_m1 111 rfl) rfl
theorem q203 : (Jvm.Cond.laysFinal "HurtStreets$State" "HurtStreets$State" "costTo" "[I") ∈ lw_all := lw_g (lw_at lw_m1 112 rfl) rfl
theorem q204 : (Jvm.Cond.soleField "HurtStreets$State" "costTo") ∈ lw_all := lw_g (lw_at lw_m1 113 rfl) rfl
theorem q205 : (Jvm.Cond.laysFinal "HurtStreets$State" "HurtStreets$State" "row" "[I") ∈ lw_all := lw_g (lw_at lw_m1 114 rfl) rfl
theorem q206 : (Jvm.Cond.soleField "HurtStreets$State" "row") ∈ lw_all := lw_g (lw_at lw_m1 115 rfl) rfl
theorem q207 : (Jvm.Cond.lays "HurtStreets$State" "HurtStreets$State" "rowMany" "I") ∈ lw_all := lw_g (lw_at lw_m1 116 rfl) rfl
theorem q208 : (Jvm.Cond.soleField "HurtStreets$State" "rowMany") ∈ lw_all := lw_g (lw_at lw_m1 117 rfl) rfl
theorem q209 : (Jvm.Cond.lays "HurtStreets$State" "HurtStreets$State" "rowHurts" "I") ∈ lw_all := lw_g (lw_at lw_m1 118 rfl) rfl
theorem q210 : (Jvm.Cond.soleField "HurtStreets$State" "rowHurts") ∈ lw_all := lw_g (lw_at lw_m1 119 rfl) rfl
theorem q211 : (Jvm.Cond.lays "HurtStreets$State" "HurtStreets$State" "rowLength" "I") ∈ lw_all := lw_g (lw_at lw_m1 120 rfl) rfl
theorem q212 : (Jvm.Cond.soleField "HurtStreets$State" "rowLength") ∈ lw_all := lw_g (lw_at lw_m1 121 rfl) rfl
theorem q213 : (Jvm.Cond.laysFinal "HurtStreets$State" "HurtStreets$State" "this$0" "LHurtStreets;") ∈ lw_all := lw_g (lw_at lw_m1 122 rfl) rfl
theorem q214 : (Jvm.Cond.soleField "HurtStreets$State" "this$0") ∈ lw_all := lw_g (lw_at lw_m1 123 rfl) rfl
theorem q215 : (Jvm.Cond.superclass "HurtStreets$State" "java/lang/Object") ∈ lw_all := lw_g (lw_at lw_m1 124 rfl) rfl
theorem q217 : (Jvm.Cond.fieldLinkNest "HurtStreets$State" (53 : Nat) "HurtStreets" "streets" "Ljava/util/ArrayList;" "HurtStreets") ∈ lw_tbl := lw_at lw_m1 126 rfl
theorem q442 : (Jvm.Cond.fieldLink "HurtStreets$State" (92 : Nat) "HurtStreets$Street" "one" "I") ∈ lw_all := lw_g (lw_at lw_m2 111 rfl) rfl
theorem q446 : (Jvm.Cond.fieldLink "HurtStreets$State" (95 : Nat) "HurtStreets$Street" "other" "I") ∈ lw_all := lw_g (lw_at lw_m2 115 rfl) rfl
theorem q448 : (Jvm.Cond.fieldLink "HurtStreets$State" (72 : Nat) "HurtStreets$Street" "length" "I") ∈ lw_all := lw_g (lw_at lw_m2 117 rfl) rfl
theorem q533 : (Jvm.Cond.selects "HurtStreets$State" ({ cls := "java/lang/Object", name := "getClass", desc := "()Ljava/lang/Class;" } : Jvm.MethodName) ({ cls := "java/lang/Object", name := "getClass", desc := "()Ljava/lang/Class;" } : Jvm.MethodName)) ∈ lw_all := lw_g (lw_at lw_m2 202 rfl) rfl
theorem q586 : (Jvm.Cond.instanceMethod ({ cls := "HurtStreets$State", name := "begin", desc := "()V" } : Jvm.MethodName)) ∈ lw_all := lw_g (lw_at lw_m3 15 rfl) rfl
theorem q587 : (Jvm.Cond.selects "HurtStreets$State" ({ cls := "HurtStreets$State", name := "begin", desc := "()V" } : Jvm.MethodName) ({ cls := "HurtStreets$State", name := "begin", desc := "()V" } : Jvm.MethodName)) ∈ lw_all := lw_g (lw_at lw_m3 16 rfl) rfl
theorem q588 : (Jvm.Cond.code ({ cls := "HurtStreets$State", name := "begin", desc := "()V" } : Jvm.MethodName) prog_7_method_2_code (2 : Nat) (Option.none : Option Jvm.ClassFile.FieldType)) ∈ lw_all := lw_g (lw_at lw_m3 17 rfl) rfl
theorem q614 : (Jvm.Cond.instanceMethod ({ cls := "HurtStreets$State", name := "layWay", desc := "(IIII)Z" } : Jvm.MethodName)) ∈ lw_all := lw_g (lw_at lw_m3 43 rfl) rfl
theorem q615 : (Jvm.Cond.selects "HurtStreets$State" ({ cls := "HurtStreets$State", name := "layWay", desc := "(IIII)Z" } : Jvm.MethodName) ({ cls := "HurtStreets$State", name := "layWay", desc := "(IIII)Z" } : Jvm.MethodName)) ∈ lw_all := lw_g (lw_at lw_m3 44 rfl) rfl
theorem q616 : (Jvm.Cond.code ({ cls := "HurtStreets$State", name := "layWay", desc := "(IIII)Z" } : Jvm.MethodName) prog_7_method_9_code (7 : Nat) (Option.some Jvm.ClassFile.FieldType.boolean)) ∈ lw_all := lw_g (lw_at lw_m3 45 rfl) rfl
theorem q617 : (Jvm.Cond.methodLink "HurtStreets$State" (109 : Nat) ({ cls := "HurtStreets$State", name := "layTo", desc := "(III)V" } : Jvm.MethodName)) ∈ lw_all := lw_g (lw_at lw_m3 46 rfl) rfl
theorem q618 : (Jvm.Cond.instanceMethod ({ cls := "HurtStreets$State", name := "layTo", desc := "(III)V" } : Jvm.MethodName)) ∈ lw_all := lw_g (lw_at lw_m3 47 rfl) rfl
theorem q619 : (Jvm.Cond.selects "HurtStreets$State" ({ cls := "HurtStreets$State", name := "layTo", desc := "(III)V" } : Jvm.MethodName) ({ cls := "HurtStreets$State", name := "layTo", desc := "(III)V" } : Jvm.MethodName)) ∈ lw_all := lw_g (lw_at lw_m3 48 rfl) rfl
theorem q620 : (Jvm.Cond.code ({ cls := "HurtStreets$State", name := "layTo", desc := "(III)V" } : Jvm.MethodName) prog_7_method_7_code (8 : Nat) (Option.none : Option Jvm.ClassFile.FieldType)) ∈ lw_all := lw_g (lw_at lw_m3 49 rfl) rfl
theorem q621 : (Jvm.Cond.constant "HurtStreets$State" (80 : Nat) (268435456 : Int32)) ∈ lw_all := lw_g (lw_at lw_m3 50 rfl) rfl
theorem q622 : (Jvm.Cond.methodLink "HurtStreets$State" (81 : Nat) ({ cls := "java/util/ArrayList", name := "size", desc := "()I" } : Jvm.MethodName)) ∈ lw_all := lw_g (lw_at lw_m3 51 rfl) rfl
theorem q623 : (Jvm.Cond.methodLink "HurtStreets$State" (57 : Nat) ({ cls := "java/util/ArrayList", name := "get", desc := "(I)Ljava/lang/Object;" } : Jvm.MethodName)) ∈ lw_all := lw_g (lw_at lw_m3 52 rfl) rfl
theorem q624 : (Jvm.Cond.classLink "HurtStreets$State" (63 : Nat) "HurtStreets$Street") ∈ lw_all := lw_g (lw_at lw_m3 53 rfl) rfl
theorem q625 : (Jvm.Cond.methodLinkNest "HurtStreets$State" (85 : Nat) ({ cls := "HurtStreets", name := "isIn", desc := "(II)Z" } : Jvm.MethodName) "HurtStreets") ∈ lw_tbl := lw_at lw_m3 54 rfl
theorem q628 : (Jvm.Cond.methodLink "HurtStreets$State" (89 : Nat) ({ cls := "HurtStreets$State", name := "cost", desc := "(II)I" } : Jvm.MethodName)) ∈ lw_all := lw_g (lw_at lw_m3 57 rfl) rfl
theorem q629 : (Jvm.Cond.privateMethod ({ cls := "HurtStreets$State", name := "cost", desc := "(II)I" } : Jvm.MethodName)) ∈ lw_tbl := lw_at lw_m3 58 rfl
theorem q630 : (Jvm.Cond.instanceMethod ({ cls := "HurtStreets$State", name := "cost", desc := "(II)I" } : Jvm.MethodName)) ∈ lw_all := lw_g (lw_at lw_m3 59 rfl) rfl
theorem q631 : (Jvm.Cond.code ({ cls := "HurtStreets$State", name := "cost", desc := "(II)I" } : Jvm.MethodName) prog_7_method_5_code (3 : Nat) (Option.some Jvm.ClassFile.FieldType.int)) ∈ lw_all := lw_g (lw_at lw_m3 60 rfl) rfl
theorem q632 : (Jvm.Cond.methodLink "HurtStreets$State" (69 : Nat) ({ cls := "HurtStreets$State", name := "hurts", desc := "(II)I" } : Jvm.MethodName)) ∈ lw_all := lw_g (lw_at lw_m3 61 rfl) rfl
theorem q633 : (Jvm.Cond.instanceMethod ({ cls := "HurtStreets$State", name := "hurts", desc := "(II)I" } : Jvm.MethodName)) ∈ lw_all := lw_g (lw_at lw_m3 62 rfl) rfl
theorem q634 : (Jvm.Cond.selects "HurtStreets$State" ({ cls := "HurtStreets$State", name := "hurts", desc := "(II)I" } : Jvm.MethodName) ({ cls := "HurtStreets$State", name := "hurts", desc := "(II)I" } : Jvm.MethodName)) ∈ lw_all := lw_g (lw_at lw_m3 63 rfl) rfl
theorem q635 : (Jvm.Cond.code ({ cls := "HurtStreets$State", name := "hurts", desc := "(II)I" } : Jvm.MethodName) prog_7_method_4_code (3 : Nat) (Option.some Jvm.ClassFile.FieldType.int)) ∈ lw_all := lw_g (lw_at lw_m3 64 rfl) rfl
theorem q636 : (Jvm.Cond.methodLink "HurtStreets$State" (65 : Nat) ({ cls := "HurtStreets$Street", name := "hurts", desc := "(III)I" } : Jvm.MethodName)) ∈ lw_all := lw_g (lw_at lw_m3 65 rfl) rfl
theorem q658 : (Jvm.Cond.methodLink "HurtStreets$State" (98 : Nat) ({ cls := "HurtStreets$State", name := "shortens", desc := "(II)Z" } : Jvm.MethodName)) ∈ lw_all := lw_g (lw_at lw_m3 87 rfl) rfl
theorem q659 : (Jvm.Cond.privateMethod ({ cls := "HurtStreets$State", name := "shortens", desc := "(II)Z" } : Jvm.MethodName)) ∈ lw_tbl := lw_at lw_m3 88 rfl
theorem q660 : (Jvm.Cond.instanceMethod ({ cls := "HurtStreets$State", name := "shortens", desc := "(II)Z" } : Jvm.MethodName)) ∈ lw_all := lw_g (lw_at lw_m3 89 rfl) rfl
theorem q661 : (Jvm.Cond.code ({ cls := "HurtStreets$State", name := "shortens", desc := "(II)Z" } : Jvm.MethodName) prog_7_method_6_code (4 : Nat) (Option.some Jvm.ClassFile.FieldType.boolean)) ∈ lw_all := lw_g (lw_at lw_m3 90 rfl) rfl
theorem q662 : (Jvm.Cond.methodLink "HurtStreets$State" (75 : Nat) ({ cls := "java/lang/Math", name := "min", desc := "(II)I" } : Jvm.MethodName)) ∈ lw_all := lw_g (lw_at lw_m3 91 rfl) rfl
theorem q663 : (Jvm.Cond.methodLink "HurtStreets$State" (122 : Nat) ({ cls := "HurtStreets$State", name := "stepFrom", desc := "(III)I" } : Jvm.MethodName)) ∈ lw_all := lw_g (lw_at lw_m3 92 rfl) rfl
theorem q664 : (Jvm.Cond.privateMethod ({ cls := "HurtStreets$State", name := "stepFrom", desc := "(III)I" } : Jvm.MethodName)) ∈ lw_tbl := lw_at lw_m3 93 rfl
theorem q665 : (Jvm.Cond.instanceMethod ({ cls := "HurtStreets$State", name := "stepFrom", desc := "(III)I" } : Jvm.MethodName)) ∈ lw_all := lw_g (lw_at lw_m3 94 rfl) rfl
theorem q666 : (Jvm.Cond.code ({ cls := "HurtStreets$State", name := "stepFrom", desc := "(III)I" } : Jvm.MethodName) prog_7_method_8_code (5 : Nat) (Option.some Jvm.ClassFile.FieldType.int)) ∈ lw_all := lw_g (lw_at lw_m3 95 rfl) rfl
theorem q667 : (Jvm.Cond.methodLink "HurtStreets$State" (101 : Nat) ({ cls := "HurtStreets$Street", name := "endsAt", desc := "(I)Z" } : Jvm.MethodName)) ∈ lw_all := lw_g (lw_at lw_m3 96 rfl) rfl
theorem q676 : (Jvm.Cond.methodLink "HurtStreets$State" (105 : Nat) ({ cls := "HurtStreets$Street", name := "from", desc := "(I)I" } : Jvm.MethodName)) ∈ lw_all := lw_g (lw_at lw_m3 105 rfl) rfl
theorem q810 : (Jvm.Cond.instanceMethod ({ cls := "HurtStreets$State", name := "reach", desc := "(II)I" } : Jvm.MethodName)) ∈ lw_all := lw_g (lw_at lw_m3 239 rfl) rfl
theorem q811 : (Jvm.Cond.selects "HurtStreets$State" ({ cls := "HurtStreets$State", name := "reach", desc := "(II)I" } : Jvm.MethodName) ({ cls := "HurtStreets$State", name := "reach", desc := "(II)I" } : Jvm.MethodName)) ∈ lw_all := lw_g (lw_at lw_m4 0 rfl) rfl
theorem q812 : (Jvm.Cond.code ({ cls := "HurtStreets$State", name := "reach", desc := "(II)I" } : Jvm.MethodName) prog_7_method_11_code (8 : Nat) (Option.some Jvm.ClassFile.FieldType.int)) ∈ lw_all := lw_g (lw_at lw_m4 1 rfl) rfl
theorem q860 : (Jvm.Cond.instanceMethod ({ cls := "HurtStreets$State", name := "take", desc := "(I)V" } : Jvm.MethodName)) ∈ lw_all := lw_g (lw_at lw_m4 49 rfl) rfl
theorem q861 : (Jvm.Cond.selects "HurtStreets$State" ({ cls := "HurtStreets$State", name := "take", desc := "(I)V" } : Jvm.MethodName) ({ cls := "HurtStreets$State", name := "take", desc := "(I)V" } : Jvm.MethodName)) ∈ lw_all := lw_g (lw_at lw_m4 50 rfl) rfl
theorem q862 : (Jvm.Cond.code ({ cls := "HurtStreets$State", name := "take", desc := "(I)V" } : Jvm.MethodName) prog_7_method_10_code (3 : Nat) (Option.none : Option Jvm.ClassFile.FieldType)) ∈ lw_all := lw_g (lw_at lw_m4 51 rfl) rfl
theorem q913 : (Jvm.Cond.instanceMethod ({ cls := "HurtStreets$State", name := "become", desc := "(LHurtStreets$State;)V" } : Jvm.MethodName)) ∈ lw_all := lw_g (lw_at lw_m4 102 rfl) rfl
theorem q914 : (Jvm.Cond.selects "HurtStreets$State" ({ cls := "HurtStreets$State", name := "become", desc := "(LHurtStreets$State;)V" } : Jvm.MethodName) ({ cls := "HurtStreets$State", name := "become", desc := "(LHurtStreets$State;)V" } : Jvm.MethodName)) ∈ lw_all := lw_g (lw_at lw_m4 103 rfl) rfl
theorem q915 : (Jvm.Cond.code ({ cls := "HurtStreets$State", name := "become", desc := "(LHurtStreets$State;)V" } : Jvm.MethodName) prog_7_method_3_code (3 : Nat) (Option.none : Option Jvm.ClassFile.FieldType)) ∈ lw_all := lw_g (lw_at lw_m4 104 rfl) rfl
theorem q1395 : (Jvm.Cond.castable "HurtStreets$State" "java/lang/Object") ∈ lw_tbl := lw_at lw_m6 104 rfl
theorem in_X1 : ∀ w ∈ wsX10, w ∈ lw_all := lw_in wsX10 [183, 185, 187, 189, 191, 193, 195, 197, 199, 201, 203, 205, 207, 209, 211, 213] (by decide +kernel) (by decide +kernel)
