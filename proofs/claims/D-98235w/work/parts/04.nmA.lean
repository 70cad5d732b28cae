/-! NextAtBar$Manner -/
set_option maxRecDepth 100000
def RX2 : String := "NextAtBar$Manne\x72"
def TX2 : u_T := fun k => match k with
  | _ => ("NextAtBar$Manne\x72", "by", "I", true)
def tyX2 : Nat → FieldType := fun k => match k with
  | _ => .int
abbrev wsX20 : List Cond := u_ws RX2 TX2 1
theorem nmX2 : ∀ a, a < 1 → ∀ b, b < 1 → a ≠ b → (TX2 a).2.1 ≠ (TX2 b).2.1 := by decide +kernel
theorem tyX2_ok : ∀ k, k < 1 → parseFieldDescriptor (TX2 k).2.2.1 = some (tyX2 k) := by decide +kernel
abbrev cX2_init : ByteArray := prog_8_method_1_code
def yX2_init : MethodName := ⟨RX2, "<init>", "(I)V"⟩
def dkwX2_init_0 : List UInt8 := [42, 183, 0, 1, 42, 27, 181, 0, 7, 177]
abbrev dktX2_init_0 : List UInt8 := dkwX2_init_0 ++ []
theorem dksX2_init_0 : cX2_init.data.toList.drop 0 = dktX2_init_0 := by decide +kernel
theorem dX2_init_0 : decode cX2_init 0 = .ok (.aload_n 0, 1) := dk_42 (dk_at dksX2_init_0 0 rfl rfl)
theorem dX2_init_1 : decode cX2_init 1 = .ok (.invokespecial 1, 3) := dk_183 0 1 (dk_at dksX2_init_0 1 rfl rfl)
theorem dX2_init_4 : decode cX2_init 4 = .ok (.aload_n 0, 1) := dk_42 (dk_at dksX2_init_0 4 rfl rfl)
theorem dX2_init_5 : decode cX2_init 5 = .ok (.iload_n 1, 1) := dk_27 (dk_at dksX2_init_0 5 rfl rfl)
theorem dX2_init_6 : decode cX2_init 6 = .ok (.putfield 7, 3) := dk_181 0 7 (dk_at dksX2_init_0 6 rfl rfl)
theorem dX2_init_9 : decode cX2_init 9 = .ok (.return_, 1) := dk_177 (dk_at dksX2_init_0 9 rfl rfl)
abbrev cX2_says : ByteArray := prog_8_method_3_code
def yX2_says : MethodName := ⟨RX2, "says", "(I)I"⟩
theorem dX2_says_0 : decode cX2_says 0 = .ok (.iload_n 1, 1) := by decide +kernel
theorem dX2_says_1 : decode cX2_says 1 = .ok (.ireturn, 1) := by decide +kernel
abbrev cX2_isRegular : ByteArray := prog_8_method_4_code
def yX2_isRegular : MethodName := ⟨RX2, "isRegula\x72", "()Z"⟩
theorem dX2_isRegular_0 : decode cX2_isRegular 0 = .ok (.iconst 0, 1) := by decide +kernel
theorem dX2_isRegular_1 : decode cX2_isRegular 1 = .ok (.ireturn, 1) := by decide +kernel
abbrev cX2_number : ByteArray := prog_8_method_2_code
def yX2_number : MethodName := ⟨RX2, "numbe\x72", "()I"⟩
theorem dX2_number_0 : decode cX2_number 0 = .ok (.iconst 0, 1) := by decide +kernel
theorem dX2_number_1 : decode cX2_number 1 = .ok (.ireturn, 1) := by decide +kernel
theorem q124 : (Jvm.Cond.initialized "NextAtBar$Manne\x72") ∈ lw_all := lw_g (lw_at lw_m1 2 rfl) rfl
theorem q173 : (Jvm.Cond.instantiable "NextAtBar$Manne\x72" (1 : Nat)) ∈ lw_all := lw_g (lw_at lw_m1 51 rfl) rfl
theorem q175 : (Jvm.Cond.instanceMethod ({ cls := "NextAtBar$Manne\x72", name := "<init>", desc := "(I)V" } : Jvm.MethodName)) ∈ lw_all := lw_g (lw_at lw_m1 53 rfl) rfl
theorem q176 : (Jvm.Cond.code ({ cls := "NextAtBar$Manne\x72", name := "<init>", desc := "(I)V" } : Jvm.MethodName) prog_8_method_1_code (2 : Nat) (Option.none : Option Jvm.ClassFile.FieldType)) ∈ lw_all := lw_g (lw_at lw_m1 54 rfl) rfl
theorem q177 : (Jvm.Cond.methodLink "NextAtBar$Manne\x72" (1 : Nat) ({ cls := "java/lang/Object", name := "<init>", desc := "()V" } : Jvm.MethodName)) ∈ lw_all := lw_g (lw_at lw_m1 55 rfl) rfl
theorem q178 : (Jvm.Cond.fieldLink "NextAtBar$Manne\x72" (7 : Nat) "NextAtBar$Manne\x72" "by" "I") ∈ lw_all := lw_g (lw_at lw_m1 56 rfl) rfl
theorem q184 : (Jvm.Cond.laysFinal "NextAtBar$Manne\x72" "NextAtBar$Manne\x72" "by" "I") ∈ lw_all := lw_g (lw_at lw_m1 62 rfl) rfl
theorem q185 : (Jvm.Cond.soleField "NextAtBar$Manne\x72" "by") ∈ lw_all := lw_g (lw_at lw_m1 63 rfl) rfl
theorem q186 : (Jvm.Cond.superclass "NextAtBar$Manne\x72" "java/lang/Object") ∈ lw_all := lw_g (lw_at lw_m1 64 rfl) rfl
theorem q813 : (Jvm.Cond.selects "NextAtBar$Manne\x72" ({ cls := "java/lang/Object", name := "getClass", desc := "()Ljava/lang/Class;" } : Jvm.MethodName) ({ cls := "java/lang/Object", name := "getClass", desc := "()Ljava/lang/Class;" } : Jvm.MethodName)) ∈ lw_all := lw_g (lw_at lw_m3 211 rfl) rfl
theorem q1094 : (Jvm.Cond.instanceMethod ({ cls := "NextAtBar$Manne\x72", name := "says", desc := "(I)I" } : Jvm.MethodName)) ∈ lw_all := lw_g (lw_at lw_m5 12 rfl) rfl
theorem q1095 : (Jvm.Cond.selects "NextAtBar$Manne\x72" ({ cls := "NextAtBar$Manne\x72", name := "says", desc := "(I)I" } : Jvm.MethodName) ({ cls := "NextAtBar$Manne\x72", name := "says", desc := "(I)I" } : Jvm.MethodName)) ∈ lw_all := lw_g (lw_at lw_m5 13 rfl) rfl
theorem q1096 : (Jvm.Cond.sameMethod "NextAtBar$Manne\x72" "NextAtBar$Manne\x72" "says" "(I)I") ∈ lw_all := lw_g (lw_at lw_m5 14 rfl) rfl
theorem q1101 : (Jvm.Cond.code ({ cls := "NextAtBar$Manne\x72", name := "says", desc := "(I)I" } : Jvm.MethodName) prog_8_method_3_code (2 : Nat) (Option.some Jvm.ClassFile.FieldType.int)) ∈ lw_all := lw_g (lw_at lw_m5 19 rfl) rfl
theorem q1108 : (Jvm.Cond.instanceMethod ({ cls := "NextAtBar$Manne\x72", name := "isRegula\x72", desc := "()Z" } : Jvm.MethodName)) ∈ lw_all := lw_g (lw_at lw_m5 26 rfl) rfl
theorem q1109 : (Jvm.Cond.selects "NextAtBar$Manne\x72" ({ cls := "NextAtBar$Manne\x72", name := "isRegula\x72", desc := "()Z" } : Jvm.MethodName) ({ cls := "NextAtBar$Manne\x72", name := "isRegula\x72", desc := "()Z" } : Jvm.MethodName)) ∈ lw_all := lw_g (lw_at lw_m5 27 rfl) rfl
theorem q1110 : (Jvm.Cond.sameMethod "NextAtBar$Manne\x72" "NextAtBar$Manne\x72" "isRegula\x72" "()Z") ∈ lw_all := lw_g (lw_at lw_m5 28 rfl) rfl
theorem q1116 : (Jvm.Cond.code ({ cls := "NextAtBar$Manne\x72", name := "isRegula\x72", desc := "()Z" } : Jvm.MethodName) prog_8_method_4_code (1 : Nat) (Option.some Jvm.ClassFile.FieldType.boolean)) ∈ lw_all := lw_g (lw_at lw_m5 34 rfl) rfl
theorem q1737 : (Jvm.Cond.instanceMethod ({ cls := "NextAtBar$Manne\x72", name := "numbe\x72", desc := "()I" } : Jvm.MethodName)) ∈ lw_all := lw_g (lw_at lw_m7 175 rfl) rfl
theorem q1738 : (Jvm.Cond.selects "NextAtBar$Manne\x72" ({ cls := "NextAtBar$Manne\x72", name := "numbe\x72", desc := "()I" } : Jvm.MethodName) ({ cls := "NextAtBar$Manne\x72", name := "numbe\x72", desc := "()I" } : Jvm.MethodName)) ∈ lw_all := lw_g (lw_at lw_m7 176 rfl) rfl
theorem q1739 : (Jvm.Cond.sameMethod "NextAtBar$Manne\x72" "NextAtBar$Manne\x72" "numbe\x72" "()I") ∈ lw_all := lw_g (lw_at lw_m7 177 rfl) rfl
theorem q1749 : (Jvm.Cond.code ({ cls := "NextAtBar$Manne\x72", name := "numbe\x72", desc := "()I" } : Jvm.MethodName) prog_8_method_2_code (1 : Nat) (Option.some Jvm.ClassFile.FieldType.int)) ∈ lw_all := lw_g (lw_at lw_m7 187 rfl) rfl
theorem q2509 : (Jvm.Cond.castable "NextAtBar$Manne\x72" "java/lang/Object") ∈ lw_tbl := lw_at lw_m10 227 rfl
theorem in_X2 : ∀ w ∈ wsX20, w ∈ lw_all := lw_in wsX20 [184] (by decide +kernel) (by decide +kernel)
/-! NextAtBar$Liar -/
set_option maxRecDepth 100000
def RX3 : String := "NextAtBar$Lia\x72"
def TX3 : u_T := fun k => match k with
  | _ => ("NextAtBar$Manne\x72", "by", "I", true)
def tyX3 : Nat → FieldType := fun k => match k with
  | _ => .int
abbrev wsX30 : List Cond := u_ws RX3 TX3 1
theorem nmX3 : ∀ a, a < 1 → ∀ b, b < 1 → a ≠ b → (TX3 a).2.1 ≠ (TX3 b).2.1 := by decide +kernel
theorem tyX3_ok : ∀ k, k < 1 → parseFieldDescriptor (TX3 k).2.2.1 = some (tyX3 k) := by decide +kernel
abbrev cX3_init : ByteArray := prog_7_method_1_code
def yX3_init : MethodName := ⟨RX3, "<init>", "(I)V"⟩
def dkwX3_init_0 : List UInt8 := [42, 27, 183, 0, 1, 177]
abbrev dktX3_init_0 : List UInt8 := dkwX3_init_0 ++ []
theorem dksX3_init_0 : cX3_init.data.toList.drop 0 = dktX3_init_0 := by decide +kernel
theorem dX3_init_0 : decode cX3_init 0 = .ok (.aload_n 0, 1) := dk_42 (dk_at dksX3_init_0 0 rfl rfl)
theorem dX3_init_1 : decode cX3_init 1 = .ok (.iload_n 1, 1) := dk_27 (dk_at dksX3_init_0 1 rfl rfl)
theorem dX3_init_2 : decode cX3_init 2 = .ok (.invokespecial 1, 3) := dk_183 0 1 (dk_at dksX3_init_0 2 rfl rfl)
theorem dX3_init_5 : decode cX3_init 5 = .ok (.return_, 1) := dk_177 (dk_at dksX3_init_0 5 rfl rfl)
abbrev cX3_says : ByteArray := prog_7_method_3_code
def yX3_says : MethodName := ⟨RX3, "says", "(I)I"⟩
def dkwX3_says_0 : List UInt8 := [42, 27, 183, 0, 7, 42, 180, 0, 11, 100, 172]
abbrev dktX3_says_0 : List UInt8 := dkwX3_says_0 ++ []
theorem dksX3_says_0 : cX3_says.data.toList.drop 0 = dktX3_says_0 := by decide +kernel
theorem dX3_says_0 : decode cX3_says 0 = .ok (.aload_n 0, 1) := dk_42 (dk_at dksX3_says_0 0 rfl rfl)
theorem dX3_says_1 : decode cX3_says 1 = .ok (.iload_n 1, 1) := dk_27 (dk_at dksX3_says_0 1 rfl rfl)
theorem dX3_says_2 : decode cX3_says 2 = .ok (.invokespecial 7, 3) := dk_183 0 7 (dk_at dksX3_says_0 2 rfl rfl)
theorem dX3_says_5 : decode cX3_says 5 = .ok (.aload_n 0, 1) := dk_42 (dk_at dksX3_says_0 5 rfl rfl)
theorem dX3_says_6 : decode cX3_says 6 = .ok (.getfield 11, 3) := dk_180 0 11 (dk_at dksX3_says_0 6 rfl rfl)
theorem dX3_says_9 : decode cX3_says 9 = .ok (.isub, 1) := dk_100 (dk_at dksX3_says_0 9 rfl rfl)
theorem dX3_says_10 : decode cX3_says 10 = .ok (.ireturn, 1) := dk_172 (dk_at dksX3_says_0 10 rfl rfl)
abbrev cX3_number : ByteArray := prog_7_method_2_code
def yX3_number : MethodName := ⟨RX3, "numbe\x72", "()I"⟩
theorem dX3_number_0 : decode cX3_number 0 = .ok (.iconst 1, 1) := by decide +kernel
theorem dX3_number_1 : decode cX3_number 1 = .ok (.ireturn, 1) := by decide +kernel
theorem q125 : (Jvm.Cond.initialized "NextAtBar$Lia\x72") ∈ lw_all := lw_g (lw_at lw_m1 3 rfl) rfl
theorem q179 : (Jvm.Cond.fieldLink "NextAtBar$Lia\x72" (11 : Nat) "NextAtBar$Lia\x72" "by" "I") ∈ lw_all := lw_g (lw_at lw_m1 57 rfl) rfl
theorem q180 : (Jvm.Cond.sameField "NextAtBar$Lia\x72" "NextAtBar$Manne\x72" "by" "I") ∈ lw_all := lw_g (lw_at lw_m1 58 rfl) rfl
theorem q189 : (Jvm.Cond.instantiable "NextAtBar$Lia\x72" (1 : Nat)) ∈ lw_all := lw_g (lw_at lw_m1 67 rfl) rfl
theorem q191 : (Jvm.Cond.instanceMethod ({ cls := "NextAtBar$Lia\x72", name := "<init>", desc := "(I)V" } : Jvm.MethodName)) ∈ lw_all := lw_g (lw_at lw_m1 69 rfl) rfl
theorem q192 : (Jvm.Cond.code ({ cls := "NextAtBar$Lia\x72", name := "<init>", desc := "(I)V" } : Jvm.MethodName) prog_7_method_1_code (2 : Nat) (Option.none : Option Jvm.ClassFile.FieldType)) ∈ lw_all := lw_g (lw_at lw_m1 70 rfl) rfl
theorem q193 : (Jvm.Cond.methodLink "NextAtBar$Lia\x72" (1 : Nat) ({ cls := "NextAtBar$Manne\x72", name := "<init>", desc := "(I)V" } : Jvm.MethodName)) ∈ lw_all := lw_g (lw_at lw_m1 71 rfl) rfl
theorem q194 : (Jvm.Cond.laysFinal "NextAtBar$Lia\x72" "NextAtBar$Manne\x72" "by" "I") ∈ lw_all := lw_g (lw_at lw_m1 72 rfl) rfl
theorem q195 : (Jvm.Cond.superclass "NextAtBar$Lia\x72" "NextAtBar$Manne\x72") ∈ lw_all := lw_g (lw_at lw_m1 73 rfl) rfl
theorem q812 : (Jvm.Cond.selects "NextAtBar$Lia\x72" ({ cls := "java/lang/Object", name := "getClass", desc := "()Ljava/lang/Class;" } : Jvm.MethodName) ({ cls := "java/lang/Object", name := "getClass", desc := "()Ljava/lang/Class;" } : Jvm.MethodName)) ∈ lw_all := lw_g (lw_at lw_m3 210 rfl) rfl
theorem q1097 : (Jvm.Cond.selects "NextAtBar$Lia\x72" ({ cls := "NextAtBar$Manne\x72", name := "says", desc := "(I)I" } : Jvm.MethodName) ({ cls := "NextAtBar$Lia\x72", name := "says", desc := "(I)I" } : Jvm.MethodName)) ∈ lw_all := lw_g (lw_at lw_m5 15 rfl) rfl
theorem q1098 : (Jvm.Cond.instanceMethod ({ cls := "NextAtBar$Lia\x72", name := "says", desc := "(I)I" } : Jvm.MethodName)) ∈ lw_all := lw_g (lw_at lw_m5 16 rfl) rfl
theorem q1099 : (Jvm.Cond.code ({ cls := "NextAtBar$Lia\x72", name := "says", desc := "(I)I" } : Jvm.MethodName) prog_7_method_3_code (2 : Nat) (Option.some Jvm.ClassFile.FieldType.int)) ∈ lw_all := lw_g (lw_at lw_m5 17 rfl) rfl
theorem q1100 : (Jvm.Cond.methodLink "NextAtBar$Lia\x72" (7 : Nat) ({ cls := "NextAtBar$Manne\x72", name := "says", desc := "(I)I" } : Jvm.MethodName)) ∈ lw_all := lw_g (lw_at lw_m5 18 rfl) rfl
theorem q1111 : (Jvm.Cond.selects "NextAtBar$Lia\x72" ({ cls := "NextAtBar$Manne\x72", name := "isRegula\x72", desc := "()Z" } : Jvm.MethodName) ({ cls := "NextAtBar$Manne\x72", name := "isRegula\x72", desc := "()Z" } : Jvm.MethodName)) ∈ lw_all := lw_g (lw_at lw_m5 29 rfl) rfl
theorem q1740 : (Jvm.Cond.selects "NextAtBar$Lia\x72" ({ cls := "NextAtBar$Manne\x72", name := "numbe\x72", desc := "()I" } : Jvm.MethodName) ({ cls := "NextAtBar$Lia\x72", name := "numbe\x72", desc := "()I" } : Jvm.MethodName)) ∈ lw_all := lw_g (lw_at lw_m7 178 rfl) rfl
theorem q1741 : (Jvm.Cond.instanceMethod ({ cls := "NextAtBar$Lia\x72", name := "numbe\x72", desc := "()I" } : Jvm.MethodName)) ∈ lw_all := lw_g (lw_at lw_m7 179 rfl) rfl
theorem q1742 : (Jvm.Cond.code ({ cls := "NextAtBar$Lia\x72", name := "numbe\x72", desc := "()I" } : Jvm.MethodName) prog_7_method_2_code (1 : Nat) (Option.some Jvm.ClassFile.FieldType.int)) ∈ lw_all := lw_g (lw_at lw_m7 180 rfl) rfl
theorem q2510 : (Jvm.Cond.castable "NextAtBar$Lia\x72" "java/lang/Object") ∈ lw_tbl := lw_at lw_m10 228 rfl
theorem in_X3 : ∀ w ∈ wsX30, w ∈ lw_all := lw_in wsX30 [194] (by decide +kernel) (by decide +kernel)
/-! NextAtBar$Polite -/
set_option maxRecDepth 100000
def RX18 : String := "NextAtBar$Polite"
def TX18 : u_T := fun k => match k with
  | _ => ("NextAtBar$Manne\x72", "by", "I", true)
def tyX18 : Nat → FieldType := fun k => match k with
  | _ => .int
abbrev wsX180 : List Cond := u_ws RX18 TX18 1
theorem nmX18 : ∀ a, a < 1 → ∀ b, b < 1 → a ≠ b → (TX18 a).2.1 ≠ (TX18 b).2.1 := by decide +kernel
theorem tyX18_ok : ∀ k, k < 1 → parseFieldDescriptor (TX18 k).2.2.1 = some (tyX18 k) := by decide +kernel
abbrev cX18_init : ByteArray := prog_12_method_1_code
def yX18_init : MethodName := ⟨RX18, "<init>", "(I)V"⟩
def dkwX18_init_0 : List UInt8 := [42, 27, 183, 0, 1, 177]
abbrev dktX18_init_0 : List UInt8 := dkwX18_init_0 ++ []
theorem dksX18_init_0 : cX18_init.data.toList.drop 0 = dktX18_init_0 := by decide +kernel
theorem dX18_init_0 : decode cX18_init 0 = .ok (.aload_n 0, 1) := dk_42 (dk_at dksX18_init_0 0 rfl rfl)
theorem dX18_init_1 : decode cX18_init 1 = .ok (.iload_n 1, 1) := dk_27 (dk_at dksX18_init_0 1 rfl rfl)
theorem dX18_init_2 : decode cX18_init 2 = .ok (.invokespecial 1, 3) := dk_183 0 1 (dk_at dksX18_init_0 2 rfl rfl)
theorem dX18_init_5 : decode cX18_init 5 = .ok (.return_, 1) := dk_177 (dk_at dksX18_init_0 5 rfl rfl)
abbrev cX18_says : ByteArray := prog_12_method_3_code
def yX18_says : MethodName := ⟨RX18, "says", "(I)I"⟩
def dkwX18_says_0 : List UInt8 := [42, 27, 183, 0, 7, 42, 180, 0, 11, 96, 172]
abbrev dktX18_says_0 : List UInt8 := dkwX18_says_0 ++ []
theorem dksX18_says_0 : cX18_says.data.toList.drop 0 = dktX18_says_0 := by decide +kernel
theorem dX18_says_0 : decode cX18_says 0 = .ok (.aload_n 0, 1) := dk_42 (dk_at dksX18_says_0 0 rfl rfl)
theorem dX18_says_1 : decode cX18_says 1 = .ok (.iload_n 1, 1) := dk_27 (dk_at dksX18_says_0 1 rfl rfl)
theorem dX18_says_2 : decode cX18_says 2 = .ok (.invokespecial 7, 3) := dk_183 0 7 (dk_at dksX18_says_0 2 rfl rfl)
theorem dX18_says_5 : decode cX18_says 5 = .ok (.aload_n 0, 1) := dk_42 (dk_at dksX18_says_0 5 rfl rfl)
theorem dX18_says_6 : decode cX18_says 6 = .ok (.getfield 11, 3) := dk_180 0 11 (dk_at dksX18_says_0 6 rfl rfl)
theorem dX18_says_9 : decode cX18_says 9 = .ok (.iadd, 1) := dk_96 (dk_at dksX18_says_0 9 rfl rfl)
theorem dX18_says_10 : decode cX18_says 10 = .ok (.ireturn, 1) := dk_172 (dk_at dksX18_says_0 10 rfl rfl)
abbrev cX18_number : ByteArray := prog_12_method_2_code
def yX18_number : MethodName := ⟨RX18, "numbe\x72", "()I"⟩
theorem dX18_number_0 : decode cX18_number 0 = .ok (.iconst 2, 1) := by decide +kernel
theorem dX18_number_1 : decode cX18_number 1 = .ok (.ireturn, 1) := by decide +kernel
theorem q154 : (Jvm.Cond.initialized "NextAtBar$Polite") ∈ lw_all := lw_g (lw_at lw_m1 32 rfl) rfl
theorem q181 : (Jvm.Cond.fieldLink "NextAtBar$Polite" (11 : Nat) "NextAtBar$Polite" "by" "I") ∈ lw_all := lw_g (lw_at lw_m1 59 rfl) rfl
theorem q182 : (Jvm.Cond.sameField "NextAtBar$Polite" "NextAtBar$Manne\x72" "by" "I") ∈ lw_all := lw_g (lw_at lw_m1 60 rfl) rfl
theorem q817 : (Jvm.Cond.selects "NextAtBar$Polite" ({ cls := "java/lang/Object", name := "getClass", desc := "()Ljava/lang/Class;" } : Jvm.MethodName) ({ cls := "java/lang/Object", name := "getClass", desc := "()Ljava/lang/Class;" } : Jvm.MethodName)) ∈ lw_all := lw_g (lw_at lw_m3 215 rfl) rfl
theorem q957 : (Jvm.Cond.instantiable "NextAtBar$Polite" (1 : Nat)) ∈ lw_all := lw_g (lw_at lw_m4 115 rfl) rfl
theorem q959 : (Jvm.Cond.instanceMethod ({ cls := "NextAtBar$Polite", name := "<init>", desc := "(I)V" } : Jvm.MethodName)) ∈ lw_all := lw_g (lw_at lw_m4 117 rfl) rfl
theorem q960 : (Jvm.Cond.code ({ cls := "NextAtBar$Polite", name := "<init>", desc := "(I)V" } : Jvm.MethodName) prog_12_method_1_code (2 : Nat) (Option.none : Option Jvm.ClassFile.FieldType)) ∈ lw_all := lw_g (lw_at lw_m4 118 rfl) rfl
theorem q961 : (Jvm.Cond.methodLink "NextAtBar$Polite" (1 : Nat) ({ cls := "NextAtBar$Manne\x72", name := "<init>", desc := "(I)V" } : Jvm.MethodName)) ∈ lw_all := lw_g (lw_at lw_m4 119 rfl) rfl
theorem q962 : (Jvm.Cond.laysFinal "NextAtBar$Polite" "NextAtBar$Manne\x72" "by" "I") ∈ lw_all := lw_g (lw_at lw_m4 120 rfl) rfl
theorem q963 : (Jvm.Cond.superclass "NextAtBar$Polite" "NextAtBar$Manne\x72") ∈ lw_all := lw_g (lw_at lw_m4 121 rfl) rfl
theorem q1102 : (Jvm.Cond.selects "NextAtBar$Polite" ({ cls := "NextAtBar$Manne\x72", name := "says", desc := "(I)I" } : Jvm.MethodName) ({ cls := "NextAtBar$Polite", name := "says", desc := "(I)I" } : Jvm.MethodName)) ∈ lw_all := lw_g (lw_at lw_m5 20 rfl) rfl
theorem q1103 : (Jvm.Cond.instanceMethod ({ cls := "NextAtBar$Polite", name := "says", desc := "(I)I" } : Jvm.MethodName)) ∈ lw_all := lw_g (lw_at lw_m5 21 rfl) rfl
theorem q1104 : (Jvm.Cond.code ({ cls := "NextAtBar$Polite", name := "says", desc := "(I)I" } : Jvm.MethodName) prog_12_method_3_code (2 : Nat) (Option.some Jvm.ClassFile.FieldType.int)) ∈ lw_all := lw_g (lw_at lw_m5 22 rfl) rfl
theorem q1105 : (Jvm.Cond.methodLink "NextAtBar$Polite" (7 : Nat) ({ cls := "NextAtBar$Manne\x72", name := "says", desc := "(I)I" } : Jvm.MethodName)) ∈ lw_all := lw_g (lw_at lw_m5 23 rfl) rfl
theorem q1112 : (Jvm.Cond.selects "NextAtBar$Polite" ({ cls := "NextAtBar$Manne\x72", name := "isRegula\x72", desc := "()Z" } : Jvm.MethodName) ({ cls := "NextAtBar$Manne\x72", name := "isRegula\x72", desc := "()Z" } : Jvm.MethodName)) ∈ lw_all := lw_g (lw_at lw_m5 30 rfl) rfl
theorem q1743 : (Jvm.Cond.selects "NextAtBar$Polite" ({ cls := "NextAtBar$Manne\x72", name := "numbe\x72", desc := "()I" } : Jvm.MethodName) ({ cls := "NextAtBar$Polite", name := "numbe\x72", desc := "()I" } : Jvm.MethodName)) ∈ lw_all := lw_g (lw_at lw_m7 181 rfl) rfl
theorem q1744 : (Jvm.Cond.instanceMethod ({ cls := "NextAtBar$Polite", name := "numbe\x72", desc := "()I" } : Jvm.MethodName)) ∈ lw_all := lw_g (lw_at lw_m7 182 rfl) rfl
theorem q1745 : (Jvm.Cond.code ({ cls := "NextAtBar$Polite", name := "numbe\x72", desc := "()I" } : Jvm.MethodName) prog_12_method_2_code (1 : Nat) (Option.some Jvm.ClassFile.FieldType.int)) ∈ lw_all := lw_g (lw_at lw_m7 183 rfl) rfl
theorem q2528 : (Jvm.Cond.castable "NextAtBar$Polite" "java/lang/Object") ∈ lw_tbl := lw_at lw_m11 6 rfl
theorem in_X18 : ∀ w ∈ wsX180, w ∈ lw_all := lw_in wsX180 [962] (by decide +kernel) (by decide +kernel)
/-! NextAtBar$Regular -/
set_option maxRecDepth 100000
def RX19 : String := "NextAtBar$Regula\x72"
def TX19 : u_T := fun k => match k with
  | _ => ("NextAtBar$Manne\x72", "by", "I", true)
def tyX19 : Nat → FieldType := fun k => match k with
  | _ => .int
abbrev wsX190 : List Cond := u_ws RX19 TX19 1
theorem nmX19 : ∀ a, a < 1 → ∀ b, b < 1 → a ≠ b → (TX19 a).2.1 ≠ (TX19 b).2.1 := by decide +kernel
theorem tyX19_ok : ∀ k, k < 1 → parseFieldDescriptor (TX19 k).2.2.1 = some (tyX19 k) := by decide +kernel
abbrev cX19_init : ByteArray := prog_14_method_1_code
def yX19_init : MethodName := ⟨RX19, "<init>", "()V"⟩
def dkwX19_init_0 : List UInt8 := [42, 3, 183, 0, 1, 177]
abbrev dktX19_init_0 : List UInt8 := dkwX19_init_0 ++ []
theorem dksX19_init_0 : cX19_init.data.toList.drop 0 = dktX19_init_0 := by decide +kernel
theorem dX19_init_0 : decode cX19_init 0 = .ok (.aload_n 0, 1) := dk_42 (dk_at dksX19_init_0 0 rfl rfl)
theorem dX19_init_1 : decode cX19_init 1 = .ok (.iconst 0, 1) := dk_3 (dk_at dksX19_init_0 1 rfl rfl)
theorem dX19_init_2 : decode cX19_init 2 = .ok (.invokespecial 1, 3) := dk_183 0 1 (dk_at dksX19_init_0 2 rfl rfl)
theorem dX19_init_5 : decode cX19_init 5 = .ok (.return_, 1) := dk_177 (dk_at dksX19_init_0 5 rfl rfl)
abbrev cX19_isRegular : ByteArray := prog_14_method_3_code
def yX19_isRegular : MethodName := ⟨RX19, "isRegula\x72", "()Z"⟩
theorem dX19_isRegular_0 : decode cX19_isRegular 0 = .ok (.iconst 1, 1) := by decide +kernel
theorem dX19_isRegular_1 : decode cX19_isRegular 1 = .ok (.ireturn, 1) := by decide +kernel
abbrev cX19_number : ByteArray := prog_14_method_2_code
def yX19_number : MethodName := ⟨RX19, "numbe\x72", "()I"⟩
theorem dX19_number_0 : decode cX19_number 0 = .ok (.iconst 3, 1) := by decide +kernel
theorem dX19_number_1 : decode cX19_number 1 = .ok (.ireturn, 1) := by decide +kernel
theorem q155 : (Jvm.Cond.initialized "NextAtBar$Regula\x72") ∈ lw_all := lw_g (lw_at lw_m1 33 rfl) rfl
theorem q819 : (Jvm.Cond.selects "NextAtBar$Regula\x72" ({ cls := "java/lang/Object", name := "getClass", desc := "()Ljava/lang/Class;" } : Jvm.MethodName) ({ cls := "java/lang/Object", name := "getClass", desc := "()Ljava/lang/Class;" } : Jvm.MethodName)) ∈ lw_all := lw_g (lw_at lw_m3 217 rfl) rfl
theorem q965 : (Jvm.Cond.instantiable "NextAtBar$Regula\x72" (1 : Nat)) ∈ lw_all := lw_g (lw_at lw_m4 123 rfl) rfl
theorem q967 : (Jvm.Cond.instanceMethod ({ cls := "NextAtBar$Regula\x72", name := "<init>", desc := "()V" } : Jvm.MethodName)) ∈ lw_all := lw_g (lw_at lw_m4 125 rfl) rfl
theorem q968 : (Jvm.Cond.code ({ cls := "NextAtBar$Regula\x72", name := "<init>", desc := "()V" } : Jvm.MethodName) prog_14_method_1_code (1 : Nat) (Option.none : Option Jvm.ClassFile.FieldType)) ∈ lw_all := lw_g (lw_at lw_m4 126 rfl) rfl
theorem q969 : (Jvm.Cond.methodLink "NextAtBar$Regula\x72" (1 : Nat) ({ cls := "NextAtBar$Manne\x72", name := "<init>", desc := "(I)V" } : Jvm.MethodName)) ∈ lw_all := lw_g (lw_at lw_m4 127 rfl) rfl
theorem q970 : (Jvm.Cond.laysFinal "NextAtBar$Regula\x72" "NextAtBar$Manne\x72" "by" "I") ∈ lw_all := lw_g (lw_at lw_m4 128 rfl) rfl
theorem q971 : (Jvm.Cond.superclass "NextAtBar$Regula\x72" "NextAtBar$Manne\x72") ∈ lw_all := lw_g (lw_at lw_m4 129 rfl) rfl
theorem q1106 : (Jvm.Cond.selects "NextAtBar$Regula\x72" ({ cls := "NextAtBar$Manne\x72", name := "says", desc := "(I)I" } : Jvm.MethodName) ({ cls := "NextAtBar$Manne\x72", name := "says", desc := "(I)I" } : Jvm.MethodName)) ∈ lw_all := lw_g (lw_at lw_m5 24 rfl) rfl
theorem q1113 : (Jvm.Cond.selects "NextAtBar$Regula\x72" ({ cls := "NextAtBar$Manne\x72", name := "isRegula\x72", desc := "()Z" } : Jvm.MethodName) ({ cls := "NextAtBar$Regula\x72", name := "isRegula\x72", desc := "()Z" } : Jvm.MethodName)) ∈ lw_all := lw_g (lw_at lw_m5 31 rfl) rfl
theorem q1114 : (Jvm.Cond.instanceMethod ({ cls := "NextAtBar$Regula\x72", name := "isRegula\x72", desc := "()Z" } : Jvm.MethodName)) ∈ lw_all := lw_g (lw_at lw_m5 32 rfl) rfl
theorem q1115 : (Jvm.Cond.code ({ cls := "NextAtBar$Regula\x72", name := "isRegula\x72", desc := "()Z" } : Jvm.MethodName) prog_14_method_3_code (1 : Nat) (Option.some Jvm.ClassFile.FieldType.boolean)) ∈ lw_all := lw_g (lw_at lw_m5 33 rfl) rfl
theorem q1746 : (Jvm.Cond.selects "NextAtBar$Regula\x72" ({ cls := "NextAtBar$Manne\x72", name := "numbe\x72", desc := "()I" } : Jvm.MethodName) ({ cls := "NextAtBar$Regula\x72", name := "numbe\x72", desc := "()I" } : Jvm.MethodName)) ∈ lw_all := lw_g (lw_at lw_m7 184 rfl) rfl
theorem q1747 : (Jvm.Cond.instanceMethod ({ cls := "NextAtBar$Regula\x72", name := "numbe\x72", desc := "()I" } : Jvm.MethodName)) ∈ lw_all := lw_g (lw_at lw_m7 185 rfl) rfl
theorem q1748 : (Jvm.Cond.code ({ cls := "NextAtBar$Regula\x72", name := "numbe\x72", desc := "()I" } : Jvm.MethodName) prog_14_method_2_code (1 : Nat) (Option.some Jvm.ClassFile.FieldType.int)) ∈ lw_all := lw_g (lw_at lw_m7 186 rfl) rfl
theorem q2529 : (Jvm.Cond.castable "NextAtBar$Regula\x72" "java/lang/Object") ∈ lw_tbl := lw_at lw_m11 7 rfl
theorem in_X19 : ∀ w ∈ wsX190, w ∈ lw_all := lw_in wsX190 [970] (by decide +kernel) (by decide +kernel)
/-! NextAtBar$Rule -/
set_option maxRecDepth 100000
def RX11 : String := "NextAtBar$Rule"
abbrev cX11_init : ByteArray := prog_17_method_1_code
def yX11_init : MethodName := ⟨RX11, "<init>", "()V"⟩
theorem dX11_init_0 : decode cX11_init 0 = .ok (.aload_n 0, 1) := by decide +kernel
theorem dX11_init_1 : decode cX11_init 1 = .ok (.invokespecial 1, 3) := by decide +kernel
theorem dX11_init_4 : decode cX11_init 4 = .ok (.return_, 1) := by decide +kernel
theorem q147 : (Jvm.Cond.initialized "NextAtBar$Rule") ∈ lw_all := lw_g (lw_at lw_m1 25 rfl) rfl
theorem q869 : (Jvm.Cond.instanceMethod ({ cls := "NextAtBar$Rule", name := "<init>", desc := "()V" } : Jvm.MethodName)) ∈ lw_all := lw_g (lw_at lw_m4 27 rfl) rfl
theorem q870 : (Jvm.Cond.code ({ cls := "NextAtBar$Rule", name := "<init>", desc := "()V" } : Jvm.MethodName) prog_17_method_1_code (1 : Nat) (Option.none : Option Jvm.ClassFile.FieldType)) ∈ lw_all := lw_g (lw_at lw_m4 28 rfl) rfl
theorem q871 : (Jvm.Cond.methodLink "NextAtBar$Rule" (1 : Nat) ({ cls := "java/lang/Object", name := "<init>", desc := "()V" } : Jvm.MethodName)) ∈ lw_all := lw_g (lw_at lw_m4 29 rfl) rfl
theorem q1329 : (Jvm.Cond.declares ({ cls := "NextAtBar$Rule", name := "fa\x72", desc := "(LNextAtBar$Bar;II)I" } : Jvm.MethodName)) ∈ lw_tbl := lw_at lw_m6 7 rfl
theorem q1330 : (Jvm.Cond.sameMethod "NextAtBar$Rule" "NextAtBar$Rule" "fa\x72" "(LNextAtBar$Bar;II)I") ∈ lw_all := lw_g (lw_at lw_m6 8 rfl) rfl
theorem q2507 : (Jvm.Cond.castable "NextAtBar$Rule" "java/lang/Object") ∈ lw_tbl := lw_at lw_m10 225 rfl
/-! NextAtBar$Near -/
set_option maxRecDepth 100000
def RX12 : String := "NextAtBar$Nea\x72"
abbrev cX12_init : ByteArray := prog_9_method_1_code
def yX12_init : MethodName := ⟨RX12, "<init>", "()V"⟩
theorem dX12_init_0 : decode cX12_init 0 = .ok (.aload_n 0, 1) := by decide +kernel
theorem dX12_init_1 : decode cX12_init 1 = .ok (.invokespecial 1, 3) := by decide +kernel
theorem dX12_init_4 : decode cX12_init 4 = .ok (.return_, 1) := by decide +kernel
abbrev cX12_far : ByteArray := prog_9_method_3_code
def yX12_far : MethodName := ⟨RX12, "fa\x72", "(LNextAtBar$Bar;II)I"⟩
def dkwX12_far_1 : List UInt8 := [43, 180, 0, 13, 28, 46, 164, 0, 7, 4, 167, 0, 4, 3, 96, 172]
abbrev dktX12_far_1 : List UInt8 := dkwX12_far_1 ++ []
def dkwX12_far_0 : List UInt8 := [5, 43, 180, 0, 7, 29, 46, 43, 180, 0, 13, 28, 46, 100, 184, 0, 16, 104, 43, 180, 0, 7, 29, 46]
abbrev dktX12_far_0 : List UInt8 := dkwX12_far_0 ++ dktX12_far_1
theorem dksX12_far_0 : cX12_far.data.toList.drop 0 = dktX12_far_0 := by decide +kernel
theorem dksX12_far_1 : cX12_far.data.toList.drop 24 = dktX12_far_1 := dk_seg dksX12_far_0 24 rfl rfl
theorem dX12_far_0 : decode cX12_far 0 = .ok (.iconst 2, 1) := dk_5 (dk_at dksX12_far_0 0 rfl rfl)
theorem dX12_far_1 : decode cX12_far 1 = .ok (.aload_n 1, 1) := dk_43 (dk_at dksX12_far_0 1 rfl rfl)
theorem dX12_far_2 : decode cX12_far 2 = .ok (.getfield 7, 3) := dk_180 0 7 (dk_at dksX12_far_0 2 rfl rfl)
theorem dX12_far_5 : decode cX12_far 5 = .ok (.iload_n 3, 1) := dk_29 (dk_at dksX12_far_0 5 rfl rfl)
theorem dX12_far_6 : decode cX12_far 6 = .ok (.iaload, 1) := dk_46 (dk_at dksX12_far_0 6 rfl rfl)
theorem dX12_far_7 : decode cX12_far 7 = .ok (.aload_n 1, 1) := dk_43 (dk_at dksX12_far_0 7 rfl rfl)
theorem dX12_far_8 : decode cX12_far 8 = .ok (.getfield 13, 3) := dk_180 0 13 (dk_at dksX12_far_0 8 rfl rfl)
theorem dX12_far_11 : decode cX12_far 11 = .ok (.iload_n 2, 1) := dk_28 (dk_at dksX12_far_0 11 rfl rfl)
theorem dX12_far_12 : decode cX12_far 12 = .ok (.iaload, 1) := dk_46 (dk_at dksX12_far_0 12 rfl rfl)
theorem dX12_far_13 : decode cX12_far 13 = .ok (.isub, 1) := dk_100 (dk_at dksX12_far_0 13 rfl rfl)
theorem dX12_far_14 : decode cX12_far 14 = .ok (.invokestatic 16, 3) := dk_184 0 16 (dk_at dksX12_far_0 14 rfl rfl)
theorem dX12_far_17 : decode cX12_far 17 = .ok (.imul, 1) := dk_104 (dk_at dksX12_far_0 17 rfl rfl)
theorem dX12_far_18 : decode cX12_far 18 = .ok (.aload_n 1, 1) := dk_43 (dk_at dksX12_far_0 18 rfl rfl)
theorem dX12_far_19 : decode cX12_far 19 = .ok (.getfield 7, 3) := dk_180 0 7 (dk_at dksX12_far_0 19 rfl rfl)
theorem dX12_far_22 : decode cX12_far 22 = .ok (.iload_n 3, 1) := dk_29 (dk_at dksX12_far_0 22 rfl rfl)
theorem dX12_far_23 : decode cX12_far 23 = .ok (.iaload, 1) := dk_46 (dk_at dksX12_far_0 23 rfl rfl)
theorem dX12_far_24 : decode cX12_far 24 = .ok (.aload_n 1, 1) := dk_43 (dk_at dksX12_far_1 0 rfl rfl)
theorem dX12_far_25 : decode cX12_far 25 = .ok (.getfield 13, 3) := dk_180 0 13 (dk_at dksX12_far_1 1 rfl rfl)
theorem dX12_far_28 : decode cX12_far 28 = .ok (.iload_n 2, 1) := dk_28 (dk_at dksX12_far_1 4 rfl rfl)
theorem dX12_far_29 : decode cX12_far 29 = .ok (.iaload, 1) := dk_46 (dk_at dksX12_far_1 5 rfl rfl)
theorem dX12_far_30 : decode cX12_far 30 = .ok (.if_icmp .le 7, 3) := dk_164 0 7 (dk_at dksX12_far_1 6 rfl rfl)
theorem dX12_far_33 : decode cX12_far 33 = .ok (.iconst 1, 1) := dk_4 (dk_at dksX12_far_1 9 rfl rfl)
theorem dX12_far_34 : decode cX12_far 34 = .ok (.goto 4, 3) := dk_167 0 4 (dk_at dksX12_far_1 10 rfl rfl)
theorem dX12_far_37 : decode cX12_far 37 = .ok (.iconst 0, 1) := dk_3 (dk_at dksX12_far_1 13 rfl rfl)
theorem dX12_far_38 : decode cX12_far 38 = .ok (.iadd, 1) := dk_96 (dk_at dksX12_far_1 14 rfl rfl)
theorem dX12_far_39 : decode cX12_far 39 = .ok (.ireturn, 1) := dk_172 (dk_at dksX12_far_1 15 rfl rfl)
theorem q148 : (Jvm.Cond.initialized "NextAtBar$Nea\x72") ∈ lw_all := lw_g (lw_at lw_m1 26 rfl) rfl
theorem q814 : (Jvm.Cond.selects "NextAtBar$Nea\x72" ({ cls := "java/lang/Object", name := "getClass", desc := "()Ljava/lang/Class;" } : Jvm.MethodName) ({ cls := "java/lang/Object", name := "getClass", desc := "()Ljava/lang/Class;" } : Jvm.MethodName)) ∈ lw_all := lw_g (lw_at lw_m3 212 rfl) rfl
theorem q866 : (Jvm.Cond.instanceMethod ({ cls := "NextAtBar$Nea\x72", name := "<init>", desc := "()V" } : Jvm.MethodName)) ∈ lw_all := lw_g (lw_at lw_m4 24 rfl) rfl
theorem q867 : (Jvm.Cond.code ({ cls := "NextAtBar$Nea\x72", name := "<init>", desc := "()V" } : Jvm.MethodName) prog_9_method_1_code (1 : Nat) (Option.none : Option Jvm.ClassFile.FieldType)) ∈ lw_all := lw_g (lw_at lw_m4 25 rfl) rfl
theorem q868 : (Jvm.Cond.methodLinkNest "NextAtBar$Nea\x72" (1 : Nat) ({ cls := "NextAtBar$Rule", name := "<init>", desc := "()V" } : Jvm.MethodName) "NextAtBa\x72") ∈ lw_tbl := lw_at lw_m4 26 rfl
theorem q874 : (Jvm.Cond.instantiable "NextAtBar$Nea\x72" (0 : Nat)) ∈ lw_all := lw_g (lw_at lw_m4 32 rfl) rfl
theorem q876 : (Jvm.Cond.superclass "NextAtBar$Nea\x72" "NextAtBar$Rule") ∈ lw_all := lw_g (lw_at lw_m4 34 rfl) rfl
theorem q1128 : (Jvm.Cond.fieldLink "NextAtBar$Nea\x72" (7 : Nat) "NextAtBar$Ba\x72" "place" "[I") ∈ lw_all := lw_g (lw_at lw_m5 46 rfl) rfl
theorem q1157 : (Jvm.Cond.fieldLink "NextAtBar$Nea\x72" (13 : Nat) "NextAtBar$Ba\x72" "at" "[I") ∈ lw_all := lw_g (lw_at lw_m5 75 rfl) rfl
theorem q1337 : (Jvm.Cond.selects "NextAtBar$Nea\x72" ({ cls := "NextAtBar$Rule", name := "fa\x72", desc := "(LNextAtBar$Bar;II)I" } : Jvm.MethodName) ({ cls := "NextAtBar$Nea\x72", name := "fa\x72", desc := "(LNextAtBar$Bar;II)I" } : Jvm.MethodName)) ∈ lw_all := lw_g (lw_at lw_m6 15 rfl) rfl
theorem q1338 : (Jvm.Cond.instanceMethod ({ cls := "NextAtBar$Nea\x72", name := "fa\x72", desc := "(LNextAtBar$Bar;II)I" } : Jvm.MethodName)) ∈ lw_all := lw_g (lw_at lw_m6 16 rfl) rfl
theorem q1339 : (Jvm.Cond.code ({ cls := "NextAtBar$Nea\x72", name := "fa\x72", desc := "(LNextAtBar$Bar;II)I" } : Jvm.MethodName) prog_9_method_3_code (4 : Nat) (Option.some Jvm.ClassFile.FieldType.int)) ∈ lw_all := lw_g (lw_at lw_m6 17 rfl) rfl
theorem q1340 : (Jvm.Cond.methodLink "NextAtBar$Nea\x72" (16 : Nat) ({ cls := "java/lang/Math", name := "abs", desc := "(I)I" } : Jvm.MethodName)) ∈ lw_all := lw_g (lw_at lw_m6 18 rfl) rfl
theorem q2523 : (Jvm.Cond.castable "NextAtBar$Nea\x72" "java/lang/Object") ∈ lw_tbl := lw_at lw_m11 1 rfl
theorem q2537 : (Jvm.Cond.castable "NextAtBar$Nea\x72" "NextAtBar$Rule") ∈ lw_tbl := lw_at lw_m11 15 rfl
/-! NextAtBar$Row -/
set_option maxRecDepth 100000
def RX13 : String := "NextAtBar$Row"
abbrev cX13_init : ByteArray := prog_16_method_1_code
def yX13_init : MethodName := ⟨RX13, "<init>", "()V"⟩
theorem dX13_init_0 : decode cX13_init 0 = .ok (.aload_n 0, 1) := by decide +kernel
theorem dX13_init_1 : decode cX13_init 1 = .ok (.invokespecial 3, 3) := by decide +kernel
theorem dX13_init_4 : decode cX13_init 4 = .ok (.return_, 1) := by decide +kernel
abbrev cX13_far : ByteArray := prog_16_method_3_code
def yX13_far : MethodName := ⟨RX13, "fa\x72", "(LNextAtBar$Bar;II)I"⟩
def dkwX13_far_1 : List UInt8 := [180, 0, 15, 28, 46, 100, 167, 0, 12, 16, 20, 43, 180, 0, 9, 29, 46, 96, 172]
abbrev dktX13_far_1 : List UInt8 := dkwX13_far_1 ++ []
def dkwX13_far_0 : List UInt8 := [43, 180, 0, 9, 29, 46, 43, 180, 0, 15, 28, 46, 161, 0, 19, 43, 180, 0, 9, 29, 46, 43]
abbrev dktX13_far_0 : List UInt8 := dkwX13_far_0 ++ dktX13_far_1
theorem dksX13_far_0 : cX13_far.data.toList.drop 0 = dktX13_far_0 := by decide +kernel
theorem dksX13_far_1 : cX13_far.data.toList.drop 22 = dktX13_far_1 := dk_seg dksX13_far_0 22 rfl rfl
theorem dX13_far_0 : decode cX13_far 0 = .ok (.aload_n 1, 1) := dk_43 (dk_at dksX13_far_0 0 rfl rfl)
theorem dX13_far_1 : decode cX13_far 1 = .ok (.getfield 9, 3) := dk_180 0 9 (dk_at dksX13_far_0 1 rfl rfl)
theorem dX13_far_4 : decode cX13_far 4 = .ok (.iload_n 3, 1) := dk_29 (dk_at dksX13_far_0 4 rfl rfl)
theorem dX13_far_5 : decode cX13_far 5 = .ok (.iaload, 1) := dk_46 (dk_at dksX13_far_0 5 rfl rfl)
theorem dX13_far_6 : decode cX13_far 6 = .ok (.aload_n 1, 1) := dk_43 (dk_at dksX13_far_0 6 rfl rfl)
theorem dX13_far_7 : decode cX13_far 7 = .ok (.getfield 15, 3) := dk_180 0 15 (dk_at dksX13_far_0 7 rfl rfl)
theorem dX13_far_10 : decode cX13_far 10 = .ok (.iload_n 2, 1) := dk_28 (dk_at dksX13_far_0 10 rfl rfl)
theorem dX13_far_11 : decode cX13_far 11 = .ok (.iaload, 1) := dk_46 (dk_at dksX13_far_0 11 rfl rfl)
theorem dX13_far_12 : decode cX13_far 12 = .ok (.if_icmp .lt 19, 3) := dk_161 0 19 (dk_at dksX13_far_0 12 rfl rfl)
theorem dX13_far_15 : decode cX13_far 15 = .ok (.aload_n 1, 1) := dk_43 (dk_at dksX13_far_0 15 rfl rfl)
theorem dX13_far_16 : decode cX13_far 16 = .ok (.getfield 9, 3) := dk_180 0 9 (dk_at dksX13_far_0 16 rfl rfl)
theorem dX13_far_19 : decode cX13_far 19 = .ok (.iload_n 3, 1) := dk_29 (dk_at dksX13_far_0 19 rfl rfl)
theorem dX13_far_20 : decode cX13_far 20 = .ok (.iaload, 1) := dk_46 (dk_at dksX13_far_0 20 rfl rfl)
theorem dX13_far_21 : decode cX13_far 21 = .ok (.aload_n 1, 1) := dk_43 (dk_at dksX13_far_0 21 rfl rfl)
theorem dX13_far_22 : decode cX13_far 22 = .ok (.getfield 15, 3) := dk_180 0 15 (dk_at dksX13_far_1 0 rfl rfl)
theorem dX13_far_25 : decode cX13_far 25 = .ok (.iload_n 2, 1) := dk_28 (dk_at dksX13_far_1 3 rfl rfl)
theorem dX13_far_26 : decode cX13_far 26 = .ok (.iaload, 1) := dk_46 (dk_at dksX13_far_1 4 rfl rfl)
theorem dX13_far_27 : decode cX13_far 27 = .ok (.isub, 1) := dk_100 (dk_at dksX13_far_1 5 rfl rfl)
theorem dX13_far_28 : decode cX13_far 28 = .ok (.goto 12, 3) := dk_167 0 12 (dk_at dksX13_far_1 6 rfl rfl)
theorem dX13_far_31 : decode cX13_far 31 = .ok (.bipush 20, 2) := dk_16 20 (dk_at dksX13_far_1 9 rfl rfl)
theorem dX13_far_33 : decode cX13_far 33 = .ok (.aload_n 1, 1) := dk_43 (dk_at dksX13_far_1 11 rfl rfl)
theorem dX13_far_34 : decode cX13_far 34 = .ok (.getfield 9, 3) := dk_180 0 9 (dk_at dksX13_far_1 12 rfl rfl)
theorem dX13_far_37 : decode cX13_far 37 = .ok (.iload_n 3, 1) := dk_29 (dk_at dksX13_far_1 15 rfl rfl)
theorem dX13_far_38 : decode cX13_far 38 = .ok (.iaload, 1) := dk_46 (dk_at dksX13_far_1 16 rfl rfl)
theorem dX13_far_39 : decode cX13_far 39 = .ok (.iadd, 1) := dk_96 (dk_at dksX13_far_1 17 rfl rfl)
theorem dX13_far_40 : decode cX13_far 40 = .ok (.ireturn, 1) := dk_172 (dk_at dksX13_far_1 18 rfl rfl)
theorem q149 : (Jvm.Cond.initialized "NextAtBar$Row") ∈ lw_all := lw_g (lw_at lw_m1 27 rfl) rfl
theorem q821 : (Jvm.Cond.selects "NextAtBar$Row" ({ cls := "java/lang/Object", name := "getClass", desc := "()Ljava/lang/Class;" } : Jvm.MethodName) ({ cls := "java/lang/Object", name := "getClass", desc := "()Ljava/lang/Class;" } : Jvm.MethodName)) ∈ lw_all := lw_g (lw_at lw_m3 219 rfl) rfl
theorem q861 : (Jvm.Cond.instantiable "NextAtBar$Row" (0 : Nat)) ∈ lw_all := lw_g (lw_at lw_m4 19 rfl) rfl
theorem q863 : (Jvm.Cond.instanceMethod ({ cls := "NextAtBar$Row", name := "<init>", desc := "()V" } : Jvm.MethodName)) ∈ lw_all := lw_g (lw_at lw_m4 21 rfl) rfl
theorem q864 : (Jvm.Cond.code ({ cls := "NextAtBar$Row", name := "<init>", desc := "()V" } : Jvm.MethodName) prog_16_method_1_code (1 : Nat) (Option.none : Option Jvm.ClassFile.FieldType)) ∈ lw_all := lw_g (lw_at lw_m4 22 rfl) rfl
theorem q865 : (Jvm.Cond.methodLinkNest "NextAtBar$Row" (3 : Nat) ({ cls := "NextAtBar$Nea\x72", name := "<init>", desc := "()V" } : Jvm.MethodName) "NextAtBa\x72") ∈ lw_tbl := lw_at lw_m4 23 rfl
theorem q872 : (Jvm.Cond.superclass "NextAtBar$Row" "NextAtBar$Nea\x72") ∈ lw_all := lw_g (lw_at lw_m4 30 rfl) rfl
theorem q1127 : (Jvm.Cond.fieldLink "NextAtBar$Row" (9 : Nat) "NextAtBar$Ba\x72" "place" "[I") ∈ lw_all := lw_g (lw_at lw_m5 45 rfl) rfl
theorem q1156 : (Jvm.Cond.fieldLink "NextAtBar$Row" (15 : Nat) "NextAtBar$Ba\x72" "at" "[I") ∈ lw_all := lw_g (lw_at lw_m5 74 rfl) rfl
theorem q1346 : (Jvm.Cond.selects "NextAtBar$Row" ({ cls := "NextAtBar$Rule", name := "fa\x72", desc := "(LNextAtBar$Bar;II)I" } : Jvm.MethodName) ({ cls := "NextAtBar$Row", name := "fa\x72", desc := "(LNextAtBar$Bar;II)I" } : Jvm.MethodName)) ∈ lw_all := lw_g (lw_at lw_m6 24 rfl) rfl
theorem q1347 : (Jvm.Cond.instanceMethod ({ cls := "NextAtBar$Row", name := "fa\x72", desc := "(LNextAtBar$Bar;II)I" } : Jvm.MethodName)) ∈ lw_all := lw_g (lw_at lw_m6 25 rfl) rfl
theorem q1348 : (Jvm.Cond.code ({ cls := "NextAtBar$Row", name := "fa\x72", desc := "(LNextAtBar$Bar;II)I" } : Jvm.MethodName) prog_16_method_3_code (4 : Nat) (Option.some Jvm.ClassFile.FieldType.int)) ∈ lw_all := lw_g (lw_at lw_m6 26 rfl) rfl
theorem q2522 : (Jvm.Cond.castable "NextAtBar$Row" "java/lang/Object") ∈ lw_tbl := lw_at lw_m11 0 rfl
theorem q2536 : (Jvm.Cond.castable "NextAtBar$Row" "NextAtBar$Rule") ∈ lw_tbl := lw_at lw_m11 14 rfl
/-! NextAtBar$Eye -/
set_option maxRecDepth 100000
def RX14 : String := "NextAtBar$Eye"
abbrev cX14_init : ByteArray := prog_5_method_1_code
def yX14_init : MethodName := ⟨RX14, "<init>", "()V"⟩
theorem dX14_init_0 : decode cX14_init 0 = .ok (.aload_n 0, 1) := by decide +kernel
theorem dX14_init_1 : decode cX14_init 1 = .ok (.invokespecial 3, 3) := by decide +kernel
theorem dX14_init_4 : decode cX14_init 4 = .ok (.return_, 1) := by decide +kernel
abbrev cX14_far : ByteArray := prog_5_method_3_code
def yX14_far : MethodName := ⟨RX14, "fa\x72", "(LNextAtBar$Bar;II)I"⟩
def dkwX14_far_0 : List UInt8 := [16, 99, 43, 180, 0, 9, 29, 46, 100, 172]
abbrev dktX14_far_0 : List UInt8 := dkwX14_far_0 ++ []
theorem dksX14_far_0 : cX14_far.data.toList.drop 0 = dktX14_far_0 := by decide +kernel
theorem dX14_far_0 : decode cX14_far 0 = .ok (.bipush 99, 2) := dk_16 99 (dk_at dksX14_far_0 0 rfl rfl)
theorem dX14_far_2 : decode cX14_far 2 = .ok (.aload_n 1, 1) := dk_43 (dk_at dksX14_far_0 2 rfl rfl)
theorem dX14_far_3 : decode cX14_far 3 = .ok (.getfield 9, 3) := dk_180 0 9 (dk_at dksX14_far_0 3 rfl rfl)
theorem dX14_far_6 : decode cX14_far 6 = .ok (.iload_n 3, 1) := dk_29 (dk_at dksX14_far_0 6 rfl rfl)
theorem dX14_far_7 : decode cX14_far 7 = .ok (.iaload, 1) := dk_46 (dk_at dksX14_far_0 7 rfl rfl)
theorem dX14_far_8 : decode cX14_far 8 = .ok (.isub, 1) := dk_100 (dk_at dksX14_far_0 8 rfl rfl)
theorem dX14_far_9 : decode cX14_far 9 = .ok (.ireturn, 1) := dk_172 (dk_at dksX14_far_0 9 rfl rfl)
theorem q150 : (Jvm.Cond.initialized "NextAtBar$Eye") ∈ lw_all := lw_g (lw_at lw_m1 28 rfl) rfl
theorem q810 : (Jvm.Cond.selects "NextAtBar$Eye" ({ cls := "java/lang/Object", name := "getClass", desc := "()Ljava/lang/Class;" } : Jvm.MethodName) ({ cls := "java/lang/Object", name := "getClass", desc := "()Ljava/lang/Class;" } : Jvm.MethodName)) ∈ lw_all := lw_g (lw_at lw_m3 208 rfl) rfl
theorem q878 : (Jvm.Cond.instantiable "NextAtBar$Eye" (0 : Nat)) ∈ lw_all := lw_g (lw_at lw_m4 36 rfl) rfl
theorem q880 : (Jvm.Cond.instanceMethod ({ cls := "NextAtBar$Eye", name := "<init>", desc := "()V" } : Jvm.MethodName)) ∈ lw_all := lw_g (lw_at lw_m4 38 rfl) rfl
theorem q881 : (Jvm.Cond.code ({ cls := "NextAtBar$Eye", name := "<init>", desc := "()V" } : Jvm.MethodName) prog_5_method_1_code (1 : Nat) (Option.none : Option Jvm.ClassFile.FieldType)) ∈ lw_all := lw_g (lw_at lw_m4 39 rfl) rfl
theorem q882 : (Jvm.Cond.methodLinkNest "NextAtBar$Eye" (3 : Nat) ({ cls := "NextAtBar$Rule", name := "<init>", desc := "()V" } : Jvm.MethodName) "NextAtBa\x72") ∈ lw_tbl := lw_at lw_m4 40 rfl
theorem q883 : (Jvm.Cond.superclass "NextAtBar$Eye" "NextAtBar$Rule") ∈ lw_all := lw_g (lw_at lw_m4 41 rfl) rfl
theorem q1131 : (Jvm.Cond.fieldLink "NextAtBar$Eye" (9 : Nat) "NextAtBar$Ba\x72" "look" "[I") ∈ lw_all := lw_g (lw_at lw_m5 49 rfl) rfl
theorem q1334 : (Jvm.Cond.selects "NextAtBar$Eye" ({ cls := "NextAtBar$Rule", name := "fa\x72", desc := "(LNextAtBar$Bar;II)I" } : Jvm.MethodName) ({ cls := "NextAtBar$Eye", name := "fa\x72", desc := "(LNextAtBar$Bar;II)I" } : Jvm.MethodName)) ∈ lw_all := lw_g (lw_at lw_m6 12 rfl) rfl
theorem q1335 : (Jvm.Cond.instanceMethod ({ cls := "NextAtBar$Eye", name := "fa\x72", desc := "(LNextAtBar$Bar;II)I" } : Jvm.MethodName)) ∈ lw_all := lw_g (lw_at lw_m6 13 rfl) rfl
theorem q1336 : (Jvm.Cond.code ({ cls := "NextAtBar$Eye", name := "fa\x72", desc := "(LNextAtBar$Bar;II)I" } : Jvm.MethodName) prog_5_method_3_code (4 : Nat) (Option.some Jvm.ClassFile.FieldType.int)) ∈ lw_all := lw_g (lw_at lw_m6 14 rfl) rfl
theorem q2524 : (Jvm.Cond.castable "NextAtBar$Eye" "java/lang/Object") ∈ lw_tbl := lw_at lw_m11 2 rfl
theorem q2538 : (Jvm.Cond.castable "NextAtBar$Eye" "NextAtBar$Rule") ∈ lw_tbl := lw_at lw_m11 16 rfl
/-! NextAtBar$Asked -/
set_option maxRecDepth 100000
def RX15 : String := "NextAtBar$Asked"
abbrev cX15_init : ByteArray := prog_2_method_1_code
def yX15_init : MethodName := ⟨RX15, "<init>", "()V"⟩
theorem dX15_init_0 : decode cX15_init 0 = .ok (.aload_n 0, 1) := by decide +kernel
theorem dX15_init_1 : decode cX15_init 1 = .ok (.invokespecial 1, 3) := by decide +kernel
theorem dX15_init_4 : decode cX15_init 4 = .ok (.return_, 1) := by decide +kernel
abbrev cX15_far : ByteArray := prog_2_method_3_code
def yX15_far : MethodName := ⟨RX15, "fa\x72", "(LNextAtBar$Bar;II)I"⟩
def dkwX15_far_0 : List UInt8 := [43, 180, 0, 7, 29, 46, 172]
abbrev dktX15_far_0 : List UInt8 := dkwX15_far_0 ++ []
theorem dksX15_far_0 : cX15_far.data.toList.drop 0 = dktX15_far_0 := by decide +kernel
theorem dX15_far_0 : decode cX15_far 0 = .ok (.aload_n 1, 1) := dk_43 (dk_at dksX15_far_0 0 rfl rfl)
theorem dX15_far_1 : decode cX15_far 1 = .ok (.getfield 7, 3) := dk_180 0 7 (dk_at dksX15_far_0 1 rfl rfl)
theorem dX15_far_4 : decode cX15_far 4 = .ok (.iload_n 3, 1) := dk_29 (dk_at dksX15_far_0 4 rfl rfl)
theorem dX15_far_5 : decode cX15_far 5 = .ok (.iaload, 1) := dk_46 (dk_at dksX15_far_0 5 rfl rfl)
theorem dX15_far_6 : decode cX15_far 6 = .ok (.ireturn, 1) := dk_172 (dk_at dksX15_far_0 6 rfl rfl)
theorem q151 : (Jvm.Cond.initialized "NextAtBar$Asked") ∈ lw_all := lw_g (lw_at lw_m1 29 rfl) rfl
theorem q807 : (Jvm.Cond.selects "NextAtBar$Asked" ({ cls := "java/lang/Object", name := "getClass", desc := "()Ljava/lang/Class;" } : Jvm.MethodName) ({ cls := "java/lang/Object", name := "getClass", desc := "()Ljava/lang/Class;" } : Jvm.MethodName)) ∈ lw_all := lw_g (lw_at lw_m3 205 rfl) rfl
theorem q885 : (Jvm.Cond.instantiable "NextAtBar$Asked" (0 : Nat)) ∈ lw_all := lw_g (lw_at lw_m4 43 rfl) rfl
theorem q887 : (Jvm.Cond.instanceMethod ({ cls := "NextAtBar$Asked", name := "<init>", desc := "()V" } : Jvm.MethodName)) ∈ lw_all := lw_g (lw_at lw_m4 45 rfl) rfl
theorem q888 : (Jvm.Cond.code ({ cls := "NextAtBar$Asked", name := "<init>", desc := "()V" } : Jvm.MethodName) prog_2_method_1_code (1 : Nat) (Option.none : Option Jvm.ClassFile.FieldType)) ∈ lw_all := lw_g (lw_at lw_m4 46 rfl) rfl
theorem q889 : (Jvm.Cond.methodLinkNest "NextAtBar$Asked" (1 : Nat) ({ cls := "NextAtBar$Rule", name := "<init>", desc := "()V" } : Jvm.MethodName) "NextAtBa\x72") ∈ lw_tbl := lw_at lw_m4 47 rfl
theorem q890 : (Jvm.Cond.superclass "NextAtBar$Asked" "NextAtBar$Rule") ∈ lw_all := lw_g (lw_at lw_m4 48 rfl) rfl
theorem q1134 : (Jvm.Cond.fieldLink "NextAtBar$Asked" (7 : Nat) "NextAtBar$Ba\x72" "says" "[I") ∈ lw_all := lw_g (lw_at lw_m5 52 rfl) rfl
theorem q1331 : (Jvm.Cond.selects "NextAtBar$Asked" ({ cls := "NextAtBar$Rule", name := "fa\x72", desc := "(LNextAtBar$Bar;II)I" } : Jvm.MethodName) ({ cls := "NextAtBar$Asked", name := "fa\x72", desc := "(LNextAtBar$Bar;II)I" } : Jvm.MethodName)) ∈ lw_all := lw_g (lw_at lw_m6 9 rfl) rfl
theorem q1332 : (Jvm.Cond.instanceMethod ({ cls := "NextAtBar$Asked", name := "fa\x72", desc := "(LNextAtBar$Bar;II)I" } : Jvm.MethodName)) ∈ lw_all := lw_g (lw_at lw_m6 10 rfl) rfl
theorem q1333 : (Jvm.Cond.code ({ cls := "NextAtBar$Asked", name := "fa\x72", desc := "(LNextAtBar$Bar;II)I" } : Jvm.MethodName) prog_2_method_3_code (4 : Nat) (Option.some Jvm.ClassFile.FieldType.int)) ∈ lw_all := lw_g (lw_at lw_m6 11 rfl) rfl
theorem q2525 : (Jvm.Cond.castable "NextAtBar$Asked" "java/lang/Object") ∈ lw_tbl := lw_at lw_m11 3 rfl
theorem q2539 : (Jvm.Cond.castable "NextAtBar$Asked" "NextAtBar$Rule") ∈ lw_tbl := lw_at lw_m11 17 rfl
/-! NextAtBar$Regulars -/
set_option maxRecDepth 100000
def RX16 : String := "NextAtBar$Regulars"
abbrev cX16_init : ByteArray := prog_15_method_1_code
def yX16_init : MethodName := ⟨RX16, "<init>", "()V"⟩
theorem dX16_init_0 : decode cX16_init 0 = .ok (.aload_n 0, 1) := by decide +kernel
theorem dX16_init_1 : decode cX16_init 1 = .ok (.invokespecial 1, 3) := by decide +kernel
theorem dX16_init_4 : decode cX16_init 4 = .ok (.return_, 1) := by decide +kernel
abbrev cX16_far : ByteArray := prog_15_method_3_code
def yX16_far : MethodName := ⟨RX16, "fa\x72", "(LNextAtBar$Bar;II)I"⟩
def dkwX16_far_0 : List UInt8 := [43, 180, 0, 7, 29, 51, 153, 0, 7, 3, 167, 0, 4, 4, 172]
abbrev dktX16_far_0 : List UInt8 := dkwX16_far_0 ++ []
theorem dksX16_far_0 : cX16_far.data.toList.drop 0 = dktX16_far_0 := by decide +kernel
theorem dX16_far_0 : decode cX16_far 0 = .ok (.aload_n 1, 1) := dk_43 (dk_at dksX16_far_0 0 rfl rfl)
theorem dX16_far_1 : decode cX16_far 1 = .ok (.getfield 7, 3) := dk_180 0 7 (dk_at dksX16_far_0 1 rfl rfl)
theorem dX16_far_4 : decode cX16_far 4 = .ok (.iload_n 3, 1) := dk_29 (dk_at dksX16_far_0 4 rfl rfl)
theorem dX16_far_5 : decode cX16_far 5 = .ok (.baload, 1) := dk_51 (dk_at dksX16_far_0 5 rfl rfl)
theorem dX16_far_6 : decode cX16_far 6 = .ok (.ifCond .eq 7, 3) := dk_153 0 7 (dk_at dksX16_far_0 6 rfl rfl)
theorem dX16_far_9 : decode cX16_far 9 = .ok (.iconst 0, 1) := dk_3 (dk_at dksX16_far_0 9 rfl rfl)
theorem dX16_far_10 : decode cX16_far 10 = .ok (.goto 4, 3) := dk_167 0 4 (dk_at dksX16_far_0 10 rfl rfl)
theorem dX16_far_13 : decode cX16_far 13 = .ok (.iconst 1, 1) := dk_4 (dk_at dksX16_far_0 13 rfl rfl)
theorem dX16_far_14 : decode cX16_far 14 = .ok (.ireturn, 1) := dk_172 (dk_at dksX16_far_0 14 rfl rfl)
theorem q152 : (Jvm.Cond.initialized "NextAtBar$Regulars") ∈ lw_all := lw_g (lw_at lw_m1 30 rfl) rfl
theorem q820 : (Jvm.Cond.selects "NextAtBar$Regulars" ({ cls := "java/lang/Object", name := "getClass", desc := "()Ljava/lang/Class;" } : Jvm.MethodName) ({ cls := "java/lang/Object", name := "getClass", desc := "()Ljava/lang/Class;" } : Jvm.MethodName)) ∈ lw_all := lw_g (lw_at lw_m3 218 rfl) rfl
theorem q892 : (Jvm.Cond.instantiable "NextAtBar$Regulars" (0 : Nat)) ∈ lw_all := lw_g (lw_at lw_m4 50 rfl) rfl
theorem q894 : (Jvm.Cond.instanceMethod ({ cls := "NextAtBar$Regulars", name := "<init>", desc := "()V" } : Jvm.MethodName)) ∈ lw_all := lw_g (lw_at lw_m4 52 rfl) rfl
theorem q895 : (Jvm.Cond.code ({ cls := "NextAtBar$Regulars", name := "<init>", desc := "()V" } : Jvm.MethodName) prog_15_method_1_code (1 : Nat) (Option.none : Option Jvm.ClassFile.FieldType)) ∈ lw_all := lw_g (lw_at lw_m4 53 rfl) rfl
theorem q896 : (Jvm.Cond.methodLinkNest "NextAtBar$Regulars" (1 : Nat) ({ cls := "NextAtBar$Rule", name := "<init>", desc := "()V" } : Jvm.MethodName) "NextAtBa\x72") ∈ lw_tbl := lw_at lw_m4 54 rfl
theorem q897 : (Jvm.Cond.superclass "NextAtBar$Regulars" "NextAtBar$Rule") ∈ lw_all := lw_g (lw_at lw_m4 55 rfl) rfl
theorem q1152 : (Jvm.Cond.fieldLink "NextAtBar$Regulars" (7 : Nat) "NextAtBar$Ba\x72" "isRegula\x72" "[Z") ∈ lw_all := lw_g (lw_at lw_m5 70 rfl) rfl
theorem q1343 : (Jvm.Cond.selects "NextAtBar$Regulars" ({ cls := "NextAtBar$Rule", name := "fa\x72", desc := "(LNextAtBar$Bar;II)I" } : Jvm.MethodName) ({ cls := "NextAtBar$Regulars", name := "fa\x72", desc := "(LNextAtBar$Bar;II)I" } : Jvm.MethodName)) ∈ lw_all := lw_g (lw_at lw_m6 21 rfl) rfl
theorem q1344 : (Jvm.Cond.instanceMethod ({ cls := "NextAtBar$Regulars", name := "fa\x72", desc := "(LNextAtBar$Bar;II)I" } : Jvm.MethodName)) ∈ lw_all := lw_g (lw_at lw_m6 22 rfl) rfl
theorem q1345 : (Jvm.Cond.code ({ cls := "NextAtBar$Regulars", name := "fa\x72", desc := "(LNextAtBar$Bar;II)I" } : Jvm.MethodName) prog_15_method_3_code (4 : Nat) (Option.some Jvm.ClassFile.FieldType.int)) ∈ lw_all := lw_g (lw_at lw_m6 23 rfl) rfl
theorem q2526 : (Jvm.Cond.castable "NextAtBar$Regulars" "java/lang/Object") ∈ lw_tbl := lw_at lw_m11 4 rfl
theorem q2540 : (Jvm.Cond.castable "NextAtBar$Regulars" "NextAtBar$Rule") ∈ lw_tbl := lw_at lw_m11 18 rfl
/-! NextAtBar$Drink -/
set_option maxRecDepth 100000
def RX9 : String := "NextAtBar$Drink"
def TX9 : u_T := fun k => match k with
  | 0 => ("NextAtBar$Drink", "name", "Ljava/lang/String;", true)
  | 1 => ("NextAtBar$Drink", "takes", "I", true)
  | 2 => ("NextAtBar$Drink", "then", "I", true)
  | _ => ("NextAtBar$Drink", "costs", "I", true)
def tyX9 : Nat → FieldType := fun k => match k with
  | 0 => .object "java/lang/String"
  | 1 => .int
  | 2 => .int
  | _ => .int
abbrev wsX90 : List Cond := u_ws RX9 TX9 4
theorem nmX9 : ∀ a, a < 4 → ∀ b, b < 4 → a ≠ b → (TX9 a).2.1 ≠ (TX9 b).2.1 := by decide +kernel
theorem tyX9_ok : ∀ k, k < 4 → parseFieldDescriptor (TX9 k).2.2.1 = some (tyX9 k) := by decide +kernel
abbrev cX9_init : ByteArray := prog_4_method_1_code
def yX9_init : MethodName := ⟨RX9, "<init>", "(Ljava/lang/String;III)V"⟩
def dkwX9_init_1 : List UInt8 := [181, 0, 20, 177]
abbrev dktX9_init_1 : List UInt8 := dkwX9_init_1 ++ []
def dkwX9_init_0 : List UInt8 := [42, 183, 0, 1, 42, 43, 181, 0, 7, 42, 28, 181, 0, 13, 42, 29, 181, 0, 17, 42, 21, 4]
abbrev dktX9_init_0 : List UInt8 := dkwX9_init_0 ++ dktX9_init_1
theorem dksX9_init_0 : cX9_init.data.toList.drop 0 = dktX9_init_0 := by decide +kernel
theorem dksX9_init_1 : cX9_init.data.toList.drop 22 = dktX9_init_1 := dk_seg dksX9_init_0 22 rfl rfl
theorem dX9_init_0 : decode cX9_init 0 = .ok (.aload_n 0, 1) := dk_42 (dk_at dksX9_init_0 0 rfl rfl)
theorem dX9_init_1 : decode cX9_init 1 = .ok (.invokespecial 1, 3) := dk_183 0 1 (dk_at dksX9_init_0 1 rfl rfl)
theorem dX9_init_4 : decode cX9_init 4 = .ok (.aload_n 0, 1) := dk_42 (dk_at dksX9_init_0 4 rfl rfl)
theorem dX9_init_5 : decode cX9_init 5 = .ok (.aload_n 1, 1) := dk_43 (dk_at dksX9_init_0 5 rfl rfl)
theorem dX9_init_6 : decode cX9_init 6 = .ok (.putfield 7, 3) := dk_181 0 7 (dk_at dksX9_init_0 6 rfl rfl)
theorem dX9_init_9 : decode cX9_init 9 = .ok (.aload_n 0, 1) := dk_42 (dk_at dksX9_init_0 9 rfl rfl)
theorem dX9_init_10 : decode cX9_init 10 = .ok (.iload_n 2, 1) := dk_28 (dk_at dksX9_init_0 10 rfl rfl)
theorem dX9_init_11 : decode cX9_init 11 = .ok (.putfield 13, 3) := dk_181 0 13 (dk_at dksX9_init_0 11 rfl rfl)
theorem dX9_init_14 : decode cX9_init 14 = .ok (.aload_n 0, 1) := dk_42 (dk_at dksX9_init_0 14 rfl rfl)
theorem dX9_init_15 : decode cX9_init 15 = .ok (.iload_n 3, 1) := dk_29 (dk_at dksX9_init_0 15 rfl rfl)
theorem dX9_init_16 : decode cX9_init 16 = .ok (.putfield 17, 3) := dk_181 0 17 (dk_at dksX9_init_0 16 rfl rfl)
theorem dX9_init_19 : decode cX9_init 19 = .ok (.aload_n 0, 1) := dk_42 (dk_at dksX9_init_0 19 rfl rfl)
theorem dX9_init_20 : decode cX9_init 20 = .ok (.iload 4, 2) := dk_21 4 (dk_at dksX9_init_0 20 rfl rfl)
theorem dX9_init_22 : decode cX9_init 22 = .ok (.putfield 20, 3) := dk_181 0 20 (dk_at dksX9_init_1 0 rfl rfl)
theorem dX9_init_25 : decode cX9_init 25 = .ok (.return_, 1) := dk_177 (dk_at dksX9_init_1 3 rfl rfl)
abbrev cX9_time : ByteArray := prog_4_method_2_code
def yX9_time : MethodName := ⟨RX9, "time", "(IZ)I"⟩
def dkwX9_time_1 : List UInt8 := [180, 0, 17, 27, 4, 100, 104, 96, 172]
abbrev dktX9_time_1 : List UInt8 := dkwX9_time_1 ++ []
def dkwX9_time_0 : List UInt8 := [27, 154, 0, 7, 3, 167, 0, 27, 28, 153, 0, 10, 42, 180, 0, 17, 167, 0, 7, 42, 180, 0, 13, 42]
abbrev dktX9_time_0 : List UInt8 := dkwX9_time_0 ++ dktX9_time_1
theorem dksX9_time_0 : cX9_time.data.toList.drop 0 = dktX9_time_0 := by decide +kernel
theorem dksX9_time_1 : cX9_time.data.toList.drop 24 = dktX9_time_1 := dk_seg dksX9_time_0 24 rfl rfl
theorem dX9_time_0 : decode cX9_time 0 = .ok (.iload_n 1, 1) := dk_27 (dk_at dksX9_time_0 0 rfl rfl)
theorem dX9_time_1 : decode cX9_time 1 = .ok (.ifCond .ne 7, 3) := dk_154 0 7 (dk_at dksX9_time_0 1 rfl rfl)
theorem dX9_time_4 : decode cX9_time 4 = .ok (.iconst 0, 1) := dk_3 (dk_at dksX9_time_0 4 rfl rfl)
theorem dX9_time_5 : decode cX9_time 5 = .ok (.goto 27, 3) := dk_167 0 27 (dk_at dksX9_time_0 5 rfl rfl)
theorem dX9_time_8 : decode cX9_time 8 = .ok (.iload_n 2, 1) := dk_28 (dk_at dksX9_time_0 8 rfl rfl)
theorem dX9_time_9 : decode cX9_time 9 = .ok (.ifCond .eq 10, 3) := dk_153 0 10 (dk_at dksX9_time_0 9 rfl rfl)
theorem dX9_time_12 : decode cX9_time 12 = .ok (.aload_n 0, 1) := dk_42 (dk_at dksX9_time_0 12 rfl rfl)
theorem dX9_time_13 : decode cX9_time 13 = .ok (.getfield 17, 3) := dk_180 0 17 (dk_at dksX9_time_0 13 rfl rfl)
theorem dX9_time_16 : decode cX9_time 16 = .ok (.goto 7, 3) := dk_167 0 7 (dk_at dksX9_time_0 16 rfl rfl)
theorem dX9_time_19 : decode cX9_time 19 = .ok (.aload_n 0, 1) := dk_42 (dk_at dksX9_time_0 19 rfl rfl)
theorem dX9_time_20 : decode cX9_time 20 = .ok (.getfield 13, 3) := dk_180 0 13 (dk_at dksX9_time_0 20 rfl rfl)
theorem dX9_time_23 : decode cX9_time 23 = .ok (.aload_n 0, 1) := dk_42 (dk_at dksX9_time_0 23 rfl rfl)
theorem dX9_time_24 : decode cX9_time 24 = .ok (.getfield 17, 3) := dk_180 0 17 (dk_at dksX9_time_1 0 rfl rfl)
theorem dX9_time_27 : decode cX9_time 27 = .ok (.iload_n 1, 1) := dk_27 (dk_at dksX9_time_1 3 rfl rfl)
theorem dX9_time_28 : decode cX9_time 28 = .ok (.iconst 1, 1) := dk_4 (dk_at dksX9_time_1 4 rfl rfl)
theorem dX9_time_29 : decode cX9_time 29 = .ok (.isub, 1) := dk_100 (dk_at dksX9_time_1 5 rfl rfl)
theorem dX9_time_30 : decode cX9_time 30 = .ok (.imul, 1) := dk_104 (dk_at dksX9_time_1 6 rfl rfl)
theorem dX9_time_31 : decode cX9_time 31 = .ok (.iadd, 1) := dk_96 (dk_at dksX9_time_1 7 rfl rfl)
theorem dX9_time_32 : decode cX9_time 32 = .ok (.ireturn, 1) := dk_172 (dk_at dksX9_time_1 8 rfl rfl)
theorem q145 : (Jvm.Cond.initialized "NextAtBar$Drink") ∈ lw_all := lw_g (lw_at lw_m1 23 rfl) rfl
theorem q763 : (Jvm.Cond.instantiable "NextAtBar$Drink" (4 : Nat)) ∈ lw_all := lw_g (lw_at lw_m3 161 rfl) rfl
theorem q765 : (Jvm.Cond.instanceMethod ({ cls := "NextAtBar$Drink", name := "<init>", desc := "(Ljava/lang/String;III)V" } : Jvm.MethodName)) ∈ lw_all := lw_g (lw_at lw_m3 163 rfl) rfl
theorem q766 : (Jvm.Cond.code ({ cls := "NextAtBar$Drink", name := "<init>", desc := "(Ljava/lang/String;III)V" } : Jvm.MethodName) prog_4_method_1_code (5 : Nat) (Option.none : Option Jvm.ClassFile.FieldType)) ∈ lw_all := lw_g (lw_at lw_m3 164 rfl) rfl
theorem q767 : (Jvm.Cond.methodLink "NextAtBar$Drink" (1 : Nat) ({ cls := "java/lang/Object", name := "<init>", desc := "()V" } : Jvm.MethodName)) ∈ lw_all := lw_g (lw_at lw_m3 165 rfl) rfl
theorem q768 : (Jvm.Cond.fieldLink "NextAtBar$Drink" (7 : Nat) "NextAtBar$Drink" "name" "Ljava/lang/String;") ∈ lw_all := lw_g (lw_at lw_m3 166 rfl) rfl
theorem q770 : (Jvm.Cond.fieldLink "NextAtBar$Drink" (13 : Nat) "NextAtBar$Drink" "takes" "I") ∈ lw_all := lw_g (lw_at lw_m3 168 rfl) rfl
theorem q771 : (Jvm.Cond.fieldLink "NextAtBar$Drink" (17 : Nat) "NextAtBar$Drink" "then" "I") ∈ lw_all := lw_g (lw_at lw_m3 169 rfl) rfl
theorem q772 : (Jvm.Cond.fieldLink "NextAtBar$Drink" (20 : Nat) "NextAtBar$Drink" "costs" "I") ∈ lw_all := lw_g (lw_at lw_m3 170 rfl) rfl
theorem q774 : (Jvm.Cond.laysFinal "NextAtBar$Drink" "NextAtBar$Drink" "name" "Ljava/lang/String;") ∈ lw_all := lw_g (lw_at lw_m3 172 rfl) rfl
theorem q775 : (Jvm.Cond.soleField "NextAtBar$Drink" "name") ∈ lw_all := lw_g (lw_at lw_m3 173 rfl) rfl
theorem q776 : (Jvm.Cond.laysFinal "NextAtBar$Drink" "NextAtBar$Drink" "takes" "I") ∈ lw_all := lw_g (lw_at lw_m3 174 rfl) rfl
theorem q777 : (Jvm.Cond.soleField "NextAtBar$Drink" "takes") ∈ lw_all := lw_g (lw_at lw_m3 175 rfl) rfl
theorem q778 : (Jvm.Cond.laysFinal "NextAtBar$Drink" "NextAtBar$Drink" "then" "I") ∈ lw_all := lw_g (lw_at lw_m3 176 rfl) rfl
theorem q779 : (Jvm.Cond.soleField "NextAtBar$Drink" "then") ∈ lw_all := lw_g (lw_at lw_m3 177 rfl) rfl
theorem q780 : (Jvm.Cond.laysFinal "NextAtBar$Drink" "NextAtBar$Drink" "costs" "I") ∈ lw_all := lw_g (lw_at lw_m3 178 rfl) rfl
theorem q781 : (Jvm.Cond.soleField "NextAtBar$Drink" "costs") ∈ lw_all := lw_g (lw_at lw_m3 179 rfl) rfl
theorem q782 : (Jvm.Cond.superclass "NextAtBar$Drink" "java/lang/Object") ∈ lw_all := lw_g (lw_at lw_m3 180 rfl) rfl
theorem q809 : (Jvm.Cond.selects "NextAtBar$Drink" ({ cls := "java/lang/Object", name := "getClass", desc := "()Ljava/lang/Class;" } : Jvm.MethodName) ({ cls := "java/lang/Object", name := "getClass", desc := "()Ljava/lang/Class;" } : Jvm.MethodName)) ∈ lw_all := lw_g (lw_at lw_m3 207 rfl) rfl
theorem q1370 : (Jvm.Cond.instanceMethod ({ cls := "NextAtBar$Drink", name := "time", desc := "(IZ)I" } : Jvm.MethodName)) ∈ lw_all := lw_g (lw_at lw_m6 48 rfl) rfl
theorem q1371 : (Jvm.Cond.selects "NextAtBar$Drink" ({ cls := "NextAtBar$Drink", name := "time", desc := "(IZ)I" } : Jvm.MethodName) ({ cls := "NextAtBar$Drink", name := "time", desc := "(IZ)I" } : Jvm.MethodName)) ∈ lw_all := lw_g (lw_at lw_m6 49 rfl) rfl
theorem q1372 : (Jvm.Cond.code ({ cls := "NextAtBar$Drink", name := "time", desc := "(IZ)I" } : Jvm.MethodName) prog_4_method_2_code (3 : Nat) (Option.some Jvm.ClassFile.FieldType.int)) ∈ lw_all := lw_g (lw_at lw_m6 50 rfl) rfl
theorem q2520 : (Jvm.Cond.castable "NextAtBar$Drink" "java/lang/Object") ∈ lw_tbl := lw_at lw_m10 238 rfl
theorem in_X9 : ∀ w ∈ wsX90, w ∈ lw_all := lw_in wsX90 [774, 776, 778, 780] (by decide +kernel) (by decide +kernel)
/-! NextAtBar$Server -/
set_option maxRecDepth 100000
def RX10 : String := "NextAtBar$Serve\x72"
def TX10 : u_T := fun k => match k with
  | 0 => ("NextAtBar$Serve\x72", "name", "Ljava/lang/String;", true)
  | 1 => ("NextAtBar$Serve\x72", "rule", "LNextAtBar$Rule;", true)
  | 2 => ("NextAtBar$Serve\x72", "at", "I", false)
  | 3 => ("NextAtBar$Serve\x72", "from", "I", false)
  | 4 => ("NextAtBar$Serve\x72", "to", "I", false)
  | 5 => ("NextAtBar$Serve\x72", "step", "I", false)
  | _ => ("NextAtBar$Serve\x72", "hands", "I", false)
def tyX10 : Nat → FieldType := fun k => match k with
  | 0 => .object "java/lang/String"
  | 1 => .object "NextAtBar$Rule"
  | 2 => .int
  | 3 => .int
  | 4 => .int
  | 5 => .int
  | _ => .int
abbrev wsX100 : List Cond := u_ws RX10 TX10 7
theorem nmX10 : ∀ a, a < 7 → ∀ b, b < 7 → a ≠ b → (TX10 a).2.1 ≠ (TX10 b).2.1 := by decide +kernel
theorem tyX10_ok : ∀ k, k < 7 → parseFieldDescriptor (TX10 k).2.2.1 = some (tyX10 k) := by decide +kernel
abbrev cX10_init : ByteArray := prog_18_method_1_code
def yX10_init : MethodName := ⟨RX10, "<init>", "(Ljava/lang/String;LNextAtBar$Rule;)V"⟩
def dkwX10_init_0 : List UInt8 := [42, 183, 0, 1, 42, 43, 181, 0, 7, 42, 44, 181, 0, 13, 177]
abbrev dktX10_init_0 : List UInt8 := dkwX10_init_0 ++ []
theorem dksX10_init_0 : cX10_init.data.toList.drop 0 = dktX10_init_0 := by decide +kernel
theorem dX10_init_0 : decode cX10_init 0 = .ok (.aload_n 0, 1) := dk_42 (dk_at dksX10_init_0 0 rfl rfl)
theorem dX10_init_1 : decode cX10_init 1 = .ok (.invokespecial 1, 3) := dk_183 0 1 (dk_at dksX10_init_0 1 rfl rfl)
theorem dX10_init_4 : decode cX10_init 4 = .ok (.aload_n 0, 1) := dk_42 (dk_at dksX10_init_0 4 rfl rfl)
theorem dX10_init_5 : decode cX10_init 5 = .ok (.aload_n 1, 1) := dk_43 (dk_at dksX10_init_0 5 rfl rfl)
theorem dX10_init_6 : decode cX10_init 6 = .ok (.putfield 7, 3) := dk_181 0 7 (dk_at dksX10_init_0 6 rfl rfl)
theorem dX10_init_9 : decode cX10_init 9 = .ok (.aload_n 0, 1) := dk_42 (dk_at dksX10_init_0 9 rfl rfl)
theorem dX10_init_10 : decode cX10_init 10 = .ok (.aload_n 2, 1) := dk_44 (dk_at dksX10_init_0 10 rfl rfl)
theorem dX10_init_11 : decode cX10_init 11 = .ok (.putfield 13, 3) := dk_181 0 13 (dk_at dksX10_init_0 11 rfl rfl)
theorem dX10_init_14 : decode cX10_init 14 = .ok (.return_, 1) := dk_177 (dk_at dksX10_init_0 14 rfl rfl)
theorem q146 : (Jvm.Cond.initialized "NextAtBar$Serve\x72") ∈ lw_all := lw_g (lw_at lw_m1 24 rfl) rfl
theorem q822 : (Jvm.Cond.selects "NextAtBar$Serve\x72" ({ cls := "java/lang/Object", name := "getClass", desc := "()Ljava/lang/Class;" } : Jvm.MethodName) ({ cls := "java/lang/Object", name := "getClass", desc := "()Ljava/lang/Class;" } : Jvm.MethodName)) ∈ lw_all := lw_g (lw_at lw_m3 220 rfl) rfl
theorem q847 : (Jvm.Cond.instantiable "NextAtBar$Serve\x72" (7 : Nat)) ∈ lw_all := lw_g (lw_at lw_m4 5 rfl) rfl
theorem q899 : (Jvm.Cond.instanceMethod ({ cls := "NextAtBar$Serve\x72", name := "<init>", desc := "(Ljava/lang/String;LNextAtBar$Rule;)V" } : Jvm.MethodName)) ∈ lw_all := lw_g (lw_at lw_m4 57 rfl) rfl
theorem q900 : (Jvm.Cond.code ({ cls := "NextAtBar$Serve\x72", name := "<init>", desc := "(Ljava/lang/String;LNextAtBar$Rule;)V" } : Jvm.MethodName) prog_18_method_1_code (3 : Nat) (Option.none : Option Jvm.ClassFile.FieldType)) ∈ lw_all := lw_g (lw_at lw_m4 58 rfl) rfl
theorem q901 : (Jvm.Cond.methodLink "NextAtBar$Serve\x72" (1 : Nat) ({ cls := "java/lang/Object", name := "<init>", desc := "()V" } : Jvm.MethodName)) ∈ lw_all := lw_g (lw_at lw_m4 59 rfl) rfl
theorem q902 : (Jvm.Cond.fieldLink "NextAtBar$Serve\x72" (7 : Nat) "NextAtBar$Serve\x72" "name" "Ljava/lang/String;") ∈ lw_all := lw_g (lw_at lw_m4 60 rfl) rfl
theorem q904 : (Jvm.Cond.fieldLink "NextAtBar$Serve\x72" (13 : Nat) "NextAtBar$Serve\x72" "rule" "LNextAtBar$Rule;") ∈ lw_all := lw_g (lw_at lw_m4 62 rfl) rfl
theorem q920 : (Jvm.Cond.laysFinal "NextAtBar$Serve\x72" "NextAtBar$Serve\x72" "name" "Ljava/lang/String;") ∈ lw_all := lw_g (lw_at lw_m4 78 rfl) rfl
theorem q921 : (Jvm.Cond.soleField "NextAtBar$Serve\x72" "name") ∈ lw_all := lw_g (lw_at lw_m4 79 rfl) rfl
theorem q922 : (Jvm.Cond.laysFinal "NextAtBar$Serve\x72" "NextAtBar$Serve\x72" "rule" "LNextAtBar$Rule;") ∈ lw_all := lw_g (lw_at lw_m4 80 rfl) rfl
theorem q923 : (Jvm.Cond.soleField "NextAtBar$Serve\x72" "rule") ∈ lw_all := lw_g (lw_at lw_m4 81 rfl) rfl
theorem q924 : (Jvm.Cond.lays "NextAtBar$Serve\x72" "NextAtBar$Serve\x72" "at" "I") ∈ lw_all := lw_g (lw_at lw_m4 82 rfl) rfl
theorem q925 : (Jvm.Cond.soleField "NextAtBar$Serve\x72" "at") ∈ lw_all := lw_g (lw_at lw_m4 83 rfl) rfl
theorem q926 : (Jvm.Cond.lays "NextAtBar$Serve\x72" "NextAtBar$Serve\x72" "from" "I") ∈ lw_all := lw_g (lw_at lw_m4 84 rfl) rfl
theorem q927 : (Jvm.Cond.soleField "NextAtBar$Serve\x72" "from") ∈ lw_all := lw_g (lw_at lw_m4 85 rfl) rfl
theorem q928 : (Jvm.Cond.lays "NextAtBar$Serve\x72" "NextAtBar$Serve\x72" "to" "I") ∈ lw_all := lw_g (lw_at lw_m4 86 rfl) rfl
theorem q929 : (Jvm.Cond.soleField "NextAtBar$Serve\x72" "to") ∈ lw_all := lw_g (lw_at lw_m4 87 rfl) rfl
theorem q930 : (Jvm.Cond.lays "NextAtBar$Serve\x72" "NextAtBar$Serve\x72" "step" "I") ∈ lw_all := lw_g (lw_at lw_m4 88 rfl) rfl
theorem q931 : (Jvm.Cond.soleField "NextAtBar$Serve\x72" "step") ∈ lw_all := lw_g (lw_at lw_m4 89 rfl) rfl
theorem q932 : (Jvm.Cond.lays "NextAtBar$Serve\x72" "NextAtBar$Serve\x72" "hands" "I") ∈ lw_all := lw_g (lw_at lw_m4 90 rfl) rfl
theorem q933 : (Jvm.Cond.soleField "NextAtBar$Serve\x72" "hands") ∈ lw_all := lw_g (lw_at lw_m4 91 rfl) rfl
theorem q934 : (Jvm.Cond.superclass "NextAtBar$Serve\x72" "java/lang/Object") ∈ lw_all := lw_g (lw_at lw_m4 92 rfl) rfl
theorem q2521 : (Jvm.Cond.castable "NextAtBar$Serve\x72" "java/lang/Object") ∈ lw_tbl := lw_at lw_m10 239 rfl
theorem in_X10 : ∀ w ∈ wsX100, w ∈ lw_all := lw_in wsX100 [920, 922, 924, 926, 928, 930, 932] (by decide +kernel) (by decide +kernel)
/-! NextAtBar$Person -/
set_option maxRecDepth 100000
def RX17 : String := "NextAtBar$Person"
def TX17 : u_T := fun k => match k with
  | 0 => ("NextAtBar$Person", "name", "Ljava/lang/String;", true)
  | 1 => ("NextAtBar$Person", "manne\x72", "LNextAtBar$Manner;", true)
  | 2 => ("NextAtBar$Person", "wants", "[I", true)
  | 3 => ("NextAtBar$Person", "comes", "I", false)
  | 4 => ("NextAtBar$Person", "at", "I", false)
  | 5 => ("NextAtBar$Person", "patience", "I", false)
  | 6 => ("NextAtBar$Person", "look", "I", false)
  | _ => ("NextAtBar$Person", "shelf", "I", false)
def tyX17 : Nat → FieldType := fun k => match k with
  | 0 => .object "java/lang/String"
  | 1 => .object "NextAtBar$Manne\x72"
  | 2 => .array .int
  | 3 => .int
  | 4 => .int
  | 5 => .int
  | 6 => .int
  | _ => .int
abbrev wsX170 : List Cond := u_ws RX17 TX17 8
theorem nmX17 : ∀ a, a < 8 → ∀ b, b < 8 → a ≠ b → (TX17 a).2.1 ≠ (TX17 b).2.1 := by decide +kernel
theorem tyX17_ok : ∀ k, k < 8 → parseFieldDescriptor (TX17 k).2.2.1 = some (tyX17 k) := by decide +kernel
abbrev cX17_init : ByteArray := prog_11_method_1_code
def yX17_init : MethodName := ⟨RX17, "<init>", "(Ljava/lang/String;LNextAtBar$Manner;)V"⟩
def dkwX17_init_1 : List UInt8 := [181, 0, 23, 177]
abbrev dktX17_init_1 : List UInt8 := dkwX17_init_1 ++ []
def dkwX17_init_0 : List UInt8 := [42, 183, 0, 3, 42, 8, 188, 10, 181, 0, 9, 42, 16, 254, 181, 0, 15, 42, 43, 181, 0, 19, 42, 44]
abbrev dktX17_init_0 : List UInt8 := dkwX17_init_0 ++ dktX17_init_1
theorem dksX17_init_0 : cX17_init.data.toList.drop 0 = dktX17_init_0 := by decide +kernel
theorem dksX17_init_1 : cX17_init.data.toList.drop 24 = dktX17_init_1 := dk_seg dksX17_init_0 24 rfl rfl
theorem dX17_init_0 : decode cX17_init 0 = .ok (.aload_n 0, 1) := dk_42 (dk_at dksX17_init_0 0 rfl rfl)
theorem dX17_init_1 : decode cX17_init 1 = .ok (.invokespecial 3, 3) := dk_183 0 3 (dk_at dksX17_init_0 1 rfl rfl)
theorem dX17_init_4 : decode cX17_init 4 = .ok (.aload_n 0, 1) := dk_42 (dk_at dksX17_init_0 4 rfl rfl)
theorem dX17_init_5 : decode cX17_init 5 = .ok (.iconst 5, 1) := dk_8 (dk_at dksX17_init_0 5 rfl rfl)
theorem dX17_init_6 : decode cX17_init 6 = .ok (.newarray .int, 2) := dk_188_10 (dk_at dksX17_init_0 6 rfl rfl)
theorem dX17_init_8 : decode cX17_init 8 = .ok (.putfield 9, 3) := dk_181 0 9 (dk_at dksX17_init_0 8 rfl rfl)
theorem dX17_init_11 : decode cX17_init 11 = .ok (.aload_n 0, 1) := dk_42 (dk_at dksX17_init_0 11 rfl rfl)
theorem dX17_init_12 : decode cX17_init 12 = .ok (.bipush (-2), 2) := dk_16 254 (dk_at dksX17_init_0 12 rfl rfl)
theorem dX17_init_14 : decode cX17_init 14 = .ok (.putfield 15, 3) := dk_181 0 15 (dk_at dksX17_init_0 14 rfl rfl)
theorem dX17_init_17 : decode cX17_init 17 = .ok (.aload_n 0, 1) := dk_42 (dk_at dksX17_init_0 17 rfl rfl)
theorem dX17_init_18 : decode cX17_init 18 = .ok (.aload_n 1, 1) := dk_43 (dk_at dksX17_init_0 18 rfl rfl)
theorem dX17_init_19 : decode cX17_init 19 = .ok (.putfield 19, 3) := dk_181 0 19 (dk_at dksX17_init_0 19 rfl rfl)
theorem dX17_init_22 : decode cX17_init 22 = .ok (.aload_n 0, 1) := dk_42 (dk_at dksX17_init_0 22 rfl rfl)
theorem dX17_init_23 : decode cX17_init 23 = .ok (.aload_n 2, 1) := dk_44 (dk_at dksX17_init_0 23 rfl rfl)
theorem dX17_init_24 : decode cX17_init 24 = .ok (.putfield 23, 3) := dk_181 0 23 (dk_at dksX17_init_1 0 rfl rfl)
theorem dX17_init_27 : decode cX17_init 27 = .ok (.return_, 1) := dk_177 (dk_at dksX17_init_1 3 rfl rfl)
abbrev cX17_isAhead : ByteArray := prog_11_method_2_code
def yX17_isAhead : MethodName := ⟨RX17, "isAhead", "(LNextAtBar$Person;II)Z"⟩
def dkwX17_isAhead_1 : List UInt8 := [162, 0, 7, 4, 167, 0, 4, 3, 172]
abbrev dktX17_isAhead_1 : List UInt8 := dkwX17_isAhead_1 ++ []
def dkwX17_isAhead_0 : List UInt8 := [42, 180, 0, 27, 43, 180, 0, 27, 161, 0, 19, 42, 180, 0, 27, 43, 180, 0, 27, 160, 0, 12, 28, 29]
abbrev dktX17_isAhead_0 : List UInt8 := dkwX17_isAhead_0 ++ dktX17_isAhead_1
theorem dksX17_isAhead_0 : cX17_isAhead.data.toList.drop 0 = dktX17_isAhead_0 := by decide +kernel
theorem dksX17_isAhead_1 : cX17_isAhead.data.toList.drop 24 = dktX17_isAhead_1 := dk_seg dksX17_isAhead_0 24 rfl rfl
theorem dX17_isAhead_0 : decode cX17_isAhead 0 = .ok (.aload_n 0, 1) := dk_42 (dk_at dksX17_isAhead_0 0 rfl rfl)
theorem dX17_isAhead_1 : decode cX17_isAhead 1 = .ok (.getfield 27, 3) := dk_180 0 27 (dk_at dksX17_isAhead_0 1 rfl rfl)
theorem dX17_isAhead_4 : decode cX17_isAhead 4 = .ok (.aload_n 1, 1) := dk_43 (dk_at dksX17_isAhead_0 4 rfl rfl)
theorem dX17_isAhead_5 : decode cX17_isAhead 5 = .ok (.getfield 27, 3) := dk_180 0 27 (dk_at dksX17_isAhead_0 5 rfl rfl)
theorem dX17_isAhead_8 : decode cX17_isAhead 8 = .ok (.if_icmp .lt 19, 3) := dk_161 0 19 (dk_at dksX17_isAhead_0 8 rfl rfl)
theorem dX17_isAhead_11 : decode cX17_isAhead 11 = .ok (.aload_n 0, 1) := dk_42 (dk_at dksX17_isAhead_0 11 rfl rfl)
theorem dX17_isAhead_12 : decode cX17_isAhead 12 = .ok (.getfield 27, 3) := dk_180 0 27 (dk_at dksX17_isAhead_0 12 rfl rfl)
theorem dX17_isAhead_15 : decode cX17_isAhead 15 = .ok (.aload_n 1, 1) := dk_43 (dk_at dksX17_isAhead_0 15 rfl rfl)
theorem dX17_isAhead_16 : decode cX17_isAhead 16 = .ok (.getfield 27, 3) := dk_180 0 27 (dk_at dksX17_isAhead_0 16 rfl rfl)
theorem dX17_isAhead_19 : decode cX17_isAhead 19 = .ok (.if_icmp .ne 12, 3) := dk_160 0 12 (dk_at dksX17_isAhead_0 19 rfl rfl)
theorem dX17_isAhead_22 : decode cX17_isAhead 22 = .ok (.iload_n 2, 1) := dk_28 (dk_at dksX17_isAhead_0 22 rfl rfl)
theorem dX17_isAhead_23 : decode cX17_isAhead 23 = .ok (.iload_n 3, 1) := dk_29 (dk_at dksX17_isAhead_0 23 rfl rfl)
theorem dX17_isAhead_24 : decode cX17_isAhead 24 = .ok (.if_icmp .ge 7, 3) := dk_162 0 7 (dk_at dksX17_isAhead_1 0 rfl rfl)
theorem dX17_isAhead_27 : decode cX17_isAhead 27 = .ok (.iconst 1, 1) := dk_4 (dk_at dksX17_isAhead_1 3 rfl rfl)
theorem dX17_isAhead_28 : decode cX17_isAhead 28 = .ok (.goto 4, 3) := dk_167 0 4 (dk_at dksX17_isAhead_1 4 rfl rfl)
theorem dX17_isAhead_31 : decode cX17_isAhead 31 = .ok (.iconst 0, 1) := dk_3 (dk_at dksX17_isAhead_1 7 rfl rfl)
theorem dX17_isAhead_32 : decode cX17_isAhead 32 = .ok (.ireturn, 1) := dk_172 (dk_at dksX17_isAhead_1 8 rfl rfl)
theorem q153 : (Jvm.Cond.initialized "NextAtBar$Person") ∈ lw_all := lw_g (lw_at lw_m1 31 rfl) rfl
theorem q816 : (Jvm.Cond.selects "NextAtBar$Person" ({ cls := "java/lang/Object", name := "getClass", desc := "()Ljava/lang/Class;" } : Jvm.MethodName) ({ cls := "java/lang/Object", name := "getClass", desc := "()Ljava/lang/Class;" } : Jvm.MethodName)) ∈ lw_all := lw_g (lw_at lw_m3 214 rfl) rfl
theorem q945 : (Jvm.Cond.instantiable "NextAtBar$Person" (8 : Nat)) ∈ lw_all := lw_g (lw_at lw_m4 103 rfl) rfl
theorem q973 : (Jvm.Cond.instanceMethod ({ cls := "NextAtBar$Person", name := "<init>", desc := "(Ljava/lang/String;LNextAtBar$Manner;)V" } : Jvm.MethodName)) ∈ lw_all := lw_g (lw_at lw_m4 131 rfl) rfl
theorem q974 : (Jvm.Cond.code ({ cls := "NextAtBar$Person", name := "<init>", desc := "(Ljava/lang/String;LNextAtBar$Manner;)V" } : Jvm.MethodName) prog_11_method_1_code (3 : Nat) (Option.none : Option Jvm.ClassFile.FieldType)) ∈ lw_all := lw_g (lw_at lw_m4 132 rfl) rfl
theorem q975 : (Jvm.Cond.methodLink "NextAtBar$Person" (3 : Nat) ({ cls := "java/lang/Object", name := "<init>", desc := "()V" } : Jvm.MethodName)) ∈ lw_all := lw_g (lw_at lw_m4 133 rfl) rfl
theorem q976 : (Jvm.Cond.fieldLink "NextAtBar$Person" (19 : Nat) "NextAtBar$Person" "name" "Ljava/lang/String;") ∈ lw_all := lw_g (lw_at lw_m4 134 rfl) rfl
theorem q978 : (Jvm.Cond.fieldLink "NextAtBar$Person" (23 : Nat) "NextAtBar$Person" "manne\x72" "LNextAtBar$Manner;") ∈ lw_all := lw_g (lw_at lw_m4 136 rfl) rfl
theorem q981 : (Jvm.Cond.fieldLink "NextAtBar$Person" (9 : Nat) "NextAtBar$Person" "wants" "[I") ∈ lw_all := lw_g (lw_at lw_m4 139 rfl) rfl
theorem q985 : (Jvm.Cond.fieldLink "NextAtBar$Person" (27 : Nat) "NextAtBar$Person" "comes" "I") ∈ lw_all := lw_g (lw_at lw_m4 143 rfl) rfl
theorem q998 : (Jvm.Cond.fieldLink "NextAtBar$Person" (15 : Nat) "NextAtBar$Person" "shelf" "I") ∈ lw_all := lw_g (lw_at lw_m4 156 rfl) rfl
theorem q1002 : (Jvm.Cond.laysFinal "NextAtBar$Person" "NextAtBar$Person" "name" "Ljava/lang/String;") ∈ lw_all := lw_g (lw_at lw_m4 160 rfl) rfl
theorem q1003 : (Jvm.Cond.soleField "NextAtBar$Person" "name") ∈ lw_all := lw_g (lw_at lw_m4 161 rfl) rfl
theorem q1004 : (Jvm.Cond.laysFinal "NextAtBar$Person" "NextAtBar$Person" "manne\x72" "LNextAtBar$Manner;") ∈ lw_all := lw_g (lw_at lw_m4 162 rfl) rfl
theorem q1005 : (Jvm.Cond.soleField "NextAtBar$Person" "manne\x72") ∈ lw_all := lw_g (lw_at lw_m4 163 rfl) rfl
theorem q1006 : (Jvm.Cond.laysFinal "NextAtBar$Person" "NextAtBar$Person" "wants" "[I") ∈ lw_all := lw_g (lw_at lw_m4 164 rfl) rfl
theorem q1007 : (Jvm.Cond.soleField "NextAtBar$Person" "wants") ∈ lw_all := lw_g (lw_at lw_m4 165 rfl) rfl
theorem q1008 : (Jvm.Cond.lays "NextAtBar$Person" "NextAtBar$Person" "comes" "I") ∈ lw_all := lw_g (lw_at lw_m4 166 rfl) rfl
theorem q1009 : (Jvm.Cond.soleField "NextAtBar$Person" "comes") ∈ lw_all := lw_g (lw_at lw_m4 167 rfl) rfl
theorem q1010 : (Jvm.Cond.lays "NextAtBar$Person" "NextAtBar$Person" "at" "I") ∈ lw_all := lw_g (lw_at lw_m4 168 rfl) rfl
theorem q1011 : (Jvm.Cond.soleField "NextAtBar$Person" "at") ∈ lw_all := lw_g (lw_at lw_m4 169 rfl) rfl
theorem q1012 : (Jvm.Cond.lays "NextAtBar$Person" "NextAtBar$Person" "patience" "I") ∈ lw_all := lw_g (lw_at lw_m4 170 rfl) rfl
theorem q1013 : (Jvm.Cond.soleField "NextAtBar$Person" "patience") ∈ lw_all := lw_g (lw_at lw_m4 171 rfl) rfl
theorem q1014 : (Jvm.Cond.lays "NextAtBar$Person" "NextAtBar$Person" "look" "I") ∈ lw_all := lw_g (lw_at lw_m4 172 rfl) rfl
theorem q1015 : (Jvm.Cond.soleField "NextAtBar$Person" "look") ∈ lw_all := lw_g (lw_at lw_m4 173 rfl) rfl
theorem q1016 : (Jvm.Cond.lays "NextAtBar$Person" "NextAtBar$Person" "shelf" "I") ∈ lw_all := lw_g (lw_at lw_m4 174 rfl) rfl
theorem q1017 : (Jvm.Cond.soleField "NextAtBar$Person" "shelf") ∈ lw_all := lw_g (lw_at lw_m4 175 rfl) rfl
theorem q1018 : (Jvm.Cond.superclass "NextAtBar$Person" "java/lang/Object") ∈ lw_all := lw_g (lw_at lw_m4 176 rfl) rfl
theorem q1354 : (Jvm.Cond.instanceMethod ({ cls := "NextAtBar$Person", name := "isAhead", desc := "(LNextAtBar$Person;II)Z" } : Jvm.MethodName)) ∈ lw_all := lw_g (lw_at lw_m6 32 rfl) rfl
theorem q1355 : (Jvm.Cond.selects "NextAtBar$Person" ({ cls := "NextAtBar$Person", name := "isAhead", desc := "(LNextAtBar$Person;II)Z" } : Jvm.MethodName) ({ cls := "NextAtBar$Person", name := "isAhead", desc := "(LNextAtBar$Person;II)Z" } : Jvm.MethodName)) ∈ lw_all := lw_g (lw_at lw_m6 33 rfl) rfl
theorem q1356 : (Jvm.Cond.code ({ cls := "NextAtBar$Person", name := "isAhead", desc := "(LNextAtBar$Person;II)Z" } : Jvm.MethodName) prog_11_method_2_code (4 : Nat) (Option.some Jvm.ClassFile.FieldType.boolean)) ∈ lw_all := lw_g (lw_at lw_m6 34 rfl) rfl
theorem q2527 : (Jvm.Cond.castable "NextAtBar$Person" "java/lang/Object") ∈ lw_tbl := lw_at lw_m11 5 rfl
theorem in_X17 : ∀ w ∈ wsX170, w ∈ lw_all := lw_in wsX170 [1002, 1004, 1006, 1008, 1010, 1012, 1014, 1016] (by decide +kernel) (by decide +kernel)
/-! NextAtBar$Telling -/
set_option maxRecDepth 100000
def RX20 : String := "NextAtBar$Telling"
def TX20 : u_T := fun k => match k with
  | 0 => ("NextAtBar$Telling", "telle\x72", "I", true)
  | 1 => ("NextAtBar$Telling", "one", "I", true)
  | _ => ("NextAtBar$Telling", "othe\x72", "I", true)
def tyX20 : Nat → FieldType := fun k => match k with
  | 0 => .int
  | 1 => .int
  | _ => .int
abbrev wsX200 : List Cond := u_ws RX20 TX20 3
theorem nmX20 : ∀ a, a < 3 → ∀ b, b < 3 → a ≠ b → (TX20 a).2.1 ≠ (TX20 b).2.1 := by decide +kernel
theorem tyX20_ok : ∀ k, k < 3 → parseFieldDescriptor (TX20 k).2.2.1 = some (tyX20 k) := by decide +kernel
abbrev cX20_init : ByteArray := prog_19_method_1_code
def yX20_init : MethodName := ⟨RX20, "<init>", "(III)V"⟩
def dkwX20_init_0 : List UInt8 := [42, 183, 0, 1, 42, 27, 181, 0, 7, 42, 28, 181, 0, 13, 42, 29, 181, 0, 16, 177]
abbrev dktX20_init_0 : List UInt8 := dkwX20_init_0 ++ []
theorem dksX20_init_0 : cX20_init.data.toList.drop 0 = dktX20_init_0 := by decide +kernel
theorem dX20_init_0 : decode cX20_init 0 = .ok (.aload_n 0, 1) := dk_42 (dk_at dksX20_init_0 0 rfl rfl)
theorem dX20_init_1 : decode cX20_init 1 = .ok (.invokespecial 1, 3) := dk_183 0 1 (dk_at dksX20_init_0 1 rfl rfl)
theorem dX20_init_4 : decode cX20_init 4 = .ok (.aload_n 0, 1) := dk_42 (dk_at dksX20_init_0 4 rfl rfl)
theorem dX20_init_5 : decode cX20_init 5 = .ok (.iload_n 1, 1) := dk_27 (dk_at dksX20_init_0 5 rfl rfl)
theorem dX20_init_6 : decode cX20_init 6 = .ok (.putfield 7, 3) := dk_181 0 7 (dk_at dksX20_init_0 6 rfl rfl)
theorem dX20_init_9 : decode cX20_init 9 = .ok (.aload_n 0, 1) := dk_42 (dk_at dksX20_init_0 9 rfl rfl)
theorem dX20_init_10 : decode cX20_init 10 = .ok (.iload_n 2, 1) := dk_28 (dk_at dksX20_init_0 10 rfl rfl)
theorem dX20_init_11 : decode cX20_init 11 = .ok (.putfield 13, 3) := dk_181 0 13 (dk_at dksX20_init_0 11 rfl rfl)
theorem dX20_init_14 : decode cX20_init 14 = .ok (.aload_n 0, 1) := dk_42 (dk_at dksX20_init_0 14 rfl rfl)
theorem dX20_init_15 : decode cX20_init 15 = .ok (.iload_n 3, 1) := dk_29 (dk_at dksX20_init_0 15 rfl rfl)
theorem dX20_init_16 : decode cX20_init 16 = .ok (.putfield 16, 3) := dk_181 0 16 (dk_at dksX20_init_0 16 rfl rfl)
theorem dX20_init_19 : decode cX20_init 19 = .ok (.return_, 1) := dk_177 (dk_at dksX20_init_0 19 rfl rfl)
theorem q156 : (Jvm.Cond.initialized "NextAtBar$Telling") ∈ lw_all := lw_g (lw_at lw_m1 34 rfl) rfl
theorem q823 : (Jvm.Cond.selects "NextAtBar$Telling" ({ cls := "java/lang/Object", name := "getClass", desc := "()Ljava/lang/Class;" } : Jvm.MethodName) ({ cls := "java/lang/Object", name := "getClass", desc := "()Ljava/lang/Class;" } : Jvm.MethodName)) ∈ lw_all := lw_g (lw_at lw_m3 221 rfl) rfl
theorem q1054 : (Jvm.Cond.instantiable "NextAtBar$Telling" (3 : Nat)) ∈ lw_all := lw_g (lw_at lw_m4 212 rfl) rfl
theorem q1056 : (Jvm.Cond.instanceMethod ({ cls := "NextAtBar$Telling", name := "<init>", desc := "(III)V" } : Jvm.MethodName)) ∈ lw_all := lw_g (lw_at lw_m4 214 rfl) rfl
theorem q1057 : (Jvm.Cond.code ({ cls := "NextAtBar$Telling", name := "<init>", desc := "(III)V" } : Jvm.MethodName) prog_19_method_1_code (4 : Nat) (Option.none : Option Jvm.ClassFile.FieldType)) ∈ lw_all := lw_g (lw_at lw_m4 215 rfl) rfl
theorem q1058 : (Jvm.Cond.methodLink "NextAtBar$Telling" (1 : Nat) ({ cls := "java/lang/Object", name := "<init>", desc := "()V" } : Jvm.MethodName)) ∈ lw_all := lw_g (lw_at lw_m4 216 rfl) rfl
theorem q1059 : (Jvm.Cond.fieldLink "NextAtBar$Telling" (7 : Nat) "NextAtBar$Telling" "telle\x72" "I") ∈ lw_all := lw_g (lw_at lw_m4 217 rfl) rfl
theorem q1061 : (Jvm.Cond.fieldLink "NextAtBar$Telling" (13 : Nat) "NextAtBar$Telling" "one" "I") ∈ lw_all := lw_g (lw_at lw_m4 219 rfl) rfl
theorem q1064 : (Jvm.Cond.fieldLink "NextAtBar$Telling" (16 : Nat) "NextAtBar$Telling" "othe\x72" "I") ∈ lw_all := lw_g (lw_at lw_m4 222 rfl) rfl
theorem q1067 : (Jvm.Cond.laysFinal "NextAtBar$Telling" "NextAtBar$Telling" "telle\x72" "I") ∈ lw_all := lw_g (lw_at lw_m4 225 rfl) rfl
theorem q1068 : (Jvm.Cond.soleField "NextAtBar$Telling" "telle\x72") ∈ lw_all := lw_g (lw_at lw_m4 226 rfl) rfl
theorem q1069 : (Jvm.Cond.laysFinal "NextAtBar$Telling" "NextAtBar$Telling" "one" "I") ∈ lw_all := lw_g (lw_at lw_m4 227 rfl) rfl
theorem q1070 : (Jvm.Cond.soleField "NextAtBar$Telling" "one") ∈ lw_all := lw_g (lw_at lw_m4 228 rfl) rfl
theorem q1071 : (Jvm.Cond.laysFinal "NextAtBar$Telling" "NextAtBar$Telling" "othe\x72" "I") ∈ lw_all := lw_g (lw_at lw_m4 229 rfl) rfl
theorem q1072 : (Jvm.Cond.soleField "NextAtBar$Telling" "othe\x72") ∈ lw_all := lw_g (lw_at lw_m4 230 rfl) rfl
theorem q1073 : (Jvm.Cond.superclass "NextAtBar$Telling" "java/lang/Object") ∈ lw_all := lw_g (lw_at lw_m4 231 rfl) rfl
theorem q2530 : (Jvm.Cond.castable "NextAtBar$Telling" "java/lang/Object") ∈ lw_tbl := lw_at lw_m11 8 rfl
theorem in_X20 : ∀ w ∈ wsX200, w ∈ lw_all := lw_in wsX200 [1067, 1069, 1071] (by decide +kernel) (by decide +kernel)
/-! NextAtBar$House -/
set_option maxRecDepth 100000
def RX7 : String := "NextAtBar$House"
def TX7 : u_T := fun k => match k with
  | 0 => ("NextAtBar$House", "places", "I", false)
  | 1 => ("NextAtBar$House", "bell", "I", false)
  | 2 => ("NextAtBar$House", "shelves", "I", false)
  | 3 => ("NextAtBar$House", "drinks", "Ljava/util/ArrayList;", true)
  | 4 => ("NextAtBar$House", "staff", "Ljava/util/ArrayList;", true)
  | 5 => ("NextAtBar$House", "people", "Ljava/util/ArrayList;", true)
  | _ => ("NextAtBar$House", "tellings", "Ljava/util/ArrayList;", true)
def tyX7 : Nat → FieldType := fun k => match k with
  | 0 => .int
  | 1 => .int
  | 2 => .int
  | 3 => .object "java/util/ArrayList"
  | 4 => .object "java/util/ArrayList"
  | 5 => .object "java/util/ArrayList"
  | _ => .object "java/util/ArrayList"
abbrev wsX70 : List Cond := u_ws RX7 TX7 7
theorem nmX7 : ∀ a, a < 7 → ∀ b, b < 7 → a ≠ b → (TX7 a).2.1 ≠ (TX7 b).2.1 := by decide +kernel
theorem tyX7_ok : ∀ k, k < 7 → parseFieldDescriptor (TX7 k).2.2.1 = some (tyX7 k) := by decide +kernel
abbrev cX7_init : ByteArray := prog_6_method_1_code
def yX7_init : MethodName := ⟨RX7, "<init>", "()V"⟩
def dkwX7_init_2 : List UInt8 := [181, 0, 24, 177]
abbrev dktX7_init_2 : List UInt8 := dkwX7_init_2 ++ []
def dkwX7_init_1 : List UInt8 := [181, 0, 18, 42, 187, 0, 9, 89, 183, 0, 11, 181, 0, 21, 42, 187, 0, 9, 89, 183, 0, 11]
abbrev dktX7_init_1 : List UInt8 := dkwX7_init_1 ++ dktX7_init_2
def dkwX7_init_0 : List UInt8 := [42, 183, 0, 3, 42, 187, 0, 9, 89, 183, 0, 11, 181, 0, 12, 42, 187, 0, 9, 89, 183, 0, 11]
abbrev dktX7_init_0 : List UInt8 := dkwX7_init_0 ++ dktX7_init_1
theorem dksX7_init_0 : cX7_init.data.toList.drop 0 = dktX7_init_0 := by decide +kernel
theorem dksX7_init_1 : cX7_init.data.toList.drop 23 = dktX7_init_1 := dk_seg dksX7_init_0 23 rfl rfl
theorem dksX7_init_2 : cX7_init.data.toList.drop 45 = dktX7_init_2 := dk_seg dksX7_init_1 22 rfl rfl
theorem dX7_init_0 : decode cX7_init 0 = .ok (.aload_n 0, 1) := dk_42 (dk_at dksX7_init_0 0 rfl rfl)
theorem dX7_init_1 : decode cX7_init 1 = .ok (.invokespecial 3, 3) := dk_183 0 3 (dk_at dksX7_init_0 1 rfl rfl)
theorem dX7_init_4 : decode cX7_init 4 = .ok (.aload_n 0, 1) := dk_42 (dk_at dksX7_init_0 4 rfl rfl)
theorem dX7_init_5 : decode cX7_init 5 = .ok (.new 9, 3) := dk_187 0 9 (dk_at dksX7_init_0 5 rfl rfl)
theorem dX7_init_8 : decode cX7_init 8 = .ok (.dup, 1) := dk_89 (dk_at dksX7_init_0 8 rfl rfl)
theorem dX7_init_9 : decode cX7_init 9 = .ok (.invokespecial 11, 3) := dk_183 0 11 (dk_at dksX7_init_0 9 rfl rfl)
theorem dX7_init_12 : decode cX7_init 12 = .ok (.putfield 12, 3) := dk_181 0 12 (dk_at dksX7_init_0 12 rfl rfl)
theorem dX7_init_15 : decode cX7_init 15 = .ok (.aload_n 0, 1) := dk_42 (dk_at dksX7_init_0 15 rfl rfl)
theorem dX7_init_16 : decode cX7_init 16 = .ok (.new 9, 3) := dk_187 0 9 (dk_at dksX7_init_0 16 rfl rfl)
theorem dX7_init_19 : decode cX7_init 19 = .ok (.dup, 1) := dk_89 (dk_at dksX7_init_0 19 rfl rfl)
theorem dX7_init_20 : decode cX7_init 20 = .ok (.invokespecial 11, 3) := dk_183 0 11 (dk_at dksX7_init_0 20 rfl rfl)
theorem dX7_init_23 : decode cX7_init 23 = .ok (.putfield 18, 3) := dk_181 0 18 (dk_at dksX7_init_1 0 rfl rfl)
theorem dX7_init_26 : decode cX7_init 26 = .ok (.aload_n 0, 1) := dk_42 (dk_at dksX7_init_1 3 rfl rfl)
theorem dX7_init_27 : decode cX7_init 27 = .ok (.new 9, 3) := dk_187 0 9 (dk_at dksX7_init_1 4 rfl rfl)
theorem dX7_init_30 : decode cX7_init 30 = .ok (.dup, 1) := dk_89 (dk_at dksX7_init_1 7 rfl rfl)
theorem dX7_init_31 : decode cX7_init 31 = .ok (.invokespecial 11, 3) := dk_183 0 11 (dk_at dksX7_init_1 8 rfl rfl)
theorem dX7_init_34 : decode cX7_init 34 = .ok (.putfield 21, 3) := dk_181 0 21 (dk_at dksX7_init_1 11 rfl rfl)
theorem dX7_init_37 : decode cX7_init 37 = .ok (.aload_n 0, 1) := dk_42 (dk_at dksX7_init_1 14 rfl rfl)
theorem dX7_init_38 : decode cX7_init 38 = .ok (.new 9, 3) := dk_187 0 9 (dk_at dksX7_init_1 15 rfl rfl)
theorem dX7_init_41 : decode cX7_init 41 = .ok (.dup, 1) := dk_89 (dk_at dksX7_init_1 18 rfl rfl)
theorem dX7_init_42 : decode cX7_init 42 = .ok (.invokespecial 11, 3) := dk_183 0 11 (dk_at dksX7_init_1 19 rfl rfl)
theorem dX7_init_45 : decode cX7_init 45 = .ok (.putfield 24, 3) := dk_181 0 24 (dk_at dksX7_init_2 0 rfl rfl)
theorem dX7_init_48 : decode cX7_init 48 = .ok (.return_, 1) := dk_177 (dk_at dksX7_init_2 3 rfl rfl)
abbrev cX7_isName : ByteArray := prog_6_method_4_code
def yX7_isName : MethodName := ⟨RX7, "isName", "(Ljava/lang/String;)Z"⟩
def dkwX7_isName_2 : List UInt8 := [160, 0, 12, 42, 43, 182, 0, 57, 2, 159, 0, 7, 4, 167, 0, 4, 3, 172]
abbrev dktX7_isName_2 : List UInt8 := dkwX7_isName_2 ++ []
def dkwX7_isName_1 : List UInt8 := [180, 0, 52, 43, 182, 0, 41, 153, 0, 5, 4, 172, 132, 2, 1, 167, 255, 219, 42, 43, 182, 0, 53, 2]
abbrev dktX7_isName_1 : List UInt8 := dkwX7_isName_1 ++ dktX7_isName_2
def dkwX7_isName_0 : List UInt8 := [3, 61, 28, 42, 180, 0, 18, 182, 0, 27, 162, 0, 32, 42, 180, 0, 18, 28, 182, 0, 31, 192, 0, 50]
abbrev dktX7_isName_0 : List UInt8 := dkwX7_isName_0 ++ dktX7_isName_1
theorem dksX7_isName_0 : cX7_isName.data.toList.drop 0 = dktX7_isName_0 := by decide +kernel
theorem dksX7_isName_1 : cX7_isName.data.toList.drop 24 = dktX7_isName_1 := dk_seg dksX7_isName_0 24 rfl rfl
theorem dksX7_isName_2 : cX7_isName.data.toList.drop 48 = dktX7_isName_2 := dk_seg dksX7_isName_1 24 rfl rfl
theorem dX7_isName_0 : decode cX7_isName 0 = .ok (.iconst 0, 1) := dk_3 (dk_at dksX7_isName_0 0 rfl rfl)
theorem dX7_isName_1 : decode cX7_isName 1 = .ok (.istore_n 2, 1) := dk_61 (dk_at dksX7_isName_0 1 rfl rfl)
theorem dX7_isName_2 : decode cX7_isName 2 = .ok (.iload_n 2, 1) := dk_28 (dk_at dksX7_isName_0 2 rfl rfl)
theorem dX7_isName_3 : decode cX7_isName 3 = .ok (.aload_n 0, 1) := dk_42 (dk_at dksX7_isName_0 3 rfl rfl)
theorem dX7_isName_4 : decode cX7_isName 4 = .ok (.getfield 18, 3) := dk_180 0 18 (dk_at dksX7_isName_0 4 rfl rfl)
theorem dX7_isName_7 : decode cX7_isName 7 = .ok (.invokevirtual 27, 3) := dk_182 0 27 (dk_at dksX7_isName_0 7 rfl rfl)
theorem dX7_isName_10 : decode cX7_isName 10 = .ok (.if_icmp .ge 32, 3) := dk_162 0 32 (dk_at dksX7_isName_0 10 rfl rfl)
theorem dX7_isName_13 : decode cX7_isName 13 = .ok (.aload_n 0, 1) := dk_42 (dk_at dksX7_isName_0 13 rfl rfl)
theorem dX7_isName_14 : decode cX7_isName 14 = .ok (.getfield 18, 3) := dk_180 0 18 (dk_at dksX7_isName_0 14 rfl rfl)
theorem dX7_isName_17 : decode cX7_isName 17 = .ok (.iload_n 2, 1) := dk_28 (dk_at dksX7_isName_0 17 rfl rfl)
theorem dX7_isName_18 : decode cX7_isName 18 = .ok (.invokevirtual 31, 3) := dk_182 0 31 (dk_at dksX7_isName_0 18 rfl rfl)
theorem dX7_isName_21 : decode cX7_isName 21 = .ok (.checkcast 50, 3) := dk_192 0 50 (dk_at dksX7_isName_0 21 rfl rfl)
theorem dX7_isName_24 : decode cX7_isName 24 = .ok (.getfield 52, 3) := dk_180 0 52 (dk_at dksX7_isName_1 0 rfl rfl)
theorem dX7_isName_27 : decode cX7_isName 27 = .ok (.aload_n 1, 1) := dk_43 (dk_at dksX7_isName_1 3 rfl rfl)
theorem dX7_isName_28 : decode cX7_isName 28 = .ok (.invokevirtual 41, 3) := dk_182 0 41 (dk_at dksX7_isName_1 4 rfl rfl)
theorem dX7_isName_31 : decode cX7_isName 31 = .ok (.ifCond .eq 5, 3) := dk_153 0 5 (dk_at dksX7_isName_1 7 rfl rfl)
theorem dX7_isName_34 : decode cX7_isName 34 = .ok (.iconst 1, 1) := dk_4 (dk_at dksX7_isName_1 10 rfl rfl)
theorem dX7_isName_35 : decode cX7_isName 35 = .ok (.ireturn, 1) := dk_172 (dk_at dksX7_isName_1 11 rfl rfl)
theorem dX7_isName_36 : decode cX7_isName 36 = .ok (.iinc 2 1, 3) := dk_132 2 1 (dk_at dksX7_isName_1 12 rfl rfl)
theorem dX7_isName_39 : decode cX7_isName 39 = .ok (.goto (-37), 3) := dk_167 255 219 (dk_at dksX7_isName_1 15 rfl rfl)
theorem dX7_isName_42 : decode cX7_isName 42 = .ok (.aload_n 0, 1) := dk_42 (dk_at dksX7_isName_1 18 rfl rfl)
theorem dX7_isName_43 : decode cX7_isName 43 = .ok (.aload_n 1, 1) := dk_43 (dk_at dksX7_isName_1 19 rfl rfl)
theorem dX7_isName_44 : decode cX7_isName 44 = .ok (.invokevirtual 53, 3) := dk_182 0 53 (dk_at dksX7_isName_1 20 rfl rfl)
theorem dX7_isName_47 : decode cX7_isName 47 = .ok (.iconst (-1), 1) := dk_2 (dk_at dksX7_isName_1 23 rfl rfl)
theorem dX7_isName_48 : decode cX7_isName 48 = .ok (.if_icmp .ne 12, 3) := dk_160 0 12 (dk_at dksX7_isName_2 0 rfl rfl)
theorem dX7_isName_51 : decode cX7_isName 51 = .ok (.aload_n 0, 1) := dk_42 (dk_at dksX7_isName_2 3 rfl rfl)
theorem dX7_isName_52 : decode cX7_isName 52 = .ok (.aload_n 1, 1) := dk_43 (dk_at dksX7_isName_2 4 rfl rfl)
theorem dX7_isName_53 : decode cX7_isName 53 = .ok (.invokevirtual 57, 3) := dk_182 0 57 (dk_at dksX7_isName_2 5 rfl rfl)
theorem dX7_isName_56 : decode cX7_isName 56 = .ok (.iconst (-1), 1) := dk_2 (dk_at dksX7_isName_2 8 rfl rfl)
theorem dX7_isName_57 : decode cX7_isName 57 = .ok (.if_icmp .eq 7, 3) := dk_159 0 7 (dk_at dksX7_isName_2 9 rfl rfl)
theorem dX7_isName_60 : decode cX7_isName 60 = .ok (.iconst 1, 1) := dk_4 (dk_at dksX7_isName_2 12 rfl rfl)
theorem dX7_isName_61 : decode cX7_isName 61 = .ok (.goto 4, 3) := dk_167 0 4 (dk_at dksX7_isName_2 13 rfl rfl)
theorem dX7_isName_64 : decode cX7_isName 64 = .ok (.iconst 0, 1) := dk_3 (dk_at dksX7_isName_2 16 rfl rfl)
theorem dX7_isName_65 : decode cX7_isName 65 = .ok (.ireturn, 1) := dk_172 (dk_at dksX7_isName_2 17 rfl rfl)
abbrev cX7_drink : ByteArray := prog_6_method_2_code
def yX7_drink : MethodName := ⟨RX7, "drink", "(Ljava/lang/String;)I"⟩
def dkwX7_drink_1 : List UInt8 := [180, 0, 37, 43, 182, 0, 41, 153, 0, 5, 28, 172, 132, 2, 1, 167, 255, 219, 2, 172]
abbrev dktX7_drink_1 : List UInt8 := dkwX7_drink_1 ++ []
def dkwX7_drink_0 : List UInt8 := [3, 61, 28, 42, 180, 0, 12, 182, 0, 27, 162, 0, 32, 42, 180, 0, 12, 28, 182, 0, 31, 192, 0, 35]
abbrev dktX7_drink_0 : List UInt8 := dkwX7_drink_0 ++ dktX7_drink_1
theorem dksX7_drink_0 : cX7_drink.data.toList.drop 0 = dktX7_drink_0 := by decide +kernel
theorem dksX7_drink_1 : cX7_drink.data.toList.drop 24 = dktX7_drink_1 := dk_seg dksX7_drink_0 24 rfl rfl
theorem dX7_drink_0 : decode cX7_drink 0 = .ok (.iconst 0, 1) := dk_3 (dk_at dksX7_drink_0 0 rfl rfl)
theorem dX7_drink_1 : decode cX7_drink 1 = .ok (.istore_n 2, 1) := dk_61 (dk_at dksX7_drink_0 1 rfl rfl)
theorem dX7_drink_2 : decode cX7_drink 2 = .ok (.iload_n 2, 1) := dk_28 (dk_at dksX7_drink_0 2 rfl rfl)
theorem dX7_drink_3 : decode cX7_drink 3 = .ok (.aload_n 0, 1) := dk_42 (dk_at dksX7_drink_0 3 rfl rfl)
theorem dX7_drink_4 : decode cX7_drink 4 = .ok (.getfield 12, 3) := dk_180 0 12 (dk_at dksX7_drink_0 4 rfl rfl)
theorem dX7_drink_7 : decode cX7_drink 7 = .ok (.invokevirtual 27, 3) := dk_182 0 27 (dk_at dksX7_drink_0 7 rfl rfl)
theorem dX7_drink_10 : decode cX7_drink 10 = .ok (.if_icmp .ge 32, 3) := dk_162 0 32 (dk_at dksX7_drink_0 10 rfl rfl)
theorem dX7_drink_13 : decode cX7_drink 13 = .ok (.aload_n 0, 1) := dk_42 (dk_at dksX7_drink_0 13 rfl rfl)
theorem dX7_drink_14 : decode cX7_drink 14 = .ok (.getfield 12, 3) := dk_180 0 12 (dk_at dksX7_drink_0 14 rfl rfl)
theorem dX7_drink_17 : decode cX7_drink 17 = .ok (.iload_n 2, 1) := dk_28 (dk_at dksX7_drink_0 17 rfl rfl)
theorem dX7_drink_18 : decode cX7_drink 18 = .ok (.invokevirtual 31, 3) := dk_182 0 31 (dk_at dksX7_drink_0 18 rfl rfl)
theorem dX7_drink_21 : decode cX7_drink 21 = .ok (.checkcast 35, 3) := dk_192 0 35 (dk_at dksX7_drink_0 21 rfl rfl)
theorem dX7_drink_24 : decode cX7_drink 24 = .ok (.getfield 37, 3) := dk_180 0 37 (dk_at dksX7_drink_1 0 rfl rfl)
theorem dX7_drink_27 : decode cX7_drink 27 = .ok (.aload_n 1, 1) := dk_43 (dk_at dksX7_drink_1 3 rfl rfl)
theorem dX7_drink_28 : decode cX7_drink 28 = .ok (.invokevirtual 41, 3) := dk_182 0 41 (dk_at dksX7_drink_1 4 rfl rfl)
theorem dX7_drink_31 : decode cX7_drink 31 = .ok (.ifCond .eq 5, 3) := dk_153 0 5 (dk_at dksX7_drink_1 7 rfl rfl)
theorem dX7_drink_34 : decode cX7_drink 34 = .ok (.iload_n 2, 1) := dk_28 (dk_at dksX7_drink_1 10 rfl rfl)
theorem dX7_drink_35 : decode cX7_drink 35 = .ok (.ireturn, 1) := dk_172 (dk_at dksX7_drink_1 11 rfl rfl)
theorem dX7_drink_36 : decode cX7_drink 36 = .ok (.iinc 2 1, 3) := dk_132 2 1 (dk_at dksX7_drink_1 12 rfl rfl)
theorem dX7_drink_39 : decode cX7_drink 39 = .ok (.goto (-37), 3) := dk_167 255 219 (dk_at dksX7_drink_1 15 rfl rfl)
theorem dX7_drink_42 : decode cX7_drink 42 = .ok (.iconst (-1), 1) := dk_2 (dk_at dksX7_drink_1 18 rfl rfl)
theorem dX7_drink_43 : decode cX7_drink 43 = .ok (.ireturn, 1) := dk_172 (dk_at dksX7_drink_1 19 rfl rfl)
abbrev cX7_person : ByteArray := prog_6_method_3_code
def yX7_person : MethodName := ⟨RX7, "person", "(Ljava/lang/String;)I"⟩
def dkwX7_person_1 : List UInt8 := [180, 0, 49, 43, 182, 0, 41, 153, 0, 5, 28, 172, 132, 2, 1, 167, 255, 219, 2, 172]
abbrev dktX7_person_1 : List UInt8 := dkwX7_person_1 ++ []
def dkwX7_person_0 : List UInt8 := [3, 61, 28, 42, 180, 0, 21, 182, 0, 27, 162, 0, 32, 42, 180, 0, 21, 28, 182, 0, 31, 192, 0, 47]
abbrev dktX7_person_0 : List UInt8 := dkwX7_person_0 ++ dktX7_person_1
theorem dksX7_person_0 : cX7_person.data.toList.drop 0 = dktX7_person_0 := by decide +kernel
theorem dksX7_person_1 : cX7_person.data.toList.drop 24 = dktX7_person_1 := dk_seg dksX7_person_0 24 rfl rfl
theorem dX7_person_0 : decode cX7_person 0 = .ok (.iconst 0, 1) := dk_3 (dk_at dksX7_person_0 0 rfl rfl)
theorem dX7_person_1 : decode cX7_person 1 = .ok (.istore_n 2, 1) := dk_61 (dk_at dksX7_person_0 1 rfl rfl)
theorem dX7_person_2 : decode cX7_person 2 = .ok (.iload_n 2, 1) := dk_28 (dk_at dksX7_person_0 2 rfl rfl)
theorem dX7_person_3 : decode cX7_person 3 = .ok (.aload_n 0, 1) := dk_42 (dk_at dksX7_person_0 3 rfl rfl)
theorem dX7_person_4 : decode cX7_person 4 = .ok (.getfield 21, 3) := dk_180 0 21 (dk_at dksX7_person_0 4 rfl rfl)
theorem dX7_person_7 : decode cX7_person 7 = .ok (.invokevirtual 27, 3) := dk_182 0 27 (dk_at dksX7_person_0 7 rfl rfl)
theorem dX7_person_10 : decode cX7_person 10 = .ok (.if_icmp .ge 32, 3) := dk_162 0 32 (dk_at dksX7_person_0 10 rfl rfl)
theorem dX7_person_13 : decode cX7_person 13 = .ok (.aload_n 0, 1) := dk_42 (dk_at dksX7_person_0 13 rfl rfl)
theorem dX7_person_14 : decode cX7_person 14 = .ok (.getfield 21, 3) := dk_180 0 21 (dk_at dksX7_person_0 14 rfl rfl)
theorem dX7_person_17 : decode cX7_person 17 = .ok (.iload_n 2, 1) := dk_28 (dk_at dksX7_person_0 17 rfl rfl)
theorem dX7_person_18 : decode cX7_person 18 = .ok (.invokevirtual 31, 3) := dk_182 0 31 (dk_at dksX7_person_0 18 rfl rfl)
theorem dX7_person_21 : decode cX7_person 21 = .ok (.checkcast 47, 3) := dk_192 0 47 (dk_at dksX7_person_0 21 rfl rfl)
theorem dX7_person_24 : decode cX7_person 24 = .ok (.getfield 49, 3) := dk_180 0 49 (dk_at dksX7_person_1 0 rfl rfl)
theorem dX7_person_27 : decode cX7_person 27 = .ok (.aload_n 1, 1) := dk_43 (dk_at dksX7_person_1 3 rfl rfl)
theorem dX7_person_28 : decode cX7_person 28 = .ok (.invokevirtual 41, 3) := dk_182 0 41 (dk_at dksX7_person_1 4 rfl rfl)
theorem dX7_person_31 : decode cX7_person 31 = .ok (.ifCond .eq 5, 3) := dk_153 0 5 (dk_at dksX7_person_1 7 rfl rfl)
theorem dX7_person_34 : decode cX7_person 34 = .ok (.iload_n 2, 1) := dk_28 (dk_at dksX7_person_1 10 rfl rfl)
theorem dX7_person_35 : decode cX7_person 35 = .ok (.ireturn, 1) := dk_172 (dk_at dksX7_person_1 11 rfl rfl)
theorem dX7_person_36 : decode cX7_person 36 = .ok (.iinc 2 1, 3) := dk_132 2 1 (dk_at dksX7_person_1 12 rfl rfl)
theorem dX7_person_39 : decode cX7_person 39 = .ok (.goto (-37), 3) := dk_167 255 219 (dk_at dksX7_person_1 15 rfl rfl)
theorem dX7_person_42 : decode cX7_person 42 = .ok (.iconst (-1), 1) := dk_2 (dk_at dksX7_person_1 18 rfl rfl)
theorem dX7_person_43 : decode cX7_person 43 = .ok (.ireturn, 1) := dk_172 (dk_at dksX7_person_1 19 rfl rfl)
abbrev cX7_isAhead : ByteArray := prog_6_method_5_code
def yX7_isAhead : MethodName := ⟨RX7, "isAhead", "(II)Z"⟩
def dkwX7_isAhead_1 : List UInt8 := [182, 0, 60, 172]
abbrev dktX7_isAhead_1 : List UInt8 := dkwX7_isAhead_1 ++ []
def dkwX7_isAhead_0 : List UInt8 := [42, 180, 0, 21, 27, 182, 0, 31, 192, 0, 47, 42, 180, 0, 21, 28, 182, 0, 31, 192, 0, 47, 27, 28]
abbrev dktX7_isAhead_0 : List UInt8 := dkwX7_isAhead_0 ++ dktX7_isAhead_1
theorem dksX7_isAhead_0 : cX7_isAhead.data.toList.drop 0 = dktX7_isAhead_0 := by decide +kernel
theorem dksX7_isAhead_1 : cX7_isAhead.data.toList.drop 24 = dktX7_isAhead_1 := dk_seg dksX7_isAhead_0 24 rfl rfl
theorem dX7_isAhead_0 : decode cX7_isAhead 0 = .ok (.aload_n 0, 1) := dk_42 (dk_at dksX7_isAhead_0 0 rfl rfl)
theorem dX7_isAhead_1 : decode cX7_isAhead 1 = .ok (.getfield 21, 3) := dk_180 0 21 (dk_at dksX7_isAhead_0 1 rfl rfl)
theorem dX7_isAhead_4 : decode cX7_isAhead 4 = .ok (.iload_n 1, 1) := dk_27 (dk_at dksX7_isAhead_0 4 rfl rfl)
theorem dX7_isAhead_5 : decode cX7_isAhead 5 = .ok (.invokevirtual 31, 3) := dk_182 0 31 (dk_at dksX7_isAhead_0 5 rfl rfl)
theorem dX7_isAhead_8 : decode cX7_isAhead 8 = .ok (.checkcast 47, 3) := dk_192 0 47 (dk_at dksX7_isAhead_0 8 rfl rfl)
theorem dX7_isAhead_11 : decode cX7_isAhead 11 = .ok (.aload_n 0, 1) := dk_42 (dk_at dksX7_isAhead_0 11 rfl rfl)
theorem dX7_isAhead_12 : decode cX7_isAhead 12 = .ok (.getfield 21, 3) := dk_180 0 21 (dk_at dksX7_isAhead_0 12 rfl rfl)
theorem dX7_isAhead_15 : decode cX7_isAhead 15 = .ok (.iload_n 2, 1) := dk_28 (dk_at dksX7_isAhead_0 15 rfl rfl)
theorem dX7_isAhead_16 : decode cX7_isAhead 16 = .ok (.invokevirtual 31, 3) := dk_182 0 31 (dk_at dksX7_isAhead_0 16 rfl rfl)
theorem dX7_isAhead_19 : decode cX7_isAhead 19 = .ok (.checkcast 47, 3) := dk_192 0 47 (dk_at dksX7_isAhead_0 19 rfl rfl)
theorem dX7_isAhead_22 : decode cX7_isAhead 22 = .ok (.iload_n 1, 1) := dk_27 (dk_at dksX7_isAhead_0 22 rfl rfl)
theorem dX7_isAhead_23 : decode cX7_isAhead 23 = .ok (.iload_n 2, 1) := dk_28 (dk_at dksX7_isAhead_0 23 rfl rfl)
theorem dX7_isAhead_24 : decode cX7_isAhead 24 = .ok (.invokevirtual 60, 3) := dk_182 0 60 (dk_at dksX7_isAhead_1 0 rfl rfl)
theorem dX7_isAhead_27 : decode cX7_isAhead 27 = .ok (.ireturn, 1) := dk_172 (dk_at dksX7_isAhead_1 3 rfl rfl)
abbrev cX7_time : ByteArray := prog_6_method_7_code
def yX7_time : MethodName := ⟨RX7, "time", "(II)I"⟩
def dkwX7_time_3 : List UInt8 := [4, 167, 0, 4, 3, 182, 0, 72, 96, 62, 132, 4, 1, 167, 255, 176, 29, 172]
abbrev dktX7_time_3 : List UInt8 := dkwX7_time_3 ++ []
def dkwX7_time_2 : List UInt8 := [2, 159, 0, 27, 42, 180, 0, 21, 28, 182, 0, 31, 192, 0, 47, 180, 0, 68, 21, 4, 46, 158, 0, 7]
abbrev dktX7_time_2 : List UInt8 := dkwX7_time_2 ++ dktX7_time_3
def dkwX7_time_1 : List UInt8 := [182, 0, 31, 192, 0, 35, 42, 180, 0, 21, 27, 182, 0, 31, 192, 0, 47, 180, 0, 68, 21, 4, 46, 28]
abbrev dktX7_time_1 : List UInt8 := dkwX7_time_1 ++ dktX7_time_2
def dkwX7_time_0 : List UInt8 := [3, 62, 3, 54, 4, 21, 4, 42, 180, 0, 12, 182, 0, 27, 162, 0, 74, 29, 42, 180, 0, 12, 21, 4]
abbrev dktX7_time_0 : List UInt8 := dkwX7_time_0 ++ dktX7_time_1
theorem dksX7_time_0 : cX7_time.data.toList.drop 0 = dktX7_time_0 := by decide +kernel
theorem dksX7_time_1 : cX7_time.data.toList.drop 24 = dktX7_time_1 := dk_seg dksX7_time_0 24 rfl rfl
theorem dksX7_time_2 : cX7_time.data.toList.drop 48 = dktX7_time_2 := dk_seg dksX7_time_1 24 rfl rfl
theorem dksX7_time_3 : cX7_time.data.toList.drop 72 = dktX7_time_3 := dk_seg dksX7_time_2 24 rfl rfl
theorem dX7_time_0 : decode cX7_time 0 = .ok (.iconst 0, 1) := dk_3 (dk_at dksX7_time_0 0 rfl rfl)
theorem dX7_time_1 : decode cX7_time 1 = .ok (.istore_n 3, 1) := dk_62 (dk_at dksX7_time_0 1 rfl rfl)
theorem dX7_time_2 : decode cX7_time 2 = .ok (.iconst 0, 1) := dk_3 (dk_at dksX7_time_0 2 rfl rfl)
theorem dX7_time_3 : decode cX7_time 3 = .ok (.istore 4, 2) := dk_54 4 (dk_at dksX7_time_0 3 rfl rfl)
theorem dX7_time_5 : decode cX7_time 5 = .ok (.iload 4, 2) := dk_21 4 (dk_at dksX7_time_0 5 rfl rfl)
theorem dX7_time_7 : decode cX7_time 7 = .ok (.aload_n 0, 1) := dk_42 (dk_at dksX7_time_0 7 rfl rfl)
theorem dX7_time_8 : decode cX7_time 8 = .ok (.getfield 12, 3) := dk_180 0 12 (dk_at dksX7_time_0 8 rfl rfl)
theorem dX7_time_11 : decode cX7_time 11 = .ok (.invokevirtual 27, 3) := dk_182 0 27 (dk_at dksX7_time_0 11 rfl rfl)
theorem dX7_time_14 : decode cX7_time 14 = .ok (.if_icmp .ge 74, 3) := dk_162 0 74 (dk_at dksX7_time_0 14 rfl rfl)
theorem dX7_time_17 : decode cX7_time 17 = .ok (.iload_n 3, 1) := dk_29 (dk_at dksX7_time_0 17 rfl rfl)
theorem dX7_time_18 : decode cX7_time 18 = .ok (.aload_n 0, 1) := dk_42 (dk_at dksX7_time_0 18 rfl rfl)
theorem dX7_time_19 : decode cX7_time 19 = .ok (.getfield 12, 3) := dk_180 0 12 (dk_at dksX7_time_0 19 rfl rfl)
theorem dX7_time_22 : decode cX7_time 22 = .ok (.iload 4, 2) := dk_21 4 (dk_at dksX7_time_0 22 rfl rfl)
theorem dX7_time_24 : decode cX7_time 24 = .ok (.invokevirtual 31, 3) := dk_182 0 31 (dk_at dksX7_time_1 0 rfl rfl)
theorem dX7_time_27 : decode cX7_time 27 = .ok (.checkcast 35, 3) := dk_192 0 35 (dk_at dksX7_time_1 3 rfl rfl)
theorem dX7_time_30 : decode cX7_time 30 = .ok (.aload_n 0, 1) := dk_42 (dk_at dksX7_time_1 6 rfl rfl)
theorem dX7_time_31 : decode cX7_time 31 = .ok (.getfield 21, 3) := dk_180 0 21 (dk_at dksX7_time_1 7 rfl rfl)
theorem dX7_time_34 : decode cX7_time 34 = .ok (.iload_n 1, 1) := dk_27 (dk_at dksX7_time_1 10 rfl rfl)
theorem dX7_time_35 : decode cX7_time 35 = .ok (.invokevirtual 31, 3) := dk_182 0 31 (dk_at dksX7_time_1 11 rfl rfl)
theorem dX7_time_38 : decode cX7_time 38 = .ok (.checkcast 47, 3) := dk_192 0 47 (dk_at dksX7_time_1 14 rfl rfl)
theorem dX7_time_41 : decode cX7_time 41 = .ok (.getfield 68, 3) := dk_180 0 68 (dk_at dksX7_time_1 17 rfl rfl)
theorem dX7_time_44 : decode cX7_time 44 = .ok (.iload 4, 2) := dk_21 4 (dk_at dksX7_time_1 20 rfl rfl)
theorem dX7_time_46 : decode cX7_time 46 = .ok (.iaload, 1) := dk_46 (dk_at dksX7_time_1 22 rfl rfl)
theorem dX7_time_47 : decode cX7_time 47 = .ok (.iload_n 2, 1) := dk_28 (dk_at dksX7_time_1 23 rfl rfl)
theorem dX7_time_48 : decode cX7_time 48 = .ok (.iconst (-1), 1) := dk_2 (dk_at dksX7_time_2 0 rfl rfl)
theorem dX7_time_49 : decode cX7_time 49 = .ok (.if_icmp .eq 27, 3) := dk_159 0 27 (dk_at dksX7_time_2 1 rfl rfl)
theorem dX7_time_52 : decode cX7_time 52 = .ok (.aload_n 0, 1) := dk_42 (dk_at dksX7_time_2 4 rfl rfl)
theorem dX7_time_53 : decode cX7_time 53 = .ok (.getfield 21, 3) := dk_180 0 21 (dk_at dksX7_time_2 5 rfl rfl)
theorem dX7_time_56 : decode cX7_time 56 = .ok (.iload_n 2, 1) := dk_28 (dk_at dksX7_time_2 8 rfl rfl)
theorem dX7_time_57 : decode cX7_time 57 = .ok (.invokevirtual 31, 3) := dk_182 0 31 (dk_at dksX7_time_2 9 rfl rfl)
theorem dX7_time_60 : decode cX7_time 60 = .ok (.checkcast 47, 3) := dk_192 0 47 (dk_at dksX7_time_2 12 rfl rfl)
theorem dX7_time_63 : decode cX7_time 63 = .ok (.getfield 68, 3) := dk_180 0 68 (dk_at dksX7_time_2 15 rfl rfl)
theorem dX7_time_66 : decode cX7_time 66 = .ok (.iload 4, 2) := dk_21 4 (dk_at dksX7_time_2 18 rfl rfl)
theorem dX7_time_68 : decode cX7_time 68 = .ok (.iaload, 1) := dk_46 (dk_at dksX7_time_2 20 rfl rfl)
theorem dX7_time_69 : decode cX7_time 69 = .ok (.ifCond .le 7, 3) := dk_158 0 7 (dk_at dksX7_time_2 21 rfl rfl)
theorem dX7_time_72 : decode cX7_time 72 = .ok (.iconst 1, 1) := dk_4 (dk_at dksX7_time_3 0 rfl rfl)
theorem dX7_time_73 : decode cX7_time 73 = .ok (.goto 4, 3) := dk_167 0 4 (dk_at dksX7_time_3 1 rfl rfl)
theorem dX7_time_76 : decode cX7_time 76 = .ok (.iconst 0, 1) := dk_3 (dk_at dksX7_time_3 4 rfl rfl)
theorem dX7_time_77 : decode cX7_time 77 = .ok (.invokevirtual 72, 3) := dk_182 0 72 (dk_at dksX7_time_3 5 rfl rfl)
theorem dX7_time_80 : decode cX7_time 80 = .ok (.iadd, 1) := dk_96 (dk_at dksX7_time_3 8 rfl rfl)
theorem dX7_time_81 : decode cX7_time 81 = .ok (.istore_n 3, 1) := dk_62 (dk_at dksX7_time_3 9 rfl rfl)
theorem dX7_time_82 : decode cX7_time 82 = .ok (.iinc 4 1, 3) := dk_132 4 1 (dk_at dksX7_time_3 10 rfl rfl)
theorem dX7_time_85 : decode cX7_time 85 = .ok (.goto (-80), 3) := dk_167 255 176 (dk_at dksX7_time_3 13 rfl rfl)
theorem dX7_time_88 : decode cX7_time 88 = .ok (.iload_n 3, 1) := dk_29 (dk_at dksX7_time_3 16 rfl rfl)
theorem dX7_time_89 : decode cX7_time 89 = .ok (.ireturn, 1) := dk_172 (dk_at dksX7_time_3 17 rfl rfl)
abbrev cX7_costs : ByteArray := prog_6_method_6_code
def yX7_costs : MethodName := ⟨RX7, "costs", "(I)I"⟩
def dkwX7_costs_2 : List UInt8 := [61, 132, 3, 1, 167, 255, 208, 28, 172]
abbrev dktX7_costs_2 : List UInt8 := dkwX7_costs_2 ++ []
def dkwX7_costs_1 : List UInt8 := [192, 0, 35, 180, 0, 64, 42, 180, 0, 21, 27, 182, 0, 31, 192, 0, 47, 180, 0, 68, 29, 46, 104, 96]
abbrev dktX7_costs_1 : List UInt8 := dkwX7_costs_1 ++ dktX7_costs_2
def dkwX7_costs_0 : List UInt8 := [3, 61, 3, 62, 29, 42, 180, 0, 12, 182, 0, 27, 162, 0, 43, 28, 42, 180, 0, 12, 29, 182, 0, 31]
abbrev dktX7_costs_0 : List UInt8 := dkwX7_costs_0 ++ dktX7_costs_1
theorem dksX7_costs_0 : cX7_costs.data.toList.drop 0 = dktX7_costs_0 := by decide +kernel
theorem dksX7_costs_1 : cX7_costs.data.toList.drop 24 = dktX7_costs_1 := dk_seg dksX7_costs_0 24 rfl rfl
theorem dksX7_costs_2 : cX7_costs.data.toList.drop 48 = dktX7_costs_2 := dk_seg dksX7_costs_1 24 rfl rfl
theorem dX7_costs_0 : decode cX7_costs 0 = .ok (.iconst 0, 1) := dk_3 (dk_at dksX7_costs_0 0 rfl rfl)
theorem dX7_costs_1 : decode cX7_costs 1 = .ok (.istore_n 2, 1) := dk_61 (dk_at dksX7_costs_0 1 rfl rfl)
theorem dX7_costs_2 : decode cX7_costs 2 = .ok (.iconst 0, 1) := dk_3 (dk_at dksX7_costs_0 2 rfl rfl)
theorem dX7_costs_3 : decode cX7_costs 3 = .ok (.istore_n 3, 1) := dk_62 (dk_at dksX7_costs_0 3 rfl rfl)
theorem dX7_costs_4 : decode cX7_costs 4 = .ok (.iload_n 3, 1) := dk_29 (dk_at dksX7_costs_0 4 rfl rfl)
theorem dX7_costs_5 : decode cX7_costs 5 = .ok (.aload_n 0, 1) := dk_42 (dk_at dksX7_costs_0 5 rfl rfl)
theorem dX7_costs_6 : decode cX7_costs 6 = .ok (.getfield 12, 3) := dk_180 0 12 (dk_at dksX7_costs_0 6 rfl rfl)
theorem dX7_costs_9 : decode cX7_costs 9 = .ok (.invokevirtual 27, 3) := dk_182 0 27 (dk_at dksX7_costs_0 9 rfl rfl)
theorem dX7_costs_12 : decode cX7_costs 12 = .ok (.if_icmp .ge 43, 3) := dk_162 0 43 (dk_at dksX7_costs_0 12 rfl rfl)
theorem dX7_costs_15 : decode cX7_costs 15 = .ok (.iload_n 2, 1) := dk_28 (dk_at dksX7_costs_0 15 rfl rfl)
theorem dX7_costs_16 : decode cX7_costs 16 = .ok (.aload_n 0, 1) := dk_42 (dk_at dksX7_costs_0 16 rfl rfl)
theorem dX7_costs_17 : decode cX7_costs 17 = .ok (.getfield 12, 3) := dk_180 0 12 (dk_at dksX7_costs_0 17 rfl rfl)
theorem dX7_costs_20 : decode cX7_costs 20 = .ok (.iload_n 3, 1) := dk_29 (dk_at dksX7_costs_0 20 rfl rfl)
theorem dX7_costs_21 : decode cX7_costs 21 = .ok (.invokevirtual 31, 3) := dk_182 0 31 (dk_at dksX7_costs_0 21 rfl rfl)
theorem dX7_costs_24 : decode cX7_costs 24 = .ok (.checkcast 35, 3) := dk_192 0 35 (dk_at dksX7_costs_1 0 rfl rfl)
theorem dX7_costs_27 : decode cX7_costs 27 = .ok (.getfield 64, 3) := dk_180 0 64 (dk_at dksX7_costs_1 3 rfl rfl)
theorem dX7_costs_30 : decode cX7_costs 30 = .ok (.aload_n 0, 1) := dk_42 (dk_at dksX7_costs_1 6 rfl rfl)
theorem dX7_costs_31 : decode cX7_costs 31 = .ok (.getfield 21, 3) := dk_180 0 21 (dk_at dksX7_costs_1 7 rfl rfl)
theorem dX7_costs_34 : decode cX7_costs 34 = .ok (.iload_n 1, 1) := dk_27 (dk_at dksX7_costs_1 10 rfl rfl)
theorem dX7_costs_35 : decode cX7_costs 35 = .ok (.invokevirtual 31, 3) := dk_182 0 31 (dk_at dksX7_costs_1 11 rfl rfl)
theorem dX7_costs_38 : decode cX7_costs 38 = .ok (.checkcast 47, 3) := dk_192 0 47 (dk_at dksX7_costs_1 14 rfl rfl)
theorem dX7_costs_41 : decode cX7_costs 41 = .ok (.getfield 68, 3) := dk_180 0 68 (dk_at dksX7_costs_1 17 rfl rfl)
theorem dX7_costs_44 : decode cX7_costs 44 = .ok (.iload_n 3, 1) := dk_29 (dk_at dksX7_costs_1 20 rfl rfl)
theorem dX7_costs_45 : decode cX7_costs 45 = .ok (.iaload, 1) := dk_46 (dk_at dksX7_costs_1 21 rfl rfl)
theorem dX7_costs_46 : decode cX7_costs 46 = .ok (.imul, 1) := dk_104 (dk_at dksX7_costs_1 22 rfl rfl)
theorem dX7_costs_47 : decode cX7_costs 47 = .ok (.iadd, 1) := dk_96 (dk_at dksX7_costs_1 23 rfl rfl)
theorem dX7_costs_48 : decode cX7_costs 48 = .ok (.istore_n 2, 1) := dk_61 (dk_at dksX7_costs_2 0 rfl rfl)
theorem dX7_costs_49 : decode cX7_costs 49 = .ok (.iinc 3 1, 3) := dk_132 3 1 (dk_at dksX7_costs_2 1 rfl rfl)
theorem dX7_costs_52 : decode cX7_costs 52 = .ok (.goto (-48), 3) := dk_167 255 208 (dk_at dksX7_costs_2 4 rfl rfl)
theorem dX7_costs_55 : decode cX7_costs 55 = .ok (.iload_n 2, 1) := dk_28 (dk_at dksX7_costs_2 7 rfl rfl)
theorem dX7_costs_56 : decode cX7_costs 56 = .ok (.ireturn, 1) := dk_172 (dk_at dksX7_costs_2 8 rfl rfl)
theorem q132 : (Jvm.Cond.initialized "NextAtBar$House") ∈ lw_all := lw_g (lw_at lw_m1 10 rfl) rfl
theorem q306 : (Jvm.Cond.instantiable "NextAtBar$House" (7 : Nat)) ∈ lw_all := lw_g (lw_at lw_m1 184 rfl) rfl
theorem q308 : (Jvm.Cond.instanceMethod ({ cls := "NextAtBar$House", name := "<init>", desc := "()V" } : Jvm.MethodName)) ∈ lw_all := lw_g (lw_at lw_m1 186 rfl) rfl
theorem q309 : (Jvm.Cond.code ({ cls := "NextAtBar$House", name := "<init>", desc := "()V" } : Jvm.MethodName) prog_6_method_1_code (1 : Nat) (Option.none : Option Jvm.ClassFile.FieldType)) ∈ lw_all := lw_g (lw_at lw_m1 187 rfl) rfl
theorem q310 : (Jvm.Cond.methodLink "NextAtBar$House" (3 : Nat) ({ cls := "java/lang/Object", name := "<init>", desc := "()V" } : Jvm.MethodName)) ∈ lw_all := lw_g (lw_at lw_m1 188 rfl) rfl
theorem q311 : (Jvm.Cond.classLink "NextAtBar$House" (9 : Nat) "java/util/ArrayList") ∈ lw_all := lw_g (lw_at lw_m1 189 rfl) rfl
theorem q312 : (Jvm.Cond.methodLink "NextAtBar$House" (11 : Nat) ({ cls := "java/util/ArrayList", name := "<init>", desc := "()V" } : Jvm.MethodName)) ∈ lw_all := lw_g (lw_at lw_m1 190 rfl) rfl
theorem q320 : (Jvm.Cond.fieldLink "NextAtBar$House" (12 : Nat) "NextAtBar$House" "drinks" "Ljava/util/ArrayList;") ∈ lw_all := lw_g (lw_at lw_m1 198 rfl) rfl
theorem q323 : (Jvm.Cond.fieldLink "NextAtBar$House" (18 : Nat) "NextAtBar$House" "staff" "Ljava/util/ArrayList;") ∈ lw_all := lw_g (lw_at lw_m1 201 rfl) rfl
theorem q327 : (Jvm.Cond.fieldLink "NextAtBar$House" (21 : Nat) "NextAtBar$House" "people" "Ljava/util/ArrayList;") ∈ lw_all := lw_g (lw_at lw_m1 205 rfl) rfl
theorem q332 : (Jvm.Cond.fieldLink "NextAtBar$House" (24 : Nat) "NextAtBar$House" "tellings" "Ljava/util/ArrayList;") ∈ lw_all := lw_g (lw_at lw_m1 210 rfl) rfl
theorem q336 : (Jvm.Cond.lays "NextAtBar$House" "NextAtBar$House" "places" "I") ∈ lw_all := lw_g (lw_at lw_m1 214 rfl) rfl
theorem q337 : (Jvm.Cond.soleField "NextAtBar$House" "places") ∈ lw_all := lw_g (lw_at lw_m1 215 rfl) rfl
theorem q338 : (Jvm.Cond.lays "NextAtBar$House" "NextAtBar$House" "bell" "I") ∈ lw_all := lw_g (lw_at lw_m1 216 rfl) rfl
theorem q339 : (Jvm.Cond.soleField "NextAtBar$House" "bell") ∈ lw_all := lw_g (lw_at lw_m1 217 rfl) rfl
theorem q340 : (Jvm.Cond.lays "NextAtBar$House" "NextAtBar$House" "shelves" "I") ∈ lw_all := lw_g (lw_at lw_m1 218 rfl) rfl
theorem q341 : (Jvm.Cond.soleField "NextAtBar$House" "shelves") ∈ lw_all := lw_g (lw_at lw_m1 219 rfl) rfl
theorem q342 : (Jvm.Cond.laysFinal "NextAtBar$House" "NextAtBar$House" "drinks" "Ljava/util/ArrayList;") ∈ lw_all := lw_g (lw_at lw_m1 220 rfl) rfl
theorem q343 : (Jvm.Cond.soleField "NextAtBar$House" "drinks") ∈ lw_all := lw_g (lw_at lw_m1 221 rfl) rfl
theorem q344 : (Jvm.Cond.laysFinal "NextAtBar$House" "NextAtBar$House" "staff" "Ljava/util/ArrayList;") ∈ lw_all := lw_g (lw_at lw_m1 222 rfl) rfl
theorem q345 : (Jvm.Cond.soleField "NextAtBar$House" "staff") ∈ lw_all := lw_g (lw_at lw_m1 223 rfl) rfl
theorem q346 : (Jvm.Cond.laysFinal "NextAtBar$House" "NextAtBar$House" "people" "Ljava/util/ArrayList;") ∈ lw_all := lw_g (lw_at lw_m1 224 rfl) rfl
theorem q347 : (Jvm.Cond.soleField "NextAtBar$House" "people") ∈ lw_all := lw_g (lw_at lw_m1 225 rfl) rfl
theorem q348 : (Jvm.Cond.laysFinal "NextAtBar$House" "NextAtBar$House" "tellings" "Ljava/util/ArrayList;") ∈ lw_all := lw_g (lw_at lw_m1 226 rfl) rfl
theorem q349 : (Jvm.Cond.soleField "NextAtBar$House" "tellings") ∈ lw_all := lw_g (lw_at lw_m1 227 rfl) rfl
theorem q350 : (Jvm.Cond.superclass "NextAtBar$House" "java/lang/Object") ∈ lw_all := lw_g (lw_at lw_m1 228 rfl) rfl
theorem q731 : (Jvm.Cond.instanceMethod ({ cls := "NextAtBar$House", name := "isName", desc := "(Ljava/lang/String;)Z" } : Jvm.MethodName)) ∈ lw_all := lw_g (lw_at lw_m3 129 rfl) rfl
theorem q732 : (Jvm.Cond.selects "NextAtBar$House" ({ cls := "NextAtBar$House", name := "isName", desc := "(Ljava/lang/String;)Z" } : Jvm.MethodName) ({ cls := "NextAtBar$House", name := "isName", desc := "(Ljava/lang/String;)Z" } : Jvm.MethodName)) ∈ lw_all := lw_g (lw_at lw_m3 130 rfl) rfl
theorem q733 : (Jvm.Cond.code ({ cls := "NextAtBar$House", name := "isName", desc := "(Ljava/lang/String;)Z" } : Jvm.MethodName) prog_6_method_4_code (3 : Nat) (Option.some Jvm.ClassFile.FieldType.boolean)) ∈ lw_all := lw_g (lw_at lw_m3 131 rfl) rfl
theorem q734 : (Jvm.Cond.methodLink "NextAtBar$House" (27 : Nat) ({ cls := "java/util/ArrayList", name := "size", desc := "()I" } : Jvm.MethodName)) ∈ lw_all := lw_g (lw_at lw_m3 132 rfl) rfl
theorem q735 : (Jvm.Cond.methodLink "NextAtBar$House" (31 : Nat) ({ cls := "java/util/ArrayList", name := "get", desc := "(I)Ljava/lang/Object;" } : Jvm.MethodName)) ∈ lw_all := lw_g (lw_at lw_m3 133 rfl) rfl
theorem q747 : (Jvm.Cond.classLink "NextAtBar$House" (50 : Nat) "NextAtBar$Serve\x72") ∈ lw_all := lw_g (lw_at lw_m3 145 rfl) rfl
theorem q748 : (Jvm.Cond.methodLink "NextAtBar$House" (41 : Nat) ({ cls := "java/lang/String", name := "equals", desc := "(Ljava/lang/Object;)Z" } : Jvm.MethodName)) ∈ lw_all := lw_g (lw_at lw_m3 146 rfl) rfl
theorem q749 : (Jvm.Cond.methodLink "NextAtBar$House" (53 : Nat) ({ cls := "NextAtBar$House", name := "drink", desc := "(Ljava/lang/String;)I" } : Jvm.MethodName)) ∈ lw_all := lw_g (lw_at lw_m3 147 rfl) rfl
theorem q750 : (Jvm.Cond.instanceMethod ({ cls := "NextAtBar$House", name := "drink", desc := "(Ljava/lang/String;)I" } : Jvm.MethodName)) ∈ lw_all := lw_g (lw_at lw_m3 148 rfl) rfl
theorem q751 : (Jvm.Cond.selects "NextAtBar$House" ({ cls := "NextAtBar$House", name := "drink", desc := "(Ljava/lang/String;)I" } : Jvm.MethodName) ({ cls := "NextAtBar$House", name := "drink", desc := "(Ljava/lang/String;)I" } : Jvm.MethodName)) ∈ lw_all := lw_g (lw_at lw_m3 149 rfl) rfl
theorem q752 : (Jvm.Cond.code ({ cls := "NextAtBar$House", name := "drink", desc := "(Ljava/lang/String;)I" } : Jvm.MethodName) prog_6_method_2_code (3 : Nat) (Option.some Jvm.ClassFile.FieldType.int)) ∈ lw_all := lw_g (lw_at lw_m3 150 rfl) rfl
theorem q753 : (Jvm.Cond.classLink "NextAtBar$House" (35 : Nat) "NextAtBar$Drink") ∈ lw_all := lw_g (lw_at lw_m3 151 rfl) rfl
theorem q754 : (Jvm.Cond.methodLink "NextAtBar$House" (57 : Nat) ({ cls := "NextAtBar$House", name := "person", desc := "(Ljava/lang/String;)I" } : Jvm.MethodName)) ∈ lw_all := lw_g (lw_at lw_m3 152 rfl) rfl
theorem q755 : (Jvm.Cond.instanceMethod ({ cls := "NextAtBar$House", name := "person", desc := "(Ljava/lang/String;)I" } : Jvm.MethodName)) ∈ lw_all := lw_g (lw_at lw_m3 153 rfl) rfl
theorem q756 : (Jvm.Cond.selects "NextAtBar$House" ({ cls := "NextAtBar$House", name := "person", desc := "(Ljava/lang/String;)I" } : Jvm.MethodName) ({ cls := "NextAtBar$House", name := "person", desc := "(Ljava/lang/String;)I" } : Jvm.MethodName)) ∈ lw_all := lw_g (lw_at lw_m3 154 rfl) rfl
theorem q757 : (Jvm.Cond.code ({ cls := "NextAtBar$House", name := "person", desc := "(Ljava/lang/String;)I" } : Jvm.MethodName) prog_6_method_3_code (3 : Nat) (Option.some Jvm.ClassFile.FieldType.int)) ∈ lw_all := lw_g (lw_at lw_m3 155 rfl) rfl
theorem q758 : (Jvm.Cond.classLink "NextAtBar$House" (47 : Nat) "NextAtBar$Person") ∈ lw_all := lw_g (lw_at lw_m3 156 rfl) rfl
theorem q769 : (Jvm.Cond.fieldLink "NextAtBar$House" (37 : Nat) "NextAtBar$Drink" "name" "Ljava/lang/String;") ∈ lw_all := lw_g (lw_at lw_m3 167 rfl) rfl
theorem q773 : (Jvm.Cond.fieldLink "NextAtBar$House" (64 : Nat) "NextAtBar$Drink" "costs" "I") ∈ lw_all := lw_g (lw_at lw_m3 171 rfl) rfl
theorem q811 : (Jvm.Cond.selects "NextAtBar$House" ({ cls := "java/lang/Object", name := "getClass", desc := "()Ljava/lang/Class;" } : Jvm.MethodName) ({ cls := "java/lang/Object", name := "getClass", desc := "()Ljava/lang/Class;" } : Jvm.MethodName)) ∈ lw_all := lw_g (lw_at lw_m3 209 rfl) rfl
theorem q903 : (Jvm.Cond.fieldLink "NextAtBar$House" (52 : Nat) "NextAtBar$Serve\x72" "name" "Ljava/lang/String;") ∈ lw_all := lw_g (lw_at lw_m4 61 rfl) rfl
theorem q977 : (Jvm.Cond.fieldLink "NextAtBar$House" (49 : Nat) "NextAtBar$Person" "name" "Ljava/lang/String;") ∈ lw_all := lw_g (lw_at lw_m4 135 rfl) rfl
theorem q982 : (Jvm.Cond.fieldLink "NextAtBar$House" (68 : Nat) "NextAtBar$Person" "wants" "[I") ∈ lw_all := lw_g (lw_at lw_m4 140 rfl) rfl
theorem q1350 : (Jvm.Cond.instanceMethod ({ cls := "NextAtBar$House", name := "isAhead", desc := "(II)Z" } : Jvm.MethodName)) ∈ lw_all := lw_g (lw_at lw_m6 28 rfl) rfl
theorem q1351 : (Jvm.Cond.selects "NextAtBar$House" ({ cls := "NextAtBar$House", name := "isAhead", desc := "(II)Z" } : Jvm.MethodName) ({ cls := "NextAtBar$House", name := "isAhead", desc := "(II)Z" } : Jvm.MethodName)) ∈ lw_all := lw_g (lw_at lw_m6 29 rfl) rfl
theorem q1352 : (Jvm.Cond.code ({ cls := "NextAtBar$House", name := "isAhead", desc := "(II)Z" } : Jvm.MethodName) prog_6_method_5_code (3 : Nat) (Option.some Jvm.ClassFile.FieldType.boolean)) ∈ lw_all := lw_g (lw_at lw_m6 30 rfl) rfl
theorem q1353 : (Jvm.Cond.methodLink "NextAtBar$House" (60 : Nat) ({ cls := "NextAtBar$Person", name := "isAhead", desc := "(LNextAtBar$Person;II)Z" } : Jvm.MethodName)) ∈ lw_all := lw_g (lw_at lw_m6 31 rfl) rfl
theorem q1366 : (Jvm.Cond.instanceMethod ({ cls := "NextAtBar$House", name := "time", desc := "(II)I" } : Jvm.MethodName)) ∈ lw_all := lw_g (lw_at lw_m6 44 rfl) rfl
theorem q1367 : (Jvm.Cond.selects "NextAtBar$House" ({ cls := "NextAtBar$House", name := "time", desc := "(II)I" } : Jvm.MethodName) ({ cls := "NextAtBar$House", name := "time", desc := "(II)I" } : Jvm.MethodName)) ∈ lw_all := lw_g (lw_at lw_m6 45 rfl) rfl
theorem q1368 : (Jvm.Cond.code ({ cls := "NextAtBar$House", name := "time", desc := "(II)I" } : Jvm.MethodName) prog_6_method_7_code (5 : Nat) (Option.some Jvm.ClassFile.FieldType.int)) ∈ lw_all := lw_g (lw_at lw_m6 46 rfl) rfl
theorem q1369 : (Jvm.Cond.methodLink "NextAtBar$House" (72 : Nat) ({ cls := "NextAtBar$Drink", name := "time", desc := "(IZ)I" } : Jvm.MethodName)) ∈ lw_all := lw_g (lw_at lw_m6 47 rfl) rfl
theorem q1378 : (Jvm.Cond.instanceMethod ({ cls := "NextAtBar$House", name := "costs", desc := "(I)I" } : Jvm.MethodName)) ∈ lw_all := lw_g (lw_at lw_m6 56 rfl) rfl
theorem q1379 : (Jvm.Cond.selects "NextAtBar$House" ({ cls := "NextAtBar$House", name := "costs", desc := "(I)I" } : Jvm.MethodName) ({ cls := "NextAtBar$House", name := "costs", desc := "(I)I" } : Jvm.MethodName)) ∈ lw_all := lw_g (lw_at lw_m6 57 rfl) rfl
theorem q1380 : (Jvm.Cond.code ({ cls := "NextAtBar$House", name := "costs", desc := "(I)I" } : Jvm.MethodName) prog_6_method_6_code (4 : Nat) (Option.some Jvm.ClassFile.FieldType.int)) ∈ lw_all := lw_g (lw_at lw_m6 58 rfl) rfl
theorem q2515 : (Jvm.Cond.castable "NextAtBar$House" "java/lang/Object") ∈ lw_tbl := lw_at lw_m10 233 rfl
theorem in_X7 : ∀ w ∈ wsX70, w ∈ lw_all := lw_in wsX70 [336, 338, 340, 342, 344, 346, 348] (by decide +kernel) (by decide +kernel)
/-! NextAtBar$Token -/
set_option maxRecDepth 100000
def RX8 : String := "NextAtBar$Token"
def TX8 : u_T := fun k => match k with
  | 0 => ("NextAtBar$Token", "sort", "I", true)
  | 1 => ("NextAtBar$Token", "place", "I", true)
  | 2 => ("NextAtBar$Token", "numbe\x72", "I", true)
  | _ => ("NextAtBar$Token", "word", "Ljava/lang/String;", true)
def tyX8 : Nat → FieldType := fun k => match k with
  | 0 => .int
  | 1 => .int
  | 2 => .int
  | _ => .object "java/lang/String"
abbrev wsX80 : List Cond := u_ws RX8 TX8 4
theorem nmX8 : ∀ a, a < 4 → ∀ b, b < 4 → a ≠ b → (TX8 a).2.1 ≠ (TX8 b).2.1 := by decide +kernel
theorem tyX8_ok : ∀ k, k < 4 → parseFieldDescriptor (TX8 k).2.2.1 = some (tyX8 k) := by decide +kernel
abbrev cX8_init : ByteArray := prog_21_method_1_code
def yX8_init : MethodName := ⟨RX8, "<init>", "(IIILjava/lang/String;)V"⟩
def dkwX8_init_1 : List UInt8 := [181, 0, 19, 177]
abbrev dktX8_init_1 : List UInt8 := dkwX8_init_1 ++ []
def dkwX8_init_0 : List UInt8 := [42, 183, 0, 1, 42, 27, 181, 0, 7, 42, 28, 181, 0, 13, 42, 29, 181, 0, 16, 42, 25, 4]
abbrev dktX8_init_0 : List UInt8 := dkwX8_init_0 ++ dktX8_init_1
theorem dksX8_init_0 : cX8_init.data.toList.drop 0 = dktX8_init_0 := by decide +kernel
theorem dksX8_init_1 : cX8_init.data.toList.drop 22 = dktX8_init_1 := dk_seg dksX8_init_0 22 rfl rfl
theorem dX8_init_0 : decode cX8_init 0 = .ok (.aload_n 0, 1) := dk_42 (dk_at dksX8_init_0 0 rfl rfl)
theorem dX8_init_1 : decode cX8_init 1 = .ok (.invokespecial 1, 3) := dk_183 0 1 (dk_at dksX8_init_0 1 rfl rfl)
theorem dX8_init_4 : decode cX8_init 4 = .ok (.aload_n 0, 1) := dk_42 (dk_at dksX8_init_0 4 rfl rfl)
theorem dX8_init_5 : decode cX8_init 5 = .ok (.iload_n 1, 1) := dk_27 (dk_at dksX8_init_0 5 rfl rfl)
theorem dX8_init_6 : decode cX8_init 6 = .ok (.putfield 7, 3) := dk_181 0 7 (dk_at dksX8_init_0 6 rfl rfl)
theorem dX8_init_9 : decode cX8_init 9 = .ok (.aload_n 0, 1) := dk_42 (dk_at dksX8_init_0 9 rfl rfl)
theorem dX8_init_10 : decode cX8_init 10 = .ok (.iload_n 2, 1) := dk_28 (dk_at dksX8_init_0 10 rfl rfl)
theorem dX8_init_11 : decode cX8_init 11 = .ok (.putfield 13, 3) := dk_181 0 13 (dk_at dksX8_init_0 11 rfl rfl)
theorem dX8_init_14 : decode cX8_init 14 = .ok (.aload_n 0, 1) := dk_42 (dk_at dksX8_init_0 14 rfl rfl)
theorem dX8_init_15 : decode cX8_init 15 = .ok (.iload_n 3, 1) := dk_29 (dk_at dksX8_init_0 15 rfl rfl)
theorem dX8_init_16 : decode cX8_init 16 = .ok (.putfield 16, 3) := dk_181 0 16 (dk_at dksX8_init_0 16 rfl rfl)
theorem dX8_init_19 : decode cX8_init 19 = .ok (.aload_n 0, 1) := dk_42 (dk_at dksX8_init_0 19 rfl rfl)
theorem dX8_init_20 : decode cX8_init 20 = .ok (.aload 4, 2) := dk_25 4 (dk_at dksX8_init_0 20 rfl rfl)
theorem dX8_init_22 : decode cX8_init 22 = .ok (.putfield 19, 3) := dk_181 0 19 (dk_at dksX8_init_1 0 rfl rfl)
theorem dX8_init_25 : decode cX8_init 25 = .ok (.return_, 1) := dk_177 (dk_at dksX8_init_1 3 rfl rfl)
abbrev cX8_is : ByteArray := prog_21_method_2_code
def yX8_is : MethodName := ⟨RX8, "is", "(Ljava/lang/String;)Z"⟩
def dkwX8_is_1 : List UInt8 := [172]
abbrev dktX8_is_1 : List UInt8 := dkwX8_is_1 ++ []
def dkwX8_is_0 : List UInt8 := [42, 180, 0, 7, 5, 160, 0, 18, 42, 180, 0, 19, 43, 182, 0, 23, 153, 0, 7, 4, 167, 0, 4, 3]
abbrev dktX8_is_0 : List UInt8 := dkwX8_is_0 ++ dktX8_is_1
theorem dksX8_is_0 : cX8_is.data.toList.drop 0 = dktX8_is_0 := by decide +kernel
theorem dksX8_is_1 : cX8_is.data.toList.drop 24 = dktX8_is_1 := dk_seg dksX8_is_0 24 rfl rfl
theorem dX8_is_0 : decode cX8_is 0 = .ok (.aload_n 0, 1) := dk_42 (dk_at dksX8_is_0 0 rfl rfl)
theorem dX8_is_1 : decode cX8_is 1 = .ok (.getfield 7, 3) := dk_180 0 7 (dk_at dksX8_is_0 1 rfl rfl)
theorem dX8_is_4 : decode cX8_is 4 = .ok (.iconst 2, 1) := dk_5 (dk_at dksX8_is_0 4 rfl rfl)
theorem dX8_is_5 : decode cX8_is 5 = .ok (.if_icmp .ne 18, 3) := dk_160 0 18 (dk_at dksX8_is_0 5 rfl rfl)
theorem dX8_is_8 : decode cX8_is 8 = .ok (.aload_n 0, 1) := dk_42 (dk_at dksX8_is_0 8 rfl rfl)
theorem dX8_is_9 : decode cX8_is 9 = .ok (.getfield 19, 3) := dk_180 0 19 (dk_at dksX8_is_0 9 rfl rfl)
theorem dX8_is_12 : decode cX8_is 12 = .ok (.aload_n 1, 1) := dk_43 (dk_at dksX8_is_0 12 rfl rfl)
theorem dX8_is_13 : decode cX8_is 13 = .ok (.invokevirtual 23, 3) := dk_182 0 23 (dk_at dksX8_is_0 13 rfl rfl)
theorem dX8_is_16 : decode cX8_is 16 = .ok (.ifCond .eq 7, 3) := dk_153 0 7 (dk_at dksX8_is_0 16 rfl rfl)
theorem dX8_is_19 : decode cX8_is 19 = .ok (.iconst 1, 1) := dk_4 (dk_at dksX8_is_0 19 rfl rfl)
theorem dX8_is_20 : decode cX8_is 20 = .ok (.goto 4, 3) := dk_167 0 4 (dk_at dksX8_is_0 20 rfl rfl)
theorem dX8_is_23 : decode cX8_is 23 = .ok (.iconst 0, 1) := dk_3 (dk_at dksX8_is_0 23 rfl rfl)
theorem dX8_is_24 : decode cX8_is 24 = .ok (.ireturn, 1) := dk_172 (dk_at dksX8_is_1 0 rfl rfl)
abbrev cX8_isName : ByteArray := prog_21_method_4_code
def yX8_isName : MethodName := ⟨RX8, "isName", "()Z"⟩
def dkwX8_isName_7 : List UInt8 := [3, 172, 4, 172]
abbrev dktX8_isName_7 : List UInt8 := dkwX8_isName_7 ++ []
def dkwX8_isName_6 : List UInt8 := [170, 0, 0, 0, 0, 40, 0, 0, 0, 0, 0, 0, 0, 5, 0, 0, 0, 38, 0, 0, 0, 38, 0, 0, 0, 38, 0, 0, 0, 38, 0, 0, 0, 38, 0, 0, 0, 38]
abbrev dktX8_isName_6 : List UInt8 := dkwX8_isName_6 ++ dktX8_isName_7
def dkwX8_isName_5 : List UInt8 := [18, 43, 182, 0, 23, 153, 0, 5, 8, 61, 28]
abbrev dktX8_isName_5 : List UInt8 := dkwX8_isName_5 ++ dktX8_isName_6
def dkwX8_isName_4 : List UInt8 := [153, 0, 33, 6, 61, 167, 0, 28, 43, 18, 41, 182, 0, 23, 153, 0, 19, 7, 61, 167, 0, 14, 43]
abbrev dktX8_isName_4 : List UInt8 := dkwX8_isName_4 ++ dktX8_isName_5
def dkwX8_isName_3 : List UInt8 := [61, 167, 0, 56, 43, 18, 37, 182, 0, 23, 153, 0, 47, 5, 61, 167, 0, 42, 43, 18, 39, 182, 0, 23]
abbrev dktX8_isName_3 : List UInt8 := dkwX8_isName_3 ++ dktX8_isName_4
def dkwX8_isName_2 : List UInt8 := [43, 18, 33, 182, 0, 23, 153, 0, 75, 3, 61, 167, 0, 70, 43, 18, 35, 182, 0, 23, 153, 0, 61, 4]
abbrev dktX8_isName_2 : List UInt8 := dkwX8_isName_2 ++ dktX8_isName_3
def dkwX8_isName_1 : List UInt8 := [171, 0, 0, 0, 0, 0, 140, 0, 0, 0, 6, 196, 227, 155, 85, 0, 0, 0, 101, 0, 53, 193, 232, 0, 0, 0, 129, 5, 182, 152, 152, 0, 0, 0, 73, 5, 237, 199, 32, 0, 0, 0, 59, 6, 133, 94, 42, 0, 0, 0, 115, 6, 138, 194, 224, 0, 0, 0, 87]
abbrev dktX8_isName_1 : List UInt8 := dkwX8_isName_1 ++ dktX8_isName_2
def dkwX8_isName_0 : List UInt8 := [42, 180, 0, 7, 5, 159, 0, 5, 3, 172, 42, 180, 0, 19, 76, 2, 61, 43, 182, 0, 29]
abbrev dktX8_isName_0 : List UInt8 := dkwX8_isName_0 ++ dktX8_isName_1
theorem dksX8_isName_0 : cX8_isName.data.toList.drop 0 = dktX8_isName_0 := by decide +kernel
theorem dksX8_isName_1 : cX8_isName.data.toList.drop 21 = dktX8_isName_1 := dk_seg dksX8_isName_0 21 rfl rfl
theorem dksX8_isName_2 : cX8_isName.data.toList.drop 80 = dktX8_isName_2 := dk_seg dksX8_isName_1 59 rfl rfl
theorem dksX8_isName_3 : cX8_isName.data.toList.drop 104 = dktX8_isName_3 := dk_seg dksX8_isName_2 24 rfl rfl
theorem dksX8_isName_4 : cX8_isName.data.toList.drop 128 = dktX8_isName_4 := dk_seg dksX8_isName_3 24 rfl rfl
theorem dksX8_isName_5 : cX8_isName.data.toList.drop 151 = dktX8_isName_5 := dk_seg dksX8_isName_4 23 rfl rfl
theorem dksX8_isName_6 : cX8_isName.data.toList.drop 162 = dktX8_isName_6 := dk_seg dksX8_isName_5 11 rfl rfl
theorem dksX8_isName_7 : cX8_isName.data.toList.drop 200 = dktX8_isName_7 := dk_seg dksX8_isName_6 38 rfl rfl
theorem dX8_isName_0 : decode cX8_isName 0 = .ok (.aload_n 0, 1) := dk_42 (dk_at dksX8_isName_0 0 rfl rfl)
theorem dX8_isName_1 : decode cX8_isName 1 = .ok (.getfield 7, 3) := dk_180 0 7 (dk_at dksX8_isName_0 1 rfl rfl)
theorem dX8_isName_4 : decode cX8_isName 4 = .ok (.iconst 2, 1) := dk_5 (dk_at dksX8_isName_0 4 rfl rfl)
theorem dX8_isName_5 : decode cX8_isName 5 = .ok (.if_icmp .eq 5, 3) := dk_159 0 5 (dk_at dksX8_isName_0 5 rfl rfl)
theorem dX8_isName_8 : decode cX8_isName 8 = .ok (.iconst 0, 1) := dk_3 (dk_at dksX8_isName_0 8 rfl rfl)
theorem dX8_isName_9 : decode cX8_isName 9 = .ok (.ireturn, 1) := dk_172 (dk_at dksX8_isName_0 9 rfl rfl)
theorem dX8_isName_10 : decode cX8_isName 10 = .ok (.aload_n 0, 1) := dk_42 (dk_at dksX8_isName_0 10 rfl rfl)
theorem dX8_isName_11 : decode cX8_isName 11 = .ok (.getfield 19, 3) := dk_180 0 19 (dk_at dksX8_isName_0 11 rfl rfl)
theorem dX8_isName_14 : decode cX8_isName 14 = .ok (.astore_n 1, 1) := dk_76 (dk_at dksX8_isName_0 14 rfl rfl)
theorem dX8_isName_15 : decode cX8_isName 15 = .ok (.iconst (-1), 1) := dk_2 (dk_at dksX8_isName_0 15 rfl rfl)
theorem dX8_isName_16 : decode cX8_isName 16 = .ok (.istore_n 2, 1) := dk_61 (dk_at dksX8_isName_0 16 rfl rfl)
theorem dX8_isName_17 : decode cX8_isName 17 = .ok (.aload_n 1, 1) := dk_43 (dk_at dksX8_isName_0 17 rfl rfl)
theorem dX8_isName_18 : decode cX8_isName 18 = .ok (.invokevirtual 29, 3) := dk_182 0 29 (dk_at dksX8_isName_0 18 rfl rfl)
theorem dX8_isName_21 : decode cX8_isName 21 = .ok (.lookupswitch 140 #[(-991716523, 101), (3523048, 129), (95852696, 73), (99469088, 59), (109403690, 115), (109757152, 87)], 59) := by decide +kernel
theorem dX8_isName_80 : decode cX8_isName 80 = .ok (.aload_n 1, 1) := dk_43 (dk_at dksX8_isName_2 0 rfl rfl)
theorem dX8_isName_81 : decode cX8_isName 81 = .ok (.ldc 33, 2) := dk_18 33 (dk_at dksX8_isName_2 1 rfl rfl)
theorem dX8_isName_83 : decode cX8_isName 83 = .ok (.invokevirtual 23, 3) := dk_182 0 23 (dk_at dksX8_isName_2 3 rfl rfl)
theorem dX8_isName_86 : decode cX8_isName 86 = .ok (.ifCond .eq 75, 3) := dk_153 0 75 (dk_at dksX8_isName_2 6 rfl rfl)
theorem dX8_isName_89 : decode cX8_isName 89 = .ok (.iconst 0, 1) := dk_3 (dk_at dksX8_isName_2 9 rfl rfl)
theorem dX8_isName_90 : decode cX8_isName 90 = .ok (.istore_n 2, 1) := dk_61 (dk_at dksX8_isName_2 10 rfl rfl)
theorem dX8_isName_91 : decode cX8_isName 91 = .ok (.goto 70, 3) := dk_167 0 70 (dk_at dksX8_isName_2 11 rfl rfl)
theorem dX8_isName_94 : decode cX8_isName 94 = .ok (.aload_n 1, 1) := dk_43 (dk_at dksX8_isName_2 14 rfl rfl)
theorem dX8_isName_95 : decode cX8_isName 95 = .ok (.ldc 35, 2) := dk_18 35 (dk_at dksX8_isName_2 15 rfl rfl)
theorem dX8_isName_97 : decode cX8_isName 97 = .ok (.invokevirtual 23, 3) := dk_182 0 23 (dk_at dksX8_isName_2 17 rfl rfl)
theorem dX8_isName_100 : decode cX8_isName 100 = .ok (.ifCond .eq 61, 3) := dk_153 0 61 (dk_at dksX8_isName_2 20 rfl rfl)
theorem dX8_isName_103 : decode cX8_isName 103 = .ok (.iconst 1, 1) := dk_4 (dk_at dksX8_isName_2 23 rfl rfl)
theorem dX8_isName_104 : decode cX8_isName 104 = .ok (.istore_n 2, 1) := dk_61 (dk_at dksX8_isName_3 0 rfl rfl)
theorem dX8_isName_105 : decode cX8_isName 105 = .ok (.goto 56, 3) := dk_167 0 56 (dk_at dksX8_isName_3 1 rfl rfl)
theorem dX8_isName_108 : decode cX8_isName 108 = .ok (.aload_n 1, 1) := dk_43 (dk_at dksX8_isName_3 4 rfl rfl)
theorem dX8_isName_109 : decode cX8_isName 109 = .ok (.ldc 37, 2) := dk_18 37 (dk_at dksX8_isName_3 5 rfl rfl)
theorem dX8_isName_111 : decode cX8_isName 111 = .ok (.invokevirtual 23, 3) := dk_182 0 23 (dk_at dksX8_isName_3 7 rfl rfl)
theorem dX8_isName_114 : decode cX8_isName 114 = .ok (.ifCond .eq 47, 3) := dk_153 0 47 (dk_at dksX8_isName_3 10 rfl rfl)
theorem dX8_isName_117 : decode cX8_isName 117 = .ok (.iconst 2, 1) := dk_5 (dk_at dksX8_isName_3 13 rfl rfl)
theorem dX8_isName_118 : decode cX8_isName 118 = .ok (.istore_n 2, 1) := dk_61 (dk_at dksX8_isName_3 14 rfl rfl)
theorem dX8_isName_119 : decode cX8_isName 119 = .ok (.goto 42, 3) := dk_167 0 42 (dk_at dksX8_isName_3 15 rfl rfl)
theorem dX8_isName_122 : decode cX8_isName 122 = .ok (.aload_n 1, 1) := dk_43 (dk_at dksX8_isName_3 18 rfl rfl)
theorem dX8_isName_123 : decode cX8_isName 123 = .ok (.ldc 39, 2) := dk_18 39 (dk_at dksX8_isName_3 19 rfl rfl)
theorem dX8_isName_125 : decode cX8_isName 125 = .ok (.invokevirtual 23, 3) := dk_182 0 23 (dk_at dksX8_isName_3 21 rfl rfl)
theorem dX8_isName_128 : decode cX8_isName 128 = .ok (.ifCond .eq 33, 3) := dk_153 0 33 (dk_at dksX8_isName_4 0 rfl rfl)
theorem dX8_isName_131 : decode cX8_isName 131 = .ok (.iconst 3, 1) := dk_6 (dk_at dksX8_isName_4 3 rfl rfl)
theorem dX8_isName_132 : decode cX8_isName 132 = .ok (.istore_n 2, 1) := dk_61 (dk_at dksX8_isName_4 4 rfl rfl)
theorem dX8_isName_133 : decode cX8_isName 133 = .ok (.goto 28, 3) := dk_167 0 28 (dk_at dksX8_isName_4 5 rfl rfl)
theorem dX8_isName_136 : decode cX8_isName 136 = .ok (.aload_n 1, 1) := dk_43 (dk_at dksX8_isName_4 8 rfl rfl)
theorem dX8_isName_137 : decode cX8_isName 137 = .ok (.ldc 41, 2) := dk_18 41 (dk_at dksX8_isName_4 9 rfl rfl)
theorem dX8_isName_139 : decode cX8_isName 139 = .ok (.invokevirtual 23, 3) := dk_182 0 23 (dk_at dksX8_isName_4 11 rfl rfl)
theorem dX8_isName_142 : decode cX8_isName 142 = .ok (.ifCond .eq 19, 3) := dk_153 0 19 (dk_at dksX8_isName_4 14 rfl rfl)
theorem dX8_isName_145 : decode cX8_isName 145 = .ok (.iconst 4, 1) := dk_7 (dk_at dksX8_isName_4 17 rfl rfl)
theorem dX8_isName_146 : decode cX8_isName 146 = .ok (.istore_n 2, 1) := dk_61 (dk_at dksX8_isName_4 18 rfl rfl)
theorem dX8_isName_147 : decode cX8_isName 147 = .ok (.goto 14, 3) := dk_167 0 14 (dk_at dksX8_isName_4 19 rfl rfl)
theorem dX8_isName_150 : decode cX8_isName 150 = .ok (.aload_n 1, 1) := dk_43 (dk_at dksX8_isName_4 22 rfl rfl)
theorem dX8_isName_151 : decode cX8_isName 151 = .ok (.ldc 43, 2) := dk_18 43 (dk_at dksX8_isName_5 0 rfl rfl)
theorem dX8_isName_153 : decode cX8_isName 153 = .ok (.invokevirtual 23, 3) := dk_182 0 23 (dk_at dksX8_isName_5 2 rfl rfl)
theorem dX8_isName_156 : decode cX8_isName 156 = .ok (.ifCond .eq 5, 3) := dk_153 0 5 (dk_at dksX8_isName_5 5 rfl rfl)
theorem dX8_isName_159 : decode cX8_isName 159 = .ok (.iconst 5, 1) := dk_8 (dk_at dksX8_isName_5 8 rfl rfl)
theorem dX8_isName_160 : decode cX8_isName 160 = .ok (.istore_n 2, 1) := dk_61 (dk_at dksX8_isName_5 9 rfl rfl)
theorem dX8_isName_161 : decode cX8_isName 161 = .ok (.iload_n 2, 1) := dk_28 (dk_at dksX8_isName_5 10 rfl rfl)
theorem dX8_isName_162 : decode cX8_isName 162 = .ok (.tableswitch 40 0 5 #[38, 38, 38, 38, 38, 38], 38) := by decide +kernel
theorem dX8_isName_200 : decode cX8_isName 200 = .ok (.iconst 0, 1) := dk_3 (dk_at dksX8_isName_7 0 rfl rfl)
theorem dX8_isName_201 : decode cX8_isName 201 = .ok (.ireturn, 1) := dk_172 (dk_at dksX8_isName_7 1 rfl rfl)
theorem dX8_isName_202 : decode cX8_isName 202 = .ok (.iconst 1, 1) := dk_4 (dk_at dksX8_isName_7 2 rfl rfl)
theorem dX8_isName_203 : decode cX8_isName 203 = .ok (.ireturn, 1) := dk_172 (dk_at dksX8_isName_7 3 rfl rfl)
abbrev cX8_isSign : ByteArray := prog_21_method_3_code
def yX8_isSign : MethodName := ⟨RX8, "isSign", "(C)Z"⟩
def dkwX8_isSign_0 : List UInt8 := [42, 180, 0, 7, 7, 160, 0, 15, 42, 180, 0, 16, 27, 160, 0, 7, 4, 167, 0, 4, 3, 172]
abbrev dktX8_isSign_0 : List UInt8 := dkwX8_isSign_0 ++ []
theorem dksX8_isSign_0 : cX8_isSign.data.toList.drop 0 = dktX8_isSign_0 := by decide +kernel
theorem dX8_isSign_0 : decode cX8_isSign 0 = .ok (.aload_n 0, 1) := dk_42 (dk_at dksX8_isSign_0 0 rfl rfl)
theorem dX8_isSign_1 : decode cX8_isSign 1 = .ok (.getfield 7, 3) := dk_180 0 7 (dk_at dksX8_isSign_0 1 rfl rfl)
theorem dX8_isSign_4 : decode cX8_isSign 4 = .ok (.iconst 4, 1) := dk_7 (dk_at dksX8_isSign_0 4 rfl rfl)
theorem dX8_isSign_5 : decode cX8_isSign 5 = .ok (.if_icmp .ne 15, 3) := dk_160 0 15 (dk_at dksX8_isSign_0 5 rfl rfl)
theorem dX8_isSign_8 : decode cX8_isSign 8 = .ok (.aload_n 0, 1) := dk_42 (dk_at dksX8_isSign_0 8 rfl rfl)
theorem dX8_isSign_9 : decode cX8_isSign 9 = .ok (.getfield 16, 3) := dk_180 0 16 (dk_at dksX8_isSign_0 9 rfl rfl)
theorem dX8_isSign_12 : decode cX8_isSign 12 = .ok (.iload_n 1, 1) := dk_27 (dk_at dksX8_isSign_0 12 rfl rfl)
theorem dX8_isSign_13 : decode cX8_isSign 13 = .ok (.if_icmp .ne 7, 3) := dk_160 0 7 (dk_at dksX8_isSign_0 13 rfl rfl)
theorem dX8_isSign_16 : decode cX8_isSign 16 = .ok (.iconst 1, 1) := dk_4 (dk_at dksX8_isSign_0 16 rfl rfl)
theorem dX8_isSign_17 : decode cX8_isSign 17 = .ok (.goto 4, 3) := dk_167 0 4 (dk_at dksX8_isSign_0 17 rfl rfl)
theorem dX8_isSign_20 : decode cX8_isSign 20 = .ok (.iconst 0, 1) := dk_3 (dk_at dksX8_isSign_0 20 rfl rfl)
theorem dX8_isSign_21 : decode cX8_isSign 21 = .ok (.ireturn, 1) := dk_172 (dk_at dksX8_isSign_0 21 rfl rfl)
theorem q133 : (Jvm.Cond.initialized "NextAtBar$Token") ∈ lw_all := lw_g (lw_at lw_m1 11 rfl) rfl
theorem q360 : (Jvm.Cond.instantiable "NextAtBar$Token" (4 : Nat)) ∈ lw_all := lw_g (lw_at lw_m1 238 rfl) rfl
theorem q363 : (Jvm.Cond.instanceMethod ({ cls := "NextAtBar$Token", name := "<init>", desc := "(IIILjava/lang/String;)V" } : Jvm.MethodName)) ∈ lw_all := lw_g (lw_at lw_m2 1 rfl) rfl
theorem q364 : (Jvm.Cond.code ({ cls := "NextAtBar$Token", name := "<init>", desc := "(IIILjava/lang/String;)V" } : Jvm.MethodName) prog_21_method_1_code (5 : Nat) (Option.none : Option Jvm.ClassFile.FieldType)) ∈ lw_all := lw_g (lw_at lw_m2 2 rfl) rfl
theorem q365 : (Jvm.Cond.methodLink "NextAtBar$Token" (1 : Nat) ({ cls := "java/lang/Object", name := "<init>", desc := "()V" } : Jvm.MethodName)) ∈ lw_all := lw_g (lw_at lw_m2 3 rfl) rfl
theorem q366 : (Jvm.Cond.fieldLink "NextAtBar$Token" (7 : Nat) "NextAtBar$Token" "sort" "I") ∈ lw_all := lw_g (lw_at lw_m2 4 rfl) rfl
theorem q368 : (Jvm.Cond.fieldLink "NextAtBar$Token" (13 : Nat) "NextAtBar$Token" "place" "I") ∈ lw_all := lw_g (lw_at lw_m2 6 rfl) rfl
theorem q370 : (Jvm.Cond.fieldLink "NextAtBar$Token" (16 : Nat) "NextAtBar$Token" "numbe\x72" "I") ∈ lw_all := lw_g (lw_at lw_m2 8 rfl) rfl
theorem q372 : (Jvm.Cond.fieldLink "NextAtBar$Token" (19 : Nat) "NextAtBar$Token" "word" "Ljava/lang/String;") ∈ lw_all := lw_g (lw_at lw_m2 10 rfl) rfl
theorem q374 : (Jvm.Cond.laysFinal "NextAtBar$Token" "NextAtBar$Token" "sort" "I") ∈ lw_all := lw_g (lw_at lw_m2 12 rfl) rfl
theorem q375 : (Jvm.Cond.soleField "NextAtBar$Token" "sort") ∈ lw_all := lw_g (lw_at lw_m2 13 rfl) rfl
theorem q376 : (Jvm.Cond.laysFinal "NextAtBar$Token" "NextAtBar$Token" "place" "I") ∈ lw_all := lw_g (lw_at lw_m2 14 rfl) rfl
theorem q377 : (Jvm.Cond.soleField "NextAtBar$Token" "place") ∈ lw_all := lw_g (lw_at lw_m2 15 rfl) rfl
theorem q378 : (Jvm.Cond.laysFinal "NextAtBar$Token" "NextAtBar$Token" "numbe\x72" "I") ∈ lw_all := lw_g (lw_at lw_m2 16 rfl) rfl
theorem q379 : (Jvm.Cond.soleField "NextAtBar$Token" "numbe\x72") ∈ lw_all := lw_g (lw_at lw_m2 17 rfl) rfl
theorem q380 : (Jvm.Cond.laysFinal "NextAtBar$Token" "NextAtBar$Token" "word" "Ljava/lang/String;") ∈ lw_all := lw_g (lw_at lw_m2 18 rfl) rfl
theorem q381 : (Jvm.Cond.soleField "NextAtBar$Token" "word") ∈ lw_all := lw_g (lw_at lw_m2 19 rfl) rfl
theorem q382 : (Jvm.Cond.superclass "NextAtBar$Token" "java/lang/Object") ∈ lw_all := lw_g (lw_at lw_m2 20 rfl) rfl
theorem q693 : (Jvm.Cond.instanceMethod ({ cls := "NextAtBar$Token", name := "is", desc := "(Ljava/lang/String;)Z" } : Jvm.MethodName)) ∈ lw_all := lw_g (lw_at lw_m3 91 rfl) rfl
theorem q694 : (Jvm.Cond.selects "NextAtBar$Token" ({ cls := "NextAtBar$Token", name := "is", desc := "(Ljava/lang/String;)Z" } : Jvm.MethodName) ({ cls := "NextAtBar$Token", name := "is", desc := "(Ljava/lang/String;)Z" } : Jvm.MethodName)) ∈ lw_all := lw_g (lw_at lw_m3 92 rfl) rfl
theorem q695 : (Jvm.Cond.code ({ cls := "NextAtBar$Token", name := "is", desc := "(Ljava/lang/String;)Z" } : Jvm.MethodName) prog_21_method_2_code (2 : Nat) (Option.some Jvm.ClassFile.FieldType.boolean)) ∈ lw_all := lw_g (lw_at lw_m3 93 rfl) rfl
theorem q696 : (Jvm.Cond.methodLink "NextAtBar$Token" (23 : Nat) ({ cls := "java/lang/String", name := "equals", desc := "(Ljava/lang/Object;)Z" } : Jvm.MethodName)) ∈ lw_all := lw_g (lw_at lw_m3 94 rfl) rfl
theorem q720 : (Jvm.Cond.instanceMethod ({ cls := "NextAtBar$Token", name := "isName", desc := "()Z" } : Jvm.MethodName)) ∈ lw_all := lw_g (lw_at lw_m3 118 rfl) rfl
theorem q721 : (Jvm.Cond.selects "NextAtBar$Token" ({ cls := "NextAtBar$Token", name := "isName", desc := "()Z" } : Jvm.MethodName) ({ cls := "NextAtBar$Token", name := "isName", desc := "()Z" } : Jvm.MethodName)) ∈ lw_all := lw_g (lw_at lw_m3 119 rfl) rfl
theorem q722 : (Jvm.Cond.code ({ cls := "NextAtBar$Token", name := "isName", desc := "()Z" } : Jvm.MethodName) prog_21_method_4_code (3 : Nat) (Option.some Jvm.ClassFile.FieldType.boolean)) ∈ lw_all := lw_g (lw_at lw_m3 120 rfl) rfl
theorem q723 : (Jvm.Cond.methodLink "NextAtBar$Token" (29 : Nat) ({ cls := "java/lang/String", name := "hashCode", desc := "()I" } : Jvm.MethodName)) ∈ lw_all := lw_g (lw_at lw_m3 121 rfl) rfl
theorem q724 : (Jvm.Cond.stringRef "NextAtBar$Token" (33 : Nat) "house") ∈ lw_tbl := lw_at lw_m3 122 rfl
theorem q725 : (Jvm.Cond.stringRef "NextAtBar$Token" (35 : Nat) "drink") ∈ lw_tbl := lw_at lw_m3 123 rfl
theorem q726 : (Jvm.Cond.stringRef "NextAtBar$Token" (37 : Nat) "staff") ∈ lw_tbl := lw_at lw_m3 124 rfl
theorem q727 : (Jvm.Cond.stringRef "NextAtBar$Token" (39 : Nat) "person") ∈ lw_tbl := lw_at lw_m3 125 rfl
theorem q728 : (Jvm.Cond.stringRef "NextAtBar$Token" (41 : Nat) "shelf") ∈ lw_tbl := lw_at lw_m3 126 rfl
theorem q729 : (Jvm.Cond.stringRef "NextAtBar$Token" (43 : Nat) "says") ∈ lw_tbl := lw_at lw_m3 127 rfl
theorem q825 : (Jvm.Cond.selects "NextAtBar$Token" ({ cls := "java/lang/Object", name := "getClass", desc := "()Ljava/lang/Class;" } : Jvm.MethodName) ({ cls := "java/lang/Object", name := "getClass", desc := "()Ljava/lang/Class;" } : Jvm.MethodName)) ∈ lw_all := lw_g (lw_at lw_m3 223 rfl) rfl
theorem q1034 : (Jvm.Cond.instanceMethod ({ cls := "NextAtBar$Token", name := "isSign", desc := "(C)Z" } : Jvm.MethodName)) ∈ lw_all := lw_g (lw_at lw_m4 192 rfl) rfl
theorem q1035 : (Jvm.Cond.selects "NextAtBar$Token" ({ cls := "NextAtBar$Token", name := "isSign", desc := "(C)Z" } : Jvm.MethodName) ({ cls := "NextAtBar$Token", name := "isSign", desc := "(C)Z" } : Jvm.MethodName)) ∈ lw_all := lw_g (lw_at lw_m4 193 rfl) rfl
theorem q1036 : (Jvm.Cond.code ({ cls := "NextAtBar$Token", name := "isSign", desc := "(C)Z" } : Jvm.MethodName) prog_21_method_3_code (2 : Nat) (Option.some Jvm.ClassFile.FieldType.boolean)) ∈ lw_all := lw_g (lw_at lw_m4 194 rfl) rfl
theorem q2516 : (Jvm.Cond.castable "NextAtBar$Token" "java/lang/Object") ∈ lw_tbl := lw_at lw_m10 234 rfl
theorem in_X8 : ∀ w ∈ wsX80, w ∈ lw_all := lw_in wsX80 [374, 376, 378, 380] (by decide +kernel) (by decide +kernel)
/-! NextAtBar$Tokens -/
set_option maxRecDepth 100000
def RX6 : String := "NextAtBar$Tokens"
def TX6 : u_T := fun k => match k with
  | 0 => ("NextAtBar$Tokens", "text", "[B", true)
  | 1 => ("NextAtBar$Tokens", "size", "I", true)
  | _ => ("NextAtBar$Tokens", "at", "I", false)
def tyX6 : Nat → FieldType := fun k => match k with
  | 0 => .array .byte
  | 1 => .int
  | _ => .int
abbrev wsX60 : List Cond := u_ws RX6 TX6 3
theorem nmX6 : ∀ a, a < 3 → ∀ b, b < 3 → a ≠ b → (TX6 a).2.1 ≠ (TX6 b).2.1 := by decide +kernel
theorem tyX6_ok : ∀ k, k < 3 → parseFieldDescriptor (TX6 k).2.2.1 = some (tyX6 k) := by decide +kernel
abbrev cX6_init : ByteArray := prog_22_method_1_code
def yX6_init : MethodName := ⟨RX6, "<init>", "([BI)V"⟩
def dkwX6_init_0 : List UInt8 := [42, 183, 0, 3, 42, 43, 181, 0, 9, 42, 28, 181, 0, 15, 177]
abbrev dktX6_init_0 : List UInt8 := dkwX6_init_0 ++ []
theorem dksX6_init_0 : cX6_init.data.toList.drop 0 = dktX6_init_0 := by decide +kernel
theorem dX6_init_0 : decode cX6_init 0 = .ok (.aload_n 0, 1) := dk_42 (dk_at dksX6_init_0 0 rfl rfl)
theorem dX6_init_1 : decode cX6_init 1 = .ok (.invokespecial 3, 3) := dk_183 0 3 (dk_at dksX6_init_0 1 rfl rfl)
theorem dX6_init_4 : decode cX6_init 4 = .ok (.aload_n 0, 1) := dk_42 (dk_at dksX6_init_0 4 rfl rfl)
theorem dX6_init_5 : decode cX6_init 5 = .ok (.aload_n 1, 1) := dk_43 (dk_at dksX6_init_0 5 rfl rfl)
theorem dX6_init_6 : decode cX6_init 6 = .ok (.putfield 9, 3) := dk_181 0 9 (dk_at dksX6_init_0 6 rfl rfl)
theorem dX6_init_9 : decode cX6_init 9 = .ok (.aload_n 0, 1) := dk_42 (dk_at dksX6_init_0 9 rfl rfl)
theorem dX6_init_10 : decode cX6_init 10 = .ok (.iload_n 2, 1) := dk_28 (dk_at dksX6_init_0 10 rfl rfl)
theorem dX6_init_11 : decode cX6_init 11 = .ok (.putfield 15, 3) := dk_181 0 15 (dk_at dksX6_init_0 11 rfl rfl)
theorem dX6_init_14 : decode cX6_init 14 = .ok (.return_, 1) := dk_177 (dk_at dksX6_init_0 14 rfl rfl)
abbrev cX6_next : ByteArray := prog_22_method_3_code
def yX6_next : MethodName := ⟨RX6, "next", "()LNextAtBar$Token;"⟩
def dkwX6_next_12 : List UInt8 := [7, 167, 0, 4, 3, 27, 28, 18, 28, 183, 0, 30, 176]
abbrev dktX6_next_12 : List UInt8 := dkwX6_next_12 ++ []
def dkwX6_next_11 : List UInt8 := [180, 0, 19, 4, 96, 181, 0, 19, 187, 0, 26, 89, 28, 16, 59, 159, 0, 9, 28, 16, 44, 160, 0, 7]
abbrev dktX6_next_11 : List UInt8 := dkwX6_next_11 ++ dktX6_next_12
def dkwX6_next_10 : List UInt8 := [164, 0, 7, 3, 167, 0, 4, 6, 27, 28, 18, 28, 183, 0, 30, 176, 42, 182, 0, 22, 61, 42, 89]
abbrev dktX6_next_10 : List UInt8 := dkwX6_next_10 ++ dktX6_next_11
def dkwX6_next_9 : List UInt8 := [180, 0, 19, 4, 96, 181, 0, 19, 167, 255, 209, 187, 0, 26, 89, 42, 180, 0, 19, 27, 100, 6]
abbrev dktX6_next_9 : List UInt8 := dkwX6_next_9 ++ dktX6_next_10
def dkwX6_next_8 : List UInt8 := [180, 0, 19, 27, 100, 6, 162, 0, 16, 16, 10, 28, 104, 42, 182, 0, 22, 96, 16, 48, 100, 61, 42, 89]
abbrev dktX6_next_8 : List UInt8 := dkwX6_next_8 ++ dktX6_next_9
def dkwX6_next_7 : List UInt8 := [184, 0, 33, 153, 0, 82, 3, 61, 42, 182, 0, 22, 16, 48, 16, 57, 184, 0, 33, 153, 0, 39, 42]
abbrev dktX6_next_7 : List UInt8 := dkwX6_next_7 ++ dktX6_next_8
def dkwX6_next_6 : List UInt8 := [167, 0, 4, 5, 27, 3, 44, 182, 0, 44, 183, 0, 30, 176, 42, 182, 0, 22, 16, 48, 16, 57]
abbrev dktX6_next_6 : List UInt8 := dkwX6_next_6 ++ dktX6_next_7
def dkwX6_next_5 : List UInt8 := [181, 0, 19, 167, 255, 211, 187, 0, 26, 89, 42, 180, 0, 19, 27, 100, 16, 8, 164, 0, 7, 3]
abbrev dktX6_next_5 : List UInt8 := dkwX6_next_5 ++ dktX6_next_6
def dkwX6_next_4 : List UInt8 := [16, 8, 162, 0, 13, 44, 42, 182, 0, 22, 146, 182, 0, 40, 87, 42, 89, 180, 0, 19, 4, 96]
abbrev dktX6_next_4 : List UInt8 := dkwX6_next_4 ++ dktX6_next_5
def dkwX6_next_3 : List UInt8 := [183, 0, 39, 77, 42, 182, 0, 22, 16, 97, 16, 122, 184, 0, 33, 153, 0, 37, 42, 180, 0, 19, 27, 100]
abbrev dktX6_next_3 : List UInt8 := dkwX6_next_3 ++ dktX6_next_4
def dkwX6_next_2 : List UInt8 := [183, 0, 30, 176, 42, 182, 0, 22, 16, 97, 16, 122, 184, 0, 33, 153, 0, 89, 187, 0, 37, 89]
abbrev dktX6_next_2 : List UInt8 := dkwX6_next_2 ++ dktX6_next_3
def dkwX6_next_1 : List UInt8 := [180, 0, 19, 60, 42, 180, 0, 19, 42, 180, 0, 15, 160, 0, 16, 187, 0, 26, 89, 4, 27, 3, 18, 28]
abbrev dktX6_next_1 : List UInt8 := dkwX6_next_1 ++ dktX6_next_2
def dkwX6_next_0 : List UInt8 := [42, 182, 0, 22, 16, 32, 160, 0, 16, 42, 89, 180, 0, 19, 4, 96, 181, 0, 19, 167, 255, 237, 42]
abbrev dktX6_next_0 : List UInt8 := dkwX6_next_0 ++ dktX6_next_1
theorem dksX6_next_0 : cX6_next.data.toList.drop 0 = dktX6_next_0 := by decide +kernel
theorem dksX6_next_1 : cX6_next.data.toList.drop 23 = dktX6_next_1 := dk_seg dksX6_next_0 23 rfl rfl
theorem dksX6_next_2 : cX6_next.data.toList.drop 47 = dktX6_next_2 := dk_seg dksX6_next_1 24 rfl rfl
theorem dksX6_next_3 : cX6_next.data.toList.drop 69 = dktX6_next_3 := dk_seg dksX6_next_2 22 rfl rfl
theorem dksX6_next_4 : cX6_next.data.toList.drop 93 = dktX6_next_4 := dk_seg dksX6_next_3 24 rfl rfl
theorem dksX6_next_5 : cX6_next.data.toList.drop 115 = dktX6_next_5 := dk_seg dksX6_next_4 22 rfl rfl
theorem dksX6_next_6 : cX6_next.data.toList.drop 137 = dktX6_next_6 := dk_seg dksX6_next_5 22 rfl rfl
theorem dksX6_next_7 : cX6_next.data.toList.drop 159 = dktX6_next_7 := dk_seg dksX6_next_6 22 rfl rfl
theorem dksX6_next_8 : cX6_next.data.toList.drop 182 = dktX6_next_8 := dk_seg dksX6_next_7 23 rfl rfl
theorem dksX6_next_9 : cX6_next.data.toList.drop 206 = dktX6_next_9 := dk_seg dksX6_next_8 24 rfl rfl
theorem dksX6_next_10 : cX6_next.data.toList.drop 228 = dktX6_next_10 := dk_seg dksX6_next_9 22 rfl rfl
theorem dksX6_next_11 : cX6_next.data.toList.drop 251 = dktX6_next_11 := dk_seg dksX6_next_10 23 rfl rfl
theorem dksX6_next_12 : cX6_next.data.toList.drop 275 = dktX6_next_12 := dk_seg dksX6_next_11 24 rfl rfl
theorem dX6_next_0 : decode cX6_next 0 = .ok (.aload_n 0, 1) := dk_42 (dk_at dksX6_next_0 0 rfl rfl)
theorem dX6_next_1 : decode cX6_next 1 = .ok (.invokevirtual 22, 3) := dk_182 0 22 (dk_at dksX6_next_0 1 rfl rfl)
theorem dX6_next_4 : decode cX6_next 4 = .ok (.bipush 32, 2) := dk_16 32 (dk_at dksX6_next_0 4 rfl rfl)
theorem dX6_next_6 : decode cX6_next 6 = .ok (.if_icmp .ne 16, 3) := dk_160 0 16 (dk_at dksX6_next_0 6 rfl rfl)
theorem dX6_next_9 : decode cX6_next 9 = .ok (.aload_n 0, 1) := dk_42 (dk_at dksX6_next_0 9 rfl rfl)
theorem dX6_next_10 : decode cX6_next 10 = .ok (.dup, 1) := dk_89 (dk_at dksX6_next_0 10 rfl rfl)
theorem dX6_next_11 : decode cX6_next 11 = .ok (.getfield 19, 3) := dk_180 0 19 (dk_at dksX6_next_0 11 rfl rfl)
theorem dX6_next_14 : decode cX6_next 14 = .ok (.iconst 1, 1) := dk_4 (dk_at dksX6_next_0 14 rfl rfl)
theorem dX6_next_15 : decode cX6_next 15 = .ok (.iadd, 1) := dk_96 (dk_at dksX6_next_0 15 rfl rfl)
theorem dX6_next_16 : decode cX6_next 16 = .ok (.putfield 19, 3) := dk_181 0 19 (dk_at dksX6_next_0 16 rfl rfl)
theorem dX6_next_19 : decode cX6_next 19 = .ok (.goto (-19), 3) := dk_167 255 237 (dk_at dksX6_next_0 19 rfl rfl)
theorem dX6_next_22 : decode cX6_next 22 = .ok (.aload_n 0, 1) := dk_42 (dk_at dksX6_next_0 22 rfl rfl)
theorem dX6_next_23 : decode cX6_next 23 = .ok (.getfield 19, 3) := dk_180 0 19 (dk_at dksX6_next_1 0 rfl rfl)
theorem dX6_next_26 : decode cX6_next 26 = .ok (.istore_n 1, 1) := dk_60 (dk_at dksX6_next_1 3 rfl rfl)
theorem dX6_next_27 : decode cX6_next 27 = .ok (.aload_n 0, 1) := dk_42 (dk_at dksX6_next_1 4 rfl rfl)
theorem dX6_next_28 : decode cX6_next 28 = .ok (.getfield 19, 3) := dk_180 0 19 (dk_at dksX6_next_1 5 rfl rfl)
theorem dX6_next_31 : decode cX6_next 31 = .ok (.aload_n 0, 1) := dk_42 (dk_at dksX6_next_1 8 rfl rfl)
theorem dX6_next_32 : decode cX6_next 32 = .ok (.getfield 15, 3) := dk_180 0 15 (dk_at dksX6_next_1 9 rfl rfl)
theorem dX6_next_35 : decode cX6_next 35 = .ok (.if_icmp .ne 16, 3) := dk_160 0 16 (dk_at dksX6_next_1 12 rfl rfl)
theorem dX6_next_38 : decode cX6_next 38 = .ok (.new 26, 3) := dk_187 0 26 (dk_at dksX6_next_1 15 rfl rfl)
theorem dX6_next_41 : decode cX6_next 41 = .ok (.dup, 1) := dk_89 (dk_at dksX6_next_1 18 rfl rfl)
theorem dX6_next_42 : decode cX6_next 42 = .ok (.iconst 1, 1) := dk_4 (dk_at dksX6_next_1 19 rfl rfl)
theorem dX6_next_43 : decode cX6_next 43 = .ok (.iload_n 1, 1) := dk_27 (dk_at dksX6_next_1 20 rfl rfl)
theorem dX6_next_44 : decode cX6_next 44 = .ok (.iconst 0, 1) := dk_3 (dk_at dksX6_next_1 21 rfl rfl)
theorem dX6_next_45 : decode cX6_next 45 = .ok (.ldc 28, 2) := dk_18 28 (dk_at dksX6_next_1 22 rfl rfl)
theorem dX6_next_47 : decode cX6_next 47 = .ok (.invokespecial 30, 3) := dk_183 0 30 (dk_at dksX6_next_2 0 rfl rfl)
theorem dX6_next_50 : decode cX6_next 50 = .ok (.areturn, 1) := dk_176 (dk_at dksX6_next_2 3 rfl rfl)
theorem dX6_next_51 : decode cX6_next 51 = .ok (.aload_n 0, 1) := dk_42 (dk_at dksX6_next_2 4 rfl rfl)
theorem dX6_next_52 : decode cX6_next 52 = .ok (.invokevirtual 22, 3) := dk_182 0 22 (dk_at dksX6_next_2 5 rfl rfl)
theorem dX6_next_55 : decode cX6_next 55 = .ok (.bipush 97, 2) := dk_16 97 (dk_at dksX6_next_2 8 rfl rfl)
theorem dX6_next_57 : decode cX6_next 57 = .ok (.bipush 122, 2) := dk_16 122 (dk_at dksX6_next_2 10 rfl rfl)
theorem dX6_next_59 : decode cX6_next 59 = .ok (.invokestatic 33, 3) := dk_184 0 33 (dk_at dksX6_next_2 12 rfl rfl)
theorem dX6_next_62 : decode cX6_next 62 = .ok (.ifCond .eq 89, 3) := dk_153 0 89 (dk_at dksX6_next_2 15 rfl rfl)
theorem dX6_next_65 : decode cX6_next 65 = .ok (.new 37, 3) := dk_187 0 37 (dk_at dksX6_next_2 18 rfl rfl)
theorem dX6_next_68 : decode cX6_next 68 = .ok (.dup, 1) := dk_89 (dk_at dksX6_next_2 21 rfl rfl)
theorem dX6_next_69 : decode cX6_next 69 = .ok (.invokespecial 39, 3) := dk_183 0 39 (dk_at dksX6_next_3 0 rfl rfl)
theorem dX6_next_72 : decode cX6_next 72 = .ok (.astore_n 2, 1) := dk_77 (dk_at dksX6_next_3 3 rfl rfl)
theorem dX6_next_73 : decode cX6_next 73 = .ok (.aload_n 0, 1) := dk_42 (dk_at dksX6_next_3 4 rfl rfl)
theorem dX6_next_74 : decode cX6_next 74 = .ok (.invokevirtual 22, 3) := dk_182 0 22 (dk_at dksX6_next_3 5 rfl rfl)
theorem dX6_next_77 : decode cX6_next 77 = .ok (.bipush 97, 2) := dk_16 97 (dk_at dksX6_next_3 8 rfl rfl)
theorem dX6_next_79 : decode cX6_next 79 = .ok (.bipush 122, 2) := dk_16 122 (dk_at dksX6_next_3 10 rfl rfl)
theorem dX6_next_81 : decode cX6_next 81 = .ok (.invokestatic 33, 3) := dk_184 0 33 (dk_at dksX6_next_3 12 rfl rfl)
theorem dX6_next_84 : decode cX6_next 84 = .ok (.ifCond .eq 37, 3) := dk_153 0 37 (dk_at dksX6_next_3 15 rfl rfl)
theorem dX6_next_87 : decode cX6_next 87 = .ok (.aload_n 0, 1) := dk_42 (dk_at dksX6_next_3 18 rfl rfl)
theorem dX6_next_88 : decode cX6_next 88 = .ok (.getfield 19, 3) := dk_180 0 19 (dk_at dksX6_next_3 19 rfl rfl)
theorem dX6_next_91 : decode cX6_next 91 = .ok (.iload_n 1, 1) := dk_27 (dk_at dksX6_next_3 22 rfl rfl)
theorem dX6_next_92 : decode cX6_next 92 = .ok (.isub, 1) := dk_100 (dk_at dksX6_next_3 23 rfl rfl)
theorem dX6_next_93 : decode cX6_next 93 = .ok (.bipush 8, 2) := dk_16 8 (dk_at dksX6_next_4 0 rfl rfl)
theorem dX6_next_95 : decode cX6_next 95 = .ok (.if_icmp .ge 13, 3) := dk_162 0 13 (dk_at dksX6_next_4 2 rfl rfl)
theorem dX6_next_98 : decode cX6_next 98 = .ok (.aload_n 2, 1) := dk_44 (dk_at dksX6_next_4 5 rfl rfl)
theorem dX6_next_99 : decode cX6_next 99 = .ok (.aload_n 0, 1) := dk_42 (dk_at dksX6_next_4 6 rfl rfl)
theorem dX6_next_100 : decode cX6_next 100 = .ok (.invokevirtual 22, 3) := dk_182 0 22 (dk_at dksX6_next_4 7 rfl rfl)
theorem dX6_next_103 : decode cX6_next 103 = .ok (.i2c, 1) := dk_146 (dk_at dksX6_next_4 10 rfl rfl)
theorem dX6_next_104 : decode cX6_next 104 = .ok (.invokevirtual 40, 3) := dk_182 0 40 (dk_at dksX6_next_4 11 rfl rfl)
theorem dX6_next_107 : decode cX6_next 107 = .ok (.pop, 1) := dk_87 (dk_at dksX6_next_4 14 rfl rfl)
theorem dX6_next_108 : decode cX6_next 108 = .ok (.aload_n 0, 1) := dk_42 (dk_at dksX6_next_4 15 rfl rfl)
theorem dX6_next_109 : decode cX6_next 109 = .ok (.dup, 1) := dk_89 (dk_at dksX6_next_4 16 rfl rfl)
theorem dX6_next_110 : decode cX6_next 110 = .ok (.getfield 19, 3) := dk_180 0 19 (dk_at dksX6_next_4 17 rfl rfl)
theorem dX6_next_113 : decode cX6_next 113 = .ok (.iconst 1, 1) := dk_4 (dk_at dksX6_next_4 20 rfl rfl)
theorem dX6_next_114 : decode cX6_next 114 = .ok (.iadd, 1) := dk_96 (dk_at dksX6_next_4 21 rfl rfl)
theorem dX6_next_115 : decode cX6_next 115 = .ok (.putfield 19, 3) := dk_181 0 19 (dk_at dksX6_next_5 0 rfl rfl)
theorem dX6_next_118 : decode cX6_next 118 = .ok (.goto (-45), 3) := dk_167 255 211 (dk_at dksX6_next_5 3 rfl rfl)
theorem dX6_next_121 : decode cX6_next 121 = .ok (.new 26, 3) := dk_187 0 26 (dk_at dksX6_next_5 6 rfl rfl)
theorem dX6_next_124 : decode cX6_next 124 = .ok (.dup, 1) := dk_89 (dk_at dksX6_next_5 9 rfl rfl)
theorem dX6_next_125 : decode cX6_next 125 = .ok (.aload_n 0, 1) := dk_42 (dk_at dksX6_next_5 10 rfl rfl)
theorem dX6_next_126 : decode cX6_next 126 = .ok (.getfield 19, 3) := dk_180 0 19 (dk_at dksX6_next_5 11 rfl rfl)
theorem dX6_next_129 : decode cX6_next 129 = .ok (.iload_n 1, 1) := dk_27 (dk_at dksX6_next_5 14 rfl rfl)
theorem dX6_next_130 : decode cX6_next 130 = .ok (.isub, 1) := dk_100 (dk_at dksX6_next_5 15 rfl rfl)
theorem dX6_next_131 : decode cX6_next 131 = .ok (.bipush 8, 2) := dk_16 8 (dk_at dksX6_next_5 16 rfl rfl)
theorem dX6_next_133 : decode cX6_next 133 = .ok (.if_icmp .le 7, 3) := dk_164 0 7 (dk_at dksX6_next_5 18 rfl rfl)
theorem dX6_next_136 : decode cX6_next 136 = .ok (.iconst 0, 1) := dk_3 (dk_at dksX6_next_5 21 rfl rfl)
theorem dX6_next_137 : decode cX6_next 137 = .ok (.goto 4, 3) := dk_167 0 4 (dk_at dksX6_next_6 0 rfl rfl)
theorem dX6_next_140 : decode cX6_next 140 = .ok (.iconst 2, 1) := dk_5 (dk_at dksX6_next_6 3 rfl rfl)
theorem dX6_next_141 : decode cX6_next 141 = .ok (.iload_n 1, 1) := dk_27 (dk_at dksX6_next_6 4 rfl rfl)
theorem dX6_next_142 : decode cX6_next 142 = .ok (.iconst 0, 1) := dk_3 (dk_at dksX6_next_6 5 rfl rfl)
theorem dX6_next_143 : decode cX6_next 143 = .ok (.aload_n 2, 1) := dk_44 (dk_at dksX6_next_6 6 rfl rfl)
theorem dX6_next_144 : decode cX6_next 144 = .ok (.invokevirtual 44, 3) := dk_182 0 44 (dk_at dksX6_next_6 7 rfl rfl)
theorem dX6_next_147 : decode cX6_next 147 = .ok (.invokespecial 30, 3) := dk_183 0 30 (dk_at dksX6_next_6 10 rfl rfl)
theorem dX6_next_150 : decode cX6_next 150 = .ok (.areturn, 1) := dk_176 (dk_at dksX6_next_6 13 rfl rfl)
theorem dX6_next_151 : decode cX6_next 151 = .ok (.aload_n 0, 1) := dk_42 (dk_at dksX6_next_6 14 rfl rfl)
theorem dX6_next_152 : decode cX6_next 152 = .ok (.invokevirtual 22, 3) := dk_182 0 22 (dk_at dksX6_next_6 15 rfl rfl)
theorem dX6_next_155 : decode cX6_next 155 = .ok (.bipush 48, 2) := dk_16 48 (dk_at dksX6_next_6 18 rfl rfl)
theorem dX6_next_157 : decode cX6_next 157 = .ok (.bipush 57, 2) := dk_16 57 (dk_at dksX6_next_6 20 rfl rfl)
theorem dX6_next_159 : decode cX6_next 159 = .ok (.invokestatic 33, 3) := dk_184 0 33 (dk_at dksX6_next_7 0 rfl rfl)
theorem dX6_next_162 : decode cX6_next 162 = .ok (.ifCond .eq 82, 3) := dk_153 0 82 (dk_at dksX6_next_7 3 rfl rfl)
theorem dX6_next_165 : decode cX6_next 165 = .ok (.iconst 0, 1) := dk_3 (dk_at dksX6_next_7 6 rfl rfl)
theorem dX6_next_166 : decode cX6_next 166 = .ok (.istore_n 2, 1) := dk_61 (dk_at dksX6_next_7 7 rfl rfl)
theorem dX6_next_167 : decode cX6_next 167 = .ok (.aload_n 0, 1) := dk_42 (dk_at dksX6_next_7 8 rfl rfl)
theorem dX6_next_168 : decode cX6_next 168 = .ok (.invokevirtual 22, 3) := dk_182 0 22 (dk_at dksX6_next_7 9 rfl rfl)
theorem dX6_next_171 : decode cX6_next 171 = .ok (.bipush 48, 2) := dk_16 48 (dk_at dksX6_next_7 12 rfl rfl)
theorem dX6_next_173 : decode cX6_next 173 = .ok (.bipush 57, 2) := dk_16 57 (dk_at dksX6_next_7 14 rfl rfl)
theorem dX6_next_175 : decode cX6_next 175 = .ok (.invokestatic 33, 3) := dk_184 0 33 (dk_at dksX6_next_7 16 rfl rfl)
theorem dX6_next_178 : decode cX6_next 178 = .ok (.ifCond .eq 39, 3) := dk_153 0 39 (dk_at dksX6_next_7 19 rfl rfl)
theorem dX6_next_181 : decode cX6_next 181 = .ok (.aload_n 0, 1) := dk_42 (dk_at dksX6_next_7 22 rfl rfl)
theorem dX6_next_182 : decode cX6_next 182 = .ok (.getfield 19, 3) := dk_180 0 19 (dk_at dksX6_next_8 0 rfl rfl)
theorem dX6_next_185 : decode cX6_next 185 = .ok (.iload_n 1, 1) := dk_27 (dk_at dksX6_next_8 3 rfl rfl)
theorem dX6_next_186 : decode cX6_next 186 = .ok (.isub, 1) := dk_100 (dk_at dksX6_next_8 4 rfl rfl)
theorem dX6_next_187 : decode cX6_next 187 = .ok (.iconst 3, 1) := dk_6 (dk_at dksX6_next_8 5 rfl rfl)
theorem dX6_next_188 : decode cX6_next 188 = .ok (.if_icmp .ge 16, 3) := dk_162 0 16 (dk_at dksX6_next_8 6 rfl rfl)
theorem dX6_next_191 : decode cX6_next 191 = .ok (.bipush 10, 2) := dk_16 10 (dk_at dksX6_next_8 9 rfl rfl)
theorem dX6_next_193 : decode cX6_next 193 = .ok (.iload_n 2, 1) := dk_28 (dk_at dksX6_next_8 11 rfl rfl)
theorem dX6_next_194 : decode cX6_next 194 = .ok (.imul, 1) := dk_104 (dk_at dksX6_next_8 12 rfl rfl)
theorem dX6_next_195 : decode cX6_next 195 = .ok (.aload_n 0, 1) := dk_42 (dk_at dksX6_next_8 13 rfl rfl)
theorem dX6_next_196 : decode cX6_next 196 = .ok (.invokevirtual 22, 3) := dk_182 0 22 (dk_at dksX6_next_8 14 rfl rfl)
theorem dX6_next_199 : decode cX6_next 199 = .ok (.iadd, 1) := dk_96 (dk_at dksX6_next_8 17 rfl rfl)
theorem dX6_next_200 : decode cX6_next 200 = .ok (.bipush 48, 2) := dk_16 48 (dk_at dksX6_next_8 18 rfl rfl)
theorem dX6_next_202 : decode cX6_next 202 = .ok (.isub, 1) := dk_100 (dk_at dksX6_next_8 20 rfl rfl)
theorem dX6_next_203 : decode cX6_next 203 = .ok (.istore_n 2, 1) := dk_61 (dk_at dksX6_next_8 21 rfl rfl)
theorem dX6_next_204 : decode cX6_next 204 = .ok (.aload_n 0, 1) := dk_42 (dk_at dksX6_next_8 22 rfl rfl)
theorem dX6_next_205 : decode cX6_next 205 = .ok (.dup, 1) := dk_89 (dk_at dksX6_next_8 23 rfl rfl)
theorem dX6_next_206 : decode cX6_next 206 = .ok (.getfield 19, 3) := dk_180 0 19 (dk_at dksX6_next_9 0 rfl rfl)
theorem dX6_next_209 : decode cX6_next 209 = .ok (.iconst 1, 1) := dk_4 (dk_at dksX6_next_9 3 rfl rfl)
theorem dX6_next_210 : decode cX6_next 210 = .ok (.iadd, 1) := dk_96 (dk_at dksX6_next_9 4 rfl rfl)
theorem dX6_next_211 : decode cX6_next 211 = .ok (.putfield 19, 3) := dk_181 0 19 (dk_at dksX6_next_9 5 rfl rfl)
theorem dX6_next_214 : decode cX6_next 214 = .ok (.goto (-47), 3) := dk_167 255 209 (dk_at dksX6_next_9 8 rfl rfl)
theorem dX6_next_217 : decode cX6_next 217 = .ok (.new 26, 3) := dk_187 0 26 (dk_at dksX6_next_9 11 rfl rfl)
theorem dX6_next_220 : decode cX6_next 220 = .ok (.dup, 1) := dk_89 (dk_at dksX6_next_9 14 rfl rfl)
theorem dX6_next_221 : decode cX6_next 221 = .ok (.aload_n 0, 1) := dk_42 (dk_at dksX6_next_9 15 rfl rfl)
theorem dX6_next_222 : decode cX6_next 222 = .ok (.getfield 19, 3) := dk_180 0 19 (dk_at dksX6_next_9 16 rfl rfl)
theorem dX6_next_225 : decode cX6_next 225 = .ok (.iload_n 1, 1) := dk_27 (dk_at dksX6_next_9 19 rfl rfl)
theorem dX6_next_226 : decode cX6_next 226 = .ok (.isub, 1) := dk_100 (dk_at dksX6_next_9 20 rfl rfl)
theorem dX6_next_227 : decode cX6_next 227 = .ok (.iconst 3, 1) := dk_6 (dk_at dksX6_next_9 21 rfl rfl)
theorem dX6_next_228 : decode cX6_next 228 = .ok (.if_icmp .le 7, 3) := dk_164 0 7 (dk_at dksX6_next_10 0 rfl rfl)
theorem dX6_next_231 : decode cX6_next 231 = .ok (.iconst 0, 1) := dk_3 (dk_at dksX6_next_10 3 rfl rfl)
theorem dX6_next_232 : decode cX6_next 232 = .ok (.goto 4, 3) := dk_167 0 4 (dk_at dksX6_next_10 4 rfl rfl)
theorem dX6_next_235 : decode cX6_next 235 = .ok (.iconst 3, 1) := dk_6 (dk_at dksX6_next_10 7 rfl rfl)
theorem dX6_next_236 : decode cX6_next 236 = .ok (.iload_n 1, 1) := dk_27 (dk_at dksX6_next_10 8 rfl rfl)
theorem dX6_next_237 : decode cX6_next 237 = .ok (.iload_n 2, 1) := dk_28 (dk_at dksX6_next_10 9 rfl rfl)
theorem dX6_next_238 : decode cX6_next 238 = .ok (.ldc 28, 2) := dk_18 28 (dk_at dksX6_next_10 10 rfl rfl)
theorem dX6_next_240 : decode cX6_next 240 = .ok (.invokespecial 30, 3) := dk_183 0 30 (dk_at dksX6_next_10 12 rfl rfl)
theorem dX6_next_243 : decode cX6_next 243 = .ok (.areturn, 1) := dk_176 (dk_at dksX6_next_10 15 rfl rfl)
theorem dX6_next_244 : decode cX6_next 244 = .ok (.aload_n 0, 1) := dk_42 (dk_at dksX6_next_10 16 rfl rfl)
theorem dX6_next_245 : decode cX6_next 245 = .ok (.invokevirtual 22, 3) := dk_182 0 22 (dk_at dksX6_next_10 17 rfl rfl)
theorem dX6_next_248 : decode cX6_next 248 = .ok (.istore_n 2, 1) := dk_61 (dk_at dksX6_next_10 20 rfl rfl)
theorem dX6_next_249 : decode cX6_next 249 = .ok (.aload_n 0, 1) := dk_42 (dk_at dksX6_next_10 21 rfl rfl)
theorem dX6_next_250 : decode cX6_next 250 = .ok (.dup, 1) := dk_89 (dk_at dksX6_next_10 22 rfl rfl)
theorem dX6_next_251 : decode cX6_next 251 = .ok (.getfield 19, 3) := dk_180 0 19 (dk_at dksX6_next_11 0 rfl rfl)
theorem dX6_next_254 : decode cX6_next 254 = .ok (.iconst 1, 1) := dk_4 (dk_at dksX6_next_11 3 rfl rfl)
theorem dX6_next_255 : decode cX6_next 255 = .ok (.iadd, 1) := dk_96 (dk_at dksX6_next_11 4 rfl rfl)
theorem dX6_next_256 : decode cX6_next 256 = .ok (.putfield 19, 3) := dk_181 0 19 (dk_at dksX6_next_11 5 rfl rfl)
theorem dX6_next_259 : decode cX6_next 259 = .ok (.new 26, 3) := dk_187 0 26 (dk_at dksX6_next_11 8 rfl rfl)
theorem dX6_next_262 : decode cX6_next 262 = .ok (.dup, 1) := dk_89 (dk_at dksX6_next_11 11 rfl rfl)
theorem dX6_next_263 : decode cX6_next 263 = .ok (.iload_n 2, 1) := dk_28 (dk_at dksX6_next_11 12 rfl rfl)
theorem dX6_next_264 : decode cX6_next 264 = .ok (.bipush 59, 2) := dk_16 59 (dk_at dksX6_next_11 13 rfl rfl)
theorem dX6_next_266 : decode cX6_next 266 = .ok (.if_icmp .eq 9, 3) := dk_159 0 9 (dk_at dksX6_next_11 15 rfl rfl)
theorem dX6_next_269 : decode cX6_next 269 = .ok (.iload_n 2, 1) := dk_28 (dk_at dksX6_next_11 18 rfl rfl)
theorem dX6_next_270 : decode cX6_next 270 = .ok (.bipush 44, 2) := dk_16 44 (dk_at dksX6_next_11 19 rfl rfl)
theorem dX6_next_272 : decode cX6_next 272 = .ok (.if_icmp .ne 7, 3) := dk_160 0 7 (dk_at dksX6_next_11 21 rfl rfl)
theorem dX6_next_275 : decode cX6_next 275 = .ok (.iconst 4, 1) := dk_7 (dk_at dksX6_next_12 0 rfl rfl)
theorem dX6_next_276 : decode cX6_next 276 = .ok (.goto 4, 3) := dk_167 0 4 (dk_at dksX6_next_12 1 rfl rfl)
theorem dX6_next_279 : decode cX6_next 279 = .ok (.iconst 0, 1) := dk_3 (dk_at dksX6_next_12 4 rfl rfl)
theorem dX6_next_280 : decode cX6_next 280 = .ok (.iload_n 1, 1) := dk_27 (dk_at dksX6_next_12 5 rfl rfl)
theorem dX6_next_281 : decode cX6_next 281 = .ok (.iload_n 2, 1) := dk_28 (dk_at dksX6_next_12 6 rfl rfl)
theorem dX6_next_282 : decode cX6_next 282 = .ok (.ldc 28, 2) := dk_18 28 (dk_at dksX6_next_12 7 rfl rfl)
theorem dX6_next_284 : decode cX6_next 284 = .ok (.invokespecial 30, 3) := dk_183 0 30 (dk_at dksX6_next_12 9 rfl rfl)
theorem dX6_next_287 : decode cX6_next 287 = .ok (.areturn, 1) := dk_176 (dk_at dksX6_next_12 12 rfl rfl)
abbrev cX6_look : ByteArray := prog_22_method_2_code
def yX6_look : MethodName := ⟨RX6, "look", "()I"⟩
def dkwX6_look_1 : List UInt8 := [167, 0, 4, 2, 172]
abbrev dktX6_look_1 : List UInt8 := dkwX6_look_1 ++ []
def dkwX6_look_0 : List UInt8 := [42, 180, 0, 19, 42, 180, 0, 15, 162, 0, 19, 42, 180, 0, 9, 42, 180, 0, 19, 51, 17, 0, 255, 126]
abbrev dktX6_look_0 : List UInt8 := dkwX6_look_0 ++ dktX6_look_1
theorem dksX6_look_0 : cX6_look.data.toList.drop 0 = dktX6_look_0 := by decide +kernel
theorem dksX6_look_1 : cX6_look.data.toList.drop 24 = dktX6_look_1 := dk_seg dksX6_look_0 24 rfl rfl
theorem dX6_look_0 : decode cX6_look 0 = .ok (.aload_n 0, 1) := dk_42 (dk_at dksX6_look_0 0 rfl rfl)
theorem dX6_look_1 : decode cX6_look 1 = .ok (.getfield 19, 3) := dk_180 0 19 (dk_at dksX6_look_0 1 rfl rfl)
theorem dX6_look_4 : decode cX6_look 4 = .ok (.aload_n 0, 1) := dk_42 (dk_at dksX6_look_0 4 rfl rfl)
theorem dX6_look_5 : decode cX6_look 5 = .ok (.getfield 15, 3) := dk_180 0 15 (dk_at dksX6_look_0 5 rfl rfl)
theorem dX6_look_8 : decode cX6_look 8 = .ok (.if_icmp .ge 19, 3) := dk_162 0 19 (dk_at dksX6_look_0 8 rfl rfl)
theorem dX6_look_11 : decode cX6_look 11 = .ok (.aload_n 0, 1) := dk_42 (dk_at dksX6_look_0 11 rfl rfl)
theorem dX6_look_12 : decode cX6_look 12 = .ok (.getfield 9, 3) := dk_180 0 9 (dk_at dksX6_look_0 12 rfl rfl)
theorem dX6_look_15 : decode cX6_look 15 = .ok (.aload_n 0, 1) := dk_42 (dk_at dksX6_look_0 15 rfl rfl)
theorem dX6_look_16 : decode cX6_look 16 = .ok (.getfield 19, 3) := dk_180 0 19 (dk_at dksX6_look_0 16 rfl rfl)
theorem dX6_look_19 : decode cX6_look 19 = .ok (.baload, 1) := dk_51 (dk_at dksX6_look_0 19 rfl rfl)
theorem dX6_look_20 : decode cX6_look 20 = .ok (.sipush 255, 3) := dk_17 0 255 (dk_at dksX6_look_0 20 rfl rfl)
theorem dX6_look_23 : decode cX6_look 23 = .ok (.iand, 1) := dk_126 (dk_at dksX6_look_0 23 rfl rfl)
theorem dX6_look_24 : decode cX6_look 24 = .ok (.goto 4, 3) := dk_167 0 4 (dk_at dksX6_look_1 0 rfl rfl)
theorem dX6_look_27 : decode cX6_look 27 = .ok (.iconst (-1), 1) := dk_2 (dk_at dksX6_look_1 3 rfl rfl)
theorem dX6_look_28 : decode cX6_look 28 = .ok (.ireturn, 1) := dk_172 (dk_at dksX6_look_1 4 rfl rfl)
theorem q131 : (Jvm.Cond.initialized "NextAtBar$Tokens") ∈ lw_all := lw_g (lw_at lw_m1 9 rfl) rfl
theorem q286 : (Jvm.Cond.instantiable "NextAtBar$Tokens" (3 : Nat)) ∈ lw_all := lw_g (lw_at lw_m1 164 rfl) rfl
theorem q288 : (Jvm.Cond.instanceMethod ({ cls := "NextAtBar$Tokens", name := "<init>", desc := "([BI)V" } : Jvm.MethodName)) ∈ lw_all := lw_g (lw_at lw_m1 166 rfl) rfl
theorem q289 : (Jvm.Cond.code ({ cls := "NextAtBar$Tokens", name := "<init>", desc := "([BI)V" } : Jvm.MethodName) prog_22_method_1_code (3 : Nat) (Option.none : Option Jvm.ClassFile.FieldType)) ∈ lw_all := lw_g (lw_at lw_m1 167 rfl) rfl
theorem q290 : (Jvm.Cond.methodLink "NextAtBar$Tokens" (3 : Nat) ({ cls := "java/lang/Object", name := "<init>", desc := "()V" } : Jvm.MethodName)) ∈ lw_all := lw_g (lw_at lw_m1 168 rfl) rfl
theorem q291 : (Jvm.Cond.fieldLink "NextAtBar$Tokens" (9 : Nat) "NextAtBar$Tokens" "text" "[B") ∈ lw_all := lw_g (lw_at lw_m1 169 rfl) rfl
theorem q292 : (Jvm.Cond.fieldLink "NextAtBar$Tokens" (15 : Nat) "NextAtBar$Tokens" "size" "I") ∈ lw_all := lw_g (lw_at lw_m1 170 rfl) rfl
theorem q293 : (Jvm.Cond.fieldLink "NextAtBar$Tokens" (19 : Nat) "NextAtBar$Tokens" "at" "I") ∈ lw_all := lw_g (lw_at lw_m1 171 rfl) rfl
theorem q294 : (Jvm.Cond.laysFinal "NextAtBar$Tokens" "NextAtBar$Tokens" "text" "[B") ∈ lw_all := lw_g (lw_at lw_m1 172 rfl) rfl
theorem q295 : (Jvm.Cond.soleField "NextAtBar$Tokens" "text") ∈ lw_all := lw_g (lw_at lw_m1 173 rfl) rfl
theorem q296 : (Jvm.Cond.laysFinal "NextAtBar$Tokens" "NextAtBar$Tokens" "size" "I") ∈ lw_all := lw_g (lw_at lw_m1 174 rfl) rfl
theorem q297 : (Jvm.Cond.soleField "NextAtBar$Tokens" "size") ∈ lw_all := lw_g (lw_at lw_m1 175 rfl) rfl
theorem q298 : (Jvm.Cond.lays "NextAtBar$Tokens" "NextAtBar$Tokens" "at" "I") ∈ lw_all := lw_g (lw_at lw_m1 176 rfl) rfl
theorem q299 : (Jvm.Cond.soleField "NextAtBar$Tokens" "at") ∈ lw_all := lw_g (lw_at lw_m1 177 rfl) rfl
theorem q300 : (Jvm.Cond.superclass "NextAtBar$Tokens" "java/lang/Object") ∈ lw_all := lw_g (lw_at lw_m1 178 rfl) rfl
theorem q352 : (Jvm.Cond.instanceMethod ({ cls := "NextAtBar$Tokens", name := "next", desc := "()LNextAtBar$Token;" } : Jvm.MethodName)) ∈ lw_all := lw_g (lw_at lw_m1 230 rfl) rfl
theorem q353 : (Jvm.Cond.selects "NextAtBar$Tokens" ({ cls := "NextAtBar$Tokens", name := "next", desc := "()LNextAtBar$Token;" } : Jvm.MethodName) ({ cls := "NextAtBar$Tokens", name := "next", desc := "()LNextAtBar$Token;" } : Jvm.MethodName)) ∈ lw_all := lw_g (lw_at lw_m1 231 rfl) rfl
theorem q354 : (Jvm.Cond.code ({ cls := "NextAtBar$Tokens", name := "next", desc := "()LNextAtBar$Token;" } : Jvm.MethodName) prog_22_method_3_code (3 : Nat) (Option.some (Jvm.ClassFile.FieldType.object "NextAtBar$Token"))) ∈ lw_all := lw_g (lw_at lw_m1 232 rfl) rfl
theorem q355 : (Jvm.Cond.methodLink "NextAtBar$Tokens" (22 : Nat) ({ cls := "NextAtBar$Tokens", name := "look", desc := "()I" } : Jvm.MethodName)) ∈ lw_all := lw_g (lw_at lw_m1 233 rfl) rfl
theorem q356 : (Jvm.Cond.privateMethod ({ cls := "NextAtBar$Tokens", name := "look", desc := "()I" } : Jvm.MethodName)) ∈ lw_tbl := lw_at lw_m1 234 rfl
theorem q357 : (Jvm.Cond.instanceMethod ({ cls := "NextAtBar$Tokens", name := "look", desc := "()I" } : Jvm.MethodName)) ∈ lw_all := lw_g (lw_at lw_m1 235 rfl) rfl
theorem q358 : (Jvm.Cond.code ({ cls := "NextAtBar$Tokens", name := "look", desc := "()I" } : Jvm.MethodName) prog_22_method_2_code (1 : Nat) (Option.some Jvm.ClassFile.FieldType.int)) ∈ lw_all := lw_g (lw_at lw_m1 236 rfl) rfl
theorem q359 : (Jvm.Cond.classLink "NextAtBar$Tokens" (26 : Nat) "NextAtBar$Token") ∈ lw_all := lw_g (lw_at lw_m1 237 rfl) rfl
theorem q361 : (Jvm.Cond.stringRef "NextAtBar$Tokens" (28 : Nat) "") ∈ lw_tbl := lw_at lw_m1 239 rfl
theorem q362 : (Jvm.Cond.methodLink "NextAtBar$Tokens" (30 : Nat) ({ cls := "NextAtBar$Token", name := "<init>", desc := "(IIILjava/lang/String;)V" } : Jvm.MethodName)) ∈ lw_all := lw_g (lw_at lw_m2 0 rfl) rfl
theorem q383 : (Jvm.Cond.methodLinkNest "NextAtBar$Tokens" (33 : Nat) ({ cls := "NextAtBa\x72", name := "in", desc := "(III)Z" } : Jvm.MethodName) "NextAtBa\x72") ∈ lw_tbl := lw_at lw_m2 21 rfl
theorem q384 : (Jvm.Cond.classLink "NextAtBar$Tokens" (37 : Nat) "java/lang/StringBuilde\x72") ∈ lw_all := lw_g (lw_at lw_m2 22 rfl) rfl
theorem q386 : (Jvm.Cond.methodLink "NextAtBar$Tokens" (39 : Nat) ({ cls := "java/lang/StringBuilde\x72", name := "<init>", desc := "()V" } : Jvm.MethodName)) ∈ lw_all := lw_g (lw_at lw_m2 24 rfl) rfl
theorem q415 : (Jvm.Cond.methodLink "NextAtBar$Tokens" (40 : Nat) ({ cls := "java/lang/StringBuilde\x72", name := "append", desc := "(C)Ljava/lang/StringBuilder;" } : Jvm.MethodName)) ∈ lw_all := lw_g (lw_at lw_m2 53 rfl) rfl
theorem q510 : (Jvm.Cond.methodLink "NextAtBar$Tokens" (44 : Nat) ({ cls := "java/lang/StringBuilde\x72", name := "toString", desc := "()Ljava/lang/String;" } : Jvm.MethodName)) ∈ lw_all := lw_g (lw_at lw_m2 148 rfl) rfl
theorem q826 : (Jvm.Cond.selects "NextAtBar$Tokens" ({ cls := "java/lang/Object", name := "getClass", desc := "()Ljava/lang/Class;" } : Jvm.MethodName) ({ cls := "java/lang/Object", name := "getClass", desc := "()Ljava/lang/Class;" } : Jvm.MethodName)) ∈ lw_all := lw_g (lw_at lw_m3 224 rfl) rfl
theorem q2514 : (Jvm.Cond.castable "NextAtBar$Tokens" "java/lang/Object") ∈ lw_tbl := lw_at lw_m10 232 rfl
theorem in_X6 : ∀ w ∈ wsX60, w ∈ lw_all := lw_in wsX60 [294, 296, 298] (by decide +kernel) (by decide +kernel)
/-! NextAtBar$Reader -/
set_option maxRecDepth 100000
def RX5 : String := "NextAtBar$Reade\x72"
def TX5 : u_T := fun k => match k with
  | 0 => ("NextAtBar$Reade\x72", "tokens", "LNextAtBar$Tokens;", true)
  | 1 => ("NextAtBar$Reade\x72", "house", "LNextAtBar$House;", true)
  | 2 => ("NextAtBar$Reade\x72", "now", "LNextAtBar$Token;", false)
  | 3 => ("NextAtBar$Reade\x72", "fault", "I", false)
  | _ => ("NextAtBar$Reade\x72", "place", "I", false)
def tyX5 : Nat → FieldType := fun k => match k with
  | 0 => .object "NextAtBar$Tokens"
  | 1 => .object "NextAtBar$House"
  | 2 => .object "NextAtBar$Token"
  | 3 => .int
  | _ => .int
abbrev wsX50 : List Cond := u_ws RX5 TX5 5
theorem nmX5 : ∀ a, a < 5 → ∀ b, b < 5 → a ≠ b → (TX5 a).2.1 ≠ (TX5 b).2.1 := by decide +kernel
theorem tyX5_ok : ∀ k, k < 5 → parseFieldDescriptor (TX5 k).2.2.1 = some (tyX5 k) := by decide +kernel
abbrev cX5_init : ByteArray := prog_13_method_1_code
def yX5_init : MethodName := ⟨RX5, "<init>", "(LNextAtBar$Tokens;)V"⟩
def dkwX5_init_1 : List UInt8 := [182, 0, 22, 181, 0, 28, 177]
abbrev dktX5_init_1 : List UInt8 := dkwX5_init_1 ++ []
def dkwX5_init_0 : List UInt8 := [42, 183, 0, 3, 42, 187, 0, 9, 89, 183, 0, 11, 181, 0, 12, 42, 43, 181, 0, 18, 42, 43]
abbrev dktX5_init_0 : List UInt8 := dkwX5_init_0 ++ dktX5_init_1
theorem dksX5_init_0 : cX5_init.data.toList.drop 0 = dktX5_init_0 := by decide +kernel
theorem dksX5_init_1 : cX5_init.data.toList.drop 22 = dktX5_init_1 := dk_seg dksX5_init_0 22 rfl rfl
theorem dX5_init_0 : decode cX5_init 0 = .ok (.aload_n 0, 1) := dk_42 (dk_at dksX5_init_0 0 rfl rfl)
theorem dX5_init_1 : decode cX5_init 1 = .ok (.invokespecial 3, 3) := dk_183 0 3 (dk_at dksX5_init_0 1 rfl rfl)
theorem dX5_init_4 : decode cX5_init 4 = .ok (.aload_n 0, 1) := dk_42 (dk_at dksX5_init_0 4 rfl rfl)
theorem dX5_init_5 : decode cX5_init 5 = .ok (.new 9, 3) := dk_187 0 9 (dk_at dksX5_init_0 5 rfl rfl)
theorem dX5_init_8 : decode cX5_init 8 = .ok (.dup, 1) := dk_89 (dk_at dksX5_init_0 8 rfl rfl)
theorem dX5_init_9 : decode cX5_init 9 = .ok (.invokespecial 11, 3) := dk_183 0 11 (dk_at dksX5_init_0 9 rfl rfl)
theorem dX5_init_12 : decode cX5_init 12 = .ok (.putfield 12, 3) := dk_181 0 12 (dk_at dksX5_init_0 12 rfl rfl)
theorem dX5_init_15 : decode cX5_init 15 = .ok (.aload_n 0, 1) := dk_42 (dk_at dksX5_init_0 15 rfl rfl)
theorem dX5_init_16 : decode cX5_init 16 = .ok (.aload_n 1, 1) := dk_43 (dk_at dksX5_init_0 16 rfl rfl)
theorem dX5_init_17 : decode cX5_init 17 = .ok (.putfield 18, 3) := dk_181 0 18 (dk_at dksX5_init_0 17 rfl rfl)
theorem dX5_init_20 : decode cX5_init 20 = .ok (.aload_n 0, 1) := dk_42 (dk_at dksX5_init_0 20 rfl rfl)
theorem dX5_init_21 : decode cX5_init 21 = .ok (.aload_n 1, 1) := dk_43 (dk_at dksX5_init_0 21 rfl rfl)
theorem dX5_init_22 : decode cX5_init 22 = .ok (.invokevirtual 22, 3) := dk_182 0 22 (dk_at dksX5_init_1 0 rfl rfl)
theorem dX5_init_25 : decode cX5_init 25 = .ok (.putfield 28, 3) := dk_181 0 28 (dk_at dksX5_init_1 3 rfl rfl)
theorem dX5_init_28 : decode cX5_init 28 = .ok (.return_, 1) := dk_177 (dk_at dksX5_init_1 6 rfl rfl)
abbrev cX5_read : ByteArray := prog_13_method_12_code
def yX5_read : MethodName := ⟨RX5, "read", "()LNextAtBar$House;"⟩
def dkwX5_read_4 : List UInt8 := [167, 0, 7, 42, 180, 0, 12, 176]
abbrev dktX5_read_4 : List UInt8 := dkwX5_read_4 ++ []
def dkwX5_read_3 : List UInt8 := [180, 0, 117, 182, 0, 109, 153, 0, 9, 42, 16, 6, 182, 0, 60, 42, 182, 0, 36, 153, 0, 7, 1]
abbrev dktX5_read_3 : List UInt8 := dkwX5_read_3 ++ dktX5_read_4
def dkwX5_read_2 : List UInt8 := [182, 0, 109, 154, 0, 29, 42, 180, 0, 12, 180, 0, 114, 182, 0, 109, 154, 0, 16, 42, 180, 0, 12]
abbrev dktX5_read_2 : List UInt8 := dkwX5_read_2 ++ dktX5_read_3
def dkwX5_read_1 : List UInt8 := [42, 4, 182, 0, 60, 42, 180, 0, 12, 180, 0, 102, 153, 0, 42, 42, 180, 0, 12, 180, 0, 105]
abbrev dktX5_read_1 : List UInt8 := dkwX5_read_1 ++ dktX5_read_2
def dkwX5_read_0 : List UInt8 := [42, 182, 0, 96, 42, 16, 59, 182, 0, 99, 154, 255, 246, 42, 180, 0, 28, 180, 0, 46, 4, 159, 0, 8]
abbrev dktX5_read_0 : List UInt8 := dkwX5_read_0 ++ dktX5_read_1
theorem dksX5_read_0 : cX5_read.data.toList.drop 0 = dktX5_read_0 := by decide +kernel
theorem dksX5_read_1 : cX5_read.data.toList.drop 24 = dktX5_read_1 := dk_seg dksX5_read_0 24 rfl rfl
theorem dksX5_read_2 : cX5_read.data.toList.drop 46 = dktX5_read_2 := dk_seg dksX5_read_1 22 rfl rfl
theorem dksX5_read_3 : cX5_read.data.toList.drop 69 = dktX5_read_3 := dk_seg dksX5_read_2 23 rfl rfl
theorem dksX5_read_4 : cX5_read.data.toList.drop 92 = dktX5_read_4 := dk_seg dksX5_read_3 23 rfl rfl
theorem dX5_read_0 : decode cX5_read 0 = .ok (.aload_n 0, 1) := dk_42 (dk_at dksX5_read_0 0 rfl rfl)
theorem dX5_read_1 : decode cX5_read 1 = .ok (.invokevirtual 96, 3) := dk_182 0 96 (dk_at dksX5_read_0 1 rfl rfl)
theorem dX5_read_4 : decode cX5_read 4 = .ok (.aload_n 0, 1) := dk_42 (dk_at dksX5_read_0 4 rfl rfl)
theorem dX5_read_5 : decode cX5_read 5 = .ok (.bipush 59, 2) := dk_16 59 (dk_at dksX5_read_0 5 rfl rfl)
theorem dX5_read_7 : decode cX5_read 7 = .ok (.invokevirtual 99, 3) := dk_182 0 99 (dk_at dksX5_read_0 7 rfl rfl)
theorem dX5_read_10 : decode cX5_read 10 = .ok (.ifCond .ne (-10), 3) := dk_154 255 246 (dk_at dksX5_read_0 10 rfl rfl)
theorem dX5_read_13 : decode cX5_read 13 = .ok (.aload_n 0, 1) := dk_42 (dk_at dksX5_read_0 13 rfl rfl)
theorem dX5_read_14 : decode cX5_read 14 = .ok (.getfield 28, 3) := dk_180 0 28 (dk_at dksX5_read_0 14 rfl rfl)
theorem dX5_read_17 : decode cX5_read 17 = .ok (.getfield 46, 3) := dk_180 0 46 (dk_at dksX5_read_0 17 rfl rfl)
theorem dX5_read_20 : decode cX5_read 20 = .ok (.iconst 1, 1) := dk_4 (dk_at dksX5_read_0 20 rfl rfl)
theorem dX5_read_21 : decode cX5_read 21 = .ok (.if_icmp .eq 8, 3) := dk_159 0 8 (dk_at dksX5_read_0 21 rfl rfl)
theorem dX5_read_24 : decode cX5_read 24 = .ok (.aload_n 0, 1) := dk_42 (dk_at dksX5_read_1 0 rfl rfl)
theorem dX5_read_25 : decode cX5_read 25 = .ok (.iconst 1, 1) := dk_4 (dk_at dksX5_read_1 1 rfl rfl)
theorem dX5_read_26 : decode cX5_read 26 = .ok (.invokevirtual 60, 3) := dk_182 0 60 (dk_at dksX5_read_1 2 rfl rfl)
theorem dX5_read_29 : decode cX5_read 29 = .ok (.aload_n 0, 1) := dk_42 (dk_at dksX5_read_1 5 rfl rfl)
theorem dX5_read_30 : decode cX5_read 30 = .ok (.getfield 12, 3) := dk_180 0 12 (dk_at dksX5_read_1 6 rfl rfl)
theorem dX5_read_33 : decode cX5_read 33 = .ok (.getfield 102, 3) := dk_180 0 102 (dk_at dksX5_read_1 9 rfl rfl)
theorem dX5_read_36 : decode cX5_read 36 = .ok (.ifCond .eq 42, 3) := dk_153 0 42 (dk_at dksX5_read_1 12 rfl rfl)
theorem dX5_read_39 : decode cX5_read 39 = .ok (.aload_n 0, 1) := dk_42 (dk_at dksX5_read_1 15 rfl rfl)
theorem dX5_read_40 : decode cX5_read 40 = .ok (.getfield 12, 3) := dk_180 0 12 (dk_at dksX5_read_1 16 rfl rfl)
theorem dX5_read_43 : decode cX5_read 43 = .ok (.getfield 105, 3) := dk_180 0 105 (dk_at dksX5_read_1 19 rfl rfl)
theorem dX5_read_46 : decode cX5_read 46 = .ok (.invokevirtual 109, 3) := dk_182 0 109 (dk_at dksX5_read_2 0 rfl rfl)
theorem dX5_read_49 : decode cX5_read 49 = .ok (.ifCond .ne 29, 3) := dk_154 0 29 (dk_at dksX5_read_2 3 rfl rfl)
theorem dX5_read_52 : decode cX5_read 52 = .ok (.aload_n 0, 1) := dk_42 (dk_at dksX5_read_2 6 rfl rfl)
theorem dX5_read_53 : decode cX5_read 53 = .ok (.getfield 12, 3) := dk_180 0 12 (dk_at dksX5_read_2 7 rfl rfl)
theorem dX5_read_56 : decode cX5_read 56 = .ok (.getfield 114, 3) := dk_180 0 114 (dk_at dksX5_read_2 10 rfl rfl)
theorem dX5_read_59 : decode cX5_read 59 = .ok (.invokevirtual 109, 3) := dk_182 0 109 (dk_at dksX5_read_2 13 rfl rfl)
theorem dX5_read_62 : decode cX5_read 62 = .ok (.ifCond .ne 16, 3) := dk_154 0 16 (dk_at dksX5_read_2 16 rfl rfl)
theorem dX5_read_65 : decode cX5_read 65 = .ok (.aload_n 0, 1) := dk_42 (dk_at dksX5_read_2 19 rfl rfl)
theorem dX5_read_66 : decode cX5_read 66 = .ok (.getfield 12, 3) := dk_180 0 12 (dk_at dksX5_read_2 20 rfl rfl)
theorem dX5_read_69 : decode cX5_read 69 = .ok (.getfield 117, 3) := dk_180 0 117 (dk_at dksX5_read_3 0 rfl rfl)
theorem dX5_read_72 : decode cX5_read 72 = .ok (.invokevirtual 109, 3) := dk_182 0 109 (dk_at dksX5_read_3 3 rfl rfl)
theorem dX5_read_75 : decode cX5_read 75 = .ok (.ifCond .eq 9, 3) := dk_153 0 9 (dk_at dksX5_read_3 6 rfl rfl)
theorem dX5_read_78 : decode cX5_read 78 = .ok (.aload_n 0, 1) := dk_42 (dk_at dksX5_read_3 9 rfl rfl)
theorem dX5_read_79 : decode cX5_read 79 = .ok (.bipush 6, 2) := dk_16 6 (dk_at dksX5_read_3 10 rfl rfl)
theorem dX5_read_81 : decode cX5_read 81 = .ok (.invokevirtual 60, 3) := dk_182 0 60 (dk_at dksX5_read_3 12 rfl rfl)
theorem dX5_read_84 : decode cX5_read 84 = .ok (.aload_n 0, 1) := dk_42 (dk_at dksX5_read_3 15 rfl rfl)
theorem dX5_read_85 : decode cX5_read 85 = .ok (.invokevirtual 36, 3) := dk_182 0 36 (dk_at dksX5_read_3 16 rfl rfl)
theorem dX5_read_88 : decode cX5_read 88 = .ok (.ifCond .eq 7, 3) := dk_153 0 7 (dk_at dksX5_read_3 19 rfl rfl)
theorem dX5_read_91 : decode cX5_read 91 = .ok (.aconst_null, 1) := dk_1 (dk_at dksX5_read_3 22 rfl rfl)
theorem dX5_read_92 : decode cX5_read 92 = .ok (.goto 7, 3) := dk_167 0 7 (dk_at dksX5_read_4 0 rfl rfl)
theorem dX5_read_95 : decode cX5_read 95 = .ok (.aload_n 0, 1) := dk_42 (dk_at dksX5_read_4 3 rfl rfl)
theorem dX5_read_96 : decode cX5_read 96 = .ok (.getfield 12, 3) := dk_180 0 12 (dk_at dksX5_read_4 4 rfl rfl)
theorem dX5_read_99 : decode cX5_read 99 = .ok (.areturn, 1) := dk_176 (dk_at dksX5_read_4 7 rfl rfl)
abbrev cX5_line : ByteArray := prog_13_method_13_code
def yX5_line : MethodName := ⟨RX5, "line", "()V"⟩
def dkwX5_line_10 : List UInt8 := [182, 0, 60, 177]
abbrev dktX5_line_10 : List UInt8 := dkwX5_line_10 ++ []
def dkwX5_line_9 : List UInt8 := [182, 0, 148, 167, 0, 22, 42, 182, 0, 151, 167, 0, 15, 42, 182, 0, 153, 167, 0, 8, 42, 4]
abbrev dktX5_line_9 : List UInt8 := dkwX5_line_9 ++ dktX5_line_10
def dkwX5_line_8 : List UInt8 := [42, 182, 0, 141, 167, 0, 43, 42, 182, 0, 144, 167, 0, 36, 42, 182, 0, 146, 167, 0, 29, 42]
abbrev dktX5_line_8 : List UInt8 := dkwX5_line_8 ++ dktX5_line_9
def dkwX5_line_7 : List UInt8 := [170, 0, 0, 0, 0, 80, 0, 0, 0, 0, 0, 0, 0, 5, 0, 0, 0, 38, 0, 0, 0, 45, 0, 0, 0, 52, 0, 0, 0, 59, 0, 0, 0, 66, 0, 0, 0, 73]
abbrev dktX5_line_7 : List UInt8 := dkwX5_line_7 ++ dktX5_line_8
def dkwX5_line_6 : List UInt8 := [18, 139, 182, 0, 129, 153, 0, 5, 8, 61, 28]
abbrev dktX5_line_6 : List UInt8 := dkwX5_line_6 ++ dktX5_line_7
def dkwX5_line_5 : List UInt8 := [153, 0, 33, 6, 61, 167, 0, 28, 43, 18, 137, 182, 0, 129, 153, 0, 19, 7, 61, 167, 0, 14, 43]
abbrev dktX5_line_5 : List UInt8 := dkwX5_line_5 ++ dktX5_line_6
def dkwX5_line_4 : List UInt8 := [61, 167, 0, 56, 43, 18, 135, 182, 0, 129, 153, 0, 47, 5, 61, 167, 0, 42, 43, 18, 136, 182, 0, 129]
abbrev dktX5_line_4 : List UInt8 := dkwX5_line_4 ++ dktX5_line_5
def dkwX5_line_3 : List UInt8 := [43, 18, 128, 182, 0, 129, 153, 0, 75, 3, 61, 167, 0, 70, 43, 18, 133, 182, 0, 129, 153, 0, 61, 4]
abbrev dktX5_line_3 : List UInt8 := dkwX5_line_3 ++ dktX5_line_4
def dkwX5_line_2 : List UInt8 := [171, 0, 0, 0, 0, 139, 0, 0, 0, 6, 196, 227, 155, 85, 0, 0, 0, 100, 0, 53, 193, 232, 0, 0, 0, 128, 5, 182, 152, 152, 0, 0, 0, 72, 5, 237, 199, 32, 0, 0, 0, 58, 6, 133, 94, 42, 0, 0, 0, 114, 6, 138, 194, 224, 0, 0, 0, 86]
abbrev dktX5_line_2 : List UInt8 := dkwX5_line_2 ++ dktX5_line_3
def dkwX5_line_1 : List UInt8 := [2, 61, 43, 182, 0, 122]
abbrev dktX5_line_1 : List UInt8 := dkwX5_line_1 ++ dktX5_line_2
def dkwX5_line_0 : List UInt8 := [42, 180, 0, 28, 180, 0, 46, 5, 160, 0, 13, 42, 180, 0, 28, 180, 0, 82, 167, 0, 5, 18, 120, 76]
abbrev dktX5_line_0 : List UInt8 := dkwX5_line_0 ++ dktX5_line_1
theorem dksX5_line_0 : cX5_line.data.toList.drop 0 = dktX5_line_0 := by decide +kernel
theorem dksX5_line_1 : cX5_line.data.toList.drop 24 = dktX5_line_1 := dk_seg dksX5_line_0 24 rfl rfl
theorem dksX5_line_2 : cX5_line.data.toList.drop 30 = dktX5_line_2 := dk_seg dksX5_line_1 6 rfl rfl
theorem dksX5_line_3 : cX5_line.data.toList.drop 88 = dktX5_line_3 := dk_seg dksX5_line_2 58 rfl rfl
theorem dksX5_line_4 : cX5_line.data.toList.drop 112 = dktX5_line_4 := dk_seg dksX5_line_3 24 rfl rfl
theorem dksX5_line_5 : cX5_line.data.toList.drop 136 = dktX5_line_5 := dk_seg dksX5_line_4 24 rfl rfl
theorem dksX5_line_6 : cX5_line.data.toList.drop 159 = dktX5_line_6 := dk_seg dksX5_line_5 23 rfl rfl
theorem dksX5_line_7 : cX5_line.data.toList.drop 170 = dktX5_line_7 := dk_seg dksX5_line_6 11 rfl rfl
theorem dksX5_line_8 : cX5_line.data.toList.drop 208 = dktX5_line_8 := dk_seg dksX5_line_7 38 rfl rfl
theorem dksX5_line_9 : cX5_line.data.toList.drop 230 = dktX5_line_9 := dk_seg dksX5_line_8 22 rfl rfl
theorem dksX5_line_10 : cX5_line.data.toList.drop 252 = dktX5_line_10 := dk_seg dksX5_line_9 22 rfl rfl
theorem dX5_line_0 : decode cX5_line 0 = .ok (.aload_n 0, 1) := dk_42 (dk_at dksX5_line_0 0 rfl rfl)
theorem dX5_line_1 : decode cX5_line 1 = .ok (.getfield 28, 3) := dk_180 0 28 (dk_at dksX5_line_0 1 rfl rfl)
theorem dX5_line_4 : decode cX5_line 4 = .ok (.getfield 46, 3) := dk_180 0 46 (dk_at dksX5_line_0 4 rfl rfl)
theorem dX5_line_7 : decode cX5_line 7 = .ok (.iconst 2, 1) := dk_5 (dk_at dksX5_line_0 7 rfl rfl)
theorem dX5_line_8 : decode cX5_line 8 = .ok (.if_icmp .ne 13, 3) := dk_160 0 13 (dk_at dksX5_line_0 8 rfl rfl)
theorem dX5_line_11 : decode cX5_line 11 = .ok (.aload_n 0, 1) := dk_42 (dk_at dksX5_line_0 11 rfl rfl)
theorem dX5_line_12 : decode cX5_line 12 = .ok (.getfield 28, 3) := dk_180 0 28 (dk_at dksX5_line_0 12 rfl rfl)
theorem dX5_line_15 : decode cX5_line 15 = .ok (.getfield 82, 3) := dk_180 0 82 (dk_at dksX5_line_0 15 rfl rfl)
theorem dX5_line_18 : decode cX5_line 18 = .ok (.goto 5, 3) := dk_167 0 5 (dk_at dksX5_line_0 18 rfl rfl)
theorem dX5_line_21 : decode cX5_line 21 = .ok (.ldc 120, 2) := dk_18 120 (dk_at dksX5_line_0 21 rfl rfl)
theorem dX5_line_23 : decode cX5_line 23 = .ok (.astore_n 1, 1) := dk_76 (dk_at dksX5_line_0 23 rfl rfl)
theorem dX5_line_24 : decode cX5_line 24 = .ok (.iconst (-1), 1) := dk_2 (dk_at dksX5_line_1 0 rfl rfl)
theorem dX5_line_25 : decode cX5_line 25 = .ok (.istore_n 2, 1) := dk_61 (dk_at dksX5_line_1 1 rfl rfl)
theorem dX5_line_26 : decode cX5_line 26 = .ok (.aload_n 1, 1) := dk_43 (dk_at dksX5_line_1 2 rfl rfl)
theorem dX5_line_27 : decode cX5_line 27 = .ok (.invokevirtual 122, 3) := dk_182 0 122 (dk_at dksX5_line_1 3 rfl rfl)
theorem dX5_line_30 : decode cX5_line 30 = .ok (.lookupswitch 139 #[(-991716523, 100), (3523048, 128), (95852696, 72), (99469088, 58), (109403690, 114), (109757152, 86)], 58) := by decide +kernel
theorem dX5_line_88 : decode cX5_line 88 = .ok (.aload_n 1, 1) := dk_43 (dk_at dksX5_line_3 0 rfl rfl)
theorem dX5_line_89 : decode cX5_line 89 = .ok (.ldc 128, 2) := dk_18 128 (dk_at dksX5_line_3 1 rfl rfl)
theorem dX5_line_91 : decode cX5_line 91 = .ok (.invokevirtual 129, 3) := dk_182 0 129 (dk_at dksX5_line_3 3 rfl rfl)
theorem dX5_line_94 : decode cX5_line 94 = .ok (.ifCond .eq 75, 3) := dk_153 0 75 (dk_at dksX5_line_3 6 rfl rfl)
theorem dX5_line_97 : decode cX5_line 97 = .ok (.iconst 0, 1) := dk_3 (dk_at dksX5_line_3 9 rfl rfl)
theorem dX5_line_98 : decode cX5_line 98 = .ok (.istore_n 2, 1) := dk_61 (dk_at dksX5_line_3 10 rfl rfl)
theorem dX5_line_99 : decode cX5_line 99 = .ok (.goto 70, 3) := dk_167 0 70 (dk_at dksX5_line_3 11 rfl rfl)
theorem dX5_line_102 : decode cX5_line 102 = .ok (.aload_n 1, 1) := dk_43 (dk_at dksX5_line_3 14 rfl rfl)
theorem dX5_line_103 : decode cX5_line 103 = .ok (.ldc 133, 2) := dk_18 133 (dk_at dksX5_line_3 15 rfl rfl)
theorem dX5_line_105 : decode cX5_line 105 = .ok (.invokevirtual 129, 3) := dk_182 0 129 (dk_at dksX5_line_3 17 rfl rfl)
theorem dX5_line_108 : decode cX5_line 108 = .ok (.ifCond .eq 61, 3) := dk_153 0 61 (dk_at dksX5_line_3 20 rfl rfl)
theorem dX5_line_111 : decode cX5_line 111 = .ok (.iconst 1, 1) := dk_4 (dk_at dksX5_line_3 23 rfl rfl)
theorem dX5_line_112 : decode cX5_line 112 = .ok (.istore_n 2, 1) := dk_61 (dk_at dksX5_line_4 0 rfl rfl)
theorem dX5_line_113 : decode cX5_line 113 = .ok (.goto 56, 3) := dk_167 0 56 (dk_at dksX5_line_4 1 rfl rfl)
theorem dX5_line_116 : decode cX5_line 116 = .ok (.aload_n 1, 1) := dk_43 (dk_at dksX5_line_4 4 rfl rfl)
theorem dX5_line_117 : decode cX5_line 117 = .ok (.ldc 135, 2) := dk_18 135 (dk_at dksX5_line_4 5 rfl rfl)
theorem dX5_line_119 : decode cX5_line 119 = .ok (.invokevirtual 129, 3) := dk_182 0 129 (dk_at dksX5_line_4 7 rfl rfl)
theorem dX5_line_122 : decode cX5_line 122 = .ok (.ifCond .eq 47, 3) := dk_153 0 47 (dk_at dksX5_line_4 10 rfl rfl)
theorem dX5_line_125 : decode cX5_line 125 = .ok (.iconst 2, 1) := dk_5 (dk_at dksX5_line_4 13 rfl rfl)
theorem dX5_line_126 : decode cX5_line 126 = .ok (.istore_n 2, 1) := dk_61 (dk_at dksX5_line_4 14 rfl rfl)
theorem dX5_line_127 : decode cX5_line 127 = .ok (.goto 42, 3) := dk_167 0 42 (dk_at dksX5_line_4 15 rfl rfl)
theorem dX5_line_130 : decode cX5_line 130 = .ok (.aload_n 1, 1) := dk_43 (dk_at dksX5_line_4 18 rfl rfl)
theorem dX5_line_131 : decode cX5_line 131 = .ok (.ldc 136, 2) := dk_18 136 (dk_at dksX5_line_4 19 rfl rfl)
theorem dX5_line_133 : decode cX5_line 133 = .ok (.invokevirtual 129, 3) := dk_182 0 129 (dk_at dksX5_line_4 21 rfl rfl)
theorem dX5_line_136 : decode cX5_line 136 = .ok (.ifCond .eq 33, 3) := dk_153 0 33 (dk_at dksX5_line_5 0 rfl rfl)
theorem dX5_line_139 : decode cX5_line 139 = .ok (.iconst 3, 1) := dk_6 (dk_at dksX5_line_5 3 rfl rfl)
theorem dX5_line_140 : decode cX5_line 140 = .ok (.istore_n 2, 1) := dk_61 (dk_at dksX5_line_5 4 rfl rfl)
theorem dX5_line_141 : decode cX5_line 141 = .ok (.goto 28, 3) := dk_167 0 28 (dk_at dksX5_line_5 5 rfl rfl)
theorem dX5_line_144 : decode cX5_line 144 = .ok (.aload_n 1, 1) := dk_43 (dk_at dksX5_line_5 8 rfl rfl)
theorem dX5_line_145 : decode cX5_line 145 = .ok (.ldc 137, 2) := dk_18 137 (dk_at dksX5_line_5 9 rfl rfl)
theorem dX5_line_147 : decode cX5_line 147 = .ok (.invokevirtual 129, 3) := dk_182 0 129 (dk_at dksX5_line_5 11 rfl rfl)
theorem dX5_line_150 : decode cX5_line 150 = .ok (.ifCond .eq 19, 3) := dk_153 0 19 (dk_at dksX5_line_5 14 rfl rfl)
theorem dX5_line_153 : decode cX5_line 153 = .ok (.iconst 4, 1) := dk_7 (dk_at dksX5_line_5 17 rfl rfl)
theorem dX5_line_154 : decode cX5_line 154 = .ok (.istore_n 2, 1) := dk_61 (dk_at dksX5_line_5 18 rfl rfl)
theorem dX5_line_155 : decode cX5_line 155 = .ok (.goto 14, 3) := dk_167 0 14 (dk_at dksX5_line_5 19 rfl rfl)
theorem dX5_line_158 : decode cX5_line 158 = .ok (.aload_n 1, 1) := dk_43 (dk_at dksX5_line_5 22 rfl rfl)
theorem dX5_line_159 : decode cX5_line 159 = .ok (.ldc 139, 2) := dk_18 139 (dk_at dksX5_line_6 0 rfl rfl)
theorem dX5_line_161 : decode cX5_line 161 = .ok (.invokevirtual 129, 3) := dk_182 0 129 (dk_at dksX5_line_6 2 rfl rfl)
theorem dX5_line_164 : decode cX5_line 164 = .ok (.ifCond .eq 5, 3) := dk_153 0 5 (dk_at dksX5_line_6 5 rfl rfl)
theorem dX5_line_167 : decode cX5_line 167 = .ok (.iconst 5, 1) := dk_8 (dk_at dksX5_line_6 8 rfl rfl)
theorem dX5_line_168 : decode cX5_line 168 = .ok (.istore_n 2, 1) := dk_61 (dk_at dksX5_line_6 9 rfl rfl)
theorem dX5_line_169 : decode cX5_line 169 = .ok (.iload_n 2, 1) := dk_28 (dk_at dksX5_line_6 10 rfl rfl)
theorem dX5_line_170 : decode cX5_line 170 = .ok (.tableswitch 80 0 5 #[38, 45, 52, 59, 66, 73], 38) := by decide +kernel
theorem dX5_line_208 : decode cX5_line 208 = .ok (.aload_n 0, 1) := dk_42 (dk_at dksX5_line_8 0 rfl rfl)
theorem dX5_line_209 : decode cX5_line 209 = .ok (.invokevirtual 141, 3) := dk_182 0 141 (dk_at dksX5_line_8 1 rfl rfl)
theorem dX5_line_212 : decode cX5_line 212 = .ok (.goto 43, 3) := dk_167 0 43 (dk_at dksX5_line_8 4 rfl rfl)
theorem dX5_line_215 : decode cX5_line 215 = .ok (.aload_n 0, 1) := dk_42 (dk_at dksX5_line_8 7 rfl rfl)
theorem dX5_line_216 : decode cX5_line 216 = .ok (.invokevirtual 144, 3) := dk_182 0 144 (dk_at dksX5_line_8 8 rfl rfl)
theorem dX5_line_219 : decode cX5_line 219 = .ok (.goto 36, 3) := dk_167 0 36 (dk_at dksX5_line_8 11 rfl rfl)
theorem dX5_line_222 : decode cX5_line 222 = .ok (.aload_n 0, 1) := dk_42 (dk_at dksX5_line_8 14 rfl rfl)
theorem dX5_line_223 : decode cX5_line 223 = .ok (.invokevirtual 146, 3) := dk_182 0 146 (dk_at dksX5_line_8 15 rfl rfl)
theorem dX5_line_226 : decode cX5_line 226 = .ok (.goto 29, 3) := dk_167 0 29 (dk_at dksX5_line_8 18 rfl rfl)
theorem dX5_line_229 : decode cX5_line 229 = .ok (.aload_n 0, 1) := dk_42 (dk_at dksX5_line_8 21 rfl rfl)
theorem dX5_line_230 : decode cX5_line 230 = .ok (.invokevirtual 148, 3) := dk_182 0 148 (dk_at dksX5_line_9 0 rfl rfl)
theorem dX5_line_233 : decode cX5_line 233 = .ok (.goto 22, 3) := dk_167 0 22 (dk_at dksX5_line_9 3 rfl rfl)
theorem dX5_line_236 : decode cX5_line 236 = .ok (.aload_n 0, 1) := dk_42 (dk_at dksX5_line_9 6 rfl rfl)
theorem dX5_line_237 : decode cX5_line 237 = .ok (.invokevirtual 151, 3) := dk_182 0 151 (dk_at dksX5_line_9 7 rfl rfl)
theorem dX5_line_240 : decode cX5_line 240 = .ok (.goto 15, 3) := dk_167 0 15 (dk_at dksX5_line_9 10 rfl rfl)
theorem dX5_line_243 : decode cX5_line 243 = .ok (.aload_n 0, 1) := dk_42 (dk_at dksX5_line_9 13 rfl rfl)
theorem dX5_line_244 : decode cX5_line 244 = .ok (.invokevirtual 153, 3) := dk_182 0 153 (dk_at dksX5_line_9 14 rfl rfl)
theorem dX5_line_247 : decode cX5_line 247 = .ok (.goto 8, 3) := dk_167 0 8 (dk_at dksX5_line_9 17 rfl rfl)
theorem dX5_line_250 : decode cX5_line 250 = .ok (.aload_n 0, 1) := dk_42 (dk_at dksX5_line_9 20 rfl rfl)
theorem dX5_line_251 : decode cX5_line 251 = .ok (.iconst 1, 1) := dk_4 (dk_at dksX5_line_9 21 rfl rfl)
theorem dX5_line_252 : decode cX5_line 252 = .ok (.invokevirtual 60, 3) := dk_182 0 60 (dk_at dksX5_line_10 0 rfl rfl)
theorem dX5_line_255 : decode cX5_line 255 = .ok (.return_, 1) := dk_177 (dk_at dksX5_line_10 3 rfl rfl)
abbrev cX5_houseLine : ByteArray := prog_13_method_15_code
def yX5_houseLine : MethodName := ⟨RX5, "houseLine", "()V"⟩
def dkwX5_houseLine_2 : List UInt8 := [177, 42, 180, 0, 12, 27, 181, 0, 102, 42, 180, 0, 12, 28, 181, 0, 163, 177]
abbrev dktX5_houseLine_2 : List UInt8 := dkwX5_houseLine_2 ++ []
def dkwX5_houseLine_1 : List UInt8 := [16, 20, 182, 0, 157, 60, 42, 18, 161, 4, 17, 2, 88, 182, 0, 157, 61, 42, 182, 0, 36, 153, 0, 4]
abbrev dktX5_houseLine_1 : List UInt8 := dkwX5_houseLine_1 ++ dktX5_houseLine_2
def dkwX5_houseLine_0 : List UInt8 := [42, 180, 0, 12, 180, 0, 102, 158, 0, 8, 42, 6, 182, 0, 60, 42, 182, 0, 53, 42, 18, 155, 4]
abbrev dktX5_houseLine_0 : List UInt8 := dkwX5_houseLine_0 ++ dktX5_houseLine_1
theorem dksX5_houseLine_0 : cX5_houseLine.data.toList.drop 0 = dktX5_houseLine_0 := by decide +kernel
theorem dksX5_houseLine_1 : cX5_houseLine.data.toList.drop 23 = dktX5_houseLine_1 := dk_seg dksX5_houseLine_0 23 rfl rfl
theorem dksX5_houseLine_2 : cX5_houseLine.data.toList.drop 47 = dktX5_houseLine_2 := dk_seg dksX5_houseLine_1 24 rfl rfl
theorem dX5_houseLine_0 : decode cX5_houseLine 0 = .ok (.aload_n 0, 1) := dk_42 (dk_at dksX5_houseLine_0 0 rfl rfl)
theorem dX5_houseLine_1 : decode cX5_houseLine 1 = .ok (.getfield 12, 3) := dk_180 0 12 (dk_at dksX5_houseLine_0 1 rfl rfl)
theorem dX5_houseLine_4 : decode cX5_houseLine 4 = .ok (.getfield 102, 3) := dk_180 0 102 (dk_at dksX5_houseLine_0 4 rfl rfl)
theorem dX5_houseLine_7 : decode cX5_houseLine 7 = .ok (.ifCond .le 8, 3) := dk_158 0 8 (dk_at dksX5_houseLine_0 7 rfl rfl)
theorem dX5_houseLine_10 : decode cX5_houseLine 10 = .ok (.aload_n 0, 1) := dk_42 (dk_at dksX5_houseLine_0 10 rfl rfl)
theorem dX5_houseLine_11 : decode cX5_houseLine 11 = .ok (.iconst 3, 1) := dk_6 (dk_at dksX5_houseLine_0 11 rfl rfl)
theorem dX5_houseLine_12 : decode cX5_houseLine 12 = .ok (.invokevirtual 60, 3) := dk_182 0 60 (dk_at dksX5_houseLine_0 12 rfl rfl)
theorem dX5_houseLine_15 : decode cX5_houseLine 15 = .ok (.aload_n 0, 1) := dk_42 (dk_at dksX5_houseLine_0 15 rfl rfl)
theorem dX5_houseLine_16 : decode cX5_houseLine 16 = .ok (.invokevirtual 53, 3) := dk_182 0 53 (dk_at dksX5_houseLine_0 16 rfl rfl)
theorem dX5_houseLine_19 : decode cX5_houseLine 19 = .ok (.aload_n 0, 1) := dk_42 (dk_at dksX5_houseLine_0 19 rfl rfl)
theorem dX5_houseLine_20 : decode cX5_houseLine 20 = .ok (.ldc 155, 2) := dk_18 155 (dk_at dksX5_houseLine_0 20 rfl rfl)
theorem dX5_houseLine_22 : decode cX5_houseLine 22 = .ok (.iconst 1, 1) := dk_4 (dk_at dksX5_houseLine_0 22 rfl rfl)
theorem dX5_houseLine_23 : decode cX5_houseLine 23 = .ok (.bipush 20, 2) := dk_16 20 (dk_at dksX5_houseLine_1 0 rfl rfl)
theorem dX5_houseLine_25 : decode cX5_houseLine 25 = .ok (.invokevirtual 157, 3) := dk_182 0 157 (dk_at dksX5_houseLine_1 2 rfl rfl)
theorem dX5_houseLine_28 : decode cX5_houseLine 28 = .ok (.istore_n 1, 1) := dk_60 (dk_at dksX5_houseLine_1 5 rfl rfl)
theorem dX5_houseLine_29 : decode cX5_houseLine 29 = .ok (.aload_n 0, 1) := dk_42 (dk_at dksX5_houseLine_1 6 rfl rfl)
theorem dX5_houseLine_30 : decode cX5_houseLine 30 = .ok (.ldc 161, 2) := dk_18 161 (dk_at dksX5_houseLine_1 7 rfl rfl)
theorem dX5_houseLine_32 : decode cX5_houseLine 32 = .ok (.iconst 1, 1) := dk_4 (dk_at dksX5_houseLine_1 9 rfl rfl)
theorem dX5_houseLine_33 : decode cX5_houseLine 33 = .ok (.sipush 600, 3) := dk_17 2 88 (dk_at dksX5_houseLine_1 10 rfl rfl)
theorem dX5_houseLine_36 : decode cX5_houseLine 36 = .ok (.invokevirtual 157, 3) := dk_182 0 157 (dk_at dksX5_houseLine_1 13 rfl rfl)
theorem dX5_houseLine_39 : decode cX5_houseLine 39 = .ok (.istore_n 2, 1) := dk_61 (dk_at dksX5_houseLine_1 16 rfl rfl)
theorem dX5_houseLine_40 : decode cX5_houseLine 40 = .ok (.aload_n 0, 1) := dk_42 (dk_at dksX5_houseLine_1 17 rfl rfl)
theorem dX5_houseLine_41 : decode cX5_houseLine 41 = .ok (.invokevirtual 36, 3) := dk_182 0 36 (dk_at dksX5_houseLine_1 18 rfl rfl)
theorem dX5_houseLine_44 : decode cX5_houseLine 44 = .ok (.ifCond .eq 4, 3) := dk_153 0 4 (dk_at dksX5_houseLine_1 21 rfl rfl)
theorem dX5_houseLine_47 : decode cX5_houseLine 47 = .ok (.return_, 1) := dk_177 (dk_at dksX5_houseLine_2 0 rfl rfl)
theorem dX5_houseLine_48 : decode cX5_houseLine 48 = .ok (.aload_n 0, 1) := dk_42 (dk_at dksX5_houseLine_2 1 rfl rfl)
theorem dX5_houseLine_49 : decode cX5_houseLine 49 = .ok (.getfield 12, 3) := dk_180 0 12 (dk_at dksX5_houseLine_2 2 rfl rfl)
theorem dX5_houseLine_52 : decode cX5_houseLine 52 = .ok (.iload_n 1, 1) := dk_27 (dk_at dksX5_houseLine_2 5 rfl rfl)
theorem dX5_houseLine_53 : decode cX5_houseLine 53 = .ok (.putfield 102, 3) := dk_181 0 102 (dk_at dksX5_houseLine_2 6 rfl rfl)
theorem dX5_houseLine_56 : decode cX5_houseLine 56 = .ok (.aload_n 0, 1) := dk_42 (dk_at dksX5_houseLine_2 9 rfl rfl)
theorem dX5_houseLine_57 : decode cX5_houseLine 57 = .ok (.getfield 12, 3) := dk_180 0 12 (dk_at dksX5_houseLine_2 10 rfl rfl)
theorem dX5_houseLine_60 : decode cX5_houseLine 60 = .ok (.iload_n 2, 1) := dk_28 (dk_at dksX5_houseLine_2 13 rfl rfl)
theorem dX5_houseLine_61 : decode cX5_houseLine 61 = .ok (.putfield 163, 3) := dk_181 0 163 (dk_at dksX5_houseLine_2 14 rfl rfl)
theorem dX5_houseLine_64 : decode cX5_houseLine 64 = .ok (.return_, 1) := dk_177 (dk_at dksX5_houseLine_2 17 rfl rfl)
abbrev cX5_wrong : ByteArray := prog_13_method_3_code
def yX5_wrong : MethodName := ⟨RX5, "wrong", "(I)V"⟩
def dkwX5_wrong_1 : List UInt8 := [177]
abbrev dktX5_wrong_1 : List UInt8 := dkwX5_wrong_1 ++ []
def dkwX5_wrong_0 : List UInt8 := [42, 182, 0, 36, 153, 0, 4, 177, 42, 27, 181, 0, 32, 42, 42, 180, 0, 28, 180, 0, 40, 181, 0, 45]
abbrev dktX5_wrong_0 : List UInt8 := dkwX5_wrong_0 ++ dktX5_wrong_1
theorem dksX5_wrong_0 : cX5_wrong.data.toList.drop 0 = dktX5_wrong_0 := by decide +kernel
theorem dksX5_wrong_1 : cX5_wrong.data.toList.drop 24 = dktX5_wrong_1 := dk_seg dksX5_wrong_0 24 rfl rfl
theorem dX5_wrong_0 : decode cX5_wrong 0 = .ok (.aload_n 0, 1) := dk_42 (dk_at dksX5_wrong_0 0 rfl rfl)
theorem dX5_wrong_1 : decode cX5_wrong 1 = .ok (.invokevirtual 36, 3) := dk_182 0 36 (dk_at dksX5_wrong_0 1 rfl rfl)
theorem dX5_wrong_4 : decode cX5_wrong 4 = .ok (.ifCond .eq 4, 3) := dk_153 0 4 (dk_at dksX5_wrong_0 4 rfl rfl)
theorem dX5_wrong_7 : decode cX5_wrong 7 = .ok (.return_, 1) := dk_177 (dk_at dksX5_wrong_0 7 rfl rfl)
theorem dX5_wrong_8 : decode cX5_wrong 8 = .ok (.aload_n 0, 1) := dk_42 (dk_at dksX5_wrong_0 8 rfl rfl)
theorem dX5_wrong_9 : decode cX5_wrong 9 = .ok (.iload_n 1, 1) := dk_27 (dk_at dksX5_wrong_0 9 rfl rfl)
theorem dX5_wrong_10 : decode cX5_wrong 10 = .ok (.putfield 32, 3) := dk_181 0 32 (dk_at dksX5_wrong_0 10 rfl rfl)
theorem dX5_wrong_13 : decode cX5_wrong 13 = .ok (.aload_n 0, 1) := dk_42 (dk_at dksX5_wrong_0 13 rfl rfl)
theorem dX5_wrong_14 : decode cX5_wrong 14 = .ok (.aload_n 0, 1) := dk_42 (dk_at dksX5_wrong_0 14 rfl rfl)
theorem dX5_wrong_15 : decode cX5_wrong 15 = .ok (.getfield 28, 3) := dk_180 0 28 (dk_at dksX5_wrong_0 15 rfl rfl)
theorem dX5_wrong_18 : decode cX5_wrong 18 = .ok (.getfield 40, 3) := dk_180 0 40 (dk_at dksX5_wrong_0 18 rfl rfl)
theorem dX5_wrong_21 : decode cX5_wrong 21 = .ok (.putfield 45, 3) := dk_181 0 45 (dk_at dksX5_wrong_0 21 rfl rfl)
theorem dX5_wrong_24 : decode cX5_wrong 24 = .ok (.return_, 1) := dk_177 (dk_at dksX5_wrong_1 0 rfl rfl)
abbrev cX5_isOver : ByteArray := prog_13_method_2_code
def yX5_isOver : MethodName := ⟨RX5, "isOve\x72", "()Z"⟩
def dkwX5_isOver_0 : List UInt8 := [42, 180, 0, 32, 158, 0, 7, 4, 167, 0, 4, 3, 172]
abbrev dktX5_isOver_0 : List UInt8 := dkwX5_isOver_0 ++ []
theorem dksX5_isOver_0 : cX5_isOver.data.toList.drop 0 = dktX5_isOver_0 := by decide +kernel
theorem dX5_isOver_0 : decode cX5_isOver 0 = .ok (.aload_n 0, 1) := dk_42 (dk_at dksX5_isOver_0 0 rfl rfl)
theorem dX5_isOver_1 : decode cX5_isOver 1 = .ok (.getfield 32, 3) := dk_180 0 32 (dk_at dksX5_isOver_0 1 rfl rfl)
theorem dX5_isOver_4 : decode cX5_isOver 4 = .ok (.ifCond .le 7, 3) := dk_158 0 7 (dk_at dksX5_isOver_0 4 rfl rfl)
theorem dX5_isOver_7 : decode cX5_isOver 7 = .ok (.iconst 1, 1) := dk_4 (dk_at dksX5_isOver_0 7 rfl rfl)
theorem dX5_isOver_8 : decode cX5_isOver 8 = .ok (.goto 4, 3) := dk_167 0 4 (dk_at dksX5_isOver_0 8 rfl rfl)
theorem dX5_isOver_11 : decode cX5_isOver 11 = .ok (.iconst 0, 1) := dk_3 (dk_at dksX5_isOver_0 11 rfl rfl)
theorem dX5_isOver_12 : decode cX5_isOver 12 = .ok (.ireturn, 1) := dk_172 (dk_at dksX5_isOver_0 12 rfl rfl)
abbrev cX5_on : ByteArray := prog_13_method_4_code
def yX5_on : MethodName := ⟨RX5, "on", "()V"⟩
def dkwX5_on_1 : List UInt8 := [182, 0, 22, 181, 0, 28, 177]
abbrev dktX5_on_1 : List UInt8 := dkwX5_on_1 ++ []
def dkwX5_on_0 : List UInt8 := [42, 182, 0, 36, 154, 0, 25, 42, 180, 0, 28, 180, 0, 46, 4, 159, 0, 14, 42, 42, 180, 0, 18]
abbrev dktX5_on_0 : List UInt8 := dkwX5_on_0 ++ dktX5_on_1
theorem dksX5_on_0 : cX5_on.data.toList.drop 0 = dktX5_on_0 := by decide +kernel
theorem dksX5_on_1 : cX5_on.data.toList.drop 23 = dktX5_on_1 := dk_seg dksX5_on_0 23 rfl rfl
theorem dX5_on_0 : decode cX5_on 0 = .ok (.aload_n 0, 1) := dk_42 (dk_at dksX5_on_0 0 rfl rfl)
theorem dX5_on_1 : decode cX5_on 1 = .ok (.invokevirtual 36, 3) := dk_182 0 36 (dk_at dksX5_on_0 1 rfl rfl)
theorem dX5_on_4 : decode cX5_on 4 = .ok (.ifCond .ne 25, 3) := dk_154 0 25 (dk_at dksX5_on_0 4 rfl rfl)
theorem dX5_on_7 : decode cX5_on 7 = .ok (.aload_n 0, 1) := dk_42 (dk_at dksX5_on_0 7 rfl rfl)
theorem dX5_on_8 : decode cX5_on 8 = .ok (.getfield 28, 3) := dk_180 0 28 (dk_at dksX5_on_0 8 rfl rfl)
theorem dX5_on_11 : decode cX5_on 11 = .ok (.getfield 46, 3) := dk_180 0 46 (dk_at dksX5_on_0 11 rfl rfl)
theorem dX5_on_14 : decode cX5_on 14 = .ok (.iconst 1, 1) := dk_4 (dk_at dksX5_on_0 14 rfl rfl)
theorem dX5_on_15 : decode cX5_on 15 = .ok (.if_icmp .eq 14, 3) := dk_159 0 14 (dk_at dksX5_on_0 15 rfl rfl)
theorem dX5_on_18 : decode cX5_on 18 = .ok (.aload_n 0, 1) := dk_42 (dk_at dksX5_on_0 18 rfl rfl)
theorem dX5_on_19 : decode cX5_on 19 = .ok (.aload_n 0, 1) := dk_42 (dk_at dksX5_on_0 19 rfl rfl)
theorem dX5_on_20 : decode cX5_on 20 = .ok (.getfield 18, 3) := dk_180 0 18 (dk_at dksX5_on_0 20 rfl rfl)
theorem dX5_on_23 : decode cX5_on 23 = .ok (.invokevirtual 22, 3) := dk_182 0 22 (dk_at dksX5_on_1 0 rfl rfl)
theorem dX5_on_26 : decode cX5_on 26 = .ok (.putfield 28, 3) := dk_181 0 28 (dk_at dksX5_on_1 3 rfl rfl)
theorem dX5_on_29 : decode cX5_on 29 = .ok (.return_, 1) := dk_177 (dk_at dksX5_on_1 6 rfl rfl)
abbrev cX5_part : ByteArray := prog_13_method_8_code
def yX5_part : MethodName := ⟨RX5, "part", "(Ljava/lang/String;II)I"⟩
def dkwX5_part_0 : List UInt8 := [42, 43, 182, 0, 71, 42, 28, 29, 182, 0, 75, 172]
abbrev dktX5_part_0 : List UInt8 := dkwX5_part_0 ++ []
theorem dksX5_part_0 : cX5_part.data.toList.drop 0 = dktX5_part_0 := by decide +kernel
theorem dX5_part_0 : decode cX5_part 0 = .ok (.aload_n 0, 1) := dk_42 (dk_at dksX5_part_0 0 rfl rfl)
theorem dX5_part_1 : decode cX5_part 1 = .ok (.aload_n 1, 1) := dk_43 (dk_at dksX5_part_0 1 rfl rfl)
theorem dX5_part_2 : decode cX5_part 2 = .ok (.invokevirtual 71, 3) := dk_182 0 71 (dk_at dksX5_part_0 2 rfl rfl)
theorem dX5_part_5 : decode cX5_part 5 = .ok (.aload_n 0, 1) := dk_42 (dk_at dksX5_part_0 5 rfl rfl)
theorem dX5_part_6 : decode cX5_part 6 = .ok (.iload_n 2, 1) := dk_28 (dk_at dksX5_part_0 6 rfl rfl)
theorem dX5_part_7 : decode cX5_part 7 = .ok (.iload_n 3, 1) := dk_29 (dk_at dksX5_part_0 7 rfl rfl)
theorem dX5_part_8 : decode cX5_part 8 = .ok (.invokevirtual 75, 3) := dk_182 0 75 (dk_at dksX5_part_0 8 rfl rfl)
theorem dX5_part_11 : decode cX5_part 11 = .ok (.ireturn, 1) := dk_172 (dk_at dksX5_part_0 11 rfl rfl)
abbrev cX5_needs : ByteArray := prog_13_method_6_code
def yX5_needs : MethodName := ⟨RX5, "needs", "(Ljava/lang/String;)V"⟩
def dkwX5_needs_0 : List UInt8 := [42, 180, 0, 28, 43, 182, 0, 56, 154, 0, 8, 42, 4, 182, 0, 60, 42, 182, 0, 53, 177]
abbrev dktX5_needs_0 : List UInt8 := dkwX5_needs_0 ++ []
theorem dksX5_needs_0 : cX5_needs.data.toList.drop 0 = dktX5_needs_0 := by decide +kernel
theorem dX5_needs_0 : decode cX5_needs 0 = .ok (.aload_n 0, 1) := dk_42 (dk_at dksX5_needs_0 0 rfl rfl)
theorem dX5_needs_1 : decode cX5_needs 1 = .ok (.getfield 28, 3) := dk_180 0 28 (dk_at dksX5_needs_0 1 rfl rfl)
theorem dX5_needs_4 : decode cX5_needs 4 = .ok (.aload_n 1, 1) := dk_43 (dk_at dksX5_needs_0 4 rfl rfl)
theorem dX5_needs_5 : decode cX5_needs 5 = .ok (.invokevirtual 56, 3) := dk_182 0 56 (dk_at dksX5_needs_0 5 rfl rfl)
theorem dX5_needs_8 : decode cX5_needs 8 = .ok (.ifCond .ne 8, 3) := dk_154 0 8 (dk_at dksX5_needs_0 8 rfl rfl)
theorem dX5_needs_11 : decode cX5_needs 11 = .ok (.aload_n 0, 1) := dk_42 (dk_at dksX5_needs_0 11 rfl rfl)
theorem dX5_needs_12 : decode cX5_needs 12 = .ok (.iconst 1, 1) := dk_4 (dk_at dksX5_needs_0 12 rfl rfl)
theorem dX5_needs_13 : decode cX5_needs 13 = .ok (.invokevirtual 60, 3) := dk_182 0 60 (dk_at dksX5_needs_0 13 rfl rfl)
theorem dX5_needs_16 : decode cX5_needs 16 = .ok (.aload_n 0, 1) := dk_42 (dk_at dksX5_needs_0 16 rfl rfl)
theorem dX5_needs_17 : decode cX5_needs 17 = .ok (.invokevirtual 53, 3) := dk_182 0 53 (dk_at dksX5_needs_0 17 rfl rfl)
theorem dX5_needs_20 : decode cX5_needs 20 = .ok (.return_, 1) := dk_177 (dk_at dksX5_needs_0 20 rfl rfl)
abbrev cX5_whole : ByteArray := prog_13_method_7_code
def yX5_whole : MethodName := ⟨RX5, "whole", "(II)I"⟩
def dkwX5_whole_2 : List UInt8 := [172]
abbrev dktX5_whole_2 : List UInt8 := dkwX5_whole_2 ++ []
def dkwX5_whole_1 : List UInt8 := [180, 0, 64, 27, 28, 184, 0, 67, 154, 0, 8, 42, 7, 182, 0, 60, 42, 182, 0, 53, 45, 180, 0, 64]
abbrev dktX5_whole_1 : List UInt8 := dkwX5_whole_1 ++ dktX5_whole_2
def dkwX5_whole_0 : List UInt8 := [42, 180, 0, 28, 78, 45, 180, 0, 46, 6, 159, 0, 11, 42, 4, 182, 0, 60, 167, 0, 20, 45]
abbrev dktX5_whole_0 : List UInt8 := dkwX5_whole_0 ++ dktX5_whole_1
theorem dksX5_whole_0 : cX5_whole.data.toList.drop 0 = dktX5_whole_0 := by decide +kernel
theorem dksX5_whole_1 : cX5_whole.data.toList.drop 22 = dktX5_whole_1 := dk_seg dksX5_whole_0 22 rfl rfl
theorem dksX5_whole_2 : cX5_whole.data.toList.drop 46 = dktX5_whole_2 := dk_seg dksX5_whole_1 24 rfl rfl
theorem dX5_whole_0 : decode cX5_whole 0 = .ok (.aload_n 0, 1) := dk_42 (dk_at dksX5_whole_0 0 rfl rfl)
theorem dX5_whole_1 : decode cX5_whole 1 = .ok (.getfield 28, 3) := dk_180 0 28 (dk_at dksX5_whole_0 1 rfl rfl)
theorem dX5_whole_4 : decode cX5_whole 4 = .ok (.astore_n 3, 1) := dk_78 (dk_at dksX5_whole_0 4 rfl rfl)
theorem dX5_whole_5 : decode cX5_whole 5 = .ok (.aload_n 3, 1) := dk_45 (dk_at dksX5_whole_0 5 rfl rfl)
theorem dX5_whole_6 : decode cX5_whole 6 = .ok (.getfield 46, 3) := dk_180 0 46 (dk_at dksX5_whole_0 6 rfl rfl)
theorem dX5_whole_9 : decode cX5_whole 9 = .ok (.iconst 3, 1) := dk_6 (dk_at dksX5_whole_0 9 rfl rfl)
theorem dX5_whole_10 : decode cX5_whole 10 = .ok (.if_icmp .eq 11, 3) := dk_159 0 11 (dk_at dksX5_whole_0 10 rfl rfl)
theorem dX5_whole_13 : decode cX5_whole 13 = .ok (.aload_n 0, 1) := dk_42 (dk_at dksX5_whole_0 13 rfl rfl)
theorem dX5_whole_14 : decode cX5_whole 14 = .ok (.iconst 1, 1) := dk_4 (dk_at dksX5_whole_0 14 rfl rfl)
theorem dX5_whole_15 : decode cX5_whole 15 = .ok (.invokevirtual 60, 3) := dk_182 0 60 (dk_at dksX5_whole_0 15 rfl rfl)
theorem dX5_whole_18 : decode cX5_whole 18 = .ok (.goto 20, 3) := dk_167 0 20 (dk_at dksX5_whole_0 18 rfl rfl)
theorem dX5_whole_21 : decode cX5_whole 21 = .ok (.aload_n 3, 1) := dk_45 (dk_at dksX5_whole_0 21 rfl rfl)
theorem dX5_whole_22 : decode cX5_whole 22 = .ok (.getfield 64, 3) := dk_180 0 64 (dk_at dksX5_whole_1 0 rfl rfl)
theorem dX5_whole_25 : decode cX5_whole 25 = .ok (.iload_n 1, 1) := dk_27 (dk_at dksX5_whole_1 3 rfl rfl)
theorem dX5_whole_26 : decode cX5_whole 26 = .ok (.iload_n 2, 1) := dk_28 (dk_at dksX5_whole_1 4 rfl rfl)
theorem dX5_whole_27 : decode cX5_whole 27 = .ok (.invokestatic 67, 3) := dk_184 0 67 (dk_at dksX5_whole_1 5 rfl rfl)
theorem dX5_whole_30 : decode cX5_whole 30 = .ok (.ifCond .ne 8, 3) := dk_154 0 8 (dk_at dksX5_whole_1 8 rfl rfl)
theorem dX5_whole_33 : decode cX5_whole 33 = .ok (.aload_n 0, 1) := dk_42 (dk_at dksX5_whole_1 11 rfl rfl)
theorem dX5_whole_34 : decode cX5_whole 34 = .ok (.iconst 4, 1) := dk_7 (dk_at dksX5_whole_1 12 rfl rfl)
theorem dX5_whole_35 : decode cX5_whole 35 = .ok (.invokevirtual 60, 3) := dk_182 0 60 (dk_at dksX5_whole_1 13 rfl rfl)
theorem dX5_whole_38 : decode cX5_whole 38 = .ok (.aload_n 0, 1) := dk_42 (dk_at dksX5_whole_1 16 rfl rfl)
theorem dX5_whole_39 : decode cX5_whole 39 = .ok (.invokevirtual 53, 3) := dk_182 0 53 (dk_at dksX5_whole_1 17 rfl rfl)
theorem dX5_whole_42 : decode cX5_whole 42 = .ok (.aload_n 3, 1) := dk_45 (dk_at dksX5_whole_1 20 rfl rfl)
theorem dX5_whole_43 : decode cX5_whole 43 = .ok (.getfield 64, 3) := dk_180 0 64 (dk_at dksX5_whole_1 21 rfl rfl)
theorem dX5_whole_46 : decode cX5_whole 46 = .ok (.ireturn, 1) := dk_172 (dk_at dksX5_whole_2 0 rfl rfl)
abbrev cX5_drink : ByteArray := prog_13_method_16_code
def yX5_drink : MethodName := ⟨RX5, "drink", "()V"⟩
def dkwX5_drink_3 : List UInt8 := [21, 4, 183, 0, 184, 182, 0, 187, 87, 177]
abbrev dktX5_drink_3 : List UInt8 := dkwX5_drink_3 ++ []
def dkwX5_drink_2 : List UInt8 := [54, 4, 42, 182, 0, 36, 154, 0, 26, 42, 180, 0, 12, 180, 0, 105, 187, 0, 182, 89, 43, 28, 29]
abbrev dktX5_drink_2 : List UInt8 := dkwX5_drink_2 ++ dktX5_drink_3
def dkwX5_drink_1 : List UInt8 := [16, 90, 182, 0, 157, 61, 42, 18, 178, 3, 28, 182, 0, 157, 62, 42, 18, 180, 3, 16, 99, 182, 0, 157]
abbrev dktX5_drink_1 : List UInt8 := dkwX5_drink_1 ++ dktX5_drink_2
def dkwX5_drink_0 : List UInt8 := [42, 42, 180, 0, 12, 180, 0, 105, 182, 0, 165, 8, 182, 0, 168, 42, 182, 0, 172, 76, 42, 18, 176, 4]
abbrev dktX5_drink_0 : List UInt8 := dkwX5_drink_0 ++ dktX5_drink_1
theorem dksX5_drink_0 : cX5_drink.data.toList.drop 0 = dktX5_drink_0 := by decide +kernel
theorem dksX5_drink_1 : cX5_drink.data.toList.drop 24 = dktX5_drink_1 := dk_seg dksX5_drink_0 24 rfl rfl
theorem dksX5_drink_2 : cX5_drink.data.toList.drop 48 = dktX5_drink_2 := dk_seg dksX5_drink_1 24 rfl rfl
theorem dksX5_drink_3 : cX5_drink.data.toList.drop 71 = dktX5_drink_3 := dk_seg dksX5_drink_2 23 rfl rfl
theorem dX5_drink_0 : decode cX5_drink 0 = .ok (.aload_n 0, 1) := dk_42 (dk_at dksX5_drink_0 0 rfl rfl)
theorem dX5_drink_1 : decode cX5_drink 1 = .ok (.aload_n 0, 1) := dk_42 (dk_at dksX5_drink_0 1 rfl rfl)
theorem dX5_drink_2 : decode cX5_drink 2 = .ok (.getfield 12, 3) := dk_180 0 12 (dk_at dksX5_drink_0 2 rfl rfl)
theorem dX5_drink_5 : decode cX5_drink 5 = .ok (.getfield 105, 3) := dk_180 0 105 (dk_at dksX5_drink_0 5 rfl rfl)
theorem dX5_drink_8 : decode cX5_drink 8 = .ok (.invokevirtual 165, 3) := dk_182 0 165 (dk_at dksX5_drink_0 8 rfl rfl)
theorem dX5_drink_11 : decode cX5_drink 11 = .ok (.iconst 5, 1) := dk_8 (dk_at dksX5_drink_0 11 rfl rfl)
theorem dX5_drink_12 : decode cX5_drink 12 = .ok (.invokevirtual 168, 3) := dk_182 0 168 (dk_at dksX5_drink_0 12 rfl rfl)
theorem dX5_drink_15 : decode cX5_drink 15 = .ok (.aload_n 0, 1) := dk_42 (dk_at dksX5_drink_0 15 rfl rfl)
theorem dX5_drink_16 : decode cX5_drink 16 = .ok (.invokevirtual 172, 3) := dk_182 0 172 (dk_at dksX5_drink_0 16 rfl rfl)
theorem dX5_drink_19 : decode cX5_drink 19 = .ok (.astore_n 1, 1) := dk_76 (dk_at dksX5_drink_0 19 rfl rfl)
theorem dX5_drink_20 : decode cX5_drink 20 = .ok (.aload_n 0, 1) := dk_42 (dk_at dksX5_drink_0 20 rfl rfl)
theorem dX5_drink_21 : decode cX5_drink 21 = .ok (.ldc 176, 2) := dk_18 176 (dk_at dksX5_drink_0 21 rfl rfl)
theorem dX5_drink_23 : decode cX5_drink 23 = .ok (.iconst 1, 1) := dk_4 (dk_at dksX5_drink_0 23 rfl rfl)
theorem dX5_drink_24 : decode cX5_drink 24 = .ok (.bipush 90, 2) := dk_16 90 (dk_at dksX5_drink_1 0 rfl rfl)
theorem dX5_drink_26 : decode cX5_drink 26 = .ok (.invokevirtual 157, 3) := dk_182 0 157 (dk_at dksX5_drink_1 2 rfl rfl)
theorem dX5_drink_29 : decode cX5_drink 29 = .ok (.istore_n 2, 1) := dk_61 (dk_at dksX5_drink_1 5 rfl rfl)
theorem dX5_drink_30 : decode cX5_drink 30 = .ok (.aload_n 0, 1) := dk_42 (dk_at dksX5_drink_1 6 rfl rfl)
theorem dX5_drink_31 : decode cX5_drink 31 = .ok (.ldc 178, 2) := dk_18 178 (dk_at dksX5_drink_1 7 rfl rfl)
theorem dX5_drink_33 : decode cX5_drink 33 = .ok (.iconst 0, 1) := dk_3 (dk_at dksX5_drink_1 9 rfl rfl)
theorem dX5_drink_34 : decode cX5_drink 34 = .ok (.iload_n 2, 1) := dk_28 (dk_at dksX5_drink_1 10 rfl rfl)
theorem dX5_drink_35 : decode cX5_drink 35 = .ok (.invokevirtual 157, 3) := dk_182 0 157 (dk_at dksX5_drink_1 11 rfl rfl)
theorem dX5_drink_38 : decode cX5_drink 38 = .ok (.istore_n 3, 1) := dk_62 (dk_at dksX5_drink_1 14 rfl rfl)
theorem dX5_drink_39 : decode cX5_drink 39 = .ok (.aload_n 0, 1) := dk_42 (dk_at dksX5_drink_1 15 rfl rfl)
theorem dX5_drink_40 : decode cX5_drink 40 = .ok (.ldc 180, 2) := dk_18 180 (dk_at dksX5_drink_1 16 rfl rfl)
theorem dX5_drink_42 : decode cX5_drink 42 = .ok (.iconst 0, 1) := dk_3 (dk_at dksX5_drink_1 18 rfl rfl)
theorem dX5_drink_43 : decode cX5_drink 43 = .ok (.bipush 99, 2) := dk_16 99 (dk_at dksX5_drink_1 19 rfl rfl)
theorem dX5_drink_45 : decode cX5_drink 45 = .ok (.invokevirtual 157, 3) := dk_182 0 157 (dk_at dksX5_drink_1 21 rfl rfl)
theorem dX5_drink_48 : decode cX5_drink 48 = .ok (.istore 4, 2) := dk_54 4 (dk_at dksX5_drink_2 0 rfl rfl)
theorem dX5_drink_50 : decode cX5_drink 50 = .ok (.aload_n 0, 1) := dk_42 (dk_at dksX5_drink_2 2 rfl rfl)
theorem dX5_drink_51 : decode cX5_drink 51 = .ok (.invokevirtual 36, 3) := dk_182 0 36 (dk_at dksX5_drink_2 3 rfl rfl)
theorem dX5_drink_54 : decode cX5_drink 54 = .ok (.ifCond .ne 26, 3) := dk_154 0 26 (dk_at dksX5_drink_2 6 rfl rfl)
theorem dX5_drink_57 : decode cX5_drink 57 = .ok (.aload_n 0, 1) := dk_42 (dk_at dksX5_drink_2 9 rfl rfl)
theorem dX5_drink_58 : decode cX5_drink 58 = .ok (.getfield 12, 3) := dk_180 0 12 (dk_at dksX5_drink_2 10 rfl rfl)
theorem dX5_drink_61 : decode cX5_drink 61 = .ok (.getfield 105, 3) := dk_180 0 105 (dk_at dksX5_drink_2 13 rfl rfl)
theorem dX5_drink_64 : decode cX5_drink 64 = .ok (.new 182, 3) := dk_187 0 182 (dk_at dksX5_drink_2 16 rfl rfl)
theorem dX5_drink_67 : decode cX5_drink 67 = .ok (.dup, 1) := dk_89 (dk_at dksX5_drink_2 19 rfl rfl)
theorem dX5_drink_68 : decode cX5_drink 68 = .ok (.aload_n 1, 1) := dk_43 (dk_at dksX5_drink_2 20 rfl rfl)
theorem dX5_drink_69 : decode cX5_drink 69 = .ok (.iload_n 2, 1) := dk_28 (dk_at dksX5_drink_2 21 rfl rfl)
theorem dX5_drink_70 : decode cX5_drink 70 = .ok (.iload_n 3, 1) := dk_29 (dk_at dksX5_drink_2 22 rfl rfl)
theorem dX5_drink_71 : decode cX5_drink 71 = .ok (.iload 4, 2) := dk_21 4 (dk_at dksX5_drink_3 0 rfl rfl)
theorem dX5_drink_73 : decode cX5_drink 73 = .ok (.invokespecial 184, 3) := dk_183 0 184 (dk_at dksX5_drink_3 2 rfl rfl)
theorem dX5_drink_76 : decode cX5_drink 76 = .ok (.invokevirtual 187, 3) := dk_182 0 187 (dk_at dksX5_drink_3 5 rfl rfl)
theorem dX5_drink_79 : decode cX5_drink 79 = .ok (.pop, 1) := dk_87 (dk_at dksX5_drink_3 8 rfl rfl)
theorem dX5_drink_80 : decode cX5_drink 80 = .ok (.return_, 1) := dk_177 (dk_at dksX5_drink_3 9 rfl rfl)
abbrev cX5_begins : ByteArray := prog_13_method_14_code
def yX5_begins : MethodName := ⟨RX5, "begins", "(II)V"⟩
def dkwX5_begins_1 : List UInt8 := [182, 0, 60, 42, 182, 0, 53, 177]
abbrev dktX5_begins_1 : List UInt8 := dkwX5_begins_1 ++ []
def dkwX5_begins_0 : List UInt8 := [27, 28, 160, 0, 8, 42, 8, 182, 0, 60, 42, 180, 0, 12, 180, 0, 102, 154, 0, 9, 42, 16, 6]
abbrev dktX5_begins_0 : List UInt8 := dkwX5_begins_0 ++ dktX5_begins_1
theorem dksX5_begins_0 : cX5_begins.data.toList.drop 0 = dktX5_begins_0 := by decide +kernel
theorem dksX5_begins_1 : cX5_begins.data.toList.drop 23 = dktX5_begins_1 := dk_seg dksX5_begins_0 23 rfl rfl
theorem dX5_begins_0 : decode cX5_begins 0 = .ok (.iload_n 1, 1) := dk_27 (dk_at dksX5_begins_0 0 rfl rfl)
theorem dX5_begins_1 : decode cX5_begins 1 = .ok (.iload_n 2, 1) := dk_28 (dk_at dksX5_begins_0 1 rfl rfl)
theorem dX5_begins_2 : decode cX5_begins 2 = .ok (.if_icmp .ne 8, 3) := dk_160 0 8 (dk_at dksX5_begins_0 2 rfl rfl)
theorem dX5_begins_5 : decode cX5_begins 5 = .ok (.aload_n 0, 1) := dk_42 (dk_at dksX5_begins_0 5 rfl rfl)
theorem dX5_begins_6 : decode cX5_begins 6 = .ok (.iconst 5, 1) := dk_8 (dk_at dksX5_begins_0 6 rfl rfl)
theorem dX5_begins_7 : decode cX5_begins 7 = .ok (.invokevirtual 60, 3) := dk_182 0 60 (dk_at dksX5_begins_0 7 rfl rfl)
theorem dX5_begins_10 : decode cX5_begins 10 = .ok (.aload_n 0, 1) := dk_42 (dk_at dksX5_begins_0 10 rfl rfl)
theorem dX5_begins_11 : decode cX5_begins 11 = .ok (.getfield 12, 3) := dk_180 0 12 (dk_at dksX5_begins_0 11 rfl rfl)
theorem dX5_begins_14 : decode cX5_begins 14 = .ok (.getfield 102, 3) := dk_180 0 102 (dk_at dksX5_begins_0 14 rfl rfl)
theorem dX5_begins_17 : decode cX5_begins 17 = .ok (.ifCond .ne 9, 3) := dk_154 0 9 (dk_at dksX5_begins_0 17 rfl rfl)
theorem dX5_begins_20 : decode cX5_begins 20 = .ok (.aload_n 0, 1) := dk_42 (dk_at dksX5_begins_0 20 rfl rfl)
theorem dX5_begins_21 : decode cX5_begins 21 = .ok (.bipush 6, 2) := dk_16 6 (dk_at dksX5_begins_0 21 rfl rfl)
theorem dX5_begins_23 : decode cX5_begins 23 = .ok (.invokevirtual 60, 3) := dk_182 0 60 (dk_at dksX5_begins_1 0 rfl rfl)
theorem dX5_begins_26 : decode cX5_begins 26 = .ok (.aload_n 0, 1) := dk_42 (dk_at dksX5_begins_1 3 rfl rfl)
theorem dX5_begins_27 : decode cX5_begins 27 = .ok (.invokevirtual 53, 3) := dk_182 0 53 (dk_at dksX5_begins_1 4 rfl rfl)
theorem dX5_begins_30 : decode cX5_begins 30 = .ok (.return_, 1) := dk_177 (dk_at dksX5_begins_1 7 rfl rfl)
abbrev cX5_fresh : ByteArray := prog_13_method_9_code
def yX5_fresh : MethodName := ⟨RX5, "fresh", "()Ljava/lang/String;"⟩
def dkwX5_fresh_1 : List UInt8 := [180, 0, 82, 182, 0, 86, 153, 0, 8, 42, 6, 182, 0, 60, 42, 182, 0, 53, 43, 180, 0, 82, 176]
abbrev dktX5_fresh_1 : List UInt8 := dkwX5_fresh_1 ++ []
def dkwX5_fresh_0 : List UInt8 := [42, 180, 0, 28, 76, 43, 182, 0, 79, 154, 0, 8, 42, 4, 182, 0, 60, 42, 180, 0, 12, 43]
abbrev dktX5_fresh_0 : List UInt8 := dkwX5_fresh_0 ++ dktX5_fresh_1
theorem dksX5_fresh_0 : cX5_fresh.data.toList.drop 0 = dktX5_fresh_0 := by decide +kernel
theorem dksX5_fresh_1 : cX5_fresh.data.toList.drop 22 = dktX5_fresh_1 := dk_seg dksX5_fresh_0 22 rfl rfl
theorem dX5_fresh_0 : decode cX5_fresh 0 = .ok (.aload_n 0, 1) := dk_42 (dk_at dksX5_fresh_0 0 rfl rfl)
theorem dX5_fresh_1 : decode cX5_fresh 1 = .ok (.getfield 28, 3) := dk_180 0 28 (dk_at dksX5_fresh_0 1 rfl rfl)
theorem dX5_fresh_4 : decode cX5_fresh 4 = .ok (.astore_n 1, 1) := dk_76 (dk_at dksX5_fresh_0 4 rfl rfl)
theorem dX5_fresh_5 : decode cX5_fresh 5 = .ok (.aload_n 1, 1) := dk_43 (dk_at dksX5_fresh_0 5 rfl rfl)
theorem dX5_fresh_6 : decode cX5_fresh 6 = .ok (.invokevirtual 79, 3) := dk_182 0 79 (dk_at dksX5_fresh_0 6 rfl rfl)
theorem dX5_fresh_9 : decode cX5_fresh 9 = .ok (.ifCond .ne 8, 3) := dk_154 0 8 (dk_at dksX5_fresh_0 9 rfl rfl)
theorem dX5_fresh_12 : decode cX5_fresh 12 = .ok (.aload_n 0, 1) := dk_42 (dk_at dksX5_fresh_0 12 rfl rfl)
theorem dX5_fresh_13 : decode cX5_fresh 13 = .ok (.iconst 1, 1) := dk_4 (dk_at dksX5_fresh_0 13 rfl rfl)
theorem dX5_fresh_14 : decode cX5_fresh 14 = .ok (.invokevirtual 60, 3) := dk_182 0 60 (dk_at dksX5_fresh_0 14 rfl rfl)
theorem dX5_fresh_17 : decode cX5_fresh 17 = .ok (.aload_n 0, 1) := dk_42 (dk_at dksX5_fresh_0 17 rfl rfl)
theorem dX5_fresh_18 : decode cX5_fresh 18 = .ok (.getfield 12, 3) := dk_180 0 12 (dk_at dksX5_fresh_0 18 rfl rfl)
theorem dX5_fresh_21 : decode cX5_fresh 21 = .ok (.aload_n 1, 1) := dk_43 (dk_at dksX5_fresh_0 21 rfl rfl)
theorem dX5_fresh_22 : decode cX5_fresh 22 = .ok (.getfield 82, 3) := dk_180 0 82 (dk_at dksX5_fresh_1 0 rfl rfl)
theorem dX5_fresh_25 : decode cX5_fresh 25 = .ok (.invokevirtual 86, 3) := dk_182 0 86 (dk_at dksX5_fresh_1 3 rfl rfl)
theorem dX5_fresh_28 : decode cX5_fresh 28 = .ok (.ifCond .eq 8, 3) := dk_153 0 8 (dk_at dksX5_fresh_1 6 rfl rfl)
theorem dX5_fresh_31 : decode cX5_fresh 31 = .ok (.aload_n 0, 1) := dk_42 (dk_at dksX5_fresh_1 9 rfl rfl)
theorem dX5_fresh_32 : decode cX5_fresh 32 = .ok (.iconst 3, 1) := dk_6 (dk_at dksX5_fresh_1 10 rfl rfl)
theorem dX5_fresh_33 : decode cX5_fresh 33 = .ok (.invokevirtual 60, 3) := dk_182 0 60 (dk_at dksX5_fresh_1 11 rfl rfl)
theorem dX5_fresh_36 : decode cX5_fresh 36 = .ok (.aload_n 0, 1) := dk_42 (dk_at dksX5_fresh_1 14 rfl rfl)
theorem dX5_fresh_37 : decode cX5_fresh 37 = .ok (.invokevirtual 53, 3) := dk_182 0 53 (dk_at dksX5_fresh_1 15 rfl rfl)
theorem dX5_fresh_40 : decode cX5_fresh 40 = .ok (.aload_n 1, 1) := dk_43 (dk_at dksX5_fresh_1 18 rfl rfl)
theorem dX5_fresh_41 : decode cX5_fresh 41 = .ok (.getfield 82, 3) := dk_180 0 82 (dk_at dksX5_fresh_1 19 rfl rfl)
theorem dX5_fresh_44 : decode cX5_fresh 44 = .ok (.areturn, 1) := dk_176 (dk_at dksX5_fresh_1 22 rfl rfl)
abbrev cX5_staff : ByteArray := prog_13_method_18_code
def yX5_staff : MethodName := ⟨RX5, "staff", "()V"⟩
def dkwX5_staff_6 : List UInt8 := [154, 0, 15, 42, 180, 0, 12, 180, 0, 114, 43, 182, 0, 187, 87, 177]
abbrev dktX5_staff_6 : List UInt8 := dkwX5_staff_6 ++ []
def dkwX5_staff_5 : List UInt8 := [16, 9, 182, 0, 157, 181, 0, 226, 43, 42, 18, 228, 4, 5, 182, 0, 157, 181, 0, 230, 42, 182, 0, 36]
abbrev dktX5_staff_5 : List UInt8 := dkwX5_staff_5 ++ dktX5_staff_6
def dkwX5_staff_4 : List UInt8 := [180, 0, 218, 42, 180, 0, 12, 180, 0, 102, 4, 100, 182, 0, 157, 181, 0, 222, 43, 42, 18, 224, 3]
abbrev dktX5_staff_4 : List UInt8 := dkwX5_staff_4 ++ dktX5_staff_5
def dkwX5_staff_3 : List UInt8 := [100, 182, 0, 157, 181, 0, 218, 43, 42, 18, 220, 42, 182, 0, 36, 153, 0, 7, 3, 167, 0, 7, 43]
abbrev dktX5_staff_3 : List UInt8 := dkwX5_staff_3 ++ dktX5_staff_4
def dkwX5_staff_2 : List UInt8 := [180, 0, 102, 4, 100, 182, 0, 157, 181, 0, 214, 43, 42, 18, 216, 3, 42, 180, 0, 12, 180, 0, 102, 4]
abbrev dktX5_staff_2 : List UInt8 := dkwX5_staff_2 ++ dktX5_staff_3
def dkwX5_staff_1 : List UInt8 := [182, 0, 202, 184, 0, 205, 183, 0, 209, 76, 42, 182, 0, 53, 43, 42, 18, 212, 3, 42, 180, 0, 12]
abbrev dktX5_staff_1 : List UInt8 := dkwX5_staff_1 ++ dktX5_staff_2
def dkwX5_staff_0 : List UInt8 := [42, 42, 180, 0, 12, 180, 0, 114, 182, 0, 165, 6, 182, 0, 168, 187, 0, 200, 89, 42, 182, 0, 172, 42]
abbrev dktX5_staff_0 : List UInt8 := dkwX5_staff_0 ++ dktX5_staff_1
theorem dksX5_staff_0 : cX5_staff.data.toList.drop 0 = dktX5_staff_0 := by decide +kernel
theorem dksX5_staff_1 : cX5_staff.data.toList.drop 24 = dktX5_staff_1 := dk_seg dksX5_staff_0 24 rfl rfl
theorem dksX5_staff_2 : cX5_staff.data.toList.drop 47 = dktX5_staff_2 := dk_seg dksX5_staff_1 23 rfl rfl
theorem dksX5_staff_3 : cX5_staff.data.toList.drop 71 = dktX5_staff_3 := dk_seg dksX5_staff_2 24 rfl rfl
theorem dksX5_staff_4 : cX5_staff.data.toList.drop 94 = dktX5_staff_4 := dk_seg dksX5_staff_3 23 rfl rfl
theorem dksX5_staff_5 : cX5_staff.data.toList.drop 117 = dktX5_staff_5 := dk_seg dksX5_staff_4 23 rfl rfl
theorem dksX5_staff_6 : cX5_staff.data.toList.drop 141 = dktX5_staff_6 := dk_seg dksX5_staff_5 24 rfl rfl
theorem dX5_staff_0 : decode cX5_staff 0 = .ok (.aload_n 0, 1) := dk_42 (dk_at dksX5_staff_0 0 rfl rfl)
theorem dX5_staff_1 : decode cX5_staff 1 = .ok (.aload_n 0, 1) := dk_42 (dk_at dksX5_staff_0 1 rfl rfl)
theorem dX5_staff_2 : decode cX5_staff 2 = .ok (.getfield 12, 3) := dk_180 0 12 (dk_at dksX5_staff_0 2 rfl rfl)
theorem dX5_staff_5 : decode cX5_staff 5 = .ok (.getfield 114, 3) := dk_180 0 114 (dk_at dksX5_staff_0 5 rfl rfl)
theorem dX5_staff_8 : decode cX5_staff 8 = .ok (.invokevirtual 165, 3) := dk_182 0 165 (dk_at dksX5_staff_0 8 rfl rfl)
theorem dX5_staff_11 : decode cX5_staff 11 = .ok (.iconst 3, 1) := dk_6 (dk_at dksX5_staff_0 11 rfl rfl)
theorem dX5_staff_12 : decode cX5_staff 12 = .ok (.invokevirtual 168, 3) := dk_182 0 168 (dk_at dksX5_staff_0 12 rfl rfl)
theorem dX5_staff_15 : decode cX5_staff 15 = .ok (.new 200, 3) := dk_187 0 200 (dk_at dksX5_staff_0 15 rfl rfl)
theorem dX5_staff_18 : decode cX5_staff 18 = .ok (.dup, 1) := dk_89 (dk_at dksX5_staff_0 18 rfl rfl)
theorem dX5_staff_19 : decode cX5_staff 19 = .ok (.aload_n 0, 1) := dk_42 (dk_at dksX5_staff_0 19 rfl rfl)
theorem dX5_staff_20 : decode cX5_staff 20 = .ok (.invokevirtual 172, 3) := dk_182 0 172 (dk_at dksX5_staff_0 20 rfl rfl)
theorem dX5_staff_23 : decode cX5_staff 23 = .ok (.aload_n 0, 1) := dk_42 (dk_at dksX5_staff_0 23 rfl rfl)
theorem dX5_staff_24 : decode cX5_staff 24 = .ok (.invokevirtual 202, 3) := dk_182 0 202 (dk_at dksX5_staff_1 0 rfl rfl)
theorem dX5_staff_27 : decode cX5_staff 27 = .ok (.invokestatic 205, 3) := dk_184 0 205 (dk_at dksX5_staff_1 3 rfl rfl)
theorem dX5_staff_30 : decode cX5_staff 30 = .ok (.invokespecial 209, 3) := dk_183 0 209 (dk_at dksX5_staff_1 6 rfl rfl)
theorem dX5_staff_33 : decode cX5_staff 33 = .ok (.astore_n 1, 1) := dk_76 (dk_at dksX5_staff_1 9 rfl rfl)
theorem dX5_staff_34 : decode cX5_staff 34 = .ok (.aload_n 0, 1) := dk_42 (dk_at dksX5_staff_1 10 rfl rfl)
theorem dX5_staff_35 : decode cX5_staff 35 = .ok (.invokevirtual 53, 3) := dk_182 0 53 (dk_at dksX5_staff_1 11 rfl rfl)
theorem dX5_staff_38 : decode cX5_staff 38 = .ok (.aload_n 1, 1) := dk_43 (dk_at dksX5_staff_1 14 rfl rfl)
theorem dX5_staff_39 : decode cX5_staff 39 = .ok (.aload_n 0, 1) := dk_42 (dk_at dksX5_staff_1 15 rfl rfl)
theorem dX5_staff_40 : decode cX5_staff 40 = .ok (.ldc 212, 2) := dk_18 212 (dk_at dksX5_staff_1 16 rfl rfl)
theorem dX5_staff_42 : decode cX5_staff 42 = .ok (.iconst 0, 1) := dk_3 (dk_at dksX5_staff_1 18 rfl rfl)
theorem dX5_staff_43 : decode cX5_staff 43 = .ok (.aload_n 0, 1) := dk_42 (dk_at dksX5_staff_1 19 rfl rfl)
theorem dX5_staff_44 : decode cX5_staff 44 = .ok (.getfield 12, 3) := dk_180 0 12 (dk_at dksX5_staff_1 20 rfl rfl)
theorem dX5_staff_47 : decode cX5_staff 47 = .ok (.getfield 102, 3) := dk_180 0 102 (dk_at dksX5_staff_2 0 rfl rfl)
theorem dX5_staff_50 : decode cX5_staff 50 = .ok (.iconst 1, 1) := dk_4 (dk_at dksX5_staff_2 3 rfl rfl)
theorem dX5_staff_51 : decode cX5_staff 51 = .ok (.isub, 1) := dk_100 (dk_at dksX5_staff_2 4 rfl rfl)
theorem dX5_staff_52 : decode cX5_staff 52 = .ok (.invokevirtual 157, 3) := dk_182 0 157 (dk_at dksX5_staff_2 5 rfl rfl)
theorem dX5_staff_55 : decode cX5_staff 55 = .ok (.putfield 214, 3) := dk_181 0 214 (dk_at dksX5_staff_2 8 rfl rfl)
theorem dX5_staff_58 : decode cX5_staff 58 = .ok (.aload_n 1, 1) := dk_43 (dk_at dksX5_staff_2 11 rfl rfl)
theorem dX5_staff_59 : decode cX5_staff 59 = .ok (.aload_n 0, 1) := dk_42 (dk_at dksX5_staff_2 12 rfl rfl)
theorem dX5_staff_60 : decode cX5_staff 60 = .ok (.ldc 216, 2) := dk_18 216 (dk_at dksX5_staff_2 13 rfl rfl)
theorem dX5_staff_62 : decode cX5_staff 62 = .ok (.iconst 0, 1) := dk_3 (dk_at dksX5_staff_2 15 rfl rfl)
theorem dX5_staff_63 : decode cX5_staff 63 = .ok (.aload_n 0, 1) := dk_42 (dk_at dksX5_staff_2 16 rfl rfl)
theorem dX5_staff_64 : decode cX5_staff 64 = .ok (.getfield 12, 3) := dk_180 0 12 (dk_at dksX5_staff_2 17 rfl rfl)
theorem dX5_staff_67 : decode cX5_staff 67 = .ok (.getfield 102, 3) := dk_180 0 102 (dk_at dksX5_staff_2 20 rfl rfl)
theorem dX5_staff_70 : decode cX5_staff 70 = .ok (.iconst 1, 1) := dk_4 (dk_at dksX5_staff_2 23 rfl rfl)
theorem dX5_staff_71 : decode cX5_staff 71 = .ok (.isub, 1) := dk_100 (dk_at dksX5_staff_3 0 rfl rfl)
theorem dX5_staff_72 : decode cX5_staff 72 = .ok (.invokevirtual 157, 3) := dk_182 0 157 (dk_at dksX5_staff_3 1 rfl rfl)
theorem dX5_staff_75 : decode cX5_staff 75 = .ok (.putfield 218, 3) := dk_181 0 218 (dk_at dksX5_staff_3 4 rfl rfl)
theorem dX5_staff_78 : decode cX5_staff 78 = .ok (.aload_n 1, 1) := dk_43 (dk_at dksX5_staff_3 7 rfl rfl)
theorem dX5_staff_79 : decode cX5_staff 79 = .ok (.aload_n 0, 1) := dk_42 (dk_at dksX5_staff_3 8 rfl rfl)
theorem dX5_staff_80 : decode cX5_staff 80 = .ok (.ldc 220, 2) := dk_18 220 (dk_at dksX5_staff_3 9 rfl rfl)
theorem dX5_staff_82 : decode cX5_staff 82 = .ok (.aload_n 0, 1) := dk_42 (dk_at dksX5_staff_3 11 rfl rfl)
theorem dX5_staff_83 : decode cX5_staff 83 = .ok (.invokevirtual 36, 3) := dk_182 0 36 (dk_at dksX5_staff_3 12 rfl rfl)
theorem dX5_staff_86 : decode cX5_staff 86 = .ok (.ifCond .eq 7, 3) := dk_153 0 7 (dk_at dksX5_staff_3 15 rfl rfl)
theorem dX5_staff_89 : decode cX5_staff 89 = .ok (.iconst 0, 1) := dk_3 (dk_at dksX5_staff_3 18 rfl rfl)
theorem dX5_staff_90 : decode cX5_staff 90 = .ok (.goto 7, 3) := dk_167 0 7 (dk_at dksX5_staff_3 19 rfl rfl)
theorem dX5_staff_93 : decode cX5_staff 93 = .ok (.aload_n 1, 1) := dk_43 (dk_at dksX5_staff_3 22 rfl rfl)
theorem dX5_staff_94 : decode cX5_staff 94 = .ok (.getfield 218, 3) := dk_180 0 218 (dk_at dksX5_staff_4 0 rfl rfl)
theorem dX5_staff_97 : decode cX5_staff 97 = .ok (.aload_n 0, 1) := dk_42 (dk_at dksX5_staff_4 3 rfl rfl)
theorem dX5_staff_98 : decode cX5_staff 98 = .ok (.getfield 12, 3) := dk_180 0 12 (dk_at dksX5_staff_4 4 rfl rfl)
theorem dX5_staff_101 : decode cX5_staff 101 = .ok (.getfield 102, 3) := dk_180 0 102 (dk_at dksX5_staff_4 7 rfl rfl)
theorem dX5_staff_104 : decode cX5_staff 104 = .ok (.iconst 1, 1) := dk_4 (dk_at dksX5_staff_4 10 rfl rfl)
theorem dX5_staff_105 : decode cX5_staff 105 = .ok (.isub, 1) := dk_100 (dk_at dksX5_staff_4 11 rfl rfl)
theorem dX5_staff_106 : decode cX5_staff 106 = .ok (.invokevirtual 157, 3) := dk_182 0 157 (dk_at dksX5_staff_4 12 rfl rfl)
theorem dX5_staff_109 : decode cX5_staff 109 = .ok (.putfield 222, 3) := dk_181 0 222 (dk_at dksX5_staff_4 15 rfl rfl)
theorem dX5_staff_112 : decode cX5_staff 112 = .ok (.aload_n 1, 1) := dk_43 (dk_at dksX5_staff_4 18 rfl rfl)
theorem dX5_staff_113 : decode cX5_staff 113 = .ok (.aload_n 0, 1) := dk_42 (dk_at dksX5_staff_4 19 rfl rfl)
theorem dX5_staff_114 : decode cX5_staff 114 = .ok (.ldc 224, 2) := dk_18 224 (dk_at dksX5_staff_4 20 rfl rfl)
theorem dX5_staff_116 : decode cX5_staff 116 = .ok (.iconst 0, 1) := dk_3 (dk_at dksX5_staff_4 22 rfl rfl)
theorem dX5_staff_117 : decode cX5_staff 117 = .ok (.bipush 9, 2) := dk_16 9 (dk_at dksX5_staff_5 0 rfl rfl)
theorem dX5_staff_119 : decode cX5_staff 119 = .ok (.invokevirtual 157, 3) := dk_182 0 157 (dk_at dksX5_staff_5 2 rfl rfl)
theorem dX5_staff_122 : decode cX5_staff 122 = .ok (.putfield 226, 3) := dk_181 0 226 (dk_at dksX5_staff_5 5 rfl rfl)
theorem dX5_staff_125 : decode cX5_staff 125 = .ok (.aload_n 1, 1) := dk_43 (dk_at dksX5_staff_5 8 rfl rfl)
theorem dX5_staff_126 : decode cX5_staff 126 = .ok (.aload_n 0, 1) := dk_42 (dk_at dksX5_staff_5 9 rfl rfl)
theorem dX5_staff_127 : decode cX5_staff 127 = .ok (.ldc 228, 2) := dk_18 228 (dk_at dksX5_staff_5 10 rfl rfl)
theorem dX5_staff_129 : decode cX5_staff 129 = .ok (.iconst 1, 1) := dk_4 (dk_at dksX5_staff_5 12 rfl rfl)
theorem dX5_staff_130 : decode cX5_staff 130 = .ok (.iconst 2, 1) := dk_5 (dk_at dksX5_staff_5 13 rfl rfl)
theorem dX5_staff_131 : decode cX5_staff 131 = .ok (.invokevirtual 157, 3) := dk_182 0 157 (dk_at dksX5_staff_5 14 rfl rfl)
theorem dX5_staff_134 : decode cX5_staff 134 = .ok (.putfield 230, 3) := dk_181 0 230 (dk_at dksX5_staff_5 17 rfl rfl)
theorem dX5_staff_137 : decode cX5_staff 137 = .ok (.aload_n 0, 1) := dk_42 (dk_at dksX5_staff_5 20 rfl rfl)
theorem dX5_staff_138 : decode cX5_staff 138 = .ok (.invokevirtual 36, 3) := dk_182 0 36 (dk_at dksX5_staff_5 21 rfl rfl)
theorem dX5_staff_141 : decode cX5_staff 141 = .ok (.ifCond .ne 15, 3) := dk_154 0 15 (dk_at dksX5_staff_6 0 rfl rfl)
theorem dX5_staff_144 : decode cX5_staff 144 = .ok (.aload_n 0, 1) := dk_42 (dk_at dksX5_staff_6 3 rfl rfl)
theorem dX5_staff_145 : decode cX5_staff 145 = .ok (.getfield 12, 3) := dk_180 0 12 (dk_at dksX5_staff_6 4 rfl rfl)
theorem dX5_staff_148 : decode cX5_staff 148 = .ok (.getfield 114, 3) := dk_180 0 114 (dk_at dksX5_staff_6 7 rfl rfl)
theorem dX5_staff_151 : decode cX5_staff 151 = .ok (.aload_n 1, 1) := dk_43 (dk_at dksX5_staff_6 10 rfl rfl)
theorem dX5_staff_152 : decode cX5_staff 152 = .ok (.invokevirtual 187, 3) := dk_182 0 187 (dk_at dksX5_staff_6 11 rfl rfl)
theorem dX5_staff_155 : decode cX5_staff 155 = .ok (.pop, 1) := dk_87 (dk_at dksX5_staff_6 14 rfl rfl)
theorem dX5_staff_156 : decode cX5_staff 156 = .ok (.return_, 1) := dk_177 (dk_at dksX5_staff_6 15 rfl rfl)
abbrev cX5_ruleNumber : ByteArray := prog_13_method_17_code
def yX5_ruleNumber : MethodName := ⟨RX5, "ruleNumbe\x72", "()I"⟩
def dkwX5_ruleNumber_7 : List UInt8 := [3, 172, 4, 172, 5, 172, 6, 172, 7, 172, 42, 4, 182, 0, 60, 3, 172]
abbrev dktX5_ruleNumber_7 : List UInt8 := dkwX5_ruleNumber_7 ++ []
def dkwX5_ruleNumber_6 : List UInt8 := [170, 0, 0, 0, 0, 0, 0, 46, 0, 0, 0, 0, 0, 0, 0, 4, 0, 0, 0, 36, 0, 0, 0, 38, 0, 0, 0, 40, 0, 0, 0, 42, 0, 0, 0, 44]
abbrev dktX5_ruleNumber_6 : List UInt8 := dkwX5_ruleNumber_6 ++ dktX5_ruleNumber_7
def dkwX5_ruleNumber_5 : List UInt8 := [153, 0, 19, 6, 61, 167, 0, 14, 43, 18, 198, 182, 0, 129, 153, 0, 5, 7, 61, 28]
abbrev dktX5_ruleNumber_5 : List UInt8 := dkwX5_ruleNumber_5 ++ dktX5_ruleNumber_6
def dkwX5_ruleNumber_4 : List UInt8 := [61, 167, 0, 42, 43, 18, 194, 182, 0, 129, 153, 0, 33, 5, 61, 167, 0, 28, 43, 18, 196, 182, 0, 129]
abbrev dktX5_ruleNumber_4 : List UInt8 := dkwX5_ruleNumber_4 ++ dktX5_ruleNumber_5
def dkwX5_ruleNumber_3 : List UInt8 := [43, 18, 190, 182, 0, 129, 153, 0, 61, 3, 61, 167, 0, 56, 43, 18, 192, 182, 0, 129, 153, 0, 47, 4]
abbrev dktX5_ruleNumber_3 : List UInt8 := dkwX5_ruleNumber_3 ++ dktX5_ruleNumber_4
def dkwX5_ruleNumber_2 : List UInt8 := [171, 0, 0, 0, 0, 117, 0, 0, 0, 5, 0, 1, 138, 49, 0, 0, 0, 78, 0, 1, 185, 218, 0, 0, 0, 50, 0, 51, 136, 40, 0, 0, 0, 64, 5, 140, 204, 216, 0, 0, 0, 92, 64, 194, 31, 156, 0, 0, 0, 106]
abbrev dktX5_ruleNumber_2 : List UInt8 := dkwX5_ruleNumber_2 ++ dktX5_ruleNumber_3
def dkwX5_ruleNumber_1 : List UInt8 := [2, 61, 43, 182, 0, 122]
abbrev dktX5_ruleNumber_1 : List UInt8 := dkwX5_ruleNumber_1 ++ dktX5_ruleNumber_2
def dkwX5_ruleNumber_0 : List UInt8 := [42, 180, 0, 28, 180, 0, 46, 5, 160, 0, 13, 42, 180, 0, 28, 180, 0, 82, 167, 0, 5, 18, 120, 76]
abbrev dktX5_ruleNumber_0 : List UInt8 := dkwX5_ruleNumber_0 ++ dktX5_ruleNumber_1
theorem dksX5_ruleNumber_0 : cX5_ruleNumber.data.toList.drop 0 = dktX5_ruleNumber_0 := by decide +kernel
theorem dksX5_ruleNumber_1 : cX5_ruleNumber.data.toList.drop 24 = dktX5_ruleNumber_1 := dk_seg dksX5_ruleNumber_0 24 rfl rfl
theorem dksX5_ruleNumber_2 : cX5_ruleNumber.data.toList.drop 30 = dktX5_ruleNumber_2 := dk_seg dksX5_ruleNumber_1 6 rfl rfl
theorem dksX5_ruleNumber_3 : cX5_ruleNumber.data.toList.drop 80 = dktX5_ruleNumber_3 := dk_seg dksX5_ruleNumber_2 50 rfl rfl
theorem dksX5_ruleNumber_4 : cX5_ruleNumber.data.toList.drop 104 = dktX5_ruleNumber_4 := dk_seg dksX5_ruleNumber_3 24 rfl rfl
theorem dksX5_ruleNumber_5 : cX5_ruleNumber.data.toList.drop 128 = dktX5_ruleNumber_5 := dk_seg dksX5_ruleNumber_4 24 rfl rfl
theorem dksX5_ruleNumber_6 : cX5_ruleNumber.data.toList.drop 148 = dktX5_ruleNumber_6 := dk_seg dksX5_ruleNumber_5 20 rfl rfl
theorem dksX5_ruleNumber_7 : cX5_ruleNumber.data.toList.drop 184 = dktX5_ruleNumber_7 := dk_seg dksX5_ruleNumber_6 36 rfl rfl
theorem dX5_ruleNumber_0 : decode cX5_ruleNumber 0 = .ok (.aload_n 0, 1) := dk_42 (dk_at dksX5_ruleNumber_0 0 rfl rfl)
theorem dX5_ruleNumber_1 : decode cX5_ruleNumber 1 = .ok (.getfield 28, 3) := dk_180 0 28 (dk_at dksX5_ruleNumber_0 1 rfl rfl)
theorem dX5_ruleNumber_4 : decode cX5_ruleNumber 4 = .ok (.getfield 46, 3) := dk_180 0 46 (dk_at dksX5_ruleNumber_0 4 rfl rfl)
theorem dX5_ruleNumber_7 : decode cX5_ruleNumber 7 = .ok (.iconst 2, 1) := dk_5 (dk_at dksX5_ruleNumber_0 7 rfl rfl)
theorem dX5_ruleNumber_8 : decode cX5_ruleNumber 8 = .ok (.if_icmp .ne 13, 3) := dk_160 0 13 (dk_at dksX5_ruleNumber_0 8 rfl rfl)
theorem dX5_ruleNumber_11 : decode cX5_ruleNumber 11 = .ok (.aload_n 0, 1) := dk_42 (dk_at dksX5_ruleNumber_0 11 rfl rfl)
theorem dX5_ruleNumber_12 : decode cX5_ruleNumber 12 = .ok (.getfield 28, 3) := dk_180 0 28 (dk_at dksX5_ruleNumber_0 12 rfl rfl)
theorem dX5_ruleNumber_15 : decode cX5_ruleNumber 15 = .ok (.getfield 82, 3) := dk_180 0 82 (dk_at dksX5_ruleNumber_0 15 rfl rfl)
theorem dX5_ruleNumber_18 : decode cX5_ruleNumber 18 = .ok (.goto 5, 3) := dk_167 0 5 (dk_at dksX5_ruleNumber_0 18 rfl rfl)
theorem dX5_ruleNumber_21 : decode cX5_ruleNumber 21 = .ok (.ldc 120, 2) := dk_18 120 (dk_at dksX5_ruleNumber_0 21 rfl rfl)
theorem dX5_ruleNumber_23 : decode cX5_ruleNumber 23 = .ok (.astore_n 1, 1) := dk_76 (dk_at dksX5_ruleNumber_0 23 rfl rfl)
theorem dX5_ruleNumber_24 : decode cX5_ruleNumber 24 = .ok (.iconst (-1), 1) := dk_2 (dk_at dksX5_ruleNumber_1 0 rfl rfl)
theorem dX5_ruleNumber_25 : decode cX5_ruleNumber 25 = .ok (.istore_n 2, 1) := dk_61 (dk_at dksX5_ruleNumber_1 1 rfl rfl)
theorem dX5_ruleNumber_26 : decode cX5_ruleNumber 26 = .ok (.aload_n 1, 1) := dk_43 (dk_at dksX5_ruleNumber_1 2 rfl rfl)
theorem dX5_ruleNumber_27 : decode cX5_ruleNumber 27 = .ok (.invokevirtual 122, 3) := dk_182 0 122 (dk_at dksX5_ruleNumber_1 3 rfl rfl)
theorem dX5_ruleNumber_30 : decode cX5_ruleNumber 30 = .ok (.lookupswitch 117 #[(100913, 78), (113114, 50), (3377192, 64), (93113560, 92), (1086463900, 106)], 50) := by decide +kernel
theorem dX5_ruleNumber_80 : decode cX5_ruleNumber 80 = .ok (.aload_n 1, 1) := dk_43 (dk_at dksX5_ruleNumber_3 0 rfl rfl)
theorem dX5_ruleNumber_81 : decode cX5_ruleNumber 81 = .ok (.ldc 190, 2) := dk_18 190 (dk_at dksX5_ruleNumber_3 1 rfl rfl)
theorem dX5_ruleNumber_83 : decode cX5_ruleNumber 83 = .ok (.invokevirtual 129, 3) := dk_182 0 129 (dk_at dksX5_ruleNumber_3 3 rfl rfl)
theorem dX5_ruleNumber_86 : decode cX5_ruleNumber 86 = .ok (.ifCond .eq 61, 3) := dk_153 0 61 (dk_at dksX5_ruleNumber_3 6 rfl rfl)
theorem dX5_ruleNumber_89 : decode cX5_ruleNumber 89 = .ok (.iconst 0, 1) := dk_3 (dk_at dksX5_ruleNumber_3 9 rfl rfl)
theorem dX5_ruleNumber_90 : decode cX5_ruleNumber 90 = .ok (.istore_n 2, 1) := dk_61 (dk_at dksX5_ruleNumber_3 10 rfl rfl)
theorem dX5_ruleNumber_91 : decode cX5_ruleNumber 91 = .ok (.goto 56, 3) := dk_167 0 56 (dk_at dksX5_ruleNumber_3 11 rfl rfl)
theorem dX5_ruleNumber_94 : decode cX5_ruleNumber 94 = .ok (.aload_n 1, 1) := dk_43 (dk_at dksX5_ruleNumber_3 14 rfl rfl)
theorem dX5_ruleNumber_95 : decode cX5_ruleNumber 95 = .ok (.ldc 192, 2) := dk_18 192 (dk_at dksX5_ruleNumber_3 15 rfl rfl)
theorem dX5_ruleNumber_97 : decode cX5_ruleNumber 97 = .ok (.invokevirtual 129, 3) := dk_182 0 129 (dk_at dksX5_ruleNumber_3 17 rfl rfl)
theorem dX5_ruleNumber_100 : decode cX5_ruleNumber 100 = .ok (.ifCond .eq 47, 3) := dk_153 0 47 (dk_at dksX5_ruleNumber_3 20 rfl rfl)
theorem dX5_ruleNumber_103 : decode cX5_ruleNumber 103 = .ok (.iconst 1, 1) := dk_4 (dk_at dksX5_ruleNumber_3 23 rfl rfl)
theorem dX5_ruleNumber_104 : decode cX5_ruleNumber 104 = .ok (.istore_n 2, 1) := dk_61 (dk_at dksX5_ruleNumber_4 0 rfl rfl)
theorem dX5_ruleNumber_105 : decode cX5_ruleNumber 105 = .ok (.goto 42, 3) := dk_167 0 42 (dk_at dksX5_ruleNumber_4 1 rfl rfl)
theorem dX5_ruleNumber_108 : decode cX5_ruleNumber 108 = .ok (.aload_n 1, 1) := dk_43 (dk_at dksX5_ruleNumber_4 4 rfl rfl)
theorem dX5_ruleNumber_109 : decode cX5_ruleNumber 109 = .ok (.ldc 194, 2) := dk_18 194 (dk_at dksX5_ruleNumber_4 5 rfl rfl)
theorem dX5_ruleNumber_111 : decode cX5_ruleNumber 111 = .ok (.invokevirtual 129, 3) := dk_182 0 129 (dk_at dksX5_ruleNumber_4 7 rfl rfl)
theorem dX5_ruleNumber_114 : decode cX5_ruleNumber 114 = .ok (.ifCond .eq 33, 3) := dk_153 0 33 (dk_at dksX5_ruleNumber_4 10 rfl rfl)
theorem dX5_ruleNumber_117 : decode cX5_ruleNumber 117 = .ok (.iconst 2, 1) := dk_5 (dk_at dksX5_ruleNumber_4 13 rfl rfl)
theorem dX5_ruleNumber_118 : decode cX5_ruleNumber 118 = .ok (.istore_n 2, 1) := dk_61 (dk_at dksX5_ruleNumber_4 14 rfl rfl)
theorem dX5_ruleNumber_119 : decode cX5_ruleNumber 119 = .ok (.goto 28, 3) := dk_167 0 28 (dk_at dksX5_ruleNumber_4 15 rfl rfl)
theorem dX5_ruleNumber_122 : decode cX5_ruleNumber 122 = .ok (.aload_n 1, 1) := dk_43 (dk_at dksX5_ruleNumber_4 18 rfl rfl)
theorem dX5_ruleNumber_123 : decode cX5_ruleNumber 123 = .ok (.ldc 196, 2) := dk_18 196 (dk_at dksX5_ruleNumber_4 19 rfl rfl)
theorem dX5_ruleNumber_125 : decode cX5_ruleNumber 125 = .ok (.invokevirtual 129, 3) := dk_182 0 129 (dk_at dksX5_ruleNumber_4 21 rfl rfl)
theorem dX5_ruleNumber_128 : decode cX5_ruleNumber 128 = .ok (.ifCond .eq 19, 3) := dk_153 0 19 (dk_at dksX5_ruleNumber_5 0 rfl rfl)
theorem dX5_ruleNumber_131 : decode cX5_ruleNumber 131 = .ok (.iconst 3, 1) := dk_6 (dk_at dksX5_ruleNumber_5 3 rfl rfl)
theorem dX5_ruleNumber_132 : decode cX5_ruleNumber 132 = .ok (.istore_n 2, 1) := dk_61 (dk_at dksX5_ruleNumber_5 4 rfl rfl)
theorem dX5_ruleNumber_133 : decode cX5_ruleNumber 133 = .ok (.goto 14, 3) := dk_167 0 14 (dk_at dksX5_ruleNumber_5 5 rfl rfl)
theorem dX5_ruleNumber_136 : decode cX5_ruleNumber 136 = .ok (.aload_n 1, 1) := dk_43 (dk_at dksX5_ruleNumber_5 8 rfl rfl)
theorem dX5_ruleNumber_137 : decode cX5_ruleNumber 137 = .ok (.ldc 198, 2) := dk_18 198 (dk_at dksX5_ruleNumber_5 9 rfl rfl)
theorem dX5_ruleNumber_139 : decode cX5_ruleNumber 139 = .ok (.invokevirtual 129, 3) := dk_182 0 129 (dk_at dksX5_ruleNumber_5 11 rfl rfl)
theorem dX5_ruleNumber_142 : decode cX5_ruleNumber 142 = .ok (.ifCond .eq 5, 3) := dk_153 0 5 (dk_at dksX5_ruleNumber_5 14 rfl rfl)
theorem dX5_ruleNumber_145 : decode cX5_ruleNumber 145 = .ok (.iconst 4, 1) := dk_7 (dk_at dksX5_ruleNumber_5 17 rfl rfl)
theorem dX5_ruleNumber_146 : decode cX5_ruleNumber 146 = .ok (.istore_n 2, 1) := dk_61 (dk_at dksX5_ruleNumber_5 18 rfl rfl)
theorem dX5_ruleNumber_147 : decode cX5_ruleNumber 147 = .ok (.iload_n 2, 1) := dk_28 (dk_at dksX5_ruleNumber_5 19 rfl rfl)
theorem dX5_ruleNumber_148 : decode cX5_ruleNumber 148 = .ok (.tableswitch 46 0 4 #[36, 38, 40, 42, 44], 36) := by decide +kernel
theorem dX5_ruleNumber_184 : decode cX5_ruleNumber 184 = .ok (.iconst 0, 1) := dk_3 (dk_at dksX5_ruleNumber_7 0 rfl rfl)
theorem dX5_ruleNumber_185 : decode cX5_ruleNumber 185 = .ok (.ireturn, 1) := dk_172 (dk_at dksX5_ruleNumber_7 1 rfl rfl)
theorem dX5_ruleNumber_186 : decode cX5_ruleNumber 186 = .ok (.iconst 1, 1) := dk_4 (dk_at dksX5_ruleNumber_7 2 rfl rfl)
theorem dX5_ruleNumber_187 : decode cX5_ruleNumber 187 = .ok (.ireturn, 1) := dk_172 (dk_at dksX5_ruleNumber_7 3 rfl rfl)
theorem dX5_ruleNumber_188 : decode cX5_ruleNumber 188 = .ok (.iconst 2, 1) := dk_5 (dk_at dksX5_ruleNumber_7 4 rfl rfl)
theorem dX5_ruleNumber_189 : decode cX5_ruleNumber 189 = .ok (.ireturn, 1) := dk_172 (dk_at dksX5_ruleNumber_7 5 rfl rfl)
theorem dX5_ruleNumber_190 : decode cX5_ruleNumber 190 = .ok (.iconst 3, 1) := dk_6 (dk_at dksX5_ruleNumber_7 6 rfl rfl)
theorem dX5_ruleNumber_191 : decode cX5_ruleNumber 191 = .ok (.ireturn, 1) := dk_172 (dk_at dksX5_ruleNumber_7 7 rfl rfl)
theorem dX5_ruleNumber_192 : decode cX5_ruleNumber 192 = .ok (.iconst 4, 1) := dk_7 (dk_at dksX5_ruleNumber_7 8 rfl rfl)
theorem dX5_ruleNumber_193 : decode cX5_ruleNumber 193 = .ok (.ireturn, 1) := dk_172 (dk_at dksX5_ruleNumber_7 9 rfl rfl)
theorem dX5_ruleNumber_194 : decode cX5_ruleNumber 194 = .ok (.aload_n 0, 1) := dk_42 (dk_at dksX5_ruleNumber_7 10 rfl rfl)
theorem dX5_ruleNumber_195 : decode cX5_ruleNumber 195 = .ok (.iconst 1, 1) := dk_4 (dk_at dksX5_ruleNumber_7 11 rfl rfl)
theorem dX5_ruleNumber_196 : decode cX5_ruleNumber 196 = .ok (.invokevirtual 60, 3) := dk_182 0 60 (dk_at dksX5_ruleNumber_7 12 rfl rfl)
theorem dX5_ruleNumber_199 : decode cX5_ruleNumber 199 = .ok (.iconst 0, 1) := dk_3 (dk_at dksX5_ruleNumber_7 15 rfl rfl)
theorem dX5_ruleNumber_200 : decode cX5_ruleNumber 200 = .ok (.ireturn, 1) := dk_172 (dk_at dksX5_ruleNumber_7 16 rfl rfl)
abbrev cX5_personLine : ByteArray := prog_13_method_20_code
def yX5_personLine : MethodName := ⟨RX5, "personLine", "()V"⟩
def dkwX5_personLine_9 : List UInt8 := [177]
abbrev dktX5_personLine_9 : List UInt8 := dkwX5_personLine_9 ++ []
def dkwX5_personLine_8 : List UInt8 := [132, 2, 1, 42, 16, 44, 182, 0, 99, 154, 255, 168, 42, 180, 0, 12, 180, 0, 117, 43, 182, 0, 187, 87]
abbrev dktX5_personLine_8 : List UInt8 := dkwX5_personLine_8 ++ dktX5_personLine_9
def dkwX5_personLine_7 : List UInt8 := [16, 9, 182, 0, 75, 54, 4, 42, 182, 0, 36, 153, 0, 4, 177, 43, 180, 1, 12, 29, 21, 4, 79]
abbrev dktX5_personLine_7 : List UInt8 := dkwX5_personLine_7 ++ dktX5_personLine_8
def dkwX5_personLine_6 : List UInt8 := [158, 0, 8, 42, 6, 182, 0, 60, 28, 6, 160, 0, 8, 42, 8, 182, 0, 60, 42, 182, 0, 53, 42, 4]
abbrev dktX5_personLine_6 : List UInt8 := dkwX5_personLine_6 ++ dktX5_personLine_7
def dkwX5_personLine_5 : List UInt8 := [180, 0, 82, 182, 1, 10, 182, 0, 92, 62, 42, 182, 0, 36, 154, 0, 17, 43, 180, 1, 12, 29, 46]
abbrev dktX5_personLine_5 : List UInt8 := dkwX5_personLine_5 ++ dktX5_personLine_6
def dkwX5_personLine_4 : List UInt8 := [182, 0, 157, 181, 1, 6, 42, 19, 1, 8, 182, 0, 71, 3, 61, 42, 42, 180, 0, 12, 42, 180, 0, 28]
abbrev dktX5_personLine_4 : List UInt8 := dkwX5_personLine_4 ++ dktX5_personLine_5
def dkwX5_personLine_3 : List UInt8 := [42, 19, 1, 0, 3, 17, 2, 88, 182, 0, 157, 181, 1, 2, 43, 42, 19, 1, 4, 3, 16, 99]
abbrev dktX5_personLine_3 : List UInt8 := dkwX5_personLine_3 ++ dktX5_personLine_4
def dkwX5_personLine_2 : List UInt8 := [181, 0, 253, 43, 42, 18, 212, 3, 42, 180, 0, 12, 180, 0, 102, 4, 100, 182, 0, 157, 181, 0, 255, 43]
abbrev dktX5_personLine_2 : List UInt8 := dkwX5_personLine_2 ++ dktX5_personLine_3
def dkwX5_personLine_1 : List UInt8 := [42, 182, 0, 244, 183, 0, 248, 76, 43, 42, 18, 251, 3, 42, 180, 0, 12, 180, 0, 163, 182, 0, 157]
abbrev dktX5_personLine_1 : List UInt8 := dkwX5_personLine_1 ++ dktX5_personLine_2
def dkwX5_personLine_0 : List UInt8 := [42, 42, 180, 0, 12, 180, 0, 117, 182, 0, 165, 16, 10, 182, 0, 168, 187, 0, 242, 89, 42, 182, 0, 172]
abbrev dktX5_personLine_0 : List UInt8 := dkwX5_personLine_0 ++ dktX5_personLine_1
theorem dksX5_personLine_0 : cX5_personLine.data.toList.drop 0 = dktX5_personLine_0 := by decide +kernel
theorem dksX5_personLine_1 : cX5_personLine.data.toList.drop 24 = dktX5_personLine_1 := dk_seg dksX5_personLine_0 24 rfl rfl
theorem dksX5_personLine_2 : cX5_personLine.data.toList.drop 47 = dktX5_personLine_2 := dk_seg dksX5_personLine_1 23 rfl rfl
theorem dksX5_personLine_3 : cX5_personLine.data.toList.drop 71 = dktX5_personLine_3 := dk_seg dksX5_personLine_2 24 rfl rfl
theorem dksX5_personLine_4 : cX5_personLine.data.toList.drop 93 = dktX5_personLine_4 := dk_seg dksX5_personLine_3 22 rfl rfl
theorem dksX5_personLine_5 : cX5_personLine.data.toList.drop 117 = dktX5_personLine_5 := dk_seg dksX5_personLine_4 24 rfl rfl
theorem dksX5_personLine_6 : cX5_personLine.data.toList.drop 140 = dktX5_personLine_6 := dk_seg dksX5_personLine_5 23 rfl rfl
theorem dksX5_personLine_7 : cX5_personLine.data.toList.drop 164 = dktX5_personLine_7 := dk_seg dksX5_personLine_6 24 rfl rfl
theorem dksX5_personLine_8 : cX5_personLine.data.toList.drop 187 = dktX5_personLine_8 := dk_seg dksX5_personLine_7 23 rfl rfl
theorem dksX5_personLine_9 : cX5_personLine.data.toList.drop 211 = dktX5_personLine_9 := dk_seg dksX5_personLine_8 24 rfl rfl
theorem dX5_personLine_0 : decode cX5_personLine 0 = .ok (.aload_n 0, 1) := dk_42 (dk_at dksX5_personLine_0 0 rfl rfl)
theorem dX5_personLine_1 : decode cX5_personLine 1 = .ok (.aload_n 0, 1) := dk_42 (dk_at dksX5_personLine_0 1 rfl rfl)
theorem dX5_personLine_2 : decode cX5_personLine 2 = .ok (.getfield 12, 3) := dk_180 0 12 (dk_at dksX5_personLine_0 2 rfl rfl)
theorem dX5_personLine_5 : decode cX5_personLine 5 = .ok (.getfield 117, 3) := dk_180 0 117 (dk_at dksX5_personLine_0 5 rfl rfl)
theorem dX5_personLine_8 : decode cX5_personLine 8 = .ok (.invokevirtual 165, 3) := dk_182 0 165 (dk_at dksX5_personLine_0 8 rfl rfl)
theorem dX5_personLine_11 : decode cX5_personLine 11 = .ok (.bipush 10, 2) := dk_16 10 (dk_at dksX5_personLine_0 11 rfl rfl)
theorem dX5_personLine_13 : decode cX5_personLine 13 = .ok (.invokevirtual 168, 3) := dk_182 0 168 (dk_at dksX5_personLine_0 13 rfl rfl)
theorem dX5_personLine_16 : decode cX5_personLine 16 = .ok (.new 242, 3) := dk_187 0 242 (dk_at dksX5_personLine_0 16 rfl rfl)
theorem dX5_personLine_19 : decode cX5_personLine 19 = .ok (.dup, 1) := dk_89 (dk_at dksX5_personLine_0 19 rfl rfl)
theorem dX5_personLine_20 : decode cX5_personLine 20 = .ok (.aload_n 0, 1) := dk_42 (dk_at dksX5_personLine_0 20 rfl rfl)
theorem dX5_personLine_21 : decode cX5_personLine 21 = .ok (.invokevirtual 172, 3) := dk_182 0 172 (dk_at dksX5_personLine_0 21 rfl rfl)
theorem dX5_personLine_24 : decode cX5_personLine 24 = .ok (.aload_n 0, 1) := dk_42 (dk_at dksX5_personLine_1 0 rfl rfl)
theorem dX5_personLine_25 : decode cX5_personLine 25 = .ok (.invokevirtual 244, 3) := dk_182 0 244 (dk_at dksX5_personLine_1 1 rfl rfl)
theorem dX5_personLine_28 : decode cX5_personLine 28 = .ok (.invokespecial 248, 3) := dk_183 0 248 (dk_at dksX5_personLine_1 4 rfl rfl)
theorem dX5_personLine_31 : decode cX5_personLine 31 = .ok (.astore_n 1, 1) := dk_76 (dk_at dksX5_personLine_1 7 rfl rfl)
theorem dX5_personLine_32 : decode cX5_personLine 32 = .ok (.aload_n 1, 1) := dk_43 (dk_at dksX5_personLine_1 8 rfl rfl)
theorem dX5_personLine_33 : decode cX5_personLine 33 = .ok (.aload_n 0, 1) := dk_42 (dk_at dksX5_personLine_1 9 rfl rfl)
theorem dX5_personLine_34 : decode cX5_personLine 34 = .ok (.ldc 251, 2) := dk_18 251 (dk_at dksX5_personLine_1 10 rfl rfl)
theorem dX5_personLine_36 : decode cX5_personLine 36 = .ok (.iconst 0, 1) := dk_3 (dk_at dksX5_personLine_1 12 rfl rfl)
theorem dX5_personLine_37 : decode cX5_personLine 37 = .ok (.aload_n 0, 1) := dk_42 (dk_at dksX5_personLine_1 13 rfl rfl)
theorem dX5_personLine_38 : decode cX5_personLine 38 = .ok (.getfield 12, 3) := dk_180 0 12 (dk_at dksX5_personLine_1 14 rfl rfl)
theorem dX5_personLine_41 : decode cX5_personLine 41 = .ok (.getfield 163, 3) := dk_180 0 163 (dk_at dksX5_personLine_1 17 rfl rfl)
theorem dX5_personLine_44 : decode cX5_personLine 44 = .ok (.invokevirtual 157, 3) := dk_182 0 157 (dk_at dksX5_personLine_1 20 rfl rfl)
theorem dX5_personLine_47 : decode cX5_personLine 47 = .ok (.putfield 253, 3) := dk_181 0 253 (dk_at dksX5_personLine_2 0 rfl rfl)
theorem dX5_personLine_50 : decode cX5_personLine 50 = .ok (.aload_n 1, 1) := dk_43 (dk_at dksX5_personLine_2 3 rfl rfl)
theorem dX5_personLine_51 : decode cX5_personLine 51 = .ok (.aload_n 0, 1) := dk_42 (dk_at dksX5_personLine_2 4 rfl rfl)
theorem dX5_personLine_52 : decode cX5_personLine 52 = .ok (.ldc 212, 2) := dk_18 212 (dk_at dksX5_personLine_2 5 rfl rfl)
theorem dX5_personLine_54 : decode cX5_personLine 54 = .ok (.iconst 0, 1) := dk_3 (dk_at dksX5_personLine_2 7 rfl rfl)
theorem dX5_personLine_55 : decode cX5_personLine 55 = .ok (.aload_n 0, 1) := dk_42 (dk_at dksX5_personLine_2 8 rfl rfl)
theorem dX5_personLine_56 : decode cX5_personLine 56 = .ok (.getfield 12, 3) := dk_180 0 12 (dk_at dksX5_personLine_2 9 rfl rfl)
theorem dX5_personLine_59 : decode cX5_personLine 59 = .ok (.getfield 102, 3) := dk_180 0 102 (dk_at dksX5_personLine_2 12 rfl rfl)
theorem dX5_personLine_62 : decode cX5_personLine 62 = .ok (.iconst 1, 1) := dk_4 (dk_at dksX5_personLine_2 15 rfl rfl)
theorem dX5_personLine_63 : decode cX5_personLine 63 = .ok (.isub, 1) := dk_100 (dk_at dksX5_personLine_2 16 rfl rfl)
theorem dX5_personLine_64 : decode cX5_personLine 64 = .ok (.invokevirtual 157, 3) := dk_182 0 157 (dk_at dksX5_personLine_2 17 rfl rfl)
theorem dX5_personLine_67 : decode cX5_personLine 67 = .ok (.putfield 255, 3) := dk_181 0 255 (dk_at dksX5_personLine_2 20 rfl rfl)
theorem dX5_personLine_70 : decode cX5_personLine 70 = .ok (.aload_n 1, 1) := dk_43 (dk_at dksX5_personLine_2 23 rfl rfl)
theorem dX5_personLine_71 : decode cX5_personLine 71 = .ok (.aload_n 0, 1) := dk_42 (dk_at dksX5_personLine_3 0 rfl rfl)
theorem dX5_personLine_72 : decode cX5_personLine 72 = .ok (.ldc_w 256, 3) := dk_19 1 0 (dk_at dksX5_personLine_3 1 rfl rfl)
theorem dX5_personLine_75 : decode cX5_personLine 75 = .ok (.iconst 0, 1) := dk_3 (dk_at dksX5_personLine_3 4 rfl rfl)
theorem dX5_personLine_76 : decode cX5_personLine 76 = .ok (.sipush 600, 3) := dk_17 2 88 (dk_at dksX5_personLine_3 5 rfl rfl)
theorem dX5_personLine_79 : decode cX5_personLine 79 = .ok (.invokevirtual 157, 3) := dk_182 0 157 (dk_at dksX5_personLine_3 8 rfl rfl)
theorem dX5_personLine_82 : decode cX5_personLine 82 = .ok (.putfield 258, 3) := dk_181 1 2 (dk_at dksX5_personLine_3 11 rfl rfl)
theorem dX5_personLine_85 : decode cX5_personLine 85 = .ok (.aload_n 1, 1) := dk_43 (dk_at dksX5_personLine_3 14 rfl rfl)
theorem dX5_personLine_86 : decode cX5_personLine 86 = .ok (.aload_n 0, 1) := dk_42 (dk_at dksX5_personLine_3 15 rfl rfl)
theorem dX5_personLine_87 : decode cX5_personLine 87 = .ok (.ldc_w 260, 3) := dk_19 1 4 (dk_at dksX5_personLine_3 16 rfl rfl)
theorem dX5_personLine_90 : decode cX5_personLine 90 = .ok (.iconst 0, 1) := dk_3 (dk_at dksX5_personLine_3 19 rfl rfl)
theorem dX5_personLine_91 : decode cX5_personLine 91 = .ok (.bipush 99, 2) := dk_16 99 (dk_at dksX5_personLine_3 20 rfl rfl)
theorem dX5_personLine_93 : decode cX5_personLine 93 = .ok (.invokevirtual 157, 3) := dk_182 0 157 (dk_at dksX5_personLine_4 0 rfl rfl)
theorem dX5_personLine_96 : decode cX5_personLine 96 = .ok (.putfield 262, 3) := dk_181 1 6 (dk_at dksX5_personLine_4 3 rfl rfl)
theorem dX5_personLine_99 : decode cX5_personLine 99 = .ok (.aload_n 0, 1) := dk_42 (dk_at dksX5_personLine_4 6 rfl rfl)
theorem dX5_personLine_100 : decode cX5_personLine 100 = .ok (.ldc_w 264, 3) := dk_19 1 8 (dk_at dksX5_personLine_4 7 rfl rfl)
theorem dX5_personLine_103 : decode cX5_personLine 103 = .ok (.invokevirtual 71, 3) := dk_182 0 71 (dk_at dksX5_personLine_4 10 rfl rfl)
theorem dX5_personLine_106 : decode cX5_personLine 106 = .ok (.iconst 0, 1) := dk_3 (dk_at dksX5_personLine_4 13 rfl rfl)
theorem dX5_personLine_107 : decode cX5_personLine 107 = .ok (.istore_n 2, 1) := dk_61 (dk_at dksX5_personLine_4 14 rfl rfl)
theorem dX5_personLine_108 : decode cX5_personLine 108 = .ok (.aload_n 0, 1) := dk_42 (dk_at dksX5_personLine_4 15 rfl rfl)
theorem dX5_personLine_109 : decode cX5_personLine 109 = .ok (.aload_n 0, 1) := dk_42 (dk_at dksX5_personLine_4 16 rfl rfl)
theorem dX5_personLine_110 : decode cX5_personLine 110 = .ok (.getfield 12, 3) := dk_180 0 12 (dk_at dksX5_personLine_4 17 rfl rfl)
theorem dX5_personLine_113 : decode cX5_personLine 113 = .ok (.aload_n 0, 1) := dk_42 (dk_at dksX5_personLine_4 20 rfl rfl)
theorem dX5_personLine_114 : decode cX5_personLine 114 = .ok (.getfield 28, 3) := dk_180 0 28 (dk_at dksX5_personLine_4 21 rfl rfl)
theorem dX5_personLine_117 : decode cX5_personLine 117 = .ok (.getfield 82, 3) := dk_180 0 82 (dk_at dksX5_personLine_5 0 rfl rfl)
theorem dX5_personLine_120 : decode cX5_personLine 120 = .ok (.invokevirtual 266, 3) := dk_182 1 10 (dk_at dksX5_personLine_5 3 rfl rfl)
theorem dX5_personLine_123 : decode cX5_personLine 123 = .ok (.invokevirtual 92, 3) := dk_182 0 92 (dk_at dksX5_personLine_5 6 rfl rfl)
theorem dX5_personLine_126 : decode cX5_personLine 126 = .ok (.istore_n 3, 1) := dk_62 (dk_at dksX5_personLine_5 9 rfl rfl)
theorem dX5_personLine_127 : decode cX5_personLine 127 = .ok (.aload_n 0, 1) := dk_42 (dk_at dksX5_personLine_5 10 rfl rfl)
theorem dX5_personLine_128 : decode cX5_personLine 128 = .ok (.invokevirtual 36, 3) := dk_182 0 36 (dk_at dksX5_personLine_5 11 rfl rfl)
theorem dX5_personLine_131 : decode cX5_personLine 131 = .ok (.ifCond .ne 17, 3) := dk_154 0 17 (dk_at dksX5_personLine_5 14 rfl rfl)
theorem dX5_personLine_134 : decode cX5_personLine 134 = .ok (.aload_n 1, 1) := dk_43 (dk_at dksX5_personLine_5 17 rfl rfl)
theorem dX5_personLine_135 : decode cX5_personLine 135 = .ok (.getfield 268, 3) := dk_180 1 12 (dk_at dksX5_personLine_5 18 rfl rfl)
theorem dX5_personLine_138 : decode cX5_personLine 138 = .ok (.iload_n 3, 1) := dk_29 (dk_at dksX5_personLine_5 21 rfl rfl)
theorem dX5_personLine_139 : decode cX5_personLine 139 = .ok (.iaload, 1) := dk_46 (dk_at dksX5_personLine_5 22 rfl rfl)
theorem dX5_personLine_140 : decode cX5_personLine 140 = .ok (.ifCond .le 8, 3) := dk_158 0 8 (dk_at dksX5_personLine_6 0 rfl rfl)
theorem dX5_personLine_143 : decode cX5_personLine 143 = .ok (.aload_n 0, 1) := dk_42 (dk_at dksX5_personLine_6 3 rfl rfl)
theorem dX5_personLine_144 : decode cX5_personLine 144 = .ok (.iconst 3, 1) := dk_6 (dk_at dksX5_personLine_6 4 rfl rfl)
theorem dX5_personLine_145 : decode cX5_personLine 145 = .ok (.invokevirtual 60, 3) := dk_182 0 60 (dk_at dksX5_personLine_6 5 rfl rfl)
theorem dX5_personLine_148 : decode cX5_personLine 148 = .ok (.iload_n 2, 1) := dk_28 (dk_at dksX5_personLine_6 8 rfl rfl)
theorem dX5_personLine_149 : decode cX5_personLine 149 = .ok (.iconst 3, 1) := dk_6 (dk_at dksX5_personLine_6 9 rfl rfl)
theorem dX5_personLine_150 : decode cX5_personLine 150 = .ok (.if_icmp .ne 8, 3) := dk_160 0 8 (dk_at dksX5_personLine_6 10 rfl rfl)
theorem dX5_personLine_153 : decode cX5_personLine 153 = .ok (.aload_n 0, 1) := dk_42 (dk_at dksX5_personLine_6 13 rfl rfl)
theorem dX5_personLine_154 : decode cX5_personLine 154 = .ok (.iconst 5, 1) := dk_8 (dk_at dksX5_personLine_6 14 rfl rfl)
theorem dX5_personLine_155 : decode cX5_personLine 155 = .ok (.invokevirtual 60, 3) := dk_182 0 60 (dk_at dksX5_personLine_6 15 rfl rfl)
theorem dX5_personLine_158 : decode cX5_personLine 158 = .ok (.aload_n 0, 1) := dk_42 (dk_at dksX5_personLine_6 18 rfl rfl)
theorem dX5_personLine_159 : decode cX5_personLine 159 = .ok (.invokevirtual 53, 3) := dk_182 0 53 (dk_at dksX5_personLine_6 19 rfl rfl)
theorem dX5_personLine_162 : decode cX5_personLine 162 = .ok (.aload_n 0, 1) := dk_42 (dk_at dksX5_personLine_6 22 rfl rfl)
theorem dX5_personLine_163 : decode cX5_personLine 163 = .ok (.iconst 1, 1) := dk_4 (dk_at dksX5_personLine_6 23 rfl rfl)
theorem dX5_personLine_164 : decode cX5_personLine 164 = .ok (.bipush 9, 2) := dk_16 9 (dk_at dksX5_personLine_7 0 rfl rfl)
theorem dX5_personLine_166 : decode cX5_personLine 166 = .ok (.invokevirtual 75, 3) := dk_182 0 75 (dk_at dksX5_personLine_7 2 rfl rfl)
theorem dX5_personLine_169 : decode cX5_personLine 169 = .ok (.istore 4, 2) := dk_54 4 (dk_at dksX5_personLine_7 5 rfl rfl)
theorem dX5_personLine_171 : decode cX5_personLine 171 = .ok (.aload_n 0, 1) := dk_42 (dk_at dksX5_personLine_7 7 rfl rfl)
theorem dX5_personLine_172 : decode cX5_personLine 172 = .ok (.invokevirtual 36, 3) := dk_182 0 36 (dk_at dksX5_personLine_7 8 rfl rfl)
theorem dX5_personLine_175 : decode cX5_personLine 175 = .ok (.ifCond .eq 4, 3) := dk_153 0 4 (dk_at dksX5_personLine_7 11 rfl rfl)
theorem dX5_personLine_178 : decode cX5_personLine 178 = .ok (.return_, 1) := dk_177 (dk_at dksX5_personLine_7 14 rfl rfl)
theorem dX5_personLine_179 : decode cX5_personLine 179 = .ok (.aload_n 1, 1) := dk_43 (dk_at dksX5_personLine_7 15 rfl rfl)
theorem dX5_personLine_180 : decode cX5_personLine 180 = .ok (.getfield 268, 3) := dk_180 1 12 (dk_at dksX5_personLine_7 16 rfl rfl)
theorem dX5_personLine_183 : decode cX5_personLine 183 = .ok (.iload_n 3, 1) := dk_29 (dk_at dksX5_personLine_7 19 rfl rfl)
theorem dX5_personLine_184 : decode cX5_personLine 184 = .ok (.iload 4, 2) := dk_21 4 (dk_at dksX5_personLine_7 20 rfl rfl)
theorem dX5_personLine_186 : decode cX5_personLine 186 = .ok (.iastore, 1) := dk_79 (dk_at dksX5_personLine_7 22 rfl rfl)
theorem dX5_personLine_187 : decode cX5_personLine 187 = .ok (.iinc 2 1, 3) := dk_132 2 1 (dk_at dksX5_personLine_8 0 rfl rfl)
theorem dX5_personLine_190 : decode cX5_personLine 190 = .ok (.aload_n 0, 1) := dk_42 (dk_at dksX5_personLine_8 3 rfl rfl)
theorem dX5_personLine_191 : decode cX5_personLine 191 = .ok (.bipush 44, 2) := dk_16 44 (dk_at dksX5_personLine_8 4 rfl rfl)
theorem dX5_personLine_193 : decode cX5_personLine 193 = .ok (.invokevirtual 99, 3) := dk_182 0 99 (dk_at dksX5_personLine_8 6 rfl rfl)
theorem dX5_personLine_196 : decode cX5_personLine 196 = .ok (.ifCond .ne (-88), 3) := dk_154 255 168 (dk_at dksX5_personLine_8 9 rfl rfl)
theorem dX5_personLine_199 : decode cX5_personLine 199 = .ok (.aload_n 0, 1) := dk_42 (dk_at dksX5_personLine_8 12 rfl rfl)
theorem dX5_personLine_200 : decode cX5_personLine 200 = .ok (.getfield 12, 3) := dk_180 0 12 (dk_at dksX5_personLine_8 13 rfl rfl)
theorem dX5_personLine_203 : decode cX5_personLine 203 = .ok (.getfield 117, 3) := dk_180 0 117 (dk_at dksX5_personLine_8 16 rfl rfl)
theorem dX5_personLine_206 : decode cX5_personLine 206 = .ok (.aload_n 1, 1) := dk_43 (dk_at dksX5_personLine_8 19 rfl rfl)
theorem dX5_personLine_207 : decode cX5_personLine 207 = .ok (.invokevirtual 187, 3) := dk_182 0 187 (dk_at dksX5_personLine_8 20 rfl rfl)
theorem dX5_personLine_210 : decode cX5_personLine 210 = .ok (.pop, 1) := dk_87 (dk_at dksX5_personLine_8 23 rfl rfl)
theorem dX5_personLine_211 : decode cX5_personLine 211 = .ok (.return_, 1) := dk_177 (dk_at dksX5_personLine_9 0 rfl rfl)
abbrev cX5_manner : ByteArray := prog_13_method_19_code
def yX5_manner : MethodName := ⟨RX5, "manne\x72", "()LNextAtBar$Manner;"⟩
def dkwX5_manner_4 : List UInt8 := [4, 16, 99, 182, 0, 75, 167, 0, 4, 3, 184, 0, 238, 176]
abbrev dktX5_manner_4 : List UInt8 := dkwX5_manner_4 ++ []
def dkwX5_manner_3 : List UInt8 := [160, 0, 8, 42, 4, 182, 0, 60, 42, 182, 0, 53, 27, 27, 4, 159, 0, 8, 27, 5, 160, 0, 13, 42]
abbrev dktX5_manner_3 : List UInt8 := dkwX5_manner_3 ++ dktX5_manner_4
def dkwX5_manner_2 : List UInt8 := [167, 0, 20, 42, 180, 0, 28, 18, 198, 182, 0, 56, 153, 0, 7, 6, 167, 0, 4, 2, 60, 27, 2]
abbrev dktX5_manner_2 : List UInt8 := dkwX5_manner_2 ++ dktX5_manner_3
def dkwX5_manner_1 : List UInt8 := [182, 0, 56, 153, 0, 7, 4, 167, 0, 36, 42, 180, 0, 28, 18, 236, 182, 0, 56, 153, 0, 7, 5]
abbrev dktX5_manner_1 : List UInt8 := dkwX5_manner_1 ++ dktX5_manner_2
def dkwX5_manner_0 : List UInt8 := [42, 180, 0, 28, 18, 232, 182, 0, 56, 153, 0, 7, 3, 167, 0, 52, 42, 180, 0, 28, 18, 234]
abbrev dktX5_manner_0 : List UInt8 := dkwX5_manner_0 ++ dktX5_manner_1
theorem dksX5_manner_0 : cX5_manner.data.toList.drop 0 = dktX5_manner_0 := by decide +kernel
theorem dksX5_manner_1 : cX5_manner.data.toList.drop 22 = dktX5_manner_1 := dk_seg dksX5_manner_0 22 rfl rfl
theorem dksX5_manner_2 : cX5_manner.data.toList.drop 45 = dktX5_manner_2 := dk_seg dksX5_manner_1 23 rfl rfl
theorem dksX5_manner_3 : cX5_manner.data.toList.drop 68 = dktX5_manner_3 := dk_seg dksX5_manner_2 23 rfl rfl
theorem dksX5_manner_4 : cX5_manner.data.toList.drop 92 = dktX5_manner_4 := dk_seg dksX5_manner_3 24 rfl rfl
theorem dX5_manner_0 : decode cX5_manner 0 = .ok (.aload_n 0, 1) := dk_42 (dk_at dksX5_manner_0 0 rfl rfl)
theorem dX5_manner_1 : decode cX5_manner 1 = .ok (.getfield 28, 3) := dk_180 0 28 (dk_at dksX5_manner_0 1 rfl rfl)
theorem dX5_manner_4 : decode cX5_manner 4 = .ok (.ldc 232, 2) := dk_18 232 (dk_at dksX5_manner_0 4 rfl rfl)
theorem dX5_manner_6 : decode cX5_manner 6 = .ok (.invokevirtual 56, 3) := dk_182 0 56 (dk_at dksX5_manner_0 6 rfl rfl)
theorem dX5_manner_9 : decode cX5_manner 9 = .ok (.ifCond .eq 7, 3) := dk_153 0 7 (dk_at dksX5_manner_0 9 rfl rfl)
theorem dX5_manner_12 : decode cX5_manner 12 = .ok (.iconst 0, 1) := dk_3 (dk_at dksX5_manner_0 12 rfl rfl)
theorem dX5_manner_13 : decode cX5_manner 13 = .ok (.goto 52, 3) := dk_167 0 52 (dk_at dksX5_manner_0 13 rfl rfl)
theorem dX5_manner_16 : decode cX5_manner 16 = .ok (.aload_n 0, 1) := dk_42 (dk_at dksX5_manner_0 16 rfl rfl)
theorem dX5_manner_17 : decode cX5_manner 17 = .ok (.getfield 28, 3) := dk_180 0 28 (dk_at dksX5_manner_0 17 rfl rfl)
theorem dX5_manner_20 : decode cX5_manner 20 = .ok (.ldc 234, 2) := dk_18 234 (dk_at dksX5_manner_0 20 rfl rfl)
theorem dX5_manner_22 : decode cX5_manner 22 = .ok (.invokevirtual 56, 3) := dk_182 0 56 (dk_at dksX5_manner_1 0 rfl rfl)
theorem dX5_manner_25 : decode cX5_manner 25 = .ok (.ifCond .eq 7, 3) := dk_153 0 7 (dk_at dksX5_manner_1 3 rfl rfl)
theorem dX5_manner_28 : decode cX5_manner 28 = .ok (.iconst 1, 1) := dk_4 (dk_at dksX5_manner_1 6 rfl rfl)
theorem dX5_manner_29 : decode cX5_manner 29 = .ok (.goto 36, 3) := dk_167 0 36 (dk_at dksX5_manner_1 7 rfl rfl)
theorem dX5_manner_32 : decode cX5_manner 32 = .ok (.aload_n 0, 1) := dk_42 (dk_at dksX5_manner_1 10 rfl rfl)
theorem dX5_manner_33 : decode cX5_manner 33 = .ok (.getfield 28, 3) := dk_180 0 28 (dk_at dksX5_manner_1 11 rfl rfl)
theorem dX5_manner_36 : decode cX5_manner 36 = .ok (.ldc 236, 2) := dk_18 236 (dk_at dksX5_manner_1 14 rfl rfl)
theorem dX5_manner_38 : decode cX5_manner 38 = .ok (.invokevirtual 56, 3) := dk_182 0 56 (dk_at dksX5_manner_1 16 rfl rfl)
theorem dX5_manner_41 : decode cX5_manner 41 = .ok (.ifCond .eq 7, 3) := dk_153 0 7 (dk_at dksX5_manner_1 19 rfl rfl)
theorem dX5_manner_44 : decode cX5_manner 44 = .ok (.iconst 2, 1) := dk_5 (dk_at dksX5_manner_1 22 rfl rfl)
theorem dX5_manner_45 : decode cX5_manner 45 = .ok (.goto 20, 3) := dk_167 0 20 (dk_at dksX5_manner_2 0 rfl rfl)
theorem dX5_manner_48 : decode cX5_manner 48 = .ok (.aload_n 0, 1) := dk_42 (dk_at dksX5_manner_2 3 rfl rfl)
theorem dX5_manner_49 : decode cX5_manner 49 = .ok (.getfield 28, 3) := dk_180 0 28 (dk_at dksX5_manner_2 4 rfl rfl)
theorem dX5_manner_52 : decode cX5_manner 52 = .ok (.ldc 198, 2) := dk_18 198 (dk_at dksX5_manner_2 7 rfl rfl)
theorem dX5_manner_54 : decode cX5_manner 54 = .ok (.invokevirtual 56, 3) := dk_182 0 56 (dk_at dksX5_manner_2 9 rfl rfl)
theorem dX5_manner_57 : decode cX5_manner 57 = .ok (.ifCond .eq 7, 3) := dk_153 0 7 (dk_at dksX5_manner_2 12 rfl rfl)
theorem dX5_manner_60 : decode cX5_manner 60 = .ok (.iconst 3, 1) := dk_6 (dk_at dksX5_manner_2 15 rfl rfl)
theorem dX5_manner_61 : decode cX5_manner 61 = .ok (.goto 4, 3) := dk_167 0 4 (dk_at dksX5_manner_2 16 rfl rfl)
theorem dX5_manner_64 : decode cX5_manner 64 = .ok (.iconst (-1), 1) := dk_2 (dk_at dksX5_manner_2 19 rfl rfl)
theorem dX5_manner_65 : decode cX5_manner 65 = .ok (.istore_n 1, 1) := dk_60 (dk_at dksX5_manner_2 20 rfl rfl)
theorem dX5_manner_66 : decode cX5_manner 66 = .ok (.iload_n 1, 1) := dk_27 (dk_at dksX5_manner_2 21 rfl rfl)
theorem dX5_manner_67 : decode cX5_manner 67 = .ok (.iconst (-1), 1) := dk_2 (dk_at dksX5_manner_2 22 rfl rfl)
theorem dX5_manner_68 : decode cX5_manner 68 = .ok (.if_icmp .ne 8, 3) := dk_160 0 8 (dk_at dksX5_manner_3 0 rfl rfl)
theorem dX5_manner_71 : decode cX5_manner 71 = .ok (.aload_n 0, 1) := dk_42 (dk_at dksX5_manner_3 3 rfl rfl)
theorem dX5_manner_72 : decode cX5_manner 72 = .ok (.iconst 1, 1) := dk_4 (dk_at dksX5_manner_3 4 rfl rfl)
theorem dX5_manner_73 : decode cX5_manner 73 = .ok (.invokevirtual 60, 3) := dk_182 0 60 (dk_at dksX5_manner_3 5 rfl rfl)
theorem dX5_manner_76 : decode cX5_manner 76 = .ok (.aload_n 0, 1) := dk_42 (dk_at dksX5_manner_3 8 rfl rfl)
theorem dX5_manner_77 : decode cX5_manner 77 = .ok (.invokevirtual 53, 3) := dk_182 0 53 (dk_at dksX5_manner_3 9 rfl rfl)
theorem dX5_manner_80 : decode cX5_manner 80 = .ok (.iload_n 1, 1) := dk_27 (dk_at dksX5_manner_3 12 rfl rfl)
theorem dX5_manner_81 : decode cX5_manner 81 = .ok (.iload_n 1, 1) := dk_27 (dk_at dksX5_manner_3 13 rfl rfl)
theorem dX5_manner_82 : decode cX5_manner 82 = .ok (.iconst 1, 1) := dk_4 (dk_at dksX5_manner_3 14 rfl rfl)
theorem dX5_manner_83 : decode cX5_manner 83 = .ok (.if_icmp .eq 8, 3) := dk_159 0 8 (dk_at dksX5_manner_3 15 rfl rfl)
theorem dX5_manner_86 : decode cX5_manner 86 = .ok (.iload_n 1, 1) := dk_27 (dk_at dksX5_manner_3 18 rfl rfl)
theorem dX5_manner_87 : decode cX5_manner 87 = .ok (.iconst 2, 1) := dk_5 (dk_at dksX5_manner_3 19 rfl rfl)
theorem dX5_manner_88 : decode cX5_manner 88 = .ok (.if_icmp .ne 13, 3) := dk_160 0 13 (dk_at dksX5_manner_3 20 rfl rfl)
theorem dX5_manner_91 : decode cX5_manner 91 = .ok (.aload_n 0, 1) := dk_42 (dk_at dksX5_manner_3 23 rfl rfl)
theorem dX5_manner_92 : decode cX5_manner 92 = .ok (.iconst 1, 1) := dk_4 (dk_at dksX5_manner_4 0 rfl rfl)
theorem dX5_manner_93 : decode cX5_manner 93 = .ok (.bipush 99, 2) := dk_16 99 (dk_at dksX5_manner_4 1 rfl rfl)
theorem dX5_manner_95 : decode cX5_manner 95 = .ok (.invokevirtual 75, 3) := dk_182 0 75 (dk_at dksX5_manner_4 3 rfl rfl)
theorem dX5_manner_98 : decode cX5_manner 98 = .ok (.goto 4, 3) := dk_167 0 4 (dk_at dksX5_manner_4 6 rfl rfl)
theorem dX5_manner_101 : decode cX5_manner 101 = .ok (.iconst 0, 1) := dk_3 (dk_at dksX5_manner_4 9 rfl rfl)
theorem dX5_manner_102 : decode cX5_manner 102 = .ok (.invokestatic 238, 3) := dk_184 0 238 (dk_at dksX5_manner_4 10 rfl rfl)
theorem dX5_manner_105 : decode cX5_manner 105 = .ok (.areturn, 1) := dk_176 (dk_at dksX5_manner_4 13 rfl rfl)
abbrev cX5_known : ByteArray := prog_13_method_10_code
def yX5_known : MethodName := ⟨RX5, "known", "(I)I"⟩
def dkwX5_known_1 : List UInt8 := [182, 0, 60, 42, 182, 0, 36, 153, 0, 7, 3, 167, 0, 4, 27, 172]
abbrev dktX5_known_1 : List UInt8 := dkwX5_known_1 ++ []
def dkwX5_known_0 : List UInt8 := [42, 180, 0, 28, 182, 0, 79, 154, 0, 8, 42, 4, 182, 0, 60, 27, 2, 160, 0, 8, 42, 5]
abbrev dktX5_known_0 : List UInt8 := dkwX5_known_0 ++ dktX5_known_1
theorem dksX5_known_0 : cX5_known.data.toList.drop 0 = dktX5_known_0 := by decide +kernel
theorem dksX5_known_1 : cX5_known.data.toList.drop 22 = dktX5_known_1 := dk_seg dksX5_known_0 22 rfl rfl
theorem dX5_known_0 : decode cX5_known 0 = .ok (.aload_n 0, 1) := dk_42 (dk_at dksX5_known_0 0 rfl rfl)
theorem dX5_known_1 : decode cX5_known 1 = .ok (.getfield 28, 3) := dk_180 0 28 (dk_at dksX5_known_0 1 rfl rfl)
theorem dX5_known_4 : decode cX5_known 4 = .ok (.invokevirtual 79, 3) := dk_182 0 79 (dk_at dksX5_known_0 4 rfl rfl)
theorem dX5_known_7 : decode cX5_known 7 = .ok (.ifCond .ne 8, 3) := dk_154 0 8 (dk_at dksX5_known_0 7 rfl rfl)
theorem dX5_known_10 : decode cX5_known 10 = .ok (.aload_n 0, 1) := dk_42 (dk_at dksX5_known_0 10 rfl rfl)
theorem dX5_known_11 : decode cX5_known 11 = .ok (.iconst 1, 1) := dk_4 (dk_at dksX5_known_0 11 rfl rfl)
theorem dX5_known_12 : decode cX5_known 12 = .ok (.invokevirtual 60, 3) := dk_182 0 60 (dk_at dksX5_known_0 12 rfl rfl)
theorem dX5_known_15 : decode cX5_known 15 = .ok (.iload_n 1, 1) := dk_27 (dk_at dksX5_known_0 15 rfl rfl)
theorem dX5_known_16 : decode cX5_known 16 = .ok (.iconst (-1), 1) := dk_2 (dk_at dksX5_known_0 16 rfl rfl)
theorem dX5_known_17 : decode cX5_known 17 = .ok (.if_icmp .ne 8, 3) := dk_160 0 8 (dk_at dksX5_known_0 17 rfl rfl)
theorem dX5_known_20 : decode cX5_known 20 = .ok (.aload_n 0, 1) := dk_42 (dk_at dksX5_known_0 20 rfl rfl)
theorem dX5_known_21 : decode cX5_known 21 = .ok (.iconst 2, 1) := dk_5 (dk_at dksX5_known_0 21 rfl rfl)
theorem dX5_known_22 : decode cX5_known 22 = .ok (.invokevirtual 60, 3) := dk_182 0 60 (dk_at dksX5_known_1 0 rfl rfl)
theorem dX5_known_25 : decode cX5_known 25 = .ok (.aload_n 0, 1) := dk_42 (dk_at dksX5_known_1 3 rfl rfl)
theorem dX5_known_26 : decode cX5_known 26 = .ok (.invokevirtual 36, 3) := dk_182 0 36 (dk_at dksX5_known_1 4 rfl rfl)
theorem dX5_known_29 : decode cX5_known 29 = .ok (.ifCond .eq 7, 3) := dk_153 0 7 (dk_at dksX5_known_1 7 rfl rfl)
theorem dX5_known_32 : decode cX5_known 32 = .ok (.iconst 0, 1) := dk_3 (dk_at dksX5_known_1 10 rfl rfl)
theorem dX5_known_33 : decode cX5_known 33 = .ok (.goto 4, 3) := dk_167 0 4 (dk_at dksX5_known_1 11 rfl rfl)
theorem dX5_known_36 : decode cX5_known 36 = .ok (.iload_n 1, 1) := dk_27 (dk_at dksX5_known_1 14 rfl rfl)
theorem dX5_known_37 : decode cX5_known 37 = .ok (.ireturn, 1) := dk_172 (dk_at dksX5_known_1 15 rfl rfl)
abbrev cX5_eatsSign : ByteArray := prog_13_method_5_code
def yX5_eatsSign : MethodName := ⟨RX5, "eatsSign", "(C)Z"⟩
def dkwX5_eatsSign_1 : List UInt8 := [4, 172]
abbrev dktX5_eatsSign_1 : List UInt8 := dkwX5_eatsSign_1 ++ []
def dkwX5_eatsSign_0 : List UInt8 := [42, 182, 0, 36, 154, 0, 14, 42, 180, 0, 28, 27, 182, 0, 49, 154, 0, 5, 3, 172, 42, 182, 0, 53]
abbrev dktX5_eatsSign_0 : List UInt8 := dkwX5_eatsSign_0 ++ dktX5_eatsSign_1
theorem dksX5_eatsSign_0 : cX5_eatsSign.data.toList.drop 0 = dktX5_eatsSign_0 := by decide +kernel
theorem dksX5_eatsSign_1 : cX5_eatsSign.data.toList.drop 24 = dktX5_eatsSign_1 := dk_seg dksX5_eatsSign_0 24 rfl rfl
theorem dX5_eatsSign_0 : decode cX5_eatsSign 0 = .ok (.aload_n 0, 1) := dk_42 (dk_at dksX5_eatsSign_0 0 rfl rfl)
theorem dX5_eatsSign_1 : decode cX5_eatsSign 1 = .ok (.invokevirtual 36, 3) := dk_182 0 36 (dk_at dksX5_eatsSign_0 1 rfl rfl)
theorem dX5_eatsSign_4 : decode cX5_eatsSign 4 = .ok (.ifCond .ne 14, 3) := dk_154 0 14 (dk_at dksX5_eatsSign_0 4 rfl rfl)
theorem dX5_eatsSign_7 : decode cX5_eatsSign 7 = .ok (.aload_n 0, 1) := dk_42 (dk_at dksX5_eatsSign_0 7 rfl rfl)
theorem dX5_eatsSign_8 : decode cX5_eatsSign 8 = .ok (.getfield 28, 3) := dk_180 0 28 (dk_at dksX5_eatsSign_0 8 rfl rfl)
theorem dX5_eatsSign_11 : decode cX5_eatsSign 11 = .ok (.iload_n 1, 1) := dk_27 (dk_at dksX5_eatsSign_0 11 rfl rfl)
theorem dX5_eatsSign_12 : decode cX5_eatsSign 12 = .ok (.invokevirtual 49, 3) := dk_182 0 49 (dk_at dksX5_eatsSign_0 12 rfl rfl)
theorem dX5_eatsSign_15 : decode cX5_eatsSign 15 = .ok (.ifCond .ne 5, 3) := dk_154 0 5 (dk_at dksX5_eatsSign_0 15 rfl rfl)
theorem dX5_eatsSign_18 : decode cX5_eatsSign 18 = .ok (.iconst 0, 1) := dk_3 (dk_at dksX5_eatsSign_0 18 rfl rfl)
theorem dX5_eatsSign_19 : decode cX5_eatsSign 19 = .ok (.ireturn, 1) := dk_172 (dk_at dksX5_eatsSign_0 19 rfl rfl)
theorem dX5_eatsSign_20 : decode cX5_eatsSign 20 = .ok (.aload_n 0, 1) := dk_42 (dk_at dksX5_eatsSign_0 20 rfl rfl)
theorem dX5_eatsSign_21 : decode cX5_eatsSign 21 = .ok (.invokevirtual 53, 3) := dk_182 0 53 (dk_at dksX5_eatsSign_0 21 rfl rfl)
theorem dX5_eatsSign_24 : decode cX5_eatsSign 24 = .ok (.iconst 1, 1) := dk_4 (dk_at dksX5_eatsSign_1 0 rfl rfl)
theorem dX5_eatsSign_25 : decode cX5_eatsSign 25 = .ok (.ireturn, 1) := dk_172 (dk_at dksX5_eatsSign_1 1 rfl rfl)
abbrev cX5_shelf : ByteArray := prog_13_method_21_code
def yX5_shelf : MethodName := ⟨RX5, "shelf", "()V"⟩
def dkwX5_shelf_5 : List UInt8 := [181, 1, 23, 177]
abbrev dktX5_shelf_5 : List UInt8 := dkwX5_shelf_5 ++ []
def dkwX5_shelf_4 : List UInt8 := [180, 0, 117, 27, 182, 1, 15, 192, 0, 242, 28, 181, 1, 19, 42, 180, 0, 12, 89, 180, 1, 23, 4, 96]
abbrev dktX5_shelf_4 : List UInt8 := dkwX5_shelf_4 ++ dktX5_shelf_5
def dkwX5_shelf_3 : List UInt8 := [180, 0, 12, 180, 0, 163, 182, 0, 157, 61, 42, 182, 0, 36, 153, 0, 4, 177, 42, 180, 0, 12]
abbrev dktX5_shelf_3 : List UInt8 := dkwX5_shelf_3 ++ dktX5_shelf_4
def dkwX5_shelf_2 : List UInt8 := [180, 1, 19, 16, 254, 159, 0, 8, 42, 6, 182, 0, 60, 42, 182, 0, 53, 42, 19, 1, 21, 3, 42]
abbrev dktX5_shelf_2 : List UInt8 := dkwX5_shelf_2 ++ dktX5_shelf_3
def dkwX5_shelf_1 : List UInt8 := [60, 42, 182, 0, 36, 154, 0, 30, 42, 180, 0, 12, 180, 0, 117, 27, 182, 1, 15, 192, 0, 242]
abbrev dktX5_shelf_1 : List UInt8 := dkwX5_shelf_1 ++ dktX5_shelf_2
def dkwX5_shelf_0 : List UInt8 := [42, 3, 4, 182, 0, 168, 42, 42, 180, 0, 12, 42, 180, 0, 28, 180, 0, 82, 182, 0, 88, 182, 0, 92]
abbrev dktX5_shelf_0 : List UInt8 := dkwX5_shelf_0 ++ dktX5_shelf_1
theorem dksX5_shelf_0 : cX5_shelf.data.toList.drop 0 = dktX5_shelf_0 := by decide +kernel
theorem dksX5_shelf_1 : cX5_shelf.data.toList.drop 24 = dktX5_shelf_1 := dk_seg dksX5_shelf_0 24 rfl rfl
theorem dksX5_shelf_2 : cX5_shelf.data.toList.drop 46 = dktX5_shelf_2 := dk_seg dksX5_shelf_1 22 rfl rfl
theorem dksX5_shelf_3 : cX5_shelf.data.toList.drop 69 = dktX5_shelf_3 := dk_seg dksX5_shelf_2 23 rfl rfl
theorem dksX5_shelf_4 : cX5_shelf.data.toList.drop 91 = dktX5_shelf_4 := dk_seg dksX5_shelf_3 22 rfl rfl
theorem dksX5_shelf_5 : cX5_shelf.data.toList.drop 115 = dktX5_shelf_5 := dk_seg dksX5_shelf_4 24 rfl rfl
theorem dX5_shelf_0 : decode cX5_shelf 0 = .ok (.aload_n 0, 1) := dk_42 (dk_at dksX5_shelf_0 0 rfl rfl)
theorem dX5_shelf_1 : decode cX5_shelf 1 = .ok (.iconst 0, 1) := dk_3 (dk_at dksX5_shelf_0 1 rfl rfl)
theorem dX5_shelf_2 : decode cX5_shelf 2 = .ok (.iconst 1, 1) := dk_4 (dk_at dksX5_shelf_0 2 rfl rfl)
theorem dX5_shelf_3 : decode cX5_shelf 3 = .ok (.invokevirtual 168, 3) := dk_182 0 168 (dk_at dksX5_shelf_0 3 rfl rfl)
theorem dX5_shelf_6 : decode cX5_shelf 6 = .ok (.aload_n 0, 1) := dk_42 (dk_at dksX5_shelf_0 6 rfl rfl)
theorem dX5_shelf_7 : decode cX5_shelf 7 = .ok (.aload_n 0, 1) := dk_42 (dk_at dksX5_shelf_0 7 rfl rfl)
theorem dX5_shelf_8 : decode cX5_shelf 8 = .ok (.getfield 12, 3) := dk_180 0 12 (dk_at dksX5_shelf_0 8 rfl rfl)
theorem dX5_shelf_11 : decode cX5_shelf 11 = .ok (.aload_n 0, 1) := dk_42 (dk_at dksX5_shelf_0 11 rfl rfl)
theorem dX5_shelf_12 : decode cX5_shelf 12 = .ok (.getfield 28, 3) := dk_180 0 28 (dk_at dksX5_shelf_0 12 rfl rfl)
theorem dX5_shelf_15 : decode cX5_shelf 15 = .ok (.getfield 82, 3) := dk_180 0 82 (dk_at dksX5_shelf_0 15 rfl rfl)
theorem dX5_shelf_18 : decode cX5_shelf 18 = .ok (.invokevirtual 88, 3) := dk_182 0 88 (dk_at dksX5_shelf_0 18 rfl rfl)
theorem dX5_shelf_21 : decode cX5_shelf 21 = .ok (.invokevirtual 92, 3) := dk_182 0 92 (dk_at dksX5_shelf_0 21 rfl rfl)
theorem dX5_shelf_24 : decode cX5_shelf 24 = .ok (.istore_n 1, 1) := dk_60 (dk_at dksX5_shelf_1 0 rfl rfl)
theorem dX5_shelf_25 : decode cX5_shelf 25 = .ok (.aload_n 0, 1) := dk_42 (dk_at dksX5_shelf_1 1 rfl rfl)
theorem dX5_shelf_26 : decode cX5_shelf 26 = .ok (.invokevirtual 36, 3) := dk_182 0 36 (dk_at dksX5_shelf_1 2 rfl rfl)
theorem dX5_shelf_29 : decode cX5_shelf 29 = .ok (.ifCond .ne 30, 3) := dk_154 0 30 (dk_at dksX5_shelf_1 5 rfl rfl)
theorem dX5_shelf_32 : decode cX5_shelf 32 = .ok (.aload_n 0, 1) := dk_42 (dk_at dksX5_shelf_1 8 rfl rfl)
theorem dX5_shelf_33 : decode cX5_shelf 33 = .ok (.getfield 12, 3) := dk_180 0 12 (dk_at dksX5_shelf_1 9 rfl rfl)
theorem dX5_shelf_36 : decode cX5_shelf 36 = .ok (.getfield 117, 3) := dk_180 0 117 (dk_at dksX5_shelf_1 12 rfl rfl)
theorem dX5_shelf_39 : decode cX5_shelf 39 = .ok (.iload_n 1, 1) := dk_27 (dk_at dksX5_shelf_1 15 rfl rfl)
theorem dX5_shelf_40 : decode cX5_shelf 40 = .ok (.invokevirtual 271, 3) := dk_182 1 15 (dk_at dksX5_shelf_1 16 rfl rfl)
theorem dX5_shelf_43 : decode cX5_shelf 43 = .ok (.checkcast 242, 3) := dk_192 0 242 (dk_at dksX5_shelf_1 19 rfl rfl)
theorem dX5_shelf_46 : decode cX5_shelf 46 = .ok (.getfield 275, 3) := dk_180 1 19 (dk_at dksX5_shelf_2 0 rfl rfl)
theorem dX5_shelf_49 : decode cX5_shelf 49 = .ok (.bipush (-2), 2) := dk_16 254 (dk_at dksX5_shelf_2 3 rfl rfl)
theorem dX5_shelf_51 : decode cX5_shelf 51 = .ok (.if_icmp .eq 8, 3) := dk_159 0 8 (dk_at dksX5_shelf_2 5 rfl rfl)
theorem dX5_shelf_54 : decode cX5_shelf 54 = .ok (.aload_n 0, 1) := dk_42 (dk_at dksX5_shelf_2 8 rfl rfl)
theorem dX5_shelf_55 : decode cX5_shelf 55 = .ok (.iconst 3, 1) := dk_6 (dk_at dksX5_shelf_2 9 rfl rfl)
theorem dX5_shelf_56 : decode cX5_shelf 56 = .ok (.invokevirtual 60, 3) := dk_182 0 60 (dk_at dksX5_shelf_2 10 rfl rfl)
theorem dX5_shelf_59 : decode cX5_shelf 59 = .ok (.aload_n 0, 1) := dk_42 (dk_at dksX5_shelf_2 13 rfl rfl)
theorem dX5_shelf_60 : decode cX5_shelf 60 = .ok (.invokevirtual 53, 3) := dk_182 0 53 (dk_at dksX5_shelf_2 14 rfl rfl)
theorem dX5_shelf_63 : decode cX5_shelf 63 = .ok (.aload_n 0, 1) := dk_42 (dk_at dksX5_shelf_2 17 rfl rfl)
theorem dX5_shelf_64 : decode cX5_shelf 64 = .ok (.ldc_w 277, 3) := dk_19 1 21 (dk_at dksX5_shelf_2 18 rfl rfl)
theorem dX5_shelf_67 : decode cX5_shelf 67 = .ok (.iconst 0, 1) := dk_3 (dk_at dksX5_shelf_2 21 rfl rfl)
theorem dX5_shelf_68 : decode cX5_shelf 68 = .ok (.aload_n 0, 1) := dk_42 (dk_at dksX5_shelf_2 22 rfl rfl)
theorem dX5_shelf_69 : decode cX5_shelf 69 = .ok (.getfield 12, 3) := dk_180 0 12 (dk_at dksX5_shelf_3 0 rfl rfl)
theorem dX5_shelf_72 : decode cX5_shelf 72 = .ok (.getfield 163, 3) := dk_180 0 163 (dk_at dksX5_shelf_3 3 rfl rfl)
theorem dX5_shelf_75 : decode cX5_shelf 75 = .ok (.invokevirtual 157, 3) := dk_182 0 157 (dk_at dksX5_shelf_3 6 rfl rfl)
theorem dX5_shelf_78 : decode cX5_shelf 78 = .ok (.istore_n 2, 1) := dk_61 (dk_at dksX5_shelf_3 9 rfl rfl)
theorem dX5_shelf_79 : decode cX5_shelf 79 = .ok (.aload_n 0, 1) := dk_42 (dk_at dksX5_shelf_3 10 rfl rfl)
theorem dX5_shelf_80 : decode cX5_shelf 80 = .ok (.invokevirtual 36, 3) := dk_182 0 36 (dk_at dksX5_shelf_3 11 rfl rfl)
theorem dX5_shelf_83 : decode cX5_shelf 83 = .ok (.ifCond .eq 4, 3) := dk_153 0 4 (dk_at dksX5_shelf_3 14 rfl rfl)
theorem dX5_shelf_86 : decode cX5_shelf 86 = .ok (.return_, 1) := dk_177 (dk_at dksX5_shelf_3 17 rfl rfl)
theorem dX5_shelf_87 : decode cX5_shelf 87 = .ok (.aload_n 0, 1) := dk_42 (dk_at dksX5_shelf_3 18 rfl rfl)
theorem dX5_shelf_88 : decode cX5_shelf 88 = .ok (.getfield 12, 3) := dk_180 0 12 (dk_at dksX5_shelf_3 19 rfl rfl)
theorem dX5_shelf_91 : decode cX5_shelf 91 = .ok (.getfield 117, 3) := dk_180 0 117 (dk_at dksX5_shelf_4 0 rfl rfl)
theorem dX5_shelf_94 : decode cX5_shelf 94 = .ok (.iload_n 1, 1) := dk_27 (dk_at dksX5_shelf_4 3 rfl rfl)
theorem dX5_shelf_95 : decode cX5_shelf 95 = .ok (.invokevirtual 271, 3) := dk_182 1 15 (dk_at dksX5_shelf_4 4 rfl rfl)
theorem dX5_shelf_98 : decode cX5_shelf 98 = .ok (.checkcast 242, 3) := dk_192 0 242 (dk_at dksX5_shelf_4 7 rfl rfl)
theorem dX5_shelf_101 : decode cX5_shelf 101 = .ok (.iload_n 2, 1) := dk_28 (dk_at dksX5_shelf_4 10 rfl rfl)
theorem dX5_shelf_102 : decode cX5_shelf 102 = .ok (.putfield 275, 3) := dk_181 1 19 (dk_at dksX5_shelf_4 11 rfl rfl)
theorem dX5_shelf_105 : decode cX5_shelf 105 = .ok (.aload_n 0, 1) := dk_42 (dk_at dksX5_shelf_4 14 rfl rfl)
theorem dX5_shelf_106 : decode cX5_shelf 106 = .ok (.getfield 12, 3) := dk_180 0 12 (dk_at dksX5_shelf_4 15 rfl rfl)
theorem dX5_shelf_109 : decode cX5_shelf 109 = .ok (.dup, 1) := dk_89 (dk_at dksX5_shelf_4 18 rfl rfl)
theorem dX5_shelf_110 : decode cX5_shelf 110 = .ok (.getfield 279, 3) := dk_180 1 23 (dk_at dksX5_shelf_4 19 rfl rfl)
theorem dX5_shelf_113 : decode cX5_shelf 113 = .ok (.iconst 1, 1) := dk_4 (dk_at dksX5_shelf_4 22 rfl rfl)
theorem dX5_shelf_114 : decode cX5_shelf 114 = .ok (.iadd, 1) := dk_96 (dk_at dksX5_shelf_4 23 rfl rfl)
theorem dX5_shelf_115 : decode cX5_shelf 115 = .ok (.putfield 279, 3) := dk_181 1 23 (dk_at dksX5_shelf_5 0 rfl rfl)
theorem dX5_shelf_118 : decode cX5_shelf 118 = .ok (.return_, 1) := dk_177 (dk_at dksX5_shelf_5 3 rfl rfl)
abbrev cX5_says : ByteArray := prog_13_method_22_code
def yX5_says : MethodName := ⟨RX5, "says", "()V"⟩
def dkwX5_says_4 : List UInt8 := [29, 183, 1, 35, 182, 0, 187, 87, 177]
abbrev dktX5_says_4 : List UInt8 := dkwX5_says_4 ++ []
def dkwX5_says_3 : List UInt8 := [42, 182, 0, 53, 42, 182, 0, 36, 154, 0, 24, 42, 180, 0, 12, 180, 1, 26, 187, 1, 33, 89, 27, 28]
abbrev dktX5_says_3 : List UInt8 := dkwX5_says_3 ++ dktX5_says_4
def dkwX5_says_2 : List UInt8 := [182, 0, 88, 182, 0, 92, 62, 42, 182, 0, 36, 154, 0, 13, 28, 29, 160, 0, 8, 42, 6, 182, 0, 60]
abbrev dktX5_says_2 : List UInt8 := dkwX5_says_2 ++ dktX5_says_3
def dkwX5_says_1 : List UInt8 := [182, 1, 29, 61, 42, 19, 1, 31, 182, 0, 71, 42, 42, 180, 0, 12, 42, 180, 0, 28, 180, 0, 82]
abbrev dktX5_says_1 : List UInt8 := dkwX5_says_1 ++ dktX5_says_2
def dkwX5_says_0 : List UInt8 := [42, 42, 180, 0, 12, 180, 1, 26, 182, 0, 165, 16, 8, 182, 0, 168, 42, 182, 1, 29, 60, 42]
abbrev dktX5_says_0 : List UInt8 := dkwX5_says_0 ++ dktX5_says_1
theorem dksX5_says_0 : cX5_says.data.toList.drop 0 = dktX5_says_0 := by decide +kernel
theorem dksX5_says_1 : cX5_says.data.toList.drop 22 = dktX5_says_1 := dk_seg dksX5_says_0 22 rfl rfl
theorem dksX5_says_2 : cX5_says.data.toList.drop 45 = dktX5_says_2 := dk_seg dksX5_says_1 23 rfl rfl
theorem dksX5_says_3 : cX5_says.data.toList.drop 69 = dktX5_says_3 := dk_seg dksX5_says_2 24 rfl rfl
theorem dksX5_says_4 : cX5_says.data.toList.drop 93 = dktX5_says_4 := dk_seg dksX5_says_3 24 rfl rfl
theorem dX5_says_0 : decode cX5_says 0 = .ok (.aload_n 0, 1) := dk_42 (dk_at dksX5_says_0 0 rfl rfl)
theorem dX5_says_1 : decode cX5_says 1 = .ok (.aload_n 0, 1) := dk_42 (dk_at dksX5_says_0 1 rfl rfl)
theorem dX5_says_2 : decode cX5_says 2 = .ok (.getfield 12, 3) := dk_180 0 12 (dk_at dksX5_says_0 2 rfl rfl)
theorem dX5_says_5 : decode cX5_says 5 = .ok (.getfield 282, 3) := dk_180 1 26 (dk_at dksX5_says_0 5 rfl rfl)
theorem dX5_says_8 : decode cX5_says 8 = .ok (.invokevirtual 165, 3) := dk_182 0 165 (dk_at dksX5_says_0 8 rfl rfl)
theorem dX5_says_11 : decode cX5_says 11 = .ok (.bipush 8, 2) := dk_16 8 (dk_at dksX5_says_0 11 rfl rfl)
theorem dX5_says_13 : decode cX5_says 13 = .ok (.invokevirtual 168, 3) := dk_182 0 168 (dk_at dksX5_says_0 13 rfl rfl)
theorem dX5_says_16 : decode cX5_says 16 = .ok (.aload_n 0, 1) := dk_42 (dk_at dksX5_says_0 16 rfl rfl)
theorem dX5_says_17 : decode cX5_says 17 = .ok (.invokevirtual 285, 3) := dk_182 1 29 (dk_at dksX5_says_0 17 rfl rfl)
theorem dX5_says_20 : decode cX5_says 20 = .ok (.istore_n 1, 1) := dk_60 (dk_at dksX5_says_0 20 rfl rfl)
theorem dX5_says_21 : decode cX5_says 21 = .ok (.aload_n 0, 1) := dk_42 (dk_at dksX5_says_0 21 rfl rfl)
theorem dX5_says_22 : decode cX5_says 22 = .ok (.invokevirtual 285, 3) := dk_182 1 29 (dk_at dksX5_says_1 0 rfl rfl)
theorem dX5_says_25 : decode cX5_says 25 = .ok (.istore_n 2, 1) := dk_61 (dk_at dksX5_says_1 3 rfl rfl)
theorem dX5_says_26 : decode cX5_says 26 = .ok (.aload_n 0, 1) := dk_42 (dk_at dksX5_says_1 4 rfl rfl)
theorem dX5_says_27 : decode cX5_says 27 = .ok (.ldc_w 287, 3) := dk_19 1 31 (dk_at dksX5_says_1 5 rfl rfl)
theorem dX5_says_30 : decode cX5_says 30 = .ok (.invokevirtual 71, 3) := dk_182 0 71 (dk_at dksX5_says_1 8 rfl rfl)
theorem dX5_says_33 : decode cX5_says 33 = .ok (.aload_n 0, 1) := dk_42 (dk_at dksX5_says_1 11 rfl rfl)
theorem dX5_says_34 : decode cX5_says 34 = .ok (.aload_n 0, 1) := dk_42 (dk_at dksX5_says_1 12 rfl rfl)
theorem dX5_says_35 : decode cX5_says 35 = .ok (.getfield 12, 3) := dk_180 0 12 (dk_at dksX5_says_1 13 rfl rfl)
theorem dX5_says_38 : decode cX5_says 38 = .ok (.aload_n 0, 1) := dk_42 (dk_at dksX5_says_1 16 rfl rfl)
theorem dX5_says_39 : decode cX5_says 39 = .ok (.getfield 28, 3) := dk_180 0 28 (dk_at dksX5_says_1 17 rfl rfl)
theorem dX5_says_42 : decode cX5_says 42 = .ok (.getfield 82, 3) := dk_180 0 82 (dk_at dksX5_says_1 20 rfl rfl)
theorem dX5_says_45 : decode cX5_says 45 = .ok (.invokevirtual 88, 3) := dk_182 0 88 (dk_at dksX5_says_2 0 rfl rfl)
theorem dX5_says_48 : decode cX5_says 48 = .ok (.invokevirtual 92, 3) := dk_182 0 92 (dk_at dksX5_says_2 3 rfl rfl)
theorem dX5_says_51 : decode cX5_says 51 = .ok (.istore_n 3, 1) := dk_62 (dk_at dksX5_says_2 6 rfl rfl)
theorem dX5_says_52 : decode cX5_says 52 = .ok (.aload_n 0, 1) := dk_42 (dk_at dksX5_says_2 7 rfl rfl)
theorem dX5_says_53 : decode cX5_says 53 = .ok (.invokevirtual 36, 3) := dk_182 0 36 (dk_at dksX5_says_2 8 rfl rfl)
theorem dX5_says_56 : decode cX5_says 56 = .ok (.ifCond .ne 13, 3) := dk_154 0 13 (dk_at dksX5_says_2 11 rfl rfl)
theorem dX5_says_59 : decode cX5_says 59 = .ok (.iload_n 2, 1) := dk_28 (dk_at dksX5_says_2 14 rfl rfl)
theorem dX5_says_60 : decode cX5_says 60 = .ok (.iload_n 3, 1) := dk_29 (dk_at dksX5_says_2 15 rfl rfl)
theorem dX5_says_61 : decode cX5_says 61 = .ok (.if_icmp .ne 8, 3) := dk_160 0 8 (dk_at dksX5_says_2 16 rfl rfl)
theorem dX5_says_64 : decode cX5_says 64 = .ok (.aload_n 0, 1) := dk_42 (dk_at dksX5_says_2 19 rfl rfl)
theorem dX5_says_65 : decode cX5_says 65 = .ok (.iconst 3, 1) := dk_6 (dk_at dksX5_says_2 20 rfl rfl)
theorem dX5_says_66 : decode cX5_says 66 = .ok (.invokevirtual 60, 3) := dk_182 0 60 (dk_at dksX5_says_2 21 rfl rfl)
theorem dX5_says_69 : decode cX5_says 69 = .ok (.aload_n 0, 1) := dk_42 (dk_at dksX5_says_3 0 rfl rfl)
theorem dX5_says_70 : decode cX5_says 70 = .ok (.invokevirtual 53, 3) := dk_182 0 53 (dk_at dksX5_says_3 1 rfl rfl)
theorem dX5_says_73 : decode cX5_says 73 = .ok (.aload_n 0, 1) := dk_42 (dk_at dksX5_says_3 4 rfl rfl)
theorem dX5_says_74 : decode cX5_says 74 = .ok (.invokevirtual 36, 3) := dk_182 0 36 (dk_at dksX5_says_3 5 rfl rfl)
theorem dX5_says_77 : decode cX5_says 77 = .ok (.ifCond .ne 24, 3) := dk_154 0 24 (dk_at dksX5_says_3 8 rfl rfl)
theorem dX5_says_80 : decode cX5_says 80 = .ok (.aload_n 0, 1) := dk_42 (dk_at dksX5_says_3 11 rfl rfl)
theorem dX5_says_81 : decode cX5_says 81 = .ok (.getfield 12, 3) := dk_180 0 12 (dk_at dksX5_says_3 12 rfl rfl)
theorem dX5_says_84 : decode cX5_says 84 = .ok (.getfield 282, 3) := dk_180 1 26 (dk_at dksX5_says_3 15 rfl rfl)
theorem dX5_says_87 : decode cX5_says 87 = .ok (.new 289, 3) := dk_187 1 33 (dk_at dksX5_says_3 18 rfl rfl)
theorem dX5_says_90 : decode cX5_says 90 = .ok (.dup, 1) := dk_89 (dk_at dksX5_says_3 21 rfl rfl)
theorem dX5_says_91 : decode cX5_says 91 = .ok (.iload_n 1, 1) := dk_27 (dk_at dksX5_says_3 22 rfl rfl)
theorem dX5_says_92 : decode cX5_says 92 = .ok (.iload_n 2, 1) := dk_28 (dk_at dksX5_says_3 23 rfl rfl)
theorem dX5_says_93 : decode cX5_says 93 = .ok (.iload_n 3, 1) := dk_29 (dk_at dksX5_says_4 0 rfl rfl)
theorem dX5_says_94 : decode cX5_says 94 = .ok (.invokespecial 291, 3) := dk_183 1 35 (dk_at dksX5_says_4 1 rfl rfl)
theorem dX5_says_97 : decode cX5_says 97 = .ok (.invokevirtual 187, 3) := dk_182 0 187 (dk_at dksX5_says_4 4 rfl rfl)
theorem dX5_says_100 : decode cX5_says 100 = .ok (.pop, 1) := dk_87 (dk_at dksX5_says_4 7 rfl rfl)
theorem dX5_says_101 : decode cX5_says 101 = .ok (.return_, 1) := dk_177 (dk_at dksX5_says_4 8 rfl rfl)
abbrev cX5_person : ByteArray := prog_13_method_11_code
def yX5_person : MethodName := ⟨RX5, "person", "()I"⟩
def dkwX5_person_1 : List UInt8 := [172]
abbrev dktX5_person_1 : List UInt8 := dkwX5_person_1 ++ []
def dkwX5_person_0 : List UInt8 := [42, 42, 180, 0, 12, 42, 180, 0, 28, 180, 0, 82, 182, 0, 88, 182, 0, 92, 60, 42, 182, 0, 53, 27]
abbrev dktX5_person_0 : List UInt8 := dkwX5_person_0 ++ dktX5_person_1
theorem dksX5_person_0 : cX5_person.data.toList.drop 0 = dktX5_person_0 := by decide +kernel
theorem dksX5_person_1 : cX5_person.data.toList.drop 24 = dktX5_person_1 := dk_seg dksX5_person_0 24 rfl rfl
theorem dX5_person_0 : decode cX5_person 0 = .ok (.aload_n 0, 1) := dk_42 (dk_at dksX5_person_0 0 rfl rfl)
theorem dX5_person_1 : decode cX5_person 1 = .ok (.aload_n 0, 1) := dk_42 (dk_at dksX5_person_0 1 rfl rfl)
theorem dX5_person_2 : decode cX5_person 2 = .ok (.getfield 12, 3) := dk_180 0 12 (dk_at dksX5_person_0 2 rfl rfl)
theorem dX5_person_5 : decode cX5_person 5 = .ok (.aload_n 0, 1) := dk_42 (dk_at dksX5_person_0 5 rfl rfl)
theorem dX5_person_6 : decode cX5_person 6 = .ok (.getfield 28, 3) := dk_180 0 28 (dk_at dksX5_person_0 6 rfl rfl)
theorem dX5_person_9 : decode cX5_person 9 = .ok (.getfield 82, 3) := dk_180 0 82 (dk_at dksX5_person_0 9 rfl rfl)
theorem dX5_person_12 : decode cX5_person 12 = .ok (.invokevirtual 88, 3) := dk_182 0 88 (dk_at dksX5_person_0 12 rfl rfl)
theorem dX5_person_15 : decode cX5_person 15 = .ok (.invokevirtual 92, 3) := dk_182 0 92 (dk_at dksX5_person_0 15 rfl rfl)
theorem dX5_person_18 : decode cX5_person 18 = .ok (.istore_n 1, 1) := dk_60 (dk_at dksX5_person_0 18 rfl rfl)
theorem dX5_person_19 : decode cX5_person 19 = .ok (.aload_n 0, 1) := dk_42 (dk_at dksX5_person_0 19 rfl rfl)
theorem dX5_person_20 : decode cX5_person 20 = .ok (.invokevirtual 53, 3) := dk_182 0 53 (dk_at dksX5_person_0 20 rfl rfl)
theorem dX5_person_23 : decode cX5_person 23 = .ok (.iload_n 1, 1) := dk_27 (dk_at dksX5_person_0 23 rfl rfl)
theorem dX5_person_24 : decode cX5_person 24 = .ok (.ireturn, 1) := dk_172 (dk_at dksX5_person_1 0 rfl rfl)
theorem q130 : (Jvm.Cond.initialized "NextAtBar$Reade\x72") ∈ lw_all := lw_g (lw_at lw_m1 8 rfl) rfl
theorem q284 : (Jvm.Cond.instantiable "NextAtBar$Reade\x72" (5 : Nat)) ∈ lw_all := lw_g (lw_at lw_m1 162 rfl) rfl
theorem q302 : (Jvm.Cond.instanceMethod ({ cls := "NextAtBar$Reade\x72", name := "<init>", desc := "(LNextAtBar$Tokens;)V" } : Jvm.MethodName)) ∈ lw_all := lw_g (lw_at lw_m1 180 rfl) rfl
theorem q303 : (Jvm.Cond.code ({ cls := "NextAtBar$Reade\x72", name := "<init>", desc := "(LNextAtBar$Tokens;)V" } : Jvm.MethodName) prog_13_method_1_code (2 : Nat) (Option.none : Option Jvm.ClassFile.FieldType)) ∈ lw_all := lw_g (lw_at lw_m1 181 rfl) rfl
theorem q304 : (Jvm.Cond.methodLink "NextAtBar$Reade\x72" (3 : Nat) ({ cls := "java/lang/Object", name := "<init>", desc := "()V" } : Jvm.MethodName)) ∈ lw_all := lw_g (lw_at lw_m1 182 rfl) rfl
theorem q305 : (Jvm.Cond.classLink "NextAtBar$Reade\x72" (9 : Nat) "NextAtBar$House") ∈ lw_all := lw_g (lw_at lw_m1 183 rfl) rfl
theorem q307 : (Jvm.Cond.methodLinkNest "NextAtBar$Reade\x72" (11 : Nat) ({ cls := "NextAtBar$House", name := "<init>", desc := "()V" } : Jvm.MethodName) "NextAtBa\x72") ∈ lw_tbl := lw_at lw_m1 185 rfl
theorem q313 : (Jvm.Cond.fieldLink "NextAtBar$Reade\x72" (102 : Nat) "NextAtBar$House" "places" "I") ∈ lw_all := lw_g (lw_at lw_m1 191 rfl) rfl
theorem q316 : (Jvm.Cond.fieldLink "NextAtBar$Reade\x72" (163 : Nat) "NextAtBar$House" "bell" "I") ∈ lw_all := lw_g (lw_at lw_m1 194 rfl) rfl
theorem q318 : (Jvm.Cond.fieldLink "NextAtBar$Reade\x72" (279 : Nat) "NextAtBar$House" "shelves" "I") ∈ lw_all := lw_g (lw_at lw_m1 196 rfl) rfl
theorem q321 : (Jvm.Cond.fieldLink "NextAtBar$Reade\x72" (105 : Nat) "NextAtBar$House" "drinks" "Ljava/util/ArrayList;") ∈ lw_all := lw_g (lw_at lw_m1 199 rfl) rfl
theorem q325 : (Jvm.Cond.fieldLink "NextAtBar$Reade\x72" (114 : Nat) "NextAtBar$House" "staff" "Ljava/util/ArrayList;") ∈ lw_all := lw_g (lw_at lw_m1 203 rfl) rfl
theorem q330 : (Jvm.Cond.fieldLink "NextAtBar$Reade\x72" (117 : Nat) "NextAtBar$House" "people" "Ljava/util/ArrayList;") ∈ lw_all := lw_g (lw_at lw_m1 208 rfl) rfl
theorem q334 : (Jvm.Cond.fieldLink "NextAtBar$Reade\x72" (282 : Nat) "NextAtBar$House" "tellings" "Ljava/util/ArrayList;") ∈ lw_all := lw_g (lw_at lw_m1 212 rfl) rfl
theorem q351 : (Jvm.Cond.methodLink "NextAtBar$Reade\x72" (22 : Nat) ({ cls := "NextAtBar$Tokens", name := "next", desc := "()LNextAtBar$Token;" } : Jvm.MethodName)) ∈ lw_all := lw_g (lw_at lw_m1 229 rfl) rfl
theorem q367 : (Jvm.Cond.fieldLink "NextAtBar$Reade\x72" (46 : Nat) "NextAtBar$Token" "sort" "I") ∈ lw_all := lw_g (lw_at lw_m2 5 rfl) rfl
theorem q369 : (Jvm.Cond.fieldLink "NextAtBar$Reade\x72" (40 : Nat) "NextAtBar$Token" "place" "I") ∈ lw_all := lw_g (lw_at lw_m2 7 rfl) rfl
theorem q371 : (Jvm.Cond.fieldLink "NextAtBar$Reade\x72" (64 : Nat) "NextAtBar$Token" "numbe\x72" "I") ∈ lw_all := lw_g (lw_at lw_m2 9 rfl) rfl
theorem q373 : (Jvm.Cond.fieldLink "NextAtBar$Reade\x72" (82 : Nat) "NextAtBar$Token" "word" "Ljava/lang/String;") ∈ lw_all := lw_g (lw_at lw_m2 11 rfl) rfl
theorem q573 : (Jvm.Cond.fieldLink "NextAtBar$Reade\x72" (18 : Nat) "NextAtBar$Reade\x72" "tokens" "LNextAtBar$Tokens;") ∈ lw_all := lw_g (lw_at lw_m2 211 rfl) rfl
theorem q574 : (Jvm.Cond.fieldLink "NextAtBar$Reade\x72" (12 : Nat) "NextAtBar$Reade\x72" "house" "LNextAtBar$House;") ∈ lw_all := lw_g (lw_at lw_m2 212 rfl) rfl
theorem q575 : (Jvm.Cond.fieldLink "NextAtBar$Reade\x72" (28 : Nat) "NextAtBar$Reade\x72" "now" "LNextAtBar$Token;") ∈ lw_all := lw_g (lw_at lw_m2 213 rfl) rfl
theorem q576 : (Jvm.Cond.fieldLink "NextAtBar$Reade\x72" (32 : Nat) "NextAtBar$Reade\x72" "fault" "I") ∈ lw_all := lw_g (lw_at lw_m2 214 rfl) rfl
theorem q578 : (Jvm.Cond.fieldLink "NextAtBar$Reade\x72" (45 : Nat) "NextAtBar$Reade\x72" "place" "I") ∈ lw_all := lw_g (lw_at lw_m2 216 rfl) rfl
theorem q580 : (Jvm.Cond.laysFinal "NextAtBar$Reade\x72" "NextAtBar$Reade\x72" "tokens" "LNextAtBar$Tokens;") ∈ lw_all := lw_g (lw_at lw_m2 218 rfl) rfl
theorem q581 : (Jvm.Cond.soleField "NextAtBar$Reade\x72" "tokens") ∈ lw_all := lw_g (lw_at lw_m2 219 rfl) rfl
theorem q582 : (Jvm.Cond.laysFinal "NextAtBar$Reade\x72" "NextAtBar$Reade\x72" "house" "LNextAtBar$House;") ∈ lw_all := lw_g (lw_at lw_m2 220 rfl) rfl
theorem q583 : (Jvm.Cond.soleField "NextAtBar$Reade\x72" "house") ∈ lw_all := lw_g (lw_at lw_m2 221 rfl) rfl
theorem q584 : (Jvm.Cond.lays "NextAtBar$Reade\x72" "NextAtBar$Reade\x72" "now" "LNextAtBar$Token;") ∈ lw_all := lw_g (lw_at lw_m2 222 rfl) rfl
theorem q585 : (Jvm.Cond.soleField "NextAtBar$Reade\x72" "now") ∈ lw_all := lw_g (lw_at lw_m2 223 rfl) rfl
theorem q586 : (Jvm.Cond.lays "NextAtBar$Reade\x72" "NextAtBar$Reade\x72" "fault" "I") ∈ lw_all := lw_g (lw_at lw_m2 224 rfl) rfl
theorem q587 : (Jvm.Cond.soleField "NextAtBar$Reade\x72" "fault") ∈ lw_all := lw_g (lw_at lw_m2 225 rfl) rfl
theorem q588 : (Jvm.Cond.lays "NextAtBar$Reade\x72" "NextAtBar$Reade\x72" "place" "I") ∈ lw_all := lw_g (lw_at lw_m2 226 rfl) rfl
theorem q589 : (Jvm.Cond.soleField "NextAtBar$Reade\x72" "place") ∈ lw_all := lw_g (lw_at lw_m2 227 rfl) rfl
theorem q590 : (Jvm.Cond.superclass "NextAtBar$Reade\x72" "java/lang/Object") ∈ lw_all := lw_g (lw_at lw_m2 228 rfl) rfl
theorem q592 : (Jvm.Cond.instanceMethod ({ cls := "NextAtBar$Reade\x72", name := "read", desc := "()LNextAtBar$House;" } : Jvm.MethodName)) ∈ lw_all := lw_g (lw_at lw_m2 230 rfl) rfl
theorem q593 : (Jvm.Cond.selects "NextAtBar$Reade\x72" ({ cls := "NextAtBar$Reade\x72", name := "read", desc := "()LNextAtBar$House;" } : Jvm.MethodName) ({ cls := "NextAtBar$Reade\x72", name := "read", desc := "()LNextAtBar$House;" } : Jvm.MethodName)) ∈ lw_all := lw_g (lw_at lw_m2 231 rfl) rfl
theorem q594 : (Jvm.Cond.code ({ cls := "NextAtBar$Reade\x72", name := "read", desc := "()LNextAtBar$House;" } : Jvm.MethodName) prog_13_method_12_code (1 : Nat) (Option.some (Jvm.ClassFile.FieldType.object "NextAtBar$House"))) ∈ lw_all := lw_g (lw_at lw_m2 232 rfl) rfl
theorem q595 : (Jvm.Cond.methodLink "NextAtBar$Reade\x72" (96 : Nat) ({ cls := "NextAtBar$Reade\x72", name := "line", desc := "()V" } : Jvm.MethodName)) ∈ lw_all := lw_g (lw_at lw_m2 233 rfl) rfl
theorem q596 : (Jvm.Cond.privateMethod ({ cls := "NextAtBar$Reade\x72", name := "line", desc := "()V" } : Jvm.MethodName)) ∈ lw_tbl := lw_at lw_m2 234 rfl
theorem q597 : (Jvm.Cond.instanceMethod ({ cls := "NextAtBar$Reade\x72", name := "line", desc := "()V" } : Jvm.MethodName)) ∈ lw_all := lw_g (lw_at lw_m2 235 rfl) rfl
theorem q598 : (Jvm.Cond.code ({ cls := "NextAtBar$Reade\x72", name := "line", desc := "()V" } : Jvm.MethodName) prog_13_method_13_code (3 : Nat) (Option.none : Option Jvm.ClassFile.FieldType)) ∈ lw_all := lw_g (lw_at lw_m2 236 rfl) rfl
theorem q599 : (Jvm.Cond.stringRef "NextAtBar$Reade\x72" (120 : Nat) "") ∈ lw_tbl := lw_at lw_m2 237 rfl
theorem q600 : (Jvm.Cond.methodLink "NextAtBar$Reade\x72" (122 : Nat) ({ cls := "java/lang/String", name := "hashCode", desc := "()I" } : Jvm.MethodName)) ∈ lw_all := lw_g (lw_at lw_m2 238 rfl) rfl
theorem q653 : (Jvm.Cond.stringRef "NextAtBar$Reade\x72" (128 : Nat) "house") ∈ lw_tbl := lw_at lw_m3 51 rfl
theorem q654 : (Jvm.Cond.methodLink "NextAtBar$Reade\x72" (129 : Nat) ({ cls := "java/lang/String", name := "equals", desc := "(Ljava/lang/Object;)Z" } : Jvm.MethodName)) ∈ lw_all := lw_g (lw_at lw_m3 52 rfl) rfl
theorem q662 : (Jvm.Cond.stringRef "NextAtBar$Reade\x72" (133 : Nat) "drink") ∈ lw_tbl := lw_at lw_m3 60 rfl
theorem q663 : (Jvm.Cond.stringRef "NextAtBar$Reade\x72" (135 : Nat) "staff") ∈ lw_tbl := lw_at lw_m3 61 rfl
theorem q664 : (Jvm.Cond.stringRef "NextAtBar$Reade\x72" (136 : Nat) "person") ∈ lw_tbl := lw_at lw_m3 62 rfl
theorem q665 : (Jvm.Cond.stringRef "NextAtBar$Reade\x72" (137 : Nat) "shelf") ∈ lw_tbl := lw_at lw_m3 63 rfl
theorem q666 : (Jvm.Cond.stringRef "NextAtBar$Reade\x72" (139 : Nat) "says") ∈ lw_tbl := lw_at lw_m3 64 rfl
theorem q667 : (Jvm.Cond.methodLink "NextAtBar$Reade\x72" (141 : Nat) ({ cls := "NextAtBar$Reade\x72", name := "houseLine", desc := "()V" } : Jvm.MethodName)) ∈ lw_all := lw_g (lw_at lw_m3 65 rfl) rfl
theorem q668 : (Jvm.Cond.privateMethod ({ cls := "NextAtBar$Reade\x72", name := "houseLine", desc := "()V" } : Jvm.MethodName)) ∈ lw_tbl := lw_at lw_m3 66 rfl
theorem q669 : (Jvm.Cond.instanceMethod ({ cls := "NextAtBar$Reade\x72", name := "houseLine", desc := "()V" } : Jvm.MethodName)) ∈ lw_all := lw_g (lw_at lw_m3 67 rfl) rfl
theorem q670 : (Jvm.Cond.code ({ cls := "NextAtBar$Reade\x72", name := "houseLine", desc := "()V" } : Jvm.MethodName) prog_13_method_15_code (3 : Nat) (Option.none : Option Jvm.ClassFile.FieldType)) ∈ lw_all := lw_g (lw_at lw_m3 68 rfl) rfl
theorem q671 : (Jvm.Cond.methodLink "NextAtBar$Reade\x72" (60 : Nat) ({ cls := "NextAtBar$Reade\x72", name := "wrong", desc := "(I)V" } : Jvm.MethodName)) ∈ lw_all := lw_g (lw_at lw_m3 69 rfl) rfl
theorem q672 : (Jvm.Cond.privateMethod ({ cls := "NextAtBar$Reade\x72", name := "wrong", desc := "(I)V" } : Jvm.MethodName)) ∈ lw_tbl := lw_at lw_m3 70 rfl
theorem q673 : (Jvm.Cond.instanceMethod ({ cls := "NextAtBar$Reade\x72", name := "wrong", desc := "(I)V" } : Jvm.MethodName)) ∈ lw_all := lw_g (lw_at lw_m3 71 rfl) rfl
theorem q674 : (Jvm.Cond.code ({ cls := "NextAtBar$Reade\x72", name := "wrong", desc := "(I)V" } : Jvm.MethodName) prog_13_method_3_code (2 : Nat) (Option.none : Option Jvm.ClassFile.FieldType)) ∈ lw_all := lw_g (lw_at lw_m3 72 rfl) rfl
theorem q675 : (Jvm.Cond.methodLink "NextAtBar$Reade\x72" (36 : Nat) ({ cls := "NextAtBar$Reade\x72", name := "isOve\x72", desc := "()Z" } : Jvm.MethodName)) ∈ lw_all := lw_g (lw_at lw_m3 73 rfl) rfl
theorem q676 : (Jvm.Cond.privateMethod ({ cls := "NextAtBar$Reade\x72", name := "isOve\x72", desc := "()Z" } : Jvm.MethodName)) ∈ lw_tbl := lw_at lw_m3 74 rfl
theorem q677 : (Jvm.Cond.instanceMethod ({ cls := "NextAtBar$Reade\x72", name := "isOve\x72", desc := "()Z" } : Jvm.MethodName)) ∈ lw_all := lw_g (lw_at lw_m3 75 rfl) rfl
theorem q678 : (Jvm.Cond.code ({ cls := "NextAtBar$Reade\x72", name := "isOve\x72", desc := "()Z" } : Jvm.MethodName) prog_13_method_2_code (1 : Nat) (Option.some Jvm.ClassFile.FieldType.boolean)) ∈ lw_all := lw_g (lw_at lw_m3 76 rfl) rfl
theorem q679 : (Jvm.Cond.methodLink "NextAtBar$Reade\x72" (53 : Nat) ({ cls := "NextAtBar$Reade\x72", name := "on", desc := "()V" } : Jvm.MethodName)) ∈ lw_all := lw_g (lw_at lw_m3 77 rfl) rfl
theorem q680 : (Jvm.Cond.privateMethod ({ cls := "NextAtBar$Reade\x72", name := "on", desc := "()V" } : Jvm.MethodName)) ∈ lw_tbl := lw_at lw_m3 78 rfl
theorem q681 : (Jvm.Cond.instanceMethod ({ cls := "NextAtBar$Reade\x72", name := "on", desc := "()V" } : Jvm.MethodName)) ∈ lw_all := lw_g (lw_at lw_m3 79 rfl) rfl
theorem q682 : (Jvm.Cond.code ({ cls := "NextAtBar$Reade\x72", name := "on", desc := "()V" } : Jvm.MethodName) prog_13_method_4_code (1 : Nat) (Option.none : Option Jvm.ClassFile.FieldType)) ∈ lw_all := lw_g (lw_at lw_m3 80 rfl) rfl
theorem q683 : (Jvm.Cond.stringRef "NextAtBar$Reade\x72" (155 : Nat) "long") ∈ lw_tbl := lw_at lw_m3 81 rfl
theorem q684 : (Jvm.Cond.methodLink "NextAtBar$Reade\x72" (157 : Nat) ({ cls := "NextAtBar$Reade\x72", name := "part", desc := "(Ljava/lang/String;II)I" } : Jvm.MethodName)) ∈ lw_all := lw_g (lw_at lw_m3 82 rfl) rfl
theorem q685 : (Jvm.Cond.privateMethod ({ cls := "NextAtBar$Reade\x72", name := "part", desc := "(Ljava/lang/String;II)I" } : Jvm.MethodName)) ∈ lw_tbl := lw_at lw_m3 83 rfl
theorem q686 : (Jvm.Cond.instanceMethod ({ cls := "NextAtBar$Reade\x72", name := "part", desc := "(Ljava/lang/String;II)I" } : Jvm.MethodName)) ∈ lw_all := lw_g (lw_at lw_m3 84 rfl) rfl
theorem q687 : (Jvm.Cond.code ({ cls := "NextAtBar$Reade\x72", name := "part", desc := "(Ljava/lang/String;II)I" } : Jvm.MethodName) prog_13_method_8_code (4 : Nat) (Option.some Jvm.ClassFile.FieldType.int)) ∈ lw_all := lw_g (lw_at lw_m3 85 rfl) rfl
theorem q688 : (Jvm.Cond.methodLink "NextAtBar$Reade\x72" (71 : Nat) ({ cls := "NextAtBar$Reade\x72", name := "needs", desc := "(Ljava/lang/String;)V" } : Jvm.MethodName)) ∈ lw_all := lw_g (lw_at lw_m3 86 rfl) rfl
theorem q689 : (Jvm.Cond.privateMethod ({ cls := "NextAtBar$Reade\x72", name := "needs", desc := "(Ljava/lang/String;)V" } : Jvm.MethodName)) ∈ lw_tbl := lw_at lw_m3 87 rfl
theorem q690 : (Jvm.Cond.instanceMethod ({ cls := "NextAtBar$Reade\x72", name := "needs", desc := "(Ljava/lang/String;)V" } : Jvm.MethodName)) ∈ lw_all := lw_g (lw_at lw_m3 88 rfl) rfl
theorem q691 : (Jvm.Cond.code ({ cls := "NextAtBar$Reade\x72", name := "needs", desc := "(Ljava/lang/String;)V" } : Jvm.MethodName) prog_13_method_6_code (2 : Nat) (Option.none : Option Jvm.ClassFile.FieldType)) ∈ lw_all := lw_g (lw_at lw_m3 89 rfl) rfl
theorem q692 : (Jvm.Cond.methodLink "NextAtBar$Reade\x72" (56 : Nat) ({ cls := "NextAtBar$Token", name := "is", desc := "(Ljava/lang/String;)Z" } : Jvm.MethodName)) ∈ lw_all := lw_g (lw_at lw_m3 90 rfl) rfl
theorem q697 : (Jvm.Cond.methodLink "NextAtBar$Reade\x72" (75 : Nat) ({ cls := "NextAtBar$Reade\x72", name := "whole", desc := "(II)I" } : Jvm.MethodName)) ∈ lw_all := lw_g (lw_at lw_m3 95 rfl) rfl
theorem q698 : (Jvm.Cond.privateMethod ({ cls := "NextAtBar$Reade\x72", name := "whole", desc := "(II)I" } : Jvm.MethodName)) ∈ lw_tbl := lw_at lw_m3 96 rfl
theorem q699 : (Jvm.Cond.instanceMethod ({ cls := "NextAtBar$Reade\x72", name := "whole", desc := "(II)I" } : Jvm.MethodName)) ∈ lw_all := lw_g (lw_at lw_m3 97 rfl) rfl
theorem q700 : (Jvm.Cond.code ({ cls := "NextAtBar$Reade\x72", name := "whole", desc := "(II)I" } : Jvm.MethodName) prog_13_method_7_code (4 : Nat) (Option.some Jvm.ClassFile.FieldType.int)) ∈ lw_all := lw_g (lw_at lw_m3 98 rfl) rfl
theorem q701 : (Jvm.Cond.methodLinkNest "NextAtBar$Reade\x72" (67 : Nat) ({ cls := "NextAtBa\x72", name := "in", desc := "(III)Z" } : Jvm.MethodName) "NextAtBa\x72") ∈ lw_tbl := lw_at lw_m3 99 rfl
theorem q702 : (Jvm.Cond.stringRef "NextAtBar$Reade\x72" (161 : Nat) "bell") ∈ lw_tbl := lw_at lw_m3 100 rfl
theorem q703 : (Jvm.Cond.methodLink "NextAtBar$Reade\x72" (144 : Nat) ({ cls := "NextAtBar$Reade\x72", name := "drink", desc := "()V" } : Jvm.MethodName)) ∈ lw_all := lw_g (lw_at lw_m3 101 rfl) rfl
theorem q704 : (Jvm.Cond.privateMethod ({ cls := "NextAtBar$Reade\x72", name := "drink", desc := "()V" } : Jvm.MethodName)) ∈ lw_tbl := lw_at lw_m3 102 rfl
theorem q705 : (Jvm.Cond.instanceMethod ({ cls := "NextAtBar$Reade\x72", name := "drink", desc := "()V" } : Jvm.MethodName)) ∈ lw_all := lw_g (lw_at lw_m3 103 rfl) rfl
theorem q706 : (Jvm.Cond.code ({ cls := "NextAtBar$Reade\x72", name := "drink", desc := "()V" } : Jvm.MethodName) prog_13_method_16_code (5 : Nat) (Option.none : Option Jvm.ClassFile.FieldType)) ∈ lw_all := lw_g (lw_at lw_m3 104 rfl) rfl
theorem q707 : (Jvm.Cond.methodLink "NextAtBar$Reade\x72" (165 : Nat) ({ cls := "java/util/ArrayList", name := "size", desc := "()I" } : Jvm.MethodName)) ∈ lw_all := lw_g (lw_at lw_m3 105 rfl) rfl
theorem q711 : (Jvm.Cond.methodLink "NextAtBar$Reade\x72" (168 : Nat) ({ cls := "NextAtBar$Reade\x72", name := "begins", desc := "(II)V" } : Jvm.MethodName)) ∈ lw_all := lw_g (lw_at lw_m3 109 rfl) rfl
theorem q712 : (Jvm.Cond.privateMethod ({ cls := "NextAtBar$Reade\x72", name := "begins", desc := "(II)V" } : Jvm.MethodName)) ∈ lw_tbl := lw_at lw_m3 110 rfl
theorem q713 : (Jvm.Cond.instanceMethod ({ cls := "NextAtBar$Reade\x72", name := "begins", desc := "(II)V" } : Jvm.MethodName)) ∈ lw_all := lw_g (lw_at lw_m3 111 rfl) rfl
theorem q714 : (Jvm.Cond.code ({ cls := "NextAtBar$Reade\x72", name := "begins", desc := "(II)V" } : Jvm.MethodName) prog_13_method_14_code (3 : Nat) (Option.none : Option Jvm.ClassFile.FieldType)) ∈ lw_all := lw_g (lw_at lw_m3 112 rfl) rfl
theorem q715 : (Jvm.Cond.methodLink "NextAtBar$Reade\x72" (172 : Nat) ({ cls := "NextAtBar$Reade\x72", name := "fresh", desc := "()Ljava/lang/String;" } : Jvm.MethodName)) ∈ lw_all := lw_g (lw_at lw_m3 113 rfl) rfl
theorem q716 : (Jvm.Cond.privateMethod ({ cls := "NextAtBar$Reade\x72", name := "fresh", desc := "()Ljava/lang/String;" } : Jvm.MethodName)) ∈ lw_tbl := lw_at lw_m3 114 rfl
theorem q717 : (Jvm.Cond.instanceMethod ({ cls := "NextAtBar$Reade\x72", name := "fresh", desc := "()Ljava/lang/String;" } : Jvm.MethodName)) ∈ lw_all := lw_g (lw_at lw_m3 115 rfl) rfl
theorem q718 : (Jvm.Cond.code ({ cls := "NextAtBar$Reade\x72", name := "fresh", desc := "()Ljava/lang/String;" } : Jvm.MethodName) prog_13_method_9_code (2 : Nat) (Option.some (Jvm.ClassFile.FieldType.object "java/lang/String"))) ∈ lw_all := lw_g (lw_at lw_m3 116 rfl) rfl
theorem q719 : (Jvm.Cond.methodLink "NextAtBar$Reade\x72" (79 : Nat) ({ cls := "NextAtBar$Token", name := "isName", desc := "()Z" } : Jvm.MethodName)) ∈ lw_all := lw_g (lw_at lw_m3 117 rfl) rfl
theorem q730 : (Jvm.Cond.methodLink "NextAtBar$Reade\x72" (86 : Nat) ({ cls := "NextAtBar$House", name := "isName", desc := "(Ljava/lang/String;)Z" } : Jvm.MethodName)) ∈ lw_all := lw_g (lw_at lw_m3 128 rfl) rfl
theorem q759 : (Jvm.Cond.stringRef "NextAtBar$Reade\x72" (176 : Nat) "takes") ∈ lw_tbl := lw_at lw_m3 157 rfl
theorem q760 : (Jvm.Cond.stringRef "NextAtBar$Reade\x72" (178 : Nat) "then") ∈ lw_tbl := lw_at lw_m3 158 rfl
theorem q761 : (Jvm.Cond.stringRef "NextAtBar$Reade\x72" (180 : Nat) "costs") ∈ lw_tbl := lw_at lw_m3 159 rfl
theorem q762 : (Jvm.Cond.classLink "NextAtBar$Reade\x72" (182 : Nat) "NextAtBar$Drink") ∈ lw_all := lw_g (lw_at lw_m3 160 rfl) rfl
theorem q764 : (Jvm.Cond.methodLink "NextAtBar$Reade\x72" (184 : Nat) ({ cls := "NextAtBar$Drink", name := "<init>", desc := "(Ljava/lang/String;III)V" } : Jvm.MethodName)) ∈ lw_all := lw_g (lw_at lw_m3 162 rfl) rfl
theorem q783 : (Jvm.Cond.methodLink "NextAtBar$Reade\x72" (187 : Nat) ({ cls := "java/util/ArrayList", name := "add", desc := "(Ljava/lang/Object;)Z" } : Jvm.MethodName)) ∈ lw_all := lw_g (lw_at lw_m3 181 rfl) rfl
theorem q818 : (Jvm.Cond.selects "NextAtBar$Reade\x72" ({ cls := "java/lang/Object", name := "getClass", desc := "()Ljava/lang/Class;" } : Jvm.MethodName) ({ cls := "java/lang/Object", name := "getClass", desc := "()Ljava/lang/Class;" } : Jvm.MethodName)) ∈ lw_all := lw_g (lw_at lw_m3 216 rfl) rfl
theorem q842 : (Jvm.Cond.methodLink "NextAtBar$Reade\x72" (146 : Nat) ({ cls := "NextAtBar$Reade\x72", name := "staff", desc := "()V" } : Jvm.MethodName)) ∈ lw_all := lw_g (lw_at lw_m4 0 rfl) rfl
theorem q843 : (Jvm.Cond.privateMethod ({ cls := "NextAtBar$Reade\x72", name := "staff", desc := "()V" } : Jvm.MethodName)) ∈ lw_tbl := lw_at lw_m4 1 rfl
theorem q844 : (Jvm.Cond.instanceMethod ({ cls := "NextAtBar$Reade\x72", name := "staff", desc := "()V" } : Jvm.MethodName)) ∈ lw_all := lw_g (lw_at lw_m4 2 rfl) rfl
theorem q845 : (Jvm.Cond.code ({ cls := "NextAtBar$Reade\x72", name := "staff", desc := "()V" } : Jvm.MethodName) prog_13_method_18_code (2 : Nat) (Option.none : Option Jvm.ClassFile.FieldType)) ∈ lw_all := lw_g (lw_at lw_m4 3 rfl) rfl
theorem q846 : (Jvm.Cond.classLink "NextAtBar$Reade\x72" (200 : Nat) "NextAtBar$Serve\x72") ∈ lw_all := lw_g (lw_at lw_m4 4 rfl) rfl
theorem q848 : (Jvm.Cond.methodLink "NextAtBar$Reade\x72" (202 : Nat) ({ cls := "NextAtBar$Reade\x72", name := "ruleNumbe\x72", desc := "()I" } : Jvm.MethodName)) ∈ lw_all := lw_g (lw_at lw_m4 6 rfl) rfl
theorem q849 : (Jvm.Cond.privateMethod ({ cls := "NextAtBar$Reade\x72", name := "ruleNumbe\x72", desc := "()I" } : Jvm.MethodName)) ∈ lw_tbl := lw_at lw_m4 7 rfl
theorem q850 : (Jvm.Cond.instanceMethod ({ cls := "NextAtBar$Reade\x72", name := "ruleNumbe\x72", desc := "()I" } : Jvm.MethodName)) ∈ lw_all := lw_g (lw_at lw_m4 8 rfl) rfl
theorem q851 : (Jvm.Cond.code ({ cls := "NextAtBar$Reade\x72", name := "ruleNumbe\x72", desc := "()I" } : Jvm.MethodName) prog_13_method_17_code (3 : Nat) (Option.some Jvm.ClassFile.FieldType.int)) ∈ lw_all := lw_g (lw_at lw_m4 9 rfl) rfl
theorem q852 : (Jvm.Cond.stringRef "NextAtBar$Reade\x72" (190 : Nat) "row") ∈ lw_tbl := lw_at lw_m4 10 rfl
theorem q853 : (Jvm.Cond.stringRef "NextAtBar$Reade\x72" (192 : Nat) "nea\x72") ∈ lw_tbl := lw_at lw_m4 11 rfl
theorem q854 : (Jvm.Cond.stringRef "NextAtBar$Reade\x72" (194 : Nat) "eye") ∈ lw_tbl := lw_at lw_m4 12 rfl
theorem q855 : (Jvm.Cond.stringRef "NextAtBar$Reade\x72" (196 : Nat) "asked") ∈ lw_tbl := lw_at lw_m4 13 rfl
theorem q856 : (Jvm.Cond.stringRef "NextAtBar$Reade\x72" (198 : Nat) "regula\x72") ∈ lw_tbl := lw_at lw_m4 14 rfl
theorem q857 : (Jvm.Cond.methodLinkNest "NextAtBar$Reade\x72" (205 : Nat) ({ cls := "NextAtBa\x72", name := "ruleOf", desc := "(I)LNextAtBar$Rule;" } : Jvm.MethodName) "NextAtBa\x72") ∈ lw_tbl := lw_at lw_m4 15 rfl
theorem q898 : (Jvm.Cond.methodLink "NextAtBar$Reade\x72" (209 : Nat) ({ cls := "NextAtBar$Serve\x72", name := "<init>", desc := "(Ljava/lang/String;LNextAtBar$Rule;)V" } : Jvm.MethodName)) ∈ lw_all := lw_g (lw_at lw_m4 56 rfl) rfl
theorem q907 : (Jvm.Cond.fieldLink "NextAtBar$Reade\x72" (214 : Nat) "NextAtBar$Serve\x72" "at" "I") ∈ lw_all := lw_g (lw_at lw_m4 65 rfl) rfl
theorem q910 : (Jvm.Cond.fieldLink "NextAtBar$Reade\x72" (218 : Nat) "NextAtBar$Serve\x72" "from" "I") ∈ lw_all := lw_g (lw_at lw_m4 68 rfl) rfl
theorem q912 : (Jvm.Cond.fieldLink "NextAtBar$Reade\x72" (222 : Nat) "NextAtBar$Serve\x72" "to" "I") ∈ lw_all := lw_g (lw_at lw_m4 70 rfl) rfl
theorem q915 : (Jvm.Cond.fieldLink "NextAtBar$Reade\x72" (226 : Nat) "NextAtBar$Serve\x72" "step" "I") ∈ lw_all := lw_g (lw_at lw_m4 73 rfl) rfl
theorem q918 : (Jvm.Cond.fieldLink "NextAtBar$Reade\x72" (230 : Nat) "NextAtBar$Serve\x72" "hands" "I") ∈ lw_all := lw_g (lw_at lw_m4 76 rfl) rfl
theorem q935 : (Jvm.Cond.stringRef "NextAtBar$Reade\x72" (212 : Nat) "at") ∈ lw_tbl := lw_at lw_m4 93 rfl
theorem q936 : (Jvm.Cond.stringRef "NextAtBar$Reade\x72" (216 : Nat) "from") ∈ lw_tbl := lw_at lw_m4 94 rfl
theorem q937 : (Jvm.Cond.stringRef "NextAtBar$Reade\x72" (220 : Nat) "to") ∈ lw_tbl := lw_at lw_m4 95 rfl
theorem q938 : (Jvm.Cond.stringRef "NextAtBar$Reade\x72" (224 : Nat) "step") ∈ lw_tbl := lw_at lw_m4 96 rfl
theorem q939 : (Jvm.Cond.stringRef "NextAtBar$Reade\x72" (228 : Nat) "hands") ∈ lw_tbl := lw_at lw_m4 97 rfl
theorem q940 : (Jvm.Cond.methodLink "NextAtBar$Reade\x72" (148 : Nat) ({ cls := "NextAtBar$Reade\x72", name := "personLine", desc := "()V" } : Jvm.MethodName)) ∈ lw_all := lw_g (lw_at lw_m4 98 rfl) rfl
theorem q941 : (Jvm.Cond.privateMethod ({ cls := "NextAtBar$Reade\x72", name := "personLine", desc := "()V" } : Jvm.MethodName)) ∈ lw_tbl := lw_at lw_m4 99 rfl
theorem q942 : (Jvm.Cond.instanceMethod ({ cls := "NextAtBar$Reade\x72", name := "personLine", desc := "()V" } : Jvm.MethodName)) ∈ lw_all := lw_g (lw_at lw_m4 100 rfl) rfl
theorem q943 : (Jvm.Cond.code ({ cls := "NextAtBar$Reade\x72", name := "personLine", desc := "()V" } : Jvm.MethodName) prog_13_method_20_code (5 : Nat) (Option.none : Option Jvm.ClassFile.FieldType)) ∈ lw_all := lw_g (lw_at lw_m4 101 rfl) rfl
theorem q944 : (Jvm.Cond.classLink "NextAtBar$Reade\x72" (242 : Nat) "NextAtBar$Person") ∈ lw_all := lw_g (lw_at lw_m4 102 rfl) rfl
theorem q946 : (Jvm.Cond.methodLink "NextAtBar$Reade\x72" (244 : Nat) ({ cls := "NextAtBar$Reade\x72", name := "manne\x72", desc := "()LNextAtBar$Manner;" } : Jvm.MethodName)) ∈ lw_all := lw_g (lw_at lw_m4 104 rfl) rfl
theorem q947 : (Jvm.Cond.privateMethod ({ cls := "NextAtBar$Reade\x72", name := "manne\x72", desc := "()LNextAtBar$Manner;" } : Jvm.MethodName)) ∈ lw_tbl := lw_at lw_m4 105 rfl
theorem q948 : (Jvm.Cond.instanceMethod ({ cls := "NextAtBar$Reade\x72", name := "manne\x72", desc := "()LNextAtBar$Manner;" } : Jvm.MethodName)) ∈ lw_all := lw_g (lw_at lw_m4 106 rfl) rfl
theorem q949 : (Jvm.Cond.code ({ cls := "NextAtBar$Reade\x72", name := "manne\x72", desc := "()LNextAtBar$Manner;" } : Jvm.MethodName) prog_13_method_19_code (2 : Nat) (Option.some (Jvm.ClassFile.FieldType.object "NextAtBar$Manne\x72"))) ∈ lw_all := lw_g (lw_at lw_m4 107 rfl) rfl
theorem q950 : (Jvm.Cond.stringRef "NextAtBar$Reade\x72" (232 : Nat) "honest") ∈ lw_tbl := lw_at lw_m4 108 rfl
theorem q951 : (Jvm.Cond.stringRef "NextAtBar$Reade\x72" (234 : Nat) "lia\x72") ∈ lw_tbl := lw_at lw_m4 109 rfl
theorem q952 : (Jvm.Cond.stringRef "NextAtBar$Reade\x72" (236 : Nat) "polite") ∈ lw_tbl := lw_at lw_m4 110 rfl
theorem q953 : (Jvm.Cond.methodLinkNest "NextAtBar$Reade\x72" (238 : Nat) ({ cls := "NextAtBa\x72", name := "mannerOf", desc := "(II)LNextAtBar$Manner;" } : Jvm.MethodName) "NextAtBa\x72") ∈ lw_tbl := lw_at lw_m4 111 rfl
theorem q972 : (Jvm.Cond.methodLink "NextAtBar$Reade\x72" (248 : Nat) ({ cls := "NextAtBar$Person", name := "<init>", desc := "(Ljava/lang/String;LNextAtBar$Manner;)V" } : Jvm.MethodName)) ∈ lw_all := lw_g (lw_at lw_m4 130 rfl) rfl
theorem q983 : (Jvm.Cond.fieldLink "NextAtBar$Reade\x72" (268 : Nat) "NextAtBar$Person" "wants" "[I") ∈ lw_all := lw_g (lw_at lw_m4 141 rfl) rfl
theorem q987 : (Jvm.Cond.fieldLink "NextAtBar$Reade\x72" (253 : Nat) "NextAtBar$Person" "comes" "I") ∈ lw_all := lw_g (lw_at lw_m4 145 rfl) rfl
theorem q990 : (Jvm.Cond.fieldLink "NextAtBar$Reade\x72" (255 : Nat) "NextAtBar$Person" "at" "I") ∈ lw_all := lw_g (lw_at lw_m4 148 rfl) rfl
theorem q993 : (Jvm.Cond.fieldLink "NextAtBar$Reade\x72" (258 : Nat) "NextAtBar$Person" "patience" "I") ∈ lw_all := lw_g (lw_at lw_m4 151 rfl) rfl
theorem q996 : (Jvm.Cond.fieldLink "NextAtBar$Reade\x72" (262 : Nat) "NextAtBar$Person" "look" "I") ∈ lw_all := lw_g (lw_at lw_m4 154 rfl) rfl
theorem q1000 : (Jvm.Cond.fieldLink "NextAtBar$Reade\x72" (275 : Nat) "NextAtBar$Person" "shelf" "I") ∈ lw_all := lw_g (lw_at lw_m4 158 rfl) rfl
theorem q1020 : (Jvm.Cond.stringRef "NextAtBar$Reade\x72" (251 : Nat) "comes") ∈ lw_tbl := lw_at lw_m4 178 rfl
theorem q1021 : (Jvm.Cond.stringRef "NextAtBar$Reade\x72" (256 : Nat) "patience") ∈ lw_tbl := lw_at lw_m4 179 rfl
theorem q1022 : (Jvm.Cond.stringRef "NextAtBar$Reade\x72" (260 : Nat) "look") ∈ lw_tbl := lw_at lw_m4 180 rfl
theorem q1023 : (Jvm.Cond.stringRef "NextAtBar$Reade\x72" (264 : Nat) "wants") ∈ lw_tbl := lw_at lw_m4 181 rfl
theorem q1024 : (Jvm.Cond.methodLink "NextAtBar$Reade\x72" (266 : Nat) ({ cls := "NextAtBar$House", name := "drink", desc := "(Ljava/lang/String;)I" } : Jvm.MethodName)) ∈ lw_all := lw_g (lw_at lw_m4 182 rfl) rfl
theorem q1025 : (Jvm.Cond.methodLink "NextAtBar$Reade\x72" (92 : Nat) ({ cls := "NextAtBar$Reade\x72", name := "known", desc := "(I)I" } : Jvm.MethodName)) ∈ lw_all := lw_g (lw_at lw_m4 183 rfl) rfl
theorem q1026 : (Jvm.Cond.privateMethod ({ cls := "NextAtBar$Reade\x72", name := "known", desc := "(I)I" } : Jvm.MethodName)) ∈ lw_tbl := lw_at lw_m4 184 rfl
theorem q1027 : (Jvm.Cond.instanceMethod ({ cls := "NextAtBar$Reade\x72", name := "known", desc := "(I)I" } : Jvm.MethodName)) ∈ lw_all := lw_g (lw_at lw_m4 185 rfl) rfl
theorem q1028 : (Jvm.Cond.code ({ cls := "NextAtBar$Reade\x72", name := "known", desc := "(I)I" } : Jvm.MethodName) prog_13_method_10_code (2 : Nat) (Option.some Jvm.ClassFile.FieldType.int)) ∈ lw_all := lw_g (lw_at lw_m4 186 rfl) rfl
theorem q1029 : (Jvm.Cond.methodLink "NextAtBar$Reade\x72" (99 : Nat) ({ cls := "NextAtBar$Reade\x72", name := "eatsSign", desc := "(C)Z" } : Jvm.MethodName)) ∈ lw_all := lw_g (lw_at lw_m4 187 rfl) rfl
theorem q1030 : (Jvm.Cond.privateMethod ({ cls := "NextAtBar$Reade\x72", name := "eatsSign", desc := "(C)Z" } : Jvm.MethodName)) ∈ lw_tbl := lw_at lw_m4 188 rfl
theorem q1031 : (Jvm.Cond.instanceMethod ({ cls := "NextAtBar$Reade\x72", name := "eatsSign", desc := "(C)Z" } : Jvm.MethodName)) ∈ lw_all := lw_g (lw_at lw_m4 189 rfl) rfl
theorem q1032 : (Jvm.Cond.code ({ cls := "NextAtBar$Reade\x72", name := "eatsSign", desc := "(C)Z" } : Jvm.MethodName) prog_13_method_5_code (2 : Nat) (Option.some Jvm.ClassFile.FieldType.boolean)) ∈ lw_all := lw_g (lw_at lw_m4 190 rfl) rfl
theorem q1033 : (Jvm.Cond.methodLink "NextAtBar$Reade\x72" (49 : Nat) ({ cls := "NextAtBar$Token", name := "isSign", desc := "(C)Z" } : Jvm.MethodName)) ∈ lw_all := lw_g (lw_at lw_m4 191 rfl) rfl
theorem q1037 : (Jvm.Cond.methodLink "NextAtBar$Reade\x72" (151 : Nat) ({ cls := "NextAtBar$Reade\x72", name := "shelf", desc := "()V" } : Jvm.MethodName)) ∈ lw_all := lw_g (lw_at lw_m4 195 rfl) rfl
theorem q1038 : (Jvm.Cond.privateMethod ({ cls := "NextAtBar$Reade\x72", name := "shelf", desc := "()V" } : Jvm.MethodName)) ∈ lw_tbl := lw_at lw_m4 196 rfl
theorem q1039 : (Jvm.Cond.instanceMethod ({ cls := "NextAtBar$Reade\x72", name := "shelf", desc := "()V" } : Jvm.MethodName)) ∈ lw_all := lw_g (lw_at lw_m4 197 rfl) rfl
theorem q1040 : (Jvm.Cond.code ({ cls := "NextAtBar$Reade\x72", name := "shelf", desc := "()V" } : Jvm.MethodName) prog_13_method_21_code (3 : Nat) (Option.none : Option Jvm.ClassFile.FieldType)) ∈ lw_all := lw_g (lw_at lw_m4 198 rfl) rfl
theorem q1041 : (Jvm.Cond.methodLink "NextAtBar$Reade\x72" (88 : Nat) ({ cls := "NextAtBar$House", name := "person", desc := "(Ljava/lang/String;)I" } : Jvm.MethodName)) ∈ lw_all := lw_g (lw_at lw_m4 199 rfl) rfl
theorem q1042 : (Jvm.Cond.methodLink "NextAtBar$Reade\x72" (271 : Nat) ({ cls := "java/util/ArrayList", name := "get", desc := "(I)Ljava/lang/Object;" } : Jvm.MethodName)) ∈ lw_all := lw_g (lw_at lw_m4 200 rfl) rfl
theorem q1043 : (Jvm.Cond.stringRef "NextAtBar$Reade\x72" (277 : Nat) "ready") ∈ lw_tbl := lw_at lw_m4 201 rfl
theorem q1044 : (Jvm.Cond.methodLink "NextAtBar$Reade\x72" (153 : Nat) ({ cls := "NextAtBar$Reade\x72", name := "says", desc := "()V" } : Jvm.MethodName)) ∈ lw_all := lw_g (lw_at lw_m4 202 rfl) rfl
theorem q1045 : (Jvm.Cond.privateMethod ({ cls := "NextAtBar$Reade\x72", name := "says", desc := "()V" } : Jvm.MethodName)) ∈ lw_tbl := lw_at lw_m4 203 rfl
theorem q1046 : (Jvm.Cond.instanceMethod ({ cls := "NextAtBar$Reade\x72", name := "says", desc := "()V" } : Jvm.MethodName)) ∈ lw_all := lw_g (lw_at lw_m4 204 rfl) rfl
theorem q1047 : (Jvm.Cond.code ({ cls := "NextAtBar$Reade\x72", name := "says", desc := "()V" } : Jvm.MethodName) prog_13_method_22_code (4 : Nat) (Option.none : Option Jvm.ClassFile.FieldType)) ∈ lw_all := lw_g (lw_at lw_m4 205 rfl) rfl
theorem q1048 : (Jvm.Cond.methodLink "NextAtBar$Reade\x72" (285 : Nat) ({ cls := "NextAtBar$Reade\x72", name := "person", desc := "()I" } : Jvm.MethodName)) ∈ lw_all := lw_g (lw_at lw_m4 206 rfl) rfl
theorem q1049 : (Jvm.Cond.privateMethod ({ cls := "NextAtBar$Reade\x72", name := "person", desc := "()I" } : Jvm.MethodName)) ∈ lw_tbl := lw_at lw_m4 207 rfl
theorem q1050 : (Jvm.Cond.instanceMethod ({ cls := "NextAtBar$Reade\x72", name := "person", desc := "()I" } : Jvm.MethodName)) ∈ lw_all := lw_g (lw_at lw_m4 208 rfl) rfl
theorem q1051 : (Jvm.Cond.code ({ cls := "NextAtBar$Reade\x72", name := "person", desc := "()I" } : Jvm.MethodName) prog_13_method_11_code (2 : Nat) (Option.some Jvm.ClassFile.FieldType.int)) ∈ lw_all := lw_g (lw_at lw_m4 209 rfl) rfl
theorem q1052 : (Jvm.Cond.stringRef "NextAtBar$Reade\x72" (287 : Nat) "before") ∈ lw_tbl := lw_at lw_m4 210 rfl
theorem q1053 : (Jvm.Cond.classLink "NextAtBar$Reade\x72" (289 : Nat) "NextAtBar$Telling") ∈ lw_all := lw_g (lw_at lw_m4 211 rfl) rfl
theorem q1055 : (Jvm.Cond.methodLink "NextAtBar$Reade\x72" (291 : Nat) ({ cls := "NextAtBar$Telling", name := "<init>", desc := "(III)V" } : Jvm.MethodName)) ∈ lw_all := lw_g (lw_at lw_m4 213 rfl) rfl
theorem q1074 : (Jvm.Cond.methodLink "NextAtBar$Reade\x72" (109 : Nat) ({ cls := "java/util/ArrayList", name := "isEmpty", desc := "()Z" } : Jvm.MethodName)) ∈ lw_all := lw_g (lw_at lw_m4 232 rfl) rfl
theorem q2513 : (Jvm.Cond.castable "NextAtBar$Reade\x72" "java/lang/Object") ∈ lw_tbl := lw_at lw_m10 231 rfl
theorem in_X5 : ∀ w ∈ wsX50, w ∈ lw_all := lw_in wsX50 [580, 582, 584, 586, 588] (by decide +kernel) (by decide +kernel)
