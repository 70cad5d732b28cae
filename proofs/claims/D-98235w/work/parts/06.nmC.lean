/-! NextAtBar -/
set_option maxRecDepth 100000
def RX1 : String := "NextAtBa\x72"
def TX1 : u_T := fun k => match k with
  | 0 => ("NextAtBa\x72", "tape", "[B", true)
  | 1 => ("NextAtBa\x72", "taped", "I", false)
  | 2 => ("NextAtBa\x72", "fault", "I", false)
  | 3 => ("NextAtBa\x72", "where", "I", false)
  | 4 => ("NextAtBa\x72", "trouble", "I", false)
  | 5 => ("NextAtBa\x72", "house", "LNextAtBar$House;", false)
  | 6 => ("NextAtBa\x72", "ba\x72", "LNextAtBar$Bar;", false)
  | 7 => ("NextAtBa\x72", "start", "LNextAtBar$Bar;", false)
  | 8 => ("NextAtBa\x72", "evening", "LNextAtBar$Bar;", false)
  | 9 => ("NextAtBa\x72", "tried", "LNextAtBar$Bar;", false)
  | 10 => ("NextAtBa\x72", "isKnown", "Z", false)
  | 11 => ("NextAtBa\x72", "honest", "LNextAtBar$Manner;", true)
  | 12 => ("NextAtBa\x72", "lia\x72", "LNextAtBar$Manner;", true)
  | 13 => ("NextAtBa\x72", "past", "Ljava/util/ArrayList;", true)
  | _ => ("NextAtBa\x72", "images", "Ljava/util/ArrayList;", true)
def tyX1 : Nat → FieldType := fun k => match k with
  | 0 => .array .byte
  | 1 => .int
  | 2 => .int
  | 3 => .int
  | 4 => .int
  | 5 => .object "NextAtBar$House"
  | 6 => .object "NextAtBar$Ba\x72"
  | 7 => .object "NextAtBar$Ba\x72"
  | 8 => .object "NextAtBar$Ba\x72"
  | 9 => .object "NextAtBar$Ba\x72"
  | 10 => .boolean
  | 11 => .object "NextAtBar$Manne\x72"
  | 12 => .object "NextAtBar$Manne\x72"
  | 13 => .object "java/util/ArrayList"
  | _ => .object "java/util/ArrayList"
abbrev wsX10 : List Cond := u_ws RX1 TX1 15
set_option maxRecDepth 100000 in
theorem nmX1 : ∀ a, a < 15 → ∀ b, b < 15 → a ≠ b → (TX1 a).2.1 ≠ (TX1 b).2.1 := by decide +kernel
set_option maxRecDepth 100000 in
theorem tyX1_ok : ∀ k, k < 15 → parseFieldDescriptor (TX1 k).2.2.1 = some (tyX1 k) := by decide +kernel
abbrev cX1_init : ByteArray := prog_1_method_1_code
def yX1_init : MethodName := ⟨RX1, "<init>", "()V"⟩
def dkwX1_init_2 : List UInt8 := [183, 0, 34, 181, 0, 35, 42, 187, 0, 32, 89, 183, 0, 34, 181, 0, 39, 177]
abbrev dktX1_init_2 : List UInt8 := dkwX1_init_2 ++ []
def dkwX1_init_1 : List UInt8 := [183, 0, 19, 181, 0, 22, 42, 187, 0, 26, 89, 16, 30, 183, 0, 28, 181, 0, 29, 42, 187, 0, 32, 89]
abbrev dktX1_init_1 : List UInt8 := dkwX1_init_1 ++ dktX1_init_2
def dkwX1_init_0 : List UInt8 := [42, 183, 0, 1, 42, 17, 3, 232, 188, 8, 181, 0, 9, 42, 2, 181, 0, 13, 42, 187, 0, 17, 89, 3]
abbrev dktX1_init_0 : List UInt8 := dkwX1_init_0 ++ dktX1_init_1
theorem dksX1_init_0 : cX1_init.data.toList.drop 0 = dktX1_init_0 := by decide +kernel
theorem dksX1_init_1 : cX1_init.data.toList.drop 24 = dktX1_init_1 := dk_seg dksX1_init_0 24 rfl rfl
theorem dksX1_init_2 : cX1_init.data.toList.drop 48 = dktX1_init_2 := dk_seg dksX1_init_1 24 rfl rfl
theorem dX1_init_0 : decode cX1_init 0 = .ok (.aload_n 0, 1) := dk_42 (dk_at dksX1_init_0 0 rfl rfl)
theorem dX1_init_1 : decode cX1_init 1 = .ok (.invokespecial 1, 3) := dk_183 0 1 (dk_at dksX1_init_0 1 rfl rfl)
theorem dX1_init_4 : decode cX1_init 4 = .ok (.aload_n 0, 1) := dk_42 (dk_at dksX1_init_0 4 rfl rfl)
theorem dX1_init_5 : decode cX1_init 5 = .ok (.sipush 1000, 3) := dk_17 3 232 (dk_at dksX1_init_0 5 rfl rfl)
theorem dX1_init_8 : decode cX1_init 8 = .ok (.newarray .byte, 2) := dk_188_8 (dk_at dksX1_init_0 8 rfl rfl)
theorem dX1_init_10 : decode cX1_init 10 = .ok (.putfield 9, 3) := dk_181 0 9 (dk_at dksX1_init_0 10 rfl rfl)
theorem dX1_init_13 : decode cX1_init 13 = .ok (.aload_n 0, 1) := dk_42 (dk_at dksX1_init_0 13 rfl rfl)
theorem dX1_init_14 : decode cX1_init 14 = .ok (.iconst (-1), 1) := dk_2 (dk_at dksX1_init_0 14 rfl rfl)
theorem dX1_init_15 : decode cX1_init 15 = .ok (.putfield 13, 3) := dk_181 0 13 (dk_at dksX1_init_0 15 rfl rfl)
theorem dX1_init_18 : decode cX1_init 18 = .ok (.aload_n 0, 1) := dk_42 (dk_at dksX1_init_0 18 rfl rfl)
theorem dX1_init_19 : decode cX1_init 19 = .ok (.new 17, 3) := dk_187 0 17 (dk_at dksX1_init_0 19 rfl rfl)
theorem dX1_init_22 : decode cX1_init 22 = .ok (.dup, 1) := dk_89 (dk_at dksX1_init_0 22 rfl rfl)
theorem dX1_init_23 : decode cX1_init 23 = .ok (.iconst 0, 1) := dk_3 (dk_at dksX1_init_0 23 rfl rfl)
theorem dX1_init_24 : decode cX1_init 24 = .ok (.invokespecial 19, 3) := dk_183 0 19 (dk_at dksX1_init_1 0 rfl rfl)
theorem dX1_init_27 : decode cX1_init 27 = .ok (.putfield 22, 3) := dk_181 0 22 (dk_at dksX1_init_1 3 rfl rfl)
theorem dX1_init_30 : decode cX1_init 30 = .ok (.aload_n 0, 1) := dk_42 (dk_at dksX1_init_1 6 rfl rfl)
theorem dX1_init_31 : decode cX1_init 31 = .ok (.new 26, 3) := dk_187 0 26 (dk_at dksX1_init_1 7 rfl rfl)
theorem dX1_init_34 : decode cX1_init 34 = .ok (.dup, 1) := dk_89 (dk_at dksX1_init_1 10 rfl rfl)
theorem dX1_init_35 : decode cX1_init 35 = .ok (.bipush 30, 2) := dk_16 30 (dk_at dksX1_init_1 11 rfl rfl)
theorem dX1_init_37 : decode cX1_init 37 = .ok (.invokespecial 28, 3) := dk_183 0 28 (dk_at dksX1_init_1 13 rfl rfl)
theorem dX1_init_40 : decode cX1_init 40 = .ok (.putfield 29, 3) := dk_181 0 29 (dk_at dksX1_init_1 16 rfl rfl)
theorem dX1_init_43 : decode cX1_init 43 = .ok (.aload_n 0, 1) := dk_42 (dk_at dksX1_init_1 19 rfl rfl)
theorem dX1_init_44 : decode cX1_init 44 = .ok (.new 32, 3) := dk_187 0 32 (dk_at dksX1_init_1 20 rfl rfl)
theorem dX1_init_47 : decode cX1_init 47 = .ok (.dup, 1) := dk_89 (dk_at dksX1_init_1 23 rfl rfl)
theorem dX1_init_48 : decode cX1_init 48 = .ok (.invokespecial 34, 3) := dk_183 0 34 (dk_at dksX1_init_2 0 rfl rfl)
theorem dX1_init_51 : decode cX1_init 51 = .ok (.putfield 35, 3) := dk_181 0 35 (dk_at dksX1_init_2 3 rfl rfl)
theorem dX1_init_54 : decode cX1_init 54 = .ok (.aload_n 0, 1) := dk_42 (dk_at dksX1_init_2 6 rfl rfl)
theorem dX1_init_55 : decode cX1_init 55 = .ok (.new 32, 3) := dk_187 0 32 (dk_at dksX1_init_2 7 rfl rfl)
theorem dX1_init_58 : decode cX1_init 58 = .ok (.dup, 1) := dk_89 (dk_at dksX1_init_2 10 rfl rfl)
theorem dX1_init_59 : decode cX1_init 59 = .ok (.invokespecial 34, 3) := dk_183 0 34 (dk_at dksX1_init_2 11 rfl rfl)
theorem dX1_init_62 : decode cX1_init 62 = .ok (.putfield 39, 3) := dk_181 0 39 (dk_at dksX1_init_2 14 rfl rfl)
theorem dX1_init_65 : decode cX1_init 65 = .ok (.return_, 1) := dk_177 (dk_at dksX1_init_2 17 rfl rfl)
abbrev cX1_feed : ByteArray := prog_1_method_12_code
def yX1_feed : MethodName := ⟨RX1, "feed", "(IIIII)I"⟩
def dkwX1_feed_5 : List UInt8 := [180, 0, 73, 172]
abbrev dktX1_feed_5 : List UInt8 := dkwX1_feed_5 ++ []
def dkwX1_feed_4 : List UInt8 := [112, 104, 100, 124, 145, 84, 132, 6, 1, 167, 255, 172, 42, 89, 180, 0, 73, 16, 20, 96, 181, 0, 73, 42]
abbrev dktX1_feed_4 : List UInt8 := dkwX1_feed_4 ++ dktX1_feed_5
def dkwX1_feed_3 : List UInt8 := [21, 5, 54, 7, 42, 180, 0, 9, 42, 180, 0, 73, 21, 6, 96, 21, 7, 16, 24, 16, 8, 21, 6, 7]
abbrev dktX1_feed_3 : List UInt8 := dkwX1_feed_3 ++ dktX1_feed_4
def dkwX1_feed_2 : List UInt8 := [21, 6, 16, 12, 162, 0, 7, 29, 167, 0, 17, 21, 6, 16, 16, 162, 0, 8, 21, 4, 167, 0, 5]
abbrev dktX1_feed_2 : List UInt8 := dkwX1_feed_2 ++ dktX1_feed_3
def dkwX1_feed_1 : List UInt8 := [162, 0, 83, 21, 6, 7, 162, 0, 7, 27, 167, 0, 39, 21, 6, 16, 8, 162, 0, 7, 28, 167, 0, 28]
abbrev dktX1_feed_1 : List UInt8 := dkwX1_feed_1 ++ dktX1_feed_2
def dkwX1_feed_0 : List UInt8 := [42, 180, 0, 73, 16, 20, 96, 17, 3, 232, 164, 0, 5, 2, 172, 3, 54, 6, 21, 6, 16, 20]
abbrev dktX1_feed_0 : List UInt8 := dkwX1_feed_0 ++ dktX1_feed_1
theorem dksX1_feed_0 : cX1_feed.data.toList.drop 0 = dktX1_feed_0 := by decide +kernel
theorem dksX1_feed_1 : cX1_feed.data.toList.drop 22 = dktX1_feed_1 := dk_seg dksX1_feed_0 22 rfl rfl
theorem dksX1_feed_2 : cX1_feed.data.toList.drop 46 = dktX1_feed_2 := dk_seg dksX1_feed_1 24 rfl rfl
theorem dksX1_feed_3 : cX1_feed.data.toList.drop 69 = dktX1_feed_3 := dk_seg dksX1_feed_2 23 rfl rfl
theorem dksX1_feed_4 : cX1_feed.data.toList.drop 93 = dktX1_feed_4 := dk_seg dksX1_feed_3 24 rfl rfl
theorem dksX1_feed_5 : cX1_feed.data.toList.drop 117 = dktX1_feed_5 := dk_seg dksX1_feed_4 24 rfl rfl
theorem dX1_feed_0 : decode cX1_feed 0 = .ok (.aload_n 0, 1) := dk_42 (dk_at dksX1_feed_0 0 rfl rfl)
theorem dX1_feed_1 : decode cX1_feed 1 = .ok (.getfield 73, 3) := dk_180 0 73 (dk_at dksX1_feed_0 1 rfl rfl)
theorem dX1_feed_4 : decode cX1_feed 4 = .ok (.bipush 20, 2) := dk_16 20 (dk_at dksX1_feed_0 4 rfl rfl)
theorem dX1_feed_6 : decode cX1_feed 6 = .ok (.iadd, 1) := dk_96 (dk_at dksX1_feed_0 6 rfl rfl)
theorem dX1_feed_7 : decode cX1_feed 7 = .ok (.sipush 1000, 3) := dk_17 3 232 (dk_at dksX1_feed_0 7 rfl rfl)
theorem dX1_feed_10 : decode cX1_feed 10 = .ok (.if_icmp .le 5, 3) := dk_164 0 5 (dk_at dksX1_feed_0 10 rfl rfl)
theorem dX1_feed_13 : decode cX1_feed 13 = .ok (.iconst (-1), 1) := dk_2 (dk_at dksX1_feed_0 13 rfl rfl)
theorem dX1_feed_14 : decode cX1_feed 14 = .ok (.ireturn, 1) := dk_172 (dk_at dksX1_feed_0 14 rfl rfl)
theorem dX1_feed_15 : decode cX1_feed 15 = .ok (.iconst 0, 1) := dk_3 (dk_at dksX1_feed_0 15 rfl rfl)
theorem dX1_feed_16 : decode cX1_feed 16 = .ok (.istore 6, 2) := dk_54 6 (dk_at dksX1_feed_0 16 rfl rfl)
theorem dX1_feed_18 : decode cX1_feed 18 = .ok (.iload 6, 2) := dk_21 6 (dk_at dksX1_feed_0 18 rfl rfl)
theorem dX1_feed_20 : decode cX1_feed 20 = .ok (.bipush 20, 2) := dk_16 20 (dk_at dksX1_feed_0 20 rfl rfl)
theorem dX1_feed_22 : decode cX1_feed 22 = .ok (.if_icmp .ge 83, 3) := dk_162 0 83 (dk_at dksX1_feed_1 0 rfl rfl)
theorem dX1_feed_25 : decode cX1_feed 25 = .ok (.iload 6, 2) := dk_21 6 (dk_at dksX1_feed_1 3 rfl rfl)
theorem dX1_feed_27 : decode cX1_feed 27 = .ok (.iconst 4, 1) := dk_7 (dk_at dksX1_feed_1 5 rfl rfl)
theorem dX1_feed_28 : decode cX1_feed 28 = .ok (.if_icmp .ge 7, 3) := dk_162 0 7 (dk_at dksX1_feed_1 6 rfl rfl)
theorem dX1_feed_31 : decode cX1_feed 31 = .ok (.iload_n 1, 1) := dk_27 (dk_at dksX1_feed_1 9 rfl rfl)
theorem dX1_feed_32 : decode cX1_feed 32 = .ok (.goto 39, 3) := dk_167 0 39 (dk_at dksX1_feed_1 10 rfl rfl)
theorem dX1_feed_35 : decode cX1_feed 35 = .ok (.iload 6, 2) := dk_21 6 (dk_at dksX1_feed_1 13 rfl rfl)
theorem dX1_feed_37 : decode cX1_feed 37 = .ok (.bipush 8, 2) := dk_16 8 (dk_at dksX1_feed_1 15 rfl rfl)
theorem dX1_feed_39 : decode cX1_feed 39 = .ok (.if_icmp .ge 7, 3) := dk_162 0 7 (dk_at dksX1_feed_1 17 rfl rfl)
theorem dX1_feed_42 : decode cX1_feed 42 = .ok (.iload_n 2, 1) := dk_28 (dk_at dksX1_feed_1 20 rfl rfl)
theorem dX1_feed_43 : decode cX1_feed 43 = .ok (.goto 28, 3) := dk_167 0 28 (dk_at dksX1_feed_1 21 rfl rfl)
theorem dX1_feed_46 : decode cX1_feed 46 = .ok (.iload 6, 2) := dk_21 6 (dk_at dksX1_feed_2 0 rfl rfl)
theorem dX1_feed_48 : decode cX1_feed 48 = .ok (.bipush 12, 2) := dk_16 12 (dk_at dksX1_feed_2 2 rfl rfl)
theorem dX1_feed_50 : decode cX1_feed 50 = .ok (.if_icmp .ge 7, 3) := dk_162 0 7 (dk_at dksX1_feed_2 4 rfl rfl)
theorem dX1_feed_53 : decode cX1_feed 53 = .ok (.iload_n 3, 1) := dk_29 (dk_at dksX1_feed_2 7 rfl rfl)
theorem dX1_feed_54 : decode cX1_feed 54 = .ok (.goto 17, 3) := dk_167 0 17 (dk_at dksX1_feed_2 8 rfl rfl)
theorem dX1_feed_57 : decode cX1_feed 57 = .ok (.iload 6, 2) := dk_21 6 (dk_at dksX1_feed_2 11 rfl rfl)
theorem dX1_feed_59 : decode cX1_feed 59 = .ok (.bipush 16, 2) := dk_16 16 (dk_at dksX1_feed_2 13 rfl rfl)
theorem dX1_feed_61 : decode cX1_feed 61 = .ok (.if_icmp .ge 8, 3) := dk_162 0 8 (dk_at dksX1_feed_2 15 rfl rfl)
theorem dX1_feed_64 : decode cX1_feed 64 = .ok (.iload 4, 2) := dk_21 4 (dk_at dksX1_feed_2 18 rfl rfl)
theorem dX1_feed_66 : decode cX1_feed 66 = .ok (.goto 5, 3) := dk_167 0 5 (dk_at dksX1_feed_2 20 rfl rfl)
theorem dX1_feed_69 : decode cX1_feed 69 = .ok (.iload 5, 2) := dk_21 5 (dk_at dksX1_feed_3 0 rfl rfl)
theorem dX1_feed_71 : decode cX1_feed 71 = .ok (.istore 7, 2) := dk_54 7 (dk_at dksX1_feed_3 2 rfl rfl)
theorem dX1_feed_73 : decode cX1_feed 73 = .ok (.aload_n 0, 1) := dk_42 (dk_at dksX1_feed_3 4 rfl rfl)
theorem dX1_feed_74 : decode cX1_feed 74 = .ok (.getfield 9, 3) := dk_180 0 9 (dk_at dksX1_feed_3 5 rfl rfl)
theorem dX1_feed_77 : decode cX1_feed 77 = .ok (.aload_n 0, 1) := dk_42 (dk_at dksX1_feed_3 8 rfl rfl)
theorem dX1_feed_78 : decode cX1_feed 78 = .ok (.getfield 73, 3) := dk_180 0 73 (dk_at dksX1_feed_3 9 rfl rfl)
theorem dX1_feed_81 : decode cX1_feed 81 = .ok (.iload 6, 2) := dk_21 6 (dk_at dksX1_feed_3 12 rfl rfl)
theorem dX1_feed_83 : decode cX1_feed 83 = .ok (.iadd, 1) := dk_96 (dk_at dksX1_feed_3 14 rfl rfl)
theorem dX1_feed_84 : decode cX1_feed 84 = .ok (.iload 7, 2) := dk_21 7 (dk_at dksX1_feed_3 15 rfl rfl)
theorem dX1_feed_86 : decode cX1_feed 86 = .ok (.bipush 24, 2) := dk_16 24 (dk_at dksX1_feed_3 17 rfl rfl)
theorem dX1_feed_88 : decode cX1_feed 88 = .ok (.bipush 8, 2) := dk_16 8 (dk_at dksX1_feed_3 19 rfl rfl)
theorem dX1_feed_90 : decode cX1_feed 90 = .ok (.iload 6, 2) := dk_21 6 (dk_at dksX1_feed_3 21 rfl rfl)
theorem dX1_feed_92 : decode cX1_feed 92 = .ok (.iconst 4, 1) := dk_7 (dk_at dksX1_feed_3 23 rfl rfl)
theorem dX1_feed_93 : decode cX1_feed 93 = .ok (.irem, 1) := dk_112 (dk_at dksX1_feed_4 0 rfl rfl)
theorem dX1_feed_94 : decode cX1_feed 94 = .ok (.imul, 1) := dk_104 (dk_at dksX1_feed_4 1 rfl rfl)
theorem dX1_feed_95 : decode cX1_feed 95 = .ok (.isub, 1) := dk_100 (dk_at dksX1_feed_4 2 rfl rfl)
theorem dX1_feed_96 : decode cX1_feed 96 = .ok (.iushr, 1) := dk_124 (dk_at dksX1_feed_4 3 rfl rfl)
theorem dX1_feed_97 : decode cX1_feed 97 = .ok (.i2b, 1) := dk_145 (dk_at dksX1_feed_4 4 rfl rfl)
theorem dX1_feed_98 : decode cX1_feed 98 = .ok (.bastore, 1) := dk_84 (dk_at dksX1_feed_4 5 rfl rfl)
theorem dX1_feed_99 : decode cX1_feed 99 = .ok (.iinc 6 1, 3) := dk_132 6 1 (dk_at dksX1_feed_4 6 rfl rfl)
theorem dX1_feed_102 : decode cX1_feed 102 = .ok (.goto (-84), 3) := dk_167 255 172 (dk_at dksX1_feed_4 9 rfl rfl)
theorem dX1_feed_105 : decode cX1_feed 105 = .ok (.aload_n 0, 1) := dk_42 (dk_at dksX1_feed_4 12 rfl rfl)
theorem dX1_feed_106 : decode cX1_feed 106 = .ok (.dup, 1) := dk_89 (dk_at dksX1_feed_4 13 rfl rfl)
theorem dX1_feed_107 : decode cX1_feed 107 = .ok (.getfield 73, 3) := dk_180 0 73 (dk_at dksX1_feed_4 14 rfl rfl)
theorem dX1_feed_110 : decode cX1_feed 110 = .ok (.bipush 20, 2) := dk_16 20 (dk_at dksX1_feed_4 17 rfl rfl)
theorem dX1_feed_112 : decode cX1_feed 112 = .ok (.iadd, 1) := dk_96 (dk_at dksX1_feed_4 19 rfl rfl)
theorem dX1_feed_113 : decode cX1_feed 113 = .ok (.putfield 73, 3) := dk_181 0 73 (dk_at dksX1_feed_4 20 rfl rfl)
theorem dX1_feed_116 : decode cX1_feed 116 = .ok (.aload_n 0, 1) := dk_42 (dk_at dksX1_feed_4 23 rfl rfl)
theorem dX1_feed_117 : decode cX1_feed 117 = .ok (.getfield 73, 3) := dk_180 0 73 (dk_at dksX1_feed_5 0 rfl rfl)
theorem dX1_feed_120 : decode cX1_feed 120 = .ok (.ireturn, 1) := dk_172 (dk_at dksX1_feed_5 3 rfl rfl)
abbrev cX1_house : ByteArray := prog_1_method_13_code
def yX1_house : MethodName := ⟨RX1, "house", "(I)I"⟩
def dkwX1_house_7 : List UInt8 := [180, 0, 131, 182, 0, 136, 182, 0, 70, 172]
abbrev dktX1_house_7 : List UInt8 := dkwX1_house_7 ++ []
def dkwX1_house_6 : List UInt8 := [182, 0, 124, 42, 180, 0, 35, 182, 0, 128, 42, 180, 0, 39, 182, 0, 128, 42, 42, 180, 0, 101]
abbrev dktX1_house_6 : List UInt8 := dkwX1_house_6 ++ dktX1_house_7
def dkwX1_house_5 : List UInt8 := [187, 0, 105, 89, 42, 180, 0, 101, 183, 0, 107, 181, 0, 117, 42, 42, 180, 0, 110, 182, 0, 120]
abbrev dktX1_house_5 : List UInt8 := dkwX1_house_5 ++ dktX1_house_6
def dkwX1_house_4 : List UInt8 := [183, 0, 107, 181, 0, 110, 42, 187, 0, 105, 89, 42, 180, 0, 101, 183, 0, 107, 181, 0, 114, 42]
abbrev dktX1_house_4 : List UInt8 := dkwX1_house_4 ++ dktX1_house_5
def dkwX1_house_3 : List UInt8 := [180, 0, 98, 181, 0, 13, 2, 172, 42, 45, 181, 0, 101, 42, 187, 0, 105, 89, 42, 180, 0, 101]
abbrev dktX1_house_3 : List UInt8 := dkwX1_house_3 ++ dktX1_house_4
def dkwX1_house_2 : List UInt8 := [182, 0, 90, 78, 42, 44, 180, 0, 94, 181, 0, 97, 45, 199, 0, 18, 42, 7, 181, 0, 63, 42, 44]
abbrev dktX1_house_2 : List UInt8 := dkwX1_house_2 ++ dktX1_house_3
def dkwX1_house_1 : List UInt8 := [187, 0, 82, 89, 42, 180, 0, 9, 27, 183, 0, 84, 183, 0, 87, 77, 42, 3, 181, 0, 73, 44]
abbrev dktX1_house_1 : List UInt8 := dkwX1_house_1 ++ dktX1_house_2
def dkwX1_house_0 : List UInt8 := [27, 3, 42, 180, 0, 73, 184, 0, 76, 154, 0, 9, 42, 5, 182, 0, 66, 172, 187, 0, 80, 89]
abbrev dktX1_house_0 : List UInt8 := dkwX1_house_0 ++ dktX1_house_1
theorem dksX1_house_0 : cX1_house.data.toList.drop 0 = dktX1_house_0 := by decide +kernel
theorem dksX1_house_1 : cX1_house.data.toList.drop 22 = dktX1_house_1 := dk_seg dksX1_house_0 22 rfl rfl
theorem dksX1_house_2 : cX1_house.data.toList.drop 44 = dktX1_house_2 := dk_seg dksX1_house_1 22 rfl rfl
theorem dksX1_house_3 : cX1_house.data.toList.drop 67 = dktX1_house_3 := dk_seg dksX1_house_2 23 rfl rfl
theorem dksX1_house_4 : cX1_house.data.toList.drop 89 = dktX1_house_4 := dk_seg dksX1_house_3 22 rfl rfl
theorem dksX1_house_5 : cX1_house.data.toList.drop 111 = dktX1_house_5 := dk_seg dksX1_house_4 22 rfl rfl
theorem dksX1_house_6 : cX1_house.data.toList.drop 133 = dktX1_house_6 := dk_seg dksX1_house_5 22 rfl rfl
theorem dksX1_house_7 : cX1_house.data.toList.drop 155 = dktX1_house_7 := dk_seg dksX1_house_6 22 rfl rfl
theorem dX1_house_0 : decode cX1_house 0 = .ok (.iload_n 1, 1) := dk_27 (dk_at dksX1_house_0 0 rfl rfl)
theorem dX1_house_1 : decode cX1_house 1 = .ok (.iconst 0, 1) := dk_3 (dk_at dksX1_house_0 1 rfl rfl)
theorem dX1_house_2 : decode cX1_house 2 = .ok (.aload_n 0, 1) := dk_42 (dk_at dksX1_house_0 2 rfl rfl)
theorem dX1_house_3 : decode cX1_house 3 = .ok (.getfield 73, 3) := dk_180 0 73 (dk_at dksX1_house_0 3 rfl rfl)
theorem dX1_house_6 : decode cX1_house 6 = .ok (.invokestatic 76, 3) := dk_184 0 76 (dk_at dksX1_house_0 6 rfl rfl)
theorem dX1_house_9 : decode cX1_house 9 = .ok (.ifCond .ne 9, 3) := dk_154 0 9 (dk_at dksX1_house_0 9 rfl rfl)
theorem dX1_house_12 : decode cX1_house 12 = .ok (.aload_n 0, 1) := dk_42 (dk_at dksX1_house_0 12 rfl rfl)
theorem dX1_house_13 : decode cX1_house 13 = .ok (.iconst 2, 1) := dk_5 (dk_at dksX1_house_0 13 rfl rfl)
theorem dX1_house_14 : decode cX1_house 14 = .ok (.invokevirtual 66, 3) := dk_182 0 66 (dk_at dksX1_house_0 14 rfl rfl)
theorem dX1_house_17 : decode cX1_house 17 = .ok (.ireturn, 1) := dk_172 (dk_at dksX1_house_0 17 rfl rfl)
theorem dX1_house_18 : decode cX1_house 18 = .ok (.new 80, 3) := dk_187 0 80 (dk_at dksX1_house_0 18 rfl rfl)
theorem dX1_house_21 : decode cX1_house 21 = .ok (.dup, 1) := dk_89 (dk_at dksX1_house_0 21 rfl rfl)
theorem dX1_house_22 : decode cX1_house 22 = .ok (.new 82, 3) := dk_187 0 82 (dk_at dksX1_house_1 0 rfl rfl)
theorem dX1_house_25 : decode cX1_house 25 = .ok (.dup, 1) := dk_89 (dk_at dksX1_house_1 3 rfl rfl)
theorem dX1_house_26 : decode cX1_house 26 = .ok (.aload_n 0, 1) := dk_42 (dk_at dksX1_house_1 4 rfl rfl)
theorem dX1_house_27 : decode cX1_house 27 = .ok (.getfield 9, 3) := dk_180 0 9 (dk_at dksX1_house_1 5 rfl rfl)
theorem dX1_house_30 : decode cX1_house 30 = .ok (.iload_n 1, 1) := dk_27 (dk_at dksX1_house_1 8 rfl rfl)
theorem dX1_house_31 : decode cX1_house 31 = .ok (.invokespecial 84, 3) := dk_183 0 84 (dk_at dksX1_house_1 9 rfl rfl)
theorem dX1_house_34 : decode cX1_house 34 = .ok (.invokespecial 87, 3) := dk_183 0 87 (dk_at dksX1_house_1 12 rfl rfl)
theorem dX1_house_37 : decode cX1_house 37 = .ok (.astore_n 2, 1) := dk_77 (dk_at dksX1_house_1 15 rfl rfl)
theorem dX1_house_38 : decode cX1_house 38 = .ok (.aload_n 0, 1) := dk_42 (dk_at dksX1_house_1 16 rfl rfl)
theorem dX1_house_39 : decode cX1_house 39 = .ok (.iconst 0, 1) := dk_3 (dk_at dksX1_house_1 17 rfl rfl)
theorem dX1_house_40 : decode cX1_house 40 = .ok (.putfield 73, 3) := dk_181 0 73 (dk_at dksX1_house_1 18 rfl rfl)
theorem dX1_house_43 : decode cX1_house 43 = .ok (.aload_n 2, 1) := dk_44 (dk_at dksX1_house_1 21 rfl rfl)
theorem dX1_house_44 : decode cX1_house 44 = .ok (.invokevirtual 90, 3) := dk_182 0 90 (dk_at dksX1_house_2 0 rfl rfl)
theorem dX1_house_47 : decode cX1_house 47 = .ok (.astore_n 3, 1) := dk_78 (dk_at dksX1_house_2 3 rfl rfl)
theorem dX1_house_48 : decode cX1_house 48 = .ok (.aload_n 0, 1) := dk_42 (dk_at dksX1_house_2 4 rfl rfl)
theorem dX1_house_49 : decode cX1_house 49 = .ok (.aload_n 2, 1) := dk_44 (dk_at dksX1_house_2 5 rfl rfl)
theorem dX1_house_50 : decode cX1_house 50 = .ok (.getfield 94, 3) := dk_180 0 94 (dk_at dksX1_house_2 6 rfl rfl)
theorem dX1_house_53 : decode cX1_house 53 = .ok (.putfield 97, 3) := dk_181 0 97 (dk_at dksX1_house_2 9 rfl rfl)
theorem dX1_house_56 : decode cX1_house 56 = .ok (.aload_n 3, 1) := dk_45 (dk_at dksX1_house_2 12 rfl rfl)
theorem dX1_house_57 : decode cX1_house 57 = .ok (.ifnonnull 18, 3) := dk_199 0 18 (dk_at dksX1_house_2 13 rfl rfl)
theorem dX1_house_60 : decode cX1_house 60 = .ok (.aload_n 0, 1) := dk_42 (dk_at dksX1_house_2 16 rfl rfl)
theorem dX1_house_61 : decode cX1_house 61 = .ok (.iconst 4, 1) := dk_7 (dk_at dksX1_house_2 17 rfl rfl)
theorem dX1_house_62 : decode cX1_house 62 = .ok (.putfield 63, 3) := dk_181 0 63 (dk_at dksX1_house_2 18 rfl rfl)
theorem dX1_house_65 : decode cX1_house 65 = .ok (.aload_n 0, 1) := dk_42 (dk_at dksX1_house_2 21 rfl rfl)
theorem dX1_house_66 : decode cX1_house 66 = .ok (.aload_n 2, 1) := dk_44 (dk_at dksX1_house_2 22 rfl rfl)
theorem dX1_house_67 : decode cX1_house 67 = .ok (.getfield 98, 3) := dk_180 0 98 (dk_at dksX1_house_3 0 rfl rfl)
theorem dX1_house_70 : decode cX1_house 70 = .ok (.putfield 13, 3) := dk_181 0 13 (dk_at dksX1_house_3 3 rfl rfl)
theorem dX1_house_73 : decode cX1_house 73 = .ok (.iconst (-1), 1) := dk_2 (dk_at dksX1_house_3 6 rfl rfl)
theorem dX1_house_74 : decode cX1_house 74 = .ok (.ireturn, 1) := dk_172 (dk_at dksX1_house_3 7 rfl rfl)
theorem dX1_house_75 : decode cX1_house 75 = .ok (.aload_n 0, 1) := dk_42 (dk_at dksX1_house_3 8 rfl rfl)
theorem dX1_house_76 : decode cX1_house 76 = .ok (.aload_n 3, 1) := dk_45 (dk_at dksX1_house_3 9 rfl rfl)
theorem dX1_house_77 : decode cX1_house 77 = .ok (.putfield 101, 3) := dk_181 0 101 (dk_at dksX1_house_3 10 rfl rfl)
theorem dX1_house_80 : decode cX1_house 80 = .ok (.aload_n 0, 1) := dk_42 (dk_at dksX1_house_3 13 rfl rfl)
theorem dX1_house_81 : decode cX1_house 81 = .ok (.new 105, 3) := dk_187 0 105 (dk_at dksX1_house_3 14 rfl rfl)
theorem dX1_house_84 : decode cX1_house 84 = .ok (.dup, 1) := dk_89 (dk_at dksX1_house_3 17 rfl rfl)
theorem dX1_house_85 : decode cX1_house 85 = .ok (.aload_n 0, 1) := dk_42 (dk_at dksX1_house_3 18 rfl rfl)
theorem dX1_house_86 : decode cX1_house 86 = .ok (.getfield 101, 3) := dk_180 0 101 (dk_at dksX1_house_3 19 rfl rfl)
theorem dX1_house_89 : decode cX1_house 89 = .ok (.invokespecial 107, 3) := dk_183 0 107 (dk_at dksX1_house_4 0 rfl rfl)
theorem dX1_house_92 : decode cX1_house 92 = .ok (.putfield 110, 3) := dk_181 0 110 (dk_at dksX1_house_4 3 rfl rfl)
theorem dX1_house_95 : decode cX1_house 95 = .ok (.aload_n 0, 1) := dk_42 (dk_at dksX1_house_4 6 rfl rfl)
theorem dX1_house_96 : decode cX1_house 96 = .ok (.new 105, 3) := dk_187 0 105 (dk_at dksX1_house_4 7 rfl rfl)
theorem dX1_house_99 : decode cX1_house 99 = .ok (.dup, 1) := dk_89 (dk_at dksX1_house_4 10 rfl rfl)
theorem dX1_house_100 : decode cX1_house 100 = .ok (.aload_n 0, 1) := dk_42 (dk_at dksX1_house_4 11 rfl rfl)
theorem dX1_house_101 : decode cX1_house 101 = .ok (.getfield 101, 3) := dk_180 0 101 (dk_at dksX1_house_4 12 rfl rfl)
theorem dX1_house_104 : decode cX1_house 104 = .ok (.invokespecial 107, 3) := dk_183 0 107 (dk_at dksX1_house_4 15 rfl rfl)
theorem dX1_house_107 : decode cX1_house 107 = .ok (.putfield 114, 3) := dk_181 0 114 (dk_at dksX1_house_4 18 rfl rfl)
theorem dX1_house_110 : decode cX1_house 110 = .ok (.aload_n 0, 1) := dk_42 (dk_at dksX1_house_4 21 rfl rfl)
theorem dX1_house_111 : decode cX1_house 111 = .ok (.new 105, 3) := dk_187 0 105 (dk_at dksX1_house_5 0 rfl rfl)
theorem dX1_house_114 : decode cX1_house 114 = .ok (.dup, 1) := dk_89 (dk_at dksX1_house_5 3 rfl rfl)
theorem dX1_house_115 : decode cX1_house 115 = .ok (.aload_n 0, 1) := dk_42 (dk_at dksX1_house_5 4 rfl rfl)
theorem dX1_house_116 : decode cX1_house 116 = .ok (.getfield 101, 3) := dk_180 0 101 (dk_at dksX1_house_5 5 rfl rfl)
theorem dX1_house_119 : decode cX1_house 119 = .ok (.invokespecial 107, 3) := dk_183 0 107 (dk_at dksX1_house_5 8 rfl rfl)
theorem dX1_house_122 : decode cX1_house 122 = .ok (.putfield 117, 3) := dk_181 0 117 (dk_at dksX1_house_5 11 rfl rfl)
theorem dX1_house_125 : decode cX1_house 125 = .ok (.aload_n 0, 1) := dk_42 (dk_at dksX1_house_5 14 rfl rfl)
theorem dX1_house_126 : decode cX1_house 126 = .ok (.aload_n 0, 1) := dk_42 (dk_at dksX1_house_5 15 rfl rfl)
theorem dX1_house_127 : decode cX1_house 127 = .ok (.getfield 110, 3) := dk_180 0 110 (dk_at dksX1_house_5 16 rfl rfl)
theorem dX1_house_130 : decode cX1_house 130 = .ok (.invokevirtual 120, 3) := dk_182 0 120 (dk_at dksX1_house_5 19 rfl rfl)
theorem dX1_house_133 : decode cX1_house 133 = .ok (.invokevirtual 124, 3) := dk_182 0 124 (dk_at dksX1_house_6 0 rfl rfl)
theorem dX1_house_136 : decode cX1_house 136 = .ok (.aload_n 0, 1) := dk_42 (dk_at dksX1_house_6 3 rfl rfl)
theorem dX1_house_137 : decode cX1_house 137 = .ok (.getfield 35, 3) := dk_180 0 35 (dk_at dksX1_house_6 4 rfl rfl)
theorem dX1_house_140 : decode cX1_house 140 = .ok (.invokevirtual 128, 3) := dk_182 0 128 (dk_at dksX1_house_6 7 rfl rfl)
theorem dX1_house_143 : decode cX1_house 143 = .ok (.aload_n 0, 1) := dk_42 (dk_at dksX1_house_6 10 rfl rfl)
theorem dX1_house_144 : decode cX1_house 144 = .ok (.getfield 39, 3) := dk_180 0 39 (dk_at dksX1_house_6 11 rfl rfl)
theorem dX1_house_147 : decode cX1_house 147 = .ok (.invokevirtual 128, 3) := dk_182 0 128 (dk_at dksX1_house_6 14 rfl rfl)
theorem dX1_house_150 : decode cX1_house 150 = .ok (.aload_n 0, 1) := dk_42 (dk_at dksX1_house_6 17 rfl rfl)
theorem dX1_house_151 : decode cX1_house 151 = .ok (.aload_n 0, 1) := dk_42 (dk_at dksX1_house_6 18 rfl rfl)
theorem dX1_house_152 : decode cX1_house 152 = .ok (.getfield 101, 3) := dk_180 0 101 (dk_at dksX1_house_6 19 rfl rfl)
theorem dX1_house_155 : decode cX1_house 155 = .ok (.getfield 131, 3) := dk_180 0 131 (dk_at dksX1_house_7 0 rfl rfl)
theorem dX1_house_158 : decode cX1_house 158 = .ok (.invokevirtual 136, 3) := dk_182 0 136 (dk_at dksX1_house_7 3 rfl rfl)
theorem dX1_house_161 : decode cX1_house 161 = .ok (.invokevirtual 70, 3) := dk_182 0 70 (dk_at dksX1_house_7 6 rfl rfl)
theorem dX1_house_164 : decode cX1_house 164 = .ok (.ireturn, 1) := dk_172 (dk_at dksX1_house_7 9 rfl rfl)
abbrev cX1_in : ByteArray := prog_1_method_2_code
def yX1_in : MethodName := ⟨RX1, "in", "(III)Z"⟩
def dkwX1_in_0 : List UInt8 := [26, 27, 161, 0, 12, 26, 28, 163, 0, 7, 4, 167, 0, 4, 3, 172]
abbrev dktX1_in_0 : List UInt8 := dkwX1_in_0 ++ []
theorem dksX1_in_0 : cX1_in.data.toList.drop 0 = dktX1_in_0 := by decide +kernel
theorem dX1_in_0 : decode cX1_in 0 = .ok (.iload_n 0, 1) := dk_26 (dk_at dksX1_in_0 0 rfl rfl)
theorem dX1_in_1 : decode cX1_in 1 = .ok (.iload_n 1, 1) := dk_27 (dk_at dksX1_in_0 1 rfl rfl)
theorem dX1_in_2 : decode cX1_in 2 = .ok (.if_icmp .lt 12, 3) := dk_161 0 12 (dk_at dksX1_in_0 2 rfl rfl)
theorem dX1_in_5 : decode cX1_in 5 = .ok (.iload_n 0, 1) := dk_26 (dk_at dksX1_in_0 5 rfl rfl)
theorem dX1_in_6 : decode cX1_in 6 = .ok (.iload_n 2, 1) := dk_28 (dk_at dksX1_in_0 6 rfl rfl)
theorem dX1_in_7 : decode cX1_in 7 = .ok (.if_icmp .gt 7, 3) := dk_163 0 7 (dk_at dksX1_in_0 7 rfl rfl)
theorem dX1_in_10 : decode cX1_in 10 = .ok (.iconst 1, 1) := dk_4 (dk_at dksX1_in_0 10 rfl rfl)
theorem dX1_in_11 : decode cX1_in 11 = .ok (.goto 4, 3) := dk_167 0 4 (dk_at dksX1_in_0 11 rfl rfl)
theorem dX1_in_14 : decode cX1_in 14 = .ok (.iconst 0, 1) := dk_3 (dk_at dksX1_in_0 14 rfl rfl)
theorem dX1_in_15 : decode cX1_in 15 = .ok (.ireturn, 1) := dk_172 (dk_at dksX1_in_0 15 rfl rfl)
abbrev cX1_refused : ByteArray := prog_1_method_7_code
def yX1_refused : MethodName := ⟨RX1, "refused", "(I)I"⟩
def dkwX1_refused_0 : List UInt8 := [42, 27, 181, 0, 63, 42, 2, 181, 0, 13, 2, 172]
abbrev dktX1_refused_0 : List UInt8 := dkwX1_refused_0 ++ []
theorem dksX1_refused_0 : cX1_refused.data.toList.drop 0 = dktX1_refused_0 := by decide +kernel
theorem dX1_refused_0 : decode cX1_refused 0 = .ok (.aload_n 0, 1) := dk_42 (dk_at dksX1_refused_0 0 rfl rfl)
theorem dX1_refused_1 : decode cX1_refused 1 = .ok (.iload_n 1, 1) := dk_27 (dk_at dksX1_refused_0 1 rfl rfl)
theorem dX1_refused_2 : decode cX1_refused 2 = .ok (.putfield 63, 3) := dk_181 0 63 (dk_at dksX1_refused_0 2 rfl rfl)
theorem dX1_refused_5 : decode cX1_refused 5 = .ok (.aload_n 0, 1) := dk_42 (dk_at dksX1_refused_0 5 rfl rfl)
theorem dX1_refused_6 : decode cX1_refused 6 = .ok (.iconst (-1), 1) := dk_2 (dk_at dksX1_refused_0 6 rfl rfl)
theorem dX1_refused_7 : decode cX1_refused 7 = .ok (.putfield 13, 3) := dk_181 0 13 (dk_at dksX1_refused_0 7 rfl rfl)
theorem dX1_refused_10 : decode cX1_refused 10 = .ok (.iconst (-1), 1) := dk_2 (dk_at dksX1_refused_0 10 rfl rfl)
theorem dX1_refused_11 : decode cX1_refused 11 = .ok (.ireturn, 1) := dk_172 (dk_at dksX1_refused_0 11 rfl rfl)
abbrev cX1_ruleOf : ByteArray := prog_1_method_5_code
def yX1_ruleOf : MethodName := ⟨RX1, "ruleOf", "(I)LNextAtBar$Rule;"⟩
def dkwX1_ruleOf_3 : List UInt8 := [187, 0, 51, 89, 183, 0, 53, 176, 187, 0, 54, 89, 183, 0, 56, 176]
abbrev dktX1_ruleOf_3 : List UInt8 := dkwX1_ruleOf_3 ++ []
def dkwX1_ruleOf_2 : List UInt8 := [187, 0, 42, 89, 183, 0, 44, 176, 187, 0, 45, 89, 183, 0, 47, 176, 187, 0, 48, 89, 183, 0, 50, 176]
abbrev dktX1_ruleOf_2 : List UInt8 := dkwX1_ruleOf_2 ++ dktX1_ruleOf_3
def dkwX1_ruleOf_1 : List UInt8 := [170, 0, 0, 0, 0, 0, 63, 0, 0, 0, 0, 0, 0, 0, 3, 0, 0, 0, 31, 0, 0, 0, 39, 0, 0, 0, 47, 0, 0, 0, 55]
abbrev dktX1_ruleOf_1 : List UInt8 := dkwX1_ruleOf_1 ++ dktX1_ruleOf_2
def dkwX1_ruleOf_0 : List UInt8 := [26]
abbrev dktX1_ruleOf_0 : List UInt8 := dkwX1_ruleOf_0 ++ dktX1_ruleOf_1
theorem dksX1_ruleOf_0 : cX1_ruleOf.data.toList.drop 0 = dktX1_ruleOf_0 := by decide +kernel
theorem dksX1_ruleOf_1 : cX1_ruleOf.data.toList.drop 1 = dktX1_ruleOf_1 := dk_seg dksX1_ruleOf_0 1 rfl rfl
theorem dksX1_ruleOf_2 : cX1_ruleOf.data.toList.drop 32 = dktX1_ruleOf_2 := dk_seg dksX1_ruleOf_1 31 rfl rfl
theorem dksX1_ruleOf_3 : cX1_ruleOf.data.toList.drop 56 = dktX1_ruleOf_3 := dk_seg dksX1_ruleOf_2 24 rfl rfl
theorem dX1_ruleOf_0 : decode cX1_ruleOf 0 = .ok (.iload_n 0, 1) := dk_26 (dk_at dksX1_ruleOf_0 0 rfl rfl)
theorem dX1_ruleOf_1 : decode cX1_ruleOf 1 = .ok (.tableswitch 63 0 3 #[31, 39, 47, 55], 31) := by decide +kernel
theorem dX1_ruleOf_32 : decode cX1_ruleOf 32 = .ok (.new 42, 3) := dk_187 0 42 (dk_at dksX1_ruleOf_2 0 rfl rfl)
theorem dX1_ruleOf_35 : decode cX1_ruleOf 35 = .ok (.dup, 1) := dk_89 (dk_at dksX1_ruleOf_2 3 rfl rfl)
theorem dX1_ruleOf_36 : decode cX1_ruleOf 36 = .ok (.invokespecial 44, 3) := dk_183 0 44 (dk_at dksX1_ruleOf_2 4 rfl rfl)
theorem dX1_ruleOf_39 : decode cX1_ruleOf 39 = .ok (.areturn, 1) := dk_176 (dk_at dksX1_ruleOf_2 7 rfl rfl)
theorem dX1_ruleOf_40 : decode cX1_ruleOf 40 = .ok (.new 45, 3) := dk_187 0 45 (dk_at dksX1_ruleOf_2 8 rfl rfl)
theorem dX1_ruleOf_43 : decode cX1_ruleOf 43 = .ok (.dup, 1) := dk_89 (dk_at dksX1_ruleOf_2 11 rfl rfl)
theorem dX1_ruleOf_44 : decode cX1_ruleOf 44 = .ok (.invokespecial 47, 3) := dk_183 0 47 (dk_at dksX1_ruleOf_2 12 rfl rfl)
theorem dX1_ruleOf_47 : decode cX1_ruleOf 47 = .ok (.areturn, 1) := dk_176 (dk_at dksX1_ruleOf_2 15 rfl rfl)
theorem dX1_ruleOf_48 : decode cX1_ruleOf 48 = .ok (.new 48, 3) := dk_187 0 48 (dk_at dksX1_ruleOf_2 16 rfl rfl)
theorem dX1_ruleOf_51 : decode cX1_ruleOf 51 = .ok (.dup, 1) := dk_89 (dk_at dksX1_ruleOf_2 19 rfl rfl)
theorem dX1_ruleOf_52 : decode cX1_ruleOf 52 = .ok (.invokespecial 50, 3) := dk_183 0 50 (dk_at dksX1_ruleOf_2 20 rfl rfl)
theorem dX1_ruleOf_55 : decode cX1_ruleOf 55 = .ok (.areturn, 1) := dk_176 (dk_at dksX1_ruleOf_2 23 rfl rfl)
theorem dX1_ruleOf_56 : decode cX1_ruleOf 56 = .ok (.new 51, 3) := dk_187 0 51 (dk_at dksX1_ruleOf_3 0 rfl rfl)
theorem dX1_ruleOf_59 : decode cX1_ruleOf 59 = .ok (.dup, 1) := dk_89 (dk_at dksX1_ruleOf_3 3 rfl rfl)
theorem dX1_ruleOf_60 : decode cX1_ruleOf 60 = .ok (.invokespecial 53, 3) := dk_183 0 53 (dk_at dksX1_ruleOf_3 4 rfl rfl)
theorem dX1_ruleOf_63 : decode cX1_ruleOf 63 = .ok (.areturn, 1) := dk_176 (dk_at dksX1_ruleOf_3 7 rfl rfl)
theorem dX1_ruleOf_64 : decode cX1_ruleOf 64 = .ok (.new 54, 3) := dk_187 0 54 (dk_at dksX1_ruleOf_3 8 rfl rfl)
theorem dX1_ruleOf_67 : decode cX1_ruleOf 67 = .ok (.dup, 1) := dk_89 (dk_at dksX1_ruleOf_3 11 rfl rfl)
theorem dX1_ruleOf_68 : decode cX1_ruleOf 68 = .ok (.invokespecial 56, 3) := dk_183 0 56 (dk_at dksX1_ruleOf_3 12 rfl rfl)
theorem dX1_ruleOf_71 : decode cX1_ruleOf 71 = .ok (.areturn, 1) := dk_176 (dk_at dksX1_ruleOf_3 15 rfl rfl)
abbrev cX1_mannerOf : ByteArray := prog_1_method_6_code
def yX1_mannerOf : MethodName := ⟨RX1, "mannerOf", "(II)LNextAtBar$Manner;"⟩
def dkwX1_mannerOf_3 : List UInt8 := [183, 0, 59, 176, 187, 0, 60, 89, 183, 0, 62, 176]
abbrev dktX1_mannerOf_3 : List UInt8 := dkwX1_mannerOf_3 ++ []
def dkwX1_mannerOf_2 : List UInt8 := [187, 0, 17, 89, 3, 183, 0, 19, 176, 187, 0, 26, 89, 27, 183, 0, 28, 176, 187, 0, 57, 89, 27]
abbrev dktX1_mannerOf_2 : List UInt8 := dkwX1_mannerOf_2 ++ dktX1_mannerOf_3
def dkwX1_mannerOf_1 : List UInt8 := [170, 0, 0, 0, 0, 0, 54, 0, 0, 0, 0, 0, 0, 0, 2, 0, 0, 0, 27, 0, 0, 0, 36, 0, 0, 0, 45]
abbrev dktX1_mannerOf_1 : List UInt8 := dkwX1_mannerOf_1 ++ dktX1_mannerOf_2
def dkwX1_mannerOf_0 : List UInt8 := [26]
abbrev dktX1_mannerOf_0 : List UInt8 := dkwX1_mannerOf_0 ++ dktX1_mannerOf_1
theorem dksX1_mannerOf_0 : cX1_mannerOf.data.toList.drop 0 = dktX1_mannerOf_0 := by decide +kernel
theorem dksX1_mannerOf_1 : cX1_mannerOf.data.toList.drop 1 = dktX1_mannerOf_1 := dk_seg dksX1_mannerOf_0 1 rfl rfl
theorem dksX1_mannerOf_2 : cX1_mannerOf.data.toList.drop 28 = dktX1_mannerOf_2 := dk_seg dksX1_mannerOf_1 27 rfl rfl
theorem dksX1_mannerOf_3 : cX1_mannerOf.data.toList.drop 51 = dktX1_mannerOf_3 := dk_seg dksX1_mannerOf_2 23 rfl rfl
theorem dX1_mannerOf_0 : decode cX1_mannerOf 0 = .ok (.iload_n 0, 1) := dk_26 (dk_at dksX1_mannerOf_0 0 rfl rfl)
theorem dX1_mannerOf_1 : decode cX1_mannerOf 1 = .ok (.tableswitch 54 0 2 #[27, 36, 45], 27) := by decide +kernel
theorem dX1_mannerOf_28 : decode cX1_mannerOf 28 = .ok (.new 17, 3) := dk_187 0 17 (dk_at dksX1_mannerOf_2 0 rfl rfl)
theorem dX1_mannerOf_31 : decode cX1_mannerOf 31 = .ok (.dup, 1) := dk_89 (dk_at dksX1_mannerOf_2 3 rfl rfl)
theorem dX1_mannerOf_32 : decode cX1_mannerOf 32 = .ok (.iconst 0, 1) := dk_3 (dk_at dksX1_mannerOf_2 4 rfl rfl)
theorem dX1_mannerOf_33 : decode cX1_mannerOf 33 = .ok (.invokespecial 19, 3) := dk_183 0 19 (dk_at dksX1_mannerOf_2 5 rfl rfl)
theorem dX1_mannerOf_36 : decode cX1_mannerOf 36 = .ok (.areturn, 1) := dk_176 (dk_at dksX1_mannerOf_2 8 rfl rfl)
theorem dX1_mannerOf_37 : decode cX1_mannerOf 37 = .ok (.new 26, 3) := dk_187 0 26 (dk_at dksX1_mannerOf_2 9 rfl rfl)
theorem dX1_mannerOf_40 : decode cX1_mannerOf 40 = .ok (.dup, 1) := dk_89 (dk_at dksX1_mannerOf_2 12 rfl rfl)
theorem dX1_mannerOf_41 : decode cX1_mannerOf 41 = .ok (.iload_n 1, 1) := dk_27 (dk_at dksX1_mannerOf_2 13 rfl rfl)
theorem dX1_mannerOf_42 : decode cX1_mannerOf 42 = .ok (.invokespecial 28, 3) := dk_183 0 28 (dk_at dksX1_mannerOf_2 14 rfl rfl)
theorem dX1_mannerOf_45 : decode cX1_mannerOf 45 = .ok (.areturn, 1) := dk_176 (dk_at dksX1_mannerOf_2 17 rfl rfl)
theorem dX1_mannerOf_46 : decode cX1_mannerOf 46 = .ok (.new 57, 3) := dk_187 0 57 (dk_at dksX1_mannerOf_2 18 rfl rfl)
theorem dX1_mannerOf_49 : decode cX1_mannerOf 49 = .ok (.dup, 1) := dk_89 (dk_at dksX1_mannerOf_2 21 rfl rfl)
theorem dX1_mannerOf_50 : decode cX1_mannerOf 50 = .ok (.iload_n 1, 1) := dk_27 (dk_at dksX1_mannerOf_2 22 rfl rfl)
theorem dX1_mannerOf_51 : decode cX1_mannerOf 51 = .ok (.invokespecial 59, 3) := dk_183 0 59 (dk_at dksX1_mannerOf_3 0 rfl rfl)
theorem dX1_mannerOf_54 : decode cX1_mannerOf 54 = .ok (.areturn, 1) := dk_176 (dk_at dksX1_mannerOf_3 3 rfl rfl)
theorem dX1_mannerOf_55 : decode cX1_mannerOf 55 = .ok (.new 60, 3) := dk_187 0 60 (dk_at dksX1_mannerOf_3 4 rfl rfl)
theorem dX1_mannerOf_58 : decode cX1_mannerOf 58 = .ok (.dup, 1) := dk_89 (dk_at dksX1_mannerOf_3 7 rfl rfl)
theorem dX1_mannerOf_59 : decode cX1_mannerOf 59 = .ok (.invokespecial 62, 3) := dk_183 0 62 (dk_at dksX1_mannerOf_3 8 rfl rfl)
theorem dX1_mannerOf_62 : decode cX1_mannerOf 62 = .ok (.areturn, 1) := dk_176 (dk_at dksX1_mannerOf_3 11 rfl rfl)
abbrev cX1_shows : ByteArray := prog_1_method_16_code
def yX1_shows : MethodName := ⟨RX1, "shows", "(LNextAtBar$Bar;)V"⟩
def dkwX1_shows_0 : List UInt8 := [42, 43, 181, 0, 140, 42, 3, 181, 0, 143, 177]
abbrev dktX1_shows_0 : List UInt8 := dkwX1_shows_0 ++ []
theorem dksX1_shows_0 : cX1_shows.data.toList.drop 0 = dktX1_shows_0 := by decide +kernel
theorem dX1_shows_0 : decode cX1_shows 0 = .ok (.aload_n 0, 1) := dk_42 (dk_at dksX1_shows_0 0 rfl rfl)
theorem dX1_shows_1 : decode cX1_shows 1 = .ok (.aload_n 1, 1) := dk_43 (dk_at dksX1_shows_0 1 rfl rfl)
theorem dX1_shows_2 : decode cX1_shows 2 = .ok (.putfield 140, 3) := dk_181 0 140 (dk_at dksX1_shows_0 2 rfl rfl)
theorem dX1_shows_5 : decode cX1_shows 5 = .ok (.aload_n 0, 1) := dk_42 (dk_at dksX1_shows_0 5 rfl rfl)
theorem dX1_shows_6 : decode cX1_shows 6 = .ok (.iconst 0, 1) := dk_3 (dk_at dksX1_shows_0 6 rfl rfl)
theorem dX1_shows_7 : decode cX1_shows 7 = .ok (.putfield 143, 3) := dk_181 0 143 (dk_at dksX1_shows_0 7 rfl rfl)
theorem dX1_shows_10 : decode cX1_shows 10 = .ok (.return_, 1) := dk_177 (dk_at dksX1_shows_0 10 rfl rfl)
abbrev cX1_well : ByteArray := prog_1_method_10_code
def yX1_well : MethodName := ⟨RX1, "well", "(I)I"⟩
def dkwX1_well_0 : List UInt8 := [42, 3, 181, 0, 63, 42, 2, 181, 0, 13, 27, 172]
abbrev dktX1_well_0 : List UInt8 := dkwX1_well_0 ++ []
theorem dksX1_well_0 : cX1_well.data.toList.drop 0 = dktX1_well_0 := by decide +kernel
theorem dX1_well_0 : decode cX1_well 0 = .ok (.aload_n 0, 1) := dk_42 (dk_at dksX1_well_0 0 rfl rfl)
theorem dX1_well_1 : decode cX1_well 1 = .ok (.iconst 0, 1) := dk_3 (dk_at dksX1_well_0 1 rfl rfl)
theorem dX1_well_2 : decode cX1_well 2 = .ok (.putfield 63, 3) := dk_181 0 63 (dk_at dksX1_well_0 2 rfl rfl)
theorem dX1_well_5 : decode cX1_well 5 = .ok (.aload_n 0, 1) := dk_42 (dk_at dksX1_well_0 5 rfl rfl)
theorem dX1_well_6 : decode cX1_well 6 = .ok (.iconst (-1), 1) := dk_2 (dk_at dksX1_well_0 6 rfl rfl)
theorem dX1_well_7 : decode cX1_well 7 = .ok (.putfield 13, 3) := dk_181 0 13 (dk_at dksX1_well_0 7 rfl rfl)
theorem dX1_well_10 : decode cX1_well 10 = .ok (.iload_n 1, 1) := dk_27 (dk_at dksX1_well_0 10 rfl rfl)
theorem dX1_well_11 : decode cX1_well 11 = .ok (.ireturn, 1) := dk_172 (dk_at dksX1_well_0 11 rfl rfl)
abbrev cX1_fault : ByteArray := prog_1_method_14_code
def yX1_fault : MethodName := ⟨RX1, "fault", "()I"⟩
theorem dX1_fault_0 : decode cX1_fault 0 = .ok (.aload_n 0, 1) := by decide +kernel
theorem dX1_fault_1 : decode cX1_fault 1 = .ok (.getfield 97, 3) := by decide +kernel
theorem dX1_fault_4 : decode cX1_fault 4 = .ok (.ireturn, 1) := by decide +kernel
abbrev cX1_where : ByteArray := prog_1_method_15_code
def yX1_where : MethodName := ⟨RX1, "where", "()I"⟩
theorem dX1_where_0 : decode cX1_where 0 = .ok (.aload_n 0, 1) := by decide +kernel
theorem dX1_where_1 : decode cX1_where 1 = .ok (.getfield 13, 3) := by decide +kernel
theorem dX1_where_4 : decode cX1_where 4 = .ok (.ireturn, 1) := by decide +kernel
abbrev cX1_person : ByteArray := prog_1_method_22_code
def yX1_person : MethodName := ⟨RX1, "person", "(II)I"⟩
def dkwX1_person_5 : List UInt8 := [42, 180, 0, 140, 180, 0, 177, 27, 46, 182, 0, 70, 172]
abbrev dktX1_person_5 : List UInt8 := dkwX1_person_5 ++ []
def dkwX1_person_4 : List UInt8 := [180, 0, 171, 27, 46, 182, 0, 70, 172, 42, 42, 180, 0, 140, 180, 0, 174, 27, 46, 182, 0, 70, 172, 42]
abbrev dktX1_person_4 : List UInt8 := dkwX1_person_4 ++ dktX1_person_5
def dkwX1_person_3 : List UInt8 := [182, 0, 70, 172, 42, 42, 180, 0, 140, 180, 0, 168, 27, 46, 182, 0, 70, 172, 42, 42, 180, 0, 140]
abbrev dktX1_person_3 : List UInt8 := dkwX1_person_3 ++ dktX1_person_4
def dkwX1_person_2 : List UInt8 := [42, 42, 180, 0, 140, 27, 182, 0, 162, 182, 0, 70, 172, 42, 42, 180, 0, 140, 180, 0, 165, 27, 46]
abbrev dktX1_person_2 : List UInt8 := dkwX1_person_2 ++ dktX1_person_3
def dkwX1_person_1 : List UInt8 := [170, 0, 0, 0, 0, 0, 0, 105, 0, 0, 0, 0, 0, 0, 0, 4, 0, 0, 0, 36, 0, 0, 0, 49, 0, 0, 0, 63, 0, 0, 0, 77, 0, 0, 0, 91]
abbrev dktX1_person_1 : List UInt8 := dkwX1_person_1 ++ dktX1_person_2
def dkwX1_person_0 : List UInt8 := [42, 27, 182, 0, 158, 153, 0, 12, 28, 3, 8, 184, 0, 76, 154, 0, 9, 42, 4, 182, 0, 66, 172, 28]
abbrev dktX1_person_0 : List UInt8 := dkwX1_person_0 ++ dktX1_person_1
theorem dksX1_person_0 : cX1_person.data.toList.drop 0 = dktX1_person_0 := by decide +kernel
theorem dksX1_person_1 : cX1_person.data.toList.drop 24 = dktX1_person_1 := dk_seg dksX1_person_0 24 rfl rfl
theorem dksX1_person_2 : cX1_person.data.toList.drop 60 = dktX1_person_2 := dk_seg dksX1_person_1 36 rfl rfl
theorem dksX1_person_3 : cX1_person.data.toList.drop 83 = dktX1_person_3 := dk_seg dksX1_person_2 23 rfl rfl
theorem dksX1_person_4 : cX1_person.data.toList.drop 106 = dktX1_person_4 := dk_seg dksX1_person_3 23 rfl rfl
theorem dksX1_person_5 : cX1_person.data.toList.drop 130 = dktX1_person_5 := dk_seg dksX1_person_4 24 rfl rfl
theorem dX1_person_0 : decode cX1_person 0 = .ok (.aload_n 0, 1) := dk_42 (dk_at dksX1_person_0 0 rfl rfl)
theorem dX1_person_1 : decode cX1_person 1 = .ok (.iload_n 1, 1) := dk_27 (dk_at dksX1_person_0 1 rfl rfl)
theorem dX1_person_2 : decode cX1_person 2 = .ok (.invokevirtual 158, 3) := dk_182 0 158 (dk_at dksX1_person_0 2 rfl rfl)
theorem dX1_person_5 : decode cX1_person 5 = .ok (.ifCond .eq 12, 3) := dk_153 0 12 (dk_at dksX1_person_0 5 rfl rfl)
theorem dX1_person_8 : decode cX1_person 8 = .ok (.iload_n 2, 1) := dk_28 (dk_at dksX1_person_0 8 rfl rfl)
theorem dX1_person_9 : decode cX1_person 9 = .ok (.iconst 0, 1) := dk_3 (dk_at dksX1_person_0 9 rfl rfl)
theorem dX1_person_10 : decode cX1_person 10 = .ok (.iconst 5, 1) := dk_8 (dk_at dksX1_person_0 10 rfl rfl)
theorem dX1_person_11 : decode cX1_person 11 = .ok (.invokestatic 76, 3) := dk_184 0 76 (dk_at dksX1_person_0 11 rfl rfl)
theorem dX1_person_14 : decode cX1_person 14 = .ok (.ifCond .ne 9, 3) := dk_154 0 9 (dk_at dksX1_person_0 14 rfl rfl)
theorem dX1_person_17 : decode cX1_person 17 = .ok (.aload_n 0, 1) := dk_42 (dk_at dksX1_person_0 17 rfl rfl)
theorem dX1_person_18 : decode cX1_person 18 = .ok (.iconst 1, 1) := dk_4 (dk_at dksX1_person_0 18 rfl rfl)
theorem dX1_person_19 : decode cX1_person 19 = .ok (.invokevirtual 66, 3) := dk_182 0 66 (dk_at dksX1_person_0 19 rfl rfl)
theorem dX1_person_22 : decode cX1_person 22 = .ok (.ireturn, 1) := dk_172 (dk_at dksX1_person_0 22 rfl rfl)
theorem dX1_person_23 : decode cX1_person 23 = .ok (.iload_n 2, 1) := dk_28 (dk_at dksX1_person_0 23 rfl rfl)
theorem dX1_person_24 : decode cX1_person 24 = .ok (.tableswitch 105 0 4 #[36, 49, 63, 77, 91], 36) := by decide +kernel
theorem dX1_person_60 : decode cX1_person 60 = .ok (.aload_n 0, 1) := dk_42 (dk_at dksX1_person_2 0 rfl rfl)
theorem dX1_person_61 : decode cX1_person 61 = .ok (.aload_n 0, 1) := dk_42 (dk_at dksX1_person_2 1 rfl rfl)
theorem dX1_person_62 : decode cX1_person 62 = .ok (.getfield 140, 3) := dk_180 0 140 (dk_at dksX1_person_2 2 rfl rfl)
theorem dX1_person_65 : decode cX1_person 65 = .ok (.iload_n 1, 1) := dk_27 (dk_at dksX1_person_2 5 rfl rfl)
theorem dX1_person_66 : decode cX1_person 66 = .ok (.invokevirtual 162, 3) := dk_182 0 162 (dk_at dksX1_person_2 6 rfl rfl)
theorem dX1_person_69 : decode cX1_person 69 = .ok (.invokevirtual 70, 3) := dk_182 0 70 (dk_at dksX1_person_2 9 rfl rfl)
theorem dX1_person_72 : decode cX1_person 72 = .ok (.ireturn, 1) := dk_172 (dk_at dksX1_person_2 12 rfl rfl)
theorem dX1_person_73 : decode cX1_person 73 = .ok (.aload_n 0, 1) := dk_42 (dk_at dksX1_person_2 13 rfl rfl)
theorem dX1_person_74 : decode cX1_person 74 = .ok (.aload_n 0, 1) := dk_42 (dk_at dksX1_person_2 14 rfl rfl)
theorem dX1_person_75 : decode cX1_person 75 = .ok (.getfield 140, 3) := dk_180 0 140 (dk_at dksX1_person_2 15 rfl rfl)
theorem dX1_person_78 : decode cX1_person 78 = .ok (.getfield 165, 3) := dk_180 0 165 (dk_at dksX1_person_2 18 rfl rfl)
theorem dX1_person_81 : decode cX1_person 81 = .ok (.iload_n 1, 1) := dk_27 (dk_at dksX1_person_2 21 rfl rfl)
theorem dX1_person_82 : decode cX1_person 82 = .ok (.iaload, 1) := dk_46 (dk_at dksX1_person_2 22 rfl rfl)
theorem dX1_person_83 : decode cX1_person 83 = .ok (.invokevirtual 70, 3) := dk_182 0 70 (dk_at dksX1_person_3 0 rfl rfl)
theorem dX1_person_86 : decode cX1_person 86 = .ok (.ireturn, 1) := dk_172 (dk_at dksX1_person_3 3 rfl rfl)
theorem dX1_person_87 : decode cX1_person 87 = .ok (.aload_n 0, 1) := dk_42 (dk_at dksX1_person_3 4 rfl rfl)
theorem dX1_person_88 : decode cX1_person 88 = .ok (.aload_n 0, 1) := dk_42 (dk_at dksX1_person_3 5 rfl rfl)
theorem dX1_person_89 : decode cX1_person 89 = .ok (.getfield 140, 3) := dk_180 0 140 (dk_at dksX1_person_3 6 rfl rfl)
theorem dX1_person_92 : decode cX1_person 92 = .ok (.getfield 168, 3) := dk_180 0 168 (dk_at dksX1_person_3 9 rfl rfl)
theorem dX1_person_95 : decode cX1_person 95 = .ok (.iload_n 1, 1) := dk_27 (dk_at dksX1_person_3 12 rfl rfl)
theorem dX1_person_96 : decode cX1_person 96 = .ok (.iaload, 1) := dk_46 (dk_at dksX1_person_3 13 rfl rfl)
theorem dX1_person_97 : decode cX1_person 97 = .ok (.invokevirtual 70, 3) := dk_182 0 70 (dk_at dksX1_person_3 14 rfl rfl)
theorem dX1_person_100 : decode cX1_person 100 = .ok (.ireturn, 1) := dk_172 (dk_at dksX1_person_3 17 rfl rfl)
theorem dX1_person_101 : decode cX1_person 101 = .ok (.aload_n 0, 1) := dk_42 (dk_at dksX1_person_3 18 rfl rfl)
theorem dX1_person_102 : decode cX1_person 102 = .ok (.aload_n 0, 1) := dk_42 (dk_at dksX1_person_3 19 rfl rfl)
theorem dX1_person_103 : decode cX1_person 103 = .ok (.getfield 140, 3) := dk_180 0 140 (dk_at dksX1_person_3 20 rfl rfl)
theorem dX1_person_106 : decode cX1_person 106 = .ok (.getfield 171, 3) := dk_180 0 171 (dk_at dksX1_person_4 0 rfl rfl)
theorem dX1_person_109 : decode cX1_person 109 = .ok (.iload_n 1, 1) := dk_27 (dk_at dksX1_person_4 3 rfl rfl)
theorem dX1_person_110 : decode cX1_person 110 = .ok (.iaload, 1) := dk_46 (dk_at dksX1_person_4 4 rfl rfl)
theorem dX1_person_111 : decode cX1_person 111 = .ok (.invokevirtual 70, 3) := dk_182 0 70 (dk_at dksX1_person_4 5 rfl rfl)
theorem dX1_person_114 : decode cX1_person 114 = .ok (.ireturn, 1) := dk_172 (dk_at dksX1_person_4 8 rfl rfl)
theorem dX1_person_115 : decode cX1_person 115 = .ok (.aload_n 0, 1) := dk_42 (dk_at dksX1_person_4 9 rfl rfl)
theorem dX1_person_116 : decode cX1_person 116 = .ok (.aload_n 0, 1) := dk_42 (dk_at dksX1_person_4 10 rfl rfl)
theorem dX1_person_117 : decode cX1_person 117 = .ok (.getfield 140, 3) := dk_180 0 140 (dk_at dksX1_person_4 11 rfl rfl)
theorem dX1_person_120 : decode cX1_person 120 = .ok (.getfield 174, 3) := dk_180 0 174 (dk_at dksX1_person_4 14 rfl rfl)
theorem dX1_person_123 : decode cX1_person 123 = .ok (.iload_n 1, 1) := dk_27 (dk_at dksX1_person_4 17 rfl rfl)
theorem dX1_person_124 : decode cX1_person 124 = .ok (.iaload, 1) := dk_46 (dk_at dksX1_person_4 18 rfl rfl)
theorem dX1_person_125 : decode cX1_person 125 = .ok (.invokevirtual 70, 3) := dk_182 0 70 (dk_at dksX1_person_4 19 rfl rfl)
theorem dX1_person_128 : decode cX1_person 128 = .ok (.ireturn, 1) := dk_172 (dk_at dksX1_person_4 22 rfl rfl)
theorem dX1_person_129 : decode cX1_person 129 = .ok (.aload_n 0, 1) := dk_42 (dk_at dksX1_person_4 23 rfl rfl)
theorem dX1_person_130 : decode cX1_person 130 = .ok (.aload_n 0, 1) := dk_42 (dk_at dksX1_person_5 0 rfl rfl)
theorem dX1_person_131 : decode cX1_person 131 = .ok (.getfield 140, 3) := dk_180 0 140 (dk_at dksX1_person_5 1 rfl rfl)
theorem dX1_person_134 : decode cX1_person 134 = .ok (.getfield 177, 3) := dk_180 0 177 (dk_at dksX1_person_5 4 rfl rfl)
theorem dX1_person_137 : decode cX1_person 137 = .ok (.iload_n 1, 1) := dk_27 (dk_at dksX1_person_5 7 rfl rfl)
theorem dX1_person_138 : decode cX1_person 138 = .ok (.iaload, 1) := dk_46 (dk_at dksX1_person_5 8 rfl rfl)
theorem dX1_person_139 : decode cX1_person 139 = .ok (.invokevirtual 70, 3) := dk_182 0 70 (dk_at dksX1_person_5 9 rfl rfl)
theorem dX1_person_142 : decode cX1_person 142 = .ok (.ireturn, 1) := dk_172 (dk_at dksX1_person_5 12 rfl rfl)
abbrev cX1_isPerson : ByteArray := prog_1_method_19_code
def yX1_isPerson : MethodName := ⟨RX1, "isPerson", "(I)Z"⟩
def dkwX1_isPerson_1 : List UInt8 := [153, 0, 7, 4, 167, 0, 4, 3, 172]
abbrev dktX1_isPerson_1 : List UInt8 := dkwX1_isPerson_1 ++ []
def dkwX1_isPerson_0 : List UInt8 := [42, 180, 0, 101, 198, 0, 27, 27, 3, 42, 180, 0, 101, 180, 0, 131, 182, 0, 136, 4, 100, 184, 0, 76]
abbrev dktX1_isPerson_0 : List UInt8 := dkwX1_isPerson_0 ++ dktX1_isPerson_1
theorem dksX1_isPerson_0 : cX1_isPerson.data.toList.drop 0 = dktX1_isPerson_0 := by decide +kernel
theorem dksX1_isPerson_1 : cX1_isPerson.data.toList.drop 24 = dktX1_isPerson_1 := dk_seg dksX1_isPerson_0 24 rfl rfl
theorem dX1_isPerson_0 : decode cX1_isPerson 0 = .ok (.aload_n 0, 1) := dk_42 (dk_at dksX1_isPerson_0 0 rfl rfl)
theorem dX1_isPerson_1 : decode cX1_isPerson 1 = .ok (.getfield 101, 3) := dk_180 0 101 (dk_at dksX1_isPerson_0 1 rfl rfl)
theorem dX1_isPerson_4 : decode cX1_isPerson 4 = .ok (.ifnull 27, 3) := dk_198 0 27 (dk_at dksX1_isPerson_0 4 rfl rfl)
theorem dX1_isPerson_7 : decode cX1_isPerson 7 = .ok (.iload_n 1, 1) := dk_27 (dk_at dksX1_isPerson_0 7 rfl rfl)
theorem dX1_isPerson_8 : decode cX1_isPerson 8 = .ok (.iconst 0, 1) := dk_3 (dk_at dksX1_isPerson_0 8 rfl rfl)
theorem dX1_isPerson_9 : decode cX1_isPerson 9 = .ok (.aload_n 0, 1) := dk_42 (dk_at dksX1_isPerson_0 9 rfl rfl)
theorem dX1_isPerson_10 : decode cX1_isPerson 10 = .ok (.getfield 101, 3) := dk_180 0 101 (dk_at dksX1_isPerson_0 10 rfl rfl)
theorem dX1_isPerson_13 : decode cX1_isPerson 13 = .ok (.getfield 131, 3) := dk_180 0 131 (dk_at dksX1_isPerson_0 13 rfl rfl)
theorem dX1_isPerson_16 : decode cX1_isPerson 16 = .ok (.invokevirtual 136, 3) := dk_182 0 136 (dk_at dksX1_isPerson_0 16 rfl rfl)
theorem dX1_isPerson_19 : decode cX1_isPerson 19 = .ok (.iconst 1, 1) := dk_4 (dk_at dksX1_isPerson_0 19 rfl rfl)
theorem dX1_isPerson_20 : decode cX1_isPerson 20 = .ok (.isub, 1) := dk_100 (dk_at dksX1_isPerson_0 20 rfl rfl)
theorem dX1_isPerson_21 : decode cX1_isPerson 21 = .ok (.invokestatic 76, 3) := dk_184 0 76 (dk_at dksX1_isPerson_0 21 rfl rfl)
theorem dX1_isPerson_24 : decode cX1_isPerson 24 = .ok (.ifCond .eq 7, 3) := dk_153 0 7 (dk_at dksX1_isPerson_1 0 rfl rfl)
theorem dX1_isPerson_27 : decode cX1_isPerson 27 = .ok (.iconst 1, 1) := dk_4 (dk_at dksX1_isPerson_1 3 rfl rfl)
theorem dX1_isPerson_28 : decode cX1_isPerson 28 = .ok (.goto 4, 3) := dk_167 0 4 (dk_at dksX1_isPerson_1 4 rfl rfl)
theorem dX1_isPerson_31 : decode cX1_isPerson 31 = .ok (.iconst 0, 1) := dk_3 (dk_at dksX1_isPerson_1 7 rfl rfl)
theorem dX1_isPerson_32 : decode cX1_isPerson 32 = .ok (.ireturn, 1) := dk_172 (dk_at dksX1_isPerson_1 8 rfl rfl)
abbrev cX1_staff : ByteArray := prog_1_method_23_code
def yX1_staff : MethodName := ⟨RX1, "staff", "(II)I"⟩
def dkwX1_staff_2 : List UInt8 := [180, 0, 140, 27, 182, 0, 186, 167, 0, 11, 42, 180, 0, 140, 27, 182, 0, 189, 182, 0, 70, 172]
abbrev dktX1_staff_2 : List UInt8 := dkwX1_staff_2 ++ []
def dkwX1_staff_1 : List UInt8 := [28, 154, 0, 15, 42, 180, 0, 140, 180, 0, 183, 27, 46, 167, 0, 27, 28, 4, 160, 0, 14, 42]
abbrev dktX1_staff_1 : List UInt8 := dkwX1_staff_1 ++ dktX1_staff_2
def dkwX1_staff_0 : List UInt8 := [42, 27, 182, 0, 180, 153, 0, 12, 28, 3, 5, 184, 0, 76, 154, 0, 9, 42, 4, 182, 0, 66, 172, 42]
abbrev dktX1_staff_0 : List UInt8 := dkwX1_staff_0 ++ dktX1_staff_1
theorem dksX1_staff_0 : cX1_staff.data.toList.drop 0 = dktX1_staff_0 := by decide +kernel
theorem dksX1_staff_1 : cX1_staff.data.toList.drop 24 = dktX1_staff_1 := dk_seg dksX1_staff_0 24 rfl rfl
theorem dksX1_staff_2 : cX1_staff.data.toList.drop 46 = dktX1_staff_2 := dk_seg dksX1_staff_1 22 rfl rfl
theorem dX1_staff_0 : decode cX1_staff 0 = .ok (.aload_n 0, 1) := dk_42 (dk_at dksX1_staff_0 0 rfl rfl)
theorem dX1_staff_1 : decode cX1_staff 1 = .ok (.iload_n 1, 1) := dk_27 (dk_at dksX1_staff_0 1 rfl rfl)
theorem dX1_staff_2 : decode cX1_staff 2 = .ok (.invokevirtual 180, 3) := dk_182 0 180 (dk_at dksX1_staff_0 2 rfl rfl)
theorem dX1_staff_5 : decode cX1_staff 5 = .ok (.ifCond .eq 12, 3) := dk_153 0 12 (dk_at dksX1_staff_0 5 rfl rfl)
theorem dX1_staff_8 : decode cX1_staff 8 = .ok (.iload_n 2, 1) := dk_28 (dk_at dksX1_staff_0 8 rfl rfl)
theorem dX1_staff_9 : decode cX1_staff 9 = .ok (.iconst 0, 1) := dk_3 (dk_at dksX1_staff_0 9 rfl rfl)
theorem dX1_staff_10 : decode cX1_staff 10 = .ok (.iconst 2, 1) := dk_5 (dk_at dksX1_staff_0 10 rfl rfl)
theorem dX1_staff_11 : decode cX1_staff 11 = .ok (.invokestatic 76, 3) := dk_184 0 76 (dk_at dksX1_staff_0 11 rfl rfl)
theorem dX1_staff_14 : decode cX1_staff 14 = .ok (.ifCond .ne 9, 3) := dk_154 0 9 (dk_at dksX1_staff_0 14 rfl rfl)
theorem dX1_staff_17 : decode cX1_staff 17 = .ok (.aload_n 0, 1) := dk_42 (dk_at dksX1_staff_0 17 rfl rfl)
theorem dX1_staff_18 : decode cX1_staff 18 = .ok (.iconst 1, 1) := dk_4 (dk_at dksX1_staff_0 18 rfl rfl)
theorem dX1_staff_19 : decode cX1_staff 19 = .ok (.invokevirtual 66, 3) := dk_182 0 66 (dk_at dksX1_staff_0 19 rfl rfl)
theorem dX1_staff_22 : decode cX1_staff 22 = .ok (.ireturn, 1) := dk_172 (dk_at dksX1_staff_0 22 rfl rfl)
theorem dX1_staff_23 : decode cX1_staff 23 = .ok (.aload_n 0, 1) := dk_42 (dk_at dksX1_staff_0 23 rfl rfl)
theorem dX1_staff_24 : decode cX1_staff 24 = .ok (.iload_n 2, 1) := dk_28 (dk_at dksX1_staff_1 0 rfl rfl)
theorem dX1_staff_25 : decode cX1_staff 25 = .ok (.ifCond .ne 15, 3) := dk_154 0 15 (dk_at dksX1_staff_1 1 rfl rfl)
theorem dX1_staff_28 : decode cX1_staff 28 = .ok (.aload_n 0, 1) := dk_42 (dk_at dksX1_staff_1 4 rfl rfl)
theorem dX1_staff_29 : decode cX1_staff 29 = .ok (.getfield 140, 3) := dk_180 0 140 (dk_at dksX1_staff_1 5 rfl rfl)
theorem dX1_staff_32 : decode cX1_staff 32 = .ok (.getfield 183, 3) := dk_180 0 183 (dk_at dksX1_staff_1 8 rfl rfl)
theorem dX1_staff_35 : decode cX1_staff 35 = .ok (.iload_n 1, 1) := dk_27 (dk_at dksX1_staff_1 11 rfl rfl)
theorem dX1_staff_36 : decode cX1_staff 36 = .ok (.iaload, 1) := dk_46 (dk_at dksX1_staff_1 12 rfl rfl)
theorem dX1_staff_37 : decode cX1_staff 37 = .ok (.goto 27, 3) := dk_167 0 27 (dk_at dksX1_staff_1 13 rfl rfl)
theorem dX1_staff_40 : decode cX1_staff 40 = .ok (.iload_n 2, 1) := dk_28 (dk_at dksX1_staff_1 16 rfl rfl)
theorem dX1_staff_41 : decode cX1_staff 41 = .ok (.iconst 1, 1) := dk_4 (dk_at dksX1_staff_1 17 rfl rfl)
theorem dX1_staff_42 : decode cX1_staff 42 = .ok (.if_icmp .ne 14, 3) := dk_160 0 14 (dk_at dksX1_staff_1 18 rfl rfl)
theorem dX1_staff_45 : decode cX1_staff 45 = .ok (.aload_n 0, 1) := dk_42 (dk_at dksX1_staff_1 21 rfl rfl)
theorem dX1_staff_46 : decode cX1_staff 46 = .ok (.getfield 140, 3) := dk_180 0 140 (dk_at dksX1_staff_2 0 rfl rfl)
theorem dX1_staff_49 : decode cX1_staff 49 = .ok (.iload_n 1, 1) := dk_27 (dk_at dksX1_staff_2 3 rfl rfl)
theorem dX1_staff_50 : decode cX1_staff 50 = .ok (.invokevirtual 186, 3) := dk_182 0 186 (dk_at dksX1_staff_2 4 rfl rfl)
theorem dX1_staff_53 : decode cX1_staff 53 = .ok (.goto 11, 3) := dk_167 0 11 (dk_at dksX1_staff_2 7 rfl rfl)
theorem dX1_staff_56 : decode cX1_staff 56 = .ok (.aload_n 0, 1) := dk_42 (dk_at dksX1_staff_2 10 rfl rfl)
theorem dX1_staff_57 : decode cX1_staff 57 = .ok (.getfield 140, 3) := dk_180 0 140 (dk_at dksX1_staff_2 11 rfl rfl)
theorem dX1_staff_60 : decode cX1_staff 60 = .ok (.iload_n 1, 1) := dk_27 (dk_at dksX1_staff_2 14 rfl rfl)
theorem dX1_staff_61 : decode cX1_staff 61 = .ok (.invokevirtual 189, 3) := dk_182 0 189 (dk_at dksX1_staff_2 15 rfl rfl)
theorem dX1_staff_64 : decode cX1_staff 64 = .ok (.invokevirtual 70, 3) := dk_182 0 70 (dk_at dksX1_staff_2 18 rfl rfl)
theorem dX1_staff_67 : decode cX1_staff 67 = .ok (.ireturn, 1) := dk_172 (dk_at dksX1_staff_2 21 rfl rfl)
abbrev cX1_isServer : ByteArray := prog_1_method_20_code
def yX1_isServer : MethodName := ⟨RX1, "isServe\x72", "(I)Z"⟩
def dkwX1_isServer_1 : List UInt8 := [153, 0, 7, 4, 167, 0, 4, 3, 172]
abbrev dktX1_isServer_1 : List UInt8 := dkwX1_isServer_1 ++ []
def dkwX1_isServer_0 : List UInt8 := [42, 180, 0, 101, 198, 0, 27, 27, 3, 42, 180, 0, 101, 180, 0, 152, 182, 0, 136, 4, 100, 184, 0, 76]
abbrev dktX1_isServer_0 : List UInt8 := dkwX1_isServer_0 ++ dktX1_isServer_1
theorem dksX1_isServer_0 : cX1_isServer.data.toList.drop 0 = dktX1_isServer_0 := by decide +kernel
theorem dksX1_isServer_1 : cX1_isServer.data.toList.drop 24 = dktX1_isServer_1 := dk_seg dksX1_isServer_0 24 rfl rfl
theorem dX1_isServer_0 : decode cX1_isServer 0 = .ok (.aload_n 0, 1) := dk_42 (dk_at dksX1_isServer_0 0 rfl rfl)
theorem dX1_isServer_1 : decode cX1_isServer 1 = .ok (.getfield 101, 3) := dk_180 0 101 (dk_at dksX1_isServer_0 1 rfl rfl)
theorem dX1_isServer_4 : decode cX1_isServer 4 = .ok (.ifnull 27, 3) := dk_198 0 27 (dk_at dksX1_isServer_0 4 rfl rfl)
theorem dX1_isServer_7 : decode cX1_isServer 7 = .ok (.iload_n 1, 1) := dk_27 (dk_at dksX1_isServer_0 7 rfl rfl)
theorem dX1_isServer_8 : decode cX1_isServer 8 = .ok (.iconst 0, 1) := dk_3 (dk_at dksX1_isServer_0 8 rfl rfl)
theorem dX1_isServer_9 : decode cX1_isServer 9 = .ok (.aload_n 0, 1) := dk_42 (dk_at dksX1_isServer_0 9 rfl rfl)
theorem dX1_isServer_10 : decode cX1_isServer 10 = .ok (.getfield 101, 3) := dk_180 0 101 (dk_at dksX1_isServer_0 10 rfl rfl)
theorem dX1_isServer_13 : decode cX1_isServer 13 = .ok (.getfield 152, 3) := dk_180 0 152 (dk_at dksX1_isServer_0 13 rfl rfl)
theorem dX1_isServer_16 : decode cX1_isServer 16 = .ok (.invokevirtual 136, 3) := dk_182 0 136 (dk_at dksX1_isServer_0 16 rfl rfl)
theorem dX1_isServer_19 : decode cX1_isServer 19 = .ok (.iconst 1, 1) := dk_4 (dk_at dksX1_isServer_0 19 rfl rfl)
theorem dX1_isServer_20 : decode cX1_isServer 20 = .ok (.isub, 1) := dk_100 (dk_at dksX1_isServer_0 20 rfl rfl)
theorem dX1_isServer_21 : decode cX1_isServer 21 = .ok (.invokestatic 76, 3) := dk_184 0 76 (dk_at dksX1_isServer_0 21 rfl rfl)
theorem dX1_isServer_24 : decode cX1_isServer 24 = .ok (.ifCond .eq 7, 3) := dk_153 0 7 (dk_at dksX1_isServer_1 0 rfl rfl)
theorem dX1_isServer_27 : decode cX1_isServer 27 = .ok (.iconst 1, 1) := dk_4 (dk_at dksX1_isServer_1 3 rfl rfl)
theorem dX1_isServer_28 : decode cX1_isServer 28 = .ok (.goto 4, 3) := dk_167 0 4 (dk_at dksX1_isServer_1 4 rfl rfl)
theorem dX1_isServer_31 : decode cX1_isServer 31 = .ok (.iconst 0, 1) := dk_3 (dk_at dksX1_isServer_1 7 rfl rfl)
theorem dX1_isServer_32 : decode cX1_isServer 32 = .ok (.ireturn, 1) := dk_172 (dk_at dksX1_isServer_1 8 rfl rfl)
abbrev cX1_elbows : ByteArray := prog_1_method_24_code
def yX1_elbows : MethodName := ⟨RX1, "elbows", "(I)I"⟩
def dkwX1_elbows_3 : List UInt8 := [167, 255, 205, 42, 28, 182, 0, 70, 172]
abbrev dktX1_elbows_3 : List UInt8 := dkwX1_elbows_3 ++ []
def dkwX1_elbows_2 : List UInt8 := [180, 0, 140, 180, 0, 165, 29, 46, 27, 160, 0, 7, 4, 167, 0, 4, 3, 96, 61, 132, 3, 1]
abbrev dktX1_elbows_2 : List UInt8 := dkwX1_elbows_2 ++ dktX1_elbows_3
def dkwX1_elbows_1 : List UInt8 := [180, 0, 131, 182, 0, 136, 162, 0, 43, 28, 42, 180, 0, 140, 180, 0, 195, 29, 46, 4, 160, 0, 20, 42]
abbrev dktX1_elbows_1 : List UInt8 := dkwX1_elbows_1 ++ dktX1_elbows_2
def dkwX1_elbows_0 : List UInt8 := [42, 27, 182, 0, 192, 154, 0, 9, 42, 4, 182, 0, 66, 172, 3, 61, 3, 62, 29, 42, 180, 0, 101]
abbrev dktX1_elbows_0 : List UInt8 := dkwX1_elbows_0 ++ dktX1_elbows_1
theorem dksX1_elbows_0 : cX1_elbows.data.toList.drop 0 = dktX1_elbows_0 := by decide +kernel
theorem dksX1_elbows_1 : cX1_elbows.data.toList.drop 23 = dktX1_elbows_1 := dk_seg dksX1_elbows_0 23 rfl rfl
theorem dksX1_elbows_2 : cX1_elbows.data.toList.drop 47 = dktX1_elbows_2 := dk_seg dksX1_elbows_1 24 rfl rfl
theorem dksX1_elbows_3 : cX1_elbows.data.toList.drop 69 = dktX1_elbows_3 := dk_seg dksX1_elbows_2 22 rfl rfl
theorem dX1_elbows_0 : decode cX1_elbows 0 = .ok (.aload_n 0, 1) := dk_42 (dk_at dksX1_elbows_0 0 rfl rfl)
theorem dX1_elbows_1 : decode cX1_elbows 1 = .ok (.iload_n 1, 1) := dk_27 (dk_at dksX1_elbows_0 1 rfl rfl)
theorem dX1_elbows_2 : decode cX1_elbows 2 = .ok (.invokevirtual 192, 3) := dk_182 0 192 (dk_at dksX1_elbows_0 2 rfl rfl)
theorem dX1_elbows_5 : decode cX1_elbows 5 = .ok (.ifCond .ne 9, 3) := dk_154 0 9 (dk_at dksX1_elbows_0 5 rfl rfl)
theorem dX1_elbows_8 : decode cX1_elbows 8 = .ok (.aload_n 0, 1) := dk_42 (dk_at dksX1_elbows_0 8 rfl rfl)
theorem dX1_elbows_9 : decode cX1_elbows 9 = .ok (.iconst 1, 1) := dk_4 (dk_at dksX1_elbows_0 9 rfl rfl)
theorem dX1_elbows_10 : decode cX1_elbows 10 = .ok (.invokevirtual 66, 3) := dk_182 0 66 (dk_at dksX1_elbows_0 10 rfl rfl)
theorem dX1_elbows_13 : decode cX1_elbows 13 = .ok (.ireturn, 1) := dk_172 (dk_at dksX1_elbows_0 13 rfl rfl)
theorem dX1_elbows_14 : decode cX1_elbows 14 = .ok (.iconst 0, 1) := dk_3 (dk_at dksX1_elbows_0 14 rfl rfl)
theorem dX1_elbows_15 : decode cX1_elbows 15 = .ok (.istore_n 2, 1) := dk_61 (dk_at dksX1_elbows_0 15 rfl rfl)
theorem dX1_elbows_16 : decode cX1_elbows 16 = .ok (.iconst 0, 1) := dk_3 (dk_at dksX1_elbows_0 16 rfl rfl)
theorem dX1_elbows_17 : decode cX1_elbows 17 = .ok (.istore_n 3, 1) := dk_62 (dk_at dksX1_elbows_0 17 rfl rfl)
theorem dX1_elbows_18 : decode cX1_elbows 18 = .ok (.iload_n 3, 1) := dk_29 (dk_at dksX1_elbows_0 18 rfl rfl)
theorem dX1_elbows_19 : decode cX1_elbows 19 = .ok (.aload_n 0, 1) := dk_42 (dk_at dksX1_elbows_0 19 rfl rfl)
theorem dX1_elbows_20 : decode cX1_elbows 20 = .ok (.getfield 101, 3) := dk_180 0 101 (dk_at dksX1_elbows_0 20 rfl rfl)
theorem dX1_elbows_23 : decode cX1_elbows 23 = .ok (.getfield 131, 3) := dk_180 0 131 (dk_at dksX1_elbows_1 0 rfl rfl)
theorem dX1_elbows_26 : decode cX1_elbows 26 = .ok (.invokevirtual 136, 3) := dk_182 0 136 (dk_at dksX1_elbows_1 3 rfl rfl)
theorem dX1_elbows_29 : decode cX1_elbows 29 = .ok (.if_icmp .ge 43, 3) := dk_162 0 43 (dk_at dksX1_elbows_1 6 rfl rfl)
theorem dX1_elbows_32 : decode cX1_elbows 32 = .ok (.iload_n 2, 1) := dk_28 (dk_at dksX1_elbows_1 9 rfl rfl)
theorem dX1_elbows_33 : decode cX1_elbows 33 = .ok (.aload_n 0, 1) := dk_42 (dk_at dksX1_elbows_1 10 rfl rfl)
theorem dX1_elbows_34 : decode cX1_elbows 34 = .ok (.getfield 140, 3) := dk_180 0 140 (dk_at dksX1_elbows_1 11 rfl rfl)
theorem dX1_elbows_37 : decode cX1_elbows 37 = .ok (.getfield 195, 3) := dk_180 0 195 (dk_at dksX1_elbows_1 14 rfl rfl)
theorem dX1_elbows_40 : decode cX1_elbows 40 = .ok (.iload_n 3, 1) := dk_29 (dk_at dksX1_elbows_1 17 rfl rfl)
theorem dX1_elbows_41 : decode cX1_elbows 41 = .ok (.iaload, 1) := dk_46 (dk_at dksX1_elbows_1 18 rfl rfl)
theorem dX1_elbows_42 : decode cX1_elbows 42 = .ok (.iconst 1, 1) := dk_4 (dk_at dksX1_elbows_1 19 rfl rfl)
theorem dX1_elbows_43 : decode cX1_elbows 43 = .ok (.if_icmp .ne 20, 3) := dk_160 0 20 (dk_at dksX1_elbows_1 20 rfl rfl)
theorem dX1_elbows_46 : decode cX1_elbows 46 = .ok (.aload_n 0, 1) := dk_42 (dk_at dksX1_elbows_1 23 rfl rfl)
theorem dX1_elbows_47 : decode cX1_elbows 47 = .ok (.getfield 140, 3) := dk_180 0 140 (dk_at dksX1_elbows_2 0 rfl rfl)
theorem dX1_elbows_50 : decode cX1_elbows 50 = .ok (.getfield 165, 3) := dk_180 0 165 (dk_at dksX1_elbows_2 3 rfl rfl)
theorem dX1_elbows_53 : decode cX1_elbows 53 = .ok (.iload_n 3, 1) := dk_29 (dk_at dksX1_elbows_2 6 rfl rfl)
theorem dX1_elbows_54 : decode cX1_elbows 54 = .ok (.iaload, 1) := dk_46 (dk_at dksX1_elbows_2 7 rfl rfl)
theorem dX1_elbows_55 : decode cX1_elbows 55 = .ok (.iload_n 1, 1) := dk_27 (dk_at dksX1_elbows_2 8 rfl rfl)
theorem dX1_elbows_56 : decode cX1_elbows 56 = .ok (.if_icmp .ne 7, 3) := dk_160 0 7 (dk_at dksX1_elbows_2 9 rfl rfl)
theorem dX1_elbows_59 : decode cX1_elbows 59 = .ok (.iconst 1, 1) := dk_4 (dk_at dksX1_elbows_2 12 rfl rfl)
theorem dX1_elbows_60 : decode cX1_elbows 60 = .ok (.goto 4, 3) := dk_167 0 4 (dk_at dksX1_elbows_2 13 rfl rfl)
theorem dX1_elbows_63 : decode cX1_elbows 63 = .ok (.iconst 0, 1) := dk_3 (dk_at dksX1_elbows_2 16 rfl rfl)
theorem dX1_elbows_64 : decode cX1_elbows 64 = .ok (.iadd, 1) := dk_96 (dk_at dksX1_elbows_2 17 rfl rfl)
theorem dX1_elbows_65 : decode cX1_elbows 65 = .ok (.istore_n 2, 1) := dk_61 (dk_at dksX1_elbows_2 18 rfl rfl)
theorem dX1_elbows_66 : decode cX1_elbows 66 = .ok (.iinc 3 1, 3) := dk_132 3 1 (dk_at dksX1_elbows_2 19 rfl rfl)
theorem dX1_elbows_69 : decode cX1_elbows 69 = .ok (.goto (-51), 3) := dk_167 255 205 (dk_at dksX1_elbows_3 0 rfl rfl)
theorem dX1_elbows_72 : decode cX1_elbows 72 = .ok (.aload_n 0, 1) := dk_42 (dk_at dksX1_elbows_3 3 rfl rfl)
theorem dX1_elbows_73 : decode cX1_elbows 73 = .ok (.iload_n 2, 1) := dk_28 (dk_at dksX1_elbows_3 4 rfl rfl)
theorem dX1_elbows_74 : decode cX1_elbows 74 = .ok (.invokevirtual 70, 3) := dk_182 0 70 (dk_at dksX1_elbows_3 5 rfl rfl)
theorem dX1_elbows_77 : decode cX1_elbows 77 = .ok (.ireturn, 1) := dk_172 (dk_at dksX1_elbows_3 8 rfl rfl)
abbrev cX1_isPlace : ByteArray := prog_1_method_21_code
def yX1_isPlace : MethodName := ⟨RX1, "isPlace", "(I)Z"⟩
def dkwX1_isPlace_1 : List UInt8 := [4, 167, 0, 4, 3, 172]
abbrev dktX1_isPlace_1 : List UInt8 := dkwX1_isPlace_1 ++ []
def dkwX1_isPlace_0 : List UInt8 := [42, 180, 0, 101, 198, 0, 24, 27, 3, 42, 180, 0, 101, 180, 0, 155, 4, 100, 184, 0, 76, 153, 0, 7]
abbrev dktX1_isPlace_0 : List UInt8 := dkwX1_isPlace_0 ++ dktX1_isPlace_1
theorem dksX1_isPlace_0 : cX1_isPlace.data.toList.drop 0 = dktX1_isPlace_0 := by decide +kernel
theorem dksX1_isPlace_1 : cX1_isPlace.data.toList.drop 24 = dktX1_isPlace_1 := dk_seg dksX1_isPlace_0 24 rfl rfl
theorem dX1_isPlace_0 : decode cX1_isPlace 0 = .ok (.aload_n 0, 1) := dk_42 (dk_at dksX1_isPlace_0 0 rfl rfl)
theorem dX1_isPlace_1 : decode cX1_isPlace 1 = .ok (.getfield 101, 3) := dk_180 0 101 (dk_at dksX1_isPlace_0 1 rfl rfl)
theorem dX1_isPlace_4 : decode cX1_isPlace 4 = .ok (.ifnull 24, 3) := dk_198 0 24 (dk_at dksX1_isPlace_0 4 rfl rfl)
theorem dX1_isPlace_7 : decode cX1_isPlace 7 = .ok (.iload_n 1, 1) := dk_27 (dk_at dksX1_isPlace_0 7 rfl rfl)
theorem dX1_isPlace_8 : decode cX1_isPlace 8 = .ok (.iconst 0, 1) := dk_3 (dk_at dksX1_isPlace_0 8 rfl rfl)
theorem dX1_isPlace_9 : decode cX1_isPlace 9 = .ok (.aload_n 0, 1) := dk_42 (dk_at dksX1_isPlace_0 9 rfl rfl)
theorem dX1_isPlace_10 : decode cX1_isPlace 10 = .ok (.getfield 101, 3) := dk_180 0 101 (dk_at dksX1_isPlace_0 10 rfl rfl)
theorem dX1_isPlace_13 : decode cX1_isPlace 13 = .ok (.getfield 155, 3) := dk_180 0 155 (dk_at dksX1_isPlace_0 13 rfl rfl)
theorem dX1_isPlace_16 : decode cX1_isPlace 16 = .ok (.iconst 1, 1) := dk_4 (dk_at dksX1_isPlace_0 16 rfl rfl)
theorem dX1_isPlace_17 : decode cX1_isPlace 17 = .ok (.isub, 1) := dk_100 (dk_at dksX1_isPlace_0 17 rfl rfl)
theorem dX1_isPlace_18 : decode cX1_isPlace 18 = .ok (.invokestatic 76, 3) := dk_184 0 76 (dk_at dksX1_isPlace_0 18 rfl rfl)
theorem dX1_isPlace_21 : decode cX1_isPlace 21 = .ok (.ifCond .eq 7, 3) := dk_153 0 7 (dk_at dksX1_isPlace_0 21 rfl rfl)
theorem dX1_isPlace_24 : decode cX1_isPlace 24 = .ok (.iconst 1, 1) := dk_4 (dk_at dksX1_isPlace_1 0 rfl rfl)
theorem dX1_isPlace_25 : decode cX1_isPlace 25 = .ok (.goto 4, 3) := dk_167 0 4 (dk_at dksX1_isPlace_1 1 rfl rfl)
theorem dX1_isPlace_28 : decode cX1_isPlace 28 = .ok (.iconst 0, 1) := dk_3 (dk_at dksX1_isPlace_1 4 rfl rfl)
theorem dX1_isPlace_29 : decode cX1_isPlace 29 = .ok (.ireturn, 1) := dk_172 (dk_at dksX1_isPlace_1 5 rfl rfl)
abbrev cX1_waiting : ByteArray := prog_1_method_26_code
def yX1_waiting : MethodName := ⟨RX1, "waiting", "()I"⟩
def dkwX1_waiting_0 : List UInt8 := [42, 180, 0, 101, 199, 0, 11, 42, 4, 182, 0, 66, 167, 0, 11, 42, 42, 182, 0, 198, 182, 0, 70, 172]
abbrev dktX1_waiting_0 : List UInt8 := dkwX1_waiting_0 ++ []
theorem dksX1_waiting_0 : cX1_waiting.data.toList.drop 0 = dktX1_waiting_0 := by decide +kernel
theorem dX1_waiting_0 : decode cX1_waiting 0 = .ok (.aload_n 0, 1) := dk_42 (dk_at dksX1_waiting_0 0 rfl rfl)
theorem dX1_waiting_1 : decode cX1_waiting 1 = .ok (.getfield 101, 3) := dk_180 0 101 (dk_at dksX1_waiting_0 1 rfl rfl)
theorem dX1_waiting_4 : decode cX1_waiting 4 = .ok (.ifnonnull 11, 3) := dk_199 0 11 (dk_at dksX1_waiting_0 4 rfl rfl)
theorem dX1_waiting_7 : decode cX1_waiting 7 = .ok (.aload_n 0, 1) := dk_42 (dk_at dksX1_waiting_0 7 rfl rfl)
theorem dX1_waiting_8 : decode cX1_waiting 8 = .ok (.iconst 1, 1) := dk_4 (dk_at dksX1_waiting_0 8 rfl rfl)
theorem dX1_waiting_9 : decode cX1_waiting 9 = .ok (.invokevirtual 66, 3) := dk_182 0 66 (dk_at dksX1_waiting_0 9 rfl rfl)
theorem dX1_waiting_12 : decode cX1_waiting 12 = .ok (.goto 11, 3) := dk_167 0 11 (dk_at dksX1_waiting_0 12 rfl rfl)
theorem dX1_waiting_15 : decode cX1_waiting 15 = .ok (.aload_n 0, 1) := dk_42 (dk_at dksX1_waiting_0 15 rfl rfl)
theorem dX1_waiting_16 : decode cX1_waiting 16 = .ok (.aload_n 0, 1) := dk_42 (dk_at dksX1_waiting_0 16 rfl rfl)
theorem dX1_waiting_17 : decode cX1_waiting 17 = .ok (.invokevirtual 198, 3) := dk_182 0 198 (dk_at dksX1_waiting_0 17 rfl rfl)
theorem dX1_waiting_20 : decode cX1_waiting 20 = .ok (.invokevirtual 70, 3) := dk_182 0 70 (dk_at dksX1_waiting_0 20 rfl rfl)
theorem dX1_waiting_23 : decode cX1_waiting 23 = .ok (.ireturn, 1) := dk_172 (dk_at dksX1_waiting_0 23 rfl rfl)
abbrev cX1_waitingNow : ByteArray := prog_1_method_25_code
def yX1_waitingNow : MethodName := ⟨RX1, "waitingNow", "()I"⟩
def dkwX1_waitingNow_1 : List UInt8 := [180, 0, 195, 28, 46, 4, 160, 0, 7, 4, 167, 0, 4, 3, 96, 60, 132, 2, 1, 167, 255, 218, 27, 172]
abbrev dktX1_waitingNow_1 : List UInt8 := dkwX1_waitingNow_1 ++ []
def dkwX1_waitingNow_0 : List UInt8 := [3, 60, 3, 61, 28, 42, 180, 0, 101, 180, 0, 131, 182, 0, 136, 162, 0, 30, 27, 42, 180, 0, 140]
abbrev dktX1_waitingNow_0 : List UInt8 := dkwX1_waitingNow_0 ++ dktX1_waitingNow_1
theorem dksX1_waitingNow_0 : cX1_waitingNow.data.toList.drop 0 = dktX1_waitingNow_0 := by decide +kernel
theorem dksX1_waitingNow_1 : cX1_waitingNow.data.toList.drop 23 = dktX1_waitingNow_1 := dk_seg dksX1_waitingNow_0 23 rfl rfl
theorem dX1_waitingNow_0 : decode cX1_waitingNow 0 = .ok (.iconst 0, 1) := dk_3 (dk_at dksX1_waitingNow_0 0 rfl rfl)
theorem dX1_waitingNow_1 : decode cX1_waitingNow 1 = .ok (.istore_n 1, 1) := dk_60 (dk_at dksX1_waitingNow_0 1 rfl rfl)
theorem dX1_waitingNow_2 : decode cX1_waitingNow 2 = .ok (.iconst 0, 1) := dk_3 (dk_at dksX1_waitingNow_0 2 rfl rfl)
theorem dX1_waitingNow_3 : decode cX1_waitingNow 3 = .ok (.istore_n 2, 1) := dk_61 (dk_at dksX1_waitingNow_0 3 rfl rfl)
theorem dX1_waitingNow_4 : decode cX1_waitingNow 4 = .ok (.iload_n 2, 1) := dk_28 (dk_at dksX1_waitingNow_0 4 rfl rfl)
theorem dX1_waitingNow_5 : decode cX1_waitingNow 5 = .ok (.aload_n 0, 1) := dk_42 (dk_at dksX1_waitingNow_0 5 rfl rfl)
theorem dX1_waitingNow_6 : decode cX1_waitingNow 6 = .ok (.getfield 101, 3) := dk_180 0 101 (dk_at dksX1_waitingNow_0 6 rfl rfl)
theorem dX1_waitingNow_9 : decode cX1_waitingNow 9 = .ok (.getfield 131, 3) := dk_180 0 131 (dk_at dksX1_waitingNow_0 9 rfl rfl)
theorem dX1_waitingNow_12 : decode cX1_waitingNow 12 = .ok (.invokevirtual 136, 3) := dk_182 0 136 (dk_at dksX1_waitingNow_0 12 rfl rfl)
theorem dX1_waitingNow_15 : decode cX1_waitingNow 15 = .ok (.if_icmp .ge 30, 3) := dk_162 0 30 (dk_at dksX1_waitingNow_0 15 rfl rfl)
theorem dX1_waitingNow_18 : decode cX1_waitingNow 18 = .ok (.iload_n 1, 1) := dk_27 (dk_at dksX1_waitingNow_0 18 rfl rfl)
theorem dX1_waitingNow_19 : decode cX1_waitingNow 19 = .ok (.aload_n 0, 1) := dk_42 (dk_at dksX1_waitingNow_0 19 rfl rfl)
theorem dX1_waitingNow_20 : decode cX1_waitingNow 20 = .ok (.getfield 140, 3) := dk_180 0 140 (dk_at dksX1_waitingNow_0 20 rfl rfl)
theorem dX1_waitingNow_23 : decode cX1_waitingNow 23 = .ok (.getfield 195, 3) := dk_180 0 195 (dk_at dksX1_waitingNow_1 0 rfl rfl)
theorem dX1_waitingNow_26 : decode cX1_waitingNow 26 = .ok (.iload_n 2, 1) := dk_28 (dk_at dksX1_waitingNow_1 3 rfl rfl)
theorem dX1_waitingNow_27 : decode cX1_waitingNow 27 = .ok (.iaload, 1) := dk_46 (dk_at dksX1_waitingNow_1 4 rfl rfl)
theorem dX1_waitingNow_28 : decode cX1_waitingNow 28 = .ok (.iconst 1, 1) := dk_4 (dk_at dksX1_waitingNow_1 5 rfl rfl)
theorem dX1_waitingNow_29 : decode cX1_waitingNow 29 = .ok (.if_icmp .ne 7, 3) := dk_160 0 7 (dk_at dksX1_waitingNow_1 6 rfl rfl)
theorem dX1_waitingNow_32 : decode cX1_waitingNow 32 = .ok (.iconst 1, 1) := dk_4 (dk_at dksX1_waitingNow_1 9 rfl rfl)
theorem dX1_waitingNow_33 : decode cX1_waitingNow 33 = .ok (.goto 4, 3) := dk_167 0 4 (dk_at dksX1_waitingNow_1 10 rfl rfl)
theorem dX1_waitingNow_36 : decode cX1_waitingNow 36 = .ok (.iconst 0, 1) := dk_3 (dk_at dksX1_waitingNow_1 13 rfl rfl)
theorem dX1_waitingNow_37 : decode cX1_waitingNow 37 = .ok (.iadd, 1) := dk_96 (dk_at dksX1_waitingNow_1 14 rfl rfl)
theorem dX1_waitingNow_38 : decode cX1_waitingNow 38 = .ok (.istore_n 1, 1) := dk_60 (dk_at dksX1_waitingNow_1 15 rfl rfl)
theorem dX1_waitingNow_39 : decode cX1_waitingNow 39 = .ok (.iinc 2 1, 3) := dk_132 2 1 (dk_at dksX1_waitingNow_1 16 rfl rfl)
theorem dX1_waitingNow_42 : decode cX1_waitingNow 42 = .ok (.goto (-38), 3) := dk_167 255 218 (dk_at dksX1_waitingNow_1 19 rfl rfl)
theorem dX1_waitingNow_45 : decode cX1_waitingNow 45 = .ok (.iload_n 1, 1) := dk_27 (dk_at dksX1_waitingNow_1 22 rfl rfl)
theorem dX1_waitingNow_46 : decode cX1_waitingNow 46 = .ok (.ireturn, 1) := dk_172 (dk_at dksX1_waitingNow_1 23 rfl rfl)
abbrev cX1_next : ByteArray := prog_1_method_27_code
def yX1_next : MethodName := ⟨RX1, "next", "(I)I"⟩
def dkwX1_next_1 : List UInt8 := [4, 182, 0, 66, 172]
abbrev dktX1_next_1 : List UInt8 := dkwX1_next_1 ++ []
def dkwX1_next_0 : List UInt8 := [42, 27, 182, 0, 180, 153, 0, 18, 42, 42, 180, 0, 140, 27, 182, 0, 201, 182, 0, 70, 167, 0, 8, 42]
abbrev dktX1_next_0 : List UInt8 := dkwX1_next_0 ++ dktX1_next_1
theorem dksX1_next_0 : cX1_next.data.toList.drop 0 = dktX1_next_0 := by decide +kernel
theorem dksX1_next_1 : cX1_next.data.toList.drop 24 = dktX1_next_1 := dk_seg dksX1_next_0 24 rfl rfl
theorem dX1_next_0 : decode cX1_next 0 = .ok (.aload_n 0, 1) := dk_42 (dk_at dksX1_next_0 0 rfl rfl)
theorem dX1_next_1 : decode cX1_next 1 = .ok (.iload_n 1, 1) := dk_27 (dk_at dksX1_next_0 1 rfl rfl)
theorem dX1_next_2 : decode cX1_next 2 = .ok (.invokevirtual 180, 3) := dk_182 0 180 (dk_at dksX1_next_0 2 rfl rfl)
theorem dX1_next_5 : decode cX1_next 5 = .ok (.ifCond .eq 18, 3) := dk_153 0 18 (dk_at dksX1_next_0 5 rfl rfl)
theorem dX1_next_8 : decode cX1_next 8 = .ok (.aload_n 0, 1) := dk_42 (dk_at dksX1_next_0 8 rfl rfl)
theorem dX1_next_9 : decode cX1_next 9 = .ok (.aload_n 0, 1) := dk_42 (dk_at dksX1_next_0 9 rfl rfl)
theorem dX1_next_10 : decode cX1_next 10 = .ok (.getfield 140, 3) := dk_180 0 140 (dk_at dksX1_next_0 10 rfl rfl)
theorem dX1_next_13 : decode cX1_next 13 = .ok (.iload_n 1, 1) := dk_27 (dk_at dksX1_next_0 13 rfl rfl)
theorem dX1_next_14 : decode cX1_next 14 = .ok (.invokevirtual 201, 3) := dk_182 0 201 (dk_at dksX1_next_0 14 rfl rfl)
theorem dX1_next_17 : decode cX1_next 17 = .ok (.invokevirtual 70, 3) := dk_182 0 70 (dk_at dksX1_next_0 17 rfl rfl)
theorem dX1_next_20 : decode cX1_next 20 = .ok (.goto 8, 3) := dk_167 0 8 (dk_at dksX1_next_0 20 rfl rfl)
theorem dX1_next_23 : decode cX1_next 23 = .ok (.aload_n 0, 1) := dk_42 (dk_at dksX1_next_0 23 rfl rfl)
theorem dX1_next_24 : decode cX1_next 24 = .ok (.iconst 1, 1) := dk_4 (dk_at dksX1_next_1 0 rfl rfl)
theorem dX1_next_25 : decode cX1_next 25 = .ok (.invokevirtual 66, 3) := dk_182 0 66 (dk_at dksX1_next_1 1 rfl rfl)
theorem dX1_next_28 : decode cX1_next 28 = .ok (.ireturn, 1) := dk_172 (dk_at dksX1_next_1 4 rfl rfl)
abbrev cX1_time : ByteArray := prog_1_method_28_code
def yX1_time : MethodName := ⟨RX1, "time", "(II)I"⟩
def dkwX1_time_1 : List UInt8 := [182, 0, 204, 182, 0, 70, 167, 0, 8, 42, 4, 182, 0, 66, 172]
abbrev dktX1_time_1 : List UInt8 := dkwX1_time_1 ++ []
def dkwX1_time_0 : List UInt8 := [42, 27, 182, 0, 180, 153, 0, 27, 42, 28, 182, 0, 158, 153, 0, 19, 42, 42, 180, 0, 140, 27, 28]
abbrev dktX1_time_0 : List UInt8 := dkwX1_time_0 ++ dktX1_time_1
theorem dksX1_time_0 : cX1_time.data.toList.drop 0 = dktX1_time_0 := by decide +kernel
theorem dksX1_time_1 : cX1_time.data.toList.drop 23 = dktX1_time_1 := dk_seg dksX1_time_0 23 rfl rfl
theorem dX1_time_0 : decode cX1_time 0 = .ok (.aload_n 0, 1) := dk_42 (dk_at dksX1_time_0 0 rfl rfl)
theorem dX1_time_1 : decode cX1_time 1 = .ok (.iload_n 1, 1) := dk_27 (dk_at dksX1_time_0 1 rfl rfl)
theorem dX1_time_2 : decode cX1_time 2 = .ok (.invokevirtual 180, 3) := dk_182 0 180 (dk_at dksX1_time_0 2 rfl rfl)
theorem dX1_time_5 : decode cX1_time 5 = .ok (.ifCond .eq 27, 3) := dk_153 0 27 (dk_at dksX1_time_0 5 rfl rfl)
theorem dX1_time_8 : decode cX1_time 8 = .ok (.aload_n 0, 1) := dk_42 (dk_at dksX1_time_0 8 rfl rfl)
theorem dX1_time_9 : decode cX1_time 9 = .ok (.iload_n 2, 1) := dk_28 (dk_at dksX1_time_0 9 rfl rfl)
theorem dX1_time_10 : decode cX1_time 10 = .ok (.invokevirtual 158, 3) := dk_182 0 158 (dk_at dksX1_time_0 10 rfl rfl)
theorem dX1_time_13 : decode cX1_time 13 = .ok (.ifCond .eq 19, 3) := dk_153 0 19 (dk_at dksX1_time_0 13 rfl rfl)
theorem dX1_time_16 : decode cX1_time 16 = .ok (.aload_n 0, 1) := dk_42 (dk_at dksX1_time_0 16 rfl rfl)
theorem dX1_time_17 : decode cX1_time 17 = .ok (.aload_n 0, 1) := dk_42 (dk_at dksX1_time_0 17 rfl rfl)
theorem dX1_time_18 : decode cX1_time 18 = .ok (.getfield 140, 3) := dk_180 0 140 (dk_at dksX1_time_0 18 rfl rfl)
theorem dX1_time_21 : decode cX1_time 21 = .ok (.iload_n 1, 1) := dk_27 (dk_at dksX1_time_0 21 rfl rfl)
theorem dX1_time_22 : decode cX1_time 22 = .ok (.iload_n 2, 1) := dk_28 (dk_at dksX1_time_0 22 rfl rfl)
theorem dX1_time_23 : decode cX1_time 23 = .ok (.invokevirtual 204, 3) := dk_182 0 204 (dk_at dksX1_time_1 0 rfl rfl)
theorem dX1_time_26 : decode cX1_time 26 = .ok (.invokevirtual 70, 3) := dk_182 0 70 (dk_at dksX1_time_1 3 rfl rfl)
theorem dX1_time_29 : decode cX1_time 29 = .ok (.goto 8, 3) := dk_167 0 8 (dk_at dksX1_time_1 6 rfl rfl)
theorem dX1_time_32 : decode cX1_time 32 = .ok (.aload_n 0, 1) := dk_42 (dk_at dksX1_time_1 9 rfl rfl)
theorem dX1_time_33 : decode cX1_time 33 = .ok (.iconst 1, 1) := dk_4 (dk_at dksX1_time_1 10 rfl rfl)
theorem dX1_time_34 : decode cX1_time 34 = .ok (.invokevirtual 66, 3) := dk_182 0 66 (dk_at dksX1_time_1 11 rfl rfl)
theorem dX1_time_37 : decode cX1_time 37 = .ok (.ireturn, 1) := dk_172 (dk_at dksX1_time_1 14 rfl rfl)
abbrev cX1_costs : ByteArray := prog_1_method_29_code
def yX1_costs : MethodName := ⟨RX1, "costs", "(I)I"⟩
def dkwX1_costs_1 : List UInt8 := [4, 182, 0, 66, 172]
abbrev dktX1_costs_1 : List UInt8 := dkwX1_costs_1 ++ []
def dkwX1_costs_0 : List UInt8 := [42, 27, 182, 0, 158, 153, 0, 18, 42, 42, 180, 0, 101, 27, 182, 0, 208, 182, 0, 70, 167, 0, 8, 42]
abbrev dktX1_costs_0 : List UInt8 := dkwX1_costs_0 ++ dktX1_costs_1
theorem dksX1_costs_0 : cX1_costs.data.toList.drop 0 = dktX1_costs_0 := by decide +kernel
theorem dksX1_costs_1 : cX1_costs.data.toList.drop 24 = dktX1_costs_1 := dk_seg dksX1_costs_0 24 rfl rfl
theorem dX1_costs_0 : decode cX1_costs 0 = .ok (.aload_n 0, 1) := dk_42 (dk_at dksX1_costs_0 0 rfl rfl)
theorem dX1_costs_1 : decode cX1_costs 1 = .ok (.iload_n 1, 1) := dk_27 (dk_at dksX1_costs_0 1 rfl rfl)
theorem dX1_costs_2 : decode cX1_costs 2 = .ok (.invokevirtual 158, 3) := dk_182 0 158 (dk_at dksX1_costs_0 2 rfl rfl)
theorem dX1_costs_5 : decode cX1_costs 5 = .ok (.ifCond .eq 18, 3) := dk_153 0 18 (dk_at dksX1_costs_0 5 rfl rfl)
theorem dX1_costs_8 : decode cX1_costs 8 = .ok (.aload_n 0, 1) := dk_42 (dk_at dksX1_costs_0 8 rfl rfl)
theorem dX1_costs_9 : decode cX1_costs 9 = .ok (.aload_n 0, 1) := dk_42 (dk_at dksX1_costs_0 9 rfl rfl)
theorem dX1_costs_10 : decode cX1_costs 10 = .ok (.getfield 101, 3) := dk_180 0 101 (dk_at dksX1_costs_0 10 rfl rfl)
theorem dX1_costs_13 : decode cX1_costs 13 = .ok (.iload_n 1, 1) := dk_27 (dk_at dksX1_costs_0 13 rfl rfl)
theorem dX1_costs_14 : decode cX1_costs 14 = .ok (.invokevirtual 208, 3) := dk_182 0 208 (dk_at dksX1_costs_0 14 rfl rfl)
theorem dX1_costs_17 : decode cX1_costs 17 = .ok (.invokevirtual 70, 3) := dk_182 0 70 (dk_at dksX1_costs_0 17 rfl rfl)
theorem dX1_costs_20 : decode cX1_costs 20 = .ok (.goto 8, 3) := dk_167 0 8 (dk_at dksX1_costs_0 20 rfl rfl)
theorem dX1_costs_23 : decode cX1_costs 23 = .ok (.aload_n 0, 1) := dk_42 (dk_at dksX1_costs_0 23 rfl rfl)
theorem dX1_costs_24 : decode cX1_costs 24 = .ok (.iconst 1, 1) := dk_4 (dk_at dksX1_costs_1 0 rfl rfl)
theorem dX1_costs_25 : decode cX1_costs 25 = .ok (.invokevirtual 66, 3) := dk_182 0 66 (dk_at dksX1_costs_1 1 rfl rfl)
theorem dX1_costs_28 : decode cX1_costs 28 = .ok (.ireturn, 1) := dk_172 (dk_at dksX1_costs_1 4 rfl rfl)
abbrev cX1_fate : ByteArray := prog_1_method_30_code
def yX1_fate : MethodName := ⟨RX1, "fate", "(I)I"⟩
def dkwX1_fate_1 : List UInt8 := [4, 182, 0, 66, 172]
abbrev dktX1_fate_1 : List UInt8 := dkwX1_fate_1 ++ []
def dkwX1_fate_0 : List UInt8 := [42, 27, 182, 0, 158, 153, 0, 18, 42, 42, 182, 0, 211, 27, 182, 0, 214, 182, 0, 70, 167, 0, 8, 42]
abbrev dktX1_fate_0 : List UInt8 := dkwX1_fate_0 ++ dktX1_fate_1
theorem dksX1_fate_0 : cX1_fate.data.toList.drop 0 = dktX1_fate_0 := by decide +kernel
theorem dksX1_fate_1 : cX1_fate.data.toList.drop 24 = dktX1_fate_1 := dk_seg dksX1_fate_0 24 rfl rfl
theorem dX1_fate_0 : decode cX1_fate 0 = .ok (.aload_n 0, 1) := dk_42 (dk_at dksX1_fate_0 0 rfl rfl)
theorem dX1_fate_1 : decode cX1_fate 1 = .ok (.iload_n 1, 1) := dk_27 (dk_at dksX1_fate_0 1 rfl rfl)
theorem dX1_fate_2 : decode cX1_fate 2 = .ok (.invokevirtual 158, 3) := dk_182 0 158 (dk_at dksX1_fate_0 2 rfl rfl)
theorem dX1_fate_5 : decode cX1_fate 5 = .ok (.ifCond .eq 18, 3) := dk_153 0 18 (dk_at dksX1_fate_0 5 rfl rfl)
theorem dX1_fate_8 : decode cX1_fate 8 = .ok (.aload_n 0, 1) := dk_42 (dk_at dksX1_fate_0 8 rfl rfl)
theorem dX1_fate_9 : decode cX1_fate 9 = .ok (.aload_n 0, 1) := dk_42 (dk_at dksX1_fate_0 9 rfl rfl)
theorem dX1_fate_10 : decode cX1_fate 10 = .ok (.invokevirtual 211, 3) := dk_182 0 211 (dk_at dksX1_fate_0 10 rfl rfl)
theorem dX1_fate_13 : decode cX1_fate 13 = .ok (.iload_n 1, 1) := dk_27 (dk_at dksX1_fate_0 13 rfl rfl)
theorem dX1_fate_14 : decode cX1_fate 14 = .ok (.invokevirtual 214, 3) := dk_182 0 214 (dk_at dksX1_fate_0 14 rfl rfl)
theorem dX1_fate_17 : decode cX1_fate 17 = .ok (.invokevirtual 70, 3) := dk_182 0 70 (dk_at dksX1_fate_0 17 rfl rfl)
theorem dX1_fate_20 : decode cX1_fate 20 = .ok (.goto 8, 3) := dk_167 0 8 (dk_at dksX1_fate_0 20 rfl rfl)
theorem dX1_fate_23 : decode cX1_fate 23 = .ok (.aload_n 0, 1) := dk_42 (dk_at dksX1_fate_0 23 rfl rfl)
theorem dX1_fate_24 : decode cX1_fate 24 = .ok (.iconst 1, 1) := dk_4 (dk_at dksX1_fate_1 0 rfl rfl)
theorem dX1_fate_25 : decode cX1_fate 25 = .ok (.invokevirtual 66, 3) := dk_182 0 66 (dk_at dksX1_fate_1 1 rfl rfl)
theorem dX1_fate_28 : decode cX1_fate 28 = .ok (.ireturn, 1) := dk_172 (dk_at dksX1_fate_1 4 rfl rfl)
abbrev cX1_toCome : ByteArray := prog_1_method_17_code
def yX1_toCome : MethodName := ⟨RX1, "toCome", "()LNextAtBar$Bar;"⟩
def dkwX1_toCome_1 : List UInt8 := [182, 0, 150, 87, 42, 4, 181, 0, 143, 42, 180, 0, 114, 176]
abbrev dktX1_toCome_1 : List UInt8 := dkwX1_toCome_1 ++ []
def dkwX1_toCome_0 : List UInt8 := [42, 180, 0, 143, 154, 0, 27, 42, 180, 0, 114, 42, 180, 0, 140, 182, 0, 147, 42, 180, 0, 114]
abbrev dktX1_toCome_0 : List UInt8 := dkwX1_toCome_0 ++ dktX1_toCome_1
theorem dksX1_toCome_0 : cX1_toCome.data.toList.drop 0 = dktX1_toCome_0 := by decide +kernel
theorem dksX1_toCome_1 : cX1_toCome.data.toList.drop 22 = dktX1_toCome_1 := dk_seg dksX1_toCome_0 22 rfl rfl
theorem dX1_toCome_0 : decode cX1_toCome 0 = .ok (.aload_n 0, 1) := dk_42 (dk_at dksX1_toCome_0 0 rfl rfl)
theorem dX1_toCome_1 : decode cX1_toCome 1 = .ok (.getfield 143, 3) := dk_180 0 143 (dk_at dksX1_toCome_0 1 rfl rfl)
theorem dX1_toCome_4 : decode cX1_toCome 4 = .ok (.ifCond .ne 27, 3) := dk_154 0 27 (dk_at dksX1_toCome_0 4 rfl rfl)
theorem dX1_toCome_7 : decode cX1_toCome 7 = .ok (.aload_n 0, 1) := dk_42 (dk_at dksX1_toCome_0 7 rfl rfl)
theorem dX1_toCome_8 : decode cX1_toCome 8 = .ok (.getfield 114, 3) := dk_180 0 114 (dk_at dksX1_toCome_0 8 rfl rfl)
theorem dX1_toCome_11 : decode cX1_toCome 11 = .ok (.aload_n 0, 1) := dk_42 (dk_at dksX1_toCome_0 11 rfl rfl)
theorem dX1_toCome_12 : decode cX1_toCome 12 = .ok (.getfield 140, 3) := dk_180 0 140 (dk_at dksX1_toCome_0 12 rfl rfl)
theorem dX1_toCome_15 : decode cX1_toCome 15 = .ok (.invokevirtual 147, 3) := dk_182 0 147 (dk_at dksX1_toCome_0 15 rfl rfl)
theorem dX1_toCome_18 : decode cX1_toCome 18 = .ok (.aload_n 0, 1) := dk_42 (dk_at dksX1_toCome_0 18 rfl rfl)
theorem dX1_toCome_19 : decode cX1_toCome 19 = .ok (.getfield 114, 3) := dk_180 0 114 (dk_at dksX1_toCome_0 19 rfl rfl)
theorem dX1_toCome_22 : decode cX1_toCome 22 = .ok (.invokevirtual 150, 3) := dk_182 0 150 (dk_at dksX1_toCome_1 0 rfl rfl)
theorem dX1_toCome_25 : decode cX1_toCome 25 = .ok (.pop, 1) := dk_87 (dk_at dksX1_toCome_1 3 rfl rfl)
theorem dX1_toCome_26 : decode cX1_toCome 26 = .ok (.aload_n 0, 1) := dk_42 (dk_at dksX1_toCome_1 4 rfl rfl)
theorem dX1_toCome_27 : decode cX1_toCome 27 = .ok (.iconst 1, 1) := dk_4 (dk_at dksX1_toCome_1 5 rfl rfl)
theorem dX1_toCome_28 : decode cX1_toCome 28 = .ok (.putfield 143, 3) := dk_181 0 143 (dk_at dksX1_toCome_1 6 rfl rfl)
theorem dX1_toCome_31 : decode cX1_toCome 31 = .ok (.aload_n 0, 1) := dk_42 (dk_at dksX1_toCome_1 9 rfl rfl)
theorem dX1_toCome_32 : decode cX1_toCome 32 = .ok (.getfield 114, 3) := dk_180 0 114 (dk_at dksX1_toCome_1 10 rfl rfl)
theorem dX1_toCome_35 : decode cX1_toCome 35 = .ok (.areturn, 1) := dk_176 (dk_at dksX1_toCome_1 13 rfl rfl)
abbrev cX1_waits : ByteArray := prog_1_method_31_code
def yX1_waits : MethodName := ⟨RX1, "waits", "(I)I"⟩
def dkwX1_waits_1 : List UInt8 := [4, 182, 0, 66, 172]
abbrev dktX1_waits_1 : List UInt8 := dkwX1_waits_1 ++ []
def dkwX1_waits_0 : List UInt8 := [42, 27, 182, 0, 158, 153, 0, 18, 42, 42, 182, 0, 211, 27, 182, 0, 217, 182, 0, 70, 167, 0, 8, 42]
abbrev dktX1_waits_0 : List UInt8 := dkwX1_waits_0 ++ dktX1_waits_1
theorem dksX1_waits_0 : cX1_waits.data.toList.drop 0 = dktX1_waits_0 := by decide +kernel
theorem dksX1_waits_1 : cX1_waits.data.toList.drop 24 = dktX1_waits_1 := dk_seg dksX1_waits_0 24 rfl rfl
theorem dX1_waits_0 : decode cX1_waits 0 = .ok (.aload_n 0, 1) := dk_42 (dk_at dksX1_waits_0 0 rfl rfl)
theorem dX1_waits_1 : decode cX1_waits 1 = .ok (.iload_n 1, 1) := dk_27 (dk_at dksX1_waits_0 1 rfl rfl)
theorem dX1_waits_2 : decode cX1_waits 2 = .ok (.invokevirtual 158, 3) := dk_182 0 158 (dk_at dksX1_waits_0 2 rfl rfl)
theorem dX1_waits_5 : decode cX1_waits 5 = .ok (.ifCond .eq 18, 3) := dk_153 0 18 (dk_at dksX1_waits_0 5 rfl rfl)
theorem dX1_waits_8 : decode cX1_waits 8 = .ok (.aload_n 0, 1) := dk_42 (dk_at dksX1_waits_0 8 rfl rfl)
theorem dX1_waits_9 : decode cX1_waits 9 = .ok (.aload_n 0, 1) := dk_42 (dk_at dksX1_waits_0 9 rfl rfl)
theorem dX1_waits_10 : decode cX1_waits 10 = .ok (.invokevirtual 211, 3) := dk_182 0 211 (dk_at dksX1_waits_0 10 rfl rfl)
theorem dX1_waits_13 : decode cX1_waits 13 = .ok (.iload_n 1, 1) := dk_27 (dk_at dksX1_waits_0 13 rfl rfl)
theorem dX1_waits_14 : decode cX1_waits 14 = .ok (.invokevirtual 217, 3) := dk_182 0 217 (dk_at dksX1_waits_0 14 rfl rfl)
theorem dX1_waits_17 : decode cX1_waits 17 = .ok (.invokevirtual 70, 3) := dk_182 0 70 (dk_at dksX1_waits_0 17 rfl rfl)
theorem dX1_waits_20 : decode cX1_waits 20 = .ok (.goto 8, 3) := dk_167 0 8 (dk_at dksX1_waits_0 20 rfl rfl)
theorem dX1_waits_23 : decode cX1_waits 23 = .ok (.aload_n 0, 1) := dk_42 (dk_at dksX1_waits_0 23 rfl rfl)
theorem dX1_waits_24 : decode cX1_waits 24 = .ok (.iconst 1, 1) := dk_4 (dk_at dksX1_waits_1 0 rfl rfl)
theorem dX1_waits_25 : decode cX1_waits 25 = .ok (.invokevirtual 66, 3) := dk_182 0 66 (dk_at dksX1_waits_1 1 rfl rfl)
theorem dX1_waits_28 : decode cX1_waits 28 = .ok (.ireturn, 1) := dk_172 (dk_at dksX1_waits_1 4 rfl rfl)
abbrev cX1_whom : ByteArray := prog_1_method_32_code
def yX1_whom : MethodName := ⟨RX1, "whom", "(I)I"⟩
def dkwX1_whom_1 : List UInt8 := [42, 4, 182, 0, 66, 172]
abbrev dktX1_whom_1 : List UInt8 := dkwX1_whom_1 ++ []
def dkwX1_whom_0 : List UInt8 := [42, 27, 182, 0, 158, 153, 0, 19, 42, 42, 182, 0, 211, 180, 0, 220, 27, 46, 182, 0, 70, 167, 0, 8]
abbrev dktX1_whom_0 : List UInt8 := dkwX1_whom_0 ++ dktX1_whom_1
theorem dksX1_whom_0 : cX1_whom.data.toList.drop 0 = dktX1_whom_0 := by decide +kernel
theorem dksX1_whom_1 : cX1_whom.data.toList.drop 24 = dktX1_whom_1 := dk_seg dksX1_whom_0 24 rfl rfl
theorem dX1_whom_0 : decode cX1_whom 0 = .ok (.aload_n 0, 1) := dk_42 (dk_at dksX1_whom_0 0 rfl rfl)
theorem dX1_whom_1 : decode cX1_whom 1 = .ok (.iload_n 1, 1) := dk_27 (dk_at dksX1_whom_0 1 rfl rfl)
theorem dX1_whom_2 : decode cX1_whom 2 = .ok (.invokevirtual 158, 3) := dk_182 0 158 (dk_at dksX1_whom_0 2 rfl rfl)
theorem dX1_whom_5 : decode cX1_whom 5 = .ok (.ifCond .eq 19, 3) := dk_153 0 19 (dk_at dksX1_whom_0 5 rfl rfl)
theorem dX1_whom_8 : decode cX1_whom 8 = .ok (.aload_n 0, 1) := dk_42 (dk_at dksX1_whom_0 8 rfl rfl)
theorem dX1_whom_9 : decode cX1_whom 9 = .ok (.aload_n 0, 1) := dk_42 (dk_at dksX1_whom_0 9 rfl rfl)
theorem dX1_whom_10 : decode cX1_whom 10 = .ok (.invokevirtual 211, 3) := dk_182 0 211 (dk_at dksX1_whom_0 10 rfl rfl)
theorem dX1_whom_13 : decode cX1_whom 13 = .ok (.getfield 220, 3) := dk_180 0 220 (dk_at dksX1_whom_0 13 rfl rfl)
theorem dX1_whom_16 : decode cX1_whom 16 = .ok (.iload_n 1, 1) := dk_27 (dk_at dksX1_whom_0 16 rfl rfl)
theorem dX1_whom_17 : decode cX1_whom 17 = .ok (.iaload, 1) := dk_46 (dk_at dksX1_whom_0 17 rfl rfl)
theorem dX1_whom_18 : decode cX1_whom 18 = .ok (.invokevirtual 70, 3) := dk_182 0 70 (dk_at dksX1_whom_0 18 rfl rfl)
theorem dX1_whom_21 : decode cX1_whom 21 = .ok (.goto 8, 3) := dk_167 0 8 (dk_at dksX1_whom_0 21 rfl rfl)
theorem dX1_whom_24 : decode cX1_whom 24 = .ok (.aload_n 0, 1) := dk_42 (dk_at dksX1_whom_1 0 rfl rfl)
theorem dX1_whom_25 : decode cX1_whom 25 = .ok (.iconst 1, 1) := dk_4 (dk_at dksX1_whom_1 1 rfl rfl)
theorem dX1_whom_26 : decode cX1_whom 26 = .ok (.invokevirtual 66, 3) := dk_182 0 66 (dk_at dksX1_whom_1 2 rfl rfl)
theorem dX1_whom_29 : decode cX1_whom 29 = .ok (.ireturn, 1) := dk_172 (dk_at dksX1_whom_1 5 rfl rfl)
abbrev cX1_has : ByteArray := prog_1_method_33_code
def yX1_has : MethodName := ⟨RX1, "has", "(I)I"⟩
def dkwX1_has_1 : List UInt8 := [42, 4, 182, 0, 66, 172]
abbrev dktX1_has_1 : List UInt8 := dkwX1_has_1 ++ []
def dkwX1_has_0 : List UInt8 := [42, 27, 182, 0, 158, 153, 0, 19, 42, 42, 182, 0, 211, 180, 0, 177, 27, 46, 182, 0, 70, 167, 0, 8]
abbrev dktX1_has_0 : List UInt8 := dkwX1_has_0 ++ dktX1_has_1
theorem dksX1_has_0 : cX1_has.data.toList.drop 0 = dktX1_has_0 := by decide +kernel
theorem dksX1_has_1 : cX1_has.data.toList.drop 24 = dktX1_has_1 := dk_seg dksX1_has_0 24 rfl rfl
theorem dX1_has_0 : decode cX1_has 0 = .ok (.aload_n 0, 1) := dk_42 (dk_at dksX1_has_0 0 rfl rfl)
theorem dX1_has_1 : decode cX1_has 1 = .ok (.iload_n 1, 1) := dk_27 (dk_at dksX1_has_0 1 rfl rfl)
theorem dX1_has_2 : decode cX1_has 2 = .ok (.invokevirtual 158, 3) := dk_182 0 158 (dk_at dksX1_has_0 2 rfl rfl)
theorem dX1_has_5 : decode cX1_has 5 = .ok (.ifCond .eq 19, 3) := dk_153 0 19 (dk_at dksX1_has_0 5 rfl rfl)
theorem dX1_has_8 : decode cX1_has 8 = .ok (.aload_n 0, 1) := dk_42 (dk_at dksX1_has_0 8 rfl rfl)
theorem dX1_has_9 : decode cX1_has 9 = .ok (.aload_n 0, 1) := dk_42 (dk_at dksX1_has_0 9 rfl rfl)
theorem dX1_has_10 : decode cX1_has 10 = .ok (.invokevirtual 211, 3) := dk_182 0 211 (dk_at dksX1_has_0 10 rfl rfl)
theorem dX1_has_13 : decode cX1_has 13 = .ok (.getfield 177, 3) := dk_180 0 177 (dk_at dksX1_has_0 13 rfl rfl)
theorem dX1_has_16 : decode cX1_has 16 = .ok (.iload_n 1, 1) := dk_27 (dk_at dksX1_has_0 16 rfl rfl)
theorem dX1_has_17 : decode cX1_has 17 = .ok (.iaload, 1) := dk_46 (dk_at dksX1_has_0 17 rfl rfl)
theorem dX1_has_18 : decode cX1_has 18 = .ok (.invokevirtual 70, 3) := dk_182 0 70 (dk_at dksX1_has_0 18 rfl rfl)
theorem dX1_has_21 : decode cX1_has 21 = .ok (.goto 8, 3) := dk_167 0 8 (dk_at dksX1_has_0 21 rfl rfl)
theorem dX1_has_24 : decode cX1_has 24 = .ok (.aload_n 0, 1) := dk_42 (dk_at dksX1_has_1 0 rfl rfl)
theorem dX1_has_25 : decode cX1_has 25 = .ok (.iconst 1, 1) := dk_4 (dk_at dksX1_has_1 1 rfl rfl)
theorem dX1_has_26 : decode cX1_has 26 = .ok (.invokevirtual 66, 3) := dk_182 0 66 (dk_at dksX1_has_1 2 rfl rfl)
theorem dX1_has_29 : decode cX1_has 29 = .ok (.ireturn, 1) := dk_172 (dk_at dksX1_has_1 5 rfl rfl)
abbrev cX1_passed : ByteArray := prog_1_method_34_code
def yX1_passed : MethodName := ⟨RX1, "passed", "(I)I"⟩
def dkwX1_passed_1 : List UInt8 := [42, 4, 182, 0, 66, 172]
abbrev dktX1_passed_1 : List UInt8 := dkwX1_passed_1 ++ []
def dkwX1_passed_0 : List UInt8 := [42, 27, 182, 0, 158, 153, 0, 19, 42, 42, 182, 0, 211, 180, 0, 223, 27, 46, 182, 0, 70, 167, 0, 8]
abbrev dktX1_passed_0 : List UInt8 := dkwX1_passed_0 ++ dktX1_passed_1
theorem dksX1_passed_0 : cX1_passed.data.toList.drop 0 = dktX1_passed_0 := by decide +kernel
theorem dksX1_passed_1 : cX1_passed.data.toList.drop 24 = dktX1_passed_1 := dk_seg dksX1_passed_0 24 rfl rfl
theorem dX1_passed_0 : decode cX1_passed 0 = .ok (.aload_n 0, 1) := dk_42 (dk_at dksX1_passed_0 0 rfl rfl)
theorem dX1_passed_1 : decode cX1_passed 1 = .ok (.iload_n 1, 1) := dk_27 (dk_at dksX1_passed_0 1 rfl rfl)
theorem dX1_passed_2 : decode cX1_passed 2 = .ok (.invokevirtual 158, 3) := dk_182 0 158 (dk_at dksX1_passed_0 2 rfl rfl)
theorem dX1_passed_5 : decode cX1_passed 5 = .ok (.ifCond .eq 19, 3) := dk_153 0 19 (dk_at dksX1_passed_0 5 rfl rfl)
theorem dX1_passed_8 : decode cX1_passed 8 = .ok (.aload_n 0, 1) := dk_42 (dk_at dksX1_passed_0 8 rfl rfl)
theorem dX1_passed_9 : decode cX1_passed 9 = .ok (.aload_n 0, 1) := dk_42 (dk_at dksX1_passed_0 9 rfl rfl)
theorem dX1_passed_10 : decode cX1_passed 10 = .ok (.invokevirtual 211, 3) := dk_182 0 211 (dk_at dksX1_passed_0 10 rfl rfl)
theorem dX1_passed_13 : decode cX1_passed 13 = .ok (.getfield 223, 3) := dk_180 0 223 (dk_at dksX1_passed_0 13 rfl rfl)
theorem dX1_passed_16 : decode cX1_passed 16 = .ok (.iload_n 1, 1) := dk_27 (dk_at dksX1_passed_0 16 rfl rfl)
theorem dX1_passed_17 : decode cX1_passed 17 = .ok (.iaload, 1) := dk_46 (dk_at dksX1_passed_0 17 rfl rfl)
theorem dX1_passed_18 : decode cX1_passed 18 = .ok (.invokevirtual 70, 3) := dk_182 0 70 (dk_at dksX1_passed_0 18 rfl rfl)
theorem dX1_passed_21 : decode cX1_passed 21 = .ok (.goto 8, 3) := dk_167 0 8 (dk_at dksX1_passed_0 21 rfl rfl)
theorem dX1_passed_24 : decode cX1_passed 24 = .ok (.aload_n 0, 1) := dk_42 (dk_at dksX1_passed_1 0 rfl rfl)
theorem dX1_passed_25 : decode cX1_passed 25 = .ok (.iconst 1, 1) := dk_4 (dk_at dksX1_passed_1 1 rfl rfl)
theorem dX1_passed_26 : decode cX1_passed 26 = .ok (.invokevirtual 66, 3) := dk_182 0 66 (dk_at dksX1_passed_1 2 rfl rfl)
theorem dX1_passed_29 : decode cX1_passed 29 = .ok (.ireturn, 1) := dk_172 (dk_at dksX1_passed_1 5 rfl rfl)
abbrev cX1_pushed : ByteArray := prog_1_method_35_code
def yX1_pushed : MethodName := ⟨RX1, "pushed", "(I)I"⟩
def dkwX1_pushed_1 : List UInt8 := [42, 4, 182, 0, 66, 172]
abbrev dktX1_pushed_1 : List UInt8 := dkwX1_pushed_1 ++ []
def dkwX1_pushed_0 : List UInt8 := [42, 27, 182, 0, 158, 153, 0, 19, 42, 42, 182, 0, 211, 180, 0, 226, 27, 46, 182, 0, 70, 167, 0, 8]
abbrev dktX1_pushed_0 : List UInt8 := dkwX1_pushed_0 ++ dktX1_pushed_1
theorem dksX1_pushed_0 : cX1_pushed.data.toList.drop 0 = dktX1_pushed_0 := by decide +kernel
theorem dksX1_pushed_1 : cX1_pushed.data.toList.drop 24 = dktX1_pushed_1 := dk_seg dksX1_pushed_0 24 rfl rfl
theorem dX1_pushed_0 : decode cX1_pushed 0 = .ok (.aload_n 0, 1) := dk_42 (dk_at dksX1_pushed_0 0 rfl rfl)
theorem dX1_pushed_1 : decode cX1_pushed 1 = .ok (.iload_n 1, 1) := dk_27 (dk_at dksX1_pushed_0 1 rfl rfl)
theorem dX1_pushed_2 : decode cX1_pushed 2 = .ok (.invokevirtual 158, 3) := dk_182 0 158 (dk_at dksX1_pushed_0 2 rfl rfl)
theorem dX1_pushed_5 : decode cX1_pushed 5 = .ok (.ifCond .eq 19, 3) := dk_153 0 19 (dk_at dksX1_pushed_0 5 rfl rfl)
theorem dX1_pushed_8 : decode cX1_pushed 8 = .ok (.aload_n 0, 1) := dk_42 (dk_at dksX1_pushed_0 8 rfl rfl)
theorem dX1_pushed_9 : decode cX1_pushed 9 = .ok (.aload_n 0, 1) := dk_42 (dk_at dksX1_pushed_0 9 rfl rfl)
theorem dX1_pushed_10 : decode cX1_pushed 10 = .ok (.invokevirtual 211, 3) := dk_182 0 211 (dk_at dksX1_pushed_0 10 rfl rfl)
theorem dX1_pushed_13 : decode cX1_pushed 13 = .ok (.getfield 226, 3) := dk_180 0 226 (dk_at dksX1_pushed_0 13 rfl rfl)
theorem dX1_pushed_16 : decode cX1_pushed 16 = .ok (.iload_n 1, 1) := dk_27 (dk_at dksX1_pushed_0 16 rfl rfl)
theorem dX1_pushed_17 : decode cX1_pushed 17 = .ok (.iaload, 1) := dk_46 (dk_at dksX1_pushed_0 17 rfl rfl)
theorem dX1_pushed_18 : decode cX1_pushed 18 = .ok (.invokevirtual 70, 3) := dk_182 0 70 (dk_at dksX1_pushed_0 18 rfl rfl)
theorem dX1_pushed_21 : decode cX1_pushed 21 = .ok (.goto 8, 3) := dk_167 0 8 (dk_at dksX1_pushed_0 21 rfl rfl)
theorem dX1_pushed_24 : decode cX1_pushed 24 = .ok (.aload_n 0, 1) := dk_42 (dk_at dksX1_pushed_1 0 rfl rfl)
theorem dX1_pushed_25 : decode cX1_pushed 25 = .ok (.iconst 1, 1) := dk_4 (dk_at dksX1_pushed_1 1 rfl rfl)
theorem dX1_pushed_26 : decode cX1_pushed 26 = .ok (.invokevirtual 66, 3) := dk_182 0 66 (dk_at dksX1_pushed_1 2 rfl rfl)
theorem dX1_pushed_29 : decode cX1_pushed 29 = .ok (.ireturn, 1) := dk_172 (dk_at dksX1_pushed_1 5 rfl rfl)
abbrev cX1_sum : ByteArray := prog_1_method_36_code
def yX1_sum : MethodName := ⟨RX1, "sum", "(I)I"⟩
def dkwX1_sum_1 : List UInt8 := [182, 0, 229, 182, 0, 70, 167, 0, 8, 42, 4, 182, 0, 66, 172]
abbrev dktX1_sum_1 : List UInt8 := dkwX1_sum_1 ++ []
def dkwX1_sum_0 : List UInt8 := [42, 180, 0, 101, 198, 0, 27, 27, 3, 8, 184, 0, 76, 153, 0, 18, 42, 42, 182, 0, 211, 27]
abbrev dktX1_sum_0 : List UInt8 := dkwX1_sum_0 ++ dktX1_sum_1
theorem dksX1_sum_0 : cX1_sum.data.toList.drop 0 = dktX1_sum_0 := by decide +kernel
theorem dksX1_sum_1 : cX1_sum.data.toList.drop 22 = dktX1_sum_1 := dk_seg dksX1_sum_0 22 rfl rfl
theorem dX1_sum_0 : decode cX1_sum 0 = .ok (.aload_n 0, 1) := dk_42 (dk_at dksX1_sum_0 0 rfl rfl)
theorem dX1_sum_1 : decode cX1_sum 1 = .ok (.getfield 101, 3) := dk_180 0 101 (dk_at dksX1_sum_0 1 rfl rfl)
theorem dX1_sum_4 : decode cX1_sum 4 = .ok (.ifnull 27, 3) := dk_198 0 27 (dk_at dksX1_sum_0 4 rfl rfl)
theorem dX1_sum_7 : decode cX1_sum 7 = .ok (.iload_n 1, 1) := dk_27 (dk_at dksX1_sum_0 7 rfl rfl)
theorem dX1_sum_8 : decode cX1_sum 8 = .ok (.iconst 0, 1) := dk_3 (dk_at dksX1_sum_0 8 rfl rfl)
theorem dX1_sum_9 : decode cX1_sum 9 = .ok (.iconst 5, 1) := dk_8 (dk_at dksX1_sum_0 9 rfl rfl)
theorem dX1_sum_10 : decode cX1_sum 10 = .ok (.invokestatic 76, 3) := dk_184 0 76 (dk_at dksX1_sum_0 10 rfl rfl)
theorem dX1_sum_13 : decode cX1_sum 13 = .ok (.ifCond .eq 18, 3) := dk_153 0 18 (dk_at dksX1_sum_0 13 rfl rfl)
theorem dX1_sum_16 : decode cX1_sum 16 = .ok (.aload_n 0, 1) := dk_42 (dk_at dksX1_sum_0 16 rfl rfl)
theorem dX1_sum_17 : decode cX1_sum 17 = .ok (.aload_n 0, 1) := dk_42 (dk_at dksX1_sum_0 17 rfl rfl)
theorem dX1_sum_18 : decode cX1_sum 18 = .ok (.invokevirtual 211, 3) := dk_182 0 211 (dk_at dksX1_sum_0 18 rfl rfl)
theorem dX1_sum_21 : decode cX1_sum 21 = .ok (.iload_n 1, 1) := dk_27 (dk_at dksX1_sum_0 21 rfl rfl)
theorem dX1_sum_22 : decode cX1_sum 22 = .ok (.invokevirtual 229, 3) := dk_182 0 229 (dk_at dksX1_sum_1 0 rfl rfl)
theorem dX1_sum_25 : decode cX1_sum 25 = .ok (.invokevirtual 70, 3) := dk_182 0 70 (dk_at dksX1_sum_1 3 rfl rfl)
theorem dX1_sum_28 : decode cX1_sum 28 = .ok (.goto 8, 3) := dk_167 0 8 (dk_at dksX1_sum_1 6 rfl rfl)
theorem dX1_sum_31 : decode cX1_sum 31 = .ok (.aload_n 0, 1) := dk_42 (dk_at dksX1_sum_1 9 rfl rfl)
theorem dX1_sum_32 : decode cX1_sum 32 = .ok (.iconst 1, 1) := dk_4 (dk_at dksX1_sum_1 10 rfl rfl)
theorem dX1_sum_33 : decode cX1_sum 33 = .ok (.invokevirtual 66, 3) := dk_182 0 66 (dk_at dksX1_sum_1 11 rfl rfl)
theorem dX1_sum_36 : decode cX1_sum 36 = .ok (.ireturn, 1) := dk_172 (dk_at dksX1_sum_1 14 rfl rfl)
abbrev cX1_bits : ByteArray := prog_1_method_4_code
def yX1_bits : MethodName := ⟨RX1, "bits", "(I)I"⟩
def dkwX1_bits_0 : List UInt8 := [3, 60, 26, 61, 28, 153, 0, 15, 132, 1, 1, 28, 28, 4, 100, 126, 61, 167, 255, 243, 27, 172]
abbrev dktX1_bits_0 : List UInt8 := dkwX1_bits_0 ++ []
theorem dksX1_bits_0 : cX1_bits.data.toList.drop 0 = dktX1_bits_0 := by decide +kernel
theorem dX1_bits_0 : decode cX1_bits 0 = .ok (.iconst 0, 1) := dk_3 (dk_at dksX1_bits_0 0 rfl rfl)
theorem dX1_bits_1 : decode cX1_bits 1 = .ok (.istore_n 1, 1) := dk_60 (dk_at dksX1_bits_0 1 rfl rfl)
theorem dX1_bits_2 : decode cX1_bits 2 = .ok (.iload_n 0, 1) := dk_26 (dk_at dksX1_bits_0 2 rfl rfl)
theorem dX1_bits_3 : decode cX1_bits 3 = .ok (.istore_n 2, 1) := dk_61 (dk_at dksX1_bits_0 3 rfl rfl)
theorem dX1_bits_4 : decode cX1_bits 4 = .ok (.iload_n 2, 1) := dk_28 (dk_at dksX1_bits_0 4 rfl rfl)
theorem dX1_bits_5 : decode cX1_bits 5 = .ok (.ifCond .eq 15, 3) := dk_153 0 15 (dk_at dksX1_bits_0 5 rfl rfl)
theorem dX1_bits_8 : decode cX1_bits 8 = .ok (.iinc 1 1, 3) := dk_132 1 1 (dk_at dksX1_bits_0 8 rfl rfl)
theorem dX1_bits_11 : decode cX1_bits 11 = .ok (.iload_n 2, 1) := dk_28 (dk_at dksX1_bits_0 11 rfl rfl)
theorem dX1_bits_12 : decode cX1_bits 12 = .ok (.iload_n 2, 1) := dk_28 (dk_at dksX1_bits_0 12 rfl rfl)
theorem dX1_bits_13 : decode cX1_bits 13 = .ok (.iconst 1, 1) := dk_4 (dk_at dksX1_bits_0 13 rfl rfl)
theorem dX1_bits_14 : decode cX1_bits 14 = .ok (.isub, 1) := dk_100 (dk_at dksX1_bits_0 14 rfl rfl)
theorem dX1_bits_15 : decode cX1_bits 15 = .ok (.iand, 1) := dk_126 (dk_at dksX1_bits_0 15 rfl rfl)
theorem dX1_bits_16 : decode cX1_bits 16 = .ok (.istore_n 2, 1) := dk_61 (dk_at dksX1_bits_0 16 rfl rfl)
theorem dX1_bits_17 : decode cX1_bits 17 = .ok (.goto (-13), 3) := dk_167 255 243 (dk_at dksX1_bits_0 17 rfl rfl)
theorem dX1_bits_20 : decode cX1_bits 20 = .ok (.iload_n 1, 1) := dk_27 (dk_at dksX1_bits_0 20 rfl rfl)
theorem dX1_bits_21 : decode cX1_bits 21 = .ok (.ireturn, 1) := dk_172 (dk_at dksX1_bits_0 21 rfl rfl)
abbrev cX1_served : ByteArray := prog_1_method_37_code
def yX1_served : MethodName := ⟨RX1, "served", "(I)I"⟩
def dkwX1_served_1 : List UInt8 := [180, 0, 114, 180, 0, 235, 27, 46, 182, 0, 70, 167, 0, 8, 42, 4, 182, 0, 66, 172]
abbrev dktX1_served_1 : List UInt8 := dkwX1_served_1 ++ []
def dkwX1_served_0 : List UInt8 := [42, 180, 0, 101, 198, 0, 34, 27, 155, 0, 30, 27, 42, 182, 0, 211, 180, 0, 232, 162, 0, 19, 42, 42]
abbrev dktX1_served_0 : List UInt8 := dkwX1_served_0 ++ dktX1_served_1
theorem dksX1_served_0 : cX1_served.data.toList.drop 0 = dktX1_served_0 := by decide +kernel
theorem dksX1_served_1 : cX1_served.data.toList.drop 24 = dktX1_served_1 := dk_seg dksX1_served_0 24 rfl rfl
theorem dX1_served_0 : decode cX1_served 0 = .ok (.aload_n 0, 1) := dk_42 (dk_at dksX1_served_0 0 rfl rfl)
theorem dX1_served_1 : decode cX1_served 1 = .ok (.getfield 101, 3) := dk_180 0 101 (dk_at dksX1_served_0 1 rfl rfl)
theorem dX1_served_4 : decode cX1_served 4 = .ok (.ifnull 34, 3) := dk_198 0 34 (dk_at dksX1_served_0 4 rfl rfl)
theorem dX1_served_7 : decode cX1_served 7 = .ok (.iload_n 1, 1) := dk_27 (dk_at dksX1_served_0 7 rfl rfl)
theorem dX1_served_8 : decode cX1_served 8 = .ok (.ifCond .lt 30, 3) := dk_155 0 30 (dk_at dksX1_served_0 8 rfl rfl)
theorem dX1_served_11 : decode cX1_served 11 = .ok (.iload_n 1, 1) := dk_27 (dk_at dksX1_served_0 11 rfl rfl)
theorem dX1_served_12 : decode cX1_served 12 = .ok (.aload_n 0, 1) := dk_42 (dk_at dksX1_served_0 12 rfl rfl)
theorem dX1_served_13 : decode cX1_served 13 = .ok (.invokevirtual 211, 3) := dk_182 0 211 (dk_at dksX1_served_0 13 rfl rfl)
theorem dX1_served_16 : decode cX1_served 16 = .ok (.getfield 232, 3) := dk_180 0 232 (dk_at dksX1_served_0 16 rfl rfl)
theorem dX1_served_19 : decode cX1_served 19 = .ok (.if_icmp .ge 19, 3) := dk_162 0 19 (dk_at dksX1_served_0 19 rfl rfl)
theorem dX1_served_22 : decode cX1_served 22 = .ok (.aload_n 0, 1) := dk_42 (dk_at dksX1_served_0 22 rfl rfl)
theorem dX1_served_23 : decode cX1_served 23 = .ok (.aload_n 0, 1) := dk_42 (dk_at dksX1_served_0 23 rfl rfl)
theorem dX1_served_24 : decode cX1_served 24 = .ok (.getfield 114, 3) := dk_180 0 114 (dk_at dksX1_served_1 0 rfl rfl)
theorem dX1_served_27 : decode cX1_served 27 = .ok (.getfield 235, 3) := dk_180 0 235 (dk_at dksX1_served_1 3 rfl rfl)
theorem dX1_served_30 : decode cX1_served 30 = .ok (.iload_n 1, 1) := dk_27 (dk_at dksX1_served_1 6 rfl rfl)
theorem dX1_served_31 : decode cX1_served 31 = .ok (.iaload, 1) := dk_46 (dk_at dksX1_served_1 7 rfl rfl)
theorem dX1_served_32 : decode cX1_served 32 = .ok (.invokevirtual 70, 3) := dk_182 0 70 (dk_at dksX1_served_1 8 rfl rfl)
theorem dX1_served_35 : decode cX1_served 35 = .ok (.goto 8, 3) := dk_167 0 8 (dk_at dksX1_served_1 11 rfl rfl)
theorem dX1_served_38 : decode cX1_served 38 = .ok (.aload_n 0, 1) := dk_42 (dk_at dksX1_served_1 14 rfl rfl)
theorem dX1_served_39 : decode cX1_served 39 = .ok (.iconst 1, 1) := dk_4 (dk_at dksX1_served_1 15 rfl rfl)
theorem dX1_served_40 : decode cX1_served 40 = .ok (.invokevirtual 66, 3) := dk_182 0 66 (dk_at dksX1_served_1 16 rfl rfl)
theorem dX1_served_43 : decode cX1_served 43 = .ok (.ireturn, 1) := dk_172 (dk_at dksX1_served_1 19 rfl rfl)
abbrev cX1_by : ByteArray := prog_1_method_39_code
def yX1_by : MethodName := ⟨RX1, "by", "(IZI)I"⟩
def dkwX1_by_1 : List UInt8 := [154, 0, 9, 42, 4, 182, 0, 66, 172, 42, 42, 27, 28, 182, 1, 1, 29, 182, 0, 229, 182, 0, 70, 172]
abbrev dktX1_by_1 : List UInt8 := dkwX1_by_1 ++ []
def dkwX1_by_0 : List UInt8 := [42, 180, 0, 101, 198, 0, 21, 27, 3, 7, 184, 0, 76, 153, 0, 12, 29, 3, 8, 184, 0, 76]
abbrev dktX1_by_0 : List UInt8 := dkwX1_by_0 ++ dktX1_by_1
theorem dksX1_by_0 : cX1_by.data.toList.drop 0 = dktX1_by_0 := by decide +kernel
theorem dksX1_by_1 : cX1_by.data.toList.drop 22 = dktX1_by_1 := dk_seg dksX1_by_0 22 rfl rfl
theorem dX1_by_0 : decode cX1_by 0 = .ok (.aload_n 0, 1) := dk_42 (dk_at dksX1_by_0 0 rfl rfl)
theorem dX1_by_1 : decode cX1_by 1 = .ok (.getfield 101, 3) := dk_180 0 101 (dk_at dksX1_by_0 1 rfl rfl)
theorem dX1_by_4 : decode cX1_by 4 = .ok (.ifnull 21, 3) := dk_198 0 21 (dk_at dksX1_by_0 4 rfl rfl)
theorem dX1_by_7 : decode cX1_by 7 = .ok (.iload_n 1, 1) := dk_27 (dk_at dksX1_by_0 7 rfl rfl)
theorem dX1_by_8 : decode cX1_by 8 = .ok (.iconst 0, 1) := dk_3 (dk_at dksX1_by_0 8 rfl rfl)
theorem dX1_by_9 : decode cX1_by 9 = .ok (.iconst 4, 1) := dk_7 (dk_at dksX1_by_0 9 rfl rfl)
theorem dX1_by_10 : decode cX1_by 10 = .ok (.invokestatic 76, 3) := dk_184 0 76 (dk_at dksX1_by_0 10 rfl rfl)
theorem dX1_by_13 : decode cX1_by 13 = .ok (.ifCond .eq 12, 3) := dk_153 0 12 (dk_at dksX1_by_0 13 rfl rfl)
theorem dX1_by_16 : decode cX1_by 16 = .ok (.iload_n 3, 1) := dk_29 (dk_at dksX1_by_0 16 rfl rfl)
theorem dX1_by_17 : decode cX1_by 17 = .ok (.iconst 0, 1) := dk_3 (dk_at dksX1_by_0 17 rfl rfl)
theorem dX1_by_18 : decode cX1_by 18 = .ok (.iconst 5, 1) := dk_8 (dk_at dksX1_by_0 18 rfl rfl)
theorem dX1_by_19 : decode cX1_by 19 = .ok (.invokestatic 76, 3) := dk_184 0 76 (dk_at dksX1_by_0 19 rfl rfl)
theorem dX1_by_22 : decode cX1_by 22 = .ok (.ifCond .ne 9, 3) := dk_154 0 9 (dk_at dksX1_by_1 0 rfl rfl)
theorem dX1_by_25 : decode cX1_by 25 = .ok (.aload_n 0, 1) := dk_42 (dk_at dksX1_by_1 3 rfl rfl)
theorem dX1_by_26 : decode cX1_by 26 = .ok (.iconst 1, 1) := dk_4 (dk_at dksX1_by_1 4 rfl rfl)
theorem dX1_by_27 : decode cX1_by 27 = .ok (.invokevirtual 66, 3) := dk_182 0 66 (dk_at dksX1_by_1 5 rfl rfl)
theorem dX1_by_30 : decode cX1_by 30 = .ok (.ireturn, 1) := dk_172 (dk_at dksX1_by_1 8 rfl rfl)
theorem dX1_by_31 : decode cX1_by 31 = .ok (.aload_n 0, 1) := dk_42 (dk_at dksX1_by_1 9 rfl rfl)
theorem dX1_by_32 : decode cX1_by 32 = .ok (.aload_n 0, 1) := dk_42 (dk_at dksX1_by_1 10 rfl rfl)
theorem dX1_by_33 : decode cX1_by 33 = .ok (.iload_n 1, 1) := dk_27 (dk_at dksX1_by_1 11 rfl rfl)
theorem dX1_by_34 : decode cX1_by 34 = .ok (.iload_n 2, 1) := dk_28 (dk_at dksX1_by_1 12 rfl rfl)
theorem dX1_by_35 : decode cX1_by 35 = .ok (.invokevirtual 257, 3) := dk_182 1 1 (dk_at dksX1_by_1 13 rfl rfl)
theorem dX1_by_38 : decode cX1_by 38 = .ok (.iload_n 3, 1) := dk_29 (dk_at dksX1_by_1 16 rfl rfl)
theorem dX1_by_39 : decode cX1_by 39 = .ok (.invokevirtual 229, 3) := dk_182 0 229 (dk_at dksX1_by_1 17 rfl rfl)
theorem dX1_by_42 : decode cX1_by 42 = .ok (.invokevirtual 70, 3) := dk_182 0 70 (dk_at dksX1_by_1 20 rfl rfl)
theorem dX1_by_45 : decode cX1_by 45 = .ok (.ireturn, 1) := dk_172 (dk_at dksX1_by_1 23 rfl rfl)
abbrev cX1_byRule : ByteArray := prog_1_method_38_code
def yX1_byRule : MethodName := ⟨RX1, "byRule", "(IZ)LNextAtBar$Bar;"⟩
def dkwX1_byRule_2 : List UInt8 := [21, 4, 42, 180, 0, 101, 180, 0, 155, 4, 100, 79, 132, 4, 1, 167, 255, 202, 45, 182, 0, 150, 176]
abbrev dktX1_byRule_2 : List UInt8 := dkwX1_byRule_2 ++ []
def dkwX1_byRule_1 : List UInt8 := [184, 0, 247, 83, 28, 154, 0, 6, 167, 0, 27, 45, 180, 0, 251, 21, 4, 3, 79, 45, 180, 0, 254]
abbrev dktX1_byRule_1 : List UInt8 := dkwX1_byRule_1 ++ dktX1_byRule_2
def dkwX1_byRule_0 : List UInt8 := [42, 182, 0, 238, 78, 3, 54, 4, 21, 4, 45, 180, 0, 241, 162, 0, 51, 45, 180, 0, 243, 21, 4, 27]
abbrev dktX1_byRule_0 : List UInt8 := dkwX1_byRule_0 ++ dktX1_byRule_1
theorem dksX1_byRule_0 : cX1_byRule.data.toList.drop 0 = dktX1_byRule_0 := by decide +kernel
theorem dksX1_byRule_1 : cX1_byRule.data.toList.drop 24 = dktX1_byRule_1 := dk_seg dksX1_byRule_0 24 rfl rfl
theorem dksX1_byRule_2 : cX1_byRule.data.toList.drop 47 = dktX1_byRule_2 := dk_seg dksX1_byRule_1 23 rfl rfl
theorem dX1_byRule_0 : decode cX1_byRule 0 = .ok (.aload_n 0, 1) := dk_42 (dk_at dksX1_byRule_0 0 rfl rfl)
theorem dX1_byRule_1 : decode cX1_byRule 1 = .ok (.invokevirtual 238, 3) := dk_182 0 238 (dk_at dksX1_byRule_0 1 rfl rfl)
theorem dX1_byRule_4 : decode cX1_byRule 4 = .ok (.astore_n 3, 1) := dk_78 (dk_at dksX1_byRule_0 4 rfl rfl)
theorem dX1_byRule_5 : decode cX1_byRule 5 = .ok (.iconst 0, 1) := dk_3 (dk_at dksX1_byRule_0 5 rfl rfl)
theorem dX1_byRule_6 : decode cX1_byRule 6 = .ok (.istore 4, 2) := dk_54 4 (dk_at dksX1_byRule_0 6 rfl rfl)
theorem dX1_byRule_8 : decode cX1_byRule 8 = .ok (.iload 4, 2) := dk_21 4 (dk_at dksX1_byRule_0 8 rfl rfl)
theorem dX1_byRule_10 : decode cX1_byRule 10 = .ok (.aload_n 3, 1) := dk_45 (dk_at dksX1_byRule_0 10 rfl rfl)
theorem dX1_byRule_11 : decode cX1_byRule 11 = .ok (.getfield 241, 3) := dk_180 0 241 (dk_at dksX1_byRule_0 11 rfl rfl)
theorem dX1_byRule_14 : decode cX1_byRule 14 = .ok (.if_icmp .ge 51, 3) := dk_162 0 51 (dk_at dksX1_byRule_0 14 rfl rfl)
theorem dX1_byRule_17 : decode cX1_byRule 17 = .ok (.aload_n 3, 1) := dk_45 (dk_at dksX1_byRule_0 17 rfl rfl)
theorem dX1_byRule_18 : decode cX1_byRule 18 = .ok (.getfield 243, 3) := dk_180 0 243 (dk_at dksX1_byRule_0 18 rfl rfl)
theorem dX1_byRule_21 : decode cX1_byRule 21 = .ok (.iload 4, 2) := dk_21 4 (dk_at dksX1_byRule_0 21 rfl rfl)
theorem dX1_byRule_23 : decode cX1_byRule 23 = .ok (.iload_n 1, 1) := dk_27 (dk_at dksX1_byRule_0 23 rfl rfl)
theorem dX1_byRule_24 : decode cX1_byRule 24 = .ok (.invokestatic 247, 3) := dk_184 0 247 (dk_at dksX1_byRule_1 0 rfl rfl)
theorem dX1_byRule_27 : decode cX1_byRule 27 = .ok (.aastore, 1) := dk_83 (dk_at dksX1_byRule_1 3 rfl rfl)
theorem dX1_byRule_28 : decode cX1_byRule 28 = .ok (.iload_n 2, 1) := dk_28 (dk_at dksX1_byRule_1 4 rfl rfl)
theorem dX1_byRule_29 : decode cX1_byRule 29 = .ok (.ifCond .ne 6, 3) := dk_154 0 6 (dk_at dksX1_byRule_1 5 rfl rfl)
theorem dX1_byRule_32 : decode cX1_byRule 32 = .ok (.goto 27, 3) := dk_167 0 27 (dk_at dksX1_byRule_1 8 rfl rfl)
theorem dX1_byRule_35 : decode cX1_byRule 35 = .ok (.aload_n 3, 1) := dk_45 (dk_at dksX1_byRule_1 11 rfl rfl)
theorem dX1_byRule_36 : decode cX1_byRule 36 = .ok (.getfield 251, 3) := dk_180 0 251 (dk_at dksX1_byRule_1 12 rfl rfl)
theorem dX1_byRule_39 : decode cX1_byRule 39 = .ok (.iload 4, 2) := dk_21 4 (dk_at dksX1_byRule_1 15 rfl rfl)
theorem dX1_byRule_41 : decode cX1_byRule 41 = .ok (.iconst 0, 1) := dk_3 (dk_at dksX1_byRule_1 17 rfl rfl)
theorem dX1_byRule_42 : decode cX1_byRule 42 = .ok (.iastore, 1) := dk_79 (dk_at dksX1_byRule_1 18 rfl rfl)
theorem dX1_byRule_43 : decode cX1_byRule 43 = .ok (.aload_n 3, 1) := dk_45 (dk_at dksX1_byRule_1 19 rfl rfl)
theorem dX1_byRule_44 : decode cX1_byRule 44 = .ok (.getfield 254, 3) := dk_180 0 254 (dk_at dksX1_byRule_1 20 rfl rfl)
theorem dX1_byRule_47 : decode cX1_byRule 47 = .ok (.iload 4, 2) := dk_21 4 (dk_at dksX1_byRule_2 0 rfl rfl)
theorem dX1_byRule_49 : decode cX1_byRule 49 = .ok (.aload_n 0, 1) := dk_42 (dk_at dksX1_byRule_2 2 rfl rfl)
theorem dX1_byRule_50 : decode cX1_byRule 50 = .ok (.getfield 101, 3) := dk_180 0 101 (dk_at dksX1_byRule_2 3 rfl rfl)
theorem dX1_byRule_53 : decode cX1_byRule 53 = .ok (.getfield 155, 3) := dk_180 0 155 (dk_at dksX1_byRule_2 6 rfl rfl)
theorem dX1_byRule_56 : decode cX1_byRule 56 = .ok (.iconst 1, 1) := dk_4 (dk_at dksX1_byRule_2 9 rfl rfl)
theorem dX1_byRule_57 : decode cX1_byRule 57 = .ok (.isub, 1) := dk_100 (dk_at dksX1_byRule_2 10 rfl rfl)
theorem dX1_byRule_58 : decode cX1_byRule 58 = .ok (.iastore, 1) := dk_79 (dk_at dksX1_byRule_2 11 rfl rfl)
theorem dX1_byRule_59 : decode cX1_byRule 59 = .ok (.iinc 4 1, 3) := dk_132 4 1 (dk_at dksX1_byRule_2 12 rfl rfl)
theorem dX1_byRule_62 : decode cX1_byRule 62 = .ok (.goto (-54), 3) := dk_167 255 202 (dk_at dksX1_byRule_2 15 rfl rfl)
theorem dX1_byRule_65 : decode cX1_byRule 65 = .ok (.aload_n 3, 1) := dk_45 (dk_at dksX1_byRule_2 18 rfl rfl)
theorem dX1_byRule_66 : decode cX1_byRule 66 = .ok (.invokevirtual 150, 3) := dk_182 0 150 (dk_at dksX1_byRule_2 19 rfl rfl)
theorem dX1_byRule_69 : decode cX1_byRule 69 = .ok (.areturn, 1) := dk_176 (dk_at dksX1_byRule_2 22 rfl rfl)
abbrev cX1_tries : ByteArray := prog_1_method_18_code
def yX1_tries : MethodName := ⟨RX1, "tries", "()LNextAtBar$Bar;"⟩
def dkwX1_tries_0 : List UInt8 := [42, 180, 0, 117, 42, 180, 0, 140, 182, 0, 147, 42, 180, 0, 117, 176]
abbrev dktX1_tries_0 : List UInt8 := dkwX1_tries_0 ++ []
theorem dksX1_tries_0 : cX1_tries.data.toList.drop 0 = dktX1_tries_0 := by decide +kernel
theorem dX1_tries_0 : decode cX1_tries 0 = .ok (.aload_n 0, 1) := dk_42 (dk_at dksX1_tries_0 0 rfl rfl)
theorem dX1_tries_1 : decode cX1_tries 1 = .ok (.getfield 117, 3) := dk_180 0 117 (dk_at dksX1_tries_0 1 rfl rfl)
theorem dX1_tries_4 : decode cX1_tries 4 = .ok (.aload_n 0, 1) := dk_42 (dk_at dksX1_tries_0 4 rfl rfl)
theorem dX1_tries_5 : decode cX1_tries 5 = .ok (.getfield 140, 3) := dk_180 0 140 (dk_at dksX1_tries_0 5 rfl rfl)
theorem dX1_tries_8 : decode cX1_tries 8 = .ok (.invokevirtual 147, 3) := dk_182 0 147 (dk_at dksX1_tries_0 8 rfl rfl)
theorem dX1_tries_11 : decode cX1_tries 11 = .ok (.aload_n 0, 1) := dk_42 (dk_at dksX1_tries_0 11 rfl rfl)
theorem dX1_tries_12 : decode cX1_tries 12 = .ok (.getfield 117, 3) := dk_180 0 117 (dk_at dksX1_tries_0 12 rfl rfl)
theorem dX1_tries_15 : decode cX1_tries 15 = .ok (.areturn, 1) := dk_176 (dk_at dksX1_tries_0 15 rfl rfl)
abbrev cX1_bestRule : ByteArray := prog_1_method_40_code
def yX1_bestRule : MethodName := ⟨RX1, "bestRule", "(Z)I"⟩
def dkwX1_bestRule_3 : List UInt8 := [167, 0, 9, 21, 4, 61, 21, 5, 62, 132, 4, 1, 167, 255, 195, 42, 28, 182, 0, 70, 172]
abbrev dktX1_bestRule_3 : List UInt8 := dkwX1_bestRule_3 ++ []
def dkwX1_bestRule_2 : List UInt8 := [3, 182, 1, 1, 3, 182, 0, 229, 116, 54, 5, 21, 4, 158, 0, 12, 21, 5, 29, 161, 0, 6]
abbrev dktX1_bestRule_2 : List UInt8 := dkwX1_bestRule_2 ++ dktX1_bestRule_3
def dkwX1_bestRule_1 : List UInt8 := [162, 0, 61, 27, 153, 0, 17, 42, 21, 4, 3, 182, 1, 1, 7, 182, 0, 229, 167, 0, 15, 42, 21, 4]
abbrev dktX1_bestRule_1 : List UInt8 := dkwX1_bestRule_1 ++ dktX1_bestRule_2
def dkwX1_bestRule_0 : List UInt8 := [42, 180, 0, 101, 199, 0, 9, 42, 4, 182, 0, 66, 172, 3, 61, 3, 62, 3, 54, 4, 21, 4, 8]
abbrev dktX1_bestRule_0 : List UInt8 := dkwX1_bestRule_0 ++ dktX1_bestRule_1
theorem dksX1_bestRule_0 : cX1_bestRule.data.toList.drop 0 = dktX1_bestRule_0 := by decide +kernel
theorem dksX1_bestRule_1 : cX1_bestRule.data.toList.drop 23 = dktX1_bestRule_1 := dk_seg dksX1_bestRule_0 23 rfl rfl
theorem dksX1_bestRule_2 : cX1_bestRule.data.toList.drop 47 = dktX1_bestRule_2 := dk_seg dksX1_bestRule_1 24 rfl rfl
theorem dksX1_bestRule_3 : cX1_bestRule.data.toList.drop 69 = dktX1_bestRule_3 := dk_seg dksX1_bestRule_2 22 rfl rfl
theorem dX1_bestRule_0 : decode cX1_bestRule 0 = .ok (.aload_n 0, 1) := dk_42 (dk_at dksX1_bestRule_0 0 rfl rfl)
theorem dX1_bestRule_1 : decode cX1_bestRule 1 = .ok (.getfield 101, 3) := dk_180 0 101 (dk_at dksX1_bestRule_0 1 rfl rfl)
theorem dX1_bestRule_4 : decode cX1_bestRule 4 = .ok (.ifnonnull 9, 3) := dk_199 0 9 (dk_at dksX1_bestRule_0 4 rfl rfl)
theorem dX1_bestRule_7 : decode cX1_bestRule 7 = .ok (.aload_n 0, 1) := dk_42 (dk_at dksX1_bestRule_0 7 rfl rfl)
theorem dX1_bestRule_8 : decode cX1_bestRule 8 = .ok (.iconst 1, 1) := dk_4 (dk_at dksX1_bestRule_0 8 rfl rfl)
theorem dX1_bestRule_9 : decode cX1_bestRule 9 = .ok (.invokevirtual 66, 3) := dk_182 0 66 (dk_at dksX1_bestRule_0 9 rfl rfl)
theorem dX1_bestRule_12 : decode cX1_bestRule 12 = .ok (.ireturn, 1) := dk_172 (dk_at dksX1_bestRule_0 12 rfl rfl)
theorem dX1_bestRule_13 : decode cX1_bestRule 13 = .ok (.iconst 0, 1) := dk_3 (dk_at dksX1_bestRule_0 13 rfl rfl)
theorem dX1_bestRule_14 : decode cX1_bestRule 14 = .ok (.istore_n 2, 1) := dk_61 (dk_at dksX1_bestRule_0 14 rfl rfl)
theorem dX1_bestRule_15 : decode cX1_bestRule 15 = .ok (.iconst 0, 1) := dk_3 (dk_at dksX1_bestRule_0 15 rfl rfl)
theorem dX1_bestRule_16 : decode cX1_bestRule 16 = .ok (.istore_n 3, 1) := dk_62 (dk_at dksX1_bestRule_0 16 rfl rfl)
theorem dX1_bestRule_17 : decode cX1_bestRule 17 = .ok (.iconst 0, 1) := dk_3 (dk_at dksX1_bestRule_0 17 rfl rfl)
theorem dX1_bestRule_18 : decode cX1_bestRule 18 = .ok (.istore 4, 2) := dk_54 4 (dk_at dksX1_bestRule_0 18 rfl rfl)
theorem dX1_bestRule_20 : decode cX1_bestRule 20 = .ok (.iload 4, 2) := dk_21 4 (dk_at dksX1_bestRule_0 20 rfl rfl)
theorem dX1_bestRule_22 : decode cX1_bestRule 22 = .ok (.iconst 5, 1) := dk_8 (dk_at dksX1_bestRule_0 22 rfl rfl)
theorem dX1_bestRule_23 : decode cX1_bestRule 23 = .ok (.if_icmp .ge 61, 3) := dk_162 0 61 (dk_at dksX1_bestRule_1 0 rfl rfl)
theorem dX1_bestRule_26 : decode cX1_bestRule 26 = .ok (.iload_n 1, 1) := dk_27 (dk_at dksX1_bestRule_1 3 rfl rfl)
theorem dX1_bestRule_27 : decode cX1_bestRule 27 = .ok (.ifCond .eq 17, 3) := dk_153 0 17 (dk_at dksX1_bestRule_1 4 rfl rfl)
theorem dX1_bestRule_30 : decode cX1_bestRule 30 = .ok (.aload_n 0, 1) := dk_42 (dk_at dksX1_bestRule_1 7 rfl rfl)
theorem dX1_bestRule_31 : decode cX1_bestRule 31 = .ok (.iload 4, 2) := dk_21 4 (dk_at dksX1_bestRule_1 8 rfl rfl)
theorem dX1_bestRule_33 : decode cX1_bestRule 33 = .ok (.iconst 0, 1) := dk_3 (dk_at dksX1_bestRule_1 10 rfl rfl)
theorem dX1_bestRule_34 : decode cX1_bestRule 34 = .ok (.invokevirtual 257, 3) := dk_182 1 1 (dk_at dksX1_bestRule_1 11 rfl rfl)
theorem dX1_bestRule_37 : decode cX1_bestRule 37 = .ok (.iconst 4, 1) := dk_7 (dk_at dksX1_bestRule_1 14 rfl rfl)
theorem dX1_bestRule_38 : decode cX1_bestRule 38 = .ok (.invokevirtual 229, 3) := dk_182 0 229 (dk_at dksX1_bestRule_1 15 rfl rfl)
theorem dX1_bestRule_41 : decode cX1_bestRule 41 = .ok (.goto 15, 3) := dk_167 0 15 (dk_at dksX1_bestRule_1 18 rfl rfl)
theorem dX1_bestRule_44 : decode cX1_bestRule 44 = .ok (.aload_n 0, 1) := dk_42 (dk_at dksX1_bestRule_1 21 rfl rfl)
theorem dX1_bestRule_45 : decode cX1_bestRule 45 = .ok (.iload 4, 2) := dk_21 4 (dk_at dksX1_bestRule_1 22 rfl rfl)
theorem dX1_bestRule_47 : decode cX1_bestRule 47 = .ok (.iconst 0, 1) := dk_3 (dk_at dksX1_bestRule_2 0 rfl rfl)
theorem dX1_bestRule_48 : decode cX1_bestRule 48 = .ok (.invokevirtual 257, 3) := dk_182 1 1 (dk_at dksX1_bestRule_2 1 rfl rfl)
theorem dX1_bestRule_51 : decode cX1_bestRule 51 = .ok (.iconst 0, 1) := dk_3 (dk_at dksX1_bestRule_2 4 rfl rfl)
theorem dX1_bestRule_52 : decode cX1_bestRule 52 = .ok (.invokevirtual 229, 3) := dk_182 0 229 (dk_at dksX1_bestRule_2 5 rfl rfl)
theorem dX1_bestRule_55 : decode cX1_bestRule 55 = .ok (.ineg, 1) := dk_116 (dk_at dksX1_bestRule_2 8 rfl rfl)
theorem dX1_bestRule_56 : decode cX1_bestRule 56 = .ok (.istore 5, 2) := dk_54 5 (dk_at dksX1_bestRule_2 9 rfl rfl)
theorem dX1_bestRule_58 : decode cX1_bestRule 58 = .ok (.iload 4, 2) := dk_21 4 (dk_at dksX1_bestRule_2 11 rfl rfl)
theorem dX1_bestRule_60 : decode cX1_bestRule 60 = .ok (.ifCond .le 12, 3) := dk_158 0 12 (dk_at dksX1_bestRule_2 13 rfl rfl)
theorem dX1_bestRule_63 : decode cX1_bestRule 63 = .ok (.iload 5, 2) := dk_21 5 (dk_at dksX1_bestRule_2 16 rfl rfl)
theorem dX1_bestRule_65 : decode cX1_bestRule 65 = .ok (.iload_n 3, 1) := dk_29 (dk_at dksX1_bestRule_2 18 rfl rfl)
theorem dX1_bestRule_66 : decode cX1_bestRule 66 = .ok (.if_icmp .lt 6, 3) := dk_161 0 6 (dk_at dksX1_bestRule_2 19 rfl rfl)
theorem dX1_bestRule_69 : decode cX1_bestRule 69 = .ok (.goto 9, 3) := dk_167 0 9 (dk_at dksX1_bestRule_3 0 rfl rfl)
theorem dX1_bestRule_72 : decode cX1_bestRule 72 = .ok (.iload 4, 2) := dk_21 4 (dk_at dksX1_bestRule_3 3 rfl rfl)
theorem dX1_bestRule_74 : decode cX1_bestRule 74 = .ok (.istore_n 2, 1) := dk_61 (dk_at dksX1_bestRule_3 5 rfl rfl)
theorem dX1_bestRule_75 : decode cX1_bestRule 75 = .ok (.iload 5, 2) := dk_21 5 (dk_at dksX1_bestRule_3 6 rfl rfl)
theorem dX1_bestRule_77 : decode cX1_bestRule 77 = .ok (.istore_n 3, 1) := dk_62 (dk_at dksX1_bestRule_3 8 rfl rfl)
theorem dX1_bestRule_78 : decode cX1_bestRule 78 = .ok (.iinc 4 1, 3) := dk_132 4 1 (dk_at dksX1_bestRule_3 9 rfl rfl)
theorem dX1_bestRule_81 : decode cX1_bestRule 81 = .ok (.goto (-61), 3) := dk_167 255 195 (dk_at dksX1_bestRule_3 12 rfl rfl)
theorem dX1_bestRule_84 : decode cX1_bestRule 84 = .ok (.aload_n 0, 1) := dk_42 (dk_at dksX1_bestRule_3 15 rfl rfl)
theorem dX1_bestRule_85 : decode cX1_bestRule 85 = .ok (.iload_n 2, 1) := dk_28 (dk_at dksX1_bestRule_3 16 rfl rfl)
theorem dX1_bestRule_86 : decode cX1_bestRule 86 = .ok (.invokevirtual 70, 3) := dk_182 0 70 (dk_at dksX1_bestRule_3 17 rfl rfl)
theorem dX1_bestRule_89 : decode cX1_bestRule 89 = .ok (.ireturn, 1) := dk_172 (dk_at dksX1_bestRule_3 20 rfl rfl)
abbrev cX1_hand : ByteArray := prog_1_method_41_code
def yX1_hand : MethodName := ⟨RX1, "hand", "()I"⟩
def dkwX1_hand_4 : List UInt8 := [79, 45, 43, 182, 1, 28, 42, 45, 182, 0, 150, 3, 182, 0, 229, 28, 100, 182, 0, 70, 172]
abbrev dktX1_hand_4 : List UInt8 := dkwX1_hand_4 ++ []
def dkwX1_hand_3 : List UInt8 := [182, 0, 211, 3, 182, 0, 229, 61, 42, 182, 0, 238, 78, 45, 180, 1, 25, 5, 45, 180, 0, 241, 104, 3]
abbrev dktX1_hand_3 : List UInt8 := dkwX1_hand_3 ++ dktX1_hand_4
def dkwX1_hand_2 : List UInt8 := [43, 42, 180, 0, 101, 180, 0, 155, 4, 100, 181, 1, 17, 43, 4, 181, 1, 19, 43, 4, 181, 1, 22, 42]
abbrev dktX1_hand_2 : List UInt8 := dkwX1_hand_2 ++ dktX1_hand_3
def dkwX1_hand_1 : List UInt8 := [187, 0, 51, 89, 183, 0, 53, 183, 1, 12, 76, 43, 42, 180, 0, 101, 180, 0, 155, 5, 108, 181, 1, 15]
abbrev dktX1_hand_1 : List UInt8 := dkwX1_hand_1 ++ dktX1_hand_2
def dkwX1_hand_0 : List UInt8 := [42, 180, 0, 101, 199, 0, 11, 42, 4, 16, 156, 182, 1, 5, 172, 187, 1, 8, 89, 19, 1, 10]
abbrev dktX1_hand_0 : List UInt8 := dkwX1_hand_0 ++ dktX1_hand_1
theorem dksX1_hand_0 : cX1_hand.data.toList.drop 0 = dktX1_hand_0 := by decide +kernel
theorem dksX1_hand_1 : cX1_hand.data.toList.drop 22 = dktX1_hand_1 := dk_seg dksX1_hand_0 22 rfl rfl
theorem dksX1_hand_2 : cX1_hand.data.toList.drop 46 = dktX1_hand_2 := dk_seg dksX1_hand_1 24 rfl rfl
theorem dksX1_hand_3 : cX1_hand.data.toList.drop 70 = dktX1_hand_3 := dk_seg dksX1_hand_2 24 rfl rfl
theorem dksX1_hand_4 : cX1_hand.data.toList.drop 94 = dktX1_hand_4 := dk_seg dksX1_hand_3 24 rfl rfl
theorem dX1_hand_0 : decode cX1_hand 0 = .ok (.aload_n 0, 1) := dk_42 (dk_at dksX1_hand_0 0 rfl rfl)
theorem dX1_hand_1 : decode cX1_hand 1 = .ok (.getfield 101, 3) := dk_180 0 101 (dk_at dksX1_hand_0 1 rfl rfl)
theorem dX1_hand_4 : decode cX1_hand 4 = .ok (.ifnonnull 11, 3) := dk_199 0 11 (dk_at dksX1_hand_0 4 rfl rfl)
theorem dX1_hand_7 : decode cX1_hand 7 = .ok (.aload_n 0, 1) := dk_42 (dk_at dksX1_hand_0 7 rfl rfl)
theorem dX1_hand_8 : decode cX1_hand 8 = .ok (.iconst 1, 1) := dk_4 (dk_at dksX1_hand_0 8 rfl rfl)
theorem dX1_hand_9 : decode cX1_hand 9 = .ok (.bipush (-100), 2) := dk_16 156 (dk_at dksX1_hand_0 9 rfl rfl)
theorem dX1_hand_11 : decode cX1_hand 11 = .ok (.invokevirtual 261, 3) := dk_182 1 5 (dk_at dksX1_hand_0 11 rfl rfl)
theorem dX1_hand_14 : decode cX1_hand 14 = .ok (.ireturn, 1) := dk_172 (dk_at dksX1_hand_0 14 rfl rfl)
theorem dX1_hand_15 : decode cX1_hand 15 = .ok (.new 264, 3) := dk_187 1 8 (dk_at dksX1_hand_0 15 rfl rfl)
theorem dX1_hand_18 : decode cX1_hand 18 = .ok (.dup, 1) := dk_89 (dk_at dksX1_hand_0 18 rfl rfl)
theorem dX1_hand_19 : decode cX1_hand 19 = .ok (.ldc_w 266, 3) := dk_19 1 10 (dk_at dksX1_hand_0 19 rfl rfl)
theorem dX1_hand_22 : decode cX1_hand 22 = .ok (.new 51, 3) := dk_187 0 51 (dk_at dksX1_hand_1 0 rfl rfl)
theorem dX1_hand_25 : decode cX1_hand 25 = .ok (.dup, 1) := dk_89 (dk_at dksX1_hand_1 3 rfl rfl)
theorem dX1_hand_26 : decode cX1_hand 26 = .ok (.invokespecial 53, 3) := dk_183 0 53 (dk_at dksX1_hand_1 4 rfl rfl)
theorem dX1_hand_29 : decode cX1_hand 29 = .ok (.invokespecial 268, 3) := dk_183 1 12 (dk_at dksX1_hand_1 7 rfl rfl)
theorem dX1_hand_32 : decode cX1_hand 32 = .ok (.astore_n 1, 1) := dk_76 (dk_at dksX1_hand_1 10 rfl rfl)
theorem dX1_hand_33 : decode cX1_hand 33 = .ok (.aload_n 1, 1) := dk_43 (dk_at dksX1_hand_1 11 rfl rfl)
theorem dX1_hand_34 : decode cX1_hand 34 = .ok (.aload_n 0, 1) := dk_42 (dk_at dksX1_hand_1 12 rfl rfl)
theorem dX1_hand_35 : decode cX1_hand 35 = .ok (.getfield 101, 3) := dk_180 0 101 (dk_at dksX1_hand_1 13 rfl rfl)
theorem dX1_hand_38 : decode cX1_hand 38 = .ok (.getfield 155, 3) := dk_180 0 155 (dk_at dksX1_hand_1 16 rfl rfl)
theorem dX1_hand_41 : decode cX1_hand 41 = .ok (.iconst 2, 1) := dk_5 (dk_at dksX1_hand_1 19 rfl rfl)
theorem dX1_hand_42 : decode cX1_hand 42 = .ok (.idiv, 1) := dk_108 (dk_at dksX1_hand_1 20 rfl rfl)
theorem dX1_hand_43 : decode cX1_hand 43 = .ok (.putfield 271, 3) := dk_181 1 15 (dk_at dksX1_hand_1 21 rfl rfl)
theorem dX1_hand_46 : decode cX1_hand 46 = .ok (.aload_n 1, 1) := dk_43 (dk_at dksX1_hand_2 0 rfl rfl)
theorem dX1_hand_47 : decode cX1_hand 47 = .ok (.aload_n 0, 1) := dk_42 (dk_at dksX1_hand_2 1 rfl rfl)
theorem dX1_hand_48 : decode cX1_hand 48 = .ok (.getfield 101, 3) := dk_180 0 101 (dk_at dksX1_hand_2 2 rfl rfl)
theorem dX1_hand_51 : decode cX1_hand 51 = .ok (.getfield 155, 3) := dk_180 0 155 (dk_at dksX1_hand_2 5 rfl rfl)
theorem dX1_hand_54 : decode cX1_hand 54 = .ok (.iconst 1, 1) := dk_4 (dk_at dksX1_hand_2 8 rfl rfl)
theorem dX1_hand_55 : decode cX1_hand 55 = .ok (.isub, 1) := dk_100 (dk_at dksX1_hand_2 9 rfl rfl)
theorem dX1_hand_56 : decode cX1_hand 56 = .ok (.putfield 273, 3) := dk_181 1 17 (dk_at dksX1_hand_2 10 rfl rfl)
theorem dX1_hand_59 : decode cX1_hand 59 = .ok (.aload_n 1, 1) := dk_43 (dk_at dksX1_hand_2 13 rfl rfl)
theorem dX1_hand_60 : decode cX1_hand 60 = .ok (.iconst 1, 1) := dk_4 (dk_at dksX1_hand_2 14 rfl rfl)
theorem dX1_hand_61 : decode cX1_hand 61 = .ok (.putfield 275, 3) := dk_181 1 19 (dk_at dksX1_hand_2 15 rfl rfl)
theorem dX1_hand_64 : decode cX1_hand 64 = .ok (.aload_n 1, 1) := dk_43 (dk_at dksX1_hand_2 18 rfl rfl)
theorem dX1_hand_65 : decode cX1_hand 65 = .ok (.iconst 1, 1) := dk_4 (dk_at dksX1_hand_2 19 rfl rfl)
theorem dX1_hand_66 : decode cX1_hand 66 = .ok (.putfield 278, 3) := dk_181 1 22 (dk_at dksX1_hand_2 20 rfl rfl)
theorem dX1_hand_69 : decode cX1_hand 69 = .ok (.aload_n 0, 1) := dk_42 (dk_at dksX1_hand_2 23 rfl rfl)
theorem dX1_hand_70 : decode cX1_hand 70 = .ok (.invokevirtual 211, 3) := dk_182 0 211 (dk_at dksX1_hand_3 0 rfl rfl)
theorem dX1_hand_73 : decode cX1_hand 73 = .ok (.iconst 0, 1) := dk_3 (dk_at dksX1_hand_3 3 rfl rfl)
theorem dX1_hand_74 : decode cX1_hand 74 = .ok (.invokevirtual 229, 3) := dk_182 0 229 (dk_at dksX1_hand_3 4 rfl rfl)
theorem dX1_hand_77 : decode cX1_hand 77 = .ok (.istore_n 2, 1) := dk_61 (dk_at dksX1_hand_3 7 rfl rfl)
theorem dX1_hand_78 : decode cX1_hand 78 = .ok (.aload_n 0, 1) := dk_42 (dk_at dksX1_hand_3 8 rfl rfl)
theorem dX1_hand_79 : decode cX1_hand 79 = .ok (.invokevirtual 238, 3) := dk_182 0 238 (dk_at dksX1_hand_3 9 rfl rfl)
theorem dX1_hand_82 : decode cX1_hand 82 = .ok (.astore_n 3, 1) := dk_78 (dk_at dksX1_hand_3 12 rfl rfl)
theorem dX1_hand_83 : decode cX1_hand 83 = .ok (.aload_n 3, 1) := dk_45 (dk_at dksX1_hand_3 13 rfl rfl)
theorem dX1_hand_84 : decode cX1_hand 84 = .ok (.getfield 281, 3) := dk_180 1 25 (dk_at dksX1_hand_3 14 rfl rfl)
theorem dX1_hand_87 : decode cX1_hand 87 = .ok (.iconst 2, 1) := dk_5 (dk_at dksX1_hand_3 17 rfl rfl)
theorem dX1_hand_88 : decode cX1_hand 88 = .ok (.aload_n 3, 1) := dk_45 (dk_at dksX1_hand_3 18 rfl rfl)
theorem dX1_hand_89 : decode cX1_hand 89 = .ok (.getfield 241, 3) := dk_180 0 241 (dk_at dksX1_hand_3 19 rfl rfl)
theorem dX1_hand_92 : decode cX1_hand 92 = .ok (.imul, 1) := dk_104 (dk_at dksX1_hand_3 22 rfl rfl)
theorem dX1_hand_93 : decode cX1_hand 93 = .ok (.iconst 0, 1) := dk_3 (dk_at dksX1_hand_3 23 rfl rfl)
theorem dX1_hand_94 : decode cX1_hand 94 = .ok (.iastore, 1) := dk_79 (dk_at dksX1_hand_4 0 rfl rfl)
theorem dX1_hand_95 : decode cX1_hand 95 = .ok (.aload_n 3, 1) := dk_45 (dk_at dksX1_hand_4 1 rfl rfl)
theorem dX1_hand_96 : decode cX1_hand 96 = .ok (.aload_n 1, 1) := dk_43 (dk_at dksX1_hand_4 2 rfl rfl)
theorem dX1_hand_97 : decode cX1_hand 97 = .ok (.invokevirtual 284, 3) := dk_182 1 28 (dk_at dksX1_hand_4 3 rfl rfl)
theorem dX1_hand_100 : decode cX1_hand 100 = .ok (.aload_n 0, 1) := dk_42 (dk_at dksX1_hand_4 6 rfl rfl)
theorem dX1_hand_101 : decode cX1_hand 101 = .ok (.aload_n 3, 1) := dk_45 (dk_at dksX1_hand_4 7 rfl rfl)
theorem dX1_hand_102 : decode cX1_hand 102 = .ok (.invokevirtual 150, 3) := dk_182 0 150 (dk_at dksX1_hand_4 8 rfl rfl)
theorem dX1_hand_105 : decode cX1_hand 105 = .ok (.iconst 0, 1) := dk_3 (dk_at dksX1_hand_4 11 rfl rfl)
theorem dX1_hand_106 : decode cX1_hand 106 = .ok (.invokevirtual 229, 3) := dk_182 0 229 (dk_at dksX1_hand_4 12 rfl rfl)
theorem dX1_hand_109 : decode cX1_hand 109 = .ok (.iload_n 2, 1) := dk_28 (dk_at dksX1_hand_4 15 rfl rfl)
theorem dX1_hand_110 : decode cX1_hand 110 = .ok (.isub, 1) := dk_100 (dk_at dksX1_hand_4 16 rfl rfl)
theorem dX1_hand_111 : decode cX1_hand 111 = .ok (.invokevirtual 70, 3) := dk_182 0 70 (dk_at dksX1_hand_4 17 rfl rfl)
theorem dX1_hand_114 : decode cX1_hand 114 = .ok (.ireturn, 1) := dk_172 (dk_at dksX1_hand_4 20 rfl rfl)
abbrev cX1_lost : ByteArray := prog_1_method_8_code
def yX1_lost : MethodName := ⟨RX1, "lost", "(II)I"⟩
def dkwX1_lost_0 : List UInt8 := [42, 27, 182, 0, 66, 87, 28, 172]
abbrev dktX1_lost_0 : List UInt8 := dkwX1_lost_0 ++ []
theorem dksX1_lost_0 : cX1_lost.data.toList.drop 0 = dktX1_lost_0 := by decide +kernel
theorem dX1_lost_0 : decode cX1_lost 0 = .ok (.aload_n 0, 1) := dk_42 (dk_at dksX1_lost_0 0 rfl rfl)
theorem dX1_lost_1 : decode cX1_lost 1 = .ok (.iload_n 1, 1) := dk_27 (dk_at dksX1_lost_0 1 rfl rfl)
theorem dX1_lost_2 : decode cX1_lost 2 = .ok (.invokevirtual 66, 3) := dk_182 0 66 (dk_at dksX1_lost_0 2 rfl rfl)
theorem dX1_lost_5 : decode cX1_lost 5 = .ok (.pop, 1) := dk_87 (dk_at dksX1_lost_0 5 rfl rfl)
theorem dX1_lost_6 : decode cX1_lost 6 = .ok (.iload_n 2, 1) := dk_28 (dk_at dksX1_lost_0 6 rfl rfl)
theorem dX1_lost_7 : decode cX1_lost 7 = .ok (.ireturn, 1) := dk_172 (dk_at dksX1_lost_0 7 rfl rfl)
abbrev cX1_beforehand : ByteArray := prog_1_method_42_code
def yX1_beforehand : MethodName := ⟨RX1, "beforehand", "(I)I"⟩
def dkwX1_beforehand_4 : List UInt8 := [182, 0, 229, 100, 182, 0, 70, 172]
abbrev dktX1_beforehand_4 : List UInt8 := dkwX1_beforehand_4 ++ []
def dkwX1_beforehand_3 : List UInt8 := [180, 0, 101, 180, 0, 131, 27, 182, 1, 35, 192, 1, 39, 180, 1, 41, 79, 42, 28, 45, 182, 0, 150, 6]
abbrev dktX1_beforehand_3 : List UInt8 := dkwX1_beforehand_3 ++ dktX1_beforehand_4
def dkwX1_beforehand_2 : List UInt8 := [182, 1, 5, 172, 42, 182, 0, 211, 6, 182, 0, 229, 61, 42, 182, 0, 238, 78, 45, 180, 1, 32, 27, 42]
abbrev dktX1_beforehand_2 : List UInt8 := dkwX1_beforehand_2 ++ dktX1_beforehand_3
def dkwX1_beforehand_1 : List UInt8 := [27, 46, 154, 0, 17, 42, 180, 0, 140, 180, 1, 32, 27, 46, 16, 254, 159, 0, 12, 42, 8, 17, 252, 24]
abbrev dktX1_beforehand_1 : List UInt8 := dkwX1_beforehand_1 ++ dktX1_beforehand_2
def dkwX1_beforehand_0 : List UInt8 := [42, 27, 182, 0, 158, 154, 0, 12, 42, 4, 17, 252, 24, 182, 1, 5, 172, 42, 180, 0, 140, 180, 0, 195]
abbrev dktX1_beforehand_0 : List UInt8 := dkwX1_beforehand_0 ++ dktX1_beforehand_1
theorem dksX1_beforehand_0 : cX1_beforehand.data.toList.drop 0 = dktX1_beforehand_0 := by decide +kernel
theorem dksX1_beforehand_1 : cX1_beforehand.data.toList.drop 24 = dktX1_beforehand_1 := dk_seg dksX1_beforehand_0 24 rfl rfl
theorem dksX1_beforehand_2 : cX1_beforehand.data.toList.drop 48 = dktX1_beforehand_2 := dk_seg dksX1_beforehand_1 24 rfl rfl
theorem dksX1_beforehand_3 : cX1_beforehand.data.toList.drop 72 = dktX1_beforehand_3 := dk_seg dksX1_beforehand_2 24 rfl rfl
theorem dksX1_beforehand_4 : cX1_beforehand.data.toList.drop 96 = dktX1_beforehand_4 := dk_seg dksX1_beforehand_3 24 rfl rfl
theorem dX1_beforehand_0 : decode cX1_beforehand 0 = .ok (.aload_n 0, 1) := dk_42 (dk_at dksX1_beforehand_0 0 rfl rfl)
theorem dX1_beforehand_1 : decode cX1_beforehand 1 = .ok (.iload_n 1, 1) := dk_27 (dk_at dksX1_beforehand_0 1 rfl rfl)
theorem dX1_beforehand_2 : decode cX1_beforehand 2 = .ok (.invokevirtual 158, 3) := dk_182 0 158 (dk_at dksX1_beforehand_0 2 rfl rfl)
theorem dX1_beforehand_5 : decode cX1_beforehand 5 = .ok (.ifCond .ne 12, 3) := dk_154 0 12 (dk_at dksX1_beforehand_0 5 rfl rfl)
theorem dX1_beforehand_8 : decode cX1_beforehand 8 = .ok (.aload_n 0, 1) := dk_42 (dk_at dksX1_beforehand_0 8 rfl rfl)
theorem dX1_beforehand_9 : decode cX1_beforehand 9 = .ok (.iconst 1, 1) := dk_4 (dk_at dksX1_beforehand_0 9 rfl rfl)
theorem dX1_beforehand_10 : decode cX1_beforehand 10 = .ok (.sipush (-1000), 3) := dk_17 252 24 (dk_at dksX1_beforehand_0 10 rfl rfl)
theorem dX1_beforehand_13 : decode cX1_beforehand 13 = .ok (.invokevirtual 261, 3) := dk_182 1 5 (dk_at dksX1_beforehand_0 13 rfl rfl)
theorem dX1_beforehand_16 : decode cX1_beforehand 16 = .ok (.ireturn, 1) := dk_172 (dk_at dksX1_beforehand_0 16 rfl rfl)
theorem dX1_beforehand_17 : decode cX1_beforehand 17 = .ok (.aload_n 0, 1) := dk_42 (dk_at dksX1_beforehand_0 17 rfl rfl)
theorem dX1_beforehand_18 : decode cX1_beforehand 18 = .ok (.getfield 140, 3) := dk_180 0 140 (dk_at dksX1_beforehand_0 18 rfl rfl)
theorem dX1_beforehand_21 : decode cX1_beforehand 21 = .ok (.getfield 195, 3) := dk_180 0 195 (dk_at dksX1_beforehand_0 21 rfl rfl)
theorem dX1_beforehand_24 : decode cX1_beforehand 24 = .ok (.iload_n 1, 1) := dk_27 (dk_at dksX1_beforehand_1 0 rfl rfl)
theorem dX1_beforehand_25 : decode cX1_beforehand 25 = .ok (.iaload, 1) := dk_46 (dk_at dksX1_beforehand_1 1 rfl rfl)
theorem dX1_beforehand_26 : decode cX1_beforehand 26 = .ok (.ifCond .ne 17, 3) := dk_154 0 17 (dk_at dksX1_beforehand_1 2 rfl rfl)
theorem dX1_beforehand_29 : decode cX1_beforehand 29 = .ok (.aload_n 0, 1) := dk_42 (dk_at dksX1_beforehand_1 5 rfl rfl)
theorem dX1_beforehand_30 : decode cX1_beforehand 30 = .ok (.getfield 140, 3) := dk_180 0 140 (dk_at dksX1_beforehand_1 6 rfl rfl)
theorem dX1_beforehand_33 : decode cX1_beforehand 33 = .ok (.getfield 288, 3) := dk_180 1 32 (dk_at dksX1_beforehand_1 9 rfl rfl)
theorem dX1_beforehand_36 : decode cX1_beforehand 36 = .ok (.iload_n 1, 1) := dk_27 (dk_at dksX1_beforehand_1 12 rfl rfl)
theorem dX1_beforehand_37 : decode cX1_beforehand 37 = .ok (.iaload, 1) := dk_46 (dk_at dksX1_beforehand_1 13 rfl rfl)
theorem dX1_beforehand_38 : decode cX1_beforehand 38 = .ok (.bipush (-2), 2) := dk_16 254 (dk_at dksX1_beforehand_1 14 rfl rfl)
theorem dX1_beforehand_40 : decode cX1_beforehand 40 = .ok (.if_icmp .eq 12, 3) := dk_159 0 12 (dk_at dksX1_beforehand_1 16 rfl rfl)
theorem dX1_beforehand_43 : decode cX1_beforehand 43 = .ok (.aload_n 0, 1) := dk_42 (dk_at dksX1_beforehand_1 19 rfl rfl)
theorem dX1_beforehand_44 : decode cX1_beforehand 44 = .ok (.iconst 5, 1) := dk_8 (dk_at dksX1_beforehand_1 20 rfl rfl)
theorem dX1_beforehand_45 : decode cX1_beforehand 45 = .ok (.sipush (-1000), 3) := dk_17 252 24 (dk_at dksX1_beforehand_1 21 rfl rfl)
theorem dX1_beforehand_48 : decode cX1_beforehand 48 = .ok (.invokevirtual 261, 3) := dk_182 1 5 (dk_at dksX1_beforehand_2 0 rfl rfl)
theorem dX1_beforehand_51 : decode cX1_beforehand 51 = .ok (.ireturn, 1) := dk_172 (dk_at dksX1_beforehand_2 3 rfl rfl)
theorem dX1_beforehand_52 : decode cX1_beforehand 52 = .ok (.aload_n 0, 1) := dk_42 (dk_at dksX1_beforehand_2 4 rfl rfl)
theorem dX1_beforehand_53 : decode cX1_beforehand 53 = .ok (.invokevirtual 211, 3) := dk_182 0 211 (dk_at dksX1_beforehand_2 5 rfl rfl)
theorem dX1_beforehand_56 : decode cX1_beforehand 56 = .ok (.iconst 3, 1) := dk_6 (dk_at dksX1_beforehand_2 8 rfl rfl)
theorem dX1_beforehand_57 : decode cX1_beforehand 57 = .ok (.invokevirtual 229, 3) := dk_182 0 229 (dk_at dksX1_beforehand_2 9 rfl rfl)
theorem dX1_beforehand_60 : decode cX1_beforehand 60 = .ok (.istore_n 2, 1) := dk_61 (dk_at dksX1_beforehand_2 12 rfl rfl)
theorem dX1_beforehand_61 : decode cX1_beforehand 61 = .ok (.aload_n 0, 1) := dk_42 (dk_at dksX1_beforehand_2 13 rfl rfl)
theorem dX1_beforehand_62 : decode cX1_beforehand 62 = .ok (.invokevirtual 238, 3) := dk_182 0 238 (dk_at dksX1_beforehand_2 14 rfl rfl)
theorem dX1_beforehand_65 : decode cX1_beforehand 65 = .ok (.astore_n 3, 1) := dk_78 (dk_at dksX1_beforehand_2 17 rfl rfl)
theorem dX1_beforehand_66 : decode cX1_beforehand 66 = .ok (.aload_n 3, 1) := dk_45 (dk_at dksX1_beforehand_2 18 rfl rfl)
theorem dX1_beforehand_67 : decode cX1_beforehand 67 = .ok (.getfield 288, 3) := dk_180 1 32 (dk_at dksX1_beforehand_2 19 rfl rfl)
theorem dX1_beforehand_70 : decode cX1_beforehand 70 = .ok (.iload_n 1, 1) := dk_27 (dk_at dksX1_beforehand_2 22 rfl rfl)
theorem dX1_beforehand_71 : decode cX1_beforehand 71 = .ok (.aload_n 0, 1) := dk_42 (dk_at dksX1_beforehand_2 23 rfl rfl)
theorem dX1_beforehand_72 : decode cX1_beforehand 72 = .ok (.getfield 101, 3) := dk_180 0 101 (dk_at dksX1_beforehand_3 0 rfl rfl)
theorem dX1_beforehand_75 : decode cX1_beforehand 75 = .ok (.getfield 131, 3) := dk_180 0 131 (dk_at dksX1_beforehand_3 3 rfl rfl)
theorem dX1_beforehand_78 : decode cX1_beforehand 78 = .ok (.iload_n 1, 1) := dk_27 (dk_at dksX1_beforehand_3 6 rfl rfl)
theorem dX1_beforehand_79 : decode cX1_beforehand 79 = .ok (.invokevirtual 291, 3) := dk_182 1 35 (dk_at dksX1_beforehand_3 7 rfl rfl)
theorem dX1_beforehand_82 : decode cX1_beforehand 82 = .ok (.checkcast 295, 3) := dk_192 1 39 (dk_at dksX1_beforehand_3 10 rfl rfl)
theorem dX1_beforehand_85 : decode cX1_beforehand 85 = .ok (.getfield 297, 3) := dk_180 1 41 (dk_at dksX1_beforehand_3 13 rfl rfl)
theorem dX1_beforehand_88 : decode cX1_beforehand 88 = .ok (.iastore, 1) := dk_79 (dk_at dksX1_beforehand_3 16 rfl rfl)
theorem dX1_beforehand_89 : decode cX1_beforehand 89 = .ok (.aload_n 0, 1) := dk_42 (dk_at dksX1_beforehand_3 17 rfl rfl)
theorem dX1_beforehand_90 : decode cX1_beforehand 90 = .ok (.iload_n 2, 1) := dk_28 (dk_at dksX1_beforehand_3 18 rfl rfl)
theorem dX1_beforehand_91 : decode cX1_beforehand 91 = .ok (.aload_n 3, 1) := dk_45 (dk_at dksX1_beforehand_3 19 rfl rfl)
theorem dX1_beforehand_92 : decode cX1_beforehand 92 = .ok (.invokevirtual 150, 3) := dk_182 0 150 (dk_at dksX1_beforehand_3 20 rfl rfl)
theorem dX1_beforehand_95 : decode cX1_beforehand 95 = .ok (.iconst 3, 1) := dk_6 (dk_at dksX1_beforehand_3 23 rfl rfl)
theorem dX1_beforehand_96 : decode cX1_beforehand 96 = .ok (.invokevirtual 229, 3) := dk_182 0 229 (dk_at dksX1_beforehand_4 0 rfl rfl)
theorem dX1_beforehand_99 : decode cX1_beforehand 99 = .ok (.isub, 1) := dk_100 (dk_at dksX1_beforehand_4 3 rfl rfl)
theorem dX1_beforehand_100 : decode cX1_beforehand 100 = .ok (.invokevirtual 70, 3) := dk_182 0 70 (dk_at dksX1_beforehand_4 4 rfl rfl)
theorem dX1_beforehand_103 : decode cX1_beforehand 103 = .ok (.ireturn, 1) := dk_172 (dk_at dksX1_beforehand_4 7 rfl rfl)
abbrev cX1_bestPlace : ByteArray := prog_1_method_43_code
def yX1_bestPlace : MethodName := ⟨RX1, "bestPlace", "(I)I"⟩
def dkwX1_bestPlace_5 : List UInt8 := [167, 255, 182, 42, 28, 182, 0, 70, 172]
abbrev dktX1_bestPlace_5 : List UInt8 := dkwX1_bestPlace_5 ++ []
def dkwX1_bestPlace_4 : List UInt8 := [182, 0, 217, 29, 161, 0, 6, 167, 0, 13, 21, 4, 61, 25, 5, 27, 182, 0, 217, 62, 132, 4, 1]
abbrev dktX1_bestPlace_4 : List UInt8 := dkwX1_bestPlace_4 ++ dktX1_bestPlace_5
def dkwX1_bestPlace_3 : List UInt8 := [182, 0, 150, 87, 25, 5, 27, 182, 1, 44, 153, 0, 32, 28, 16, 254, 159, 0, 16, 25, 5, 27]
abbrev dktX1_bestPlace_3 : List UInt8 := dkwX1_bestPlace_3 ++ dktX1_bestPlace_4
def dkwX1_bestPlace_2 : List UInt8 := [180, 0, 155, 162, 0, 68, 42, 182, 0, 238, 58, 5, 25, 5, 180, 0, 165, 27, 21, 4, 79, 25, 5]
abbrev dktX1_bestPlace_2 : List UInt8 := dkwX1_bestPlace_2 ++ dktX1_bestPlace_3
def dkwX1_bestPlace_1 : List UInt8 := [153, 0, 9, 42, 8, 182, 0, 66, 172, 16, 254, 61, 3, 62, 3, 54, 4, 21, 4, 42, 180, 0, 101]
abbrev dktX1_bestPlace_1 : List UInt8 := dkwX1_bestPlace_1 ++ dktX1_bestPlace_2
def dkwX1_bestPlace_0 : List UInt8 := [42, 27, 182, 0, 158, 154, 0, 9, 42, 4, 182, 0, 66, 172, 42, 180, 0, 140, 180, 0, 195, 27, 46]
abbrev dktX1_bestPlace_0 : List UInt8 := dkwX1_bestPlace_0 ++ dktX1_bestPlace_1
theorem dksX1_bestPlace_0 : cX1_bestPlace.data.toList.drop 0 = dktX1_bestPlace_0 := by decide +kernel
theorem dksX1_bestPlace_1 : cX1_bestPlace.data.toList.drop 23 = dktX1_bestPlace_1 := dk_seg dksX1_bestPlace_0 23 rfl rfl
theorem dksX1_bestPlace_2 : cX1_bestPlace.data.toList.drop 46 = dktX1_bestPlace_2 := dk_seg dksX1_bestPlace_1 23 rfl rfl
theorem dksX1_bestPlace_3 : cX1_bestPlace.data.toList.drop 69 = dktX1_bestPlace_3 := dk_seg dksX1_bestPlace_2 23 rfl rfl
theorem dksX1_bestPlace_4 : cX1_bestPlace.data.toList.drop 91 = dktX1_bestPlace_4 := dk_seg dksX1_bestPlace_3 22 rfl rfl
theorem dksX1_bestPlace_5 : cX1_bestPlace.data.toList.drop 114 = dktX1_bestPlace_5 := dk_seg dksX1_bestPlace_4 23 rfl rfl
theorem dX1_bestPlace_0 : decode cX1_bestPlace 0 = .ok (.aload_n 0, 1) := dk_42 (dk_at dksX1_bestPlace_0 0 rfl rfl)
theorem dX1_bestPlace_1 : decode cX1_bestPlace 1 = .ok (.iload_n 1, 1) := dk_27 (dk_at dksX1_bestPlace_0 1 rfl rfl)
theorem dX1_bestPlace_2 : decode cX1_bestPlace 2 = .ok (.invokevirtual 158, 3) := dk_182 0 158 (dk_at dksX1_bestPlace_0 2 rfl rfl)
theorem dX1_bestPlace_5 : decode cX1_bestPlace 5 = .ok (.ifCond .ne 9, 3) := dk_154 0 9 (dk_at dksX1_bestPlace_0 5 rfl rfl)
theorem dX1_bestPlace_8 : decode cX1_bestPlace 8 = .ok (.aload_n 0, 1) := dk_42 (dk_at dksX1_bestPlace_0 8 rfl rfl)
theorem dX1_bestPlace_9 : decode cX1_bestPlace 9 = .ok (.iconst 1, 1) := dk_4 (dk_at dksX1_bestPlace_0 9 rfl rfl)
theorem dX1_bestPlace_10 : decode cX1_bestPlace 10 = .ok (.invokevirtual 66, 3) := dk_182 0 66 (dk_at dksX1_bestPlace_0 10 rfl rfl)
theorem dX1_bestPlace_13 : decode cX1_bestPlace 13 = .ok (.ireturn, 1) := dk_172 (dk_at dksX1_bestPlace_0 13 rfl rfl)
theorem dX1_bestPlace_14 : decode cX1_bestPlace 14 = .ok (.aload_n 0, 1) := dk_42 (dk_at dksX1_bestPlace_0 14 rfl rfl)
theorem dX1_bestPlace_15 : decode cX1_bestPlace 15 = .ok (.getfield 140, 3) := dk_180 0 140 (dk_at dksX1_bestPlace_0 15 rfl rfl)
theorem dX1_bestPlace_18 : decode cX1_bestPlace 18 = .ok (.getfield 195, 3) := dk_180 0 195 (dk_at dksX1_bestPlace_0 18 rfl rfl)
theorem dX1_bestPlace_21 : decode cX1_bestPlace 21 = .ok (.iload_n 1, 1) := dk_27 (dk_at dksX1_bestPlace_0 21 rfl rfl)
theorem dX1_bestPlace_22 : decode cX1_bestPlace 22 = .ok (.iaload, 1) := dk_46 (dk_at dksX1_bestPlace_0 22 rfl rfl)
theorem dX1_bestPlace_23 : decode cX1_bestPlace 23 = .ok (.ifCond .eq 9, 3) := dk_153 0 9 (dk_at dksX1_bestPlace_1 0 rfl rfl)
theorem dX1_bestPlace_26 : decode cX1_bestPlace 26 = .ok (.aload_n 0, 1) := dk_42 (dk_at dksX1_bestPlace_1 3 rfl rfl)
theorem dX1_bestPlace_27 : decode cX1_bestPlace 27 = .ok (.iconst 5, 1) := dk_8 (dk_at dksX1_bestPlace_1 4 rfl rfl)
theorem dX1_bestPlace_28 : decode cX1_bestPlace 28 = .ok (.invokevirtual 66, 3) := dk_182 0 66 (dk_at dksX1_bestPlace_1 5 rfl rfl)
theorem dX1_bestPlace_31 : decode cX1_bestPlace 31 = .ok (.ireturn, 1) := dk_172 (dk_at dksX1_bestPlace_1 8 rfl rfl)
theorem dX1_bestPlace_32 : decode cX1_bestPlace 32 = .ok (.bipush (-2), 2) := dk_16 254 (dk_at dksX1_bestPlace_1 9 rfl rfl)
theorem dX1_bestPlace_34 : decode cX1_bestPlace 34 = .ok (.istore_n 2, 1) := dk_61 (dk_at dksX1_bestPlace_1 11 rfl rfl)
theorem dX1_bestPlace_35 : decode cX1_bestPlace 35 = .ok (.iconst 0, 1) := dk_3 (dk_at dksX1_bestPlace_1 12 rfl rfl)
theorem dX1_bestPlace_36 : decode cX1_bestPlace 36 = .ok (.istore_n 3, 1) := dk_62 (dk_at dksX1_bestPlace_1 13 rfl rfl)
theorem dX1_bestPlace_37 : decode cX1_bestPlace 37 = .ok (.iconst 0, 1) := dk_3 (dk_at dksX1_bestPlace_1 14 rfl rfl)
theorem dX1_bestPlace_38 : decode cX1_bestPlace 38 = .ok (.istore 4, 2) := dk_54 4 (dk_at dksX1_bestPlace_1 15 rfl rfl)
theorem dX1_bestPlace_40 : decode cX1_bestPlace 40 = .ok (.iload 4, 2) := dk_21 4 (dk_at dksX1_bestPlace_1 17 rfl rfl)
theorem dX1_bestPlace_42 : decode cX1_bestPlace 42 = .ok (.aload_n 0, 1) := dk_42 (dk_at dksX1_bestPlace_1 19 rfl rfl)
theorem dX1_bestPlace_43 : decode cX1_bestPlace 43 = .ok (.getfield 101, 3) := dk_180 0 101 (dk_at dksX1_bestPlace_1 20 rfl rfl)
theorem dX1_bestPlace_46 : decode cX1_bestPlace 46 = .ok (.getfield 155, 3) := dk_180 0 155 (dk_at dksX1_bestPlace_2 0 rfl rfl)
theorem dX1_bestPlace_49 : decode cX1_bestPlace 49 = .ok (.if_icmp .ge 68, 3) := dk_162 0 68 (dk_at dksX1_bestPlace_2 3 rfl rfl)
theorem dX1_bestPlace_52 : decode cX1_bestPlace 52 = .ok (.aload_n 0, 1) := dk_42 (dk_at dksX1_bestPlace_2 6 rfl rfl)
theorem dX1_bestPlace_53 : decode cX1_bestPlace 53 = .ok (.invokevirtual 238, 3) := dk_182 0 238 (dk_at dksX1_bestPlace_2 7 rfl rfl)
theorem dX1_bestPlace_56 : decode cX1_bestPlace 56 = .ok (.astore 5, 2) := dk_58 5 (dk_at dksX1_bestPlace_2 10 rfl rfl)
theorem dX1_bestPlace_58 : decode cX1_bestPlace 58 = .ok (.aload 5, 2) := dk_25 5 (dk_at dksX1_bestPlace_2 12 rfl rfl)
theorem dX1_bestPlace_60 : decode cX1_bestPlace 60 = .ok (.getfield 165, 3) := dk_180 0 165 (dk_at dksX1_bestPlace_2 14 rfl rfl)
theorem dX1_bestPlace_63 : decode cX1_bestPlace 63 = .ok (.iload_n 1, 1) := dk_27 (dk_at dksX1_bestPlace_2 17 rfl rfl)
theorem dX1_bestPlace_64 : decode cX1_bestPlace 64 = .ok (.iload 4, 2) := dk_21 4 (dk_at dksX1_bestPlace_2 18 rfl rfl)
theorem dX1_bestPlace_66 : decode cX1_bestPlace 66 = .ok (.iastore, 1) := dk_79 (dk_at dksX1_bestPlace_2 20 rfl rfl)
theorem dX1_bestPlace_67 : decode cX1_bestPlace 67 = .ok (.aload 5, 2) := dk_25 5 (dk_at dksX1_bestPlace_2 21 rfl rfl)
theorem dX1_bestPlace_69 : decode cX1_bestPlace 69 = .ok (.invokevirtual 150, 3) := dk_182 0 150 (dk_at dksX1_bestPlace_3 0 rfl rfl)
theorem dX1_bestPlace_72 : decode cX1_bestPlace 72 = .ok (.pop, 1) := dk_87 (dk_at dksX1_bestPlace_3 3 rfl rfl)
theorem dX1_bestPlace_73 : decode cX1_bestPlace 73 = .ok (.aload 5, 2) := dk_25 5 (dk_at dksX1_bestPlace_3 4 rfl rfl)
theorem dX1_bestPlace_75 : decode cX1_bestPlace 75 = .ok (.iload_n 1, 1) := dk_27 (dk_at dksX1_bestPlace_3 6 rfl rfl)
theorem dX1_bestPlace_76 : decode cX1_bestPlace 76 = .ok (.invokevirtual 300, 3) := dk_182 1 44 (dk_at dksX1_bestPlace_3 7 rfl rfl)
theorem dX1_bestPlace_79 : decode cX1_bestPlace 79 = .ok (.ifCond .eq 32, 3) := dk_153 0 32 (dk_at dksX1_bestPlace_3 10 rfl rfl)
theorem dX1_bestPlace_82 : decode cX1_bestPlace 82 = .ok (.iload_n 2, 1) := dk_28 (dk_at dksX1_bestPlace_3 13 rfl rfl)
theorem dX1_bestPlace_83 : decode cX1_bestPlace 83 = .ok (.bipush (-2), 2) := dk_16 254 (dk_at dksX1_bestPlace_3 14 rfl rfl)
theorem dX1_bestPlace_85 : decode cX1_bestPlace 85 = .ok (.if_icmp .eq 16, 3) := dk_159 0 16 (dk_at dksX1_bestPlace_3 16 rfl rfl)
theorem dX1_bestPlace_88 : decode cX1_bestPlace 88 = .ok (.aload 5, 2) := dk_25 5 (dk_at dksX1_bestPlace_3 19 rfl rfl)
theorem dX1_bestPlace_90 : decode cX1_bestPlace 90 = .ok (.iload_n 1, 1) := dk_27 (dk_at dksX1_bestPlace_3 21 rfl rfl)
theorem dX1_bestPlace_91 : decode cX1_bestPlace 91 = .ok (.invokevirtual 217, 3) := dk_182 0 217 (dk_at dksX1_bestPlace_4 0 rfl rfl)
theorem dX1_bestPlace_94 : decode cX1_bestPlace 94 = .ok (.iload_n 3, 1) := dk_29 (dk_at dksX1_bestPlace_4 3 rfl rfl)
theorem dX1_bestPlace_95 : decode cX1_bestPlace 95 = .ok (.if_icmp .lt 6, 3) := dk_161 0 6 (dk_at dksX1_bestPlace_4 4 rfl rfl)
theorem dX1_bestPlace_98 : decode cX1_bestPlace 98 = .ok (.goto 13, 3) := dk_167 0 13 (dk_at dksX1_bestPlace_4 7 rfl rfl)
theorem dX1_bestPlace_101 : decode cX1_bestPlace 101 = .ok (.iload 4, 2) := dk_21 4 (dk_at dksX1_bestPlace_4 10 rfl rfl)
theorem dX1_bestPlace_103 : decode cX1_bestPlace 103 = .ok (.istore_n 2, 1) := dk_61 (dk_at dksX1_bestPlace_4 12 rfl rfl)
theorem dX1_bestPlace_104 : decode cX1_bestPlace 104 = .ok (.aload 5, 2) := dk_25 5 (dk_at dksX1_bestPlace_4 13 rfl rfl)
theorem dX1_bestPlace_106 : decode cX1_bestPlace 106 = .ok (.iload_n 1, 1) := dk_27 (dk_at dksX1_bestPlace_4 15 rfl rfl)
theorem dX1_bestPlace_107 : decode cX1_bestPlace 107 = .ok (.invokevirtual 217, 3) := dk_182 0 217 (dk_at dksX1_bestPlace_4 16 rfl rfl)
theorem dX1_bestPlace_110 : decode cX1_bestPlace 110 = .ok (.istore_n 3, 1) := dk_62 (dk_at dksX1_bestPlace_4 19 rfl rfl)
theorem dX1_bestPlace_111 : decode cX1_bestPlace 111 = .ok (.iinc 4 1, 3) := dk_132 4 1 (dk_at dksX1_bestPlace_4 20 rfl rfl)
theorem dX1_bestPlace_114 : decode cX1_bestPlace 114 = .ok (.goto (-74), 3) := dk_167 255 182 (dk_at dksX1_bestPlace_5 0 rfl rfl)
theorem dX1_bestPlace_117 : decode cX1_bestPlace 117 = .ok (.aload_n 0, 1) := dk_42 (dk_at dksX1_bestPlace_5 3 rfl rfl)
theorem dX1_bestPlace_118 : decode cX1_bestPlace 118 = .ok (.iload_n 2, 1) := dk_28 (dk_at dksX1_bestPlace_5 4 rfl rfl)
theorem dX1_bestPlace_119 : decode cX1_bestPlace 119 = .ok (.invokevirtual 70, 3) := dk_182 0 70 (dk_at dksX1_bestPlace_5 5 rfl rfl)
theorem dX1_bestPlace_122 : decode cX1_bestPlace 122 = .ok (.ireturn, 1) := dk_172 (dk_at dksX1_bestPlace_5 8 rfl rfl)
abbrev cX1_bestManner : ByteArray := prog_1_method_44_code
def yX1_bestManner : MethodName := ⟨RX1, "bestManne\x72", "(I)I"⟩
def dkwX1_bestManner_5 : List UInt8 := [182, 0, 70, 172]
abbrev dktX1_bestManner_5 : List UInt8 := dkwX1_bestManner_5 ++ []
def dkwX1_bestManner_4 : List UInt8 := [161, 0, 6, 167, 0, 13, 21, 4, 61, 25, 5, 27, 182, 0, 217, 62, 132, 4, 1, 167, 255, 184, 42, 28]
abbrev dktX1_bestManner_4 : List UInt8 := dkwX1_bestManner_4 ++ dktX1_bestManner_5
def dkwX1_bestManner_3 : List UInt8 := [25, 5, 27, 182, 1, 44, 153, 0, 32, 28, 16, 254, 159, 0, 16, 25, 5, 27, 182, 0, 217, 29]
abbrev dktX1_bestManner_3 : List UInt8 := dkwX1_bestManner_3 ++ dktX1_bestManner_4
def dkwX1_bestManner_2 : List UInt8 := [182, 0, 238, 58, 5, 25, 5, 27, 21, 4, 16, 30, 184, 1, 47, 182, 1, 51, 25, 5, 182, 0, 150, 87]
abbrev dktX1_bestManner_2 : List UInt8 := dkwX1_bestManner_2 ++ dktX1_bestManner_3
def dkwX1_bestManner_1 : List UInt8 := [153, 0, 9, 42, 8, 182, 0, 66, 172, 16, 254, 61, 3, 62, 3, 54, 4, 21, 4, 7, 162, 0, 72, 42]
abbrev dktX1_bestManner_1 : List UInt8 := dkwX1_bestManner_1 ++ dktX1_bestManner_2
def dkwX1_bestManner_0 : List UInt8 := [42, 27, 182, 0, 158, 154, 0, 9, 42, 4, 182, 0, 66, 172, 42, 180, 0, 140, 180, 0, 195, 27, 46]
abbrev dktX1_bestManner_0 : List UInt8 := dkwX1_bestManner_0 ++ dktX1_bestManner_1
theorem dksX1_bestManner_0 : cX1_bestManner.data.toList.drop 0 = dktX1_bestManner_0 := by decide +kernel
theorem dksX1_bestManner_1 : cX1_bestManner.data.toList.drop 23 = dktX1_bestManner_1 := dk_seg dksX1_bestManner_0 23 rfl rfl
theorem dksX1_bestManner_2 : cX1_bestManner.data.toList.drop 47 = dktX1_bestManner_2 := dk_seg dksX1_bestManner_1 24 rfl rfl
theorem dksX1_bestManner_3 : cX1_bestManner.data.toList.drop 71 = dktX1_bestManner_3 := dk_seg dksX1_bestManner_2 24 rfl rfl
theorem dksX1_bestManner_4 : cX1_bestManner.data.toList.drop 93 = dktX1_bestManner_4 := dk_seg dksX1_bestManner_3 22 rfl rfl
theorem dksX1_bestManner_5 : cX1_bestManner.data.toList.drop 117 = dktX1_bestManner_5 := dk_seg dksX1_bestManner_4 24 rfl rfl
theorem dX1_bestManner_0 : decode cX1_bestManner 0 = .ok (.aload_n 0, 1) := dk_42 (dk_at dksX1_bestManner_0 0 rfl rfl)
theorem dX1_bestManner_1 : decode cX1_bestManner 1 = .ok (.iload_n 1, 1) := dk_27 (dk_at dksX1_bestManner_0 1 rfl rfl)
theorem dX1_bestManner_2 : decode cX1_bestManner 2 = .ok (.invokevirtual 158, 3) := dk_182 0 158 (dk_at dksX1_bestManner_0 2 rfl rfl)
theorem dX1_bestManner_5 : decode cX1_bestManner 5 = .ok (.ifCond .ne 9, 3) := dk_154 0 9 (dk_at dksX1_bestManner_0 5 rfl rfl)
theorem dX1_bestManner_8 : decode cX1_bestManner 8 = .ok (.aload_n 0, 1) := dk_42 (dk_at dksX1_bestManner_0 8 rfl rfl)
theorem dX1_bestManner_9 : decode cX1_bestManner 9 = .ok (.iconst 1, 1) := dk_4 (dk_at dksX1_bestManner_0 9 rfl rfl)
theorem dX1_bestManner_10 : decode cX1_bestManner 10 = .ok (.invokevirtual 66, 3) := dk_182 0 66 (dk_at dksX1_bestManner_0 10 rfl rfl)
theorem dX1_bestManner_13 : decode cX1_bestManner 13 = .ok (.ireturn, 1) := dk_172 (dk_at dksX1_bestManner_0 13 rfl rfl)
theorem dX1_bestManner_14 : decode cX1_bestManner 14 = .ok (.aload_n 0, 1) := dk_42 (dk_at dksX1_bestManner_0 14 rfl rfl)
theorem dX1_bestManner_15 : decode cX1_bestManner 15 = .ok (.getfield 140, 3) := dk_180 0 140 (dk_at dksX1_bestManner_0 15 rfl rfl)
theorem dX1_bestManner_18 : decode cX1_bestManner 18 = .ok (.getfield 195, 3) := dk_180 0 195 (dk_at dksX1_bestManner_0 18 rfl rfl)
theorem dX1_bestManner_21 : decode cX1_bestManner 21 = .ok (.iload_n 1, 1) := dk_27 (dk_at dksX1_bestManner_0 21 rfl rfl)
theorem dX1_bestManner_22 : decode cX1_bestManner 22 = .ok (.iaload, 1) := dk_46 (dk_at dksX1_bestManner_0 22 rfl rfl)
theorem dX1_bestManner_23 : decode cX1_bestManner 23 = .ok (.ifCond .eq 9, 3) := dk_153 0 9 (dk_at dksX1_bestManner_1 0 rfl rfl)
theorem dX1_bestManner_26 : decode cX1_bestManner 26 = .ok (.aload_n 0, 1) := dk_42 (dk_at dksX1_bestManner_1 3 rfl rfl)
theorem dX1_bestManner_27 : decode cX1_bestManner 27 = .ok (.iconst 5, 1) := dk_8 (dk_at dksX1_bestManner_1 4 rfl rfl)
theorem dX1_bestManner_28 : decode cX1_bestManner 28 = .ok (.invokevirtual 66, 3) := dk_182 0 66 (dk_at dksX1_bestManner_1 5 rfl rfl)
theorem dX1_bestManner_31 : decode cX1_bestManner 31 = .ok (.ireturn, 1) := dk_172 (dk_at dksX1_bestManner_1 8 rfl rfl)
theorem dX1_bestManner_32 : decode cX1_bestManner 32 = .ok (.bipush (-2), 2) := dk_16 254 (dk_at dksX1_bestManner_1 9 rfl rfl)
theorem dX1_bestManner_34 : decode cX1_bestManner 34 = .ok (.istore_n 2, 1) := dk_61 (dk_at dksX1_bestManner_1 11 rfl rfl)
theorem dX1_bestManner_35 : decode cX1_bestManner 35 = .ok (.iconst 0, 1) := dk_3 (dk_at dksX1_bestManner_1 12 rfl rfl)
theorem dX1_bestManner_36 : decode cX1_bestManner 36 = .ok (.istore_n 3, 1) := dk_62 (dk_at dksX1_bestManner_1 13 rfl rfl)
theorem dX1_bestManner_37 : decode cX1_bestManner 37 = .ok (.iconst 0, 1) := dk_3 (dk_at dksX1_bestManner_1 14 rfl rfl)
theorem dX1_bestManner_38 : decode cX1_bestManner 38 = .ok (.istore 4, 2) := dk_54 4 (dk_at dksX1_bestManner_1 15 rfl rfl)
theorem dX1_bestManner_40 : decode cX1_bestManner 40 = .ok (.iload 4, 2) := dk_21 4 (dk_at dksX1_bestManner_1 17 rfl rfl)
theorem dX1_bestManner_42 : decode cX1_bestManner 42 = .ok (.iconst 4, 1) := dk_7 (dk_at dksX1_bestManner_1 19 rfl rfl)
theorem dX1_bestManner_43 : decode cX1_bestManner 43 = .ok (.if_icmp .ge 72, 3) := dk_162 0 72 (dk_at dksX1_bestManner_1 20 rfl rfl)
theorem dX1_bestManner_46 : decode cX1_bestManner 46 = .ok (.aload_n 0, 1) := dk_42 (dk_at dksX1_bestManner_1 23 rfl rfl)
theorem dX1_bestManner_47 : decode cX1_bestManner 47 = .ok (.invokevirtual 238, 3) := dk_182 0 238 (dk_at dksX1_bestManner_2 0 rfl rfl)
theorem dX1_bestManner_50 : decode cX1_bestManner 50 = .ok (.astore 5, 2) := dk_58 5 (dk_at dksX1_bestManner_2 3 rfl rfl)
theorem dX1_bestManner_52 : decode cX1_bestManner 52 = .ok (.aload 5, 2) := dk_25 5 (dk_at dksX1_bestManner_2 5 rfl rfl)
theorem dX1_bestManner_54 : decode cX1_bestManner 54 = .ok (.iload_n 1, 1) := dk_27 (dk_at dksX1_bestManner_2 7 rfl rfl)
theorem dX1_bestManner_55 : decode cX1_bestManner 55 = .ok (.iload 4, 2) := dk_21 4 (dk_at dksX1_bestManner_2 8 rfl rfl)
theorem dX1_bestManner_57 : decode cX1_bestManner 57 = .ok (.bipush 30, 2) := dk_16 30 (dk_at dksX1_bestManner_2 10 rfl rfl)
theorem dX1_bestManner_59 : decode cX1_bestManner 59 = .ok (.invokestatic 303, 3) := dk_184 1 47 (dk_at dksX1_bestManner_2 12 rfl rfl)
theorem dX1_bestManner_62 : decode cX1_bestManner 62 = .ok (.invokevirtual 307, 3) := dk_182 1 51 (dk_at dksX1_bestManner_2 15 rfl rfl)
theorem dX1_bestManner_65 : decode cX1_bestManner 65 = .ok (.aload 5, 2) := dk_25 5 (dk_at dksX1_bestManner_2 18 rfl rfl)
theorem dX1_bestManner_67 : decode cX1_bestManner 67 = .ok (.invokevirtual 150, 3) := dk_182 0 150 (dk_at dksX1_bestManner_2 20 rfl rfl)
theorem dX1_bestManner_70 : decode cX1_bestManner 70 = .ok (.pop, 1) := dk_87 (dk_at dksX1_bestManner_2 23 rfl rfl)
theorem dX1_bestManner_71 : decode cX1_bestManner 71 = .ok (.aload 5, 2) := dk_25 5 (dk_at dksX1_bestManner_3 0 rfl rfl)
theorem dX1_bestManner_73 : decode cX1_bestManner 73 = .ok (.iload_n 1, 1) := dk_27 (dk_at dksX1_bestManner_3 2 rfl rfl)
theorem dX1_bestManner_74 : decode cX1_bestManner 74 = .ok (.invokevirtual 300, 3) := dk_182 1 44 (dk_at dksX1_bestManner_3 3 rfl rfl)
theorem dX1_bestManner_77 : decode cX1_bestManner 77 = .ok (.ifCond .eq 32, 3) := dk_153 0 32 (dk_at dksX1_bestManner_3 6 rfl rfl)
theorem dX1_bestManner_80 : decode cX1_bestManner 80 = .ok (.iload_n 2, 1) := dk_28 (dk_at dksX1_bestManner_3 9 rfl rfl)
theorem dX1_bestManner_81 : decode cX1_bestManner 81 = .ok (.bipush (-2), 2) := dk_16 254 (dk_at dksX1_bestManner_3 10 rfl rfl)
theorem dX1_bestManner_83 : decode cX1_bestManner 83 = .ok (.if_icmp .eq 16, 3) := dk_159 0 16 (dk_at dksX1_bestManner_3 12 rfl rfl)
theorem dX1_bestManner_86 : decode cX1_bestManner 86 = .ok (.aload 5, 2) := dk_25 5 (dk_at dksX1_bestManner_3 15 rfl rfl)
theorem dX1_bestManner_88 : decode cX1_bestManner 88 = .ok (.iload_n 1, 1) := dk_27 (dk_at dksX1_bestManner_3 17 rfl rfl)
theorem dX1_bestManner_89 : decode cX1_bestManner 89 = .ok (.invokevirtual 217, 3) := dk_182 0 217 (dk_at dksX1_bestManner_3 18 rfl rfl)
theorem dX1_bestManner_92 : decode cX1_bestManner 92 = .ok (.iload_n 3, 1) := dk_29 (dk_at dksX1_bestManner_3 21 rfl rfl)
theorem dX1_bestManner_93 : decode cX1_bestManner 93 = .ok (.if_icmp .lt 6, 3) := dk_161 0 6 (dk_at dksX1_bestManner_4 0 rfl rfl)
theorem dX1_bestManner_96 : decode cX1_bestManner 96 = .ok (.goto 13, 3) := dk_167 0 13 (dk_at dksX1_bestManner_4 3 rfl rfl)
theorem dX1_bestManner_99 : decode cX1_bestManner 99 = .ok (.iload 4, 2) := dk_21 4 (dk_at dksX1_bestManner_4 6 rfl rfl)
theorem dX1_bestManner_101 : decode cX1_bestManner 101 = .ok (.istore_n 2, 1) := dk_61 (dk_at dksX1_bestManner_4 8 rfl rfl)
theorem dX1_bestManner_102 : decode cX1_bestManner 102 = .ok (.aload 5, 2) := dk_25 5 (dk_at dksX1_bestManner_4 9 rfl rfl)
theorem dX1_bestManner_104 : decode cX1_bestManner 104 = .ok (.iload_n 1, 1) := dk_27 (dk_at dksX1_bestManner_4 11 rfl rfl)
theorem dX1_bestManner_105 : decode cX1_bestManner 105 = .ok (.invokevirtual 217, 3) := dk_182 0 217 (dk_at dksX1_bestManner_4 12 rfl rfl)
theorem dX1_bestManner_108 : decode cX1_bestManner 108 = .ok (.istore_n 3, 1) := dk_62 (dk_at dksX1_bestManner_4 15 rfl rfl)
theorem dX1_bestManner_109 : decode cX1_bestManner 109 = .ok (.iinc 4 1, 3) := dk_132 4 1 (dk_at dksX1_bestManner_4 16 rfl rfl)
theorem dX1_bestManner_112 : decode cX1_bestManner 112 = .ok (.goto (-72), 3) := dk_167 255 184 (dk_at dksX1_bestManner_4 19 rfl rfl)
theorem dX1_bestManner_115 : decode cX1_bestManner 115 = .ok (.aload_n 0, 1) := dk_42 (dk_at dksX1_bestManner_4 22 rfl rfl)
theorem dX1_bestManner_116 : decode cX1_bestManner 116 = .ok (.iload_n 2, 1) := dk_28 (dk_at dksX1_bestManner_4 23 rfl rfl)
theorem dX1_bestManner_117 : decode cX1_bestManner 117 = .ok (.invokevirtual 70, 3) := dk_182 0 70 (dk_at dksX1_bestManner_5 0 rfl rfl)
theorem dX1_bestManner_120 : decode cX1_bestManner 120 = .ok (.ireturn, 1) := dk_172 (dk_at dksX1_bestManner_5 3 rfl rfl)
abbrev cX1_cut : ByteArray := prog_1_method_48_code
def yX1_cut : MethodName := ⟨RX1, "cut", "()I"⟩
def dkwX1_cut_1 : List UInt8 := [182, 0, 70, 172]
abbrev dktX1_cut_1 : List UInt8 := dkwX1_cut_1 ++ []
def dkwX1_cut_0 : List UInt8 := [42, 182, 1, 59, 60, 27, 158, 0, 11, 42, 27, 182, 0, 66, 167, 0, 11, 42, 42, 182, 1, 62]
abbrev dktX1_cut_0 : List UInt8 := dkwX1_cut_0 ++ dktX1_cut_1
theorem dksX1_cut_0 : cX1_cut.data.toList.drop 0 = dktX1_cut_0 := by decide +kernel
theorem dksX1_cut_1 : cX1_cut.data.toList.drop 22 = dktX1_cut_1 := dk_seg dksX1_cut_0 22 rfl rfl
theorem dX1_cut_0 : decode cX1_cut 0 = .ok (.aload_n 0, 1) := dk_42 (dk_at dksX1_cut_0 0 rfl rfl)
theorem dX1_cut_1 : decode cX1_cut 1 = .ok (.invokevirtual 315, 3) := dk_182 1 59 (dk_at dksX1_cut_0 1 rfl rfl)
theorem dX1_cut_4 : decode cX1_cut 4 = .ok (.istore_n 1, 1) := dk_60 (dk_at dksX1_cut_0 4 rfl rfl)
theorem dX1_cut_5 : decode cX1_cut 5 = .ok (.iload_n 1, 1) := dk_27 (dk_at dksX1_cut_0 5 rfl rfl)
theorem dX1_cut_6 : decode cX1_cut 6 = .ok (.ifCond .le 11, 3) := dk_158 0 11 (dk_at dksX1_cut_0 6 rfl rfl)
theorem dX1_cut_9 : decode cX1_cut 9 = .ok (.aload_n 0, 1) := dk_42 (dk_at dksX1_cut_0 9 rfl rfl)
theorem dX1_cut_10 : decode cX1_cut 10 = .ok (.iload_n 1, 1) := dk_27 (dk_at dksX1_cut_0 10 rfl rfl)
theorem dX1_cut_11 : decode cX1_cut 11 = .ok (.invokevirtual 66, 3) := dk_182 0 66 (dk_at dksX1_cut_0 11 rfl rfl)
theorem dX1_cut_14 : decode cX1_cut 14 = .ok (.goto 11, 3) := dk_167 0 11 (dk_at dksX1_cut_0 14 rfl rfl)
theorem dX1_cut_17 : decode cX1_cut 17 = .ok (.aload_n 0, 1) := dk_42 (dk_at dksX1_cut_0 17 rfl rfl)
theorem dX1_cut_18 : decode cX1_cut 18 = .ok (.aload_n 0, 1) := dk_42 (dk_at dksX1_cut_0 18 rfl rfl)
theorem dX1_cut_19 : decode cX1_cut 19 = .ok (.invokevirtual 318, 3) := dk_182 1 62 (dk_at dksX1_cut_0 19 rfl rfl)
theorem dX1_cut_22 : decode cX1_cut 22 = .ok (.invokevirtual 70, 3) := dk_182 0 70 (dk_at dksX1_cut_1 0 rfl rfl)
theorem dX1_cut_25 : decode cX1_cut 25 = .ok (.ireturn, 1) := dk_172 (dk_at dksX1_cut_1 3 rfl rfl)
abbrev cX1_refusesCut : ByteArray := prog_1_method_46_code
def yX1_refusesCut : MethodName := ⟨RX1, "refusesCut", "()I"⟩
def dkwX1_refusesCut_1 : List UInt8 := [161, 0, 14, 42, 180, 0, 101, 180, 0, 155, 5, 162, 0, 7, 8, 167, 0, 4, 3, 172]
abbrev dktX1_refusesCut_1 : List UInt8 := dkwX1_refusesCut_1 ++ []
def dkwX1_refusesCut_0 : List UInt8 := [42, 180, 0, 101, 199, 0, 7, 4, 167, 0, 33, 42, 180, 0, 101, 180, 0, 152, 182, 0, 136, 5]
abbrev dktX1_refusesCut_0 : List UInt8 := dkwX1_refusesCut_0 ++ dktX1_refusesCut_1
theorem dksX1_refusesCut_0 : cX1_refusesCut.data.toList.drop 0 = dktX1_refusesCut_0 := by decide +kernel
theorem dksX1_refusesCut_1 : cX1_refusesCut.data.toList.drop 22 = dktX1_refusesCut_1 := dk_seg dksX1_refusesCut_0 22 rfl rfl
theorem dX1_refusesCut_0 : decode cX1_refusesCut 0 = .ok (.aload_n 0, 1) := dk_42 (dk_at dksX1_refusesCut_0 0 rfl rfl)
theorem dX1_refusesCut_1 : decode cX1_refusesCut 1 = .ok (.getfield 101, 3) := dk_180 0 101 (dk_at dksX1_refusesCut_0 1 rfl rfl)
theorem dX1_refusesCut_4 : decode cX1_refusesCut 4 = .ok (.ifnonnull 7, 3) := dk_199 0 7 (dk_at dksX1_refusesCut_0 4 rfl rfl)
theorem dX1_refusesCut_7 : decode cX1_refusesCut 7 = .ok (.iconst 1, 1) := dk_4 (dk_at dksX1_refusesCut_0 7 rfl rfl)
theorem dX1_refusesCut_8 : decode cX1_refusesCut 8 = .ok (.goto 33, 3) := dk_167 0 33 (dk_at dksX1_refusesCut_0 8 rfl rfl)
theorem dX1_refusesCut_11 : decode cX1_refusesCut 11 = .ok (.aload_n 0, 1) := dk_42 (dk_at dksX1_refusesCut_0 11 rfl rfl)
theorem dX1_refusesCut_12 : decode cX1_refusesCut 12 = .ok (.getfield 101, 3) := dk_180 0 101 (dk_at dksX1_refusesCut_0 12 rfl rfl)
theorem dX1_refusesCut_15 : decode cX1_refusesCut 15 = .ok (.getfield 152, 3) := dk_180 0 152 (dk_at dksX1_refusesCut_0 15 rfl rfl)
theorem dX1_refusesCut_18 : decode cX1_refusesCut 18 = .ok (.invokevirtual 136, 3) := dk_182 0 136 (dk_at dksX1_refusesCut_0 18 rfl rfl)
theorem dX1_refusesCut_21 : decode cX1_refusesCut 21 = .ok (.iconst 2, 1) := dk_5 (dk_at dksX1_refusesCut_0 21 rfl rfl)
theorem dX1_refusesCut_22 : decode cX1_refusesCut 22 = .ok (.if_icmp .lt 14, 3) := dk_161 0 14 (dk_at dksX1_refusesCut_1 0 rfl rfl)
theorem dX1_refusesCut_25 : decode cX1_refusesCut 25 = .ok (.aload_n 0, 1) := dk_42 (dk_at dksX1_refusesCut_1 3 rfl rfl)
theorem dX1_refusesCut_26 : decode cX1_refusesCut 26 = .ok (.getfield 101, 3) := dk_180 0 101 (dk_at dksX1_refusesCut_1 4 rfl rfl)
theorem dX1_refusesCut_29 : decode cX1_refusesCut 29 = .ok (.getfield 155, 3) := dk_180 0 155 (dk_at dksX1_refusesCut_1 7 rfl rfl)
theorem dX1_refusesCut_32 : decode cX1_refusesCut 32 = .ok (.iconst 2, 1) := dk_5 (dk_at dksX1_refusesCut_1 10 rfl rfl)
theorem dX1_refusesCut_33 : decode cX1_refusesCut 33 = .ok (.if_icmp .ge 7, 3) := dk_162 0 7 (dk_at dksX1_refusesCut_1 11 rfl rfl)
theorem dX1_refusesCut_36 : decode cX1_refusesCut 36 = .ok (.iconst 5, 1) := dk_8 (dk_at dksX1_refusesCut_1 14 rfl rfl)
theorem dX1_refusesCut_37 : decode cX1_refusesCut 37 = .ok (.goto 4, 3) := dk_167 0 4 (dk_at dksX1_refusesCut_1 15 rfl rfl)
theorem dX1_refusesCut_40 : decode cX1_refusesCut 40 = .ok (.iconst 0, 1) := dk_3 (dk_at dksX1_refusesCut_1 18 rfl rfl)
theorem dX1_refusesCut_41 : decode cX1_refusesCut 41 = .ok (.ireturn, 1) := dk_172 (dk_at dksX1_refusesCut_1 19 rfl rfl)
abbrev cX1_bestCut : ByteArray := prog_1_method_47_code
def yX1_bestCut : MethodName := ⟨RX1, "bestCut", "()I"⟩
def dkwX1_bestCut_2 : List UInt8 := [132, 3, 1, 167, 255, 211, 27, 172]
abbrev dktX1_bestCut_2 : List UInt8 := dkwX1_bestCut_2 ++ []
def dkwX1_bestCut_1 : List UInt8 := [6, 182, 0, 229, 54, 4, 29, 158, 0, 12, 21, 4, 28, 161, 0, 6, 167, 0, 8, 29, 60, 21, 4, 61]
abbrev dktX1_bestCut_1 : List UInt8 := dkwX1_bestCut_1 ++ dktX1_bestCut_2
def dkwX1_bestCut_0 : List UInt8 := [3, 60, 3, 61, 3, 62, 29, 4, 96, 42, 180, 0, 101, 180, 0, 155, 162, 0, 38, 42, 29, 182, 1, 55]
abbrev dktX1_bestCut_0 : List UInt8 := dkwX1_bestCut_0 ++ dktX1_bestCut_1
theorem dksX1_bestCut_0 : cX1_bestCut.data.toList.drop 0 = dktX1_bestCut_0 := by decide +kernel
theorem dksX1_bestCut_1 : cX1_bestCut.data.toList.drop 24 = dktX1_bestCut_1 := dk_seg dksX1_bestCut_0 24 rfl rfl
theorem dksX1_bestCut_2 : cX1_bestCut.data.toList.drop 48 = dktX1_bestCut_2 := dk_seg dksX1_bestCut_1 24 rfl rfl
theorem dX1_bestCut_0 : decode cX1_bestCut 0 = .ok (.iconst 0, 1) := dk_3 (dk_at dksX1_bestCut_0 0 rfl rfl)
theorem dX1_bestCut_1 : decode cX1_bestCut 1 = .ok (.istore_n 1, 1) := dk_60 (dk_at dksX1_bestCut_0 1 rfl rfl)
theorem dX1_bestCut_2 : decode cX1_bestCut 2 = .ok (.iconst 0, 1) := dk_3 (dk_at dksX1_bestCut_0 2 rfl rfl)
theorem dX1_bestCut_3 : decode cX1_bestCut 3 = .ok (.istore_n 2, 1) := dk_61 (dk_at dksX1_bestCut_0 3 rfl rfl)
theorem dX1_bestCut_4 : decode cX1_bestCut 4 = .ok (.iconst 0, 1) := dk_3 (dk_at dksX1_bestCut_0 4 rfl rfl)
theorem dX1_bestCut_5 : decode cX1_bestCut 5 = .ok (.istore_n 3, 1) := dk_62 (dk_at dksX1_bestCut_0 5 rfl rfl)
theorem dX1_bestCut_6 : decode cX1_bestCut 6 = .ok (.iload_n 3, 1) := dk_29 (dk_at dksX1_bestCut_0 6 rfl rfl)
theorem dX1_bestCut_7 : decode cX1_bestCut 7 = .ok (.iconst 1, 1) := dk_4 (dk_at dksX1_bestCut_0 7 rfl rfl)
theorem dX1_bestCut_8 : decode cX1_bestCut 8 = .ok (.iadd, 1) := dk_96 (dk_at dksX1_bestCut_0 8 rfl rfl)
theorem dX1_bestCut_9 : decode cX1_bestCut 9 = .ok (.aload_n 0, 1) := dk_42 (dk_at dksX1_bestCut_0 9 rfl rfl)
theorem dX1_bestCut_10 : decode cX1_bestCut 10 = .ok (.getfield 101, 3) := dk_180 0 101 (dk_at dksX1_bestCut_0 10 rfl rfl)
theorem dX1_bestCut_13 : decode cX1_bestCut 13 = .ok (.getfield 155, 3) := dk_180 0 155 (dk_at dksX1_bestCut_0 13 rfl rfl)
theorem dX1_bestCut_16 : decode cX1_bestCut 16 = .ok (.if_icmp .ge 38, 3) := dk_162 0 38 (dk_at dksX1_bestCut_0 16 rfl rfl)
theorem dX1_bestCut_19 : decode cX1_bestCut 19 = .ok (.aload_n 0, 1) := dk_42 (dk_at dksX1_bestCut_0 19 rfl rfl)
theorem dX1_bestCut_20 : decode cX1_bestCut 20 = .ok (.iload_n 3, 1) := dk_29 (dk_at dksX1_bestCut_0 20 rfl rfl)
theorem dX1_bestCut_21 : decode cX1_bestCut 21 = .ok (.invokevirtual 311, 3) := dk_182 1 55 (dk_at dksX1_bestCut_0 21 rfl rfl)
theorem dX1_bestCut_24 : decode cX1_bestCut 24 = .ok (.iconst 3, 1) := dk_6 (dk_at dksX1_bestCut_1 0 rfl rfl)
theorem dX1_bestCut_25 : decode cX1_bestCut 25 = .ok (.invokevirtual 229, 3) := dk_182 0 229 (dk_at dksX1_bestCut_1 1 rfl rfl)
theorem dX1_bestCut_28 : decode cX1_bestCut 28 = .ok (.istore 4, 2) := dk_54 4 (dk_at dksX1_bestCut_1 4 rfl rfl)
theorem dX1_bestCut_30 : decode cX1_bestCut 30 = .ok (.iload_n 3, 1) := dk_29 (dk_at dksX1_bestCut_1 6 rfl rfl)
theorem dX1_bestCut_31 : decode cX1_bestCut 31 = .ok (.ifCond .le 12, 3) := dk_158 0 12 (dk_at dksX1_bestCut_1 7 rfl rfl)
theorem dX1_bestCut_34 : decode cX1_bestCut 34 = .ok (.iload 4, 2) := dk_21 4 (dk_at dksX1_bestCut_1 10 rfl rfl)
theorem dX1_bestCut_36 : decode cX1_bestCut 36 = .ok (.iload_n 2, 1) := dk_28 (dk_at dksX1_bestCut_1 12 rfl rfl)
theorem dX1_bestCut_37 : decode cX1_bestCut 37 = .ok (.if_icmp .lt 6, 3) := dk_161 0 6 (dk_at dksX1_bestCut_1 13 rfl rfl)
theorem dX1_bestCut_40 : decode cX1_bestCut 40 = .ok (.goto 8, 3) := dk_167 0 8 (dk_at dksX1_bestCut_1 16 rfl rfl)
theorem dX1_bestCut_43 : decode cX1_bestCut 43 = .ok (.iload_n 3, 1) := dk_29 (dk_at dksX1_bestCut_1 19 rfl rfl)
theorem dX1_bestCut_44 : decode cX1_bestCut 44 = .ok (.istore_n 1, 1) := dk_60 (dk_at dksX1_bestCut_1 20 rfl rfl)
theorem dX1_bestCut_45 : decode cX1_bestCut 45 = .ok (.iload 4, 2) := dk_21 4 (dk_at dksX1_bestCut_1 21 rfl rfl)
theorem dX1_bestCut_47 : decode cX1_bestCut 47 = .ok (.istore_n 2, 1) := dk_61 (dk_at dksX1_bestCut_1 23 rfl rfl)
theorem dX1_bestCut_48 : decode cX1_bestCut 48 = .ok (.iinc 3 1, 3) := dk_132 3 1 (dk_at dksX1_bestCut_2 0 rfl rfl)
theorem dX1_bestCut_51 : decode cX1_bestCut 51 = .ok (.goto (-45), 3) := dk_167 255 211 (dk_at dksX1_bestCut_2 3 rfl rfl)
theorem dX1_bestCut_54 : decode cX1_bestCut 54 = .ok (.iload_n 1, 1) := dk_27 (dk_at dksX1_bestCut_2 6 rfl rfl)
theorem dX1_bestCut_55 : decode cX1_bestCut 55 = .ok (.ireturn, 1) := dk_172 (dk_at dksX1_bestCut_2 7 rfl rfl)
abbrev cX1_cutAt : ByteArray := prog_1_method_45_code
def yX1_cutAt : MethodName := ⟨RX1, "cutAt", "(I)LNextAtBar$Bar;"⟩
def dkwX1_cutAt_1 : List UInt8 := [27, 4, 96, 79, 44, 180, 0, 254, 4, 42, 180, 0, 101, 180, 0, 155, 4, 100, 79, 44, 182, 0, 150, 176]
abbrev dktX1_cutAt_1 : List UInt8 := dkwX1_cutAt_1 ++ []
def dkwX1_cutAt_0 : List UInt8 := [42, 182, 0, 238, 77, 44, 180, 0, 251, 3, 3, 79, 44, 180, 0, 254, 3, 27, 79, 44, 180, 0, 251, 4]
abbrev dktX1_cutAt_0 : List UInt8 := dkwX1_cutAt_0 ++ dktX1_cutAt_1
theorem dksX1_cutAt_0 : cX1_cutAt.data.toList.drop 0 = dktX1_cutAt_0 := by decide +kernel
theorem dksX1_cutAt_1 : cX1_cutAt.data.toList.drop 24 = dktX1_cutAt_1 := dk_seg dksX1_cutAt_0 24 rfl rfl
theorem dX1_cutAt_0 : decode cX1_cutAt 0 = .ok (.aload_n 0, 1) := dk_42 (dk_at dksX1_cutAt_0 0 rfl rfl)
theorem dX1_cutAt_1 : decode cX1_cutAt 1 = .ok (.invokevirtual 238, 3) := dk_182 0 238 (dk_at dksX1_cutAt_0 1 rfl rfl)
theorem dX1_cutAt_4 : decode cX1_cutAt 4 = .ok (.astore_n 2, 1) := dk_77 (dk_at dksX1_cutAt_0 4 rfl rfl)
theorem dX1_cutAt_5 : decode cX1_cutAt 5 = .ok (.aload_n 2, 1) := dk_44 (dk_at dksX1_cutAt_0 5 rfl rfl)
theorem dX1_cutAt_6 : decode cX1_cutAt 6 = .ok (.getfield 251, 3) := dk_180 0 251 (dk_at dksX1_cutAt_0 6 rfl rfl)
theorem dX1_cutAt_9 : decode cX1_cutAt 9 = .ok (.iconst 0, 1) := dk_3 (dk_at dksX1_cutAt_0 9 rfl rfl)
theorem dX1_cutAt_10 : decode cX1_cutAt 10 = .ok (.iconst 0, 1) := dk_3 (dk_at dksX1_cutAt_0 10 rfl rfl)
theorem dX1_cutAt_11 : decode cX1_cutAt 11 = .ok (.iastore, 1) := dk_79 (dk_at dksX1_cutAt_0 11 rfl rfl)
theorem dX1_cutAt_12 : decode cX1_cutAt 12 = .ok (.aload_n 2, 1) := dk_44 (dk_at dksX1_cutAt_0 12 rfl rfl)
theorem dX1_cutAt_13 : decode cX1_cutAt 13 = .ok (.getfield 254, 3) := dk_180 0 254 (dk_at dksX1_cutAt_0 13 rfl rfl)
theorem dX1_cutAt_16 : decode cX1_cutAt 16 = .ok (.iconst 0, 1) := dk_3 (dk_at dksX1_cutAt_0 16 rfl rfl)
theorem dX1_cutAt_17 : decode cX1_cutAt 17 = .ok (.iload_n 1, 1) := dk_27 (dk_at dksX1_cutAt_0 17 rfl rfl)
theorem dX1_cutAt_18 : decode cX1_cutAt 18 = .ok (.iastore, 1) := dk_79 (dk_at dksX1_cutAt_0 18 rfl rfl)
theorem dX1_cutAt_19 : decode cX1_cutAt 19 = .ok (.aload_n 2, 1) := dk_44 (dk_at dksX1_cutAt_0 19 rfl rfl)
theorem dX1_cutAt_20 : decode cX1_cutAt 20 = .ok (.getfield 251, 3) := dk_180 0 251 (dk_at dksX1_cutAt_0 20 rfl rfl)
theorem dX1_cutAt_23 : decode cX1_cutAt 23 = .ok (.iconst 1, 1) := dk_4 (dk_at dksX1_cutAt_0 23 rfl rfl)
theorem dX1_cutAt_24 : decode cX1_cutAt 24 = .ok (.iload_n 1, 1) := dk_27 (dk_at dksX1_cutAt_1 0 rfl rfl)
theorem dX1_cutAt_25 : decode cX1_cutAt 25 = .ok (.iconst 1, 1) := dk_4 (dk_at dksX1_cutAt_1 1 rfl rfl)
theorem dX1_cutAt_26 : decode cX1_cutAt 26 = .ok (.iadd, 1) := dk_96 (dk_at dksX1_cutAt_1 2 rfl rfl)
theorem dX1_cutAt_27 : decode cX1_cutAt 27 = .ok (.iastore, 1) := dk_79 (dk_at dksX1_cutAt_1 3 rfl rfl)
theorem dX1_cutAt_28 : decode cX1_cutAt 28 = .ok (.aload_n 2, 1) := dk_44 (dk_at dksX1_cutAt_1 4 rfl rfl)
theorem dX1_cutAt_29 : decode cX1_cutAt 29 = .ok (.getfield 254, 3) := dk_180 0 254 (dk_at dksX1_cutAt_1 5 rfl rfl)
theorem dX1_cutAt_32 : decode cX1_cutAt 32 = .ok (.iconst 1, 1) := dk_4 (dk_at dksX1_cutAt_1 8 rfl rfl)
theorem dX1_cutAt_33 : decode cX1_cutAt 33 = .ok (.aload_n 0, 1) := dk_42 (dk_at dksX1_cutAt_1 9 rfl rfl)
theorem dX1_cutAt_34 : decode cX1_cutAt 34 = .ok (.getfield 101, 3) := dk_180 0 101 (dk_at dksX1_cutAt_1 10 rfl rfl)
theorem dX1_cutAt_37 : decode cX1_cutAt 37 = .ok (.getfield 155, 3) := dk_180 0 155 (dk_at dksX1_cutAt_1 13 rfl rfl)
theorem dX1_cutAt_40 : decode cX1_cutAt 40 = .ok (.iconst 1, 1) := dk_4 (dk_at dksX1_cutAt_1 16 rfl rfl)
theorem dX1_cutAt_41 : decode cX1_cutAt 41 = .ok (.isub, 1) := dk_100 (dk_at dksX1_cutAt_1 17 rfl rfl)
theorem dX1_cutAt_42 : decode cX1_cutAt 42 = .ok (.iastore, 1) := dk_79 (dk_at dksX1_cutAt_1 18 rfl rfl)
theorem dX1_cutAt_43 : decode cX1_cutAt 43 = .ok (.aload_n 2, 1) := dk_44 (dk_at dksX1_cutAt_1 19 rfl rfl)
theorem dX1_cutAt_44 : decode cX1_cutAt 44 = .ok (.invokevirtual 150, 3) := dk_182 0 150 (dk_at dksX1_cutAt_1 20 rfl rfl)
theorem dX1_cutAt_47 : decode cX1_cutAt 47 = .ok (.areturn, 1) := dk_176 (dk_at dksX1_cutAt_1 23 rfl rfl)
abbrev cX1_cutWaits : ByteArray := prog_1_method_49_code
def yX1_cutWaits : MethodName := ⟨RX1, "cutWaits", "()I"⟩
def dkwX1_cutWaits_1 : List UInt8 := [182, 1, 55, 6, 182, 0, 229, 182, 0, 70, 172]
abbrev dktX1_cutWaits_1 : List UInt8 := dkwX1_cutWaits_1 ++ []
def dkwX1_cutWaits_0 : List UInt8 := [42, 182, 1, 59, 60, 27, 158, 0, 11, 42, 27, 182, 0, 66, 167, 0, 19, 42, 42, 42, 182, 1, 62]
abbrev dktX1_cutWaits_0 : List UInt8 := dkwX1_cutWaits_0 ++ dktX1_cutWaits_1
theorem dksX1_cutWaits_0 : cX1_cutWaits.data.toList.drop 0 = dktX1_cutWaits_0 := by decide +kernel
theorem dksX1_cutWaits_1 : cX1_cutWaits.data.toList.drop 23 = dktX1_cutWaits_1 := dk_seg dksX1_cutWaits_0 23 rfl rfl
theorem dX1_cutWaits_0 : decode cX1_cutWaits 0 = .ok (.aload_n 0, 1) := dk_42 (dk_at dksX1_cutWaits_0 0 rfl rfl)
theorem dX1_cutWaits_1 : decode cX1_cutWaits 1 = .ok (.invokevirtual 315, 3) := dk_182 1 59 (dk_at dksX1_cutWaits_0 1 rfl rfl)
theorem dX1_cutWaits_4 : decode cX1_cutWaits 4 = .ok (.istore_n 1, 1) := dk_60 (dk_at dksX1_cutWaits_0 4 rfl rfl)
theorem dX1_cutWaits_5 : decode cX1_cutWaits 5 = .ok (.iload_n 1, 1) := dk_27 (dk_at dksX1_cutWaits_0 5 rfl rfl)
theorem dX1_cutWaits_6 : decode cX1_cutWaits 6 = .ok (.ifCond .le 11, 3) := dk_158 0 11 (dk_at dksX1_cutWaits_0 6 rfl rfl)
theorem dX1_cutWaits_9 : decode cX1_cutWaits 9 = .ok (.aload_n 0, 1) := dk_42 (dk_at dksX1_cutWaits_0 9 rfl rfl)
theorem dX1_cutWaits_10 : decode cX1_cutWaits 10 = .ok (.iload_n 1, 1) := dk_27 (dk_at dksX1_cutWaits_0 10 rfl rfl)
theorem dX1_cutWaits_11 : decode cX1_cutWaits 11 = .ok (.invokevirtual 66, 3) := dk_182 0 66 (dk_at dksX1_cutWaits_0 11 rfl rfl)
theorem dX1_cutWaits_14 : decode cX1_cutWaits 14 = .ok (.goto 19, 3) := dk_167 0 19 (dk_at dksX1_cutWaits_0 14 rfl rfl)
theorem dX1_cutWaits_17 : decode cX1_cutWaits 17 = .ok (.aload_n 0, 1) := dk_42 (dk_at dksX1_cutWaits_0 17 rfl rfl)
theorem dX1_cutWaits_18 : decode cX1_cutWaits 18 = .ok (.aload_n 0, 1) := dk_42 (dk_at dksX1_cutWaits_0 18 rfl rfl)
theorem dX1_cutWaits_19 : decode cX1_cutWaits 19 = .ok (.aload_n 0, 1) := dk_42 (dk_at dksX1_cutWaits_0 19 rfl rfl)
theorem dX1_cutWaits_20 : decode cX1_cutWaits 20 = .ok (.invokevirtual 318, 3) := dk_182 1 62 (dk_at dksX1_cutWaits_0 20 rfl rfl)
theorem dX1_cutWaits_23 : decode cX1_cutWaits 23 = .ok (.invokevirtual 311, 3) := dk_182 1 55 (dk_at dksX1_cutWaits_1 0 rfl rfl)
theorem dX1_cutWaits_26 : decode cX1_cutWaits 26 = .ok (.iconst 3, 1) := dk_6 (dk_at dksX1_cutWaits_1 3 rfl rfl)
theorem dX1_cutWaits_27 : decode cX1_cutWaits 27 = .ok (.invokevirtual 229, 3) := dk_182 0 229 (dk_at dksX1_cutWaits_1 4 rfl rfl)
theorem dX1_cutWaits_30 : decode cX1_cutWaits 30 = .ok (.invokevirtual 70, 3) := dk_182 0 70 (dk_at dksX1_cutWaits_1 7 rfl rfl)
theorem dX1_cutWaits_33 : decode cX1_cutWaits 33 = .ok (.ireturn, 1) := dk_172 (dk_at dksX1_cutWaits_1 10 rfl rfl)
abbrev cX1_leastLook : ByteArray := prog_1_method_50_code
def yX1_leastLook : MethodName := ⟨RX1, "leastLook", "(I)I"⟩
def dkwX1_leastLook_5 : List UInt8 := [172]
abbrev dktX1_leastLook_5 : List UInt8 := dkwX1_leastLook_5 ++ []
def dkwX1_leastLook_4 : List UInt8 := [167, 0, 13, 21, 4, 61, 25, 5, 27, 182, 0, 217, 62, 132, 4, 1, 167, 255, 187, 42, 28, 182, 0, 70]
abbrev dktX1_leastLook_4 : List UInt8 := dkwX1_leastLook_4 ++ dktX1_leastLook_5
def dkwX1_leastLook_3 : List UInt8 := [182, 1, 44, 153, 0, 32, 28, 16, 254, 159, 0, 16, 25, 5, 27, 182, 0, 217, 29, 161, 0, 6]
abbrev dktX1_leastLook_3 : List UInt8 := dkwX1_leastLook_3 ++ dktX1_leastLook_4
def dkwX1_leastLook_2 : List UInt8 := [42, 182, 0, 238, 58, 5, 25, 5, 180, 0, 168, 27, 21, 4, 79, 25, 5, 182, 0, 150, 87, 25, 5, 27]
abbrev dktX1_leastLook_2 : List UInt8 := dkwX1_leastLook_2 ++ dktX1_leastLook_3
def dkwX1_leastLook_1 : List UInt8 := [153, 0, 9, 42, 8, 182, 0, 66, 172, 16, 254, 61, 3, 62, 3, 54, 4, 21, 4, 16, 99, 163, 0, 68]
abbrev dktX1_leastLook_1 : List UInt8 := dkwX1_leastLook_1 ++ dktX1_leastLook_2
def dkwX1_leastLook_0 : List UInt8 := [42, 27, 182, 0, 158, 154, 0, 9, 42, 4, 182, 0, 66, 172, 42, 180, 0, 140, 180, 0, 195, 27, 46]
abbrev dktX1_leastLook_0 : List UInt8 := dkwX1_leastLook_0 ++ dktX1_leastLook_1
theorem dksX1_leastLook_0 : cX1_leastLook.data.toList.drop 0 = dktX1_leastLook_0 := by decide +kernel
theorem dksX1_leastLook_1 : cX1_leastLook.data.toList.drop 23 = dktX1_leastLook_1 := dk_seg dksX1_leastLook_0 23 rfl rfl
theorem dksX1_leastLook_2 : cX1_leastLook.data.toList.drop 47 = dktX1_leastLook_2 := dk_seg dksX1_leastLook_1 24 rfl rfl
theorem dksX1_leastLook_3 : cX1_leastLook.data.toList.drop 71 = dktX1_leastLook_3 := dk_seg dksX1_leastLook_2 24 rfl rfl
theorem dksX1_leastLook_4 : cX1_leastLook.data.toList.drop 93 = dktX1_leastLook_4 := dk_seg dksX1_leastLook_3 22 rfl rfl
theorem dksX1_leastLook_5 : cX1_leastLook.data.toList.drop 117 = dktX1_leastLook_5 := dk_seg dksX1_leastLook_4 24 rfl rfl
theorem dX1_leastLook_0 : decode cX1_leastLook 0 = .ok (.aload_n 0, 1) := dk_42 (dk_at dksX1_leastLook_0 0 rfl rfl)
theorem dX1_leastLook_1 : decode cX1_leastLook 1 = .ok (.iload_n 1, 1) := dk_27 (dk_at dksX1_leastLook_0 1 rfl rfl)
theorem dX1_leastLook_2 : decode cX1_leastLook 2 = .ok (.invokevirtual 158, 3) := dk_182 0 158 (dk_at dksX1_leastLook_0 2 rfl rfl)
theorem dX1_leastLook_5 : decode cX1_leastLook 5 = .ok (.ifCond .ne 9, 3) := dk_154 0 9 (dk_at dksX1_leastLook_0 5 rfl rfl)
theorem dX1_leastLook_8 : decode cX1_leastLook 8 = .ok (.aload_n 0, 1) := dk_42 (dk_at dksX1_leastLook_0 8 rfl rfl)
theorem dX1_leastLook_9 : decode cX1_leastLook 9 = .ok (.iconst 1, 1) := dk_4 (dk_at dksX1_leastLook_0 9 rfl rfl)
theorem dX1_leastLook_10 : decode cX1_leastLook 10 = .ok (.invokevirtual 66, 3) := dk_182 0 66 (dk_at dksX1_leastLook_0 10 rfl rfl)
theorem dX1_leastLook_13 : decode cX1_leastLook 13 = .ok (.ireturn, 1) := dk_172 (dk_at dksX1_leastLook_0 13 rfl rfl)
theorem dX1_leastLook_14 : decode cX1_leastLook 14 = .ok (.aload_n 0, 1) := dk_42 (dk_at dksX1_leastLook_0 14 rfl rfl)
theorem dX1_leastLook_15 : decode cX1_leastLook 15 = .ok (.getfield 140, 3) := dk_180 0 140 (dk_at dksX1_leastLook_0 15 rfl rfl)
theorem dX1_leastLook_18 : decode cX1_leastLook 18 = .ok (.getfield 195, 3) := dk_180 0 195 (dk_at dksX1_leastLook_0 18 rfl rfl)
theorem dX1_leastLook_21 : decode cX1_leastLook 21 = .ok (.iload_n 1, 1) := dk_27 (dk_at dksX1_leastLook_0 21 rfl rfl)
theorem dX1_leastLook_22 : decode cX1_leastLook 22 = .ok (.iaload, 1) := dk_46 (dk_at dksX1_leastLook_0 22 rfl rfl)
theorem dX1_leastLook_23 : decode cX1_leastLook 23 = .ok (.ifCond .eq 9, 3) := dk_153 0 9 (dk_at dksX1_leastLook_1 0 rfl rfl)
theorem dX1_leastLook_26 : decode cX1_leastLook 26 = .ok (.aload_n 0, 1) := dk_42 (dk_at dksX1_leastLook_1 3 rfl rfl)
theorem dX1_leastLook_27 : decode cX1_leastLook 27 = .ok (.iconst 5, 1) := dk_8 (dk_at dksX1_leastLook_1 4 rfl rfl)
theorem dX1_leastLook_28 : decode cX1_leastLook 28 = .ok (.invokevirtual 66, 3) := dk_182 0 66 (dk_at dksX1_leastLook_1 5 rfl rfl)
theorem dX1_leastLook_31 : decode cX1_leastLook 31 = .ok (.ireturn, 1) := dk_172 (dk_at dksX1_leastLook_1 8 rfl rfl)
theorem dX1_leastLook_32 : decode cX1_leastLook 32 = .ok (.bipush (-2), 2) := dk_16 254 (dk_at dksX1_leastLook_1 9 rfl rfl)
theorem dX1_leastLook_34 : decode cX1_leastLook 34 = .ok (.istore_n 2, 1) := dk_61 (dk_at dksX1_leastLook_1 11 rfl rfl)
theorem dX1_leastLook_35 : decode cX1_leastLook 35 = .ok (.iconst 0, 1) := dk_3 (dk_at dksX1_leastLook_1 12 rfl rfl)
theorem dX1_leastLook_36 : decode cX1_leastLook 36 = .ok (.istore_n 3, 1) := dk_62 (dk_at dksX1_leastLook_1 13 rfl rfl)
theorem dX1_leastLook_37 : decode cX1_leastLook 37 = .ok (.iconst 0, 1) := dk_3 (dk_at dksX1_leastLook_1 14 rfl rfl)
theorem dX1_leastLook_38 : decode cX1_leastLook 38 = .ok (.istore 4, 2) := dk_54 4 (dk_at dksX1_leastLook_1 15 rfl rfl)
theorem dX1_leastLook_40 : decode cX1_leastLook 40 = .ok (.iload 4, 2) := dk_21 4 (dk_at dksX1_leastLook_1 17 rfl rfl)
theorem dX1_leastLook_42 : decode cX1_leastLook 42 = .ok (.bipush 99, 2) := dk_16 99 (dk_at dksX1_leastLook_1 19 rfl rfl)
theorem dX1_leastLook_44 : decode cX1_leastLook 44 = .ok (.if_icmp .gt 68, 3) := dk_163 0 68 (dk_at dksX1_leastLook_1 21 rfl rfl)
theorem dX1_leastLook_47 : decode cX1_leastLook 47 = .ok (.aload_n 0, 1) := dk_42 (dk_at dksX1_leastLook_2 0 rfl rfl)
theorem dX1_leastLook_48 : decode cX1_leastLook 48 = .ok (.invokevirtual 238, 3) := dk_182 0 238 (dk_at dksX1_leastLook_2 1 rfl rfl)
theorem dX1_leastLook_51 : decode cX1_leastLook 51 = .ok (.astore 5, 2) := dk_58 5 (dk_at dksX1_leastLook_2 4 rfl rfl)
theorem dX1_leastLook_53 : decode cX1_leastLook 53 = .ok (.aload 5, 2) := dk_25 5 (dk_at dksX1_leastLook_2 6 rfl rfl)
theorem dX1_leastLook_55 : decode cX1_leastLook 55 = .ok (.getfield 168, 3) := dk_180 0 168 (dk_at dksX1_leastLook_2 8 rfl rfl)
theorem dX1_leastLook_58 : decode cX1_leastLook 58 = .ok (.iload_n 1, 1) := dk_27 (dk_at dksX1_leastLook_2 11 rfl rfl)
theorem dX1_leastLook_59 : decode cX1_leastLook 59 = .ok (.iload 4, 2) := dk_21 4 (dk_at dksX1_leastLook_2 12 rfl rfl)
theorem dX1_leastLook_61 : decode cX1_leastLook 61 = .ok (.iastore, 1) := dk_79 (dk_at dksX1_leastLook_2 14 rfl rfl)
theorem dX1_leastLook_62 : decode cX1_leastLook 62 = .ok (.aload 5, 2) := dk_25 5 (dk_at dksX1_leastLook_2 15 rfl rfl)
theorem dX1_leastLook_64 : decode cX1_leastLook 64 = .ok (.invokevirtual 150, 3) := dk_182 0 150 (dk_at dksX1_leastLook_2 17 rfl rfl)
theorem dX1_leastLook_67 : decode cX1_leastLook 67 = .ok (.pop, 1) := dk_87 (dk_at dksX1_leastLook_2 20 rfl rfl)
theorem dX1_leastLook_68 : decode cX1_leastLook 68 = .ok (.aload 5, 2) := dk_25 5 (dk_at dksX1_leastLook_2 21 rfl rfl)
theorem dX1_leastLook_70 : decode cX1_leastLook 70 = .ok (.iload_n 1, 1) := dk_27 (dk_at dksX1_leastLook_2 23 rfl rfl)
theorem dX1_leastLook_71 : decode cX1_leastLook 71 = .ok (.invokevirtual 300, 3) := dk_182 1 44 (dk_at dksX1_leastLook_3 0 rfl rfl)
theorem dX1_leastLook_74 : decode cX1_leastLook 74 = .ok (.ifCond .eq 32, 3) := dk_153 0 32 (dk_at dksX1_leastLook_3 3 rfl rfl)
theorem dX1_leastLook_77 : decode cX1_leastLook 77 = .ok (.iload_n 2, 1) := dk_28 (dk_at dksX1_leastLook_3 6 rfl rfl)
theorem dX1_leastLook_78 : decode cX1_leastLook 78 = .ok (.bipush (-2), 2) := dk_16 254 (dk_at dksX1_leastLook_3 7 rfl rfl)
theorem dX1_leastLook_80 : decode cX1_leastLook 80 = .ok (.if_icmp .eq 16, 3) := dk_159 0 16 (dk_at dksX1_leastLook_3 9 rfl rfl)
theorem dX1_leastLook_83 : decode cX1_leastLook 83 = .ok (.aload 5, 2) := dk_25 5 (dk_at dksX1_leastLook_3 12 rfl rfl)
theorem dX1_leastLook_85 : decode cX1_leastLook 85 = .ok (.iload_n 1, 1) := dk_27 (dk_at dksX1_leastLook_3 14 rfl rfl)
theorem dX1_leastLook_86 : decode cX1_leastLook 86 = .ok (.invokevirtual 217, 3) := dk_182 0 217 (dk_at dksX1_leastLook_3 15 rfl rfl)
theorem dX1_leastLook_89 : decode cX1_leastLook 89 = .ok (.iload_n 3, 1) := dk_29 (dk_at dksX1_leastLook_3 18 rfl rfl)
theorem dX1_leastLook_90 : decode cX1_leastLook 90 = .ok (.if_icmp .lt 6, 3) := dk_161 0 6 (dk_at dksX1_leastLook_3 19 rfl rfl)
theorem dX1_leastLook_93 : decode cX1_leastLook 93 = .ok (.goto 13, 3) := dk_167 0 13 (dk_at dksX1_leastLook_4 0 rfl rfl)
theorem dX1_leastLook_96 : decode cX1_leastLook 96 = .ok (.iload 4, 2) := dk_21 4 (dk_at dksX1_leastLook_4 3 rfl rfl)
theorem dX1_leastLook_98 : decode cX1_leastLook 98 = .ok (.istore_n 2, 1) := dk_61 (dk_at dksX1_leastLook_4 5 rfl rfl)
theorem dX1_leastLook_99 : decode cX1_leastLook 99 = .ok (.aload 5, 2) := dk_25 5 (dk_at dksX1_leastLook_4 6 rfl rfl)
theorem dX1_leastLook_101 : decode cX1_leastLook 101 = .ok (.iload_n 1, 1) := dk_27 (dk_at dksX1_leastLook_4 8 rfl rfl)
theorem dX1_leastLook_102 : decode cX1_leastLook 102 = .ok (.invokevirtual 217, 3) := dk_182 0 217 (dk_at dksX1_leastLook_4 9 rfl rfl)
theorem dX1_leastLook_105 : decode cX1_leastLook 105 = .ok (.istore_n 3, 1) := dk_62 (dk_at dksX1_leastLook_4 12 rfl rfl)
theorem dX1_leastLook_106 : decode cX1_leastLook 106 = .ok (.iinc 4 1, 3) := dk_132 4 1 (dk_at dksX1_leastLook_4 13 rfl rfl)
theorem dX1_leastLook_109 : decode cX1_leastLook 109 = .ok (.goto (-69), 3) := dk_167 255 187 (dk_at dksX1_leastLook_4 16 rfl rfl)
theorem dX1_leastLook_112 : decode cX1_leastLook 112 = .ok (.aload_n 0, 1) := dk_42 (dk_at dksX1_leastLook_4 19 rfl rfl)
theorem dX1_leastLook_113 : decode cX1_leastLook 113 = .ok (.iload_n 2, 1) := dk_28 (dk_at dksX1_leastLook_4 20 rfl rfl)
theorem dX1_leastLook_114 : decode cX1_leastLook 114 = .ok (.invokevirtual 70, 3) := dk_182 0 70 (dk_at dksX1_leastLook_4 21 rfl rfl)
theorem dX1_leastLook_117 : decode cX1_leastLook 117 = .ok (.ireturn, 1) := dk_172 (dk_at dksX1_leastLook_5 0 rfl rfl)
abbrev cX1_letCosts : ByteArray := prog_1_method_51_code
def yX1_letCosts : MethodName := ⟨RX1, "letCosts", "(II)I"⟩
def dkwX1_letCosts_3 : List UInt8 := [180, 0, 171, 28, 46, 4, 96, 79, 42, 25, 4, 182, 0, 150, 27, 182, 0, 217, 29, 100, 182, 0, 70, 172]
abbrev dktX1_letCosts_3 : List UInt8 := dkwX1_letCosts_3 ++ []
def dkwX1_letCosts_2 : List UInt8 := [172, 42, 182, 0, 211, 27, 182, 0, 217, 62, 42, 182, 0, 238, 58, 4, 25, 4, 180, 0, 171, 27, 25, 4]
abbrev dktX1_letCosts_2 : List UInt8 := dkwX1_letCosts_2 ++ dktX1_letCosts_3
def dkwX1_letCosts_1 : List UInt8 := [17, 252, 24, 182, 1, 5, 172, 42, 27, 28, 182, 1, 65, 154, 0, 12, 42, 8, 17, 252, 24, 182, 1, 5]
abbrev dktX1_letCosts_1 : List UInt8 := dkwX1_letCosts_1 ++ dktX1_letCosts_2
def dkwX1_letCosts_0 : List UInt8 := [42, 27, 182, 0, 158, 153, 0, 16, 42, 28, 182, 0, 158, 153, 0, 8, 27, 28, 160, 0, 12, 42, 4]
abbrev dktX1_letCosts_0 : List UInt8 := dkwX1_letCosts_0 ++ dktX1_letCosts_1
theorem dksX1_letCosts_0 : cX1_letCosts.data.toList.drop 0 = dktX1_letCosts_0 := by decide +kernel
theorem dksX1_letCosts_1 : cX1_letCosts.data.toList.drop 23 = dktX1_letCosts_1 := dk_seg dksX1_letCosts_0 23 rfl rfl
theorem dksX1_letCosts_2 : cX1_letCosts.data.toList.drop 47 = dktX1_letCosts_2 := dk_seg dksX1_letCosts_1 24 rfl rfl
theorem dksX1_letCosts_3 : cX1_letCosts.data.toList.drop 71 = dktX1_letCosts_3 := dk_seg dksX1_letCosts_2 24 rfl rfl
theorem dX1_letCosts_0 : decode cX1_letCosts 0 = .ok (.aload_n 0, 1) := dk_42 (dk_at dksX1_letCosts_0 0 rfl rfl)
theorem dX1_letCosts_1 : decode cX1_letCosts 1 = .ok (.iload_n 1, 1) := dk_27 (dk_at dksX1_letCosts_0 1 rfl rfl)
theorem dX1_letCosts_2 : decode cX1_letCosts 2 = .ok (.invokevirtual 158, 3) := dk_182 0 158 (dk_at dksX1_letCosts_0 2 rfl rfl)
theorem dX1_letCosts_5 : decode cX1_letCosts 5 = .ok (.ifCond .eq 16, 3) := dk_153 0 16 (dk_at dksX1_letCosts_0 5 rfl rfl)
theorem dX1_letCosts_8 : decode cX1_letCosts 8 = .ok (.aload_n 0, 1) := dk_42 (dk_at dksX1_letCosts_0 8 rfl rfl)
theorem dX1_letCosts_9 : decode cX1_letCosts 9 = .ok (.iload_n 2, 1) := dk_28 (dk_at dksX1_letCosts_0 9 rfl rfl)
theorem dX1_letCosts_10 : decode cX1_letCosts 10 = .ok (.invokevirtual 158, 3) := dk_182 0 158 (dk_at dksX1_letCosts_0 10 rfl rfl)
theorem dX1_letCosts_13 : decode cX1_letCosts 13 = .ok (.ifCond .eq 8, 3) := dk_153 0 8 (dk_at dksX1_letCosts_0 13 rfl rfl)
theorem dX1_letCosts_16 : decode cX1_letCosts 16 = .ok (.iload_n 1, 1) := dk_27 (dk_at dksX1_letCosts_0 16 rfl rfl)
theorem dX1_letCosts_17 : decode cX1_letCosts 17 = .ok (.iload_n 2, 1) := dk_28 (dk_at dksX1_letCosts_0 17 rfl rfl)
theorem dX1_letCosts_18 : decode cX1_letCosts 18 = .ok (.if_icmp .ne 12, 3) := dk_160 0 12 (dk_at dksX1_letCosts_0 18 rfl rfl)
theorem dX1_letCosts_21 : decode cX1_letCosts 21 = .ok (.aload_n 0, 1) := dk_42 (dk_at dksX1_letCosts_0 21 rfl rfl)
theorem dX1_letCosts_22 : decode cX1_letCosts 22 = .ok (.iconst 1, 1) := dk_4 (dk_at dksX1_letCosts_0 22 rfl rfl)
theorem dX1_letCosts_23 : decode cX1_letCosts 23 = .ok (.sipush (-1000), 3) := dk_17 252 24 (dk_at dksX1_letCosts_1 0 rfl rfl)
theorem dX1_letCosts_26 : decode cX1_letCosts 26 = .ok (.invokevirtual 261, 3) := dk_182 1 5 (dk_at dksX1_letCosts_1 3 rfl rfl)
theorem dX1_letCosts_29 : decode cX1_letCosts 29 = .ok (.ireturn, 1) := dk_172 (dk_at dksX1_letCosts_1 6 rfl rfl)
theorem dX1_letCosts_30 : decode cX1_letCosts 30 = .ok (.aload_n 0, 1) := dk_42 (dk_at dksX1_letCosts_1 7 rfl rfl)
theorem dX1_letCosts_31 : decode cX1_letCosts 31 = .ok (.iload_n 1, 1) := dk_27 (dk_at dksX1_letCosts_1 8 rfl rfl)
theorem dX1_letCosts_32 : decode cX1_letCosts 32 = .ok (.iload_n 2, 1) := dk_28 (dk_at dksX1_letCosts_1 9 rfl rfl)
theorem dX1_letCosts_33 : decode cX1_letCosts 33 = .ok (.invokevirtual 321, 3) := dk_182 1 65 (dk_at dksX1_letCosts_1 10 rfl rfl)
theorem dX1_letCosts_36 : decode cX1_letCosts 36 = .ok (.ifCond .ne 12, 3) := dk_154 0 12 (dk_at dksX1_letCosts_1 13 rfl rfl)
theorem dX1_letCosts_39 : decode cX1_letCosts 39 = .ok (.aload_n 0, 1) := dk_42 (dk_at dksX1_letCosts_1 16 rfl rfl)
theorem dX1_letCosts_40 : decode cX1_letCosts 40 = .ok (.iconst 5, 1) := dk_8 (dk_at dksX1_letCosts_1 17 rfl rfl)
theorem dX1_letCosts_41 : decode cX1_letCosts 41 = .ok (.sipush (-1000), 3) := dk_17 252 24 (dk_at dksX1_letCosts_1 18 rfl rfl)
theorem dX1_letCosts_44 : decode cX1_letCosts 44 = .ok (.invokevirtual 261, 3) := dk_182 1 5 (dk_at dksX1_letCosts_1 21 rfl rfl)
theorem dX1_letCosts_47 : decode cX1_letCosts 47 = .ok (.ireturn, 1) := dk_172 (dk_at dksX1_letCosts_2 0 rfl rfl)
theorem dX1_letCosts_48 : decode cX1_letCosts 48 = .ok (.aload_n 0, 1) := dk_42 (dk_at dksX1_letCosts_2 1 rfl rfl)
theorem dX1_letCosts_49 : decode cX1_letCosts 49 = .ok (.invokevirtual 211, 3) := dk_182 0 211 (dk_at dksX1_letCosts_2 2 rfl rfl)
theorem dX1_letCosts_52 : decode cX1_letCosts 52 = .ok (.iload_n 1, 1) := dk_27 (dk_at dksX1_letCosts_2 5 rfl rfl)
theorem dX1_letCosts_53 : decode cX1_letCosts 53 = .ok (.invokevirtual 217, 3) := dk_182 0 217 (dk_at dksX1_letCosts_2 6 rfl rfl)
theorem dX1_letCosts_56 : decode cX1_letCosts 56 = .ok (.istore_n 3, 1) := dk_62 (dk_at dksX1_letCosts_2 9 rfl rfl)
theorem dX1_letCosts_57 : decode cX1_letCosts 57 = .ok (.aload_n 0, 1) := dk_42 (dk_at dksX1_letCosts_2 10 rfl rfl)
theorem dX1_letCosts_58 : decode cX1_letCosts 58 = .ok (.invokevirtual 238, 3) := dk_182 0 238 (dk_at dksX1_letCosts_2 11 rfl rfl)
theorem dX1_letCosts_61 : decode cX1_letCosts 61 = .ok (.astore 4, 2) := dk_58 4 (dk_at dksX1_letCosts_2 14 rfl rfl)
theorem dX1_letCosts_63 : decode cX1_letCosts 63 = .ok (.aload 4, 2) := dk_25 4 (dk_at dksX1_letCosts_2 16 rfl rfl)
theorem dX1_letCosts_65 : decode cX1_letCosts 65 = .ok (.getfield 171, 3) := dk_180 0 171 (dk_at dksX1_letCosts_2 18 rfl rfl)
theorem dX1_letCosts_68 : decode cX1_letCosts 68 = .ok (.iload_n 1, 1) := dk_27 (dk_at dksX1_letCosts_2 21 rfl rfl)
theorem dX1_letCosts_69 : decode cX1_letCosts 69 = .ok (.aload 4, 2) := dk_25 4 (dk_at dksX1_letCosts_2 22 rfl rfl)
theorem dX1_letCosts_71 : decode cX1_letCosts 71 = .ok (.getfield 171, 3) := dk_180 0 171 (dk_at dksX1_letCosts_3 0 rfl rfl)
theorem dX1_letCosts_74 : decode cX1_letCosts 74 = .ok (.iload_n 2, 1) := dk_28 (dk_at dksX1_letCosts_3 3 rfl rfl)
theorem dX1_letCosts_75 : decode cX1_letCosts 75 = .ok (.iaload, 1) := dk_46 (dk_at dksX1_letCosts_3 4 rfl rfl)
theorem dX1_letCosts_76 : decode cX1_letCosts 76 = .ok (.iconst 1, 1) := dk_4 (dk_at dksX1_letCosts_3 5 rfl rfl)
theorem dX1_letCosts_77 : decode cX1_letCosts 77 = .ok (.iadd, 1) := dk_96 (dk_at dksX1_letCosts_3 6 rfl rfl)
theorem dX1_letCosts_78 : decode cX1_letCosts 78 = .ok (.iastore, 1) := dk_79 (dk_at dksX1_letCosts_3 7 rfl rfl)
theorem dX1_letCosts_79 : decode cX1_letCosts 79 = .ok (.aload_n 0, 1) := dk_42 (dk_at dksX1_letCosts_3 8 rfl rfl)
theorem dX1_letCosts_80 : decode cX1_letCosts 80 = .ok (.aload 4, 2) := dk_25 4 (dk_at dksX1_letCosts_3 9 rfl rfl)
theorem dX1_letCosts_82 : decode cX1_letCosts 82 = .ok (.invokevirtual 150, 3) := dk_182 0 150 (dk_at dksX1_letCosts_3 11 rfl rfl)
theorem dX1_letCosts_85 : decode cX1_letCosts 85 = .ok (.iload_n 1, 1) := dk_27 (dk_at dksX1_letCosts_3 14 rfl rfl)
theorem dX1_letCosts_86 : decode cX1_letCosts 86 = .ok (.invokevirtual 217, 3) := dk_182 0 217 (dk_at dksX1_letCosts_3 15 rfl rfl)
theorem dX1_letCosts_89 : decode cX1_letCosts 89 = .ok (.iload_n 3, 1) := dk_29 (dk_at dksX1_letCosts_3 18 rfl rfl)
theorem dX1_letCosts_90 : decode cX1_letCosts 90 = .ok (.isub, 1) := dk_100 (dk_at dksX1_letCosts_3 19 rfl rfl)
theorem dX1_letCosts_91 : decode cX1_letCosts 91 = .ok (.invokevirtual 70, 3) := dk_182 0 70 (dk_at dksX1_letCosts_3 20 rfl rfl)
theorem dX1_letCosts_94 : decode cX1_letCosts 94 = .ok (.ireturn, 1) := dk_172 (dk_at dksX1_letCosts_3 23 rfl rfl)
abbrev cX1_canLet : ByteArray := prog_1_method_69_code
def yX1_canLet : MethodName := ⟨RX1, "canLet", "(II)Z"⟩
def dkwX1_canLet_1 : List UInt8 := [46, 42, 180, 0, 140, 180, 0, 171, 28, 46, 163, 0, 7, 4, 167, 0, 4, 3, 172]
abbrev dktX1_canLet_1 : List UInt8 := dkwX1_canLet_1 ++ []
def dkwX1_canLet_0 : List UInt8 := [42, 27, 182, 1, 141, 153, 0, 36, 42, 28, 182, 1, 141, 153, 0, 28, 42, 180, 0, 140, 180, 0, 171, 27]
abbrev dktX1_canLet_0 : List UInt8 := dkwX1_canLet_0 ++ dktX1_canLet_1
theorem dksX1_canLet_0 : cX1_canLet.data.toList.drop 0 = dktX1_canLet_0 := by decide +kernel
theorem dksX1_canLet_1 : cX1_canLet.data.toList.drop 24 = dktX1_canLet_1 := dk_seg dksX1_canLet_0 24 rfl rfl
theorem dX1_canLet_0 : decode cX1_canLet 0 = .ok (.aload_n 0, 1) := dk_42 (dk_at dksX1_canLet_0 0 rfl rfl)
theorem dX1_canLet_1 : decode cX1_canLet 1 = .ok (.iload_n 1, 1) := dk_27 (dk_at dksX1_canLet_0 1 rfl rfl)
theorem dX1_canLet_2 : decode cX1_canLet 2 = .ok (.invokevirtual 397, 3) := dk_182 1 141 (dk_at dksX1_canLet_0 2 rfl rfl)
theorem dX1_canLet_5 : decode cX1_canLet 5 = .ok (.ifCond .eq 36, 3) := dk_153 0 36 (dk_at dksX1_canLet_0 5 rfl rfl)
theorem dX1_canLet_8 : decode cX1_canLet 8 = .ok (.aload_n 0, 1) := dk_42 (dk_at dksX1_canLet_0 8 rfl rfl)
theorem dX1_canLet_9 : decode cX1_canLet 9 = .ok (.iload_n 2, 1) := dk_28 (dk_at dksX1_canLet_0 9 rfl rfl)
theorem dX1_canLet_10 : decode cX1_canLet 10 = .ok (.invokevirtual 397, 3) := dk_182 1 141 (dk_at dksX1_canLet_0 10 rfl rfl)
theorem dX1_canLet_13 : decode cX1_canLet 13 = .ok (.ifCond .eq 28, 3) := dk_153 0 28 (dk_at dksX1_canLet_0 13 rfl rfl)
theorem dX1_canLet_16 : decode cX1_canLet 16 = .ok (.aload_n 0, 1) := dk_42 (dk_at dksX1_canLet_0 16 rfl rfl)
theorem dX1_canLet_17 : decode cX1_canLet 17 = .ok (.getfield 140, 3) := dk_180 0 140 (dk_at dksX1_canLet_0 17 rfl rfl)
theorem dX1_canLet_20 : decode cX1_canLet 20 = .ok (.getfield 171, 3) := dk_180 0 171 (dk_at dksX1_canLet_0 20 rfl rfl)
theorem dX1_canLet_23 : decode cX1_canLet 23 = .ok (.iload_n 1, 1) := dk_27 (dk_at dksX1_canLet_0 23 rfl rfl)
theorem dX1_canLet_24 : decode cX1_canLet 24 = .ok (.iaload, 1) := dk_46 (dk_at dksX1_canLet_1 0 rfl rfl)
theorem dX1_canLet_25 : decode cX1_canLet 25 = .ok (.aload_n 0, 1) := dk_42 (dk_at dksX1_canLet_1 1 rfl rfl)
theorem dX1_canLet_26 : decode cX1_canLet 26 = .ok (.getfield 140, 3) := dk_180 0 140 (dk_at dksX1_canLet_1 2 rfl rfl)
theorem dX1_canLet_29 : decode cX1_canLet 29 = .ok (.getfield 171, 3) := dk_180 0 171 (dk_at dksX1_canLet_1 5 rfl rfl)
theorem dX1_canLet_32 : decode cX1_canLet 32 = .ok (.iload_n 2, 1) := dk_28 (dk_at dksX1_canLet_1 8 rfl rfl)
theorem dX1_canLet_33 : decode cX1_canLet 33 = .ok (.iaload, 1) := dk_46 (dk_at dksX1_canLet_1 9 rfl rfl)
theorem dX1_canLet_34 : decode cX1_canLet 34 = .ok (.if_icmp .gt 7, 3) := dk_163 0 7 (dk_at dksX1_canLet_1 10 rfl rfl)
theorem dX1_canLet_37 : decode cX1_canLet 37 = .ok (.iconst 1, 1) := dk_4 (dk_at dksX1_canLet_1 13 rfl rfl)
theorem dX1_canLet_38 : decode cX1_canLet 38 = .ok (.goto 4, 3) := dk_167 0 4 (dk_at dksX1_canLet_1 14 rfl rfl)
theorem dX1_canLet_41 : decode cX1_canLet 41 = .ok (.iconst 0, 1) := dk_3 (dk_at dksX1_canLet_1 17 rfl rfl)
theorem dX1_canLet_42 : decode cX1_canLet 42 = .ok (.ireturn, 1) := dk_172 (dk_at dksX1_canLet_1 18 rfl rfl)
abbrev cX1_isWaiting : ByteArray := prog_1_method_68_code
def yX1_isWaiting : MethodName := ⟨RX1, "isWaiting", "(I)Z"⟩
def dkwX1_isWaiting_0 : List UInt8 := [42, 180, 0, 140, 180, 0, 195, 27, 46, 4, 160, 0, 7, 4, 167, 0, 4, 3, 172]
abbrev dktX1_isWaiting_0 : List UInt8 := dkwX1_isWaiting_0 ++ []
theorem dksX1_isWaiting_0 : cX1_isWaiting.data.toList.drop 0 = dktX1_isWaiting_0 := by decide +kernel
theorem dX1_isWaiting_0 : decode cX1_isWaiting 0 = .ok (.aload_n 0, 1) := dk_42 (dk_at dksX1_isWaiting_0 0 rfl rfl)
theorem dX1_isWaiting_1 : decode cX1_isWaiting 1 = .ok (.getfield 140, 3) := dk_180 0 140 (dk_at dksX1_isWaiting_0 1 rfl rfl)
theorem dX1_isWaiting_4 : decode cX1_isWaiting 4 = .ok (.getfield 195, 3) := dk_180 0 195 (dk_at dksX1_isWaiting_0 4 rfl rfl)
theorem dX1_isWaiting_7 : decode cX1_isWaiting 7 = .ok (.iload_n 1, 1) := dk_27 (dk_at dksX1_isWaiting_0 7 rfl rfl)
theorem dX1_isWaiting_8 : decode cX1_isWaiting 8 = .ok (.iaload, 1) := dk_46 (dk_at dksX1_isWaiting_0 8 rfl rfl)
theorem dX1_isWaiting_9 : decode cX1_isWaiting 9 = .ok (.iconst 1, 1) := dk_4 (dk_at dksX1_isWaiting_0 9 rfl rfl)
theorem dX1_isWaiting_10 : decode cX1_isWaiting 10 = .ok (.if_icmp .ne 7, 3) := dk_160 0 7 (dk_at dksX1_isWaiting_0 10 rfl rfl)
theorem dX1_isWaiting_13 : decode cX1_isWaiting 13 = .ok (.iconst 1, 1) := dk_4 (dk_at dksX1_isWaiting_0 13 rfl rfl)
theorem dX1_isWaiting_14 : decode cX1_isWaiting 14 = .ok (.goto 4, 3) := dk_167 0 4 (dk_at dksX1_isWaiting_0 14 rfl rfl)
theorem dX1_isWaiting_17 : decode cX1_isWaiting 17 = .ok (.iconst 0, 1) := dk_3 (dk_at dksX1_isWaiting_0 17 rfl rfl)
theorem dX1_isWaiting_18 : decode cX1_isWaiting 18 = .ok (.ireturn, 1) := dk_172 (dk_at dksX1_isWaiting_0 18 rfl rfl)
abbrev cX1_bell : ByteArray := prog_1_method_52_code
def yX1_bell : MethodName := ⟨RX1, "bell", "(II)I"⟩
def dkwX1_bell_2 : List UInt8 := [182, 0, 238, 78, 45, 27, 181, 1, 72, 42, 45, 182, 0, 150, 28, 182, 0, 229, 182, 0, 70, 172]
abbrev dktX1_bell_2 : List UInt8 := dkwX1_bell_2 ++ []
def dkwX1_bell_1 : List UInt8 := [180, 0, 140, 180, 1, 69, 17, 3, 132, 184, 0, 76, 154, 0, 9, 42, 5, 182, 0, 66, 172, 42]
abbrev dktX1_bell_1 : List UInt8 := dkwX1_bell_1 ++ dktX1_bell_2
def dkwX1_bell_0 : List UInt8 := [42, 180, 0, 101, 198, 0, 12, 28, 3, 8, 184, 0, 76, 154, 0, 9, 42, 4, 182, 0, 66, 172, 27, 42]
abbrev dktX1_bell_0 : List UInt8 := dkwX1_bell_0 ++ dktX1_bell_1
theorem dksX1_bell_0 : cX1_bell.data.toList.drop 0 = dktX1_bell_0 := by decide +kernel
theorem dksX1_bell_1 : cX1_bell.data.toList.drop 24 = dktX1_bell_1 := dk_seg dksX1_bell_0 24 rfl rfl
theorem dksX1_bell_2 : cX1_bell.data.toList.drop 46 = dktX1_bell_2 := dk_seg dksX1_bell_1 22 rfl rfl
theorem dX1_bell_0 : decode cX1_bell 0 = .ok (.aload_n 0, 1) := dk_42 (dk_at dksX1_bell_0 0 rfl rfl)
theorem dX1_bell_1 : decode cX1_bell 1 = .ok (.getfield 101, 3) := dk_180 0 101 (dk_at dksX1_bell_0 1 rfl rfl)
theorem dX1_bell_4 : decode cX1_bell 4 = .ok (.ifnull 12, 3) := dk_198 0 12 (dk_at dksX1_bell_0 4 rfl rfl)
theorem dX1_bell_7 : decode cX1_bell 7 = .ok (.iload_n 2, 1) := dk_28 (dk_at dksX1_bell_0 7 rfl rfl)
theorem dX1_bell_8 : decode cX1_bell 8 = .ok (.iconst 0, 1) := dk_3 (dk_at dksX1_bell_0 8 rfl rfl)
theorem dX1_bell_9 : decode cX1_bell 9 = .ok (.iconst 5, 1) := dk_8 (dk_at dksX1_bell_0 9 rfl rfl)
theorem dX1_bell_10 : decode cX1_bell 10 = .ok (.invokestatic 76, 3) := dk_184 0 76 (dk_at dksX1_bell_0 10 rfl rfl)
theorem dX1_bell_13 : decode cX1_bell 13 = .ok (.ifCond .ne 9, 3) := dk_154 0 9 (dk_at dksX1_bell_0 13 rfl rfl)
theorem dX1_bell_16 : decode cX1_bell 16 = .ok (.aload_n 0, 1) := dk_42 (dk_at dksX1_bell_0 16 rfl rfl)
theorem dX1_bell_17 : decode cX1_bell 17 = .ok (.iconst 1, 1) := dk_4 (dk_at dksX1_bell_0 17 rfl rfl)
theorem dX1_bell_18 : decode cX1_bell 18 = .ok (.invokevirtual 66, 3) := dk_182 0 66 (dk_at dksX1_bell_0 18 rfl rfl)
theorem dX1_bell_21 : decode cX1_bell 21 = .ok (.ireturn, 1) := dk_172 (dk_at dksX1_bell_0 21 rfl rfl)
theorem dX1_bell_22 : decode cX1_bell 22 = .ok (.iload_n 1, 1) := dk_27 (dk_at dksX1_bell_0 22 rfl rfl)
theorem dX1_bell_23 : decode cX1_bell 23 = .ok (.aload_n 0, 1) := dk_42 (dk_at dksX1_bell_0 23 rfl rfl)
theorem dX1_bell_24 : decode cX1_bell 24 = .ok (.getfield 140, 3) := dk_180 0 140 (dk_at dksX1_bell_1 0 rfl rfl)
theorem dX1_bell_27 : decode cX1_bell 27 = .ok (.getfield 325, 3) := dk_180 1 69 (dk_at dksX1_bell_1 3 rfl rfl)
theorem dX1_bell_30 : decode cX1_bell 30 = .ok (.sipush 900, 3) := dk_17 3 132 (dk_at dksX1_bell_1 6 rfl rfl)
theorem dX1_bell_33 : decode cX1_bell 33 = .ok (.invokestatic 76, 3) := dk_184 0 76 (dk_at dksX1_bell_1 9 rfl rfl)
theorem dX1_bell_36 : decode cX1_bell 36 = .ok (.ifCond .ne 9, 3) := dk_154 0 9 (dk_at dksX1_bell_1 12 rfl rfl)
theorem dX1_bell_39 : decode cX1_bell 39 = .ok (.aload_n 0, 1) := dk_42 (dk_at dksX1_bell_1 15 rfl rfl)
theorem dX1_bell_40 : decode cX1_bell 40 = .ok (.iconst 2, 1) := dk_5 (dk_at dksX1_bell_1 16 rfl rfl)
theorem dX1_bell_41 : decode cX1_bell 41 = .ok (.invokevirtual 66, 3) := dk_182 0 66 (dk_at dksX1_bell_1 17 rfl rfl)
theorem dX1_bell_44 : decode cX1_bell 44 = .ok (.ireturn, 1) := dk_172 (dk_at dksX1_bell_1 20 rfl rfl)
theorem dX1_bell_45 : decode cX1_bell 45 = .ok (.aload_n 0, 1) := dk_42 (dk_at dksX1_bell_1 21 rfl rfl)
theorem dX1_bell_46 : decode cX1_bell 46 = .ok (.invokevirtual 238, 3) := dk_182 0 238 (dk_at dksX1_bell_2 0 rfl rfl)
theorem dX1_bell_49 : decode cX1_bell 49 = .ok (.astore_n 3, 1) := dk_78 (dk_at dksX1_bell_2 3 rfl rfl)
theorem dX1_bell_50 : decode cX1_bell 50 = .ok (.aload_n 3, 1) := dk_45 (dk_at dksX1_bell_2 4 rfl rfl)
theorem dX1_bell_51 : decode cX1_bell 51 = .ok (.iload_n 1, 1) := dk_27 (dk_at dksX1_bell_2 5 rfl rfl)
theorem dX1_bell_52 : decode cX1_bell 52 = .ok (.putfield 328, 3) := dk_181 1 72 (dk_at dksX1_bell_2 6 rfl rfl)
theorem dX1_bell_55 : decode cX1_bell 55 = .ok (.aload_n 0, 1) := dk_42 (dk_at dksX1_bell_2 9 rfl rfl)
theorem dX1_bell_56 : decode cX1_bell 56 = .ok (.aload_n 3, 1) := dk_45 (dk_at dksX1_bell_2 10 rfl rfl)
theorem dX1_bell_57 : decode cX1_bell 57 = .ok (.invokevirtual 150, 3) := dk_182 0 150 (dk_at dksX1_bell_2 11 rfl rfl)
theorem dX1_bell_60 : decode cX1_bell 60 = .ok (.iload_n 2, 1) := dk_28 (dk_at dksX1_bell_2 14 rfl rfl)
theorem dX1_bell_61 : decode cX1_bell 61 = .ok (.invokevirtual 229, 3) := dk_182 0 229 (dk_at dksX1_bell_2 15 rfl rfl)
theorem dX1_bell_64 : decode cX1_bell 64 = .ok (.invokevirtual 70, 3) := dk_182 0 70 (dk_at dksX1_bell_2 18 rfl rfl)
theorem dX1_bell_67 : decode cX1_bell 67 = .ok (.ireturn, 1) := dk_172 (dk_at dksX1_bell_2 21 rfl rfl)
abbrev cX1_waitingAt : ByteArray := prog_1_method_53_code
def yX1_waitingAt : MethodName := ⟨RX1, "waitingAt", "(I)I"⟩
def dkwX1_waitingAt_2 : List UInt8 := [27, 181, 1, 72, 42, 44, 182, 0, 150, 5, 182, 0, 229, 182, 0, 70, 172]
abbrev dktX1_waitingAt_2 : List UInt8 := dkwX1_waitingAt_2 ++ []
def dkwX1_waitingAt_1 : List UInt8 := [180, 0, 101, 180, 1, 75, 184, 0, 76, 154, 0, 9, 42, 5, 182, 0, 66, 172, 42, 182, 0, 238, 77, 44]
abbrev dktX1_waitingAt_1 : List UInt8 := dkwX1_waitingAt_1 ++ dktX1_waitingAt_2
def dkwX1_waitingAt_0 : List UInt8 := [42, 180, 0, 101, 199, 0, 9, 42, 4, 182, 0, 66, 172, 27, 42, 180, 0, 140, 180, 1, 69, 42]
abbrev dktX1_waitingAt_0 : List UInt8 := dkwX1_waitingAt_0 ++ dktX1_waitingAt_1
theorem dksX1_waitingAt_0 : cX1_waitingAt.data.toList.drop 0 = dktX1_waitingAt_0 := by decide +kernel
theorem dksX1_waitingAt_1 : cX1_waitingAt.data.toList.drop 22 = dktX1_waitingAt_1 := dk_seg dksX1_waitingAt_0 22 rfl rfl
theorem dksX1_waitingAt_2 : cX1_waitingAt.data.toList.drop 46 = dktX1_waitingAt_2 := dk_seg dksX1_waitingAt_1 24 rfl rfl
theorem dX1_waitingAt_0 : decode cX1_waitingAt 0 = .ok (.aload_n 0, 1) := dk_42 (dk_at dksX1_waitingAt_0 0 rfl rfl)
theorem dX1_waitingAt_1 : decode cX1_waitingAt 1 = .ok (.getfield 101, 3) := dk_180 0 101 (dk_at dksX1_waitingAt_0 1 rfl rfl)
theorem dX1_waitingAt_4 : decode cX1_waitingAt 4 = .ok (.ifnonnull 9, 3) := dk_199 0 9 (dk_at dksX1_waitingAt_0 4 rfl rfl)
theorem dX1_waitingAt_7 : decode cX1_waitingAt 7 = .ok (.aload_n 0, 1) := dk_42 (dk_at dksX1_waitingAt_0 7 rfl rfl)
theorem dX1_waitingAt_8 : decode cX1_waitingAt 8 = .ok (.iconst 1, 1) := dk_4 (dk_at dksX1_waitingAt_0 8 rfl rfl)
theorem dX1_waitingAt_9 : decode cX1_waitingAt 9 = .ok (.invokevirtual 66, 3) := dk_182 0 66 (dk_at dksX1_waitingAt_0 9 rfl rfl)
theorem dX1_waitingAt_12 : decode cX1_waitingAt 12 = .ok (.ireturn, 1) := dk_172 (dk_at dksX1_waitingAt_0 12 rfl rfl)
theorem dX1_waitingAt_13 : decode cX1_waitingAt 13 = .ok (.iload_n 1, 1) := dk_27 (dk_at dksX1_waitingAt_0 13 rfl rfl)
theorem dX1_waitingAt_14 : decode cX1_waitingAt 14 = .ok (.aload_n 0, 1) := dk_42 (dk_at dksX1_waitingAt_0 14 rfl rfl)
theorem dX1_waitingAt_15 : decode cX1_waitingAt 15 = .ok (.getfield 140, 3) := dk_180 0 140 (dk_at dksX1_waitingAt_0 15 rfl rfl)
theorem dX1_waitingAt_18 : decode cX1_waitingAt 18 = .ok (.getfield 325, 3) := dk_180 1 69 (dk_at dksX1_waitingAt_0 18 rfl rfl)
theorem dX1_waitingAt_21 : decode cX1_waitingAt 21 = .ok (.aload_n 0, 1) := dk_42 (dk_at dksX1_waitingAt_0 21 rfl rfl)
theorem dX1_waitingAt_22 : decode cX1_waitingAt 22 = .ok (.getfield 101, 3) := dk_180 0 101 (dk_at dksX1_waitingAt_1 0 rfl rfl)
theorem dX1_waitingAt_25 : decode cX1_waitingAt 25 = .ok (.getfield 331, 3) := dk_180 1 75 (dk_at dksX1_waitingAt_1 3 rfl rfl)
theorem dX1_waitingAt_28 : decode cX1_waitingAt 28 = .ok (.invokestatic 76, 3) := dk_184 0 76 (dk_at dksX1_waitingAt_1 6 rfl rfl)
theorem dX1_waitingAt_31 : decode cX1_waitingAt 31 = .ok (.ifCond .ne 9, 3) := dk_154 0 9 (dk_at dksX1_waitingAt_1 9 rfl rfl)
theorem dX1_waitingAt_34 : decode cX1_waitingAt 34 = .ok (.aload_n 0, 1) := dk_42 (dk_at dksX1_waitingAt_1 12 rfl rfl)
theorem dX1_waitingAt_35 : decode cX1_waitingAt 35 = .ok (.iconst 2, 1) := dk_5 (dk_at dksX1_waitingAt_1 13 rfl rfl)
theorem dX1_waitingAt_36 : decode cX1_waitingAt 36 = .ok (.invokevirtual 66, 3) := dk_182 0 66 (dk_at dksX1_waitingAt_1 14 rfl rfl)
theorem dX1_waitingAt_39 : decode cX1_waitingAt 39 = .ok (.ireturn, 1) := dk_172 (dk_at dksX1_waitingAt_1 17 rfl rfl)
theorem dX1_waitingAt_40 : decode cX1_waitingAt 40 = .ok (.aload_n 0, 1) := dk_42 (dk_at dksX1_waitingAt_1 18 rfl rfl)
theorem dX1_waitingAt_41 : decode cX1_waitingAt 41 = .ok (.invokevirtual 238, 3) := dk_182 0 238 (dk_at dksX1_waitingAt_1 19 rfl rfl)
theorem dX1_waitingAt_44 : decode cX1_waitingAt 44 = .ok (.astore_n 2, 1) := dk_77 (dk_at dksX1_waitingAt_1 22 rfl rfl)
theorem dX1_waitingAt_45 : decode cX1_waitingAt 45 = .ok (.aload_n 2, 1) := dk_44 (dk_at dksX1_waitingAt_1 23 rfl rfl)
theorem dX1_waitingAt_46 : decode cX1_waitingAt 46 = .ok (.iload_n 1, 1) := dk_27 (dk_at dksX1_waitingAt_2 0 rfl rfl)
theorem dX1_waitingAt_47 : decode cX1_waitingAt 47 = .ok (.putfield 328, 3) := dk_181 1 72 (dk_at dksX1_waitingAt_2 1 rfl rfl)
theorem dX1_waitingAt_50 : decode cX1_waitingAt 50 = .ok (.aload_n 0, 1) := dk_42 (dk_at dksX1_waitingAt_2 4 rfl rfl)
theorem dX1_waitingAt_51 : decode cX1_waitingAt 51 = .ok (.aload_n 2, 1) := dk_44 (dk_at dksX1_waitingAt_2 5 rfl rfl)
theorem dX1_waitingAt_52 : decode cX1_waitingAt 52 = .ok (.invokevirtual 150, 3) := dk_182 0 150 (dk_at dksX1_waitingAt_2 6 rfl rfl)
theorem dX1_waitingAt_55 : decode cX1_waitingAt 55 = .ok (.iconst 2, 1) := dk_5 (dk_at dksX1_waitingAt_2 9 rfl rfl)
theorem dX1_waitingAt_56 : decode cX1_waitingAt 56 = .ok (.invokevirtual 229, 3) := dk_182 0 229 (dk_at dksX1_waitingAt_2 10 rfl rfl)
theorem dX1_waitingAt_59 : decode cX1_waitingAt 59 = .ok (.invokevirtual 70, 3) := dk_182 0 70 (dk_at dksX1_waitingAt_2 13 rfl rfl)
theorem dX1_waitingAt_62 : decode cX1_waitingAt 62 = .ok (.ireturn, 1) := dk_172 (dk_at dksX1_waitingAt_2 16 rfl rfl)
abbrev cX1_honesty : ByteArray := prog_1_method_56_code
def yX1_honesty : MethodName := ⟨RX1, "honesty", "(IZ)I"⟩
def dkwX1_honesty_3 : List UInt8 := [132, 6, 1, 167, 255, 212, 42, 21, 5, 182, 0, 70, 172]
abbrev dktX1_honesty_3 : List UInt8 := dkwX1_honesty_3 ++ []
def dkwX1_honesty_2 : List UInt8 := [21, 6, 184, 1, 76, 28, 159, 0, 13, 25, 4, 21, 6, 182, 0, 217, 167, 0, 4, 3, 96, 54, 5]
abbrev dktX1_honesty_2 : List UInt8 := dkwX1_honesty_2 ++ dktX1_honesty_3
def dkwX1_honesty_1 : List UInt8 := [54, 5, 3, 54, 6, 21, 6, 42, 180, 0, 101, 180, 0, 131, 182, 0, 136, 162, 0, 35, 21, 5, 27]
abbrev dktX1_honesty_1 : List UInt8 := dkwX1_honesty_1 ++ dktX1_honesty_2
def dkwX1_honesty_0 : List UInt8 := [42, 27, 182, 1, 79, 62, 29, 158, 0, 9, 42, 29, 182, 0, 66, 172, 42, 27, 182, 1, 82, 58, 4, 3]
abbrev dktX1_honesty_0 : List UInt8 := dkwX1_honesty_0 ++ dktX1_honesty_1
theorem dksX1_honesty_0 : cX1_honesty.data.toList.drop 0 = dktX1_honesty_0 := by decide +kernel
theorem dksX1_honesty_1 : cX1_honesty.data.toList.drop 24 = dktX1_honesty_1 := dk_seg dksX1_honesty_0 24 rfl rfl
theorem dksX1_honesty_2 : cX1_honesty.data.toList.drop 47 = dktX1_honesty_2 := dk_seg dksX1_honesty_1 23 rfl rfl
theorem dksX1_honesty_3 : cX1_honesty.data.toList.drop 70 = dktX1_honesty_3 := dk_seg dksX1_honesty_2 23 rfl rfl
theorem dX1_honesty_0 : decode cX1_honesty 0 = .ok (.aload_n 0, 1) := dk_42 (dk_at dksX1_honesty_0 0 rfl rfl)
theorem dX1_honesty_1 : decode cX1_honesty 1 = .ok (.iload_n 1, 1) := dk_27 (dk_at dksX1_honesty_0 1 rfl rfl)
theorem dX1_honesty_2 : decode cX1_honesty 2 = .ok (.invokevirtual 335, 3) := dk_182 1 79 (dk_at dksX1_honesty_0 2 rfl rfl)
theorem dX1_honesty_5 : decode cX1_honesty 5 = .ok (.istore_n 3, 1) := dk_62 (dk_at dksX1_honesty_0 5 rfl rfl)
theorem dX1_honesty_6 : decode cX1_honesty 6 = .ok (.iload_n 3, 1) := dk_29 (dk_at dksX1_honesty_0 6 rfl rfl)
theorem dX1_honesty_7 : decode cX1_honesty 7 = .ok (.ifCond .le 9, 3) := dk_158 0 9 (dk_at dksX1_honesty_0 7 rfl rfl)
theorem dX1_honesty_10 : decode cX1_honesty 10 = .ok (.aload_n 0, 1) := dk_42 (dk_at dksX1_honesty_0 10 rfl rfl)
theorem dX1_honesty_11 : decode cX1_honesty 11 = .ok (.iload_n 3, 1) := dk_29 (dk_at dksX1_honesty_0 11 rfl rfl)
theorem dX1_honesty_12 : decode cX1_honesty 12 = .ok (.invokevirtual 66, 3) := dk_182 0 66 (dk_at dksX1_honesty_0 12 rfl rfl)
theorem dX1_honesty_15 : decode cX1_honesty 15 = .ok (.ireturn, 1) := dk_172 (dk_at dksX1_honesty_0 15 rfl rfl)
theorem dX1_honesty_16 : decode cX1_honesty 16 = .ok (.aload_n 0, 1) := dk_42 (dk_at dksX1_honesty_0 16 rfl rfl)
theorem dX1_honesty_17 : decode cX1_honesty 17 = .ok (.iload_n 1, 1) := dk_27 (dk_at dksX1_honesty_0 17 rfl rfl)
theorem dX1_honesty_18 : decode cX1_honesty 18 = .ok (.invokevirtual 338, 3) := dk_182 1 82 (dk_at dksX1_honesty_0 18 rfl rfl)
theorem dX1_honesty_21 : decode cX1_honesty 21 = .ok (.astore 4, 2) := dk_58 4 (dk_at dksX1_honesty_0 21 rfl rfl)
theorem dX1_honesty_23 : decode cX1_honesty 23 = .ok (.iconst 0, 1) := dk_3 (dk_at dksX1_honesty_0 23 rfl rfl)
theorem dX1_honesty_24 : decode cX1_honesty 24 = .ok (.istore 5, 2) := dk_54 5 (dk_at dksX1_honesty_1 0 rfl rfl)
theorem dX1_honesty_26 : decode cX1_honesty 26 = .ok (.iconst 0, 1) := dk_3 (dk_at dksX1_honesty_1 2 rfl rfl)
theorem dX1_honesty_27 : decode cX1_honesty 27 = .ok (.istore 6, 2) := dk_54 6 (dk_at dksX1_honesty_1 3 rfl rfl)
theorem dX1_honesty_29 : decode cX1_honesty 29 = .ok (.iload 6, 2) := dk_21 6 (dk_at dksX1_honesty_1 5 rfl rfl)
theorem dX1_honesty_31 : decode cX1_honesty 31 = .ok (.aload_n 0, 1) := dk_42 (dk_at dksX1_honesty_1 7 rfl rfl)
theorem dX1_honesty_32 : decode cX1_honesty 32 = .ok (.getfield 101, 3) := dk_180 0 101 (dk_at dksX1_honesty_1 8 rfl rfl)
theorem dX1_honesty_35 : decode cX1_honesty 35 = .ok (.getfield 131, 3) := dk_180 0 131 (dk_at dksX1_honesty_1 11 rfl rfl)
theorem dX1_honesty_38 : decode cX1_honesty 38 = .ok (.invokevirtual 136, 3) := dk_182 0 136 (dk_at dksX1_honesty_1 14 rfl rfl)
theorem dX1_honesty_41 : decode cX1_honesty 41 = .ok (.if_icmp .ge 35, 3) := dk_162 0 35 (dk_at dksX1_honesty_1 17 rfl rfl)
theorem dX1_honesty_44 : decode cX1_honesty 44 = .ok (.iload 5, 2) := dk_21 5 (dk_at dksX1_honesty_1 20 rfl rfl)
theorem dX1_honesty_46 : decode cX1_honesty 46 = .ok (.iload_n 1, 1) := dk_27 (dk_at dksX1_honesty_1 22 rfl rfl)
theorem dX1_honesty_47 : decode cX1_honesty 47 = .ok (.iload 6, 2) := dk_21 6 (dk_at dksX1_honesty_2 0 rfl rfl)
theorem dX1_honesty_49 : decode cX1_honesty 49 = .ok (.invokestatic 332, 3) := dk_184 1 76 (dk_at dksX1_honesty_2 2 rfl rfl)
theorem dX1_honesty_52 : decode cX1_honesty 52 = .ok (.iload_n 2, 1) := dk_28 (dk_at dksX1_honesty_2 5 rfl rfl)
theorem dX1_honesty_53 : decode cX1_honesty 53 = .ok (.if_icmp .eq 13, 3) := dk_159 0 13 (dk_at dksX1_honesty_2 6 rfl rfl)
theorem dX1_honesty_56 : decode cX1_honesty 56 = .ok (.aload 4, 2) := dk_25 4 (dk_at dksX1_honesty_2 9 rfl rfl)
theorem dX1_honesty_58 : decode cX1_honesty 58 = .ok (.iload 6, 2) := dk_21 6 (dk_at dksX1_honesty_2 11 rfl rfl)
theorem dX1_honesty_60 : decode cX1_honesty 60 = .ok (.invokevirtual 217, 3) := dk_182 0 217 (dk_at dksX1_honesty_2 13 rfl rfl)
theorem dX1_honesty_63 : decode cX1_honesty 63 = .ok (.goto 4, 3) := dk_167 0 4 (dk_at dksX1_honesty_2 16 rfl rfl)
theorem dX1_honesty_66 : decode cX1_honesty 66 = .ok (.iconst 0, 1) := dk_3 (dk_at dksX1_honesty_2 19 rfl rfl)
theorem dX1_honesty_67 : decode cX1_honesty 67 = .ok (.iadd, 1) := dk_96 (dk_at dksX1_honesty_2 20 rfl rfl)
theorem dX1_honesty_68 : decode cX1_honesty 68 = .ok (.istore 5, 2) := dk_54 5 (dk_at dksX1_honesty_2 21 rfl rfl)
theorem dX1_honesty_70 : decode cX1_honesty 70 = .ok (.iinc 6 1, 3) := dk_132 6 1 (dk_at dksX1_honesty_3 0 rfl rfl)
theorem dX1_honesty_73 : decode cX1_honesty 73 = .ok (.goto (-44), 3) := dk_167 255 212 (dk_at dksX1_honesty_3 3 rfl rfl)
theorem dX1_honesty_76 : decode cX1_honesty 76 = .ok (.aload_n 0, 1) := dk_42 (dk_at dksX1_honesty_3 6 rfl rfl)
theorem dX1_honesty_77 : decode cX1_honesty 77 = .ok (.iload 5, 2) := dk_21 5 (dk_at dksX1_honesty_3 7 rfl rfl)
theorem dX1_honesty_79 : decode cX1_honesty 79 = .ok (.invokevirtual 70, 3) := dk_182 0 70 (dk_at dksX1_honesty_3 9 rfl rfl)
theorem dX1_honesty_82 : decode cX1_honesty 82 = .ok (.ireturn, 1) := dk_172 (dk_at dksX1_honesty_3 12 rfl rfl)
abbrev cX1_refusesSet : ByteArray := prog_1_method_55_code
def yX1_refusesSet : MethodName := ⟨RX1, "refusesSet", "(I)I"⟩
def dkwX1_refusesSet_1 : List UInt8 := [120, 4, 100, 184, 0, 76, 153, 0, 7, 3, 167, 0, 4, 5, 172]
abbrev dktX1_refusesSet_1 : List UInt8 := dkwX1_refusesSet_1 ++ []
def dkwX1_refusesSet_0 : List UInt8 := [42, 180, 0, 101, 199, 0, 7, 4, 167, 0, 30, 27, 3, 4, 42, 180, 0, 101, 180, 0, 131, 182, 0, 136]
abbrev dktX1_refusesSet_0 : List UInt8 := dkwX1_refusesSet_0 ++ dktX1_refusesSet_1
theorem dksX1_refusesSet_0 : cX1_refusesSet.data.toList.drop 0 = dktX1_refusesSet_0 := by decide +kernel
theorem dksX1_refusesSet_1 : cX1_refusesSet.data.toList.drop 24 = dktX1_refusesSet_1 := dk_seg dksX1_refusesSet_0 24 rfl rfl
theorem dX1_refusesSet_0 : decode cX1_refusesSet 0 = .ok (.aload_n 0, 1) := dk_42 (dk_at dksX1_refusesSet_0 0 rfl rfl)
theorem dX1_refusesSet_1 : decode cX1_refusesSet 1 = .ok (.getfield 101, 3) := dk_180 0 101 (dk_at dksX1_refusesSet_0 1 rfl rfl)
theorem dX1_refusesSet_4 : decode cX1_refusesSet 4 = .ok (.ifnonnull 7, 3) := dk_199 0 7 (dk_at dksX1_refusesSet_0 4 rfl rfl)
theorem dX1_refusesSet_7 : decode cX1_refusesSet 7 = .ok (.iconst 1, 1) := dk_4 (dk_at dksX1_refusesSet_0 7 rfl rfl)
theorem dX1_refusesSet_8 : decode cX1_refusesSet 8 = .ok (.goto 30, 3) := dk_167 0 30 (dk_at dksX1_refusesSet_0 8 rfl rfl)
theorem dX1_refusesSet_11 : decode cX1_refusesSet 11 = .ok (.iload_n 1, 1) := dk_27 (dk_at dksX1_refusesSet_0 11 rfl rfl)
theorem dX1_refusesSet_12 : decode cX1_refusesSet 12 = .ok (.iconst 0, 1) := dk_3 (dk_at dksX1_refusesSet_0 12 rfl rfl)
theorem dX1_refusesSet_13 : decode cX1_refusesSet 13 = .ok (.iconst 1, 1) := dk_4 (dk_at dksX1_refusesSet_0 13 rfl rfl)
theorem dX1_refusesSet_14 : decode cX1_refusesSet 14 = .ok (.aload_n 0, 1) := dk_42 (dk_at dksX1_refusesSet_0 14 rfl rfl)
theorem dX1_refusesSet_15 : decode cX1_refusesSet 15 = .ok (.getfield 101, 3) := dk_180 0 101 (dk_at dksX1_refusesSet_0 15 rfl rfl)
theorem dX1_refusesSet_18 : decode cX1_refusesSet 18 = .ok (.getfield 131, 3) := dk_180 0 131 (dk_at dksX1_refusesSet_0 18 rfl rfl)
theorem dX1_refusesSet_21 : decode cX1_refusesSet 21 = .ok (.invokevirtual 136, 3) := dk_182 0 136 (dk_at dksX1_refusesSet_0 21 rfl rfl)
theorem dX1_refusesSet_24 : decode cX1_refusesSet 24 = .ok (.ishl, 1) := dk_120 (dk_at dksX1_refusesSet_1 0 rfl rfl)
theorem dX1_refusesSet_25 : decode cX1_refusesSet 25 = .ok (.iconst 1, 1) := dk_4 (dk_at dksX1_refusesSet_1 1 rfl rfl)
theorem dX1_refusesSet_26 : decode cX1_refusesSet 26 = .ok (.isub, 1) := dk_100 (dk_at dksX1_refusesSet_1 2 rfl rfl)
theorem dX1_refusesSet_27 : decode cX1_refusesSet 27 = .ok (.invokestatic 76, 3) := dk_184 0 76 (dk_at dksX1_refusesSet_1 3 rfl rfl)
theorem dX1_refusesSet_30 : decode cX1_refusesSet 30 = .ok (.ifCond .eq 7, 3) := dk_153 0 7 (dk_at dksX1_refusesSet_1 6 rfl rfl)
theorem dX1_refusesSet_33 : decode cX1_refusesSet 33 = .ok (.iconst 0, 1) := dk_3 (dk_at dksX1_refusesSet_1 9 rfl rfl)
theorem dX1_refusesSet_34 : decode cX1_refusesSet 34 = .ok (.goto 4, 3) := dk_167 0 4 (dk_at dksX1_refusesSet_1 10 rfl rfl)
theorem dX1_refusesSet_37 : decode cX1_refusesSet 37 = .ok (.iconst 2, 1) := dk_5 (dk_at dksX1_refusesSet_1 13 rfl rfl)
theorem dX1_refusesSet_38 : decode cX1_refusesSet 38 = .ok (.ireturn, 1) := dk_172 (dk_at dksX1_refusesSet_1 14 rfl rfl)
abbrev cX1_lied : ByteArray := prog_1_method_54_code
def yX1_lied : MethodName := ⟨RX1, "lied", "(I)LNextAtBar$Bar;"⟩
def dkwX1_lied_2 : List UInt8 := [180, 0, 22, 182, 1, 51, 132, 2, 1, 167, 255, 212, 42, 180, 0, 117, 182, 0, 150, 176]
abbrev dktX1_lied_2 : List UInt8 := dkwX1_lied_2 ++ []
def dkwX1_lied_1 : List UInt8 := [162, 0, 36, 42, 180, 0, 117, 28, 27, 28, 184, 1, 76, 153, 0, 10, 42, 180, 0, 29, 167, 0, 7, 42]
abbrev dktX1_lied_1 : List UInt8 := dkwX1_lied_1 ++ dktX1_lied_2
def dkwX1_lied_0 : List UInt8 := [42, 180, 0, 117, 42, 180, 0, 110, 182, 0, 147, 3, 61, 28, 42, 180, 0, 101, 180, 0, 131, 182, 0, 136]
abbrev dktX1_lied_0 : List UInt8 := dkwX1_lied_0 ++ dktX1_lied_1
theorem dksX1_lied_0 : cX1_lied.data.toList.drop 0 = dktX1_lied_0 := by decide +kernel
theorem dksX1_lied_1 : cX1_lied.data.toList.drop 24 = dktX1_lied_1 := dk_seg dksX1_lied_0 24 rfl rfl
theorem dksX1_lied_2 : cX1_lied.data.toList.drop 48 = dktX1_lied_2 := dk_seg dksX1_lied_1 24 rfl rfl
theorem dX1_lied_0 : decode cX1_lied 0 = .ok (.aload_n 0, 1) := dk_42 (dk_at dksX1_lied_0 0 rfl rfl)
theorem dX1_lied_1 : decode cX1_lied 1 = .ok (.getfield 117, 3) := dk_180 0 117 (dk_at dksX1_lied_0 1 rfl rfl)
theorem dX1_lied_4 : decode cX1_lied 4 = .ok (.aload_n 0, 1) := dk_42 (dk_at dksX1_lied_0 4 rfl rfl)
theorem dX1_lied_5 : decode cX1_lied 5 = .ok (.getfield 110, 3) := dk_180 0 110 (dk_at dksX1_lied_0 5 rfl rfl)
theorem dX1_lied_8 : decode cX1_lied 8 = .ok (.invokevirtual 147, 3) := dk_182 0 147 (dk_at dksX1_lied_0 8 rfl rfl)
theorem dX1_lied_11 : decode cX1_lied 11 = .ok (.iconst 0, 1) := dk_3 (dk_at dksX1_lied_0 11 rfl rfl)
theorem dX1_lied_12 : decode cX1_lied 12 = .ok (.istore_n 2, 1) := dk_61 (dk_at dksX1_lied_0 12 rfl rfl)
theorem dX1_lied_13 : decode cX1_lied 13 = .ok (.iload_n 2, 1) := dk_28 (dk_at dksX1_lied_0 13 rfl rfl)
theorem dX1_lied_14 : decode cX1_lied 14 = .ok (.aload_n 0, 1) := dk_42 (dk_at dksX1_lied_0 14 rfl rfl)
theorem dX1_lied_15 : decode cX1_lied 15 = .ok (.getfield 101, 3) := dk_180 0 101 (dk_at dksX1_lied_0 15 rfl rfl)
theorem dX1_lied_18 : decode cX1_lied 18 = .ok (.getfield 131, 3) := dk_180 0 131 (dk_at dksX1_lied_0 18 rfl rfl)
theorem dX1_lied_21 : decode cX1_lied 21 = .ok (.invokevirtual 136, 3) := dk_182 0 136 (dk_at dksX1_lied_0 21 rfl rfl)
theorem dX1_lied_24 : decode cX1_lied 24 = .ok (.if_icmp .ge 36, 3) := dk_162 0 36 (dk_at dksX1_lied_1 0 rfl rfl)
theorem dX1_lied_27 : decode cX1_lied 27 = .ok (.aload_n 0, 1) := dk_42 (dk_at dksX1_lied_1 3 rfl rfl)
theorem dX1_lied_28 : decode cX1_lied 28 = .ok (.getfield 117, 3) := dk_180 0 117 (dk_at dksX1_lied_1 4 rfl rfl)
theorem dX1_lied_31 : decode cX1_lied 31 = .ok (.iload_n 2, 1) := dk_28 (dk_at dksX1_lied_1 7 rfl rfl)
theorem dX1_lied_32 : decode cX1_lied 32 = .ok (.iload_n 1, 1) := dk_27 (dk_at dksX1_lied_1 8 rfl rfl)
theorem dX1_lied_33 : decode cX1_lied 33 = .ok (.iload_n 2, 1) := dk_28 (dk_at dksX1_lied_1 9 rfl rfl)
theorem dX1_lied_34 : decode cX1_lied 34 = .ok (.invokestatic 332, 3) := dk_184 1 76 (dk_at dksX1_lied_1 10 rfl rfl)
theorem dX1_lied_37 : decode cX1_lied 37 = .ok (.ifCond .eq 10, 3) := dk_153 0 10 (dk_at dksX1_lied_1 13 rfl rfl)
theorem dX1_lied_40 : decode cX1_lied 40 = .ok (.aload_n 0, 1) := dk_42 (dk_at dksX1_lied_1 16 rfl rfl)
theorem dX1_lied_41 : decode cX1_lied 41 = .ok (.getfield 29, 3) := dk_180 0 29 (dk_at dksX1_lied_1 17 rfl rfl)
theorem dX1_lied_44 : decode cX1_lied 44 = .ok (.goto 7, 3) := dk_167 0 7 (dk_at dksX1_lied_1 20 rfl rfl)
theorem dX1_lied_47 : decode cX1_lied 47 = .ok (.aload_n 0, 1) := dk_42 (dk_at dksX1_lied_1 23 rfl rfl)
theorem dX1_lied_48 : decode cX1_lied 48 = .ok (.getfield 22, 3) := dk_180 0 22 (dk_at dksX1_lied_2 0 rfl rfl)
theorem dX1_lied_51 : decode cX1_lied 51 = .ok (.invokevirtual 307, 3) := dk_182 1 51 (dk_at dksX1_lied_2 3 rfl rfl)
theorem dX1_lied_54 : decode cX1_lied 54 = .ok (.iinc 2 1, 3) := dk_132 2 1 (dk_at dksX1_lied_2 6 rfl rfl)
theorem dX1_lied_57 : decode cX1_lied 57 = .ok (.goto (-44), 3) := dk_167 255 212 (dk_at dksX1_lied_2 9 rfl rfl)
theorem dX1_lied_60 : decode cX1_lied 60 = .ok (.aload_n 0, 1) := dk_42 (dk_at dksX1_lied_2 12 rfl rfl)
theorem dX1_lied_61 : decode cX1_lied 61 = .ok (.getfield 117, 3) := dk_180 0 117 (dk_at dksX1_lied_2 13 rfl rfl)
theorem dX1_lied_64 : decode cX1_lied 64 = .ok (.invokevirtual 150, 3) := dk_182 0 150 (dk_at dksX1_lied_2 16 rfl rfl)
theorem dX1_lied_67 : decode cX1_lied 67 = .ok (.areturn, 1) := dk_176 (dk_at dksX1_lied_2 19 rfl rfl)
abbrev cX1_holds : ByteArray := prog_1_method_3_code
def yX1_holds : MethodName := ⟨RX1, "holds", "(II)Z"⟩
def dkwX1_holds_0 : List UInt8 := [26, 27, 122, 4, 126, 4, 160, 0, 7, 4, 167, 0, 4, 3, 172]
abbrev dktX1_holds_0 : List UInt8 := dkwX1_holds_0 ++ []
theorem dksX1_holds_0 : cX1_holds.data.toList.drop 0 = dktX1_holds_0 := by decide +kernel
theorem dX1_holds_0 : decode cX1_holds 0 = .ok (.iload_n 0, 1) := dk_26 (dk_at dksX1_holds_0 0 rfl rfl)
theorem dX1_holds_1 : decode cX1_holds 1 = .ok (.iload_n 1, 1) := dk_27 (dk_at dksX1_holds_0 1 rfl rfl)
theorem dX1_holds_2 : decode cX1_holds 2 = .ok (.ishr, 1) := dk_122 (dk_at dksX1_holds_0 2 rfl rfl)
theorem dX1_holds_3 : decode cX1_holds 3 = .ok (.iconst 1, 1) := dk_4 (dk_at dksX1_holds_0 3 rfl rfl)
theorem dX1_holds_4 : decode cX1_holds 4 = .ok (.iand, 1) := dk_126 (dk_at dksX1_holds_0 4 rfl rfl)
theorem dX1_holds_5 : decode cX1_holds 5 = .ok (.iconst 1, 1) := dk_4 (dk_at dksX1_holds_0 5 rfl rfl)
theorem dX1_holds_6 : decode cX1_holds 6 = .ok (.if_icmp .ne 7, 3) := dk_160 0 7 (dk_at dksX1_holds_0 6 rfl rfl)
theorem dX1_holds_9 : decode cX1_holds 9 = .ok (.iconst 1, 1) := dk_4 (dk_at dksX1_holds_0 9 rfl rfl)
theorem dX1_holds_10 : decode cX1_holds 10 = .ok (.goto 4, 3) := dk_167 0 4 (dk_at dksX1_holds_0 10 rfl rfl)
theorem dX1_holds_13 : decode cX1_holds 13 = .ok (.iconst 0, 1) := dk_3 (dk_at dksX1_holds_0 13 rfl rfl)
theorem dX1_holds_14 : decode cX1_holds 14 = .ok (.ireturn, 1) := dk_172 (dk_at dksX1_holds_0 14 rfl rfl)
abbrev cX1_rest : ByteArray := prog_1_method_58_code
def yX1_rest : MethodName := ⟨RX1, "rest", "(I)I"⟩
def dkwX1_rest_1 : List UInt8 := [153, 0, 7, 4, 167, 0, 4, 3, 182, 0, 70, 172]
abbrev dktX1_rest_1 : List UInt8 := dkwX1_rest_1 ++ []
def dkwX1_rest_0 : List UInt8 := [42, 27, 182, 1, 79, 61, 28, 158, 0, 11, 42, 28, 182, 0, 66, 167, 0, 20, 42, 42, 27, 182, 1, 85]
abbrev dktX1_rest_0 : List UInt8 := dkwX1_rest_0 ++ dktX1_rest_1
theorem dksX1_rest_0 : cX1_rest.data.toList.drop 0 = dktX1_rest_0 := by decide +kernel
theorem dksX1_rest_1 : cX1_rest.data.toList.drop 24 = dktX1_rest_1 := dk_seg dksX1_rest_0 24 rfl rfl
theorem dX1_rest_0 : decode cX1_rest 0 = .ok (.aload_n 0, 1) := dk_42 (dk_at dksX1_rest_0 0 rfl rfl)
theorem dX1_rest_1 : decode cX1_rest 1 = .ok (.iload_n 1, 1) := dk_27 (dk_at dksX1_rest_0 1 rfl rfl)
theorem dX1_rest_2 : decode cX1_rest 2 = .ok (.invokevirtual 335, 3) := dk_182 1 79 (dk_at dksX1_rest_0 2 rfl rfl)
theorem dX1_rest_5 : decode cX1_rest 5 = .ok (.istore_n 2, 1) := dk_61 (dk_at dksX1_rest_0 5 rfl rfl)
theorem dX1_rest_6 : decode cX1_rest 6 = .ok (.iload_n 2, 1) := dk_28 (dk_at dksX1_rest_0 6 rfl rfl)
theorem dX1_rest_7 : decode cX1_rest 7 = .ok (.ifCond .le 11, 3) := dk_158 0 11 (dk_at dksX1_rest_0 7 rfl rfl)
theorem dX1_rest_10 : decode cX1_rest 10 = .ok (.aload_n 0, 1) := dk_42 (dk_at dksX1_rest_0 10 rfl rfl)
theorem dX1_rest_11 : decode cX1_rest 11 = .ok (.iload_n 2, 1) := dk_28 (dk_at dksX1_rest_0 11 rfl rfl)
theorem dX1_rest_12 : decode cX1_rest 12 = .ok (.invokevirtual 66, 3) := dk_182 0 66 (dk_at dksX1_rest_0 12 rfl rfl)
theorem dX1_rest_15 : decode cX1_rest 15 = .ok (.goto 20, 3) := dk_167 0 20 (dk_at dksX1_rest_0 15 rfl rfl)
theorem dX1_rest_18 : decode cX1_rest 18 = .ok (.aload_n 0, 1) := dk_42 (dk_at dksX1_rest_0 18 rfl rfl)
theorem dX1_rest_19 : decode cX1_rest 19 = .ok (.aload_n 0, 1) := dk_42 (dk_at dksX1_rest_0 19 rfl rfl)
theorem dX1_rest_20 : decode cX1_rest 20 = .ok (.iload_n 1, 1) := dk_27 (dk_at dksX1_rest_0 20 rfl rfl)
theorem dX1_rest_21 : decode cX1_rest 21 = .ok (.invokevirtual 341, 3) := dk_182 1 85 (dk_at dksX1_rest_0 21 rfl rfl)
theorem dX1_rest_24 : decode cX1_rest 24 = .ok (.ifCond .eq 7, 3) := dk_153 0 7 (dk_at dksX1_rest_1 0 rfl rfl)
theorem dX1_rest_27 : decode cX1_rest 27 = .ok (.iconst 1, 1) := dk_4 (dk_at dksX1_rest_1 3 rfl rfl)
theorem dX1_rest_28 : decode cX1_rest 28 = .ok (.goto 4, 3) := dk_167 0 4 (dk_at dksX1_rest_1 4 rfl rfl)
theorem dX1_rest_31 : decode cX1_rest 31 = .ok (.iconst 0, 1) := dk_3 (dk_at dksX1_rest_1 7 rfl rfl)
theorem dX1_rest_32 : decode cX1_rest 32 = .ok (.invokevirtual 70, 3) := dk_182 0 70 (dk_at dksX1_rest_1 8 rfl rfl)
theorem dX1_rest_35 : decode cX1_rest 35 = .ok (.ireturn, 1) := dk_172 (dk_at dksX1_rest_1 11 rfl rfl)
abbrev cX1_isAtRest : ByteArray := prog_1_method_57_code
def yX1_isAtRest : MethodName := ⟨RX1, "isAtRest", "(I)Z"⟩
def dkwX1_isAtRest_4 : List UInt8 := [172]
abbrev dktX1_isAtRest_4 : List UInt8 := dkwX1_isAtRest_4 ++ []
def dkwX1_isAtRest_3 : List UInt8 := [182, 1, 82, 21, 4, 182, 0, 217, 44, 21, 4, 46, 162, 0, 5, 3, 172, 132, 4, 1, 167, 255, 214, 4]
abbrev dktX1_isAtRest_3 : List UInt8 := dkwX1_isAtRest_3 ++ dktX1_isAtRest_4
def dkwX1_isAtRest_2 : List UInt8 := [54, 4, 21, 4, 42, 180, 0, 101, 180, 0, 131, 182, 0, 136, 162, 0, 33, 42, 27, 4, 21, 4, 120, 130]
abbrev dktX1_isAtRest_2 : List UInt8 := dkwX1_isAtRest_2 ++ dktX1_isAtRest_3
def dkwX1_isAtRest_1 : List UInt8 := [182, 0, 136, 162, 0, 19, 44, 21, 4, 45, 21, 4, 182, 0, 217, 79, 132, 4, 1, 167, 255, 228, 3]
abbrev dktX1_isAtRest_1 : List UInt8 := dkwX1_isAtRest_1 ++ dktX1_isAtRest_2
def dkwX1_isAtRest_0 : List UInt8 := [16, 10, 188, 10, 77, 42, 27, 182, 1, 82, 78, 3, 54, 4, 21, 4, 42, 180, 0, 101, 180, 0, 131]
abbrev dktX1_isAtRest_0 : List UInt8 := dkwX1_isAtRest_0 ++ dktX1_isAtRest_1
theorem dksX1_isAtRest_0 : cX1_isAtRest.data.toList.drop 0 = dktX1_isAtRest_0 := by decide +kernel
theorem dksX1_isAtRest_1 : cX1_isAtRest.data.toList.drop 23 = dktX1_isAtRest_1 := dk_seg dksX1_isAtRest_0 23 rfl rfl
theorem dksX1_isAtRest_2 : cX1_isAtRest.data.toList.drop 46 = dktX1_isAtRest_2 := dk_seg dksX1_isAtRest_1 23 rfl rfl
theorem dksX1_isAtRest_3 : cX1_isAtRest.data.toList.drop 70 = dktX1_isAtRest_3 := dk_seg dksX1_isAtRest_2 24 rfl rfl
theorem dksX1_isAtRest_4 : cX1_isAtRest.data.toList.drop 94 = dktX1_isAtRest_4 := dk_seg dksX1_isAtRest_3 24 rfl rfl
theorem dX1_isAtRest_0 : decode cX1_isAtRest 0 = .ok (.bipush 10, 2) := dk_16 10 (dk_at dksX1_isAtRest_0 0 rfl rfl)
theorem dX1_isAtRest_2 : decode cX1_isAtRest 2 = .ok (.newarray .int, 2) := dk_188_10 (dk_at dksX1_isAtRest_0 2 rfl rfl)
theorem dX1_isAtRest_4 : decode cX1_isAtRest 4 = .ok (.astore_n 2, 1) := dk_77 (dk_at dksX1_isAtRest_0 4 rfl rfl)
theorem dX1_isAtRest_5 : decode cX1_isAtRest 5 = .ok (.aload_n 0, 1) := dk_42 (dk_at dksX1_isAtRest_0 5 rfl rfl)
theorem dX1_isAtRest_6 : decode cX1_isAtRest 6 = .ok (.iload_n 1, 1) := dk_27 (dk_at dksX1_isAtRest_0 6 rfl rfl)
theorem dX1_isAtRest_7 : decode cX1_isAtRest 7 = .ok (.invokevirtual 338, 3) := dk_182 1 82 (dk_at dksX1_isAtRest_0 7 rfl rfl)
theorem dX1_isAtRest_10 : decode cX1_isAtRest 10 = .ok (.astore_n 3, 1) := dk_78 (dk_at dksX1_isAtRest_0 10 rfl rfl)
theorem dX1_isAtRest_11 : decode cX1_isAtRest 11 = .ok (.iconst 0, 1) := dk_3 (dk_at dksX1_isAtRest_0 11 rfl rfl)
theorem dX1_isAtRest_12 : decode cX1_isAtRest 12 = .ok (.istore 4, 2) := dk_54 4 (dk_at dksX1_isAtRest_0 12 rfl rfl)
theorem dX1_isAtRest_14 : decode cX1_isAtRest 14 = .ok (.iload 4, 2) := dk_21 4 (dk_at dksX1_isAtRest_0 14 rfl rfl)
theorem dX1_isAtRest_16 : decode cX1_isAtRest 16 = .ok (.aload_n 0, 1) := dk_42 (dk_at dksX1_isAtRest_0 16 rfl rfl)
theorem dX1_isAtRest_17 : decode cX1_isAtRest 17 = .ok (.getfield 101, 3) := dk_180 0 101 (dk_at dksX1_isAtRest_0 17 rfl rfl)
theorem dX1_isAtRest_20 : decode cX1_isAtRest 20 = .ok (.getfield 131, 3) := dk_180 0 131 (dk_at dksX1_isAtRest_0 20 rfl rfl)
theorem dX1_isAtRest_23 : decode cX1_isAtRest 23 = .ok (.invokevirtual 136, 3) := dk_182 0 136 (dk_at dksX1_isAtRest_1 0 rfl rfl)
theorem dX1_isAtRest_26 : decode cX1_isAtRest 26 = .ok (.if_icmp .ge 19, 3) := dk_162 0 19 (dk_at dksX1_isAtRest_1 3 rfl rfl)
theorem dX1_isAtRest_29 : decode cX1_isAtRest 29 = .ok (.aload_n 2, 1) := dk_44 (dk_at dksX1_isAtRest_1 6 rfl rfl)
theorem dX1_isAtRest_30 : decode cX1_isAtRest 30 = .ok (.iload 4, 2) := dk_21 4 (dk_at dksX1_isAtRest_1 7 rfl rfl)
theorem dX1_isAtRest_32 : decode cX1_isAtRest 32 = .ok (.aload_n 3, 1) := dk_45 (dk_at dksX1_isAtRest_1 9 rfl rfl)
theorem dX1_isAtRest_33 : decode cX1_isAtRest 33 = .ok (.iload 4, 2) := dk_21 4 (dk_at dksX1_isAtRest_1 10 rfl rfl)
theorem dX1_isAtRest_35 : decode cX1_isAtRest 35 = .ok (.invokevirtual 217, 3) := dk_182 0 217 (dk_at dksX1_isAtRest_1 12 rfl rfl)
theorem dX1_isAtRest_38 : decode cX1_isAtRest 38 = .ok (.iastore, 1) := dk_79 (dk_at dksX1_isAtRest_1 15 rfl rfl)
theorem dX1_isAtRest_39 : decode cX1_isAtRest 39 = .ok (.iinc 4 1, 3) := dk_132 4 1 (dk_at dksX1_isAtRest_1 16 rfl rfl)
theorem dX1_isAtRest_42 : decode cX1_isAtRest 42 = .ok (.goto (-28), 3) := dk_167 255 228 (dk_at dksX1_isAtRest_1 19 rfl rfl)
theorem dX1_isAtRest_45 : decode cX1_isAtRest 45 = .ok (.iconst 0, 1) := dk_3 (dk_at dksX1_isAtRest_1 22 rfl rfl)
theorem dX1_isAtRest_46 : decode cX1_isAtRest 46 = .ok (.istore 4, 2) := dk_54 4 (dk_at dksX1_isAtRest_2 0 rfl rfl)
theorem dX1_isAtRest_48 : decode cX1_isAtRest 48 = .ok (.iload 4, 2) := dk_21 4 (dk_at dksX1_isAtRest_2 2 rfl rfl)
theorem dX1_isAtRest_50 : decode cX1_isAtRest 50 = .ok (.aload_n 0, 1) := dk_42 (dk_at dksX1_isAtRest_2 4 rfl rfl)
theorem dX1_isAtRest_51 : decode cX1_isAtRest 51 = .ok (.getfield 101, 3) := dk_180 0 101 (dk_at dksX1_isAtRest_2 5 rfl rfl)
theorem dX1_isAtRest_54 : decode cX1_isAtRest 54 = .ok (.getfield 131, 3) := dk_180 0 131 (dk_at dksX1_isAtRest_2 8 rfl rfl)
theorem dX1_isAtRest_57 : decode cX1_isAtRest 57 = .ok (.invokevirtual 136, 3) := dk_182 0 136 (dk_at dksX1_isAtRest_2 11 rfl rfl)
theorem dX1_isAtRest_60 : decode cX1_isAtRest 60 = .ok (.if_icmp .ge 33, 3) := dk_162 0 33 (dk_at dksX1_isAtRest_2 14 rfl rfl)
theorem dX1_isAtRest_63 : decode cX1_isAtRest 63 = .ok (.aload_n 0, 1) := dk_42 (dk_at dksX1_isAtRest_2 17 rfl rfl)
theorem dX1_isAtRest_64 : decode cX1_isAtRest 64 = .ok (.iload_n 1, 1) := dk_27 (dk_at dksX1_isAtRest_2 18 rfl rfl)
theorem dX1_isAtRest_65 : decode cX1_isAtRest 65 = .ok (.iconst 1, 1) := dk_4 (dk_at dksX1_isAtRest_2 19 rfl rfl)
theorem dX1_isAtRest_66 : decode cX1_isAtRest 66 = .ok (.iload 4, 2) := dk_21 4 (dk_at dksX1_isAtRest_2 20 rfl rfl)
theorem dX1_isAtRest_68 : decode cX1_isAtRest 68 = .ok (.ishl, 1) := dk_120 (dk_at dksX1_isAtRest_2 22 rfl rfl)
theorem dX1_isAtRest_69 : decode cX1_isAtRest 69 = .ok (.ixor, 1) := dk_130 (dk_at dksX1_isAtRest_2 23 rfl rfl)
theorem dX1_isAtRest_70 : decode cX1_isAtRest 70 = .ok (.invokevirtual 338, 3) := dk_182 1 82 (dk_at dksX1_isAtRest_3 0 rfl rfl)
theorem dX1_isAtRest_73 : decode cX1_isAtRest 73 = .ok (.iload 4, 2) := dk_21 4 (dk_at dksX1_isAtRest_3 3 rfl rfl)
theorem dX1_isAtRest_75 : decode cX1_isAtRest 75 = .ok (.invokevirtual 217, 3) := dk_182 0 217 (dk_at dksX1_isAtRest_3 5 rfl rfl)
theorem dX1_isAtRest_78 : decode cX1_isAtRest 78 = .ok (.aload_n 2, 1) := dk_44 (dk_at dksX1_isAtRest_3 8 rfl rfl)
theorem dX1_isAtRest_79 : decode cX1_isAtRest 79 = .ok (.iload 4, 2) := dk_21 4 (dk_at dksX1_isAtRest_3 9 rfl rfl)
theorem dX1_isAtRest_81 : decode cX1_isAtRest 81 = .ok (.iaload, 1) := dk_46 (dk_at dksX1_isAtRest_3 11 rfl rfl)
theorem dX1_isAtRest_82 : decode cX1_isAtRest 82 = .ok (.if_icmp .ge 5, 3) := dk_162 0 5 (dk_at dksX1_isAtRest_3 12 rfl rfl)
theorem dX1_isAtRest_85 : decode cX1_isAtRest 85 = .ok (.iconst 0, 1) := dk_3 (dk_at dksX1_isAtRest_3 15 rfl rfl)
theorem dX1_isAtRest_86 : decode cX1_isAtRest 86 = .ok (.ireturn, 1) := dk_172 (dk_at dksX1_isAtRest_3 16 rfl rfl)
theorem dX1_isAtRest_87 : decode cX1_isAtRest 87 = .ok (.iinc 4 1, 3) := dk_132 4 1 (dk_at dksX1_isAtRest_3 17 rfl rfl)
theorem dX1_isAtRest_90 : decode cX1_isAtRest 90 = .ok (.goto (-42), 3) := dk_167 255 214 (dk_at dksX1_isAtRest_3 20 rfl rfl)
theorem dX1_isAtRest_93 : decode cX1_isAtRest 93 = .ok (.iconst 1, 1) := dk_4 (dk_at dksX1_isAtRest_3 23 rfl rfl)
theorem dX1_isAtRest_94 : decode cX1_isAtRest 94 = .ok (.ireturn, 1) := dk_172 (dk_at dksX1_isAtRest_4 0 rfl rfl)
abbrev cX1_rests : ByteArray := prog_1_method_59_code
def yX1_rests : MethodName := ⟨RX1, "rests", "()I"⟩
def dkwX1_rests_3 : List UInt8 := [132, 2, 1, 167, 255, 221, 42, 27, 182, 0, 70, 172]
abbrev dktX1_rests_3 : List UInt8 := dkwX1_rests_3 ++ []
def dkwX1_rests_2 : List UInt8 := [182, 0, 136, 120, 162, 0, 25, 27, 42, 28, 182, 1, 85, 153, 0, 7, 4, 167, 0, 4, 3, 96, 60]
abbrev dktX1_rests_2 : List UInt8 := dkwX1_rests_2 ++ dktX1_rests_3
def dkwX1_rests_1 : List UInt8 := [16, 7, 164, 0, 9, 42, 6, 182, 0, 66, 172, 3, 60, 3, 61, 28, 4, 42, 180, 0, 101, 180, 0, 131]
abbrev dktX1_rests_1 : List UInt8 := dkwX1_rests_1 ++ dktX1_rests_2
def dkwX1_rests_0 : List UInt8 := [42, 180, 0, 101, 199, 0, 9, 42, 4, 182, 0, 66, 172, 42, 180, 0, 101, 180, 0, 131, 182, 0, 136]
abbrev dktX1_rests_0 : List UInt8 := dkwX1_rests_0 ++ dktX1_rests_1
theorem dksX1_rests_0 : cX1_rests.data.toList.drop 0 = dktX1_rests_0 := by decide +kernel
theorem dksX1_rests_1 : cX1_rests.data.toList.drop 23 = dktX1_rests_1 := dk_seg dksX1_rests_0 23 rfl rfl
theorem dksX1_rests_2 : cX1_rests.data.toList.drop 47 = dktX1_rests_2 := dk_seg dksX1_rests_1 24 rfl rfl
theorem dksX1_rests_3 : cX1_rests.data.toList.drop 70 = dktX1_rests_3 := dk_seg dksX1_rests_2 23 rfl rfl
theorem dX1_rests_0 : decode cX1_rests 0 = .ok (.aload_n 0, 1) := dk_42 (dk_at dksX1_rests_0 0 rfl rfl)
theorem dX1_rests_1 : decode cX1_rests 1 = .ok (.getfield 101, 3) := dk_180 0 101 (dk_at dksX1_rests_0 1 rfl rfl)
theorem dX1_rests_4 : decode cX1_rests 4 = .ok (.ifnonnull 9, 3) := dk_199 0 9 (dk_at dksX1_rests_0 4 rfl rfl)
theorem dX1_rests_7 : decode cX1_rests 7 = .ok (.aload_n 0, 1) := dk_42 (dk_at dksX1_rests_0 7 rfl rfl)
theorem dX1_rests_8 : decode cX1_rests 8 = .ok (.iconst 1, 1) := dk_4 (dk_at dksX1_rests_0 8 rfl rfl)
theorem dX1_rests_9 : decode cX1_rests 9 = .ok (.invokevirtual 66, 3) := dk_182 0 66 (dk_at dksX1_rests_0 9 rfl rfl)
theorem dX1_rests_12 : decode cX1_rests 12 = .ok (.ireturn, 1) := dk_172 (dk_at dksX1_rests_0 12 rfl rfl)
theorem dX1_rests_13 : decode cX1_rests 13 = .ok (.aload_n 0, 1) := dk_42 (dk_at dksX1_rests_0 13 rfl rfl)
theorem dX1_rests_14 : decode cX1_rests 14 = .ok (.getfield 101, 3) := dk_180 0 101 (dk_at dksX1_rests_0 14 rfl rfl)
theorem dX1_rests_17 : decode cX1_rests 17 = .ok (.getfield 131, 3) := dk_180 0 131 (dk_at dksX1_rests_0 17 rfl rfl)
theorem dX1_rests_20 : decode cX1_rests 20 = .ok (.invokevirtual 136, 3) := dk_182 0 136 (dk_at dksX1_rests_0 20 rfl rfl)
theorem dX1_rests_23 : decode cX1_rests 23 = .ok (.bipush 7, 2) := dk_16 7 (dk_at dksX1_rests_1 0 rfl rfl)
theorem dX1_rests_25 : decode cX1_rests 25 = .ok (.if_icmp .le 9, 3) := dk_164 0 9 (dk_at dksX1_rests_1 2 rfl rfl)
theorem dX1_rests_28 : decode cX1_rests 28 = .ok (.aload_n 0, 1) := dk_42 (dk_at dksX1_rests_1 5 rfl rfl)
theorem dX1_rests_29 : decode cX1_rests 29 = .ok (.iconst 3, 1) := dk_6 (dk_at dksX1_rests_1 6 rfl rfl)
theorem dX1_rests_30 : decode cX1_rests 30 = .ok (.invokevirtual 66, 3) := dk_182 0 66 (dk_at dksX1_rests_1 7 rfl rfl)
theorem dX1_rests_33 : decode cX1_rests 33 = .ok (.ireturn, 1) := dk_172 (dk_at dksX1_rests_1 10 rfl rfl)
theorem dX1_rests_34 : decode cX1_rests 34 = .ok (.iconst 0, 1) := dk_3 (dk_at dksX1_rests_1 11 rfl rfl)
theorem dX1_rests_35 : decode cX1_rests 35 = .ok (.istore_n 1, 1) := dk_60 (dk_at dksX1_rests_1 12 rfl rfl)
theorem dX1_rests_36 : decode cX1_rests 36 = .ok (.iconst 0, 1) := dk_3 (dk_at dksX1_rests_1 13 rfl rfl)
theorem dX1_rests_37 : decode cX1_rests 37 = .ok (.istore_n 2, 1) := dk_61 (dk_at dksX1_rests_1 14 rfl rfl)
theorem dX1_rests_38 : decode cX1_rests 38 = .ok (.iload_n 2, 1) := dk_28 (dk_at dksX1_rests_1 15 rfl rfl)
theorem dX1_rests_39 : decode cX1_rests 39 = .ok (.iconst 1, 1) := dk_4 (dk_at dksX1_rests_1 16 rfl rfl)
theorem dX1_rests_40 : decode cX1_rests 40 = .ok (.aload_n 0, 1) := dk_42 (dk_at dksX1_rests_1 17 rfl rfl)
theorem dX1_rests_41 : decode cX1_rests 41 = .ok (.getfield 101, 3) := dk_180 0 101 (dk_at dksX1_rests_1 18 rfl rfl)
theorem dX1_rests_44 : decode cX1_rests 44 = .ok (.getfield 131, 3) := dk_180 0 131 (dk_at dksX1_rests_1 21 rfl rfl)
theorem dX1_rests_47 : decode cX1_rests 47 = .ok (.invokevirtual 136, 3) := dk_182 0 136 (dk_at dksX1_rests_2 0 rfl rfl)
theorem dX1_rests_50 : decode cX1_rests 50 = .ok (.ishl, 1) := dk_120 (dk_at dksX1_rests_2 3 rfl rfl)
theorem dX1_rests_51 : decode cX1_rests 51 = .ok (.if_icmp .ge 25, 3) := dk_162 0 25 (dk_at dksX1_rests_2 4 rfl rfl)
theorem dX1_rests_54 : decode cX1_rests 54 = .ok (.iload_n 1, 1) := dk_27 (dk_at dksX1_rests_2 7 rfl rfl)
theorem dX1_rests_55 : decode cX1_rests 55 = .ok (.aload_n 0, 1) := dk_42 (dk_at dksX1_rests_2 8 rfl rfl)
theorem dX1_rests_56 : decode cX1_rests 56 = .ok (.iload_n 2, 1) := dk_28 (dk_at dksX1_rests_2 9 rfl rfl)
theorem dX1_rests_57 : decode cX1_rests 57 = .ok (.invokevirtual 341, 3) := dk_182 1 85 (dk_at dksX1_rests_2 10 rfl rfl)
theorem dX1_rests_60 : decode cX1_rests 60 = .ok (.ifCond .eq 7, 3) := dk_153 0 7 (dk_at dksX1_rests_2 13 rfl rfl)
theorem dX1_rests_63 : decode cX1_rests 63 = .ok (.iconst 1, 1) := dk_4 (dk_at dksX1_rests_2 16 rfl rfl)
theorem dX1_rests_64 : decode cX1_rests 64 = .ok (.goto 4, 3) := dk_167 0 4 (dk_at dksX1_rests_2 17 rfl rfl)
theorem dX1_rests_67 : decode cX1_rests 67 = .ok (.iconst 0, 1) := dk_3 (dk_at dksX1_rests_2 20 rfl rfl)
theorem dX1_rests_68 : decode cX1_rests 68 = .ok (.iadd, 1) := dk_96 (dk_at dksX1_rests_2 21 rfl rfl)
theorem dX1_rests_69 : decode cX1_rests 69 = .ok (.istore_n 1, 1) := dk_60 (dk_at dksX1_rests_2 22 rfl rfl)
theorem dX1_rests_70 : decode cX1_rests 70 = .ok (.iinc 2 1, 3) := dk_132 2 1 (dk_at dksX1_rests_3 0 rfl rfl)
theorem dX1_rests_73 : decode cX1_rests 73 = .ok (.goto (-35), 3) := dk_167 255 221 (dk_at dksX1_rests_3 3 rfl rfl)
theorem dX1_rests_76 : decode cX1_rests 76 = .ok (.aload_n 0, 1) := dk_42 (dk_at dksX1_rests_3 6 rfl rfl)
theorem dX1_rests_77 : decode cX1_rests 77 = .ok (.iload_n 1, 1) := dk_27 (dk_at dksX1_rests_3 7 rfl rfl)
theorem dX1_rests_78 : decode cX1_rests 78 = .ok (.invokevirtual 70, 3) := dk_182 0 70 (dk_at dksX1_rests_3 8 rfl rfl)
theorem dX1_rests_81 : decode cX1_rests 81 = .ok (.ireturn, 1) := dk_172 (dk_at dksX1_rests_3 11 rfl rfl)
abbrev cX1_row : ByteArray := prog_1_method_61_code
def yX1_row : MethodName := ⟨RX1, "row", "(II)I"⟩
def dkwX1_row_2 : List UInt8 := [182, 1, 96, 28, 182, 1, 100, 182, 0, 70, 172]
abbrev dktX1_row_2 : List UInt8 := dkwX1_row_2 ++ []
def dkwX1_row_1 : List UInt8 := [182, 0, 66, 172, 42, 182, 0, 198, 16, 7, 164, 0, 11, 42, 6, 182, 0, 66, 167, 0, 16, 42, 42, 27]
abbrev dktX1_row_1 : List UInt8 := dkwX1_row_1 ++ dktX1_row_2
def dkwX1_row_0 : List UInt8 := [42, 27, 182, 0, 180, 153, 0, 17, 28, 3, 42, 182, 0, 198, 4, 100, 184, 0, 76, 154, 0, 9, 42, 4]
abbrev dktX1_row_0 : List UInt8 := dkwX1_row_0 ++ dktX1_row_1
theorem dksX1_row_0 : cX1_row.data.toList.drop 0 = dktX1_row_0 := by decide +kernel
theorem dksX1_row_1 : cX1_row.data.toList.drop 24 = dktX1_row_1 := dk_seg dksX1_row_0 24 rfl rfl
theorem dksX1_row_2 : cX1_row.data.toList.drop 48 = dktX1_row_2 := dk_seg dksX1_row_1 24 rfl rfl
theorem dX1_row_0 : decode cX1_row 0 = .ok (.aload_n 0, 1) := dk_42 (dk_at dksX1_row_0 0 rfl rfl)
theorem dX1_row_1 : decode cX1_row 1 = .ok (.iload_n 1, 1) := dk_27 (dk_at dksX1_row_0 1 rfl rfl)
theorem dX1_row_2 : decode cX1_row 2 = .ok (.invokevirtual 180, 3) := dk_182 0 180 (dk_at dksX1_row_0 2 rfl rfl)
theorem dX1_row_5 : decode cX1_row 5 = .ok (.ifCond .eq 17, 3) := dk_153 0 17 (dk_at dksX1_row_0 5 rfl rfl)
theorem dX1_row_8 : decode cX1_row 8 = .ok (.iload_n 2, 1) := dk_28 (dk_at dksX1_row_0 8 rfl rfl)
theorem dX1_row_9 : decode cX1_row 9 = .ok (.iconst 0, 1) := dk_3 (dk_at dksX1_row_0 9 rfl rfl)
theorem dX1_row_10 : decode cX1_row 10 = .ok (.aload_n 0, 1) := dk_42 (dk_at dksX1_row_0 10 rfl rfl)
theorem dX1_row_11 : decode cX1_row 11 = .ok (.invokevirtual 198, 3) := dk_182 0 198 (dk_at dksX1_row_0 11 rfl rfl)
theorem dX1_row_14 : decode cX1_row 14 = .ok (.iconst 1, 1) := dk_4 (dk_at dksX1_row_0 14 rfl rfl)
theorem dX1_row_15 : decode cX1_row 15 = .ok (.isub, 1) := dk_100 (dk_at dksX1_row_0 15 rfl rfl)
theorem dX1_row_16 : decode cX1_row 16 = .ok (.invokestatic 76, 3) := dk_184 0 76 (dk_at dksX1_row_0 16 rfl rfl)
theorem dX1_row_19 : decode cX1_row 19 = .ok (.ifCond .ne 9, 3) := dk_154 0 9 (dk_at dksX1_row_0 19 rfl rfl)
theorem dX1_row_22 : decode cX1_row 22 = .ok (.aload_n 0, 1) := dk_42 (dk_at dksX1_row_0 22 rfl rfl)
theorem dX1_row_23 : decode cX1_row 23 = .ok (.iconst 1, 1) := dk_4 (dk_at dksX1_row_0 23 rfl rfl)
theorem dX1_row_24 : decode cX1_row 24 = .ok (.invokevirtual 66, 3) := dk_182 0 66 (dk_at dksX1_row_1 0 rfl rfl)
theorem dX1_row_27 : decode cX1_row 27 = .ok (.ireturn, 1) := dk_172 (dk_at dksX1_row_1 3 rfl rfl)
theorem dX1_row_28 : decode cX1_row 28 = .ok (.aload_n 0, 1) := dk_42 (dk_at dksX1_row_1 4 rfl rfl)
theorem dX1_row_29 : decode cX1_row 29 = .ok (.invokevirtual 198, 3) := dk_182 0 198 (dk_at dksX1_row_1 5 rfl rfl)
theorem dX1_row_32 : decode cX1_row 32 = .ok (.bipush 7, 2) := dk_16 7 (dk_at dksX1_row_1 8 rfl rfl)
theorem dX1_row_34 : decode cX1_row 34 = .ok (.if_icmp .le 11, 3) := dk_164 0 11 (dk_at dksX1_row_1 10 rfl rfl)
theorem dX1_row_37 : decode cX1_row 37 = .ok (.aload_n 0, 1) := dk_42 (dk_at dksX1_row_1 13 rfl rfl)
theorem dX1_row_38 : decode cX1_row 38 = .ok (.iconst 3, 1) := dk_6 (dk_at dksX1_row_1 14 rfl rfl)
theorem dX1_row_39 : decode cX1_row 39 = .ok (.invokevirtual 66, 3) := dk_182 0 66 (dk_at dksX1_row_1 15 rfl rfl)
theorem dX1_row_42 : decode cX1_row 42 = .ok (.goto 16, 3) := dk_167 0 16 (dk_at dksX1_row_1 18 rfl rfl)
theorem dX1_row_45 : decode cX1_row 45 = .ok (.aload_n 0, 1) := dk_42 (dk_at dksX1_row_1 21 rfl rfl)
theorem dX1_row_46 : decode cX1_row 46 = .ok (.aload_n 0, 1) := dk_42 (dk_at dksX1_row_1 22 rfl rfl)
theorem dX1_row_47 : decode cX1_row 47 = .ok (.iload_n 1, 1) := dk_27 (dk_at dksX1_row_1 23 rfl rfl)
theorem dX1_row_48 : decode cX1_row 48 = .ok (.invokevirtual 352, 3) := dk_182 1 96 (dk_at dksX1_row_2 0 rfl rfl)
theorem dX1_row_51 : decode cX1_row 51 = .ok (.iload_n 2, 1) := dk_28 (dk_at dksX1_row_2 3 rfl rfl)
theorem dX1_row_52 : decode cX1_row 52 = .ok (.invokevirtual 356, 3) := dk_182 1 100 (dk_at dksX1_row_2 4 rfl rfl)
theorem dX1_row_55 : decode cX1_row 55 = .ok (.invokevirtual 70, 3) := dk_182 0 70 (dk_at dksX1_row_2 7 rfl rfl)
theorem dX1_row_58 : decode cX1_row 58 = .ok (.ireturn, 1) := dk_172 (dk_at dksX1_row_2 10 rfl rfl)
abbrev cX1_orders : ByteArray := prog_1_method_60_code
def yX1_orders : MethodName := ⟨RX1, "orders", "(I)LNextAtBar$Orders;"⟩
def dkwX1_orders_3 : List UInt8 := [180, 1, 90, 27, 46, 183, 1, 93, 176]
abbrev dktX1_orders_3 : List UInt8 := dkwX1_orders_3 ++ []
def dkwX1_orders_2 : List UInt8 := [79, 132, 3, 1, 132, 4, 1, 167, 255, 213, 187, 1, 88, 89, 42, 180, 0, 101, 44, 29, 42, 180, 0, 140]
abbrev dktX1_orders_2 : List UInt8 := dkwX1_orders_2 ++ dktX1_orders_3
def dkwX1_orders_1 : List UInt8 := [162, 0, 34, 42, 180, 0, 140, 180, 0, 195, 21, 4, 46, 4, 159, 0, 6, 167, 0, 11, 44, 29, 21, 4]
abbrev dktX1_orders_1 : List UInt8 := dkwX1_orders_1 ++ dktX1_orders_2
def dkwX1_orders_0 : List UInt8 := [16, 10, 188, 10, 77, 3, 62, 3, 54, 4, 21, 4, 42, 180, 0, 101, 180, 0, 131, 182, 0, 136]
abbrev dktX1_orders_0 : List UInt8 := dkwX1_orders_0 ++ dktX1_orders_1
theorem dksX1_orders_0 : cX1_orders.data.toList.drop 0 = dktX1_orders_0 := by decide +kernel
theorem dksX1_orders_1 : cX1_orders.data.toList.drop 22 = dktX1_orders_1 := dk_seg dksX1_orders_0 22 rfl rfl
theorem dksX1_orders_2 : cX1_orders.data.toList.drop 46 = dktX1_orders_2 := dk_seg dksX1_orders_1 24 rfl rfl
theorem dksX1_orders_3 : cX1_orders.data.toList.drop 70 = dktX1_orders_3 := dk_seg dksX1_orders_2 24 rfl rfl
theorem dX1_orders_0 : decode cX1_orders 0 = .ok (.bipush 10, 2) := dk_16 10 (dk_at dksX1_orders_0 0 rfl rfl)
theorem dX1_orders_2 : decode cX1_orders 2 = .ok (.newarray .int, 2) := dk_188_10 (dk_at dksX1_orders_0 2 rfl rfl)
theorem dX1_orders_4 : decode cX1_orders 4 = .ok (.astore_n 2, 1) := dk_77 (dk_at dksX1_orders_0 4 rfl rfl)
theorem dX1_orders_5 : decode cX1_orders 5 = .ok (.iconst 0, 1) := dk_3 (dk_at dksX1_orders_0 5 rfl rfl)
theorem dX1_orders_6 : decode cX1_orders 6 = .ok (.istore_n 3, 1) := dk_62 (dk_at dksX1_orders_0 6 rfl rfl)
theorem dX1_orders_7 : decode cX1_orders 7 = .ok (.iconst 0, 1) := dk_3 (dk_at dksX1_orders_0 7 rfl rfl)
theorem dX1_orders_8 : decode cX1_orders 8 = .ok (.istore 4, 2) := dk_54 4 (dk_at dksX1_orders_0 8 rfl rfl)
theorem dX1_orders_10 : decode cX1_orders 10 = .ok (.iload 4, 2) := dk_21 4 (dk_at dksX1_orders_0 10 rfl rfl)
theorem dX1_orders_12 : decode cX1_orders 12 = .ok (.aload_n 0, 1) := dk_42 (dk_at dksX1_orders_0 12 rfl rfl)
theorem dX1_orders_13 : decode cX1_orders 13 = .ok (.getfield 101, 3) := dk_180 0 101 (dk_at dksX1_orders_0 13 rfl rfl)
theorem dX1_orders_16 : decode cX1_orders 16 = .ok (.getfield 131, 3) := dk_180 0 131 (dk_at dksX1_orders_0 16 rfl rfl)
theorem dX1_orders_19 : decode cX1_orders 19 = .ok (.invokevirtual 136, 3) := dk_182 0 136 (dk_at dksX1_orders_0 19 rfl rfl)
theorem dX1_orders_22 : decode cX1_orders 22 = .ok (.if_icmp .ge 34, 3) := dk_162 0 34 (dk_at dksX1_orders_1 0 rfl rfl)
theorem dX1_orders_25 : decode cX1_orders 25 = .ok (.aload_n 0, 1) := dk_42 (dk_at dksX1_orders_1 3 rfl rfl)
theorem dX1_orders_26 : decode cX1_orders 26 = .ok (.getfield 140, 3) := dk_180 0 140 (dk_at dksX1_orders_1 4 rfl rfl)
theorem dX1_orders_29 : decode cX1_orders 29 = .ok (.getfield 195, 3) := dk_180 0 195 (dk_at dksX1_orders_1 7 rfl rfl)
theorem dX1_orders_32 : decode cX1_orders 32 = .ok (.iload 4, 2) := dk_21 4 (dk_at dksX1_orders_1 10 rfl rfl)
theorem dX1_orders_34 : decode cX1_orders 34 = .ok (.iaload, 1) := dk_46 (dk_at dksX1_orders_1 12 rfl rfl)
theorem dX1_orders_35 : decode cX1_orders 35 = .ok (.iconst 1, 1) := dk_4 (dk_at dksX1_orders_1 13 rfl rfl)
theorem dX1_orders_36 : decode cX1_orders 36 = .ok (.if_icmp .eq 6, 3) := dk_159 0 6 (dk_at dksX1_orders_1 14 rfl rfl)
theorem dX1_orders_39 : decode cX1_orders 39 = .ok (.goto 11, 3) := dk_167 0 11 (dk_at dksX1_orders_1 17 rfl rfl)
theorem dX1_orders_42 : decode cX1_orders 42 = .ok (.aload_n 2, 1) := dk_44 (dk_at dksX1_orders_1 20 rfl rfl)
theorem dX1_orders_43 : decode cX1_orders 43 = .ok (.iload_n 3, 1) := dk_29 (dk_at dksX1_orders_1 21 rfl rfl)
theorem dX1_orders_44 : decode cX1_orders 44 = .ok (.iload 4, 2) := dk_21 4 (dk_at dksX1_orders_1 22 rfl rfl)
theorem dX1_orders_46 : decode cX1_orders 46 = .ok (.iastore, 1) := dk_79 (dk_at dksX1_orders_2 0 rfl rfl)
theorem dX1_orders_47 : decode cX1_orders 47 = .ok (.iinc 3 1, 3) := dk_132 3 1 (dk_at dksX1_orders_2 1 rfl rfl)
theorem dX1_orders_50 : decode cX1_orders 50 = .ok (.iinc 4 1, 3) := dk_132 4 1 (dk_at dksX1_orders_2 4 rfl rfl)
theorem dX1_orders_53 : decode cX1_orders 53 = .ok (.goto (-43), 3) := dk_167 255 213 (dk_at dksX1_orders_2 7 rfl rfl)
theorem dX1_orders_56 : decode cX1_orders 56 = .ok (.new 344, 3) := dk_187 1 88 (dk_at dksX1_orders_2 10 rfl rfl)
theorem dX1_orders_59 : decode cX1_orders 59 = .ok (.dup, 1) := dk_89 (dk_at dksX1_orders_2 13 rfl rfl)
theorem dX1_orders_60 : decode cX1_orders 60 = .ok (.aload_n 0, 1) := dk_42 (dk_at dksX1_orders_2 14 rfl rfl)
theorem dX1_orders_61 : decode cX1_orders 61 = .ok (.getfield 101, 3) := dk_180 0 101 (dk_at dksX1_orders_2 15 rfl rfl)
theorem dX1_orders_64 : decode cX1_orders 64 = .ok (.aload_n 2, 1) := dk_44 (dk_at dksX1_orders_2 18 rfl rfl)
theorem dX1_orders_65 : decode cX1_orders 65 = .ok (.iload_n 3, 1) := dk_29 (dk_at dksX1_orders_2 19 rfl rfl)
theorem dX1_orders_66 : decode cX1_orders 66 = .ok (.aload_n 0, 1) := dk_42 (dk_at dksX1_orders_2 20 rfl rfl)
theorem dX1_orders_67 : decode cX1_orders 67 = .ok (.getfield 140, 3) := dk_180 0 140 (dk_at dksX1_orders_2 21 rfl rfl)
theorem dX1_orders_70 : decode cX1_orders 70 = .ok (.getfield 346, 3) := dk_180 1 90 (dk_at dksX1_orders_3 0 rfl rfl)
theorem dX1_orders_73 : decode cX1_orders 73 = .ok (.iload_n 1, 1) := dk_27 (dk_at dksX1_orders_3 3 rfl rfl)
theorem dX1_orders_74 : decode cX1_orders 74 = .ok (.iaload, 1) := dk_46 (dk_at dksX1_orders_3 4 rfl rfl)
theorem dX1_orders_75 : decode cX1_orders 75 = .ok (.invokespecial 349, 3) := dk_183 1 93 (dk_at dksX1_orders_3 5 rfl rfl)
theorem dX1_orders_78 : decode cX1_orders 78 = .ok (.areturn, 1) := dk_176 (dk_at dksX1_orders_3 8 rfl rfl)
abbrev cX1_rowSum : ByteArray := prog_1_method_62_code
def yX1_rowSum : MethodName := ⟨RX1, "rowSum", "(I)I"⟩
def dkwX1_rowSum_1 : List UInt8 := [6, 182, 0, 66, 167, 0, 15, 42, 42, 27, 182, 1, 96, 180, 1, 102, 182, 0, 70, 172]
abbrev dktX1_rowSum_1 : List UInt8 := dkwX1_rowSum_1 ++ []
def dkwX1_rowSum_0 : List UInt8 := [42, 27, 182, 0, 180, 154, 0, 9, 42, 4, 182, 0, 66, 172, 42, 182, 0, 198, 16, 7, 164, 0, 11, 42]
abbrev dktX1_rowSum_0 : List UInt8 := dkwX1_rowSum_0 ++ dktX1_rowSum_1
theorem dksX1_rowSum_0 : cX1_rowSum.data.toList.drop 0 = dktX1_rowSum_0 := by decide +kernel
theorem dksX1_rowSum_1 : cX1_rowSum.data.toList.drop 24 = dktX1_rowSum_1 := dk_seg dksX1_rowSum_0 24 rfl rfl
theorem dX1_rowSum_0 : decode cX1_rowSum 0 = .ok (.aload_n 0, 1) := dk_42 (dk_at dksX1_rowSum_0 0 rfl rfl)
theorem dX1_rowSum_1 : decode cX1_rowSum 1 = .ok (.iload_n 1, 1) := dk_27 (dk_at dksX1_rowSum_0 1 rfl rfl)
theorem dX1_rowSum_2 : decode cX1_rowSum 2 = .ok (.invokevirtual 180, 3) := dk_182 0 180 (dk_at dksX1_rowSum_0 2 rfl rfl)
theorem dX1_rowSum_5 : decode cX1_rowSum 5 = .ok (.ifCond .ne 9, 3) := dk_154 0 9 (dk_at dksX1_rowSum_0 5 rfl rfl)
theorem dX1_rowSum_8 : decode cX1_rowSum 8 = .ok (.aload_n 0, 1) := dk_42 (dk_at dksX1_rowSum_0 8 rfl rfl)
theorem dX1_rowSum_9 : decode cX1_rowSum 9 = .ok (.iconst 1, 1) := dk_4 (dk_at dksX1_rowSum_0 9 rfl rfl)
theorem dX1_rowSum_10 : decode cX1_rowSum 10 = .ok (.invokevirtual 66, 3) := dk_182 0 66 (dk_at dksX1_rowSum_0 10 rfl rfl)
theorem dX1_rowSum_13 : decode cX1_rowSum 13 = .ok (.ireturn, 1) := dk_172 (dk_at dksX1_rowSum_0 13 rfl rfl)
theorem dX1_rowSum_14 : decode cX1_rowSum 14 = .ok (.aload_n 0, 1) := dk_42 (dk_at dksX1_rowSum_0 14 rfl rfl)
theorem dX1_rowSum_15 : decode cX1_rowSum 15 = .ok (.invokevirtual 198, 3) := dk_182 0 198 (dk_at dksX1_rowSum_0 15 rfl rfl)
theorem dX1_rowSum_18 : decode cX1_rowSum 18 = .ok (.bipush 7, 2) := dk_16 7 (dk_at dksX1_rowSum_0 18 rfl rfl)
theorem dX1_rowSum_20 : decode cX1_rowSum 20 = .ok (.if_icmp .le 11, 3) := dk_164 0 11 (dk_at dksX1_rowSum_0 20 rfl rfl)
theorem dX1_rowSum_23 : decode cX1_rowSum 23 = .ok (.aload_n 0, 1) := dk_42 (dk_at dksX1_rowSum_0 23 rfl rfl)
theorem dX1_rowSum_24 : decode cX1_rowSum 24 = .ok (.iconst 3, 1) := dk_6 (dk_at dksX1_rowSum_1 0 rfl rfl)
theorem dX1_rowSum_25 : decode cX1_rowSum 25 = .ok (.invokevirtual 66, 3) := dk_182 0 66 (dk_at dksX1_rowSum_1 1 rfl rfl)
theorem dX1_rowSum_28 : decode cX1_rowSum 28 = .ok (.goto 15, 3) := dk_167 0 15 (dk_at dksX1_rowSum_1 4 rfl rfl)
theorem dX1_rowSum_31 : decode cX1_rowSum 31 = .ok (.aload_n 0, 1) := dk_42 (dk_at dksX1_rowSum_1 7 rfl rfl)
theorem dX1_rowSum_32 : decode cX1_rowSum 32 = .ok (.aload_n 0, 1) := dk_42 (dk_at dksX1_rowSum_1 8 rfl rfl)
theorem dX1_rowSum_33 : decode cX1_rowSum 33 = .ok (.iload_n 1, 1) := dk_27 (dk_at dksX1_rowSum_1 9 rfl rfl)
theorem dX1_rowSum_34 : decode cX1_rowSum 34 = .ok (.invokevirtual 352, 3) := dk_182 1 96 (dk_at dksX1_rowSum_1 10 rfl rfl)
theorem dX1_rowSum_37 : decode cX1_rowSum 37 = .ok (.getfield 358, 3) := dk_180 1 102 (dk_at dksX1_rowSum_1 13 rfl rfl)
theorem dX1_rowSum_40 : decode cX1_rowSum 40 = .ok (.invokevirtual 70, 3) := dk_182 0 70 (dk_at dksX1_rowSum_1 16 rfl rfl)
theorem dX1_rowSum_43 : decode cX1_rowSum 43 = .ok (.ireturn, 1) := dk_172 (dk_at dksX1_rowSum_1 19 rfl rfl)
abbrev cX1_liars : ByteArray := prog_1_method_63_code
def yX1_liars : MethodName := ⟨RX1, "liars", "()I"⟩
def dkwX1_liars_1 : List UInt8 := [183, 1, 106, 182, 1, 107, 182, 0, 70, 172]
abbrev dktX1_liars_1 : List UInt8 := dkwX1_liars_1 ++ []
def dkwX1_liars_0 : List UInt8 := [42, 180, 0, 101, 199, 0, 11, 42, 4, 182, 0, 66, 167, 0, 21, 42, 187, 1, 104, 89, 42, 180, 0, 101]
abbrev dktX1_liars_0 : List UInt8 := dkwX1_liars_0 ++ dktX1_liars_1
theorem dksX1_liars_0 : cX1_liars.data.toList.drop 0 = dktX1_liars_0 := by decide +kernel
theorem dksX1_liars_1 : cX1_liars.data.toList.drop 24 = dktX1_liars_1 := dk_seg dksX1_liars_0 24 rfl rfl
theorem dX1_liars_0 : decode cX1_liars 0 = .ok (.aload_n 0, 1) := dk_42 (dk_at dksX1_liars_0 0 rfl rfl)
theorem dX1_liars_1 : decode cX1_liars 1 = .ok (.getfield 101, 3) := dk_180 0 101 (dk_at dksX1_liars_0 1 rfl rfl)
theorem dX1_liars_4 : decode cX1_liars 4 = .ok (.ifnonnull 11, 3) := dk_199 0 11 (dk_at dksX1_liars_0 4 rfl rfl)
theorem dX1_liars_7 : decode cX1_liars 7 = .ok (.aload_n 0, 1) := dk_42 (dk_at dksX1_liars_0 7 rfl rfl)
theorem dX1_liars_8 : decode cX1_liars 8 = .ok (.iconst 1, 1) := dk_4 (dk_at dksX1_liars_0 8 rfl rfl)
theorem dX1_liars_9 : decode cX1_liars 9 = .ok (.invokevirtual 66, 3) := dk_182 0 66 (dk_at dksX1_liars_0 9 rfl rfl)
theorem dX1_liars_12 : decode cX1_liars 12 = .ok (.goto 21, 3) := dk_167 0 21 (dk_at dksX1_liars_0 12 rfl rfl)
theorem dX1_liars_15 : decode cX1_liars 15 = .ok (.aload_n 0, 1) := dk_42 (dk_at dksX1_liars_0 15 rfl rfl)
theorem dX1_liars_16 : decode cX1_liars 16 = .ok (.new 360, 3) := dk_187 1 104 (dk_at dksX1_liars_0 16 rfl rfl)
theorem dX1_liars_19 : decode cX1_liars 19 = .ok (.dup, 1) := dk_89 (dk_at dksX1_liars_0 19 rfl rfl)
theorem dX1_liars_20 : decode cX1_liars 20 = .ok (.aload_n 0, 1) := dk_42 (dk_at dksX1_liars_0 20 rfl rfl)
theorem dX1_liars_21 : decode cX1_liars 21 = .ok (.getfield 101, 3) := dk_180 0 101 (dk_at dksX1_liars_0 21 rfl rfl)
theorem dX1_liars_24 : decode cX1_liars 24 = .ok (.invokespecial 362, 3) := dk_183 1 106 (dk_at dksX1_liars_1 0 rfl rfl)
theorem dX1_liars_27 : decode cX1_liars 27 = .ok (.invokevirtual 363, 3) := dk_182 1 107 (dk_at dksX1_liars_1 3 rfl rfl)
theorem dX1_liars_30 : decode cX1_liars 30 = .ok (.invokevirtual 70, 3) := dk_182 0 70 (dk_at dksX1_liars_1 6 rfl rfl)
theorem dX1_liars_33 : decode cX1_liars 33 = .ok (.ireturn, 1) := dk_172 (dk_at dksX1_liars_1 9 rfl rfl)
abbrev cX1_surely : ByteArray := prog_1_method_64_code
def yX1_surely : MethodName := ⟨RX1, "surely", "(II)I"⟩
def dkwX1_surely_2 : List UInt8 := [87, 42, 45, 27, 28, 182, 1, 113, 153, 0, 7, 4, 167, 0, 4, 3, 182, 0, 70, 172]
abbrev dktX1_surely_2 : List UInt8 := dkwX1_surely_2 ++ []
def dkwX1_surely_1 : List UInt8 := [182, 0, 66, 172, 187, 1, 104, 89, 42, 180, 0, 101, 183, 1, 106, 78, 45, 45, 182, 1, 107, 182, 1, 110]
abbrev dktX1_surely_1 : List UInt8 := dkwX1_surely_1 ++ dktX1_surely_2
def dkwX1_surely_0 : List UInt8 := [42, 27, 182, 0, 158, 153, 0, 16, 42, 28, 182, 0, 158, 153, 0, 8, 27, 28, 160, 0, 9, 42, 4]
abbrev dktX1_surely_0 : List UInt8 := dkwX1_surely_0 ++ dktX1_surely_1
theorem dksX1_surely_0 : cX1_surely.data.toList.drop 0 = dktX1_surely_0 := by decide +kernel
theorem dksX1_surely_1 : cX1_surely.data.toList.drop 23 = dktX1_surely_1 := dk_seg dksX1_surely_0 23 rfl rfl
theorem dksX1_surely_2 : cX1_surely.data.toList.drop 47 = dktX1_surely_2 := dk_seg dksX1_surely_1 24 rfl rfl
theorem dX1_surely_0 : decode cX1_surely 0 = .ok (.aload_n 0, 1) := dk_42 (dk_at dksX1_surely_0 0 rfl rfl)
theorem dX1_surely_1 : decode cX1_surely 1 = .ok (.iload_n 1, 1) := dk_27 (dk_at dksX1_surely_0 1 rfl rfl)
theorem dX1_surely_2 : decode cX1_surely 2 = .ok (.invokevirtual 158, 3) := dk_182 0 158 (dk_at dksX1_surely_0 2 rfl rfl)
theorem dX1_surely_5 : decode cX1_surely 5 = .ok (.ifCond .eq 16, 3) := dk_153 0 16 (dk_at dksX1_surely_0 5 rfl rfl)
theorem dX1_surely_8 : decode cX1_surely 8 = .ok (.aload_n 0, 1) := dk_42 (dk_at dksX1_surely_0 8 rfl rfl)
theorem dX1_surely_9 : decode cX1_surely 9 = .ok (.iload_n 2, 1) := dk_28 (dk_at dksX1_surely_0 9 rfl rfl)
theorem dX1_surely_10 : decode cX1_surely 10 = .ok (.invokevirtual 158, 3) := dk_182 0 158 (dk_at dksX1_surely_0 10 rfl rfl)
theorem dX1_surely_13 : decode cX1_surely 13 = .ok (.ifCond .eq 8, 3) := dk_153 0 8 (dk_at dksX1_surely_0 13 rfl rfl)
theorem dX1_surely_16 : decode cX1_surely 16 = .ok (.iload_n 1, 1) := dk_27 (dk_at dksX1_surely_0 16 rfl rfl)
theorem dX1_surely_17 : decode cX1_surely 17 = .ok (.iload_n 2, 1) := dk_28 (dk_at dksX1_surely_0 17 rfl rfl)
theorem dX1_surely_18 : decode cX1_surely 18 = .ok (.if_icmp .ne 9, 3) := dk_160 0 9 (dk_at dksX1_surely_0 18 rfl rfl)
theorem dX1_surely_21 : decode cX1_surely 21 = .ok (.aload_n 0, 1) := dk_42 (dk_at dksX1_surely_0 21 rfl rfl)
theorem dX1_surely_22 : decode cX1_surely 22 = .ok (.iconst 1, 1) := dk_4 (dk_at dksX1_surely_0 22 rfl rfl)
theorem dX1_surely_23 : decode cX1_surely 23 = .ok (.invokevirtual 66, 3) := dk_182 0 66 (dk_at dksX1_surely_1 0 rfl rfl)
theorem dX1_surely_26 : decode cX1_surely 26 = .ok (.ireturn, 1) := dk_172 (dk_at dksX1_surely_1 3 rfl rfl)
theorem dX1_surely_27 : decode cX1_surely 27 = .ok (.new 360, 3) := dk_187 1 104 (dk_at dksX1_surely_1 4 rfl rfl)
theorem dX1_surely_30 : decode cX1_surely 30 = .ok (.dup, 1) := dk_89 (dk_at dksX1_surely_1 7 rfl rfl)
theorem dX1_surely_31 : decode cX1_surely 31 = .ok (.aload_n 0, 1) := dk_42 (dk_at dksX1_surely_1 8 rfl rfl)
theorem dX1_surely_32 : decode cX1_surely 32 = .ok (.getfield 101, 3) := dk_180 0 101 (dk_at dksX1_surely_1 9 rfl rfl)
theorem dX1_surely_35 : decode cX1_surely 35 = .ok (.invokespecial 362, 3) := dk_183 1 106 (dk_at dksX1_surely_1 12 rfl rfl)
theorem dX1_surely_38 : decode cX1_surely 38 = .ok (.astore_n 3, 1) := dk_78 (dk_at dksX1_surely_1 15 rfl rfl)
theorem dX1_surely_39 : decode cX1_surely 39 = .ok (.aload_n 3, 1) := dk_45 (dk_at dksX1_surely_1 16 rfl rfl)
theorem dX1_surely_40 : decode cX1_surely 40 = .ok (.aload_n 3, 1) := dk_45 (dk_at dksX1_surely_1 17 rfl rfl)
theorem dX1_surely_41 : decode cX1_surely 41 = .ok (.invokevirtual 363, 3) := dk_182 1 107 (dk_at dksX1_surely_1 18 rfl rfl)
theorem dX1_surely_44 : decode cX1_surely 44 = .ok (.invokevirtual 366, 3) := dk_182 1 110 (dk_at dksX1_surely_1 21 rfl rfl)
theorem dX1_surely_47 : decode cX1_surely 47 = .ok (.pop, 1) := dk_87 (dk_at dksX1_surely_2 0 rfl rfl)
theorem dX1_surely_48 : decode cX1_surely 48 = .ok (.aload_n 0, 1) := dk_42 (dk_at dksX1_surely_2 1 rfl rfl)
theorem dX1_surely_49 : decode cX1_surely 49 = .ok (.aload_n 3, 1) := dk_45 (dk_at dksX1_surely_2 2 rfl rfl)
theorem dX1_surely_50 : decode cX1_surely 50 = .ok (.iload_n 1, 1) := dk_27 (dk_at dksX1_surely_2 3 rfl rfl)
theorem dX1_surely_51 : decode cX1_surely 51 = .ok (.iload_n 2, 1) := dk_28 (dk_at dksX1_surely_2 4 rfl rfl)
theorem dX1_surely_52 : decode cX1_surely 52 = .ok (.invokevirtual 369, 3) := dk_182 1 113 (dk_at dksX1_surely_2 5 rfl rfl)
theorem dX1_surely_55 : decode cX1_surely 55 = .ok (.ifCond .eq 7, 3) := dk_153 0 7 (dk_at dksX1_surely_2 8 rfl rfl)
theorem dX1_surely_58 : decode cX1_surely 58 = .ok (.iconst 1, 1) := dk_4 (dk_at dksX1_surely_2 11 rfl rfl)
theorem dX1_surely_59 : decode cX1_surely 59 = .ok (.goto 4, 3) := dk_167 0 4 (dk_at dksX1_surely_2 12 rfl rfl)
theorem dX1_surely_62 : decode cX1_surely 62 = .ok (.iconst 0, 1) := dk_3 (dk_at dksX1_surely_2 15 rfl rfl)
theorem dX1_surely_63 : decode cX1_surely 63 = .ok (.invokevirtual 70, 3) := dk_182 0 70 (dk_at dksX1_surely_2 16 rfl rfl)
theorem dX1_surely_66 : decode cX1_surely 66 = .ok (.ireturn, 1) := dk_172 (dk_at dksX1_surely_2 19 rfl rfl)
abbrev cX1_so : ByteArray := prog_1_method_65_code
def yX1_so : MethodName := ⟨RX1, "so", "()I"⟩
def dkwX1_so_4 : List UInt8 := [182, 0, 70, 172]
abbrev dktX1_so_4 : List UInt8 := dkwX1_so_4 ++ []
def dkwX1_so_3 : List UInt8 := [180, 1, 124, 182, 1, 127, 153, 0, 7, 4, 167, 0, 4, 3, 96, 60, 132, 2, 1, 167, 255, 187, 42, 27]
abbrev dktX1_so_3 : List UInt8 := dkwX1_so_3 ++ dktX1_so_4
def dkwX1_so_2 : List UInt8 := [182, 1, 35, 192, 1, 119, 180, 1, 121, 42, 180, 0, 101, 180, 1, 116, 28, 182, 1, 35, 192, 1, 119]
abbrev dktX1_so_2 : List UInt8 := dkwX1_so_2 ++ dktX1_so_3
def dkwX1_so_1 : List UInt8 := [180, 1, 116, 182, 0, 136, 162, 0, 61, 27, 42, 180, 0, 101, 42, 180, 0, 101, 180, 1, 116, 28]
abbrev dktX1_so_1 : List UInt8 := dkwX1_so_1 ++ dktX1_so_2
def dkwX1_so_0 : List UInt8 := [42, 180, 0, 101, 199, 0, 9, 42, 4, 182, 0, 66, 172, 3, 60, 3, 61, 28, 42, 180, 0, 101]
abbrev dktX1_so_0 : List UInt8 := dkwX1_so_0 ++ dktX1_so_1
theorem dksX1_so_0 : cX1_so.data.toList.drop 0 = dktX1_so_0 := by decide +kernel
theorem dksX1_so_1 : cX1_so.data.toList.drop 22 = dktX1_so_1 := dk_seg dksX1_so_0 22 rfl rfl
theorem dksX1_so_2 : cX1_so.data.toList.drop 44 = dktX1_so_2 := dk_seg dksX1_so_1 22 rfl rfl
theorem dksX1_so_3 : cX1_so.data.toList.drop 67 = dktX1_so_3 := dk_seg dksX1_so_2 23 rfl rfl
theorem dksX1_so_4 : cX1_so.data.toList.drop 91 = dktX1_so_4 := dk_seg dksX1_so_3 24 rfl rfl
theorem dX1_so_0 : decode cX1_so 0 = .ok (.aload_n 0, 1) := dk_42 (dk_at dksX1_so_0 0 rfl rfl)
theorem dX1_so_1 : decode cX1_so 1 = .ok (.getfield 101, 3) := dk_180 0 101 (dk_at dksX1_so_0 1 rfl rfl)
theorem dX1_so_4 : decode cX1_so 4 = .ok (.ifnonnull 9, 3) := dk_199 0 9 (dk_at dksX1_so_0 4 rfl rfl)
theorem dX1_so_7 : decode cX1_so 7 = .ok (.aload_n 0, 1) := dk_42 (dk_at dksX1_so_0 7 rfl rfl)
theorem dX1_so_8 : decode cX1_so 8 = .ok (.iconst 1, 1) := dk_4 (dk_at dksX1_so_0 8 rfl rfl)
theorem dX1_so_9 : decode cX1_so 9 = .ok (.invokevirtual 66, 3) := dk_182 0 66 (dk_at dksX1_so_0 9 rfl rfl)
theorem dX1_so_12 : decode cX1_so 12 = .ok (.ireturn, 1) := dk_172 (dk_at dksX1_so_0 12 rfl rfl)
theorem dX1_so_13 : decode cX1_so 13 = .ok (.iconst 0, 1) := dk_3 (dk_at dksX1_so_0 13 rfl rfl)
theorem dX1_so_14 : decode cX1_so 14 = .ok (.istore_n 1, 1) := dk_60 (dk_at dksX1_so_0 14 rfl rfl)
theorem dX1_so_15 : decode cX1_so 15 = .ok (.iconst 0, 1) := dk_3 (dk_at dksX1_so_0 15 rfl rfl)
theorem dX1_so_16 : decode cX1_so 16 = .ok (.istore_n 2, 1) := dk_61 (dk_at dksX1_so_0 16 rfl rfl)
theorem dX1_so_17 : decode cX1_so 17 = .ok (.iload_n 2, 1) := dk_28 (dk_at dksX1_so_0 17 rfl rfl)
theorem dX1_so_18 : decode cX1_so 18 = .ok (.aload_n 0, 1) := dk_42 (dk_at dksX1_so_0 18 rfl rfl)
theorem dX1_so_19 : decode cX1_so 19 = .ok (.getfield 101, 3) := dk_180 0 101 (dk_at dksX1_so_0 19 rfl rfl)
theorem dX1_so_22 : decode cX1_so 22 = .ok (.getfield 372, 3) := dk_180 1 116 (dk_at dksX1_so_1 0 rfl rfl)
theorem dX1_so_25 : decode cX1_so 25 = .ok (.invokevirtual 136, 3) := dk_182 0 136 (dk_at dksX1_so_1 3 rfl rfl)
theorem dX1_so_28 : decode cX1_so 28 = .ok (.if_icmp .ge 61, 3) := dk_162 0 61 (dk_at dksX1_so_1 6 rfl rfl)
theorem dX1_so_31 : decode cX1_so 31 = .ok (.iload_n 1, 1) := dk_27 (dk_at dksX1_so_1 9 rfl rfl)
theorem dX1_so_32 : decode cX1_so 32 = .ok (.aload_n 0, 1) := dk_42 (dk_at dksX1_so_1 10 rfl rfl)
theorem dX1_so_33 : decode cX1_so 33 = .ok (.getfield 101, 3) := dk_180 0 101 (dk_at dksX1_so_1 11 rfl rfl)
theorem dX1_so_36 : decode cX1_so 36 = .ok (.aload_n 0, 1) := dk_42 (dk_at dksX1_so_1 14 rfl rfl)
theorem dX1_so_37 : decode cX1_so 37 = .ok (.getfield 101, 3) := dk_180 0 101 (dk_at dksX1_so_1 15 rfl rfl)
theorem dX1_so_40 : decode cX1_so 40 = .ok (.getfield 372, 3) := dk_180 1 116 (dk_at dksX1_so_1 18 rfl rfl)
theorem dX1_so_43 : decode cX1_so 43 = .ok (.iload_n 2, 1) := dk_28 (dk_at dksX1_so_1 21 rfl rfl)
theorem dX1_so_44 : decode cX1_so 44 = .ok (.invokevirtual 291, 3) := dk_182 1 35 (dk_at dksX1_so_2 0 rfl rfl)
theorem dX1_so_47 : decode cX1_so 47 = .ok (.checkcast 375, 3) := dk_192 1 119 (dk_at dksX1_so_2 3 rfl rfl)
theorem dX1_so_50 : decode cX1_so 50 = .ok (.getfield 377, 3) := dk_180 1 121 (dk_at dksX1_so_2 6 rfl rfl)
theorem dX1_so_53 : decode cX1_so 53 = .ok (.aload_n 0, 1) := dk_42 (dk_at dksX1_so_2 9 rfl rfl)
theorem dX1_so_54 : decode cX1_so 54 = .ok (.getfield 101, 3) := dk_180 0 101 (dk_at dksX1_so_2 10 rfl rfl)
theorem dX1_so_57 : decode cX1_so 57 = .ok (.getfield 372, 3) := dk_180 1 116 (dk_at dksX1_so_2 13 rfl rfl)
theorem dX1_so_60 : decode cX1_so 60 = .ok (.iload_n 2, 1) := dk_28 (dk_at dksX1_so_2 16 rfl rfl)
theorem dX1_so_61 : decode cX1_so 61 = .ok (.invokevirtual 291, 3) := dk_182 1 35 (dk_at dksX1_so_2 17 rfl rfl)
theorem dX1_so_64 : decode cX1_so 64 = .ok (.checkcast 375, 3) := dk_192 1 119 (dk_at dksX1_so_2 20 rfl rfl)
theorem dX1_so_67 : decode cX1_so 67 = .ok (.getfield 380, 3) := dk_180 1 124 (dk_at dksX1_so_3 0 rfl rfl)
theorem dX1_so_70 : decode cX1_so 70 = .ok (.invokevirtual 383, 3) := dk_182 1 127 (dk_at dksX1_so_3 3 rfl rfl)
theorem dX1_so_73 : decode cX1_so 73 = .ok (.ifCond .eq 7, 3) := dk_153 0 7 (dk_at dksX1_so_3 6 rfl rfl)
theorem dX1_so_76 : decode cX1_so 76 = .ok (.iconst 1, 1) := dk_4 (dk_at dksX1_so_3 9 rfl rfl)
theorem dX1_so_77 : decode cX1_so 77 = .ok (.goto 4, 3) := dk_167 0 4 (dk_at dksX1_so_3 10 rfl rfl)
theorem dX1_so_80 : decode cX1_so 80 = .ok (.iconst 0, 1) := dk_3 (dk_at dksX1_so_3 13 rfl rfl)
theorem dX1_so_81 : decode cX1_so 81 = .ok (.iadd, 1) := dk_96 (dk_at dksX1_so_3 14 rfl rfl)
theorem dX1_so_82 : decode cX1_so 82 = .ok (.istore_n 1, 1) := dk_60 (dk_at dksX1_so_3 15 rfl rfl)
theorem dX1_so_83 : decode cX1_so 83 = .ok (.iinc 2 1, 3) := dk_132 2 1 (dk_at dksX1_so_3 16 rfl rfl)
theorem dX1_so_86 : decode cX1_so 86 = .ok (.goto (-69), 3) := dk_167 255 187 (dk_at dksX1_so_3 19 rfl rfl)
theorem dX1_so_89 : decode cX1_so 89 = .ok (.aload_n 0, 1) := dk_42 (dk_at dksX1_so_3 22 rfl rfl)
theorem dX1_so_90 : decode cX1_so 90 = .ok (.iload_n 1, 1) := dk_27 (dk_at dksX1_so_3 23 rfl rfl)
theorem dX1_so_91 : decode cX1_so 91 = .ok (.invokevirtual 70, 3) := dk_182 0 70 (dk_at dksX1_so_4 0 rfl rfl)
theorem dX1_so_94 : decode cX1_so 94 = .ok (.ireturn, 1) := dk_172 (dk_at dksX1_so_4 3 rfl rfl)
abbrev cX1_pass : ByteArray := prog_1_method_67_code
def yX1_pass : MethodName := ⟨RX1, "pass", "(I)I"⟩
def dkwX1_pass_3 : List UInt8 := [182, 1, 138, 132, 2, 1, 167, 255, 241, 42, 42, 180, 0, 140, 180, 1, 69, 182, 0, 70, 172]
abbrev dktX1_pass_3 : List UInt8 := dkwX1_pass_3 ++ []
def dkwX1_pass_2 : List UInt8 := [164, 0, 9, 42, 6, 182, 0, 66, 172, 42, 182, 1, 135, 3, 61, 28, 27, 162, 0, 16, 42, 180, 0, 140]
abbrev dktX1_pass_2 : List UInt8 := dkwX1_pass_2 ++ dktX1_pass_3
def dkwX1_pass_1 : List UInt8 := [42, 5, 182, 0, 66, 172, 42, 180, 0, 140, 180, 1, 69, 27, 96, 42, 180, 0, 101, 180, 1, 75, 4, 96]
abbrev dktX1_pass_1 : List UInt8 := dkwX1_pass_1 ++ dktX1_pass_2
def dkwX1_pass_0 : List UInt8 := [42, 180, 0, 101, 199, 0, 9, 42, 4, 182, 0, 66, 172, 27, 4, 17, 0, 200, 184, 0, 76, 154, 0, 9]
abbrev dktX1_pass_0 : List UInt8 := dkwX1_pass_0 ++ dktX1_pass_1
theorem dksX1_pass_0 : cX1_pass.data.toList.drop 0 = dktX1_pass_0 := by decide +kernel
theorem dksX1_pass_1 : cX1_pass.data.toList.drop 24 = dktX1_pass_1 := dk_seg dksX1_pass_0 24 rfl rfl
theorem dksX1_pass_2 : cX1_pass.data.toList.drop 48 = dktX1_pass_2 := dk_seg dksX1_pass_1 24 rfl rfl
theorem dksX1_pass_3 : cX1_pass.data.toList.drop 72 = dktX1_pass_3 := dk_seg dksX1_pass_2 24 rfl rfl
theorem dX1_pass_0 : decode cX1_pass 0 = .ok (.aload_n 0, 1) := dk_42 (dk_at dksX1_pass_0 0 rfl rfl)
theorem dX1_pass_1 : decode cX1_pass 1 = .ok (.getfield 101, 3) := dk_180 0 101 (dk_at dksX1_pass_0 1 rfl rfl)
theorem dX1_pass_4 : decode cX1_pass 4 = .ok (.ifnonnull 9, 3) := dk_199 0 9 (dk_at dksX1_pass_0 4 rfl rfl)
theorem dX1_pass_7 : decode cX1_pass 7 = .ok (.aload_n 0, 1) := dk_42 (dk_at dksX1_pass_0 7 rfl rfl)
theorem dX1_pass_8 : decode cX1_pass 8 = .ok (.iconst 1, 1) := dk_4 (dk_at dksX1_pass_0 8 rfl rfl)
theorem dX1_pass_9 : decode cX1_pass 9 = .ok (.invokevirtual 66, 3) := dk_182 0 66 (dk_at dksX1_pass_0 9 rfl rfl)
theorem dX1_pass_12 : decode cX1_pass 12 = .ok (.ireturn, 1) := dk_172 (dk_at dksX1_pass_0 12 rfl rfl)
theorem dX1_pass_13 : decode cX1_pass 13 = .ok (.iload_n 1, 1) := dk_27 (dk_at dksX1_pass_0 13 rfl rfl)
theorem dX1_pass_14 : decode cX1_pass 14 = .ok (.iconst 1, 1) := dk_4 (dk_at dksX1_pass_0 14 rfl rfl)
theorem dX1_pass_15 : decode cX1_pass 15 = .ok (.sipush 200, 3) := dk_17 0 200 (dk_at dksX1_pass_0 15 rfl rfl)
theorem dX1_pass_18 : decode cX1_pass 18 = .ok (.invokestatic 76, 3) := dk_184 0 76 (dk_at dksX1_pass_0 18 rfl rfl)
theorem dX1_pass_21 : decode cX1_pass 21 = .ok (.ifCond .ne 9, 3) := dk_154 0 9 (dk_at dksX1_pass_0 21 rfl rfl)
theorem dX1_pass_24 : decode cX1_pass 24 = .ok (.aload_n 0, 1) := dk_42 (dk_at dksX1_pass_1 0 rfl rfl)
theorem dX1_pass_25 : decode cX1_pass 25 = .ok (.iconst 2, 1) := dk_5 (dk_at dksX1_pass_1 1 rfl rfl)
theorem dX1_pass_26 : decode cX1_pass 26 = .ok (.invokevirtual 66, 3) := dk_182 0 66 (dk_at dksX1_pass_1 2 rfl rfl)
theorem dX1_pass_29 : decode cX1_pass 29 = .ok (.ireturn, 1) := dk_172 (dk_at dksX1_pass_1 5 rfl rfl)
theorem dX1_pass_30 : decode cX1_pass 30 = .ok (.aload_n 0, 1) := dk_42 (dk_at dksX1_pass_1 6 rfl rfl)
theorem dX1_pass_31 : decode cX1_pass 31 = .ok (.getfield 140, 3) := dk_180 0 140 (dk_at dksX1_pass_1 7 rfl rfl)
theorem dX1_pass_34 : decode cX1_pass 34 = .ok (.getfield 325, 3) := dk_180 1 69 (dk_at dksX1_pass_1 10 rfl rfl)
theorem dX1_pass_37 : decode cX1_pass 37 = .ok (.iload_n 1, 1) := dk_27 (dk_at dksX1_pass_1 13 rfl rfl)
theorem dX1_pass_38 : decode cX1_pass 38 = .ok (.iadd, 1) := dk_96 (dk_at dksX1_pass_1 14 rfl rfl)
theorem dX1_pass_39 : decode cX1_pass 39 = .ok (.aload_n 0, 1) := dk_42 (dk_at dksX1_pass_1 15 rfl rfl)
theorem dX1_pass_40 : decode cX1_pass 40 = .ok (.getfield 101, 3) := dk_180 0 101 (dk_at dksX1_pass_1 16 rfl rfl)
theorem dX1_pass_43 : decode cX1_pass 43 = .ok (.getfield 331, 3) := dk_180 1 75 (dk_at dksX1_pass_1 19 rfl rfl)
theorem dX1_pass_46 : decode cX1_pass 46 = .ok (.iconst 1, 1) := dk_4 (dk_at dksX1_pass_1 22 rfl rfl)
theorem dX1_pass_47 : decode cX1_pass 47 = .ok (.iadd, 1) := dk_96 (dk_at dksX1_pass_1 23 rfl rfl)
theorem dX1_pass_48 : decode cX1_pass 48 = .ok (.if_icmp .le 9, 3) := dk_164 0 9 (dk_at dksX1_pass_2 0 rfl rfl)
theorem dX1_pass_51 : decode cX1_pass 51 = .ok (.aload_n 0, 1) := dk_42 (dk_at dksX1_pass_2 3 rfl rfl)
theorem dX1_pass_52 : decode cX1_pass 52 = .ok (.iconst 3, 1) := dk_6 (dk_at dksX1_pass_2 4 rfl rfl)
theorem dX1_pass_53 : decode cX1_pass 53 = .ok (.invokevirtual 66, 3) := dk_182 0 66 (dk_at dksX1_pass_2 5 rfl rfl)
theorem dX1_pass_56 : decode cX1_pass 56 = .ok (.ireturn, 1) := dk_172 (dk_at dksX1_pass_2 8 rfl rfl)
theorem dX1_pass_57 : decode cX1_pass 57 = .ok (.aload_n 0, 1) := dk_42 (dk_at dksX1_pass_2 9 rfl rfl)
theorem dX1_pass_58 : decode cX1_pass 58 = .ok (.invokevirtual 391, 3) := dk_182 1 135 (dk_at dksX1_pass_2 10 rfl rfl)
theorem dX1_pass_61 : decode cX1_pass 61 = .ok (.iconst 0, 1) := dk_3 (dk_at dksX1_pass_2 13 rfl rfl)
theorem dX1_pass_62 : decode cX1_pass 62 = .ok (.istore_n 2, 1) := dk_61 (dk_at dksX1_pass_2 14 rfl rfl)
theorem dX1_pass_63 : decode cX1_pass 63 = .ok (.iload_n 2, 1) := dk_28 (dk_at dksX1_pass_2 15 rfl rfl)
theorem dX1_pass_64 : decode cX1_pass 64 = .ok (.iload_n 1, 1) := dk_27 (dk_at dksX1_pass_2 16 rfl rfl)
theorem dX1_pass_65 : decode cX1_pass 65 = .ok (.if_icmp .ge 16, 3) := dk_162 0 16 (dk_at dksX1_pass_2 17 rfl rfl)
theorem dX1_pass_68 : decode cX1_pass 68 = .ok (.aload_n 0, 1) := dk_42 (dk_at dksX1_pass_2 20 rfl rfl)
theorem dX1_pass_69 : decode cX1_pass 69 = .ok (.getfield 140, 3) := dk_180 0 140 (dk_at dksX1_pass_2 21 rfl rfl)
theorem dX1_pass_72 : decode cX1_pass 72 = .ok (.invokevirtual 394, 3) := dk_182 1 138 (dk_at dksX1_pass_3 0 rfl rfl)
theorem dX1_pass_75 : decode cX1_pass 75 = .ok (.iinc 2 1, 3) := dk_132 2 1 (dk_at dksX1_pass_3 3 rfl rfl)
theorem dX1_pass_78 : decode cX1_pass 78 = .ok (.goto (-15), 3) := dk_167 255 241 (dk_at dksX1_pass_3 6 rfl rfl)
theorem dX1_pass_81 : decode cX1_pass 81 = .ok (.aload_n 0, 1) := dk_42 (dk_at dksX1_pass_3 9 rfl rfl)
theorem dX1_pass_82 : decode cX1_pass 82 = .ok (.aload_n 0, 1) := dk_42 (dk_at dksX1_pass_3 10 rfl rfl)
theorem dX1_pass_83 : decode cX1_pass 83 = .ok (.getfield 140, 3) := dk_180 0 140 (dk_at dksX1_pass_3 11 rfl rfl)
theorem dX1_pass_86 : decode cX1_pass 86 = .ok (.getfield 325, 3) := dk_180 1 69 (dk_at dksX1_pass_3 14 rfl rfl)
theorem dX1_pass_89 : decode cX1_pass 89 = .ok (.invokevirtual 70, 3) := dk_182 0 70 (dk_at dksX1_pass_3 17 rfl rfl)
theorem dX1_pass_92 : decode cX1_pass 92 = .ok (.ireturn, 1) := dk_172 (dk_at dksX1_pass_3 20 rfl rfl)
abbrev cX1_remembers : ByteArray := prog_1_method_66_code
def yX1_remembers : MethodName := ⟨RX1, "remembers", "()V"⟩
def dkwX1_remembers_1 : List UInt8 := [180, 0, 35, 42, 180, 0, 140, 182, 1, 131, 87, 42, 42, 180, 0, 140, 182, 0, 120, 182, 0, 124, 177]
abbrev dktX1_remembers_1 : List UInt8 := dkwX1_remembers_1 ++ []
def dkwX1_remembers_0 : List UInt8 := [42, 180, 0, 35, 182, 0, 136, 16, 12, 160, 0, 12, 42, 180, 0, 35, 3, 182, 1, 128, 87, 42]
abbrev dktX1_remembers_0 : List UInt8 := dkwX1_remembers_0 ++ dktX1_remembers_1
theorem dksX1_remembers_0 : cX1_remembers.data.toList.drop 0 = dktX1_remembers_0 := by decide +kernel
theorem dksX1_remembers_1 : cX1_remembers.data.toList.drop 22 = dktX1_remembers_1 := dk_seg dksX1_remembers_0 22 rfl rfl
theorem dX1_remembers_0 : decode cX1_remembers 0 = .ok (.aload_n 0, 1) := dk_42 (dk_at dksX1_remembers_0 0 rfl rfl)
theorem dX1_remembers_1 : decode cX1_remembers 1 = .ok (.getfield 35, 3) := dk_180 0 35 (dk_at dksX1_remembers_0 1 rfl rfl)
theorem dX1_remembers_4 : decode cX1_remembers 4 = .ok (.invokevirtual 136, 3) := dk_182 0 136 (dk_at dksX1_remembers_0 4 rfl rfl)
theorem dX1_remembers_7 : decode cX1_remembers 7 = .ok (.bipush 12, 2) := dk_16 12 (dk_at dksX1_remembers_0 7 rfl rfl)
theorem dX1_remembers_9 : decode cX1_remembers 9 = .ok (.if_icmp .ne 12, 3) := dk_160 0 12 (dk_at dksX1_remembers_0 9 rfl rfl)
theorem dX1_remembers_12 : decode cX1_remembers 12 = .ok (.aload_n 0, 1) := dk_42 (dk_at dksX1_remembers_0 12 rfl rfl)
theorem dX1_remembers_13 : decode cX1_remembers 13 = .ok (.getfield 35, 3) := dk_180 0 35 (dk_at dksX1_remembers_0 13 rfl rfl)
theorem dX1_remembers_16 : decode cX1_remembers 16 = .ok (.iconst 0, 1) := dk_3 (dk_at dksX1_remembers_0 16 rfl rfl)
theorem dX1_remembers_17 : decode cX1_remembers 17 = .ok (.invokevirtual 384, 3) := dk_182 1 128 (dk_at dksX1_remembers_0 17 rfl rfl)
theorem dX1_remembers_20 : decode cX1_remembers 20 = .ok (.pop, 1) := dk_87 (dk_at dksX1_remembers_0 20 rfl rfl)
theorem dX1_remembers_21 : decode cX1_remembers 21 = .ok (.aload_n 0, 1) := dk_42 (dk_at dksX1_remembers_0 21 rfl rfl)
theorem dX1_remembers_22 : decode cX1_remembers 22 = .ok (.getfield 35, 3) := dk_180 0 35 (dk_at dksX1_remembers_1 0 rfl rfl)
theorem dX1_remembers_25 : decode cX1_remembers 25 = .ok (.aload_n 0, 1) := dk_42 (dk_at dksX1_remembers_1 3 rfl rfl)
theorem dX1_remembers_26 : decode cX1_remembers 26 = .ok (.getfield 140, 3) := dk_180 0 140 (dk_at dksX1_remembers_1 4 rfl rfl)
theorem dX1_remembers_29 : decode cX1_remembers 29 = .ok (.invokevirtual 387, 3) := dk_182 1 131 (dk_at dksX1_remembers_1 7 rfl rfl)
theorem dX1_remembers_32 : decode cX1_remembers 32 = .ok (.pop, 1) := dk_87 (dk_at dksX1_remembers_1 10 rfl rfl)
theorem dX1_remembers_33 : decode cX1_remembers 33 = .ok (.aload_n 0, 1) := dk_42 (dk_at dksX1_remembers_1 11 rfl rfl)
theorem dX1_remembers_34 : decode cX1_remembers 34 = .ok (.aload_n 0, 1) := dk_42 (dk_at dksX1_remembers_1 12 rfl rfl)
theorem dX1_remembers_35 : decode cX1_remembers 35 = .ok (.getfield 140, 3) := dk_180 0 140 (dk_at dksX1_remembers_1 13 rfl rfl)
theorem dX1_remembers_38 : decode cX1_remembers 38 = .ok (.invokevirtual 120, 3) := dk_182 0 120 (dk_at dksX1_remembers_1 16 rfl rfl)
theorem dX1_remembers_41 : decode cX1_remembers 41 = .ok (.invokevirtual 124, 3) := dk_182 0 124 (dk_at dksX1_remembers_1 19 rfl rfl)
theorem dX1_remembers_44 : decode cX1_remembers 44 = .ok (.return_, 1) := dk_177 (dk_at dksX1_remembers_1 22 rfl rfl)
abbrev cX1_moves : ByteArray := prog_1_method_70_code
def yX1_moves : MethodName := ⟨RX1, "moves", "(II)Z"⟩
def dkwX1_moves_2 : List UInt8 := [172, 42, 182, 1, 135, 42, 180, 0, 140, 180, 0, 165, 27, 28, 79, 42, 182, 1, 147, 172]
abbrev dktX1_moves_2 : List UInt8 := dkwX1_moves_2 ++ []
def dkwX1_moves_1 : List UInt8 := [182, 1, 141, 153, 0, 16, 42, 180, 0, 140, 180, 0, 165, 27, 46, 28, 160, 0, 9, 42, 8, 182, 1, 144]
abbrev dktX1_moves_1 : List UInt8 := dkwX1_moves_1 ++ dktX1_moves_2
def dkwX1_moves_0 : List UInt8 := [42, 27, 182, 0, 158, 153, 0, 11, 42, 28, 182, 0, 192, 154, 0, 9, 42, 4, 182, 1, 144, 172, 42, 27]
abbrev dktX1_moves_0 : List UInt8 := dkwX1_moves_0 ++ dktX1_moves_1
theorem dksX1_moves_0 : cX1_moves.data.toList.drop 0 = dktX1_moves_0 := by decide +kernel
theorem dksX1_moves_1 : cX1_moves.data.toList.drop 24 = dktX1_moves_1 := dk_seg dksX1_moves_0 24 rfl rfl
theorem dksX1_moves_2 : cX1_moves.data.toList.drop 48 = dktX1_moves_2 := dk_seg dksX1_moves_1 24 rfl rfl
theorem dX1_moves_0 : decode cX1_moves 0 = .ok (.aload_n 0, 1) := dk_42 (dk_at dksX1_moves_0 0 rfl rfl)
theorem dX1_moves_1 : decode cX1_moves 1 = .ok (.iload_n 1, 1) := dk_27 (dk_at dksX1_moves_0 1 rfl rfl)
theorem dX1_moves_2 : decode cX1_moves 2 = .ok (.invokevirtual 158, 3) := dk_182 0 158 (dk_at dksX1_moves_0 2 rfl rfl)
theorem dX1_moves_5 : decode cX1_moves 5 = .ok (.ifCond .eq 11, 3) := dk_153 0 11 (dk_at dksX1_moves_0 5 rfl rfl)
theorem dX1_moves_8 : decode cX1_moves 8 = .ok (.aload_n 0, 1) := dk_42 (dk_at dksX1_moves_0 8 rfl rfl)
theorem dX1_moves_9 : decode cX1_moves 9 = .ok (.iload_n 2, 1) := dk_28 (dk_at dksX1_moves_0 9 rfl rfl)
theorem dX1_moves_10 : decode cX1_moves 10 = .ok (.invokevirtual 192, 3) := dk_182 0 192 (dk_at dksX1_moves_0 10 rfl rfl)
theorem dX1_moves_13 : decode cX1_moves 13 = .ok (.ifCond .ne 9, 3) := dk_154 0 9 (dk_at dksX1_moves_0 13 rfl rfl)
theorem dX1_moves_16 : decode cX1_moves 16 = .ok (.aload_n 0, 1) := dk_42 (dk_at dksX1_moves_0 16 rfl rfl)
theorem dX1_moves_17 : decode cX1_moves 17 = .ok (.iconst 1, 1) := dk_4 (dk_at dksX1_moves_0 17 rfl rfl)
theorem dX1_moves_18 : decode cX1_moves 18 = .ok (.invokevirtual 400, 3) := dk_182 1 144 (dk_at dksX1_moves_0 18 rfl rfl)
theorem dX1_moves_21 : decode cX1_moves 21 = .ok (.ireturn, 1) := dk_172 (dk_at dksX1_moves_0 21 rfl rfl)
theorem dX1_moves_22 : decode cX1_moves 22 = .ok (.aload_n 0, 1) := dk_42 (dk_at dksX1_moves_0 22 rfl rfl)
theorem dX1_moves_23 : decode cX1_moves 23 = .ok (.iload_n 1, 1) := dk_27 (dk_at dksX1_moves_0 23 rfl rfl)
theorem dX1_moves_24 : decode cX1_moves 24 = .ok (.invokevirtual 397, 3) := dk_182 1 141 (dk_at dksX1_moves_1 0 rfl rfl)
theorem dX1_moves_27 : decode cX1_moves 27 = .ok (.ifCond .eq 16, 3) := dk_153 0 16 (dk_at dksX1_moves_1 3 rfl rfl)
theorem dX1_moves_30 : decode cX1_moves 30 = .ok (.aload_n 0, 1) := dk_42 (dk_at dksX1_moves_1 6 rfl rfl)
theorem dX1_moves_31 : decode cX1_moves 31 = .ok (.getfield 140, 3) := dk_180 0 140 (dk_at dksX1_moves_1 7 rfl rfl)
theorem dX1_moves_34 : decode cX1_moves 34 = .ok (.getfield 165, 3) := dk_180 0 165 (dk_at dksX1_moves_1 10 rfl rfl)
theorem dX1_moves_37 : decode cX1_moves 37 = .ok (.iload_n 1, 1) := dk_27 (dk_at dksX1_moves_1 13 rfl rfl)
theorem dX1_moves_38 : decode cX1_moves 38 = .ok (.iaload, 1) := dk_46 (dk_at dksX1_moves_1 14 rfl rfl)
theorem dX1_moves_39 : decode cX1_moves 39 = .ok (.iload_n 2, 1) := dk_28 (dk_at dksX1_moves_1 15 rfl rfl)
theorem dX1_moves_40 : decode cX1_moves 40 = .ok (.if_icmp .ne 9, 3) := dk_160 0 9 (dk_at dksX1_moves_1 16 rfl rfl)
theorem dX1_moves_43 : decode cX1_moves 43 = .ok (.aload_n 0, 1) := dk_42 (dk_at dksX1_moves_1 19 rfl rfl)
theorem dX1_moves_44 : decode cX1_moves 44 = .ok (.iconst 5, 1) := dk_8 (dk_at dksX1_moves_1 20 rfl rfl)
theorem dX1_moves_45 : decode cX1_moves 45 = .ok (.invokevirtual 400, 3) := dk_182 1 144 (dk_at dksX1_moves_1 21 rfl rfl)
theorem dX1_moves_48 : decode cX1_moves 48 = .ok (.ireturn, 1) := dk_172 (dk_at dksX1_moves_2 0 rfl rfl)
theorem dX1_moves_49 : decode cX1_moves 49 = .ok (.aload_n 0, 1) := dk_42 (dk_at dksX1_moves_2 1 rfl rfl)
theorem dX1_moves_50 : decode cX1_moves 50 = .ok (.invokevirtual 391, 3) := dk_182 1 135 (dk_at dksX1_moves_2 2 rfl rfl)
theorem dX1_moves_53 : decode cX1_moves 53 = .ok (.aload_n 0, 1) := dk_42 (dk_at dksX1_moves_2 5 rfl rfl)
theorem dX1_moves_54 : decode cX1_moves 54 = .ok (.getfield 140, 3) := dk_180 0 140 (dk_at dksX1_moves_2 6 rfl rfl)
theorem dX1_moves_57 : decode cX1_moves 57 = .ok (.getfield 165, 3) := dk_180 0 165 (dk_at dksX1_moves_2 9 rfl rfl)
theorem dX1_moves_60 : decode cX1_moves 60 = .ok (.iload_n 1, 1) := dk_27 (dk_at dksX1_moves_2 12 rfl rfl)
theorem dX1_moves_61 : decode cX1_moves 61 = .ok (.iload_n 2, 1) := dk_28 (dk_at dksX1_moves_2 13 rfl rfl)
theorem dX1_moves_62 : decode cX1_moves 62 = .ok (.iastore, 1) := dk_79 (dk_at dksX1_moves_2 14 rfl rfl)
theorem dX1_moves_63 : decode cX1_moves 63 = .ok (.aload_n 0, 1) := dk_42 (dk_at dksX1_moves_2 15 rfl rfl)
theorem dX1_moves_64 : decode cX1_moves 64 = .ok (.invokevirtual 403, 3) := dk_182 1 147 (dk_at dksX1_moves_2 16 rfl rfl)
theorem dX1_moves_67 : decode cX1_moves 67 = .ok (.ireturn, 1) := dk_172 (dk_at dksX1_moves_2 19 rfl rfl)
abbrev cX1_denied : ByteArray := prog_1_method_9_code
def yX1_denied : MethodName := ⟨RX1, "denied", "(I)Z"⟩
def dkwX1_denied_0 : List UInt8 := [42, 27, 182, 0, 66, 87, 3, 172]
abbrev dktX1_denied_0 : List UInt8 := dkwX1_denied_0 ++ []
theorem dksX1_denied_0 : cX1_denied.data.toList.drop 0 = dktX1_denied_0 := by decide +kernel
theorem dX1_denied_0 : decode cX1_denied 0 = .ok (.aload_n 0, 1) := dk_42 (dk_at dksX1_denied_0 0 rfl rfl)
theorem dX1_denied_1 : decode cX1_denied 1 = .ok (.iload_n 1, 1) := dk_27 (dk_at dksX1_denied_0 1 rfl rfl)
theorem dX1_denied_2 : decode cX1_denied 2 = .ok (.invokevirtual 66, 3) := dk_182 0 66 (dk_at dksX1_denied_0 2 rfl rfl)
theorem dX1_denied_5 : decode cX1_denied 5 = .ok (.pop, 1) := dk_87 (dk_at dksX1_denied_0 5 rfl rfl)
theorem dX1_denied_6 : decode cX1_denied 6 = .ok (.iconst 0, 1) := dk_3 (dk_at dksX1_denied_0 6 rfl rfl)
theorem dX1_denied_7 : decode cX1_denied 7 = .ok (.ireturn, 1) := dk_172 (dk_at dksX1_denied_0 7 rfl rfl)
abbrev cX1_granted : ByteArray := prog_1_method_11_code
def yX1_granted : MethodName := ⟨RX1, "granted", "()Z"⟩
def dkwX1_granted_0 : List UInt8 := [42, 3, 182, 0, 70, 87, 4, 172]
abbrev dktX1_granted_0 : List UInt8 := dkwX1_granted_0 ++ []
theorem dksX1_granted_0 : cX1_granted.data.toList.drop 0 = dktX1_granted_0 := by decide +kernel
theorem dX1_granted_0 : decode cX1_granted 0 = .ok (.aload_n 0, 1) := dk_42 (dk_at dksX1_granted_0 0 rfl rfl)
theorem dX1_granted_1 : decode cX1_granted 1 = .ok (.iconst 0, 1) := dk_3 (dk_at dksX1_granted_0 1 rfl rfl)
theorem dX1_granted_2 : decode cX1_granted 2 = .ok (.invokevirtual 70, 3) := dk_182 0 70 (dk_at dksX1_granted_0 2 rfl rfl)
theorem dX1_granted_5 : decode cX1_granted 5 = .ok (.pop, 1) := dk_87 (dk_at dksX1_granted_0 5 rfl rfl)
theorem dX1_granted_6 : decode cX1_granted 6 = .ok (.iconst 1, 1) := dk_4 (dk_at dksX1_granted_0 6 rfl rfl)
theorem dX1_granted_7 : decode cX1_granted 7 = .ok (.ireturn, 1) := dk_172 (dk_at dksX1_granted_0 7 rfl rfl)
abbrev cX1_lets : ByteArray := prog_1_method_71_code
def yX1_lets : MethodName := ⟨RX1, "lets", "(II)Z"⟩
def dkwX1_lets_2 : List UInt8 := [180, 0, 140, 180, 0, 171, 27, 42, 180, 0, 140, 180, 0, 171, 28, 46, 4, 96, 79, 42, 182, 1, 147, 172]
abbrev dktX1_lets_2 : List UInt8 := dkwX1_lets_2 ++ []
def dkwX1_lets_1 : List UInt8 := [182, 1, 144, 172, 42, 27, 28, 182, 1, 65, 154, 0, 9, 42, 8, 182, 1, 144, 172, 42, 182, 1, 135, 42]
abbrev dktX1_lets_1 : List UInt8 := dkwX1_lets_1 ++ dktX1_lets_2
def dkwX1_lets_0 : List UInt8 := [42, 27, 182, 0, 158, 153, 0, 16, 42, 28, 182, 0, 158, 153, 0, 8, 27, 28, 160, 0, 9, 42, 4]
abbrev dktX1_lets_0 : List UInt8 := dkwX1_lets_0 ++ dktX1_lets_1
theorem dksX1_lets_0 : cX1_lets.data.toList.drop 0 = dktX1_lets_0 := by decide +kernel
theorem dksX1_lets_1 : cX1_lets.data.toList.drop 23 = dktX1_lets_1 := dk_seg dksX1_lets_0 23 rfl rfl
theorem dksX1_lets_2 : cX1_lets.data.toList.drop 47 = dktX1_lets_2 := dk_seg dksX1_lets_1 24 rfl rfl
theorem dX1_lets_0 : decode cX1_lets 0 = .ok (.aload_n 0, 1) := dk_42 (dk_at dksX1_lets_0 0 rfl rfl)
theorem dX1_lets_1 : decode cX1_lets 1 = .ok (.iload_n 1, 1) := dk_27 (dk_at dksX1_lets_0 1 rfl rfl)
theorem dX1_lets_2 : decode cX1_lets 2 = .ok (.invokevirtual 158, 3) := dk_182 0 158 (dk_at dksX1_lets_0 2 rfl rfl)
theorem dX1_lets_5 : decode cX1_lets 5 = .ok (.ifCond .eq 16, 3) := dk_153 0 16 (dk_at dksX1_lets_0 5 rfl rfl)
theorem dX1_lets_8 : decode cX1_lets 8 = .ok (.aload_n 0, 1) := dk_42 (dk_at dksX1_lets_0 8 rfl rfl)
theorem dX1_lets_9 : decode cX1_lets 9 = .ok (.iload_n 2, 1) := dk_28 (dk_at dksX1_lets_0 9 rfl rfl)
theorem dX1_lets_10 : decode cX1_lets 10 = .ok (.invokevirtual 158, 3) := dk_182 0 158 (dk_at dksX1_lets_0 10 rfl rfl)
theorem dX1_lets_13 : decode cX1_lets 13 = .ok (.ifCond .eq 8, 3) := dk_153 0 8 (dk_at dksX1_lets_0 13 rfl rfl)
theorem dX1_lets_16 : decode cX1_lets 16 = .ok (.iload_n 1, 1) := dk_27 (dk_at dksX1_lets_0 16 rfl rfl)
theorem dX1_lets_17 : decode cX1_lets 17 = .ok (.iload_n 2, 1) := dk_28 (dk_at dksX1_lets_0 17 rfl rfl)
theorem dX1_lets_18 : decode cX1_lets 18 = .ok (.if_icmp .ne 9, 3) := dk_160 0 9 (dk_at dksX1_lets_0 18 rfl rfl)
theorem dX1_lets_21 : decode cX1_lets 21 = .ok (.aload_n 0, 1) := dk_42 (dk_at dksX1_lets_0 21 rfl rfl)
theorem dX1_lets_22 : decode cX1_lets 22 = .ok (.iconst 1, 1) := dk_4 (dk_at dksX1_lets_0 22 rfl rfl)
theorem dX1_lets_23 : decode cX1_lets 23 = .ok (.invokevirtual 400, 3) := dk_182 1 144 (dk_at dksX1_lets_1 0 rfl rfl)
theorem dX1_lets_26 : decode cX1_lets 26 = .ok (.ireturn, 1) := dk_172 (dk_at dksX1_lets_1 3 rfl rfl)
theorem dX1_lets_27 : decode cX1_lets 27 = .ok (.aload_n 0, 1) := dk_42 (dk_at dksX1_lets_1 4 rfl rfl)
theorem dX1_lets_28 : decode cX1_lets 28 = .ok (.iload_n 1, 1) := dk_27 (dk_at dksX1_lets_1 5 rfl rfl)
theorem dX1_lets_29 : decode cX1_lets 29 = .ok (.iload_n 2, 1) := dk_28 (dk_at dksX1_lets_1 6 rfl rfl)
theorem dX1_lets_30 : decode cX1_lets 30 = .ok (.invokevirtual 321, 3) := dk_182 1 65 (dk_at dksX1_lets_1 7 rfl rfl)
theorem dX1_lets_33 : decode cX1_lets 33 = .ok (.ifCond .ne 9, 3) := dk_154 0 9 (dk_at dksX1_lets_1 10 rfl rfl)
theorem dX1_lets_36 : decode cX1_lets 36 = .ok (.aload_n 0, 1) := dk_42 (dk_at dksX1_lets_1 13 rfl rfl)
theorem dX1_lets_37 : decode cX1_lets 37 = .ok (.iconst 5, 1) := dk_8 (dk_at dksX1_lets_1 14 rfl rfl)
theorem dX1_lets_38 : decode cX1_lets 38 = .ok (.invokevirtual 400, 3) := dk_182 1 144 (dk_at dksX1_lets_1 15 rfl rfl)
theorem dX1_lets_41 : decode cX1_lets 41 = .ok (.ireturn, 1) := dk_172 (dk_at dksX1_lets_1 18 rfl rfl)
theorem dX1_lets_42 : decode cX1_lets 42 = .ok (.aload_n 0, 1) := dk_42 (dk_at dksX1_lets_1 19 rfl rfl)
theorem dX1_lets_43 : decode cX1_lets 43 = .ok (.invokevirtual 391, 3) := dk_182 1 135 (dk_at dksX1_lets_1 20 rfl rfl)
theorem dX1_lets_46 : decode cX1_lets 46 = .ok (.aload_n 0, 1) := dk_42 (dk_at dksX1_lets_1 23 rfl rfl)
theorem dX1_lets_47 : decode cX1_lets 47 = .ok (.getfield 140, 3) := dk_180 0 140 (dk_at dksX1_lets_2 0 rfl rfl)
theorem dX1_lets_50 : decode cX1_lets 50 = .ok (.getfield 171, 3) := dk_180 0 171 (dk_at dksX1_lets_2 3 rfl rfl)
theorem dX1_lets_53 : decode cX1_lets 53 = .ok (.iload_n 1, 1) := dk_27 (dk_at dksX1_lets_2 6 rfl rfl)
theorem dX1_lets_54 : decode cX1_lets 54 = .ok (.aload_n 0, 1) := dk_42 (dk_at dksX1_lets_2 7 rfl rfl)
theorem dX1_lets_55 : decode cX1_lets 55 = .ok (.getfield 140, 3) := dk_180 0 140 (dk_at dksX1_lets_2 8 rfl rfl)
theorem dX1_lets_58 : decode cX1_lets 58 = .ok (.getfield 171, 3) := dk_180 0 171 (dk_at dksX1_lets_2 11 rfl rfl)
theorem dX1_lets_61 : decode cX1_lets 61 = .ok (.iload_n 2, 1) := dk_28 (dk_at dksX1_lets_2 14 rfl rfl)
theorem dX1_lets_62 : decode cX1_lets 62 = .ok (.iaload, 1) := dk_46 (dk_at dksX1_lets_2 15 rfl rfl)
theorem dX1_lets_63 : decode cX1_lets 63 = .ok (.iconst 1, 1) := dk_4 (dk_at dksX1_lets_2 16 rfl rfl)
theorem dX1_lets_64 : decode cX1_lets 64 = .ok (.iadd, 1) := dk_96 (dk_at dksX1_lets_2 17 rfl rfl)
theorem dX1_lets_65 : decode cX1_lets 65 = .ok (.iastore, 1) := dk_79 (dk_at dksX1_lets_2 18 rfl rfl)
theorem dX1_lets_66 : decode cX1_lets 66 = .ok (.aload_n 0, 1) := dk_42 (dk_at dksX1_lets_2 19 rfl rfl)
theorem dX1_lets_67 : decode cX1_lets 67 = .ok (.invokevirtual 403, 3) := dk_182 1 147 (dk_at dksX1_lets_2 20 rfl rfl)
theorem dX1_lets_70 : decode cX1_lets 70 = .ok (.ireturn, 1) := dk_172 (dk_at dksX1_lets_2 23 rfl rfl)
abbrev cX1_calls : ByteArray := prog_1_method_72_code
def yX1_calls : MethodName := ⟨RX1, "calls", "(I)I"⟩
def dkwX1_calls_3 : List UInt8 := [172]
abbrev dktX1_calls_3 : List UInt8 := dkwX1_calls_3 ++ []
def dkwX1_calls_2 : List UInt8 := [180, 0, 168, 27, 46, 8, 96, 184, 1, 151, 79, 42, 42, 180, 0, 140, 180, 0, 168, 27, 46, 182, 0, 70]
abbrev dktX1_calls_2 : List UInt8 := dkwX1_calls_2 ++ dktX1_calls_3
def dkwX1_calls_1 : List UInt8 := [182, 0, 66, 172, 42, 182, 1, 135, 42, 180, 0, 140, 180, 0, 168, 27, 16, 99, 42, 180, 0, 140]
abbrev dktX1_calls_1 : List UInt8 := dkwX1_calls_1 ++ dktX1_calls_2
def dkwX1_calls_0 : List UInt8 := [42, 27, 182, 0, 158, 154, 0, 9, 42, 4, 182, 0, 66, 172, 42, 27, 182, 1, 141, 154, 0, 9, 42, 8]
abbrev dktX1_calls_0 : List UInt8 := dkwX1_calls_0 ++ dktX1_calls_1
theorem dksX1_calls_0 : cX1_calls.data.toList.drop 0 = dktX1_calls_0 := by decide +kernel
theorem dksX1_calls_1 : cX1_calls.data.toList.drop 24 = dktX1_calls_1 := dk_seg dksX1_calls_0 24 rfl rfl
theorem dksX1_calls_2 : cX1_calls.data.toList.drop 46 = dktX1_calls_2 := dk_seg dksX1_calls_1 22 rfl rfl
theorem dksX1_calls_3 : cX1_calls.data.toList.drop 70 = dktX1_calls_3 := dk_seg dksX1_calls_2 24 rfl rfl
theorem dX1_calls_0 : decode cX1_calls 0 = .ok (.aload_n 0, 1) := dk_42 (dk_at dksX1_calls_0 0 rfl rfl)
theorem dX1_calls_1 : decode cX1_calls 1 = .ok (.iload_n 1, 1) := dk_27 (dk_at dksX1_calls_0 1 rfl rfl)
theorem dX1_calls_2 : decode cX1_calls 2 = .ok (.invokevirtual 158, 3) := dk_182 0 158 (dk_at dksX1_calls_0 2 rfl rfl)
theorem dX1_calls_5 : decode cX1_calls 5 = .ok (.ifCond .ne 9, 3) := dk_154 0 9 (dk_at dksX1_calls_0 5 rfl rfl)
theorem dX1_calls_8 : decode cX1_calls 8 = .ok (.aload_n 0, 1) := dk_42 (dk_at dksX1_calls_0 8 rfl rfl)
theorem dX1_calls_9 : decode cX1_calls 9 = .ok (.iconst 1, 1) := dk_4 (dk_at dksX1_calls_0 9 rfl rfl)
theorem dX1_calls_10 : decode cX1_calls 10 = .ok (.invokevirtual 66, 3) := dk_182 0 66 (dk_at dksX1_calls_0 10 rfl rfl)
theorem dX1_calls_13 : decode cX1_calls 13 = .ok (.ireturn, 1) := dk_172 (dk_at dksX1_calls_0 13 rfl rfl)
theorem dX1_calls_14 : decode cX1_calls 14 = .ok (.aload_n 0, 1) := dk_42 (dk_at dksX1_calls_0 14 rfl rfl)
theorem dX1_calls_15 : decode cX1_calls 15 = .ok (.iload_n 1, 1) := dk_27 (dk_at dksX1_calls_0 15 rfl rfl)
theorem dX1_calls_16 : decode cX1_calls 16 = .ok (.invokevirtual 397, 3) := dk_182 1 141 (dk_at dksX1_calls_0 16 rfl rfl)
theorem dX1_calls_19 : decode cX1_calls 19 = .ok (.ifCond .ne 9, 3) := dk_154 0 9 (dk_at dksX1_calls_0 19 rfl rfl)
theorem dX1_calls_22 : decode cX1_calls 22 = .ok (.aload_n 0, 1) := dk_42 (dk_at dksX1_calls_0 22 rfl rfl)
theorem dX1_calls_23 : decode cX1_calls 23 = .ok (.iconst 5, 1) := dk_8 (dk_at dksX1_calls_0 23 rfl rfl)
theorem dX1_calls_24 : decode cX1_calls 24 = .ok (.invokevirtual 66, 3) := dk_182 0 66 (dk_at dksX1_calls_1 0 rfl rfl)
theorem dX1_calls_27 : decode cX1_calls 27 = .ok (.ireturn, 1) := dk_172 (dk_at dksX1_calls_1 3 rfl rfl)
theorem dX1_calls_28 : decode cX1_calls 28 = .ok (.aload_n 0, 1) := dk_42 (dk_at dksX1_calls_1 4 rfl rfl)
theorem dX1_calls_29 : decode cX1_calls 29 = .ok (.invokevirtual 391, 3) := dk_182 1 135 (dk_at dksX1_calls_1 5 rfl rfl)
theorem dX1_calls_32 : decode cX1_calls 32 = .ok (.aload_n 0, 1) := dk_42 (dk_at dksX1_calls_1 8 rfl rfl)
theorem dX1_calls_33 : decode cX1_calls 33 = .ok (.getfield 140, 3) := dk_180 0 140 (dk_at dksX1_calls_1 9 rfl rfl)
theorem dX1_calls_36 : decode cX1_calls 36 = .ok (.getfield 168, 3) := dk_180 0 168 (dk_at dksX1_calls_1 12 rfl rfl)
theorem dX1_calls_39 : decode cX1_calls 39 = .ok (.iload_n 1, 1) := dk_27 (dk_at dksX1_calls_1 15 rfl rfl)
theorem dX1_calls_40 : decode cX1_calls 40 = .ok (.bipush 99, 2) := dk_16 99 (dk_at dksX1_calls_1 16 rfl rfl)
theorem dX1_calls_42 : decode cX1_calls 42 = .ok (.aload_n 0, 1) := dk_42 (dk_at dksX1_calls_1 18 rfl rfl)
theorem dX1_calls_43 : decode cX1_calls 43 = .ok (.getfield 140, 3) := dk_180 0 140 (dk_at dksX1_calls_1 19 rfl rfl)
theorem dX1_calls_46 : decode cX1_calls 46 = .ok (.getfield 168, 3) := dk_180 0 168 (dk_at dksX1_calls_2 0 rfl rfl)
theorem dX1_calls_49 : decode cX1_calls 49 = .ok (.iload_n 1, 1) := dk_27 (dk_at dksX1_calls_2 3 rfl rfl)
theorem dX1_calls_50 : decode cX1_calls 50 = .ok (.iaload, 1) := dk_46 (dk_at dksX1_calls_2 4 rfl rfl)
theorem dX1_calls_51 : decode cX1_calls 51 = .ok (.iconst 5, 1) := dk_8 (dk_at dksX1_calls_2 5 rfl rfl)
theorem dX1_calls_52 : decode cX1_calls 52 = .ok (.iadd, 1) := dk_96 (dk_at dksX1_calls_2 6 rfl rfl)
theorem dX1_calls_53 : decode cX1_calls 53 = .ok (.invokestatic 407, 3) := dk_184 1 151 (dk_at dksX1_calls_2 7 rfl rfl)
theorem dX1_calls_56 : decode cX1_calls 56 = .ok (.iastore, 1) := dk_79 (dk_at dksX1_calls_2 10 rfl rfl)
theorem dX1_calls_57 : decode cX1_calls 57 = .ok (.aload_n 0, 1) := dk_42 (dk_at dksX1_calls_2 11 rfl rfl)
theorem dX1_calls_58 : decode cX1_calls 58 = .ok (.aload_n 0, 1) := dk_42 (dk_at dksX1_calls_2 12 rfl rfl)
theorem dX1_calls_59 : decode cX1_calls 59 = .ok (.getfield 140, 3) := dk_180 0 140 (dk_at dksX1_calls_2 13 rfl rfl)
theorem dX1_calls_62 : decode cX1_calls 62 = .ok (.getfield 168, 3) := dk_180 0 168 (dk_at dksX1_calls_2 16 rfl rfl)
theorem dX1_calls_65 : decode cX1_calls 65 = .ok (.iload_n 1, 1) := dk_27 (dk_at dksX1_calls_2 19 rfl rfl)
theorem dX1_calls_66 : decode cX1_calls 66 = .ok (.iaload, 1) := dk_46 (dk_at dksX1_calls_2 20 rfl rfl)
theorem dX1_calls_67 : decode cX1_calls 67 = .ok (.invokevirtual 70, 3) := dk_182 0 70 (dk_at dksX1_calls_2 21 rfl rfl)
theorem dX1_calls_70 : decode cX1_calls 70 = .ok (.ireturn, 1) := dk_172 (dk_at dksX1_calls_3 0 rfl rfl)
abbrev cX1_leaves : ByteArray := prog_1_method_73_code
def yX1_leaves : MethodName := ⟨RX1, "leaves", "(I)Z"⟩
def dkwX1_leaves_1 : List UInt8 := [182, 1, 144, 172, 42, 182, 1, 135, 42, 180, 0, 140, 180, 0, 195, 27, 8, 79, 42, 182, 1, 147, 172]
abbrev dktX1_leaves_1 : List UInt8 := dkwX1_leaves_1 ++ []
def dkwX1_leaves_0 : List UInt8 := [42, 27, 182, 0, 158, 154, 0, 9, 42, 4, 182, 1, 144, 172, 42, 27, 182, 1, 141, 154, 0, 9, 42, 8]
abbrev dktX1_leaves_0 : List UInt8 := dkwX1_leaves_0 ++ dktX1_leaves_1
theorem dksX1_leaves_0 : cX1_leaves.data.toList.drop 0 = dktX1_leaves_0 := by decide +kernel
theorem dksX1_leaves_1 : cX1_leaves.data.toList.drop 24 = dktX1_leaves_1 := dk_seg dksX1_leaves_0 24 rfl rfl
theorem dX1_leaves_0 : decode cX1_leaves 0 = .ok (.aload_n 0, 1) := dk_42 (dk_at dksX1_leaves_0 0 rfl rfl)
theorem dX1_leaves_1 : decode cX1_leaves 1 = .ok (.iload_n 1, 1) := dk_27 (dk_at dksX1_leaves_0 1 rfl rfl)
theorem dX1_leaves_2 : decode cX1_leaves 2 = .ok (.invokevirtual 158, 3) := dk_182 0 158 (dk_at dksX1_leaves_0 2 rfl rfl)
theorem dX1_leaves_5 : decode cX1_leaves 5 = .ok (.ifCond .ne 9, 3) := dk_154 0 9 (dk_at dksX1_leaves_0 5 rfl rfl)
theorem dX1_leaves_8 : decode cX1_leaves 8 = .ok (.aload_n 0, 1) := dk_42 (dk_at dksX1_leaves_0 8 rfl rfl)
theorem dX1_leaves_9 : decode cX1_leaves 9 = .ok (.iconst 1, 1) := dk_4 (dk_at dksX1_leaves_0 9 rfl rfl)
theorem dX1_leaves_10 : decode cX1_leaves 10 = .ok (.invokevirtual 400, 3) := dk_182 1 144 (dk_at dksX1_leaves_0 10 rfl rfl)
theorem dX1_leaves_13 : decode cX1_leaves 13 = .ok (.ireturn, 1) := dk_172 (dk_at dksX1_leaves_0 13 rfl rfl)
theorem dX1_leaves_14 : decode cX1_leaves 14 = .ok (.aload_n 0, 1) := dk_42 (dk_at dksX1_leaves_0 14 rfl rfl)
theorem dX1_leaves_15 : decode cX1_leaves 15 = .ok (.iload_n 1, 1) := dk_27 (dk_at dksX1_leaves_0 15 rfl rfl)
theorem dX1_leaves_16 : decode cX1_leaves 16 = .ok (.invokevirtual 397, 3) := dk_182 1 141 (dk_at dksX1_leaves_0 16 rfl rfl)
theorem dX1_leaves_19 : decode cX1_leaves 19 = .ok (.ifCond .ne 9, 3) := dk_154 0 9 (dk_at dksX1_leaves_0 19 rfl rfl)
theorem dX1_leaves_22 : decode cX1_leaves 22 = .ok (.aload_n 0, 1) := dk_42 (dk_at dksX1_leaves_0 22 rfl rfl)
theorem dX1_leaves_23 : decode cX1_leaves 23 = .ok (.iconst 5, 1) := dk_8 (dk_at dksX1_leaves_0 23 rfl rfl)
theorem dX1_leaves_24 : decode cX1_leaves 24 = .ok (.invokevirtual 400, 3) := dk_182 1 144 (dk_at dksX1_leaves_1 0 rfl rfl)
theorem dX1_leaves_27 : decode cX1_leaves 27 = .ok (.ireturn, 1) := dk_172 (dk_at dksX1_leaves_1 3 rfl rfl)
theorem dX1_leaves_28 : decode cX1_leaves 28 = .ok (.aload_n 0, 1) := dk_42 (dk_at dksX1_leaves_1 4 rfl rfl)
theorem dX1_leaves_29 : decode cX1_leaves 29 = .ok (.invokevirtual 391, 3) := dk_182 1 135 (dk_at dksX1_leaves_1 5 rfl rfl)
theorem dX1_leaves_32 : decode cX1_leaves 32 = .ok (.aload_n 0, 1) := dk_42 (dk_at dksX1_leaves_1 8 rfl rfl)
theorem dX1_leaves_33 : decode cX1_leaves 33 = .ok (.getfield 140, 3) := dk_180 0 140 (dk_at dksX1_leaves_1 9 rfl rfl)
theorem dX1_leaves_36 : decode cX1_leaves 36 = .ok (.getfield 195, 3) := dk_180 0 195 (dk_at dksX1_leaves_1 12 rfl rfl)
theorem dX1_leaves_39 : decode cX1_leaves 39 = .ok (.iload_n 1, 1) := dk_27 (dk_at dksX1_leaves_1 15 rfl rfl)
theorem dX1_leaves_40 : decode cX1_leaves 40 = .ok (.iconst 5, 1) := dk_8 (dk_at dksX1_leaves_1 16 rfl rfl)
theorem dX1_leaves_41 : decode cX1_leaves 41 = .ok (.iastore, 1) := dk_79 (dk_at dksX1_leaves_1 17 rfl rfl)
theorem dX1_leaves_42 : decode cX1_leaves 42 = .ok (.aload_n 0, 1) := dk_42 (dk_at dksX1_leaves_1 18 rfl rfl)
theorem dX1_leaves_43 : decode cX1_leaves 43 = .ok (.invokevirtual 403, 3) := dk_182 1 147 (dk_at dksX1_leaves_1 19 rfl rfl)
theorem dX1_leaves_46 : decode cX1_leaves 46 = .ok (.ireturn, 1) := dk_172 (dk_at dksX1_leaves_1 22 rfl rfl)
abbrev cX1_undo : ByteArray := prog_1_method_74_code
def yX1_undo : MethodName := ⟨RX1, "undo", "()Z"⟩
def dkwX1_undo_1 : List UInt8 := [180, 0, 35, 182, 0, 136, 4, 100, 182, 1, 128, 192, 0, 105, 182, 0, 124, 42, 182, 1, 147, 172]
abbrev dktX1_undo_1 : List UInt8 := dkwX1_undo_1 ++ []
def dkwX1_undo_0 : List UInt8 := [42, 180, 0, 35, 182, 1, 156, 153, 0, 10, 42, 16, 6, 182, 1, 144, 172, 42, 42, 180, 0, 35, 42]
abbrev dktX1_undo_0 : List UInt8 := dkwX1_undo_0 ++ dktX1_undo_1
theorem dksX1_undo_0 : cX1_undo.data.toList.drop 0 = dktX1_undo_0 := by decide +kernel
theorem dksX1_undo_1 : cX1_undo.data.toList.drop 23 = dktX1_undo_1 := dk_seg dksX1_undo_0 23 rfl rfl
theorem dX1_undo_0 : decode cX1_undo 0 = .ok (.aload_n 0, 1) := dk_42 (dk_at dksX1_undo_0 0 rfl rfl)
theorem dX1_undo_1 : decode cX1_undo 1 = .ok (.getfield 35, 3) := dk_180 0 35 (dk_at dksX1_undo_0 1 rfl rfl)
theorem dX1_undo_4 : decode cX1_undo 4 = .ok (.invokevirtual 412, 3) := dk_182 1 156 (dk_at dksX1_undo_0 4 rfl rfl)
theorem dX1_undo_7 : decode cX1_undo 7 = .ok (.ifCond .eq 10, 3) := dk_153 0 10 (dk_at dksX1_undo_0 7 rfl rfl)
theorem dX1_undo_10 : decode cX1_undo 10 = .ok (.aload_n 0, 1) := dk_42 (dk_at dksX1_undo_0 10 rfl rfl)
theorem dX1_undo_11 : decode cX1_undo 11 = .ok (.bipush 6, 2) := dk_16 6 (dk_at dksX1_undo_0 11 rfl rfl)
theorem dX1_undo_13 : decode cX1_undo 13 = .ok (.invokevirtual 400, 3) := dk_182 1 144 (dk_at dksX1_undo_0 13 rfl rfl)
theorem dX1_undo_16 : decode cX1_undo 16 = .ok (.ireturn, 1) := dk_172 (dk_at dksX1_undo_0 16 rfl rfl)
theorem dX1_undo_17 : decode cX1_undo 17 = .ok (.aload_n 0, 1) := dk_42 (dk_at dksX1_undo_0 17 rfl rfl)
theorem dX1_undo_18 : decode cX1_undo 18 = .ok (.aload_n 0, 1) := dk_42 (dk_at dksX1_undo_0 18 rfl rfl)
theorem dX1_undo_19 : decode cX1_undo 19 = .ok (.getfield 35, 3) := dk_180 0 35 (dk_at dksX1_undo_0 19 rfl rfl)
theorem dX1_undo_22 : decode cX1_undo 22 = .ok (.aload_n 0, 1) := dk_42 (dk_at dksX1_undo_0 22 rfl rfl)
theorem dX1_undo_23 : decode cX1_undo 23 = .ok (.getfield 35, 3) := dk_180 0 35 (dk_at dksX1_undo_1 0 rfl rfl)
theorem dX1_undo_26 : decode cX1_undo 26 = .ok (.invokevirtual 136, 3) := dk_182 0 136 (dk_at dksX1_undo_1 3 rfl rfl)
theorem dX1_undo_29 : decode cX1_undo 29 = .ok (.iconst 1, 1) := dk_4 (dk_at dksX1_undo_1 6 rfl rfl)
theorem dX1_undo_30 : decode cX1_undo 30 = .ok (.isub, 1) := dk_100 (dk_at dksX1_undo_1 7 rfl rfl)
theorem dX1_undo_31 : decode cX1_undo 31 = .ok (.invokevirtual 384, 3) := dk_182 1 128 (dk_at dksX1_undo_1 8 rfl rfl)
theorem dX1_undo_34 : decode cX1_undo 34 = .ok (.checkcast 105, 3) := dk_192 0 105 (dk_at dksX1_undo_1 11 rfl rfl)
theorem dX1_undo_37 : decode cX1_undo 37 = .ok (.invokevirtual 124, 3) := dk_182 0 124 (dk_at dksX1_undo_1 14 rfl rfl)
theorem dX1_undo_40 : decode cX1_undo 40 = .ok (.aload_n 0, 1) := dk_42 (dk_at dksX1_undo_1 17 rfl rfl)
theorem dX1_undo_41 : decode cX1_undo 41 = .ok (.invokevirtual 403, 3) := dk_182 1 147 (dk_at dksX1_undo_1 18 rfl rfl)
theorem dX1_undo_44 : decode cX1_undo 44 = .ok (.ireturn, 1) := dk_172 (dk_at dksX1_undo_1 21 rfl rfl)
abbrev cX1_image : ByteArray := prog_1_method_75_code
def yX1_image : MethodName := ⟨RX1, "image", "()I"⟩
def dkwX1_image_2 : List UInt8 := [180, 0, 39, 182, 0, 136, 4, 100, 182, 0, 70, 172]
abbrev dktX1_image_2 : List UInt8 := dkwX1_image_2 ++ []
def dkwX1_image_1 : List UInt8 := [42, 6, 182, 0, 66, 172, 42, 180, 0, 39, 42, 180, 0, 140, 182, 0, 120, 182, 1, 131, 87, 42, 42]
abbrev dktX1_image_1 : List UInt8 := dkwX1_image_1 ++ dktX1_image_2
def dkwX1_image_0 : List UInt8 := [42, 180, 0, 101, 199, 0, 9, 42, 4, 182, 0, 66, 172, 42, 180, 0, 39, 182, 0, 136, 6, 160, 0, 9]
abbrev dktX1_image_0 : List UInt8 := dkwX1_image_0 ++ dktX1_image_1
theorem dksX1_image_0 : cX1_image.data.toList.drop 0 = dktX1_image_0 := by decide +kernel
theorem dksX1_image_1 : cX1_image.data.toList.drop 24 = dktX1_image_1 := dk_seg dksX1_image_0 24 rfl rfl
theorem dksX1_image_2 : cX1_image.data.toList.drop 47 = dktX1_image_2 := dk_seg dksX1_image_1 23 rfl rfl
theorem dX1_image_0 : decode cX1_image 0 = .ok (.aload_n 0, 1) := dk_42 (dk_at dksX1_image_0 0 rfl rfl)
theorem dX1_image_1 : decode cX1_image 1 = .ok (.getfield 101, 3) := dk_180 0 101 (dk_at dksX1_image_0 1 rfl rfl)
theorem dX1_image_4 : decode cX1_image 4 = .ok (.ifnonnull 9, 3) := dk_199 0 9 (dk_at dksX1_image_0 4 rfl rfl)
theorem dX1_image_7 : decode cX1_image 7 = .ok (.aload_n 0, 1) := dk_42 (dk_at dksX1_image_0 7 rfl rfl)
theorem dX1_image_8 : decode cX1_image 8 = .ok (.iconst 1, 1) := dk_4 (dk_at dksX1_image_0 8 rfl rfl)
theorem dX1_image_9 : decode cX1_image 9 = .ok (.invokevirtual 66, 3) := dk_182 0 66 (dk_at dksX1_image_0 9 rfl rfl)
theorem dX1_image_12 : decode cX1_image 12 = .ok (.ireturn, 1) := dk_172 (dk_at dksX1_image_0 12 rfl rfl)
theorem dX1_image_13 : decode cX1_image 13 = .ok (.aload_n 0, 1) := dk_42 (dk_at dksX1_image_0 13 rfl rfl)
theorem dX1_image_14 : decode cX1_image 14 = .ok (.getfield 39, 3) := dk_180 0 39 (dk_at dksX1_image_0 14 rfl rfl)
theorem dX1_image_17 : decode cX1_image 17 = .ok (.invokevirtual 136, 3) := dk_182 0 136 (dk_at dksX1_image_0 17 rfl rfl)
theorem dX1_image_20 : decode cX1_image 20 = .ok (.iconst 3, 1) := dk_6 (dk_at dksX1_image_0 20 rfl rfl)
theorem dX1_image_21 : decode cX1_image 21 = .ok (.if_icmp .ne 9, 3) := dk_160 0 9 (dk_at dksX1_image_0 21 rfl rfl)
theorem dX1_image_24 : decode cX1_image 24 = .ok (.aload_n 0, 1) := dk_42 (dk_at dksX1_image_1 0 rfl rfl)
theorem dX1_image_25 : decode cX1_image 25 = .ok (.iconst 3, 1) := dk_6 (dk_at dksX1_image_1 1 rfl rfl)
theorem dX1_image_26 : decode cX1_image 26 = .ok (.invokevirtual 66, 3) := dk_182 0 66 (dk_at dksX1_image_1 2 rfl rfl)
theorem dX1_image_29 : decode cX1_image 29 = .ok (.ireturn, 1) := dk_172 (dk_at dksX1_image_1 5 rfl rfl)
theorem dX1_image_30 : decode cX1_image 30 = .ok (.aload_n 0, 1) := dk_42 (dk_at dksX1_image_1 6 rfl rfl)
theorem dX1_image_31 : decode cX1_image 31 = .ok (.getfield 39, 3) := dk_180 0 39 (dk_at dksX1_image_1 7 rfl rfl)
theorem dX1_image_34 : decode cX1_image 34 = .ok (.aload_n 0, 1) := dk_42 (dk_at dksX1_image_1 10 rfl rfl)
theorem dX1_image_35 : decode cX1_image 35 = .ok (.getfield 140, 3) := dk_180 0 140 (dk_at dksX1_image_1 11 rfl rfl)
theorem dX1_image_38 : decode cX1_image 38 = .ok (.invokevirtual 120, 3) := dk_182 0 120 (dk_at dksX1_image_1 14 rfl rfl)
theorem dX1_image_41 : decode cX1_image 41 = .ok (.invokevirtual 387, 3) := dk_182 1 131 (dk_at dksX1_image_1 17 rfl rfl)
theorem dX1_image_44 : decode cX1_image 44 = .ok (.pop, 1) := dk_87 (dk_at dksX1_image_1 20 rfl rfl)
theorem dX1_image_45 : decode cX1_image 45 = .ok (.aload_n 0, 1) := dk_42 (dk_at dksX1_image_1 21 rfl rfl)
theorem dX1_image_46 : decode cX1_image 46 = .ok (.aload_n 0, 1) := dk_42 (dk_at dksX1_image_1 22 rfl rfl)
theorem dX1_image_47 : decode cX1_image 47 = .ok (.getfield 39, 3) := dk_180 0 39 (dk_at dksX1_image_2 0 rfl rfl)
theorem dX1_image_50 : decode cX1_image 50 = .ok (.invokevirtual 136, 3) := dk_182 0 136 (dk_at dksX1_image_2 3 rfl rfl)
theorem dX1_image_53 : decode cX1_image 53 = .ok (.iconst 1, 1) := dk_4 (dk_at dksX1_image_2 6 rfl rfl)
theorem dX1_image_54 : decode cX1_image 54 = .ok (.isub, 1) := dk_100 (dk_at dksX1_image_2 7 rfl rfl)
theorem dX1_image_55 : decode cX1_image 55 = .ok (.invokevirtual 70, 3) := dk_182 0 70 (dk_at dksX1_image_2 8 rfl rfl)
theorem dX1_image_58 : decode cX1_image 58 = .ok (.ireturn, 1) := dk_172 (dk_at dksX1_image_2 11 rfl rfl)
abbrev cX1_back : ByteArray := prog_1_method_76_code
def yX1_back : MethodName := ⟨RX1, "back", "(I)Z"⟩
def dkwX1_back_2 : List UInt8 := [42, 182, 1, 147, 172]
abbrev dktX1_back_2 : List UInt8 := dkwX1_back_2 ++ []
def dkwX1_back_1 : List UInt8 := [42, 180, 0, 39, 27, 182, 1, 35, 192, 0, 105, 182, 0, 120, 182, 0, 124, 42, 180, 0, 35, 182, 0, 128]
abbrev dktX1_back_1 : List UInt8 := dkwX1_back_1 ++ dktX1_back_2
def dkwX1_back_0 : List UInt8 := [27, 3, 42, 180, 0, 39, 182, 0, 136, 4, 100, 184, 0, 76, 154, 0, 9, 42, 4, 182, 1, 144, 172, 42]
abbrev dktX1_back_0 : List UInt8 := dkwX1_back_0 ++ dktX1_back_1
theorem dksX1_back_0 : cX1_back.data.toList.drop 0 = dktX1_back_0 := by decide +kernel
theorem dksX1_back_1 : cX1_back.data.toList.drop 24 = dktX1_back_1 := dk_seg dksX1_back_0 24 rfl rfl
theorem dksX1_back_2 : cX1_back.data.toList.drop 48 = dktX1_back_2 := dk_seg dksX1_back_1 24 rfl rfl
theorem dX1_back_0 : decode cX1_back 0 = .ok (.iload_n 1, 1) := dk_27 (dk_at dksX1_back_0 0 rfl rfl)
theorem dX1_back_1 : decode cX1_back 1 = .ok (.iconst 0, 1) := dk_3 (dk_at dksX1_back_0 1 rfl rfl)
theorem dX1_back_2 : decode cX1_back 2 = .ok (.aload_n 0, 1) := dk_42 (dk_at dksX1_back_0 2 rfl rfl)
theorem dX1_back_3 : decode cX1_back 3 = .ok (.getfield 39, 3) := dk_180 0 39 (dk_at dksX1_back_0 3 rfl rfl)
theorem dX1_back_6 : decode cX1_back 6 = .ok (.invokevirtual 136, 3) := dk_182 0 136 (dk_at dksX1_back_0 6 rfl rfl)
theorem dX1_back_9 : decode cX1_back 9 = .ok (.iconst 1, 1) := dk_4 (dk_at dksX1_back_0 9 rfl rfl)
theorem dX1_back_10 : decode cX1_back 10 = .ok (.isub, 1) := dk_100 (dk_at dksX1_back_0 10 rfl rfl)
theorem dX1_back_11 : decode cX1_back 11 = .ok (.invokestatic 76, 3) := dk_184 0 76 (dk_at dksX1_back_0 11 rfl rfl)
theorem dX1_back_14 : decode cX1_back 14 = .ok (.ifCond .ne 9, 3) := dk_154 0 9 (dk_at dksX1_back_0 14 rfl rfl)
theorem dX1_back_17 : decode cX1_back 17 = .ok (.aload_n 0, 1) := dk_42 (dk_at dksX1_back_0 17 rfl rfl)
theorem dX1_back_18 : decode cX1_back 18 = .ok (.iconst 1, 1) := dk_4 (dk_at dksX1_back_0 18 rfl rfl)
theorem dX1_back_19 : decode cX1_back 19 = .ok (.invokevirtual 400, 3) := dk_182 1 144 (dk_at dksX1_back_0 19 rfl rfl)
theorem dX1_back_22 : decode cX1_back 22 = .ok (.ireturn, 1) := dk_172 (dk_at dksX1_back_0 22 rfl rfl)
theorem dX1_back_23 : decode cX1_back 23 = .ok (.aload_n 0, 1) := dk_42 (dk_at dksX1_back_0 23 rfl rfl)
theorem dX1_back_24 : decode cX1_back 24 = .ok (.aload_n 0, 1) := dk_42 (dk_at dksX1_back_1 0 rfl rfl)
theorem dX1_back_25 : decode cX1_back 25 = .ok (.getfield 39, 3) := dk_180 0 39 (dk_at dksX1_back_1 1 rfl rfl)
theorem dX1_back_28 : decode cX1_back 28 = .ok (.iload_n 1, 1) := dk_27 (dk_at dksX1_back_1 4 rfl rfl)
theorem dX1_back_29 : decode cX1_back 29 = .ok (.invokevirtual 291, 3) := dk_182 1 35 (dk_at dksX1_back_1 5 rfl rfl)
theorem dX1_back_32 : decode cX1_back 32 = .ok (.checkcast 105, 3) := dk_192 0 105 (dk_at dksX1_back_1 8 rfl rfl)
theorem dX1_back_35 : decode cX1_back 35 = .ok (.invokevirtual 120, 3) := dk_182 0 120 (dk_at dksX1_back_1 11 rfl rfl)
theorem dX1_back_38 : decode cX1_back 38 = .ok (.invokevirtual 124, 3) := dk_182 0 124 (dk_at dksX1_back_1 14 rfl rfl)
theorem dX1_back_41 : decode cX1_back 41 = .ok (.aload_n 0, 1) := dk_42 (dk_at dksX1_back_1 17 rfl rfl)
theorem dX1_back_42 : decode cX1_back 42 = .ok (.getfield 35, 3) := dk_180 0 35 (dk_at dksX1_back_1 18 rfl rfl)
theorem dX1_back_45 : decode cX1_back 45 = .ok (.invokevirtual 128, 3) := dk_182 0 128 (dk_at dksX1_back_1 21 rfl rfl)
theorem dX1_back_48 : decode cX1_back 48 = .ok (.aload_n 0, 1) := dk_42 (dk_at dksX1_back_2 0 rfl rfl)
theorem dX1_back_49 : decode cX1_back 49 = .ok (.invokevirtual 403, 3) := dk_182 1 147 (dk_at dksX1_back_2 1 rfl rfl)
theorem dX1_back_52 : decode cX1_back 52 = .ok (.ireturn, 1) := dk_172 (dk_at dksX1_back_2 4 rfl rfl)
abbrev cX1_told : ByteArray := prog_1_method_77_code
def yX1_told : MethodName := ⟨RX1, "told", "(II)I"⟩
def dkwX1_told_5 : List UInt8 := [182, 0, 70, 172, 42, 45, 180, 1, 172, 182, 0, 70, 172, 42, 45, 180, 1, 174, 182, 0, 70, 172]
abbrev dktX1_told_5 : List UInt8 := dkwX1_told_5 ++ []
def dkwX1_told_4 : List UInt8 := [42, 45, 180, 1, 41, 182, 0, 70, 172, 42, 45, 180, 1, 168, 182, 0, 70, 172, 42, 45, 180, 1, 169]
abbrev dktX1_told_4 : List UInt8 := dkwX1_told_4 ++ dktX1_told_5
def dkwX1_told_3 : List UInt8 := [42, 45, 180, 1, 159, 182, 1, 162, 182, 0, 70, 172, 42, 45, 180, 1, 159, 180, 1, 165, 182, 0, 70, 172]
abbrev dktX1_told_3 : List UInt8 := dkwX1_told_3 ++ dktX1_told_4
def dkwX1_told_2 : List UInt8 := [170, 0, 0, 0, 0, 0, 0, 100, 0, 0, 0, 0, 0, 0, 0, 5, 0, 0, 0, 40, 0, 0, 0, 52, 0, 0, 0, 64, 0, 0, 0, 73, 0, 0, 0, 82, 0, 0, 0, 91]
abbrev dktX1_told_2 : List UInt8 := dkwX1_told_2 ++ dktX1_told_3
def dkwX1_told_1 : List UInt8 := [42, 180, 0, 101, 180, 0, 131, 27, 182, 1, 35, 192, 1, 39, 78, 28]
abbrev dktX1_told_1 : List UInt8 := dkwX1_told_1 ++ dktX1_told_2
def dkwX1_told_0 : List UInt8 := [42, 27, 182, 0, 158, 153, 0, 13, 28, 3, 16, 6, 184, 0, 76, 154, 0, 9, 42, 4, 182, 0, 66, 172]
abbrev dktX1_told_0 : List UInt8 := dkwX1_told_0 ++ dktX1_told_1
theorem dksX1_told_0 : cX1_told.data.toList.drop 0 = dktX1_told_0 := by decide +kernel
theorem dksX1_told_1 : cX1_told.data.toList.drop 24 = dktX1_told_1 := dk_seg dksX1_told_0 24 rfl rfl
theorem dksX1_told_2 : cX1_told.data.toList.drop 40 = dktX1_told_2 := dk_seg dksX1_told_1 16 rfl rfl
theorem dksX1_told_3 : cX1_told.data.toList.drop 80 = dktX1_told_3 := dk_seg dksX1_told_2 40 rfl rfl
theorem dksX1_told_4 : cX1_told.data.toList.drop 104 = dktX1_told_4 := dk_seg dksX1_told_3 24 rfl rfl
theorem dksX1_told_5 : cX1_told.data.toList.drop 127 = dktX1_told_5 := dk_seg dksX1_told_4 23 rfl rfl
theorem dX1_told_0 : decode cX1_told 0 = .ok (.aload_n 0, 1) := dk_42 (dk_at dksX1_told_0 0 rfl rfl)
theorem dX1_told_1 : decode cX1_told 1 = .ok (.iload_n 1, 1) := dk_27 (dk_at dksX1_told_0 1 rfl rfl)
theorem dX1_told_2 : decode cX1_told 2 = .ok (.invokevirtual 158, 3) := dk_182 0 158 (dk_at dksX1_told_0 2 rfl rfl)
theorem dX1_told_5 : decode cX1_told 5 = .ok (.ifCond .eq 13, 3) := dk_153 0 13 (dk_at dksX1_told_0 5 rfl rfl)
theorem dX1_told_8 : decode cX1_told 8 = .ok (.iload_n 2, 1) := dk_28 (dk_at dksX1_told_0 8 rfl rfl)
theorem dX1_told_9 : decode cX1_told 9 = .ok (.iconst 0, 1) := dk_3 (dk_at dksX1_told_0 9 rfl rfl)
theorem dX1_told_10 : decode cX1_told 10 = .ok (.bipush 6, 2) := dk_16 6 (dk_at dksX1_told_0 10 rfl rfl)
theorem dX1_told_12 : decode cX1_told 12 = .ok (.invokestatic 76, 3) := dk_184 0 76 (dk_at dksX1_told_0 12 rfl rfl)
theorem dX1_told_15 : decode cX1_told 15 = .ok (.ifCond .ne 9, 3) := dk_154 0 9 (dk_at dksX1_told_0 15 rfl rfl)
theorem dX1_told_18 : decode cX1_told 18 = .ok (.aload_n 0, 1) := dk_42 (dk_at dksX1_told_0 18 rfl rfl)
theorem dX1_told_19 : decode cX1_told 19 = .ok (.iconst 1, 1) := dk_4 (dk_at dksX1_told_0 19 rfl rfl)
theorem dX1_told_20 : decode cX1_told 20 = .ok (.invokevirtual 66, 3) := dk_182 0 66 (dk_at dksX1_told_0 20 rfl rfl)
theorem dX1_told_23 : decode cX1_told 23 = .ok (.ireturn, 1) := dk_172 (dk_at dksX1_told_0 23 rfl rfl)
theorem dX1_told_24 : decode cX1_told 24 = .ok (.aload_n 0, 1) := dk_42 (dk_at dksX1_told_1 0 rfl rfl)
theorem dX1_told_25 : decode cX1_told 25 = .ok (.getfield 101, 3) := dk_180 0 101 (dk_at dksX1_told_1 1 rfl rfl)
theorem dX1_told_28 : decode cX1_told 28 = .ok (.getfield 131, 3) := dk_180 0 131 (dk_at dksX1_told_1 4 rfl rfl)
theorem dX1_told_31 : decode cX1_told 31 = .ok (.iload_n 1, 1) := dk_27 (dk_at dksX1_told_1 7 rfl rfl)
theorem dX1_told_32 : decode cX1_told 32 = .ok (.invokevirtual 291, 3) := dk_182 1 35 (dk_at dksX1_told_1 8 rfl rfl)
theorem dX1_told_35 : decode cX1_told 35 = .ok (.checkcast 295, 3) := dk_192 1 39 (dk_at dksX1_told_1 11 rfl rfl)
theorem dX1_told_38 : decode cX1_told 38 = .ok (.astore_n 3, 1) := dk_78 (dk_at dksX1_told_1 14 rfl rfl)
theorem dX1_told_39 : decode cX1_told 39 = .ok (.iload_n 2, 1) := dk_28 (dk_at dksX1_told_1 15 rfl rfl)
theorem dX1_told_40 : decode cX1_told 40 = .ok (.tableswitch 100 0 5 #[40, 52, 64, 73, 82, 91], 40) := by decide +kernel
theorem dX1_told_80 : decode cX1_told 80 = .ok (.aload_n 0, 1) := dk_42 (dk_at dksX1_told_3 0 rfl rfl)
theorem dX1_told_81 : decode cX1_told 81 = .ok (.aload_n 3, 1) := dk_45 (dk_at dksX1_told_3 1 rfl rfl)
theorem dX1_told_82 : decode cX1_told 82 = .ok (.getfield 415, 3) := dk_180 1 159 (dk_at dksX1_told_3 2 rfl rfl)
theorem dX1_told_85 : decode cX1_told 85 = .ok (.invokevirtual 418, 3) := dk_182 1 162 (dk_at dksX1_told_3 5 rfl rfl)
theorem dX1_told_88 : decode cX1_told 88 = .ok (.invokevirtual 70, 3) := dk_182 0 70 (dk_at dksX1_told_3 8 rfl rfl)
theorem dX1_told_91 : decode cX1_told 91 = .ok (.ireturn, 1) := dk_172 (dk_at dksX1_told_3 11 rfl rfl)
theorem dX1_told_92 : decode cX1_told 92 = .ok (.aload_n 0, 1) := dk_42 (dk_at dksX1_told_3 12 rfl rfl)
theorem dX1_told_93 : decode cX1_told 93 = .ok (.aload_n 3, 1) := dk_45 (dk_at dksX1_told_3 13 rfl rfl)
theorem dX1_told_94 : decode cX1_told 94 = .ok (.getfield 415, 3) := dk_180 1 159 (dk_at dksX1_told_3 14 rfl rfl)
theorem dX1_told_97 : decode cX1_told 97 = .ok (.getfield 421, 3) := dk_180 1 165 (dk_at dksX1_told_3 17 rfl rfl)
theorem dX1_told_100 : decode cX1_told 100 = .ok (.invokevirtual 70, 3) := dk_182 0 70 (dk_at dksX1_told_3 20 rfl rfl)
theorem dX1_told_103 : decode cX1_told 103 = .ok (.ireturn, 1) := dk_172 (dk_at dksX1_told_3 23 rfl rfl)
theorem dX1_told_104 : decode cX1_told 104 = .ok (.aload_n 0, 1) := dk_42 (dk_at dksX1_told_4 0 rfl rfl)
theorem dX1_told_105 : decode cX1_told 105 = .ok (.aload_n 3, 1) := dk_45 (dk_at dksX1_told_4 1 rfl rfl)
theorem dX1_told_106 : decode cX1_told 106 = .ok (.getfield 297, 3) := dk_180 1 41 (dk_at dksX1_told_4 2 rfl rfl)
theorem dX1_told_109 : decode cX1_told 109 = .ok (.invokevirtual 70, 3) := dk_182 0 70 (dk_at dksX1_told_4 5 rfl rfl)
theorem dX1_told_112 : decode cX1_told 112 = .ok (.ireturn, 1) := dk_172 (dk_at dksX1_told_4 8 rfl rfl)
theorem dX1_told_113 : decode cX1_told 113 = .ok (.aload_n 0, 1) := dk_42 (dk_at dksX1_told_4 9 rfl rfl)
theorem dX1_told_114 : decode cX1_told 114 = .ok (.aload_n 3, 1) := dk_45 (dk_at dksX1_told_4 10 rfl rfl)
theorem dX1_told_115 : decode cX1_told 115 = .ok (.getfield 424, 3) := dk_180 1 168 (dk_at dksX1_told_4 11 rfl rfl)
theorem dX1_told_118 : decode cX1_told 118 = .ok (.invokevirtual 70, 3) := dk_182 0 70 (dk_at dksX1_told_4 14 rfl rfl)
theorem dX1_told_121 : decode cX1_told 121 = .ok (.ireturn, 1) := dk_172 (dk_at dksX1_told_4 17 rfl rfl)
theorem dX1_told_122 : decode cX1_told 122 = .ok (.aload_n 0, 1) := dk_42 (dk_at dksX1_told_4 18 rfl rfl)
theorem dX1_told_123 : decode cX1_told 123 = .ok (.aload_n 3, 1) := dk_45 (dk_at dksX1_told_4 19 rfl rfl)
theorem dX1_told_124 : decode cX1_told 124 = .ok (.getfield 425, 3) := dk_180 1 169 (dk_at dksX1_told_4 20 rfl rfl)
theorem dX1_told_127 : decode cX1_told 127 = .ok (.invokevirtual 70, 3) := dk_182 0 70 (dk_at dksX1_told_5 0 rfl rfl)
theorem dX1_told_130 : decode cX1_told 130 = .ok (.ireturn, 1) := dk_172 (dk_at dksX1_told_5 3 rfl rfl)
theorem dX1_told_131 : decode cX1_told 131 = .ok (.aload_n 0, 1) := dk_42 (dk_at dksX1_told_5 4 rfl rfl)
theorem dX1_told_132 : decode cX1_told 132 = .ok (.aload_n 3, 1) := dk_45 (dk_at dksX1_told_5 5 rfl rfl)
theorem dX1_told_133 : decode cX1_told 133 = .ok (.getfield 428, 3) := dk_180 1 172 (dk_at dksX1_told_5 6 rfl rfl)
theorem dX1_told_136 : decode cX1_told 136 = .ok (.invokevirtual 70, 3) := dk_182 0 70 (dk_at dksX1_told_5 9 rfl rfl)
theorem dX1_told_139 : decode cX1_told 139 = .ok (.ireturn, 1) := dk_172 (dk_at dksX1_told_5 12 rfl rfl)
theorem dX1_told_140 : decode cX1_told 140 = .ok (.aload_n 0, 1) := dk_42 (dk_at dksX1_told_5 13 rfl rfl)
theorem dX1_told_141 : decode cX1_told 141 = .ok (.aload_n 3, 1) := dk_45 (dk_at dksX1_told_5 14 rfl rfl)
theorem dX1_told_142 : decode cX1_told 142 = .ok (.getfield 430, 3) := dk_180 1 174 (dk_at dksX1_told_5 15 rfl rfl)
theorem dX1_told_145 : decode cX1_told 145 = .ok (.invokevirtual 70, 3) := dk_182 0 70 (dk_at dksX1_told_5 18 rfl rfl)
theorem dX1_told_148 : decode cX1_told 148 = .ok (.ireturn, 1) := dk_172 (dk_at dksX1_told_5 21 rfl rfl)
abbrev cX1_wants : ByteArray := prog_1_method_78_code
def yX1_wants : MethodName := ⟨RX1, "wants", "(II)I"⟩
def dkwX1_wants_2 : List UInt8 := [28, 46, 182, 0, 70, 167, 0, 8, 42, 4, 182, 0, 66, 172]
abbrev dktX1_wants_2 : List UInt8 := dkwX1_wants_2 ++ []
def dkwX1_wants_1 : List UInt8 := [184, 0, 76, 153, 0, 29, 42, 42, 180, 0, 101, 180, 0, 131, 27, 182, 1, 35, 192, 1, 39, 180, 1, 179]
abbrev dktX1_wants_1 : List UInt8 := dkwX1_wants_1 ++ dktX1_wants_2
def dkwX1_wants_0 : List UInt8 := [42, 27, 182, 0, 158, 153, 0, 49, 28, 3, 42, 180, 0, 101, 180, 1, 176, 182, 0, 136, 4, 100]
abbrev dktX1_wants_0 : List UInt8 := dkwX1_wants_0 ++ dktX1_wants_1
theorem dksX1_wants_0 : cX1_wants.data.toList.drop 0 = dktX1_wants_0 := by decide +kernel
theorem dksX1_wants_1 : cX1_wants.data.toList.drop 22 = dktX1_wants_1 := dk_seg dksX1_wants_0 22 rfl rfl
theorem dksX1_wants_2 : cX1_wants.data.toList.drop 46 = dktX1_wants_2 := dk_seg dksX1_wants_1 24 rfl rfl
theorem dX1_wants_0 : decode cX1_wants 0 = .ok (.aload_n 0, 1) := dk_42 (dk_at dksX1_wants_0 0 rfl rfl)
theorem dX1_wants_1 : decode cX1_wants 1 = .ok (.iload_n 1, 1) := dk_27 (dk_at dksX1_wants_0 1 rfl rfl)
theorem dX1_wants_2 : decode cX1_wants 2 = .ok (.invokevirtual 158, 3) := dk_182 0 158 (dk_at dksX1_wants_0 2 rfl rfl)
theorem dX1_wants_5 : decode cX1_wants 5 = .ok (.ifCond .eq 49, 3) := dk_153 0 49 (dk_at dksX1_wants_0 5 rfl rfl)
theorem dX1_wants_8 : decode cX1_wants 8 = .ok (.iload_n 2, 1) := dk_28 (dk_at dksX1_wants_0 8 rfl rfl)
theorem dX1_wants_9 : decode cX1_wants 9 = .ok (.iconst 0, 1) := dk_3 (dk_at dksX1_wants_0 9 rfl rfl)
theorem dX1_wants_10 : decode cX1_wants 10 = .ok (.aload_n 0, 1) := dk_42 (dk_at dksX1_wants_0 10 rfl rfl)
theorem dX1_wants_11 : decode cX1_wants 11 = .ok (.getfield 101, 3) := dk_180 0 101 (dk_at dksX1_wants_0 11 rfl rfl)
theorem dX1_wants_14 : decode cX1_wants 14 = .ok (.getfield 432, 3) := dk_180 1 176 (dk_at dksX1_wants_0 14 rfl rfl)
theorem dX1_wants_17 : decode cX1_wants 17 = .ok (.invokevirtual 136, 3) := dk_182 0 136 (dk_at dksX1_wants_0 17 rfl rfl)
theorem dX1_wants_20 : decode cX1_wants 20 = .ok (.iconst 1, 1) := dk_4 (dk_at dksX1_wants_0 20 rfl rfl)
theorem dX1_wants_21 : decode cX1_wants 21 = .ok (.isub, 1) := dk_100 (dk_at dksX1_wants_0 21 rfl rfl)
theorem dX1_wants_22 : decode cX1_wants 22 = .ok (.invokestatic 76, 3) := dk_184 0 76 (dk_at dksX1_wants_1 0 rfl rfl)
theorem dX1_wants_25 : decode cX1_wants 25 = .ok (.ifCond .eq 29, 3) := dk_153 0 29 (dk_at dksX1_wants_1 3 rfl rfl)
theorem dX1_wants_28 : decode cX1_wants 28 = .ok (.aload_n 0, 1) := dk_42 (dk_at dksX1_wants_1 6 rfl rfl)
theorem dX1_wants_29 : decode cX1_wants 29 = .ok (.aload_n 0, 1) := dk_42 (dk_at dksX1_wants_1 7 rfl rfl)
theorem dX1_wants_30 : decode cX1_wants 30 = .ok (.getfield 101, 3) := dk_180 0 101 (dk_at dksX1_wants_1 8 rfl rfl)
theorem dX1_wants_33 : decode cX1_wants 33 = .ok (.getfield 131, 3) := dk_180 0 131 (dk_at dksX1_wants_1 11 rfl rfl)
theorem dX1_wants_36 : decode cX1_wants 36 = .ok (.iload_n 1, 1) := dk_27 (dk_at dksX1_wants_1 14 rfl rfl)
theorem dX1_wants_37 : decode cX1_wants 37 = .ok (.invokevirtual 291, 3) := dk_182 1 35 (dk_at dksX1_wants_1 15 rfl rfl)
theorem dX1_wants_40 : decode cX1_wants 40 = .ok (.checkcast 295, 3) := dk_192 1 39 (dk_at dksX1_wants_1 18 rfl rfl)
theorem dX1_wants_43 : decode cX1_wants 43 = .ok (.getfield 435, 3) := dk_180 1 179 (dk_at dksX1_wants_1 21 rfl rfl)
theorem dX1_wants_46 : decode cX1_wants 46 = .ok (.iload_n 2, 1) := dk_28 (dk_at dksX1_wants_2 0 rfl rfl)
theorem dX1_wants_47 : decode cX1_wants 47 = .ok (.iaload, 1) := dk_46 (dk_at dksX1_wants_2 1 rfl rfl)
theorem dX1_wants_48 : decode cX1_wants 48 = .ok (.invokevirtual 70, 3) := dk_182 0 70 (dk_at dksX1_wants_2 2 rfl rfl)
theorem dX1_wants_51 : decode cX1_wants 51 = .ok (.goto 8, 3) := dk_167 0 8 (dk_at dksX1_wants_2 5 rfl rfl)
theorem dX1_wants_54 : decode cX1_wants 54 = .ok (.aload_n 0, 1) := dk_42 (dk_at dksX1_wants_2 8 rfl rfl)
theorem dX1_wants_55 : decode cX1_wants 55 = .ok (.iconst 1, 1) := dk_4 (dk_at dksX1_wants_2 9 rfl rfl)
theorem dX1_wants_56 : decode cX1_wants 56 = .ok (.invokevirtual 66, 3) := dk_182 0 66 (dk_at dksX1_wants_2 10 rfl rfl)
theorem dX1_wants_59 : decode cX1_wants 59 = .ok (.ireturn, 1) := dk_172 (dk_at dksX1_wants_2 13 rfl rfl)
abbrev cX1_size : ByteArray := prog_1_method_80_code
def yX1_size : MethodName := ⟨RX1, "size", "(I)I"⟩
def dkwX1_size_6 : List UInt8 := [180, 0, 140, 180, 1, 69, 172, 42, 180, 0, 35, 182, 0, 136, 172, 42, 180, 0, 39, 182, 0, 136, 172]
abbrev dktX1_size_6 : List UInt8 := dkwX1_size_6 ++ []
def dkwX1_size_5 : List UInt8 := [182, 0, 136, 172, 42, 180, 0, 101, 180, 1, 185, 172, 42, 180, 0, 101, 180, 1, 116, 182, 0, 136, 172, 42]
abbrev dktX1_size_5 : List UInt8 := dkwX1_size_5 ++ dktX1_size_6
def dkwX1_size_4 : List UInt8 := [182, 0, 136, 172, 42, 180, 0, 101, 180, 0, 152, 182, 0, 136, 172, 42, 180, 0, 101, 180, 0, 131]
abbrev dktX1_size_4 : List UInt8 := dkwX1_size_4 ++ dktX1_size_5
def dkwX1_size_3 : List UInt8 := [42, 180, 0, 101, 180, 0, 155, 172, 42, 180, 0, 101, 180, 1, 75, 172, 42, 180, 0, 101, 180, 1, 176]
abbrev dktX1_size_3 : List UInt8 := dkwX1_size_3 ++ dktX1_size_4
def dkwX1_size_2 : List UInt8 := [170, 0, 0, 0, 0, 0, 135, 0, 0, 0, 0, 0, 0, 0, 8, 0, 0, 0, 51, 0, 0, 0, 59, 0, 0, 0, 67, 0, 0, 0, 78, 0, 0, 0, 89, 0, 0, 0, 100, 0, 0, 0, 108, 0, 0, 0, 119, 0, 0, 0, 127]
abbrev dktX1_size_2 : List UInt8 := dkwX1_size_2 ++ dktX1_size_3
def dkwX1_size_1 : List UInt8 := [180, 0, 101, 199, 0, 5, 3, 172, 27]
abbrev dktX1_size_1 : List UInt8 := dkwX1_size_1 ++ dktX1_size_2
def dkwX1_size_0 : List UInt8 := [27, 16, 10, 160, 0, 8, 42, 180, 0, 73, 172, 27, 3, 16, 9, 184, 0, 76, 154, 0, 5, 2, 172, 42]
abbrev dktX1_size_0 : List UInt8 := dkwX1_size_0 ++ dktX1_size_1
theorem dksX1_size_0 : cX1_size.data.toList.drop 0 = dktX1_size_0 := by decide +kernel
theorem dksX1_size_1 : cX1_size.data.toList.drop 24 = dktX1_size_1 := dk_seg dksX1_size_0 24 rfl rfl
theorem dksX1_size_2 : cX1_size.data.toList.drop 33 = dktX1_size_2 := dk_seg dksX1_size_1 9 rfl rfl
theorem dksX1_size_3 : cX1_size.data.toList.drop 84 = dktX1_size_3 := dk_seg dksX1_size_2 51 rfl rfl
theorem dksX1_size_4 : cX1_size.data.toList.drop 107 = dktX1_size_4 := dk_seg dksX1_size_3 23 rfl rfl
theorem dksX1_size_5 : cX1_size.data.toList.drop 129 = dktX1_size_5 := dk_seg dksX1_size_4 22 rfl rfl
theorem dksX1_size_6 : cX1_size.data.toList.drop 153 = dktX1_size_6 := dk_seg dksX1_size_5 24 rfl rfl
theorem dX1_size_0 : decode cX1_size 0 = .ok (.iload_n 1, 1) := dk_27 (dk_at dksX1_size_0 0 rfl rfl)
theorem dX1_size_1 : decode cX1_size 1 = .ok (.bipush 10, 2) := dk_16 10 (dk_at dksX1_size_0 1 rfl rfl)
theorem dX1_size_3 : decode cX1_size 3 = .ok (.if_icmp .ne 8, 3) := dk_160 0 8 (dk_at dksX1_size_0 3 rfl rfl)
theorem dX1_size_6 : decode cX1_size 6 = .ok (.aload_n 0, 1) := dk_42 (dk_at dksX1_size_0 6 rfl rfl)
theorem dX1_size_7 : decode cX1_size 7 = .ok (.getfield 73, 3) := dk_180 0 73 (dk_at dksX1_size_0 7 rfl rfl)
theorem dX1_size_10 : decode cX1_size 10 = .ok (.ireturn, 1) := dk_172 (dk_at dksX1_size_0 10 rfl rfl)
theorem dX1_size_11 : decode cX1_size 11 = .ok (.iload_n 1, 1) := dk_27 (dk_at dksX1_size_0 11 rfl rfl)
theorem dX1_size_12 : decode cX1_size 12 = .ok (.iconst 0, 1) := dk_3 (dk_at dksX1_size_0 12 rfl rfl)
theorem dX1_size_13 : decode cX1_size 13 = .ok (.bipush 9, 2) := dk_16 9 (dk_at dksX1_size_0 13 rfl rfl)
theorem dX1_size_15 : decode cX1_size 15 = .ok (.invokestatic 76, 3) := dk_184 0 76 (dk_at dksX1_size_0 15 rfl rfl)
theorem dX1_size_18 : decode cX1_size 18 = .ok (.ifCond .ne 5, 3) := dk_154 0 5 (dk_at dksX1_size_0 18 rfl rfl)
theorem dX1_size_21 : decode cX1_size 21 = .ok (.iconst (-1), 1) := dk_2 (dk_at dksX1_size_0 21 rfl rfl)
theorem dX1_size_22 : decode cX1_size 22 = .ok (.ireturn, 1) := dk_172 (dk_at dksX1_size_0 22 rfl rfl)
theorem dX1_size_23 : decode cX1_size 23 = .ok (.aload_n 0, 1) := dk_42 (dk_at dksX1_size_0 23 rfl rfl)
theorem dX1_size_24 : decode cX1_size 24 = .ok (.getfield 101, 3) := dk_180 0 101 (dk_at dksX1_size_1 0 rfl rfl)
theorem dX1_size_27 : decode cX1_size 27 = .ok (.ifnonnull 5, 3) := dk_199 0 5 (dk_at dksX1_size_1 3 rfl rfl)
theorem dX1_size_30 : decode cX1_size 30 = .ok (.iconst 0, 1) := dk_3 (dk_at dksX1_size_1 6 rfl rfl)
theorem dX1_size_31 : decode cX1_size 31 = .ok (.ireturn, 1) := dk_172 (dk_at dksX1_size_1 7 rfl rfl)
theorem dX1_size_32 : decode cX1_size 32 = .ok (.iload_n 1, 1) := dk_27 (dk_at dksX1_size_1 8 rfl rfl)
theorem dX1_size_33 : decode cX1_size 33 = .ok (.tableswitch 135 0 8 #[51, 59, 67, 78, 89, 100, 108, 119, 127], 51) := by decide +kernel
theorem dX1_size_84 : decode cX1_size 84 = .ok (.aload_n 0, 1) := dk_42 (dk_at dksX1_size_3 0 rfl rfl)
theorem dX1_size_85 : decode cX1_size 85 = .ok (.getfield 101, 3) := dk_180 0 101 (dk_at dksX1_size_3 1 rfl rfl)
theorem dX1_size_88 : decode cX1_size 88 = .ok (.getfield 155, 3) := dk_180 0 155 (dk_at dksX1_size_3 4 rfl rfl)
theorem dX1_size_91 : decode cX1_size 91 = .ok (.ireturn, 1) := dk_172 (dk_at dksX1_size_3 7 rfl rfl)
theorem dX1_size_92 : decode cX1_size 92 = .ok (.aload_n 0, 1) := dk_42 (dk_at dksX1_size_3 8 rfl rfl)
theorem dX1_size_93 : decode cX1_size 93 = .ok (.getfield 101, 3) := dk_180 0 101 (dk_at dksX1_size_3 9 rfl rfl)
theorem dX1_size_96 : decode cX1_size 96 = .ok (.getfield 331, 3) := dk_180 1 75 (dk_at dksX1_size_3 12 rfl rfl)
theorem dX1_size_99 : decode cX1_size 99 = .ok (.ireturn, 1) := dk_172 (dk_at dksX1_size_3 15 rfl rfl)
theorem dX1_size_100 : decode cX1_size 100 = .ok (.aload_n 0, 1) := dk_42 (dk_at dksX1_size_3 16 rfl rfl)
theorem dX1_size_101 : decode cX1_size 101 = .ok (.getfield 101, 3) := dk_180 0 101 (dk_at dksX1_size_3 17 rfl rfl)
theorem dX1_size_104 : decode cX1_size 104 = .ok (.getfield 432, 3) := dk_180 1 176 (dk_at dksX1_size_3 20 rfl rfl)
theorem dX1_size_107 : decode cX1_size 107 = .ok (.invokevirtual 136, 3) := dk_182 0 136 (dk_at dksX1_size_4 0 rfl rfl)
theorem dX1_size_110 : decode cX1_size 110 = .ok (.ireturn, 1) := dk_172 (dk_at dksX1_size_4 3 rfl rfl)
theorem dX1_size_111 : decode cX1_size 111 = .ok (.aload_n 0, 1) := dk_42 (dk_at dksX1_size_4 4 rfl rfl)
theorem dX1_size_112 : decode cX1_size 112 = .ok (.getfield 101, 3) := dk_180 0 101 (dk_at dksX1_size_4 5 rfl rfl)
theorem dX1_size_115 : decode cX1_size 115 = .ok (.getfield 152, 3) := dk_180 0 152 (dk_at dksX1_size_4 8 rfl rfl)
theorem dX1_size_118 : decode cX1_size 118 = .ok (.invokevirtual 136, 3) := dk_182 0 136 (dk_at dksX1_size_4 11 rfl rfl)
theorem dX1_size_121 : decode cX1_size 121 = .ok (.ireturn, 1) := dk_172 (dk_at dksX1_size_4 14 rfl rfl)
theorem dX1_size_122 : decode cX1_size 122 = .ok (.aload_n 0, 1) := dk_42 (dk_at dksX1_size_4 15 rfl rfl)
theorem dX1_size_123 : decode cX1_size 123 = .ok (.getfield 101, 3) := dk_180 0 101 (dk_at dksX1_size_4 16 rfl rfl)
theorem dX1_size_126 : decode cX1_size 126 = .ok (.getfield 131, 3) := dk_180 0 131 (dk_at dksX1_size_4 19 rfl rfl)
theorem dX1_size_129 : decode cX1_size 129 = .ok (.invokevirtual 136, 3) := dk_182 0 136 (dk_at dksX1_size_5 0 rfl rfl)
theorem dX1_size_132 : decode cX1_size 132 = .ok (.ireturn, 1) := dk_172 (dk_at dksX1_size_5 3 rfl rfl)
theorem dX1_size_133 : decode cX1_size 133 = .ok (.aload_n 0, 1) := dk_42 (dk_at dksX1_size_5 4 rfl rfl)
theorem dX1_size_134 : decode cX1_size 134 = .ok (.getfield 101, 3) := dk_180 0 101 (dk_at dksX1_size_5 5 rfl rfl)
theorem dX1_size_137 : decode cX1_size 137 = .ok (.getfield 441, 3) := dk_180 1 185 (dk_at dksX1_size_5 8 rfl rfl)
theorem dX1_size_140 : decode cX1_size 140 = .ok (.ireturn, 1) := dk_172 (dk_at dksX1_size_5 11 rfl rfl)
theorem dX1_size_141 : decode cX1_size 141 = .ok (.aload_n 0, 1) := dk_42 (dk_at dksX1_size_5 12 rfl rfl)
theorem dX1_size_142 : decode cX1_size 142 = .ok (.getfield 101, 3) := dk_180 0 101 (dk_at dksX1_size_5 13 rfl rfl)
theorem dX1_size_145 : decode cX1_size 145 = .ok (.getfield 372, 3) := dk_180 1 116 (dk_at dksX1_size_5 16 rfl rfl)
theorem dX1_size_148 : decode cX1_size 148 = .ok (.invokevirtual 136, 3) := dk_182 0 136 (dk_at dksX1_size_5 19 rfl rfl)
theorem dX1_size_151 : decode cX1_size 151 = .ok (.ireturn, 1) := dk_172 (dk_at dksX1_size_5 22 rfl rfl)
theorem dX1_size_152 : decode cX1_size 152 = .ok (.aload_n 0, 1) := dk_42 (dk_at dksX1_size_5 23 rfl rfl)
theorem dX1_size_153 : decode cX1_size 153 = .ok (.getfield 140, 3) := dk_180 0 140 (dk_at dksX1_size_6 0 rfl rfl)
theorem dX1_size_156 : decode cX1_size 156 = .ok (.getfield 325, 3) := dk_180 1 69 (dk_at dksX1_size_6 3 rfl rfl)
theorem dX1_size_159 : decode cX1_size 159 = .ok (.ireturn, 1) := dk_172 (dk_at dksX1_size_6 6 rfl rfl)
theorem dX1_size_160 : decode cX1_size 160 = .ok (.aload_n 0, 1) := dk_42 (dk_at dksX1_size_6 7 rfl rfl)
theorem dX1_size_161 : decode cX1_size 161 = .ok (.getfield 35, 3) := dk_180 0 35 (dk_at dksX1_size_6 8 rfl rfl)
theorem dX1_size_164 : decode cX1_size 164 = .ok (.invokevirtual 136, 3) := dk_182 0 136 (dk_at dksX1_size_6 11 rfl rfl)
theorem dX1_size_167 : decode cX1_size 167 = .ok (.ireturn, 1) := dk_172 (dk_at dksX1_size_6 14 rfl rfl)
theorem dX1_size_168 : decode cX1_size 168 = .ok (.aload_n 0, 1) := dk_42 (dk_at dksX1_size_6 15 rfl rfl)
theorem dX1_size_169 : decode cX1_size 169 = .ok (.getfield 39, 3) := dk_180 0 39 (dk_at dksX1_size_6 16 rfl rfl)
theorem dX1_size_172 : decode cX1_size 172 = .ok (.invokevirtual 136, 3) := dk_182 0 136 (dk_at dksX1_size_6 19 rfl rfl)
theorem dX1_size_175 : decode cX1_size 175 = .ok (.ireturn, 1) := dk_172 (dk_at dksX1_size_6 22 rfl rfl)
abbrev cX1_trouble : ByteArray := prog_1_method_81_code
def yX1_trouble : MethodName := ⟨RX1, "trouble", "()I"⟩
theorem dX1_trouble_0 : decode cX1_trouble 0 = .ok (.aload_n 0, 1) := by decide +kernel
theorem dX1_trouble_1 : decode cX1_trouble 1 = .ok (.getfield 63, 3) := by decide +kernel
theorem dX1_trouble_4 : decode cX1_trouble 4 = .ok (.ireturn, 1) := by decide +kernel
abbrev cX1_led : ByteArray := prog_1_method_79_code
def yX1_led : MethodName := ⟨RX1, "led", "(I)I"⟩
def dkwX1_led_2 : List UInt8 := [29, 172, 132, 2, 1, 132, 3, 1, 167, 255, 206, 187, 1, 182, 89, 183, 1, 184, 191]
abbrev dktX1_led_2 : List UInt8 := dkwX1_led_2 ++ []
def dkwX1_led_1 : List UInt8 := [162, 0, 35, 42, 180, 0, 140, 180, 0, 195, 29, 46, 4, 159, 0, 6, 167, 0, 13, 28, 27, 160, 0, 5]
abbrev dktX1_led_1 : List UInt8 := dkwX1_led_1 ++ dktX1_led_2
def dkwX1_led_0 : List UInt8 := [3, 61, 3, 62, 42, 180, 0, 101, 198, 0, 49, 29, 42, 180, 0, 101, 180, 0, 131, 182, 0, 136]
abbrev dktX1_led_0 : List UInt8 := dkwX1_led_0 ++ dktX1_led_1
theorem dksX1_led_0 : cX1_led.data.toList.drop 0 = dktX1_led_0 := by decide +kernel
theorem dksX1_led_1 : cX1_led.data.toList.drop 22 = dktX1_led_1 := dk_seg dksX1_led_0 22 rfl rfl
theorem dksX1_led_2 : cX1_led.data.toList.drop 46 = dktX1_led_2 := dk_seg dksX1_led_1 24 rfl rfl
theorem dX1_led_0 : decode cX1_led 0 = .ok (.iconst 0, 1) := dk_3 (dk_at dksX1_led_0 0 rfl rfl)
theorem dX1_led_1 : decode cX1_led 1 = .ok (.istore_n 2, 1) := dk_61 (dk_at dksX1_led_0 1 rfl rfl)
theorem dX1_led_2 : decode cX1_led 2 = .ok (.iconst 0, 1) := dk_3 (dk_at dksX1_led_0 2 rfl rfl)
theorem dX1_led_3 : decode cX1_led 3 = .ok (.istore_n 3, 1) := dk_62 (dk_at dksX1_led_0 3 rfl rfl)
theorem dX1_led_4 : decode cX1_led 4 = .ok (.aload_n 0, 1) := dk_42 (dk_at dksX1_led_0 4 rfl rfl)
theorem dX1_led_5 : decode cX1_led 5 = .ok (.getfield 101, 3) := dk_180 0 101 (dk_at dksX1_led_0 5 rfl rfl)
theorem dX1_led_8 : decode cX1_led 8 = .ok (.ifnull 49, 3) := dk_198 0 49 (dk_at dksX1_led_0 8 rfl rfl)
theorem dX1_led_11 : decode cX1_led 11 = .ok (.iload_n 3, 1) := dk_29 (dk_at dksX1_led_0 11 rfl rfl)
theorem dX1_led_12 : decode cX1_led 12 = .ok (.aload_n 0, 1) := dk_42 (dk_at dksX1_led_0 12 rfl rfl)
theorem dX1_led_13 : decode cX1_led 13 = .ok (.getfield 101, 3) := dk_180 0 101 (dk_at dksX1_led_0 13 rfl rfl)
theorem dX1_led_16 : decode cX1_led 16 = .ok (.getfield 131, 3) := dk_180 0 131 (dk_at dksX1_led_0 16 rfl rfl)
theorem dX1_led_19 : decode cX1_led 19 = .ok (.invokevirtual 136, 3) := dk_182 0 136 (dk_at dksX1_led_0 19 rfl rfl)
theorem dX1_led_22 : decode cX1_led 22 = .ok (.if_icmp .ge 35, 3) := dk_162 0 35 (dk_at dksX1_led_1 0 rfl rfl)
theorem dX1_led_25 : decode cX1_led 25 = .ok (.aload_n 0, 1) := dk_42 (dk_at dksX1_led_1 3 rfl rfl)
theorem dX1_led_26 : decode cX1_led 26 = .ok (.getfield 140, 3) := dk_180 0 140 (dk_at dksX1_led_1 4 rfl rfl)
theorem dX1_led_29 : decode cX1_led 29 = .ok (.getfield 195, 3) := dk_180 0 195 (dk_at dksX1_led_1 7 rfl rfl)
theorem dX1_led_32 : decode cX1_led 32 = .ok (.iload_n 3, 1) := dk_29 (dk_at dksX1_led_1 10 rfl rfl)
theorem dX1_led_33 : decode cX1_led 33 = .ok (.iaload, 1) := dk_46 (dk_at dksX1_led_1 11 rfl rfl)
theorem dX1_led_34 : decode cX1_led 34 = .ok (.iconst 1, 1) := dk_4 (dk_at dksX1_led_1 12 rfl rfl)
theorem dX1_led_35 : decode cX1_led 35 = .ok (.if_icmp .eq 6, 3) := dk_159 0 6 (dk_at dksX1_led_1 13 rfl rfl)
theorem dX1_led_38 : decode cX1_led 38 = .ok (.goto 13, 3) := dk_167 0 13 (dk_at dksX1_led_1 16 rfl rfl)
theorem dX1_led_41 : decode cX1_led 41 = .ok (.iload_n 2, 1) := dk_28 (dk_at dksX1_led_1 19 rfl rfl)
theorem dX1_led_42 : decode cX1_led 42 = .ok (.iload_n 1, 1) := dk_27 (dk_at dksX1_led_1 20 rfl rfl)
theorem dX1_led_43 : decode cX1_led 43 = .ok (.if_icmp .ne 5, 3) := dk_160 0 5 (dk_at dksX1_led_1 21 rfl rfl)
theorem dX1_led_46 : decode cX1_led 46 = .ok (.iload_n 3, 1) := dk_29 (dk_at dksX1_led_2 0 rfl rfl)
theorem dX1_led_47 : decode cX1_led 47 = .ok (.ireturn, 1) := dk_172 (dk_at dksX1_led_2 1 rfl rfl)
theorem dX1_led_48 : decode cX1_led 48 = .ok (.iinc 2 1, 3) := dk_132 2 1 (dk_at dksX1_led_2 2 rfl rfl)
theorem dX1_led_51 : decode cX1_led 51 = .ok (.iinc 3 1, 3) := dk_132 3 1 (dk_at dksX1_led_2 5 rfl rfl)
theorem dX1_led_54 : decode cX1_led 54 = .ok (.goto (-50), 3) := dk_167 255 206 (dk_at dksX1_led_2 8 rfl rfl)
theorem dX1_led_57 : decode cX1_led 57 = .ok (.new 438, 3) := dk_187 1 182 (dk_at dksX1_led_2 11 rfl rfl)
theorem dX1_led_60 : decode cX1_led 60 = .ok (.dup, 1) := dk_89 (dk_at dksX1_led_2 14 rfl rfl)
theorem dX1_led_61 : decode cX1_led 61 = .ok (.invokespecial 440, 3) := dk_183 1 184 (dk_at dksX1_led_2 15 rfl rfl)
theorem dX1_led_64 : decode cX1_led 64 = .ok (.athrow, 1) := dk_191 (dk_at dksX1_led_2 18 rfl rfl)
theorem q123 : (Jvm.Cond.initialized "NextAtBa\x72") ∈ lw_all := lw_g (lw_at lw_m1 1 rfl) rfl
theorem q165 : (Jvm.Cond.instantiable "NextAtBa\x72" (15 : Nat)) ∈ lw_all := lw_g (lw_at lw_m1 43 rfl) rfl
theorem q167 : (Jvm.Cond.instanceMethod ({ cls := "NextAtBa\x72", name := "<init>", desc := "()V" } : Jvm.MethodName)) ∈ lw_all := lw_g (lw_at lw_m1 45 rfl) rfl
theorem q168 : (Jvm.Cond.code ({ cls := "NextAtBa\x72", name := "<init>", desc := "()V" } : Jvm.MethodName) prog_1_method_1_code (1 : Nat) (Option.none : Option Jvm.ClassFile.FieldType)) ∈ lw_all := lw_g (lw_at lw_m1 46 rfl) rfl
theorem q169 : (Jvm.Cond.methodLink "NextAtBa\x72" (1 : Nat) ({ cls := "java/lang/Object", name := "<init>", desc := "()V" } : Jvm.MethodName)) ∈ lw_all := lw_g (lw_at lw_m1 47 rfl) rfl
theorem q172 : (Jvm.Cond.classLink "NextAtBa\x72" (17 : Nat) "NextAtBar$Manne\x72") ∈ lw_all := lw_g (lw_at lw_m1 50 rfl) rfl
theorem q174 : (Jvm.Cond.methodLink "NextAtBa\x72" (19 : Nat) ({ cls := "NextAtBar$Manne\x72", name := "<init>", desc := "(I)V" } : Jvm.MethodName)) ∈ lw_all := lw_g (lw_at lw_m1 52 rfl) rfl
theorem q183 : (Jvm.Cond.fieldLink "NextAtBa\x72" (421 : Nat) "NextAtBar$Manne\x72" "by" "I") ∈ lw_all := lw_g (lw_at lw_m1 61 rfl) rfl
theorem q188 : (Jvm.Cond.classLink "NextAtBa\x72" (26 : Nat) "NextAtBar$Lia\x72") ∈ lw_all := lw_g (lw_at lw_m1 66 rfl) rfl
theorem q190 : (Jvm.Cond.methodLink "NextAtBa\x72" (28 : Nat) ({ cls := "NextAtBar$Lia\x72", name := "<init>", desc := "(I)V" } : Jvm.MethodName)) ∈ lw_all := lw_g (lw_at lw_m1 68 rfl) rfl
theorem q196 : (Jvm.Cond.classLink "NextAtBa\x72" (32 : Nat) "java/util/ArrayList") ∈ lw_all := lw_g (lw_at lw_m1 74 rfl) rfl
theorem q198 : (Jvm.Cond.methodLink "NextAtBa\x72" (34 : Nat) ({ cls := "java/util/ArrayList", name := "<init>", desc := "()V" } : Jvm.MethodName)) ∈ lw_all := lw_g (lw_at lw_m1 76 rfl) rfl
theorem q222 : (Jvm.Cond.fieldLink "NextAtBa\x72" (9 : Nat) "NextAtBa\x72" "tape" "[B") ∈ lw_all := lw_g (lw_at lw_m1 100 rfl) rfl
theorem q223 : (Jvm.Cond.fieldLink "NextAtBa\x72" (73 : Nat) "NextAtBa\x72" "taped" "I") ∈ lw_all := lw_g (lw_at lw_m1 101 rfl) rfl
theorem q224 : (Jvm.Cond.fieldLink "NextAtBa\x72" (97 : Nat) "NextAtBa\x72" "fault" "I") ∈ lw_all := lw_g (lw_at lw_m1 102 rfl) rfl
theorem q225 : (Jvm.Cond.fieldLink "NextAtBa\x72" (13 : Nat) "NextAtBa\x72" "where" "I") ∈ lw_all := lw_g (lw_at lw_m1 103 rfl) rfl
theorem q226 : (Jvm.Cond.fieldLink "NextAtBa\x72" (63 : Nat) "NextAtBa\x72" "trouble" "I") ∈ lw_all := lw_g (lw_at lw_m1 104 rfl) rfl
theorem q227 : (Jvm.Cond.fieldLink "NextAtBa\x72" (101 : Nat) "NextAtBa\x72" "house" "LNextAtBar$House;") ∈ lw_all := lw_g (lw_at lw_m1 105 rfl) rfl
theorem q228 : (Jvm.Cond.fieldLink "NextAtBa\x72" (140 : Nat) "NextAtBa\x72" "ba\x72" "LNextAtBar$Bar;") ∈ lw_all := lw_g (lw_at lw_m1 106 rfl) rfl
theorem q229 : (Jvm.Cond.fieldLink "NextAtBa\x72" (110 : Nat) "NextAtBa\x72" "start" "LNextAtBar$Bar;") ∈ lw_all := lw_g (lw_at lw_m1 107 rfl) rfl
theorem q230 : (Jvm.Cond.fieldLink "NextAtBa\x72" (114 : Nat) "NextAtBa\x72" "evening" "LNextAtBar$Bar;") ∈ lw_all := lw_g (lw_at lw_m1 108 rfl) rfl
theorem q231 : (Jvm.Cond.fieldLink "NextAtBa\x72" (117 : Nat) "NextAtBa\x72" "tried" "LNextAtBar$Bar;") ∈ lw_all := lw_g (lw_at lw_m1 109 rfl) rfl
theorem q232 : (Jvm.Cond.fieldLink "NextAtBa\x72" (143 : Nat) "NextAtBa\x72" "isKnown" "Z") ∈ lw_all := lw_g (lw_at lw_m1 110 rfl) rfl
theorem q233 : (Jvm.Cond.fieldLink "NextAtBa\x72" (22 : Nat) "NextAtBa\x72" "honest" "LNextAtBar$Manner;") ∈ lw_all := lw_g (lw_at lw_m1 111 rfl) rfl
theorem q234 : (Jvm.Cond.fieldLink "NextAtBa\x72" (29 : Nat) "NextAtBa\x72" "lia\x72" "LNextAtBar$Manner;") ∈ lw_all := lw_g (lw_at lw_m1 112 rfl) rfl
theorem q235 : (Jvm.Cond.fieldLink "NextAtBa\x72" (35 : Nat) "NextAtBa\x72" "past" "Ljava/util/ArrayList;") ∈ lw_all := lw_g (lw_at lw_m1 113 rfl) rfl
theorem q236 : (Jvm.Cond.fieldLink "NextAtBa\x72" (39 : Nat) "NextAtBa\x72" "images" "Ljava/util/ArrayList;") ∈ lw_all := lw_g (lw_at lw_m1 114 rfl) rfl
theorem q237 : (Jvm.Cond.laysFinal "NextAtBa\x72" "NextAtBa\x72" "tape" "[B") ∈ lw_all := lw_g (lw_at lw_m1 115 rfl) rfl
theorem q238 : (Jvm.Cond.soleField "NextAtBa\x72" "tape") ∈ lw_all := lw_g (lw_at lw_m1 116 rfl) rfl
theorem q239 : (Jvm.Cond.lays "NextAtBa\x72" "NextAtBa\x72" "taped" "I") ∈ lw_all := lw_g (lw_at lw_m1 117 rfl) rfl
theorem q240 : (Jvm.Cond.soleField "NextAtBa\x72" "taped") ∈ lw_all := lw_g (lw_at lw_m1 118 rfl) rfl
theorem q241 : (Jvm.Cond.lays "NextAtBa\x72" "NextAtBa\x72" "fault" "I") ∈ lw_all := lw_g (lw_at lw_m1 119 rfl) rfl
theorem q242 : (Jvm.Cond.soleField "NextAtBa\x72" "fault") ∈ lw_all := lw_g (lw_at lw_m1 120 rfl) rfl
theorem q243 : (Jvm.Cond.lays "NextAtBa\x72" "NextAtBa\x72" "where" "I") ∈ lw_all := lw_g (lw_at lw_m1 121 rfl) rfl
theorem q244 : (Jvm.Cond.soleField "NextAtBa\x72" "where") ∈ lw_all := lw_g (lw_at lw_m1 122 rfl) rfl
theorem q245 : (Jvm.Cond.lays "NextAtBa\x72" "NextAtBa\x72" "trouble" "I") ∈ lw_all := lw_g (lw_at lw_m1 123 rfl) rfl
theorem q246 : (Jvm.Cond.soleField "NextAtBa\x72" "trouble") ∈ lw_all := lw_g (lw_at lw_m1 124 rfl) rfl
theorem q247 : (Jvm.Cond.lays "NextAtBa\x72" "NextAtBa\x72" "house" "LNextAtBar$House;") ∈ lw_all := lw_g (lw_at lw_m1 125 rfl) rfl
theorem q248 : (Jvm.Cond.soleField "NextAtBa\x72" "house") ∈ lw_all := lw_g (lw_at lw_m1 126 rfl) rfl
theorem q249 : (Jvm.Cond.lays "NextAtBa\x72" "NextAtBa\x72" "ba\x72" "LNextAtBar$Bar;") ∈ lw_all := lw_g (lw_at lw_m1 127 rfl) rfl
theorem q250 : (Jvm.Cond.soleField "NextAtBa\x72" "ba\x72") ∈ lw_all := lw_g (lw_at lw_m1 128 rfl) rfl
theorem q251 : (Jvm.Cond.lays "NextAtBa\x72" "NextAtBa\x72" "start" "LNextAtBar$Bar;") ∈ lw_all := lw_g (lw_at lw_m1 129 rfl) rfl
theorem q252 : (Jvm.Cond.soleField "NextAtBa\x72" "start") ∈ lw_all := lw_g (lw_at lw_m1 130 rfl) rfl
theorem q253 : (Jvm.Cond.lays "NextAtBa\x72" "NextAtBa\x72" "evening" "LNextAtBar$Bar;") ∈ lw_all := lw_g (lw_at lw_m1 131 rfl) rfl
theorem q254 : (Jvm.Cond.soleField "NextAtBa\x72" "evening") ∈ lw_all := lw_g (lw_at lw_m1 132 rfl) rfl
theorem q255 : (Jvm.Cond.lays "NextAtBa\x72" "NextAtBa\x72" "tried" "LNextAtBar$Bar;") ∈ lw_all := lw_g (lw_at lw_m1 133 rfl) rfl
theorem q256 : (Jvm.Cond.soleField "NextAtBa\x72" "tried") ∈ lw_all := lw_g (lw_at lw_m1 134 rfl) rfl
theorem q257 : (Jvm.Cond.lays "NextAtBa\x72" "NextAtBa\x72" "isKnown" "Z") ∈ lw_all := lw_g (lw_at lw_m1 135 rfl) rfl
theorem q258 : (Jvm.Cond.soleField "NextAtBa\x72" "isKnown") ∈ lw_all := lw_g (lw_at lw_m1 136 rfl) rfl
theorem q259 : (Jvm.Cond.laysFinal "NextAtBa\x72" "NextAtBa\x72" "honest" "LNextAtBar$Manner;") ∈ lw_all := lw_g (lw_at lw_m1 137 rfl) rfl
theorem q260 : (Jvm.Cond.soleField "NextAtBa\x72" "honest") ∈ lw_all := lw_g (lw_at lw_m1 138 rfl) rfl
theorem q261 : (Jvm.Cond.laysFinal "NextAtBa\x72" "NextAtBa\x72" "lia\x72" "LNextAtBar$Manner;") ∈ lw_all := lw_g (lw_at lw_m1 139 rfl) rfl
theorem q262 : (Jvm.Cond.soleField "NextAtBa\x72" "lia\x72") ∈ lw_all := lw_g (lw_at lw_m1 140 rfl) rfl
theorem q263 : (Jvm.Cond.laysFinal "NextAtBa\x72" "NextAtBa\x72" "past" "Ljava/util/ArrayList;") ∈ lw_all := lw_g (lw_at lw_m1 141 rfl) rfl
theorem q264 : (Jvm.Cond.soleField "NextAtBa\x72" "past") ∈ lw_all := lw_g (lw_at lw_m1 142 rfl) rfl
theorem q265 : (Jvm.Cond.laysFinal "NextAtBa\x72" "NextAtBa\x72" "images" "Ljava/util/ArrayList;") ∈ lw_all := lw_g (lw_at lw_m1 143 rfl) rfl
theorem q266 : (Jvm.Cond.soleField "NextAtBa\x72" "images") ∈ lw_all := lw_g (lw_at lw_m1 144 rfl) rfl
theorem q267 : (Jvm.Cond.superclass "NextAtBa\x72" "java/lang/Object") ∈ lw_all := lw_g (lw_at lw_m1 145 rfl) rfl
theorem q269 : (Jvm.Cond.instanceMethod ({ cls := "NextAtBa\x72", name := "feed", desc := "(IIIII)I" } : Jvm.MethodName)) ∈ lw_all := lw_g (lw_at lw_m1 147 rfl) rfl
theorem q270 : (Jvm.Cond.selects "NextAtBa\x72" ({ cls := "NextAtBa\x72", name := "feed", desc := "(IIIII)I" } : Jvm.MethodName) ({ cls := "NextAtBa\x72", name := "feed", desc := "(IIIII)I" } : Jvm.MethodName)) ∈ lw_all := lw_g (lw_at lw_m1 148 rfl) rfl
theorem q271 : (Jvm.Cond.code ({ cls := "NextAtBa\x72", name := "feed", desc := "(IIIII)I" } : Jvm.MethodName) prog_1_method_12_code (8 : Nat) (Option.some Jvm.ClassFile.FieldType.int)) ∈ lw_all := lw_g (lw_at lw_m1 149 rfl) rfl
theorem q273 : (Jvm.Cond.instanceMethod ({ cls := "NextAtBa\x72", name := "house", desc := "(I)I" } : Jvm.MethodName)) ∈ lw_all := lw_g (lw_at lw_m1 151 rfl) rfl
theorem q274 : (Jvm.Cond.selects "NextAtBa\x72" ({ cls := "NextAtBa\x72", name := "house", desc := "(I)I" } : Jvm.MethodName) ({ cls := "NextAtBa\x72", name := "house", desc := "(I)I" } : Jvm.MethodName)) ∈ lw_all := lw_g (lw_at lw_m1 152 rfl) rfl
theorem q275 : (Jvm.Cond.code ({ cls := "NextAtBa\x72", name := "house", desc := "(I)I" } : Jvm.MethodName) prog_1_method_13_code (4 : Nat) (Option.some Jvm.ClassFile.FieldType.int)) ∈ lw_all := lw_g (lw_at lw_m1 153 rfl) rfl
theorem q276 : (Jvm.Cond.methodLink "NextAtBa\x72" (76 : Nat) ({ cls := "NextAtBa\x72", name := "in", desc := "(III)Z" } : Jvm.MethodName)) ∈ lw_all := lw_g (lw_at lw_m1 154 rfl) rfl
theorem q277 : (Jvm.Cond.static ({ cls := "NextAtBa\x72", name := "in", desc := "(III)Z" } : Jvm.MethodName)) ∈ lw_all := lw_g (lw_at lw_m1 155 rfl) rfl
theorem q278 : (Jvm.Cond.code ({ cls := "NextAtBa\x72", name := "in", desc := "(III)Z" } : Jvm.MethodName) prog_1_method_2_code (3 : Nat) (Option.some Jvm.ClassFile.FieldType.boolean)) ∈ lw_all := lw_g (lw_at lw_m1 156 rfl) rfl
theorem q279 : (Jvm.Cond.methodLink "NextAtBa\x72" (66 : Nat) ({ cls := "NextAtBa\x72", name := "refused", desc := "(I)I" } : Jvm.MethodName)) ∈ lw_all := lw_g (lw_at lw_m1 157 rfl) rfl
theorem q280 : (Jvm.Cond.privateMethod ({ cls := "NextAtBa\x72", name := "refused", desc := "(I)I" } : Jvm.MethodName)) ∈ lw_tbl := lw_at lw_m1 158 rfl
theorem q281 : (Jvm.Cond.instanceMethod ({ cls := "NextAtBa\x72", name := "refused", desc := "(I)I" } : Jvm.MethodName)) ∈ lw_all := lw_g (lw_at lw_m1 159 rfl) rfl
theorem q282 : (Jvm.Cond.code ({ cls := "NextAtBa\x72", name := "refused", desc := "(I)I" } : Jvm.MethodName) prog_1_method_7_code (2 : Nat) (Option.some Jvm.ClassFile.FieldType.int)) ∈ lw_all := lw_g (lw_at lw_m1 160 rfl) rfl
theorem q283 : (Jvm.Cond.classLink "NextAtBa\x72" (80 : Nat) "NextAtBar$Reade\x72") ∈ lw_all := lw_g (lw_at lw_m1 161 rfl) rfl
theorem q285 : (Jvm.Cond.classLink "NextAtBa\x72" (82 : Nat) "NextAtBar$Tokens") ∈ lw_all := lw_g (lw_at lw_m1 163 rfl) rfl
theorem q287 : (Jvm.Cond.methodLink "NextAtBa\x72" (84 : Nat) ({ cls := "NextAtBar$Tokens", name := "<init>", desc := "([BI)V" } : Jvm.MethodName)) ∈ lw_all := lw_g (lw_at lw_m1 165 rfl) rfl
theorem q301 : (Jvm.Cond.methodLink "NextAtBa\x72" (87 : Nat) ({ cls := "NextAtBar$Reade\x72", name := "<init>", desc := "(LNextAtBar$Tokens;)V" } : Jvm.MethodName)) ∈ lw_all := lw_g (lw_at lw_m1 179 rfl) rfl
theorem q314 : (Jvm.Cond.fieldLink "NextAtBa\x72" (155 : Nat) "NextAtBar$House" "places" "I") ∈ lw_all := lw_g (lw_at lw_m1 192 rfl) rfl
theorem q317 : (Jvm.Cond.fieldLink "NextAtBa\x72" (331 : Nat) "NextAtBar$House" "bell" "I") ∈ lw_all := lw_g (lw_at lw_m1 195 rfl) rfl
theorem q319 : (Jvm.Cond.fieldLink "NextAtBa\x72" (441 : Nat) "NextAtBar$House" "shelves" "I") ∈ lw_all := lw_g (lw_at lw_m1 197 rfl) rfl
theorem q322 : (Jvm.Cond.fieldLink "NextAtBa\x72" (432 : Nat) "NextAtBar$House" "drinks" "Ljava/util/ArrayList;") ∈ lw_all := lw_g (lw_at lw_m1 200 rfl) rfl
theorem q326 : (Jvm.Cond.fieldLink "NextAtBa\x72" (152 : Nat) "NextAtBar$House" "staff" "Ljava/util/ArrayList;") ∈ lw_all := lw_g (lw_at lw_m1 204 rfl) rfl
theorem q331 : (Jvm.Cond.fieldLink "NextAtBa\x72" (131 : Nat) "NextAtBar$House" "people" "Ljava/util/ArrayList;") ∈ lw_all := lw_g (lw_at lw_m1 209 rfl) rfl
theorem q335 : (Jvm.Cond.fieldLink "NextAtBa\x72" (372 : Nat) "NextAtBar$House" "tellings" "Ljava/util/ArrayList;") ∈ lw_all := lw_g (lw_at lw_m1 213 rfl) rfl
theorem q577 : (Jvm.Cond.fieldLinkNest "NextAtBa\x72" (94 : Nat) "NextAtBar$Reade\x72" "fault" "I" "NextAtBa\x72") ∈ lw_tbl := lw_at lw_m2 215 rfl
theorem q579 : (Jvm.Cond.fieldLinkNest "NextAtBa\x72" (98 : Nat) "NextAtBar$Reade\x72" "place" "I" "NextAtBa\x72") ∈ lw_tbl := lw_at lw_m2 217 rfl
theorem q591 : (Jvm.Cond.methodLink "NextAtBa\x72" (90 : Nat) ({ cls := "NextAtBar$Reade\x72", name := "read", desc := "()LNextAtBar$House;" } : Jvm.MethodName)) ∈ lw_all := lw_g (lw_at lw_m2 229 rfl) rfl
theorem q806 : (Jvm.Cond.selects "NextAtBa\x72" ({ cls := "java/lang/Object", name := "getClass", desc := "()Ljava/lang/Class;" } : Jvm.MethodName) ({ cls := "java/lang/Object", name := "getClass", desc := "()Ljava/lang/Class;" } : Jvm.MethodName)) ∈ lw_all := lw_g (lw_at lw_m3 204 rfl) rfl
theorem q858 : (Jvm.Cond.static ({ cls := "NextAtBa\x72", name := "ruleOf", desc := "(I)LNextAtBar$Rule;" } : Jvm.MethodName)) ∈ lw_all := lw_g (lw_at lw_m4 16 rfl) rfl
theorem q859 : (Jvm.Cond.code ({ cls := "NextAtBa\x72", name := "ruleOf", desc := "(I)LNextAtBar$Rule;" } : Jvm.MethodName) prog_1_method_5_code (1 : Nat) (Option.some (Jvm.ClassFile.FieldType.object "NextAtBar$Rule"))) ∈ lw_all := lw_g (lw_at lw_m4 17 rfl) rfl
theorem q860 : (Jvm.Cond.classLink "NextAtBa\x72" (42 : Nat) "NextAtBar$Row") ∈ lw_all := lw_g (lw_at lw_m4 18 rfl) rfl
theorem q862 : (Jvm.Cond.methodLinkNest "NextAtBa\x72" (44 : Nat) ({ cls := "NextAtBar$Row", name := "<init>", desc := "()V" } : Jvm.MethodName) "NextAtBa\x72") ∈ lw_tbl := lw_at lw_m4 20 rfl
theorem q873 : (Jvm.Cond.classLink "NextAtBa\x72" (45 : Nat) "NextAtBar$Nea\x72") ∈ lw_all := lw_g (lw_at lw_m4 31 rfl) rfl
theorem q875 : (Jvm.Cond.methodLinkNest "NextAtBa\x72" (47 : Nat) ({ cls := "NextAtBar$Nea\x72", name := "<init>", desc := "()V" } : Jvm.MethodName) "NextAtBa\x72") ∈ lw_tbl := lw_at lw_m4 33 rfl
theorem q877 : (Jvm.Cond.classLink "NextAtBa\x72" (48 : Nat) "NextAtBar$Eye") ∈ lw_all := lw_g (lw_at lw_m4 35 rfl) rfl
theorem q879 : (Jvm.Cond.methodLinkNest "NextAtBa\x72" (50 : Nat) ({ cls := "NextAtBar$Eye", name := "<init>", desc := "()V" } : Jvm.MethodName) "NextAtBa\x72") ∈ lw_tbl := lw_at lw_m4 37 rfl
theorem q884 : (Jvm.Cond.classLink "NextAtBa\x72" (51 : Nat) "NextAtBar$Asked") ∈ lw_all := lw_g (lw_at lw_m4 42 rfl) rfl
theorem q886 : (Jvm.Cond.methodLinkNest "NextAtBa\x72" (53 : Nat) ({ cls := "NextAtBar$Asked", name := "<init>", desc := "()V" } : Jvm.MethodName) "NextAtBa\x72") ∈ lw_tbl := lw_at lw_m4 44 rfl
theorem q891 : (Jvm.Cond.classLink "NextAtBa\x72" (54 : Nat) "NextAtBar$Regulars") ∈ lw_all := lw_g (lw_at lw_m4 49 rfl) rfl
theorem q893 : (Jvm.Cond.methodLinkNest "NextAtBa\x72" (56 : Nat) ({ cls := "NextAtBar$Regulars", name := "<init>", desc := "()V" } : Jvm.MethodName) "NextAtBa\x72") ∈ lw_tbl := lw_at lw_m4 51 rfl
theorem q908 : (Jvm.Cond.fieldLink "NextAtBa\x72" (271 : Nat) "NextAtBar$Serve\x72" "at" "I") ∈ lw_all := lw_g (lw_at lw_m4 66 rfl) rfl
theorem q913 : (Jvm.Cond.fieldLink "NextAtBa\x72" (273 : Nat) "NextAtBar$Serve\x72" "to" "I") ∈ lw_all := lw_g (lw_at lw_m4 71 rfl) rfl
theorem q916 : (Jvm.Cond.fieldLink "NextAtBa\x72" (275 : Nat) "NextAtBar$Serve\x72" "step" "I") ∈ lw_all := lw_g (lw_at lw_m4 74 rfl) rfl
theorem q919 : (Jvm.Cond.fieldLink "NextAtBa\x72" (278 : Nat) "NextAtBar$Serve\x72" "hands" "I") ∈ lw_all := lw_g (lw_at lw_m4 77 rfl) rfl
theorem q954 : (Jvm.Cond.static ({ cls := "NextAtBa\x72", name := "mannerOf", desc := "(II)LNextAtBar$Manner;" } : Jvm.MethodName)) ∈ lw_all := lw_g (lw_at lw_m4 112 rfl) rfl
theorem q955 : (Jvm.Cond.code ({ cls := "NextAtBa\x72", name := "mannerOf", desc := "(II)LNextAtBar$Manner;" } : Jvm.MethodName) prog_1_method_6_code (2 : Nat) (Option.some (Jvm.ClassFile.FieldType.object "NextAtBar$Manne\x72"))) ∈ lw_all := lw_g (lw_at lw_m4 113 rfl) rfl
theorem q956 : (Jvm.Cond.classLink "NextAtBa\x72" (57 : Nat) "NextAtBar$Polite") ∈ lw_all := lw_g (lw_at lw_m4 114 rfl) rfl
theorem q958 : (Jvm.Cond.methodLink "NextAtBa\x72" (59 : Nat) ({ cls := "NextAtBar$Polite", name := "<init>", desc := "(I)V" } : Jvm.MethodName)) ∈ lw_all := lw_g (lw_at lw_m4 116 rfl) rfl
theorem q964 : (Jvm.Cond.classLink "NextAtBa\x72" (60 : Nat) "NextAtBar$Regula\x72") ∈ lw_all := lw_g (lw_at lw_m4 122 rfl) rfl
theorem q966 : (Jvm.Cond.methodLink "NextAtBa\x72" (62 : Nat) ({ cls := "NextAtBar$Regula\x72", name := "<init>", desc := "()V" } : Jvm.MethodName)) ∈ lw_all := lw_g (lw_at lw_m4 124 rfl) rfl
theorem q980 : (Jvm.Cond.fieldLink "NextAtBa\x72" (415 : Nat) "NextAtBar$Person" "manne\x72" "LNextAtBar$Manner;") ∈ lw_all := lw_g (lw_at lw_m4 138 rfl) rfl
theorem q984 : (Jvm.Cond.fieldLink "NextAtBa\x72" (435 : Nat) "NextAtBar$Person" "wants" "[I") ∈ lw_all := lw_g (lw_at lw_m4 142 rfl) rfl
theorem q988 : (Jvm.Cond.fieldLink "NextAtBa\x72" (297 : Nat) "NextAtBar$Person" "comes" "I") ∈ lw_all := lw_g (lw_at lw_m4 146 rfl) rfl
theorem q991 : (Jvm.Cond.fieldLink "NextAtBa\x72" (424 : Nat) "NextAtBar$Person" "at" "I") ∈ lw_all := lw_g (lw_at lw_m4 149 rfl) rfl
theorem q994 : (Jvm.Cond.fieldLink "NextAtBa\x72" (425 : Nat) "NextAtBar$Person" "patience" "I") ∈ lw_all := lw_g (lw_at lw_m4 152 rfl) rfl
theorem q997 : (Jvm.Cond.fieldLink "NextAtBa\x72" (428 : Nat) "NextAtBar$Person" "look" "I") ∈ lw_all := lw_g (lw_at lw_m4 155 rfl) rfl
theorem q1001 : (Jvm.Cond.fieldLink "NextAtBa\x72" (430 : Nat) "NextAtBar$Person" "shelf" "I") ∈ lw_all := lw_g (lw_at lw_m4 159 rfl) rfl
theorem q1063 : (Jvm.Cond.fieldLink "NextAtBa\x72" (377 : Nat) "NextAtBar$Telling" "one" "I") ∈ lw_all := lw_g (lw_at lw_m4 221 rfl) rfl
theorem q1066 : (Jvm.Cond.fieldLink "NextAtBa\x72" (380 : Nat) "NextAtBar$Telling" "othe\x72" "I") ∈ lw_all := lw_g (lw_at lw_m4 224 rfl) rfl
theorem q1078 : (Jvm.Cond.classLink "NextAtBa\x72" (105 : Nat) "NextAtBar$Ba\x72") ∈ lw_all := lw_g (lw_at lw_m4 236 rfl) rfl
theorem q1080 : (Jvm.Cond.methodLink "NextAtBa\x72" (107 : Nat) ({ cls := "NextAtBar$Ba\x72", name := "<init>", desc := "(LNextAtBar$House;)V" } : Jvm.MethodName)) ∈ lw_all := lw_g (lw_at lw_m4 238 rfl) rfl
theorem q1125 : (Jvm.Cond.fieldLink "NextAtBa\x72" (195 : Nat) "NextAtBar$Ba\x72" "does" "[I") ∈ lw_all := lw_g (lw_at lw_m5 43 rfl) rfl
theorem q1129 : (Jvm.Cond.fieldLink "NextAtBa\x72" (165 : Nat) "NextAtBar$Ba\x72" "place" "[I") ∈ lw_all := lw_g (lw_at lw_m5 47 rfl) rfl
theorem q1132 : (Jvm.Cond.fieldLink "NextAtBa\x72" (168 : Nat) "NextAtBar$Ba\x72" "look" "[I") ∈ lw_all := lw_g (lw_at lw_m5 50 rfl) rfl
theorem q1135 : (Jvm.Cond.fieldLink "NextAtBa\x72" (171 : Nat) "NextAtBar$Ba\x72" "says" "[I") ∈ lw_all := lw_g (lw_at lw_m5 53 rfl) rfl
theorem q1137 : (Jvm.Cond.fieldLink "NextAtBa\x72" (288 : Nat) "NextAtBar$Ba\x72" "shelf" "[I") ∈ lw_all := lw_g (lw_at lw_m5 55 rfl) rfl
theorem q1139 : (Jvm.Cond.fieldLink "NextAtBa\x72" (174 : Nat) "NextAtBar$Ba\x72" "begun" "[I") ∈ lw_all := lw_g (lw_at lw_m5 57 rfl) rfl
theorem q1141 : (Jvm.Cond.fieldLink "NextAtBa\x72" (220 : Nat) "NextAtBar$Ba\x72" "whom" "[I") ∈ lw_all := lw_g (lw_at lw_m5 59 rfl) rfl
theorem q1143 : (Jvm.Cond.fieldLink "NextAtBa\x72" (177 : Nat) "NextAtBar$Ba\x72" "had" "[I") ∈ lw_all := lw_g (lw_at lw_m5 61 rfl) rfl
theorem q1146 : (Jvm.Cond.fieldLink "NextAtBa\x72" (223 : Nat) "NextAtBar$Ba\x72" "passed" "[I") ∈ lw_all := lw_g (lw_at lw_m5 64 rfl) rfl
theorem q1148 : (Jvm.Cond.fieldLink "NextAtBa\x72" (226 : Nat) "NextAtBar$Ba\x72" "pushed" "[I") ∈ lw_all := lw_g (lw_at lw_m5 66 rfl) rfl
theorem q1150 : (Jvm.Cond.fieldLink "NextAtBa\x72" (235 : Nat) "NextAtBar$Ba\x72" "served" "[I") ∈ lw_all := lw_g (lw_at lw_m5 68 rfl) rfl
theorem q1154 : (Jvm.Cond.fieldLink "NextAtBa\x72" (243 : Nat) "NextAtBar$Ba\x72" "rule" "[LNextAtBar$Rule;") ∈ lw_all := lw_g (lw_at lw_m5 72 rfl) rfl
theorem q1158 : (Jvm.Cond.fieldLink "NextAtBa\x72" (183 : Nat) "NextAtBar$Ba\x72" "at" "[I") ∈ lw_all := lw_g (lw_at lw_m5 76 rfl) rfl
theorem q1160 : (Jvm.Cond.fieldLink "NextAtBa\x72" (251 : Nat) "NextAtBar$Ba\x72" "from" "[I") ∈ lw_all := lw_g (lw_at lw_m5 78 rfl) rfl
theorem q1162 : (Jvm.Cond.fieldLink "NextAtBa\x72" (254 : Nat) "NextAtBar$Ba\x72" "to" "[I") ∈ lw_all := lw_g (lw_at lw_m5 80 rfl) rfl
theorem q1166 : (Jvm.Cond.fieldLink "NextAtBa\x72" (281 : Nat) "NextAtBar$Ba\x72" "busy" "[I") ∈ lw_all := lw_g (lw_at lw_m5 84 rfl) rfl
theorem q1168 : (Jvm.Cond.fieldLink "NextAtBa\x72" (346 : Nat) "NextAtBar$Ba\x72" "last" "[I") ∈ lw_all := lw_g (lw_at lw_m5 86 rfl) rfl
theorem q1170 : (Jvm.Cond.fieldLink "NextAtBa\x72" (241 : Nat) "NextAtBar$Ba\x72" "staff" "I") ∈ lw_all := lw_g (lw_at lw_m5 88 rfl) rfl
theorem q1172 : (Jvm.Cond.fieldLink "NextAtBa\x72" (325 : Nat) "NextAtBar$Ba\x72" "now" "I") ∈ lw_all := lw_g (lw_at lw_m5 90 rfl) rfl
theorem q1174 : (Jvm.Cond.fieldLink "NextAtBa\x72" (232 : Nat) "NextAtBar$Ba\x72" "many" "I") ∈ lw_all := lw_g (lw_at lw_m5 92 rfl) rfl
theorem q1176 : (Jvm.Cond.fieldLink "NextAtBa\x72" (328 : Nat) "NextAtBar$Ba\x72" "bell" "I") ∈ lw_all := lw_g (lw_at lw_m5 94 rfl) rfl
theorem q1233 : (Jvm.Cond.methodLink "NextAtBa\x72" (120 : Nat) ({ cls := "NextAtBar$Ba\x72", name := "copy", desc := "()LNextAtBar$Bar;" } : Jvm.MethodName)) ∈ lw_all := lw_g (lw_at lw_m5 151 rfl) rfl
theorem q1244 : (Jvm.Cond.methodLink "NextAtBa\x72" (124 : Nat) ({ cls := "NextAtBa\x72", name := "shows", desc := "(LNextAtBar$Bar;)V" } : Jvm.MethodName)) ∈ lw_all := lw_g (lw_at lw_m5 162 rfl) rfl
theorem q1245 : (Jvm.Cond.privateMethod ({ cls := "NextAtBa\x72", name := "shows", desc := "(LNextAtBar$Bar;)V" } : Jvm.MethodName)) ∈ lw_tbl := lw_at lw_m5 163 rfl
theorem q1246 : (Jvm.Cond.instanceMethod ({ cls := "NextAtBa\x72", name := "shows", desc := "(LNextAtBar$Bar;)V" } : Jvm.MethodName)) ∈ lw_all := lw_g (lw_at lw_m5 164 rfl) rfl
theorem q1247 : (Jvm.Cond.code ({ cls := "NextAtBa\x72", name := "shows", desc := "(LNextAtBar$Bar;)V" } : Jvm.MethodName) prog_1_method_16_code (2 : Nat) (Option.none : Option Jvm.ClassFile.FieldType)) ∈ lw_all := lw_g (lw_at lw_m5 165 rfl) rfl
theorem q1248 : (Jvm.Cond.methodLink "NextAtBa\x72" (128 : Nat) ({ cls := "java/util/ArrayList", name := "clea\x72", desc := "()V" } : Jvm.MethodName)) ∈ lw_all := lw_g (lw_at lw_m5 166 rfl) rfl
theorem q1252 : (Jvm.Cond.methodLink "NextAtBa\x72" (136 : Nat) ({ cls := "java/util/ArrayList", name := "size", desc := "()I" } : Jvm.MethodName)) ∈ lw_all := lw_g (lw_at lw_m5 170 rfl) rfl
theorem q1253 : (Jvm.Cond.methodLink "NextAtBa\x72" (70 : Nat) ({ cls := "NextAtBa\x72", name := "well", desc := "(I)I" } : Jvm.MethodName)) ∈ lw_all := lw_g (lw_at lw_m5 171 rfl) rfl
theorem q1254 : (Jvm.Cond.privateMethod ({ cls := "NextAtBa\x72", name := "well", desc := "(I)I" } : Jvm.MethodName)) ∈ lw_tbl := lw_at lw_m5 172 rfl
theorem q1255 : (Jvm.Cond.instanceMethod ({ cls := "NextAtBa\x72", name := "well", desc := "(I)I" } : Jvm.MethodName)) ∈ lw_all := lw_g (lw_at lw_m5 173 rfl) rfl
theorem q1256 : (Jvm.Cond.code ({ cls := "NextAtBa\x72", name := "well", desc := "(I)I" } : Jvm.MethodName) prog_1_method_10_code (2 : Nat) (Option.some Jvm.ClassFile.FieldType.int)) ∈ lw_all := lw_g (lw_at lw_m5 174 rfl) rfl
theorem q1258 : (Jvm.Cond.instanceMethod ({ cls := "NextAtBa\x72", name := "fault", desc := "()I" } : Jvm.MethodName)) ∈ lw_all := lw_g (lw_at lw_m5 176 rfl) rfl
theorem q1259 : (Jvm.Cond.selects "NextAtBa\x72" ({ cls := "NextAtBa\x72", name := "fault", desc := "()I" } : Jvm.MethodName) ({ cls := "NextAtBa\x72", name := "fault", desc := "()I" } : Jvm.MethodName)) ∈ lw_all := lw_g (lw_at lw_m5 177 rfl) rfl
theorem q1260 : (Jvm.Cond.code ({ cls := "NextAtBa\x72", name := "fault", desc := "()I" } : Jvm.MethodName) prog_1_method_14_code (1 : Nat) (Option.some Jvm.ClassFile.FieldType.int)) ∈ lw_all := lw_g (lw_at lw_m5 178 rfl) rfl
theorem q1262 : (Jvm.Cond.instanceMethod ({ cls := "NextAtBa\x72", name := "where", desc := "()I" } : Jvm.MethodName)) ∈ lw_all := lw_g (lw_at lw_m5 180 rfl) rfl
theorem q1263 : (Jvm.Cond.selects "NextAtBa\x72" ({ cls := "NextAtBa\x72", name := "where", desc := "()I" } : Jvm.MethodName) ({ cls := "NextAtBa\x72", name := "where", desc := "()I" } : Jvm.MethodName)) ∈ lw_all := lw_g (lw_at lw_m5 181 rfl) rfl
theorem q1264 : (Jvm.Cond.code ({ cls := "NextAtBa\x72", name := "where", desc := "()I" } : Jvm.MethodName) prog_1_method_15_code (1 : Nat) (Option.some Jvm.ClassFile.FieldType.int)) ∈ lw_all := lw_g (lw_at lw_m5 182 rfl) rfl
theorem q1266 : (Jvm.Cond.instanceMethod ({ cls := "NextAtBa\x72", name := "person", desc := "(II)I" } : Jvm.MethodName)) ∈ lw_all := lw_g (lw_at lw_m5 184 rfl) rfl
theorem q1267 : (Jvm.Cond.selects "NextAtBa\x72" ({ cls := "NextAtBa\x72", name := "person", desc := "(II)I" } : Jvm.MethodName) ({ cls := "NextAtBa\x72", name := "person", desc := "(II)I" } : Jvm.MethodName)) ∈ lw_all := lw_g (lw_at lw_m5 185 rfl) rfl
theorem q1268 : (Jvm.Cond.code ({ cls := "NextAtBa\x72", name := "person", desc := "(II)I" } : Jvm.MethodName) prog_1_method_22_code (3 : Nat) (Option.some Jvm.ClassFile.FieldType.int)) ∈ lw_all := lw_g (lw_at lw_m5 186 rfl) rfl
theorem q1269 : (Jvm.Cond.methodLink "NextAtBa\x72" (158 : Nat) ({ cls := "NextAtBa\x72", name := "isPerson", desc := "(I)Z" } : Jvm.MethodName)) ∈ lw_all := lw_g (lw_at lw_m5 187 rfl) rfl
theorem q1270 : (Jvm.Cond.privateMethod ({ cls := "NextAtBa\x72", name := "isPerson", desc := "(I)Z" } : Jvm.MethodName)) ∈ lw_tbl := lw_at lw_m5 188 rfl
theorem q1271 : (Jvm.Cond.instanceMethod ({ cls := "NextAtBa\x72", name := "isPerson", desc := "(I)Z" } : Jvm.MethodName)) ∈ lw_all := lw_g (lw_at lw_m5 189 rfl) rfl
theorem q1272 : (Jvm.Cond.code ({ cls := "NextAtBa\x72", name := "isPerson", desc := "(I)Z" } : Jvm.MethodName) prog_1_method_19_code (2 : Nat) (Option.some Jvm.ClassFile.FieldType.boolean)) ∈ lw_all := lw_g (lw_at lw_m5 190 rfl) rfl
theorem q1273 : (Jvm.Cond.methodLink "NextAtBa\x72" (162 : Nat) ({ cls := "NextAtBar$Ba\x72", name := "doesNow", desc := "(I)I" } : Jvm.MethodName)) ∈ lw_all := lw_g (lw_at lw_m5 191 rfl) rfl
theorem q1278 : (Jvm.Cond.instanceMethod ({ cls := "NextAtBa\x72", name := "staff", desc := "(II)I" } : Jvm.MethodName)) ∈ lw_all := lw_g (lw_at lw_m5 196 rfl) rfl
theorem q1279 : (Jvm.Cond.selects "NextAtBa\x72" ({ cls := "NextAtBa\x72", name := "staff", desc := "(II)I" } : Jvm.MethodName) ({ cls := "NextAtBa\x72", name := "staff", desc := "(II)I" } : Jvm.MethodName)) ∈ lw_all := lw_g (lw_at lw_m5 197 rfl) rfl
theorem q1280 : (Jvm.Cond.code ({ cls := "NextAtBa\x72", name := "staff", desc := "(II)I" } : Jvm.MethodName) prog_1_method_23_code (3 : Nat) (Option.some Jvm.ClassFile.FieldType.int)) ∈ lw_all := lw_g (lw_at lw_m5 198 rfl) rfl
theorem q1281 : (Jvm.Cond.methodLink "NextAtBa\x72" (180 : Nat) ({ cls := "NextAtBa\x72", name := "isServe\x72", desc := "(I)Z" } : Jvm.MethodName)) ∈ lw_all := lw_g (lw_at lw_m5 199 rfl) rfl
theorem q1282 : (Jvm.Cond.privateMethod ({ cls := "NextAtBa\x72", name := "isServe\x72", desc := "(I)Z" } : Jvm.MethodName)) ∈ lw_tbl := lw_at lw_m5 200 rfl
theorem q1283 : (Jvm.Cond.instanceMethod ({ cls := "NextAtBa\x72", name := "isServe\x72", desc := "(I)Z" } : Jvm.MethodName)) ∈ lw_all := lw_g (lw_at lw_m5 201 rfl) rfl
theorem q1284 : (Jvm.Cond.code ({ cls := "NextAtBa\x72", name := "isServe\x72", desc := "(I)Z" } : Jvm.MethodName) prog_1_method_20_code (2 : Nat) (Option.some Jvm.ClassFile.FieldType.boolean)) ∈ lw_all := lw_g (lw_at lw_m5 202 rfl) rfl
theorem q1285 : (Jvm.Cond.methodLink "NextAtBa\x72" (186 : Nat) ({ cls := "NextAtBar$Ba\x72", name := "busyHands", desc := "(I)I" } : Jvm.MethodName)) ∈ lw_all := lw_g (lw_at lw_m5 203 rfl) rfl
theorem q1289 : (Jvm.Cond.methodLink "NextAtBa\x72" (189 : Nat) ({ cls := "NextAtBar$Ba\x72", name := "firstFree", desc := "(I)I" } : Jvm.MethodName)) ∈ lw_all := lw_g (lw_at lw_m5 207 rfl) rfl
theorem q1296 : (Jvm.Cond.instanceMethod ({ cls := "NextAtBa\x72", name := "elbows", desc := "(I)I" } : Jvm.MethodName)) ∈ lw_all := lw_g (lw_at lw_m5 214 rfl) rfl
theorem q1297 : (Jvm.Cond.selects "NextAtBa\x72" ({ cls := "NextAtBa\x72", name := "elbows", desc := "(I)I" } : Jvm.MethodName) ({ cls := "NextAtBa\x72", name := "elbows", desc := "(I)I" } : Jvm.MethodName)) ∈ lw_all := lw_g (lw_at lw_m5 215 rfl) rfl
theorem q1298 : (Jvm.Cond.code ({ cls := "NextAtBa\x72", name := "elbows", desc := "(I)I" } : Jvm.MethodName) prog_1_method_24_code (4 : Nat) (Option.some Jvm.ClassFile.FieldType.int)) ∈ lw_all := lw_g (lw_at lw_m5 216 rfl) rfl
theorem q1299 : (Jvm.Cond.methodLink "NextAtBa\x72" (192 : Nat) ({ cls := "NextAtBa\x72", name := "isPlace", desc := "(I)Z" } : Jvm.MethodName)) ∈ lw_all := lw_g (lw_at lw_m5 217 rfl) rfl
theorem q1300 : (Jvm.Cond.privateMethod ({ cls := "NextAtBa\x72", name := "isPlace", desc := "(I)Z" } : Jvm.MethodName)) ∈ lw_tbl := lw_at lw_m5 218 rfl
theorem q1301 : (Jvm.Cond.instanceMethod ({ cls := "NextAtBa\x72", name := "isPlace", desc := "(I)Z" } : Jvm.MethodName)) ∈ lw_all := lw_g (lw_at lw_m5 219 rfl) rfl
theorem q1302 : (Jvm.Cond.code ({ cls := "NextAtBa\x72", name := "isPlace", desc := "(I)Z" } : Jvm.MethodName) prog_1_method_21_code (2 : Nat) (Option.some Jvm.ClassFile.FieldType.boolean)) ∈ lw_all := lw_g (lw_at lw_m5 220 rfl) rfl
theorem q1304 : (Jvm.Cond.instanceMethod ({ cls := "NextAtBa\x72", name := "waiting", desc := "()I" } : Jvm.MethodName)) ∈ lw_all := lw_g (lw_at lw_m5 222 rfl) rfl
theorem q1305 : (Jvm.Cond.selects "NextAtBa\x72" ({ cls := "NextAtBa\x72", name := "waiting", desc := "()I" } : Jvm.MethodName) ({ cls := "NextAtBa\x72", name := "waiting", desc := "()I" } : Jvm.MethodName)) ∈ lw_all := lw_g (lw_at lw_m5 223 rfl) rfl
theorem q1306 : (Jvm.Cond.code ({ cls := "NextAtBa\x72", name := "waiting", desc := "()I" } : Jvm.MethodName) prog_1_method_26_code (1 : Nat) (Option.some Jvm.ClassFile.FieldType.int)) ∈ lw_all := lw_g (lw_at lw_m5 224 rfl) rfl
theorem q1307 : (Jvm.Cond.methodLink "NextAtBa\x72" (198 : Nat) ({ cls := "NextAtBa\x72", name := "waitingNow", desc := "()I" } : Jvm.MethodName)) ∈ lw_all := lw_g (lw_at lw_m5 225 rfl) rfl
theorem q1308 : (Jvm.Cond.privateMethod ({ cls := "NextAtBa\x72", name := "waitingNow", desc := "()I" } : Jvm.MethodName)) ∈ lw_tbl := lw_at lw_m5 226 rfl
theorem q1309 : (Jvm.Cond.instanceMethod ({ cls := "NextAtBa\x72", name := "waitingNow", desc := "()I" } : Jvm.MethodName)) ∈ lw_all := lw_g (lw_at lw_m5 227 rfl) rfl
theorem q1310 : (Jvm.Cond.code ({ cls := "NextAtBa\x72", name := "waitingNow", desc := "()I" } : Jvm.MethodName) prog_1_method_25_code (3 : Nat) (Option.some Jvm.ClassFile.FieldType.int)) ∈ lw_all := lw_g (lw_at lw_m5 228 rfl) rfl
theorem q1312 : (Jvm.Cond.instanceMethod ({ cls := "NextAtBa\x72", name := "next", desc := "(I)I" } : Jvm.MethodName)) ∈ lw_all := lw_g (lw_at lw_m5 230 rfl) rfl
theorem q1313 : (Jvm.Cond.selects "NextAtBa\x72" ({ cls := "NextAtBa\x72", name := "next", desc := "(I)I" } : Jvm.MethodName) ({ cls := "NextAtBa\x72", name := "next", desc := "(I)I" } : Jvm.MethodName)) ∈ lw_all := lw_g (lw_at lw_m5 231 rfl) rfl
theorem q1314 : (Jvm.Cond.code ({ cls := "NextAtBa\x72", name := "next", desc := "(I)I" } : Jvm.MethodName) prog_1_method_27_code (2 : Nat) (Option.some Jvm.ClassFile.FieldType.int)) ∈ lw_all := lw_g (lw_at lw_m5 232 rfl) rfl
theorem q1315 : (Jvm.Cond.methodLink "NextAtBa\x72" (201 : Nat) ({ cls := "NextAtBar$Ba\x72", name := "next", desc := "(I)I" } : Jvm.MethodName)) ∈ lw_all := lw_g (lw_at lw_m5 233 rfl) rfl
theorem q1358 : (Jvm.Cond.instanceMethod ({ cls := "NextAtBa\x72", name := "time", desc := "(II)I" } : Jvm.MethodName)) ∈ lw_all := lw_g (lw_at lw_m6 36 rfl) rfl
theorem q1359 : (Jvm.Cond.selects "NextAtBa\x72" ({ cls := "NextAtBa\x72", name := "time", desc := "(II)I" } : Jvm.MethodName) ({ cls := "NextAtBa\x72", name := "time", desc := "(II)I" } : Jvm.MethodName)) ∈ lw_all := lw_g (lw_at lw_m6 37 rfl) rfl
theorem q1360 : (Jvm.Cond.code ({ cls := "NextAtBa\x72", name := "time", desc := "(II)I" } : Jvm.MethodName) prog_1_method_28_code (3 : Nat) (Option.some Jvm.ClassFile.FieldType.int)) ∈ lw_all := lw_g (lw_at lw_m6 38 rfl) rfl
theorem q1361 : (Jvm.Cond.methodLink "NextAtBa\x72" (204 : Nat) ({ cls := "NextAtBar$Ba\x72", name := "time", desc := "(II)I" } : Jvm.MethodName)) ∈ lw_all := lw_g (lw_at lw_m6 39 rfl) rfl
theorem q1374 : (Jvm.Cond.instanceMethod ({ cls := "NextAtBa\x72", name := "costs", desc := "(I)I" } : Jvm.MethodName)) ∈ lw_all := lw_g (lw_at lw_m6 52 rfl) rfl
theorem q1375 : (Jvm.Cond.selects "NextAtBa\x72" ({ cls := "NextAtBa\x72", name := "costs", desc := "(I)I" } : Jvm.MethodName) ({ cls := "NextAtBa\x72", name := "costs", desc := "(I)I" } : Jvm.MethodName)) ∈ lw_all := lw_g (lw_at lw_m6 53 rfl) rfl
theorem q1376 : (Jvm.Cond.code ({ cls := "NextAtBa\x72", name := "costs", desc := "(I)I" } : Jvm.MethodName) prog_1_method_29_code (2 : Nat) (Option.some Jvm.ClassFile.FieldType.int)) ∈ lw_all := lw_g (lw_at lw_m6 54 rfl) rfl
theorem q1377 : (Jvm.Cond.methodLink "NextAtBa\x72" (208 : Nat) ({ cls := "NextAtBar$House", name := "costs", desc := "(I)I" } : Jvm.MethodName)) ∈ lw_all := lw_g (lw_at lw_m6 55 rfl) rfl
theorem q1382 : (Jvm.Cond.instanceMethod ({ cls := "NextAtBa\x72", name := "fate", desc := "(I)I" } : Jvm.MethodName)) ∈ lw_all := lw_g (lw_at lw_m6 60 rfl) rfl
theorem q1383 : (Jvm.Cond.selects "NextAtBa\x72" ({ cls := "NextAtBa\x72", name := "fate", desc := "(I)I" } : Jvm.MethodName) ({ cls := "NextAtBa\x72", name := "fate", desc := "(I)I" } : Jvm.MethodName)) ∈ lw_all := lw_g (lw_at lw_m6 61 rfl) rfl
theorem q1384 : (Jvm.Cond.code ({ cls := "NextAtBa\x72", name := "fate", desc := "(I)I" } : Jvm.MethodName) prog_1_method_30_code (2 : Nat) (Option.some Jvm.ClassFile.FieldType.int)) ∈ lw_all := lw_g (lw_at lw_m6 62 rfl) rfl
theorem q1385 : (Jvm.Cond.methodLink "NextAtBa\x72" (211 : Nat) ({ cls := "NextAtBa\x72", name := "toCome", desc := "()LNextAtBar$Bar;" } : Jvm.MethodName)) ∈ lw_all := lw_g (lw_at lw_m6 63 rfl) rfl
theorem q1386 : (Jvm.Cond.privateMethod ({ cls := "NextAtBa\x72", name := "toCome", desc := "()LNextAtBar$Bar;" } : Jvm.MethodName)) ∈ lw_tbl := lw_at lw_m6 64 rfl
theorem q1387 : (Jvm.Cond.instanceMethod ({ cls := "NextAtBa\x72", name := "toCome", desc := "()LNextAtBar$Bar;" } : Jvm.MethodName)) ∈ lw_all := lw_g (lw_at lw_m6 65 rfl) rfl
theorem q1388 : (Jvm.Cond.code ({ cls := "NextAtBa\x72", name := "toCome", desc := "()LNextAtBar$Bar;" } : Jvm.MethodName) prog_1_method_17_code (1 : Nat) (Option.some (Jvm.ClassFile.FieldType.object "NextAtBar$Ba\x72"))) ∈ lw_all := lw_g (lw_at lw_m6 66 rfl) rfl
theorem q1389 : (Jvm.Cond.methodLink "NextAtBa\x72" (147 : Nat) ({ cls := "NextAtBar$Ba\x72", name := "takes", desc := "(LNextAtBar$Bar;)V" } : Jvm.MethodName)) ∈ lw_all := lw_g (lw_at lw_m6 67 rfl) rfl
theorem q1390 : (Jvm.Cond.methodLink "NextAtBa\x72" (150 : Nat) ({ cls := "NextAtBar$Ba\x72", name := "evening", desc := "()LNextAtBar$Bar;" } : Jvm.MethodName)) ∈ lw_all := lw_g (lw_at lw_m6 68 rfl) rfl
theorem q1417 : (Jvm.Cond.methodLink "NextAtBa\x72" (214 : Nat) ({ cls := "NextAtBar$Ba\x72", name := "fate", desc := "(I)I" } : Jvm.MethodName)) ∈ lw_all := lw_g (lw_at lw_m6 95 rfl) rfl
theorem q1422 : (Jvm.Cond.instanceMethod ({ cls := "NextAtBa\x72", name := "waits", desc := "(I)I" } : Jvm.MethodName)) ∈ lw_all := lw_g (lw_at lw_m6 100 rfl) rfl
theorem q1423 : (Jvm.Cond.selects "NextAtBa\x72" ({ cls := "NextAtBa\x72", name := "waits", desc := "(I)I" } : Jvm.MethodName) ({ cls := "NextAtBa\x72", name := "waits", desc := "(I)I" } : Jvm.MethodName)) ∈ lw_all := lw_g (lw_at lw_m6 101 rfl) rfl
theorem q1424 : (Jvm.Cond.code ({ cls := "NextAtBa\x72", name := "waits", desc := "(I)I" } : Jvm.MethodName) prog_1_method_31_code (2 : Nat) (Option.some Jvm.ClassFile.FieldType.int)) ∈ lw_all := lw_g (lw_at lw_m6 102 rfl) rfl
theorem q1425 : (Jvm.Cond.methodLink "NextAtBa\x72" (217 : Nat) ({ cls := "NextAtBar$Ba\x72", name := "waits", desc := "(I)I" } : Jvm.MethodName)) ∈ lw_all := lw_g (lw_at lw_m6 103 rfl) rfl
theorem q1430 : (Jvm.Cond.instanceMethod ({ cls := "NextAtBa\x72", name := "whom", desc := "(I)I" } : Jvm.MethodName)) ∈ lw_all := lw_g (lw_at lw_m6 108 rfl) rfl
theorem q1431 : (Jvm.Cond.selects "NextAtBa\x72" ({ cls := "NextAtBa\x72", name := "whom", desc := "(I)I" } : Jvm.MethodName) ({ cls := "NextAtBa\x72", name := "whom", desc := "(I)I" } : Jvm.MethodName)) ∈ lw_all := lw_g (lw_at lw_m6 109 rfl) rfl
theorem q1432 : (Jvm.Cond.code ({ cls := "NextAtBa\x72", name := "whom", desc := "(I)I" } : Jvm.MethodName) prog_1_method_32_code (2 : Nat) (Option.some Jvm.ClassFile.FieldType.int)) ∈ lw_all := lw_g (lw_at lw_m6 110 rfl) rfl
theorem q1434 : (Jvm.Cond.instanceMethod ({ cls := "NextAtBa\x72", name := "has", desc := "(I)I" } : Jvm.MethodName)) ∈ lw_all := lw_g (lw_at lw_m6 112 rfl) rfl
theorem q1435 : (Jvm.Cond.selects "NextAtBa\x72" ({ cls := "NextAtBa\x72", name := "has", desc := "(I)I" } : Jvm.MethodName) ({ cls := "NextAtBa\x72", name := "has", desc := "(I)I" } : Jvm.MethodName)) ∈ lw_all := lw_g (lw_at lw_m6 113 rfl) rfl
theorem q1436 : (Jvm.Cond.code ({ cls := "NextAtBa\x72", name := "has", desc := "(I)I" } : Jvm.MethodName) prog_1_method_33_code (2 : Nat) (Option.some Jvm.ClassFile.FieldType.int)) ∈ lw_all := lw_g (lw_at lw_m6 114 rfl) rfl
theorem q1438 : (Jvm.Cond.instanceMethod ({ cls := "NextAtBa\x72", name := "passed", desc := "(I)I" } : Jvm.MethodName)) ∈ lw_all := lw_g (lw_at lw_m6 116 rfl) rfl
theorem q1439 : (Jvm.Cond.selects "NextAtBa\x72" ({ cls := "NextAtBa\x72", name := "passed", desc := "(I)I" } : Jvm.MethodName) ({ cls := "NextAtBa\x72", name := "passed", desc := "(I)I" } : Jvm.MethodName)) ∈ lw_all := lw_g (lw_at lw_m6 117 rfl) rfl
theorem q1440 : (Jvm.Cond.code ({ cls := "NextAtBa\x72", name := "passed", desc := "(I)I" } : Jvm.MethodName) prog_1_method_34_code (2 : Nat) (Option.some Jvm.ClassFile.FieldType.int)) ∈ lw_all := lw_g (lw_at lw_m6 118 rfl) rfl
theorem q1442 : (Jvm.Cond.instanceMethod ({ cls := "NextAtBa\x72", name := "pushed", desc := "(I)I" } : Jvm.MethodName)) ∈ lw_all := lw_g (lw_at lw_m6 120 rfl) rfl
theorem q1443 : (Jvm.Cond.selects "NextAtBa\x72" ({ cls := "NextAtBa\x72", name := "pushed", desc := "(I)I" } : Jvm.MethodName) ({ cls := "NextAtBa\x72", name := "pushed", desc := "(I)I" } : Jvm.MethodName)) ∈ lw_all := lw_g (lw_at lw_m6 121 rfl) rfl
theorem q1444 : (Jvm.Cond.code ({ cls := "NextAtBa\x72", name := "pushed", desc := "(I)I" } : Jvm.MethodName) prog_1_method_35_code (2 : Nat) (Option.some Jvm.ClassFile.FieldType.int)) ∈ lw_all := lw_g (lw_at lw_m6 122 rfl) rfl
theorem q1446 : (Jvm.Cond.instanceMethod ({ cls := "NextAtBa\x72", name := "sum", desc := "(I)I" } : Jvm.MethodName)) ∈ lw_all := lw_g (lw_at lw_m6 124 rfl) rfl
theorem q1447 : (Jvm.Cond.selects "NextAtBa\x72" ({ cls := "NextAtBa\x72", name := "sum", desc := "(I)I" } : Jvm.MethodName) ({ cls := "NextAtBa\x72", name := "sum", desc := "(I)I" } : Jvm.MethodName)) ∈ lw_all := lw_g (lw_at lw_m6 125 rfl) rfl
theorem q1448 : (Jvm.Cond.code ({ cls := "NextAtBa\x72", name := "sum", desc := "(I)I" } : Jvm.MethodName) prog_1_method_36_code (2 : Nat) (Option.some Jvm.ClassFile.FieldType.int)) ∈ lw_all := lw_g (lw_at lw_m6 126 rfl) rfl
theorem q1449 : (Jvm.Cond.methodLink "NextAtBa\x72" (229 : Nat) ({ cls := "NextAtBar$Ba\x72", name := "sum", desc := "(I)I" } : Jvm.MethodName)) ∈ lw_all := lw_g (lw_at lw_m6 127 rfl) rfl
theorem q1460 : (Jvm.Cond.static ({ cls := "NextAtBa\x72", name := "bits", desc := "(I)I" } : Jvm.MethodName)) ∈ lw_all := lw_g (lw_at lw_m6 138 rfl) rfl
theorem q1461 : (Jvm.Cond.code ({ cls := "NextAtBa\x72", name := "bits", desc := "(I)I" } : Jvm.MethodName) prog_1_method_4_code (3 : Nat) (Option.some Jvm.ClassFile.FieldType.int)) ∈ lw_all := lw_g (lw_at lw_m6 139 rfl) rfl
theorem q1464 : (Jvm.Cond.instanceMethod ({ cls := "NextAtBa\x72", name := "served", desc := "(I)I" } : Jvm.MethodName)) ∈ lw_all := lw_g (lw_at lw_m6 142 rfl) rfl
theorem q1465 : (Jvm.Cond.selects "NextAtBa\x72" ({ cls := "NextAtBa\x72", name := "served", desc := "(I)I" } : Jvm.MethodName) ({ cls := "NextAtBa\x72", name := "served", desc := "(I)I" } : Jvm.MethodName)) ∈ lw_all := lw_g (lw_at lw_m6 143 rfl) rfl
theorem q1466 : (Jvm.Cond.code ({ cls := "NextAtBa\x72", name := "served", desc := "(I)I" } : Jvm.MethodName) prog_1_method_37_code (2 : Nat) (Option.some Jvm.ClassFile.FieldType.int)) ∈ lw_all := lw_g (lw_at lw_m6 144 rfl) rfl
theorem q1468 : (Jvm.Cond.instanceMethod ({ cls := "NextAtBa\x72", name := "by", desc := "(IZI)I" } : Jvm.MethodName)) ∈ lw_all := lw_g (lw_at lw_m6 146 rfl) rfl
theorem q1469 : (Jvm.Cond.selects "NextAtBa\x72" ({ cls := "NextAtBa\x72", name := "by", desc := "(IZI)I" } : Jvm.MethodName) ({ cls := "NextAtBa\x72", name := "by", desc := "(IZI)I" } : Jvm.MethodName)) ∈ lw_all := lw_g (lw_at lw_m6 147 rfl) rfl
theorem q1470 : (Jvm.Cond.code ({ cls := "NextAtBa\x72", name := "by", desc := "(IZI)I" } : Jvm.MethodName) prog_1_method_39_code (4 : Nat) (Option.some Jvm.ClassFile.FieldType.int)) ∈ lw_all := lw_g (lw_at lw_m6 148 rfl) rfl
theorem q1471 : (Jvm.Cond.methodLink "NextAtBa\x72" (257 : Nat) ({ cls := "NextAtBa\x72", name := "byRule", desc := "(IZ)LNextAtBar$Bar;" } : Jvm.MethodName)) ∈ lw_all := lw_g (lw_at lw_m6 149 rfl) rfl
theorem q1472 : (Jvm.Cond.privateMethod ({ cls := "NextAtBa\x72", name := "byRule", desc := "(IZ)LNextAtBar$Bar;" } : Jvm.MethodName)) ∈ lw_tbl := lw_at lw_m6 150 rfl
theorem q1473 : (Jvm.Cond.instanceMethod ({ cls := "NextAtBa\x72", name := "byRule", desc := "(IZ)LNextAtBar$Bar;" } : Jvm.MethodName)) ∈ lw_all := lw_g (lw_at lw_m6 151 rfl) rfl
theorem q1474 : (Jvm.Cond.code ({ cls := "NextAtBa\x72", name := "byRule", desc := "(IZ)LNextAtBar$Bar;" } : Jvm.MethodName) prog_1_method_38_code (5 : Nat) (Option.some (Jvm.ClassFile.FieldType.object "NextAtBar$Ba\x72"))) ∈ lw_all := lw_g (lw_at lw_m6 152 rfl) rfl
theorem q1475 : (Jvm.Cond.methodLink "NextAtBa\x72" (238 : Nat) ({ cls := "NextAtBa\x72", name := "tries", desc := "()LNextAtBar$Bar;" } : Jvm.MethodName)) ∈ lw_all := lw_g (lw_at lw_m6 153 rfl) rfl
theorem q1476 : (Jvm.Cond.privateMethod ({ cls := "NextAtBa\x72", name := "tries", desc := "()LNextAtBar$Bar;" } : Jvm.MethodName)) ∈ lw_tbl := lw_at lw_m6 154 rfl
theorem q1477 : (Jvm.Cond.instanceMethod ({ cls := "NextAtBa\x72", name := "tries", desc := "()LNextAtBar$Bar;" } : Jvm.MethodName)) ∈ lw_all := lw_g (lw_at lw_m6 155 rfl) rfl
theorem q1478 : (Jvm.Cond.code ({ cls := "NextAtBa\x72", name := "tries", desc := "()LNextAtBar$Bar;" } : Jvm.MethodName) prog_1_method_18_code (1 : Nat) (Option.some (Jvm.ClassFile.FieldType.object "NextAtBar$Ba\x72"))) ∈ lw_all := lw_g (lw_at lw_m6 156 rfl) rfl
theorem q1479 : (Jvm.Cond.methodLink "NextAtBa\x72" (247 : Nat) ({ cls := "NextAtBa\x72", name := "ruleOf", desc := "(I)LNextAtBar$Rule;" } : Jvm.MethodName)) ∈ lw_all := lw_g (lw_at lw_m6 157 rfl) rfl
theorem q1481 : (Jvm.Cond.instanceMethod ({ cls := "NextAtBa\x72", name := "bestRule", desc := "(Z)I" } : Jvm.MethodName)) ∈ lw_all := lw_g (lw_at lw_m6 159 rfl) rfl
theorem q1482 : (Jvm.Cond.selects "NextAtBa\x72" ({ cls := "NextAtBa\x72", name := "bestRule", desc := "(Z)I" } : Jvm.MethodName) ({ cls := "NextAtBa\x72", name := "bestRule", desc := "(Z)I" } : Jvm.MethodName)) ∈ lw_all := lw_g (lw_at lw_m6 160 rfl) rfl
theorem q1483 : (Jvm.Cond.code ({ cls := "NextAtBa\x72", name := "bestRule", desc := "(Z)I" } : Jvm.MethodName) prog_1_method_40_code (6 : Nat) (Option.some Jvm.ClassFile.FieldType.int)) ∈ lw_all := lw_g (lw_at lw_m6 161 rfl) rfl
theorem q1485 : (Jvm.Cond.instanceMethod ({ cls := "NextAtBa\x72", name := "hand", desc := "()I" } : Jvm.MethodName)) ∈ lw_all := lw_g (lw_at lw_m6 163 rfl) rfl
theorem q1486 : (Jvm.Cond.selects "NextAtBa\x72" ({ cls := "NextAtBa\x72", name := "hand", desc := "()I" } : Jvm.MethodName) ({ cls := "NextAtBa\x72", name := "hand", desc := "()I" } : Jvm.MethodName)) ∈ lw_all := lw_g (lw_at lw_m6 164 rfl) rfl
theorem q1487 : (Jvm.Cond.code ({ cls := "NextAtBa\x72", name := "hand", desc := "()I" } : Jvm.MethodName) prog_1_method_41_code (4 : Nat) (Option.some Jvm.ClassFile.FieldType.int)) ∈ lw_all := lw_g (lw_at lw_m6 165 rfl) rfl
theorem q1488 : (Jvm.Cond.methodLink "NextAtBa\x72" (261 : Nat) ({ cls := "NextAtBa\x72", name := "lost", desc := "(II)I" } : Jvm.MethodName)) ∈ lw_all := lw_g (lw_at lw_m6 166 rfl) rfl
theorem q1489 : (Jvm.Cond.privateMethod ({ cls := "NextAtBa\x72", name := "lost", desc := "(II)I" } : Jvm.MethodName)) ∈ lw_tbl := lw_at lw_m6 167 rfl
theorem q1490 : (Jvm.Cond.instanceMethod ({ cls := "NextAtBa\x72", name := "lost", desc := "(II)I" } : Jvm.MethodName)) ∈ lw_all := lw_g (lw_at lw_m6 168 rfl) rfl
theorem q1491 : (Jvm.Cond.code ({ cls := "NextAtBa\x72", name := "lost", desc := "(II)I" } : Jvm.MethodName) prog_1_method_8_code (3 : Nat) (Option.some Jvm.ClassFile.FieldType.int)) ∈ lw_all := lw_g (lw_at lw_m6 169 rfl) rfl
theorem q1492 : (Jvm.Cond.classLink "NextAtBa\x72" (264 : Nat) "NextAtBar$Serve\x72") ∈ lw_all := lw_g (lw_at lw_m6 170 rfl) rfl
theorem q1493 : (Jvm.Cond.stringRef "NextAtBa\x72" (266 : Nat) "") ∈ lw_tbl := lw_at lw_m6 171 rfl
theorem q1494 : (Jvm.Cond.methodLink "NextAtBa\x72" (268 : Nat) ({ cls := "NextAtBar$Serve\x72", name := "<init>", desc := "(Ljava/lang/String;LNextAtBar$Rule;)V" } : Jvm.MethodName)) ∈ lw_all := lw_g (lw_at lw_m6 172 rfl) rfl
theorem q1495 : (Jvm.Cond.methodLink "NextAtBa\x72" (284 : Nat) ({ cls := "NextAtBar$Ba\x72", name := "adds", desc := "(LNextAtBar$Server;)V" } : Jvm.MethodName)) ∈ lw_all := lw_g (lw_at lw_m6 173 rfl) rfl
theorem q1497 : (Jvm.Cond.instanceMethod ({ cls := "NextAtBa\x72", name := "beforehand", desc := "(I)I" } : Jvm.MethodName)) ∈ lw_all := lw_g (lw_at lw_m6 175 rfl) rfl
theorem q1498 : (Jvm.Cond.selects "NextAtBa\x72" ({ cls := "NextAtBa\x72", name := "beforehand", desc := "(I)I" } : Jvm.MethodName) ({ cls := "NextAtBa\x72", name := "beforehand", desc := "(I)I" } : Jvm.MethodName)) ∈ lw_all := lw_g (lw_at lw_m6 176 rfl) rfl
theorem q1499 : (Jvm.Cond.code ({ cls := "NextAtBa\x72", name := "beforehand", desc := "(I)I" } : Jvm.MethodName) prog_1_method_42_code (4 : Nat) (Option.some Jvm.ClassFile.FieldType.int)) ∈ lw_all := lw_g (lw_at lw_m6 177 rfl) rfl
theorem q1500 : (Jvm.Cond.methodLink "NextAtBa\x72" (291 : Nat) ({ cls := "java/util/ArrayList", name := "get", desc := "(I)Ljava/lang/Object;" } : Jvm.MethodName)) ∈ lw_all := lw_g (lw_at lw_m6 178 rfl) rfl
theorem q1501 : (Jvm.Cond.classLink "NextAtBa\x72" (295 : Nat) "NextAtBar$Person") ∈ lw_all := lw_g (lw_at lw_m6 179 rfl) rfl
theorem q1503 : (Jvm.Cond.instanceMethod ({ cls := "NextAtBa\x72", name := "bestPlace", desc := "(I)I" } : Jvm.MethodName)) ∈ lw_all := lw_g (lw_at lw_m6 181 rfl) rfl
theorem q1504 : (Jvm.Cond.selects "NextAtBa\x72" ({ cls := "NextAtBa\x72", name := "bestPlace", desc := "(I)I" } : Jvm.MethodName) ({ cls := "NextAtBa\x72", name := "bestPlace", desc := "(I)I" } : Jvm.MethodName)) ∈ lw_all := lw_g (lw_at lw_m6 182 rfl) rfl
theorem q1505 : (Jvm.Cond.code ({ cls := "NextAtBa\x72", name := "bestPlace", desc := "(I)I" } : Jvm.MethodName) prog_1_method_43_code (6 : Nat) (Option.some Jvm.ClassFile.FieldType.int)) ∈ lw_all := lw_g (lw_at lw_m6 183 rfl) rfl
theorem q1506 : (Jvm.Cond.methodLink "NextAtBa\x72" (300 : Nat) ({ cls := "NextAtBar$Ba\x72", name := "hasIt", desc := "(I)Z" } : Jvm.MethodName)) ∈ lw_all := lw_g (lw_at lw_m6 184 rfl) rfl
theorem q1508 : (Jvm.Cond.instanceMethod ({ cls := "NextAtBa\x72", name := "bestManne\x72", desc := "(I)I" } : Jvm.MethodName)) ∈ lw_all := lw_g (lw_at lw_m6 186 rfl) rfl
theorem q1509 : (Jvm.Cond.selects "NextAtBa\x72" ({ cls := "NextAtBa\x72", name := "bestManne\x72", desc := "(I)I" } : Jvm.MethodName) ({ cls := "NextAtBa\x72", name := "bestManne\x72", desc := "(I)I" } : Jvm.MethodName)) ∈ lw_all := lw_g (lw_at lw_m6 187 rfl) rfl
theorem q1510 : (Jvm.Cond.code ({ cls := "NextAtBa\x72", name := "bestManne\x72", desc := "(I)I" } : Jvm.MethodName) prog_1_method_44_code (6 : Nat) (Option.some Jvm.ClassFile.FieldType.int)) ∈ lw_all := lw_g (lw_at lw_m6 188 rfl) rfl
theorem q1511 : (Jvm.Cond.methodLink "NextAtBa\x72" (303 : Nat) ({ cls := "NextAtBa\x72", name := "mannerOf", desc := "(II)LNextAtBar$Manner;" } : Jvm.MethodName)) ∈ lw_all := lw_g (lw_at lw_m6 189 rfl) rfl
theorem q1512 : (Jvm.Cond.methodLink "NextAtBa\x72" (307 : Nat) ({ cls := "NextAtBar$Ba\x72", name := "takesManne\x72", desc := "(ILNextAtBar$Manner;)V" } : Jvm.MethodName)) ∈ lw_all := lw_g (lw_at lw_m6 190 rfl) rfl
theorem q1514 : (Jvm.Cond.instanceMethod ({ cls := "NextAtBa\x72", name := "cut", desc := "()I" } : Jvm.MethodName)) ∈ lw_all := lw_g (lw_at lw_m6 192 rfl) rfl
theorem q1515 : (Jvm.Cond.selects "NextAtBa\x72" ({ cls := "NextAtBa\x72", name := "cut", desc := "()I" } : Jvm.MethodName) ({ cls := "NextAtBa\x72", name := "cut", desc := "()I" } : Jvm.MethodName)) ∈ lw_all := lw_g (lw_at lw_m6 193 rfl) rfl
theorem q1516 : (Jvm.Cond.code ({ cls := "NextAtBa\x72", name := "cut", desc := "()I" } : Jvm.MethodName) prog_1_method_48_code (2 : Nat) (Option.some Jvm.ClassFile.FieldType.int)) ∈ lw_all := lw_g (lw_at lw_m6 194 rfl) rfl
theorem q1517 : (Jvm.Cond.methodLink "NextAtBa\x72" (315 : Nat) ({ cls := "NextAtBa\x72", name := "refusesCut", desc := "()I" } : Jvm.MethodName)) ∈ lw_all := lw_g (lw_at lw_m6 195 rfl) rfl
theorem q1518 : (Jvm.Cond.privateMethod ({ cls := "NextAtBa\x72", name := "refusesCut", desc := "()I" } : Jvm.MethodName)) ∈ lw_tbl := lw_at lw_m6 196 rfl
theorem q1519 : (Jvm.Cond.instanceMethod ({ cls := "NextAtBa\x72", name := "refusesCut", desc := "()I" } : Jvm.MethodName)) ∈ lw_all := lw_g (lw_at lw_m6 197 rfl) rfl
theorem q1520 : (Jvm.Cond.code ({ cls := "NextAtBa\x72", name := "refusesCut", desc := "()I" } : Jvm.MethodName) prog_1_method_46_code (1 : Nat) (Option.some Jvm.ClassFile.FieldType.int)) ∈ lw_all := lw_g (lw_at lw_m6 198 rfl) rfl
theorem q1521 : (Jvm.Cond.methodLink "NextAtBa\x72" (318 : Nat) ({ cls := "NextAtBa\x72", name := "bestCut", desc := "()I" } : Jvm.MethodName)) ∈ lw_all := lw_g (lw_at lw_m6 199 rfl) rfl
theorem q1522 : (Jvm.Cond.privateMethod ({ cls := "NextAtBa\x72", name := "bestCut", desc := "()I" } : Jvm.MethodName)) ∈ lw_tbl := lw_at lw_m6 200 rfl
theorem q1523 : (Jvm.Cond.instanceMethod ({ cls := "NextAtBa\x72", name := "bestCut", desc := "()I" } : Jvm.MethodName)) ∈ lw_all := lw_g (lw_at lw_m6 201 rfl) rfl
theorem q1524 : (Jvm.Cond.code ({ cls := "NextAtBa\x72", name := "bestCut", desc := "()I" } : Jvm.MethodName) prog_1_method_47_code (5 : Nat) (Option.some Jvm.ClassFile.FieldType.int)) ∈ lw_all := lw_g (lw_at lw_m6 202 rfl) rfl
theorem q1525 : (Jvm.Cond.methodLink "NextAtBa\x72" (311 : Nat) ({ cls := "NextAtBa\x72", name := "cutAt", desc := "(I)LNextAtBar$Bar;" } : Jvm.MethodName)) ∈ lw_all := lw_g (lw_at lw_m6 203 rfl) rfl
theorem q1526 : (Jvm.Cond.privateMethod ({ cls := "NextAtBa\x72", name := "cutAt", desc := "(I)LNextAtBar$Bar;" } : Jvm.MethodName)) ∈ lw_tbl := lw_at lw_m6 204 rfl
theorem q1527 : (Jvm.Cond.instanceMethod ({ cls := "NextAtBa\x72", name := "cutAt", desc := "(I)LNextAtBar$Bar;" } : Jvm.MethodName)) ∈ lw_all := lw_g (lw_at lw_m6 205 rfl) rfl
theorem q1528 : (Jvm.Cond.code ({ cls := "NextAtBa\x72", name := "cutAt", desc := "(I)LNextAtBar$Bar;" } : Jvm.MethodName) prog_1_method_45_code (3 : Nat) (Option.some (Jvm.ClassFile.FieldType.object "NextAtBar$Ba\x72"))) ∈ lw_all := lw_g (lw_at lw_m6 206 rfl) rfl
theorem q1530 : (Jvm.Cond.instanceMethod ({ cls := "NextAtBa\x72", name := "cutWaits", desc := "()I" } : Jvm.MethodName)) ∈ lw_all := lw_g (lw_at lw_m6 208 rfl) rfl
theorem q1531 : (Jvm.Cond.selects "NextAtBa\x72" ({ cls := "NextAtBa\x72", name := "cutWaits", desc := "()I" } : Jvm.MethodName) ({ cls := "NextAtBa\x72", name := "cutWaits", desc := "()I" } : Jvm.MethodName)) ∈ lw_all := lw_g (lw_at lw_m6 209 rfl) rfl
theorem q1532 : (Jvm.Cond.code ({ cls := "NextAtBa\x72", name := "cutWaits", desc := "()I" } : Jvm.MethodName) prog_1_method_49_code (2 : Nat) (Option.some Jvm.ClassFile.FieldType.int)) ∈ lw_all := lw_g (lw_at lw_m6 210 rfl) rfl
theorem q1534 : (Jvm.Cond.instanceMethod ({ cls := "NextAtBa\x72", name := "leastLook", desc := "(I)I" } : Jvm.MethodName)) ∈ lw_all := lw_g (lw_at lw_m6 212 rfl) rfl
theorem q1535 : (Jvm.Cond.selects "NextAtBa\x72" ({ cls := "NextAtBa\x72", name := "leastLook", desc := "(I)I" } : Jvm.MethodName) ({ cls := "NextAtBa\x72", name := "leastLook", desc := "(I)I" } : Jvm.MethodName)) ∈ lw_all := lw_g (lw_at lw_m6 213 rfl) rfl
theorem q1536 : (Jvm.Cond.code ({ cls := "NextAtBa\x72", name := "leastLook", desc := "(I)I" } : Jvm.MethodName) prog_1_method_50_code (6 : Nat) (Option.some Jvm.ClassFile.FieldType.int)) ∈ lw_all := lw_g (lw_at lw_m6 214 rfl) rfl
theorem q1538 : (Jvm.Cond.instanceMethod ({ cls := "NextAtBa\x72", name := "letCosts", desc := "(II)I" } : Jvm.MethodName)) ∈ lw_all := lw_g (lw_at lw_m6 216 rfl) rfl
theorem q1539 : (Jvm.Cond.selects "NextAtBa\x72" ({ cls := "NextAtBa\x72", name := "letCosts", desc := "(II)I" } : Jvm.MethodName) ({ cls := "NextAtBa\x72", name := "letCosts", desc := "(II)I" } : Jvm.MethodName)) ∈ lw_all := lw_g (lw_at lw_m6 217 rfl) rfl
theorem q1540 : (Jvm.Cond.code ({ cls := "NextAtBa\x72", name := "letCosts", desc := "(II)I" } : Jvm.MethodName) prog_1_method_51_code (5 : Nat) (Option.some Jvm.ClassFile.FieldType.int)) ∈ lw_all := lw_g (lw_at lw_m6 218 rfl) rfl
theorem q1541 : (Jvm.Cond.methodLink "NextAtBa\x72" (321 : Nat) ({ cls := "NextAtBa\x72", name := "canLet", desc := "(II)Z" } : Jvm.MethodName)) ∈ lw_all := lw_g (lw_at lw_m6 219 rfl) rfl
theorem q1542 : (Jvm.Cond.privateMethod ({ cls := "NextAtBa\x72", name := "canLet", desc := "(II)Z" } : Jvm.MethodName)) ∈ lw_tbl := lw_at lw_m6 220 rfl
theorem q1543 : (Jvm.Cond.instanceMethod ({ cls := "NextAtBa\x72", name := "canLet", desc := "(II)Z" } : Jvm.MethodName)) ∈ lw_all := lw_g (lw_at lw_m6 221 rfl) rfl
theorem q1544 : (Jvm.Cond.code ({ cls := "NextAtBa\x72", name := "canLet", desc := "(II)Z" } : Jvm.MethodName) prog_1_method_69_code (3 : Nat) (Option.some Jvm.ClassFile.FieldType.boolean)) ∈ lw_all := lw_g (lw_at lw_m6 222 rfl) rfl
theorem q1545 : (Jvm.Cond.methodLink "NextAtBa\x72" (397 : Nat) ({ cls := "NextAtBa\x72", name := "isWaiting", desc := "(I)Z" } : Jvm.MethodName)) ∈ lw_all := lw_g (lw_at lw_m6 223 rfl) rfl
theorem q1546 : (Jvm.Cond.privateMethod ({ cls := "NextAtBa\x72", name := "isWaiting", desc := "(I)Z" } : Jvm.MethodName)) ∈ lw_tbl := lw_at lw_m6 224 rfl
theorem q1547 : (Jvm.Cond.instanceMethod ({ cls := "NextAtBa\x72", name := "isWaiting", desc := "(I)Z" } : Jvm.MethodName)) ∈ lw_all := lw_g (lw_at lw_m6 225 rfl) rfl
theorem q1548 : (Jvm.Cond.code ({ cls := "NextAtBa\x72", name := "isWaiting", desc := "(I)Z" } : Jvm.MethodName) prog_1_method_68_code (2 : Nat) (Option.some Jvm.ClassFile.FieldType.boolean)) ∈ lw_all := lw_g (lw_at lw_m6 226 rfl) rfl
theorem q1550 : (Jvm.Cond.instanceMethod ({ cls := "NextAtBa\x72", name := "bell", desc := "(II)I" } : Jvm.MethodName)) ∈ lw_all := lw_g (lw_at lw_m6 228 rfl) rfl
theorem q1551 : (Jvm.Cond.selects "NextAtBa\x72" ({ cls := "NextAtBa\x72", name := "bell", desc := "(II)I" } : Jvm.MethodName) ({ cls := "NextAtBa\x72", name := "bell", desc := "(II)I" } : Jvm.MethodName)) ∈ lw_all := lw_g (lw_at lw_m6 229 rfl) rfl
theorem q1552 : (Jvm.Cond.code ({ cls := "NextAtBa\x72", name := "bell", desc := "(II)I" } : Jvm.MethodName) prog_1_method_52_code (4 : Nat) (Option.some Jvm.ClassFile.FieldType.int)) ∈ lw_all := lw_g (lw_at lw_m6 230 rfl) rfl
theorem q1554 : (Jvm.Cond.instanceMethod ({ cls := "NextAtBa\x72", name := "waitingAt", desc := "(I)I" } : Jvm.MethodName)) ∈ lw_all := lw_g (lw_at lw_m6 232 rfl) rfl
theorem q1555 : (Jvm.Cond.selects "NextAtBa\x72" ({ cls := "NextAtBa\x72", name := "waitingAt", desc := "(I)I" } : Jvm.MethodName) ({ cls := "NextAtBa\x72", name := "waitingAt", desc := "(I)I" } : Jvm.MethodName)) ∈ lw_all := lw_g (lw_at lw_m6 233 rfl) rfl
theorem q1556 : (Jvm.Cond.code ({ cls := "NextAtBa\x72", name := "waitingAt", desc := "(I)I" } : Jvm.MethodName) prog_1_method_53_code (3 : Nat) (Option.some Jvm.ClassFile.FieldType.int)) ∈ lw_all := lw_g (lw_at lw_m6 234 rfl) rfl
theorem q1558 : (Jvm.Cond.instanceMethod ({ cls := "NextAtBa\x72", name := "honesty", desc := "(IZ)I" } : Jvm.MethodName)) ∈ lw_all := lw_g (lw_at lw_m6 236 rfl) rfl
theorem q1559 : (Jvm.Cond.selects "NextAtBa\x72" ({ cls := "NextAtBa\x72", name := "honesty", desc := "(IZ)I" } : Jvm.MethodName) ({ cls := "NextAtBa\x72", name := "honesty", desc := "(IZ)I" } : Jvm.MethodName)) ∈ lw_all := lw_g (lw_at lw_m6 237 rfl) rfl
theorem q1560 : (Jvm.Cond.code ({ cls := "NextAtBa\x72", name := "honesty", desc := "(IZ)I" } : Jvm.MethodName) prog_1_method_56_code (7 : Nat) (Option.some Jvm.ClassFile.FieldType.int)) ∈ lw_all := lw_g (lw_at lw_m6 238 rfl) rfl
theorem q1561 : (Jvm.Cond.methodLink "NextAtBa\x72" (335 : Nat) ({ cls := "NextAtBa\x72", name := "refusesSet", desc := "(I)I" } : Jvm.MethodName)) ∈ lw_all := lw_g (lw_at lw_m6 239 rfl) rfl
theorem q1562 : (Jvm.Cond.privateMethod ({ cls := "NextAtBa\x72", name := "refusesSet", desc := "(I)I" } : Jvm.MethodName)) ∈ lw_tbl := lw_at lw_m7 0 rfl
theorem q1563 : (Jvm.Cond.instanceMethod ({ cls := "NextAtBa\x72", name := "refusesSet", desc := "(I)I" } : Jvm.MethodName)) ∈ lw_all := lw_g (lw_at lw_m7 1 rfl) rfl
theorem q1564 : (Jvm.Cond.code ({ cls := "NextAtBa\x72", name := "refusesSet", desc := "(I)I" } : Jvm.MethodName) prog_1_method_55_code (2 : Nat) (Option.some Jvm.ClassFile.FieldType.int)) ∈ lw_all := lw_g (lw_at lw_m7 2 rfl) rfl
theorem q1565 : (Jvm.Cond.methodLink "NextAtBa\x72" (338 : Nat) ({ cls := "NextAtBa\x72", name := "lied", desc := "(I)LNextAtBar$Bar;" } : Jvm.MethodName)) ∈ lw_all := lw_g (lw_at lw_m7 3 rfl) rfl
theorem q1566 : (Jvm.Cond.privateMethod ({ cls := "NextAtBa\x72", name := "lied", desc := "(I)LNextAtBar$Bar;" } : Jvm.MethodName)) ∈ lw_tbl := lw_at lw_m7 4 rfl
theorem q1567 : (Jvm.Cond.instanceMethod ({ cls := "NextAtBa\x72", name := "lied", desc := "(I)LNextAtBar$Bar;" } : Jvm.MethodName)) ∈ lw_all := lw_g (lw_at lw_m7 5 rfl) rfl
theorem q1568 : (Jvm.Cond.code ({ cls := "NextAtBa\x72", name := "lied", desc := "(I)LNextAtBar$Bar;" } : Jvm.MethodName) prog_1_method_54_code (3 : Nat) (Option.some (Jvm.ClassFile.FieldType.object "NextAtBar$Ba\x72"))) ∈ lw_all := lw_g (lw_at lw_m7 6 rfl) rfl
theorem q1569 : (Jvm.Cond.methodLink "NextAtBa\x72" (332 : Nat) ({ cls := "NextAtBa\x72", name := "holds", desc := "(II)Z" } : Jvm.MethodName)) ∈ lw_all := lw_g (lw_at lw_m7 7 rfl) rfl
theorem q1570 : (Jvm.Cond.static ({ cls := "NextAtBa\x72", name := "holds", desc := "(II)Z" } : Jvm.MethodName)) ∈ lw_all := lw_g (lw_at lw_m7 8 rfl) rfl
theorem q1571 : (Jvm.Cond.code ({ cls := "NextAtBa\x72", name := "holds", desc := "(II)Z" } : Jvm.MethodName) prog_1_method_3_code (2 : Nat) (Option.some Jvm.ClassFile.FieldType.boolean)) ∈ lw_all := lw_g (lw_at lw_m7 9 rfl) rfl
theorem q1573 : (Jvm.Cond.instanceMethod ({ cls := "NextAtBa\x72", name := "rest", desc := "(I)I" } : Jvm.MethodName)) ∈ lw_all := lw_g (lw_at lw_m7 11 rfl) rfl
theorem q1574 : (Jvm.Cond.selects "NextAtBa\x72" ({ cls := "NextAtBa\x72", name := "rest", desc := "(I)I" } : Jvm.MethodName) ({ cls := "NextAtBa\x72", name := "rest", desc := "(I)I" } : Jvm.MethodName)) ∈ lw_all := lw_g (lw_at lw_m7 12 rfl) rfl
theorem q1575 : (Jvm.Cond.code ({ cls := "NextAtBa\x72", name := "rest", desc := "(I)I" } : Jvm.MethodName) prog_1_method_58_code (3 : Nat) (Option.some Jvm.ClassFile.FieldType.int)) ∈ lw_all := lw_g (lw_at lw_m7 13 rfl) rfl
theorem q1576 : (Jvm.Cond.methodLink "NextAtBa\x72" (341 : Nat) ({ cls := "NextAtBa\x72", name := "isAtRest", desc := "(I)Z" } : Jvm.MethodName)) ∈ lw_all := lw_g (lw_at lw_m7 14 rfl) rfl
theorem q1577 : (Jvm.Cond.privateMethod ({ cls := "NextAtBa\x72", name := "isAtRest", desc := "(I)Z" } : Jvm.MethodName)) ∈ lw_tbl := lw_at lw_m7 15 rfl
theorem q1578 : (Jvm.Cond.instanceMethod ({ cls := "NextAtBa\x72", name := "isAtRest", desc := "(I)Z" } : Jvm.MethodName)) ∈ lw_all := lw_g (lw_at lw_m7 16 rfl) rfl
theorem q1579 : (Jvm.Cond.code ({ cls := "NextAtBa\x72", name := "isAtRest", desc := "(I)Z" } : Jvm.MethodName) prog_1_method_57_code (5 : Nat) (Option.some Jvm.ClassFile.FieldType.boolean)) ∈ lw_all := lw_g (lw_at lw_m7 17 rfl) rfl
theorem q1581 : (Jvm.Cond.instanceMethod ({ cls := "NextAtBa\x72", name := "rests", desc := "()I" } : Jvm.MethodName)) ∈ lw_all := lw_g (lw_at lw_m7 19 rfl) rfl
theorem q1582 : (Jvm.Cond.selects "NextAtBa\x72" ({ cls := "NextAtBa\x72", name := "rests", desc := "()I" } : Jvm.MethodName) ({ cls := "NextAtBa\x72", name := "rests", desc := "()I" } : Jvm.MethodName)) ∈ lw_all := lw_g (lw_at lw_m7 20 rfl) rfl
theorem q1583 : (Jvm.Cond.code ({ cls := "NextAtBa\x72", name := "rests", desc := "()I" } : Jvm.MethodName) prog_1_method_59_code (3 : Nat) (Option.some Jvm.ClassFile.FieldType.int)) ∈ lw_all := lw_g (lw_at lw_m7 21 rfl) rfl
theorem q1585 : (Jvm.Cond.instanceMethod ({ cls := "NextAtBa\x72", name := "row", desc := "(II)I" } : Jvm.MethodName)) ∈ lw_all := lw_g (lw_at lw_m7 23 rfl) rfl
theorem q1586 : (Jvm.Cond.selects "NextAtBa\x72" ({ cls := "NextAtBa\x72", name := "row", desc := "(II)I" } : Jvm.MethodName) ({ cls := "NextAtBa\x72", name := "row", desc := "(II)I" } : Jvm.MethodName)) ∈ lw_all := lw_g (lw_at lw_m7 24 rfl) rfl
theorem q1587 : (Jvm.Cond.code ({ cls := "NextAtBa\x72", name := "row", desc := "(II)I" } : Jvm.MethodName) prog_1_method_61_code (3 : Nat) (Option.some Jvm.ClassFile.FieldType.int)) ∈ lw_all := lw_g (lw_at lw_m7 25 rfl) rfl
theorem q1588 : (Jvm.Cond.methodLink "NextAtBa\x72" (352 : Nat) ({ cls := "NextAtBa\x72", name := "orders", desc := "(I)LNextAtBar$Orders;" } : Jvm.MethodName)) ∈ lw_all := lw_g (lw_at lw_m7 26 rfl) rfl
theorem q1589 : (Jvm.Cond.privateMethod ({ cls := "NextAtBa\x72", name := "orders", desc := "(I)LNextAtBar$Orders;" } : Jvm.MethodName)) ∈ lw_tbl := lw_at lw_m7 27 rfl
theorem q1590 : (Jvm.Cond.instanceMethod ({ cls := "NextAtBa\x72", name := "orders", desc := "(I)LNextAtBar$Orders;" } : Jvm.MethodName)) ∈ lw_all := lw_g (lw_at lw_m7 28 rfl) rfl
theorem q1591 : (Jvm.Cond.code ({ cls := "NextAtBa\x72", name := "orders", desc := "(I)LNextAtBar$Orders;" } : Jvm.MethodName) prog_1_method_60_code (5 : Nat) (Option.some (Jvm.ClassFile.FieldType.object "NextAtBar$Orders"))) ∈ lw_all := lw_g (lw_at lw_m7 29 rfl) rfl
theorem q1592 : (Jvm.Cond.classLink "NextAtBa\x72" (344 : Nat) "NextAtBar$Orders") ∈ lw_all := lw_g (lw_at lw_m7 30 rfl) rfl
theorem q1594 : (Jvm.Cond.methodLink "NextAtBa\x72" (349 : Nat) ({ cls := "NextAtBar$Orders", name := "<init>", desc := "(LNextAtBar$House;[III)V" } : Jvm.MethodName)) ∈ lw_all := lw_g (lw_at lw_m7 32 rfl) rfl
theorem q1610 : (Jvm.Cond.fieldLink "NextAtBa\x72" (358 : Nat) "NextAtBar$Orders" "sum" "I") ∈ lw_all := lw_g (lw_at lw_m7 48 rfl) rfl
theorem q1622 : (Jvm.Cond.methodLink "NextAtBa\x72" (356 : Nat) ({ cls := "NextAtBar$Orders", name := "at", desc := "(I)I" } : Jvm.MethodName)) ∈ lw_all := lw_g (lw_at lw_m7 60 rfl) rfl
theorem q1627 : (Jvm.Cond.instanceMethod ({ cls := "NextAtBa\x72", name := "rowSum", desc := "(I)I" } : Jvm.MethodName)) ∈ lw_all := lw_g (lw_at lw_m7 65 rfl) rfl
theorem q1628 : (Jvm.Cond.selects "NextAtBa\x72" ({ cls := "NextAtBa\x72", name := "rowSum", desc := "(I)I" } : Jvm.MethodName) ({ cls := "NextAtBa\x72", name := "rowSum", desc := "(I)I" } : Jvm.MethodName)) ∈ lw_all := lw_g (lw_at lw_m7 66 rfl) rfl
theorem q1629 : (Jvm.Cond.code ({ cls := "NextAtBa\x72", name := "rowSum", desc := "(I)I" } : Jvm.MethodName) prog_1_method_62_code (2 : Nat) (Option.some Jvm.ClassFile.FieldType.int)) ∈ lw_all := lw_g (lw_at lw_m7 67 rfl) rfl
theorem q1631 : (Jvm.Cond.instanceMethod ({ cls := "NextAtBa\x72", name := "liars", desc := "()I" } : Jvm.MethodName)) ∈ lw_all := lw_g (lw_at lw_m7 69 rfl) rfl
theorem q1632 : (Jvm.Cond.selects "NextAtBa\x72" ({ cls := "NextAtBa\x72", name := "liars", desc := "()I" } : Jvm.MethodName) ({ cls := "NextAtBa\x72", name := "liars", desc := "()I" } : Jvm.MethodName)) ∈ lw_all := lw_g (lw_at lw_m7 70 rfl) rfl
theorem q1633 : (Jvm.Cond.code ({ cls := "NextAtBa\x72", name := "liars", desc := "()I" } : Jvm.MethodName) prog_1_method_63_code (1 : Nat) (Option.some Jvm.ClassFile.FieldType.int)) ∈ lw_all := lw_g (lw_at lw_m7 71 rfl) rfl
theorem q1634 : (Jvm.Cond.classLink "NextAtBa\x72" (360 : Nat) "NextAtBar$Tellings") ∈ lw_all := lw_g (lw_at lw_m7 72 rfl) rfl
theorem q1636 : (Jvm.Cond.methodLink "NextAtBa\x72" (362 : Nat) ({ cls := "NextAtBar$Tellings", name := "<init>", desc := "(LNextAtBar$House;)V" } : Jvm.MethodName)) ∈ lw_all := lw_g (lw_at lw_m7 74 rfl) rfl
theorem q1647 : (Jvm.Cond.methodLink "NextAtBa\x72" (363 : Nat) ({ cls := "NextAtBar$Tellings", name := "liars", desc := "()I" } : Jvm.MethodName)) ∈ lw_all := lw_g (lw_at lw_m7 85 rfl) rfl
theorem q1661 : (Jvm.Cond.instanceMethod ({ cls := "NextAtBa\x72", name := "surely", desc := "(II)I" } : Jvm.MethodName)) ∈ lw_all := lw_g (lw_at lw_m7 99 rfl) rfl
theorem q1662 : (Jvm.Cond.selects "NextAtBa\x72" ({ cls := "NextAtBa\x72", name := "surely", desc := "(II)I" } : Jvm.MethodName) ({ cls := "NextAtBa\x72", name := "surely", desc := "(II)I" } : Jvm.MethodName)) ∈ lw_all := lw_g (lw_at lw_m7 100 rfl) rfl
theorem q1663 : (Jvm.Cond.code ({ cls := "NextAtBa\x72", name := "surely", desc := "(II)I" } : Jvm.MethodName) prog_1_method_64_code (4 : Nat) (Option.some Jvm.ClassFile.FieldType.int)) ∈ lw_all := lw_g (lw_at lw_m7 101 rfl) rfl
theorem q1664 : (Jvm.Cond.methodLink "NextAtBa\x72" (366 : Nat) ({ cls := "NextAtBar$Tellings", name := "canBe", desc := "(I)Z" } : Jvm.MethodName)) ∈ lw_all := lw_g (lw_at lw_m7 102 rfl) rfl
theorem q1665 : (Jvm.Cond.methodLink "NextAtBa\x72" (369 : Nat) ({ cls := "NextAtBar$Tellings", name := "isAhead", desc := "(II)Z" } : Jvm.MethodName)) ∈ lw_all := lw_g (lw_at lw_m7 103 rfl) rfl
theorem q1670 : (Jvm.Cond.instanceMethod ({ cls := "NextAtBa\x72", name := "so", desc := "()I" } : Jvm.MethodName)) ∈ lw_all := lw_g (lw_at lw_m7 108 rfl) rfl
theorem q1671 : (Jvm.Cond.selects "NextAtBa\x72" ({ cls := "NextAtBa\x72", name := "so", desc := "()I" } : Jvm.MethodName) ({ cls := "NextAtBa\x72", name := "so", desc := "()I" } : Jvm.MethodName)) ∈ lw_all := lw_g (lw_at lw_m7 109 rfl) rfl
theorem q1672 : (Jvm.Cond.code ({ cls := "NextAtBa\x72", name := "so", desc := "()I" } : Jvm.MethodName) prog_1_method_65_code (3 : Nat) (Option.some Jvm.ClassFile.FieldType.int)) ∈ lw_all := lw_g (lw_at lw_m7 110 rfl) rfl
theorem q1673 : (Jvm.Cond.classLink "NextAtBa\x72" (375 : Nat) "NextAtBar$Telling") ∈ lw_all := lw_g (lw_at lw_m7 111 rfl) rfl
theorem q1674 : (Jvm.Cond.methodLink "NextAtBa\x72" (383 : Nat) ({ cls := "NextAtBar$House", name := "isAhead", desc := "(II)Z" } : Jvm.MethodName)) ∈ lw_all := lw_g (lw_at lw_m7 112 rfl) rfl
theorem q1676 : (Jvm.Cond.instanceMethod ({ cls := "NextAtBa\x72", name := "pass", desc := "(I)I" } : Jvm.MethodName)) ∈ lw_all := lw_g (lw_at lw_m7 114 rfl) rfl
theorem q1677 : (Jvm.Cond.selects "NextAtBa\x72" ({ cls := "NextAtBa\x72", name := "pass", desc := "(I)I" } : Jvm.MethodName) ({ cls := "NextAtBa\x72", name := "pass", desc := "(I)I" } : Jvm.MethodName)) ∈ lw_all := lw_g (lw_at lw_m7 115 rfl) rfl
theorem q1678 : (Jvm.Cond.code ({ cls := "NextAtBa\x72", name := "pass", desc := "(I)I" } : Jvm.MethodName) prog_1_method_67_code (3 : Nat) (Option.some Jvm.ClassFile.FieldType.int)) ∈ lw_all := lw_g (lw_at lw_m7 116 rfl) rfl
theorem q1679 : (Jvm.Cond.methodLink "NextAtBa\x72" (391 : Nat) ({ cls := "NextAtBa\x72", name := "remembers", desc := "()V" } : Jvm.MethodName)) ∈ lw_all := lw_g (lw_at lw_m7 117 rfl) rfl
theorem q1680 : (Jvm.Cond.privateMethod ({ cls := "NextAtBa\x72", name := "remembers", desc := "()V" } : Jvm.MethodName)) ∈ lw_tbl := lw_at lw_m7 118 rfl
theorem q1681 : (Jvm.Cond.instanceMethod ({ cls := "NextAtBa\x72", name := "remembers", desc := "()V" } : Jvm.MethodName)) ∈ lw_all := lw_g (lw_at lw_m7 119 rfl) rfl
theorem q1682 : (Jvm.Cond.code ({ cls := "NextAtBa\x72", name := "remembers", desc := "()V" } : Jvm.MethodName) prog_1_method_66_code (1 : Nat) (Option.none : Option Jvm.ClassFile.FieldType)) ∈ lw_all := lw_g (lw_at lw_m7 120 rfl) rfl
theorem q1683 : (Jvm.Cond.methodLink "NextAtBa\x72" (384 : Nat) ({ cls := "java/util/ArrayList", name := "remove", desc := "(I)Ljava/lang/Object;" } : Jvm.MethodName)) ∈ lw_all := lw_g (lw_at lw_m7 121 rfl) rfl
theorem q1692 : (Jvm.Cond.methodLink "NextAtBa\x72" (387 : Nat) ({ cls := "java/util/ArrayList", name := "add", desc := "(Ljava/lang/Object;)Z" } : Jvm.MethodName)) ∈ lw_all := lw_g (lw_at lw_m7 130 rfl) rfl
theorem q1693 : (Jvm.Cond.methodLink "NextAtBa\x72" (394 : Nat) ({ cls := "NextAtBar$Ba\x72", name := "goes", desc := "()V" } : Jvm.MethodName)) ∈ lw_all := lw_g (lw_at lw_m7 131 rfl) rfl
theorem q1695 : (Jvm.Cond.instanceMethod ({ cls := "NextAtBa\x72", name := "moves", desc := "(II)Z" } : Jvm.MethodName)) ∈ lw_all := lw_g (lw_at lw_m7 133 rfl) rfl
theorem q1696 : (Jvm.Cond.selects "NextAtBa\x72" ({ cls := "NextAtBa\x72", name := "moves", desc := "(II)Z" } : Jvm.MethodName) ({ cls := "NextAtBa\x72", name := "moves", desc := "(II)Z" } : Jvm.MethodName)) ∈ lw_all := lw_g (lw_at lw_m7 134 rfl) rfl
theorem q1697 : (Jvm.Cond.code ({ cls := "NextAtBa\x72", name := "moves", desc := "(II)Z" } : Jvm.MethodName) prog_1_method_70_code (3 : Nat) (Option.some Jvm.ClassFile.FieldType.boolean)) ∈ lw_all := lw_g (lw_at lw_m7 135 rfl) rfl
theorem q1698 : (Jvm.Cond.methodLink "NextAtBa\x72" (400 : Nat) ({ cls := "NextAtBa\x72", name := "denied", desc := "(I)Z" } : Jvm.MethodName)) ∈ lw_all := lw_g (lw_at lw_m7 136 rfl) rfl
theorem q1699 : (Jvm.Cond.privateMethod ({ cls := "NextAtBa\x72", name := "denied", desc := "(I)Z" } : Jvm.MethodName)) ∈ lw_tbl := lw_at lw_m7 137 rfl
theorem q1700 : (Jvm.Cond.instanceMethod ({ cls := "NextAtBa\x72", name := "denied", desc := "(I)Z" } : Jvm.MethodName)) ∈ lw_all := lw_g (lw_at lw_m7 138 rfl) rfl
theorem q1701 : (Jvm.Cond.code ({ cls := "NextAtBa\x72", name := "denied", desc := "(I)Z" } : Jvm.MethodName) prog_1_method_9_code (2 : Nat) (Option.some Jvm.ClassFile.FieldType.boolean)) ∈ lw_all := lw_g (lw_at lw_m7 139 rfl) rfl
theorem q1702 : (Jvm.Cond.methodLink "NextAtBa\x72" (403 : Nat) ({ cls := "NextAtBa\x72", name := "granted", desc := "()Z" } : Jvm.MethodName)) ∈ lw_all := lw_g (lw_at lw_m7 140 rfl) rfl
theorem q1703 : (Jvm.Cond.privateMethod ({ cls := "NextAtBa\x72", name := "granted", desc := "()Z" } : Jvm.MethodName)) ∈ lw_tbl := lw_at lw_m7 141 rfl
theorem q1704 : (Jvm.Cond.instanceMethod ({ cls := "NextAtBa\x72", name := "granted", desc := "()Z" } : Jvm.MethodName)) ∈ lw_all := lw_g (lw_at lw_m7 142 rfl) rfl
theorem q1705 : (Jvm.Cond.code ({ cls := "NextAtBa\x72", name := "granted", desc := "()Z" } : Jvm.MethodName) prog_1_method_11_code (1 : Nat) (Option.some Jvm.ClassFile.FieldType.boolean)) ∈ lw_all := lw_g (lw_at lw_m7 143 rfl) rfl
theorem q1707 : (Jvm.Cond.instanceMethod ({ cls := "NextAtBa\x72", name := "lets", desc := "(II)Z" } : Jvm.MethodName)) ∈ lw_all := lw_g (lw_at lw_m7 145 rfl) rfl
theorem q1708 : (Jvm.Cond.selects "NextAtBa\x72" ({ cls := "NextAtBa\x72", name := "lets", desc := "(II)Z" } : Jvm.MethodName) ({ cls := "NextAtBa\x72", name := "lets", desc := "(II)Z" } : Jvm.MethodName)) ∈ lw_all := lw_g (lw_at lw_m7 146 rfl) rfl
theorem q1709 : (Jvm.Cond.code ({ cls := "NextAtBa\x72", name := "lets", desc := "(II)Z" } : Jvm.MethodName) prog_1_method_71_code (3 : Nat) (Option.some Jvm.ClassFile.FieldType.boolean)) ∈ lw_all := lw_g (lw_at lw_m7 147 rfl) rfl
theorem q1711 : (Jvm.Cond.instanceMethod ({ cls := "NextAtBa\x72", name := "calls", desc := "(I)I" } : Jvm.MethodName)) ∈ lw_all := lw_g (lw_at lw_m7 149 rfl) rfl
theorem q1712 : (Jvm.Cond.selects "NextAtBa\x72" ({ cls := "NextAtBa\x72", name := "calls", desc := "(I)I" } : Jvm.MethodName) ({ cls := "NextAtBa\x72", name := "calls", desc := "(I)I" } : Jvm.MethodName)) ∈ lw_all := lw_g (lw_at lw_m7 150 rfl) rfl
theorem q1713 : (Jvm.Cond.code ({ cls := "NextAtBa\x72", name := "calls", desc := "(I)I" } : Jvm.MethodName) prog_1_method_72_code (2 : Nat) (Option.some Jvm.ClassFile.FieldType.int)) ∈ lw_all := lw_g (lw_at lw_m7 151 rfl) rfl
theorem q1714 : (Jvm.Cond.methodLink "NextAtBa\x72" (407 : Nat) ({ cls := "java/lang/Math", name := "min", desc := "(II)I" } : Jvm.MethodName)) ∈ lw_all := lw_g (lw_at lw_m7 152 rfl) rfl
theorem q1716 : (Jvm.Cond.instanceMethod ({ cls := "NextAtBa\x72", name := "leaves", desc := "(I)Z" } : Jvm.MethodName)) ∈ lw_all := lw_g (lw_at lw_m7 154 rfl) rfl
theorem q1717 : (Jvm.Cond.selects "NextAtBa\x72" ({ cls := "NextAtBa\x72", name := "leaves", desc := "(I)Z" } : Jvm.MethodName) ({ cls := "NextAtBa\x72", name := "leaves", desc := "(I)Z" } : Jvm.MethodName)) ∈ lw_all := lw_g (lw_at lw_m7 155 rfl) rfl
theorem q1718 : (Jvm.Cond.code ({ cls := "NextAtBa\x72", name := "leaves", desc := "(I)Z" } : Jvm.MethodName) prog_1_method_73_code (2 : Nat) (Option.some Jvm.ClassFile.FieldType.boolean)) ∈ lw_all := lw_g (lw_at lw_m7 156 rfl) rfl
theorem q1720 : (Jvm.Cond.instanceMethod ({ cls := "NextAtBa\x72", name := "undo", desc := "()Z" } : Jvm.MethodName)) ∈ lw_all := lw_g (lw_at lw_m7 158 rfl) rfl
theorem q1721 : (Jvm.Cond.selects "NextAtBa\x72" ({ cls := "NextAtBa\x72", name := "undo", desc := "()Z" } : Jvm.MethodName) ({ cls := "NextAtBa\x72", name := "undo", desc := "()Z" } : Jvm.MethodName)) ∈ lw_all := lw_g (lw_at lw_m7 159 rfl) rfl
theorem q1722 : (Jvm.Cond.code ({ cls := "NextAtBa\x72", name := "undo", desc := "()Z" } : Jvm.MethodName) prog_1_method_74_code (1 : Nat) (Option.some Jvm.ClassFile.FieldType.boolean)) ∈ lw_all := lw_g (lw_at lw_m7 160 rfl) rfl
theorem q1723 : (Jvm.Cond.methodLink "NextAtBa\x72" (412 : Nat) ({ cls := "java/util/ArrayList", name := "isEmpty", desc := "()Z" } : Jvm.MethodName)) ∈ lw_all := lw_g (lw_at lw_m7 161 rfl) rfl
theorem q1725 : (Jvm.Cond.instanceMethod ({ cls := "NextAtBa\x72", name := "image", desc := "()I" } : Jvm.MethodName)) ∈ lw_all := lw_g (lw_at lw_m7 163 rfl) rfl
theorem q1726 : (Jvm.Cond.selects "NextAtBa\x72" ({ cls := "NextAtBa\x72", name := "image", desc := "()I" } : Jvm.MethodName) ({ cls := "NextAtBa\x72", name := "image", desc := "()I" } : Jvm.MethodName)) ∈ lw_all := lw_g (lw_at lw_m7 164 rfl) rfl
theorem q1727 : (Jvm.Cond.code ({ cls := "NextAtBa\x72", name := "image", desc := "()I" } : Jvm.MethodName) prog_1_method_75_code (1 : Nat) (Option.some Jvm.ClassFile.FieldType.int)) ∈ lw_all := lw_g (lw_at lw_m7 165 rfl) rfl
theorem q1729 : (Jvm.Cond.instanceMethod ({ cls := "NextAtBa\x72", name := "back", desc := "(I)Z" } : Jvm.MethodName)) ∈ lw_all := lw_g (lw_at lw_m7 167 rfl) rfl
theorem q1730 : (Jvm.Cond.selects "NextAtBa\x72" ({ cls := "NextAtBa\x72", name := "back", desc := "(I)Z" } : Jvm.MethodName) ({ cls := "NextAtBa\x72", name := "back", desc := "(I)Z" } : Jvm.MethodName)) ∈ lw_all := lw_g (lw_at lw_m7 168 rfl) rfl
theorem q1731 : (Jvm.Cond.code ({ cls := "NextAtBa\x72", name := "back", desc := "(I)Z" } : Jvm.MethodName) prog_1_method_76_code (2 : Nat) (Option.some Jvm.ClassFile.FieldType.boolean)) ∈ lw_all := lw_g (lw_at lw_m7 169 rfl) rfl
theorem q1733 : (Jvm.Cond.instanceMethod ({ cls := "NextAtBa\x72", name := "told", desc := "(II)I" } : Jvm.MethodName)) ∈ lw_all := lw_g (lw_at lw_m7 171 rfl) rfl
theorem q1734 : (Jvm.Cond.selects "NextAtBa\x72" ({ cls := "NextAtBa\x72", name := "told", desc := "(II)I" } : Jvm.MethodName) ({ cls := "NextAtBa\x72", name := "told", desc := "(II)I" } : Jvm.MethodName)) ∈ lw_all := lw_g (lw_at lw_m7 172 rfl) rfl
theorem q1735 : (Jvm.Cond.code ({ cls := "NextAtBa\x72", name := "told", desc := "(II)I" } : Jvm.MethodName) prog_1_method_77_code (4 : Nat) (Option.some Jvm.ClassFile.FieldType.int)) ∈ lw_all := lw_g (lw_at lw_m7 173 rfl) rfl
theorem q1736 : (Jvm.Cond.methodLink "NextAtBa\x72" (418 : Nat) ({ cls := "NextAtBar$Manne\x72", name := "numbe\x72", desc := "()I" } : Jvm.MethodName)) ∈ lw_all := lw_g (lw_at lw_m7 174 rfl) rfl
theorem q1751 : (Jvm.Cond.instanceMethod ({ cls := "NextAtBa\x72", name := "wants", desc := "(II)I" } : Jvm.MethodName)) ∈ lw_all := lw_g (lw_at lw_m7 189 rfl) rfl
theorem q1752 : (Jvm.Cond.selects "NextAtBa\x72" ({ cls := "NextAtBa\x72", name := "wants", desc := "(II)I" } : Jvm.MethodName) ({ cls := "NextAtBa\x72", name := "wants", desc := "(II)I" } : Jvm.MethodName)) ∈ lw_all := lw_g (lw_at lw_m7 190 rfl) rfl
theorem q1753 : (Jvm.Cond.code ({ cls := "NextAtBa\x72", name := "wants", desc := "(II)I" } : Jvm.MethodName) prog_1_method_78_code (3 : Nat) (Option.some Jvm.ClassFile.FieldType.int)) ∈ lw_all := lw_g (lw_at lw_m7 191 rfl) rfl
theorem q1755 : (Jvm.Cond.instanceMethod ({ cls := "NextAtBa\x72", name := "size", desc := "(I)I" } : Jvm.MethodName)) ∈ lw_all := lw_g (lw_at lw_m7 193 rfl) rfl
theorem q1756 : (Jvm.Cond.selects "NextAtBa\x72" ({ cls := "NextAtBa\x72", name := "size", desc := "(I)I" } : Jvm.MethodName) ({ cls := "NextAtBa\x72", name := "size", desc := "(I)I" } : Jvm.MethodName)) ∈ lw_all := lw_g (lw_at lw_m7 194 rfl) rfl
theorem q1757 : (Jvm.Cond.code ({ cls := "NextAtBa\x72", name := "size", desc := "(I)I" } : Jvm.MethodName) prog_1_method_80_code (2 : Nat) (Option.some Jvm.ClassFile.FieldType.int)) ∈ lw_all := lw_g (lw_at lw_m7 195 rfl) rfl
theorem q1759 : (Jvm.Cond.instanceMethod ({ cls := "NextAtBa\x72", name := "trouble", desc := "()I" } : Jvm.MethodName)) ∈ lw_all := lw_g (lw_at lw_m7 197 rfl) rfl
theorem q1760 : (Jvm.Cond.selects "NextAtBa\x72" ({ cls := "NextAtBa\x72", name := "trouble", desc := "()I" } : Jvm.MethodName) ({ cls := "NextAtBa\x72", name := "trouble", desc := "()I" } : Jvm.MethodName)) ∈ lw_all := lw_g (lw_at lw_m7 198 rfl) rfl
theorem q1761 : (Jvm.Cond.code ({ cls := "NextAtBa\x72", name := "trouble", desc := "()I" } : Jvm.MethodName) prog_1_method_81_code (1 : Nat) (Option.some Jvm.ClassFile.FieldType.int)) ∈ lw_all := lw_g (lw_at lw_m7 199 rfl) rfl
theorem q1767 : (Jvm.Cond.instanceMethod ({ cls := "NextAtBa\x72", name := "led", desc := "(I)I" } : Jvm.MethodName)) ∈ lw_all := lw_g (lw_at lw_m7 205 rfl) rfl
theorem q1768 : (Jvm.Cond.selects "NextAtBa\x72" ({ cls := "NextAtBa\x72", name := "led", desc := "(I)I" } : Jvm.MethodName) ({ cls := "NextAtBa\x72", name := "led", desc := "(I)I" } : Jvm.MethodName)) ∈ lw_all := lw_g (lw_at lw_m7 206 rfl) rfl
theorem q1769 : (Jvm.Cond.code ({ cls := "NextAtBa\x72", name := "led", desc := "(I)I" } : Jvm.MethodName) prog_1_method_79_code (4 : Nat) (Option.some Jvm.ClassFile.FieldType.int)) ∈ lw_all := lw_g (lw_at lw_m7 207 rfl) rfl
theorem q1770 : (Jvm.Cond.classLink "NextAtBa\x72" (438 : Nat) "java/util/NoSuchElementException") ∈ lw_all := lw_g (lw_at lw_m7 208 rfl) rfl
theorem q1809 : (Jvm.Cond.methodLink "NextAtBa\x72" (440 : Nat) ({ cls := "java/util/NoSuchElementException", name := "<init>", desc := "()V" } : Jvm.MethodName)) ∈ lw_all := lw_g (lw_at lw_m8 7 rfl) rfl
theorem q2508 : (Jvm.Cond.castable "NextAtBa\x72" "java/lang/Object") ∈ lw_tbl := lw_at lw_m10 226 rfl
theorem in_X1 : ∀ w ∈ wsX10, w ∈ lw_all := lw_in wsX10 [237, 239, 241, 243, 245, 247, 249, 251, 253, 255, 257, 259, 261, 263, 265] (by decide +kernel) (by decide +kernel)
/-! NextAtBarLaw -/
set_option maxRecDepth 100000
def RX0 : String := "NextAtBarLaw"
abbrev cX0_led : ByteArray := method_3_code
def yX0_led : MethodName := ⟨RX0, "led", "(LNextAtBar;I[J)I"⟩
def dkwX0_led_0 : List UInt8 := [44, 3, 42, 27, 182, 0, 7, 133, 80, 167, 0, 6, 78, 4, 172, 3, 172]
abbrev dktX0_led_0 : List UInt8 := dkwX0_led_0 ++ []
theorem dksX0_led_0 : cX0_led.data.toList.drop 0 = dktX0_led_0 := by decide +kernel
theorem dX0_led_0 : decode cX0_led 0 = .ok (.aload_n 2, 1) := dk_44 (dk_at dksX0_led_0 0 rfl rfl)
theorem dX0_led_1 : decode cX0_led 1 = .ok (.iconst 0, 1) := dk_3 (dk_at dksX0_led_0 1 rfl rfl)
theorem dX0_led_2 : decode cX0_led 2 = .ok (.aload_n 0, 1) := dk_42 (dk_at dksX0_led_0 2 rfl rfl)
theorem dX0_led_3 : decode cX0_led 3 = .ok (.iload_n 1, 1) := dk_27 (dk_at dksX0_led_0 3 rfl rfl)
theorem dX0_led_4 : decode cX0_led 4 = .ok (.invokevirtual 7, 3) := dk_182 0 7 (dk_at dksX0_led_0 4 rfl rfl)
theorem dX0_led_7 : decode cX0_led 7 = .ok (.i2l, 1) := dk_133 (dk_at dksX0_led_0 7 rfl rfl)
theorem dX0_led_8 : decode cX0_led 8 = .ok (.lastore, 1) := dk_80 (dk_at dksX0_led_0 8 rfl rfl)
theorem dX0_led_9 : decode cX0_led 9 = .ok (.goto 6, 3) := dk_167 0 6 (dk_at dksX0_led_0 9 rfl rfl)
theorem dX0_led_12 : decode cX0_led 12 = .ok (.astore_n 3, 1) := dk_78 (dk_at dksX0_led_0 12 rfl rfl)
theorem dX0_led_13 : decode cX0_led 13 = .ok (.iconst 1, 1) := dk_4 (dk_at dksX0_led_0 13 rfl rfl)
theorem dX0_led_14 : decode cX0_led 14 = .ok (.ireturn, 1) := dk_172 (dk_at dksX0_led_0 14 rfl rfl)
theorem dX0_led_15 : decode cX0_led 15 = .ok (.iconst 0, 1) := dk_3 (dk_at dksX0_led_0 15 rfl rfl)
theorem dX0_led_16 : decode cX0_led 16 = .ok (.ireturn, 1) := dk_172 (dk_at dksX0_led_0 16 rfl rfl)
theorem q122 : (Jvm.Cond.initialized "NextAtBarLaw") ∈ lw_all := lw_g (lw_at lw_m1 0 rfl) rfl
theorem q164 : (Jvm.Cond.classLink "NextAtBarLaw" (8 : Nat) "NextAtBa\x72") ∈ lw_all := lw_g (lw_at lw_m1 42 rfl) rfl
theorem q166 : (Jvm.Cond.methodLink "NextAtBarLaw" (15 : Nat) ({ cls := "NextAtBa\x72", name := "<init>", desc := "()V" } : Jvm.MethodName)) ∈ lw_all := lw_g (lw_at lw_m1 44 rfl) rfl
theorem q268 : (Jvm.Cond.methodLink "NextAtBarLaw" (19 : Nat) ({ cls := "NextAtBa\x72", name := "feed", desc := "(IIIII)I" } : Jvm.MethodName)) ∈ lw_all := lw_g (lw_at lw_m1 146 rfl) rfl
theorem q272 : (Jvm.Cond.methodLink "NextAtBarLaw" (24 : Nat) ({ cls := "NextAtBa\x72", name := "house", desc := "(I)I" } : Jvm.MethodName)) ∈ lw_all := lw_g (lw_at lw_m1 150 rfl) rfl
theorem q1257 : (Jvm.Cond.methodLink "NextAtBarLaw" (28 : Nat) ({ cls := "NextAtBa\x72", name := "fault", desc := "()I" } : Jvm.MethodName)) ∈ lw_all := lw_g (lw_at lw_m5 175 rfl) rfl
theorem q1261 : (Jvm.Cond.methodLink "NextAtBarLaw" (33 : Nat) ({ cls := "NextAtBa\x72", name := "where", desc := "()I" } : Jvm.MethodName)) ∈ lw_all := lw_g (lw_at lw_m5 179 rfl) rfl
theorem q1265 : (Jvm.Cond.methodLink "NextAtBarLaw" (37 : Nat) ({ cls := "NextAtBa\x72", name := "person", desc := "(II)I" } : Jvm.MethodName)) ∈ lw_all := lw_g (lw_at lw_m5 183 rfl) rfl
theorem q1277 : (Jvm.Cond.methodLink "NextAtBarLaw" (42 : Nat) ({ cls := "NextAtBa\x72", name := "staff", desc := "(II)I" } : Jvm.MethodName)) ∈ lw_all := lw_g (lw_at lw_m5 195 rfl) rfl
theorem q1295 : (Jvm.Cond.methodLink "NextAtBarLaw" (46 : Nat) ({ cls := "NextAtBa\x72", name := "elbows", desc := "(I)I" } : Jvm.MethodName)) ∈ lw_all := lw_g (lw_at lw_m5 213 rfl) rfl
theorem q1303 : (Jvm.Cond.methodLink "NextAtBarLaw" (50 : Nat) ({ cls := "NextAtBa\x72", name := "waiting", desc := "()I" } : Jvm.MethodName)) ∈ lw_all := lw_g (lw_at lw_m5 221 rfl) rfl
theorem q1311 : (Jvm.Cond.methodLink "NextAtBarLaw" (54 : Nat) ({ cls := "NextAtBa\x72", name := "next", desc := "(I)I" } : Jvm.MethodName)) ∈ lw_all := lw_g (lw_at lw_m5 229 rfl) rfl
theorem q1357 : (Jvm.Cond.methodLink "NextAtBarLaw" (58 : Nat) ({ cls := "NextAtBa\x72", name := "time", desc := "(II)I" } : Jvm.MethodName)) ∈ lw_all := lw_g (lw_at lw_m6 35 rfl) rfl
theorem q1373 : (Jvm.Cond.methodLink "NextAtBarLaw" (62 : Nat) ({ cls := "NextAtBa\x72", name := "costs", desc := "(I)I" } : Jvm.MethodName)) ∈ lw_all := lw_g (lw_at lw_m6 51 rfl) rfl
theorem q1381 : (Jvm.Cond.methodLink "NextAtBarLaw" (66 : Nat) ({ cls := "NextAtBa\x72", name := "fate", desc := "(I)I" } : Jvm.MethodName)) ∈ lw_all := lw_g (lw_at lw_m6 59 rfl) rfl
theorem q1421 : (Jvm.Cond.methodLink "NextAtBarLaw" (70 : Nat) ({ cls := "NextAtBa\x72", name := "waits", desc := "(I)I" } : Jvm.MethodName)) ∈ lw_all := lw_g (lw_at lw_m6 99 rfl) rfl
theorem q1429 : (Jvm.Cond.methodLink "NextAtBarLaw" (74 : Nat) ({ cls := "NextAtBa\x72", name := "whom", desc := "(I)I" } : Jvm.MethodName)) ∈ lw_all := lw_g (lw_at lw_m6 107 rfl) rfl
theorem q1433 : (Jvm.Cond.methodLink "NextAtBarLaw" (78 : Nat) ({ cls := "NextAtBa\x72", name := "has", desc := "(I)I" } : Jvm.MethodName)) ∈ lw_all := lw_g (lw_at lw_m6 111 rfl) rfl
theorem q1437 : (Jvm.Cond.methodLink "NextAtBarLaw" (82 : Nat) ({ cls := "NextAtBa\x72", name := "passed", desc := "(I)I" } : Jvm.MethodName)) ∈ lw_all := lw_g (lw_at lw_m6 115 rfl) rfl
theorem q1441 : (Jvm.Cond.methodLink "NextAtBarLaw" (86 : Nat) ({ cls := "NextAtBa\x72", name := "pushed", desc := "(I)I" } : Jvm.MethodName)) ∈ lw_all := lw_g (lw_at lw_m6 119 rfl) rfl
theorem q1445 : (Jvm.Cond.methodLink "NextAtBarLaw" (90 : Nat) ({ cls := "NextAtBa\x72", name := "sum", desc := "(I)I" } : Jvm.MethodName)) ∈ lw_all := lw_g (lw_at lw_m6 123 rfl) rfl
theorem q1463 : (Jvm.Cond.methodLink "NextAtBarLaw" (94 : Nat) ({ cls := "NextAtBa\x72", name := "served", desc := "(I)I" } : Jvm.MethodName)) ∈ lw_all := lw_g (lw_at lw_m6 141 rfl) rfl
theorem q1467 : (Jvm.Cond.methodLink "NextAtBarLaw" (98 : Nat) ({ cls := "NextAtBa\x72", name := "by", desc := "(IZI)I" } : Jvm.MethodName)) ∈ lw_all := lw_g (lw_at lw_m6 145 rfl) rfl
theorem q1480 : (Jvm.Cond.methodLink "NextAtBarLaw" (103 : Nat) ({ cls := "NextAtBa\x72", name := "bestRule", desc := "(Z)I" } : Jvm.MethodName)) ∈ lw_all := lw_g (lw_at lw_m6 158 rfl) rfl
theorem q1484 : (Jvm.Cond.methodLink "NextAtBarLaw" (108 : Nat) ({ cls := "NextAtBa\x72", name := "hand", desc := "()I" } : Jvm.MethodName)) ∈ lw_all := lw_g (lw_at lw_m6 162 rfl) rfl
theorem q1496 : (Jvm.Cond.methodLink "NextAtBarLaw" (112 : Nat) ({ cls := "NextAtBa\x72", name := "beforehand", desc := "(I)I" } : Jvm.MethodName)) ∈ lw_all := lw_g (lw_at lw_m6 174 rfl) rfl
theorem q1502 : (Jvm.Cond.methodLink "NextAtBarLaw" (116 : Nat) ({ cls := "NextAtBa\x72", name := "bestPlace", desc := "(I)I" } : Jvm.MethodName)) ∈ lw_all := lw_g (lw_at lw_m6 180 rfl) rfl
theorem q1507 : (Jvm.Cond.methodLink "NextAtBarLaw" (120 : Nat) ({ cls := "NextAtBa\x72", name := "bestManne\x72", desc := "(I)I" } : Jvm.MethodName)) ∈ lw_all := lw_g (lw_at lw_m6 185 rfl) rfl
theorem q1513 : (Jvm.Cond.methodLink "NextAtBarLaw" (124 : Nat) ({ cls := "NextAtBa\x72", name := "cut", desc := "()I" } : Jvm.MethodName)) ∈ lw_all := lw_g (lw_at lw_m6 191 rfl) rfl
theorem q1529 : (Jvm.Cond.methodLink "NextAtBarLaw" (128 : Nat) ({ cls := "NextAtBa\x72", name := "cutWaits", desc := "()I" } : Jvm.MethodName)) ∈ lw_all := lw_g (lw_at lw_m6 207 rfl) rfl
theorem q1533 : (Jvm.Cond.methodLink "NextAtBarLaw" (132 : Nat) ({ cls := "NextAtBa\x72", name := "leastLook", desc := "(I)I" } : Jvm.MethodName)) ∈ lw_all := lw_g (lw_at lw_m6 211 rfl) rfl
theorem q1537 : (Jvm.Cond.methodLink "NextAtBarLaw" (136 : Nat) ({ cls := "NextAtBa\x72", name := "letCosts", desc := "(II)I" } : Jvm.MethodName)) ∈ lw_all := lw_g (lw_at lw_m6 215 rfl) rfl
theorem q1549 : (Jvm.Cond.methodLink "NextAtBarLaw" (140 : Nat) ({ cls := "NextAtBa\x72", name := "bell", desc := "(II)I" } : Jvm.MethodName)) ∈ lw_all := lw_g (lw_at lw_m6 227 rfl) rfl
theorem q1553 : (Jvm.Cond.methodLink "NextAtBarLaw" (144 : Nat) ({ cls := "NextAtBa\x72", name := "waitingAt", desc := "(I)I" } : Jvm.MethodName)) ∈ lw_all := lw_g (lw_at lw_m6 231 rfl) rfl
theorem q1557 : (Jvm.Cond.methodLink "NextAtBarLaw" (148 : Nat) ({ cls := "NextAtBa\x72", name := "honesty", desc := "(IZ)I" } : Jvm.MethodName)) ∈ lw_all := lw_g (lw_at lw_m6 235 rfl) rfl
theorem q1572 : (Jvm.Cond.methodLink "NextAtBarLaw" (153 : Nat) ({ cls := "NextAtBa\x72", name := "rest", desc := "(I)I" } : Jvm.MethodName)) ∈ lw_all := lw_g (lw_at lw_m7 10 rfl) rfl
theorem q1580 : (Jvm.Cond.methodLink "NextAtBarLaw" (157 : Nat) ({ cls := "NextAtBa\x72", name := "rests", desc := "()I" } : Jvm.MethodName)) ∈ lw_all := lw_g (lw_at lw_m7 18 rfl) rfl
theorem q1584 : (Jvm.Cond.methodLink "NextAtBarLaw" (161 : Nat) ({ cls := "NextAtBa\x72", name := "row", desc := "(II)I" } : Jvm.MethodName)) ∈ lw_all := lw_g (lw_at lw_m7 22 rfl) rfl
theorem q1626 : (Jvm.Cond.methodLink "NextAtBarLaw" (165 : Nat) ({ cls := "NextAtBa\x72", name := "rowSum", desc := "(I)I" } : Jvm.MethodName)) ∈ lw_all := lw_g (lw_at lw_m7 64 rfl) rfl
theorem q1630 : (Jvm.Cond.methodLink "NextAtBarLaw" (169 : Nat) ({ cls := "NextAtBa\x72", name := "liars", desc := "()I" } : Jvm.MethodName)) ∈ lw_all := lw_g (lw_at lw_m7 68 rfl) rfl
theorem q1660 : (Jvm.Cond.methodLink "NextAtBarLaw" (173 : Nat) ({ cls := "NextAtBa\x72", name := "surely", desc := "(II)I" } : Jvm.MethodName)) ∈ lw_all := lw_g (lw_at lw_m7 98 rfl) rfl
theorem q1669 : (Jvm.Cond.methodLink "NextAtBarLaw" (177 : Nat) ({ cls := "NextAtBa\x72", name := "so", desc := "()I" } : Jvm.MethodName)) ∈ lw_all := lw_g (lw_at lw_m7 107 rfl) rfl
theorem q1675 : (Jvm.Cond.methodLink "NextAtBarLaw" (181 : Nat) ({ cls := "NextAtBa\x72", name := "pass", desc := "(I)I" } : Jvm.MethodName)) ∈ lw_all := lw_g (lw_at lw_m7 113 rfl) rfl
theorem q1694 : (Jvm.Cond.methodLink "NextAtBarLaw" (185 : Nat) ({ cls := "NextAtBa\x72", name := "moves", desc := "(II)Z" } : Jvm.MethodName)) ∈ lw_all := lw_g (lw_at lw_m7 132 rfl) rfl
theorem q1706 : (Jvm.Cond.methodLink "NextAtBarLaw" (190 : Nat) ({ cls := "NextAtBa\x72", name := "lets", desc := "(II)Z" } : Jvm.MethodName)) ∈ lw_all := lw_g (lw_at lw_m7 144 rfl) rfl
theorem q1710 : (Jvm.Cond.methodLink "NextAtBarLaw" (194 : Nat) ({ cls := "NextAtBa\x72", name := "calls", desc := "(I)I" } : Jvm.MethodName)) ∈ lw_all := lw_g (lw_at lw_m7 148 rfl) rfl
theorem q1715 : (Jvm.Cond.methodLink "NextAtBarLaw" (198 : Nat) ({ cls := "NextAtBa\x72", name := "leaves", desc := "(I)Z" } : Jvm.MethodName)) ∈ lw_all := lw_g (lw_at lw_m7 153 rfl) rfl
theorem q1719 : (Jvm.Cond.methodLink "NextAtBarLaw" (203 : Nat) ({ cls := "NextAtBa\x72", name := "undo", desc := "()Z" } : Jvm.MethodName)) ∈ lw_all := lw_g (lw_at lw_m7 157 rfl) rfl
theorem q1724 : (Jvm.Cond.methodLink "NextAtBarLaw" (208 : Nat) ({ cls := "NextAtBa\x72", name := "image", desc := "()I" } : Jvm.MethodName)) ∈ lw_all := lw_g (lw_at lw_m7 162 rfl) rfl
theorem q1728 : (Jvm.Cond.methodLink "NextAtBarLaw" (212 : Nat) ({ cls := "NextAtBa\x72", name := "back", desc := "(I)Z" } : Jvm.MethodName)) ∈ lw_all := lw_g (lw_at lw_m7 166 rfl) rfl
theorem q1732 : (Jvm.Cond.methodLink "NextAtBarLaw" (216 : Nat) ({ cls := "NextAtBa\x72", name := "told", desc := "(II)I" } : Jvm.MethodName)) ∈ lw_all := lw_g (lw_at lw_m7 170 rfl) rfl
theorem q1750 : (Jvm.Cond.methodLink "NextAtBarLaw" (220 : Nat) ({ cls := "NextAtBa\x72", name := "wants", desc := "(II)I" } : Jvm.MethodName)) ∈ lw_all := lw_g (lw_at lw_m7 188 rfl) rfl
theorem q1754 : (Jvm.Cond.methodLink "NextAtBarLaw" (233 : Nat) ({ cls := "NextAtBa\x72", name := "size", desc := "(I)I" } : Jvm.MethodName)) ∈ lw_all := lw_g (lw_at lw_m7 192 rfl) rfl
theorem q1758 : (Jvm.Cond.methodLink "NextAtBarLaw" (237 : Nat) ({ cls := "NextAtBa\x72", name := "trouble", desc := "()I" } : Jvm.MethodName)) ∈ lw_all := lw_g (lw_at lw_m7 196 rfl) rfl
theorem q1762 : (Jvm.Cond.methodLink "NextAtBarLaw" (224 : Nat) ({ cls := "NextAtBarLaw", name := "led", desc := "(LNextAtBar;I[J)I" } : Jvm.MethodName)) ∈ lw_all := lw_g (lw_at lw_m7 200 rfl) rfl
theorem q1763 : (Jvm.Cond.static ({ cls := "NextAtBarLaw", name := "led", desc := "(LNextAtBar;I[J)I" } : Jvm.MethodName)) ∈ lw_all := lw_g (lw_at lw_m7 201 rfl) rfl
theorem q1764 : (Jvm.Cond.codeWith ({ cls := "NextAtBarLaw", name := "led", desc := "(LNextAtBar;I[J)I" } : Jvm.MethodName) method_3_code (4 : Nat) (Option.some Jvm.ClassFile.FieldType.int) [((0 : Nat), (9 : Nat), (12 : Nat), (13 : Nat))]) ∈ lw_all := lw_g (lw_at lw_m7 202 rfl) rfl
theorem q1765 : (Jvm.Cond.classLink "NextAtBarLaw" (13 : Nat) "java/util/NoSuchElementException") ∈ lw_all := lw_g (lw_at lw_m7 203 rfl) rfl
theorem q1766 : (Jvm.Cond.methodLink "NextAtBarLaw" (7 : Nat) ({ cls := "NextAtBa\x72", name := "led", desc := "(I)I" } : Jvm.MethodName)) ∈ lw_all := lw_g (lw_at lw_m7 204 rfl) rfl
theorem q1831 : (Jvm.Cond.classLink "NextAtBarLaw" (16 : Nat) "NextAtBarModel") ∈ lw_all := lw_g (lw_at lw_m8 29 rfl) rfl
theorem q1833 : (Jvm.Cond.methodLink "NextAtBarLaw" (18 : Nat) ({ cls := "NextAtBarModel", name := "<init>", desc := "()V" } : Jvm.MethodName)) ∈ lw_all := lw_g (lw_at lw_m8 31 rfl) rfl
theorem q1943 : (Jvm.Cond.methodLink "NextAtBarLaw" (230 : Nat) ({ cls := "NextAtBarModel", name := "thrown", desc := "()I" } : Jvm.MethodName)) ∈ lw_all := lw_g (lw_at lw_m8 141 rfl) rfl
theorem q1947 : (Jvm.Cond.methodLink "NextAtBarLaw" (23 : Nat) ({ cls := "NextAtBarModel", name := "feed", desc := "(IIIII)I" } : Jvm.MethodName)) ∈ lw_all := lw_g (lw_at lw_m8 145 rfl) rfl
theorem q1951 : (Jvm.Cond.methodLink "NextAtBarLaw" (27 : Nat) ({ cls := "NextAtBarModel", name := "house", desc := "(I)I" } : Jvm.MethodName)) ∈ lw_all := lw_g (lw_at lw_m8 149 rfl) rfl
theorem q2132 : (Jvm.Cond.methodLink "NextAtBarLaw" (32 : Nat) ({ cls := "NextAtBarModel", name := "fault", desc := "()I" } : Jvm.MethodName)) ∈ lw_all := lw_g (lw_at lw_m9 90 rfl) rfl
theorem q2136 : (Jvm.Cond.methodLink "NextAtBarLaw" (36 : Nat) ({ cls := "NextAtBarModel", name := "where", desc := "()I" } : Jvm.MethodName)) ∈ lw_all := lw_g (lw_at lw_m9 94 rfl) rfl
theorem q2140 : (Jvm.Cond.methodLink "NextAtBarLaw" (41 : Nat) ({ cls := "NextAtBarModel", name := "person", desc := "(II)I" } : Jvm.MethodName)) ∈ lw_all := lw_g (lw_at lw_m9 98 rfl) rfl
theorem q2148 : (Jvm.Cond.methodLink "NextAtBarLaw" (45 : Nat) ({ cls := "NextAtBarModel", name := "staff", desc := "(II)I" } : Jvm.MethodName)) ∈ lw_all := lw_g (lw_at lw_m9 106 rfl) rfl
theorem q2157 : (Jvm.Cond.methodLink "NextAtBarLaw" (49 : Nat) ({ cls := "NextAtBarModel", name := "elbows", desc := "(I)I" } : Jvm.MethodName)) ∈ lw_all := lw_g (lw_at lw_m9 115 rfl) rfl
theorem q2171 : (Jvm.Cond.methodLink "NextAtBarLaw" (53 : Nat) ({ cls := "NextAtBarModel", name := "waiting", desc := "()I" } : Jvm.MethodName)) ∈ lw_all := lw_g (lw_at lw_m9 129 rfl) rfl
theorem q2179 : (Jvm.Cond.methodLink "NextAtBarLaw" (57 : Nat) ({ cls := "NextAtBarModel", name := "next", desc := "(I)I" } : Jvm.MethodName)) ∈ lw_all := lw_g (lw_at lw_m9 137 rfl) rfl
theorem q2194 : (Jvm.Cond.methodLink "NextAtBarLaw" (61 : Nat) ({ cls := "NextAtBarModel", name := "time", desc := "(II)I" } : Jvm.MethodName)) ∈ lw_all := lw_g (lw_at lw_m9 152 rfl) rfl
theorem q2210 : (Jvm.Cond.methodLink "NextAtBarLaw" (65 : Nat) ({ cls := "NextAtBarModel", name := "costs", desc := "(I)I" } : Jvm.MethodName)) ∈ lw_all := lw_g (lw_at lw_m9 168 rfl) rfl
theorem q2218 : (Jvm.Cond.methodLink "NextAtBarLaw" (69 : Nat) ({ cls := "NextAtBarModel", name := "fate", desc := "(I)I" } : Jvm.MethodName)) ∈ lw_all := lw_g (lw_at lw_m9 176 rfl) rfl
theorem q2242 : (Jvm.Cond.methodLink "NextAtBarLaw" (73 : Nat) ({ cls := "NextAtBarModel", name := "waits", desc := "(I)I" } : Jvm.MethodName)) ∈ lw_all := lw_g (lw_at lw_m9 200 rfl) rfl
theorem q2250 : (Jvm.Cond.methodLink "NextAtBarLaw" (77 : Nat) ({ cls := "NextAtBarModel", name := "whom", desc := "(I)I" } : Jvm.MethodName)) ∈ lw_all := lw_g (lw_at lw_m9 208 rfl) rfl
theorem q2254 : (Jvm.Cond.methodLink "NextAtBarLaw" (81 : Nat) ({ cls := "NextAtBarModel", name := "has", desc := "(I)I" } : Jvm.MethodName)) ∈ lw_all := lw_g (lw_at lw_m9 212 rfl) rfl
theorem q2258 : (Jvm.Cond.methodLink "NextAtBarLaw" (85 : Nat) ({ cls := "NextAtBarModel", name := "passed", desc := "(I)I" } : Jvm.MethodName)) ∈ lw_all := lw_g (lw_at lw_m9 216 rfl) rfl
theorem q2270 : (Jvm.Cond.methodLink "NextAtBarLaw" (89 : Nat) ({ cls := "NextAtBarModel", name := "pushed", desc := "(I)I" } : Jvm.MethodName)) ∈ lw_all := lw_g (lw_at lw_m9 228 rfl) rfl
theorem q2281 : (Jvm.Cond.methodLink "NextAtBarLaw" (93 : Nat) ({ cls := "NextAtBarModel", name := "sum", desc := "(I)I" } : Jvm.MethodName)) ∈ lw_all := lw_g (lw_at lw_m9 239 rfl) rfl
theorem q2292 : (Jvm.Cond.methodLink "NextAtBarLaw" (97 : Nat) ({ cls := "NextAtBarModel", name := "served", desc := "(I)I" } : Jvm.MethodName)) ∈ lw_all := lw_g (lw_at lw_m10 10 rfl) rfl
theorem q2296 : (Jvm.Cond.methodLink "NextAtBarLaw" (147 : Nat) ({ cls := "NextAtBarModel", name := "waitingAt", desc := "(I)I" } : Jvm.MethodName)) ∈ lw_all := lw_g (lw_at lw_m10 14 rfl) rfl
theorem q2300 : (Jvm.Cond.methodLink "NextAtBarLaw" (143 : Nat) ({ cls := "NextAtBarModel", name := "bell", desc := "(II)I" } : Jvm.MethodName)) ∈ lw_all := lw_g (lw_at lw_m10 18 rfl) rfl
theorem q2304 : (Jvm.Cond.methodLink "NextAtBarLaw" (102 : Nat) ({ cls := "NextAtBarModel", name := "by", desc := "(IZI)I" } : Jvm.MethodName)) ∈ lw_all := lw_g (lw_at lw_m10 22 rfl) rfl
theorem q2312 : (Jvm.Cond.methodLink "NextAtBarLaw" (107 : Nat) ({ cls := "NextAtBarModel", name := "bestRule", desc := "(Z)I" } : Jvm.MethodName)) ∈ lw_all := lw_g (lw_at lw_m10 30 rfl) rfl
theorem q2316 : (Jvm.Cond.methodLink "NextAtBarLaw" (111 : Nat) ({ cls := "NextAtBarModel", name := "hand", desc := "()I" } : Jvm.MethodName)) ∈ lw_all := lw_g (lw_at lw_m10 34 rfl) rfl
theorem q2324 : (Jvm.Cond.methodLink "NextAtBarLaw" (115 : Nat) ({ cls := "NextAtBarModel", name := "beforehand", desc := "(I)I" } : Jvm.MethodName)) ∈ lw_all := lw_g (lw_at lw_m10 42 rfl) rfl
theorem q2332 : (Jvm.Cond.methodLink "NextAtBarLaw" (119 : Nat) ({ cls := "NextAtBarModel", name := "bestPlace", desc := "(I)I" } : Jvm.MethodName)) ∈ lw_all := lw_g (lw_at lw_m10 50 rfl) rfl
theorem q2340 : (Jvm.Cond.methodLink "NextAtBarLaw" (123 : Nat) ({ cls := "NextAtBarModel", name := "bestManne\x72", desc := "(I)I" } : Jvm.MethodName)) ∈ lw_all := lw_g (lw_at lw_m10 58 rfl) rfl
theorem q2348 : (Jvm.Cond.methodLink "NextAtBarLaw" (135 : Nat) ({ cls := "NextAtBarModel", name := "leastLook", desc := "(I)I" } : Jvm.MethodName)) ∈ lw_all := lw_g (lw_at lw_m10 66 rfl) rfl
theorem q2352 : (Jvm.Cond.methodLink "NextAtBarLaw" (127 : Nat) ({ cls := "NextAtBarModel", name := "cut", desc := "()I" } : Jvm.MethodName)) ∈ lw_all := lw_g (lw_at lw_m10 70 rfl) rfl
theorem q2360 : (Jvm.Cond.methodLink "NextAtBarLaw" (131 : Nat) ({ cls := "NextAtBarModel", name := "cutWaits", desc := "()I" } : Jvm.MethodName)) ∈ lw_all := lw_g (lw_at lw_m10 78 rfl) rfl
theorem q2364 : (Jvm.Cond.methodLink "NextAtBarLaw" (139 : Nat) ({ cls := "NextAtBarModel", name := "letCosts", desc := "(II)I" } : Jvm.MethodName)) ∈ lw_all := lw_g (lw_at lw_m10 82 rfl) rfl
theorem q2372 : (Jvm.Cond.methodLink "NextAtBarLaw" (152 : Nat) ({ cls := "NextAtBarModel", name := "honesty", desc := "(IZ)I" } : Jvm.MethodName)) ∈ lw_all := lw_g (lw_at lw_m10 90 rfl) rfl
theorem q2388 : (Jvm.Cond.methodLink "NextAtBarLaw" (156 : Nat) ({ cls := "NextAtBarModel", name := "rest", desc := "(I)I" } : Jvm.MethodName)) ∈ lw_all := lw_g (lw_at lw_m10 106 rfl) rfl
theorem q2396 : (Jvm.Cond.methodLink "NextAtBarLaw" (160 : Nat) ({ cls := "NextAtBarModel", name := "rests", desc := "()I" } : Jvm.MethodName)) ∈ lw_all := lw_g (lw_at lw_m10 114 rfl) rfl
theorem q2400 : (Jvm.Cond.methodLink "NextAtBarLaw" (164 : Nat) ({ cls := "NextAtBarModel", name := "row", desc := "(II)I" } : Jvm.MethodName)) ∈ lw_all := lw_g (lw_at lw_m10 118 rfl) rfl
theorem q2412 : (Jvm.Cond.methodLink "NextAtBarLaw" (168 : Nat) ({ cls := "NextAtBarModel", name := "rowSum", desc := "(I)I" } : Jvm.MethodName)) ∈ lw_all := lw_g (lw_at lw_m10 130 rfl) rfl
theorem q2416 : (Jvm.Cond.methodLink "NextAtBarLaw" (172 : Nat) ({ cls := "NextAtBarModel", name := "liars", desc := "()I" } : Jvm.MethodName)) ∈ lw_all := lw_g (lw_at lw_m10 134 rfl) rfl
theorem q2428 : (Jvm.Cond.methodLink "NextAtBarLaw" (176 : Nat) ({ cls := "NextAtBarModel", name := "surely", desc := "(II)I" } : Jvm.MethodName)) ∈ lw_all := lw_g (lw_at lw_m10 146 rfl) rfl
theorem q2432 : (Jvm.Cond.methodLink "NextAtBarLaw" (180 : Nat) ({ cls := "NextAtBarModel", name := "so", desc := "()I" } : Jvm.MethodName)) ∈ lw_all := lw_g (lw_at lw_m10 150 rfl) rfl
theorem q2436 : (Jvm.Cond.methodLink "NextAtBarLaw" (184 : Nat) ({ cls := "NextAtBarModel", name := "pass", desc := "(I)I" } : Jvm.MethodName)) ∈ lw_all := lw_g (lw_at lw_m10 154 rfl) rfl
theorem q2444 : (Jvm.Cond.methodLink "NextAtBarLaw" (189 : Nat) ({ cls := "NextAtBarModel", name := "moves", desc := "(II)Z" } : Jvm.MethodName)) ∈ lw_all := lw_g (lw_at lw_m10 162 rfl) rfl
theorem q2452 : (Jvm.Cond.methodLink "NextAtBarLaw" (193 : Nat) ({ cls := "NextAtBarModel", name := "lets", desc := "(II)Z" } : Jvm.MethodName)) ∈ lw_all := lw_g (lw_at lw_m10 170 rfl) rfl
theorem q2456 : (Jvm.Cond.methodLink "NextAtBarLaw" (197 : Nat) ({ cls := "NextAtBarModel", name := "calls", desc := "(I)I" } : Jvm.MethodName)) ∈ lw_all := lw_g (lw_at lw_m10 174 rfl) rfl
theorem q2460 : (Jvm.Cond.methodLink "NextAtBarLaw" (202 : Nat) ({ cls := "NextAtBarModel", name := "leaves", desc := "(I)Z" } : Jvm.MethodName)) ∈ lw_all := lw_g (lw_at lw_m10 178 rfl) rfl
theorem q2464 : (Jvm.Cond.methodLink "NextAtBarLaw" (207 : Nat) ({ cls := "NextAtBarModel", name := "undo", desc := "()Z" } : Jvm.MethodName)) ∈ lw_all := lw_g (lw_at lw_m10 182 rfl) rfl
theorem q2468 : (Jvm.Cond.methodLink "NextAtBarLaw" (211 : Nat) ({ cls := "NextAtBarModel", name := "image", desc := "()I" } : Jvm.MethodName)) ∈ lw_all := lw_g (lw_at lw_m10 186 rfl) rfl
theorem q2472 : (Jvm.Cond.methodLink "NextAtBarLaw" (215 : Nat) ({ cls := "NextAtBarModel", name := "back", desc := "(I)Z" } : Jvm.MethodName)) ∈ lw_all := lw_g (lw_at lw_m10 190 rfl) rfl
theorem q2476 : (Jvm.Cond.methodLink "NextAtBarLaw" (219 : Nat) ({ cls := "NextAtBarModel", name := "told", desc := "(II)I" } : Jvm.MethodName)) ∈ lw_all := lw_g (lw_at lw_m10 194 rfl) rfl
theorem q2480 : (Jvm.Cond.methodLink "NextAtBarLaw" (223 : Nat) ({ cls := "NextAtBarModel", name := "wants", desc := "(II)I" } : Jvm.MethodName)) ∈ lw_all := lw_g (lw_at lw_m10 198 rfl) rfl
theorem q2488 : (Jvm.Cond.methodLink "NextAtBarLaw" (229 : Nat) ({ cls := "NextAtBarModel", name := "led", desc := "(I)I" } : Jvm.MethodName)) ∈ lw_all := lw_g (lw_at lw_m10 206 rfl) rfl
theorem q2492 : (Jvm.Cond.methodLink "NextAtBarLaw" (236 : Nat) ({ cls := "NextAtBarModel", name := "size", desc := "(I)I" } : Jvm.MethodName)) ∈ lw_all := lw_g (lw_at lw_m10 210 rfl) rfl
theorem q2496 : (Jvm.Cond.methodLink "NextAtBarLaw" (240 : Nat) ({ cls := "NextAtBarModel", name := "trouble", desc := "()I" } : Jvm.MethodName)) ∈ lw_all := lw_g (lw_at lw_m10 214 rfl) rfl
/-! the law's own entry -/
set_option maxRecDepth 100000
abbrev cL_law : ByteArray := code
def dkwL_law_65 : List UInt8 := [4, 172]
abbrev dktL_law_65 : List UInt8 := dkwL_law_65 ++ []
def dkwL_law_64 : List UInt8 := [159, 0, 18, 3, 172, 43, 182, 0, 237, 44, 182, 0, 240, 159, 0, 5, 3, 172, 132, 4, 6, 167, 249, 97]
abbrev dktL_law_64 : List UInt8 := dkwL_law_64 ++ dktL_law_65
def dkwL_law_63 : List UInt8 := [167, 0, 41, 43, 42, 21, 4, 4, 96, 46, 182, 0, 233, 44, 42, 21, 4, 4, 96, 46, 182, 0, 236]
abbrev dktL_law_63 : List UInt8 := dkwL_law_63 ++ dktL_law_64
def dkwL_law_62 : List UInt8 := [159, 0, 5, 3, 172, 21, 5, 154, 0, 15, 45, 3, 47, 21, 6, 133, 148, 153, 0, 5, 3, 172]
abbrev dktL_law_62 : List UInt8 := dkwL_law_62 ++ dktL_law_63
def dkwL_law_61 : List UInt8 := [184, 0, 224, 54, 5, 44, 42, 21, 4, 4, 96, 46, 182, 0, 229, 54, 6, 44, 182, 0, 230, 21, 5]
abbrev dktL_law_61 : List UInt8 := dkwL_law_61 ++ dktL_law_62
def dkwL_law_60 : List UInt8 := [46, 42, 21, 4, 5, 96, 46, 182, 0, 223, 159, 0, 99, 3, 172, 43, 42, 21, 4, 4, 96, 46, 45]
abbrev dktL_law_60 : List UInt8 := dkwL_law_60 ++ dktL_law_61
def dkwL_law_59 : List UInt8 := [3, 172, 43, 42, 21, 4, 4, 96, 46, 42, 21, 4, 5, 96, 46, 182, 0, 220, 44, 42, 21, 4, 4, 96]
abbrev dktL_law_59 : List UInt8 := dkwL_law_59 ++ dktL_law_60
def dkwL_law_58 : List UInt8 := [96, 46, 182, 0, 216, 44, 42, 21, 4, 4, 96, 46, 42, 21, 4, 5, 96, 46, 182, 0, 219, 159, 0, 136]
abbrev dktL_law_58 : List UInt8 := dkwL_law_58 ++ dktL_law_59
def dkwL_law_57 : List UInt8 := [21, 4, 4, 96, 46, 182, 0, 215, 159, 0, 173, 3, 172, 43, 42, 21, 4, 4, 96, 46, 42, 21, 4, 5]
abbrev dktL_law_57 : List UInt8 := dkwL_law_57 ++ dktL_law_58
def dkwL_law_56 : List UInt8 := [182, 0, 208, 44, 182, 0, 211, 159, 0, 198, 3, 172, 43, 42, 21, 4, 4, 96, 46, 182, 0, 212, 44, 42]
abbrev dktL_law_56 : List UInt8 := dkwL_law_56 ++ dktL_law_57
def dkwL_law_55 : List UInt8 := [182, 0, 202, 159, 0, 224, 3, 172, 43, 182, 0, 203, 44, 182, 0, 207, 159, 0, 211, 3, 172, 43]
abbrev dktL_law_55 : List UInt8 := dkwL_law_55 ++ dktL_law_56
def dkwL_law_54 : List UInt8 := [159, 0, 249, 3, 172, 43, 42, 21, 4, 4, 96, 46, 182, 0, 198, 44, 42, 21, 4, 4, 96, 46]
abbrev dktL_law_54 : List UInt8 := dkwL_law_54 ++ dktL_law_55
def dkwL_law_53 : List UInt8 := [3, 172, 43, 42, 21, 4, 4, 96, 46, 182, 0, 194, 44, 42, 21, 4, 4, 96, 46, 182, 0, 197]
abbrev dktL_law_53 : List UInt8 := dkwL_law_53 ++ dktL_law_54
def dkwL_law_52 : List UInt8 := [96, 46, 182, 0, 190, 44, 42, 21, 4, 4, 96, 46, 42, 21, 4, 5, 96, 46, 182, 0, 193, 159, 1, 18]
abbrev dktL_law_52 : List UInt8 := dkwL_law_52 ++ dktL_law_53
def dkwL_law_51 : List UInt8 := [21, 4, 5, 96, 46, 182, 0, 189, 159, 1, 55, 3, 172, 43, 42, 21, 4, 4, 96, 46, 42, 21, 4, 5]
abbrev dktL_law_51 : List UInt8 := dkwL_law_51 ++ dktL_law_52
def dkwL_law_50 : List UInt8 := [42, 21, 4, 4, 96, 46, 42, 21, 4, 5, 96, 46, 182, 0, 185, 44, 42, 21, 4, 4, 96, 46, 42]
abbrev dktL_law_50 : List UInt8 := dkwL_law_50 ++ dktL_law_51
def dkwL_law_49 : List UInt8 := [21, 4, 4, 96, 46, 182, 0, 181, 44, 42, 21, 4, 4, 96, 46, 182, 0, 184, 159, 1, 92, 3, 172, 43]
abbrev dktL_law_49 : List UInt8 := dkwL_law_49 ++ dktL_law_50
def dkwL_law_48 : List UInt8 := [182, 0, 176, 159, 1, 130, 3, 172, 43, 182, 0, 177, 44, 182, 0, 180, 159, 1, 117, 3, 172, 43, 42]
abbrev dktL_law_48 : List UInt8 := dkwL_law_48 ++ dktL_law_49
def dkwL_law_47 : List UInt8 := [46, 42, 21, 4, 5, 96, 46, 182, 0, 173, 44, 42, 21, 4, 4, 96, 46, 42, 21, 4, 5, 96, 46]
abbrev dktL_law_47 : List UInt8 := dkwL_law_47 ++ dktL_law_48
def dkwL_law_46 : List UInt8 := [159, 1, 180, 3, 172, 43, 182, 0, 169, 44, 182, 0, 172, 159, 1, 167, 3, 172, 43, 42, 21, 4, 4, 96]
abbrev dktL_law_46 : List UInt8 := dkwL_law_46 ++ dktL_law_47
def dkwL_law_45 : List UInt8 := [3, 172, 43, 42, 21, 4, 4, 96, 46, 182, 0, 165, 44, 42, 21, 4, 4, 96, 46, 182, 0, 168]
abbrev dktL_law_45 : List UInt8 := dkwL_law_45 ++ dktL_law_46
def dkwL_law_44 : List UInt8 := [96, 46, 182, 0, 161, 44, 42, 21, 4, 4, 96, 46, 42, 21, 4, 5, 96, 46, 182, 0, 164, 159, 1, 205]
abbrev dktL_law_44 : List UInt8 := dkwL_law_44 ++ dktL_law_45
def dkwL_law_43 : List UInt8 := [43, 182, 0, 157, 44, 182, 0, 160, 159, 1, 242, 3, 172, 43, 42, 21, 4, 4, 96, 46, 42, 21, 4, 5]
abbrev dktL_law_43 : List UInt8 := dkwL_law_43 ++ dktL_law_44
def dkwL_law_42 : List UInt8 := [42, 21, 4, 4, 96, 46, 182, 0, 153, 44, 42, 21, 4, 4, 96, 46, 182, 0, 156, 159, 1, 255, 3, 172]
abbrev dktL_law_42 : List UInt8 := dkwL_law_42 ++ dktL_law_43
def dkwL_law_41 : List UInt8 := [46, 42, 21, 4, 5, 96, 46, 153, 0, 7, 4, 167, 0, 4, 3, 182, 0, 152, 159, 2, 24, 3, 172, 43]
abbrev dktL_law_41 : List UInt8 := dkwL_law_41 ++ dktL_law_42
def dkwL_law_40 : List UInt8 := [46, 42, 21, 4, 5, 96, 46, 153, 0, 7, 4, 167, 0, 4, 3, 182, 0, 148, 44, 42, 21, 4, 4, 96]
abbrev dktL_law_40 : List UInt8 := dkwL_law_40 ++ dktL_law_41
def dkwL_law_39 : List UInt8 := [182, 0, 144, 44, 42, 21, 4, 4, 96, 46, 182, 0, 147, 159, 2, 77, 3, 172, 43, 42, 21, 4, 4, 96]
abbrev dktL_law_39 : List UInt8 := dkwL_law_39 ++ dktL_law_40
def dkwL_law_38 : List UInt8 := [46, 42, 21, 4, 5, 96, 46, 182, 0, 143, 159, 2, 102, 3, 172, 43, 42, 21, 4, 4, 96, 46]
abbrev dktL_law_38 : List UInt8 := dkwL_law_38 ++ dktL_law_39
def dkwL_law_37 : List UInt8 := [3, 172, 43, 42, 21, 4, 4, 96, 46, 42, 21, 4, 5, 96, 46, 182, 0, 140, 44, 42, 21, 4, 4, 96]
abbrev dktL_law_37 : List UInt8 := dkwL_law_37 ++ dktL_law_38
def dkwL_law_36 : List UInt8 := [96, 46, 182, 0, 136, 44, 42, 21, 4, 4, 96, 46, 42, 21, 4, 5, 96, 46, 182, 0, 139, 159, 2, 139]
abbrev dktL_law_36 : List UInt8 := dkwL_law_36 ++ dktL_law_37
def dkwL_law_35 : List UInt8 := [21, 4, 4, 96, 46, 182, 0, 135, 159, 2, 176, 3, 172, 43, 42, 21, 4, 4, 96, 46, 42, 21, 4, 5]
abbrev dktL_law_35 : List UInt8 := dkwL_law_35 ++ dktL_law_36
def dkwL_law_34 : List UInt8 := [182, 0, 128, 44, 182, 0, 131, 159, 2, 201, 3, 172, 43, 42, 21, 4, 4, 96, 46, 182, 0, 132, 44, 42]
abbrev dktL_law_34 : List UInt8 := dkwL_law_34 ++ dktL_law_35
def dkwL_law_33 : List UInt8 := [182, 0, 123, 159, 2, 227, 3, 172, 43, 182, 0, 124, 44, 182, 0, 127, 159, 2, 214, 3, 172, 43]
abbrev dktL_law_33 : List UInt8 := dkwL_law_33 ++ dktL_law_34
def dkwL_law_32 : List UInt8 := [159, 2, 252, 3, 172, 43, 42, 21, 4, 4, 96, 46, 182, 0, 120, 44, 42, 21, 4, 4, 96, 46]
abbrev dktL_law_32 : List UInt8 := dkwL_law_32 ++ dktL_law_33
def dkwL_law_31 : List UInt8 := [3, 172, 43, 42, 21, 4, 4, 96, 46, 182, 0, 116, 44, 42, 21, 4, 4, 96, 46, 182, 0, 119]
abbrev dktL_law_31 : List UInt8 := dkwL_law_31 ++ dktL_law_32
def dkwL_law_30 : List UInt8 := [172, 43, 42, 21, 4, 4, 96, 46, 182, 0, 112, 44, 42, 21, 4, 4, 96, 46, 182, 0, 115, 159, 3, 21]
abbrev dktL_law_30 : List UInt8 := dkwL_law_30 ++ dktL_law_31
def dkwL_law_29 : List UInt8 := [167, 0, 4, 3, 182, 0, 107, 159, 3, 59, 3, 172, 43, 182, 0, 108, 44, 182, 0, 111, 159, 3, 46, 3]
abbrev dktL_law_29 : List UInt8 := dkwL_law_29 ++ dktL_law_30
def dkwL_law_28 : List UInt8 := [96, 46, 153, 0, 7, 4, 167, 0, 4, 3, 182, 0, 103, 44, 42, 21, 4, 4, 96, 46, 153, 0, 7, 4]
abbrev dktL_law_28 : List UInt8 := dkwL_law_28 ++ dktL_law_29
def dkwL_law_27 : List UInt8 := [4, 167, 0, 4, 3, 42, 21, 4, 6, 96, 46, 182, 0, 102, 159, 3, 100, 3, 172, 43, 42, 21, 4, 4]
abbrev dktL_law_27 : List UInt8 := dkwL_law_27 ++ dktL_law_28
def dkwL_law_26 : List UInt8 := [21, 4, 6, 96, 46, 182, 0, 98, 44, 42, 21, 4, 4, 96, 46, 42, 21, 4, 5, 96, 46, 153, 0, 7]
abbrev dktL_law_26 : List UInt8 := dkwL_law_26 ++ dktL_law_27
def dkwL_law_25 : List UInt8 := [172, 43, 42, 21, 4, 4, 96, 46, 42, 21, 4, 5, 96, 46, 153, 0, 7, 4, 167, 0, 4, 3, 42]
abbrev dktL_law_25 : List UInt8 := dkwL_law_25 ++ dktL_law_26
def dkwL_law_24 : List UInt8 := [43, 42, 21, 4, 4, 96, 46, 182, 0, 94, 44, 42, 21, 4, 4, 96, 46, 182, 0, 97, 159, 3, 165, 3]
abbrev dktL_law_24 : List UInt8 := dkwL_law_24 ++ dktL_law_25
def dkwL_law_23 : List UInt8 := [42, 21, 4, 4, 96, 46, 182, 0, 90, 44, 42, 21, 4, 4, 96, 46, 182, 0, 93, 159, 3, 190, 3, 172]
abbrev dktL_law_23 : List UInt8 := dkwL_law_23 ++ dktL_law_24
def dkwL_law_22 : List UInt8 := [21, 4, 4, 96, 46, 182, 0, 86, 44, 42, 21, 4, 4, 96, 46, 182, 0, 89, 159, 3, 215, 3, 172, 43]
abbrev dktL_law_22 : List UInt8 := dkwL_law_22 ++ dktL_law_23
def dkwL_law_21 : List UInt8 := [4, 96, 46, 182, 0, 82, 44, 42, 21, 4, 4, 96, 46, 182, 0, 85, 159, 3, 240, 3, 172, 43, 42]
abbrev dktL_law_21 : List UInt8 := dkwL_law_21 ++ dktL_law_22
def dkwL_law_20 : List UInt8 := [96, 46, 182, 0, 78, 44, 42, 21, 4, 4, 96, 46, 182, 0, 81, 159, 4, 9, 3, 172, 43, 42, 21, 4]
abbrev dktL_law_20 : List UInt8 := dkwL_law_20 ++ dktL_law_21
def dkwL_law_19 : List UInt8 := [46, 182, 0, 74, 44, 42, 21, 4, 4, 96, 46, 182, 0, 77, 159, 4, 34, 3, 172, 43, 42, 21, 4, 4]
abbrev dktL_law_19 : List UInt8 := dkwL_law_19 ++ dktL_law_20
def dkwL_law_18 : List UInt8 := [182, 0, 70, 44, 42, 21, 4, 4, 96, 46, 182, 0, 73, 159, 4, 59, 3, 172, 43, 42, 21, 4, 4, 96]
abbrev dktL_law_18 : List UInt8 := dkwL_law_18 ++ dktL_law_19
def dkwL_law_17 : List UInt8 := [44, 42, 21, 4, 4, 96, 46, 182, 0, 69, 159, 4, 84, 3, 172, 43, 42, 21, 4, 4, 96, 46]
abbrev dktL_law_17 : List UInt8 := dkwL_law_17 ++ dktL_law_18
def dkwL_law_16 : List UInt8 := [42, 21, 4, 4, 96, 46, 182, 0, 65, 159, 4, 109, 3, 172, 43, 42, 21, 4, 4, 96, 46, 182, 0, 66]
abbrev dktL_law_16 : List UInt8 := dkwL_law_16 ++ dktL_law_17
def dkwL_law_15 : List UInt8 := [21, 4, 5, 96, 46, 182, 0, 61, 159, 4, 134, 3, 172, 43, 42, 21, 4, 4, 96, 46, 182, 0, 62, 44]
abbrev dktL_law_15 : List UInt8 := dkwL_law_15 ++ dktL_law_16
def dkwL_law_14 : List UInt8 := [42, 21, 4, 4, 96, 46, 42, 21, 4, 5, 96, 46, 182, 0, 58, 44, 42, 21, 4, 4, 96, 46, 42]
abbrev dktL_law_14 : List UInt8 := dkwL_law_14 ++ dktL_law_15
def dkwL_law_13 : List UInt8 := [21, 4, 4, 96, 46, 182, 0, 54, 44, 42, 21, 4, 4, 96, 46, 182, 0, 57, 159, 4, 171, 3, 172, 43]
abbrev dktL_law_13 : List UInt8 := dkwL_law_13 ++ dktL_law_14
def dkwL_law_12 : List UInt8 := [46, 182, 0, 49, 159, 4, 209, 3, 172, 43, 182, 0, 50, 44, 182, 0, 53, 159, 4, 196, 3, 172, 43, 42]
abbrev dktL_law_12 : List UInt8 := dkwL_law_12 ++ dktL_law_13
def dkwL_law_11 : List UInt8 := [182, 0, 45, 159, 4, 234, 3, 172, 43, 42, 21, 4, 4, 96, 46, 182, 0, 46, 44, 42, 21, 4, 4, 96]
abbrev dktL_law_11 : List UInt8 := dkwL_law_11 ++ dktL_law_12
def dkwL_law_10 : List UInt8 := [96, 46, 42, 21, 4, 5, 96, 46, 182, 0, 42, 44, 42, 21, 4, 4, 96, 46, 42, 21, 4, 5, 96, 46]
abbrev dktL_law_10 : List UInt8 := dkwL_law_10 ++ dktL_law_11
def dkwL_law_9 : List UInt8 := [21, 4, 4, 96, 46, 42, 21, 4, 5, 96, 46, 182, 0, 41, 159, 5, 15, 3, 172, 43, 42, 21, 4, 4]
abbrev dktL_law_9 : List UInt8 := dkwL_law_9 ++ dktL_law_10
def dkwL_law_8 : List UInt8 := [159, 5, 52, 3, 172, 43, 42, 21, 4, 4, 96, 46, 42, 21, 4, 5, 96, 46, 182, 0, 37, 44, 42]
abbrev dktL_law_8 : List UInt8 := dkwL_law_8 ++ dktL_law_9
def dkwL_law_7 : List UInt8 := [3, 172, 43, 182, 0, 28, 44, 182, 0, 32, 159, 5, 65, 3, 172, 43, 182, 0, 33, 44, 182, 0, 36]
abbrev dktL_law_7 : List UInt8 := dkwL_law_7 ++ dktL_law_8
def dkwL_law_6 : List UInt8 := [172, 43, 42, 21, 4, 4, 96, 46, 182, 0, 24, 44, 42, 21, 4, 4, 96, 46, 182, 0, 27, 159, 5, 78]
abbrev dktL_law_6 : List UInt8 := dkwL_law_6 ++ dktL_law_7
def dkwL_law_5 : List UInt8 := [21, 4, 6, 96, 46, 42, 21, 4, 7, 96, 46, 42, 21, 4, 8, 96, 46, 182, 0, 23, 159, 5, 103, 3]
abbrev dktL_law_5 : List UInt8 := dkwL_law_5 ++ dktL_law_6
def dkwL_law_4 : List UInt8 := [46, 42, 21, 4, 8, 96, 46, 182, 0, 19, 44, 42, 21, 4, 4, 96, 46, 42, 21, 4, 5, 96, 46, 42]
abbrev dktL_law_4 : List UInt8 := dkwL_law_4 ++ dktL_law_5
def dkwL_law_3 : List UInt8 := [43, 42, 21, 4, 4, 96, 46, 42, 21, 4, 5, 96, 46, 42, 21, 4, 6, 96, 46, 42, 21, 4, 7, 96]
abbrev dktL_law_3 : List UInt8 := dkwL_law_3 ++ dktL_law_4
def dkwL_law_2 : List UInt8 := [170, 0, 0, 0, 0, 0, 6, 139, 0, 0, 0, 0, 0, 0, 0, 51, 0, 0, 0, 224, 0, 0, 1, 41, 0, 0, 1, 66, 0, 0, 1, 79, 0, 0, 1, 92, 0, 0, 1, 129, 0, 0, 1, 166, 0, 0, 1, 191, 0, 0, 1, 204, 0, 0, 1, 229, 0, 0, 2, 10, 0, 0, 2, 35, 0, 0, 2, 60, 0, 0, 2, 85, 0, 0, 2, 110, 0, 0, 2, 135, 0, 0, 2, 160, 0, 0, 2, 185, 0, 0, 2, 210, 0, 0, 2, 235, 0, 0, 3, 44, 0, 0, 3, 85, 0, 0, 3, 98, 0, 0, 3, 123, 0, 0, 3, 148, 0, 0, 3, 173, 0, 0, 3, 186, 0, 0, 3, 199, 0, 0, 3, 224, 0, 0, 4, 5, 0, 0, 4, 42, 0, 0, 4, 67, 0, 0, 4, 120, 0, 0, 4, 145, 0, 0, 4, 158, 0, 0, 4, 195, 0, 0, 4, 220, 0, 0, 4, 233, 0, 0, 5, 14, 0, 0, 5, 27, 0, 0, 5, 52, 0, 0, 5, 89, 0, 0, 5, 126, 0, 0, 5, 151, 0, 0, 5, 176, 0, 0, 5, 189, 0, 0, 5, 202, 0, 0, 5, 227, 0, 0, 6, 8, 0, 0, 6, 45, 0, 0, 6, 101, 0, 0, 6, 126]
abbrev dktL_law_2 : List UInt8 := dkwL_law_2 ++ dktL_law_3
def dkwL_law_1 : List UInt8 := [21, 4, 42, 190, 16, 6, 100, 163, 6, 155, 42, 21, 4, 46, 16, 63, 126]
abbrev dktL_law_1 : List UInt8 := dkwL_law_1 ++ dktL_law_2
def dkwL_law_0 : List UInt8 := [187, 0, 8, 89, 183, 0, 15, 76, 187, 0, 16, 89, 183, 0, 18, 77, 4, 188, 11, 78, 3, 54, 4]
abbrev dktL_law_0 : List UInt8 := dkwL_law_0 ++ dktL_law_1
theorem dksL_law_0 : cL_law.data.toList.drop 0 = dktL_law_0 := by decide +kernel
theorem dksL_law_1 : cL_law.data.toList.drop 23 = dktL_law_1 := dk_seg dksL_law_0 23 rfl rfl
theorem dksL_law_2 : cL_law.data.toList.drop 40 = dktL_law_2 := dk_seg dksL_law_1 17 rfl rfl
theorem dksL_law_3 : cL_law.data.toList.drop 264 = dktL_law_3 := dk_seg dksL_law_2 224 rfl rfl
theorem dksL_law_4 : cL_law.data.toList.drop 288 = dktL_law_4 := dk_seg dksL_law_3 24 rfl rfl
theorem dksL_law_5 : cL_law.data.toList.drop 312 = dktL_law_5 := dk_seg dksL_law_4 24 rfl rfl
theorem dksL_law_6 : cL_law.data.toList.drop 336 = dktL_law_6 := dk_seg dksL_law_5 24 rfl rfl
theorem dksL_law_7 : cL_law.data.toList.drop 360 = dktL_law_7 := dk_seg dksL_law_6 24 rfl rfl
theorem dksL_law_8 : cL_law.data.toList.drop 383 = dktL_law_8 := dk_seg dksL_law_7 23 rfl rfl
theorem dksL_law_9 : cL_law.data.toList.drop 406 = dktL_law_9 := dk_seg dksL_law_8 23 rfl rfl
theorem dksL_law_10 : cL_law.data.toList.drop 430 = dktL_law_10 := dk_seg dksL_law_9 24 rfl rfl
theorem dksL_law_11 : cL_law.data.toList.drop 454 = dktL_law_11 := dk_seg dksL_law_10 24 rfl rfl
theorem dksL_law_12 : cL_law.data.toList.drop 478 = dktL_law_12 := dk_seg dksL_law_11 24 rfl rfl
theorem dksL_law_13 : cL_law.data.toList.drop 502 = dktL_law_13 := dk_seg dksL_law_12 24 rfl rfl
theorem dksL_law_14 : cL_law.data.toList.drop 526 = dktL_law_14 := dk_seg dksL_law_13 24 rfl rfl
theorem dksL_law_15 : cL_law.data.toList.drop 549 = dktL_law_15 := dk_seg dksL_law_14 23 rfl rfl
theorem dksL_law_16 : cL_law.data.toList.drop 573 = dktL_law_16 := dk_seg dksL_law_15 24 rfl rfl
theorem dksL_law_17 : cL_law.data.toList.drop 597 = dktL_law_17 := dk_seg dksL_law_16 24 rfl rfl
theorem dksL_law_18 : cL_law.data.toList.drop 619 = dktL_law_18 := dk_seg dksL_law_17 22 rfl rfl
theorem dksL_law_19 : cL_law.data.toList.drop 643 = dktL_law_19 := dk_seg dksL_law_18 24 rfl rfl
theorem dksL_law_20 : cL_law.data.toList.drop 667 = dktL_law_20 := dk_seg dksL_law_19 24 rfl rfl
theorem dksL_law_21 : cL_law.data.toList.drop 691 = dktL_law_21 := dk_seg dksL_law_20 24 rfl rfl
theorem dksL_law_22 : cL_law.data.toList.drop 714 = dktL_law_22 := dk_seg dksL_law_21 23 rfl rfl
theorem dksL_law_23 : cL_law.data.toList.drop 738 = dktL_law_23 := dk_seg dksL_law_22 24 rfl rfl
theorem dksL_law_24 : cL_law.data.toList.drop 762 = dktL_law_24 := dk_seg dksL_law_23 24 rfl rfl
theorem dksL_law_25 : cL_law.data.toList.drop 786 = dktL_law_25 := dk_seg dksL_law_24 24 rfl rfl
theorem dksL_law_26 : cL_law.data.toList.drop 809 = dktL_law_26 := dk_seg dksL_law_25 23 rfl rfl
theorem dksL_law_27 : cL_law.data.toList.drop 833 = dktL_law_27 := dk_seg dksL_law_26 24 rfl rfl
theorem dksL_law_28 : cL_law.data.toList.drop 857 = dktL_law_28 := dk_seg dksL_law_27 24 rfl rfl
theorem dksL_law_29 : cL_law.data.toList.drop 881 = dktL_law_29 := dk_seg dksL_law_28 24 rfl rfl
theorem dksL_law_30 : cL_law.data.toList.drop 905 = dktL_law_30 := dk_seg dksL_law_29 24 rfl rfl
theorem dksL_law_31 : cL_law.data.toList.drop 929 = dktL_law_31 := dk_seg dksL_law_30 24 rfl rfl
theorem dksL_law_32 : cL_law.data.toList.drop 951 = dktL_law_32 := dk_seg dksL_law_31 22 rfl rfl
theorem dksL_law_33 : cL_law.data.toList.drop 973 = dktL_law_33 := dk_seg dksL_law_32 22 rfl rfl
theorem dksL_law_34 : cL_law.data.toList.drop 995 = dktL_law_34 := dk_seg dksL_law_33 22 rfl rfl
theorem dksL_law_35 : cL_law.data.toList.drop 1019 = dktL_law_35 := dk_seg dksL_law_34 24 rfl rfl
theorem dksL_law_36 : cL_law.data.toList.drop 1043 = dktL_law_36 := dk_seg dksL_law_35 24 rfl rfl
theorem dksL_law_37 : cL_law.data.toList.drop 1067 = dktL_law_37 := dk_seg dksL_law_36 24 rfl rfl
theorem dksL_law_38 : cL_law.data.toList.drop 1091 = dktL_law_38 := dk_seg dksL_law_37 24 rfl rfl
theorem dksL_law_39 : cL_law.data.toList.drop 1113 = dktL_law_39 := dk_seg dksL_law_38 22 rfl rfl
theorem dksL_law_40 : cL_law.data.toList.drop 1137 = dktL_law_40 := dk_seg dksL_law_39 24 rfl rfl
theorem dksL_law_41 : cL_law.data.toList.drop 1161 = dktL_law_41 := dk_seg dksL_law_40 24 rfl rfl
theorem dksL_law_42 : cL_law.data.toList.drop 1185 = dktL_law_42 := dk_seg dksL_law_41 24 rfl rfl
theorem dksL_law_43 : cL_law.data.toList.drop 1209 = dktL_law_43 := dk_seg dksL_law_42 24 rfl rfl
theorem dksL_law_44 : cL_law.data.toList.drop 1233 = dktL_law_44 := dk_seg dksL_law_43 24 rfl rfl
theorem dksL_law_45 : cL_law.data.toList.drop 1257 = dktL_law_45 := dk_seg dksL_law_44 24 rfl rfl
theorem dksL_law_46 : cL_law.data.toList.drop 1279 = dktL_law_46 := dk_seg dksL_law_45 22 rfl rfl
theorem dksL_law_47 : cL_law.data.toList.drop 1303 = dktL_law_47 := dk_seg dksL_law_46 24 rfl rfl
theorem dksL_law_48 : cL_law.data.toList.drop 1326 = dktL_law_48 := dk_seg dksL_law_47 23 rfl rfl
theorem dksL_law_49 : cL_law.data.toList.drop 1349 = dktL_law_49 := dk_seg dksL_law_48 23 rfl rfl
theorem dksL_law_50 : cL_law.data.toList.drop 1373 = dktL_law_50 := dk_seg dksL_law_49 24 rfl rfl
theorem dksL_law_51 : cL_law.data.toList.drop 1396 = dktL_law_51 := dk_seg dksL_law_50 23 rfl rfl
theorem dksL_law_52 : cL_law.data.toList.drop 1420 = dktL_law_52 := dk_seg dksL_law_51 24 rfl rfl
theorem dksL_law_53 : cL_law.data.toList.drop 1444 = dktL_law_53 := dk_seg dksL_law_52 24 rfl rfl
theorem dksL_law_54 : cL_law.data.toList.drop 1466 = dktL_law_54 := dk_seg dksL_law_53 22 rfl rfl
theorem dksL_law_55 : cL_law.data.toList.drop 1488 = dktL_law_55 := dk_seg dksL_law_54 22 rfl rfl
theorem dksL_law_56 : cL_law.data.toList.drop 1510 = dktL_law_56 := dk_seg dksL_law_55 22 rfl rfl
theorem dksL_law_57 : cL_law.data.toList.drop 1534 = dktL_law_57 := dk_seg dksL_law_56 24 rfl rfl
theorem dksL_law_58 : cL_law.data.toList.drop 1558 = dktL_law_58 := dk_seg dksL_law_57 24 rfl rfl
theorem dksL_law_59 : cL_law.data.toList.drop 1582 = dktL_law_59 := dk_seg dksL_law_58 24 rfl rfl
theorem dksL_law_60 : cL_law.data.toList.drop 1606 = dktL_law_60 := dk_seg dksL_law_59 24 rfl rfl
theorem dksL_law_61 : cL_law.data.toList.drop 1629 = dktL_law_61 := dk_seg dksL_law_60 23 rfl rfl
theorem dksL_law_62 : cL_law.data.toList.drop 1652 = dktL_law_62 := dk_seg dksL_law_61 23 rfl rfl
theorem dksL_law_63 : cL_law.data.toList.drop 1674 = dktL_law_63 := dk_seg dksL_law_62 22 rfl rfl
theorem dksL_law_64 : cL_law.data.toList.drop 1697 = dktL_law_64 := dk_seg dksL_law_63 23 rfl rfl
theorem dksL_law_65 : cL_law.data.toList.drop 1721 = dktL_law_65 := dk_seg dksL_law_64 24 rfl rfl
theorem dL_law_0 : decode cL_law 0 = .ok (.new 8, 3) := dk_187 0 8 (dk_at dksL_law_0 0 rfl rfl)
theorem dL_law_3 : decode cL_law 3 = .ok (.dup, 1) := dk_89 (dk_at dksL_law_0 3 rfl rfl)
theorem dL_law_4 : decode cL_law 4 = .ok (.invokespecial 15, 3) := dk_183 0 15 (dk_at dksL_law_0 4 rfl rfl)
theorem dL_law_7 : decode cL_law 7 = .ok (.astore_n 1, 1) := dk_76 (dk_at dksL_law_0 7 rfl rfl)
theorem dL_law_8 : decode cL_law 8 = .ok (.new 16, 3) := dk_187 0 16 (dk_at dksL_law_0 8 rfl rfl)
theorem dL_law_11 : decode cL_law 11 = .ok (.dup, 1) := dk_89 (dk_at dksL_law_0 11 rfl rfl)
theorem dL_law_12 : decode cL_law 12 = .ok (.invokespecial 18, 3) := dk_183 0 18 (dk_at dksL_law_0 12 rfl rfl)
theorem dL_law_15 : decode cL_law 15 = .ok (.astore_n 2, 1) := dk_77 (dk_at dksL_law_0 15 rfl rfl)
theorem dL_law_16 : decode cL_law 16 = .ok (.iconst 1, 1) := dk_4 (dk_at dksL_law_0 16 rfl rfl)
theorem dL_law_17 : decode cL_law 17 = .ok (.newarray .long, 2) := dk_188_11 (dk_at dksL_law_0 17 rfl rfl)
theorem dL_law_19 : decode cL_law 19 = .ok (.astore_n 3, 1) := dk_78 (dk_at dksL_law_0 19 rfl rfl)
theorem dL_law_20 : decode cL_law 20 = .ok (.iconst 0, 1) := dk_3 (dk_at dksL_law_0 20 rfl rfl)
theorem dL_law_21 : decode cL_law 21 = .ok (.istore 4, 2) := dk_54 4 (dk_at dksL_law_0 21 rfl rfl)
theorem dL_law_23 : decode cL_law 23 = .ok (.iload 4, 2) := dk_21 4 (dk_at dksL_law_1 0 rfl rfl)
theorem dL_law_25 : decode cL_law 25 = .ok (.aload_n 0, 1) := dk_42 (dk_at dksL_law_1 2 rfl rfl)
theorem dL_law_26 : decode cL_law 26 = .ok (.arraylength, 1) := dk_190 (dk_at dksL_law_1 3 rfl rfl)
theorem dL_law_27 : decode cL_law 27 = .ok (.bipush 6, 2) := dk_16 6 (dk_at dksL_law_1 4 rfl rfl)
theorem dL_law_29 : decode cL_law 29 = .ok (.isub, 1) := dk_100 (dk_at dksL_law_1 6 rfl rfl)
theorem dL_law_30 : decode cL_law 30 = .ok (.if_icmp .gt 1691, 3) := dk_163 6 155 (dk_at dksL_law_1 7 rfl rfl)
theorem dL_law_33 : decode cL_law 33 = .ok (.aload_n 0, 1) := dk_42 (dk_at dksL_law_1 10 rfl rfl)
theorem dL_law_34 : decode cL_law 34 = .ok (.iload 4, 2) := dk_21 4 (dk_at dksL_law_1 11 rfl rfl)
theorem dL_law_36 : decode cL_law 36 = .ok (.iaload, 1) := dk_46 (dk_at dksL_law_1 13 rfl rfl)
theorem dL_law_37 : decode cL_law 37 = .ok (.bipush 63, 2) := dk_16 63 (dk_at dksL_law_1 14 rfl rfl)
theorem dL_law_39 : decode cL_law 39 = .ok (.iand, 1) := dk_126 (dk_at dksL_law_1 16 rfl rfl)
theorem dL_law_40 : decode cL_law 40 = .ok (.tableswitch 1675 0 51 #[224, 297, 322, 335, 348, 385, 422, 447, 460, 485, 522, 547, 572, 597, 622, 647, 672, 697, 722, 747, 812, 853, 866, 891, 916, 941, 954, 967, 992, 1029, 1066, 1091, 1144, 1169, 1182, 1219, 1244, 1257, 1294, 1307, 1332, 1369, 1406, 1431, 1456, 1469, 1482, 1507, 1544, 1581, 1637, 1662], 224) := by decide +kernel
theorem dL_law_264 : decode cL_law 264 = .ok (.aload_n 1, 1) := dk_43 (dk_at dksL_law_3 0 rfl rfl)
theorem dL_law_265 : decode cL_law 265 = .ok (.aload_n 0, 1) := dk_42 (dk_at dksL_law_3 1 rfl rfl)
theorem dL_law_266 : decode cL_law 266 = .ok (.iload 4, 2) := dk_21 4 (dk_at dksL_law_3 2 rfl rfl)
theorem dL_law_268 : decode cL_law 268 = .ok (.iconst 1, 1) := dk_4 (dk_at dksL_law_3 4 rfl rfl)
theorem dL_law_269 : decode cL_law 269 = .ok (.iadd, 1) := dk_96 (dk_at dksL_law_3 5 rfl rfl)
theorem dL_law_270 : decode cL_law 270 = .ok (.iaload, 1) := dk_46 (dk_at dksL_law_3 6 rfl rfl)
theorem dL_law_271 : decode cL_law 271 = .ok (.aload_n 0, 1) := dk_42 (dk_at dksL_law_3 7 rfl rfl)
theorem dL_law_272 : decode cL_law 272 = .ok (.iload 4, 2) := dk_21 4 (dk_at dksL_law_3 8 rfl rfl)
theorem dL_law_274 : decode cL_law 274 = .ok (.iconst 2, 1) := dk_5 (dk_at dksL_law_3 10 rfl rfl)
theorem dL_law_275 : decode cL_law 275 = .ok (.iadd, 1) := dk_96 (dk_at dksL_law_3 11 rfl rfl)
theorem dL_law_276 : decode cL_law 276 = .ok (.iaload, 1) := dk_46 (dk_at dksL_law_3 12 rfl rfl)
theorem dL_law_277 : decode cL_law 277 = .ok (.aload_n 0, 1) := dk_42 (dk_at dksL_law_3 13 rfl rfl)
theorem dL_law_278 : decode cL_law 278 = .ok (.iload 4, 2) := dk_21 4 (dk_at dksL_law_3 14 rfl rfl)
theorem dL_law_280 : decode cL_law 280 = .ok (.iconst 3, 1) := dk_6 (dk_at dksL_law_3 16 rfl rfl)
theorem dL_law_281 : decode cL_law 281 = .ok (.iadd, 1) := dk_96 (dk_at dksL_law_3 17 rfl rfl)
theorem dL_law_282 : decode cL_law 282 = .ok (.iaload, 1) := dk_46 (dk_at dksL_law_3 18 rfl rfl)
theorem dL_law_283 : decode cL_law 283 = .ok (.aload_n 0, 1) := dk_42 (dk_at dksL_law_3 19 rfl rfl)
theorem dL_law_284 : decode cL_law 284 = .ok (.iload 4, 2) := dk_21 4 (dk_at dksL_law_3 20 rfl rfl)
theorem dL_law_286 : decode cL_law 286 = .ok (.iconst 4, 1) := dk_7 (dk_at dksL_law_3 22 rfl rfl)
theorem dL_law_287 : decode cL_law 287 = .ok (.iadd, 1) := dk_96 (dk_at dksL_law_3 23 rfl rfl)
theorem dL_law_288 : decode cL_law 288 = .ok (.iaload, 1) := dk_46 (dk_at dksL_law_4 0 rfl rfl)
theorem dL_law_289 : decode cL_law 289 = .ok (.aload_n 0, 1) := dk_42 (dk_at dksL_law_4 1 rfl rfl)
theorem dL_law_290 : decode cL_law 290 = .ok (.iload 4, 2) := dk_21 4 (dk_at dksL_law_4 2 rfl rfl)
theorem dL_law_292 : decode cL_law 292 = .ok (.iconst 5, 1) := dk_8 (dk_at dksL_law_4 4 rfl rfl)
theorem dL_law_293 : decode cL_law 293 = .ok (.iadd, 1) := dk_96 (dk_at dksL_law_4 5 rfl rfl)
theorem dL_law_294 : decode cL_law 294 = .ok (.iaload, 1) := dk_46 (dk_at dksL_law_4 6 rfl rfl)
theorem dL_law_295 : decode cL_law 295 = .ok (.invokevirtual 19, 3) := dk_182 0 19 (dk_at dksL_law_4 7 rfl rfl)
theorem dL_law_298 : decode cL_law 298 = .ok (.aload_n 2, 1) := dk_44 (dk_at dksL_law_4 10 rfl rfl)
theorem dL_law_299 : decode cL_law 299 = .ok (.aload_n 0, 1) := dk_42 (dk_at dksL_law_4 11 rfl rfl)
theorem dL_law_300 : decode cL_law 300 = .ok (.iload 4, 2) := dk_21 4 (dk_at dksL_law_4 12 rfl rfl)
theorem dL_law_302 : decode cL_law 302 = .ok (.iconst 1, 1) := dk_4 (dk_at dksL_law_4 14 rfl rfl)
theorem dL_law_303 : decode cL_law 303 = .ok (.iadd, 1) := dk_96 (dk_at dksL_law_4 15 rfl rfl)
theorem dL_law_304 : decode cL_law 304 = .ok (.iaload, 1) := dk_46 (dk_at dksL_law_4 16 rfl rfl)
theorem dL_law_305 : decode cL_law 305 = .ok (.aload_n 0, 1) := dk_42 (dk_at dksL_law_4 17 rfl rfl)
theorem dL_law_306 : decode cL_law 306 = .ok (.iload 4, 2) := dk_21 4 (dk_at dksL_law_4 18 rfl rfl)
theorem dL_law_308 : decode cL_law 308 = .ok (.iconst 2, 1) := dk_5 (dk_at dksL_law_4 20 rfl rfl)
theorem dL_law_309 : decode cL_law 309 = .ok (.iadd, 1) := dk_96 (dk_at dksL_law_4 21 rfl rfl)
theorem dL_law_310 : decode cL_law 310 = .ok (.iaload, 1) := dk_46 (dk_at dksL_law_4 22 rfl rfl)
theorem dL_law_311 : decode cL_law 311 = .ok (.aload_n 0, 1) := dk_42 (dk_at dksL_law_4 23 rfl rfl)
theorem dL_law_312 : decode cL_law 312 = .ok (.iload 4, 2) := dk_21 4 (dk_at dksL_law_5 0 rfl rfl)
theorem dL_law_314 : decode cL_law 314 = .ok (.iconst 3, 1) := dk_6 (dk_at dksL_law_5 2 rfl rfl)
theorem dL_law_315 : decode cL_law 315 = .ok (.iadd, 1) := dk_96 (dk_at dksL_law_5 3 rfl rfl)
theorem dL_law_316 : decode cL_law 316 = .ok (.iaload, 1) := dk_46 (dk_at dksL_law_5 4 rfl rfl)
theorem dL_law_317 : decode cL_law 317 = .ok (.aload_n 0, 1) := dk_42 (dk_at dksL_law_5 5 rfl rfl)
theorem dL_law_318 : decode cL_law 318 = .ok (.iload 4, 2) := dk_21 4 (dk_at dksL_law_5 6 rfl rfl)
theorem dL_law_320 : decode cL_law 320 = .ok (.iconst 4, 1) := dk_7 (dk_at dksL_law_5 8 rfl rfl)
theorem dL_law_321 : decode cL_law 321 = .ok (.iadd, 1) := dk_96 (dk_at dksL_law_5 9 rfl rfl)
theorem dL_law_322 : decode cL_law 322 = .ok (.iaload, 1) := dk_46 (dk_at dksL_law_5 10 rfl rfl)
theorem dL_law_323 : decode cL_law 323 = .ok (.aload_n 0, 1) := dk_42 (dk_at dksL_law_5 11 rfl rfl)
theorem dL_law_324 : decode cL_law 324 = .ok (.iload 4, 2) := dk_21 4 (dk_at dksL_law_5 12 rfl rfl)
theorem dL_law_326 : decode cL_law 326 = .ok (.iconst 5, 1) := dk_8 (dk_at dksL_law_5 14 rfl rfl)
theorem dL_law_327 : decode cL_law 327 = .ok (.iadd, 1) := dk_96 (dk_at dksL_law_5 15 rfl rfl)
theorem dL_law_328 : decode cL_law 328 = .ok (.iaload, 1) := dk_46 (dk_at dksL_law_5 16 rfl rfl)
theorem dL_law_329 : decode cL_law 329 = .ok (.invokevirtual 23, 3) := dk_182 0 23 (dk_at dksL_law_5 17 rfl rfl)
theorem dL_law_332 : decode cL_law 332 = .ok (.if_icmp .eq 1383, 3) := dk_159 5 103 (dk_at dksL_law_5 20 rfl rfl)
theorem dL_law_335 : decode cL_law 335 = .ok (.iconst 0, 1) := dk_3 (dk_at dksL_law_5 23 rfl rfl)
theorem dL_law_336 : decode cL_law 336 = .ok (.ireturn, 1) := dk_172 (dk_at dksL_law_6 0 rfl rfl)
theorem dL_law_337 : decode cL_law 337 = .ok (.aload_n 1, 1) := dk_43 (dk_at dksL_law_6 1 rfl rfl)
theorem dL_law_338 : decode cL_law 338 = .ok (.aload_n 0, 1) := dk_42 (dk_at dksL_law_6 2 rfl rfl)
theorem dL_law_339 : decode cL_law 339 = .ok (.iload 4, 2) := dk_21 4 (dk_at dksL_law_6 3 rfl rfl)
theorem dL_law_341 : decode cL_law 341 = .ok (.iconst 1, 1) := dk_4 (dk_at dksL_law_6 5 rfl rfl)
theorem dL_law_342 : decode cL_law 342 = .ok (.iadd, 1) := dk_96 (dk_at dksL_law_6 6 rfl rfl)
theorem dL_law_343 : decode cL_law 343 = .ok (.iaload, 1) := dk_46 (dk_at dksL_law_6 7 rfl rfl)
theorem dL_law_344 : decode cL_law 344 = .ok (.invokevirtual 24, 3) := dk_182 0 24 (dk_at dksL_law_6 8 rfl rfl)
theorem dL_law_347 : decode cL_law 347 = .ok (.aload_n 2, 1) := dk_44 (dk_at dksL_law_6 11 rfl rfl)
theorem dL_law_348 : decode cL_law 348 = .ok (.aload_n 0, 1) := dk_42 (dk_at dksL_law_6 12 rfl rfl)
theorem dL_law_349 : decode cL_law 349 = .ok (.iload 4, 2) := dk_21 4 (dk_at dksL_law_6 13 rfl rfl)
theorem dL_law_351 : decode cL_law 351 = .ok (.iconst 1, 1) := dk_4 (dk_at dksL_law_6 15 rfl rfl)
theorem dL_law_352 : decode cL_law 352 = .ok (.iadd, 1) := dk_96 (dk_at dksL_law_6 16 rfl rfl)
theorem dL_law_353 : decode cL_law 353 = .ok (.iaload, 1) := dk_46 (dk_at dksL_law_6 17 rfl rfl)
theorem dL_law_354 : decode cL_law 354 = .ok (.invokevirtual 27, 3) := dk_182 0 27 (dk_at dksL_law_6 18 rfl rfl)
theorem dL_law_357 : decode cL_law 357 = .ok (.if_icmp .eq 1358, 3) := dk_159 5 78 (dk_at dksL_law_6 21 rfl rfl)
theorem dL_law_360 : decode cL_law 360 = .ok (.iconst 0, 1) := dk_3 (dk_at dksL_law_7 0 rfl rfl)
theorem dL_law_361 : decode cL_law 361 = .ok (.ireturn, 1) := dk_172 (dk_at dksL_law_7 1 rfl rfl)
theorem dL_law_362 : decode cL_law 362 = .ok (.aload_n 1, 1) := dk_43 (dk_at dksL_law_7 2 rfl rfl)
theorem dL_law_363 : decode cL_law 363 = .ok (.invokevirtual 28, 3) := dk_182 0 28 (dk_at dksL_law_7 3 rfl rfl)
theorem dL_law_366 : decode cL_law 366 = .ok (.aload_n 2, 1) := dk_44 (dk_at dksL_law_7 6 rfl rfl)
theorem dL_law_367 : decode cL_law 367 = .ok (.invokevirtual 32, 3) := dk_182 0 32 (dk_at dksL_law_7 7 rfl rfl)
theorem dL_law_370 : decode cL_law 370 = .ok (.if_icmp .eq 1345, 3) := dk_159 5 65 (dk_at dksL_law_7 10 rfl rfl)
theorem dL_law_373 : decode cL_law 373 = .ok (.iconst 0, 1) := dk_3 (dk_at dksL_law_7 13 rfl rfl)
theorem dL_law_374 : decode cL_law 374 = .ok (.ireturn, 1) := dk_172 (dk_at dksL_law_7 14 rfl rfl)
theorem dL_law_375 : decode cL_law 375 = .ok (.aload_n 1, 1) := dk_43 (dk_at dksL_law_7 15 rfl rfl)
theorem dL_law_376 : decode cL_law 376 = .ok (.invokevirtual 33, 3) := dk_182 0 33 (dk_at dksL_law_7 16 rfl rfl)
theorem dL_law_379 : decode cL_law 379 = .ok (.aload_n 2, 1) := dk_44 (dk_at dksL_law_7 19 rfl rfl)
theorem dL_law_380 : decode cL_law 380 = .ok (.invokevirtual 36, 3) := dk_182 0 36 (dk_at dksL_law_7 20 rfl rfl)
theorem dL_law_383 : decode cL_law 383 = .ok (.if_icmp .eq 1332, 3) := dk_159 5 52 (dk_at dksL_law_8 0 rfl rfl)
theorem dL_law_386 : decode cL_law 386 = .ok (.iconst 0, 1) := dk_3 (dk_at dksL_law_8 3 rfl rfl)
theorem dL_law_387 : decode cL_law 387 = .ok (.ireturn, 1) := dk_172 (dk_at dksL_law_8 4 rfl rfl)
theorem dL_law_388 : decode cL_law 388 = .ok (.aload_n 1, 1) := dk_43 (dk_at dksL_law_8 5 rfl rfl)
theorem dL_law_389 : decode cL_law 389 = .ok (.aload_n 0, 1) := dk_42 (dk_at dksL_law_8 6 rfl rfl)
theorem dL_law_390 : decode cL_law 390 = .ok (.iload 4, 2) := dk_21 4 (dk_at dksL_law_8 7 rfl rfl)
theorem dL_law_392 : decode cL_law 392 = .ok (.iconst 1, 1) := dk_4 (dk_at dksL_law_8 9 rfl rfl)
theorem dL_law_393 : decode cL_law 393 = .ok (.iadd, 1) := dk_96 (dk_at dksL_law_8 10 rfl rfl)
theorem dL_law_394 : decode cL_law 394 = .ok (.iaload, 1) := dk_46 (dk_at dksL_law_8 11 rfl rfl)
theorem dL_law_395 : decode cL_law 395 = .ok (.aload_n 0, 1) := dk_42 (dk_at dksL_law_8 12 rfl rfl)
theorem dL_law_396 : decode cL_law 396 = .ok (.iload 4, 2) := dk_21 4 (dk_at dksL_law_8 13 rfl rfl)
theorem dL_law_398 : decode cL_law 398 = .ok (.iconst 2, 1) := dk_5 (dk_at dksL_law_8 15 rfl rfl)
theorem dL_law_399 : decode cL_law 399 = .ok (.iadd, 1) := dk_96 (dk_at dksL_law_8 16 rfl rfl)
theorem dL_law_400 : decode cL_law 400 = .ok (.iaload, 1) := dk_46 (dk_at dksL_law_8 17 rfl rfl)
theorem dL_law_401 : decode cL_law 401 = .ok (.invokevirtual 37, 3) := dk_182 0 37 (dk_at dksL_law_8 18 rfl rfl)
theorem dL_law_404 : decode cL_law 404 = .ok (.aload_n 2, 1) := dk_44 (dk_at dksL_law_8 21 rfl rfl)
theorem dL_law_405 : decode cL_law 405 = .ok (.aload_n 0, 1) := dk_42 (dk_at dksL_law_8 22 rfl rfl)
theorem dL_law_406 : decode cL_law 406 = .ok (.iload 4, 2) := dk_21 4 (dk_at dksL_law_9 0 rfl rfl)
theorem dL_law_408 : decode cL_law 408 = .ok (.iconst 1, 1) := dk_4 (dk_at dksL_law_9 2 rfl rfl)
theorem dL_law_409 : decode cL_law 409 = .ok (.iadd, 1) := dk_96 (dk_at dksL_law_9 3 rfl rfl)
theorem dL_law_410 : decode cL_law 410 = .ok (.iaload, 1) := dk_46 (dk_at dksL_law_9 4 rfl rfl)
theorem dL_law_411 : decode cL_law 411 = .ok (.aload_n 0, 1) := dk_42 (dk_at dksL_law_9 5 rfl rfl)
theorem dL_law_412 : decode cL_law 412 = .ok (.iload 4, 2) := dk_21 4 (dk_at dksL_law_9 6 rfl rfl)
theorem dL_law_414 : decode cL_law 414 = .ok (.iconst 2, 1) := dk_5 (dk_at dksL_law_9 8 rfl rfl)
theorem dL_law_415 : decode cL_law 415 = .ok (.iadd, 1) := dk_96 (dk_at dksL_law_9 9 rfl rfl)
theorem dL_law_416 : decode cL_law 416 = .ok (.iaload, 1) := dk_46 (dk_at dksL_law_9 10 rfl rfl)
theorem dL_law_417 : decode cL_law 417 = .ok (.invokevirtual 41, 3) := dk_182 0 41 (dk_at dksL_law_9 11 rfl rfl)
theorem dL_law_420 : decode cL_law 420 = .ok (.if_icmp .eq 1295, 3) := dk_159 5 15 (dk_at dksL_law_9 14 rfl rfl)
theorem dL_law_423 : decode cL_law 423 = .ok (.iconst 0, 1) := dk_3 (dk_at dksL_law_9 17 rfl rfl)
theorem dL_law_424 : decode cL_law 424 = .ok (.ireturn, 1) := dk_172 (dk_at dksL_law_9 18 rfl rfl)
theorem dL_law_425 : decode cL_law 425 = .ok (.aload_n 1, 1) := dk_43 (dk_at dksL_law_9 19 rfl rfl)
theorem dL_law_426 : decode cL_law 426 = .ok (.aload_n 0, 1) := dk_42 (dk_at dksL_law_9 20 rfl rfl)
theorem dL_law_427 : decode cL_law 427 = .ok (.iload 4, 2) := dk_21 4 (dk_at dksL_law_9 21 rfl rfl)
theorem dL_law_429 : decode cL_law 429 = .ok (.iconst 1, 1) := dk_4 (dk_at dksL_law_9 23 rfl rfl)
theorem dL_law_430 : decode cL_law 430 = .ok (.iadd, 1) := dk_96 (dk_at dksL_law_10 0 rfl rfl)
theorem dL_law_431 : decode cL_law 431 = .ok (.iaload, 1) := dk_46 (dk_at dksL_law_10 1 rfl rfl)
theorem dL_law_432 : decode cL_law 432 = .ok (.aload_n 0, 1) := dk_42 (dk_at dksL_law_10 2 rfl rfl)
theorem dL_law_433 : decode cL_law 433 = .ok (.iload 4, 2) := dk_21 4 (dk_at dksL_law_10 3 rfl rfl)
theorem dL_law_435 : decode cL_law 435 = .ok (.iconst 2, 1) := dk_5 (dk_at dksL_law_10 5 rfl rfl)
theorem dL_law_436 : decode cL_law 436 = .ok (.iadd, 1) := dk_96 (dk_at dksL_law_10 6 rfl rfl)
theorem dL_law_437 : decode cL_law 437 = .ok (.iaload, 1) := dk_46 (dk_at dksL_law_10 7 rfl rfl)
theorem dL_law_438 : decode cL_law 438 = .ok (.invokevirtual 42, 3) := dk_182 0 42 (dk_at dksL_law_10 8 rfl rfl)
theorem dL_law_441 : decode cL_law 441 = .ok (.aload_n 2, 1) := dk_44 (dk_at dksL_law_10 11 rfl rfl)
theorem dL_law_442 : decode cL_law 442 = .ok (.aload_n 0, 1) := dk_42 (dk_at dksL_law_10 12 rfl rfl)
theorem dL_law_443 : decode cL_law 443 = .ok (.iload 4, 2) := dk_21 4 (dk_at dksL_law_10 13 rfl rfl)
theorem dL_law_445 : decode cL_law 445 = .ok (.iconst 1, 1) := dk_4 (dk_at dksL_law_10 15 rfl rfl)
theorem dL_law_446 : decode cL_law 446 = .ok (.iadd, 1) := dk_96 (dk_at dksL_law_10 16 rfl rfl)
theorem dL_law_447 : decode cL_law 447 = .ok (.iaload, 1) := dk_46 (dk_at dksL_law_10 17 rfl rfl)
theorem dL_law_448 : decode cL_law 448 = .ok (.aload_n 0, 1) := dk_42 (dk_at dksL_law_10 18 rfl rfl)
theorem dL_law_449 : decode cL_law 449 = .ok (.iload 4, 2) := dk_21 4 (dk_at dksL_law_10 19 rfl rfl)
theorem dL_law_451 : decode cL_law 451 = .ok (.iconst 2, 1) := dk_5 (dk_at dksL_law_10 21 rfl rfl)
theorem dL_law_452 : decode cL_law 452 = .ok (.iadd, 1) := dk_96 (dk_at dksL_law_10 22 rfl rfl)
theorem dL_law_453 : decode cL_law 453 = .ok (.iaload, 1) := dk_46 (dk_at dksL_law_10 23 rfl rfl)
theorem dL_law_454 : decode cL_law 454 = .ok (.invokevirtual 45, 3) := dk_182 0 45 (dk_at dksL_law_11 0 rfl rfl)
theorem dL_law_457 : decode cL_law 457 = .ok (.if_icmp .eq 1258, 3) := dk_159 4 234 (dk_at dksL_law_11 3 rfl rfl)
theorem dL_law_460 : decode cL_law 460 = .ok (.iconst 0, 1) := dk_3 (dk_at dksL_law_11 6 rfl rfl)
theorem dL_law_461 : decode cL_law 461 = .ok (.ireturn, 1) := dk_172 (dk_at dksL_law_11 7 rfl rfl)
theorem dL_law_462 : decode cL_law 462 = .ok (.aload_n 1, 1) := dk_43 (dk_at dksL_law_11 8 rfl rfl)
theorem dL_law_463 : decode cL_law 463 = .ok (.aload_n 0, 1) := dk_42 (dk_at dksL_law_11 9 rfl rfl)
theorem dL_law_464 : decode cL_law 464 = .ok (.iload 4, 2) := dk_21 4 (dk_at dksL_law_11 10 rfl rfl)
theorem dL_law_466 : decode cL_law 466 = .ok (.iconst 1, 1) := dk_4 (dk_at dksL_law_11 12 rfl rfl)
theorem dL_law_467 : decode cL_law 467 = .ok (.iadd, 1) := dk_96 (dk_at dksL_law_11 13 rfl rfl)
theorem dL_law_468 : decode cL_law 468 = .ok (.iaload, 1) := dk_46 (dk_at dksL_law_11 14 rfl rfl)
theorem dL_law_469 : decode cL_law 469 = .ok (.invokevirtual 46, 3) := dk_182 0 46 (dk_at dksL_law_11 15 rfl rfl)
theorem dL_law_472 : decode cL_law 472 = .ok (.aload_n 2, 1) := dk_44 (dk_at dksL_law_11 18 rfl rfl)
theorem dL_law_473 : decode cL_law 473 = .ok (.aload_n 0, 1) := dk_42 (dk_at dksL_law_11 19 rfl rfl)
theorem dL_law_474 : decode cL_law 474 = .ok (.iload 4, 2) := dk_21 4 (dk_at dksL_law_11 20 rfl rfl)
theorem dL_law_476 : decode cL_law 476 = .ok (.iconst 1, 1) := dk_4 (dk_at dksL_law_11 22 rfl rfl)
theorem dL_law_477 : decode cL_law 477 = .ok (.iadd, 1) := dk_96 (dk_at dksL_law_11 23 rfl rfl)
theorem dL_law_478 : decode cL_law 478 = .ok (.iaload, 1) := dk_46 (dk_at dksL_law_12 0 rfl rfl)
theorem dL_law_479 : decode cL_law 479 = .ok (.invokevirtual 49, 3) := dk_182 0 49 (dk_at dksL_law_12 1 rfl rfl)
theorem dL_law_482 : decode cL_law 482 = .ok (.if_icmp .eq 1233, 3) := dk_159 4 209 (dk_at dksL_law_12 4 rfl rfl)
theorem dL_law_485 : decode cL_law 485 = .ok (.iconst 0, 1) := dk_3 (dk_at dksL_law_12 7 rfl rfl)
theorem dL_law_486 : decode cL_law 486 = .ok (.ireturn, 1) := dk_172 (dk_at dksL_law_12 8 rfl rfl)
theorem dL_law_487 : decode cL_law 487 = .ok (.aload_n 1, 1) := dk_43 (dk_at dksL_law_12 9 rfl rfl)
theorem dL_law_488 : decode cL_law 488 = .ok (.invokevirtual 50, 3) := dk_182 0 50 (dk_at dksL_law_12 10 rfl rfl)
theorem dL_law_491 : decode cL_law 491 = .ok (.aload_n 2, 1) := dk_44 (dk_at dksL_law_12 13 rfl rfl)
theorem dL_law_492 : decode cL_law 492 = .ok (.invokevirtual 53, 3) := dk_182 0 53 (dk_at dksL_law_12 14 rfl rfl)
theorem dL_law_495 : decode cL_law 495 = .ok (.if_icmp .eq 1220, 3) := dk_159 4 196 (dk_at dksL_law_12 17 rfl rfl)
theorem dL_law_498 : decode cL_law 498 = .ok (.iconst 0, 1) := dk_3 (dk_at dksL_law_12 20 rfl rfl)
theorem dL_law_499 : decode cL_law 499 = .ok (.ireturn, 1) := dk_172 (dk_at dksL_law_12 21 rfl rfl)
theorem dL_law_500 : decode cL_law 500 = .ok (.aload_n 1, 1) := dk_43 (dk_at dksL_law_12 22 rfl rfl)
theorem dL_law_501 : decode cL_law 501 = .ok (.aload_n 0, 1) := dk_42 (dk_at dksL_law_12 23 rfl rfl)
theorem dL_law_502 : decode cL_law 502 = .ok (.iload 4, 2) := dk_21 4 (dk_at dksL_law_13 0 rfl rfl)
theorem dL_law_504 : decode cL_law 504 = .ok (.iconst 1, 1) := dk_4 (dk_at dksL_law_13 2 rfl rfl)
theorem dL_law_505 : decode cL_law 505 = .ok (.iadd, 1) := dk_96 (dk_at dksL_law_13 3 rfl rfl)
theorem dL_law_506 : decode cL_law 506 = .ok (.iaload, 1) := dk_46 (dk_at dksL_law_13 4 rfl rfl)
theorem dL_law_507 : decode cL_law 507 = .ok (.invokevirtual 54, 3) := dk_182 0 54 (dk_at dksL_law_13 5 rfl rfl)
theorem dL_law_510 : decode cL_law 510 = .ok (.aload_n 2, 1) := dk_44 (dk_at dksL_law_13 8 rfl rfl)
theorem dL_law_511 : decode cL_law 511 = .ok (.aload_n 0, 1) := dk_42 (dk_at dksL_law_13 9 rfl rfl)
theorem dL_law_512 : decode cL_law 512 = .ok (.iload 4, 2) := dk_21 4 (dk_at dksL_law_13 10 rfl rfl)
theorem dL_law_514 : decode cL_law 514 = .ok (.iconst 1, 1) := dk_4 (dk_at dksL_law_13 12 rfl rfl)
theorem dL_law_515 : decode cL_law 515 = .ok (.iadd, 1) := dk_96 (dk_at dksL_law_13 13 rfl rfl)
theorem dL_law_516 : decode cL_law 516 = .ok (.iaload, 1) := dk_46 (dk_at dksL_law_13 14 rfl rfl)
theorem dL_law_517 : decode cL_law 517 = .ok (.invokevirtual 57, 3) := dk_182 0 57 (dk_at dksL_law_13 15 rfl rfl)
theorem dL_law_520 : decode cL_law 520 = .ok (.if_icmp .eq 1195, 3) := dk_159 4 171 (dk_at dksL_law_13 18 rfl rfl)
theorem dL_law_523 : decode cL_law 523 = .ok (.iconst 0, 1) := dk_3 (dk_at dksL_law_13 21 rfl rfl)
theorem dL_law_524 : decode cL_law 524 = .ok (.ireturn, 1) := dk_172 (dk_at dksL_law_13 22 rfl rfl)
theorem dL_law_525 : decode cL_law 525 = .ok (.aload_n 1, 1) := dk_43 (dk_at dksL_law_13 23 rfl rfl)
theorem dL_law_526 : decode cL_law 526 = .ok (.aload_n 0, 1) := dk_42 (dk_at dksL_law_14 0 rfl rfl)
theorem dL_law_527 : decode cL_law 527 = .ok (.iload 4, 2) := dk_21 4 (dk_at dksL_law_14 1 rfl rfl)
theorem dL_law_529 : decode cL_law 529 = .ok (.iconst 1, 1) := dk_4 (dk_at dksL_law_14 3 rfl rfl)
theorem dL_law_530 : decode cL_law 530 = .ok (.iadd, 1) := dk_96 (dk_at dksL_law_14 4 rfl rfl)
theorem dL_law_531 : decode cL_law 531 = .ok (.iaload, 1) := dk_46 (dk_at dksL_law_14 5 rfl rfl)
theorem dL_law_532 : decode cL_law 532 = .ok (.aload_n 0, 1) := dk_42 (dk_at dksL_law_14 6 rfl rfl)
theorem dL_law_533 : decode cL_law 533 = .ok (.iload 4, 2) := dk_21 4 (dk_at dksL_law_14 7 rfl rfl)
theorem dL_law_535 : decode cL_law 535 = .ok (.iconst 2, 1) := dk_5 (dk_at dksL_law_14 9 rfl rfl)
theorem dL_law_536 : decode cL_law 536 = .ok (.iadd, 1) := dk_96 (dk_at dksL_law_14 10 rfl rfl)
theorem dL_law_537 : decode cL_law 537 = .ok (.iaload, 1) := dk_46 (dk_at dksL_law_14 11 rfl rfl)
theorem dL_law_538 : decode cL_law 538 = .ok (.invokevirtual 58, 3) := dk_182 0 58 (dk_at dksL_law_14 12 rfl rfl)
theorem dL_law_541 : decode cL_law 541 = .ok (.aload_n 2, 1) := dk_44 (dk_at dksL_law_14 15 rfl rfl)
theorem dL_law_542 : decode cL_law 542 = .ok (.aload_n 0, 1) := dk_42 (dk_at dksL_law_14 16 rfl rfl)
theorem dL_law_543 : decode cL_law 543 = .ok (.iload 4, 2) := dk_21 4 (dk_at dksL_law_14 17 rfl rfl)
theorem dL_law_545 : decode cL_law 545 = .ok (.iconst 1, 1) := dk_4 (dk_at dksL_law_14 19 rfl rfl)
theorem dL_law_546 : decode cL_law 546 = .ok (.iadd, 1) := dk_96 (dk_at dksL_law_14 20 rfl rfl)
theorem dL_law_547 : decode cL_law 547 = .ok (.iaload, 1) := dk_46 (dk_at dksL_law_14 21 rfl rfl)
theorem dL_law_548 : decode cL_law 548 = .ok (.aload_n 0, 1) := dk_42 (dk_at dksL_law_14 22 rfl rfl)
theorem dL_law_549 : decode cL_law 549 = .ok (.iload 4, 2) := dk_21 4 (dk_at dksL_law_15 0 rfl rfl)
theorem dL_law_551 : decode cL_law 551 = .ok (.iconst 2, 1) := dk_5 (dk_at dksL_law_15 2 rfl rfl)
theorem dL_law_552 : decode cL_law 552 = .ok (.iadd, 1) := dk_96 (dk_at dksL_law_15 3 rfl rfl)
theorem dL_law_553 : decode cL_law 553 = .ok (.iaload, 1) := dk_46 (dk_at dksL_law_15 4 rfl rfl)
theorem dL_law_554 : decode cL_law 554 = .ok (.invokevirtual 61, 3) := dk_182 0 61 (dk_at dksL_law_15 5 rfl rfl)
theorem dL_law_557 : decode cL_law 557 = .ok (.if_icmp .eq 1158, 3) := dk_159 4 134 (dk_at dksL_law_15 8 rfl rfl)
theorem dL_law_560 : decode cL_law 560 = .ok (.iconst 0, 1) := dk_3 (dk_at dksL_law_15 11 rfl rfl)
theorem dL_law_561 : decode cL_law 561 = .ok (.ireturn, 1) := dk_172 (dk_at dksL_law_15 12 rfl rfl)
theorem dL_law_562 : decode cL_law 562 = .ok (.aload_n 1, 1) := dk_43 (dk_at dksL_law_15 13 rfl rfl)
theorem dL_law_563 : decode cL_law 563 = .ok (.aload_n 0, 1) := dk_42 (dk_at dksL_law_15 14 rfl rfl)
theorem dL_law_564 : decode cL_law 564 = .ok (.iload 4, 2) := dk_21 4 (dk_at dksL_law_15 15 rfl rfl)
theorem dL_law_566 : decode cL_law 566 = .ok (.iconst 1, 1) := dk_4 (dk_at dksL_law_15 17 rfl rfl)
theorem dL_law_567 : decode cL_law 567 = .ok (.iadd, 1) := dk_96 (dk_at dksL_law_15 18 rfl rfl)
theorem dL_law_568 : decode cL_law 568 = .ok (.iaload, 1) := dk_46 (dk_at dksL_law_15 19 rfl rfl)
theorem dL_law_569 : decode cL_law 569 = .ok (.invokevirtual 62, 3) := dk_182 0 62 (dk_at dksL_law_15 20 rfl rfl)
theorem dL_law_572 : decode cL_law 572 = .ok (.aload_n 2, 1) := dk_44 (dk_at dksL_law_15 23 rfl rfl)
theorem dL_law_573 : decode cL_law 573 = .ok (.aload_n 0, 1) := dk_42 (dk_at dksL_law_16 0 rfl rfl)
theorem dL_law_574 : decode cL_law 574 = .ok (.iload 4, 2) := dk_21 4 (dk_at dksL_law_16 1 rfl rfl)
theorem dL_law_576 : decode cL_law 576 = .ok (.iconst 1, 1) := dk_4 (dk_at dksL_law_16 3 rfl rfl)
theorem dL_law_577 : decode cL_law 577 = .ok (.iadd, 1) := dk_96 (dk_at dksL_law_16 4 rfl rfl)
theorem dL_law_578 : decode cL_law 578 = .ok (.iaload, 1) := dk_46 (dk_at dksL_law_16 5 rfl rfl)
theorem dL_law_579 : decode cL_law 579 = .ok (.invokevirtual 65, 3) := dk_182 0 65 (dk_at dksL_law_16 6 rfl rfl)
theorem dL_law_582 : decode cL_law 582 = .ok (.if_icmp .eq 1133, 3) := dk_159 4 109 (dk_at dksL_law_16 9 rfl rfl)
theorem dL_law_585 : decode cL_law 585 = .ok (.iconst 0, 1) := dk_3 (dk_at dksL_law_16 12 rfl rfl)
theorem dL_law_586 : decode cL_law 586 = .ok (.ireturn, 1) := dk_172 (dk_at dksL_law_16 13 rfl rfl)
theorem dL_law_587 : decode cL_law 587 = .ok (.aload_n 1, 1) := dk_43 (dk_at dksL_law_16 14 rfl rfl)
theorem dL_law_588 : decode cL_law 588 = .ok (.aload_n 0, 1) := dk_42 (dk_at dksL_law_16 15 rfl rfl)
theorem dL_law_589 : decode cL_law 589 = .ok (.iload 4, 2) := dk_21 4 (dk_at dksL_law_16 16 rfl rfl)
theorem dL_law_591 : decode cL_law 591 = .ok (.iconst 1, 1) := dk_4 (dk_at dksL_law_16 18 rfl rfl)
theorem dL_law_592 : decode cL_law 592 = .ok (.iadd, 1) := dk_96 (dk_at dksL_law_16 19 rfl rfl)
theorem dL_law_593 : decode cL_law 593 = .ok (.iaload, 1) := dk_46 (dk_at dksL_law_16 20 rfl rfl)
theorem dL_law_594 : decode cL_law 594 = .ok (.invokevirtual 66, 3) := dk_182 0 66 (dk_at dksL_law_16 21 rfl rfl)
theorem dL_law_597 : decode cL_law 597 = .ok (.aload_n 2, 1) := dk_44 (dk_at dksL_law_17 0 rfl rfl)
theorem dL_law_598 : decode cL_law 598 = .ok (.aload_n 0, 1) := dk_42 (dk_at dksL_law_17 1 rfl rfl)
theorem dL_law_599 : decode cL_law 599 = .ok (.iload 4, 2) := dk_21 4 (dk_at dksL_law_17 2 rfl rfl)
theorem dL_law_601 : decode cL_law 601 = .ok (.iconst 1, 1) := dk_4 (dk_at dksL_law_17 4 rfl rfl)
theorem dL_law_602 : decode cL_law 602 = .ok (.iadd, 1) := dk_96 (dk_at dksL_law_17 5 rfl rfl)
theorem dL_law_603 : decode cL_law 603 = .ok (.iaload, 1) := dk_46 (dk_at dksL_law_17 6 rfl rfl)
theorem dL_law_604 : decode cL_law 604 = .ok (.invokevirtual 69, 3) := dk_182 0 69 (dk_at dksL_law_17 7 rfl rfl)
theorem dL_law_607 : decode cL_law 607 = .ok (.if_icmp .eq 1108, 3) := dk_159 4 84 (dk_at dksL_law_17 10 rfl rfl)
theorem dL_law_610 : decode cL_law 610 = .ok (.iconst 0, 1) := dk_3 (dk_at dksL_law_17 13 rfl rfl)
theorem dL_law_611 : decode cL_law 611 = .ok (.ireturn, 1) := dk_172 (dk_at dksL_law_17 14 rfl rfl)
theorem dL_law_612 : decode cL_law 612 = .ok (.aload_n 1, 1) := dk_43 (dk_at dksL_law_17 15 rfl rfl)
theorem dL_law_613 : decode cL_law 613 = .ok (.aload_n 0, 1) := dk_42 (dk_at dksL_law_17 16 rfl rfl)
theorem dL_law_614 : decode cL_law 614 = .ok (.iload 4, 2) := dk_21 4 (dk_at dksL_law_17 17 rfl rfl)
theorem dL_law_616 : decode cL_law 616 = .ok (.iconst 1, 1) := dk_4 (dk_at dksL_law_17 19 rfl rfl)
theorem dL_law_617 : decode cL_law 617 = .ok (.iadd, 1) := dk_96 (dk_at dksL_law_17 20 rfl rfl)
theorem dL_law_618 : decode cL_law 618 = .ok (.iaload, 1) := dk_46 (dk_at dksL_law_17 21 rfl rfl)
theorem dL_law_619 : decode cL_law 619 = .ok (.invokevirtual 70, 3) := dk_182 0 70 (dk_at dksL_law_18 0 rfl rfl)
theorem dL_law_622 : decode cL_law 622 = .ok (.aload_n 2, 1) := dk_44 (dk_at dksL_law_18 3 rfl rfl)
theorem dL_law_623 : decode cL_law 623 = .ok (.aload_n 0, 1) := dk_42 (dk_at dksL_law_18 4 rfl rfl)
theorem dL_law_624 : decode cL_law 624 = .ok (.iload 4, 2) := dk_21 4 (dk_at dksL_law_18 5 rfl rfl)
theorem dL_law_626 : decode cL_law 626 = .ok (.iconst 1, 1) := dk_4 (dk_at dksL_law_18 7 rfl rfl)
theorem dL_law_627 : decode cL_law 627 = .ok (.iadd, 1) := dk_96 (dk_at dksL_law_18 8 rfl rfl)
theorem dL_law_628 : decode cL_law 628 = .ok (.iaload, 1) := dk_46 (dk_at dksL_law_18 9 rfl rfl)
theorem dL_law_629 : decode cL_law 629 = .ok (.invokevirtual 73, 3) := dk_182 0 73 (dk_at dksL_law_18 10 rfl rfl)
theorem dL_law_632 : decode cL_law 632 = .ok (.if_icmp .eq 1083, 3) := dk_159 4 59 (dk_at dksL_law_18 13 rfl rfl)
theorem dL_law_635 : decode cL_law 635 = .ok (.iconst 0, 1) := dk_3 (dk_at dksL_law_18 16 rfl rfl)
theorem dL_law_636 : decode cL_law 636 = .ok (.ireturn, 1) := dk_172 (dk_at dksL_law_18 17 rfl rfl)
theorem dL_law_637 : decode cL_law 637 = .ok (.aload_n 1, 1) := dk_43 (dk_at dksL_law_18 18 rfl rfl)
theorem dL_law_638 : decode cL_law 638 = .ok (.aload_n 0, 1) := dk_42 (dk_at dksL_law_18 19 rfl rfl)
theorem dL_law_639 : decode cL_law 639 = .ok (.iload 4, 2) := dk_21 4 (dk_at dksL_law_18 20 rfl rfl)
theorem dL_law_641 : decode cL_law 641 = .ok (.iconst 1, 1) := dk_4 (dk_at dksL_law_18 22 rfl rfl)
theorem dL_law_642 : decode cL_law 642 = .ok (.iadd, 1) := dk_96 (dk_at dksL_law_18 23 rfl rfl)
theorem dL_law_643 : decode cL_law 643 = .ok (.iaload, 1) := dk_46 (dk_at dksL_law_19 0 rfl rfl)
theorem dL_law_644 : decode cL_law 644 = .ok (.invokevirtual 74, 3) := dk_182 0 74 (dk_at dksL_law_19 1 rfl rfl)
theorem dL_law_647 : decode cL_law 647 = .ok (.aload_n 2, 1) := dk_44 (dk_at dksL_law_19 4 rfl rfl)
theorem dL_law_648 : decode cL_law 648 = .ok (.aload_n 0, 1) := dk_42 (dk_at dksL_law_19 5 rfl rfl)
theorem dL_law_649 : decode cL_law 649 = .ok (.iload 4, 2) := dk_21 4 (dk_at dksL_law_19 6 rfl rfl)
theorem dL_law_651 : decode cL_law 651 = .ok (.iconst 1, 1) := dk_4 (dk_at dksL_law_19 8 rfl rfl)
theorem dL_law_652 : decode cL_law 652 = .ok (.iadd, 1) := dk_96 (dk_at dksL_law_19 9 rfl rfl)
theorem dL_law_653 : decode cL_law 653 = .ok (.iaload, 1) := dk_46 (dk_at dksL_law_19 10 rfl rfl)
theorem dL_law_654 : decode cL_law 654 = .ok (.invokevirtual 77, 3) := dk_182 0 77 (dk_at dksL_law_19 11 rfl rfl)
theorem dL_law_657 : decode cL_law 657 = .ok (.if_icmp .eq 1058, 3) := dk_159 4 34 (dk_at dksL_law_19 14 rfl rfl)
theorem dL_law_660 : decode cL_law 660 = .ok (.iconst 0, 1) := dk_3 (dk_at dksL_law_19 17 rfl rfl)
theorem dL_law_661 : decode cL_law 661 = .ok (.ireturn, 1) := dk_172 (dk_at dksL_law_19 18 rfl rfl)
theorem dL_law_662 : decode cL_law 662 = .ok (.aload_n 1, 1) := dk_43 (dk_at dksL_law_19 19 rfl rfl)
theorem dL_law_663 : decode cL_law 663 = .ok (.aload_n 0, 1) := dk_42 (dk_at dksL_law_19 20 rfl rfl)
theorem dL_law_664 : decode cL_law 664 = .ok (.iload 4, 2) := dk_21 4 (dk_at dksL_law_19 21 rfl rfl)
theorem dL_law_666 : decode cL_law 666 = .ok (.iconst 1, 1) := dk_4 (dk_at dksL_law_19 23 rfl rfl)
theorem dL_law_667 : decode cL_law 667 = .ok (.iadd, 1) := dk_96 (dk_at dksL_law_20 0 rfl rfl)
theorem dL_law_668 : decode cL_law 668 = .ok (.iaload, 1) := dk_46 (dk_at dksL_law_20 1 rfl rfl)
theorem dL_law_669 : decode cL_law 669 = .ok (.invokevirtual 78, 3) := dk_182 0 78 (dk_at dksL_law_20 2 rfl rfl)
theorem dL_law_672 : decode cL_law 672 = .ok (.aload_n 2, 1) := dk_44 (dk_at dksL_law_20 5 rfl rfl)
theorem dL_law_673 : decode cL_law 673 = .ok (.aload_n 0, 1) := dk_42 (dk_at dksL_law_20 6 rfl rfl)
theorem dL_law_674 : decode cL_law 674 = .ok (.iload 4, 2) := dk_21 4 (dk_at dksL_law_20 7 rfl rfl)
theorem dL_law_676 : decode cL_law 676 = .ok (.iconst 1, 1) := dk_4 (dk_at dksL_law_20 9 rfl rfl)
theorem dL_law_677 : decode cL_law 677 = .ok (.iadd, 1) := dk_96 (dk_at dksL_law_20 10 rfl rfl)
theorem dL_law_678 : decode cL_law 678 = .ok (.iaload, 1) := dk_46 (dk_at dksL_law_20 11 rfl rfl)
theorem dL_law_679 : decode cL_law 679 = .ok (.invokevirtual 81, 3) := dk_182 0 81 (dk_at dksL_law_20 12 rfl rfl)
theorem dL_law_682 : decode cL_law 682 = .ok (.if_icmp .eq 1033, 3) := dk_159 4 9 (dk_at dksL_law_20 15 rfl rfl)
theorem dL_law_685 : decode cL_law 685 = .ok (.iconst 0, 1) := dk_3 (dk_at dksL_law_20 18 rfl rfl)
theorem dL_law_686 : decode cL_law 686 = .ok (.ireturn, 1) := dk_172 (dk_at dksL_law_20 19 rfl rfl)
theorem dL_law_687 : decode cL_law 687 = .ok (.aload_n 1, 1) := dk_43 (dk_at dksL_law_20 20 rfl rfl)
theorem dL_law_688 : decode cL_law 688 = .ok (.aload_n 0, 1) := dk_42 (dk_at dksL_law_20 21 rfl rfl)
theorem dL_law_689 : decode cL_law 689 = .ok (.iload 4, 2) := dk_21 4 (dk_at dksL_law_20 22 rfl rfl)
theorem dL_law_691 : decode cL_law 691 = .ok (.iconst 1, 1) := dk_4 (dk_at dksL_law_21 0 rfl rfl)
theorem dL_law_692 : decode cL_law 692 = .ok (.iadd, 1) := dk_96 (dk_at dksL_law_21 1 rfl rfl)
theorem dL_law_693 : decode cL_law 693 = .ok (.iaload, 1) := dk_46 (dk_at dksL_law_21 2 rfl rfl)
theorem dL_law_694 : decode cL_law 694 = .ok (.invokevirtual 82, 3) := dk_182 0 82 (dk_at dksL_law_21 3 rfl rfl)
theorem dL_law_697 : decode cL_law 697 = .ok (.aload_n 2, 1) := dk_44 (dk_at dksL_law_21 6 rfl rfl)
theorem dL_law_698 : decode cL_law 698 = .ok (.aload_n 0, 1) := dk_42 (dk_at dksL_law_21 7 rfl rfl)
theorem dL_law_699 : decode cL_law 699 = .ok (.iload 4, 2) := dk_21 4 (dk_at dksL_law_21 8 rfl rfl)
theorem dL_law_701 : decode cL_law 701 = .ok (.iconst 1, 1) := dk_4 (dk_at dksL_law_21 10 rfl rfl)
theorem dL_law_702 : decode cL_law 702 = .ok (.iadd, 1) := dk_96 (dk_at dksL_law_21 11 rfl rfl)
theorem dL_law_703 : decode cL_law 703 = .ok (.iaload, 1) := dk_46 (dk_at dksL_law_21 12 rfl rfl)
theorem dL_law_704 : decode cL_law 704 = .ok (.invokevirtual 85, 3) := dk_182 0 85 (dk_at dksL_law_21 13 rfl rfl)
theorem dL_law_707 : decode cL_law 707 = .ok (.if_icmp .eq 1008, 3) := dk_159 3 240 (dk_at dksL_law_21 16 rfl rfl)
theorem dL_law_710 : decode cL_law 710 = .ok (.iconst 0, 1) := dk_3 (dk_at dksL_law_21 19 rfl rfl)
theorem dL_law_711 : decode cL_law 711 = .ok (.ireturn, 1) := dk_172 (dk_at dksL_law_21 20 rfl rfl)
theorem dL_law_712 : decode cL_law 712 = .ok (.aload_n 1, 1) := dk_43 (dk_at dksL_law_21 21 rfl rfl)
theorem dL_law_713 : decode cL_law 713 = .ok (.aload_n 0, 1) := dk_42 (dk_at dksL_law_21 22 rfl rfl)
theorem dL_law_714 : decode cL_law 714 = .ok (.iload 4, 2) := dk_21 4 (dk_at dksL_law_22 0 rfl rfl)
theorem dL_law_716 : decode cL_law 716 = .ok (.iconst 1, 1) := dk_4 (dk_at dksL_law_22 2 rfl rfl)
theorem dL_law_717 : decode cL_law 717 = .ok (.iadd, 1) := dk_96 (dk_at dksL_law_22 3 rfl rfl)
theorem dL_law_718 : decode cL_law 718 = .ok (.iaload, 1) := dk_46 (dk_at dksL_law_22 4 rfl rfl)
theorem dL_law_719 : decode cL_law 719 = .ok (.invokevirtual 86, 3) := dk_182 0 86 (dk_at dksL_law_22 5 rfl rfl)
theorem dL_law_722 : decode cL_law 722 = .ok (.aload_n 2, 1) := dk_44 (dk_at dksL_law_22 8 rfl rfl)
theorem dL_law_723 : decode cL_law 723 = .ok (.aload_n 0, 1) := dk_42 (dk_at dksL_law_22 9 rfl rfl)
theorem dL_law_724 : decode cL_law 724 = .ok (.iload 4, 2) := dk_21 4 (dk_at dksL_law_22 10 rfl rfl)
theorem dL_law_726 : decode cL_law 726 = .ok (.iconst 1, 1) := dk_4 (dk_at dksL_law_22 12 rfl rfl)
theorem dL_law_727 : decode cL_law 727 = .ok (.iadd, 1) := dk_96 (dk_at dksL_law_22 13 rfl rfl)
theorem dL_law_728 : decode cL_law 728 = .ok (.iaload, 1) := dk_46 (dk_at dksL_law_22 14 rfl rfl)
theorem dL_law_729 : decode cL_law 729 = .ok (.invokevirtual 89, 3) := dk_182 0 89 (dk_at dksL_law_22 15 rfl rfl)
theorem dL_law_732 : decode cL_law 732 = .ok (.if_icmp .eq 983, 3) := dk_159 3 215 (dk_at dksL_law_22 18 rfl rfl)
theorem dL_law_735 : decode cL_law 735 = .ok (.iconst 0, 1) := dk_3 (dk_at dksL_law_22 21 rfl rfl)
theorem dL_law_736 : decode cL_law 736 = .ok (.ireturn, 1) := dk_172 (dk_at dksL_law_22 22 rfl rfl)
theorem dL_law_737 : decode cL_law 737 = .ok (.aload_n 1, 1) := dk_43 (dk_at dksL_law_22 23 rfl rfl)
theorem dL_law_738 : decode cL_law 738 = .ok (.aload_n 0, 1) := dk_42 (dk_at dksL_law_23 0 rfl rfl)
theorem dL_law_739 : decode cL_law 739 = .ok (.iload 4, 2) := dk_21 4 (dk_at dksL_law_23 1 rfl rfl)
theorem dL_law_741 : decode cL_law 741 = .ok (.iconst 1, 1) := dk_4 (dk_at dksL_law_23 3 rfl rfl)
theorem dL_law_742 : decode cL_law 742 = .ok (.iadd, 1) := dk_96 (dk_at dksL_law_23 4 rfl rfl)
theorem dL_law_743 : decode cL_law 743 = .ok (.iaload, 1) := dk_46 (dk_at dksL_law_23 5 rfl rfl)
theorem dL_law_744 : decode cL_law 744 = .ok (.invokevirtual 90, 3) := dk_182 0 90 (dk_at dksL_law_23 6 rfl rfl)
theorem dL_law_747 : decode cL_law 747 = .ok (.aload_n 2, 1) := dk_44 (dk_at dksL_law_23 9 rfl rfl)
theorem dL_law_748 : decode cL_law 748 = .ok (.aload_n 0, 1) := dk_42 (dk_at dksL_law_23 10 rfl rfl)
theorem dL_law_749 : decode cL_law 749 = .ok (.iload 4, 2) := dk_21 4 (dk_at dksL_law_23 11 rfl rfl)
theorem dL_law_751 : decode cL_law 751 = .ok (.iconst 1, 1) := dk_4 (dk_at dksL_law_23 13 rfl rfl)
theorem dL_law_752 : decode cL_law 752 = .ok (.iadd, 1) := dk_96 (dk_at dksL_law_23 14 rfl rfl)
theorem dL_law_753 : decode cL_law 753 = .ok (.iaload, 1) := dk_46 (dk_at dksL_law_23 15 rfl rfl)
theorem dL_law_754 : decode cL_law 754 = .ok (.invokevirtual 93, 3) := dk_182 0 93 (dk_at dksL_law_23 16 rfl rfl)
theorem dL_law_757 : decode cL_law 757 = .ok (.if_icmp .eq 958, 3) := dk_159 3 190 (dk_at dksL_law_23 19 rfl rfl)
theorem dL_law_760 : decode cL_law 760 = .ok (.iconst 0, 1) := dk_3 (dk_at dksL_law_23 22 rfl rfl)
theorem dL_law_761 : decode cL_law 761 = .ok (.ireturn, 1) := dk_172 (dk_at dksL_law_23 23 rfl rfl)
theorem dL_law_762 : decode cL_law 762 = .ok (.aload_n 1, 1) := dk_43 (dk_at dksL_law_24 0 rfl rfl)
theorem dL_law_763 : decode cL_law 763 = .ok (.aload_n 0, 1) := dk_42 (dk_at dksL_law_24 1 rfl rfl)
theorem dL_law_764 : decode cL_law 764 = .ok (.iload 4, 2) := dk_21 4 (dk_at dksL_law_24 2 rfl rfl)
theorem dL_law_766 : decode cL_law 766 = .ok (.iconst 1, 1) := dk_4 (dk_at dksL_law_24 4 rfl rfl)
theorem dL_law_767 : decode cL_law 767 = .ok (.iadd, 1) := dk_96 (dk_at dksL_law_24 5 rfl rfl)
theorem dL_law_768 : decode cL_law 768 = .ok (.iaload, 1) := dk_46 (dk_at dksL_law_24 6 rfl rfl)
theorem dL_law_769 : decode cL_law 769 = .ok (.invokevirtual 94, 3) := dk_182 0 94 (dk_at dksL_law_24 7 rfl rfl)
theorem dL_law_772 : decode cL_law 772 = .ok (.aload_n 2, 1) := dk_44 (dk_at dksL_law_24 10 rfl rfl)
theorem dL_law_773 : decode cL_law 773 = .ok (.aload_n 0, 1) := dk_42 (dk_at dksL_law_24 11 rfl rfl)
theorem dL_law_774 : decode cL_law 774 = .ok (.iload 4, 2) := dk_21 4 (dk_at dksL_law_24 12 rfl rfl)
theorem dL_law_776 : decode cL_law 776 = .ok (.iconst 1, 1) := dk_4 (dk_at dksL_law_24 14 rfl rfl)
theorem dL_law_777 : decode cL_law 777 = .ok (.iadd, 1) := dk_96 (dk_at dksL_law_24 15 rfl rfl)
theorem dL_law_778 : decode cL_law 778 = .ok (.iaload, 1) := dk_46 (dk_at dksL_law_24 16 rfl rfl)
theorem dL_law_779 : decode cL_law 779 = .ok (.invokevirtual 97, 3) := dk_182 0 97 (dk_at dksL_law_24 17 rfl rfl)
theorem dL_law_782 : decode cL_law 782 = .ok (.if_icmp .eq 933, 3) := dk_159 3 165 (dk_at dksL_law_24 20 rfl rfl)
theorem dL_law_785 : decode cL_law 785 = .ok (.iconst 0, 1) := dk_3 (dk_at dksL_law_24 23 rfl rfl)
theorem dL_law_786 : decode cL_law 786 = .ok (.ireturn, 1) := dk_172 (dk_at dksL_law_25 0 rfl rfl)
theorem dL_law_787 : decode cL_law 787 = .ok (.aload_n 1, 1) := dk_43 (dk_at dksL_law_25 1 rfl rfl)
theorem dL_law_788 : decode cL_law 788 = .ok (.aload_n 0, 1) := dk_42 (dk_at dksL_law_25 2 rfl rfl)
theorem dL_law_789 : decode cL_law 789 = .ok (.iload 4, 2) := dk_21 4 (dk_at dksL_law_25 3 rfl rfl)
theorem dL_law_791 : decode cL_law 791 = .ok (.iconst 1, 1) := dk_4 (dk_at dksL_law_25 5 rfl rfl)
theorem dL_law_792 : decode cL_law 792 = .ok (.iadd, 1) := dk_96 (dk_at dksL_law_25 6 rfl rfl)
theorem dL_law_793 : decode cL_law 793 = .ok (.iaload, 1) := dk_46 (dk_at dksL_law_25 7 rfl rfl)
theorem dL_law_794 : decode cL_law 794 = .ok (.aload_n 0, 1) := dk_42 (dk_at dksL_law_25 8 rfl rfl)
theorem dL_law_795 : decode cL_law 795 = .ok (.iload 4, 2) := dk_21 4 (dk_at dksL_law_25 9 rfl rfl)
theorem dL_law_797 : decode cL_law 797 = .ok (.iconst 2, 1) := dk_5 (dk_at dksL_law_25 11 rfl rfl)
theorem dL_law_798 : decode cL_law 798 = .ok (.iadd, 1) := dk_96 (dk_at dksL_law_25 12 rfl rfl)
theorem dL_law_799 : decode cL_law 799 = .ok (.iaload, 1) := dk_46 (dk_at dksL_law_25 13 rfl rfl)
theorem dL_law_800 : decode cL_law 800 = .ok (.ifCond .eq 7, 3) := dk_153 0 7 (dk_at dksL_law_25 14 rfl rfl)
theorem dL_law_803 : decode cL_law 803 = .ok (.iconst 1, 1) := dk_4 (dk_at dksL_law_25 17 rfl rfl)
theorem dL_law_804 : decode cL_law 804 = .ok (.goto 4, 3) := dk_167 0 4 (dk_at dksL_law_25 18 rfl rfl)
theorem dL_law_807 : decode cL_law 807 = .ok (.iconst 0, 1) := dk_3 (dk_at dksL_law_25 21 rfl rfl)
theorem dL_law_808 : decode cL_law 808 = .ok (.aload_n 0, 1) := dk_42 (dk_at dksL_law_25 22 rfl rfl)
theorem dL_law_809 : decode cL_law 809 = .ok (.iload 4, 2) := dk_21 4 (dk_at dksL_law_26 0 rfl rfl)
theorem dL_law_811 : decode cL_law 811 = .ok (.iconst 3, 1) := dk_6 (dk_at dksL_law_26 2 rfl rfl)
theorem dL_law_812 : decode cL_law 812 = .ok (.iadd, 1) := dk_96 (dk_at dksL_law_26 3 rfl rfl)
theorem dL_law_813 : decode cL_law 813 = .ok (.iaload, 1) := dk_46 (dk_at dksL_law_26 4 rfl rfl)
theorem dL_law_814 : decode cL_law 814 = .ok (.invokevirtual 98, 3) := dk_182 0 98 (dk_at dksL_law_26 5 rfl rfl)
theorem dL_law_817 : decode cL_law 817 = .ok (.aload_n 2, 1) := dk_44 (dk_at dksL_law_26 8 rfl rfl)
theorem dL_law_818 : decode cL_law 818 = .ok (.aload_n 0, 1) := dk_42 (dk_at dksL_law_26 9 rfl rfl)
theorem dL_law_819 : decode cL_law 819 = .ok (.iload 4, 2) := dk_21 4 (dk_at dksL_law_26 10 rfl rfl)
theorem dL_law_821 : decode cL_law 821 = .ok (.iconst 1, 1) := dk_4 (dk_at dksL_law_26 12 rfl rfl)
theorem dL_law_822 : decode cL_law 822 = .ok (.iadd, 1) := dk_96 (dk_at dksL_law_26 13 rfl rfl)
theorem dL_law_823 : decode cL_law 823 = .ok (.iaload, 1) := dk_46 (dk_at dksL_law_26 14 rfl rfl)
theorem dL_law_824 : decode cL_law 824 = .ok (.aload_n 0, 1) := dk_42 (dk_at dksL_law_26 15 rfl rfl)
theorem dL_law_825 : decode cL_law 825 = .ok (.iload 4, 2) := dk_21 4 (dk_at dksL_law_26 16 rfl rfl)
theorem dL_law_827 : decode cL_law 827 = .ok (.iconst 2, 1) := dk_5 (dk_at dksL_law_26 18 rfl rfl)
theorem dL_law_828 : decode cL_law 828 = .ok (.iadd, 1) := dk_96 (dk_at dksL_law_26 19 rfl rfl)
theorem dL_law_829 : decode cL_law 829 = .ok (.iaload, 1) := dk_46 (dk_at dksL_law_26 20 rfl rfl)
theorem dL_law_830 : decode cL_law 830 = .ok (.ifCond .eq 7, 3) := dk_153 0 7 (dk_at dksL_law_26 21 rfl rfl)
theorem dL_law_833 : decode cL_law 833 = .ok (.iconst 1, 1) := dk_4 (dk_at dksL_law_27 0 rfl rfl)
theorem dL_law_834 : decode cL_law 834 = .ok (.goto 4, 3) := dk_167 0 4 (dk_at dksL_law_27 1 rfl rfl)
theorem dL_law_837 : decode cL_law 837 = .ok (.iconst 0, 1) := dk_3 (dk_at dksL_law_27 4 rfl rfl)
theorem dL_law_838 : decode cL_law 838 = .ok (.aload_n 0, 1) := dk_42 (dk_at dksL_law_27 5 rfl rfl)
theorem dL_law_839 : decode cL_law 839 = .ok (.iload 4, 2) := dk_21 4 (dk_at dksL_law_27 6 rfl rfl)
theorem dL_law_841 : decode cL_law 841 = .ok (.iconst 3, 1) := dk_6 (dk_at dksL_law_27 8 rfl rfl)
theorem dL_law_842 : decode cL_law 842 = .ok (.iadd, 1) := dk_96 (dk_at dksL_law_27 9 rfl rfl)
theorem dL_law_843 : decode cL_law 843 = .ok (.iaload, 1) := dk_46 (dk_at dksL_law_27 10 rfl rfl)
theorem dL_law_844 : decode cL_law 844 = .ok (.invokevirtual 102, 3) := dk_182 0 102 (dk_at dksL_law_27 11 rfl rfl)
theorem dL_law_847 : decode cL_law 847 = .ok (.if_icmp .eq 868, 3) := dk_159 3 100 (dk_at dksL_law_27 14 rfl rfl)
theorem dL_law_850 : decode cL_law 850 = .ok (.iconst 0, 1) := dk_3 (dk_at dksL_law_27 17 rfl rfl)
theorem dL_law_851 : decode cL_law 851 = .ok (.ireturn, 1) := dk_172 (dk_at dksL_law_27 18 rfl rfl)
theorem dL_law_852 : decode cL_law 852 = .ok (.aload_n 1, 1) := dk_43 (dk_at dksL_law_27 19 rfl rfl)
theorem dL_law_853 : decode cL_law 853 = .ok (.aload_n 0, 1) := dk_42 (dk_at dksL_law_27 20 rfl rfl)
theorem dL_law_854 : decode cL_law 854 = .ok (.iload 4, 2) := dk_21 4 (dk_at dksL_law_27 21 rfl rfl)
theorem dL_law_856 : decode cL_law 856 = .ok (.iconst 1, 1) := dk_4 (dk_at dksL_law_27 23 rfl rfl)
theorem dL_law_857 : decode cL_law 857 = .ok (.iadd, 1) := dk_96 (dk_at dksL_law_28 0 rfl rfl)
theorem dL_law_858 : decode cL_law 858 = .ok (.iaload, 1) := dk_46 (dk_at dksL_law_28 1 rfl rfl)
theorem dL_law_859 : decode cL_law 859 = .ok (.ifCond .eq 7, 3) := dk_153 0 7 (dk_at dksL_law_28 2 rfl rfl)
theorem dL_law_862 : decode cL_law 862 = .ok (.iconst 1, 1) := dk_4 (dk_at dksL_law_28 5 rfl rfl)
theorem dL_law_863 : decode cL_law 863 = .ok (.goto 4, 3) := dk_167 0 4 (dk_at dksL_law_28 6 rfl rfl)
theorem dL_law_866 : decode cL_law 866 = .ok (.iconst 0, 1) := dk_3 (dk_at dksL_law_28 9 rfl rfl)
theorem dL_law_867 : decode cL_law 867 = .ok (.invokevirtual 103, 3) := dk_182 0 103 (dk_at dksL_law_28 10 rfl rfl)
theorem dL_law_870 : decode cL_law 870 = .ok (.aload_n 2, 1) := dk_44 (dk_at dksL_law_28 13 rfl rfl)
theorem dL_law_871 : decode cL_law 871 = .ok (.aload_n 0, 1) := dk_42 (dk_at dksL_law_28 14 rfl rfl)
theorem dL_law_872 : decode cL_law 872 = .ok (.iload 4, 2) := dk_21 4 (dk_at dksL_law_28 15 rfl rfl)
theorem dL_law_874 : decode cL_law 874 = .ok (.iconst 1, 1) := dk_4 (dk_at dksL_law_28 17 rfl rfl)
theorem dL_law_875 : decode cL_law 875 = .ok (.iadd, 1) := dk_96 (dk_at dksL_law_28 18 rfl rfl)
theorem dL_law_876 : decode cL_law 876 = .ok (.iaload, 1) := dk_46 (dk_at dksL_law_28 19 rfl rfl)
theorem dL_law_877 : decode cL_law 877 = .ok (.ifCond .eq 7, 3) := dk_153 0 7 (dk_at dksL_law_28 20 rfl rfl)
theorem dL_law_880 : decode cL_law 880 = .ok (.iconst 1, 1) := dk_4 (dk_at dksL_law_28 23 rfl rfl)
theorem dL_law_881 : decode cL_law 881 = .ok (.goto 4, 3) := dk_167 0 4 (dk_at dksL_law_29 0 rfl rfl)
theorem dL_law_884 : decode cL_law 884 = .ok (.iconst 0, 1) := dk_3 (dk_at dksL_law_29 3 rfl rfl)
theorem dL_law_885 : decode cL_law 885 = .ok (.invokevirtual 107, 3) := dk_182 0 107 (dk_at dksL_law_29 4 rfl rfl)
theorem dL_law_888 : decode cL_law 888 = .ok (.if_icmp .eq 827, 3) := dk_159 3 59 (dk_at dksL_law_29 7 rfl rfl)
theorem dL_law_891 : decode cL_law 891 = .ok (.iconst 0, 1) := dk_3 (dk_at dksL_law_29 10 rfl rfl)
theorem dL_law_892 : decode cL_law 892 = .ok (.ireturn, 1) := dk_172 (dk_at dksL_law_29 11 rfl rfl)
theorem dL_law_893 : decode cL_law 893 = .ok (.aload_n 1, 1) := dk_43 (dk_at dksL_law_29 12 rfl rfl)
theorem dL_law_894 : decode cL_law 894 = .ok (.invokevirtual 108, 3) := dk_182 0 108 (dk_at dksL_law_29 13 rfl rfl)
theorem dL_law_897 : decode cL_law 897 = .ok (.aload_n 2, 1) := dk_44 (dk_at dksL_law_29 16 rfl rfl)
theorem dL_law_898 : decode cL_law 898 = .ok (.invokevirtual 111, 3) := dk_182 0 111 (dk_at dksL_law_29 17 rfl rfl)
theorem dL_law_901 : decode cL_law 901 = .ok (.if_icmp .eq 814, 3) := dk_159 3 46 (dk_at dksL_law_29 20 rfl rfl)
theorem dL_law_904 : decode cL_law 904 = .ok (.iconst 0, 1) := dk_3 (dk_at dksL_law_29 23 rfl rfl)
theorem dL_law_905 : decode cL_law 905 = .ok (.ireturn, 1) := dk_172 (dk_at dksL_law_30 0 rfl rfl)
theorem dL_law_906 : decode cL_law 906 = .ok (.aload_n 1, 1) := dk_43 (dk_at dksL_law_30 1 rfl rfl)
theorem dL_law_907 : decode cL_law 907 = .ok (.aload_n 0, 1) := dk_42 (dk_at dksL_law_30 2 rfl rfl)
theorem dL_law_908 : decode cL_law 908 = .ok (.iload 4, 2) := dk_21 4 (dk_at dksL_law_30 3 rfl rfl)
theorem dL_law_910 : decode cL_law 910 = .ok (.iconst 1, 1) := dk_4 (dk_at dksL_law_30 5 rfl rfl)
theorem dL_law_911 : decode cL_law 911 = .ok (.iadd, 1) := dk_96 (dk_at dksL_law_30 6 rfl rfl)
theorem dL_law_912 : decode cL_law 912 = .ok (.iaload, 1) := dk_46 (dk_at dksL_law_30 7 rfl rfl)
theorem dL_law_913 : decode cL_law 913 = .ok (.invokevirtual 112, 3) := dk_182 0 112 (dk_at dksL_law_30 8 rfl rfl)
theorem dL_law_916 : decode cL_law 916 = .ok (.aload_n 2, 1) := dk_44 (dk_at dksL_law_30 11 rfl rfl)
theorem dL_law_917 : decode cL_law 917 = .ok (.aload_n 0, 1) := dk_42 (dk_at dksL_law_30 12 rfl rfl)
theorem dL_law_918 : decode cL_law 918 = .ok (.iload 4, 2) := dk_21 4 (dk_at dksL_law_30 13 rfl rfl)
theorem dL_law_920 : decode cL_law 920 = .ok (.iconst 1, 1) := dk_4 (dk_at dksL_law_30 15 rfl rfl)
theorem dL_law_921 : decode cL_law 921 = .ok (.iadd, 1) := dk_96 (dk_at dksL_law_30 16 rfl rfl)
theorem dL_law_922 : decode cL_law 922 = .ok (.iaload, 1) := dk_46 (dk_at dksL_law_30 17 rfl rfl)
theorem dL_law_923 : decode cL_law 923 = .ok (.invokevirtual 115, 3) := dk_182 0 115 (dk_at dksL_law_30 18 rfl rfl)
theorem dL_law_926 : decode cL_law 926 = .ok (.if_icmp .eq 789, 3) := dk_159 3 21 (dk_at dksL_law_30 21 rfl rfl)
theorem dL_law_929 : decode cL_law 929 = .ok (.iconst 0, 1) := dk_3 (dk_at dksL_law_31 0 rfl rfl)
theorem dL_law_930 : decode cL_law 930 = .ok (.ireturn, 1) := dk_172 (dk_at dksL_law_31 1 rfl rfl)
theorem dL_law_931 : decode cL_law 931 = .ok (.aload_n 1, 1) := dk_43 (dk_at dksL_law_31 2 rfl rfl)
theorem dL_law_932 : decode cL_law 932 = .ok (.aload_n 0, 1) := dk_42 (dk_at dksL_law_31 3 rfl rfl)
theorem dL_law_933 : decode cL_law 933 = .ok (.iload 4, 2) := dk_21 4 (dk_at dksL_law_31 4 rfl rfl)
theorem dL_law_935 : decode cL_law 935 = .ok (.iconst 1, 1) := dk_4 (dk_at dksL_law_31 6 rfl rfl)
theorem dL_law_936 : decode cL_law 936 = .ok (.iadd, 1) := dk_96 (dk_at dksL_law_31 7 rfl rfl)
theorem dL_law_937 : decode cL_law 937 = .ok (.iaload, 1) := dk_46 (dk_at dksL_law_31 8 rfl rfl)
theorem dL_law_938 : decode cL_law 938 = .ok (.invokevirtual 116, 3) := dk_182 0 116 (dk_at dksL_law_31 9 rfl rfl)
theorem dL_law_941 : decode cL_law 941 = .ok (.aload_n 2, 1) := dk_44 (dk_at dksL_law_31 12 rfl rfl)
theorem dL_law_942 : decode cL_law 942 = .ok (.aload_n 0, 1) := dk_42 (dk_at dksL_law_31 13 rfl rfl)
theorem dL_law_943 : decode cL_law 943 = .ok (.iload 4, 2) := dk_21 4 (dk_at dksL_law_31 14 rfl rfl)
theorem dL_law_945 : decode cL_law 945 = .ok (.iconst 1, 1) := dk_4 (dk_at dksL_law_31 16 rfl rfl)
theorem dL_law_946 : decode cL_law 946 = .ok (.iadd, 1) := dk_96 (dk_at dksL_law_31 17 rfl rfl)
theorem dL_law_947 : decode cL_law 947 = .ok (.iaload, 1) := dk_46 (dk_at dksL_law_31 18 rfl rfl)
theorem dL_law_948 : decode cL_law 948 = .ok (.invokevirtual 119, 3) := dk_182 0 119 (dk_at dksL_law_31 19 rfl rfl)
theorem dL_law_951 : decode cL_law 951 = .ok (.if_icmp .eq 764, 3) := dk_159 2 252 (dk_at dksL_law_32 0 rfl rfl)
theorem dL_law_954 : decode cL_law 954 = .ok (.iconst 0, 1) := dk_3 (dk_at dksL_law_32 3 rfl rfl)
theorem dL_law_955 : decode cL_law 955 = .ok (.ireturn, 1) := dk_172 (dk_at dksL_law_32 4 rfl rfl)
theorem dL_law_956 : decode cL_law 956 = .ok (.aload_n 1, 1) := dk_43 (dk_at dksL_law_32 5 rfl rfl)
theorem dL_law_957 : decode cL_law 957 = .ok (.aload_n 0, 1) := dk_42 (dk_at dksL_law_32 6 rfl rfl)
theorem dL_law_958 : decode cL_law 958 = .ok (.iload 4, 2) := dk_21 4 (dk_at dksL_law_32 7 rfl rfl)
theorem dL_law_960 : decode cL_law 960 = .ok (.iconst 1, 1) := dk_4 (dk_at dksL_law_32 9 rfl rfl)
theorem dL_law_961 : decode cL_law 961 = .ok (.iadd, 1) := dk_96 (dk_at dksL_law_32 10 rfl rfl)
theorem dL_law_962 : decode cL_law 962 = .ok (.iaload, 1) := dk_46 (dk_at dksL_law_32 11 rfl rfl)
theorem dL_law_963 : decode cL_law 963 = .ok (.invokevirtual 120, 3) := dk_182 0 120 (dk_at dksL_law_32 12 rfl rfl)
theorem dL_law_966 : decode cL_law 966 = .ok (.aload_n 2, 1) := dk_44 (dk_at dksL_law_32 15 rfl rfl)
theorem dL_law_967 : decode cL_law 967 = .ok (.aload_n 0, 1) := dk_42 (dk_at dksL_law_32 16 rfl rfl)
theorem dL_law_968 : decode cL_law 968 = .ok (.iload 4, 2) := dk_21 4 (dk_at dksL_law_32 17 rfl rfl)
theorem dL_law_970 : decode cL_law 970 = .ok (.iconst 1, 1) := dk_4 (dk_at dksL_law_32 19 rfl rfl)
theorem dL_law_971 : decode cL_law 971 = .ok (.iadd, 1) := dk_96 (dk_at dksL_law_32 20 rfl rfl)
theorem dL_law_972 : decode cL_law 972 = .ok (.iaload, 1) := dk_46 (dk_at dksL_law_32 21 rfl rfl)
theorem dL_law_973 : decode cL_law 973 = .ok (.invokevirtual 123, 3) := dk_182 0 123 (dk_at dksL_law_33 0 rfl rfl)
theorem dL_law_976 : decode cL_law 976 = .ok (.if_icmp .eq 739, 3) := dk_159 2 227 (dk_at dksL_law_33 3 rfl rfl)
theorem dL_law_979 : decode cL_law 979 = .ok (.iconst 0, 1) := dk_3 (dk_at dksL_law_33 6 rfl rfl)
theorem dL_law_980 : decode cL_law 980 = .ok (.ireturn, 1) := dk_172 (dk_at dksL_law_33 7 rfl rfl)
theorem dL_law_981 : decode cL_law 981 = .ok (.aload_n 1, 1) := dk_43 (dk_at dksL_law_33 8 rfl rfl)
theorem dL_law_982 : decode cL_law 982 = .ok (.invokevirtual 124, 3) := dk_182 0 124 (dk_at dksL_law_33 9 rfl rfl)
theorem dL_law_985 : decode cL_law 985 = .ok (.aload_n 2, 1) := dk_44 (dk_at dksL_law_33 12 rfl rfl)
theorem dL_law_986 : decode cL_law 986 = .ok (.invokevirtual 127, 3) := dk_182 0 127 (dk_at dksL_law_33 13 rfl rfl)
theorem dL_law_989 : decode cL_law 989 = .ok (.if_icmp .eq 726, 3) := dk_159 2 214 (dk_at dksL_law_33 16 rfl rfl)
theorem dL_law_992 : decode cL_law 992 = .ok (.iconst 0, 1) := dk_3 (dk_at dksL_law_33 19 rfl rfl)
theorem dL_law_993 : decode cL_law 993 = .ok (.ireturn, 1) := dk_172 (dk_at dksL_law_33 20 rfl rfl)
theorem dL_law_994 : decode cL_law 994 = .ok (.aload_n 1, 1) := dk_43 (dk_at dksL_law_33 21 rfl rfl)
theorem dL_law_995 : decode cL_law 995 = .ok (.invokevirtual 128, 3) := dk_182 0 128 (dk_at dksL_law_34 0 rfl rfl)
theorem dL_law_998 : decode cL_law 998 = .ok (.aload_n 2, 1) := dk_44 (dk_at dksL_law_34 3 rfl rfl)
theorem dL_law_999 : decode cL_law 999 = .ok (.invokevirtual 131, 3) := dk_182 0 131 (dk_at dksL_law_34 4 rfl rfl)
theorem dL_law_1002 : decode cL_law 1002 = .ok (.if_icmp .eq 713, 3) := dk_159 2 201 (dk_at dksL_law_34 7 rfl rfl)
theorem dL_law_1005 : decode cL_law 1005 = .ok (.iconst 0, 1) := dk_3 (dk_at dksL_law_34 10 rfl rfl)
theorem dL_law_1006 : decode cL_law 1006 = .ok (.ireturn, 1) := dk_172 (dk_at dksL_law_34 11 rfl rfl)
theorem dL_law_1007 : decode cL_law 1007 = .ok (.aload_n 1, 1) := dk_43 (dk_at dksL_law_34 12 rfl rfl)
theorem dL_law_1008 : decode cL_law 1008 = .ok (.aload_n 0, 1) := dk_42 (dk_at dksL_law_34 13 rfl rfl)
theorem dL_law_1009 : decode cL_law 1009 = .ok (.iload 4, 2) := dk_21 4 (dk_at dksL_law_34 14 rfl rfl)
theorem dL_law_1011 : decode cL_law 1011 = .ok (.iconst 1, 1) := dk_4 (dk_at dksL_law_34 16 rfl rfl)
theorem dL_law_1012 : decode cL_law 1012 = .ok (.iadd, 1) := dk_96 (dk_at dksL_law_34 17 rfl rfl)
theorem dL_law_1013 : decode cL_law 1013 = .ok (.iaload, 1) := dk_46 (dk_at dksL_law_34 18 rfl rfl)
theorem dL_law_1014 : decode cL_law 1014 = .ok (.invokevirtual 132, 3) := dk_182 0 132 (dk_at dksL_law_34 19 rfl rfl)
theorem dL_law_1017 : decode cL_law 1017 = .ok (.aload_n 2, 1) := dk_44 (dk_at dksL_law_34 22 rfl rfl)
theorem dL_law_1018 : decode cL_law 1018 = .ok (.aload_n 0, 1) := dk_42 (dk_at dksL_law_34 23 rfl rfl)
theorem dL_law_1019 : decode cL_law 1019 = .ok (.iload 4, 2) := dk_21 4 (dk_at dksL_law_35 0 rfl rfl)
theorem dL_law_1021 : decode cL_law 1021 = .ok (.iconst 1, 1) := dk_4 (dk_at dksL_law_35 2 rfl rfl)
theorem dL_law_1022 : decode cL_law 1022 = .ok (.iadd, 1) := dk_96 (dk_at dksL_law_35 3 rfl rfl)
theorem dL_law_1023 : decode cL_law 1023 = .ok (.iaload, 1) := dk_46 (dk_at dksL_law_35 4 rfl rfl)
theorem dL_law_1024 : decode cL_law 1024 = .ok (.invokevirtual 135, 3) := dk_182 0 135 (dk_at dksL_law_35 5 rfl rfl)
theorem dL_law_1027 : decode cL_law 1027 = .ok (.if_icmp .eq 688, 3) := dk_159 2 176 (dk_at dksL_law_35 8 rfl rfl)
theorem dL_law_1030 : decode cL_law 1030 = .ok (.iconst 0, 1) := dk_3 (dk_at dksL_law_35 11 rfl rfl)
theorem dL_law_1031 : decode cL_law 1031 = .ok (.ireturn, 1) := dk_172 (dk_at dksL_law_35 12 rfl rfl)
theorem dL_law_1032 : decode cL_law 1032 = .ok (.aload_n 1, 1) := dk_43 (dk_at dksL_law_35 13 rfl rfl)
theorem dL_law_1033 : decode cL_law 1033 = .ok (.aload_n 0, 1) := dk_42 (dk_at dksL_law_35 14 rfl rfl)
theorem dL_law_1034 : decode cL_law 1034 = .ok (.iload 4, 2) := dk_21 4 (dk_at dksL_law_35 15 rfl rfl)
theorem dL_law_1036 : decode cL_law 1036 = .ok (.iconst 1, 1) := dk_4 (dk_at dksL_law_35 17 rfl rfl)
theorem dL_law_1037 : decode cL_law 1037 = .ok (.iadd, 1) := dk_96 (dk_at dksL_law_35 18 rfl rfl)
theorem dL_law_1038 : decode cL_law 1038 = .ok (.iaload, 1) := dk_46 (dk_at dksL_law_35 19 rfl rfl)
theorem dL_law_1039 : decode cL_law 1039 = .ok (.aload_n 0, 1) := dk_42 (dk_at dksL_law_35 20 rfl rfl)
theorem dL_law_1040 : decode cL_law 1040 = .ok (.iload 4, 2) := dk_21 4 (dk_at dksL_law_35 21 rfl rfl)
theorem dL_law_1042 : decode cL_law 1042 = .ok (.iconst 2, 1) := dk_5 (dk_at dksL_law_35 23 rfl rfl)
theorem dL_law_1043 : decode cL_law 1043 = .ok (.iadd, 1) := dk_96 (dk_at dksL_law_36 0 rfl rfl)
theorem dL_law_1044 : decode cL_law 1044 = .ok (.iaload, 1) := dk_46 (dk_at dksL_law_36 1 rfl rfl)
theorem dL_law_1045 : decode cL_law 1045 = .ok (.invokevirtual 136, 3) := dk_182 0 136 (dk_at dksL_law_36 2 rfl rfl)
theorem dL_law_1048 : decode cL_law 1048 = .ok (.aload_n 2, 1) := dk_44 (dk_at dksL_law_36 5 rfl rfl)
theorem dL_law_1049 : decode cL_law 1049 = .ok (.aload_n 0, 1) := dk_42 (dk_at dksL_law_36 6 rfl rfl)
theorem dL_law_1050 : decode cL_law 1050 = .ok (.iload 4, 2) := dk_21 4 (dk_at dksL_law_36 7 rfl rfl)
theorem dL_law_1052 : decode cL_law 1052 = .ok (.iconst 1, 1) := dk_4 (dk_at dksL_law_36 9 rfl rfl)
theorem dL_law_1053 : decode cL_law 1053 = .ok (.iadd, 1) := dk_96 (dk_at dksL_law_36 10 rfl rfl)
theorem dL_law_1054 : decode cL_law 1054 = .ok (.iaload, 1) := dk_46 (dk_at dksL_law_36 11 rfl rfl)
theorem dL_law_1055 : decode cL_law 1055 = .ok (.aload_n 0, 1) := dk_42 (dk_at dksL_law_36 12 rfl rfl)
theorem dL_law_1056 : decode cL_law 1056 = .ok (.iload 4, 2) := dk_21 4 (dk_at dksL_law_36 13 rfl rfl)
theorem dL_law_1058 : decode cL_law 1058 = .ok (.iconst 2, 1) := dk_5 (dk_at dksL_law_36 15 rfl rfl)
theorem dL_law_1059 : decode cL_law 1059 = .ok (.iadd, 1) := dk_96 (dk_at dksL_law_36 16 rfl rfl)
theorem dL_law_1060 : decode cL_law 1060 = .ok (.iaload, 1) := dk_46 (dk_at dksL_law_36 17 rfl rfl)
theorem dL_law_1061 : decode cL_law 1061 = .ok (.invokevirtual 139, 3) := dk_182 0 139 (dk_at dksL_law_36 18 rfl rfl)
theorem dL_law_1064 : decode cL_law 1064 = .ok (.if_icmp .eq 651, 3) := dk_159 2 139 (dk_at dksL_law_36 21 rfl rfl)
theorem dL_law_1067 : decode cL_law 1067 = .ok (.iconst 0, 1) := dk_3 (dk_at dksL_law_37 0 rfl rfl)
theorem dL_law_1068 : decode cL_law 1068 = .ok (.ireturn, 1) := dk_172 (dk_at dksL_law_37 1 rfl rfl)
theorem dL_law_1069 : decode cL_law 1069 = .ok (.aload_n 1, 1) := dk_43 (dk_at dksL_law_37 2 rfl rfl)
theorem dL_law_1070 : decode cL_law 1070 = .ok (.aload_n 0, 1) := dk_42 (dk_at dksL_law_37 3 rfl rfl)
theorem dL_law_1071 : decode cL_law 1071 = .ok (.iload 4, 2) := dk_21 4 (dk_at dksL_law_37 4 rfl rfl)
theorem dL_law_1073 : decode cL_law 1073 = .ok (.iconst 1, 1) := dk_4 (dk_at dksL_law_37 6 rfl rfl)
theorem dL_law_1074 : decode cL_law 1074 = .ok (.iadd, 1) := dk_96 (dk_at dksL_law_37 7 rfl rfl)
theorem dL_law_1075 : decode cL_law 1075 = .ok (.iaload, 1) := dk_46 (dk_at dksL_law_37 8 rfl rfl)
theorem dL_law_1076 : decode cL_law 1076 = .ok (.aload_n 0, 1) := dk_42 (dk_at dksL_law_37 9 rfl rfl)
theorem dL_law_1077 : decode cL_law 1077 = .ok (.iload 4, 2) := dk_21 4 (dk_at dksL_law_37 10 rfl rfl)
theorem dL_law_1079 : decode cL_law 1079 = .ok (.iconst 2, 1) := dk_5 (dk_at dksL_law_37 12 rfl rfl)
theorem dL_law_1080 : decode cL_law 1080 = .ok (.iadd, 1) := dk_96 (dk_at dksL_law_37 13 rfl rfl)
theorem dL_law_1081 : decode cL_law 1081 = .ok (.iaload, 1) := dk_46 (dk_at dksL_law_37 14 rfl rfl)
theorem dL_law_1082 : decode cL_law 1082 = .ok (.invokevirtual 140, 3) := dk_182 0 140 (dk_at dksL_law_37 15 rfl rfl)
theorem dL_law_1085 : decode cL_law 1085 = .ok (.aload_n 2, 1) := dk_44 (dk_at dksL_law_37 18 rfl rfl)
theorem dL_law_1086 : decode cL_law 1086 = .ok (.aload_n 0, 1) := dk_42 (dk_at dksL_law_37 19 rfl rfl)
theorem dL_law_1087 : decode cL_law 1087 = .ok (.iload 4, 2) := dk_21 4 (dk_at dksL_law_37 20 rfl rfl)
theorem dL_law_1089 : decode cL_law 1089 = .ok (.iconst 1, 1) := dk_4 (dk_at dksL_law_37 22 rfl rfl)
theorem dL_law_1090 : decode cL_law 1090 = .ok (.iadd, 1) := dk_96 (dk_at dksL_law_37 23 rfl rfl)
theorem dL_law_1091 : decode cL_law 1091 = .ok (.iaload, 1) := dk_46 (dk_at dksL_law_38 0 rfl rfl)
theorem dL_law_1092 : decode cL_law 1092 = .ok (.aload_n 0, 1) := dk_42 (dk_at dksL_law_38 1 rfl rfl)
theorem dL_law_1093 : decode cL_law 1093 = .ok (.iload 4, 2) := dk_21 4 (dk_at dksL_law_38 2 rfl rfl)
theorem dL_law_1095 : decode cL_law 1095 = .ok (.iconst 2, 1) := dk_5 (dk_at dksL_law_38 4 rfl rfl)
theorem dL_law_1096 : decode cL_law 1096 = .ok (.iadd, 1) := dk_96 (dk_at dksL_law_38 5 rfl rfl)
theorem dL_law_1097 : decode cL_law 1097 = .ok (.iaload, 1) := dk_46 (dk_at dksL_law_38 6 rfl rfl)
theorem dL_law_1098 : decode cL_law 1098 = .ok (.invokevirtual 143, 3) := dk_182 0 143 (dk_at dksL_law_38 7 rfl rfl)
theorem dL_law_1101 : decode cL_law 1101 = .ok (.if_icmp .eq 614, 3) := dk_159 2 102 (dk_at dksL_law_38 10 rfl rfl)
theorem dL_law_1104 : decode cL_law 1104 = .ok (.iconst 0, 1) := dk_3 (dk_at dksL_law_38 13 rfl rfl)
theorem dL_law_1105 : decode cL_law 1105 = .ok (.ireturn, 1) := dk_172 (dk_at dksL_law_38 14 rfl rfl)
theorem dL_law_1106 : decode cL_law 1106 = .ok (.aload_n 1, 1) := dk_43 (dk_at dksL_law_38 15 rfl rfl)
theorem dL_law_1107 : decode cL_law 1107 = .ok (.aload_n 0, 1) := dk_42 (dk_at dksL_law_38 16 rfl rfl)
theorem dL_law_1108 : decode cL_law 1108 = .ok (.iload 4, 2) := dk_21 4 (dk_at dksL_law_38 17 rfl rfl)
theorem dL_law_1110 : decode cL_law 1110 = .ok (.iconst 1, 1) := dk_4 (dk_at dksL_law_38 19 rfl rfl)
theorem dL_law_1111 : decode cL_law 1111 = .ok (.iadd, 1) := dk_96 (dk_at dksL_law_38 20 rfl rfl)
theorem dL_law_1112 : decode cL_law 1112 = .ok (.iaload, 1) := dk_46 (dk_at dksL_law_38 21 rfl rfl)
theorem dL_law_1113 : decode cL_law 1113 = .ok (.invokevirtual 144, 3) := dk_182 0 144 (dk_at dksL_law_39 0 rfl rfl)
theorem dL_law_1116 : decode cL_law 1116 = .ok (.aload_n 2, 1) := dk_44 (dk_at dksL_law_39 3 rfl rfl)
theorem dL_law_1117 : decode cL_law 1117 = .ok (.aload_n 0, 1) := dk_42 (dk_at dksL_law_39 4 rfl rfl)
theorem dL_law_1118 : decode cL_law 1118 = .ok (.iload 4, 2) := dk_21 4 (dk_at dksL_law_39 5 rfl rfl)
theorem dL_law_1120 : decode cL_law 1120 = .ok (.iconst 1, 1) := dk_4 (dk_at dksL_law_39 7 rfl rfl)
theorem dL_law_1121 : decode cL_law 1121 = .ok (.iadd, 1) := dk_96 (dk_at dksL_law_39 8 rfl rfl)
theorem dL_law_1122 : decode cL_law 1122 = .ok (.iaload, 1) := dk_46 (dk_at dksL_law_39 9 rfl rfl)
theorem dL_law_1123 : decode cL_law 1123 = .ok (.invokevirtual 147, 3) := dk_182 0 147 (dk_at dksL_law_39 10 rfl rfl)
theorem dL_law_1126 : decode cL_law 1126 = .ok (.if_icmp .eq 589, 3) := dk_159 2 77 (dk_at dksL_law_39 13 rfl rfl)
theorem dL_law_1129 : decode cL_law 1129 = .ok (.iconst 0, 1) := dk_3 (dk_at dksL_law_39 16 rfl rfl)
theorem dL_law_1130 : decode cL_law 1130 = .ok (.ireturn, 1) := dk_172 (dk_at dksL_law_39 17 rfl rfl)
theorem dL_law_1131 : decode cL_law 1131 = .ok (.aload_n 1, 1) := dk_43 (dk_at dksL_law_39 18 rfl rfl)
theorem dL_law_1132 : decode cL_law 1132 = .ok (.aload_n 0, 1) := dk_42 (dk_at dksL_law_39 19 rfl rfl)
theorem dL_law_1133 : decode cL_law 1133 = .ok (.iload 4, 2) := dk_21 4 (dk_at dksL_law_39 20 rfl rfl)
theorem dL_law_1135 : decode cL_law 1135 = .ok (.iconst 1, 1) := dk_4 (dk_at dksL_law_39 22 rfl rfl)
theorem dL_law_1136 : decode cL_law 1136 = .ok (.iadd, 1) := dk_96 (dk_at dksL_law_39 23 rfl rfl)
theorem dL_law_1137 : decode cL_law 1137 = .ok (.iaload, 1) := dk_46 (dk_at dksL_law_40 0 rfl rfl)
theorem dL_law_1138 : decode cL_law 1138 = .ok (.aload_n 0, 1) := dk_42 (dk_at dksL_law_40 1 rfl rfl)
theorem dL_law_1139 : decode cL_law 1139 = .ok (.iload 4, 2) := dk_21 4 (dk_at dksL_law_40 2 rfl rfl)
theorem dL_law_1141 : decode cL_law 1141 = .ok (.iconst 2, 1) := dk_5 (dk_at dksL_law_40 4 rfl rfl)
theorem dL_law_1142 : decode cL_law 1142 = .ok (.iadd, 1) := dk_96 (dk_at dksL_law_40 5 rfl rfl)
theorem dL_law_1143 : decode cL_law 1143 = .ok (.iaload, 1) := dk_46 (dk_at dksL_law_40 6 rfl rfl)
theorem dL_law_1144 : decode cL_law 1144 = .ok (.ifCond .eq 7, 3) := dk_153 0 7 (dk_at dksL_law_40 7 rfl rfl)
theorem dL_law_1147 : decode cL_law 1147 = .ok (.iconst 1, 1) := dk_4 (dk_at dksL_law_40 10 rfl rfl)
theorem dL_law_1148 : decode cL_law 1148 = .ok (.goto 4, 3) := dk_167 0 4 (dk_at dksL_law_40 11 rfl rfl)
theorem dL_law_1151 : decode cL_law 1151 = .ok (.iconst 0, 1) := dk_3 (dk_at dksL_law_40 14 rfl rfl)
theorem dL_law_1152 : decode cL_law 1152 = .ok (.invokevirtual 148, 3) := dk_182 0 148 (dk_at dksL_law_40 15 rfl rfl)
theorem dL_law_1155 : decode cL_law 1155 = .ok (.aload_n 2, 1) := dk_44 (dk_at dksL_law_40 18 rfl rfl)
theorem dL_law_1156 : decode cL_law 1156 = .ok (.aload_n 0, 1) := dk_42 (dk_at dksL_law_40 19 rfl rfl)
theorem dL_law_1157 : decode cL_law 1157 = .ok (.iload 4, 2) := dk_21 4 (dk_at dksL_law_40 20 rfl rfl)
theorem dL_law_1159 : decode cL_law 1159 = .ok (.iconst 1, 1) := dk_4 (dk_at dksL_law_40 22 rfl rfl)
theorem dL_law_1160 : decode cL_law 1160 = .ok (.iadd, 1) := dk_96 (dk_at dksL_law_40 23 rfl rfl)
theorem dL_law_1161 : decode cL_law 1161 = .ok (.iaload, 1) := dk_46 (dk_at dksL_law_41 0 rfl rfl)
theorem dL_law_1162 : decode cL_law 1162 = .ok (.aload_n 0, 1) := dk_42 (dk_at dksL_law_41 1 rfl rfl)
theorem dL_law_1163 : decode cL_law 1163 = .ok (.iload 4, 2) := dk_21 4 (dk_at dksL_law_41 2 rfl rfl)
theorem dL_law_1165 : decode cL_law 1165 = .ok (.iconst 2, 1) := dk_5 (dk_at dksL_law_41 4 rfl rfl)
theorem dL_law_1166 : decode cL_law 1166 = .ok (.iadd, 1) := dk_96 (dk_at dksL_law_41 5 rfl rfl)
theorem dL_law_1167 : decode cL_law 1167 = .ok (.iaload, 1) := dk_46 (dk_at dksL_law_41 6 rfl rfl)
theorem dL_law_1168 : decode cL_law 1168 = .ok (.ifCond .eq 7, 3) := dk_153 0 7 (dk_at dksL_law_41 7 rfl rfl)
theorem dL_law_1171 : decode cL_law 1171 = .ok (.iconst 1, 1) := dk_4 (dk_at dksL_law_41 10 rfl rfl)
theorem dL_law_1172 : decode cL_law 1172 = .ok (.goto 4, 3) := dk_167 0 4 (dk_at dksL_law_41 11 rfl rfl)
theorem dL_law_1175 : decode cL_law 1175 = .ok (.iconst 0, 1) := dk_3 (dk_at dksL_law_41 14 rfl rfl)
theorem dL_law_1176 : decode cL_law 1176 = .ok (.invokevirtual 152, 3) := dk_182 0 152 (dk_at dksL_law_41 15 rfl rfl)
theorem dL_law_1179 : decode cL_law 1179 = .ok (.if_icmp .eq 536, 3) := dk_159 2 24 (dk_at dksL_law_41 18 rfl rfl)
theorem dL_law_1182 : decode cL_law 1182 = .ok (.iconst 0, 1) := dk_3 (dk_at dksL_law_41 21 rfl rfl)
theorem dL_law_1183 : decode cL_law 1183 = .ok (.ireturn, 1) := dk_172 (dk_at dksL_law_41 22 rfl rfl)
theorem dL_law_1184 : decode cL_law 1184 = .ok (.aload_n 1, 1) := dk_43 (dk_at dksL_law_41 23 rfl rfl)
theorem dL_law_1185 : decode cL_law 1185 = .ok (.aload_n 0, 1) := dk_42 (dk_at dksL_law_42 0 rfl rfl)
theorem dL_law_1186 : decode cL_law 1186 = .ok (.iload 4, 2) := dk_21 4 (dk_at dksL_law_42 1 rfl rfl)
theorem dL_law_1188 : decode cL_law 1188 = .ok (.iconst 1, 1) := dk_4 (dk_at dksL_law_42 3 rfl rfl)
theorem dL_law_1189 : decode cL_law 1189 = .ok (.iadd, 1) := dk_96 (dk_at dksL_law_42 4 rfl rfl)
theorem dL_law_1190 : decode cL_law 1190 = .ok (.iaload, 1) := dk_46 (dk_at dksL_law_42 5 rfl rfl)
theorem dL_law_1191 : decode cL_law 1191 = .ok (.invokevirtual 153, 3) := dk_182 0 153 (dk_at dksL_law_42 6 rfl rfl)
theorem dL_law_1194 : decode cL_law 1194 = .ok (.aload_n 2, 1) := dk_44 (dk_at dksL_law_42 9 rfl rfl)
theorem dL_law_1195 : decode cL_law 1195 = .ok (.aload_n 0, 1) := dk_42 (dk_at dksL_law_42 10 rfl rfl)
theorem dL_law_1196 : decode cL_law 1196 = .ok (.iload 4, 2) := dk_21 4 (dk_at dksL_law_42 11 rfl rfl)
theorem dL_law_1198 : decode cL_law 1198 = .ok (.iconst 1, 1) := dk_4 (dk_at dksL_law_42 13 rfl rfl)
theorem dL_law_1199 : decode cL_law 1199 = .ok (.iadd, 1) := dk_96 (dk_at dksL_law_42 14 rfl rfl)
theorem dL_law_1200 : decode cL_law 1200 = .ok (.iaload, 1) := dk_46 (dk_at dksL_law_42 15 rfl rfl)
theorem dL_law_1201 : decode cL_law 1201 = .ok (.invokevirtual 156, 3) := dk_182 0 156 (dk_at dksL_law_42 16 rfl rfl)
theorem dL_law_1204 : decode cL_law 1204 = .ok (.if_icmp .eq 511, 3) := dk_159 1 255 (dk_at dksL_law_42 19 rfl rfl)
theorem dL_law_1207 : decode cL_law 1207 = .ok (.iconst 0, 1) := dk_3 (dk_at dksL_law_42 22 rfl rfl)
theorem dL_law_1208 : decode cL_law 1208 = .ok (.ireturn, 1) := dk_172 (dk_at dksL_law_42 23 rfl rfl)
theorem dL_law_1209 : decode cL_law 1209 = .ok (.aload_n 1, 1) := dk_43 (dk_at dksL_law_43 0 rfl rfl)
theorem dL_law_1210 : decode cL_law 1210 = .ok (.invokevirtual 157, 3) := dk_182 0 157 (dk_at dksL_law_43 1 rfl rfl)
theorem dL_law_1213 : decode cL_law 1213 = .ok (.aload_n 2, 1) := dk_44 (dk_at dksL_law_43 4 rfl rfl)
theorem dL_law_1214 : decode cL_law 1214 = .ok (.invokevirtual 160, 3) := dk_182 0 160 (dk_at dksL_law_43 5 rfl rfl)
theorem dL_law_1217 : decode cL_law 1217 = .ok (.if_icmp .eq 498, 3) := dk_159 1 242 (dk_at dksL_law_43 8 rfl rfl)
theorem dL_law_1220 : decode cL_law 1220 = .ok (.iconst 0, 1) := dk_3 (dk_at dksL_law_43 11 rfl rfl)
theorem dL_law_1221 : decode cL_law 1221 = .ok (.ireturn, 1) := dk_172 (dk_at dksL_law_43 12 rfl rfl)
theorem dL_law_1222 : decode cL_law 1222 = .ok (.aload_n 1, 1) := dk_43 (dk_at dksL_law_43 13 rfl rfl)
theorem dL_law_1223 : decode cL_law 1223 = .ok (.aload_n 0, 1) := dk_42 (dk_at dksL_law_43 14 rfl rfl)
theorem dL_law_1224 : decode cL_law 1224 = .ok (.iload 4, 2) := dk_21 4 (dk_at dksL_law_43 15 rfl rfl)
theorem dL_law_1226 : decode cL_law 1226 = .ok (.iconst 1, 1) := dk_4 (dk_at dksL_law_43 17 rfl rfl)
theorem dL_law_1227 : decode cL_law 1227 = .ok (.iadd, 1) := dk_96 (dk_at dksL_law_43 18 rfl rfl)
theorem dL_law_1228 : decode cL_law 1228 = .ok (.iaload, 1) := dk_46 (dk_at dksL_law_43 19 rfl rfl)
theorem dL_law_1229 : decode cL_law 1229 = .ok (.aload_n 0, 1) := dk_42 (dk_at dksL_law_43 20 rfl rfl)
theorem dL_law_1230 : decode cL_law 1230 = .ok (.iload 4, 2) := dk_21 4 (dk_at dksL_law_43 21 rfl rfl)
theorem dL_law_1232 : decode cL_law 1232 = .ok (.iconst 2, 1) := dk_5 (dk_at dksL_law_43 23 rfl rfl)
theorem dL_law_1233 : decode cL_law 1233 = .ok (.iadd, 1) := dk_96 (dk_at dksL_law_44 0 rfl rfl)
theorem dL_law_1234 : decode cL_law 1234 = .ok (.iaload, 1) := dk_46 (dk_at dksL_law_44 1 rfl rfl)
theorem dL_law_1235 : decode cL_law 1235 = .ok (.invokevirtual 161, 3) := dk_182 0 161 (dk_at dksL_law_44 2 rfl rfl)
theorem dL_law_1238 : decode cL_law 1238 = .ok (.aload_n 2, 1) := dk_44 (dk_at dksL_law_44 5 rfl rfl)
theorem dL_law_1239 : decode cL_law 1239 = .ok (.aload_n 0, 1) := dk_42 (dk_at dksL_law_44 6 rfl rfl)
theorem dL_law_1240 : decode cL_law 1240 = .ok (.iload 4, 2) := dk_21 4 (dk_at dksL_law_44 7 rfl rfl)
theorem dL_law_1242 : decode cL_law 1242 = .ok (.iconst 1, 1) := dk_4 (dk_at dksL_law_44 9 rfl rfl)
theorem dL_law_1243 : decode cL_law 1243 = .ok (.iadd, 1) := dk_96 (dk_at dksL_law_44 10 rfl rfl)
theorem dL_law_1244 : decode cL_law 1244 = .ok (.iaload, 1) := dk_46 (dk_at dksL_law_44 11 rfl rfl)
theorem dL_law_1245 : decode cL_law 1245 = .ok (.aload_n 0, 1) := dk_42 (dk_at dksL_law_44 12 rfl rfl)
theorem dL_law_1246 : decode cL_law 1246 = .ok (.iload 4, 2) := dk_21 4 (dk_at dksL_law_44 13 rfl rfl)
theorem dL_law_1248 : decode cL_law 1248 = .ok (.iconst 2, 1) := dk_5 (dk_at dksL_law_44 15 rfl rfl)
theorem dL_law_1249 : decode cL_law 1249 = .ok (.iadd, 1) := dk_96 (dk_at dksL_law_44 16 rfl rfl)
theorem dL_law_1250 : decode cL_law 1250 = .ok (.iaload, 1) := dk_46 (dk_at dksL_law_44 17 rfl rfl)
theorem dL_law_1251 : decode cL_law 1251 = .ok (.invokevirtual 164, 3) := dk_182 0 164 (dk_at dksL_law_44 18 rfl rfl)
theorem dL_law_1254 : decode cL_law 1254 = .ok (.if_icmp .eq 461, 3) := dk_159 1 205 (dk_at dksL_law_44 21 rfl rfl)
theorem dL_law_1257 : decode cL_law 1257 = .ok (.iconst 0, 1) := dk_3 (dk_at dksL_law_45 0 rfl rfl)
theorem dL_law_1258 : decode cL_law 1258 = .ok (.ireturn, 1) := dk_172 (dk_at dksL_law_45 1 rfl rfl)
theorem dL_law_1259 : decode cL_law 1259 = .ok (.aload_n 1, 1) := dk_43 (dk_at dksL_law_45 2 rfl rfl)
theorem dL_law_1260 : decode cL_law 1260 = .ok (.aload_n 0, 1) := dk_42 (dk_at dksL_law_45 3 rfl rfl)
theorem dL_law_1261 : decode cL_law 1261 = .ok (.iload 4, 2) := dk_21 4 (dk_at dksL_law_45 4 rfl rfl)
theorem dL_law_1263 : decode cL_law 1263 = .ok (.iconst 1, 1) := dk_4 (dk_at dksL_law_45 6 rfl rfl)
theorem dL_law_1264 : decode cL_law 1264 = .ok (.iadd, 1) := dk_96 (dk_at dksL_law_45 7 rfl rfl)
theorem dL_law_1265 : decode cL_law 1265 = .ok (.iaload, 1) := dk_46 (dk_at dksL_law_45 8 rfl rfl)
theorem dL_law_1266 : decode cL_law 1266 = .ok (.invokevirtual 165, 3) := dk_182 0 165 (dk_at dksL_law_45 9 rfl rfl)
theorem dL_law_1269 : decode cL_law 1269 = .ok (.aload_n 2, 1) := dk_44 (dk_at dksL_law_45 12 rfl rfl)
theorem dL_law_1270 : decode cL_law 1270 = .ok (.aload_n 0, 1) := dk_42 (dk_at dksL_law_45 13 rfl rfl)
theorem dL_law_1271 : decode cL_law 1271 = .ok (.iload 4, 2) := dk_21 4 (dk_at dksL_law_45 14 rfl rfl)
theorem dL_law_1273 : decode cL_law 1273 = .ok (.iconst 1, 1) := dk_4 (dk_at dksL_law_45 16 rfl rfl)
theorem dL_law_1274 : decode cL_law 1274 = .ok (.iadd, 1) := dk_96 (dk_at dksL_law_45 17 rfl rfl)
theorem dL_law_1275 : decode cL_law 1275 = .ok (.iaload, 1) := dk_46 (dk_at dksL_law_45 18 rfl rfl)
theorem dL_law_1276 : decode cL_law 1276 = .ok (.invokevirtual 168, 3) := dk_182 0 168 (dk_at dksL_law_45 19 rfl rfl)
theorem dL_law_1279 : decode cL_law 1279 = .ok (.if_icmp .eq 436, 3) := dk_159 1 180 (dk_at dksL_law_46 0 rfl rfl)
theorem dL_law_1282 : decode cL_law 1282 = .ok (.iconst 0, 1) := dk_3 (dk_at dksL_law_46 3 rfl rfl)
theorem dL_law_1283 : decode cL_law 1283 = .ok (.ireturn, 1) := dk_172 (dk_at dksL_law_46 4 rfl rfl)
theorem dL_law_1284 : decode cL_law 1284 = .ok (.aload_n 1, 1) := dk_43 (dk_at dksL_law_46 5 rfl rfl)
theorem dL_law_1285 : decode cL_law 1285 = .ok (.invokevirtual 169, 3) := dk_182 0 169 (dk_at dksL_law_46 6 rfl rfl)
theorem dL_law_1288 : decode cL_law 1288 = .ok (.aload_n 2, 1) := dk_44 (dk_at dksL_law_46 9 rfl rfl)
theorem dL_law_1289 : decode cL_law 1289 = .ok (.invokevirtual 172, 3) := dk_182 0 172 (dk_at dksL_law_46 10 rfl rfl)
theorem dL_law_1292 : decode cL_law 1292 = .ok (.if_icmp .eq 423, 3) := dk_159 1 167 (dk_at dksL_law_46 13 rfl rfl)
theorem dL_law_1295 : decode cL_law 1295 = .ok (.iconst 0, 1) := dk_3 (dk_at dksL_law_46 16 rfl rfl)
theorem dL_law_1296 : decode cL_law 1296 = .ok (.ireturn, 1) := dk_172 (dk_at dksL_law_46 17 rfl rfl)
theorem dL_law_1297 : decode cL_law 1297 = .ok (.aload_n 1, 1) := dk_43 (dk_at dksL_law_46 18 rfl rfl)
theorem dL_law_1298 : decode cL_law 1298 = .ok (.aload_n 0, 1) := dk_42 (dk_at dksL_law_46 19 rfl rfl)
theorem dL_law_1299 : decode cL_law 1299 = .ok (.iload 4, 2) := dk_21 4 (dk_at dksL_law_46 20 rfl rfl)
theorem dL_law_1301 : decode cL_law 1301 = .ok (.iconst 1, 1) := dk_4 (dk_at dksL_law_46 22 rfl rfl)
theorem dL_law_1302 : decode cL_law 1302 = .ok (.iadd, 1) := dk_96 (dk_at dksL_law_46 23 rfl rfl)
theorem dL_law_1303 : decode cL_law 1303 = .ok (.iaload, 1) := dk_46 (dk_at dksL_law_47 0 rfl rfl)
theorem dL_law_1304 : decode cL_law 1304 = .ok (.aload_n 0, 1) := dk_42 (dk_at dksL_law_47 1 rfl rfl)
theorem dL_law_1305 : decode cL_law 1305 = .ok (.iload 4, 2) := dk_21 4 (dk_at dksL_law_47 2 rfl rfl)
theorem dL_law_1307 : decode cL_law 1307 = .ok (.iconst 2, 1) := dk_5 (dk_at dksL_law_47 4 rfl rfl)
theorem dL_law_1308 : decode cL_law 1308 = .ok (.iadd, 1) := dk_96 (dk_at dksL_law_47 5 rfl rfl)
theorem dL_law_1309 : decode cL_law 1309 = .ok (.iaload, 1) := dk_46 (dk_at dksL_law_47 6 rfl rfl)
theorem dL_law_1310 : decode cL_law 1310 = .ok (.invokevirtual 173, 3) := dk_182 0 173 (dk_at dksL_law_47 7 rfl rfl)
theorem dL_law_1313 : decode cL_law 1313 = .ok (.aload_n 2, 1) := dk_44 (dk_at dksL_law_47 10 rfl rfl)
theorem dL_law_1314 : decode cL_law 1314 = .ok (.aload_n 0, 1) := dk_42 (dk_at dksL_law_47 11 rfl rfl)
theorem dL_law_1315 : decode cL_law 1315 = .ok (.iload 4, 2) := dk_21 4 (dk_at dksL_law_47 12 rfl rfl)
theorem dL_law_1317 : decode cL_law 1317 = .ok (.iconst 1, 1) := dk_4 (dk_at dksL_law_47 14 rfl rfl)
theorem dL_law_1318 : decode cL_law 1318 = .ok (.iadd, 1) := dk_96 (dk_at dksL_law_47 15 rfl rfl)
theorem dL_law_1319 : decode cL_law 1319 = .ok (.iaload, 1) := dk_46 (dk_at dksL_law_47 16 rfl rfl)
theorem dL_law_1320 : decode cL_law 1320 = .ok (.aload_n 0, 1) := dk_42 (dk_at dksL_law_47 17 rfl rfl)
theorem dL_law_1321 : decode cL_law 1321 = .ok (.iload 4, 2) := dk_21 4 (dk_at dksL_law_47 18 rfl rfl)
theorem dL_law_1323 : decode cL_law 1323 = .ok (.iconst 2, 1) := dk_5 (dk_at dksL_law_47 20 rfl rfl)
theorem dL_law_1324 : decode cL_law 1324 = .ok (.iadd, 1) := dk_96 (dk_at dksL_law_47 21 rfl rfl)
theorem dL_law_1325 : decode cL_law 1325 = .ok (.iaload, 1) := dk_46 (dk_at dksL_law_47 22 rfl rfl)
theorem dL_law_1326 : decode cL_law 1326 = .ok (.invokevirtual 176, 3) := dk_182 0 176 (dk_at dksL_law_48 0 rfl rfl)
theorem dL_law_1329 : decode cL_law 1329 = .ok (.if_icmp .eq 386, 3) := dk_159 1 130 (dk_at dksL_law_48 3 rfl rfl)
theorem dL_law_1332 : decode cL_law 1332 = .ok (.iconst 0, 1) := dk_3 (dk_at dksL_law_48 6 rfl rfl)
theorem dL_law_1333 : decode cL_law 1333 = .ok (.ireturn, 1) := dk_172 (dk_at dksL_law_48 7 rfl rfl)
theorem dL_law_1334 : decode cL_law 1334 = .ok (.aload_n 1, 1) := dk_43 (dk_at dksL_law_48 8 rfl rfl)
theorem dL_law_1335 : decode cL_law 1335 = .ok (.invokevirtual 177, 3) := dk_182 0 177 (dk_at dksL_law_48 9 rfl rfl)
theorem dL_law_1338 : decode cL_law 1338 = .ok (.aload_n 2, 1) := dk_44 (dk_at dksL_law_48 12 rfl rfl)
theorem dL_law_1339 : decode cL_law 1339 = .ok (.invokevirtual 180, 3) := dk_182 0 180 (dk_at dksL_law_48 13 rfl rfl)
theorem dL_law_1342 : decode cL_law 1342 = .ok (.if_icmp .eq 373, 3) := dk_159 1 117 (dk_at dksL_law_48 16 rfl rfl)
theorem dL_law_1345 : decode cL_law 1345 = .ok (.iconst 0, 1) := dk_3 (dk_at dksL_law_48 19 rfl rfl)
theorem dL_law_1346 : decode cL_law 1346 = .ok (.ireturn, 1) := dk_172 (dk_at dksL_law_48 20 rfl rfl)
theorem dL_law_1347 : decode cL_law 1347 = .ok (.aload_n 1, 1) := dk_43 (dk_at dksL_law_48 21 rfl rfl)
theorem dL_law_1348 : decode cL_law 1348 = .ok (.aload_n 0, 1) := dk_42 (dk_at dksL_law_48 22 rfl rfl)
theorem dL_law_1349 : decode cL_law 1349 = .ok (.iload 4, 2) := dk_21 4 (dk_at dksL_law_49 0 rfl rfl)
theorem dL_law_1351 : decode cL_law 1351 = .ok (.iconst 1, 1) := dk_4 (dk_at dksL_law_49 2 rfl rfl)
theorem dL_law_1352 : decode cL_law 1352 = .ok (.iadd, 1) := dk_96 (dk_at dksL_law_49 3 rfl rfl)
theorem dL_law_1353 : decode cL_law 1353 = .ok (.iaload, 1) := dk_46 (dk_at dksL_law_49 4 rfl rfl)
theorem dL_law_1354 : decode cL_law 1354 = .ok (.invokevirtual 181, 3) := dk_182 0 181 (dk_at dksL_law_49 5 rfl rfl)
theorem dL_law_1357 : decode cL_law 1357 = .ok (.aload_n 2, 1) := dk_44 (dk_at dksL_law_49 8 rfl rfl)
theorem dL_law_1358 : decode cL_law 1358 = .ok (.aload_n 0, 1) := dk_42 (dk_at dksL_law_49 9 rfl rfl)
theorem dL_law_1359 : decode cL_law 1359 = .ok (.iload 4, 2) := dk_21 4 (dk_at dksL_law_49 10 rfl rfl)
theorem dL_law_1361 : decode cL_law 1361 = .ok (.iconst 1, 1) := dk_4 (dk_at dksL_law_49 12 rfl rfl)
theorem dL_law_1362 : decode cL_law 1362 = .ok (.iadd, 1) := dk_96 (dk_at dksL_law_49 13 rfl rfl)
theorem dL_law_1363 : decode cL_law 1363 = .ok (.iaload, 1) := dk_46 (dk_at dksL_law_49 14 rfl rfl)
theorem dL_law_1364 : decode cL_law 1364 = .ok (.invokevirtual 184, 3) := dk_182 0 184 (dk_at dksL_law_49 15 rfl rfl)
theorem dL_law_1367 : decode cL_law 1367 = .ok (.if_icmp .eq 348, 3) := dk_159 1 92 (dk_at dksL_law_49 18 rfl rfl)
theorem dL_law_1370 : decode cL_law 1370 = .ok (.iconst 0, 1) := dk_3 (dk_at dksL_law_49 21 rfl rfl)
theorem dL_law_1371 : decode cL_law 1371 = .ok (.ireturn, 1) := dk_172 (dk_at dksL_law_49 22 rfl rfl)
theorem dL_law_1372 : decode cL_law 1372 = .ok (.aload_n 1, 1) := dk_43 (dk_at dksL_law_49 23 rfl rfl)
theorem dL_law_1373 : decode cL_law 1373 = .ok (.aload_n 0, 1) := dk_42 (dk_at dksL_law_50 0 rfl rfl)
theorem dL_law_1374 : decode cL_law 1374 = .ok (.iload 4, 2) := dk_21 4 (dk_at dksL_law_50 1 rfl rfl)
theorem dL_law_1376 : decode cL_law 1376 = .ok (.iconst 1, 1) := dk_4 (dk_at dksL_law_50 3 rfl rfl)
theorem dL_law_1377 : decode cL_law 1377 = .ok (.iadd, 1) := dk_96 (dk_at dksL_law_50 4 rfl rfl)
theorem dL_law_1378 : decode cL_law 1378 = .ok (.iaload, 1) := dk_46 (dk_at dksL_law_50 5 rfl rfl)
theorem dL_law_1379 : decode cL_law 1379 = .ok (.aload_n 0, 1) := dk_42 (dk_at dksL_law_50 6 rfl rfl)
theorem dL_law_1380 : decode cL_law 1380 = .ok (.iload 4, 2) := dk_21 4 (dk_at dksL_law_50 7 rfl rfl)
theorem dL_law_1382 : decode cL_law 1382 = .ok (.iconst 2, 1) := dk_5 (dk_at dksL_law_50 9 rfl rfl)
theorem dL_law_1383 : decode cL_law 1383 = .ok (.iadd, 1) := dk_96 (dk_at dksL_law_50 10 rfl rfl)
theorem dL_law_1384 : decode cL_law 1384 = .ok (.iaload, 1) := dk_46 (dk_at dksL_law_50 11 rfl rfl)
theorem dL_law_1385 : decode cL_law 1385 = .ok (.invokevirtual 185, 3) := dk_182 0 185 (dk_at dksL_law_50 12 rfl rfl)
theorem dL_law_1388 : decode cL_law 1388 = .ok (.aload_n 2, 1) := dk_44 (dk_at dksL_law_50 15 rfl rfl)
theorem dL_law_1389 : decode cL_law 1389 = .ok (.aload_n 0, 1) := dk_42 (dk_at dksL_law_50 16 rfl rfl)
theorem dL_law_1390 : decode cL_law 1390 = .ok (.iload 4, 2) := dk_21 4 (dk_at dksL_law_50 17 rfl rfl)
theorem dL_law_1392 : decode cL_law 1392 = .ok (.iconst 1, 1) := dk_4 (dk_at dksL_law_50 19 rfl rfl)
theorem dL_law_1393 : decode cL_law 1393 = .ok (.iadd, 1) := dk_96 (dk_at dksL_law_50 20 rfl rfl)
theorem dL_law_1394 : decode cL_law 1394 = .ok (.iaload, 1) := dk_46 (dk_at dksL_law_50 21 rfl rfl)
theorem dL_law_1395 : decode cL_law 1395 = .ok (.aload_n 0, 1) := dk_42 (dk_at dksL_law_50 22 rfl rfl)
theorem dL_law_1396 : decode cL_law 1396 = .ok (.iload 4, 2) := dk_21 4 (dk_at dksL_law_51 0 rfl rfl)
theorem dL_law_1398 : decode cL_law 1398 = .ok (.iconst 2, 1) := dk_5 (dk_at dksL_law_51 2 rfl rfl)
theorem dL_law_1399 : decode cL_law 1399 = .ok (.iadd, 1) := dk_96 (dk_at dksL_law_51 3 rfl rfl)
theorem dL_law_1400 : decode cL_law 1400 = .ok (.iaload, 1) := dk_46 (dk_at dksL_law_51 4 rfl rfl)
theorem dL_law_1401 : decode cL_law 1401 = .ok (.invokevirtual 189, 3) := dk_182 0 189 (dk_at dksL_law_51 5 rfl rfl)
theorem dL_law_1404 : decode cL_law 1404 = .ok (.if_icmp .eq 311, 3) := dk_159 1 55 (dk_at dksL_law_51 8 rfl rfl)
theorem dL_law_1407 : decode cL_law 1407 = .ok (.iconst 0, 1) := dk_3 (dk_at dksL_law_51 11 rfl rfl)
theorem dL_law_1408 : decode cL_law 1408 = .ok (.ireturn, 1) := dk_172 (dk_at dksL_law_51 12 rfl rfl)
theorem dL_law_1409 : decode cL_law 1409 = .ok (.aload_n 1, 1) := dk_43 (dk_at dksL_law_51 13 rfl rfl)
theorem dL_law_1410 : decode cL_law 1410 = .ok (.aload_n 0, 1) := dk_42 (dk_at dksL_law_51 14 rfl rfl)
theorem dL_law_1411 : decode cL_law 1411 = .ok (.iload 4, 2) := dk_21 4 (dk_at dksL_law_51 15 rfl rfl)
theorem dL_law_1413 : decode cL_law 1413 = .ok (.iconst 1, 1) := dk_4 (dk_at dksL_law_51 17 rfl rfl)
theorem dL_law_1414 : decode cL_law 1414 = .ok (.iadd, 1) := dk_96 (dk_at dksL_law_51 18 rfl rfl)
theorem dL_law_1415 : decode cL_law 1415 = .ok (.iaload, 1) := dk_46 (dk_at dksL_law_51 19 rfl rfl)
theorem dL_law_1416 : decode cL_law 1416 = .ok (.aload_n 0, 1) := dk_42 (dk_at dksL_law_51 20 rfl rfl)
theorem dL_law_1417 : decode cL_law 1417 = .ok (.iload 4, 2) := dk_21 4 (dk_at dksL_law_51 21 rfl rfl)
theorem dL_law_1419 : decode cL_law 1419 = .ok (.iconst 2, 1) := dk_5 (dk_at dksL_law_51 23 rfl rfl)
theorem dL_law_1420 : decode cL_law 1420 = .ok (.iadd, 1) := dk_96 (dk_at dksL_law_52 0 rfl rfl)
theorem dL_law_1421 : decode cL_law 1421 = .ok (.iaload, 1) := dk_46 (dk_at dksL_law_52 1 rfl rfl)
theorem dL_law_1422 : decode cL_law 1422 = .ok (.invokevirtual 190, 3) := dk_182 0 190 (dk_at dksL_law_52 2 rfl rfl)
theorem dL_law_1425 : decode cL_law 1425 = .ok (.aload_n 2, 1) := dk_44 (dk_at dksL_law_52 5 rfl rfl)
theorem dL_law_1426 : decode cL_law 1426 = .ok (.aload_n 0, 1) := dk_42 (dk_at dksL_law_52 6 rfl rfl)
theorem dL_law_1427 : decode cL_law 1427 = .ok (.iload 4, 2) := dk_21 4 (dk_at dksL_law_52 7 rfl rfl)
theorem dL_law_1429 : decode cL_law 1429 = .ok (.iconst 1, 1) := dk_4 (dk_at dksL_law_52 9 rfl rfl)
theorem dL_law_1430 : decode cL_law 1430 = .ok (.iadd, 1) := dk_96 (dk_at dksL_law_52 10 rfl rfl)
theorem dL_law_1431 : decode cL_law 1431 = .ok (.iaload, 1) := dk_46 (dk_at dksL_law_52 11 rfl rfl)
theorem dL_law_1432 : decode cL_law 1432 = .ok (.aload_n 0, 1) := dk_42 (dk_at dksL_law_52 12 rfl rfl)
theorem dL_law_1433 : decode cL_law 1433 = .ok (.iload 4, 2) := dk_21 4 (dk_at dksL_law_52 13 rfl rfl)
theorem dL_law_1435 : decode cL_law 1435 = .ok (.iconst 2, 1) := dk_5 (dk_at dksL_law_52 15 rfl rfl)
theorem dL_law_1436 : decode cL_law 1436 = .ok (.iadd, 1) := dk_96 (dk_at dksL_law_52 16 rfl rfl)
theorem dL_law_1437 : decode cL_law 1437 = .ok (.iaload, 1) := dk_46 (dk_at dksL_law_52 17 rfl rfl)
theorem dL_law_1438 : decode cL_law 1438 = .ok (.invokevirtual 193, 3) := dk_182 0 193 (dk_at dksL_law_52 18 rfl rfl)
theorem dL_law_1441 : decode cL_law 1441 = .ok (.if_icmp .eq 274, 3) := dk_159 1 18 (dk_at dksL_law_52 21 rfl rfl)
theorem dL_law_1444 : decode cL_law 1444 = .ok (.iconst 0, 1) := dk_3 (dk_at dksL_law_53 0 rfl rfl)
theorem dL_law_1445 : decode cL_law 1445 = .ok (.ireturn, 1) := dk_172 (dk_at dksL_law_53 1 rfl rfl)
theorem dL_law_1446 : decode cL_law 1446 = .ok (.aload_n 1, 1) := dk_43 (dk_at dksL_law_53 2 rfl rfl)
theorem dL_law_1447 : decode cL_law 1447 = .ok (.aload_n 0, 1) := dk_42 (dk_at dksL_law_53 3 rfl rfl)
theorem dL_law_1448 : decode cL_law 1448 = .ok (.iload 4, 2) := dk_21 4 (dk_at dksL_law_53 4 rfl rfl)
theorem dL_law_1450 : decode cL_law 1450 = .ok (.iconst 1, 1) := dk_4 (dk_at dksL_law_53 6 rfl rfl)
theorem dL_law_1451 : decode cL_law 1451 = .ok (.iadd, 1) := dk_96 (dk_at dksL_law_53 7 rfl rfl)
theorem dL_law_1452 : decode cL_law 1452 = .ok (.iaload, 1) := dk_46 (dk_at dksL_law_53 8 rfl rfl)
theorem dL_law_1453 : decode cL_law 1453 = .ok (.invokevirtual 194, 3) := dk_182 0 194 (dk_at dksL_law_53 9 rfl rfl)
theorem dL_law_1456 : decode cL_law 1456 = .ok (.aload_n 2, 1) := dk_44 (dk_at dksL_law_53 12 rfl rfl)
theorem dL_law_1457 : decode cL_law 1457 = .ok (.aload_n 0, 1) := dk_42 (dk_at dksL_law_53 13 rfl rfl)
theorem dL_law_1458 : decode cL_law 1458 = .ok (.iload 4, 2) := dk_21 4 (dk_at dksL_law_53 14 rfl rfl)
theorem dL_law_1460 : decode cL_law 1460 = .ok (.iconst 1, 1) := dk_4 (dk_at dksL_law_53 16 rfl rfl)
theorem dL_law_1461 : decode cL_law 1461 = .ok (.iadd, 1) := dk_96 (dk_at dksL_law_53 17 rfl rfl)
theorem dL_law_1462 : decode cL_law 1462 = .ok (.iaload, 1) := dk_46 (dk_at dksL_law_53 18 rfl rfl)
theorem dL_law_1463 : decode cL_law 1463 = .ok (.invokevirtual 197, 3) := dk_182 0 197 (dk_at dksL_law_53 19 rfl rfl)
theorem dL_law_1466 : decode cL_law 1466 = .ok (.if_icmp .eq 249, 3) := dk_159 0 249 (dk_at dksL_law_54 0 rfl rfl)
theorem dL_law_1469 : decode cL_law 1469 = .ok (.iconst 0, 1) := dk_3 (dk_at dksL_law_54 3 rfl rfl)
theorem dL_law_1470 : decode cL_law 1470 = .ok (.ireturn, 1) := dk_172 (dk_at dksL_law_54 4 rfl rfl)
theorem dL_law_1471 : decode cL_law 1471 = .ok (.aload_n 1, 1) := dk_43 (dk_at dksL_law_54 5 rfl rfl)
theorem dL_law_1472 : decode cL_law 1472 = .ok (.aload_n 0, 1) := dk_42 (dk_at dksL_law_54 6 rfl rfl)
theorem dL_law_1473 : decode cL_law 1473 = .ok (.iload 4, 2) := dk_21 4 (dk_at dksL_law_54 7 rfl rfl)
theorem dL_law_1475 : decode cL_law 1475 = .ok (.iconst 1, 1) := dk_4 (dk_at dksL_law_54 9 rfl rfl)
theorem dL_law_1476 : decode cL_law 1476 = .ok (.iadd, 1) := dk_96 (dk_at dksL_law_54 10 rfl rfl)
theorem dL_law_1477 : decode cL_law 1477 = .ok (.iaload, 1) := dk_46 (dk_at dksL_law_54 11 rfl rfl)
theorem dL_law_1478 : decode cL_law 1478 = .ok (.invokevirtual 198, 3) := dk_182 0 198 (dk_at dksL_law_54 12 rfl rfl)
theorem dL_law_1481 : decode cL_law 1481 = .ok (.aload_n 2, 1) := dk_44 (dk_at dksL_law_54 15 rfl rfl)
theorem dL_law_1482 : decode cL_law 1482 = .ok (.aload_n 0, 1) := dk_42 (dk_at dksL_law_54 16 rfl rfl)
theorem dL_law_1483 : decode cL_law 1483 = .ok (.iload 4, 2) := dk_21 4 (dk_at dksL_law_54 17 rfl rfl)
theorem dL_law_1485 : decode cL_law 1485 = .ok (.iconst 1, 1) := dk_4 (dk_at dksL_law_54 19 rfl rfl)
theorem dL_law_1486 : decode cL_law 1486 = .ok (.iadd, 1) := dk_96 (dk_at dksL_law_54 20 rfl rfl)
theorem dL_law_1487 : decode cL_law 1487 = .ok (.iaload, 1) := dk_46 (dk_at dksL_law_54 21 rfl rfl)
theorem dL_law_1488 : decode cL_law 1488 = .ok (.invokevirtual 202, 3) := dk_182 0 202 (dk_at dksL_law_55 0 rfl rfl)
theorem dL_law_1491 : decode cL_law 1491 = .ok (.if_icmp .eq 224, 3) := dk_159 0 224 (dk_at dksL_law_55 3 rfl rfl)
theorem dL_law_1494 : decode cL_law 1494 = .ok (.iconst 0, 1) := dk_3 (dk_at dksL_law_55 6 rfl rfl)
theorem dL_law_1495 : decode cL_law 1495 = .ok (.ireturn, 1) := dk_172 (dk_at dksL_law_55 7 rfl rfl)
theorem dL_law_1496 : decode cL_law 1496 = .ok (.aload_n 1, 1) := dk_43 (dk_at dksL_law_55 8 rfl rfl)
theorem dL_law_1497 : decode cL_law 1497 = .ok (.invokevirtual 203, 3) := dk_182 0 203 (dk_at dksL_law_55 9 rfl rfl)
theorem dL_law_1500 : decode cL_law 1500 = .ok (.aload_n 2, 1) := dk_44 (dk_at dksL_law_55 12 rfl rfl)
theorem dL_law_1501 : decode cL_law 1501 = .ok (.invokevirtual 207, 3) := dk_182 0 207 (dk_at dksL_law_55 13 rfl rfl)
theorem dL_law_1504 : decode cL_law 1504 = .ok (.if_icmp .eq 211, 3) := dk_159 0 211 (dk_at dksL_law_55 16 rfl rfl)
theorem dL_law_1507 : decode cL_law 1507 = .ok (.iconst 0, 1) := dk_3 (dk_at dksL_law_55 19 rfl rfl)
theorem dL_law_1508 : decode cL_law 1508 = .ok (.ireturn, 1) := dk_172 (dk_at dksL_law_55 20 rfl rfl)
theorem dL_law_1509 : decode cL_law 1509 = .ok (.aload_n 1, 1) := dk_43 (dk_at dksL_law_55 21 rfl rfl)
theorem dL_law_1510 : decode cL_law 1510 = .ok (.invokevirtual 208, 3) := dk_182 0 208 (dk_at dksL_law_56 0 rfl rfl)
theorem dL_law_1513 : decode cL_law 1513 = .ok (.aload_n 2, 1) := dk_44 (dk_at dksL_law_56 3 rfl rfl)
theorem dL_law_1514 : decode cL_law 1514 = .ok (.invokevirtual 211, 3) := dk_182 0 211 (dk_at dksL_law_56 4 rfl rfl)
theorem dL_law_1517 : decode cL_law 1517 = .ok (.if_icmp .eq 198, 3) := dk_159 0 198 (dk_at dksL_law_56 7 rfl rfl)
theorem dL_law_1520 : decode cL_law 1520 = .ok (.iconst 0, 1) := dk_3 (dk_at dksL_law_56 10 rfl rfl)
theorem dL_law_1521 : decode cL_law 1521 = .ok (.ireturn, 1) := dk_172 (dk_at dksL_law_56 11 rfl rfl)
theorem dL_law_1522 : decode cL_law 1522 = .ok (.aload_n 1, 1) := dk_43 (dk_at dksL_law_56 12 rfl rfl)
theorem dL_law_1523 : decode cL_law 1523 = .ok (.aload_n 0, 1) := dk_42 (dk_at dksL_law_56 13 rfl rfl)
theorem dL_law_1524 : decode cL_law 1524 = .ok (.iload 4, 2) := dk_21 4 (dk_at dksL_law_56 14 rfl rfl)
theorem dL_law_1526 : decode cL_law 1526 = .ok (.iconst 1, 1) := dk_4 (dk_at dksL_law_56 16 rfl rfl)
theorem dL_law_1527 : decode cL_law 1527 = .ok (.iadd, 1) := dk_96 (dk_at dksL_law_56 17 rfl rfl)
theorem dL_law_1528 : decode cL_law 1528 = .ok (.iaload, 1) := dk_46 (dk_at dksL_law_56 18 rfl rfl)
theorem dL_law_1529 : decode cL_law 1529 = .ok (.invokevirtual 212, 3) := dk_182 0 212 (dk_at dksL_law_56 19 rfl rfl)
theorem dL_law_1532 : decode cL_law 1532 = .ok (.aload_n 2, 1) := dk_44 (dk_at dksL_law_56 22 rfl rfl)
theorem dL_law_1533 : decode cL_law 1533 = .ok (.aload_n 0, 1) := dk_42 (dk_at dksL_law_56 23 rfl rfl)
theorem dL_law_1534 : decode cL_law 1534 = .ok (.iload 4, 2) := dk_21 4 (dk_at dksL_law_57 0 rfl rfl)
theorem dL_law_1536 : decode cL_law 1536 = .ok (.iconst 1, 1) := dk_4 (dk_at dksL_law_57 2 rfl rfl)
theorem dL_law_1537 : decode cL_law 1537 = .ok (.iadd, 1) := dk_96 (dk_at dksL_law_57 3 rfl rfl)
theorem dL_law_1538 : decode cL_law 1538 = .ok (.iaload, 1) := dk_46 (dk_at dksL_law_57 4 rfl rfl)
theorem dL_law_1539 : decode cL_law 1539 = .ok (.invokevirtual 215, 3) := dk_182 0 215 (dk_at dksL_law_57 5 rfl rfl)
theorem dL_law_1542 : decode cL_law 1542 = .ok (.if_icmp .eq 173, 3) := dk_159 0 173 (dk_at dksL_law_57 8 rfl rfl)
theorem dL_law_1545 : decode cL_law 1545 = .ok (.iconst 0, 1) := dk_3 (dk_at dksL_law_57 11 rfl rfl)
theorem dL_law_1546 : decode cL_law 1546 = .ok (.ireturn, 1) := dk_172 (dk_at dksL_law_57 12 rfl rfl)
theorem dL_law_1547 : decode cL_law 1547 = .ok (.aload_n 1, 1) := dk_43 (dk_at dksL_law_57 13 rfl rfl)
theorem dL_law_1548 : decode cL_law 1548 = .ok (.aload_n 0, 1) := dk_42 (dk_at dksL_law_57 14 rfl rfl)
theorem dL_law_1549 : decode cL_law 1549 = .ok (.iload 4, 2) := dk_21 4 (dk_at dksL_law_57 15 rfl rfl)
theorem dL_law_1551 : decode cL_law 1551 = .ok (.iconst 1, 1) := dk_4 (dk_at dksL_law_57 17 rfl rfl)
theorem dL_law_1552 : decode cL_law 1552 = .ok (.iadd, 1) := dk_96 (dk_at dksL_law_57 18 rfl rfl)
theorem dL_law_1553 : decode cL_law 1553 = .ok (.iaload, 1) := dk_46 (dk_at dksL_law_57 19 rfl rfl)
theorem dL_law_1554 : decode cL_law 1554 = .ok (.aload_n 0, 1) := dk_42 (dk_at dksL_law_57 20 rfl rfl)
theorem dL_law_1555 : decode cL_law 1555 = .ok (.iload 4, 2) := dk_21 4 (dk_at dksL_law_57 21 rfl rfl)
theorem dL_law_1557 : decode cL_law 1557 = .ok (.iconst 2, 1) := dk_5 (dk_at dksL_law_57 23 rfl rfl)
theorem dL_law_1558 : decode cL_law 1558 = .ok (.iadd, 1) := dk_96 (dk_at dksL_law_58 0 rfl rfl)
theorem dL_law_1559 : decode cL_law 1559 = .ok (.iaload, 1) := dk_46 (dk_at dksL_law_58 1 rfl rfl)
theorem dL_law_1560 : decode cL_law 1560 = .ok (.invokevirtual 216, 3) := dk_182 0 216 (dk_at dksL_law_58 2 rfl rfl)
theorem dL_law_1563 : decode cL_law 1563 = .ok (.aload_n 2, 1) := dk_44 (dk_at dksL_law_58 5 rfl rfl)
theorem dL_law_1564 : decode cL_law 1564 = .ok (.aload_n 0, 1) := dk_42 (dk_at dksL_law_58 6 rfl rfl)
theorem dL_law_1565 : decode cL_law 1565 = .ok (.iload 4, 2) := dk_21 4 (dk_at dksL_law_58 7 rfl rfl)
theorem dL_law_1567 : decode cL_law 1567 = .ok (.iconst 1, 1) := dk_4 (dk_at dksL_law_58 9 rfl rfl)
theorem dL_law_1568 : decode cL_law 1568 = .ok (.iadd, 1) := dk_96 (dk_at dksL_law_58 10 rfl rfl)
theorem dL_law_1569 : decode cL_law 1569 = .ok (.iaload, 1) := dk_46 (dk_at dksL_law_58 11 rfl rfl)
theorem dL_law_1570 : decode cL_law 1570 = .ok (.aload_n 0, 1) := dk_42 (dk_at dksL_law_58 12 rfl rfl)
theorem dL_law_1571 : decode cL_law 1571 = .ok (.iload 4, 2) := dk_21 4 (dk_at dksL_law_58 13 rfl rfl)
theorem dL_law_1573 : decode cL_law 1573 = .ok (.iconst 2, 1) := dk_5 (dk_at dksL_law_58 15 rfl rfl)
theorem dL_law_1574 : decode cL_law 1574 = .ok (.iadd, 1) := dk_96 (dk_at dksL_law_58 16 rfl rfl)
theorem dL_law_1575 : decode cL_law 1575 = .ok (.iaload, 1) := dk_46 (dk_at dksL_law_58 17 rfl rfl)
theorem dL_law_1576 : decode cL_law 1576 = .ok (.invokevirtual 219, 3) := dk_182 0 219 (dk_at dksL_law_58 18 rfl rfl)
theorem dL_law_1579 : decode cL_law 1579 = .ok (.if_icmp .eq 136, 3) := dk_159 0 136 (dk_at dksL_law_58 21 rfl rfl)
theorem dL_law_1582 : decode cL_law 1582 = .ok (.iconst 0, 1) := dk_3 (dk_at dksL_law_59 0 rfl rfl)
theorem dL_law_1583 : decode cL_law 1583 = .ok (.ireturn, 1) := dk_172 (dk_at dksL_law_59 1 rfl rfl)
theorem dL_law_1584 : decode cL_law 1584 = .ok (.aload_n 1, 1) := dk_43 (dk_at dksL_law_59 2 rfl rfl)
theorem dL_law_1585 : decode cL_law 1585 = .ok (.aload_n 0, 1) := dk_42 (dk_at dksL_law_59 3 rfl rfl)
theorem dL_law_1586 : decode cL_law 1586 = .ok (.iload 4, 2) := dk_21 4 (dk_at dksL_law_59 4 rfl rfl)
theorem dL_law_1588 : decode cL_law 1588 = .ok (.iconst 1, 1) := dk_4 (dk_at dksL_law_59 6 rfl rfl)
theorem dL_law_1589 : decode cL_law 1589 = .ok (.iadd, 1) := dk_96 (dk_at dksL_law_59 7 rfl rfl)
theorem dL_law_1590 : decode cL_law 1590 = .ok (.iaload, 1) := dk_46 (dk_at dksL_law_59 8 rfl rfl)
theorem dL_law_1591 : decode cL_law 1591 = .ok (.aload_n 0, 1) := dk_42 (dk_at dksL_law_59 9 rfl rfl)
theorem dL_law_1592 : decode cL_law 1592 = .ok (.iload 4, 2) := dk_21 4 (dk_at dksL_law_59 10 rfl rfl)
theorem dL_law_1594 : decode cL_law 1594 = .ok (.iconst 2, 1) := dk_5 (dk_at dksL_law_59 12 rfl rfl)
theorem dL_law_1595 : decode cL_law 1595 = .ok (.iadd, 1) := dk_96 (dk_at dksL_law_59 13 rfl rfl)
theorem dL_law_1596 : decode cL_law 1596 = .ok (.iaload, 1) := dk_46 (dk_at dksL_law_59 14 rfl rfl)
theorem dL_law_1597 : decode cL_law 1597 = .ok (.invokevirtual 220, 3) := dk_182 0 220 (dk_at dksL_law_59 15 rfl rfl)
theorem dL_law_1600 : decode cL_law 1600 = .ok (.aload_n 2, 1) := dk_44 (dk_at dksL_law_59 18 rfl rfl)
theorem dL_law_1601 : decode cL_law 1601 = .ok (.aload_n 0, 1) := dk_42 (dk_at dksL_law_59 19 rfl rfl)
theorem dL_law_1602 : decode cL_law 1602 = .ok (.iload 4, 2) := dk_21 4 (dk_at dksL_law_59 20 rfl rfl)
theorem dL_law_1604 : decode cL_law 1604 = .ok (.iconst 1, 1) := dk_4 (dk_at dksL_law_59 22 rfl rfl)
theorem dL_law_1605 : decode cL_law 1605 = .ok (.iadd, 1) := dk_96 (dk_at dksL_law_59 23 rfl rfl)
theorem dL_law_1606 : decode cL_law 1606 = .ok (.iaload, 1) := dk_46 (dk_at dksL_law_60 0 rfl rfl)
theorem dL_law_1607 : decode cL_law 1607 = .ok (.aload_n 0, 1) := dk_42 (dk_at dksL_law_60 1 rfl rfl)
theorem dL_law_1608 : decode cL_law 1608 = .ok (.iload 4, 2) := dk_21 4 (dk_at dksL_law_60 2 rfl rfl)
theorem dL_law_1610 : decode cL_law 1610 = .ok (.iconst 2, 1) := dk_5 (dk_at dksL_law_60 4 rfl rfl)
theorem dL_law_1611 : decode cL_law 1611 = .ok (.iadd, 1) := dk_96 (dk_at dksL_law_60 5 rfl rfl)
theorem dL_law_1612 : decode cL_law 1612 = .ok (.iaload, 1) := dk_46 (dk_at dksL_law_60 6 rfl rfl)
theorem dL_law_1613 : decode cL_law 1613 = .ok (.invokevirtual 223, 3) := dk_182 0 223 (dk_at dksL_law_60 7 rfl rfl)
theorem dL_law_1616 : decode cL_law 1616 = .ok (.if_icmp .eq 99, 3) := dk_159 0 99 (dk_at dksL_law_60 10 rfl rfl)
theorem dL_law_1619 : decode cL_law 1619 = .ok (.iconst 0, 1) := dk_3 (dk_at dksL_law_60 13 rfl rfl)
theorem dL_law_1620 : decode cL_law 1620 = .ok (.ireturn, 1) := dk_172 (dk_at dksL_law_60 14 rfl rfl)
theorem dL_law_1621 : decode cL_law 1621 = .ok (.aload_n 1, 1) := dk_43 (dk_at dksL_law_60 15 rfl rfl)
theorem dL_law_1622 : decode cL_law 1622 = .ok (.aload_n 0, 1) := dk_42 (dk_at dksL_law_60 16 rfl rfl)
theorem dL_law_1623 : decode cL_law 1623 = .ok (.iload 4, 2) := dk_21 4 (dk_at dksL_law_60 17 rfl rfl)
theorem dL_law_1625 : decode cL_law 1625 = .ok (.iconst 1, 1) := dk_4 (dk_at dksL_law_60 19 rfl rfl)
theorem dL_law_1626 : decode cL_law 1626 = .ok (.iadd, 1) := dk_96 (dk_at dksL_law_60 20 rfl rfl)
theorem dL_law_1627 : decode cL_law 1627 = .ok (.iaload, 1) := dk_46 (dk_at dksL_law_60 21 rfl rfl)
theorem dL_law_1628 : decode cL_law 1628 = .ok (.aload_n 3, 1) := dk_45 (dk_at dksL_law_60 22 rfl rfl)
theorem dL_law_1629 : decode cL_law 1629 = .ok (.invokestatic 224, 3) := dk_184 0 224 (dk_at dksL_law_61 0 rfl rfl)
theorem dL_law_1632 : decode cL_law 1632 = .ok (.istore 5, 2) := dk_54 5 (dk_at dksL_law_61 3 rfl rfl)
theorem dL_law_1634 : decode cL_law 1634 = .ok (.aload_n 2, 1) := dk_44 (dk_at dksL_law_61 5 rfl rfl)
theorem dL_law_1635 : decode cL_law 1635 = .ok (.aload_n 0, 1) := dk_42 (dk_at dksL_law_61 6 rfl rfl)
theorem dL_law_1636 : decode cL_law 1636 = .ok (.iload 4, 2) := dk_21 4 (dk_at dksL_law_61 7 rfl rfl)
theorem dL_law_1638 : decode cL_law 1638 = .ok (.iconst 1, 1) := dk_4 (dk_at dksL_law_61 9 rfl rfl)
theorem dL_law_1639 : decode cL_law 1639 = .ok (.iadd, 1) := dk_96 (dk_at dksL_law_61 10 rfl rfl)
theorem dL_law_1640 : decode cL_law 1640 = .ok (.iaload, 1) := dk_46 (dk_at dksL_law_61 11 rfl rfl)
theorem dL_law_1641 : decode cL_law 1641 = .ok (.invokevirtual 229, 3) := dk_182 0 229 (dk_at dksL_law_61 12 rfl rfl)
theorem dL_law_1644 : decode cL_law 1644 = .ok (.istore 6, 2) := dk_54 6 (dk_at dksL_law_61 15 rfl rfl)
theorem dL_law_1646 : decode cL_law 1646 = .ok (.aload_n 2, 1) := dk_44 (dk_at dksL_law_61 17 rfl rfl)
theorem dL_law_1647 : decode cL_law 1647 = .ok (.invokevirtual 230, 3) := dk_182 0 230 (dk_at dksL_law_61 18 rfl rfl)
theorem dL_law_1650 : decode cL_law 1650 = .ok (.iload 5, 2) := dk_21 5 (dk_at dksL_law_61 21 rfl rfl)
theorem dL_law_1652 : decode cL_law 1652 = .ok (.if_icmp .eq 5, 3) := dk_159 0 5 (dk_at dksL_law_62 0 rfl rfl)
theorem dL_law_1655 : decode cL_law 1655 = .ok (.iconst 0, 1) := dk_3 (dk_at dksL_law_62 3 rfl rfl)
theorem dL_law_1656 : decode cL_law 1656 = .ok (.ireturn, 1) := dk_172 (dk_at dksL_law_62 4 rfl rfl)
theorem dL_law_1657 : decode cL_law 1657 = .ok (.iload 5, 2) := dk_21 5 (dk_at dksL_law_62 5 rfl rfl)
theorem dL_law_1659 : decode cL_law 1659 = .ok (.ifCond .ne 15, 3) := dk_154 0 15 (dk_at dksL_law_62 7 rfl rfl)
theorem dL_law_1662 : decode cL_law 1662 = .ok (.aload_n 3, 1) := dk_45 (dk_at dksL_law_62 10 rfl rfl)
theorem dL_law_1663 : decode cL_law 1663 = .ok (.iconst 0, 1) := dk_3 (dk_at dksL_law_62 11 rfl rfl)
theorem dL_law_1664 : decode cL_law 1664 = .ok (.laload, 1) := dk_47 (dk_at dksL_law_62 12 rfl rfl)
theorem dL_law_1665 : decode cL_law 1665 = .ok (.iload 6, 2) := dk_21 6 (dk_at dksL_law_62 13 rfl rfl)
theorem dL_law_1667 : decode cL_law 1667 = .ok (.i2l, 1) := dk_133 (dk_at dksL_law_62 15 rfl rfl)
theorem dL_law_1668 : decode cL_law 1668 = .ok (.lcmp, 1) := dk_148 (dk_at dksL_law_62 16 rfl rfl)
theorem dL_law_1669 : decode cL_law 1669 = .ok (.ifCond .eq 5, 3) := dk_153 0 5 (dk_at dksL_law_62 17 rfl rfl)
theorem dL_law_1672 : decode cL_law 1672 = .ok (.iconst 0, 1) := dk_3 (dk_at dksL_law_62 20 rfl rfl)
theorem dL_law_1673 : decode cL_law 1673 = .ok (.ireturn, 1) := dk_172 (dk_at dksL_law_62 21 rfl rfl)
theorem dL_law_1674 : decode cL_law 1674 = .ok (.goto 41, 3) := dk_167 0 41 (dk_at dksL_law_63 0 rfl rfl)
theorem dL_law_1677 : decode cL_law 1677 = .ok (.aload_n 1, 1) := dk_43 (dk_at dksL_law_63 3 rfl rfl)
theorem dL_law_1678 : decode cL_law 1678 = .ok (.aload_n 0, 1) := dk_42 (dk_at dksL_law_63 4 rfl rfl)
theorem dL_law_1679 : decode cL_law 1679 = .ok (.iload 4, 2) := dk_21 4 (dk_at dksL_law_63 5 rfl rfl)
theorem dL_law_1681 : decode cL_law 1681 = .ok (.iconst 1, 1) := dk_4 (dk_at dksL_law_63 7 rfl rfl)
theorem dL_law_1682 : decode cL_law 1682 = .ok (.iadd, 1) := dk_96 (dk_at dksL_law_63 8 rfl rfl)
theorem dL_law_1683 : decode cL_law 1683 = .ok (.iaload, 1) := dk_46 (dk_at dksL_law_63 9 rfl rfl)
theorem dL_law_1684 : decode cL_law 1684 = .ok (.invokevirtual 233, 3) := dk_182 0 233 (dk_at dksL_law_63 10 rfl rfl)
theorem dL_law_1687 : decode cL_law 1687 = .ok (.aload_n 2, 1) := dk_44 (dk_at dksL_law_63 13 rfl rfl)
theorem dL_law_1688 : decode cL_law 1688 = .ok (.aload_n 0, 1) := dk_42 (dk_at dksL_law_63 14 rfl rfl)
theorem dL_law_1689 : decode cL_law 1689 = .ok (.iload 4, 2) := dk_21 4 (dk_at dksL_law_63 15 rfl rfl)
theorem dL_law_1691 : decode cL_law 1691 = .ok (.iconst 1, 1) := dk_4 (dk_at dksL_law_63 17 rfl rfl)
theorem dL_law_1692 : decode cL_law 1692 = .ok (.iadd, 1) := dk_96 (dk_at dksL_law_63 18 rfl rfl)
theorem dL_law_1693 : decode cL_law 1693 = .ok (.iaload, 1) := dk_46 (dk_at dksL_law_63 19 rfl rfl)
theorem dL_law_1694 : decode cL_law 1694 = .ok (.invokevirtual 236, 3) := dk_182 0 236 (dk_at dksL_law_63 20 rfl rfl)
theorem dL_law_1697 : decode cL_law 1697 = .ok (.if_icmp .eq 18, 3) := dk_159 0 18 (dk_at dksL_law_64 0 rfl rfl)
theorem dL_law_1700 : decode cL_law 1700 = .ok (.iconst 0, 1) := dk_3 (dk_at dksL_law_64 3 rfl rfl)
theorem dL_law_1701 : decode cL_law 1701 = .ok (.ireturn, 1) := dk_172 (dk_at dksL_law_64 4 rfl rfl)
theorem dL_law_1702 : decode cL_law 1702 = .ok (.aload_n 1, 1) := dk_43 (dk_at dksL_law_64 5 rfl rfl)
theorem dL_law_1703 : decode cL_law 1703 = .ok (.invokevirtual 237, 3) := dk_182 0 237 (dk_at dksL_law_64 6 rfl rfl)
theorem dL_law_1706 : decode cL_law 1706 = .ok (.aload_n 2, 1) := dk_44 (dk_at dksL_law_64 9 rfl rfl)
theorem dL_law_1707 : decode cL_law 1707 = .ok (.invokevirtual 240, 3) := dk_182 0 240 (dk_at dksL_law_64 10 rfl rfl)
theorem dL_law_1710 : decode cL_law 1710 = .ok (.if_icmp .eq 5, 3) := dk_159 0 5 (dk_at dksL_law_64 13 rfl rfl)
theorem dL_law_1713 : decode cL_law 1713 = .ok (.iconst 0, 1) := dk_3 (dk_at dksL_law_64 16 rfl rfl)
theorem dL_law_1714 : decode cL_law 1714 = .ok (.ireturn, 1) := dk_172 (dk_at dksL_law_64 17 rfl rfl)
theorem dL_law_1715 : decode cL_law 1715 = .ok (.iinc 4 6, 3) := dk_132 4 6 (dk_at dksL_law_64 18 rfl rfl)
theorem dL_law_1718 : decode cL_law 1718 = .ok (.goto (-1695), 3) := dk_167 249 97 (dk_at dksL_law_64 21 rfl rfl)
theorem dL_law_1721 : decode cL_law 1721 = .ok (.iconst 1, 1) := dk_4 (dk_at dksL_law_65 0 rfl rfl)
theorem dL_law_1722 : decode cL_law 1722 = .ok (.ireturn, 1) := dk_172 (dk_at dksL_law_65 1 rfl rfl)
