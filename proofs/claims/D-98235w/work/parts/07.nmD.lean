/-! NextAtBarModel -/
set_option maxRecDepth 100000
def RX4 : String := "NextAtBarModel"
def TX4 : u_T := fun k => match k with
  | 0 => ("NextAtBarModel", "thrown", "I", false)
  | 1 => ("NextAtBarModel", "tape", "[I", true)
  | 2 => ("NextAtBarModel", "taped", "I", false)
  | 3 => ("NextAtBarModel", "size", "I", false)
  | 4 => ("NextAtBarModel", "at", "I", false)
  | 5 => ("NextAtBarModel", "end", "I", false)
  | 6 => ("NextAtBarModel", "token", "I", false)
  | 7 => ("NextAtBarModel", "whole", "I", false)
  | 8 => ("NextAtBarModel", "nameSize", "I", false)
  | 9 => ("NextAtBarModel", "fault", "I", false)
  | 10 => ("NextAtBarModel", "place", "I", false)
  | 11 => ("NextAtBarModel", "trouble", "I", false)
  | 12 => ("NextAtBarModel", "letters", "[I", true)
  | 13 => ("NextAtBarModel", "failed", "Z", false)
  | 14 => ("NextAtBarModel", "hasHouse", "Z", false)
  | 15 => ("NextAtBarModel", "\x72", "[I", true)
  | 16 => ("NextAtBarModel", "fresh", "[I", true)
  | 17 => ("NextAtBarModel", "st", "[I", true)
  | 18 => ("NextAtBarModel", "e", "[I", true)
  | 19 => ("NextAtBarModel", "undone", "[I", true)
  | 20 => ("NextAtBarModel", "kept", "[I", true)
  | 21 => ("NextAtBarModel", "undos", "I", false)
  | 22 => ("NextAtBarModel", "images", "I", false)
  | 23 => ("NextAtBarModel", "crew", "[I", true)
  | 24 => ("NextAtBarModel", "people", "[I", true)
  | 25 => ("NextAtBarModel", "crewMany", "I", false)
  | 26 => ("NextAtBarModel", "bell", "I", false)
  | 27 => ("NextAtBarModel", "cutPlace", "I", false)
  | 28 => ("NextAtBarModel", "cutLeast", "I", false)
  | 29 => ("NextAtBarModel", "saved", "[I", true)
  | 30 => ("NextAtBarModel", "waited", "[I", true)
  | 31 => ("NextAtBarModel", "orde\x72", "[I", true)
  | 32 => ("NextAtBarModel", "bestOrde\x72", "[I", true)
  | 33 => ("NextAtBarModel", "bestSum", "I", false)
  | _ => ("NextAtBarModel", "ahead", "[Z", true)
def tyX4 : Nat → FieldType := fun k => match k with
  | 0 => .int
  | 1 => .array .int
  | 2 => .int
  | 3 => .int
  | 4 => .int
  | 5 => .int
  | 6 => .int
  | 7 => .int
  | 8 => .int
  | 9 => .int
  | 10 => .int
  | 11 => .int
  | 12 => .array .int
  | 13 => .boolean
  | 14 => .boolean
  | 15 => .array .int
  | 16 => .array .int
  | 17 => .array .int
  | 18 => .array .int
  | 19 => .array .int
  | 20 => .array .int
  | 21 => .int
  | 22 => .int
  | 23 => .array .int
  | 24 => .array .int
  | 25 => .int
  | 26 => .int
  | 27 => .int
  | 28 => .int
  | 29 => .array .int
  | 30 => .array .int
  | 31 => .array .int
  | 32 => .array .int
  | 33 => .int
  | _ => .array .boolean
abbrev wsX40 : List Cond := u_ws RX4 TX4 35
set_option maxRecDepth 100000 in
theorem nmX4 : ∀ a, a < 35 → ∀ b, b < 35 → a ≠ b → (TX4 a).2.1 ≠ (TX4 b).2.1 := by decide +kernel
set_option maxRecDepth 100000 in
theorem tyX4_ok : ∀ k, k < 35 → parseFieldDescriptor (TX4 k).2.2.1 = some (tyX4 k) := by decide +kernel
abbrev cX4_init : ByteArray := prog_24_method_1_code
def yX4_init : MethodName := ⟨RX4, "<init>", "()V"⟩
def dkwX4_init_5 : List UInt8 := [42, 16, 7, 188, 10, 181, 0, 53, 42, 16, 100, 188, 4, 181, 0, 56, 177]
abbrev dktX4_init_5 : List UInt8 := dkwX4_init_5 ++ []
def dkwX4_init_4 : List UInt8 := [42, 16, 108, 188, 10, 181, 0, 44, 42, 16, 10, 188, 10, 181, 0, 47, 42, 16, 7, 188, 10, 181, 0, 50]
abbrev dktX4_init_4 : List UInt8 := dkwX4_init_4 ++ dktX4_init_5
def dkwX4_init_3 : List UInt8 := [17, 1, 68, 188, 10, 181, 0, 35, 42, 16, 24, 188, 10, 181, 0, 38, 42, 16, 70, 188, 10, 181, 0, 41]
abbrev dktX4_init_3 : List UInt8 := dkwX4_init_3 ++ dktX4_init_4
def dkwX4_init_2 : List UInt8 := [188, 10, 181, 0, 26, 42, 16, 108, 188, 10, 181, 0, 29, 42, 17, 5, 16, 188, 10, 181, 0, 32, 42]
abbrev dktX4_init_2 : List UInt8 := dkwX4_init_2 ++ dktX4_init_3
def dkwX4_init_1 : List UInt8 := [181, 0, 17, 42, 17, 1, 91, 188, 10, 181, 0, 20, 42, 17, 1, 91, 188, 10, 181, 0, 23, 42, 16, 108]
abbrev dktX4_init_1 : List UInt8 := dkwX4_init_1 ++ dktX4_init_2
def dkwX4_init_0 : List UInt8 := [42, 183, 0, 1, 42, 17, 3, 232, 188, 10, 181, 0, 7, 42, 2, 181, 0, 13, 42, 16, 8, 188, 10]
abbrev dktX4_init_0 : List UInt8 := dkwX4_init_0 ++ dktX4_init_1
theorem dksX4_init_0 : cX4_init.data.toList.drop 0 = dktX4_init_0 := by decide +kernel
theorem dksX4_init_1 : cX4_init.data.toList.drop 23 = dktX4_init_1 := dk_seg dksX4_init_0 23 rfl rfl
theorem dksX4_init_2 : cX4_init.data.toList.drop 47 = dktX4_init_2 := dk_seg dksX4_init_1 24 rfl rfl
theorem dksX4_init_3 : cX4_init.data.toList.drop 70 = dktX4_init_3 := dk_seg dksX4_init_2 23 rfl rfl
theorem dksX4_init_4 : cX4_init.data.toList.drop 94 = dktX4_init_4 := dk_seg dksX4_init_3 24 rfl rfl
theorem dksX4_init_5 : cX4_init.data.toList.drop 118 = dktX4_init_5 := dk_seg dksX4_init_4 24 rfl rfl
theorem dX4_init_0 : decode cX4_init 0 = .ok (.aload_n 0, 1) := dk_42 (dk_at dksX4_init_0 0 rfl rfl)
theorem dX4_init_1 : decode cX4_init 1 = .ok (.invokespecial 1, 3) := dk_183 0 1 (dk_at dksX4_init_0 1 rfl rfl)
theorem dX4_init_4 : decode cX4_init 4 = .ok (.aload_n 0, 1) := dk_42 (dk_at dksX4_init_0 4 rfl rfl)
theorem dX4_init_5 : decode cX4_init 5 = .ok (.sipush 1000, 3) := dk_17 3 232 (dk_at dksX4_init_0 5 rfl rfl)
theorem dX4_init_8 : decode cX4_init 8 = .ok (.newarray .int, 2) := dk_188_10 (dk_at dksX4_init_0 8 rfl rfl)
theorem dX4_init_10 : decode cX4_init 10 = .ok (.putfield 7, 3) := dk_181 0 7 (dk_at dksX4_init_0 10 rfl rfl)
theorem dX4_init_13 : decode cX4_init 13 = .ok (.aload_n 0, 1) := dk_42 (dk_at dksX4_init_0 13 rfl rfl)
theorem dX4_init_14 : decode cX4_init 14 = .ok (.iconst (-1), 1) := dk_2 (dk_at dksX4_init_0 14 rfl rfl)
theorem dX4_init_15 : decode cX4_init 15 = .ok (.putfield 13, 3) := dk_181 0 13 (dk_at dksX4_init_0 15 rfl rfl)
theorem dX4_init_18 : decode cX4_init 18 = .ok (.aload_n 0, 1) := dk_42 (dk_at dksX4_init_0 18 rfl rfl)
theorem dX4_init_19 : decode cX4_init 19 = .ok (.bipush 8, 2) := dk_16 8 (dk_at dksX4_init_0 19 rfl rfl)
theorem dX4_init_21 : decode cX4_init 21 = .ok (.newarray .int, 2) := dk_188_10 (dk_at dksX4_init_0 21 rfl rfl)
theorem dX4_init_23 : decode cX4_init 23 = .ok (.putfield 17, 3) := dk_181 0 17 (dk_at dksX4_init_1 0 rfl rfl)
theorem dX4_init_26 : decode cX4_init 26 = .ok (.aload_n 0, 1) := dk_42 (dk_at dksX4_init_1 3 rfl rfl)
theorem dX4_init_27 : decode cX4_init 27 = .ok (.sipush 347, 3) := dk_17 1 91 (dk_at dksX4_init_1 4 rfl rfl)
theorem dX4_init_30 : decode cX4_init 30 = .ok (.newarray .int, 2) := dk_188_10 (dk_at dksX4_init_1 7 rfl rfl)
theorem dX4_init_32 : decode cX4_init 32 = .ok (.putfield 20, 3) := dk_181 0 20 (dk_at dksX4_init_1 9 rfl rfl)
theorem dX4_init_35 : decode cX4_init 35 = .ok (.aload_n 0, 1) := dk_42 (dk_at dksX4_init_1 12 rfl rfl)
theorem dX4_init_36 : decode cX4_init 36 = .ok (.sipush 347, 3) := dk_17 1 91 (dk_at dksX4_init_1 13 rfl rfl)
theorem dX4_init_39 : decode cX4_init 39 = .ok (.newarray .int, 2) := dk_188_10 (dk_at dksX4_init_1 16 rfl rfl)
theorem dX4_init_41 : decode cX4_init 41 = .ok (.putfield 23, 3) := dk_181 0 23 (dk_at dksX4_init_1 18 rfl rfl)
theorem dX4_init_44 : decode cX4_init 44 = .ok (.aload_n 0, 1) := dk_42 (dk_at dksX4_init_1 21 rfl rfl)
theorem dX4_init_45 : decode cX4_init 45 = .ok (.bipush 108, 2) := dk_16 108 (dk_at dksX4_init_1 22 rfl rfl)
theorem dX4_init_47 : decode cX4_init 47 = .ok (.newarray .int, 2) := dk_188_10 (dk_at dksX4_init_2 0 rfl rfl)
theorem dX4_init_49 : decode cX4_init 49 = .ok (.putfield 26, 3) := dk_181 0 26 (dk_at dksX4_init_2 2 rfl rfl)
theorem dX4_init_52 : decode cX4_init 52 = .ok (.aload_n 0, 1) := dk_42 (dk_at dksX4_init_2 5 rfl rfl)
theorem dX4_init_53 : decode cX4_init 53 = .ok (.bipush 108, 2) := dk_16 108 (dk_at dksX4_init_2 6 rfl rfl)
theorem dX4_init_55 : decode cX4_init 55 = .ok (.newarray .int, 2) := dk_188_10 (dk_at dksX4_init_2 8 rfl rfl)
theorem dX4_init_57 : decode cX4_init 57 = .ok (.putfield 29, 3) := dk_181 0 29 (dk_at dksX4_init_2 10 rfl rfl)
theorem dX4_init_60 : decode cX4_init 60 = .ok (.aload_n 0, 1) := dk_42 (dk_at dksX4_init_2 13 rfl rfl)
theorem dX4_init_61 : decode cX4_init 61 = .ok (.sipush 1296, 3) := dk_17 5 16 (dk_at dksX4_init_2 14 rfl rfl)
theorem dX4_init_64 : decode cX4_init 64 = .ok (.newarray .int, 2) := dk_188_10 (dk_at dksX4_init_2 17 rfl rfl)
theorem dX4_init_66 : decode cX4_init 66 = .ok (.putfield 32, 3) := dk_181 0 32 (dk_at dksX4_init_2 19 rfl rfl)
theorem dX4_init_69 : decode cX4_init 69 = .ok (.aload_n 0, 1) := dk_42 (dk_at dksX4_init_2 22 rfl rfl)
theorem dX4_init_70 : decode cX4_init 70 = .ok (.sipush 324, 3) := dk_17 1 68 (dk_at dksX4_init_3 0 rfl rfl)
theorem dX4_init_73 : decode cX4_init 73 = .ok (.newarray .int, 2) := dk_188_10 (dk_at dksX4_init_3 3 rfl rfl)
theorem dX4_init_75 : decode cX4_init 75 = .ok (.putfield 35, 3) := dk_181 0 35 (dk_at dksX4_init_3 5 rfl rfl)
theorem dX4_init_78 : decode cX4_init 78 = .ok (.aload_n 0, 1) := dk_42 (dk_at dksX4_init_3 8 rfl rfl)
theorem dX4_init_79 : decode cX4_init 79 = .ok (.bipush 24, 2) := dk_16 24 (dk_at dksX4_init_3 9 rfl rfl)
theorem dX4_init_81 : decode cX4_init 81 = .ok (.newarray .int, 2) := dk_188_10 (dk_at dksX4_init_3 11 rfl rfl)
theorem dX4_init_83 : decode cX4_init 83 = .ok (.putfield 38, 3) := dk_181 0 38 (dk_at dksX4_init_3 13 rfl rfl)
theorem dX4_init_86 : decode cX4_init 86 = .ok (.aload_n 0, 1) := dk_42 (dk_at dksX4_init_3 16 rfl rfl)
theorem dX4_init_87 : decode cX4_init 87 = .ok (.bipush 70, 2) := dk_16 70 (dk_at dksX4_init_3 17 rfl rfl)
theorem dX4_init_89 : decode cX4_init 89 = .ok (.newarray .int, 2) := dk_188_10 (dk_at dksX4_init_3 19 rfl rfl)
theorem dX4_init_91 : decode cX4_init 91 = .ok (.putfield 41, 3) := dk_181 0 41 (dk_at dksX4_init_3 21 rfl rfl)
theorem dX4_init_94 : decode cX4_init 94 = .ok (.aload_n 0, 1) := dk_42 (dk_at dksX4_init_4 0 rfl rfl)
theorem dX4_init_95 : decode cX4_init 95 = .ok (.bipush 108, 2) := dk_16 108 (dk_at dksX4_init_4 1 rfl rfl)
theorem dX4_init_97 : decode cX4_init 97 = .ok (.newarray .int, 2) := dk_188_10 (dk_at dksX4_init_4 3 rfl rfl)
theorem dX4_init_99 : decode cX4_init 99 = .ok (.putfield 44, 3) := dk_181 0 44 (dk_at dksX4_init_4 5 rfl rfl)
theorem dX4_init_102 : decode cX4_init 102 = .ok (.aload_n 0, 1) := dk_42 (dk_at dksX4_init_4 8 rfl rfl)
theorem dX4_init_103 : decode cX4_init 103 = .ok (.bipush 10, 2) := dk_16 10 (dk_at dksX4_init_4 9 rfl rfl)
theorem dX4_init_105 : decode cX4_init 105 = .ok (.newarray .int, 2) := dk_188_10 (dk_at dksX4_init_4 11 rfl rfl)
theorem dX4_init_107 : decode cX4_init 107 = .ok (.putfield 47, 3) := dk_181 0 47 (dk_at dksX4_init_4 13 rfl rfl)
theorem dX4_init_110 : decode cX4_init 110 = .ok (.aload_n 0, 1) := dk_42 (dk_at dksX4_init_4 16 rfl rfl)
theorem dX4_init_111 : decode cX4_init 111 = .ok (.bipush 7, 2) := dk_16 7 (dk_at dksX4_init_4 17 rfl rfl)
theorem dX4_init_113 : decode cX4_init 113 = .ok (.newarray .int, 2) := dk_188_10 (dk_at dksX4_init_4 19 rfl rfl)
theorem dX4_init_115 : decode cX4_init 115 = .ok (.putfield 50, 3) := dk_181 0 50 (dk_at dksX4_init_4 21 rfl rfl)
theorem dX4_init_118 : decode cX4_init 118 = .ok (.aload_n 0, 1) := dk_42 (dk_at dksX4_init_5 0 rfl rfl)
theorem dX4_init_119 : decode cX4_init 119 = .ok (.bipush 7, 2) := dk_16 7 (dk_at dksX4_init_5 1 rfl rfl)
theorem dX4_init_121 : decode cX4_init 121 = .ok (.newarray .int, 2) := dk_188_10 (dk_at dksX4_init_5 3 rfl rfl)
theorem dX4_init_123 : decode cX4_init 123 = .ok (.putfield 53, 3) := dk_181 0 53 (dk_at dksX4_init_5 5 rfl rfl)
theorem dX4_init_126 : decode cX4_init 126 = .ok (.aload_n 0, 1) := dk_42 (dk_at dksX4_init_5 8 rfl rfl)
theorem dX4_init_127 : decode cX4_init 127 = .ok (.bipush 100, 2) := dk_16 100 (dk_at dksX4_init_5 9 rfl rfl)
theorem dX4_init_129 : decode cX4_init 129 = .ok (.newarray .boolean, 2) := dk_188_4 (dk_at dksX4_init_5 11 rfl rfl)
theorem dX4_init_131 : decode cX4_init 131 = .ok (.putfield 56, 3) := dk_181 0 56 (dk_at dksX4_init_5 13 rfl rfl)
theorem dX4_init_134 : decode cX4_init 134 = .ok (.return_, 1) := dk_177 (dk_at dksX4_init_5 16 rfl rfl)
abbrev cX4_thrown : ByteArray := prog_24_method_2_code
def yX4_thrown : MethodName := ⟨RX4, "thrown", "()I"⟩
theorem dX4_thrown_0 : decode cX4_thrown 0 = .ok (.aload_n 0, 1) := by decide +kernel
theorem dX4_thrown_1 : decode cX4_thrown 1 = .ok (.getfield 60, 3) := by decide +kernel
theorem dX4_thrown_4 : decode cX4_thrown 4 = .ok (.ireturn, 1) := by decide +kernel
abbrev cX4_feed : ByteArray := prog_24_method_11_code
def yX4_feed : MethodName := ⟨RX4, "feed", "(IIIII)I"⟩
def dkwX4_feed_5 : List UInt8 := [167, 255, 162, 42, 180, 0, 66, 172]
abbrev dktX4_feed_5 : List UInt8 := dkwX4_feed_5 ++ []
def dkwX4_feed_4 : List UInt8 := [112, 104, 100, 122, 17, 0, 255, 126, 79, 42, 89, 180, 0, 66, 4, 96, 181, 0, 66, 132, 6, 1]
abbrev dktX4_feed_4 : List UInt8 := dkwX4_feed_4 ++ dktX4_feed_5
def dkwX4_feed_3 : List UInt8 := [167, 0, 5, 21, 5, 54, 7, 42, 180, 0, 7, 42, 180, 0, 66, 21, 7, 16, 24, 16, 8, 21, 6, 7]
abbrev dktX4_feed_3 : List UInt8 := dkwX4_feed_3 ++ dktX4_feed_4
def dkwX4_feed_2 : List UInt8 := [28, 167, 0, 28, 21, 6, 16, 12, 162, 0, 7, 29, 167, 0, 17, 21, 6, 16, 16, 162, 0, 8, 21, 4]
abbrev dktX4_feed_2 : List UInt8 := dkwX4_feed_2 ++ dktX4_feed_3
def dkwX4_feed_1 : List UInt8 := [21, 6, 16, 20, 162, 0, 93, 21, 6, 7, 162, 0, 7, 27, 167, 0, 39, 21, 6, 16, 8, 162, 0, 7]
abbrev dktX4_feed_1 : List UInt8 := dkwX4_feed_1 ++ dktX4_feed_2
def dkwX4_feed_0 : List UInt8 := [42, 3, 181, 0, 60, 42, 180, 0, 66, 16, 20, 96, 17, 3, 232, 164, 0, 5, 2, 172, 3, 54, 6]
abbrev dktX4_feed_0 : List UInt8 := dkwX4_feed_0 ++ dktX4_feed_1
theorem dksX4_feed_0 : cX4_feed.data.toList.drop 0 = dktX4_feed_0 := by decide +kernel
theorem dksX4_feed_1 : cX4_feed.data.toList.drop 23 = dktX4_feed_1 := dk_seg dksX4_feed_0 23 rfl rfl
theorem dksX4_feed_2 : cX4_feed.data.toList.drop 47 = dktX4_feed_2 := dk_seg dksX4_feed_1 24 rfl rfl
theorem dksX4_feed_3 : cX4_feed.data.toList.drop 71 = dktX4_feed_3 := dk_seg dksX4_feed_2 24 rfl rfl
theorem dksX4_feed_4 : cX4_feed.data.toList.drop 95 = dktX4_feed_4 := dk_seg dksX4_feed_3 24 rfl rfl
theorem dksX4_feed_5 : cX4_feed.data.toList.drop 117 = dktX4_feed_5 := dk_seg dksX4_feed_4 22 rfl rfl
theorem dX4_feed_0 : decode cX4_feed 0 = .ok (.aload_n 0, 1) := dk_42 (dk_at dksX4_feed_0 0 rfl rfl)
theorem dX4_feed_1 : decode cX4_feed 1 = .ok (.iconst 0, 1) := dk_3 (dk_at dksX4_feed_0 1 rfl rfl)
theorem dX4_feed_2 : decode cX4_feed 2 = .ok (.putfield 60, 3) := dk_181 0 60 (dk_at dksX4_feed_0 2 rfl rfl)
theorem dX4_feed_5 : decode cX4_feed 5 = .ok (.aload_n 0, 1) := dk_42 (dk_at dksX4_feed_0 5 rfl rfl)
theorem dX4_feed_6 : decode cX4_feed 6 = .ok (.getfield 66, 3) := dk_180 0 66 (dk_at dksX4_feed_0 6 rfl rfl)
theorem dX4_feed_9 : decode cX4_feed 9 = .ok (.bipush 20, 2) := dk_16 20 (dk_at dksX4_feed_0 9 rfl rfl)
theorem dX4_feed_11 : decode cX4_feed 11 = .ok (.iadd, 1) := dk_96 (dk_at dksX4_feed_0 11 rfl rfl)
theorem dX4_feed_12 : decode cX4_feed 12 = .ok (.sipush 1000, 3) := dk_17 3 232 (dk_at dksX4_feed_0 12 rfl rfl)
theorem dX4_feed_15 : decode cX4_feed 15 = .ok (.if_icmp .le 5, 3) := dk_164 0 5 (dk_at dksX4_feed_0 15 rfl rfl)
theorem dX4_feed_18 : decode cX4_feed 18 = .ok (.iconst (-1), 1) := dk_2 (dk_at dksX4_feed_0 18 rfl rfl)
theorem dX4_feed_19 : decode cX4_feed 19 = .ok (.ireturn, 1) := dk_172 (dk_at dksX4_feed_0 19 rfl rfl)
theorem dX4_feed_20 : decode cX4_feed 20 = .ok (.iconst 0, 1) := dk_3 (dk_at dksX4_feed_0 20 rfl rfl)
theorem dX4_feed_21 : decode cX4_feed 21 = .ok (.istore 6, 2) := dk_54 6 (dk_at dksX4_feed_0 21 rfl rfl)
theorem dX4_feed_23 : decode cX4_feed 23 = .ok (.iload 6, 2) := dk_21 6 (dk_at dksX4_feed_1 0 rfl rfl)
theorem dX4_feed_25 : decode cX4_feed 25 = .ok (.bipush 20, 2) := dk_16 20 (dk_at dksX4_feed_1 2 rfl rfl)
theorem dX4_feed_27 : decode cX4_feed 27 = .ok (.if_icmp .ge 93, 3) := dk_162 0 93 (dk_at dksX4_feed_1 4 rfl rfl)
theorem dX4_feed_30 : decode cX4_feed 30 = .ok (.iload 6, 2) := dk_21 6 (dk_at dksX4_feed_1 7 rfl rfl)
theorem dX4_feed_32 : decode cX4_feed 32 = .ok (.iconst 4, 1) := dk_7 (dk_at dksX4_feed_1 9 rfl rfl)
theorem dX4_feed_33 : decode cX4_feed 33 = .ok (.if_icmp .ge 7, 3) := dk_162 0 7 (dk_at dksX4_feed_1 10 rfl rfl)
theorem dX4_feed_36 : decode cX4_feed 36 = .ok (.iload_n 1, 1) := dk_27 (dk_at dksX4_feed_1 13 rfl rfl)
theorem dX4_feed_37 : decode cX4_feed 37 = .ok (.goto 39, 3) := dk_167 0 39 (dk_at dksX4_feed_1 14 rfl rfl)
theorem dX4_feed_40 : decode cX4_feed 40 = .ok (.iload 6, 2) := dk_21 6 (dk_at dksX4_feed_1 17 rfl rfl)
theorem dX4_feed_42 : decode cX4_feed 42 = .ok (.bipush 8, 2) := dk_16 8 (dk_at dksX4_feed_1 19 rfl rfl)
theorem dX4_feed_44 : decode cX4_feed 44 = .ok (.if_icmp .ge 7, 3) := dk_162 0 7 (dk_at dksX4_feed_1 21 rfl rfl)
theorem dX4_feed_47 : decode cX4_feed 47 = .ok (.iload_n 2, 1) := dk_28 (dk_at dksX4_feed_2 0 rfl rfl)
theorem dX4_feed_48 : decode cX4_feed 48 = .ok (.goto 28, 3) := dk_167 0 28 (dk_at dksX4_feed_2 1 rfl rfl)
theorem dX4_feed_51 : decode cX4_feed 51 = .ok (.iload 6, 2) := dk_21 6 (dk_at dksX4_feed_2 4 rfl rfl)
theorem dX4_feed_53 : decode cX4_feed 53 = .ok (.bipush 12, 2) := dk_16 12 (dk_at dksX4_feed_2 6 rfl rfl)
theorem dX4_feed_55 : decode cX4_feed 55 = .ok (.if_icmp .ge 7, 3) := dk_162 0 7 (dk_at dksX4_feed_2 8 rfl rfl)
theorem dX4_feed_58 : decode cX4_feed 58 = .ok (.iload_n 3, 1) := dk_29 (dk_at dksX4_feed_2 11 rfl rfl)
theorem dX4_feed_59 : decode cX4_feed 59 = .ok (.goto 17, 3) := dk_167 0 17 (dk_at dksX4_feed_2 12 rfl rfl)
theorem dX4_feed_62 : decode cX4_feed 62 = .ok (.iload 6, 2) := dk_21 6 (dk_at dksX4_feed_2 15 rfl rfl)
theorem dX4_feed_64 : decode cX4_feed 64 = .ok (.bipush 16, 2) := dk_16 16 (dk_at dksX4_feed_2 17 rfl rfl)
theorem dX4_feed_66 : decode cX4_feed 66 = .ok (.if_icmp .ge 8, 3) := dk_162 0 8 (dk_at dksX4_feed_2 19 rfl rfl)
theorem dX4_feed_69 : decode cX4_feed 69 = .ok (.iload 4, 2) := dk_21 4 (dk_at dksX4_feed_2 22 rfl rfl)
theorem dX4_feed_71 : decode cX4_feed 71 = .ok (.goto 5, 3) := dk_167 0 5 (dk_at dksX4_feed_3 0 rfl rfl)
theorem dX4_feed_74 : decode cX4_feed 74 = .ok (.iload 5, 2) := dk_21 5 (dk_at dksX4_feed_3 3 rfl rfl)
theorem dX4_feed_76 : decode cX4_feed 76 = .ok (.istore 7, 2) := dk_54 7 (dk_at dksX4_feed_3 5 rfl rfl)
theorem dX4_feed_78 : decode cX4_feed 78 = .ok (.aload_n 0, 1) := dk_42 (dk_at dksX4_feed_3 7 rfl rfl)
theorem dX4_feed_79 : decode cX4_feed 79 = .ok (.getfield 7, 3) := dk_180 0 7 (dk_at dksX4_feed_3 8 rfl rfl)
theorem dX4_feed_82 : decode cX4_feed 82 = .ok (.aload_n 0, 1) := dk_42 (dk_at dksX4_feed_3 11 rfl rfl)
theorem dX4_feed_83 : decode cX4_feed 83 = .ok (.getfield 66, 3) := dk_180 0 66 (dk_at dksX4_feed_3 12 rfl rfl)
theorem dX4_feed_86 : decode cX4_feed 86 = .ok (.iload 7, 2) := dk_21 7 (dk_at dksX4_feed_3 15 rfl rfl)
theorem dX4_feed_88 : decode cX4_feed 88 = .ok (.bipush 24, 2) := dk_16 24 (dk_at dksX4_feed_3 17 rfl rfl)
theorem dX4_feed_90 : decode cX4_feed 90 = .ok (.bipush 8, 2) := dk_16 8 (dk_at dksX4_feed_3 19 rfl rfl)
theorem dX4_feed_92 : decode cX4_feed 92 = .ok (.iload 6, 2) := dk_21 6 (dk_at dksX4_feed_3 21 rfl rfl)
theorem dX4_feed_94 : decode cX4_feed 94 = .ok (.iconst 4, 1) := dk_7 (dk_at dksX4_feed_3 23 rfl rfl)
theorem dX4_feed_95 : decode cX4_feed 95 = .ok (.irem, 1) := dk_112 (dk_at dksX4_feed_4 0 rfl rfl)
theorem dX4_feed_96 : decode cX4_feed 96 = .ok (.imul, 1) := dk_104 (dk_at dksX4_feed_4 1 rfl rfl)
theorem dX4_feed_97 : decode cX4_feed 97 = .ok (.isub, 1) := dk_100 (dk_at dksX4_feed_4 2 rfl rfl)
theorem dX4_feed_98 : decode cX4_feed 98 = .ok (.ishr, 1) := dk_122 (dk_at dksX4_feed_4 3 rfl rfl)
theorem dX4_feed_99 : decode cX4_feed 99 = .ok (.sipush 255, 3) := dk_17 0 255 (dk_at dksX4_feed_4 4 rfl rfl)
theorem dX4_feed_102 : decode cX4_feed 102 = .ok (.iand, 1) := dk_126 (dk_at dksX4_feed_4 7 rfl rfl)
theorem dX4_feed_103 : decode cX4_feed 103 = .ok (.iastore, 1) := dk_79 (dk_at dksX4_feed_4 8 rfl rfl)
theorem dX4_feed_104 : decode cX4_feed 104 = .ok (.aload_n 0, 1) := dk_42 (dk_at dksX4_feed_4 9 rfl rfl)
theorem dX4_feed_105 : decode cX4_feed 105 = .ok (.dup, 1) := dk_89 (dk_at dksX4_feed_4 10 rfl rfl)
theorem dX4_feed_106 : decode cX4_feed 106 = .ok (.getfield 66, 3) := dk_180 0 66 (dk_at dksX4_feed_4 11 rfl rfl)
theorem dX4_feed_109 : decode cX4_feed 109 = .ok (.iconst 1, 1) := dk_4 (dk_at dksX4_feed_4 14 rfl rfl)
theorem dX4_feed_110 : decode cX4_feed 110 = .ok (.iadd, 1) := dk_96 (dk_at dksX4_feed_4 15 rfl rfl)
theorem dX4_feed_111 : decode cX4_feed 111 = .ok (.putfield 66, 3) := dk_181 0 66 (dk_at dksX4_feed_4 16 rfl rfl)
theorem dX4_feed_114 : decode cX4_feed 114 = .ok (.iinc 6 1, 3) := dk_132 6 1 (dk_at dksX4_feed_4 19 rfl rfl)
theorem dX4_feed_117 : decode cX4_feed 117 = .ok (.goto (-94), 3) := dk_167 255 162 (dk_at dksX4_feed_5 0 rfl rfl)
theorem dX4_feed_120 : decode cX4_feed 120 = .ok (.aload_n 0, 1) := dk_42 (dk_at dksX4_feed_5 3 rfl rfl)
theorem dX4_feed_121 : decode cX4_feed 121 = .ok (.getfield 66, 3) := dk_180 0 66 (dk_at dksX4_feed_5 4 rfl rfl)
theorem dX4_feed_124 : decode cX4_feed 124 = .ok (.ireturn, 1) := dk_172 (dk_at dksX4_feed_5 7 rfl rfl)
abbrev cX4_house : ByteArray := prog_24_method_29_code
def yX4_house : MethodName := ⟨RX4, "house", "(I)I"⟩
def dkwX4_house_10 : List UInt8 := [180, 0, 26, 182, 0, 190, 42, 180, 0, 20, 8, 46, 172]
abbrev dktX4_house_10 : List UInt8 := dkwX4_house_10 ++ []
def dkwX4_house_9 : List UInt8 := [184, 0, 174, 42, 4, 181, 0, 178, 42, 3, 181, 0, 181, 42, 3, 181, 0, 184, 42, 182, 0, 187, 42, 42]
abbrev dktX4_house_9 : List UInt8 := dkwX4_house_9 ++ dktX4_house_10
def dkwX4_house_8 : List UInt8 := [153, 0, 9, 42, 7, 182, 0, 168, 172, 42, 180, 0, 23, 3, 42, 180, 0, 20, 3, 17, 1, 91]
abbrev dktX4_house_8 : List UInt8 := dkwX4_house_8 ++ dktX4_house_9
def dkwX4_house_7 : List UInt8 := [180, 0, 23, 8, 46, 154, 0, 13, 42, 16, 6, 42, 180, 0, 79, 182, 0, 125, 42, 180, 0, 98]
abbrev dktX4_house_7 : List UInt8 := dkwX4_house_7 ++ dktX4_house_8
def dkwX4_house_6 : List UInt8 := [153, 0, 30, 42, 180, 0, 23, 6, 46, 153, 0, 21, 42, 180, 0, 23, 7, 46, 153, 0, 12, 42]
abbrev dktX4_house_6 : List UInt8 := dkwX4_house_6 ++ dktX4_house_7
def dkwX4_house_5 : List UInt8 := [42, 4, 42, 180, 0, 79, 182, 0, 125, 42, 180, 0, 98, 154, 0, 49, 42, 180, 0, 23, 3, 46]
abbrev dktX4_house_5 : List UInt8 := dkwX4_house_5 ++ dktX4_house_6
def dkwX4_house_4 : List UInt8 := [182, 0, 119, 42, 182, 0, 171, 167, 255, 232, 42, 180, 0, 98, 154, 0, 19, 42, 180, 0, 88, 153, 0, 12]
abbrev dktX4_house_4 : List UInt8 := dkwX4_house_4 ++ dktX4_house_5
def dkwX4_house_3 : List UInt8 := [182, 0, 119, 42, 182, 0, 171, 42, 180, 0, 98, 154, 0, 23, 42, 180, 0, 88, 16, 59, 160, 0, 14, 42]
abbrev dktX4_house_3 : List UInt8 := dkwX4_house_3 ++ dktX4_house_4
def dkwX4_house_2 : List UInt8 := [180, 0, 23, 28, 3, 79, 132, 2, 1, 167, 255, 239, 42, 27, 181, 0, 69, 42, 3, 181, 0, 72, 42]
abbrev dktX4_house_2 : List UInt8 := dkwX4_house_2 ++ dktX4_house_3
def dkwX4_house_1 : List UInt8 := [181, 0, 66, 42, 3, 181, 0, 102, 42, 3, 181, 0, 98, 3, 61, 28, 17, 1, 91, 162, 0, 16, 42]
abbrev dktX4_house_1 : List UInt8 := dkwX4_house_1 ++ dktX4_house_2
def dkwX4_house_0 : List UInt8 := [42, 182, 0, 165, 27, 3, 42, 180, 0, 66, 184, 0, 147, 154, 0, 9, 42, 5, 182, 0, 168, 172, 42, 3]
abbrev dktX4_house_0 : List UInt8 := dkwX4_house_0 ++ dktX4_house_1
theorem dksX4_house_0 : cX4_house.data.toList.drop 0 = dktX4_house_0 := by decide +kernel
theorem dksX4_house_1 : cX4_house.data.toList.drop 24 = dktX4_house_1 := dk_seg dksX4_house_0 24 rfl rfl
theorem dksX4_house_2 : cX4_house.data.toList.drop 47 = dktX4_house_2 := dk_seg dksX4_house_1 23 rfl rfl
theorem dksX4_house_3 : cX4_house.data.toList.drop 70 = dktX4_house_3 := dk_seg dksX4_house_2 23 rfl rfl
theorem dksX4_house_4 : cX4_house.data.toList.drop 94 = dktX4_house_4 := dk_seg dksX4_house_3 24 rfl rfl
theorem dksX4_house_5 : cX4_house.data.toList.drop 118 = dktX4_house_5 := dk_seg dksX4_house_4 24 rfl rfl
theorem dksX4_house_6 : cX4_house.data.toList.drop 140 = dktX4_house_6 := dk_seg dksX4_house_5 22 rfl rfl
theorem dksX4_house_7 : cX4_house.data.toList.drop 162 = dktX4_house_7 := dk_seg dksX4_house_6 22 rfl rfl
theorem dksX4_house_8 : cX4_house.data.toList.drop 184 = dktX4_house_8 := dk_seg dksX4_house_7 22 rfl rfl
theorem dksX4_house_9 : cX4_house.data.toList.drop 206 = dktX4_house_9 := dk_seg dksX4_house_8 22 rfl rfl
theorem dksX4_house_10 : cX4_house.data.toList.drop 230 = dktX4_house_10 := dk_seg dksX4_house_9 24 rfl rfl
theorem dX4_house_0 : decode cX4_house 0 = .ok (.aload_n 0, 1) := dk_42 (dk_at dksX4_house_0 0 rfl rfl)
theorem dX4_house_1 : decode cX4_house 1 = .ok (.invokevirtual 165, 3) := dk_182 0 165 (dk_at dksX4_house_0 1 rfl rfl)
theorem dX4_house_4 : decode cX4_house 4 = .ok (.iload_n 1, 1) := dk_27 (dk_at dksX4_house_0 4 rfl rfl)
theorem dX4_house_5 : decode cX4_house 5 = .ok (.iconst 0, 1) := dk_3 (dk_at dksX4_house_0 5 rfl rfl)
theorem dX4_house_6 : decode cX4_house 6 = .ok (.aload_n 0, 1) := dk_42 (dk_at dksX4_house_0 6 rfl rfl)
theorem dX4_house_7 : decode cX4_house 7 = .ok (.getfield 66, 3) := dk_180 0 66 (dk_at dksX4_house_0 7 rfl rfl)
theorem dX4_house_10 : decode cX4_house 10 = .ok (.invokestatic 147, 3) := dk_184 0 147 (dk_at dksX4_house_0 10 rfl rfl)
theorem dX4_house_13 : decode cX4_house 13 = .ok (.ifCond .ne 9, 3) := dk_154 0 9 (dk_at dksX4_house_0 13 rfl rfl)
theorem dX4_house_16 : decode cX4_house 16 = .ok (.aload_n 0, 1) := dk_42 (dk_at dksX4_house_0 16 rfl rfl)
theorem dX4_house_17 : decode cX4_house 17 = .ok (.iconst 2, 1) := dk_5 (dk_at dksX4_house_0 17 rfl rfl)
theorem dX4_house_18 : decode cX4_house 18 = .ok (.invokevirtual 168, 3) := dk_182 0 168 (dk_at dksX4_house_0 18 rfl rfl)
theorem dX4_house_21 : decode cX4_house 21 = .ok (.ireturn, 1) := dk_172 (dk_at dksX4_house_0 21 rfl rfl)
theorem dX4_house_22 : decode cX4_house 22 = .ok (.aload_n 0, 1) := dk_42 (dk_at dksX4_house_0 22 rfl rfl)
theorem dX4_house_23 : decode cX4_house 23 = .ok (.iconst 0, 1) := dk_3 (dk_at dksX4_house_0 23 rfl rfl)
theorem dX4_house_24 : decode cX4_house 24 = .ok (.putfield 66, 3) := dk_181 0 66 (dk_at dksX4_house_1 0 rfl rfl)
theorem dX4_house_27 : decode cX4_house 27 = .ok (.aload_n 0, 1) := dk_42 (dk_at dksX4_house_1 3 rfl rfl)
theorem dX4_house_28 : decode cX4_house 28 = .ok (.iconst 0, 1) := dk_3 (dk_at dksX4_house_1 4 rfl rfl)
theorem dX4_house_29 : decode cX4_house 29 = .ok (.putfield 102, 3) := dk_181 0 102 (dk_at dksX4_house_1 5 rfl rfl)
theorem dX4_house_32 : decode cX4_house 32 = .ok (.aload_n 0, 1) := dk_42 (dk_at dksX4_house_1 8 rfl rfl)
theorem dX4_house_33 : decode cX4_house 33 = .ok (.iconst 0, 1) := dk_3 (dk_at dksX4_house_1 9 rfl rfl)
theorem dX4_house_34 : decode cX4_house 34 = .ok (.putfield 98, 3) := dk_181 0 98 (dk_at dksX4_house_1 10 rfl rfl)
theorem dX4_house_37 : decode cX4_house 37 = .ok (.iconst 0, 1) := dk_3 (dk_at dksX4_house_1 13 rfl rfl)
theorem dX4_house_38 : decode cX4_house 38 = .ok (.istore_n 2, 1) := dk_61 (dk_at dksX4_house_1 14 rfl rfl)
theorem dX4_house_39 : decode cX4_house 39 = .ok (.iload_n 2, 1) := dk_28 (dk_at dksX4_house_1 15 rfl rfl)
theorem dX4_house_40 : decode cX4_house 40 = .ok (.sipush 347, 3) := dk_17 1 91 (dk_at dksX4_house_1 16 rfl rfl)
theorem dX4_house_43 : decode cX4_house 43 = .ok (.if_icmp .ge 16, 3) := dk_162 0 16 (dk_at dksX4_house_1 19 rfl rfl)
theorem dX4_house_46 : decode cX4_house 46 = .ok (.aload_n 0, 1) := dk_42 (dk_at dksX4_house_1 22 rfl rfl)
theorem dX4_house_47 : decode cX4_house 47 = .ok (.getfield 23, 3) := dk_180 0 23 (dk_at dksX4_house_2 0 rfl rfl)
theorem dX4_house_50 : decode cX4_house 50 = .ok (.iload_n 2, 1) := dk_28 (dk_at dksX4_house_2 3 rfl rfl)
theorem dX4_house_51 : decode cX4_house 51 = .ok (.iconst 0, 1) := dk_3 (dk_at dksX4_house_2 4 rfl rfl)
theorem dX4_house_52 : decode cX4_house 52 = .ok (.iastore, 1) := dk_79 (dk_at dksX4_house_2 5 rfl rfl)
theorem dX4_house_53 : decode cX4_house 53 = .ok (.iinc 2 1, 3) := dk_132 2 1 (dk_at dksX4_house_2 6 rfl rfl)
theorem dX4_house_56 : decode cX4_house 56 = .ok (.goto (-17), 3) := dk_167 255 239 (dk_at dksX4_house_2 9 rfl rfl)
theorem dX4_house_59 : decode cX4_house 59 = .ok (.aload_n 0, 1) := dk_42 (dk_at dksX4_house_2 12 rfl rfl)
theorem dX4_house_60 : decode cX4_house 60 = .ok (.iload_n 1, 1) := dk_27 (dk_at dksX4_house_2 13 rfl rfl)
theorem dX4_house_61 : decode cX4_house 61 = .ok (.putfield 69, 3) := dk_181 0 69 (dk_at dksX4_house_2 14 rfl rfl)
theorem dX4_house_64 : decode cX4_house 64 = .ok (.aload_n 0, 1) := dk_42 (dk_at dksX4_house_2 17 rfl rfl)
theorem dX4_house_65 : decode cX4_house 65 = .ok (.iconst 0, 1) := dk_3 (dk_at dksX4_house_2 18 rfl rfl)
theorem dX4_house_66 : decode cX4_house 66 = .ok (.putfield 72, 3) := dk_181 0 72 (dk_at dksX4_house_2 19 rfl rfl)
theorem dX4_house_69 : decode cX4_house 69 = .ok (.aload_n 0, 1) := dk_42 (dk_at dksX4_house_2 22 rfl rfl)
theorem dX4_house_70 : decode cX4_house 70 = .ok (.invokevirtual 119, 3) := dk_182 0 119 (dk_at dksX4_house_3 0 rfl rfl)
theorem dX4_house_73 : decode cX4_house 73 = .ok (.aload_n 0, 1) := dk_42 (dk_at dksX4_house_3 3 rfl rfl)
theorem dX4_house_74 : decode cX4_house 74 = .ok (.invokevirtual 171, 3) := dk_182 0 171 (dk_at dksX4_house_3 4 rfl rfl)
theorem dX4_house_77 : decode cX4_house 77 = .ok (.aload_n 0, 1) := dk_42 (dk_at dksX4_house_3 7 rfl rfl)
theorem dX4_house_78 : decode cX4_house 78 = .ok (.getfield 98, 3) := dk_180 0 98 (dk_at dksX4_house_3 8 rfl rfl)
theorem dX4_house_81 : decode cX4_house 81 = .ok (.ifCond .ne 23, 3) := dk_154 0 23 (dk_at dksX4_house_3 11 rfl rfl)
theorem dX4_house_84 : decode cX4_house 84 = .ok (.aload_n 0, 1) := dk_42 (dk_at dksX4_house_3 14 rfl rfl)
theorem dX4_house_85 : decode cX4_house 85 = .ok (.getfield 88, 3) := dk_180 0 88 (dk_at dksX4_house_3 15 rfl rfl)
theorem dX4_house_88 : decode cX4_house 88 = .ok (.bipush 59, 2) := dk_16 59 (dk_at dksX4_house_3 18 rfl rfl)
theorem dX4_house_90 : decode cX4_house 90 = .ok (.if_icmp .ne 14, 3) := dk_160 0 14 (dk_at dksX4_house_3 20 rfl rfl)
theorem dX4_house_93 : decode cX4_house 93 = .ok (.aload_n 0, 1) := dk_42 (dk_at dksX4_house_3 23 rfl rfl)
theorem dX4_house_94 : decode cX4_house 94 = .ok (.invokevirtual 119, 3) := dk_182 0 119 (dk_at dksX4_house_4 0 rfl rfl)
theorem dX4_house_97 : decode cX4_house 97 = .ok (.aload_n 0, 1) := dk_42 (dk_at dksX4_house_4 3 rfl rfl)
theorem dX4_house_98 : decode cX4_house 98 = .ok (.invokevirtual 171, 3) := dk_182 0 171 (dk_at dksX4_house_4 4 rfl rfl)
theorem dX4_house_101 : decode cX4_house 101 = .ok (.goto (-24), 3) := dk_167 255 232 (dk_at dksX4_house_4 7 rfl rfl)
theorem dX4_house_104 : decode cX4_house 104 = .ok (.aload_n 0, 1) := dk_42 (dk_at dksX4_house_4 10 rfl rfl)
theorem dX4_house_105 : decode cX4_house 105 = .ok (.getfield 98, 3) := dk_180 0 98 (dk_at dksX4_house_4 11 rfl rfl)
theorem dX4_house_108 : decode cX4_house 108 = .ok (.ifCond .ne 19, 3) := dk_154 0 19 (dk_at dksX4_house_4 14 rfl rfl)
theorem dX4_house_111 : decode cX4_house 111 = .ok (.aload_n 0, 1) := dk_42 (dk_at dksX4_house_4 17 rfl rfl)
theorem dX4_house_112 : decode cX4_house 112 = .ok (.getfield 88, 3) := dk_180 0 88 (dk_at dksX4_house_4 18 rfl rfl)
theorem dX4_house_115 : decode cX4_house 115 = .ok (.ifCond .eq 12, 3) := dk_153 0 12 (dk_at dksX4_house_4 21 rfl rfl)
theorem dX4_house_118 : decode cX4_house 118 = .ok (.aload_n 0, 1) := dk_42 (dk_at dksX4_house_5 0 rfl rfl)
theorem dX4_house_119 : decode cX4_house 119 = .ok (.iconst 1, 1) := dk_4 (dk_at dksX4_house_5 1 rfl rfl)
theorem dX4_house_120 : decode cX4_house 120 = .ok (.aload_n 0, 1) := dk_42 (dk_at dksX4_house_5 2 rfl rfl)
theorem dX4_house_121 : decode cX4_house 121 = .ok (.getfield 79, 3) := dk_180 0 79 (dk_at dksX4_house_5 3 rfl rfl)
theorem dX4_house_124 : decode cX4_house 124 = .ok (.invokevirtual 125, 3) := dk_182 0 125 (dk_at dksX4_house_5 6 rfl rfl)
theorem dX4_house_127 : decode cX4_house 127 = .ok (.aload_n 0, 1) := dk_42 (dk_at dksX4_house_5 9 rfl rfl)
theorem dX4_house_128 : decode cX4_house 128 = .ok (.getfield 98, 3) := dk_180 0 98 (dk_at dksX4_house_5 10 rfl rfl)
theorem dX4_house_131 : decode cX4_house 131 = .ok (.ifCond .ne 49, 3) := dk_154 0 49 (dk_at dksX4_house_5 13 rfl rfl)
theorem dX4_house_134 : decode cX4_house 134 = .ok (.aload_n 0, 1) := dk_42 (dk_at dksX4_house_5 16 rfl rfl)
theorem dX4_house_135 : decode cX4_house 135 = .ok (.getfield 23, 3) := dk_180 0 23 (dk_at dksX4_house_5 17 rfl rfl)
theorem dX4_house_138 : decode cX4_house 138 = .ok (.iconst 0, 1) := dk_3 (dk_at dksX4_house_5 20 rfl rfl)
theorem dX4_house_139 : decode cX4_house 139 = .ok (.iaload, 1) := dk_46 (dk_at dksX4_house_5 21 rfl rfl)
theorem dX4_house_140 : decode cX4_house 140 = .ok (.ifCond .eq 30, 3) := dk_153 0 30 (dk_at dksX4_house_6 0 rfl rfl)
theorem dX4_house_143 : decode cX4_house 143 = .ok (.aload_n 0, 1) := dk_42 (dk_at dksX4_house_6 3 rfl rfl)
theorem dX4_house_144 : decode cX4_house 144 = .ok (.getfield 23, 3) := dk_180 0 23 (dk_at dksX4_house_6 4 rfl rfl)
theorem dX4_house_147 : decode cX4_house 147 = .ok (.iconst 3, 1) := dk_6 (dk_at dksX4_house_6 7 rfl rfl)
theorem dX4_house_148 : decode cX4_house 148 = .ok (.iaload, 1) := dk_46 (dk_at dksX4_house_6 8 rfl rfl)
theorem dX4_house_149 : decode cX4_house 149 = .ok (.ifCond .eq 21, 3) := dk_153 0 21 (dk_at dksX4_house_6 9 rfl rfl)
theorem dX4_house_152 : decode cX4_house 152 = .ok (.aload_n 0, 1) := dk_42 (dk_at dksX4_house_6 12 rfl rfl)
theorem dX4_house_153 : decode cX4_house 153 = .ok (.getfield 23, 3) := dk_180 0 23 (dk_at dksX4_house_6 13 rfl rfl)
theorem dX4_house_156 : decode cX4_house 156 = .ok (.iconst 4, 1) := dk_7 (dk_at dksX4_house_6 16 rfl rfl)
theorem dX4_house_157 : decode cX4_house 157 = .ok (.iaload, 1) := dk_46 (dk_at dksX4_house_6 17 rfl rfl)
theorem dX4_house_158 : decode cX4_house 158 = .ok (.ifCond .eq 12, 3) := dk_153 0 12 (dk_at dksX4_house_6 18 rfl rfl)
theorem dX4_house_161 : decode cX4_house 161 = .ok (.aload_n 0, 1) := dk_42 (dk_at dksX4_house_6 21 rfl rfl)
theorem dX4_house_162 : decode cX4_house 162 = .ok (.getfield 23, 3) := dk_180 0 23 (dk_at dksX4_house_7 0 rfl rfl)
theorem dX4_house_165 : decode cX4_house 165 = .ok (.iconst 5, 1) := dk_8 (dk_at dksX4_house_7 3 rfl rfl)
theorem dX4_house_166 : decode cX4_house 166 = .ok (.iaload, 1) := dk_46 (dk_at dksX4_house_7 4 rfl rfl)
theorem dX4_house_167 : decode cX4_house 167 = .ok (.ifCond .ne 13, 3) := dk_154 0 13 (dk_at dksX4_house_7 5 rfl rfl)
theorem dX4_house_170 : decode cX4_house 170 = .ok (.aload_n 0, 1) := dk_42 (dk_at dksX4_house_7 8 rfl rfl)
theorem dX4_house_171 : decode cX4_house 171 = .ok (.bipush 6, 2) := dk_16 6 (dk_at dksX4_house_7 9 rfl rfl)
theorem dX4_house_173 : decode cX4_house 173 = .ok (.aload_n 0, 1) := dk_42 (dk_at dksX4_house_7 11 rfl rfl)
theorem dX4_house_174 : decode cX4_house 174 = .ok (.getfield 79, 3) := dk_180 0 79 (dk_at dksX4_house_7 12 rfl rfl)
theorem dX4_house_177 : decode cX4_house 177 = .ok (.invokevirtual 125, 3) := dk_182 0 125 (dk_at dksX4_house_7 15 rfl rfl)
theorem dX4_house_180 : decode cX4_house 180 = .ok (.aload_n 0, 1) := dk_42 (dk_at dksX4_house_7 18 rfl rfl)
theorem dX4_house_181 : decode cX4_house 181 = .ok (.getfield 98, 3) := dk_180 0 98 (dk_at dksX4_house_7 19 rfl rfl)
theorem dX4_house_184 : decode cX4_house 184 = .ok (.ifCond .eq 9, 3) := dk_153 0 9 (dk_at dksX4_house_8 0 rfl rfl)
theorem dX4_house_187 : decode cX4_house 187 = .ok (.aload_n 0, 1) := dk_42 (dk_at dksX4_house_8 3 rfl rfl)
theorem dX4_house_188 : decode cX4_house 188 = .ok (.iconst 4, 1) := dk_7 (dk_at dksX4_house_8 4 rfl rfl)
theorem dX4_house_189 : decode cX4_house 189 = .ok (.invokevirtual 168, 3) := dk_182 0 168 (dk_at dksX4_house_8 5 rfl rfl)
theorem dX4_house_192 : decode cX4_house 192 = .ok (.ireturn, 1) := dk_172 (dk_at dksX4_house_8 8 rfl rfl)
theorem dX4_house_193 : decode cX4_house 193 = .ok (.aload_n 0, 1) := dk_42 (dk_at dksX4_house_8 9 rfl rfl)
theorem dX4_house_194 : decode cX4_house 194 = .ok (.getfield 23, 3) := dk_180 0 23 (dk_at dksX4_house_8 10 rfl rfl)
theorem dX4_house_197 : decode cX4_house 197 = .ok (.iconst 0, 1) := dk_3 (dk_at dksX4_house_8 13 rfl rfl)
theorem dX4_house_198 : decode cX4_house 198 = .ok (.aload_n 0, 1) := dk_42 (dk_at dksX4_house_8 14 rfl rfl)
theorem dX4_house_199 : decode cX4_house 199 = .ok (.getfield 20, 3) := dk_180 0 20 (dk_at dksX4_house_8 15 rfl rfl)
theorem dX4_house_202 : decode cX4_house 202 = .ok (.iconst 0, 1) := dk_3 (dk_at dksX4_house_8 18 rfl rfl)
theorem dX4_house_203 : decode cX4_house 203 = .ok (.sipush 347, 3) := dk_17 1 91 (dk_at dksX4_house_8 19 rfl rfl)
theorem dX4_house_206 : decode cX4_house 206 = .ok (.invokestatic 174, 3) := dk_184 0 174 (dk_at dksX4_house_9 0 rfl rfl)
theorem dX4_house_209 : decode cX4_house 209 = .ok (.aload_n 0, 1) := dk_42 (dk_at dksX4_house_9 3 rfl rfl)
theorem dX4_house_210 : decode cX4_house 210 = .ok (.iconst 1, 1) := dk_4 (dk_at dksX4_house_9 4 rfl rfl)
theorem dX4_house_211 : decode cX4_house 211 = .ok (.putfield 178, 3) := dk_181 0 178 (dk_at dksX4_house_9 5 rfl rfl)
theorem dX4_house_214 : decode cX4_house 214 = .ok (.aload_n 0, 1) := dk_42 (dk_at dksX4_house_9 8 rfl rfl)
theorem dX4_house_215 : decode cX4_house 215 = .ok (.iconst 0, 1) := dk_3 (dk_at dksX4_house_9 9 rfl rfl)
theorem dX4_house_216 : decode cX4_house 216 = .ok (.putfield 181, 3) := dk_181 0 181 (dk_at dksX4_house_9 10 rfl rfl)
theorem dX4_house_219 : decode cX4_house 219 = .ok (.aload_n 0, 1) := dk_42 (dk_at dksX4_house_9 13 rfl rfl)
theorem dX4_house_220 : decode cX4_house 220 = .ok (.iconst 0, 1) := dk_3 (dk_at dksX4_house_9 14 rfl rfl)
theorem dX4_house_221 : decode cX4_house 221 = .ok (.putfield 184, 3) := dk_181 0 184 (dk_at dksX4_house_9 15 rfl rfl)
theorem dX4_house_224 : decode cX4_house 224 = .ok (.aload_n 0, 1) := dk_42 (dk_at dksX4_house_9 18 rfl rfl)
theorem dX4_house_225 : decode cX4_house 225 = .ok (.invokevirtual 187, 3) := dk_182 0 187 (dk_at dksX4_house_9 19 rfl rfl)
theorem dX4_house_228 : decode cX4_house 228 = .ok (.aload_n 0, 1) := dk_42 (dk_at dksX4_house_9 22 rfl rfl)
theorem dX4_house_229 : decode cX4_house 229 = .ok (.aload_n 0, 1) := dk_42 (dk_at dksX4_house_9 23 rfl rfl)
theorem dX4_house_230 : decode cX4_house 230 = .ok (.getfield 26, 3) := dk_180 0 26 (dk_at dksX4_house_10 0 rfl rfl)
theorem dX4_house_233 : decode cX4_house 233 = .ok (.invokevirtual 190, 3) := dk_182 0 190 (dk_at dksX4_house_10 3 rfl rfl)
theorem dX4_house_236 : decode cX4_house 236 = .ok (.aload_n 0, 1) := dk_42 (dk_at dksX4_house_10 6 rfl rfl)
theorem dX4_house_237 : decode cX4_house 237 = .ok (.getfield 20, 3) := dk_180 0 20 (dk_at dksX4_house_10 7 rfl rfl)
theorem dX4_house_240 : decode cX4_house 240 = .ok (.iconst 5, 1) := dk_8 (dk_at dksX4_house_10 10 rfl rfl)
theorem dX4_house_241 : decode cX4_house 241 = .ok (.iaload, 1) := dk_46 (dk_at dksX4_house_10 11 rfl rfl)
theorem dX4_house_242 : decode cX4_house 242 = .ok (.ireturn, 1) := dk_172 (dk_at dksX4_house_10 12 rfl rfl)
abbrev cX4_good : ByteArray := prog_24_method_3_code
def yX4_good : MethodName := ⟨RX4, "good", "()V"⟩
def dkwX4_good_0 : List UInt8 := [42, 3, 181, 0, 60, 42, 3, 181, 0, 63, 177]
abbrev dktX4_good_0 : List UInt8 := dkwX4_good_0 ++ []
theorem dksX4_good_0 : cX4_good.data.toList.drop 0 = dktX4_good_0 := by decide +kernel
theorem dX4_good_0 : decode cX4_good 0 = .ok (.aload_n 0, 1) := dk_42 (dk_at dksX4_good_0 0 rfl rfl)
theorem dX4_good_1 : decode cX4_good 1 = .ok (.iconst 0, 1) := dk_3 (dk_at dksX4_good_0 1 rfl rfl)
theorem dX4_good_2 : decode cX4_good 2 = .ok (.putfield 60, 3) := dk_181 0 60 (dk_at dksX4_good_0 2 rfl rfl)
theorem dX4_good_5 : decode cX4_good 5 = .ok (.aload_n 0, 1) := dk_42 (dk_at dksX4_good_0 5 rfl rfl)
theorem dX4_good_6 : decode cX4_good 6 = .ok (.iconst 0, 1) := dk_3 (dk_at dksX4_good_0 6 rfl rfl)
theorem dX4_good_7 : decode cX4_good 7 = .ok (.putfield 63, 3) := dk_181 0 63 (dk_at dksX4_good_0 7 rfl rfl)
theorem dX4_good_10 : decode cX4_good 10 = .ok (.return_, 1) := dk_177 (dk_at dksX4_good_0 10 rfl rfl)
abbrev cX4_within : ByteArray := prog_24_method_7_code
def yX4_within : MethodName := ⟨RX4, "within", "(III)Z"⟩
def dkwX4_within_0 : List UInt8 := [26, 27, 161, 0, 12, 26, 28, 163, 0, 7, 4, 167, 0, 4, 3, 172]
abbrev dktX4_within_0 : List UInt8 := dkwX4_within_0 ++ []
theorem dksX4_within_0 : cX4_within.data.toList.drop 0 = dktX4_within_0 := by decide +kernel
theorem dX4_within_0 : decode cX4_within 0 = .ok (.iload_n 0, 1) := dk_26 (dk_at dksX4_within_0 0 rfl rfl)
theorem dX4_within_1 : decode cX4_within 1 = .ok (.iload_n 1, 1) := dk_27 (dk_at dksX4_within_0 1 rfl rfl)
theorem dX4_within_2 : decode cX4_within 2 = .ok (.if_icmp .lt 12, 3) := dk_161 0 12 (dk_at dksX4_within_0 2 rfl rfl)
theorem dX4_within_5 : decode cX4_within 5 = .ok (.iload_n 0, 1) := dk_26 (dk_at dksX4_within_0 5 rfl rfl)
theorem dX4_within_6 : decode cX4_within 6 = .ok (.iload_n 2, 1) := dk_28 (dk_at dksX4_within_0 6 rfl rfl)
theorem dX4_within_7 : decode cX4_within 7 = .ok (.if_icmp .gt 7, 3) := dk_163 0 7 (dk_at dksX4_within_0 7 rfl rfl)
theorem dX4_within_10 : decode cX4_within 10 = .ok (.iconst 1, 1) := dk_4 (dk_at dksX4_within_0 10 rfl rfl)
theorem dX4_within_11 : decode cX4_within 11 = .ok (.goto 4, 3) := dk_167 0 4 (dk_at dksX4_within_0 11 rfl rfl)
theorem dX4_within_14 : decode cX4_within 14 = .ok (.iconst 0, 1) := dk_3 (dk_at dksX4_within_0 14 rfl rfl)
theorem dX4_within_15 : decode cX4_within 15 = .ok (.ireturn, 1) := dk_172 (dk_at dksX4_within_0 15 rfl rfl)
abbrev cX4_no : ByteArray := prog_24_method_4_code
def yX4_no : MethodName := ⟨RX4, "no", "(I)I"⟩
def dkwX4_no_0 : List UInt8 := [42, 27, 181, 0, 63, 2, 172]
abbrev dktX4_no_0 : List UInt8 := dkwX4_no_0 ++ []
theorem dksX4_no_0 : cX4_no.data.toList.drop 0 = dktX4_no_0 := by decide +kernel
theorem dX4_no_0 : decode cX4_no 0 = .ok (.aload_n 0, 1) := dk_42 (dk_at dksX4_no_0 0 rfl rfl)
theorem dX4_no_1 : decode cX4_no 1 = .ok (.iload_n 1, 1) := dk_27 (dk_at dksX4_no_0 1 rfl rfl)
theorem dX4_no_2 : decode cX4_no 2 = .ok (.putfield 63, 3) := dk_181 0 63 (dk_at dksX4_no_0 2 rfl rfl)
theorem dX4_no_5 : decode cX4_no 5 = .ok (.iconst (-1), 1) := dk_2 (dk_at dksX4_no_0 5 rfl rfl)
theorem dX4_no_6 : decode cX4_no 6 = .ok (.ireturn, 1) := dk_172 (dk_at dksX4_no_0 6 rfl rfl)
abbrev cX4_nextToken : ByteArray := prog_24_method_15_code
def yX4_nextToken : MethodName := ⟨RX4, "nextToken", "()V"⟩
def dkwX4_nextToken_10 : List UInt8 := [159, 0, 9, 28, 16, 44, 160, 0, 7, 28, 167, 0, 4, 4, 181, 0, 88, 177]
abbrev dktX4_nextToken_10 : List UInt8 := dkwX4_nextToken_10 ++ []
def dkwX4_nextToken_9 : List UInt8 := [4, 167, 0, 4, 6, 181, 0, 88, 167, 0, 31, 42, 27, 4, 96, 181, 0, 72, 42, 28, 16, 59]
abbrev dktX4_nextToken_9 : List UInt8 := dkwX4_nextToken_9 ++ dktX4_nextToken_10
def dkwX4_nextToken_8 : List UInt8 := [100, 181, 0, 85, 132, 3, 1, 132, 1, 1, 167, 255, 214, 42, 27, 181, 0, 72, 42, 29, 6, 164, 0, 7]
abbrev dktX4_nextToken_8 : List UInt8 := dkwX4_nextToken_8 ++ dktX4_nextToken_9
def dkwX4_nextToken_7 : List UInt8 := [153, 0, 37, 29, 6, 162, 0, 23, 42, 16, 10, 42, 180, 0, 85, 104, 42, 27, 182, 0, 75, 96, 16, 48]
abbrev dktX4_nextToken_7 : List UInt8 := dkwX4_nextToken_7 ++ dktX4_nextToken_8
def dkwX4_nextToken_6 : List UInt8 := [181, 0, 88, 167, 0, 107, 28, 184, 0, 95, 153, 0, 72, 3, 62, 42, 27, 182, 0, 75, 184, 0, 95]
abbrev dktX4_nextToken_6 : List UInt8 := dkwX4_nextToken_6 ++ dktX4_nextToken_7
def dkwX4_nextToken_5 : List UInt8 := [167, 255, 209, 42, 27, 181, 0, 72, 42, 42, 180, 0, 82, 16, 8, 164, 0, 7, 4, 167, 0, 4, 5]
abbrev dktX4_nextToken_5 : List UInt8 := dkwX4_nextToken_5 ++ dktX4_nextToken_6
def dkwX4_nextToken_4 : List UInt8 := [180, 0, 82, 42, 27, 182, 0, 75, 79, 42, 89, 180, 0, 82, 4, 96, 181, 0, 82, 132, 1, 1]
abbrev dktX4_nextToken_4 : List UInt8 := dkwX4_nextToken_4 ++ dktX4_nextToken_5
def dkwX4_nextToken_3 : List UInt8 := [182, 0, 75, 184, 0, 91, 153, 0, 42, 42, 180, 0, 82, 16, 8, 162, 0, 17, 42, 180, 0, 17, 42]
abbrev dktX4_nextToken_3 : List UInt8 := dkwX4_nextToken_3 ++ dktX4_nextToken_4
def dkwX4_nextToken_2 : List UInt8 := [42, 3, 181, 0, 88, 42, 27, 181, 0, 72, 167, 0, 190, 28, 184, 0, 91, 153, 0, 79, 42, 27]
abbrev dktX4_nextToken_2 : List UInt8 := dkwX4_nextToken_2 ++ dktX4_nextToken_3
def dkwX4_nextToken_1 : List UInt8 := [181, 0, 79, 42, 27, 182, 0, 75, 61, 42, 3, 181, 0, 82, 42, 3, 181, 0, 85, 28, 2, 160, 0, 16]
abbrev dktX4_nextToken_1 : List UInt8 := dkwX4_nextToken_1 ++ dktX4_nextToken_2
def dkwX4_nextToken_0 : List UInt8 := [42, 180, 0, 72, 60, 42, 27, 182, 0, 75, 16, 32, 160, 0, 9, 132, 1, 1, 167, 255, 243, 42, 27]
abbrev dktX4_nextToken_0 : List UInt8 := dkwX4_nextToken_0 ++ dktX4_nextToken_1
theorem dksX4_nextToken_0 : cX4_nextToken.data.toList.drop 0 = dktX4_nextToken_0 := by decide +kernel
theorem dksX4_nextToken_1 : cX4_nextToken.data.toList.drop 23 = dktX4_nextToken_1 := dk_seg dksX4_nextToken_0 23 rfl rfl
theorem dksX4_nextToken_2 : cX4_nextToken.data.toList.drop 47 = dktX4_nextToken_2 := dk_seg dksX4_nextToken_1 24 rfl rfl
theorem dksX4_nextToken_3 : cX4_nextToken.data.toList.drop 69 = dktX4_nextToken_3 := dk_seg dksX4_nextToken_2 22 rfl rfl
theorem dksX4_nextToken_4 : cX4_nextToken.data.toList.drop 92 = dktX4_nextToken_4 := dk_seg dksX4_nextToken_3 23 rfl rfl
theorem dksX4_nextToken_5 : cX4_nextToken.data.toList.drop 114 = dktX4_nextToken_5 := dk_seg dksX4_nextToken_4 22 rfl rfl
theorem dksX4_nextToken_6 : cX4_nextToken.data.toList.drop 137 = dktX4_nextToken_6 := dk_seg dksX4_nextToken_5 23 rfl rfl
theorem dksX4_nextToken_7 : cX4_nextToken.data.toList.drop 160 = dktX4_nextToken_7 := dk_seg dksX4_nextToken_6 23 rfl rfl
theorem dksX4_nextToken_8 : cX4_nextToken.data.toList.drop 184 = dktX4_nextToken_8 := dk_seg dksX4_nextToken_7 24 rfl rfl
theorem dksX4_nextToken_9 : cX4_nextToken.data.toList.drop 208 = dktX4_nextToken_9 := dk_seg dksX4_nextToken_8 24 rfl rfl
theorem dksX4_nextToken_10 : cX4_nextToken.data.toList.drop 230 = dktX4_nextToken_10 := dk_seg dksX4_nextToken_9 22 rfl rfl
theorem dX4_nextToken_0 : decode cX4_nextToken 0 = .ok (.aload_n 0, 1) := dk_42 (dk_at dksX4_nextToken_0 0 rfl rfl)
theorem dX4_nextToken_1 : decode cX4_nextToken 1 = .ok (.getfield 72, 3) := dk_180 0 72 (dk_at dksX4_nextToken_0 1 rfl rfl)
theorem dX4_nextToken_4 : decode cX4_nextToken 4 = .ok (.istore_n 1, 1) := dk_60 (dk_at dksX4_nextToken_0 4 rfl rfl)
theorem dX4_nextToken_5 : decode cX4_nextToken 5 = .ok (.aload_n 0, 1) := dk_42 (dk_at dksX4_nextToken_0 5 rfl rfl)
theorem dX4_nextToken_6 : decode cX4_nextToken 6 = .ok (.iload_n 1, 1) := dk_27 (dk_at dksX4_nextToken_0 6 rfl rfl)
theorem dX4_nextToken_7 : decode cX4_nextToken 7 = .ok (.invokevirtual 75, 3) := dk_182 0 75 (dk_at dksX4_nextToken_0 7 rfl rfl)
theorem dX4_nextToken_10 : decode cX4_nextToken 10 = .ok (.bipush 32, 2) := dk_16 32 (dk_at dksX4_nextToken_0 10 rfl rfl)
theorem dX4_nextToken_12 : decode cX4_nextToken 12 = .ok (.if_icmp .ne 9, 3) := dk_160 0 9 (dk_at dksX4_nextToken_0 12 rfl rfl)
theorem dX4_nextToken_15 : decode cX4_nextToken 15 = .ok (.iinc 1 1, 3) := dk_132 1 1 (dk_at dksX4_nextToken_0 15 rfl rfl)
theorem dX4_nextToken_18 : decode cX4_nextToken 18 = .ok (.goto (-13), 3) := dk_167 255 243 (dk_at dksX4_nextToken_0 18 rfl rfl)
theorem dX4_nextToken_21 : decode cX4_nextToken 21 = .ok (.aload_n 0, 1) := dk_42 (dk_at dksX4_nextToken_0 21 rfl rfl)
theorem dX4_nextToken_22 : decode cX4_nextToken 22 = .ok (.iload_n 1, 1) := dk_27 (dk_at dksX4_nextToken_0 22 rfl rfl)
theorem dX4_nextToken_23 : decode cX4_nextToken 23 = .ok (.putfield 79, 3) := dk_181 0 79 (dk_at dksX4_nextToken_1 0 rfl rfl)
theorem dX4_nextToken_26 : decode cX4_nextToken 26 = .ok (.aload_n 0, 1) := dk_42 (dk_at dksX4_nextToken_1 3 rfl rfl)
theorem dX4_nextToken_27 : decode cX4_nextToken 27 = .ok (.iload_n 1, 1) := dk_27 (dk_at dksX4_nextToken_1 4 rfl rfl)
theorem dX4_nextToken_28 : decode cX4_nextToken 28 = .ok (.invokevirtual 75, 3) := dk_182 0 75 (dk_at dksX4_nextToken_1 5 rfl rfl)
theorem dX4_nextToken_31 : decode cX4_nextToken 31 = .ok (.istore_n 2, 1) := dk_61 (dk_at dksX4_nextToken_1 8 rfl rfl)
theorem dX4_nextToken_32 : decode cX4_nextToken 32 = .ok (.aload_n 0, 1) := dk_42 (dk_at dksX4_nextToken_1 9 rfl rfl)
theorem dX4_nextToken_33 : decode cX4_nextToken 33 = .ok (.iconst 0, 1) := dk_3 (dk_at dksX4_nextToken_1 10 rfl rfl)
theorem dX4_nextToken_34 : decode cX4_nextToken 34 = .ok (.putfield 82, 3) := dk_181 0 82 (dk_at dksX4_nextToken_1 11 rfl rfl)
theorem dX4_nextToken_37 : decode cX4_nextToken 37 = .ok (.aload_n 0, 1) := dk_42 (dk_at dksX4_nextToken_1 14 rfl rfl)
theorem dX4_nextToken_38 : decode cX4_nextToken 38 = .ok (.iconst 0, 1) := dk_3 (dk_at dksX4_nextToken_1 15 rfl rfl)
theorem dX4_nextToken_39 : decode cX4_nextToken 39 = .ok (.putfield 85, 3) := dk_181 0 85 (dk_at dksX4_nextToken_1 16 rfl rfl)
theorem dX4_nextToken_42 : decode cX4_nextToken 42 = .ok (.iload_n 2, 1) := dk_28 (dk_at dksX4_nextToken_1 19 rfl rfl)
theorem dX4_nextToken_43 : decode cX4_nextToken 43 = .ok (.iconst (-1), 1) := dk_2 (dk_at dksX4_nextToken_1 20 rfl rfl)
theorem dX4_nextToken_44 : decode cX4_nextToken 44 = .ok (.if_icmp .ne 16, 3) := dk_160 0 16 (dk_at dksX4_nextToken_1 21 rfl rfl)
theorem dX4_nextToken_47 : decode cX4_nextToken 47 = .ok (.aload_n 0, 1) := dk_42 (dk_at dksX4_nextToken_2 0 rfl rfl)
theorem dX4_nextToken_48 : decode cX4_nextToken 48 = .ok (.iconst 0, 1) := dk_3 (dk_at dksX4_nextToken_2 1 rfl rfl)
theorem dX4_nextToken_49 : decode cX4_nextToken 49 = .ok (.putfield 88, 3) := dk_181 0 88 (dk_at dksX4_nextToken_2 2 rfl rfl)
theorem dX4_nextToken_52 : decode cX4_nextToken 52 = .ok (.aload_n 0, 1) := dk_42 (dk_at dksX4_nextToken_2 5 rfl rfl)
theorem dX4_nextToken_53 : decode cX4_nextToken 53 = .ok (.iload_n 1, 1) := dk_27 (dk_at dksX4_nextToken_2 6 rfl rfl)
theorem dX4_nextToken_54 : decode cX4_nextToken 54 = .ok (.putfield 72, 3) := dk_181 0 72 (dk_at dksX4_nextToken_2 7 rfl rfl)
theorem dX4_nextToken_57 : decode cX4_nextToken 57 = .ok (.goto 190, 3) := dk_167 0 190 (dk_at dksX4_nextToken_2 10 rfl rfl)
theorem dX4_nextToken_60 : decode cX4_nextToken 60 = .ok (.iload_n 2, 1) := dk_28 (dk_at dksX4_nextToken_2 13 rfl rfl)
theorem dX4_nextToken_61 : decode cX4_nextToken 61 = .ok (.invokestatic 91, 3) := dk_184 0 91 (dk_at dksX4_nextToken_2 14 rfl rfl)
theorem dX4_nextToken_64 : decode cX4_nextToken 64 = .ok (.ifCond .eq 79, 3) := dk_153 0 79 (dk_at dksX4_nextToken_2 17 rfl rfl)
theorem dX4_nextToken_67 : decode cX4_nextToken 67 = .ok (.aload_n 0, 1) := dk_42 (dk_at dksX4_nextToken_2 20 rfl rfl)
theorem dX4_nextToken_68 : decode cX4_nextToken 68 = .ok (.iload_n 1, 1) := dk_27 (dk_at dksX4_nextToken_2 21 rfl rfl)
theorem dX4_nextToken_69 : decode cX4_nextToken 69 = .ok (.invokevirtual 75, 3) := dk_182 0 75 (dk_at dksX4_nextToken_3 0 rfl rfl)
theorem dX4_nextToken_72 : decode cX4_nextToken 72 = .ok (.invokestatic 91, 3) := dk_184 0 91 (dk_at dksX4_nextToken_3 3 rfl rfl)
theorem dX4_nextToken_75 : decode cX4_nextToken 75 = .ok (.ifCond .eq 42, 3) := dk_153 0 42 (dk_at dksX4_nextToken_3 6 rfl rfl)
theorem dX4_nextToken_78 : decode cX4_nextToken 78 = .ok (.aload_n 0, 1) := dk_42 (dk_at dksX4_nextToken_3 9 rfl rfl)
theorem dX4_nextToken_79 : decode cX4_nextToken 79 = .ok (.getfield 82, 3) := dk_180 0 82 (dk_at dksX4_nextToken_3 10 rfl rfl)
theorem dX4_nextToken_82 : decode cX4_nextToken 82 = .ok (.bipush 8, 2) := dk_16 8 (dk_at dksX4_nextToken_3 13 rfl rfl)
theorem dX4_nextToken_84 : decode cX4_nextToken 84 = .ok (.if_icmp .ge 17, 3) := dk_162 0 17 (dk_at dksX4_nextToken_3 15 rfl rfl)
theorem dX4_nextToken_87 : decode cX4_nextToken 87 = .ok (.aload_n 0, 1) := dk_42 (dk_at dksX4_nextToken_3 18 rfl rfl)
theorem dX4_nextToken_88 : decode cX4_nextToken 88 = .ok (.getfield 17, 3) := dk_180 0 17 (dk_at dksX4_nextToken_3 19 rfl rfl)
theorem dX4_nextToken_91 : decode cX4_nextToken 91 = .ok (.aload_n 0, 1) := dk_42 (dk_at dksX4_nextToken_3 22 rfl rfl)
theorem dX4_nextToken_92 : decode cX4_nextToken 92 = .ok (.getfield 82, 3) := dk_180 0 82 (dk_at dksX4_nextToken_4 0 rfl rfl)
theorem dX4_nextToken_95 : decode cX4_nextToken 95 = .ok (.aload_n 0, 1) := dk_42 (dk_at dksX4_nextToken_4 3 rfl rfl)
theorem dX4_nextToken_96 : decode cX4_nextToken 96 = .ok (.iload_n 1, 1) := dk_27 (dk_at dksX4_nextToken_4 4 rfl rfl)
theorem dX4_nextToken_97 : decode cX4_nextToken 97 = .ok (.invokevirtual 75, 3) := dk_182 0 75 (dk_at dksX4_nextToken_4 5 rfl rfl)
theorem dX4_nextToken_100 : decode cX4_nextToken 100 = .ok (.iastore, 1) := dk_79 (dk_at dksX4_nextToken_4 8 rfl rfl)
theorem dX4_nextToken_101 : decode cX4_nextToken 101 = .ok (.aload_n 0, 1) := dk_42 (dk_at dksX4_nextToken_4 9 rfl rfl)
theorem dX4_nextToken_102 : decode cX4_nextToken 102 = .ok (.dup, 1) := dk_89 (dk_at dksX4_nextToken_4 10 rfl rfl)
theorem dX4_nextToken_103 : decode cX4_nextToken 103 = .ok (.getfield 82, 3) := dk_180 0 82 (dk_at dksX4_nextToken_4 11 rfl rfl)
theorem dX4_nextToken_106 : decode cX4_nextToken 106 = .ok (.iconst 1, 1) := dk_4 (dk_at dksX4_nextToken_4 14 rfl rfl)
theorem dX4_nextToken_107 : decode cX4_nextToken 107 = .ok (.iadd, 1) := dk_96 (dk_at dksX4_nextToken_4 15 rfl rfl)
theorem dX4_nextToken_108 : decode cX4_nextToken 108 = .ok (.putfield 82, 3) := dk_181 0 82 (dk_at dksX4_nextToken_4 16 rfl rfl)
theorem dX4_nextToken_111 : decode cX4_nextToken 111 = .ok (.iinc 1 1, 3) := dk_132 1 1 (dk_at dksX4_nextToken_4 19 rfl rfl)
theorem dX4_nextToken_114 : decode cX4_nextToken 114 = .ok (.goto (-47), 3) := dk_167 255 209 (dk_at dksX4_nextToken_5 0 rfl rfl)
theorem dX4_nextToken_117 : decode cX4_nextToken 117 = .ok (.aload_n 0, 1) := dk_42 (dk_at dksX4_nextToken_5 3 rfl rfl)
theorem dX4_nextToken_118 : decode cX4_nextToken 118 = .ok (.iload_n 1, 1) := dk_27 (dk_at dksX4_nextToken_5 4 rfl rfl)
theorem dX4_nextToken_119 : decode cX4_nextToken 119 = .ok (.putfield 72, 3) := dk_181 0 72 (dk_at dksX4_nextToken_5 5 rfl rfl)
theorem dX4_nextToken_122 : decode cX4_nextToken 122 = .ok (.aload_n 0, 1) := dk_42 (dk_at dksX4_nextToken_5 8 rfl rfl)
theorem dX4_nextToken_123 : decode cX4_nextToken 123 = .ok (.aload_n 0, 1) := dk_42 (dk_at dksX4_nextToken_5 9 rfl rfl)
theorem dX4_nextToken_124 : decode cX4_nextToken 124 = .ok (.getfield 82, 3) := dk_180 0 82 (dk_at dksX4_nextToken_5 10 rfl rfl)
theorem dX4_nextToken_127 : decode cX4_nextToken 127 = .ok (.bipush 8, 2) := dk_16 8 (dk_at dksX4_nextToken_5 13 rfl rfl)
theorem dX4_nextToken_129 : decode cX4_nextToken 129 = .ok (.if_icmp .le 7, 3) := dk_164 0 7 (dk_at dksX4_nextToken_5 15 rfl rfl)
theorem dX4_nextToken_132 : decode cX4_nextToken 132 = .ok (.iconst 1, 1) := dk_4 (dk_at dksX4_nextToken_5 18 rfl rfl)
theorem dX4_nextToken_133 : decode cX4_nextToken 133 = .ok (.goto 4, 3) := dk_167 0 4 (dk_at dksX4_nextToken_5 19 rfl rfl)
theorem dX4_nextToken_136 : decode cX4_nextToken 136 = .ok (.iconst 2, 1) := dk_5 (dk_at dksX4_nextToken_5 22 rfl rfl)
theorem dX4_nextToken_137 : decode cX4_nextToken 137 = .ok (.putfield 88, 3) := dk_181 0 88 (dk_at dksX4_nextToken_6 0 rfl rfl)
theorem dX4_nextToken_140 : decode cX4_nextToken 140 = .ok (.goto 107, 3) := dk_167 0 107 (dk_at dksX4_nextToken_6 3 rfl rfl)
theorem dX4_nextToken_143 : decode cX4_nextToken 143 = .ok (.iload_n 2, 1) := dk_28 (dk_at dksX4_nextToken_6 6 rfl rfl)
theorem dX4_nextToken_144 : decode cX4_nextToken 144 = .ok (.invokestatic 95, 3) := dk_184 0 95 (dk_at dksX4_nextToken_6 7 rfl rfl)
theorem dX4_nextToken_147 : decode cX4_nextToken 147 = .ok (.ifCond .eq 72, 3) := dk_153 0 72 (dk_at dksX4_nextToken_6 10 rfl rfl)
theorem dX4_nextToken_150 : decode cX4_nextToken 150 = .ok (.iconst 0, 1) := dk_3 (dk_at dksX4_nextToken_6 13 rfl rfl)
theorem dX4_nextToken_151 : decode cX4_nextToken 151 = .ok (.istore_n 3, 1) := dk_62 (dk_at dksX4_nextToken_6 14 rfl rfl)
theorem dX4_nextToken_152 : decode cX4_nextToken 152 = .ok (.aload_n 0, 1) := dk_42 (dk_at dksX4_nextToken_6 15 rfl rfl)
theorem dX4_nextToken_153 : decode cX4_nextToken 153 = .ok (.iload_n 1, 1) := dk_27 (dk_at dksX4_nextToken_6 16 rfl rfl)
theorem dX4_nextToken_154 : decode cX4_nextToken 154 = .ok (.invokevirtual 75, 3) := dk_182 0 75 (dk_at dksX4_nextToken_6 17 rfl rfl)
theorem dX4_nextToken_157 : decode cX4_nextToken 157 = .ok (.invokestatic 95, 3) := dk_184 0 95 (dk_at dksX4_nextToken_6 20 rfl rfl)
theorem dX4_nextToken_160 : decode cX4_nextToken 160 = .ok (.ifCond .eq 37, 3) := dk_153 0 37 (dk_at dksX4_nextToken_7 0 rfl rfl)
theorem dX4_nextToken_163 : decode cX4_nextToken 163 = .ok (.iload_n 3, 1) := dk_29 (dk_at dksX4_nextToken_7 3 rfl rfl)
theorem dX4_nextToken_164 : decode cX4_nextToken 164 = .ok (.iconst 3, 1) := dk_6 (dk_at dksX4_nextToken_7 4 rfl rfl)
theorem dX4_nextToken_165 : decode cX4_nextToken 165 = .ok (.if_icmp .ge 23, 3) := dk_162 0 23 (dk_at dksX4_nextToken_7 5 rfl rfl)
theorem dX4_nextToken_168 : decode cX4_nextToken 168 = .ok (.aload_n 0, 1) := dk_42 (dk_at dksX4_nextToken_7 8 rfl rfl)
theorem dX4_nextToken_169 : decode cX4_nextToken 169 = .ok (.bipush 10, 2) := dk_16 10 (dk_at dksX4_nextToken_7 9 rfl rfl)
theorem dX4_nextToken_171 : decode cX4_nextToken 171 = .ok (.aload_n 0, 1) := dk_42 (dk_at dksX4_nextToken_7 11 rfl rfl)
theorem dX4_nextToken_172 : decode cX4_nextToken 172 = .ok (.getfield 85, 3) := dk_180 0 85 (dk_at dksX4_nextToken_7 12 rfl rfl)
theorem dX4_nextToken_175 : decode cX4_nextToken 175 = .ok (.imul, 1) := dk_104 (dk_at dksX4_nextToken_7 15 rfl rfl)
theorem dX4_nextToken_176 : decode cX4_nextToken 176 = .ok (.aload_n 0, 1) := dk_42 (dk_at dksX4_nextToken_7 16 rfl rfl)
theorem dX4_nextToken_177 : decode cX4_nextToken 177 = .ok (.iload_n 1, 1) := dk_27 (dk_at dksX4_nextToken_7 17 rfl rfl)
theorem dX4_nextToken_178 : decode cX4_nextToken 178 = .ok (.invokevirtual 75, 3) := dk_182 0 75 (dk_at dksX4_nextToken_7 18 rfl rfl)
theorem dX4_nextToken_181 : decode cX4_nextToken 181 = .ok (.iadd, 1) := dk_96 (dk_at dksX4_nextToken_7 21 rfl rfl)
theorem dX4_nextToken_182 : decode cX4_nextToken 182 = .ok (.bipush 48, 2) := dk_16 48 (dk_at dksX4_nextToken_7 22 rfl rfl)
theorem dX4_nextToken_184 : decode cX4_nextToken 184 = .ok (.isub, 1) := dk_100 (dk_at dksX4_nextToken_8 0 rfl rfl)
theorem dX4_nextToken_185 : decode cX4_nextToken 185 = .ok (.putfield 85, 3) := dk_181 0 85 (dk_at dksX4_nextToken_8 1 rfl rfl)
theorem dX4_nextToken_188 : decode cX4_nextToken 188 = .ok (.iinc 3 1, 3) := dk_132 3 1 (dk_at dksX4_nextToken_8 4 rfl rfl)
theorem dX4_nextToken_191 : decode cX4_nextToken 191 = .ok (.iinc 1 1, 3) := dk_132 1 1 (dk_at dksX4_nextToken_8 7 rfl rfl)
theorem dX4_nextToken_194 : decode cX4_nextToken 194 = .ok (.goto (-42), 3) := dk_167 255 214 (dk_at dksX4_nextToken_8 10 rfl rfl)
theorem dX4_nextToken_197 : decode cX4_nextToken 197 = .ok (.aload_n 0, 1) := dk_42 (dk_at dksX4_nextToken_8 13 rfl rfl)
theorem dX4_nextToken_198 : decode cX4_nextToken 198 = .ok (.iload_n 1, 1) := dk_27 (dk_at dksX4_nextToken_8 14 rfl rfl)
theorem dX4_nextToken_199 : decode cX4_nextToken 199 = .ok (.putfield 72, 3) := dk_181 0 72 (dk_at dksX4_nextToken_8 15 rfl rfl)
theorem dX4_nextToken_202 : decode cX4_nextToken 202 = .ok (.aload_n 0, 1) := dk_42 (dk_at dksX4_nextToken_8 18 rfl rfl)
theorem dX4_nextToken_203 : decode cX4_nextToken 203 = .ok (.iload_n 3, 1) := dk_29 (dk_at dksX4_nextToken_8 19 rfl rfl)
theorem dX4_nextToken_204 : decode cX4_nextToken 204 = .ok (.iconst 3, 1) := dk_6 (dk_at dksX4_nextToken_8 20 rfl rfl)
theorem dX4_nextToken_205 : decode cX4_nextToken 205 = .ok (.if_icmp .le 7, 3) := dk_164 0 7 (dk_at dksX4_nextToken_8 21 rfl rfl)
theorem dX4_nextToken_208 : decode cX4_nextToken 208 = .ok (.iconst 1, 1) := dk_4 (dk_at dksX4_nextToken_9 0 rfl rfl)
theorem dX4_nextToken_209 : decode cX4_nextToken 209 = .ok (.goto 4, 3) := dk_167 0 4 (dk_at dksX4_nextToken_9 1 rfl rfl)
theorem dX4_nextToken_212 : decode cX4_nextToken 212 = .ok (.iconst 3, 1) := dk_6 (dk_at dksX4_nextToken_9 4 rfl rfl)
theorem dX4_nextToken_213 : decode cX4_nextToken 213 = .ok (.putfield 88, 3) := dk_181 0 88 (dk_at dksX4_nextToken_9 5 rfl rfl)
theorem dX4_nextToken_216 : decode cX4_nextToken 216 = .ok (.goto 31, 3) := dk_167 0 31 (dk_at dksX4_nextToken_9 8 rfl rfl)
theorem dX4_nextToken_219 : decode cX4_nextToken 219 = .ok (.aload_n 0, 1) := dk_42 (dk_at dksX4_nextToken_9 11 rfl rfl)
theorem dX4_nextToken_220 : decode cX4_nextToken 220 = .ok (.iload_n 1, 1) := dk_27 (dk_at dksX4_nextToken_9 12 rfl rfl)
theorem dX4_nextToken_221 : decode cX4_nextToken 221 = .ok (.iconst 1, 1) := dk_4 (dk_at dksX4_nextToken_9 13 rfl rfl)
theorem dX4_nextToken_222 : decode cX4_nextToken 222 = .ok (.iadd, 1) := dk_96 (dk_at dksX4_nextToken_9 14 rfl rfl)
theorem dX4_nextToken_223 : decode cX4_nextToken 223 = .ok (.putfield 72, 3) := dk_181 0 72 (dk_at dksX4_nextToken_9 15 rfl rfl)
theorem dX4_nextToken_226 : decode cX4_nextToken 226 = .ok (.aload_n 0, 1) := dk_42 (dk_at dksX4_nextToken_9 18 rfl rfl)
theorem dX4_nextToken_227 : decode cX4_nextToken 227 = .ok (.iload_n 2, 1) := dk_28 (dk_at dksX4_nextToken_9 19 rfl rfl)
theorem dX4_nextToken_228 : decode cX4_nextToken 228 = .ok (.bipush 59, 2) := dk_16 59 (dk_at dksX4_nextToken_9 20 rfl rfl)
theorem dX4_nextToken_230 : decode cX4_nextToken 230 = .ok (.if_icmp .eq 9, 3) := dk_159 0 9 (dk_at dksX4_nextToken_10 0 rfl rfl)
theorem dX4_nextToken_233 : decode cX4_nextToken 233 = .ok (.iload_n 2, 1) := dk_28 (dk_at dksX4_nextToken_10 3 rfl rfl)
theorem dX4_nextToken_234 : decode cX4_nextToken 234 = .ok (.bipush 44, 2) := dk_16 44 (dk_at dksX4_nextToken_10 4 rfl rfl)
theorem dX4_nextToken_236 : decode cX4_nextToken 236 = .ok (.if_icmp .ne 7, 3) := dk_160 0 7 (dk_at dksX4_nextToken_10 6 rfl rfl)
theorem dX4_nextToken_239 : decode cX4_nextToken 239 = .ok (.iload_n 2, 1) := dk_28 (dk_at dksX4_nextToken_10 9 rfl rfl)
theorem dX4_nextToken_240 : decode cX4_nextToken 240 = .ok (.goto 4, 3) := dk_167 0 4 (dk_at dksX4_nextToken_10 10 rfl rfl)
theorem dX4_nextToken_243 : decode cX4_nextToken 243 = .ok (.iconst 1, 1) := dk_4 (dk_at dksX4_nextToken_10 13 rfl rfl)
theorem dX4_nextToken_244 : decode cX4_nextToken 244 = .ok (.putfield 88, 3) := dk_181 0 88 (dk_at dksX4_nextToken_10 14 rfl rfl)
theorem dX4_nextToken_247 : decode cX4_nextToken 247 = .ok (.return_, 1) := dk_177 (dk_at dksX4_nextToken_10 17 rfl rfl)
abbrev cX4_seen : ByteArray := prog_24_method_12_code
def yX4_seen : MethodName := ⟨RX4, "seen", "(I)I"⟩
def dkwX4_seen_0 : List UInt8 := [27, 42, 180, 0, 69, 162, 0, 12, 42, 180, 0, 7, 27, 46, 167, 0, 4, 2, 172]
abbrev dktX4_seen_0 : List UInt8 := dkwX4_seen_0 ++ []
theorem dksX4_seen_0 : cX4_seen.data.toList.drop 0 = dktX4_seen_0 := by decide +kernel
theorem dX4_seen_0 : decode cX4_seen 0 = .ok (.iload_n 1, 1) := dk_27 (dk_at dksX4_seen_0 0 rfl rfl)
theorem dX4_seen_1 : decode cX4_seen 1 = .ok (.aload_n 0, 1) := dk_42 (dk_at dksX4_seen_0 1 rfl rfl)
theorem dX4_seen_2 : decode cX4_seen 2 = .ok (.getfield 69, 3) := dk_180 0 69 (dk_at dksX4_seen_0 2 rfl rfl)
theorem dX4_seen_5 : decode cX4_seen 5 = .ok (.if_icmp .ge 12, 3) := dk_162 0 12 (dk_at dksX4_seen_0 5 rfl rfl)
theorem dX4_seen_8 : decode cX4_seen 8 = .ok (.aload_n 0, 1) := dk_42 (dk_at dksX4_seen_0 8 rfl rfl)
theorem dX4_seen_9 : decode cX4_seen 9 = .ok (.getfield 7, 3) := dk_180 0 7 (dk_at dksX4_seen_0 9 rfl rfl)
theorem dX4_seen_12 : decode cX4_seen 12 = .ok (.iload_n 1, 1) := dk_27 (dk_at dksX4_seen_0 12 rfl rfl)
theorem dX4_seen_13 : decode cX4_seen 13 = .ok (.iaload, 1) := dk_46 (dk_at dksX4_seen_0 13 rfl rfl)
theorem dX4_seen_14 : decode cX4_seen 14 = .ok (.goto 4, 3) := dk_167 0 4 (dk_at dksX4_seen_0 14 rfl rfl)
theorem dX4_seen_17 : decode cX4_seen 17 = .ok (.iconst (-1), 1) := dk_2 (dk_at dksX4_seen_0 17 rfl rfl)
theorem dX4_seen_18 : decode cX4_seen 18 = .ok (.ireturn, 1) := dk_172 (dk_at dksX4_seen_0 18 rfl rfl)
abbrev cX4_isSmall : ByteArray := prog_24_method_13_code
def yX4_isSmall : MethodName := ⟨RX4, "isSmall", "(I)Z"⟩
def dkwX4_isSmall_0 : List UInt8 := [26, 16, 97, 161, 0, 13, 26, 16, 122, 163, 0, 7, 4, 167, 0, 4, 3, 172]
abbrev dktX4_isSmall_0 : List UInt8 := dkwX4_isSmall_0 ++ []
theorem dksX4_isSmall_0 : cX4_isSmall.data.toList.drop 0 = dktX4_isSmall_0 := by decide +kernel
theorem dX4_isSmall_0 : decode cX4_isSmall 0 = .ok (.iload_n 0, 1) := dk_26 (dk_at dksX4_isSmall_0 0 rfl rfl)
theorem dX4_isSmall_1 : decode cX4_isSmall 1 = .ok (.bipush 97, 2) := dk_16 97 (dk_at dksX4_isSmall_0 1 rfl rfl)
theorem dX4_isSmall_3 : decode cX4_isSmall 3 = .ok (.if_icmp .lt 13, 3) := dk_161 0 13 (dk_at dksX4_isSmall_0 3 rfl rfl)
theorem dX4_isSmall_6 : decode cX4_isSmall 6 = .ok (.iload_n 0, 1) := dk_26 (dk_at dksX4_isSmall_0 6 rfl rfl)
theorem dX4_isSmall_7 : decode cX4_isSmall 7 = .ok (.bipush 122, 2) := dk_16 122 (dk_at dksX4_isSmall_0 7 rfl rfl)
theorem dX4_isSmall_9 : decode cX4_isSmall 9 = .ok (.if_icmp .gt 7, 3) := dk_163 0 7 (dk_at dksX4_isSmall_0 9 rfl rfl)
theorem dX4_isSmall_12 : decode cX4_isSmall 12 = .ok (.iconst 1, 1) := dk_4 (dk_at dksX4_isSmall_0 12 rfl rfl)
theorem dX4_isSmall_13 : decode cX4_isSmall 13 = .ok (.goto 4, 3) := dk_167 0 4 (dk_at dksX4_isSmall_0 13 rfl rfl)
theorem dX4_isSmall_16 : decode cX4_isSmall 16 = .ok (.iconst 0, 1) := dk_3 (dk_at dksX4_isSmall_0 16 rfl rfl)
theorem dX4_isSmall_17 : decode cX4_isSmall 17 = .ok (.ireturn, 1) := dk_172 (dk_at dksX4_isSmall_0 17 rfl rfl)
abbrev cX4_isDigit : ByteArray := prog_24_method_14_code
def yX4_isDigit : MethodName := ⟨RX4, "isDigit", "(I)Z"⟩
def dkwX4_isDigit_0 : List UInt8 := [26, 16, 48, 161, 0, 13, 26, 16, 57, 163, 0, 7, 4, 167, 0, 4, 3, 172]
abbrev dktX4_isDigit_0 : List UInt8 := dkwX4_isDigit_0 ++ []
theorem dksX4_isDigit_0 : cX4_isDigit.data.toList.drop 0 = dktX4_isDigit_0 := by decide +kernel
theorem dX4_isDigit_0 : decode cX4_isDigit 0 = .ok (.iload_n 0, 1) := dk_26 (dk_at dksX4_isDigit_0 0 rfl rfl)
theorem dX4_isDigit_1 : decode cX4_isDigit 1 = .ok (.bipush 48, 2) := dk_16 48 (dk_at dksX4_isDigit_0 1 rfl rfl)
theorem dX4_isDigit_3 : decode cX4_isDigit 3 = .ok (.if_icmp .lt 13, 3) := dk_161 0 13 (dk_at dksX4_isDigit_0 3 rfl rfl)
theorem dX4_isDigit_6 : decode cX4_isDigit 6 = .ok (.iload_n 0, 1) := dk_26 (dk_at dksX4_isDigit_0 6 rfl rfl)
theorem dX4_isDigit_7 : decode cX4_isDigit 7 = .ok (.bipush 57, 2) := dk_16 57 (dk_at dksX4_isDigit_0 7 rfl rfl)
theorem dX4_isDigit_9 : decode cX4_isDigit 9 = .ok (.if_icmp .gt 7, 3) := dk_163 0 7 (dk_at dksX4_isDigit_0 9 rfl rfl)
theorem dX4_isDigit_12 : decode cX4_isDigit 12 = .ok (.iconst 1, 1) := dk_4 (dk_at dksX4_isDigit_0 12 rfl rfl)
theorem dX4_isDigit_13 : decode cX4_isDigit 13 = .ok (.goto 4, 3) := dk_167 0 4 (dk_at dksX4_isDigit_0 13 rfl rfl)
theorem dX4_isDigit_16 : decode cX4_isDigit 16 = .ok (.iconst 0, 1) := dk_3 (dk_at dksX4_isDigit_0 16 rfl rfl)
theorem dX4_isDigit_17 : decode cX4_isDigit 17 = .ok (.ireturn, 1) := dk_172 (dk_at dksX4_isDigit_0 17 rfl rfl)
abbrev cX4_readLine : ByteArray := prog_24_method_31_code
def yX4_readLine : MethodName := ⟨RX4, "readLine", "()V"⟩
def dkwX4_readLine_7 : List UInt8 := [182, 0, 125, 177]
abbrev dktX4_readLine_7 : List UInt8 := dkwX4_readLine_7 ++ []
def dkwX4_readLine_6 : List UInt8 := [167, 0, 4, 3, 182, 0, 197, 153, 0, 10, 42, 182, 0, 213, 167, 0, 12, 42, 4, 42, 180, 0, 79]
abbrev dktX4_readLine_6 : List UInt8 := dkwX4_readLine_6 ++ dktX4_readLine_7
def dkwX4_readLine_5 : List UInt8 := [42, 182, 0, 210, 167, 0, 45, 42, 18, 139, 42, 180, 0, 23, 16, 7, 46, 16, 8, 162, 0, 7, 4]
abbrev dktX4_readLine_5 : List UInt8 := dkwX4_readLine_5 ++ dktX4_readLine_6
def dkwX4_readLine_4 : List UInt8 := [3, 182, 0, 197, 153, 0, 10, 42, 182, 0, 207, 167, 0, 62, 42, 18, 137, 4, 182, 0, 197, 153, 0, 10]
abbrev dktX4_readLine_4 : List UInt8 := dkwX4_readLine_4 ++ dktX4_readLine_5
def dkwX4_readLine_3 : List UInt8 := [182, 0, 204, 167, 0, 94, 42, 18, 135, 42, 180, 0, 23, 8, 46, 16, 10, 162, 0, 7, 4, 167, 0, 4]
abbrev dktX4_readLine_3 : List UInt8 := dkwX4_readLine_3 ++ dktX4_readLine_4
def dkwX4_readLine_2 : List UInt8 := [18, 133, 42, 180, 0, 23, 7, 46, 6, 162, 0, 7, 4, 167, 0, 4, 3, 182, 0, 197, 153, 0, 10, 42]
abbrev dktX4_readLine_2 : List UInt8 := dkwX4_readLine_2 ++ dktX4_readLine_3
def dkwX4_readLine_1 : List UInt8 := [46, 8, 162, 0, 7, 4, 167, 0, 4, 3, 182, 0, 197, 153, 0, 10, 42, 182, 0, 201, 167, 0, 125, 42]
abbrev dktX4_readLine_1 : List UInt8 := dkwX4_readLine_1 ++ dktX4_readLine_2
def dkwX4_readLine_0 : List UInt8 := [42, 18, 129, 182, 0, 115, 153, 0, 10, 42, 182, 0, 194, 167, 0, 156, 42, 18, 131, 42, 180, 0, 23, 6]
abbrev dktX4_readLine_0 : List UInt8 := dkwX4_readLine_0 ++ dktX4_readLine_1
theorem dksX4_readLine_0 : cX4_readLine.data.toList.drop 0 = dktX4_readLine_0 := by decide +kernel
theorem dksX4_readLine_1 : cX4_readLine.data.toList.drop 24 = dktX4_readLine_1 := dk_seg dksX4_readLine_0 24 rfl rfl
theorem dksX4_readLine_2 : cX4_readLine.data.toList.drop 48 = dktX4_readLine_2 := dk_seg dksX4_readLine_1 24 rfl rfl
theorem dksX4_readLine_3 : cX4_readLine.data.toList.drop 72 = dktX4_readLine_3 := dk_seg dksX4_readLine_2 24 rfl rfl
theorem dksX4_readLine_4 : cX4_readLine.data.toList.drop 96 = dktX4_readLine_4 := dk_seg dksX4_readLine_3 24 rfl rfl
theorem dksX4_readLine_5 : cX4_readLine.data.toList.drop 120 = dktX4_readLine_5 := dk_seg dksX4_readLine_4 24 rfl rfl
theorem dksX4_readLine_6 : cX4_readLine.data.toList.drop 143 = dktX4_readLine_6 := dk_seg dksX4_readLine_5 23 rfl rfl
theorem dksX4_readLine_7 : cX4_readLine.data.toList.drop 166 = dktX4_readLine_7 := dk_seg dksX4_readLine_6 23 rfl rfl
theorem dX4_readLine_0 : decode cX4_readLine 0 = .ok (.aload_n 0, 1) := dk_42 (dk_at dksX4_readLine_0 0 rfl rfl)
theorem dX4_readLine_1 : decode cX4_readLine 1 = .ok (.ldc 129, 2) := dk_18 129 (dk_at dksX4_readLine_0 1 rfl rfl)
theorem dX4_readLine_3 : decode cX4_readLine 3 = .ok (.invokevirtual 115, 3) := dk_182 0 115 (dk_at dksX4_readLine_0 3 rfl rfl)
theorem dX4_readLine_6 : decode cX4_readLine 6 = .ok (.ifCond .eq 10, 3) := dk_153 0 10 (dk_at dksX4_readLine_0 6 rfl rfl)
theorem dX4_readLine_9 : decode cX4_readLine 9 = .ok (.aload_n 0, 1) := dk_42 (dk_at dksX4_readLine_0 9 rfl rfl)
theorem dX4_readLine_10 : decode cX4_readLine 10 = .ok (.invokevirtual 194, 3) := dk_182 0 194 (dk_at dksX4_readLine_0 10 rfl rfl)
theorem dX4_readLine_13 : decode cX4_readLine 13 = .ok (.goto 156, 3) := dk_167 0 156 (dk_at dksX4_readLine_0 13 rfl rfl)
theorem dX4_readLine_16 : decode cX4_readLine 16 = .ok (.aload_n 0, 1) := dk_42 (dk_at dksX4_readLine_0 16 rfl rfl)
theorem dX4_readLine_17 : decode cX4_readLine 17 = .ok (.ldc 131, 2) := dk_18 131 (dk_at dksX4_readLine_0 17 rfl rfl)
theorem dX4_readLine_19 : decode cX4_readLine 19 = .ok (.aload_n 0, 1) := dk_42 (dk_at dksX4_readLine_0 19 rfl rfl)
theorem dX4_readLine_20 : decode cX4_readLine 20 = .ok (.getfield 23, 3) := dk_180 0 23 (dk_at dksX4_readLine_0 20 rfl rfl)
theorem dX4_readLine_23 : decode cX4_readLine 23 = .ok (.iconst 3, 1) := dk_6 (dk_at dksX4_readLine_0 23 rfl rfl)
theorem dX4_readLine_24 : decode cX4_readLine 24 = .ok (.iaload, 1) := dk_46 (dk_at dksX4_readLine_1 0 rfl rfl)
theorem dX4_readLine_25 : decode cX4_readLine 25 = .ok (.iconst 5, 1) := dk_8 (dk_at dksX4_readLine_1 1 rfl rfl)
theorem dX4_readLine_26 : decode cX4_readLine 26 = .ok (.if_icmp .ge 7, 3) := dk_162 0 7 (dk_at dksX4_readLine_1 2 rfl rfl)
theorem dX4_readLine_29 : decode cX4_readLine 29 = .ok (.iconst 1, 1) := dk_4 (dk_at dksX4_readLine_1 5 rfl rfl)
theorem dX4_readLine_30 : decode cX4_readLine 30 = .ok (.goto 4, 3) := dk_167 0 4 (dk_at dksX4_readLine_1 6 rfl rfl)
theorem dX4_readLine_33 : decode cX4_readLine 33 = .ok (.iconst 0, 1) := dk_3 (dk_at dksX4_readLine_1 9 rfl rfl)
theorem dX4_readLine_34 : decode cX4_readLine 34 = .ok (.invokevirtual 197, 3) := dk_182 0 197 (dk_at dksX4_readLine_1 10 rfl rfl)
theorem dX4_readLine_37 : decode cX4_readLine 37 = .ok (.ifCond .eq 10, 3) := dk_153 0 10 (dk_at dksX4_readLine_1 13 rfl rfl)
theorem dX4_readLine_40 : decode cX4_readLine 40 = .ok (.aload_n 0, 1) := dk_42 (dk_at dksX4_readLine_1 16 rfl rfl)
theorem dX4_readLine_41 : decode cX4_readLine 41 = .ok (.invokevirtual 201, 3) := dk_182 0 201 (dk_at dksX4_readLine_1 17 rfl rfl)
theorem dX4_readLine_44 : decode cX4_readLine 44 = .ok (.goto 125, 3) := dk_167 0 125 (dk_at dksX4_readLine_1 20 rfl rfl)
theorem dX4_readLine_47 : decode cX4_readLine 47 = .ok (.aload_n 0, 1) := dk_42 (dk_at dksX4_readLine_1 23 rfl rfl)
theorem dX4_readLine_48 : decode cX4_readLine 48 = .ok (.ldc 133, 2) := dk_18 133 (dk_at dksX4_readLine_2 0 rfl rfl)
theorem dX4_readLine_50 : decode cX4_readLine 50 = .ok (.aload_n 0, 1) := dk_42 (dk_at dksX4_readLine_2 2 rfl rfl)
theorem dX4_readLine_51 : decode cX4_readLine 51 = .ok (.getfield 23, 3) := dk_180 0 23 (dk_at dksX4_readLine_2 3 rfl rfl)
theorem dX4_readLine_54 : decode cX4_readLine 54 = .ok (.iconst 4, 1) := dk_7 (dk_at dksX4_readLine_2 6 rfl rfl)
theorem dX4_readLine_55 : decode cX4_readLine 55 = .ok (.iaload, 1) := dk_46 (dk_at dksX4_readLine_2 7 rfl rfl)
theorem dX4_readLine_56 : decode cX4_readLine 56 = .ok (.iconst 3, 1) := dk_6 (dk_at dksX4_readLine_2 8 rfl rfl)
theorem dX4_readLine_57 : decode cX4_readLine 57 = .ok (.if_icmp .ge 7, 3) := dk_162 0 7 (dk_at dksX4_readLine_2 9 rfl rfl)
theorem dX4_readLine_60 : decode cX4_readLine 60 = .ok (.iconst 1, 1) := dk_4 (dk_at dksX4_readLine_2 12 rfl rfl)
theorem dX4_readLine_61 : decode cX4_readLine 61 = .ok (.goto 4, 3) := dk_167 0 4 (dk_at dksX4_readLine_2 13 rfl rfl)
theorem dX4_readLine_64 : decode cX4_readLine 64 = .ok (.iconst 0, 1) := dk_3 (dk_at dksX4_readLine_2 16 rfl rfl)
theorem dX4_readLine_65 : decode cX4_readLine 65 = .ok (.invokevirtual 197, 3) := dk_182 0 197 (dk_at dksX4_readLine_2 17 rfl rfl)
theorem dX4_readLine_68 : decode cX4_readLine 68 = .ok (.ifCond .eq 10, 3) := dk_153 0 10 (dk_at dksX4_readLine_2 20 rfl rfl)
theorem dX4_readLine_71 : decode cX4_readLine 71 = .ok (.aload_n 0, 1) := dk_42 (dk_at dksX4_readLine_2 23 rfl rfl)
theorem dX4_readLine_72 : decode cX4_readLine 72 = .ok (.invokevirtual 204, 3) := dk_182 0 204 (dk_at dksX4_readLine_3 0 rfl rfl)
theorem dX4_readLine_75 : decode cX4_readLine 75 = .ok (.goto 94, 3) := dk_167 0 94 (dk_at dksX4_readLine_3 3 rfl rfl)
theorem dX4_readLine_78 : decode cX4_readLine 78 = .ok (.aload_n 0, 1) := dk_42 (dk_at dksX4_readLine_3 6 rfl rfl)
theorem dX4_readLine_79 : decode cX4_readLine 79 = .ok (.ldc 135, 2) := dk_18 135 (dk_at dksX4_readLine_3 7 rfl rfl)
theorem dX4_readLine_81 : decode cX4_readLine 81 = .ok (.aload_n 0, 1) := dk_42 (dk_at dksX4_readLine_3 9 rfl rfl)
theorem dX4_readLine_82 : decode cX4_readLine 82 = .ok (.getfield 23, 3) := dk_180 0 23 (dk_at dksX4_readLine_3 10 rfl rfl)
theorem dX4_readLine_85 : decode cX4_readLine 85 = .ok (.iconst 5, 1) := dk_8 (dk_at dksX4_readLine_3 13 rfl rfl)
theorem dX4_readLine_86 : decode cX4_readLine 86 = .ok (.iaload, 1) := dk_46 (dk_at dksX4_readLine_3 14 rfl rfl)
theorem dX4_readLine_87 : decode cX4_readLine 87 = .ok (.bipush 10, 2) := dk_16 10 (dk_at dksX4_readLine_3 15 rfl rfl)
theorem dX4_readLine_89 : decode cX4_readLine 89 = .ok (.if_icmp .ge 7, 3) := dk_162 0 7 (dk_at dksX4_readLine_3 17 rfl rfl)
theorem dX4_readLine_92 : decode cX4_readLine 92 = .ok (.iconst 1, 1) := dk_4 (dk_at dksX4_readLine_3 20 rfl rfl)
theorem dX4_readLine_93 : decode cX4_readLine 93 = .ok (.goto 4, 3) := dk_167 0 4 (dk_at dksX4_readLine_3 21 rfl rfl)
theorem dX4_readLine_96 : decode cX4_readLine 96 = .ok (.iconst 0, 1) := dk_3 (dk_at dksX4_readLine_4 0 rfl rfl)
theorem dX4_readLine_97 : decode cX4_readLine 97 = .ok (.invokevirtual 197, 3) := dk_182 0 197 (dk_at dksX4_readLine_4 1 rfl rfl)
theorem dX4_readLine_100 : decode cX4_readLine 100 = .ok (.ifCond .eq 10, 3) := dk_153 0 10 (dk_at dksX4_readLine_4 4 rfl rfl)
theorem dX4_readLine_103 : decode cX4_readLine 103 = .ok (.aload_n 0, 1) := dk_42 (dk_at dksX4_readLine_4 7 rfl rfl)
theorem dX4_readLine_104 : decode cX4_readLine 104 = .ok (.invokevirtual 207, 3) := dk_182 0 207 (dk_at dksX4_readLine_4 8 rfl rfl)
theorem dX4_readLine_107 : decode cX4_readLine 107 = .ok (.goto 62, 3) := dk_167 0 62 (dk_at dksX4_readLine_4 11 rfl rfl)
theorem dX4_readLine_110 : decode cX4_readLine 110 = .ok (.aload_n 0, 1) := dk_42 (dk_at dksX4_readLine_4 14 rfl rfl)
theorem dX4_readLine_111 : decode cX4_readLine 111 = .ok (.ldc 137, 2) := dk_18 137 (dk_at dksX4_readLine_4 15 rfl rfl)
theorem dX4_readLine_113 : decode cX4_readLine 113 = .ok (.iconst 1, 1) := dk_4 (dk_at dksX4_readLine_4 17 rfl rfl)
theorem dX4_readLine_114 : decode cX4_readLine 114 = .ok (.invokevirtual 197, 3) := dk_182 0 197 (dk_at dksX4_readLine_4 18 rfl rfl)
theorem dX4_readLine_117 : decode cX4_readLine 117 = .ok (.ifCond .eq 10, 3) := dk_153 0 10 (dk_at dksX4_readLine_4 21 rfl rfl)
theorem dX4_readLine_120 : decode cX4_readLine 120 = .ok (.aload_n 0, 1) := dk_42 (dk_at dksX4_readLine_5 0 rfl rfl)
theorem dX4_readLine_121 : decode cX4_readLine 121 = .ok (.invokevirtual 210, 3) := dk_182 0 210 (dk_at dksX4_readLine_5 1 rfl rfl)
theorem dX4_readLine_124 : decode cX4_readLine 124 = .ok (.goto 45, 3) := dk_167 0 45 (dk_at dksX4_readLine_5 4 rfl rfl)
theorem dX4_readLine_127 : decode cX4_readLine 127 = .ok (.aload_n 0, 1) := dk_42 (dk_at dksX4_readLine_5 7 rfl rfl)
theorem dX4_readLine_128 : decode cX4_readLine 128 = .ok (.ldc 139, 2) := dk_18 139 (dk_at dksX4_readLine_5 8 rfl rfl)
theorem dX4_readLine_130 : decode cX4_readLine 130 = .ok (.aload_n 0, 1) := dk_42 (dk_at dksX4_readLine_5 10 rfl rfl)
theorem dX4_readLine_131 : decode cX4_readLine 131 = .ok (.getfield 23, 3) := dk_180 0 23 (dk_at dksX4_readLine_5 11 rfl rfl)
theorem dX4_readLine_134 : decode cX4_readLine 134 = .ok (.bipush 7, 2) := dk_16 7 (dk_at dksX4_readLine_5 14 rfl rfl)
theorem dX4_readLine_136 : decode cX4_readLine 136 = .ok (.iaload, 1) := dk_46 (dk_at dksX4_readLine_5 16 rfl rfl)
theorem dX4_readLine_137 : decode cX4_readLine 137 = .ok (.bipush 8, 2) := dk_16 8 (dk_at dksX4_readLine_5 17 rfl rfl)
theorem dX4_readLine_139 : decode cX4_readLine 139 = .ok (.if_icmp .ge 7, 3) := dk_162 0 7 (dk_at dksX4_readLine_5 19 rfl rfl)
theorem dX4_readLine_142 : decode cX4_readLine 142 = .ok (.iconst 1, 1) := dk_4 (dk_at dksX4_readLine_5 22 rfl rfl)
theorem dX4_readLine_143 : decode cX4_readLine 143 = .ok (.goto 4, 3) := dk_167 0 4 (dk_at dksX4_readLine_6 0 rfl rfl)
theorem dX4_readLine_146 : decode cX4_readLine 146 = .ok (.iconst 0, 1) := dk_3 (dk_at dksX4_readLine_6 3 rfl rfl)
theorem dX4_readLine_147 : decode cX4_readLine 147 = .ok (.invokevirtual 197, 3) := dk_182 0 197 (dk_at dksX4_readLine_6 4 rfl rfl)
theorem dX4_readLine_150 : decode cX4_readLine 150 = .ok (.ifCond .eq 10, 3) := dk_153 0 10 (dk_at dksX4_readLine_6 7 rfl rfl)
theorem dX4_readLine_153 : decode cX4_readLine 153 = .ok (.aload_n 0, 1) := dk_42 (dk_at dksX4_readLine_6 10 rfl rfl)
theorem dX4_readLine_154 : decode cX4_readLine 154 = .ok (.invokevirtual 213, 3) := dk_182 0 213 (dk_at dksX4_readLine_6 11 rfl rfl)
theorem dX4_readLine_157 : decode cX4_readLine 157 = .ok (.goto 12, 3) := dk_167 0 12 (dk_at dksX4_readLine_6 14 rfl rfl)
theorem dX4_readLine_160 : decode cX4_readLine 160 = .ok (.aload_n 0, 1) := dk_42 (dk_at dksX4_readLine_6 17 rfl rfl)
theorem dX4_readLine_161 : decode cX4_readLine 161 = .ok (.iconst 1, 1) := dk_4 (dk_at dksX4_readLine_6 18 rfl rfl)
theorem dX4_readLine_162 : decode cX4_readLine 162 = .ok (.aload_n 0, 1) := dk_42 (dk_at dksX4_readLine_6 19 rfl rfl)
theorem dX4_readLine_163 : decode cX4_readLine 163 = .ok (.getfield 79, 3) := dk_180 0 79 (dk_at dksX4_readLine_6 20 rfl rfl)
theorem dX4_readLine_166 : decode cX4_readLine 166 = .ok (.invokevirtual 125, 3) := dk_182 0 125 (dk_at dksX4_readLine_7 0 rfl rfl)
theorem dX4_readLine_169 : decode cX4_readLine 169 = .ok (.return_, 1) := dk_177 (dk_at dksX4_readLine_7 3 rfl rfl)
abbrev cX4_isWord : ByteArray := prog_24_method_17_code
def yX4_isWord : MethodName := ⟨RX4, "isWord", "(Ljava/lang/String;)Z"⟩
def dkwX4_isWord_3 : List UInt8 := [167, 255, 221, 28, 172]
abbrev dktX4_isWord_3 : List UInt8 := dkwX4_isWord_3 ++ []
def dkwX4_isWord_2 : List UInt8 := [180, 0, 17, 29, 46, 43, 29, 182, 0, 111, 160, 0, 7, 4, 167, 0, 4, 3, 61, 132, 3, 1]
abbrev dktX4_isWord_2 : List UInt8 := dkwX4_isWord_2 ++ dktX4_isWord_3
def dkwX4_isWord_1 : List UInt8 := [159, 0, 5, 3, 172, 4, 61, 3, 62, 29, 42, 180, 0, 82, 162, 0, 33, 28, 153, 0, 21, 42]
abbrev dktX4_isWord_1 : List UInt8 := dkwX4_isWord_1 ++ dktX4_isWord_2
def dkwX4_isWord_0 : List UInt8 := [42, 180, 0, 98, 154, 0, 22, 42, 180, 0, 88, 5, 160, 0, 14, 42, 180, 0, 82, 43, 182, 0, 105]
abbrev dktX4_isWord_0 : List UInt8 := dkwX4_isWord_0 ++ dktX4_isWord_1
theorem dksX4_isWord_0 : cX4_isWord.data.toList.drop 0 = dktX4_isWord_0 := by decide +kernel
theorem dksX4_isWord_1 : cX4_isWord.data.toList.drop 23 = dktX4_isWord_1 := dk_seg dksX4_isWord_0 23 rfl rfl
theorem dksX4_isWord_2 : cX4_isWord.data.toList.drop 45 = dktX4_isWord_2 := dk_seg dksX4_isWord_1 22 rfl rfl
theorem dksX4_isWord_3 : cX4_isWord.data.toList.drop 67 = dktX4_isWord_3 := dk_seg dksX4_isWord_2 22 rfl rfl
theorem dX4_isWord_0 : decode cX4_isWord 0 = .ok (.aload_n 0, 1) := dk_42 (dk_at dksX4_isWord_0 0 rfl rfl)
theorem dX4_isWord_1 : decode cX4_isWord 1 = .ok (.getfield 98, 3) := dk_180 0 98 (dk_at dksX4_isWord_0 1 rfl rfl)
theorem dX4_isWord_4 : decode cX4_isWord 4 = .ok (.ifCond .ne 22, 3) := dk_154 0 22 (dk_at dksX4_isWord_0 4 rfl rfl)
theorem dX4_isWord_7 : decode cX4_isWord 7 = .ok (.aload_n 0, 1) := dk_42 (dk_at dksX4_isWord_0 7 rfl rfl)
theorem dX4_isWord_8 : decode cX4_isWord 8 = .ok (.getfield 88, 3) := dk_180 0 88 (dk_at dksX4_isWord_0 8 rfl rfl)
theorem dX4_isWord_11 : decode cX4_isWord 11 = .ok (.iconst 2, 1) := dk_5 (dk_at dksX4_isWord_0 11 rfl rfl)
theorem dX4_isWord_12 : decode cX4_isWord 12 = .ok (.if_icmp .ne 14, 3) := dk_160 0 14 (dk_at dksX4_isWord_0 12 rfl rfl)
theorem dX4_isWord_15 : decode cX4_isWord 15 = .ok (.aload_n 0, 1) := dk_42 (dk_at dksX4_isWord_0 15 rfl rfl)
theorem dX4_isWord_16 : decode cX4_isWord 16 = .ok (.getfield 82, 3) := dk_180 0 82 (dk_at dksX4_isWord_0 16 rfl rfl)
theorem dX4_isWord_19 : decode cX4_isWord 19 = .ok (.aload_n 1, 1) := dk_43 (dk_at dksX4_isWord_0 19 rfl rfl)
theorem dX4_isWord_20 : decode cX4_isWord 20 = .ok (.invokevirtual 105, 3) := dk_182 0 105 (dk_at dksX4_isWord_0 20 rfl rfl)
theorem dX4_isWord_23 : decode cX4_isWord 23 = .ok (.if_icmp .eq 5, 3) := dk_159 0 5 (dk_at dksX4_isWord_1 0 rfl rfl)
theorem dX4_isWord_26 : decode cX4_isWord 26 = .ok (.iconst 0, 1) := dk_3 (dk_at dksX4_isWord_1 3 rfl rfl)
theorem dX4_isWord_27 : decode cX4_isWord 27 = .ok (.ireturn, 1) := dk_172 (dk_at dksX4_isWord_1 4 rfl rfl)
theorem dX4_isWord_28 : decode cX4_isWord 28 = .ok (.iconst 1, 1) := dk_4 (dk_at dksX4_isWord_1 5 rfl rfl)
theorem dX4_isWord_29 : decode cX4_isWord 29 = .ok (.istore_n 2, 1) := dk_61 (dk_at dksX4_isWord_1 6 rfl rfl)
theorem dX4_isWord_30 : decode cX4_isWord 30 = .ok (.iconst 0, 1) := dk_3 (dk_at dksX4_isWord_1 7 rfl rfl)
theorem dX4_isWord_31 : decode cX4_isWord 31 = .ok (.istore_n 3, 1) := dk_62 (dk_at dksX4_isWord_1 8 rfl rfl)
theorem dX4_isWord_32 : decode cX4_isWord 32 = .ok (.iload_n 3, 1) := dk_29 (dk_at dksX4_isWord_1 9 rfl rfl)
theorem dX4_isWord_33 : decode cX4_isWord 33 = .ok (.aload_n 0, 1) := dk_42 (dk_at dksX4_isWord_1 10 rfl rfl)
theorem dX4_isWord_34 : decode cX4_isWord 34 = .ok (.getfield 82, 3) := dk_180 0 82 (dk_at dksX4_isWord_1 11 rfl rfl)
theorem dX4_isWord_37 : decode cX4_isWord 37 = .ok (.if_icmp .ge 33, 3) := dk_162 0 33 (dk_at dksX4_isWord_1 14 rfl rfl)
theorem dX4_isWord_40 : decode cX4_isWord 40 = .ok (.iload_n 2, 1) := dk_28 (dk_at dksX4_isWord_1 17 rfl rfl)
theorem dX4_isWord_41 : decode cX4_isWord 41 = .ok (.ifCond .eq 21, 3) := dk_153 0 21 (dk_at dksX4_isWord_1 18 rfl rfl)
theorem dX4_isWord_44 : decode cX4_isWord 44 = .ok (.aload_n 0, 1) := dk_42 (dk_at dksX4_isWord_1 21 rfl rfl)
theorem dX4_isWord_45 : decode cX4_isWord 45 = .ok (.getfield 17, 3) := dk_180 0 17 (dk_at dksX4_isWord_2 0 rfl rfl)
theorem dX4_isWord_48 : decode cX4_isWord 48 = .ok (.iload_n 3, 1) := dk_29 (dk_at dksX4_isWord_2 3 rfl rfl)
theorem dX4_isWord_49 : decode cX4_isWord 49 = .ok (.iaload, 1) := dk_46 (dk_at dksX4_isWord_2 4 rfl rfl)
theorem dX4_isWord_50 : decode cX4_isWord 50 = .ok (.aload_n 1, 1) := dk_43 (dk_at dksX4_isWord_2 5 rfl rfl)
theorem dX4_isWord_51 : decode cX4_isWord 51 = .ok (.iload_n 3, 1) := dk_29 (dk_at dksX4_isWord_2 6 rfl rfl)
theorem dX4_isWord_52 : decode cX4_isWord 52 = .ok (.invokevirtual 111, 3) := dk_182 0 111 (dk_at dksX4_isWord_2 7 rfl rfl)
theorem dX4_isWord_55 : decode cX4_isWord 55 = .ok (.if_icmp .ne 7, 3) := dk_160 0 7 (dk_at dksX4_isWord_2 10 rfl rfl)
theorem dX4_isWord_58 : decode cX4_isWord 58 = .ok (.iconst 1, 1) := dk_4 (dk_at dksX4_isWord_2 13 rfl rfl)
theorem dX4_isWord_59 : decode cX4_isWord 59 = .ok (.goto 4, 3) := dk_167 0 4 (dk_at dksX4_isWord_2 14 rfl rfl)
theorem dX4_isWord_62 : decode cX4_isWord 62 = .ok (.iconst 0, 1) := dk_3 (dk_at dksX4_isWord_2 17 rfl rfl)
theorem dX4_isWord_63 : decode cX4_isWord 63 = .ok (.istore_n 2, 1) := dk_61 (dk_at dksX4_isWord_2 18 rfl rfl)
theorem dX4_isWord_64 : decode cX4_isWord 64 = .ok (.iinc 3 1, 3) := dk_132 3 1 (dk_at dksX4_isWord_2 19 rfl rfl)
theorem dX4_isWord_67 : decode cX4_isWord 67 = .ok (.goto (-35), 3) := dk_167 255 221 (dk_at dksX4_isWord_3 0 rfl rfl)
theorem dX4_isWord_70 : decode cX4_isWord 70 = .ok (.iload_n 2, 1) := dk_28 (dk_at dksX4_isWord_3 3 rfl rfl)
theorem dX4_isWord_71 : decode cX4_isWord 71 = .ok (.ireturn, 1) := dk_172 (dk_at dksX4_isWord_3 4 rfl rfl)
abbrev cX4_houseLine : ByteArray := prog_24_method_32_code
def yX4_houseLine : MethodName := ⟨RX4, "houseLine", "()V"⟩
def dkwX4_houseLine_3 : List UInt8 := [180, 0, 23, 3, 4, 79, 177]
abbrev dktX4_houseLine_3 : List UInt8 := dkwX4_houseLine_3 ++ []
def dkwX4_houseLine_2 : List UInt8 := [180, 0, 23, 5, 42, 18, 222, 4, 17, 2, 88, 182, 0, 218, 79, 42, 180, 0, 98, 154, 0, 10, 42]
abbrev dktX4_houseLine_2 : List UInt8 := dkwX4_houseLine_2 ++ dktX4_houseLine_3
def dkwX4_houseLine_1 : List UInt8 := [153, 0, 4, 177, 42, 182, 0, 119, 42, 180, 0, 23, 4, 42, 18, 216, 4, 16, 20, 182, 0, 218, 79, 42]
abbrev dktX4_houseLine_1 : List UInt8 := dkwX4_houseLine_1 ++ dktX4_houseLine_2
def dkwX4_houseLine_0 : List UInt8 := [42, 180, 0, 23, 3, 46, 4, 160, 0, 12, 42, 6, 42, 180, 0, 79, 182, 0, 125, 42, 180, 0, 98]
abbrev dktX4_houseLine_0 : List UInt8 := dkwX4_houseLine_0 ++ dktX4_houseLine_1
theorem dksX4_houseLine_0 : cX4_houseLine.data.toList.drop 0 = dktX4_houseLine_0 := by decide +kernel
theorem dksX4_houseLine_1 : cX4_houseLine.data.toList.drop 23 = dktX4_houseLine_1 := dk_seg dksX4_houseLine_0 23 rfl rfl
theorem dksX4_houseLine_2 : cX4_houseLine.data.toList.drop 47 = dktX4_houseLine_2 := dk_seg dksX4_houseLine_1 24 rfl rfl
theorem dksX4_houseLine_3 : cX4_houseLine.data.toList.drop 70 = dktX4_houseLine_3 := dk_seg dksX4_houseLine_2 23 rfl rfl
theorem dX4_houseLine_0 : decode cX4_houseLine 0 = .ok (.aload_n 0, 1) := dk_42 (dk_at dksX4_houseLine_0 0 rfl rfl)
theorem dX4_houseLine_1 : decode cX4_houseLine 1 = .ok (.getfield 23, 3) := dk_180 0 23 (dk_at dksX4_houseLine_0 1 rfl rfl)
theorem dX4_houseLine_4 : decode cX4_houseLine 4 = .ok (.iconst 0, 1) := dk_3 (dk_at dksX4_houseLine_0 4 rfl rfl)
theorem dX4_houseLine_5 : decode cX4_houseLine 5 = .ok (.iaload, 1) := dk_46 (dk_at dksX4_houseLine_0 5 rfl rfl)
theorem dX4_houseLine_6 : decode cX4_houseLine 6 = .ok (.iconst 1, 1) := dk_4 (dk_at dksX4_houseLine_0 6 rfl rfl)
theorem dX4_houseLine_7 : decode cX4_houseLine 7 = .ok (.if_icmp .ne 12, 3) := dk_160 0 12 (dk_at dksX4_houseLine_0 7 rfl rfl)
theorem dX4_houseLine_10 : decode cX4_houseLine 10 = .ok (.aload_n 0, 1) := dk_42 (dk_at dksX4_houseLine_0 10 rfl rfl)
theorem dX4_houseLine_11 : decode cX4_houseLine 11 = .ok (.iconst 3, 1) := dk_6 (dk_at dksX4_houseLine_0 11 rfl rfl)
theorem dX4_houseLine_12 : decode cX4_houseLine 12 = .ok (.aload_n 0, 1) := dk_42 (dk_at dksX4_houseLine_0 12 rfl rfl)
theorem dX4_houseLine_13 : decode cX4_houseLine 13 = .ok (.getfield 79, 3) := dk_180 0 79 (dk_at dksX4_houseLine_0 13 rfl rfl)
theorem dX4_houseLine_16 : decode cX4_houseLine 16 = .ok (.invokevirtual 125, 3) := dk_182 0 125 (dk_at dksX4_houseLine_0 16 rfl rfl)
theorem dX4_houseLine_19 : decode cX4_houseLine 19 = .ok (.aload_n 0, 1) := dk_42 (dk_at dksX4_houseLine_0 19 rfl rfl)
theorem dX4_houseLine_20 : decode cX4_houseLine 20 = .ok (.getfield 98, 3) := dk_180 0 98 (dk_at dksX4_houseLine_0 20 rfl rfl)
theorem dX4_houseLine_23 : decode cX4_houseLine 23 = .ok (.ifCond .eq 4, 3) := dk_153 0 4 (dk_at dksX4_houseLine_1 0 rfl rfl)
theorem dX4_houseLine_26 : decode cX4_houseLine 26 = .ok (.return_, 1) := dk_177 (dk_at dksX4_houseLine_1 3 rfl rfl)
theorem dX4_houseLine_27 : decode cX4_houseLine 27 = .ok (.aload_n 0, 1) := dk_42 (dk_at dksX4_houseLine_1 4 rfl rfl)
theorem dX4_houseLine_28 : decode cX4_houseLine 28 = .ok (.invokevirtual 119, 3) := dk_182 0 119 (dk_at dksX4_houseLine_1 5 rfl rfl)
theorem dX4_houseLine_31 : decode cX4_houseLine 31 = .ok (.aload_n 0, 1) := dk_42 (dk_at dksX4_houseLine_1 8 rfl rfl)
theorem dX4_houseLine_32 : decode cX4_houseLine 32 = .ok (.getfield 23, 3) := dk_180 0 23 (dk_at dksX4_houseLine_1 9 rfl rfl)
theorem dX4_houseLine_35 : decode cX4_houseLine 35 = .ok (.iconst 1, 1) := dk_4 (dk_at dksX4_houseLine_1 12 rfl rfl)
theorem dX4_houseLine_36 : decode cX4_houseLine 36 = .ok (.aload_n 0, 1) := dk_42 (dk_at dksX4_houseLine_1 13 rfl rfl)
theorem dX4_houseLine_37 : decode cX4_houseLine 37 = .ok (.ldc 216, 2) := dk_18 216 (dk_at dksX4_houseLine_1 14 rfl rfl)
theorem dX4_houseLine_39 : decode cX4_houseLine 39 = .ok (.iconst 1, 1) := dk_4 (dk_at dksX4_houseLine_1 16 rfl rfl)
theorem dX4_houseLine_40 : decode cX4_houseLine 40 = .ok (.bipush 20, 2) := dk_16 20 (dk_at dksX4_houseLine_1 17 rfl rfl)
theorem dX4_houseLine_42 : decode cX4_houseLine 42 = .ok (.invokevirtual 218, 3) := dk_182 0 218 (dk_at dksX4_houseLine_1 19 rfl rfl)
theorem dX4_houseLine_45 : decode cX4_houseLine 45 = .ok (.iastore, 1) := dk_79 (dk_at dksX4_houseLine_1 22 rfl rfl)
theorem dX4_houseLine_46 : decode cX4_houseLine 46 = .ok (.aload_n 0, 1) := dk_42 (dk_at dksX4_houseLine_1 23 rfl rfl)
theorem dX4_houseLine_47 : decode cX4_houseLine 47 = .ok (.getfield 23, 3) := dk_180 0 23 (dk_at dksX4_houseLine_2 0 rfl rfl)
theorem dX4_houseLine_50 : decode cX4_houseLine 50 = .ok (.iconst 2, 1) := dk_5 (dk_at dksX4_houseLine_2 3 rfl rfl)
theorem dX4_houseLine_51 : decode cX4_houseLine 51 = .ok (.aload_n 0, 1) := dk_42 (dk_at dksX4_houseLine_2 4 rfl rfl)
theorem dX4_houseLine_52 : decode cX4_houseLine 52 = .ok (.ldc 222, 2) := dk_18 222 (dk_at dksX4_houseLine_2 5 rfl rfl)
theorem dX4_houseLine_54 : decode cX4_houseLine 54 = .ok (.iconst 1, 1) := dk_4 (dk_at dksX4_houseLine_2 7 rfl rfl)
theorem dX4_houseLine_55 : decode cX4_houseLine 55 = .ok (.sipush 600, 3) := dk_17 2 88 (dk_at dksX4_houseLine_2 8 rfl rfl)
theorem dX4_houseLine_58 : decode cX4_houseLine 58 = .ok (.invokevirtual 218, 3) := dk_182 0 218 (dk_at dksX4_houseLine_2 11 rfl rfl)
theorem dX4_houseLine_61 : decode cX4_houseLine 61 = .ok (.iastore, 1) := dk_79 (dk_at dksX4_houseLine_2 14 rfl rfl)
theorem dX4_houseLine_62 : decode cX4_houseLine 62 = .ok (.aload_n 0, 1) := dk_42 (dk_at dksX4_houseLine_2 15 rfl rfl)
theorem dX4_houseLine_63 : decode cX4_houseLine 63 = .ok (.getfield 98, 3) := dk_180 0 98 (dk_at dksX4_houseLine_2 16 rfl rfl)
theorem dX4_houseLine_66 : decode cX4_houseLine 66 = .ok (.ifCond .ne 10, 3) := dk_154 0 10 (dk_at dksX4_houseLine_2 19 rfl rfl)
theorem dX4_houseLine_69 : decode cX4_houseLine 69 = .ok (.aload_n 0, 1) := dk_42 (dk_at dksX4_houseLine_2 22 rfl rfl)
theorem dX4_houseLine_70 : decode cX4_houseLine 70 = .ok (.getfield 23, 3) := dk_180 0 23 (dk_at dksX4_houseLine_3 0 rfl rfl)
theorem dX4_houseLine_73 : decode cX4_houseLine 73 = .ok (.iconst 0, 1) := dk_3 (dk_at dksX4_houseLine_3 3 rfl rfl)
theorem dX4_houseLine_74 : decode cX4_houseLine 74 = .ok (.iconst 1, 1) := dk_4 (dk_at dksX4_houseLine_3 4 rfl rfl)
theorem dX4_houseLine_75 : decode cX4_houseLine 75 = .ok (.iastore, 1) := dk_79 (dk_at dksX4_houseLine_3 5 rfl rfl)
theorem dX4_houseLine_76 : decode cX4_houseLine 76 = .ok (.return_, 1) := dk_177 (dk_at dksX4_houseLine_3 6 rfl rfl)
abbrev cX4_wrong : ByteArray := prog_24_method_16_code
def yX4_wrong : MethodName := ⟨RX4, "wrong", "(II)V"⟩
def dkwX4_wrong_0 : List UInt8 := [42, 180, 0, 98, 153, 0, 4, 177, 42, 4, 181, 0, 98, 42, 27, 181, 0, 102, 42, 28, 181, 0, 13, 177]
abbrev dktX4_wrong_0 : List UInt8 := dkwX4_wrong_0 ++ []
theorem dksX4_wrong_0 : cX4_wrong.data.toList.drop 0 = dktX4_wrong_0 := by decide +kernel
theorem dX4_wrong_0 : decode cX4_wrong 0 = .ok (.aload_n 0, 1) := dk_42 (dk_at dksX4_wrong_0 0 rfl rfl)
theorem dX4_wrong_1 : decode cX4_wrong 1 = .ok (.getfield 98, 3) := dk_180 0 98 (dk_at dksX4_wrong_0 1 rfl rfl)
theorem dX4_wrong_4 : decode cX4_wrong 4 = .ok (.ifCond .eq 4, 3) := dk_153 0 4 (dk_at dksX4_wrong_0 4 rfl rfl)
theorem dX4_wrong_7 : decode cX4_wrong 7 = .ok (.return_, 1) := dk_177 (dk_at dksX4_wrong_0 7 rfl rfl)
theorem dX4_wrong_8 : decode cX4_wrong 8 = .ok (.aload_n 0, 1) := dk_42 (dk_at dksX4_wrong_0 8 rfl rfl)
theorem dX4_wrong_9 : decode cX4_wrong 9 = .ok (.iconst 1, 1) := dk_4 (dk_at dksX4_wrong_0 9 rfl rfl)
theorem dX4_wrong_10 : decode cX4_wrong 10 = .ok (.putfield 98, 3) := dk_181 0 98 (dk_at dksX4_wrong_0 10 rfl rfl)
theorem dX4_wrong_13 : decode cX4_wrong 13 = .ok (.aload_n 0, 1) := dk_42 (dk_at dksX4_wrong_0 13 rfl rfl)
theorem dX4_wrong_14 : decode cX4_wrong 14 = .ok (.iload_n 1, 1) := dk_27 (dk_at dksX4_wrong_0 14 rfl rfl)
theorem dX4_wrong_15 : decode cX4_wrong 15 = .ok (.putfield 102, 3) := dk_181 0 102 (dk_at dksX4_wrong_0 15 rfl rfl)
theorem dX4_wrong_18 : decode cX4_wrong 18 = .ok (.aload_n 0, 1) := dk_42 (dk_at dksX4_wrong_0 18 rfl rfl)
theorem dX4_wrong_19 : decode cX4_wrong 19 = .ok (.iload_n 2, 1) := dk_28 (dk_at dksX4_wrong_0 19 rfl rfl)
theorem dX4_wrong_20 : decode cX4_wrong 20 = .ok (.putfield 13, 3) := dk_181 0 13 (dk_at dksX4_wrong_0 20 rfl rfl)
theorem dX4_wrong_23 : decode cX4_wrong 23 = .ok (.return_, 1) := dk_177 (dk_at dksX4_wrong_0 23 rfl rfl)
abbrev cX4_after : ByteArray := prog_24_method_27_code
def yX4_after : MethodName := ⟨RX4, "afte\x72", "(Ljava/lang/String;II)I"⟩
def dkwX4_after_0 : List UInt8 := [42, 43, 182, 0, 158, 42, 28, 29, 182, 0, 162, 172]
abbrev dktX4_after_0 : List UInt8 := dkwX4_after_0 ++ []
theorem dksX4_after_0 : cX4_after.data.toList.drop 0 = dktX4_after_0 := by decide +kernel
theorem dX4_after_0 : decode cX4_after 0 = .ok (.aload_n 0, 1) := dk_42 (dk_at dksX4_after_0 0 rfl rfl)
theorem dX4_after_1 : decode cX4_after 1 = .ok (.aload_n 1, 1) := dk_43 (dk_at dksX4_after_0 1 rfl rfl)
theorem dX4_after_2 : decode cX4_after 2 = .ok (.invokevirtual 158, 3) := dk_182 0 158 (dk_at dksX4_after_0 2 rfl rfl)
theorem dX4_after_5 : decode cX4_after 5 = .ok (.aload_n 0, 1) := dk_42 (dk_at dksX4_after_0 5 rfl rfl)
theorem dX4_after_6 : decode cX4_after 6 = .ok (.iload_n 2, 1) := dk_28 (dk_at dksX4_after_0 6 rfl rfl)
theorem dX4_after_7 : decode cX4_after 7 = .ok (.iload_n 3, 1) := dk_29 (dk_at dksX4_after_0 7 rfl rfl)
theorem dX4_after_8 : decode cX4_after 8 = .ok (.invokevirtual 162, 3) := dk_182 0 162 (dk_at dksX4_after_0 8 rfl rfl)
theorem dX4_after_11 : decode cX4_after 11 = .ok (.ireturn, 1) := dk_172 (dk_at dksX4_after_0 11 rfl rfl)
abbrev cX4_must : ByteArray := prog_24_method_19_code
def yX4_must : MethodName := ⟨RX4, "must", "(Ljava/lang/String;)V"⟩
def dkwX4_must_1 : List UInt8 := [177]
abbrev dktX4_must_1 : List UInt8 := dkwX4_must_1 ++ []
def dkwX4_must_0 : List UInt8 := [42, 180, 0, 98, 154, 0, 20, 42, 43, 182, 0, 122, 154, 0, 12, 42, 4, 42, 180, 0, 79, 182, 0, 125]
abbrev dktX4_must_0 : List UInt8 := dkwX4_must_0 ++ dktX4_must_1
theorem dksX4_must_0 : cX4_must.data.toList.drop 0 = dktX4_must_0 := by decide +kernel
theorem dksX4_must_1 : cX4_must.data.toList.drop 24 = dktX4_must_1 := dk_seg dksX4_must_0 24 rfl rfl
theorem dX4_must_0 : decode cX4_must 0 = .ok (.aload_n 0, 1) := dk_42 (dk_at dksX4_must_0 0 rfl rfl)
theorem dX4_must_1 : decode cX4_must 1 = .ok (.getfield 98, 3) := dk_180 0 98 (dk_at dksX4_must_0 1 rfl rfl)
theorem dX4_must_4 : decode cX4_must 4 = .ok (.ifCond .ne 20, 3) := dk_154 0 20 (dk_at dksX4_must_0 4 rfl rfl)
theorem dX4_must_7 : decode cX4_must 7 = .ok (.aload_n 0, 1) := dk_42 (dk_at dksX4_must_0 7 rfl rfl)
theorem dX4_must_8 : decode cX4_must 8 = .ok (.aload_n 1, 1) := dk_43 (dk_at dksX4_must_0 8 rfl rfl)
theorem dX4_must_9 : decode cX4_must 9 = .ok (.invokevirtual 122, 3) := dk_182 0 122 (dk_at dksX4_must_0 9 rfl rfl)
theorem dX4_must_12 : decode cX4_must 12 = .ok (.ifCond .ne 12, 3) := dk_154 0 12 (dk_at dksX4_must_0 12 rfl rfl)
theorem dX4_must_15 : decode cX4_must 15 = .ok (.aload_n 0, 1) := dk_42 (dk_at dksX4_must_0 15 rfl rfl)
theorem dX4_must_16 : decode cX4_must 16 = .ok (.iconst 1, 1) := dk_4 (dk_at dksX4_must_0 16 rfl rfl)
theorem dX4_must_17 : decode cX4_must 17 = .ok (.aload_n 0, 1) := dk_42 (dk_at dksX4_must_0 17 rfl rfl)
theorem dX4_must_18 : decode cX4_must 18 = .ok (.getfield 79, 3) := dk_180 0 79 (dk_at dksX4_must_0 18 rfl rfl)
theorem dX4_must_21 : decode cX4_must 21 = .ok (.invokevirtual 125, 3) := dk_182 0 125 (dk_at dksX4_must_0 21 rfl rfl)
theorem dX4_must_24 : decode cX4_must 24 = .ok (.return_, 1) := dk_177 (dk_at dksX4_must_1 0 rfl rfl)
abbrev cX4_takesWord : ByteArray := prog_24_method_18_code
def yX4_takesWord : MethodName := ⟨RX4, "takesWord", "(Ljava/lang/String;)Z"⟩
def dkwX4_takesWord_0 : List UInt8 := [42, 43, 182, 0, 115, 154, 0, 5, 3, 172, 42, 182, 0, 119, 4, 172]
abbrev dktX4_takesWord_0 : List UInt8 := dkwX4_takesWord_0 ++ []
theorem dksX4_takesWord_0 : cX4_takesWord.data.toList.drop 0 = dktX4_takesWord_0 := by decide +kernel
theorem dX4_takesWord_0 : decode cX4_takesWord 0 = .ok (.aload_n 0, 1) := dk_42 (dk_at dksX4_takesWord_0 0 rfl rfl)
theorem dX4_takesWord_1 : decode cX4_takesWord 1 = .ok (.aload_n 1, 1) := dk_43 (dk_at dksX4_takesWord_0 1 rfl rfl)
theorem dX4_takesWord_2 : decode cX4_takesWord 2 = .ok (.invokevirtual 115, 3) := dk_182 0 115 (dk_at dksX4_takesWord_0 2 rfl rfl)
theorem dX4_takesWord_5 : decode cX4_takesWord 5 = .ok (.ifCond .ne 5, 3) := dk_154 0 5 (dk_at dksX4_takesWord_0 5 rfl rfl)
theorem dX4_takesWord_8 : decode cX4_takesWord 8 = .ok (.iconst 0, 1) := dk_3 (dk_at dksX4_takesWord_0 8 rfl rfl)
theorem dX4_takesWord_9 : decode cX4_takesWord 9 = .ok (.ireturn, 1) := dk_172 (dk_at dksX4_takesWord_0 9 rfl rfl)
theorem dX4_takesWord_10 : decode cX4_takesWord 10 = .ok (.aload_n 0, 1) := dk_42 (dk_at dksX4_takesWord_0 10 rfl rfl)
theorem dX4_takesWord_11 : decode cX4_takesWord 11 = .ok (.invokevirtual 119, 3) := dk_182 0 119 (dk_at dksX4_takesWord_0 11 rfl rfl)
theorem dX4_takesWord_14 : decode cX4_takesWord 14 = .ok (.iconst 1, 1) := dk_4 (dk_at dksX4_takesWord_0 14 rfl rfl)
theorem dX4_takesWord_15 : decode cX4_takesWord 15 = .ok (.ireturn, 1) := dk_172 (dk_at dksX4_takesWord_0 15 rfl rfl)
abbrev cX4_number : ByteArray := prog_24_method_26_code
def yX4_number : MethodName := ⟨RX4, "numbe\x72", "(II)I"⟩
def dkwX4_number_2 : List UInt8 := [180, 0, 79, 182, 0, 125, 27, 172, 42, 182, 0, 119, 29, 172]
abbrev dktX4_number_2 : List UInt8 := dkwX4_number_2 ++ []
def dkwX4_number_1 : List UInt8 := [182, 0, 125, 27, 172, 42, 180, 0, 85, 62, 29, 27, 28, 184, 0, 147, 154, 0, 14, 42, 7, 42]
abbrev dktX4_number_1 : List UInt8 := dkwX4_number_1 ++ dktX4_number_2
def dkwX4_number_0 : List UInt8 := [42, 180, 0, 98, 153, 0, 5, 27, 172, 42, 180, 0, 88, 6, 159, 0, 14, 42, 4, 42, 180, 0, 79]
abbrev dktX4_number_0 : List UInt8 := dkwX4_number_0 ++ dktX4_number_1
theorem dksX4_number_0 : cX4_number.data.toList.drop 0 = dktX4_number_0 := by decide +kernel
theorem dksX4_number_1 : cX4_number.data.toList.drop 23 = dktX4_number_1 := dk_seg dksX4_number_0 23 rfl rfl
theorem dksX4_number_2 : cX4_number.data.toList.drop 45 = dktX4_number_2 := dk_seg dksX4_number_1 22 rfl rfl
theorem dX4_number_0 : decode cX4_number 0 = .ok (.aload_n 0, 1) := dk_42 (dk_at dksX4_number_0 0 rfl rfl)
theorem dX4_number_1 : decode cX4_number 1 = .ok (.getfield 98, 3) := dk_180 0 98 (dk_at dksX4_number_0 1 rfl rfl)
theorem dX4_number_4 : decode cX4_number 4 = .ok (.ifCond .eq 5, 3) := dk_153 0 5 (dk_at dksX4_number_0 4 rfl rfl)
theorem dX4_number_7 : decode cX4_number 7 = .ok (.iload_n 1, 1) := dk_27 (dk_at dksX4_number_0 7 rfl rfl)
theorem dX4_number_8 : decode cX4_number 8 = .ok (.ireturn, 1) := dk_172 (dk_at dksX4_number_0 8 rfl rfl)
theorem dX4_number_9 : decode cX4_number 9 = .ok (.aload_n 0, 1) := dk_42 (dk_at dksX4_number_0 9 rfl rfl)
theorem dX4_number_10 : decode cX4_number 10 = .ok (.getfield 88, 3) := dk_180 0 88 (dk_at dksX4_number_0 10 rfl rfl)
theorem dX4_number_13 : decode cX4_number 13 = .ok (.iconst 3, 1) := dk_6 (dk_at dksX4_number_0 13 rfl rfl)
theorem dX4_number_14 : decode cX4_number 14 = .ok (.if_icmp .eq 14, 3) := dk_159 0 14 (dk_at dksX4_number_0 14 rfl rfl)
theorem dX4_number_17 : decode cX4_number 17 = .ok (.aload_n 0, 1) := dk_42 (dk_at dksX4_number_0 17 rfl rfl)
theorem dX4_number_18 : decode cX4_number 18 = .ok (.iconst 1, 1) := dk_4 (dk_at dksX4_number_0 18 rfl rfl)
theorem dX4_number_19 : decode cX4_number 19 = .ok (.aload_n 0, 1) := dk_42 (dk_at dksX4_number_0 19 rfl rfl)
theorem dX4_number_20 : decode cX4_number 20 = .ok (.getfield 79, 3) := dk_180 0 79 (dk_at dksX4_number_0 20 rfl rfl)
theorem dX4_number_23 : decode cX4_number 23 = .ok (.invokevirtual 125, 3) := dk_182 0 125 (dk_at dksX4_number_1 0 rfl rfl)
theorem dX4_number_26 : decode cX4_number 26 = .ok (.iload_n 1, 1) := dk_27 (dk_at dksX4_number_1 3 rfl rfl)
theorem dX4_number_27 : decode cX4_number 27 = .ok (.ireturn, 1) := dk_172 (dk_at dksX4_number_1 4 rfl rfl)
theorem dX4_number_28 : decode cX4_number 28 = .ok (.aload_n 0, 1) := dk_42 (dk_at dksX4_number_1 5 rfl rfl)
theorem dX4_number_29 : decode cX4_number 29 = .ok (.getfield 85, 3) := dk_180 0 85 (dk_at dksX4_number_1 6 rfl rfl)
theorem dX4_number_32 : decode cX4_number 32 = .ok (.istore_n 3, 1) := dk_62 (dk_at dksX4_number_1 9 rfl rfl)
theorem dX4_number_33 : decode cX4_number 33 = .ok (.iload_n 3, 1) := dk_29 (dk_at dksX4_number_1 10 rfl rfl)
theorem dX4_number_34 : decode cX4_number 34 = .ok (.iload_n 1, 1) := dk_27 (dk_at dksX4_number_1 11 rfl rfl)
theorem dX4_number_35 : decode cX4_number 35 = .ok (.iload_n 2, 1) := dk_28 (dk_at dksX4_number_1 12 rfl rfl)
theorem dX4_number_36 : decode cX4_number 36 = .ok (.invokestatic 147, 3) := dk_184 0 147 (dk_at dksX4_number_1 13 rfl rfl)
theorem dX4_number_39 : decode cX4_number 39 = .ok (.ifCond .ne 14, 3) := dk_154 0 14 (dk_at dksX4_number_1 16 rfl rfl)
theorem dX4_number_42 : decode cX4_number 42 = .ok (.aload_n 0, 1) := dk_42 (dk_at dksX4_number_1 19 rfl rfl)
theorem dX4_number_43 : decode cX4_number 43 = .ok (.iconst 4, 1) := dk_7 (dk_at dksX4_number_1 20 rfl rfl)
theorem dX4_number_44 : decode cX4_number 44 = .ok (.aload_n 0, 1) := dk_42 (dk_at dksX4_number_1 21 rfl rfl)
theorem dX4_number_45 : decode cX4_number 45 = .ok (.getfield 79, 3) := dk_180 0 79 (dk_at dksX4_number_2 0 rfl rfl)
theorem dX4_number_48 : decode cX4_number 48 = .ok (.invokevirtual 125, 3) := dk_182 0 125 (dk_at dksX4_number_2 3 rfl rfl)
theorem dX4_number_51 : decode cX4_number 51 = .ok (.iload_n 1, 1) := dk_27 (dk_at dksX4_number_2 6 rfl rfl)
theorem dX4_number_52 : decode cX4_number 52 = .ok (.ireturn, 1) := dk_172 (dk_at dksX4_number_2 7 rfl rfl)
theorem dX4_number_53 : decode cX4_number 53 = .ok (.aload_n 0, 1) := dk_42 (dk_at dksX4_number_2 8 rfl rfl)
theorem dX4_number_54 : decode cX4_number 54 = .ok (.invokevirtual 119, 3) := dk_182 0 119 (dk_at dksX4_number_2 9 rfl rfl)
theorem dX4_number_57 : decode cX4_number 57 = .ok (.iload_n 3, 1) := dk_29 (dk_at dksX4_number_2 12 rfl rfl)
theorem dX4_number_58 : decode cX4_number 58 = .ok (.ireturn, 1) := dk_172 (dk_at dksX4_number_2 13 rfl rfl)
abbrev cX4_begins : ByteArray := prog_24_method_30_code
def yX4_begins : MethodName := ⟨RX4, "begins", "(Ljava/lang/String;Z)Z"⟩
def dkwX4_begins_2 : List UInt8 := [154, 0, 7, 42, 182, 0, 119, 4, 172]
abbrev dktX4_begins_2 : List UInt8 := dkwX4_begins_2 ++ []
def dkwX4_begins_1 : List UInt8 := [180, 0, 23, 3, 46, 154, 0, 13, 42, 16, 6, 42, 180, 0, 79, 182, 0, 125, 42, 180, 0, 98]
abbrev dktX4_begins_1 : List UInt8 := dkwX4_begins_1 ++ dktX4_begins_2
def dkwX4_begins_0 : List UInt8 := [42, 43, 182, 0, 115, 154, 0, 5, 3, 172, 28, 154, 0, 12, 42, 8, 42, 180, 0, 79, 182, 0, 125, 42]
abbrev dktX4_begins_0 : List UInt8 := dkwX4_begins_0 ++ dktX4_begins_1
theorem dksX4_begins_0 : cX4_begins.data.toList.drop 0 = dktX4_begins_0 := by decide +kernel
theorem dksX4_begins_1 : cX4_begins.data.toList.drop 24 = dktX4_begins_1 := dk_seg dksX4_begins_0 24 rfl rfl
theorem dksX4_begins_2 : cX4_begins.data.toList.drop 46 = dktX4_begins_2 := dk_seg dksX4_begins_1 22 rfl rfl
theorem dX4_begins_0 : decode cX4_begins 0 = .ok (.aload_n 0, 1) := dk_42 (dk_at dksX4_begins_0 0 rfl rfl)
theorem dX4_begins_1 : decode cX4_begins 1 = .ok (.aload_n 1, 1) := dk_43 (dk_at dksX4_begins_0 1 rfl rfl)
theorem dX4_begins_2 : decode cX4_begins 2 = .ok (.invokevirtual 115, 3) := dk_182 0 115 (dk_at dksX4_begins_0 2 rfl rfl)
theorem dX4_begins_5 : decode cX4_begins 5 = .ok (.ifCond .ne 5, 3) := dk_154 0 5 (dk_at dksX4_begins_0 5 rfl rfl)
theorem dX4_begins_8 : decode cX4_begins 8 = .ok (.iconst 0, 1) := dk_3 (dk_at dksX4_begins_0 8 rfl rfl)
theorem dX4_begins_9 : decode cX4_begins 9 = .ok (.ireturn, 1) := dk_172 (dk_at dksX4_begins_0 9 rfl rfl)
theorem dX4_begins_10 : decode cX4_begins 10 = .ok (.iload_n 2, 1) := dk_28 (dk_at dksX4_begins_0 10 rfl rfl)
theorem dX4_begins_11 : decode cX4_begins 11 = .ok (.ifCond .ne 12, 3) := dk_154 0 12 (dk_at dksX4_begins_0 11 rfl rfl)
theorem dX4_begins_14 : decode cX4_begins 14 = .ok (.aload_n 0, 1) := dk_42 (dk_at dksX4_begins_0 14 rfl rfl)
theorem dX4_begins_15 : decode cX4_begins 15 = .ok (.iconst 5, 1) := dk_8 (dk_at dksX4_begins_0 15 rfl rfl)
theorem dX4_begins_16 : decode cX4_begins 16 = .ok (.aload_n 0, 1) := dk_42 (dk_at dksX4_begins_0 16 rfl rfl)
theorem dX4_begins_17 : decode cX4_begins 17 = .ok (.getfield 79, 3) := dk_180 0 79 (dk_at dksX4_begins_0 17 rfl rfl)
theorem dX4_begins_20 : decode cX4_begins 20 = .ok (.invokevirtual 125, 3) := dk_182 0 125 (dk_at dksX4_begins_0 20 rfl rfl)
theorem dX4_begins_23 : decode cX4_begins 23 = .ok (.aload_n 0, 1) := dk_42 (dk_at dksX4_begins_0 23 rfl rfl)
theorem dX4_begins_24 : decode cX4_begins 24 = .ok (.getfield 23, 3) := dk_180 0 23 (dk_at dksX4_begins_1 0 rfl rfl)
theorem dX4_begins_27 : decode cX4_begins 27 = .ok (.iconst 0, 1) := dk_3 (dk_at dksX4_begins_1 3 rfl rfl)
theorem dX4_begins_28 : decode cX4_begins 28 = .ok (.iaload, 1) := dk_46 (dk_at dksX4_begins_1 4 rfl rfl)
theorem dX4_begins_29 : decode cX4_begins 29 = .ok (.ifCond .ne 13, 3) := dk_154 0 13 (dk_at dksX4_begins_1 5 rfl rfl)
theorem dX4_begins_32 : decode cX4_begins 32 = .ok (.aload_n 0, 1) := dk_42 (dk_at dksX4_begins_1 8 rfl rfl)
theorem dX4_begins_33 : decode cX4_begins 33 = .ok (.bipush 6, 2) := dk_16 6 (dk_at dksX4_begins_1 9 rfl rfl)
theorem dX4_begins_35 : decode cX4_begins 35 = .ok (.aload_n 0, 1) := dk_42 (dk_at dksX4_begins_1 11 rfl rfl)
theorem dX4_begins_36 : decode cX4_begins 36 = .ok (.getfield 79, 3) := dk_180 0 79 (dk_at dksX4_begins_1 12 rfl rfl)
theorem dX4_begins_39 : decode cX4_begins 39 = .ok (.invokevirtual 125, 3) := dk_182 0 125 (dk_at dksX4_begins_1 15 rfl rfl)
theorem dX4_begins_42 : decode cX4_begins 42 = .ok (.aload_n 0, 1) := dk_42 (dk_at dksX4_begins_1 18 rfl rfl)
theorem dX4_begins_43 : decode cX4_begins 43 = .ok (.getfield 98, 3) := dk_180 0 98 (dk_at dksX4_begins_1 19 rfl rfl)
theorem dX4_begins_46 : decode cX4_begins 46 = .ok (.ifCond .ne 7, 3) := dk_154 0 7 (dk_at dksX4_begins_2 0 rfl rfl)
theorem dX4_begins_49 : decode cX4_begins 49 = .ok (.aload_n 0, 1) := dk_42 (dk_at dksX4_begins_2 3 rfl rfl)
theorem dX4_begins_50 : decode cX4_begins 50 = .ok (.invokevirtual 119, 3) := dk_182 0 119 (dk_at dksX4_begins_2 4 rfl rfl)
theorem dX4_begins_53 : decode cX4_begins 53 = .ok (.iconst 1, 1) := dk_4 (dk_at dksX4_begins_2 7 rfl rfl)
theorem dX4_begins_54 : decode cX4_begins 54 = .ok (.ireturn, 1) := dk_172 (dk_at dksX4_begins_2 8 rfl rfl)
abbrev cX4_drinkLine : ByteArray := prog_24_method_33_code
def yX4_drinkLine : MethodName := ⟨RX4, "drinkLine", "()V"⟩
def dkwX4_drinkLine_4 : List UInt8 := [6, 92, 46, 4, 96, 79, 177]
abbrev dktX4_drinkLine_4 : List UInt8 := dkwX4_drinkLine_4 ++ []
def dkwX4_drinkLine_3 : List UInt8 := [27, 5, 96, 42, 18, 232, 3, 16, 99, 182, 0, 218, 79, 42, 180, 0, 98, 154, 0, 13, 42, 180, 0, 23]
abbrev dktX4_drinkLine_3 : List UInt8 := dkwX4_drinkLine_3 ++ dktX4_drinkLine_4
def dkwX4_drinkLine_2 : List UInt8 := [180, 0, 23, 27, 4, 96, 42, 18, 230, 3, 42, 180, 0, 23, 27, 46, 182, 0, 218, 79, 42, 180, 0, 23]
abbrev dktX4_drinkLine_2 : List UInt8 := dkwX4_drinkLine_2 ++ dktX4_drinkLine_3
def dkwX4_drinkLine_1 : List UInt8 := [180, 0, 23, 6, 46, 182, 0, 224, 42, 180, 0, 23, 27, 42, 18, 228, 4, 16, 90, 182, 0, 218, 79, 42]
abbrev dktX4_drinkLine_1 : List UInt8 := dkwX4_drinkLine_1 ++ dktX4_drinkLine_2
def dkwX4_drinkLine_0 : List UInt8 := [42, 180, 0, 98, 153, 0, 4, 177, 16, 8, 6, 42, 180, 0, 23, 6, 46, 104, 96, 60, 42, 42]
abbrev dktX4_drinkLine_0 : List UInt8 := dkwX4_drinkLine_0 ++ dktX4_drinkLine_1
theorem dksX4_drinkLine_0 : cX4_drinkLine.data.toList.drop 0 = dktX4_drinkLine_0 := by decide +kernel
theorem dksX4_drinkLine_1 : cX4_drinkLine.data.toList.drop 22 = dktX4_drinkLine_1 := dk_seg dksX4_drinkLine_0 22 rfl rfl
theorem dksX4_drinkLine_2 : cX4_drinkLine.data.toList.drop 46 = dktX4_drinkLine_2 := dk_seg dksX4_drinkLine_1 24 rfl rfl
theorem dksX4_drinkLine_3 : cX4_drinkLine.data.toList.drop 70 = dktX4_drinkLine_3 := dk_seg dksX4_drinkLine_2 24 rfl rfl
theorem dksX4_drinkLine_4 : cX4_drinkLine.data.toList.drop 94 = dktX4_drinkLine_4 := dk_seg dksX4_drinkLine_3 24 rfl rfl
theorem dX4_drinkLine_0 : decode cX4_drinkLine 0 = .ok (.aload_n 0, 1) := dk_42 (dk_at dksX4_drinkLine_0 0 rfl rfl)
theorem dX4_drinkLine_1 : decode cX4_drinkLine 1 = .ok (.getfield 98, 3) := dk_180 0 98 (dk_at dksX4_drinkLine_0 1 rfl rfl)
theorem dX4_drinkLine_4 : decode cX4_drinkLine 4 = .ok (.ifCond .eq 4, 3) := dk_153 0 4 (dk_at dksX4_drinkLine_0 4 rfl rfl)
theorem dX4_drinkLine_7 : decode cX4_drinkLine 7 = .ok (.return_, 1) := dk_177 (dk_at dksX4_drinkLine_0 7 rfl rfl)
theorem dX4_drinkLine_8 : decode cX4_drinkLine 8 = .ok (.bipush 8, 2) := dk_16 8 (dk_at dksX4_drinkLine_0 8 rfl rfl)
theorem dX4_drinkLine_10 : decode cX4_drinkLine 10 = .ok (.iconst 3, 1) := dk_6 (dk_at dksX4_drinkLine_0 10 rfl rfl)
theorem dX4_drinkLine_11 : decode cX4_drinkLine 11 = .ok (.aload_n 0, 1) := dk_42 (dk_at dksX4_drinkLine_0 11 rfl rfl)
theorem dX4_drinkLine_12 : decode cX4_drinkLine 12 = .ok (.getfield 23, 3) := dk_180 0 23 (dk_at dksX4_drinkLine_0 12 rfl rfl)
theorem dX4_drinkLine_15 : decode cX4_drinkLine 15 = .ok (.iconst 3, 1) := dk_6 (dk_at dksX4_drinkLine_0 15 rfl rfl)
theorem dX4_drinkLine_16 : decode cX4_drinkLine 16 = .ok (.iaload, 1) := dk_46 (dk_at dksX4_drinkLine_0 16 rfl rfl)
theorem dX4_drinkLine_17 : decode cX4_drinkLine 17 = .ok (.imul, 1) := dk_104 (dk_at dksX4_drinkLine_0 17 rfl rfl)
theorem dX4_drinkLine_18 : decode cX4_drinkLine 18 = .ok (.iadd, 1) := dk_96 (dk_at dksX4_drinkLine_0 18 rfl rfl)
theorem dX4_drinkLine_19 : decode cX4_drinkLine 19 = .ok (.istore_n 1, 1) := dk_60 (dk_at dksX4_drinkLine_0 19 rfl rfl)
theorem dX4_drinkLine_20 : decode cX4_drinkLine 20 = .ok (.aload_n 0, 1) := dk_42 (dk_at dksX4_drinkLine_0 20 rfl rfl)
theorem dX4_drinkLine_21 : decode cX4_drinkLine 21 = .ok (.aload_n 0, 1) := dk_42 (dk_at dksX4_drinkLine_0 21 rfl rfl)
theorem dX4_drinkLine_22 : decode cX4_drinkLine 22 = .ok (.getfield 23, 3) := dk_180 0 23 (dk_at dksX4_drinkLine_1 0 rfl rfl)
theorem dX4_drinkLine_25 : decode cX4_drinkLine 25 = .ok (.iconst 3, 1) := dk_6 (dk_at dksX4_drinkLine_1 3 rfl rfl)
theorem dX4_drinkLine_26 : decode cX4_drinkLine 26 = .ok (.iaload, 1) := dk_46 (dk_at dksX4_drinkLine_1 4 rfl rfl)
theorem dX4_drinkLine_27 : decode cX4_drinkLine 27 = .ok (.invokevirtual 224, 3) := dk_182 0 224 (dk_at dksX4_drinkLine_1 5 rfl rfl)
theorem dX4_drinkLine_30 : decode cX4_drinkLine 30 = .ok (.aload_n 0, 1) := dk_42 (dk_at dksX4_drinkLine_1 8 rfl rfl)
theorem dX4_drinkLine_31 : decode cX4_drinkLine 31 = .ok (.getfield 23, 3) := dk_180 0 23 (dk_at dksX4_drinkLine_1 9 rfl rfl)
theorem dX4_drinkLine_34 : decode cX4_drinkLine 34 = .ok (.iload_n 1, 1) := dk_27 (dk_at dksX4_drinkLine_1 12 rfl rfl)
theorem dX4_drinkLine_35 : decode cX4_drinkLine 35 = .ok (.aload_n 0, 1) := dk_42 (dk_at dksX4_drinkLine_1 13 rfl rfl)
theorem dX4_drinkLine_36 : decode cX4_drinkLine 36 = .ok (.ldc 228, 2) := dk_18 228 (dk_at dksX4_drinkLine_1 14 rfl rfl)
theorem dX4_drinkLine_38 : decode cX4_drinkLine 38 = .ok (.iconst 1, 1) := dk_4 (dk_at dksX4_drinkLine_1 16 rfl rfl)
theorem dX4_drinkLine_39 : decode cX4_drinkLine 39 = .ok (.bipush 90, 2) := dk_16 90 (dk_at dksX4_drinkLine_1 17 rfl rfl)
theorem dX4_drinkLine_41 : decode cX4_drinkLine 41 = .ok (.invokevirtual 218, 3) := dk_182 0 218 (dk_at dksX4_drinkLine_1 19 rfl rfl)
theorem dX4_drinkLine_44 : decode cX4_drinkLine 44 = .ok (.iastore, 1) := dk_79 (dk_at dksX4_drinkLine_1 22 rfl rfl)
theorem dX4_drinkLine_45 : decode cX4_drinkLine 45 = .ok (.aload_n 0, 1) := dk_42 (dk_at dksX4_drinkLine_1 23 rfl rfl)
theorem dX4_drinkLine_46 : decode cX4_drinkLine 46 = .ok (.getfield 23, 3) := dk_180 0 23 (dk_at dksX4_drinkLine_2 0 rfl rfl)
theorem dX4_drinkLine_49 : decode cX4_drinkLine 49 = .ok (.iload_n 1, 1) := dk_27 (dk_at dksX4_drinkLine_2 3 rfl rfl)
theorem dX4_drinkLine_50 : decode cX4_drinkLine 50 = .ok (.iconst 1, 1) := dk_4 (dk_at dksX4_drinkLine_2 4 rfl rfl)
theorem dX4_drinkLine_51 : decode cX4_drinkLine 51 = .ok (.iadd, 1) := dk_96 (dk_at dksX4_drinkLine_2 5 rfl rfl)
theorem dX4_drinkLine_52 : decode cX4_drinkLine 52 = .ok (.aload_n 0, 1) := dk_42 (dk_at dksX4_drinkLine_2 6 rfl rfl)
theorem dX4_drinkLine_53 : decode cX4_drinkLine 53 = .ok (.ldc 230, 2) := dk_18 230 (dk_at dksX4_drinkLine_2 7 rfl rfl)
theorem dX4_drinkLine_55 : decode cX4_drinkLine 55 = .ok (.iconst 0, 1) := dk_3 (dk_at dksX4_drinkLine_2 9 rfl rfl)
theorem dX4_drinkLine_56 : decode cX4_drinkLine 56 = .ok (.aload_n 0, 1) := dk_42 (dk_at dksX4_drinkLine_2 10 rfl rfl)
theorem dX4_drinkLine_57 : decode cX4_drinkLine 57 = .ok (.getfield 23, 3) := dk_180 0 23 (dk_at dksX4_drinkLine_2 11 rfl rfl)
theorem dX4_drinkLine_60 : decode cX4_drinkLine 60 = .ok (.iload_n 1, 1) := dk_27 (dk_at dksX4_drinkLine_2 14 rfl rfl)
theorem dX4_drinkLine_61 : decode cX4_drinkLine 61 = .ok (.iaload, 1) := dk_46 (dk_at dksX4_drinkLine_2 15 rfl rfl)
theorem dX4_drinkLine_62 : decode cX4_drinkLine 62 = .ok (.invokevirtual 218, 3) := dk_182 0 218 (dk_at dksX4_drinkLine_2 16 rfl rfl)
theorem dX4_drinkLine_65 : decode cX4_drinkLine 65 = .ok (.iastore, 1) := dk_79 (dk_at dksX4_drinkLine_2 19 rfl rfl)
theorem dX4_drinkLine_66 : decode cX4_drinkLine 66 = .ok (.aload_n 0, 1) := dk_42 (dk_at dksX4_drinkLine_2 20 rfl rfl)
theorem dX4_drinkLine_67 : decode cX4_drinkLine 67 = .ok (.getfield 23, 3) := dk_180 0 23 (dk_at dksX4_drinkLine_2 21 rfl rfl)
theorem dX4_drinkLine_70 : decode cX4_drinkLine 70 = .ok (.iload_n 1, 1) := dk_27 (dk_at dksX4_drinkLine_3 0 rfl rfl)
theorem dX4_drinkLine_71 : decode cX4_drinkLine 71 = .ok (.iconst 2, 1) := dk_5 (dk_at dksX4_drinkLine_3 1 rfl rfl)
theorem dX4_drinkLine_72 : decode cX4_drinkLine 72 = .ok (.iadd, 1) := dk_96 (dk_at dksX4_drinkLine_3 2 rfl rfl)
theorem dX4_drinkLine_73 : decode cX4_drinkLine 73 = .ok (.aload_n 0, 1) := dk_42 (dk_at dksX4_drinkLine_3 3 rfl rfl)
theorem dX4_drinkLine_74 : decode cX4_drinkLine 74 = .ok (.ldc 232, 2) := dk_18 232 (dk_at dksX4_drinkLine_3 4 rfl rfl)
theorem dX4_drinkLine_76 : decode cX4_drinkLine 76 = .ok (.iconst 0, 1) := dk_3 (dk_at dksX4_drinkLine_3 6 rfl rfl)
theorem dX4_drinkLine_77 : decode cX4_drinkLine 77 = .ok (.bipush 99, 2) := dk_16 99 (dk_at dksX4_drinkLine_3 7 rfl rfl)
theorem dX4_drinkLine_79 : decode cX4_drinkLine 79 = .ok (.invokevirtual 218, 3) := dk_182 0 218 (dk_at dksX4_drinkLine_3 9 rfl rfl)
theorem dX4_drinkLine_82 : decode cX4_drinkLine 82 = .ok (.iastore, 1) := dk_79 (dk_at dksX4_drinkLine_3 12 rfl rfl)
theorem dX4_drinkLine_83 : decode cX4_drinkLine 83 = .ok (.aload_n 0, 1) := dk_42 (dk_at dksX4_drinkLine_3 13 rfl rfl)
theorem dX4_drinkLine_84 : decode cX4_drinkLine 84 = .ok (.getfield 98, 3) := dk_180 0 98 (dk_at dksX4_drinkLine_3 14 rfl rfl)
theorem dX4_drinkLine_87 : decode cX4_drinkLine 87 = .ok (.ifCond .ne 13, 3) := dk_154 0 13 (dk_at dksX4_drinkLine_3 17 rfl rfl)
theorem dX4_drinkLine_90 : decode cX4_drinkLine 90 = .ok (.aload_n 0, 1) := dk_42 (dk_at dksX4_drinkLine_3 20 rfl rfl)
theorem dX4_drinkLine_91 : decode cX4_drinkLine 91 = .ok (.getfield 23, 3) := dk_180 0 23 (dk_at dksX4_drinkLine_3 21 rfl rfl)
theorem dX4_drinkLine_94 : decode cX4_drinkLine 94 = .ok (.iconst 3, 1) := dk_6 (dk_at dksX4_drinkLine_4 0 rfl rfl)
theorem dX4_drinkLine_95 : decode cX4_drinkLine 95 = .ok (.dup2, 1) := dk_92 (dk_at dksX4_drinkLine_4 1 rfl rfl)
theorem dX4_drinkLine_96 : decode cX4_drinkLine 96 = .ok (.iaload, 1) := dk_46 (dk_at dksX4_drinkLine_4 2 rfl rfl)
theorem dX4_drinkLine_97 : decode cX4_drinkLine 97 = .ok (.iconst 1, 1) := dk_4 (dk_at dksX4_drinkLine_4 3 rfl rfl)
theorem dX4_drinkLine_98 : decode cX4_drinkLine 98 = .ok (.iadd, 1) := dk_96 (dk_at dksX4_drinkLine_4 4 rfl rfl)
theorem dX4_drinkLine_99 : decode cX4_drinkLine 99 = .ok (.iastore, 1) := dk_79 (dk_at dksX4_drinkLine_4 5 rfl rfl)
theorem dX4_drinkLine_100 : decode cX4_drinkLine 100 = .ok (.return_, 1) := dk_177 (dk_at dksX4_drinkLine_4 6 rfl rfl)
abbrev cX4_newName : ByteArray := prog_24_method_22_code
def yX4_newName : MethodName := ⟨RX4, "newName", "(I)V"⟩
def dkwX4_newName_4 : List UInt8 := [182, 0, 119, 177]
abbrev dktX4_newName_4 : List UInt8 := dkwX4_newName_4 ++ []
def dkwX4_newName_3 : List UInt8 := [28, 46, 79, 132, 2, 1, 167, 255, 224, 42, 180, 0, 23, 17, 0, 185, 27, 96, 42, 180, 0, 82, 79, 42]
abbrev dktX4_newName_3 : List UInt8 := dkwX4_newName_3 ++ dktX4_newName_4
def dkwX4_newName_2 : List UInt8 := [180, 0, 82, 162, 0, 30, 42, 180, 0, 23, 17, 0, 203, 16, 8, 27, 104, 96, 28, 96, 42, 180, 0, 17]
abbrev dktX4_newName_2 : List UInt8 := dkwX4_newName_2 ++ dktX4_newName_3
def dkwX4_newName_1 : List UInt8 := [155, 0, 12, 42, 6, 42, 180, 0, 79, 182, 0, 125, 42, 180, 0, 98, 153, 0, 4, 177, 3, 61, 28, 42]
abbrev dktX4_newName_1 : List UInt8 := dkwX4_newName_1 ++ dktX4_newName_2
def dkwX4_newName_0 : List UInt8 := [42, 180, 0, 98, 153, 0, 4, 177, 42, 182, 0, 141, 42, 180, 0, 98, 154, 0, 19, 42, 182, 0, 144]
abbrev dktX4_newName_0 : List UInt8 := dkwX4_newName_0 ++ dktX4_newName_1
theorem dksX4_newName_0 : cX4_newName.data.toList.drop 0 = dktX4_newName_0 := by decide +kernel
theorem dksX4_newName_1 : cX4_newName.data.toList.drop 23 = dktX4_newName_1 := dk_seg dksX4_newName_0 23 rfl rfl
theorem dksX4_newName_2 : cX4_newName.data.toList.drop 47 = dktX4_newName_2 := dk_seg dksX4_newName_1 24 rfl rfl
theorem dksX4_newName_3 : cX4_newName.data.toList.drop 71 = dktX4_newName_3 := dk_seg dksX4_newName_2 24 rfl rfl
theorem dksX4_newName_4 : cX4_newName.data.toList.drop 95 = dktX4_newName_4 := dk_seg dksX4_newName_3 24 rfl rfl
theorem dX4_newName_0 : decode cX4_newName 0 = .ok (.aload_n 0, 1) := dk_42 (dk_at dksX4_newName_0 0 rfl rfl)
theorem dX4_newName_1 : decode cX4_newName 1 = .ok (.getfield 98, 3) := dk_180 0 98 (dk_at dksX4_newName_0 1 rfl rfl)
theorem dX4_newName_4 : decode cX4_newName 4 = .ok (.ifCond .eq 4, 3) := dk_153 0 4 (dk_at dksX4_newName_0 4 rfl rfl)
theorem dX4_newName_7 : decode cX4_newName 7 = .ok (.return_, 1) := dk_177 (dk_at dksX4_newName_0 7 rfl rfl)
theorem dX4_newName_8 : decode cX4_newName 8 = .ok (.aload_n 0, 1) := dk_42 (dk_at dksX4_newName_0 8 rfl rfl)
theorem dX4_newName_9 : decode cX4_newName 9 = .ok (.invokevirtual 141, 3) := dk_182 0 141 (dk_at dksX4_newName_0 9 rfl rfl)
theorem dX4_newName_12 : decode cX4_newName 12 = .ok (.aload_n 0, 1) := dk_42 (dk_at dksX4_newName_0 12 rfl rfl)
theorem dX4_newName_13 : decode cX4_newName 13 = .ok (.getfield 98, 3) := dk_180 0 98 (dk_at dksX4_newName_0 13 rfl rfl)
theorem dX4_newName_16 : decode cX4_newName 16 = .ok (.ifCond .ne 19, 3) := dk_154 0 19 (dk_at dksX4_newName_0 16 rfl rfl)
theorem dX4_newName_19 : decode cX4_newName 19 = .ok (.aload_n 0, 1) := dk_42 (dk_at dksX4_newName_0 19 rfl rfl)
theorem dX4_newName_20 : decode cX4_newName 20 = .ok (.invokevirtual 144, 3) := dk_182 0 144 (dk_at dksX4_newName_0 20 rfl rfl)
theorem dX4_newName_23 : decode cX4_newName 23 = .ok (.ifCond .lt 12, 3) := dk_155 0 12 (dk_at dksX4_newName_1 0 rfl rfl)
theorem dX4_newName_26 : decode cX4_newName 26 = .ok (.aload_n 0, 1) := dk_42 (dk_at dksX4_newName_1 3 rfl rfl)
theorem dX4_newName_27 : decode cX4_newName 27 = .ok (.iconst 3, 1) := dk_6 (dk_at dksX4_newName_1 4 rfl rfl)
theorem dX4_newName_28 : decode cX4_newName 28 = .ok (.aload_n 0, 1) := dk_42 (dk_at dksX4_newName_1 5 rfl rfl)
theorem dX4_newName_29 : decode cX4_newName 29 = .ok (.getfield 79, 3) := dk_180 0 79 (dk_at dksX4_newName_1 6 rfl rfl)
theorem dX4_newName_32 : decode cX4_newName 32 = .ok (.invokevirtual 125, 3) := dk_182 0 125 (dk_at dksX4_newName_1 9 rfl rfl)
theorem dX4_newName_35 : decode cX4_newName 35 = .ok (.aload_n 0, 1) := dk_42 (dk_at dksX4_newName_1 12 rfl rfl)
theorem dX4_newName_36 : decode cX4_newName 36 = .ok (.getfield 98, 3) := dk_180 0 98 (dk_at dksX4_newName_1 13 rfl rfl)
theorem dX4_newName_39 : decode cX4_newName 39 = .ok (.ifCond .eq 4, 3) := dk_153 0 4 (dk_at dksX4_newName_1 16 rfl rfl)
theorem dX4_newName_42 : decode cX4_newName 42 = .ok (.return_, 1) := dk_177 (dk_at dksX4_newName_1 19 rfl rfl)
theorem dX4_newName_43 : decode cX4_newName 43 = .ok (.iconst 0, 1) := dk_3 (dk_at dksX4_newName_1 20 rfl rfl)
theorem dX4_newName_44 : decode cX4_newName 44 = .ok (.istore_n 2, 1) := dk_61 (dk_at dksX4_newName_1 21 rfl rfl)
theorem dX4_newName_45 : decode cX4_newName 45 = .ok (.iload_n 2, 1) := dk_28 (dk_at dksX4_newName_1 22 rfl rfl)
theorem dX4_newName_46 : decode cX4_newName 46 = .ok (.aload_n 0, 1) := dk_42 (dk_at dksX4_newName_1 23 rfl rfl)
theorem dX4_newName_47 : decode cX4_newName 47 = .ok (.getfield 82, 3) := dk_180 0 82 (dk_at dksX4_newName_2 0 rfl rfl)
theorem dX4_newName_50 : decode cX4_newName 50 = .ok (.if_icmp .ge 30, 3) := dk_162 0 30 (dk_at dksX4_newName_2 3 rfl rfl)
theorem dX4_newName_53 : decode cX4_newName 53 = .ok (.aload_n 0, 1) := dk_42 (dk_at dksX4_newName_2 6 rfl rfl)
theorem dX4_newName_54 : decode cX4_newName 54 = .ok (.getfield 23, 3) := dk_180 0 23 (dk_at dksX4_newName_2 7 rfl rfl)
theorem dX4_newName_57 : decode cX4_newName 57 = .ok (.sipush 203, 3) := dk_17 0 203 (dk_at dksX4_newName_2 10 rfl rfl)
theorem dX4_newName_60 : decode cX4_newName 60 = .ok (.bipush 8, 2) := dk_16 8 (dk_at dksX4_newName_2 13 rfl rfl)
theorem dX4_newName_62 : decode cX4_newName 62 = .ok (.iload_n 1, 1) := dk_27 (dk_at dksX4_newName_2 15 rfl rfl)
theorem dX4_newName_63 : decode cX4_newName 63 = .ok (.imul, 1) := dk_104 (dk_at dksX4_newName_2 16 rfl rfl)
theorem dX4_newName_64 : decode cX4_newName 64 = .ok (.iadd, 1) := dk_96 (dk_at dksX4_newName_2 17 rfl rfl)
theorem dX4_newName_65 : decode cX4_newName 65 = .ok (.iload_n 2, 1) := dk_28 (dk_at dksX4_newName_2 18 rfl rfl)
theorem dX4_newName_66 : decode cX4_newName 66 = .ok (.iadd, 1) := dk_96 (dk_at dksX4_newName_2 19 rfl rfl)
theorem dX4_newName_67 : decode cX4_newName 67 = .ok (.aload_n 0, 1) := dk_42 (dk_at dksX4_newName_2 20 rfl rfl)
theorem dX4_newName_68 : decode cX4_newName 68 = .ok (.getfield 17, 3) := dk_180 0 17 (dk_at dksX4_newName_2 21 rfl rfl)
theorem dX4_newName_71 : decode cX4_newName 71 = .ok (.iload_n 2, 1) := dk_28 (dk_at dksX4_newName_3 0 rfl rfl)
theorem dX4_newName_72 : decode cX4_newName 72 = .ok (.iaload, 1) := dk_46 (dk_at dksX4_newName_3 1 rfl rfl)
theorem dX4_newName_73 : decode cX4_newName 73 = .ok (.iastore, 1) := dk_79 (dk_at dksX4_newName_3 2 rfl rfl)
theorem dX4_newName_74 : decode cX4_newName 74 = .ok (.iinc 2 1, 3) := dk_132 2 1 (dk_at dksX4_newName_3 3 rfl rfl)
theorem dX4_newName_77 : decode cX4_newName 77 = .ok (.goto (-32), 3) := dk_167 255 224 (dk_at dksX4_newName_3 6 rfl rfl)
theorem dX4_newName_80 : decode cX4_newName 80 = .ok (.aload_n 0, 1) := dk_42 (dk_at dksX4_newName_3 9 rfl rfl)
theorem dX4_newName_81 : decode cX4_newName 81 = .ok (.getfield 23, 3) := dk_180 0 23 (dk_at dksX4_newName_3 10 rfl rfl)
theorem dX4_newName_84 : decode cX4_newName 84 = .ok (.sipush 185, 3) := dk_17 0 185 (dk_at dksX4_newName_3 13 rfl rfl)
theorem dX4_newName_87 : decode cX4_newName 87 = .ok (.iload_n 1, 1) := dk_27 (dk_at dksX4_newName_3 16 rfl rfl)
theorem dX4_newName_88 : decode cX4_newName 88 = .ok (.iadd, 1) := dk_96 (dk_at dksX4_newName_3 17 rfl rfl)
theorem dX4_newName_89 : decode cX4_newName 89 = .ok (.aload_n 0, 1) := dk_42 (dk_at dksX4_newName_3 18 rfl rfl)
theorem dX4_newName_90 : decode cX4_newName 90 = .ok (.getfield 82, 3) := dk_180 0 82 (dk_at dksX4_newName_3 19 rfl rfl)
theorem dX4_newName_93 : decode cX4_newName 93 = .ok (.iastore, 1) := dk_79 (dk_at dksX4_newName_3 22 rfl rfl)
theorem dX4_newName_94 : decode cX4_newName 94 = .ok (.aload_n 0, 1) := dk_42 (dk_at dksX4_newName_3 23 rfl rfl)
theorem dX4_newName_95 : decode cX4_newName 95 = .ok (.invokevirtual 119, 3) := dk_182 0 119 (dk_at dksX4_newName_4 0 rfl rfl)
theorem dX4_newName_98 : decode cX4_newName 98 = .ok (.return_, 1) := dk_177 (dk_at dksX4_newName_4 3 rfl rfl)
abbrev cX4_mustName : ByteArray := prog_24_method_20_code
def yX4_mustName : MethodName := ⟨RX4, "mustName", "()V"⟩
def dkwX4_mustName_3 : List UInt8 := [42, 4, 42, 180, 0, 79, 182, 0, 125, 177]
abbrev dktX4_mustName_3 : List UInt8 := dkwX4_mustName_3 ++ []
def dkwX4_mustName_2 : List UInt8 := [182, 0, 115, 153, 0, 7, 4, 167, 0, 4, 3, 60, 42, 180, 0, 88, 5, 160, 0, 7, 27, 153, 0, 12]
abbrev dktX4_mustName_2 : List UInt8 := dkwX4_mustName_2 ++ dktX4_mustName_3
def dkwX4_mustName_1 : List UInt8 := [154, 0, 30, 42, 18, 135, 182, 0, 115, 154, 0, 21, 42, 18, 137, 182, 0, 115, 154, 0, 12, 42, 18, 139]
abbrev dktX4_mustName_1 : List UInt8 := dkwX4_mustName_1 ++ dktX4_mustName_2
def dkwX4_mustName_0 : List UInt8 := [42, 18, 129, 182, 0, 115, 154, 0, 48, 42, 18, 131, 182, 0, 115, 154, 0, 39, 42, 18, 133, 182, 0, 115]
abbrev dktX4_mustName_0 : List UInt8 := dkwX4_mustName_0 ++ dktX4_mustName_1
theorem dksX4_mustName_0 : cX4_mustName.data.toList.drop 0 = dktX4_mustName_0 := by decide +kernel
theorem dksX4_mustName_1 : cX4_mustName.data.toList.drop 24 = dktX4_mustName_1 := dk_seg dksX4_mustName_0 24 rfl rfl
theorem dksX4_mustName_2 : cX4_mustName.data.toList.drop 48 = dktX4_mustName_2 := dk_seg dksX4_mustName_1 24 rfl rfl
theorem dksX4_mustName_3 : cX4_mustName.data.toList.drop 72 = dktX4_mustName_3 := dk_seg dksX4_mustName_2 24 rfl rfl
theorem dX4_mustName_0 : decode cX4_mustName 0 = .ok (.aload_n 0, 1) := dk_42 (dk_at dksX4_mustName_0 0 rfl rfl)
theorem dX4_mustName_1 : decode cX4_mustName 1 = .ok (.ldc 129, 2) := dk_18 129 (dk_at dksX4_mustName_0 1 rfl rfl)
theorem dX4_mustName_3 : decode cX4_mustName 3 = .ok (.invokevirtual 115, 3) := dk_182 0 115 (dk_at dksX4_mustName_0 3 rfl rfl)
theorem dX4_mustName_6 : decode cX4_mustName 6 = .ok (.ifCond .ne 48, 3) := dk_154 0 48 (dk_at dksX4_mustName_0 6 rfl rfl)
theorem dX4_mustName_9 : decode cX4_mustName 9 = .ok (.aload_n 0, 1) := dk_42 (dk_at dksX4_mustName_0 9 rfl rfl)
theorem dX4_mustName_10 : decode cX4_mustName 10 = .ok (.ldc 131, 2) := dk_18 131 (dk_at dksX4_mustName_0 10 rfl rfl)
theorem dX4_mustName_12 : decode cX4_mustName 12 = .ok (.invokevirtual 115, 3) := dk_182 0 115 (dk_at dksX4_mustName_0 12 rfl rfl)
theorem dX4_mustName_15 : decode cX4_mustName 15 = .ok (.ifCond .ne 39, 3) := dk_154 0 39 (dk_at dksX4_mustName_0 15 rfl rfl)
theorem dX4_mustName_18 : decode cX4_mustName 18 = .ok (.aload_n 0, 1) := dk_42 (dk_at dksX4_mustName_0 18 rfl rfl)
theorem dX4_mustName_19 : decode cX4_mustName 19 = .ok (.ldc 133, 2) := dk_18 133 (dk_at dksX4_mustName_0 19 rfl rfl)
theorem dX4_mustName_21 : decode cX4_mustName 21 = .ok (.invokevirtual 115, 3) := dk_182 0 115 (dk_at dksX4_mustName_0 21 rfl rfl)
theorem dX4_mustName_24 : decode cX4_mustName 24 = .ok (.ifCond .ne 30, 3) := dk_154 0 30 (dk_at dksX4_mustName_1 0 rfl rfl)
theorem dX4_mustName_27 : decode cX4_mustName 27 = .ok (.aload_n 0, 1) := dk_42 (dk_at dksX4_mustName_1 3 rfl rfl)
theorem dX4_mustName_28 : decode cX4_mustName 28 = .ok (.ldc 135, 2) := dk_18 135 (dk_at dksX4_mustName_1 4 rfl rfl)
theorem dX4_mustName_30 : decode cX4_mustName 30 = .ok (.invokevirtual 115, 3) := dk_182 0 115 (dk_at dksX4_mustName_1 6 rfl rfl)
theorem dX4_mustName_33 : decode cX4_mustName 33 = .ok (.ifCond .ne 21, 3) := dk_154 0 21 (dk_at dksX4_mustName_1 9 rfl rfl)
theorem dX4_mustName_36 : decode cX4_mustName 36 = .ok (.aload_n 0, 1) := dk_42 (dk_at dksX4_mustName_1 12 rfl rfl)
theorem dX4_mustName_37 : decode cX4_mustName 37 = .ok (.ldc 137, 2) := dk_18 137 (dk_at dksX4_mustName_1 13 rfl rfl)
theorem dX4_mustName_39 : decode cX4_mustName 39 = .ok (.invokevirtual 115, 3) := dk_182 0 115 (dk_at dksX4_mustName_1 15 rfl rfl)
theorem dX4_mustName_42 : decode cX4_mustName 42 = .ok (.ifCond .ne 12, 3) := dk_154 0 12 (dk_at dksX4_mustName_1 18 rfl rfl)
theorem dX4_mustName_45 : decode cX4_mustName 45 = .ok (.aload_n 0, 1) := dk_42 (dk_at dksX4_mustName_1 21 rfl rfl)
theorem dX4_mustName_46 : decode cX4_mustName 46 = .ok (.ldc 139, 2) := dk_18 139 (dk_at dksX4_mustName_1 22 rfl rfl)
theorem dX4_mustName_48 : decode cX4_mustName 48 = .ok (.invokevirtual 115, 3) := dk_182 0 115 (dk_at dksX4_mustName_2 0 rfl rfl)
theorem dX4_mustName_51 : decode cX4_mustName 51 = .ok (.ifCond .eq 7, 3) := dk_153 0 7 (dk_at dksX4_mustName_2 3 rfl rfl)
theorem dX4_mustName_54 : decode cX4_mustName 54 = .ok (.iconst 1, 1) := dk_4 (dk_at dksX4_mustName_2 6 rfl rfl)
theorem dX4_mustName_55 : decode cX4_mustName 55 = .ok (.goto 4, 3) := dk_167 0 4 (dk_at dksX4_mustName_2 7 rfl rfl)
theorem dX4_mustName_58 : decode cX4_mustName 58 = .ok (.iconst 0, 1) := dk_3 (dk_at dksX4_mustName_2 10 rfl rfl)
theorem dX4_mustName_59 : decode cX4_mustName 59 = .ok (.istore_n 1, 1) := dk_60 (dk_at dksX4_mustName_2 11 rfl rfl)
theorem dX4_mustName_60 : decode cX4_mustName 60 = .ok (.aload_n 0, 1) := dk_42 (dk_at dksX4_mustName_2 12 rfl rfl)
theorem dX4_mustName_61 : decode cX4_mustName 61 = .ok (.getfield 88, 3) := dk_180 0 88 (dk_at dksX4_mustName_2 13 rfl rfl)
theorem dX4_mustName_64 : decode cX4_mustName 64 = .ok (.iconst 2, 1) := dk_5 (dk_at dksX4_mustName_2 16 rfl rfl)
theorem dX4_mustName_65 : decode cX4_mustName 65 = .ok (.if_icmp .ne 7, 3) := dk_160 0 7 (dk_at dksX4_mustName_2 17 rfl rfl)
theorem dX4_mustName_68 : decode cX4_mustName 68 = .ok (.iload_n 1, 1) := dk_27 (dk_at dksX4_mustName_2 20 rfl rfl)
theorem dX4_mustName_69 : decode cX4_mustName 69 = .ok (.ifCond .eq 12, 3) := dk_153 0 12 (dk_at dksX4_mustName_2 21 rfl rfl)
theorem dX4_mustName_72 : decode cX4_mustName 72 = .ok (.aload_n 0, 1) := dk_42 (dk_at dksX4_mustName_3 0 rfl rfl)
theorem dX4_mustName_73 : decode cX4_mustName 73 = .ok (.iconst 1, 1) := dk_4 (dk_at dksX4_mustName_3 1 rfl rfl)
theorem dX4_mustName_74 : decode cX4_mustName 74 = .ok (.aload_n 0, 1) := dk_42 (dk_at dksX4_mustName_3 2 rfl rfl)
theorem dX4_mustName_75 : decode cX4_mustName 75 = .ok (.getfield 79, 3) := dk_180 0 79 (dk_at dksX4_mustName_3 3 rfl rfl)
theorem dX4_mustName_78 : decode cX4_mustName 78 = .ok (.invokevirtual 125, 3) := dk_182 0 125 (dk_at dksX4_mustName_3 6 rfl rfl)
theorem dX4_mustName_81 : decode cX4_mustName 81 = .ok (.return_, 1) := dk_177 (dk_at dksX4_mustName_3 9 rfl rfl)
abbrev cX4_find : ByteArray := prog_24_method_21_code
def yX4_find : MethodName := ⟨RX4, "find", "()I"⟩
def dkwX4_find_4 : List UInt8 := [28, 153, 0, 5, 27, 172, 132, 1, 1, 167, 255, 155, 2, 172]
abbrev dktX4_find_4 : List UInt8 := dkwX4_find_4 ++ []
def dkwX4_find_3 : List UInt8 := [29, 96, 46, 42, 180, 0, 17, 29, 46, 160, 0, 7, 4, 167, 0, 4, 3, 61, 132, 3, 1, 167, 255, 211]
abbrev dktX4_find_3 : List UInt8 := dkwX4_find_3 ++ dktX4_find_4
def dkwX4_find_2 : List UInt8 := [29, 42, 180, 0, 82, 162, 0, 43, 28, 153, 0, 39, 42, 180, 0, 23, 17, 0, 203, 16, 8, 27, 104, 96]
abbrev dktX4_find_2 : List UInt8 := dkwX4_find_2 ++ dktX4_find_3
def dkwX4_find_1 : List UInt8 := [180, 0, 23, 17, 0, 185, 27, 96, 46, 42, 180, 0, 82, 160, 0, 7, 4, 167, 0, 4, 3, 61, 3, 62]
abbrev dktX4_find_1 : List UInt8 := dkwX4_find_1 ++ dktX4_find_2
def dkwX4_find_0 : List UInt8 := [3, 60, 27, 16, 18, 162, 0, 101, 42, 180, 0, 23, 17, 0, 185, 27, 96, 46, 158, 0, 24, 42]
abbrev dktX4_find_0 : List UInt8 := dkwX4_find_0 ++ dktX4_find_1
theorem dksX4_find_0 : cX4_find.data.toList.drop 0 = dktX4_find_0 := by decide +kernel
theorem dksX4_find_1 : cX4_find.data.toList.drop 22 = dktX4_find_1 := dk_seg dksX4_find_0 22 rfl rfl
theorem dksX4_find_2 : cX4_find.data.toList.drop 46 = dktX4_find_2 := dk_seg dksX4_find_1 24 rfl rfl
theorem dksX4_find_3 : cX4_find.data.toList.drop 70 = dktX4_find_3 := dk_seg dksX4_find_2 24 rfl rfl
theorem dksX4_find_4 : cX4_find.data.toList.drop 94 = dktX4_find_4 := dk_seg dksX4_find_3 24 rfl rfl
theorem dX4_find_0 : decode cX4_find 0 = .ok (.iconst 0, 1) := dk_3 (dk_at dksX4_find_0 0 rfl rfl)
theorem dX4_find_1 : decode cX4_find 1 = .ok (.istore_n 1, 1) := dk_60 (dk_at dksX4_find_0 1 rfl rfl)
theorem dX4_find_2 : decode cX4_find 2 = .ok (.iload_n 1, 1) := dk_27 (dk_at dksX4_find_0 2 rfl rfl)
theorem dX4_find_3 : decode cX4_find 3 = .ok (.bipush 18, 2) := dk_16 18 (dk_at dksX4_find_0 3 rfl rfl)
theorem dX4_find_5 : decode cX4_find 5 = .ok (.if_icmp .ge 101, 3) := dk_162 0 101 (dk_at dksX4_find_0 5 rfl rfl)
theorem dX4_find_8 : decode cX4_find 8 = .ok (.aload_n 0, 1) := dk_42 (dk_at dksX4_find_0 8 rfl rfl)
theorem dX4_find_9 : decode cX4_find 9 = .ok (.getfield 23, 3) := dk_180 0 23 (dk_at dksX4_find_0 9 rfl rfl)
theorem dX4_find_12 : decode cX4_find 12 = .ok (.sipush 185, 3) := dk_17 0 185 (dk_at dksX4_find_0 12 rfl rfl)
theorem dX4_find_15 : decode cX4_find 15 = .ok (.iload_n 1, 1) := dk_27 (dk_at dksX4_find_0 15 rfl rfl)
theorem dX4_find_16 : decode cX4_find 16 = .ok (.iadd, 1) := dk_96 (dk_at dksX4_find_0 16 rfl rfl)
theorem dX4_find_17 : decode cX4_find 17 = .ok (.iaload, 1) := dk_46 (dk_at dksX4_find_0 17 rfl rfl)
theorem dX4_find_18 : decode cX4_find 18 = .ok (.ifCond .le 24, 3) := dk_158 0 24 (dk_at dksX4_find_0 18 rfl rfl)
theorem dX4_find_21 : decode cX4_find 21 = .ok (.aload_n 0, 1) := dk_42 (dk_at dksX4_find_0 21 rfl rfl)
theorem dX4_find_22 : decode cX4_find 22 = .ok (.getfield 23, 3) := dk_180 0 23 (dk_at dksX4_find_1 0 rfl rfl)
theorem dX4_find_25 : decode cX4_find 25 = .ok (.sipush 185, 3) := dk_17 0 185 (dk_at dksX4_find_1 3 rfl rfl)
theorem dX4_find_28 : decode cX4_find 28 = .ok (.iload_n 1, 1) := dk_27 (dk_at dksX4_find_1 6 rfl rfl)
theorem dX4_find_29 : decode cX4_find 29 = .ok (.iadd, 1) := dk_96 (dk_at dksX4_find_1 7 rfl rfl)
theorem dX4_find_30 : decode cX4_find 30 = .ok (.iaload, 1) := dk_46 (dk_at dksX4_find_1 8 rfl rfl)
theorem dX4_find_31 : decode cX4_find 31 = .ok (.aload_n 0, 1) := dk_42 (dk_at dksX4_find_1 9 rfl rfl)
theorem dX4_find_32 : decode cX4_find 32 = .ok (.getfield 82, 3) := dk_180 0 82 (dk_at dksX4_find_1 10 rfl rfl)
theorem dX4_find_35 : decode cX4_find 35 = .ok (.if_icmp .ne 7, 3) := dk_160 0 7 (dk_at dksX4_find_1 13 rfl rfl)
theorem dX4_find_38 : decode cX4_find 38 = .ok (.iconst 1, 1) := dk_4 (dk_at dksX4_find_1 16 rfl rfl)
theorem dX4_find_39 : decode cX4_find 39 = .ok (.goto 4, 3) := dk_167 0 4 (dk_at dksX4_find_1 17 rfl rfl)
theorem dX4_find_42 : decode cX4_find 42 = .ok (.iconst 0, 1) := dk_3 (dk_at dksX4_find_1 20 rfl rfl)
theorem dX4_find_43 : decode cX4_find 43 = .ok (.istore_n 2, 1) := dk_61 (dk_at dksX4_find_1 21 rfl rfl)
theorem dX4_find_44 : decode cX4_find 44 = .ok (.iconst 0, 1) := dk_3 (dk_at dksX4_find_1 22 rfl rfl)
theorem dX4_find_45 : decode cX4_find 45 = .ok (.istore_n 3, 1) := dk_62 (dk_at dksX4_find_1 23 rfl rfl)
theorem dX4_find_46 : decode cX4_find 46 = .ok (.iload_n 3, 1) := dk_29 (dk_at dksX4_find_2 0 rfl rfl)
theorem dX4_find_47 : decode cX4_find 47 = .ok (.aload_n 0, 1) := dk_42 (dk_at dksX4_find_2 1 rfl rfl)
theorem dX4_find_48 : decode cX4_find 48 = .ok (.getfield 82, 3) := dk_180 0 82 (dk_at dksX4_find_2 2 rfl rfl)
theorem dX4_find_51 : decode cX4_find 51 = .ok (.if_icmp .ge 43, 3) := dk_162 0 43 (dk_at dksX4_find_2 5 rfl rfl)
theorem dX4_find_54 : decode cX4_find 54 = .ok (.iload_n 2, 1) := dk_28 (dk_at dksX4_find_2 8 rfl rfl)
theorem dX4_find_55 : decode cX4_find 55 = .ok (.ifCond .eq 39, 3) := dk_153 0 39 (dk_at dksX4_find_2 9 rfl rfl)
theorem dX4_find_58 : decode cX4_find 58 = .ok (.aload_n 0, 1) := dk_42 (dk_at dksX4_find_2 12 rfl rfl)
theorem dX4_find_59 : decode cX4_find 59 = .ok (.getfield 23, 3) := dk_180 0 23 (dk_at dksX4_find_2 13 rfl rfl)
theorem dX4_find_62 : decode cX4_find 62 = .ok (.sipush 203, 3) := dk_17 0 203 (dk_at dksX4_find_2 16 rfl rfl)
theorem dX4_find_65 : decode cX4_find 65 = .ok (.bipush 8, 2) := dk_16 8 (dk_at dksX4_find_2 19 rfl rfl)
theorem dX4_find_67 : decode cX4_find 67 = .ok (.iload_n 1, 1) := dk_27 (dk_at dksX4_find_2 21 rfl rfl)
theorem dX4_find_68 : decode cX4_find 68 = .ok (.imul, 1) := dk_104 (dk_at dksX4_find_2 22 rfl rfl)
theorem dX4_find_69 : decode cX4_find 69 = .ok (.iadd, 1) := dk_96 (dk_at dksX4_find_2 23 rfl rfl)
theorem dX4_find_70 : decode cX4_find 70 = .ok (.iload_n 3, 1) := dk_29 (dk_at dksX4_find_3 0 rfl rfl)
theorem dX4_find_71 : decode cX4_find 71 = .ok (.iadd, 1) := dk_96 (dk_at dksX4_find_3 1 rfl rfl)
theorem dX4_find_72 : decode cX4_find 72 = .ok (.iaload, 1) := dk_46 (dk_at dksX4_find_3 2 rfl rfl)
theorem dX4_find_73 : decode cX4_find 73 = .ok (.aload_n 0, 1) := dk_42 (dk_at dksX4_find_3 3 rfl rfl)
theorem dX4_find_74 : decode cX4_find 74 = .ok (.getfield 17, 3) := dk_180 0 17 (dk_at dksX4_find_3 4 rfl rfl)
theorem dX4_find_77 : decode cX4_find 77 = .ok (.iload_n 3, 1) := dk_29 (dk_at dksX4_find_3 7 rfl rfl)
theorem dX4_find_78 : decode cX4_find 78 = .ok (.iaload, 1) := dk_46 (dk_at dksX4_find_3 8 rfl rfl)
theorem dX4_find_79 : decode cX4_find 79 = .ok (.if_icmp .ne 7, 3) := dk_160 0 7 (dk_at dksX4_find_3 9 rfl rfl)
theorem dX4_find_82 : decode cX4_find 82 = .ok (.iconst 1, 1) := dk_4 (dk_at dksX4_find_3 12 rfl rfl)
theorem dX4_find_83 : decode cX4_find 83 = .ok (.goto 4, 3) := dk_167 0 4 (dk_at dksX4_find_3 13 rfl rfl)
theorem dX4_find_86 : decode cX4_find 86 = .ok (.iconst 0, 1) := dk_3 (dk_at dksX4_find_3 16 rfl rfl)
theorem dX4_find_87 : decode cX4_find 87 = .ok (.istore_n 2, 1) := dk_61 (dk_at dksX4_find_3 17 rfl rfl)
theorem dX4_find_88 : decode cX4_find 88 = .ok (.iinc 3 1, 3) := dk_132 3 1 (dk_at dksX4_find_3 18 rfl rfl)
theorem dX4_find_91 : decode cX4_find 91 = .ok (.goto (-45), 3) := dk_167 255 211 (dk_at dksX4_find_3 21 rfl rfl)
theorem dX4_find_94 : decode cX4_find 94 = .ok (.iload_n 2, 1) := dk_28 (dk_at dksX4_find_4 0 rfl rfl)
theorem dX4_find_95 : decode cX4_find 95 = .ok (.ifCond .eq 5, 3) := dk_153 0 5 (dk_at dksX4_find_4 1 rfl rfl)
theorem dX4_find_98 : decode cX4_find 98 = .ok (.iload_n 1, 1) := dk_27 (dk_at dksX4_find_4 4 rfl rfl)
theorem dX4_find_99 : decode cX4_find 99 = .ok (.ireturn, 1) := dk_172 (dk_at dksX4_find_4 5 rfl rfl)
theorem dX4_find_100 : decode cX4_find 100 = .ok (.iinc 1 1, 3) := dk_132 1 1 (dk_at dksX4_find_4 6 rfl rfl)
theorem dX4_find_103 : decode cX4_find 103 = .ok (.goto (-101), 3) := dk_167 255 155 (dk_at dksX4_find_4 9 rfl rfl)
theorem dX4_find_106 : decode cX4_find 106 = .ok (.iconst (-1), 1) := dk_2 (dk_at dksX4_find_4 12 rfl rfl)
theorem dX4_find_107 : decode cX4_find 107 = .ok (.ireturn, 1) := dk_172 (dk_at dksX4_find_4 13 rfl rfl)
abbrev cX4_staffLine : ByteArray := prog_24_method_34_code
def yX4_staffLine : MethodName := ⟨RX4, "staffLine", "()V"⟩
def dkwX4_staffLine_11 : List UInt8 := [96, 79, 177]
abbrev dktX4_staffLine_11 : List UInt8 := dkwX4_staffLine_11 ++ []
def dkwX4_staffLine_10 : List UInt8 := [42, 18, 251, 4, 5, 182, 0, 218, 79, 42, 180, 0, 98, 154, 0, 13, 42, 180, 0, 23, 7, 92, 46, 4]
abbrev dktX4_staffLine_10 : List UInt8 := dkwX4_staffLine_10 ++ dktX4_staffLine_11
def dkwX4_staffLine_9 : List UInt8 := [42, 180, 0, 23, 27, 7, 96, 42, 18, 249, 3, 16, 9, 182, 0, 218, 79, 42, 180, 0, 23, 27, 8, 96]
abbrev dktX4_staffLine_9 : List UInt8 := dkwX4_staffLine_9 ++ dktX4_staffLine_10
def dkwX4_staffLine_8 : List UInt8 := [96, 42, 18, 247, 42, 180, 0, 23, 27, 5, 96, 46, 42, 180, 0, 23, 4, 46, 4, 100, 182, 0, 218, 79]
abbrev dktX4_staffLine_8 : List UInt8 := dkwX4_staffLine_8 ++ dktX4_staffLine_9
def dkwX4_staffLine_7 : List UInt8 := [5, 96, 42, 18, 245, 3, 42, 180, 0, 23, 4, 46, 4, 100, 182, 0, 218, 79, 42, 180, 0, 23, 27, 6]
abbrev dktX4_staffLine_7 : List UInt8 := dkwX4_staffLine_7 ++ dktX4_staffLine_8
def dkwX4_staffLine_6 : List UInt8 := [27, 4, 96, 42, 18, 244, 3, 42, 180, 0, 23, 4, 46, 4, 100, 182, 0, 218, 79, 42, 180, 0, 23, 27]
abbrev dktX4_staffLine_6 : List UInt8 := dkwX4_staffLine_6 ++ dktX4_staffLine_7
def dkwX4_staffLine_5 : List UInt8 := [180, 0, 98, 153, 0, 4, 177, 42, 182, 0, 119, 42, 180, 0, 23, 27, 3, 96, 28, 79, 42, 180, 0, 23]
abbrev dktX4_staffLine_5 : List UInt8 := dkwX4_staffLine_5 ++ dktX4_staffLine_6
def dkwX4_staffLine_4 : List UInt8 := [153, 0, 7, 7, 167, 0, 4, 2, 61, 28, 156, 0, 12, 42, 4, 42, 180, 0, 79, 182, 0, 125, 42]
abbrev dktX4_staffLine_4 : List UInt8 := dkwX4_staffLine_4 ++ dktX4_staffLine_5
def dkwX4_staffLine_3 : List UInt8 := [167, 0, 30, 42, 18, 240, 182, 0, 115, 153, 0, 7, 6, 167, 0, 17, 42, 18, 242, 182, 0, 115]
abbrev dktX4_staffLine_3 : List UInt8 := dkwX4_staffLine_3 ++ dktX4_staffLine_4
def dkwX4_staffLine_2 : List UInt8 := [18, 236, 182, 0, 115, 153, 0, 7, 4, 167, 0, 43, 42, 18, 238, 182, 0, 115, 153, 0, 7, 5]
abbrev dktX4_staffLine_2 : List UInt8 := dkwX4_staffLine_2 ++ dktX4_staffLine_3
def dkwX4_staffLine_1 : List UInt8 := [180, 0, 23, 7, 46, 96, 182, 0, 224, 42, 18, 234, 182, 0, 115, 153, 0, 7, 3, 167, 0, 56, 42]
abbrev dktX4_staffLine_1 : List UInt8 := dkwX4_staffLine_1 ++ dktX4_staffLine_2
def dkwX4_staffLine_0 : List UInt8 := [42, 180, 0, 98, 153, 0, 4, 177, 16, 23, 16, 6, 42, 180, 0, 23, 7, 46, 104, 96, 60, 42, 8, 42]
abbrev dktX4_staffLine_0 : List UInt8 := dkwX4_staffLine_0 ++ dktX4_staffLine_1
theorem dksX4_staffLine_0 : cX4_staffLine.data.toList.drop 0 = dktX4_staffLine_0 := by decide +kernel
theorem dksX4_staffLine_1 : cX4_staffLine.data.toList.drop 24 = dktX4_staffLine_1 := dk_seg dksX4_staffLine_0 24 rfl rfl
theorem dksX4_staffLine_2 : cX4_staffLine.data.toList.drop 47 = dktX4_staffLine_2 := dk_seg dksX4_staffLine_1 23 rfl rfl
theorem dksX4_staffLine_3 : cX4_staffLine.data.toList.drop 69 = dktX4_staffLine_3 := dk_seg dksX4_staffLine_2 22 rfl rfl
theorem dksX4_staffLine_4 : cX4_staffLine.data.toList.drop 91 = dktX4_staffLine_4 := dk_seg dksX4_staffLine_3 22 rfl rfl
theorem dksX4_staffLine_5 : cX4_staffLine.data.toList.drop 114 = dktX4_staffLine_5 := dk_seg dksX4_staffLine_4 23 rfl rfl
theorem dksX4_staffLine_6 : cX4_staffLine.data.toList.drop 138 = dktX4_staffLine_6 := dk_seg dksX4_staffLine_5 24 rfl rfl
theorem dksX4_staffLine_7 : cX4_staffLine.data.toList.drop 162 = dktX4_staffLine_7 := dk_seg dksX4_staffLine_6 24 rfl rfl
theorem dksX4_staffLine_8 : cX4_staffLine.data.toList.drop 186 = dktX4_staffLine_8 := dk_seg dksX4_staffLine_7 24 rfl rfl
theorem dksX4_staffLine_9 : cX4_staffLine.data.toList.drop 210 = dktX4_staffLine_9 := dk_seg dksX4_staffLine_8 24 rfl rfl
theorem dksX4_staffLine_10 : cX4_staffLine.data.toList.drop 234 = dktX4_staffLine_10 := dk_seg dksX4_staffLine_9 24 rfl rfl
theorem dksX4_staffLine_11 : cX4_staffLine.data.toList.drop 258 = dktX4_staffLine_11 := dk_seg dksX4_staffLine_10 24 rfl rfl
theorem dX4_staffLine_0 : decode cX4_staffLine 0 = .ok (.aload_n 0, 1) := dk_42 (dk_at dksX4_staffLine_0 0 rfl rfl)
theorem dX4_staffLine_1 : decode cX4_staffLine 1 = .ok (.getfield 98, 3) := dk_180 0 98 (dk_at dksX4_staffLine_0 1 rfl rfl)
theorem dX4_staffLine_4 : decode cX4_staffLine 4 = .ok (.ifCond .eq 4, 3) := dk_153 0 4 (dk_at dksX4_staffLine_0 4 rfl rfl)
theorem dX4_staffLine_7 : decode cX4_staffLine 7 = .ok (.return_, 1) := dk_177 (dk_at dksX4_staffLine_0 7 rfl rfl)
theorem dX4_staffLine_8 : decode cX4_staffLine 8 = .ok (.bipush 23, 2) := dk_16 23 (dk_at dksX4_staffLine_0 8 rfl rfl)
theorem dX4_staffLine_10 : decode cX4_staffLine 10 = .ok (.bipush 6, 2) := dk_16 6 (dk_at dksX4_staffLine_0 10 rfl rfl)
theorem dX4_staffLine_12 : decode cX4_staffLine 12 = .ok (.aload_n 0, 1) := dk_42 (dk_at dksX4_staffLine_0 12 rfl rfl)
theorem dX4_staffLine_13 : decode cX4_staffLine 13 = .ok (.getfield 23, 3) := dk_180 0 23 (dk_at dksX4_staffLine_0 13 rfl rfl)
theorem dX4_staffLine_16 : decode cX4_staffLine 16 = .ok (.iconst 4, 1) := dk_7 (dk_at dksX4_staffLine_0 16 rfl rfl)
theorem dX4_staffLine_17 : decode cX4_staffLine 17 = .ok (.iaload, 1) := dk_46 (dk_at dksX4_staffLine_0 17 rfl rfl)
theorem dX4_staffLine_18 : decode cX4_staffLine 18 = .ok (.imul, 1) := dk_104 (dk_at dksX4_staffLine_0 18 rfl rfl)
theorem dX4_staffLine_19 : decode cX4_staffLine 19 = .ok (.iadd, 1) := dk_96 (dk_at dksX4_staffLine_0 19 rfl rfl)
theorem dX4_staffLine_20 : decode cX4_staffLine 20 = .ok (.istore_n 1, 1) := dk_60 (dk_at dksX4_staffLine_0 20 rfl rfl)
theorem dX4_staffLine_21 : decode cX4_staffLine 21 = .ok (.aload_n 0, 1) := dk_42 (dk_at dksX4_staffLine_0 21 rfl rfl)
theorem dX4_staffLine_22 : decode cX4_staffLine 22 = .ok (.iconst 5, 1) := dk_8 (dk_at dksX4_staffLine_0 22 rfl rfl)
theorem dX4_staffLine_23 : decode cX4_staffLine 23 = .ok (.aload_n 0, 1) := dk_42 (dk_at dksX4_staffLine_0 23 rfl rfl)
theorem dX4_staffLine_24 : decode cX4_staffLine 24 = .ok (.getfield 23, 3) := dk_180 0 23 (dk_at dksX4_staffLine_1 0 rfl rfl)
theorem dX4_staffLine_27 : decode cX4_staffLine 27 = .ok (.iconst 4, 1) := dk_7 (dk_at dksX4_staffLine_1 3 rfl rfl)
theorem dX4_staffLine_28 : decode cX4_staffLine 28 = .ok (.iaload, 1) := dk_46 (dk_at dksX4_staffLine_1 4 rfl rfl)
theorem dX4_staffLine_29 : decode cX4_staffLine 29 = .ok (.iadd, 1) := dk_96 (dk_at dksX4_staffLine_1 5 rfl rfl)
theorem dX4_staffLine_30 : decode cX4_staffLine 30 = .ok (.invokevirtual 224, 3) := dk_182 0 224 (dk_at dksX4_staffLine_1 6 rfl rfl)
theorem dX4_staffLine_33 : decode cX4_staffLine 33 = .ok (.aload_n 0, 1) := dk_42 (dk_at dksX4_staffLine_1 9 rfl rfl)
theorem dX4_staffLine_34 : decode cX4_staffLine 34 = .ok (.ldc 234, 2) := dk_18 234 (dk_at dksX4_staffLine_1 10 rfl rfl)
theorem dX4_staffLine_36 : decode cX4_staffLine 36 = .ok (.invokevirtual 115, 3) := dk_182 0 115 (dk_at dksX4_staffLine_1 12 rfl rfl)
theorem dX4_staffLine_39 : decode cX4_staffLine 39 = .ok (.ifCond .eq 7, 3) := dk_153 0 7 (dk_at dksX4_staffLine_1 15 rfl rfl)
theorem dX4_staffLine_42 : decode cX4_staffLine 42 = .ok (.iconst 0, 1) := dk_3 (dk_at dksX4_staffLine_1 18 rfl rfl)
theorem dX4_staffLine_43 : decode cX4_staffLine 43 = .ok (.goto 56, 3) := dk_167 0 56 (dk_at dksX4_staffLine_1 19 rfl rfl)
theorem dX4_staffLine_46 : decode cX4_staffLine 46 = .ok (.aload_n 0, 1) := dk_42 (dk_at dksX4_staffLine_1 22 rfl rfl)
theorem dX4_staffLine_47 : decode cX4_staffLine 47 = .ok (.ldc 236, 2) := dk_18 236 (dk_at dksX4_staffLine_2 0 rfl rfl)
theorem dX4_staffLine_49 : decode cX4_staffLine 49 = .ok (.invokevirtual 115, 3) := dk_182 0 115 (dk_at dksX4_staffLine_2 2 rfl rfl)
theorem dX4_staffLine_52 : decode cX4_staffLine 52 = .ok (.ifCond .eq 7, 3) := dk_153 0 7 (dk_at dksX4_staffLine_2 5 rfl rfl)
theorem dX4_staffLine_55 : decode cX4_staffLine 55 = .ok (.iconst 1, 1) := dk_4 (dk_at dksX4_staffLine_2 8 rfl rfl)
theorem dX4_staffLine_56 : decode cX4_staffLine 56 = .ok (.goto 43, 3) := dk_167 0 43 (dk_at dksX4_staffLine_2 9 rfl rfl)
theorem dX4_staffLine_59 : decode cX4_staffLine 59 = .ok (.aload_n 0, 1) := dk_42 (dk_at dksX4_staffLine_2 12 rfl rfl)
theorem dX4_staffLine_60 : decode cX4_staffLine 60 = .ok (.ldc 238, 2) := dk_18 238 (dk_at dksX4_staffLine_2 13 rfl rfl)
theorem dX4_staffLine_62 : decode cX4_staffLine 62 = .ok (.invokevirtual 115, 3) := dk_182 0 115 (dk_at dksX4_staffLine_2 15 rfl rfl)
theorem dX4_staffLine_65 : decode cX4_staffLine 65 = .ok (.ifCond .eq 7, 3) := dk_153 0 7 (dk_at dksX4_staffLine_2 18 rfl rfl)
theorem dX4_staffLine_68 : decode cX4_staffLine 68 = .ok (.iconst 2, 1) := dk_5 (dk_at dksX4_staffLine_2 21 rfl rfl)
theorem dX4_staffLine_69 : decode cX4_staffLine 69 = .ok (.goto 30, 3) := dk_167 0 30 (dk_at dksX4_staffLine_3 0 rfl rfl)
theorem dX4_staffLine_72 : decode cX4_staffLine 72 = .ok (.aload_n 0, 1) := dk_42 (dk_at dksX4_staffLine_3 3 rfl rfl)
theorem dX4_staffLine_73 : decode cX4_staffLine 73 = .ok (.ldc 240, 2) := dk_18 240 (dk_at dksX4_staffLine_3 4 rfl rfl)
theorem dX4_staffLine_75 : decode cX4_staffLine 75 = .ok (.invokevirtual 115, 3) := dk_182 0 115 (dk_at dksX4_staffLine_3 6 rfl rfl)
theorem dX4_staffLine_78 : decode cX4_staffLine 78 = .ok (.ifCond .eq 7, 3) := dk_153 0 7 (dk_at dksX4_staffLine_3 9 rfl rfl)
theorem dX4_staffLine_81 : decode cX4_staffLine 81 = .ok (.iconst 3, 1) := dk_6 (dk_at dksX4_staffLine_3 12 rfl rfl)
theorem dX4_staffLine_82 : decode cX4_staffLine 82 = .ok (.goto 17, 3) := dk_167 0 17 (dk_at dksX4_staffLine_3 13 rfl rfl)
theorem dX4_staffLine_85 : decode cX4_staffLine 85 = .ok (.aload_n 0, 1) := dk_42 (dk_at dksX4_staffLine_3 16 rfl rfl)
theorem dX4_staffLine_86 : decode cX4_staffLine 86 = .ok (.ldc 242, 2) := dk_18 242 (dk_at dksX4_staffLine_3 17 rfl rfl)
theorem dX4_staffLine_88 : decode cX4_staffLine 88 = .ok (.invokevirtual 115, 3) := dk_182 0 115 (dk_at dksX4_staffLine_3 19 rfl rfl)
theorem dX4_staffLine_91 : decode cX4_staffLine 91 = .ok (.ifCond .eq 7, 3) := dk_153 0 7 (dk_at dksX4_staffLine_4 0 rfl rfl)
theorem dX4_staffLine_94 : decode cX4_staffLine 94 = .ok (.iconst 4, 1) := dk_7 (dk_at dksX4_staffLine_4 3 rfl rfl)
theorem dX4_staffLine_95 : decode cX4_staffLine 95 = .ok (.goto 4, 3) := dk_167 0 4 (dk_at dksX4_staffLine_4 4 rfl rfl)
theorem dX4_staffLine_98 : decode cX4_staffLine 98 = .ok (.iconst (-1), 1) := dk_2 (dk_at dksX4_staffLine_4 7 rfl rfl)
theorem dX4_staffLine_99 : decode cX4_staffLine 99 = .ok (.istore_n 2, 1) := dk_61 (dk_at dksX4_staffLine_4 8 rfl rfl)
theorem dX4_staffLine_100 : decode cX4_staffLine 100 = .ok (.iload_n 2, 1) := dk_28 (dk_at dksX4_staffLine_4 9 rfl rfl)
theorem dX4_staffLine_101 : decode cX4_staffLine 101 = .ok (.ifCond .ge 12, 3) := dk_156 0 12 (dk_at dksX4_staffLine_4 10 rfl rfl)
theorem dX4_staffLine_104 : decode cX4_staffLine 104 = .ok (.aload_n 0, 1) := dk_42 (dk_at dksX4_staffLine_4 13 rfl rfl)
theorem dX4_staffLine_105 : decode cX4_staffLine 105 = .ok (.iconst 1, 1) := dk_4 (dk_at dksX4_staffLine_4 14 rfl rfl)
theorem dX4_staffLine_106 : decode cX4_staffLine 106 = .ok (.aload_n 0, 1) := dk_42 (dk_at dksX4_staffLine_4 15 rfl rfl)
theorem dX4_staffLine_107 : decode cX4_staffLine 107 = .ok (.getfield 79, 3) := dk_180 0 79 (dk_at dksX4_staffLine_4 16 rfl rfl)
theorem dX4_staffLine_110 : decode cX4_staffLine 110 = .ok (.invokevirtual 125, 3) := dk_182 0 125 (dk_at dksX4_staffLine_4 19 rfl rfl)
theorem dX4_staffLine_113 : decode cX4_staffLine 113 = .ok (.aload_n 0, 1) := dk_42 (dk_at dksX4_staffLine_4 22 rfl rfl)
theorem dX4_staffLine_114 : decode cX4_staffLine 114 = .ok (.getfield 98, 3) := dk_180 0 98 (dk_at dksX4_staffLine_5 0 rfl rfl)
theorem dX4_staffLine_117 : decode cX4_staffLine 117 = .ok (.ifCond .eq 4, 3) := dk_153 0 4 (dk_at dksX4_staffLine_5 3 rfl rfl)
theorem dX4_staffLine_120 : decode cX4_staffLine 120 = .ok (.return_, 1) := dk_177 (dk_at dksX4_staffLine_5 6 rfl rfl)
theorem dX4_staffLine_121 : decode cX4_staffLine 121 = .ok (.aload_n 0, 1) := dk_42 (dk_at dksX4_staffLine_5 7 rfl rfl)
theorem dX4_staffLine_122 : decode cX4_staffLine 122 = .ok (.invokevirtual 119, 3) := dk_182 0 119 (dk_at dksX4_staffLine_5 8 rfl rfl)
theorem dX4_staffLine_125 : decode cX4_staffLine 125 = .ok (.aload_n 0, 1) := dk_42 (dk_at dksX4_staffLine_5 11 rfl rfl)
theorem dX4_staffLine_126 : decode cX4_staffLine 126 = .ok (.getfield 23, 3) := dk_180 0 23 (dk_at dksX4_staffLine_5 12 rfl rfl)
theorem dX4_staffLine_129 : decode cX4_staffLine 129 = .ok (.iload_n 1, 1) := dk_27 (dk_at dksX4_staffLine_5 15 rfl rfl)
theorem dX4_staffLine_130 : decode cX4_staffLine 130 = .ok (.iconst 0, 1) := dk_3 (dk_at dksX4_staffLine_5 16 rfl rfl)
theorem dX4_staffLine_131 : decode cX4_staffLine 131 = .ok (.iadd, 1) := dk_96 (dk_at dksX4_staffLine_5 17 rfl rfl)
theorem dX4_staffLine_132 : decode cX4_staffLine 132 = .ok (.iload_n 2, 1) := dk_28 (dk_at dksX4_staffLine_5 18 rfl rfl)
theorem dX4_staffLine_133 : decode cX4_staffLine 133 = .ok (.iastore, 1) := dk_79 (dk_at dksX4_staffLine_5 19 rfl rfl)
theorem dX4_staffLine_134 : decode cX4_staffLine 134 = .ok (.aload_n 0, 1) := dk_42 (dk_at dksX4_staffLine_5 20 rfl rfl)
theorem dX4_staffLine_135 : decode cX4_staffLine 135 = .ok (.getfield 23, 3) := dk_180 0 23 (dk_at dksX4_staffLine_5 21 rfl rfl)
theorem dX4_staffLine_138 : decode cX4_staffLine 138 = .ok (.iload_n 1, 1) := dk_27 (dk_at dksX4_staffLine_6 0 rfl rfl)
theorem dX4_staffLine_139 : decode cX4_staffLine 139 = .ok (.iconst 1, 1) := dk_4 (dk_at dksX4_staffLine_6 1 rfl rfl)
theorem dX4_staffLine_140 : decode cX4_staffLine 140 = .ok (.iadd, 1) := dk_96 (dk_at dksX4_staffLine_6 2 rfl rfl)
theorem dX4_staffLine_141 : decode cX4_staffLine 141 = .ok (.aload_n 0, 1) := dk_42 (dk_at dksX4_staffLine_6 3 rfl rfl)
theorem dX4_staffLine_142 : decode cX4_staffLine 142 = .ok (.ldc 244, 2) := dk_18 244 (dk_at dksX4_staffLine_6 4 rfl rfl)
theorem dX4_staffLine_144 : decode cX4_staffLine 144 = .ok (.iconst 0, 1) := dk_3 (dk_at dksX4_staffLine_6 6 rfl rfl)
theorem dX4_staffLine_145 : decode cX4_staffLine 145 = .ok (.aload_n 0, 1) := dk_42 (dk_at dksX4_staffLine_6 7 rfl rfl)
theorem dX4_staffLine_146 : decode cX4_staffLine 146 = .ok (.getfield 23, 3) := dk_180 0 23 (dk_at dksX4_staffLine_6 8 rfl rfl)
theorem dX4_staffLine_149 : decode cX4_staffLine 149 = .ok (.iconst 1, 1) := dk_4 (dk_at dksX4_staffLine_6 11 rfl rfl)
theorem dX4_staffLine_150 : decode cX4_staffLine 150 = .ok (.iaload, 1) := dk_46 (dk_at dksX4_staffLine_6 12 rfl rfl)
theorem dX4_staffLine_151 : decode cX4_staffLine 151 = .ok (.iconst 1, 1) := dk_4 (dk_at dksX4_staffLine_6 13 rfl rfl)
theorem dX4_staffLine_152 : decode cX4_staffLine 152 = .ok (.isub, 1) := dk_100 (dk_at dksX4_staffLine_6 14 rfl rfl)
theorem dX4_staffLine_153 : decode cX4_staffLine 153 = .ok (.invokevirtual 218, 3) := dk_182 0 218 (dk_at dksX4_staffLine_6 15 rfl rfl)
theorem dX4_staffLine_156 : decode cX4_staffLine 156 = .ok (.iastore, 1) := dk_79 (dk_at dksX4_staffLine_6 18 rfl rfl)
theorem dX4_staffLine_157 : decode cX4_staffLine 157 = .ok (.aload_n 0, 1) := dk_42 (dk_at dksX4_staffLine_6 19 rfl rfl)
theorem dX4_staffLine_158 : decode cX4_staffLine 158 = .ok (.getfield 23, 3) := dk_180 0 23 (dk_at dksX4_staffLine_6 20 rfl rfl)
theorem dX4_staffLine_161 : decode cX4_staffLine 161 = .ok (.iload_n 1, 1) := dk_27 (dk_at dksX4_staffLine_6 23 rfl rfl)
theorem dX4_staffLine_162 : decode cX4_staffLine 162 = .ok (.iconst 2, 1) := dk_5 (dk_at dksX4_staffLine_7 0 rfl rfl)
theorem dX4_staffLine_163 : decode cX4_staffLine 163 = .ok (.iadd, 1) := dk_96 (dk_at dksX4_staffLine_7 1 rfl rfl)
theorem dX4_staffLine_164 : decode cX4_staffLine 164 = .ok (.aload_n 0, 1) := dk_42 (dk_at dksX4_staffLine_7 2 rfl rfl)
theorem dX4_staffLine_165 : decode cX4_staffLine 165 = .ok (.ldc 245, 2) := dk_18 245 (dk_at dksX4_staffLine_7 3 rfl rfl)
theorem dX4_staffLine_167 : decode cX4_staffLine 167 = .ok (.iconst 0, 1) := dk_3 (dk_at dksX4_staffLine_7 5 rfl rfl)
theorem dX4_staffLine_168 : decode cX4_staffLine 168 = .ok (.aload_n 0, 1) := dk_42 (dk_at dksX4_staffLine_7 6 rfl rfl)
theorem dX4_staffLine_169 : decode cX4_staffLine 169 = .ok (.getfield 23, 3) := dk_180 0 23 (dk_at dksX4_staffLine_7 7 rfl rfl)
theorem dX4_staffLine_172 : decode cX4_staffLine 172 = .ok (.iconst 1, 1) := dk_4 (dk_at dksX4_staffLine_7 10 rfl rfl)
theorem dX4_staffLine_173 : decode cX4_staffLine 173 = .ok (.iaload, 1) := dk_46 (dk_at dksX4_staffLine_7 11 rfl rfl)
theorem dX4_staffLine_174 : decode cX4_staffLine 174 = .ok (.iconst 1, 1) := dk_4 (dk_at dksX4_staffLine_7 12 rfl rfl)
theorem dX4_staffLine_175 : decode cX4_staffLine 175 = .ok (.isub, 1) := dk_100 (dk_at dksX4_staffLine_7 13 rfl rfl)
theorem dX4_staffLine_176 : decode cX4_staffLine 176 = .ok (.invokevirtual 218, 3) := dk_182 0 218 (dk_at dksX4_staffLine_7 14 rfl rfl)
theorem dX4_staffLine_179 : decode cX4_staffLine 179 = .ok (.iastore, 1) := dk_79 (dk_at dksX4_staffLine_7 17 rfl rfl)
theorem dX4_staffLine_180 : decode cX4_staffLine 180 = .ok (.aload_n 0, 1) := dk_42 (dk_at dksX4_staffLine_7 18 rfl rfl)
theorem dX4_staffLine_181 : decode cX4_staffLine 181 = .ok (.getfield 23, 3) := dk_180 0 23 (dk_at dksX4_staffLine_7 19 rfl rfl)
theorem dX4_staffLine_184 : decode cX4_staffLine 184 = .ok (.iload_n 1, 1) := dk_27 (dk_at dksX4_staffLine_7 22 rfl rfl)
theorem dX4_staffLine_185 : decode cX4_staffLine 185 = .ok (.iconst 3, 1) := dk_6 (dk_at dksX4_staffLine_7 23 rfl rfl)
theorem dX4_staffLine_186 : decode cX4_staffLine 186 = .ok (.iadd, 1) := dk_96 (dk_at dksX4_staffLine_8 0 rfl rfl)
theorem dX4_staffLine_187 : decode cX4_staffLine 187 = .ok (.aload_n 0, 1) := dk_42 (dk_at dksX4_staffLine_8 1 rfl rfl)
theorem dX4_staffLine_188 : decode cX4_staffLine 188 = .ok (.ldc 247, 2) := dk_18 247 (dk_at dksX4_staffLine_8 2 rfl rfl)
theorem dX4_staffLine_190 : decode cX4_staffLine 190 = .ok (.aload_n 0, 1) := dk_42 (dk_at dksX4_staffLine_8 4 rfl rfl)
theorem dX4_staffLine_191 : decode cX4_staffLine 191 = .ok (.getfield 23, 3) := dk_180 0 23 (dk_at dksX4_staffLine_8 5 rfl rfl)
theorem dX4_staffLine_194 : decode cX4_staffLine 194 = .ok (.iload_n 1, 1) := dk_27 (dk_at dksX4_staffLine_8 8 rfl rfl)
theorem dX4_staffLine_195 : decode cX4_staffLine 195 = .ok (.iconst 2, 1) := dk_5 (dk_at dksX4_staffLine_8 9 rfl rfl)
theorem dX4_staffLine_196 : decode cX4_staffLine 196 = .ok (.iadd, 1) := dk_96 (dk_at dksX4_staffLine_8 10 rfl rfl)
theorem dX4_staffLine_197 : decode cX4_staffLine 197 = .ok (.iaload, 1) := dk_46 (dk_at dksX4_staffLine_8 11 rfl rfl)
theorem dX4_staffLine_198 : decode cX4_staffLine 198 = .ok (.aload_n 0, 1) := dk_42 (dk_at dksX4_staffLine_8 12 rfl rfl)
theorem dX4_staffLine_199 : decode cX4_staffLine 199 = .ok (.getfield 23, 3) := dk_180 0 23 (dk_at dksX4_staffLine_8 13 rfl rfl)
theorem dX4_staffLine_202 : decode cX4_staffLine 202 = .ok (.iconst 1, 1) := dk_4 (dk_at dksX4_staffLine_8 16 rfl rfl)
theorem dX4_staffLine_203 : decode cX4_staffLine 203 = .ok (.iaload, 1) := dk_46 (dk_at dksX4_staffLine_8 17 rfl rfl)
theorem dX4_staffLine_204 : decode cX4_staffLine 204 = .ok (.iconst 1, 1) := dk_4 (dk_at dksX4_staffLine_8 18 rfl rfl)
theorem dX4_staffLine_205 : decode cX4_staffLine 205 = .ok (.isub, 1) := dk_100 (dk_at dksX4_staffLine_8 19 rfl rfl)
theorem dX4_staffLine_206 : decode cX4_staffLine 206 = .ok (.invokevirtual 218, 3) := dk_182 0 218 (dk_at dksX4_staffLine_8 20 rfl rfl)
theorem dX4_staffLine_209 : decode cX4_staffLine 209 = .ok (.iastore, 1) := dk_79 (dk_at dksX4_staffLine_8 23 rfl rfl)
theorem dX4_staffLine_210 : decode cX4_staffLine 210 = .ok (.aload_n 0, 1) := dk_42 (dk_at dksX4_staffLine_9 0 rfl rfl)
theorem dX4_staffLine_211 : decode cX4_staffLine 211 = .ok (.getfield 23, 3) := dk_180 0 23 (dk_at dksX4_staffLine_9 1 rfl rfl)
theorem dX4_staffLine_214 : decode cX4_staffLine 214 = .ok (.iload_n 1, 1) := dk_27 (dk_at dksX4_staffLine_9 4 rfl rfl)
theorem dX4_staffLine_215 : decode cX4_staffLine 215 = .ok (.iconst 4, 1) := dk_7 (dk_at dksX4_staffLine_9 5 rfl rfl)
theorem dX4_staffLine_216 : decode cX4_staffLine 216 = .ok (.iadd, 1) := dk_96 (dk_at dksX4_staffLine_9 6 rfl rfl)
theorem dX4_staffLine_217 : decode cX4_staffLine 217 = .ok (.aload_n 0, 1) := dk_42 (dk_at dksX4_staffLine_9 7 rfl rfl)
theorem dX4_staffLine_218 : decode cX4_staffLine 218 = .ok (.ldc 249, 2) := dk_18 249 (dk_at dksX4_staffLine_9 8 rfl rfl)
theorem dX4_staffLine_220 : decode cX4_staffLine 220 = .ok (.iconst 0, 1) := dk_3 (dk_at dksX4_staffLine_9 10 rfl rfl)
theorem dX4_staffLine_221 : decode cX4_staffLine 221 = .ok (.bipush 9, 2) := dk_16 9 (dk_at dksX4_staffLine_9 11 rfl rfl)
theorem dX4_staffLine_223 : decode cX4_staffLine 223 = .ok (.invokevirtual 218, 3) := dk_182 0 218 (dk_at dksX4_staffLine_9 13 rfl rfl)
theorem dX4_staffLine_226 : decode cX4_staffLine 226 = .ok (.iastore, 1) := dk_79 (dk_at dksX4_staffLine_9 16 rfl rfl)
theorem dX4_staffLine_227 : decode cX4_staffLine 227 = .ok (.aload_n 0, 1) := dk_42 (dk_at dksX4_staffLine_9 17 rfl rfl)
theorem dX4_staffLine_228 : decode cX4_staffLine 228 = .ok (.getfield 23, 3) := dk_180 0 23 (dk_at dksX4_staffLine_9 18 rfl rfl)
theorem dX4_staffLine_231 : decode cX4_staffLine 231 = .ok (.iload_n 1, 1) := dk_27 (dk_at dksX4_staffLine_9 21 rfl rfl)
theorem dX4_staffLine_232 : decode cX4_staffLine 232 = .ok (.iconst 5, 1) := dk_8 (dk_at dksX4_staffLine_9 22 rfl rfl)
theorem dX4_staffLine_233 : decode cX4_staffLine 233 = .ok (.iadd, 1) := dk_96 (dk_at dksX4_staffLine_9 23 rfl rfl)
theorem dX4_staffLine_234 : decode cX4_staffLine 234 = .ok (.aload_n 0, 1) := dk_42 (dk_at dksX4_staffLine_10 0 rfl rfl)
theorem dX4_staffLine_235 : decode cX4_staffLine 235 = .ok (.ldc 251, 2) := dk_18 251 (dk_at dksX4_staffLine_10 1 rfl rfl)
theorem dX4_staffLine_237 : decode cX4_staffLine 237 = .ok (.iconst 1, 1) := dk_4 (dk_at dksX4_staffLine_10 3 rfl rfl)
theorem dX4_staffLine_238 : decode cX4_staffLine 238 = .ok (.iconst 2, 1) := dk_5 (dk_at dksX4_staffLine_10 4 rfl rfl)
theorem dX4_staffLine_239 : decode cX4_staffLine 239 = .ok (.invokevirtual 218, 3) := dk_182 0 218 (dk_at dksX4_staffLine_10 5 rfl rfl)
theorem dX4_staffLine_242 : decode cX4_staffLine 242 = .ok (.iastore, 1) := dk_79 (dk_at dksX4_staffLine_10 8 rfl rfl)
theorem dX4_staffLine_243 : decode cX4_staffLine 243 = .ok (.aload_n 0, 1) := dk_42 (dk_at dksX4_staffLine_10 9 rfl rfl)
theorem dX4_staffLine_244 : decode cX4_staffLine 244 = .ok (.getfield 98, 3) := dk_180 0 98 (dk_at dksX4_staffLine_10 10 rfl rfl)
theorem dX4_staffLine_247 : decode cX4_staffLine 247 = .ok (.ifCond .ne 13, 3) := dk_154 0 13 (dk_at dksX4_staffLine_10 13 rfl rfl)
theorem dX4_staffLine_250 : decode cX4_staffLine 250 = .ok (.aload_n 0, 1) := dk_42 (dk_at dksX4_staffLine_10 16 rfl rfl)
theorem dX4_staffLine_251 : decode cX4_staffLine 251 = .ok (.getfield 23, 3) := dk_180 0 23 (dk_at dksX4_staffLine_10 17 rfl rfl)
theorem dX4_staffLine_254 : decode cX4_staffLine 254 = .ok (.iconst 4, 1) := dk_7 (dk_at dksX4_staffLine_10 20 rfl rfl)
theorem dX4_staffLine_255 : decode cX4_staffLine 255 = .ok (.dup2, 1) := dk_92 (dk_at dksX4_staffLine_10 21 rfl rfl)
theorem dX4_staffLine_256 : decode cX4_staffLine 256 = .ok (.iaload, 1) := dk_46 (dk_at dksX4_staffLine_10 22 rfl rfl)
theorem dX4_staffLine_257 : decode cX4_staffLine 257 = .ok (.iconst 1, 1) := dk_4 (dk_at dksX4_staffLine_10 23 rfl rfl)
theorem dX4_staffLine_258 : decode cX4_staffLine 258 = .ok (.iadd, 1) := dk_96 (dk_at dksX4_staffLine_11 0 rfl rfl)
theorem dX4_staffLine_259 : decode cX4_staffLine 259 = .ok (.iastore, 1) := dk_79 (dk_at dksX4_staffLine_11 1 rfl rfl)
theorem dX4_staffLine_260 : decode cX4_staffLine 260 = .ok (.return_, 1) := dk_177 (dk_at dksX4_staffLine_11 2 rfl rfl)
abbrev cX4_personLine : ByteArray := prog_24_method_35_code
def yX4_personLine : MethodName := ⟨RX4, "personLine", "()V"⟩
def dkwX4_personLine_18 : List UInt8 := [96, 79, 177]
abbrev dktX4_personLine_18 : List UInt8 := dkwX4_personLine_18 ++ []
def dkwX4_personLine_17 : List UInt8 := [42, 182, 1, 11, 54, 5, 167, 255, 146, 42, 180, 0, 98, 154, 0, 13, 42, 180, 0, 23, 8, 92, 46, 4]
abbrev dktX4_personLine_17 : List UInt8 := dkwX4_personLine_17 ++ dktX4_personLine_18
def dkwX4_personLine_16 : List UInt8 := [42, 180, 0, 23, 16, 111, 8, 27, 104, 96, 21, 6, 96, 42, 4, 16, 9, 182, 0, 162, 79, 132, 4, 1]
abbrev dktX4_personLine_16 : List UInt8 := dkwX4_personLine_16 ++ dktX4_personLine_17
def dkwX4_personLine_15 : List UInt8 := [160, 0, 12, 42, 8, 42, 180, 0, 79, 182, 0, 125, 42, 180, 0, 98, 153, 0, 4, 177, 42, 182, 0, 119]
abbrev dktX4_personLine_15 : List UInt8 := dkwX4_personLine_15 ++ dktX4_personLine_16
def dkwX4_personLine_14 : List UInt8 := [158, 0, 12, 42, 6, 42, 180, 0, 79, 182, 0, 125, 42, 180, 0, 98, 154, 0, 18, 21, 4, 6]
abbrev dktX4_personLine_14 : List UInt8 := dkwX4_personLine_14 ++ dktX4_personLine_15
def dkwX4_personLine_13 : List UInt8 := [54, 6, 42, 180, 0, 98, 154, 0, 29, 42, 180, 0, 23, 16, 111, 8, 27, 104, 96, 21, 6, 96, 46]
abbrev dktX4_personLine_13 : List UInt8 := dkwX4_personLine_13 ++ dktX4_personLine_14
def dkwX4_personLine_12 : List UInt8 := [180, 0, 98, 154, 0, 7, 4, 167, 0, 4, 3, 54, 5, 21, 5, 153, 0, 111, 42, 3, 7, 182, 0, 151]
abbrev dktX4_personLine_12 : List UInt8 := dkwX4_personLine_12 ++ dktX4_personLine_13
def dkwX4_personLine_11 : List UInt8 := [21, 4, 96, 3, 79, 132, 4, 1, 167, 255, 232, 42, 19, 1, 9, 182, 0, 158, 3, 54, 4, 42]
abbrev dktX4_personLine_11 : List UInt8 := dkwX4_personLine_11 ++ dktX4_personLine_12
def dkwX4_personLine_10 : List UInt8 := [16, 6, 96, 3, 79, 3, 54, 4, 21, 4, 8, 162, 0, 24, 42, 180, 0, 23, 16, 111, 8, 27, 104, 96]
abbrev dktX4_personLine_10 : List UInt8 := dkwX4_personLine_10 ++ dktX4_personLine_11
def dkwX4_personLine_9 : List UInt8 := [42, 180, 0, 23, 28, 8, 96, 42, 19, 1, 7, 3, 16, 99, 182, 0, 218, 79, 42, 180, 0, 23, 28]
abbrev dktX4_personLine_9 : List UInt8 := dkwX4_personLine_9 ++ dktX4_personLine_10
def dkwX4_personLine_8 : List UInt8 := [100, 182, 0, 218, 79, 42, 180, 0, 23, 28, 7, 96, 42, 19, 1, 5, 3, 17, 2, 88, 182, 0, 218, 79]
abbrev dktX4_personLine_8 : List UInt8 := dkwX4_personLine_8 ++ dktX4_personLine_9
def dkwX4_personLine_7 : List UInt8 := [5, 46, 182, 0, 218, 79, 42, 180, 0, 23, 28, 6, 96, 42, 18, 244, 3, 42, 180, 0, 23, 4, 46, 4]
abbrev dktX4_personLine_7 : List UInt8 := dkwX4_personLine_7 ++ dktX4_personLine_8
def dkwX4_personLine_6 : List UInt8 := [182, 0, 162, 167, 0, 4, 3, 79, 42, 180, 0, 23, 28, 5, 96, 42, 19, 1, 3, 3, 42, 180, 0, 23]
abbrev dktX4_personLine_6 : List UInt8 := dkwX4_personLine_6 ++ dktX4_personLine_7
def dkwX4_personLine_5 : List UInt8 := [96, 29, 79, 42, 180, 0, 23, 28, 4, 96, 29, 4, 159, 0, 8, 29, 5, 160, 0, 13, 42, 4, 16, 99]
abbrev dktX4_personLine_5 : List UInt8 := dkwX4_personLine_5 ++ dktX4_personLine_6
def dkwX4_personLine_4 : List UInt8 := [180, 0, 79, 182, 0, 125, 42, 180, 0, 98, 153, 0, 4, 177, 42, 182, 0, 119, 42, 180, 0, 23, 28, 3]
abbrev dktX4_personLine_4 : List UInt8 := dkwX4_personLine_4 ++ dktX4_personLine_5
def dkwX4_personLine_3 : List UInt8 := [42, 18, 242, 182, 0, 115, 153, 0, 7, 6, 167, 0, 4, 2, 62, 29, 156, 0, 12, 42, 4, 42]
abbrev dktX4_personLine_3 : List UInt8 := dkwX4_personLine_3 ++ dktX4_personLine_4
def dkwX4_personLine_2 : List UInt8 := [182, 0, 115, 153, 0, 7, 4, 167, 0, 31, 42, 19, 1, 1, 182, 0, 115, 153, 0, 7, 5, 167, 0, 17]
abbrev dktX4_personLine_2 : List UInt8 := dkwX4_personLine_2 ++ dktX4_personLine_3
def dkwX4_personLine_1 : List UInt8 := [16, 8, 27, 96, 182, 0, 224, 42, 18, 253, 182, 0, 115, 153, 0, 7, 3, 167, 0, 44, 42, 18, 255]
abbrev dktX4_personLine_1 : List UInt8 := dkwX4_personLine_1 ++ dktX4_personLine_2
def dkwX4_personLine_0 : List UInt8 := [42, 180, 0, 98, 153, 0, 4, 177, 42, 180, 0, 23, 8, 46, 60, 16, 41, 16, 7, 27, 104, 96, 61, 42]
abbrev dktX4_personLine_0 : List UInt8 := dkwX4_personLine_0 ++ dktX4_personLine_1
theorem dksX4_personLine_0 : cX4_personLine.data.toList.drop 0 = dktX4_personLine_0 := by decide +kernel
theorem dksX4_personLine_1 : cX4_personLine.data.toList.drop 24 = dktX4_personLine_1 := dk_seg dksX4_personLine_0 24 rfl rfl
theorem dksX4_personLine_2 : cX4_personLine.data.toList.drop 47 = dktX4_personLine_2 := dk_seg dksX4_personLine_1 23 rfl rfl
theorem dksX4_personLine_3 : cX4_personLine.data.toList.drop 71 = dktX4_personLine_3 := dk_seg dksX4_personLine_2 24 rfl rfl
theorem dksX4_personLine_4 : cX4_personLine.data.toList.drop 93 = dktX4_personLine_4 := dk_seg dksX4_personLine_3 22 rfl rfl
theorem dksX4_personLine_5 : cX4_personLine.data.toList.drop 117 = dktX4_personLine_5 := dk_seg dksX4_personLine_4 24 rfl rfl
theorem dksX4_personLine_6 : cX4_personLine.data.toList.drop 141 = dktX4_personLine_6 := dk_seg dksX4_personLine_5 24 rfl rfl
theorem dksX4_personLine_7 : cX4_personLine.data.toList.drop 165 = dktX4_personLine_7 := dk_seg dksX4_personLine_6 24 rfl rfl
theorem dksX4_personLine_8 : cX4_personLine.data.toList.drop 189 = dktX4_personLine_8 := dk_seg dksX4_personLine_7 24 rfl rfl
theorem dksX4_personLine_9 : cX4_personLine.data.toList.drop 213 = dktX4_personLine_9 := dk_seg dksX4_personLine_8 24 rfl rfl
theorem dksX4_personLine_10 : cX4_personLine.data.toList.drop 236 = dktX4_personLine_10 := dk_seg dksX4_personLine_9 23 rfl rfl
theorem dksX4_personLine_11 : cX4_personLine.data.toList.drop 260 = dktX4_personLine_11 := dk_seg dksX4_personLine_10 24 rfl rfl
theorem dksX4_personLine_12 : cX4_personLine.data.toList.drop 282 = dktX4_personLine_12 := dk_seg dksX4_personLine_11 22 rfl rfl
theorem dksX4_personLine_13 : cX4_personLine.data.toList.drop 306 = dktX4_personLine_13 := dk_seg dksX4_personLine_12 24 rfl rfl
theorem dksX4_personLine_14 : cX4_personLine.data.toList.drop 329 = dktX4_personLine_14 := dk_seg dksX4_personLine_13 23 rfl rfl
theorem dksX4_personLine_15 : cX4_personLine.data.toList.drop 351 = dktX4_personLine_15 := dk_seg dksX4_personLine_14 22 rfl rfl
theorem dksX4_personLine_16 : cX4_personLine.data.toList.drop 375 = dktX4_personLine_16 := dk_seg dksX4_personLine_15 24 rfl rfl
theorem dksX4_personLine_17 : cX4_personLine.data.toList.drop 399 = dktX4_personLine_17 := dk_seg dksX4_personLine_16 24 rfl rfl
theorem dksX4_personLine_18 : cX4_personLine.data.toList.drop 423 = dktX4_personLine_18 := dk_seg dksX4_personLine_17 24 rfl rfl
theorem dX4_personLine_0 : decode cX4_personLine 0 = .ok (.aload_n 0, 1) := dk_42 (dk_at dksX4_personLine_0 0 rfl rfl)
theorem dX4_personLine_1 : decode cX4_personLine 1 = .ok (.getfield 98, 3) := dk_180 0 98 (dk_at dksX4_personLine_0 1 rfl rfl)
theorem dX4_personLine_4 : decode cX4_personLine 4 = .ok (.ifCond .eq 4, 3) := dk_153 0 4 (dk_at dksX4_personLine_0 4 rfl rfl)
theorem dX4_personLine_7 : decode cX4_personLine 7 = .ok (.return_, 1) := dk_177 (dk_at dksX4_personLine_0 7 rfl rfl)
theorem dX4_personLine_8 : decode cX4_personLine 8 = .ok (.aload_n 0, 1) := dk_42 (dk_at dksX4_personLine_0 8 rfl rfl)
theorem dX4_personLine_9 : decode cX4_personLine 9 = .ok (.getfield 23, 3) := dk_180 0 23 (dk_at dksX4_personLine_0 9 rfl rfl)
theorem dX4_personLine_12 : decode cX4_personLine 12 = .ok (.iconst 5, 1) := dk_8 (dk_at dksX4_personLine_0 12 rfl rfl)
theorem dX4_personLine_13 : decode cX4_personLine 13 = .ok (.iaload, 1) := dk_46 (dk_at dksX4_personLine_0 13 rfl rfl)
theorem dX4_personLine_14 : decode cX4_personLine 14 = .ok (.istore_n 1, 1) := dk_60 (dk_at dksX4_personLine_0 14 rfl rfl)
theorem dX4_personLine_15 : decode cX4_personLine 15 = .ok (.bipush 41, 2) := dk_16 41 (dk_at dksX4_personLine_0 15 rfl rfl)
theorem dX4_personLine_17 : decode cX4_personLine 17 = .ok (.bipush 7, 2) := dk_16 7 (dk_at dksX4_personLine_0 17 rfl rfl)
theorem dX4_personLine_19 : decode cX4_personLine 19 = .ok (.iload_n 1, 1) := dk_27 (dk_at dksX4_personLine_0 19 rfl rfl)
theorem dX4_personLine_20 : decode cX4_personLine 20 = .ok (.imul, 1) := dk_104 (dk_at dksX4_personLine_0 20 rfl rfl)
theorem dX4_personLine_21 : decode cX4_personLine 21 = .ok (.iadd, 1) := dk_96 (dk_at dksX4_personLine_0 21 rfl rfl)
theorem dX4_personLine_22 : decode cX4_personLine 22 = .ok (.istore_n 2, 1) := dk_61 (dk_at dksX4_personLine_0 22 rfl rfl)
theorem dX4_personLine_23 : decode cX4_personLine 23 = .ok (.aload_n 0, 1) := dk_42 (dk_at dksX4_personLine_0 23 rfl rfl)
theorem dX4_personLine_24 : decode cX4_personLine 24 = .ok (.bipush 8, 2) := dk_16 8 (dk_at dksX4_personLine_1 0 rfl rfl)
theorem dX4_personLine_26 : decode cX4_personLine 26 = .ok (.iload_n 1, 1) := dk_27 (dk_at dksX4_personLine_1 2 rfl rfl)
theorem dX4_personLine_27 : decode cX4_personLine 27 = .ok (.iadd, 1) := dk_96 (dk_at dksX4_personLine_1 3 rfl rfl)
theorem dX4_personLine_28 : decode cX4_personLine 28 = .ok (.invokevirtual 224, 3) := dk_182 0 224 (dk_at dksX4_personLine_1 4 rfl rfl)
theorem dX4_personLine_31 : decode cX4_personLine 31 = .ok (.aload_n 0, 1) := dk_42 (dk_at dksX4_personLine_1 7 rfl rfl)
theorem dX4_personLine_32 : decode cX4_personLine 32 = .ok (.ldc 253, 2) := dk_18 253 (dk_at dksX4_personLine_1 8 rfl rfl)
theorem dX4_personLine_34 : decode cX4_personLine 34 = .ok (.invokevirtual 115, 3) := dk_182 0 115 (dk_at dksX4_personLine_1 10 rfl rfl)
theorem dX4_personLine_37 : decode cX4_personLine 37 = .ok (.ifCond .eq 7, 3) := dk_153 0 7 (dk_at dksX4_personLine_1 13 rfl rfl)
theorem dX4_personLine_40 : decode cX4_personLine 40 = .ok (.iconst 0, 1) := dk_3 (dk_at dksX4_personLine_1 16 rfl rfl)
theorem dX4_personLine_41 : decode cX4_personLine 41 = .ok (.goto 44, 3) := dk_167 0 44 (dk_at dksX4_personLine_1 17 rfl rfl)
theorem dX4_personLine_44 : decode cX4_personLine 44 = .ok (.aload_n 0, 1) := dk_42 (dk_at dksX4_personLine_1 20 rfl rfl)
theorem dX4_personLine_45 : decode cX4_personLine 45 = .ok (.ldc 255, 2) := dk_18 255 (dk_at dksX4_personLine_1 21 rfl rfl)
theorem dX4_personLine_47 : decode cX4_personLine 47 = .ok (.invokevirtual 115, 3) := dk_182 0 115 (dk_at dksX4_personLine_2 0 rfl rfl)
theorem dX4_personLine_50 : decode cX4_personLine 50 = .ok (.ifCond .eq 7, 3) := dk_153 0 7 (dk_at dksX4_personLine_2 3 rfl rfl)
theorem dX4_personLine_53 : decode cX4_personLine 53 = .ok (.iconst 1, 1) := dk_4 (dk_at dksX4_personLine_2 6 rfl rfl)
theorem dX4_personLine_54 : decode cX4_personLine 54 = .ok (.goto 31, 3) := dk_167 0 31 (dk_at dksX4_personLine_2 7 rfl rfl)
theorem dX4_personLine_57 : decode cX4_personLine 57 = .ok (.aload_n 0, 1) := dk_42 (dk_at dksX4_personLine_2 10 rfl rfl)
theorem dX4_personLine_58 : decode cX4_personLine 58 = .ok (.ldc_w 257, 3) := dk_19 1 1 (dk_at dksX4_personLine_2 11 rfl rfl)
theorem dX4_personLine_61 : decode cX4_personLine 61 = .ok (.invokevirtual 115, 3) := dk_182 0 115 (dk_at dksX4_personLine_2 14 rfl rfl)
theorem dX4_personLine_64 : decode cX4_personLine 64 = .ok (.ifCond .eq 7, 3) := dk_153 0 7 (dk_at dksX4_personLine_2 17 rfl rfl)
theorem dX4_personLine_67 : decode cX4_personLine 67 = .ok (.iconst 2, 1) := dk_5 (dk_at dksX4_personLine_2 20 rfl rfl)
theorem dX4_personLine_68 : decode cX4_personLine 68 = .ok (.goto 17, 3) := dk_167 0 17 (dk_at dksX4_personLine_2 21 rfl rfl)
theorem dX4_personLine_71 : decode cX4_personLine 71 = .ok (.aload_n 0, 1) := dk_42 (dk_at dksX4_personLine_3 0 rfl rfl)
theorem dX4_personLine_72 : decode cX4_personLine 72 = .ok (.ldc 242, 2) := dk_18 242 (dk_at dksX4_personLine_3 1 rfl rfl)
theorem dX4_personLine_74 : decode cX4_personLine 74 = .ok (.invokevirtual 115, 3) := dk_182 0 115 (dk_at dksX4_personLine_3 3 rfl rfl)
theorem dX4_personLine_77 : decode cX4_personLine 77 = .ok (.ifCond .eq 7, 3) := dk_153 0 7 (dk_at dksX4_personLine_3 6 rfl rfl)
theorem dX4_personLine_80 : decode cX4_personLine 80 = .ok (.iconst 3, 1) := dk_6 (dk_at dksX4_personLine_3 9 rfl rfl)
theorem dX4_personLine_81 : decode cX4_personLine 81 = .ok (.goto 4, 3) := dk_167 0 4 (dk_at dksX4_personLine_3 10 rfl rfl)
theorem dX4_personLine_84 : decode cX4_personLine 84 = .ok (.iconst (-1), 1) := dk_2 (dk_at dksX4_personLine_3 13 rfl rfl)
theorem dX4_personLine_85 : decode cX4_personLine 85 = .ok (.istore_n 3, 1) := dk_62 (dk_at dksX4_personLine_3 14 rfl rfl)
theorem dX4_personLine_86 : decode cX4_personLine 86 = .ok (.iload_n 3, 1) := dk_29 (dk_at dksX4_personLine_3 15 rfl rfl)
theorem dX4_personLine_87 : decode cX4_personLine 87 = .ok (.ifCond .ge 12, 3) := dk_156 0 12 (dk_at dksX4_personLine_3 16 rfl rfl)
theorem dX4_personLine_90 : decode cX4_personLine 90 = .ok (.aload_n 0, 1) := dk_42 (dk_at dksX4_personLine_3 19 rfl rfl)
theorem dX4_personLine_91 : decode cX4_personLine 91 = .ok (.iconst 1, 1) := dk_4 (dk_at dksX4_personLine_3 20 rfl rfl)
theorem dX4_personLine_92 : decode cX4_personLine 92 = .ok (.aload_n 0, 1) := dk_42 (dk_at dksX4_personLine_3 21 rfl rfl)
theorem dX4_personLine_93 : decode cX4_personLine 93 = .ok (.getfield 79, 3) := dk_180 0 79 (dk_at dksX4_personLine_4 0 rfl rfl)
theorem dX4_personLine_96 : decode cX4_personLine 96 = .ok (.invokevirtual 125, 3) := dk_182 0 125 (dk_at dksX4_personLine_4 3 rfl rfl)
theorem dX4_personLine_99 : decode cX4_personLine 99 = .ok (.aload_n 0, 1) := dk_42 (dk_at dksX4_personLine_4 6 rfl rfl)
theorem dX4_personLine_100 : decode cX4_personLine 100 = .ok (.getfield 98, 3) := dk_180 0 98 (dk_at dksX4_personLine_4 7 rfl rfl)
theorem dX4_personLine_103 : decode cX4_personLine 103 = .ok (.ifCond .eq 4, 3) := dk_153 0 4 (dk_at dksX4_personLine_4 10 rfl rfl)
theorem dX4_personLine_106 : decode cX4_personLine 106 = .ok (.return_, 1) := dk_177 (dk_at dksX4_personLine_4 13 rfl rfl)
theorem dX4_personLine_107 : decode cX4_personLine 107 = .ok (.aload_n 0, 1) := dk_42 (dk_at dksX4_personLine_4 14 rfl rfl)
theorem dX4_personLine_108 : decode cX4_personLine 108 = .ok (.invokevirtual 119, 3) := dk_182 0 119 (dk_at dksX4_personLine_4 15 rfl rfl)
theorem dX4_personLine_111 : decode cX4_personLine 111 = .ok (.aload_n 0, 1) := dk_42 (dk_at dksX4_personLine_4 18 rfl rfl)
theorem dX4_personLine_112 : decode cX4_personLine 112 = .ok (.getfield 23, 3) := dk_180 0 23 (dk_at dksX4_personLine_4 19 rfl rfl)
theorem dX4_personLine_115 : decode cX4_personLine 115 = .ok (.iload_n 2, 1) := dk_28 (dk_at dksX4_personLine_4 22 rfl rfl)
theorem dX4_personLine_116 : decode cX4_personLine 116 = .ok (.iconst 0, 1) := dk_3 (dk_at dksX4_personLine_4 23 rfl rfl)
theorem dX4_personLine_117 : decode cX4_personLine 117 = .ok (.iadd, 1) := dk_96 (dk_at dksX4_personLine_5 0 rfl rfl)
theorem dX4_personLine_118 : decode cX4_personLine 118 = .ok (.iload_n 3, 1) := dk_29 (dk_at dksX4_personLine_5 1 rfl rfl)
theorem dX4_personLine_119 : decode cX4_personLine 119 = .ok (.iastore, 1) := dk_79 (dk_at dksX4_personLine_5 2 rfl rfl)
theorem dX4_personLine_120 : decode cX4_personLine 120 = .ok (.aload_n 0, 1) := dk_42 (dk_at dksX4_personLine_5 3 rfl rfl)
theorem dX4_personLine_121 : decode cX4_personLine 121 = .ok (.getfield 23, 3) := dk_180 0 23 (dk_at dksX4_personLine_5 4 rfl rfl)
theorem dX4_personLine_124 : decode cX4_personLine 124 = .ok (.iload_n 2, 1) := dk_28 (dk_at dksX4_personLine_5 7 rfl rfl)
theorem dX4_personLine_125 : decode cX4_personLine 125 = .ok (.iconst 1, 1) := dk_4 (dk_at dksX4_personLine_5 8 rfl rfl)
theorem dX4_personLine_126 : decode cX4_personLine 126 = .ok (.iadd, 1) := dk_96 (dk_at dksX4_personLine_5 9 rfl rfl)
theorem dX4_personLine_127 : decode cX4_personLine 127 = .ok (.iload_n 3, 1) := dk_29 (dk_at dksX4_personLine_5 10 rfl rfl)
theorem dX4_personLine_128 : decode cX4_personLine 128 = .ok (.iconst 1, 1) := dk_4 (dk_at dksX4_personLine_5 11 rfl rfl)
theorem dX4_personLine_129 : decode cX4_personLine 129 = .ok (.if_icmp .eq 8, 3) := dk_159 0 8 (dk_at dksX4_personLine_5 12 rfl rfl)
theorem dX4_personLine_132 : decode cX4_personLine 132 = .ok (.iload_n 3, 1) := dk_29 (dk_at dksX4_personLine_5 15 rfl rfl)
theorem dX4_personLine_133 : decode cX4_personLine 133 = .ok (.iconst 2, 1) := dk_5 (dk_at dksX4_personLine_5 16 rfl rfl)
theorem dX4_personLine_134 : decode cX4_personLine 134 = .ok (.if_icmp .ne 13, 3) := dk_160 0 13 (dk_at dksX4_personLine_5 17 rfl rfl)
theorem dX4_personLine_137 : decode cX4_personLine 137 = .ok (.aload_n 0, 1) := dk_42 (dk_at dksX4_personLine_5 20 rfl rfl)
theorem dX4_personLine_138 : decode cX4_personLine 138 = .ok (.iconst 1, 1) := dk_4 (dk_at dksX4_personLine_5 21 rfl rfl)
theorem dX4_personLine_139 : decode cX4_personLine 139 = .ok (.bipush 99, 2) := dk_16 99 (dk_at dksX4_personLine_5 22 rfl rfl)
theorem dX4_personLine_141 : decode cX4_personLine 141 = .ok (.invokevirtual 162, 3) := dk_182 0 162 (dk_at dksX4_personLine_6 0 rfl rfl)
theorem dX4_personLine_144 : decode cX4_personLine 144 = .ok (.goto 4, 3) := dk_167 0 4 (dk_at dksX4_personLine_6 3 rfl rfl)
theorem dX4_personLine_147 : decode cX4_personLine 147 = .ok (.iconst 0, 1) := dk_3 (dk_at dksX4_personLine_6 6 rfl rfl)
theorem dX4_personLine_148 : decode cX4_personLine 148 = .ok (.iastore, 1) := dk_79 (dk_at dksX4_personLine_6 7 rfl rfl)
theorem dX4_personLine_149 : decode cX4_personLine 149 = .ok (.aload_n 0, 1) := dk_42 (dk_at dksX4_personLine_6 8 rfl rfl)
theorem dX4_personLine_150 : decode cX4_personLine 150 = .ok (.getfield 23, 3) := dk_180 0 23 (dk_at dksX4_personLine_6 9 rfl rfl)
theorem dX4_personLine_153 : decode cX4_personLine 153 = .ok (.iload_n 2, 1) := dk_28 (dk_at dksX4_personLine_6 12 rfl rfl)
theorem dX4_personLine_154 : decode cX4_personLine 154 = .ok (.iconst 2, 1) := dk_5 (dk_at dksX4_personLine_6 13 rfl rfl)
theorem dX4_personLine_155 : decode cX4_personLine 155 = .ok (.iadd, 1) := dk_96 (dk_at dksX4_personLine_6 14 rfl rfl)
theorem dX4_personLine_156 : decode cX4_personLine 156 = .ok (.aload_n 0, 1) := dk_42 (dk_at dksX4_personLine_6 15 rfl rfl)
theorem dX4_personLine_157 : decode cX4_personLine 157 = .ok (.ldc_w 259, 3) := dk_19 1 3 (dk_at dksX4_personLine_6 16 rfl rfl)
theorem dX4_personLine_160 : decode cX4_personLine 160 = .ok (.iconst 0, 1) := dk_3 (dk_at dksX4_personLine_6 19 rfl rfl)
theorem dX4_personLine_161 : decode cX4_personLine 161 = .ok (.aload_n 0, 1) := dk_42 (dk_at dksX4_personLine_6 20 rfl rfl)
theorem dX4_personLine_162 : decode cX4_personLine 162 = .ok (.getfield 23, 3) := dk_180 0 23 (dk_at dksX4_personLine_6 21 rfl rfl)
theorem dX4_personLine_165 : decode cX4_personLine 165 = .ok (.iconst 2, 1) := dk_5 (dk_at dksX4_personLine_7 0 rfl rfl)
theorem dX4_personLine_166 : decode cX4_personLine 166 = .ok (.iaload, 1) := dk_46 (dk_at dksX4_personLine_7 1 rfl rfl)
theorem dX4_personLine_167 : decode cX4_personLine 167 = .ok (.invokevirtual 218, 3) := dk_182 0 218 (dk_at dksX4_personLine_7 2 rfl rfl)
theorem dX4_personLine_170 : decode cX4_personLine 170 = .ok (.iastore, 1) := dk_79 (dk_at dksX4_personLine_7 5 rfl rfl)
theorem dX4_personLine_171 : decode cX4_personLine 171 = .ok (.aload_n 0, 1) := dk_42 (dk_at dksX4_personLine_7 6 rfl rfl)
theorem dX4_personLine_172 : decode cX4_personLine 172 = .ok (.getfield 23, 3) := dk_180 0 23 (dk_at dksX4_personLine_7 7 rfl rfl)
theorem dX4_personLine_175 : decode cX4_personLine 175 = .ok (.iload_n 2, 1) := dk_28 (dk_at dksX4_personLine_7 10 rfl rfl)
theorem dX4_personLine_176 : decode cX4_personLine 176 = .ok (.iconst 3, 1) := dk_6 (dk_at dksX4_personLine_7 11 rfl rfl)
theorem dX4_personLine_177 : decode cX4_personLine 177 = .ok (.iadd, 1) := dk_96 (dk_at dksX4_personLine_7 12 rfl rfl)
theorem dX4_personLine_178 : decode cX4_personLine 178 = .ok (.aload_n 0, 1) := dk_42 (dk_at dksX4_personLine_7 13 rfl rfl)
theorem dX4_personLine_179 : decode cX4_personLine 179 = .ok (.ldc 244, 2) := dk_18 244 (dk_at dksX4_personLine_7 14 rfl rfl)
theorem dX4_personLine_181 : decode cX4_personLine 181 = .ok (.iconst 0, 1) := dk_3 (dk_at dksX4_personLine_7 16 rfl rfl)
theorem dX4_personLine_182 : decode cX4_personLine 182 = .ok (.aload_n 0, 1) := dk_42 (dk_at dksX4_personLine_7 17 rfl rfl)
theorem dX4_personLine_183 : decode cX4_personLine 183 = .ok (.getfield 23, 3) := dk_180 0 23 (dk_at dksX4_personLine_7 18 rfl rfl)
theorem dX4_personLine_186 : decode cX4_personLine 186 = .ok (.iconst 1, 1) := dk_4 (dk_at dksX4_personLine_7 21 rfl rfl)
theorem dX4_personLine_187 : decode cX4_personLine 187 = .ok (.iaload, 1) := dk_46 (dk_at dksX4_personLine_7 22 rfl rfl)
theorem dX4_personLine_188 : decode cX4_personLine 188 = .ok (.iconst 1, 1) := dk_4 (dk_at dksX4_personLine_7 23 rfl rfl)
theorem dX4_personLine_189 : decode cX4_personLine 189 = .ok (.isub, 1) := dk_100 (dk_at dksX4_personLine_8 0 rfl rfl)
theorem dX4_personLine_190 : decode cX4_personLine 190 = .ok (.invokevirtual 218, 3) := dk_182 0 218 (dk_at dksX4_personLine_8 1 rfl rfl)
theorem dX4_personLine_193 : decode cX4_personLine 193 = .ok (.iastore, 1) := dk_79 (dk_at dksX4_personLine_8 4 rfl rfl)
theorem dX4_personLine_194 : decode cX4_personLine 194 = .ok (.aload_n 0, 1) := dk_42 (dk_at dksX4_personLine_8 5 rfl rfl)
theorem dX4_personLine_195 : decode cX4_personLine 195 = .ok (.getfield 23, 3) := dk_180 0 23 (dk_at dksX4_personLine_8 6 rfl rfl)
theorem dX4_personLine_198 : decode cX4_personLine 198 = .ok (.iload_n 2, 1) := dk_28 (dk_at dksX4_personLine_8 9 rfl rfl)
theorem dX4_personLine_199 : decode cX4_personLine 199 = .ok (.iconst 4, 1) := dk_7 (dk_at dksX4_personLine_8 10 rfl rfl)
theorem dX4_personLine_200 : decode cX4_personLine 200 = .ok (.iadd, 1) := dk_96 (dk_at dksX4_personLine_8 11 rfl rfl)
theorem dX4_personLine_201 : decode cX4_personLine 201 = .ok (.aload_n 0, 1) := dk_42 (dk_at dksX4_personLine_8 12 rfl rfl)
theorem dX4_personLine_202 : decode cX4_personLine 202 = .ok (.ldc_w 261, 3) := dk_19 1 5 (dk_at dksX4_personLine_8 13 rfl rfl)
theorem dX4_personLine_205 : decode cX4_personLine 205 = .ok (.iconst 0, 1) := dk_3 (dk_at dksX4_personLine_8 16 rfl rfl)
theorem dX4_personLine_206 : decode cX4_personLine 206 = .ok (.sipush 600, 3) := dk_17 2 88 (dk_at dksX4_personLine_8 17 rfl rfl)
theorem dX4_personLine_209 : decode cX4_personLine 209 = .ok (.invokevirtual 218, 3) := dk_182 0 218 (dk_at dksX4_personLine_8 20 rfl rfl)
theorem dX4_personLine_212 : decode cX4_personLine 212 = .ok (.iastore, 1) := dk_79 (dk_at dksX4_personLine_8 23 rfl rfl)
theorem dX4_personLine_213 : decode cX4_personLine 213 = .ok (.aload_n 0, 1) := dk_42 (dk_at dksX4_personLine_9 0 rfl rfl)
theorem dX4_personLine_214 : decode cX4_personLine 214 = .ok (.getfield 23, 3) := dk_180 0 23 (dk_at dksX4_personLine_9 1 rfl rfl)
theorem dX4_personLine_217 : decode cX4_personLine 217 = .ok (.iload_n 2, 1) := dk_28 (dk_at dksX4_personLine_9 4 rfl rfl)
theorem dX4_personLine_218 : decode cX4_personLine 218 = .ok (.iconst 5, 1) := dk_8 (dk_at dksX4_personLine_9 5 rfl rfl)
theorem dX4_personLine_219 : decode cX4_personLine 219 = .ok (.iadd, 1) := dk_96 (dk_at dksX4_personLine_9 6 rfl rfl)
theorem dX4_personLine_220 : decode cX4_personLine 220 = .ok (.aload_n 0, 1) := dk_42 (dk_at dksX4_personLine_9 7 rfl rfl)
theorem dX4_personLine_221 : decode cX4_personLine 221 = .ok (.ldc_w 263, 3) := dk_19 1 7 (dk_at dksX4_personLine_9 8 rfl rfl)
theorem dX4_personLine_224 : decode cX4_personLine 224 = .ok (.iconst 0, 1) := dk_3 (dk_at dksX4_personLine_9 11 rfl rfl)
theorem dX4_personLine_225 : decode cX4_personLine 225 = .ok (.bipush 99, 2) := dk_16 99 (dk_at dksX4_personLine_9 12 rfl rfl)
theorem dX4_personLine_227 : decode cX4_personLine 227 = .ok (.invokevirtual 218, 3) := dk_182 0 218 (dk_at dksX4_personLine_9 14 rfl rfl)
theorem dX4_personLine_230 : decode cX4_personLine 230 = .ok (.iastore, 1) := dk_79 (dk_at dksX4_personLine_9 17 rfl rfl)
theorem dX4_personLine_231 : decode cX4_personLine 231 = .ok (.aload_n 0, 1) := dk_42 (dk_at dksX4_personLine_9 18 rfl rfl)
theorem dX4_personLine_232 : decode cX4_personLine 232 = .ok (.getfield 23, 3) := dk_180 0 23 (dk_at dksX4_personLine_9 19 rfl rfl)
theorem dX4_personLine_235 : decode cX4_personLine 235 = .ok (.iload_n 2, 1) := dk_28 (dk_at dksX4_personLine_9 22 rfl rfl)
theorem dX4_personLine_236 : decode cX4_personLine 236 = .ok (.bipush 6, 2) := dk_16 6 (dk_at dksX4_personLine_10 0 rfl rfl)
theorem dX4_personLine_238 : decode cX4_personLine 238 = .ok (.iadd, 1) := dk_96 (dk_at dksX4_personLine_10 2 rfl rfl)
theorem dX4_personLine_239 : decode cX4_personLine 239 = .ok (.iconst 0, 1) := dk_3 (dk_at dksX4_personLine_10 3 rfl rfl)
theorem dX4_personLine_240 : decode cX4_personLine 240 = .ok (.iastore, 1) := dk_79 (dk_at dksX4_personLine_10 4 rfl rfl)
theorem dX4_personLine_241 : decode cX4_personLine 241 = .ok (.iconst 0, 1) := dk_3 (dk_at dksX4_personLine_10 5 rfl rfl)
theorem dX4_personLine_242 : decode cX4_personLine 242 = .ok (.istore 4, 2) := dk_54 4 (dk_at dksX4_personLine_10 6 rfl rfl)
theorem dX4_personLine_244 : decode cX4_personLine 244 = .ok (.iload 4, 2) := dk_21 4 (dk_at dksX4_personLine_10 8 rfl rfl)
theorem dX4_personLine_246 : decode cX4_personLine 246 = .ok (.iconst 5, 1) := dk_8 (dk_at dksX4_personLine_10 10 rfl rfl)
theorem dX4_personLine_247 : decode cX4_personLine 247 = .ok (.if_icmp .ge 24, 3) := dk_162 0 24 (dk_at dksX4_personLine_10 11 rfl rfl)
theorem dX4_personLine_250 : decode cX4_personLine 250 = .ok (.aload_n 0, 1) := dk_42 (dk_at dksX4_personLine_10 14 rfl rfl)
theorem dX4_personLine_251 : decode cX4_personLine 251 = .ok (.getfield 23, 3) := dk_180 0 23 (dk_at dksX4_personLine_10 15 rfl rfl)
theorem dX4_personLine_254 : decode cX4_personLine 254 = .ok (.bipush 111, 2) := dk_16 111 (dk_at dksX4_personLine_10 18 rfl rfl)
theorem dX4_personLine_256 : decode cX4_personLine 256 = .ok (.iconst 5, 1) := dk_8 (dk_at dksX4_personLine_10 20 rfl rfl)
theorem dX4_personLine_257 : decode cX4_personLine 257 = .ok (.iload_n 1, 1) := dk_27 (dk_at dksX4_personLine_10 21 rfl rfl)
theorem dX4_personLine_258 : decode cX4_personLine 258 = .ok (.imul, 1) := dk_104 (dk_at dksX4_personLine_10 22 rfl rfl)
theorem dX4_personLine_259 : decode cX4_personLine 259 = .ok (.iadd, 1) := dk_96 (dk_at dksX4_personLine_10 23 rfl rfl)
theorem dX4_personLine_260 : decode cX4_personLine 260 = .ok (.iload 4, 2) := dk_21 4 (dk_at dksX4_personLine_11 0 rfl rfl)
theorem dX4_personLine_262 : decode cX4_personLine 262 = .ok (.iadd, 1) := dk_96 (dk_at dksX4_personLine_11 2 rfl rfl)
theorem dX4_personLine_263 : decode cX4_personLine 263 = .ok (.iconst 0, 1) := dk_3 (dk_at dksX4_personLine_11 3 rfl rfl)
theorem dX4_personLine_264 : decode cX4_personLine 264 = .ok (.iastore, 1) := dk_79 (dk_at dksX4_personLine_11 4 rfl rfl)
theorem dX4_personLine_265 : decode cX4_personLine 265 = .ok (.iinc 4 1, 3) := dk_132 4 1 (dk_at dksX4_personLine_11 5 rfl rfl)
theorem dX4_personLine_268 : decode cX4_personLine 268 = .ok (.goto (-24), 3) := dk_167 255 232 (dk_at dksX4_personLine_11 8 rfl rfl)
theorem dX4_personLine_271 : decode cX4_personLine 271 = .ok (.aload_n 0, 1) := dk_42 (dk_at dksX4_personLine_11 11 rfl rfl)
theorem dX4_personLine_272 : decode cX4_personLine 272 = .ok (.ldc_w 265, 3) := dk_19 1 9 (dk_at dksX4_personLine_11 12 rfl rfl)
theorem dX4_personLine_275 : decode cX4_personLine 275 = .ok (.invokevirtual 158, 3) := dk_182 0 158 (dk_at dksX4_personLine_11 15 rfl rfl)
theorem dX4_personLine_278 : decode cX4_personLine 278 = .ok (.iconst 0, 1) := dk_3 (dk_at dksX4_personLine_11 18 rfl rfl)
theorem dX4_personLine_279 : decode cX4_personLine 279 = .ok (.istore 4, 2) := dk_54 4 (dk_at dksX4_personLine_11 19 rfl rfl)
theorem dX4_personLine_281 : decode cX4_personLine 281 = .ok (.aload_n 0, 1) := dk_42 (dk_at dksX4_personLine_11 21 rfl rfl)
theorem dX4_personLine_282 : decode cX4_personLine 282 = .ok (.getfield 98, 3) := dk_180 0 98 (dk_at dksX4_personLine_12 0 rfl rfl)
theorem dX4_personLine_285 : decode cX4_personLine 285 = .ok (.ifCond .ne 7, 3) := dk_154 0 7 (dk_at dksX4_personLine_12 3 rfl rfl)
theorem dX4_personLine_288 : decode cX4_personLine 288 = .ok (.iconst 1, 1) := dk_4 (dk_at dksX4_personLine_12 6 rfl rfl)
theorem dX4_personLine_289 : decode cX4_personLine 289 = .ok (.goto 4, 3) := dk_167 0 4 (dk_at dksX4_personLine_12 7 rfl rfl)
theorem dX4_personLine_292 : decode cX4_personLine 292 = .ok (.iconst 0, 1) := dk_3 (dk_at dksX4_personLine_12 10 rfl rfl)
theorem dX4_personLine_293 : decode cX4_personLine 293 = .ok (.istore 5, 2) := dk_54 5 (dk_at dksX4_personLine_12 11 rfl rfl)
theorem dX4_personLine_295 : decode cX4_personLine 295 = .ok (.iload 5, 2) := dk_21 5 (dk_at dksX4_personLine_12 13 rfl rfl)
theorem dX4_personLine_297 : decode cX4_personLine 297 = .ok (.ifCond .eq 111, 3) := dk_153 0 111 (dk_at dksX4_personLine_12 15 rfl rfl)
theorem dX4_personLine_300 : decode cX4_personLine 300 = .ok (.aload_n 0, 1) := dk_42 (dk_at dksX4_personLine_12 18 rfl rfl)
theorem dX4_personLine_301 : decode cX4_personLine 301 = .ok (.iconst 0, 1) := dk_3 (dk_at dksX4_personLine_12 19 rfl rfl)
theorem dX4_personLine_302 : decode cX4_personLine 302 = .ok (.iconst 4, 1) := dk_7 (dk_at dksX4_personLine_12 20 rfl rfl)
theorem dX4_personLine_303 : decode cX4_personLine 303 = .ok (.invokevirtual 151, 3) := dk_182 0 151 (dk_at dksX4_personLine_12 21 rfl rfl)
theorem dX4_personLine_306 : decode cX4_personLine 306 = .ok (.istore 6, 2) := dk_54 6 (dk_at dksX4_personLine_13 0 rfl rfl)
theorem dX4_personLine_308 : decode cX4_personLine 308 = .ok (.aload_n 0, 1) := dk_42 (dk_at dksX4_personLine_13 2 rfl rfl)
theorem dX4_personLine_309 : decode cX4_personLine 309 = .ok (.getfield 98, 3) := dk_180 0 98 (dk_at dksX4_personLine_13 3 rfl rfl)
theorem dX4_personLine_312 : decode cX4_personLine 312 = .ok (.ifCond .ne 29, 3) := dk_154 0 29 (dk_at dksX4_personLine_13 6 rfl rfl)
theorem dX4_personLine_315 : decode cX4_personLine 315 = .ok (.aload_n 0, 1) := dk_42 (dk_at dksX4_personLine_13 9 rfl rfl)
theorem dX4_personLine_316 : decode cX4_personLine 316 = .ok (.getfield 23, 3) := dk_180 0 23 (dk_at dksX4_personLine_13 10 rfl rfl)
theorem dX4_personLine_319 : decode cX4_personLine 319 = .ok (.bipush 111, 2) := dk_16 111 (dk_at dksX4_personLine_13 13 rfl rfl)
theorem dX4_personLine_321 : decode cX4_personLine 321 = .ok (.iconst 5, 1) := dk_8 (dk_at dksX4_personLine_13 15 rfl rfl)
theorem dX4_personLine_322 : decode cX4_personLine 322 = .ok (.iload_n 1, 1) := dk_27 (dk_at dksX4_personLine_13 16 rfl rfl)
theorem dX4_personLine_323 : decode cX4_personLine 323 = .ok (.imul, 1) := dk_104 (dk_at dksX4_personLine_13 17 rfl rfl)
theorem dX4_personLine_324 : decode cX4_personLine 324 = .ok (.iadd, 1) := dk_96 (dk_at dksX4_personLine_13 18 rfl rfl)
theorem dX4_personLine_325 : decode cX4_personLine 325 = .ok (.iload 6, 2) := dk_21 6 (dk_at dksX4_personLine_13 19 rfl rfl)
theorem dX4_personLine_327 : decode cX4_personLine 327 = .ok (.iadd, 1) := dk_96 (dk_at dksX4_personLine_13 21 rfl rfl)
theorem dX4_personLine_328 : decode cX4_personLine 328 = .ok (.iaload, 1) := dk_46 (dk_at dksX4_personLine_13 22 rfl rfl)
theorem dX4_personLine_329 : decode cX4_personLine 329 = .ok (.ifCond .le 12, 3) := dk_158 0 12 (dk_at dksX4_personLine_14 0 rfl rfl)
theorem dX4_personLine_332 : decode cX4_personLine 332 = .ok (.aload_n 0, 1) := dk_42 (dk_at dksX4_personLine_14 3 rfl rfl)
theorem dX4_personLine_333 : decode cX4_personLine 333 = .ok (.iconst 3, 1) := dk_6 (dk_at dksX4_personLine_14 4 rfl rfl)
theorem dX4_personLine_334 : decode cX4_personLine 334 = .ok (.aload_n 0, 1) := dk_42 (dk_at dksX4_personLine_14 5 rfl rfl)
theorem dX4_personLine_335 : decode cX4_personLine 335 = .ok (.getfield 79, 3) := dk_180 0 79 (dk_at dksX4_personLine_14 6 rfl rfl)
theorem dX4_personLine_338 : decode cX4_personLine 338 = .ok (.invokevirtual 125, 3) := dk_182 0 125 (dk_at dksX4_personLine_14 9 rfl rfl)
theorem dX4_personLine_341 : decode cX4_personLine 341 = .ok (.aload_n 0, 1) := dk_42 (dk_at dksX4_personLine_14 12 rfl rfl)
theorem dX4_personLine_342 : decode cX4_personLine 342 = .ok (.getfield 98, 3) := dk_180 0 98 (dk_at dksX4_personLine_14 13 rfl rfl)
theorem dX4_personLine_345 : decode cX4_personLine 345 = .ok (.ifCond .ne 18, 3) := dk_154 0 18 (dk_at dksX4_personLine_14 16 rfl rfl)
theorem dX4_personLine_348 : decode cX4_personLine 348 = .ok (.iload 4, 2) := dk_21 4 (dk_at dksX4_personLine_14 19 rfl rfl)
theorem dX4_personLine_350 : decode cX4_personLine 350 = .ok (.iconst 3, 1) := dk_6 (dk_at dksX4_personLine_14 21 rfl rfl)
theorem dX4_personLine_351 : decode cX4_personLine 351 = .ok (.if_icmp .ne 12, 3) := dk_160 0 12 (dk_at dksX4_personLine_15 0 rfl rfl)
theorem dX4_personLine_354 : decode cX4_personLine 354 = .ok (.aload_n 0, 1) := dk_42 (dk_at dksX4_personLine_15 3 rfl rfl)
theorem dX4_personLine_355 : decode cX4_personLine 355 = .ok (.iconst 5, 1) := dk_8 (dk_at dksX4_personLine_15 4 rfl rfl)
theorem dX4_personLine_356 : decode cX4_personLine 356 = .ok (.aload_n 0, 1) := dk_42 (dk_at dksX4_personLine_15 5 rfl rfl)
theorem dX4_personLine_357 : decode cX4_personLine 357 = .ok (.getfield 79, 3) := dk_180 0 79 (dk_at dksX4_personLine_15 6 rfl rfl)
theorem dX4_personLine_360 : decode cX4_personLine 360 = .ok (.invokevirtual 125, 3) := dk_182 0 125 (dk_at dksX4_personLine_15 9 rfl rfl)
theorem dX4_personLine_363 : decode cX4_personLine 363 = .ok (.aload_n 0, 1) := dk_42 (dk_at dksX4_personLine_15 12 rfl rfl)
theorem dX4_personLine_364 : decode cX4_personLine 364 = .ok (.getfield 98, 3) := dk_180 0 98 (dk_at dksX4_personLine_15 13 rfl rfl)
theorem dX4_personLine_367 : decode cX4_personLine 367 = .ok (.ifCond .eq 4, 3) := dk_153 0 4 (dk_at dksX4_personLine_15 16 rfl rfl)
theorem dX4_personLine_370 : decode cX4_personLine 370 = .ok (.return_, 1) := dk_177 (dk_at dksX4_personLine_15 19 rfl rfl)
theorem dX4_personLine_371 : decode cX4_personLine 371 = .ok (.aload_n 0, 1) := dk_42 (dk_at dksX4_personLine_15 20 rfl rfl)
theorem dX4_personLine_372 : decode cX4_personLine 372 = .ok (.invokevirtual 119, 3) := dk_182 0 119 (dk_at dksX4_personLine_15 21 rfl rfl)
theorem dX4_personLine_375 : decode cX4_personLine 375 = .ok (.aload_n 0, 1) := dk_42 (dk_at dksX4_personLine_16 0 rfl rfl)
theorem dX4_personLine_376 : decode cX4_personLine 376 = .ok (.getfield 23, 3) := dk_180 0 23 (dk_at dksX4_personLine_16 1 rfl rfl)
theorem dX4_personLine_379 : decode cX4_personLine 379 = .ok (.bipush 111, 2) := dk_16 111 (dk_at dksX4_personLine_16 4 rfl rfl)
theorem dX4_personLine_381 : decode cX4_personLine 381 = .ok (.iconst 5, 1) := dk_8 (dk_at dksX4_personLine_16 6 rfl rfl)
theorem dX4_personLine_382 : decode cX4_personLine 382 = .ok (.iload_n 1, 1) := dk_27 (dk_at dksX4_personLine_16 7 rfl rfl)
theorem dX4_personLine_383 : decode cX4_personLine 383 = .ok (.imul, 1) := dk_104 (dk_at dksX4_personLine_16 8 rfl rfl)
theorem dX4_personLine_384 : decode cX4_personLine 384 = .ok (.iadd, 1) := dk_96 (dk_at dksX4_personLine_16 9 rfl rfl)
theorem dX4_personLine_385 : decode cX4_personLine 385 = .ok (.iload 6, 2) := dk_21 6 (dk_at dksX4_personLine_16 10 rfl rfl)
theorem dX4_personLine_387 : decode cX4_personLine 387 = .ok (.iadd, 1) := dk_96 (dk_at dksX4_personLine_16 12 rfl rfl)
theorem dX4_personLine_388 : decode cX4_personLine 388 = .ok (.aload_n 0, 1) := dk_42 (dk_at dksX4_personLine_16 13 rfl rfl)
theorem dX4_personLine_389 : decode cX4_personLine 389 = .ok (.iconst 1, 1) := dk_4 (dk_at dksX4_personLine_16 14 rfl rfl)
theorem dX4_personLine_390 : decode cX4_personLine 390 = .ok (.bipush 9, 2) := dk_16 9 (dk_at dksX4_personLine_16 15 rfl rfl)
theorem dX4_personLine_392 : decode cX4_personLine 392 = .ok (.invokevirtual 162, 3) := dk_182 0 162 (dk_at dksX4_personLine_16 17 rfl rfl)
theorem dX4_personLine_395 : decode cX4_personLine 395 = .ok (.iastore, 1) := dk_79 (dk_at dksX4_personLine_16 20 rfl rfl)
theorem dX4_personLine_396 : decode cX4_personLine 396 = .ok (.iinc 4 1, 3) := dk_132 4 1 (dk_at dksX4_personLine_16 21 rfl rfl)
theorem dX4_personLine_399 : decode cX4_personLine 399 = .ok (.aload_n 0, 1) := dk_42 (dk_at dksX4_personLine_17 0 rfl rfl)
theorem dX4_personLine_400 : decode cX4_personLine 400 = .ok (.invokevirtual 267, 3) := dk_182 1 11 (dk_at dksX4_personLine_17 1 rfl rfl)
theorem dX4_personLine_403 : decode cX4_personLine 403 = .ok (.istore 5, 2) := dk_54 5 (dk_at dksX4_personLine_17 4 rfl rfl)
theorem dX4_personLine_405 : decode cX4_personLine 405 = .ok (.goto (-110), 3) := dk_167 255 146 (dk_at dksX4_personLine_17 6 rfl rfl)
theorem dX4_personLine_408 : decode cX4_personLine 408 = .ok (.aload_n 0, 1) := dk_42 (dk_at dksX4_personLine_17 9 rfl rfl)
theorem dX4_personLine_409 : decode cX4_personLine 409 = .ok (.getfield 98, 3) := dk_180 0 98 (dk_at dksX4_personLine_17 10 rfl rfl)
theorem dX4_personLine_412 : decode cX4_personLine 412 = .ok (.ifCond .ne 13, 3) := dk_154 0 13 (dk_at dksX4_personLine_17 13 rfl rfl)
theorem dX4_personLine_415 : decode cX4_personLine 415 = .ok (.aload_n 0, 1) := dk_42 (dk_at dksX4_personLine_17 16 rfl rfl)
theorem dX4_personLine_416 : decode cX4_personLine 416 = .ok (.getfield 23, 3) := dk_180 0 23 (dk_at dksX4_personLine_17 17 rfl rfl)
theorem dX4_personLine_419 : decode cX4_personLine 419 = .ok (.iconst 5, 1) := dk_8 (dk_at dksX4_personLine_17 20 rfl rfl)
theorem dX4_personLine_420 : decode cX4_personLine 420 = .ok (.dup2, 1) := dk_92 (dk_at dksX4_personLine_17 21 rfl rfl)
theorem dX4_personLine_421 : decode cX4_personLine 421 = .ok (.iaload, 1) := dk_46 (dk_at dksX4_personLine_17 22 rfl rfl)
theorem dX4_personLine_422 : decode cX4_personLine 422 = .ok (.iconst 1, 1) := dk_4 (dk_at dksX4_personLine_17 23 rfl rfl)
theorem dX4_personLine_423 : decode cX4_personLine 423 = .ok (.iadd, 1) := dk_96 (dk_at dksX4_personLine_18 0 rfl rfl)
theorem dX4_personLine_424 : decode cX4_personLine 424 = .ok (.iastore, 1) := dk_79 (dk_at dksX4_personLine_18 1 rfl rfl)
theorem dX4_personLine_425 : decode cX4_personLine 425 = .ok (.return_, 1) := dk_177 (dk_at dksX4_personLine_18 2 rfl rfl)
abbrev cX4_named : ByteArray := prog_24_method_23_code
def yX4_named : MethodName := ⟨RX4, "named", "(II)I"⟩
def dkwX4_named_2 : List UInt8 := [180, 0, 98, 153, 0, 7, 27, 167, 0, 4, 29, 172]
abbrev dktX4_named_2 : List UInt8 := dkwX4_named_2 ++ []
def dkwX4_named_1 : List UInt8 := [182, 0, 144, 62, 29, 27, 28, 184, 0, 147, 154, 0, 12, 42, 5, 42, 180, 0, 79, 182, 0, 125, 42]
abbrev dktX4_named_1 : List UInt8 := dkwX4_named_1 ++ dktX4_named_2
def dkwX4_named_0 : List UInt8 := [42, 180, 0, 98, 153, 0, 5, 27, 172, 42, 182, 0, 141, 42, 180, 0, 98, 153, 0, 5, 27, 172, 42]
abbrev dktX4_named_0 : List UInt8 := dkwX4_named_0 ++ dktX4_named_1
theorem dksX4_named_0 : cX4_named.data.toList.drop 0 = dktX4_named_0 := by decide +kernel
theorem dksX4_named_1 : cX4_named.data.toList.drop 23 = dktX4_named_1 := dk_seg dksX4_named_0 23 rfl rfl
theorem dksX4_named_2 : cX4_named.data.toList.drop 46 = dktX4_named_2 := dk_seg dksX4_named_1 23 rfl rfl
theorem dX4_named_0 : decode cX4_named 0 = .ok (.aload_n 0, 1) := dk_42 (dk_at dksX4_named_0 0 rfl rfl)
theorem dX4_named_1 : decode cX4_named 1 = .ok (.getfield 98, 3) := dk_180 0 98 (dk_at dksX4_named_0 1 rfl rfl)
theorem dX4_named_4 : decode cX4_named 4 = .ok (.ifCond .eq 5, 3) := dk_153 0 5 (dk_at dksX4_named_0 4 rfl rfl)
theorem dX4_named_7 : decode cX4_named 7 = .ok (.iload_n 1, 1) := dk_27 (dk_at dksX4_named_0 7 rfl rfl)
theorem dX4_named_8 : decode cX4_named 8 = .ok (.ireturn, 1) := dk_172 (dk_at dksX4_named_0 8 rfl rfl)
theorem dX4_named_9 : decode cX4_named 9 = .ok (.aload_n 0, 1) := dk_42 (dk_at dksX4_named_0 9 rfl rfl)
theorem dX4_named_10 : decode cX4_named 10 = .ok (.invokevirtual 141, 3) := dk_182 0 141 (dk_at dksX4_named_0 10 rfl rfl)
theorem dX4_named_13 : decode cX4_named 13 = .ok (.aload_n 0, 1) := dk_42 (dk_at dksX4_named_0 13 rfl rfl)
theorem dX4_named_14 : decode cX4_named 14 = .ok (.getfield 98, 3) := dk_180 0 98 (dk_at dksX4_named_0 14 rfl rfl)
theorem dX4_named_17 : decode cX4_named 17 = .ok (.ifCond .eq 5, 3) := dk_153 0 5 (dk_at dksX4_named_0 17 rfl rfl)
theorem dX4_named_20 : decode cX4_named 20 = .ok (.iload_n 1, 1) := dk_27 (dk_at dksX4_named_0 20 rfl rfl)
theorem dX4_named_21 : decode cX4_named 21 = .ok (.ireturn, 1) := dk_172 (dk_at dksX4_named_0 21 rfl rfl)
theorem dX4_named_22 : decode cX4_named 22 = .ok (.aload_n 0, 1) := dk_42 (dk_at dksX4_named_0 22 rfl rfl)
theorem dX4_named_23 : decode cX4_named 23 = .ok (.invokevirtual 144, 3) := dk_182 0 144 (dk_at dksX4_named_1 0 rfl rfl)
theorem dX4_named_26 : decode cX4_named 26 = .ok (.istore_n 3, 1) := dk_62 (dk_at dksX4_named_1 3 rfl rfl)
theorem dX4_named_27 : decode cX4_named 27 = .ok (.iload_n 3, 1) := dk_29 (dk_at dksX4_named_1 4 rfl rfl)
theorem dX4_named_28 : decode cX4_named 28 = .ok (.iload_n 1, 1) := dk_27 (dk_at dksX4_named_1 5 rfl rfl)
theorem dX4_named_29 : decode cX4_named 29 = .ok (.iload_n 2, 1) := dk_28 (dk_at dksX4_named_1 6 rfl rfl)
theorem dX4_named_30 : decode cX4_named 30 = .ok (.invokestatic 147, 3) := dk_184 0 147 (dk_at dksX4_named_1 7 rfl rfl)
theorem dX4_named_33 : decode cX4_named 33 = .ok (.ifCond .ne 12, 3) := dk_154 0 12 (dk_at dksX4_named_1 10 rfl rfl)
theorem dX4_named_36 : decode cX4_named 36 = .ok (.aload_n 0, 1) := dk_42 (dk_at dksX4_named_1 13 rfl rfl)
theorem dX4_named_37 : decode cX4_named 37 = .ok (.iconst 2, 1) := dk_5 (dk_at dksX4_named_1 14 rfl rfl)
theorem dX4_named_38 : decode cX4_named 38 = .ok (.aload_n 0, 1) := dk_42 (dk_at dksX4_named_1 15 rfl rfl)
theorem dX4_named_39 : decode cX4_named 39 = .ok (.getfield 79, 3) := dk_180 0 79 (dk_at dksX4_named_1 16 rfl rfl)
theorem dX4_named_42 : decode cX4_named 42 = .ok (.invokevirtual 125, 3) := dk_182 0 125 (dk_at dksX4_named_1 19 rfl rfl)
theorem dX4_named_45 : decode cX4_named 45 = .ok (.aload_n 0, 1) := dk_42 (dk_at dksX4_named_1 22 rfl rfl)
theorem dX4_named_46 : decode cX4_named 46 = .ok (.getfield 98, 3) := dk_180 0 98 (dk_at dksX4_named_2 0 rfl rfl)
theorem dX4_named_49 : decode cX4_named 49 = .ok (.ifCond .eq 7, 3) := dk_153 0 7 (dk_at dksX4_named_2 3 rfl rfl)
theorem dX4_named_52 : decode cX4_named 52 = .ok (.iload_n 1, 1) := dk_27 (dk_at dksX4_named_2 6 rfl rfl)
theorem dX4_named_53 : decode cX4_named 53 = .ok (.goto 4, 3) := dk_167 0 4 (dk_at dksX4_named_2 7 rfl rfl)
theorem dX4_named_56 : decode cX4_named 56 = .ok (.iload_n 3, 1) := dk_29 (dk_at dksX4_named_2 10 rfl rfl)
theorem dX4_named_57 : decode cX4_named 57 = .ok (.ireturn, 1) := dk_172 (dk_at dksX4_named_2 11 rfl rfl)
abbrev cX4_comma : ByteArray := prog_24_method_28_code
def yX4_comma : MethodName := ⟨RX4, "comma", "()Z"⟩
def dkwX4_comma_0 : List UInt8 := [42, 180, 0, 98, 154, 0, 12, 42, 180, 0, 88, 16, 44, 159, 0, 5, 3, 172, 42, 182, 0, 119, 4, 172]
abbrev dktX4_comma_0 : List UInt8 := dkwX4_comma_0 ++ []
theorem dksX4_comma_0 : cX4_comma.data.toList.drop 0 = dktX4_comma_0 := by decide +kernel
theorem dX4_comma_0 : decode cX4_comma 0 = .ok (.aload_n 0, 1) := dk_42 (dk_at dksX4_comma_0 0 rfl rfl)
theorem dX4_comma_1 : decode cX4_comma 1 = .ok (.getfield 98, 3) := dk_180 0 98 (dk_at dksX4_comma_0 1 rfl rfl)
theorem dX4_comma_4 : decode cX4_comma 4 = .ok (.ifCond .ne 12, 3) := dk_154 0 12 (dk_at dksX4_comma_0 4 rfl rfl)
theorem dX4_comma_7 : decode cX4_comma 7 = .ok (.aload_n 0, 1) := dk_42 (dk_at dksX4_comma_0 7 rfl rfl)
theorem dX4_comma_8 : decode cX4_comma 8 = .ok (.getfield 88, 3) := dk_180 0 88 (dk_at dksX4_comma_0 8 rfl rfl)
theorem dX4_comma_11 : decode cX4_comma 11 = .ok (.bipush 44, 2) := dk_16 44 (dk_at dksX4_comma_0 11 rfl rfl)
theorem dX4_comma_13 : decode cX4_comma 13 = .ok (.if_icmp .eq 5, 3) := dk_159 0 5 (dk_at dksX4_comma_0 13 rfl rfl)
theorem dX4_comma_16 : decode cX4_comma 16 = .ok (.iconst 0, 1) := dk_3 (dk_at dksX4_comma_0 16 rfl rfl)
theorem dX4_comma_17 : decode cX4_comma 17 = .ok (.ireturn, 1) := dk_172 (dk_at dksX4_comma_0 17 rfl rfl)
theorem dX4_comma_18 : decode cX4_comma 18 = .ok (.aload_n 0, 1) := dk_42 (dk_at dksX4_comma_0 18 rfl rfl)
theorem dX4_comma_19 : decode cX4_comma 19 = .ok (.invokevirtual 119, 3) := dk_182 0 119 (dk_at dksX4_comma_0 19 rfl rfl)
theorem dX4_comma_22 : decode cX4_comma 22 = .ok (.iconst 1, 1) := dk_4 (dk_at dksX4_comma_0 22 rfl rfl)
theorem dX4_comma_23 : decode cX4_comma 23 = .ok (.ireturn, 1) := dk_172 (dk_at dksX4_comma_0 23 rfl rfl)
abbrev cX4_shelfLine : ByteArray := prog_24_method_36_code
def yX4_shelfLine : MethodName := ⟨RX4, "shelfLine", "()V"⟩
def dkwX4_shelfLine_4 : List UInt8 := [16, 6, 96, 28, 4, 96, 79, 42, 180, 0, 23, 16, 6, 92, 46, 4, 96, 79, 177]
abbrev dktX4_shelfLine_4 : List UInt8 := dkwX4_shelfLine_4 ++ []
def dkwX4_shelfLine_3 : List UInt8 := [182, 0, 218, 61, 42, 180, 0, 98, 153, 0, 4, 177, 42, 180, 0, 23, 16, 41, 16, 7, 27, 104, 96]
abbrev dktX4_shelfLine_3 : List UInt8 := dkwX4_shelfLine_3 ++ dktX4_shelfLine_4
def dkwX4_shelfLine_2 : List UInt8 := [180, 0, 98, 153, 0, 4, 177, 42, 182, 0, 119, 42, 19, 1, 15, 3, 42, 180, 0, 23, 5, 46]
abbrev dktX4_shelfLine_2 : List UInt8 := dkwX4_shelfLine_2 ++ dktX4_shelfLine_3
def dkwX4_shelfLine_1 : List UInt8 := [16, 41, 16, 7, 27, 104, 96, 16, 6, 96, 46, 158, 0, 12, 42, 6, 42, 180, 0, 79, 182, 0, 125, 42]
abbrev dktX4_shelfLine_1 : List UInt8 := dkwX4_shelfLine_1 ++ dktX4_shelfLine_2
def dkwX4_shelfLine_0 : List UInt8 := [42, 180, 0, 98, 153, 0, 4, 177, 42, 182, 0, 155, 60, 42, 180, 0, 98, 154, 0, 30, 42, 180, 0, 23]
abbrev dktX4_shelfLine_0 : List UInt8 := dkwX4_shelfLine_0 ++ dktX4_shelfLine_1
theorem dksX4_shelfLine_0 : cX4_shelfLine.data.toList.drop 0 = dktX4_shelfLine_0 := by decide +kernel
theorem dksX4_shelfLine_1 : cX4_shelfLine.data.toList.drop 24 = dktX4_shelfLine_1 := dk_seg dksX4_shelfLine_0 24 rfl rfl
theorem dksX4_shelfLine_2 : cX4_shelfLine.data.toList.drop 48 = dktX4_shelfLine_2 := dk_seg dksX4_shelfLine_1 24 rfl rfl
theorem dksX4_shelfLine_3 : cX4_shelfLine.data.toList.drop 70 = dktX4_shelfLine_3 := dk_seg dksX4_shelfLine_2 22 rfl rfl
theorem dksX4_shelfLine_4 : cX4_shelfLine.data.toList.drop 93 = dktX4_shelfLine_4 := dk_seg dksX4_shelfLine_3 23 rfl rfl
theorem dX4_shelfLine_0 : decode cX4_shelfLine 0 = .ok (.aload_n 0, 1) := dk_42 (dk_at dksX4_shelfLine_0 0 rfl rfl)
theorem dX4_shelfLine_1 : decode cX4_shelfLine 1 = .ok (.getfield 98, 3) := dk_180 0 98 (dk_at dksX4_shelfLine_0 1 rfl rfl)
theorem dX4_shelfLine_4 : decode cX4_shelfLine 4 = .ok (.ifCond .eq 4, 3) := dk_153 0 4 (dk_at dksX4_shelfLine_0 4 rfl rfl)
theorem dX4_shelfLine_7 : decode cX4_shelfLine 7 = .ok (.return_, 1) := dk_177 (dk_at dksX4_shelfLine_0 7 rfl rfl)
theorem dX4_shelfLine_8 : decode cX4_shelfLine 8 = .ok (.aload_n 0, 1) := dk_42 (dk_at dksX4_shelfLine_0 8 rfl rfl)
theorem dX4_shelfLine_9 : decode cX4_shelfLine 9 = .ok (.invokevirtual 155, 3) := dk_182 0 155 (dk_at dksX4_shelfLine_0 9 rfl rfl)
theorem dX4_shelfLine_12 : decode cX4_shelfLine 12 = .ok (.istore_n 1, 1) := dk_60 (dk_at dksX4_shelfLine_0 12 rfl rfl)
theorem dX4_shelfLine_13 : decode cX4_shelfLine 13 = .ok (.aload_n 0, 1) := dk_42 (dk_at dksX4_shelfLine_0 13 rfl rfl)
theorem dX4_shelfLine_14 : decode cX4_shelfLine 14 = .ok (.getfield 98, 3) := dk_180 0 98 (dk_at dksX4_shelfLine_0 14 rfl rfl)
theorem dX4_shelfLine_17 : decode cX4_shelfLine 17 = .ok (.ifCond .ne 30, 3) := dk_154 0 30 (dk_at dksX4_shelfLine_0 17 rfl rfl)
theorem dX4_shelfLine_20 : decode cX4_shelfLine 20 = .ok (.aload_n 0, 1) := dk_42 (dk_at dksX4_shelfLine_0 20 rfl rfl)
theorem dX4_shelfLine_21 : decode cX4_shelfLine 21 = .ok (.getfield 23, 3) := dk_180 0 23 (dk_at dksX4_shelfLine_0 21 rfl rfl)
theorem dX4_shelfLine_24 : decode cX4_shelfLine 24 = .ok (.bipush 41, 2) := dk_16 41 (dk_at dksX4_shelfLine_1 0 rfl rfl)
theorem dX4_shelfLine_26 : decode cX4_shelfLine 26 = .ok (.bipush 7, 2) := dk_16 7 (dk_at dksX4_shelfLine_1 2 rfl rfl)
theorem dX4_shelfLine_28 : decode cX4_shelfLine 28 = .ok (.iload_n 1, 1) := dk_27 (dk_at dksX4_shelfLine_1 4 rfl rfl)
theorem dX4_shelfLine_29 : decode cX4_shelfLine 29 = .ok (.imul, 1) := dk_104 (dk_at dksX4_shelfLine_1 5 rfl rfl)
theorem dX4_shelfLine_30 : decode cX4_shelfLine 30 = .ok (.iadd, 1) := dk_96 (dk_at dksX4_shelfLine_1 6 rfl rfl)
theorem dX4_shelfLine_31 : decode cX4_shelfLine 31 = .ok (.bipush 6, 2) := dk_16 6 (dk_at dksX4_shelfLine_1 7 rfl rfl)
theorem dX4_shelfLine_33 : decode cX4_shelfLine 33 = .ok (.iadd, 1) := dk_96 (dk_at dksX4_shelfLine_1 9 rfl rfl)
theorem dX4_shelfLine_34 : decode cX4_shelfLine 34 = .ok (.iaload, 1) := dk_46 (dk_at dksX4_shelfLine_1 10 rfl rfl)
theorem dX4_shelfLine_35 : decode cX4_shelfLine 35 = .ok (.ifCond .le 12, 3) := dk_158 0 12 (dk_at dksX4_shelfLine_1 11 rfl rfl)
theorem dX4_shelfLine_38 : decode cX4_shelfLine 38 = .ok (.aload_n 0, 1) := dk_42 (dk_at dksX4_shelfLine_1 14 rfl rfl)
theorem dX4_shelfLine_39 : decode cX4_shelfLine 39 = .ok (.iconst 3, 1) := dk_6 (dk_at dksX4_shelfLine_1 15 rfl rfl)
theorem dX4_shelfLine_40 : decode cX4_shelfLine 40 = .ok (.aload_n 0, 1) := dk_42 (dk_at dksX4_shelfLine_1 16 rfl rfl)
theorem dX4_shelfLine_41 : decode cX4_shelfLine 41 = .ok (.getfield 79, 3) := dk_180 0 79 (dk_at dksX4_shelfLine_1 17 rfl rfl)
theorem dX4_shelfLine_44 : decode cX4_shelfLine 44 = .ok (.invokevirtual 125, 3) := dk_182 0 125 (dk_at dksX4_shelfLine_1 20 rfl rfl)
theorem dX4_shelfLine_47 : decode cX4_shelfLine 47 = .ok (.aload_n 0, 1) := dk_42 (dk_at dksX4_shelfLine_1 23 rfl rfl)
theorem dX4_shelfLine_48 : decode cX4_shelfLine 48 = .ok (.getfield 98, 3) := dk_180 0 98 (dk_at dksX4_shelfLine_2 0 rfl rfl)
theorem dX4_shelfLine_51 : decode cX4_shelfLine 51 = .ok (.ifCond .eq 4, 3) := dk_153 0 4 (dk_at dksX4_shelfLine_2 3 rfl rfl)
theorem dX4_shelfLine_54 : decode cX4_shelfLine 54 = .ok (.return_, 1) := dk_177 (dk_at dksX4_shelfLine_2 6 rfl rfl)
theorem dX4_shelfLine_55 : decode cX4_shelfLine 55 = .ok (.aload_n 0, 1) := dk_42 (dk_at dksX4_shelfLine_2 7 rfl rfl)
theorem dX4_shelfLine_56 : decode cX4_shelfLine 56 = .ok (.invokevirtual 119, 3) := dk_182 0 119 (dk_at dksX4_shelfLine_2 8 rfl rfl)
theorem dX4_shelfLine_59 : decode cX4_shelfLine 59 = .ok (.aload_n 0, 1) := dk_42 (dk_at dksX4_shelfLine_2 11 rfl rfl)
theorem dX4_shelfLine_60 : decode cX4_shelfLine 60 = .ok (.ldc_w 271, 3) := dk_19 1 15 (dk_at dksX4_shelfLine_2 12 rfl rfl)
theorem dX4_shelfLine_63 : decode cX4_shelfLine 63 = .ok (.iconst 0, 1) := dk_3 (dk_at dksX4_shelfLine_2 15 rfl rfl)
theorem dX4_shelfLine_64 : decode cX4_shelfLine 64 = .ok (.aload_n 0, 1) := dk_42 (dk_at dksX4_shelfLine_2 16 rfl rfl)
theorem dX4_shelfLine_65 : decode cX4_shelfLine 65 = .ok (.getfield 23, 3) := dk_180 0 23 (dk_at dksX4_shelfLine_2 17 rfl rfl)
theorem dX4_shelfLine_68 : decode cX4_shelfLine 68 = .ok (.iconst 2, 1) := dk_5 (dk_at dksX4_shelfLine_2 20 rfl rfl)
theorem dX4_shelfLine_69 : decode cX4_shelfLine 69 = .ok (.iaload, 1) := dk_46 (dk_at dksX4_shelfLine_2 21 rfl rfl)
theorem dX4_shelfLine_70 : decode cX4_shelfLine 70 = .ok (.invokevirtual 218, 3) := dk_182 0 218 (dk_at dksX4_shelfLine_3 0 rfl rfl)
theorem dX4_shelfLine_73 : decode cX4_shelfLine 73 = .ok (.istore_n 2, 1) := dk_61 (dk_at dksX4_shelfLine_3 3 rfl rfl)
theorem dX4_shelfLine_74 : decode cX4_shelfLine 74 = .ok (.aload_n 0, 1) := dk_42 (dk_at dksX4_shelfLine_3 4 rfl rfl)
theorem dX4_shelfLine_75 : decode cX4_shelfLine 75 = .ok (.getfield 98, 3) := dk_180 0 98 (dk_at dksX4_shelfLine_3 5 rfl rfl)
theorem dX4_shelfLine_78 : decode cX4_shelfLine 78 = .ok (.ifCond .eq 4, 3) := dk_153 0 4 (dk_at dksX4_shelfLine_3 8 rfl rfl)
theorem dX4_shelfLine_81 : decode cX4_shelfLine 81 = .ok (.return_, 1) := dk_177 (dk_at dksX4_shelfLine_3 11 rfl rfl)
theorem dX4_shelfLine_82 : decode cX4_shelfLine 82 = .ok (.aload_n 0, 1) := dk_42 (dk_at dksX4_shelfLine_3 12 rfl rfl)
theorem dX4_shelfLine_83 : decode cX4_shelfLine 83 = .ok (.getfield 23, 3) := dk_180 0 23 (dk_at dksX4_shelfLine_3 13 rfl rfl)
theorem dX4_shelfLine_86 : decode cX4_shelfLine 86 = .ok (.bipush 41, 2) := dk_16 41 (dk_at dksX4_shelfLine_3 16 rfl rfl)
theorem dX4_shelfLine_88 : decode cX4_shelfLine 88 = .ok (.bipush 7, 2) := dk_16 7 (dk_at dksX4_shelfLine_3 18 rfl rfl)
theorem dX4_shelfLine_90 : decode cX4_shelfLine 90 = .ok (.iload_n 1, 1) := dk_27 (dk_at dksX4_shelfLine_3 20 rfl rfl)
theorem dX4_shelfLine_91 : decode cX4_shelfLine 91 = .ok (.imul, 1) := dk_104 (dk_at dksX4_shelfLine_3 21 rfl rfl)
theorem dX4_shelfLine_92 : decode cX4_shelfLine 92 = .ok (.iadd, 1) := dk_96 (dk_at dksX4_shelfLine_3 22 rfl rfl)
theorem dX4_shelfLine_93 : decode cX4_shelfLine 93 = .ok (.bipush 6, 2) := dk_16 6 (dk_at dksX4_shelfLine_4 0 rfl rfl)
theorem dX4_shelfLine_95 : decode cX4_shelfLine 95 = .ok (.iadd, 1) := dk_96 (dk_at dksX4_shelfLine_4 2 rfl rfl)
theorem dX4_shelfLine_96 : decode cX4_shelfLine 96 = .ok (.iload_n 2, 1) := dk_28 (dk_at dksX4_shelfLine_4 3 rfl rfl)
theorem dX4_shelfLine_97 : decode cX4_shelfLine 97 = .ok (.iconst 1, 1) := dk_4 (dk_at dksX4_shelfLine_4 4 rfl rfl)
theorem dX4_shelfLine_98 : decode cX4_shelfLine 98 = .ok (.iadd, 1) := dk_96 (dk_at dksX4_shelfLine_4 5 rfl rfl)
theorem dX4_shelfLine_99 : decode cX4_shelfLine 99 = .ok (.iastore, 1) := dk_79 (dk_at dksX4_shelfLine_4 6 rfl rfl)
theorem dX4_shelfLine_100 : decode cX4_shelfLine 100 = .ok (.aload_n 0, 1) := dk_42 (dk_at dksX4_shelfLine_4 7 rfl rfl)
theorem dX4_shelfLine_101 : decode cX4_shelfLine 101 = .ok (.getfield 23, 3) := dk_180 0 23 (dk_at dksX4_shelfLine_4 8 rfl rfl)
theorem dX4_shelfLine_104 : decode cX4_shelfLine 104 = .ok (.bipush 6, 2) := dk_16 6 (dk_at dksX4_shelfLine_4 11 rfl rfl)
theorem dX4_shelfLine_106 : decode cX4_shelfLine 106 = .ok (.dup2, 1) := dk_92 (dk_at dksX4_shelfLine_4 13 rfl rfl)
theorem dX4_shelfLine_107 : decode cX4_shelfLine 107 = .ok (.iaload, 1) := dk_46 (dk_at dksX4_shelfLine_4 14 rfl rfl)
theorem dX4_shelfLine_108 : decode cX4_shelfLine 108 = .ok (.iconst 1, 1) := dk_4 (dk_at dksX4_shelfLine_4 15 rfl rfl)
theorem dX4_shelfLine_109 : decode cX4_shelfLine 109 = .ok (.iadd, 1) := dk_96 (dk_at dksX4_shelfLine_4 16 rfl rfl)
theorem dX4_shelfLine_110 : decode cX4_shelfLine 110 = .ok (.iastore, 1) := dk_79 (dk_at dksX4_shelfLine_4 17 rfl rfl)
theorem dX4_shelfLine_111 : decode cX4_shelfLine 111 = .ok (.return_, 1) := dk_177 (dk_at dksX4_shelfLine_4 18 rfl rfl)
abbrev cX4_personHere : ByteArray := prog_24_method_24_code
def yX4_personHere : MethodName := ⟨RX4, "personHere", "()I"⟩
def dkwX4_personHere_0 : List UInt8 := [42, 16, 8, 16, 17, 182, 0, 151, 8, 100, 6, 100, 172]
abbrev dktX4_personHere_0 : List UInt8 := dkwX4_personHere_0 ++ []
theorem dksX4_personHere_0 : cX4_personHere.data.toList.drop 0 = dktX4_personHere_0 := by decide +kernel
theorem dX4_personHere_0 : decode cX4_personHere 0 = .ok (.aload_n 0, 1) := dk_42 (dk_at dksX4_personHere_0 0 rfl rfl)
theorem dX4_personHere_1 : decode cX4_personHere 1 = .ok (.bipush 8, 2) := dk_16 8 (dk_at dksX4_personHere_0 1 rfl rfl)
theorem dX4_personHere_3 : decode cX4_personHere 3 = .ok (.bipush 17, 2) := dk_16 17 (dk_at dksX4_personHere_0 3 rfl rfl)
theorem dX4_personHere_5 : decode cX4_personHere 5 = .ok (.invokevirtual 151, 3) := dk_182 0 151 (dk_at dksX4_personHere_0 5 rfl rfl)
theorem dX4_personHere_8 : decode cX4_personHere 8 = .ok (.iconst 5, 1) := dk_8 (dk_at dksX4_personHere_0 8 rfl rfl)
theorem dX4_personHere_9 : decode cX4_personHere 9 = .ok (.isub, 1) := dk_100 (dk_at dksX4_personHere_0 9 rfl rfl)
theorem dX4_personHere_10 : decode cX4_personHere 10 = .ok (.iconst 3, 1) := dk_6 (dk_at dksX4_personHere_0 10 rfl rfl)
theorem dX4_personHere_11 : decode cX4_personHere 11 = .ok (.isub, 1) := dk_100 (dk_at dksX4_personHere_0 11 rfl rfl)
theorem dX4_personHere_12 : decode cX4_personHere 12 = .ok (.ireturn, 1) := dk_172 (dk_at dksX4_personHere_0 12 rfl rfl)
abbrev cX4_saysLine : ByteArray := prog_24_method_37_code
def yX4_saysLine : MethodName := ⟨RX4, "saysLine", "()V"⟩
def dkwX4_saysLine_4 : List UInt8 := [182, 0, 119, 42, 180, 0, 23, 27, 5, 96, 28, 79, 42, 180, 0, 23, 16, 7, 92, 46, 4, 96, 79, 177]
abbrev dktX4_saysLine_4 : List UInt8 := dkwX4_saysLine_4 ++ []
def dkwX4_saysLine_3 : List UInt8 := [4, 96, 46, 160, 0, 12, 42, 6, 42, 180, 0, 79, 182, 0, 125, 42, 180, 0, 98, 153, 0, 4, 177, 42]
abbrev dktX4_saysLine_3 : List UInt8 := dkwX4_saysLine_3 ++ dktX4_saysLine_4
def dkwX4_saysLine_2 : List UInt8 := [19, 1, 20, 182, 0, 158, 42, 182, 0, 155, 61, 42, 180, 0, 98, 154, 0, 24, 28, 42, 180, 0, 23, 27]
abbrev dktX4_saysLine_2 : List UInt8 := dkwX4_saysLine_2 ++ dktX4_saysLine_3
def dkwX4_saysLine_1 : List UInt8 := [180, 0, 23, 27, 42, 182, 1, 17, 79, 42, 180, 0, 23, 27, 4, 96, 42, 182, 1, 17, 79, 42]
abbrev dktX4_saysLine_1 : List UInt8 := dkwX4_saysLine_1 ++ dktX4_saysLine_2
def dkwX4_saysLine_0 : List UInt8 := [42, 180, 0, 98, 153, 0, 4, 177, 17, 0, 161, 6, 42, 180, 0, 23, 16, 7, 46, 104, 96, 60, 42]
abbrev dktX4_saysLine_0 : List UInt8 := dkwX4_saysLine_0 ++ dktX4_saysLine_1
theorem dksX4_saysLine_0 : cX4_saysLine.data.toList.drop 0 = dktX4_saysLine_0 := by decide +kernel
theorem dksX4_saysLine_1 : cX4_saysLine.data.toList.drop 23 = dktX4_saysLine_1 := dk_seg dksX4_saysLine_0 23 rfl rfl
theorem dksX4_saysLine_2 : cX4_saysLine.data.toList.drop 45 = dktX4_saysLine_2 := dk_seg dksX4_saysLine_1 22 rfl rfl
theorem dksX4_saysLine_3 : cX4_saysLine.data.toList.drop 69 = dktX4_saysLine_3 := dk_seg dksX4_saysLine_2 24 rfl rfl
theorem dksX4_saysLine_4 : cX4_saysLine.data.toList.drop 93 = dktX4_saysLine_4 := dk_seg dksX4_saysLine_3 24 rfl rfl
theorem dX4_saysLine_0 : decode cX4_saysLine 0 = .ok (.aload_n 0, 1) := dk_42 (dk_at dksX4_saysLine_0 0 rfl rfl)
theorem dX4_saysLine_1 : decode cX4_saysLine 1 = .ok (.getfield 98, 3) := dk_180 0 98 (dk_at dksX4_saysLine_0 1 rfl rfl)
theorem dX4_saysLine_4 : decode cX4_saysLine 4 = .ok (.ifCond .eq 4, 3) := dk_153 0 4 (dk_at dksX4_saysLine_0 4 rfl rfl)
theorem dX4_saysLine_7 : decode cX4_saysLine 7 = .ok (.return_, 1) := dk_177 (dk_at dksX4_saysLine_0 7 rfl rfl)
theorem dX4_saysLine_8 : decode cX4_saysLine 8 = .ok (.sipush 161, 3) := dk_17 0 161 (dk_at dksX4_saysLine_0 8 rfl rfl)
theorem dX4_saysLine_11 : decode cX4_saysLine 11 = .ok (.iconst 3, 1) := dk_6 (dk_at dksX4_saysLine_0 11 rfl rfl)
theorem dX4_saysLine_12 : decode cX4_saysLine 12 = .ok (.aload_n 0, 1) := dk_42 (dk_at dksX4_saysLine_0 12 rfl rfl)
theorem dX4_saysLine_13 : decode cX4_saysLine 13 = .ok (.getfield 23, 3) := dk_180 0 23 (dk_at dksX4_saysLine_0 13 rfl rfl)
theorem dX4_saysLine_16 : decode cX4_saysLine 16 = .ok (.bipush 7, 2) := dk_16 7 (dk_at dksX4_saysLine_0 16 rfl rfl)
theorem dX4_saysLine_18 : decode cX4_saysLine 18 = .ok (.iaload, 1) := dk_46 (dk_at dksX4_saysLine_0 18 rfl rfl)
theorem dX4_saysLine_19 : decode cX4_saysLine 19 = .ok (.imul, 1) := dk_104 (dk_at dksX4_saysLine_0 19 rfl rfl)
theorem dX4_saysLine_20 : decode cX4_saysLine 20 = .ok (.iadd, 1) := dk_96 (dk_at dksX4_saysLine_0 20 rfl rfl)
theorem dX4_saysLine_21 : decode cX4_saysLine 21 = .ok (.istore_n 1, 1) := dk_60 (dk_at dksX4_saysLine_0 21 rfl rfl)
theorem dX4_saysLine_22 : decode cX4_saysLine 22 = .ok (.aload_n 0, 1) := dk_42 (dk_at dksX4_saysLine_0 22 rfl rfl)
theorem dX4_saysLine_23 : decode cX4_saysLine 23 = .ok (.getfield 23, 3) := dk_180 0 23 (dk_at dksX4_saysLine_1 0 rfl rfl)
theorem dX4_saysLine_26 : decode cX4_saysLine 26 = .ok (.iload_n 1, 1) := dk_27 (dk_at dksX4_saysLine_1 3 rfl rfl)
theorem dX4_saysLine_27 : decode cX4_saysLine 27 = .ok (.aload_n 0, 1) := dk_42 (dk_at dksX4_saysLine_1 4 rfl rfl)
theorem dX4_saysLine_28 : decode cX4_saysLine 28 = .ok (.invokevirtual 273, 3) := dk_182 1 17 (dk_at dksX4_saysLine_1 5 rfl rfl)
theorem dX4_saysLine_31 : decode cX4_saysLine 31 = .ok (.iastore, 1) := dk_79 (dk_at dksX4_saysLine_1 8 rfl rfl)
theorem dX4_saysLine_32 : decode cX4_saysLine 32 = .ok (.aload_n 0, 1) := dk_42 (dk_at dksX4_saysLine_1 9 rfl rfl)
theorem dX4_saysLine_33 : decode cX4_saysLine 33 = .ok (.getfield 23, 3) := dk_180 0 23 (dk_at dksX4_saysLine_1 10 rfl rfl)
theorem dX4_saysLine_36 : decode cX4_saysLine 36 = .ok (.iload_n 1, 1) := dk_27 (dk_at dksX4_saysLine_1 13 rfl rfl)
theorem dX4_saysLine_37 : decode cX4_saysLine 37 = .ok (.iconst 1, 1) := dk_4 (dk_at dksX4_saysLine_1 14 rfl rfl)
theorem dX4_saysLine_38 : decode cX4_saysLine 38 = .ok (.iadd, 1) := dk_96 (dk_at dksX4_saysLine_1 15 rfl rfl)
theorem dX4_saysLine_39 : decode cX4_saysLine 39 = .ok (.aload_n 0, 1) := dk_42 (dk_at dksX4_saysLine_1 16 rfl rfl)
theorem dX4_saysLine_40 : decode cX4_saysLine 40 = .ok (.invokevirtual 273, 3) := dk_182 1 17 (dk_at dksX4_saysLine_1 17 rfl rfl)
theorem dX4_saysLine_43 : decode cX4_saysLine 43 = .ok (.iastore, 1) := dk_79 (dk_at dksX4_saysLine_1 20 rfl rfl)
theorem dX4_saysLine_44 : decode cX4_saysLine 44 = .ok (.aload_n 0, 1) := dk_42 (dk_at dksX4_saysLine_1 21 rfl rfl)
theorem dX4_saysLine_45 : decode cX4_saysLine 45 = .ok (.ldc_w 276, 3) := dk_19 1 20 (dk_at dksX4_saysLine_2 0 rfl rfl)
theorem dX4_saysLine_48 : decode cX4_saysLine 48 = .ok (.invokevirtual 158, 3) := dk_182 0 158 (dk_at dksX4_saysLine_2 3 rfl rfl)
theorem dX4_saysLine_51 : decode cX4_saysLine 51 = .ok (.aload_n 0, 1) := dk_42 (dk_at dksX4_saysLine_2 6 rfl rfl)
theorem dX4_saysLine_52 : decode cX4_saysLine 52 = .ok (.invokevirtual 155, 3) := dk_182 0 155 (dk_at dksX4_saysLine_2 7 rfl rfl)
theorem dX4_saysLine_55 : decode cX4_saysLine 55 = .ok (.istore_n 2, 1) := dk_61 (dk_at dksX4_saysLine_2 10 rfl rfl)
theorem dX4_saysLine_56 : decode cX4_saysLine 56 = .ok (.aload_n 0, 1) := dk_42 (dk_at dksX4_saysLine_2 11 rfl rfl)
theorem dX4_saysLine_57 : decode cX4_saysLine 57 = .ok (.getfield 98, 3) := dk_180 0 98 (dk_at dksX4_saysLine_2 12 rfl rfl)
theorem dX4_saysLine_60 : decode cX4_saysLine 60 = .ok (.ifCond .ne 24, 3) := dk_154 0 24 (dk_at dksX4_saysLine_2 15 rfl rfl)
theorem dX4_saysLine_63 : decode cX4_saysLine 63 = .ok (.iload_n 2, 1) := dk_28 (dk_at dksX4_saysLine_2 18 rfl rfl)
theorem dX4_saysLine_64 : decode cX4_saysLine 64 = .ok (.aload_n 0, 1) := dk_42 (dk_at dksX4_saysLine_2 19 rfl rfl)
theorem dX4_saysLine_65 : decode cX4_saysLine 65 = .ok (.getfield 23, 3) := dk_180 0 23 (dk_at dksX4_saysLine_2 20 rfl rfl)
theorem dX4_saysLine_68 : decode cX4_saysLine 68 = .ok (.iload_n 1, 1) := dk_27 (dk_at dksX4_saysLine_2 23 rfl rfl)
theorem dX4_saysLine_69 : decode cX4_saysLine 69 = .ok (.iconst 1, 1) := dk_4 (dk_at dksX4_saysLine_3 0 rfl rfl)
theorem dX4_saysLine_70 : decode cX4_saysLine 70 = .ok (.iadd, 1) := dk_96 (dk_at dksX4_saysLine_3 1 rfl rfl)
theorem dX4_saysLine_71 : decode cX4_saysLine 71 = .ok (.iaload, 1) := dk_46 (dk_at dksX4_saysLine_3 2 rfl rfl)
theorem dX4_saysLine_72 : decode cX4_saysLine 72 = .ok (.if_icmp .ne 12, 3) := dk_160 0 12 (dk_at dksX4_saysLine_3 3 rfl rfl)
theorem dX4_saysLine_75 : decode cX4_saysLine 75 = .ok (.aload_n 0, 1) := dk_42 (dk_at dksX4_saysLine_3 6 rfl rfl)
theorem dX4_saysLine_76 : decode cX4_saysLine 76 = .ok (.iconst 3, 1) := dk_6 (dk_at dksX4_saysLine_3 7 rfl rfl)
theorem dX4_saysLine_77 : decode cX4_saysLine 77 = .ok (.aload_n 0, 1) := dk_42 (dk_at dksX4_saysLine_3 8 rfl rfl)
theorem dX4_saysLine_78 : decode cX4_saysLine 78 = .ok (.getfield 79, 3) := dk_180 0 79 (dk_at dksX4_saysLine_3 9 rfl rfl)
theorem dX4_saysLine_81 : decode cX4_saysLine 81 = .ok (.invokevirtual 125, 3) := dk_182 0 125 (dk_at dksX4_saysLine_3 12 rfl rfl)
theorem dX4_saysLine_84 : decode cX4_saysLine 84 = .ok (.aload_n 0, 1) := dk_42 (dk_at dksX4_saysLine_3 15 rfl rfl)
theorem dX4_saysLine_85 : decode cX4_saysLine 85 = .ok (.getfield 98, 3) := dk_180 0 98 (dk_at dksX4_saysLine_3 16 rfl rfl)
theorem dX4_saysLine_88 : decode cX4_saysLine 88 = .ok (.ifCond .eq 4, 3) := dk_153 0 4 (dk_at dksX4_saysLine_3 19 rfl rfl)
theorem dX4_saysLine_91 : decode cX4_saysLine 91 = .ok (.return_, 1) := dk_177 (dk_at dksX4_saysLine_3 22 rfl rfl)
theorem dX4_saysLine_92 : decode cX4_saysLine 92 = .ok (.aload_n 0, 1) := dk_42 (dk_at dksX4_saysLine_3 23 rfl rfl)
theorem dX4_saysLine_93 : decode cX4_saysLine 93 = .ok (.invokevirtual 119, 3) := dk_182 0 119 (dk_at dksX4_saysLine_4 0 rfl rfl)
theorem dX4_saysLine_96 : decode cX4_saysLine 96 = .ok (.aload_n 0, 1) := dk_42 (dk_at dksX4_saysLine_4 3 rfl rfl)
theorem dX4_saysLine_97 : decode cX4_saysLine 97 = .ok (.getfield 23, 3) := dk_180 0 23 (dk_at dksX4_saysLine_4 4 rfl rfl)
theorem dX4_saysLine_100 : decode cX4_saysLine 100 = .ok (.iload_n 1, 1) := dk_27 (dk_at dksX4_saysLine_4 7 rfl rfl)
theorem dX4_saysLine_101 : decode cX4_saysLine 101 = .ok (.iconst 2, 1) := dk_5 (dk_at dksX4_saysLine_4 8 rfl rfl)
theorem dX4_saysLine_102 : decode cX4_saysLine 102 = .ok (.iadd, 1) := dk_96 (dk_at dksX4_saysLine_4 9 rfl rfl)
theorem dX4_saysLine_103 : decode cX4_saysLine 103 = .ok (.iload_n 2, 1) := dk_28 (dk_at dksX4_saysLine_4 10 rfl rfl)
theorem dX4_saysLine_104 : decode cX4_saysLine 104 = .ok (.iastore, 1) := dk_79 (dk_at dksX4_saysLine_4 11 rfl rfl)
theorem dX4_saysLine_105 : decode cX4_saysLine 105 = .ok (.aload_n 0, 1) := dk_42 (dk_at dksX4_saysLine_4 12 rfl rfl)
theorem dX4_saysLine_106 : decode cX4_saysLine 106 = .ok (.getfield 23, 3) := dk_180 0 23 (dk_at dksX4_saysLine_4 13 rfl rfl)
theorem dX4_saysLine_109 : decode cX4_saysLine 109 = .ok (.bipush 7, 2) := dk_16 7 (dk_at dksX4_saysLine_4 16 rfl rfl)
theorem dX4_saysLine_111 : decode cX4_saysLine 111 = .ok (.dup2, 1) := dk_92 (dk_at dksX4_saysLine_4 18 rfl rfl)
theorem dX4_saysLine_112 : decode cX4_saysLine 112 = .ok (.iaload, 1) := dk_46 (dk_at dksX4_saysLine_4 19 rfl rfl)
theorem dX4_saysLine_113 : decode cX4_saysLine 113 = .ok (.iconst 1, 1) := dk_4 (dk_at dksX4_saysLine_4 20 rfl rfl)
theorem dX4_saysLine_114 : decode cX4_saysLine 114 = .ok (.iadd, 1) := dk_96 (dk_at dksX4_saysLine_4 21 rfl rfl)
theorem dX4_saysLine_115 : decode cX4_saysLine 115 = .ok (.iastore, 1) := dk_79 (dk_at dksX4_saysLine_4 22 rfl rfl)
theorem dX4_saysLine_116 : decode cX4_saysLine 116 = .ok (.return_, 1) := dk_177 (dk_at dksX4_saysLine_4 23 rfl rfl)
abbrev cX4_personPassed : ByteArray := prog_24_method_25_code
def yX4_personPassed : MethodName := ⟨RX4, "personPassed", "()I"⟩
def dkwX4_personPassed_0 : List UInt8 := [42, 182, 0, 155, 60, 42, 180, 0, 98, 154, 0, 7, 42, 182, 0, 119, 27, 172]
abbrev dktX4_personPassed_0 : List UInt8 := dkwX4_personPassed_0 ++ []
theorem dksX4_personPassed_0 : cX4_personPassed.data.toList.drop 0 = dktX4_personPassed_0 := by decide +kernel
theorem dX4_personPassed_0 : decode cX4_personPassed 0 = .ok (.aload_n 0, 1) := dk_42 (dk_at dksX4_personPassed_0 0 rfl rfl)
theorem dX4_personPassed_1 : decode cX4_personPassed 1 = .ok (.invokevirtual 155, 3) := dk_182 0 155 (dk_at dksX4_personPassed_0 1 rfl rfl)
theorem dX4_personPassed_4 : decode cX4_personPassed 4 = .ok (.istore_n 1, 1) := dk_60 (dk_at dksX4_personPassed_0 4 rfl rfl)
theorem dX4_personPassed_5 : decode cX4_personPassed 5 = .ok (.aload_n 0, 1) := dk_42 (dk_at dksX4_personPassed_0 5 rfl rfl)
theorem dX4_personPassed_6 : decode cX4_personPassed 6 = .ok (.getfield 98, 3) := dk_180 0 98 (dk_at dksX4_personPassed_0 6 rfl rfl)
theorem dX4_personPassed_9 : decode cX4_personPassed 9 = .ok (.ifCond .ne 7, 3) := dk_154 0 7 (dk_at dksX4_personPassed_0 9 rfl rfl)
theorem dX4_personPassed_12 : decode cX4_personPassed 12 = .ok (.aload_n 0, 1) := dk_42 (dk_at dksX4_personPassed_0 12 rfl rfl)
theorem dX4_personPassed_13 : decode cX4_personPassed 13 = .ok (.invokevirtual 119, 3) := dk_182 0 119 (dk_at dksX4_personPassed_0 13 rfl rfl)
theorem dX4_personPassed_16 : decode cX4_personPassed 16 = .ok (.iload_n 1, 1) := dk_27 (dk_at dksX4_personPassed_0 16 rfl rfl)
theorem dX4_personPassed_17 : decode cX4_personPassed 17 = .ok (.ireturn, 1) := dk_172 (dk_at dksX4_personPassed_0 17 rfl rfl)
abbrev cX4_copy : ByteArray := prog_24_method_10_code
def yX4_copy : MethodName := ⟨RX4, "copy", "([II[III)V"⟩
def dkwX4_copy_1 : List UInt8 := [132, 5, 1, 167, 255, 234, 177]
abbrev dktX4_copy_1 : List UInt8 := dkwX4_copy_1 ++ []
def dkwX4_copy_0 : List UInt8 := [3, 54, 5, 21, 5, 21, 4, 162, 0, 21, 44, 29, 21, 5, 96, 42, 27, 21, 5, 96, 46, 79]
abbrev dktX4_copy_0 : List UInt8 := dkwX4_copy_0 ++ dktX4_copy_1
theorem dksX4_copy_0 : cX4_copy.data.toList.drop 0 = dktX4_copy_0 := by decide +kernel
theorem dksX4_copy_1 : cX4_copy.data.toList.drop 22 = dktX4_copy_1 := dk_seg dksX4_copy_0 22 rfl rfl
theorem dX4_copy_0 : decode cX4_copy 0 = .ok (.iconst 0, 1) := dk_3 (dk_at dksX4_copy_0 0 rfl rfl)
theorem dX4_copy_1 : decode cX4_copy 1 = .ok (.istore 5, 2) := dk_54 5 (dk_at dksX4_copy_0 1 rfl rfl)
theorem dX4_copy_3 : decode cX4_copy 3 = .ok (.iload 5, 2) := dk_21 5 (dk_at dksX4_copy_0 3 rfl rfl)
theorem dX4_copy_5 : decode cX4_copy 5 = .ok (.iload 4, 2) := dk_21 4 (dk_at dksX4_copy_0 5 rfl rfl)
theorem dX4_copy_7 : decode cX4_copy 7 = .ok (.if_icmp .ge 21, 3) := dk_162 0 21 (dk_at dksX4_copy_0 7 rfl rfl)
theorem dX4_copy_10 : decode cX4_copy 10 = .ok (.aload_n 2, 1) := dk_44 (dk_at dksX4_copy_0 10 rfl rfl)
theorem dX4_copy_11 : decode cX4_copy 11 = .ok (.iload_n 3, 1) := dk_29 (dk_at dksX4_copy_0 11 rfl rfl)
theorem dX4_copy_12 : decode cX4_copy 12 = .ok (.iload 5, 2) := dk_21 5 (dk_at dksX4_copy_0 12 rfl rfl)
theorem dX4_copy_14 : decode cX4_copy 14 = .ok (.iadd, 1) := dk_96 (dk_at dksX4_copy_0 14 rfl rfl)
theorem dX4_copy_15 : decode cX4_copy 15 = .ok (.aload_n 0, 1) := dk_42 (dk_at dksX4_copy_0 15 rfl rfl)
theorem dX4_copy_16 : decode cX4_copy 16 = .ok (.iload_n 1, 1) := dk_27 (dk_at dksX4_copy_0 16 rfl rfl)
theorem dX4_copy_17 : decode cX4_copy 17 = .ok (.iload 5, 2) := dk_21 5 (dk_at dksX4_copy_0 17 rfl rfl)
theorem dX4_copy_19 : decode cX4_copy 19 = .ok (.iadd, 1) := dk_96 (dk_at dksX4_copy_0 19 rfl rfl)
theorem dX4_copy_20 : decode cX4_copy 20 = .ok (.iaload, 1) := dk_46 (dk_at dksX4_copy_0 20 rfl rfl)
theorem dX4_copy_21 : decode cX4_copy 21 = .ok (.iastore, 1) := dk_79 (dk_at dksX4_copy_0 21 rfl rfl)
theorem dX4_copy_22 : decode cX4_copy 22 = .ok (.iinc 5 1, 3) := dk_132 5 1 (dk_at dksX4_copy_1 0 rfl rfl)
theorem dX4_copy_25 : decode cX4_copy 25 = .ok (.goto (-22), 3) := dk_167 255 234 (dk_at dksX4_copy_1 3 rfl rfl)
theorem dX4_copy_28 : decode cX4_copy 28 = .ok (.return_, 1) := dk_177 (dk_at dksX4_copy_1 6 rfl rfl)
abbrev cX4_asTold : ByteArray := prog_24_method_45_code
def yX4_asTold : MethodName := ⟨RX4, "asTold", "()V"⟩
def dkwX4_asTold_1 : List UInt8 := [184, 0, 174, 42, 180, 0, 20, 16, 41, 42, 180, 0, 41, 3, 16, 70, 184, 0, 174, 177]
abbrev dktX4_asTold_1 : List UInt8 := dkwX4_asTold_1 ++ []
def dkwX4_asTold_0 : List UInt8 := [42, 42, 180, 0, 20, 7, 46, 181, 1, 22, 42, 180, 0, 20, 16, 23, 42, 180, 0, 38, 3, 16, 18]
abbrev dktX4_asTold_0 : List UInt8 := dkwX4_asTold_0 ++ dktX4_asTold_1
theorem dksX4_asTold_0 : cX4_asTold.data.toList.drop 0 = dktX4_asTold_0 := by decide +kernel
theorem dksX4_asTold_1 : cX4_asTold.data.toList.drop 23 = dktX4_asTold_1 := dk_seg dksX4_asTold_0 23 rfl rfl
theorem dX4_asTold_0 : decode cX4_asTold 0 = .ok (.aload_n 0, 1) := dk_42 (dk_at dksX4_asTold_0 0 rfl rfl)
theorem dX4_asTold_1 : decode cX4_asTold 1 = .ok (.aload_n 0, 1) := dk_42 (dk_at dksX4_asTold_0 1 rfl rfl)
theorem dX4_asTold_2 : decode cX4_asTold 2 = .ok (.getfield 20, 3) := dk_180 0 20 (dk_at dksX4_asTold_0 2 rfl rfl)
theorem dX4_asTold_5 : decode cX4_asTold 5 = .ok (.iconst 4, 1) := dk_7 (dk_at dksX4_asTold_0 5 rfl rfl)
theorem dX4_asTold_6 : decode cX4_asTold 6 = .ok (.iaload, 1) := dk_46 (dk_at dksX4_asTold_0 6 rfl rfl)
theorem dX4_asTold_7 : decode cX4_asTold 7 = .ok (.putfield 278, 3) := dk_181 1 22 (dk_at dksX4_asTold_0 7 rfl rfl)
theorem dX4_asTold_10 : decode cX4_asTold 10 = .ok (.aload_n 0, 1) := dk_42 (dk_at dksX4_asTold_0 10 rfl rfl)
theorem dX4_asTold_11 : decode cX4_asTold 11 = .ok (.getfield 20, 3) := dk_180 0 20 (dk_at dksX4_asTold_0 11 rfl rfl)
theorem dX4_asTold_14 : decode cX4_asTold 14 = .ok (.bipush 23, 2) := dk_16 23 (dk_at dksX4_asTold_0 14 rfl rfl)
theorem dX4_asTold_16 : decode cX4_asTold 16 = .ok (.aload_n 0, 1) := dk_42 (dk_at dksX4_asTold_0 16 rfl rfl)
theorem dX4_asTold_17 : decode cX4_asTold 17 = .ok (.getfield 38, 3) := dk_180 0 38 (dk_at dksX4_asTold_0 17 rfl rfl)
theorem dX4_asTold_20 : decode cX4_asTold 20 = .ok (.iconst 0, 1) := dk_3 (dk_at dksX4_asTold_0 20 rfl rfl)
theorem dX4_asTold_21 : decode cX4_asTold 21 = .ok (.bipush 18, 2) := dk_16 18 (dk_at dksX4_asTold_0 21 rfl rfl)
theorem dX4_asTold_23 : decode cX4_asTold 23 = .ok (.invokestatic 174, 3) := dk_184 0 174 (dk_at dksX4_asTold_1 0 rfl rfl)
theorem dX4_asTold_26 : decode cX4_asTold 26 = .ok (.aload_n 0, 1) := dk_42 (dk_at dksX4_asTold_1 3 rfl rfl)
theorem dX4_asTold_27 : decode cX4_asTold 27 = .ok (.getfield 20, 3) := dk_180 0 20 (dk_at dksX4_asTold_1 4 rfl rfl)
theorem dX4_asTold_30 : decode cX4_asTold 30 = .ok (.bipush 41, 2) := dk_16 41 (dk_at dksX4_asTold_1 7 rfl rfl)
theorem dX4_asTold_32 : decode cX4_asTold 32 = .ok (.aload_n 0, 1) := dk_42 (dk_at dksX4_asTold_1 9 rfl rfl)
theorem dX4_asTold_33 : decode cX4_asTold 33 = .ok (.getfield 41, 3) := dk_180 0 41 (dk_at dksX4_asTold_1 10 rfl rfl)
theorem dX4_asTold_36 : decode cX4_asTold 36 = .ok (.iconst 0, 1) := dk_3 (dk_at dksX4_asTold_1 13 rfl rfl)
theorem dX4_asTold_37 : decode cX4_asTold 37 = .ok (.bipush 70, 2) := dk_16 70 (dk_at dksX4_asTold_1 14 rfl rfl)
theorem dX4_asTold_39 : decode cX4_asTold 39 = .ok (.invokestatic 174, 3) := dk_184 0 174 (dk_at dksX4_asTold_1 16 rfl rfl)
theorem dX4_asTold_42 : decode cX4_asTold 42 = .ok (.return_, 1) := dk_177 (dk_at dksX4_asTold_1 19 rfl rfl)
abbrev cX4_layFirst : ByteArray := prog_24_method_48_code
def yX4_layFirst : MethodName := ⟨RX4, "layFirst", "([I)V"⟩
def dkwX4_layFirst_6 : List UInt8 := [177]
abbrev dktX4_layFirst_6 : List UInt8 := dkwX4_layFirst_6 ++ []
def dkwX4_layFirst_5 : List UInt8 := [16, 92, 7, 28, 104, 96, 42, 180, 0, 38, 16, 6, 28, 104, 4, 96, 46, 79, 132, 2, 1, 167, 255, 226]
abbrev dktX4_layFirst_5 : List UInt8 := dkwX4_layFirst_5 ++ dktX4_layFirst_6
def dkwX4_layFirst_4 : List UInt8 := [29, 16, 7, 96, 16, 254, 79, 132, 2, 1, 167, 255, 173, 3, 61, 28, 42, 180, 1, 22, 162, 0, 28, 43]
abbrev dktX4_layFirst_4 : List UInt8 := dkwX4_layFirst_4 ++ dktX4_layFirst_5
def dkwX4_layFirst_3 : List UInt8 := [79, 43, 29, 7, 96, 16, 254, 79, 43, 29, 8, 96, 16, 254, 79, 43, 29, 16, 6, 96, 16, 254, 79, 43]
abbrev dktX4_layFirst_3 : List UInt8 := dkwX4_layFirst_3 ++ dktX4_layFirst_4
def dkwX4_layFirst_2 : List UInt8 := [182, 1, 25, 79, 43, 29, 5, 96, 42, 28, 8, 182, 1, 25, 79, 43, 29, 6, 96, 42, 28, 182, 1, 28]
abbrev dktX4_layFirst_2 : List UInt8 := dkwX4_layFirst_2 ++ dktX4_layFirst_3
def dkwX4_layFirst_1 : List UInt8 := [180, 0, 20, 8, 46, 162, 0, 79, 16, 12, 16, 8, 28, 104, 96, 62, 43, 29, 4, 96, 42, 28, 6]
abbrev dktX4_layFirst_1 : List UInt8 := dkwX4_layFirst_1 ++ dktX4_layFirst_2
def dkwX4_layFirst_0 : List UInt8 := [3, 61, 28, 16, 108, 162, 0, 13, 43, 28, 3, 79, 132, 2, 1, 167, 255, 243, 3, 61, 28, 42]
abbrev dktX4_layFirst_0 : List UInt8 := dkwX4_layFirst_0 ++ dktX4_layFirst_1
theorem dksX4_layFirst_0 : cX4_layFirst.data.toList.drop 0 = dktX4_layFirst_0 := by decide +kernel
theorem dksX4_layFirst_1 : cX4_layFirst.data.toList.drop 22 = dktX4_layFirst_1 := dk_seg dksX4_layFirst_0 22 rfl rfl
theorem dksX4_layFirst_2 : cX4_layFirst.data.toList.drop 45 = dktX4_layFirst_2 := dk_seg dksX4_layFirst_1 23 rfl rfl
theorem dksX4_layFirst_3 : cX4_layFirst.data.toList.drop 69 = dktX4_layFirst_3 := dk_seg dksX4_layFirst_2 24 rfl rfl
theorem dksX4_layFirst_4 : cX4_layFirst.data.toList.drop 93 = dktX4_layFirst_4 := dk_seg dksX4_layFirst_3 24 rfl rfl
theorem dksX4_layFirst_5 : cX4_layFirst.data.toList.drop 117 = dktX4_layFirst_5 := dk_seg dksX4_layFirst_4 24 rfl rfl
theorem dksX4_layFirst_6 : cX4_layFirst.data.toList.drop 141 = dktX4_layFirst_6 := dk_seg dksX4_layFirst_5 24 rfl rfl
theorem dX4_layFirst_0 : decode cX4_layFirst 0 = .ok (.iconst 0, 1) := dk_3 (dk_at dksX4_layFirst_0 0 rfl rfl)
theorem dX4_layFirst_1 : decode cX4_layFirst 1 = .ok (.istore_n 2, 1) := dk_61 (dk_at dksX4_layFirst_0 1 rfl rfl)
theorem dX4_layFirst_2 : decode cX4_layFirst 2 = .ok (.iload_n 2, 1) := dk_28 (dk_at dksX4_layFirst_0 2 rfl rfl)
theorem dX4_layFirst_3 : decode cX4_layFirst 3 = .ok (.bipush 108, 2) := dk_16 108 (dk_at dksX4_layFirst_0 3 rfl rfl)
theorem dX4_layFirst_5 : decode cX4_layFirst 5 = .ok (.if_icmp .ge 13, 3) := dk_162 0 13 (dk_at dksX4_layFirst_0 5 rfl rfl)
theorem dX4_layFirst_8 : decode cX4_layFirst 8 = .ok (.aload_n 1, 1) := dk_43 (dk_at dksX4_layFirst_0 8 rfl rfl)
theorem dX4_layFirst_9 : decode cX4_layFirst 9 = .ok (.iload_n 2, 1) := dk_28 (dk_at dksX4_layFirst_0 9 rfl rfl)
theorem dX4_layFirst_10 : decode cX4_layFirst 10 = .ok (.iconst 0, 1) := dk_3 (dk_at dksX4_layFirst_0 10 rfl rfl)
theorem dX4_layFirst_11 : decode cX4_layFirst 11 = .ok (.iastore, 1) := dk_79 (dk_at dksX4_layFirst_0 11 rfl rfl)
theorem dX4_layFirst_12 : decode cX4_layFirst 12 = .ok (.iinc 2 1, 3) := dk_132 2 1 (dk_at dksX4_layFirst_0 12 rfl rfl)
theorem dX4_layFirst_15 : decode cX4_layFirst 15 = .ok (.goto (-13), 3) := dk_167 255 243 (dk_at dksX4_layFirst_0 15 rfl rfl)
theorem dX4_layFirst_18 : decode cX4_layFirst 18 = .ok (.iconst 0, 1) := dk_3 (dk_at dksX4_layFirst_0 18 rfl rfl)
theorem dX4_layFirst_19 : decode cX4_layFirst 19 = .ok (.istore_n 2, 1) := dk_61 (dk_at dksX4_layFirst_0 19 rfl rfl)
theorem dX4_layFirst_20 : decode cX4_layFirst 20 = .ok (.iload_n 2, 1) := dk_28 (dk_at dksX4_layFirst_0 20 rfl rfl)
theorem dX4_layFirst_21 : decode cX4_layFirst 21 = .ok (.aload_n 0, 1) := dk_42 (dk_at dksX4_layFirst_0 21 rfl rfl)
theorem dX4_layFirst_22 : decode cX4_layFirst 22 = .ok (.getfield 20, 3) := dk_180 0 20 (dk_at dksX4_layFirst_1 0 rfl rfl)
theorem dX4_layFirst_25 : decode cX4_layFirst 25 = .ok (.iconst 5, 1) := dk_8 (dk_at dksX4_layFirst_1 3 rfl rfl)
theorem dX4_layFirst_26 : decode cX4_layFirst 26 = .ok (.iaload, 1) := dk_46 (dk_at dksX4_layFirst_1 4 rfl rfl)
theorem dX4_layFirst_27 : decode cX4_layFirst 27 = .ok (.if_icmp .ge 79, 3) := dk_162 0 79 (dk_at dksX4_layFirst_1 5 rfl rfl)
theorem dX4_layFirst_30 : decode cX4_layFirst 30 = .ok (.bipush 12, 2) := dk_16 12 (dk_at dksX4_layFirst_1 8 rfl rfl)
theorem dX4_layFirst_32 : decode cX4_layFirst 32 = .ok (.bipush 8, 2) := dk_16 8 (dk_at dksX4_layFirst_1 10 rfl rfl)
theorem dX4_layFirst_34 : decode cX4_layFirst 34 = .ok (.iload_n 2, 1) := dk_28 (dk_at dksX4_layFirst_1 12 rfl rfl)
theorem dX4_layFirst_35 : decode cX4_layFirst 35 = .ok (.imul, 1) := dk_104 (dk_at dksX4_layFirst_1 13 rfl rfl)
theorem dX4_layFirst_36 : decode cX4_layFirst 36 = .ok (.iadd, 1) := dk_96 (dk_at dksX4_layFirst_1 14 rfl rfl)
theorem dX4_layFirst_37 : decode cX4_layFirst 37 = .ok (.istore_n 3, 1) := dk_62 (dk_at dksX4_layFirst_1 15 rfl rfl)
theorem dX4_layFirst_38 : decode cX4_layFirst 38 = .ok (.aload_n 1, 1) := dk_43 (dk_at dksX4_layFirst_1 16 rfl rfl)
theorem dX4_layFirst_39 : decode cX4_layFirst 39 = .ok (.iload_n 3, 1) := dk_29 (dk_at dksX4_layFirst_1 17 rfl rfl)
theorem dX4_layFirst_40 : decode cX4_layFirst 40 = .ok (.iconst 1, 1) := dk_4 (dk_at dksX4_layFirst_1 18 rfl rfl)
theorem dX4_layFirst_41 : decode cX4_layFirst 41 = .ok (.iadd, 1) := dk_96 (dk_at dksX4_layFirst_1 19 rfl rfl)
theorem dX4_layFirst_42 : decode cX4_layFirst 42 = .ok (.aload_n 0, 1) := dk_42 (dk_at dksX4_layFirst_1 20 rfl rfl)
theorem dX4_layFirst_43 : decode cX4_layFirst 43 = .ok (.iload_n 2, 1) := dk_28 (dk_at dksX4_layFirst_1 21 rfl rfl)
theorem dX4_layFirst_44 : decode cX4_layFirst 44 = .ok (.iconst 3, 1) := dk_6 (dk_at dksX4_layFirst_1 22 rfl rfl)
theorem dX4_layFirst_45 : decode cX4_layFirst 45 = .ok (.invokevirtual 281, 3) := dk_182 1 25 (dk_at dksX4_layFirst_2 0 rfl rfl)
theorem dX4_layFirst_48 : decode cX4_layFirst 48 = .ok (.iastore, 1) := dk_79 (dk_at dksX4_layFirst_2 3 rfl rfl)
theorem dX4_layFirst_49 : decode cX4_layFirst 49 = .ok (.aload_n 1, 1) := dk_43 (dk_at dksX4_layFirst_2 4 rfl rfl)
theorem dX4_layFirst_50 : decode cX4_layFirst 50 = .ok (.iload_n 3, 1) := dk_29 (dk_at dksX4_layFirst_2 5 rfl rfl)
theorem dX4_layFirst_51 : decode cX4_layFirst 51 = .ok (.iconst 2, 1) := dk_5 (dk_at dksX4_layFirst_2 6 rfl rfl)
theorem dX4_layFirst_52 : decode cX4_layFirst 52 = .ok (.iadd, 1) := dk_96 (dk_at dksX4_layFirst_2 7 rfl rfl)
theorem dX4_layFirst_53 : decode cX4_layFirst 53 = .ok (.aload_n 0, 1) := dk_42 (dk_at dksX4_layFirst_2 8 rfl rfl)
theorem dX4_layFirst_54 : decode cX4_layFirst 54 = .ok (.iload_n 2, 1) := dk_28 (dk_at dksX4_layFirst_2 9 rfl rfl)
theorem dX4_layFirst_55 : decode cX4_layFirst 55 = .ok (.iconst 5, 1) := dk_8 (dk_at dksX4_layFirst_2 10 rfl rfl)
theorem dX4_layFirst_56 : decode cX4_layFirst 56 = .ok (.invokevirtual 281, 3) := dk_182 1 25 (dk_at dksX4_layFirst_2 11 rfl rfl)
theorem dX4_layFirst_59 : decode cX4_layFirst 59 = .ok (.iastore, 1) := dk_79 (dk_at dksX4_layFirst_2 14 rfl rfl)
theorem dX4_layFirst_60 : decode cX4_layFirst 60 = .ok (.aload_n 1, 1) := dk_43 (dk_at dksX4_layFirst_2 15 rfl rfl)
theorem dX4_layFirst_61 : decode cX4_layFirst 61 = .ok (.iload_n 3, 1) := dk_29 (dk_at dksX4_layFirst_2 16 rfl rfl)
theorem dX4_layFirst_62 : decode cX4_layFirst 62 = .ok (.iconst 3, 1) := dk_6 (dk_at dksX4_layFirst_2 17 rfl rfl)
theorem dX4_layFirst_63 : decode cX4_layFirst 63 = .ok (.iadd, 1) := dk_96 (dk_at dksX4_layFirst_2 18 rfl rfl)
theorem dX4_layFirst_64 : decode cX4_layFirst 64 = .ok (.aload_n 0, 1) := dk_42 (dk_at dksX4_layFirst_2 19 rfl rfl)
theorem dX4_layFirst_65 : decode cX4_layFirst 65 = .ok (.iload_n 2, 1) := dk_28 (dk_at dksX4_layFirst_2 20 rfl rfl)
theorem dX4_layFirst_66 : decode cX4_layFirst 66 = .ok (.invokevirtual 284, 3) := dk_182 1 28 (dk_at dksX4_layFirst_2 21 rfl rfl)
theorem dX4_layFirst_69 : decode cX4_layFirst 69 = .ok (.iastore, 1) := dk_79 (dk_at dksX4_layFirst_3 0 rfl rfl)
theorem dX4_layFirst_70 : decode cX4_layFirst 70 = .ok (.aload_n 1, 1) := dk_43 (dk_at dksX4_layFirst_3 1 rfl rfl)
theorem dX4_layFirst_71 : decode cX4_layFirst 71 = .ok (.iload_n 3, 1) := dk_29 (dk_at dksX4_layFirst_3 2 rfl rfl)
theorem dX4_layFirst_72 : decode cX4_layFirst 72 = .ok (.iconst 4, 1) := dk_7 (dk_at dksX4_layFirst_3 3 rfl rfl)
theorem dX4_layFirst_73 : decode cX4_layFirst 73 = .ok (.iadd, 1) := dk_96 (dk_at dksX4_layFirst_3 4 rfl rfl)
theorem dX4_layFirst_74 : decode cX4_layFirst 74 = .ok (.bipush (-2), 2) := dk_16 254 (dk_at dksX4_layFirst_3 5 rfl rfl)
theorem dX4_layFirst_76 : decode cX4_layFirst 76 = .ok (.iastore, 1) := dk_79 (dk_at dksX4_layFirst_3 7 rfl rfl)
theorem dX4_layFirst_77 : decode cX4_layFirst 77 = .ok (.aload_n 1, 1) := dk_43 (dk_at dksX4_layFirst_3 8 rfl rfl)
theorem dX4_layFirst_78 : decode cX4_layFirst 78 = .ok (.iload_n 3, 1) := dk_29 (dk_at dksX4_layFirst_3 9 rfl rfl)
theorem dX4_layFirst_79 : decode cX4_layFirst 79 = .ok (.iconst 5, 1) := dk_8 (dk_at dksX4_layFirst_3 10 rfl rfl)
theorem dX4_layFirst_80 : decode cX4_layFirst 80 = .ok (.iadd, 1) := dk_96 (dk_at dksX4_layFirst_3 11 rfl rfl)
theorem dX4_layFirst_81 : decode cX4_layFirst 81 = .ok (.bipush (-2), 2) := dk_16 254 (dk_at dksX4_layFirst_3 12 rfl rfl)
theorem dX4_layFirst_83 : decode cX4_layFirst 83 = .ok (.iastore, 1) := dk_79 (dk_at dksX4_layFirst_3 14 rfl rfl)
theorem dX4_layFirst_84 : decode cX4_layFirst 84 = .ok (.aload_n 1, 1) := dk_43 (dk_at dksX4_layFirst_3 15 rfl rfl)
theorem dX4_layFirst_85 : decode cX4_layFirst 85 = .ok (.iload_n 3, 1) := dk_29 (dk_at dksX4_layFirst_3 16 rfl rfl)
theorem dX4_layFirst_86 : decode cX4_layFirst 86 = .ok (.bipush 6, 2) := dk_16 6 (dk_at dksX4_layFirst_3 17 rfl rfl)
theorem dX4_layFirst_88 : decode cX4_layFirst 88 = .ok (.iadd, 1) := dk_96 (dk_at dksX4_layFirst_3 19 rfl rfl)
theorem dX4_layFirst_89 : decode cX4_layFirst 89 = .ok (.bipush (-2), 2) := dk_16 254 (dk_at dksX4_layFirst_3 20 rfl rfl)
theorem dX4_layFirst_91 : decode cX4_layFirst 91 = .ok (.iastore, 1) := dk_79 (dk_at dksX4_layFirst_3 22 rfl rfl)
theorem dX4_layFirst_92 : decode cX4_layFirst 92 = .ok (.aload_n 1, 1) := dk_43 (dk_at dksX4_layFirst_3 23 rfl rfl)
theorem dX4_layFirst_93 : decode cX4_layFirst 93 = .ok (.iload_n 3, 1) := dk_29 (dk_at dksX4_layFirst_4 0 rfl rfl)
theorem dX4_layFirst_94 : decode cX4_layFirst 94 = .ok (.bipush 7, 2) := dk_16 7 (dk_at dksX4_layFirst_4 1 rfl rfl)
theorem dX4_layFirst_96 : decode cX4_layFirst 96 = .ok (.iadd, 1) := dk_96 (dk_at dksX4_layFirst_4 3 rfl rfl)
theorem dX4_layFirst_97 : decode cX4_layFirst 97 = .ok (.bipush (-2), 2) := dk_16 254 (dk_at dksX4_layFirst_4 4 rfl rfl)
theorem dX4_layFirst_99 : decode cX4_layFirst 99 = .ok (.iastore, 1) := dk_79 (dk_at dksX4_layFirst_4 6 rfl rfl)
theorem dX4_layFirst_100 : decode cX4_layFirst 100 = .ok (.iinc 2 1, 3) := dk_132 2 1 (dk_at dksX4_layFirst_4 7 rfl rfl)
theorem dX4_layFirst_103 : decode cX4_layFirst 103 = .ok (.goto (-83), 3) := dk_167 255 173 (dk_at dksX4_layFirst_4 10 rfl rfl)
theorem dX4_layFirst_106 : decode cX4_layFirst 106 = .ok (.iconst 0, 1) := dk_3 (dk_at dksX4_layFirst_4 13 rfl rfl)
theorem dX4_layFirst_107 : decode cX4_layFirst 107 = .ok (.istore_n 2, 1) := dk_61 (dk_at dksX4_layFirst_4 14 rfl rfl)
theorem dX4_layFirst_108 : decode cX4_layFirst 108 = .ok (.iload_n 2, 1) := dk_28 (dk_at dksX4_layFirst_4 15 rfl rfl)
theorem dX4_layFirst_109 : decode cX4_layFirst 109 = .ok (.aload_n 0, 1) := dk_42 (dk_at dksX4_layFirst_4 16 rfl rfl)
theorem dX4_layFirst_110 : decode cX4_layFirst 110 = .ok (.getfield 278, 3) := dk_180 1 22 (dk_at dksX4_layFirst_4 17 rfl rfl)
theorem dX4_layFirst_113 : decode cX4_layFirst 113 = .ok (.if_icmp .ge 28, 3) := dk_162 0 28 (dk_at dksX4_layFirst_4 20 rfl rfl)
theorem dX4_layFirst_116 : decode cX4_layFirst 116 = .ok (.aload_n 1, 1) := dk_43 (dk_at dksX4_layFirst_4 23 rfl rfl)
theorem dX4_layFirst_117 : decode cX4_layFirst 117 = .ok (.bipush 92, 2) := dk_16 92 (dk_at dksX4_layFirst_5 0 rfl rfl)
theorem dX4_layFirst_119 : decode cX4_layFirst 119 = .ok (.iconst 4, 1) := dk_7 (dk_at dksX4_layFirst_5 2 rfl rfl)
theorem dX4_layFirst_120 : decode cX4_layFirst 120 = .ok (.iload_n 2, 1) := dk_28 (dk_at dksX4_layFirst_5 3 rfl rfl)
theorem dX4_layFirst_121 : decode cX4_layFirst 121 = .ok (.imul, 1) := dk_104 (dk_at dksX4_layFirst_5 4 rfl rfl)
theorem dX4_layFirst_122 : decode cX4_layFirst 122 = .ok (.iadd, 1) := dk_96 (dk_at dksX4_layFirst_5 5 rfl rfl)
theorem dX4_layFirst_123 : decode cX4_layFirst 123 = .ok (.aload_n 0, 1) := dk_42 (dk_at dksX4_layFirst_5 6 rfl rfl)
theorem dX4_layFirst_124 : decode cX4_layFirst 124 = .ok (.getfield 38, 3) := dk_180 0 38 (dk_at dksX4_layFirst_5 7 rfl rfl)
theorem dX4_layFirst_127 : decode cX4_layFirst 127 = .ok (.bipush 6, 2) := dk_16 6 (dk_at dksX4_layFirst_5 10 rfl rfl)
theorem dX4_layFirst_129 : decode cX4_layFirst 129 = .ok (.iload_n 2, 1) := dk_28 (dk_at dksX4_layFirst_5 12 rfl rfl)
theorem dX4_layFirst_130 : decode cX4_layFirst 130 = .ok (.imul, 1) := dk_104 (dk_at dksX4_layFirst_5 13 rfl rfl)
theorem dX4_layFirst_131 : decode cX4_layFirst 131 = .ok (.iconst 1, 1) := dk_4 (dk_at dksX4_layFirst_5 14 rfl rfl)
theorem dX4_layFirst_132 : decode cX4_layFirst 132 = .ok (.iadd, 1) := dk_96 (dk_at dksX4_layFirst_5 15 rfl rfl)
theorem dX4_layFirst_133 : decode cX4_layFirst 133 = .ok (.iaload, 1) := dk_46 (dk_at dksX4_layFirst_5 16 rfl rfl)
theorem dX4_layFirst_134 : decode cX4_layFirst 134 = .ok (.iastore, 1) := dk_79 (dk_at dksX4_layFirst_5 17 rfl rfl)
theorem dX4_layFirst_135 : decode cX4_layFirst 135 = .ok (.iinc 2 1, 3) := dk_132 2 1 (dk_at dksX4_layFirst_5 18 rfl rfl)
theorem dX4_layFirst_138 : decode cX4_layFirst 138 = .ok (.goto (-30), 3) := dk_167 255 226 (dk_at dksX4_layFirst_5 21 rfl rfl)
theorem dX4_layFirst_141 : decode cX4_layFirst 141 = .ok (.return_, 1) := dk_177 (dk_at dksX4_layFirst_6 0 rfl rfl)
abbrev cX4_man : ByteArray := prog_24_method_46_code
def yX4_man : MethodName := ⟨RX4, "man", "(II)I"⟩
def dkwX4_man_0 : List UInt8 := [42, 180, 0, 41, 16, 7, 27, 104, 28, 96, 46, 172]
abbrev dktX4_man_0 : List UInt8 := dkwX4_man_0 ++ []
theorem dksX4_man_0 : cX4_man.data.toList.drop 0 = dktX4_man_0 := by decide +kernel
theorem dX4_man_0 : decode cX4_man 0 = .ok (.aload_n 0, 1) := dk_42 (dk_at dksX4_man_0 0 rfl rfl)
theorem dX4_man_1 : decode cX4_man 1 = .ok (.getfield 41, 3) := dk_180 0 41 (dk_at dksX4_man_0 1 rfl rfl)
theorem dX4_man_4 : decode cX4_man 4 = .ok (.bipush 7, 2) := dk_16 7 (dk_at dksX4_man_0 4 rfl rfl)
theorem dX4_man_6 : decode cX4_man 6 = .ok (.iload_n 1, 1) := dk_27 (dk_at dksX4_man_0 6 rfl rfl)
theorem dX4_man_7 : decode cX4_man 7 = .ok (.imul, 1) := dk_104 (dk_at dksX4_man_0 7 rfl rfl)
theorem dX4_man_8 : decode cX4_man 8 = .ok (.iload_n 2, 1) := dk_28 (dk_at dksX4_man_0 8 rfl rfl)
theorem dX4_man_9 : decode cX4_man 9 = .ok (.iadd, 1) := dk_96 (dk_at dksX4_man_0 9 rfl rfl)
theorem dX4_man_10 : decode cX4_man 10 = .ok (.iaload, 1) := dk_46 (dk_at dksX4_man_0 10 rfl rfl)
theorem dX4_man_11 : decode cX4_man 11 = .ok (.ireturn, 1) := dk_172 (dk_at dksX4_man_0 11 rfl rfl)
abbrev cX4_saysFirst : ByteArray := prog_24_method_47_code
def yX4_saysFirst : MethodName := ⟨RX4, "saysFirst", "(I)I"⟩
def dkwX4_saysFirst_1 : List UInt8 := [116, 167, 0, 18, 28, 5, 160, 0, 12, 42, 27, 4, 182, 1, 25, 167, 0, 4, 3, 96, 172]
abbrev dktX4_saysFirst_1 : List UInt8 := dkwX4_saysFirst_1 ++ []
def dkwX4_saysFirst_0 : List UInt8 := [42, 27, 3, 182, 1, 25, 61, 42, 27, 5, 182, 1, 25, 28, 4, 160, 0, 13, 42, 27, 4, 182, 1, 25]
abbrev dktX4_saysFirst_0 : List UInt8 := dkwX4_saysFirst_0 ++ dktX4_saysFirst_1
theorem dksX4_saysFirst_0 : cX4_saysFirst.data.toList.drop 0 = dktX4_saysFirst_0 := by decide +kernel
theorem dksX4_saysFirst_1 : cX4_saysFirst.data.toList.drop 24 = dktX4_saysFirst_1 := dk_seg dksX4_saysFirst_0 24 rfl rfl
theorem dX4_saysFirst_0 : decode cX4_saysFirst 0 = .ok (.aload_n 0, 1) := dk_42 (dk_at dksX4_saysFirst_0 0 rfl rfl)
theorem dX4_saysFirst_1 : decode cX4_saysFirst 1 = .ok (.iload_n 1, 1) := dk_27 (dk_at dksX4_saysFirst_0 1 rfl rfl)
theorem dX4_saysFirst_2 : decode cX4_saysFirst 2 = .ok (.iconst 0, 1) := dk_3 (dk_at dksX4_saysFirst_0 2 rfl rfl)
theorem dX4_saysFirst_3 : decode cX4_saysFirst 3 = .ok (.invokevirtual 281, 3) := dk_182 1 25 (dk_at dksX4_saysFirst_0 3 rfl rfl)
theorem dX4_saysFirst_6 : decode cX4_saysFirst 6 = .ok (.istore_n 2, 1) := dk_61 (dk_at dksX4_saysFirst_0 6 rfl rfl)
theorem dX4_saysFirst_7 : decode cX4_saysFirst 7 = .ok (.aload_n 0, 1) := dk_42 (dk_at dksX4_saysFirst_0 7 rfl rfl)
theorem dX4_saysFirst_8 : decode cX4_saysFirst 8 = .ok (.iload_n 1, 1) := dk_27 (dk_at dksX4_saysFirst_0 8 rfl rfl)
theorem dX4_saysFirst_9 : decode cX4_saysFirst 9 = .ok (.iconst 2, 1) := dk_5 (dk_at dksX4_saysFirst_0 9 rfl rfl)
theorem dX4_saysFirst_10 : decode cX4_saysFirst 10 = .ok (.invokevirtual 281, 3) := dk_182 1 25 (dk_at dksX4_saysFirst_0 10 rfl rfl)
theorem dX4_saysFirst_13 : decode cX4_saysFirst 13 = .ok (.iload_n 2, 1) := dk_28 (dk_at dksX4_saysFirst_0 13 rfl rfl)
theorem dX4_saysFirst_14 : decode cX4_saysFirst 14 = .ok (.iconst 1, 1) := dk_4 (dk_at dksX4_saysFirst_0 14 rfl rfl)
theorem dX4_saysFirst_15 : decode cX4_saysFirst 15 = .ok (.if_icmp .ne 13, 3) := dk_160 0 13 (dk_at dksX4_saysFirst_0 15 rfl rfl)
theorem dX4_saysFirst_18 : decode cX4_saysFirst 18 = .ok (.aload_n 0, 1) := dk_42 (dk_at dksX4_saysFirst_0 18 rfl rfl)
theorem dX4_saysFirst_19 : decode cX4_saysFirst 19 = .ok (.iload_n 1, 1) := dk_27 (dk_at dksX4_saysFirst_0 19 rfl rfl)
theorem dX4_saysFirst_20 : decode cX4_saysFirst 20 = .ok (.iconst 1, 1) := dk_4 (dk_at dksX4_saysFirst_0 20 rfl rfl)
theorem dX4_saysFirst_21 : decode cX4_saysFirst 21 = .ok (.invokevirtual 281, 3) := dk_182 1 25 (dk_at dksX4_saysFirst_0 21 rfl rfl)
theorem dX4_saysFirst_24 : decode cX4_saysFirst 24 = .ok (.ineg, 1) := dk_116 (dk_at dksX4_saysFirst_1 0 rfl rfl)
theorem dX4_saysFirst_25 : decode cX4_saysFirst 25 = .ok (.goto 18, 3) := dk_167 0 18 (dk_at dksX4_saysFirst_1 1 rfl rfl)
theorem dX4_saysFirst_28 : decode cX4_saysFirst 28 = .ok (.iload_n 2, 1) := dk_28 (dk_at dksX4_saysFirst_1 4 rfl rfl)
theorem dX4_saysFirst_29 : decode cX4_saysFirst 29 = .ok (.iconst 2, 1) := dk_5 (dk_at dksX4_saysFirst_1 5 rfl rfl)
theorem dX4_saysFirst_30 : decode cX4_saysFirst 30 = .ok (.if_icmp .ne 12, 3) := dk_160 0 12 (dk_at dksX4_saysFirst_1 6 rfl rfl)
theorem dX4_saysFirst_33 : decode cX4_saysFirst 33 = .ok (.aload_n 0, 1) := dk_42 (dk_at dksX4_saysFirst_1 9 rfl rfl)
theorem dX4_saysFirst_34 : decode cX4_saysFirst 34 = .ok (.iload_n 1, 1) := dk_27 (dk_at dksX4_saysFirst_1 10 rfl rfl)
theorem dX4_saysFirst_35 : decode cX4_saysFirst 35 = .ok (.iconst 1, 1) := dk_4 (dk_at dksX4_saysFirst_1 11 rfl rfl)
theorem dX4_saysFirst_36 : decode cX4_saysFirst 36 = .ok (.invokevirtual 281, 3) := dk_182 1 25 (dk_at dksX4_saysFirst_1 12 rfl rfl)
theorem dX4_saysFirst_39 : decode cX4_saysFirst 39 = .ok (.goto 4, 3) := dk_167 0 4 (dk_at dksX4_saysFirst_1 15 rfl rfl)
theorem dX4_saysFirst_42 : decode cX4_saysFirst 42 = .ok (.iconst 0, 1) := dk_3 (dk_at dksX4_saysFirst_1 18 rfl rfl)
theorem dX4_saysFirst_43 : decode cX4_saysFirst 43 = .ok (.iadd, 1) := dk_96 (dk_at dksX4_saysFirst_1 19 rfl rfl)
theorem dX4_saysFirst_44 : decode cX4_saysFirst 44 = .ok (.ireturn, 1) := dk_172 (dk_at dksX4_saysFirst_1 20 rfl rfl)
abbrev cX4_fault : ByteArray := prog_24_method_38_code
def yX4_fault : MethodName := ⟨RX4, "fault", "()I"⟩
def dkwX4_fault_0 : List UInt8 := [42, 3, 181, 0, 60, 42, 180, 0, 102, 172]
abbrev dktX4_fault_0 : List UInt8 := dkwX4_fault_0 ++ []
theorem dksX4_fault_0 : cX4_fault.data.toList.drop 0 = dktX4_fault_0 := by decide +kernel
theorem dX4_fault_0 : decode cX4_fault 0 = .ok (.aload_n 0, 1) := dk_42 (dk_at dksX4_fault_0 0 rfl rfl)
theorem dX4_fault_1 : decode cX4_fault 1 = .ok (.iconst 0, 1) := dk_3 (dk_at dksX4_fault_0 1 rfl rfl)
theorem dX4_fault_2 : decode cX4_fault 2 = .ok (.putfield 60, 3) := dk_181 0 60 (dk_at dksX4_fault_0 2 rfl rfl)
theorem dX4_fault_5 : decode cX4_fault 5 = .ok (.aload_n 0, 1) := dk_42 (dk_at dksX4_fault_0 5 rfl rfl)
theorem dX4_fault_6 : decode cX4_fault 6 = .ok (.getfield 102, 3) := dk_180 0 102 (dk_at dksX4_fault_0 6 rfl rfl)
theorem dX4_fault_9 : decode cX4_fault 9 = .ok (.ireturn, 1) := dk_172 (dk_at dksX4_fault_0 9 rfl rfl)
abbrev cX4_where : ByteArray := prog_24_method_39_code
def yX4_where : MethodName := ⟨RX4, "where", "()I"⟩
def dkwX4_where_0 : List UInt8 := [42, 3, 181, 0, 60, 42, 180, 0, 63, 7, 160, 0, 10, 42, 180, 0, 13, 167, 0, 4, 2, 172]
abbrev dktX4_where_0 : List UInt8 := dkwX4_where_0 ++ []
theorem dksX4_where_0 : cX4_where.data.toList.drop 0 = dktX4_where_0 := by decide +kernel
theorem dX4_where_0 : decode cX4_where 0 = .ok (.aload_n 0, 1) := dk_42 (dk_at dksX4_where_0 0 rfl rfl)
theorem dX4_where_1 : decode cX4_where 1 = .ok (.iconst 0, 1) := dk_3 (dk_at dksX4_where_0 1 rfl rfl)
theorem dX4_where_2 : decode cX4_where 2 = .ok (.putfield 60, 3) := dk_181 0 60 (dk_at dksX4_where_0 2 rfl rfl)
theorem dX4_where_5 : decode cX4_where 5 = .ok (.aload_n 0, 1) := dk_42 (dk_at dksX4_where_0 5 rfl rfl)
theorem dX4_where_6 : decode cX4_where 6 = .ok (.getfield 63, 3) := dk_180 0 63 (dk_at dksX4_where_0 6 rfl rfl)
theorem dX4_where_9 : decode cX4_where 9 = .ok (.iconst 4, 1) := dk_7 (dk_at dksX4_where_0 9 rfl rfl)
theorem dX4_where_10 : decode cX4_where 10 = .ok (.if_icmp .ne 10, 3) := dk_160 0 10 (dk_at dksX4_where_0 10 rfl rfl)
theorem dX4_where_13 : decode cX4_where 13 = .ok (.aload_n 0, 1) := dk_42 (dk_at dksX4_where_0 13 rfl rfl)
theorem dX4_where_14 : decode cX4_where 14 = .ok (.getfield 13, 3) := dk_180 0 13 (dk_at dksX4_where_0 14 rfl rfl)
theorem dX4_where_17 : decode cX4_where 17 = .ok (.goto 4, 3) := dk_167 0 4 (dk_at dksX4_where_0 17 rfl rfl)
theorem dX4_where_20 : decode cX4_where 20 = .ok (.iconst (-1), 1) := dk_2 (dk_at dksX4_where_0 20 rfl rfl)
theorem dX4_where_21 : decode cX4_where 21 = .ok (.ireturn, 1) := dk_172 (dk_at dksX4_where_0 21 rfl rfl)
abbrev cX4_person : ByteArray := prog_24_method_66_code
def yX4_person : MethodName := ⟨RX4, "person", "(II)I"⟩
def dkwX4_person_6 : List UInt8 := [180, 0, 26, 29, 7, 96, 46, 172, 42, 180, 0, 26, 29, 8, 96, 46, 172, 42, 4, 182, 0, 168, 172]
abbrev dktX4_person_6 : List UInt8 := dkwX4_person_6 ++ []
def dkwX4_person_5 : List UInt8 := [96, 46, 172, 42, 180, 0, 26, 29, 5, 96, 46, 172, 42, 180, 0, 26, 29, 6, 96, 46, 172, 42]
abbrev dktX4_person_5 : List UInt8 := dkwX4_person_5 ++ dktX4_person_6
def dkwX4_person_4 : List UInt8 := [3, 46, 163, 0, 7, 6, 167, 0, 11, 42, 180, 0, 26, 29, 3, 96, 46, 172, 42, 180, 0, 26, 29, 4]
abbrev dktX4_person_4 : List UInt8 := dkwX4_person_4 ++ dktX4_person_5
def dkwX4_person_3 : List UInt8 := [42, 180, 0, 26, 29, 3, 96, 46, 5, 160, 0, 24, 42, 180, 0, 26, 29, 8, 96, 46, 42, 180, 0, 26]
abbrev dktX4_person_3 : List UInt8 := dkwX4_person_3 ++ dktX4_person_4
def dkwX4_person_2 : List UInt8 := [170, 0, 0, 0, 124, 0, 0, 0, 0, 0, 0, 0, 5, 0, 0, 0, 37, 0, 0, 0, 79, 0, 0, 0, 88, 0, 0, 0, 97, 0, 0, 0, 106, 0, 0, 0, 115]
abbrev dktX4_person_2 : List UInt8 := dkwX4_person_2 ++ dktX4_person_3
def dkwX4_person_1 : List UInt8 := [96, 62, 28]
abbrev dktX4_person_1 : List UInt8 := dkwX4_person_1 ++ dktX4_person_2
def dkwX4_person_0 : List UInt8 := [42, 182, 0, 165, 42, 27, 182, 1, 90, 154, 0, 9, 42, 4, 182, 0, 168, 172, 16, 12, 16, 8, 27, 104]
abbrev dktX4_person_0 : List UInt8 := dkwX4_person_0 ++ dktX4_person_1
theorem dksX4_person_0 : cX4_person.data.toList.drop 0 = dktX4_person_0 := by decide +kernel
theorem dksX4_person_1 : cX4_person.data.toList.drop 24 = dktX4_person_1 := dk_seg dksX4_person_0 24 rfl rfl
theorem dksX4_person_2 : cX4_person.data.toList.drop 27 = dktX4_person_2 := dk_seg dksX4_person_1 3 rfl rfl
theorem dksX4_person_3 : cX4_person.data.toList.drop 64 = dktX4_person_3 := dk_seg dksX4_person_2 37 rfl rfl
theorem dksX4_person_4 : cX4_person.data.toList.drop 88 = dktX4_person_4 := dk_seg dksX4_person_3 24 rfl rfl
theorem dksX4_person_5 : cX4_person.data.toList.drop 112 = dktX4_person_5 := dk_seg dksX4_person_4 24 rfl rfl
theorem dksX4_person_6 : cX4_person.data.toList.drop 134 = dktX4_person_6 := dk_seg dksX4_person_5 22 rfl rfl
theorem dX4_person_0 : decode cX4_person 0 = .ok (.aload_n 0, 1) := dk_42 (dk_at dksX4_person_0 0 rfl rfl)
theorem dX4_person_1 : decode cX4_person 1 = .ok (.invokevirtual 165, 3) := dk_182 0 165 (dk_at dksX4_person_0 1 rfl rfl)
theorem dX4_person_4 : decode cX4_person 4 = .ok (.aload_n 0, 1) := dk_42 (dk_at dksX4_person_0 4 rfl rfl)
theorem dX4_person_5 : decode cX4_person 5 = .ok (.iload_n 1, 1) := dk_27 (dk_at dksX4_person_0 5 rfl rfl)
theorem dX4_person_6 : decode cX4_person 6 = .ok (.invokevirtual 346, 3) := dk_182 1 90 (dk_at dksX4_person_0 6 rfl rfl)
theorem dX4_person_9 : decode cX4_person 9 = .ok (.ifCond .ne 9, 3) := dk_154 0 9 (dk_at dksX4_person_0 9 rfl rfl)
theorem dX4_person_12 : decode cX4_person 12 = .ok (.aload_n 0, 1) := dk_42 (dk_at dksX4_person_0 12 rfl rfl)
theorem dX4_person_13 : decode cX4_person 13 = .ok (.iconst 1, 1) := dk_4 (dk_at dksX4_person_0 13 rfl rfl)
theorem dX4_person_14 : decode cX4_person 14 = .ok (.invokevirtual 168, 3) := dk_182 0 168 (dk_at dksX4_person_0 14 rfl rfl)
theorem dX4_person_17 : decode cX4_person 17 = .ok (.ireturn, 1) := dk_172 (dk_at dksX4_person_0 17 rfl rfl)
theorem dX4_person_18 : decode cX4_person 18 = .ok (.bipush 12, 2) := dk_16 12 (dk_at dksX4_person_0 18 rfl rfl)
theorem dX4_person_20 : decode cX4_person 20 = .ok (.bipush 8, 2) := dk_16 8 (dk_at dksX4_person_0 20 rfl rfl)
theorem dX4_person_22 : decode cX4_person 22 = .ok (.iload_n 1, 1) := dk_27 (dk_at dksX4_person_0 22 rfl rfl)
theorem dX4_person_23 : decode cX4_person 23 = .ok (.imul, 1) := dk_104 (dk_at dksX4_person_0 23 rfl rfl)
theorem dX4_person_24 : decode cX4_person 24 = .ok (.iadd, 1) := dk_96 (dk_at dksX4_person_1 0 rfl rfl)
theorem dX4_person_25 : decode cX4_person 25 = .ok (.istore_n 3, 1) := dk_62 (dk_at dksX4_person_1 1 rfl rfl)
theorem dX4_person_26 : decode cX4_person 26 = .ok (.iload_n 2, 1) := dk_28 (dk_at dksX4_person_1 2 rfl rfl)
theorem dX4_person_27 : decode cX4_person 27 = .ok (.tableswitch 124 0 5 #[37, 79, 88, 97, 106, 115], 37) := by decide +kernel
theorem dX4_person_64 : decode cX4_person 64 = .ok (.aload_n 0, 1) := dk_42 (dk_at dksX4_person_3 0 rfl rfl)
theorem dX4_person_65 : decode cX4_person 65 = .ok (.getfield 26, 3) := dk_180 0 26 (dk_at dksX4_person_3 1 rfl rfl)
theorem dX4_person_68 : decode cX4_person 68 = .ok (.iload_n 3, 1) := dk_29 (dk_at dksX4_person_3 4 rfl rfl)
theorem dX4_person_69 : decode cX4_person 69 = .ok (.iconst 0, 1) := dk_3 (dk_at dksX4_person_3 5 rfl rfl)
theorem dX4_person_70 : decode cX4_person 70 = .ok (.iadd, 1) := dk_96 (dk_at dksX4_person_3 6 rfl rfl)
theorem dX4_person_71 : decode cX4_person 71 = .ok (.iaload, 1) := dk_46 (dk_at dksX4_person_3 7 rfl rfl)
theorem dX4_person_72 : decode cX4_person 72 = .ok (.iconst 2, 1) := dk_5 (dk_at dksX4_person_3 8 rfl rfl)
theorem dX4_person_73 : decode cX4_person 73 = .ok (.if_icmp .ne 24, 3) := dk_160 0 24 (dk_at dksX4_person_3 9 rfl rfl)
theorem dX4_person_76 : decode cX4_person 76 = .ok (.aload_n 0, 1) := dk_42 (dk_at dksX4_person_3 12 rfl rfl)
theorem dX4_person_77 : decode cX4_person 77 = .ok (.getfield 26, 3) := dk_180 0 26 (dk_at dksX4_person_3 13 rfl rfl)
theorem dX4_person_80 : decode cX4_person 80 = .ok (.iload_n 3, 1) := dk_29 (dk_at dksX4_person_3 16 rfl rfl)
theorem dX4_person_81 : decode cX4_person 81 = .ok (.iconst 5, 1) := dk_8 (dk_at dksX4_person_3 17 rfl rfl)
theorem dX4_person_82 : decode cX4_person 82 = .ok (.iadd, 1) := dk_96 (dk_at dksX4_person_3 18 rfl rfl)
theorem dX4_person_83 : decode cX4_person 83 = .ok (.iaload, 1) := dk_46 (dk_at dksX4_person_3 19 rfl rfl)
theorem dX4_person_84 : decode cX4_person 84 = .ok (.aload_n 0, 1) := dk_42 (dk_at dksX4_person_3 20 rfl rfl)
theorem dX4_person_85 : decode cX4_person 85 = .ok (.getfield 26, 3) := dk_180 0 26 (dk_at dksX4_person_3 21 rfl rfl)
theorem dX4_person_88 : decode cX4_person 88 = .ok (.iconst 0, 1) := dk_3 (dk_at dksX4_person_4 0 rfl rfl)
theorem dX4_person_89 : decode cX4_person 89 = .ok (.iaload, 1) := dk_46 (dk_at dksX4_person_4 1 rfl rfl)
theorem dX4_person_90 : decode cX4_person 90 = .ok (.if_icmp .gt 7, 3) := dk_163 0 7 (dk_at dksX4_person_4 2 rfl rfl)
theorem dX4_person_93 : decode cX4_person 93 = .ok (.iconst 3, 1) := dk_6 (dk_at dksX4_person_4 5 rfl rfl)
theorem dX4_person_94 : decode cX4_person 94 = .ok (.goto 11, 3) := dk_167 0 11 (dk_at dksX4_person_4 6 rfl rfl)
theorem dX4_person_97 : decode cX4_person 97 = .ok (.aload_n 0, 1) := dk_42 (dk_at dksX4_person_4 9 rfl rfl)
theorem dX4_person_98 : decode cX4_person 98 = .ok (.getfield 26, 3) := dk_180 0 26 (dk_at dksX4_person_4 10 rfl rfl)
theorem dX4_person_101 : decode cX4_person 101 = .ok (.iload_n 3, 1) := dk_29 (dk_at dksX4_person_4 13 rfl rfl)
theorem dX4_person_102 : decode cX4_person 102 = .ok (.iconst 0, 1) := dk_3 (dk_at dksX4_person_4 14 rfl rfl)
theorem dX4_person_103 : decode cX4_person 103 = .ok (.iadd, 1) := dk_96 (dk_at dksX4_person_4 15 rfl rfl)
theorem dX4_person_104 : decode cX4_person 104 = .ok (.iaload, 1) := dk_46 (dk_at dksX4_person_4 16 rfl rfl)
theorem dX4_person_105 : decode cX4_person 105 = .ok (.ireturn, 1) := dk_172 (dk_at dksX4_person_4 17 rfl rfl)
theorem dX4_person_106 : decode cX4_person 106 = .ok (.aload_n 0, 1) := dk_42 (dk_at dksX4_person_4 18 rfl rfl)
theorem dX4_person_107 : decode cX4_person 107 = .ok (.getfield 26, 3) := dk_180 0 26 (dk_at dksX4_person_4 19 rfl rfl)
theorem dX4_person_110 : decode cX4_person 110 = .ok (.iload_n 3, 1) := dk_29 (dk_at dksX4_person_4 22 rfl rfl)
theorem dX4_person_111 : decode cX4_person 111 = .ok (.iconst 1, 1) := dk_4 (dk_at dksX4_person_4 23 rfl rfl)
theorem dX4_person_112 : decode cX4_person 112 = .ok (.iadd, 1) := dk_96 (dk_at dksX4_person_5 0 rfl rfl)
theorem dX4_person_113 : decode cX4_person 113 = .ok (.iaload, 1) := dk_46 (dk_at dksX4_person_5 1 rfl rfl)
theorem dX4_person_114 : decode cX4_person 114 = .ok (.ireturn, 1) := dk_172 (dk_at dksX4_person_5 2 rfl rfl)
theorem dX4_person_115 : decode cX4_person 115 = .ok (.aload_n 0, 1) := dk_42 (dk_at dksX4_person_5 3 rfl rfl)
theorem dX4_person_116 : decode cX4_person 116 = .ok (.getfield 26, 3) := dk_180 0 26 (dk_at dksX4_person_5 4 rfl rfl)
theorem dX4_person_119 : decode cX4_person 119 = .ok (.iload_n 3, 1) := dk_29 (dk_at dksX4_person_5 7 rfl rfl)
theorem dX4_person_120 : decode cX4_person 120 = .ok (.iconst 2, 1) := dk_5 (dk_at dksX4_person_5 8 rfl rfl)
theorem dX4_person_121 : decode cX4_person 121 = .ok (.iadd, 1) := dk_96 (dk_at dksX4_person_5 9 rfl rfl)
theorem dX4_person_122 : decode cX4_person 122 = .ok (.iaload, 1) := dk_46 (dk_at dksX4_person_5 10 rfl rfl)
theorem dX4_person_123 : decode cX4_person 123 = .ok (.ireturn, 1) := dk_172 (dk_at dksX4_person_5 11 rfl rfl)
theorem dX4_person_124 : decode cX4_person 124 = .ok (.aload_n 0, 1) := dk_42 (dk_at dksX4_person_5 12 rfl rfl)
theorem dX4_person_125 : decode cX4_person 125 = .ok (.getfield 26, 3) := dk_180 0 26 (dk_at dksX4_person_5 13 rfl rfl)
theorem dX4_person_128 : decode cX4_person 128 = .ok (.iload_n 3, 1) := dk_29 (dk_at dksX4_person_5 16 rfl rfl)
theorem dX4_person_129 : decode cX4_person 129 = .ok (.iconst 3, 1) := dk_6 (dk_at dksX4_person_5 17 rfl rfl)
theorem dX4_person_130 : decode cX4_person 130 = .ok (.iadd, 1) := dk_96 (dk_at dksX4_person_5 18 rfl rfl)
theorem dX4_person_131 : decode cX4_person 131 = .ok (.iaload, 1) := dk_46 (dk_at dksX4_person_5 19 rfl rfl)
theorem dX4_person_132 : decode cX4_person 132 = .ok (.ireturn, 1) := dk_172 (dk_at dksX4_person_5 20 rfl rfl)
theorem dX4_person_133 : decode cX4_person 133 = .ok (.aload_n 0, 1) := dk_42 (dk_at dksX4_person_5 21 rfl rfl)
theorem dX4_person_134 : decode cX4_person 134 = .ok (.getfield 26, 3) := dk_180 0 26 (dk_at dksX4_person_6 0 rfl rfl)
theorem dX4_person_137 : decode cX4_person 137 = .ok (.iload_n 3, 1) := dk_29 (dk_at dksX4_person_6 3 rfl rfl)
theorem dX4_person_138 : decode cX4_person 138 = .ok (.iconst 4, 1) := dk_7 (dk_at dksX4_person_6 4 rfl rfl)
theorem dX4_person_139 : decode cX4_person 139 = .ok (.iadd, 1) := dk_96 (dk_at dksX4_person_6 5 rfl rfl)
theorem dX4_person_140 : decode cX4_person 140 = .ok (.iaload, 1) := dk_46 (dk_at dksX4_person_6 6 rfl rfl)
theorem dX4_person_141 : decode cX4_person 141 = .ok (.ireturn, 1) := dk_172 (dk_at dksX4_person_6 7 rfl rfl)
theorem dX4_person_142 : decode cX4_person 142 = .ok (.aload_n 0, 1) := dk_42 (dk_at dksX4_person_6 8 rfl rfl)
theorem dX4_person_143 : decode cX4_person 143 = .ok (.getfield 26, 3) := dk_180 0 26 (dk_at dksX4_person_6 9 rfl rfl)
theorem dX4_person_146 : decode cX4_person 146 = .ok (.iload_n 3, 1) := dk_29 (dk_at dksX4_person_6 12 rfl rfl)
theorem dX4_person_147 : decode cX4_person 147 = .ok (.iconst 5, 1) := dk_8 (dk_at dksX4_person_6 13 rfl rfl)
theorem dX4_person_148 : decode cX4_person 148 = .ok (.iadd, 1) := dk_96 (dk_at dksX4_person_6 14 rfl rfl)
theorem dX4_person_149 : decode cX4_person 149 = .ok (.iaload, 1) := dk_46 (dk_at dksX4_person_6 15 rfl rfl)
theorem dX4_person_150 : decode cX4_person 150 = .ok (.ireturn, 1) := dk_172 (dk_at dksX4_person_6 16 rfl rfl)
theorem dX4_person_151 : decode cX4_person 151 = .ok (.aload_n 0, 1) := dk_42 (dk_at dksX4_person_6 17 rfl rfl)
theorem dX4_person_152 : decode cX4_person 152 = .ok (.iconst 1, 1) := dk_4 (dk_at dksX4_person_6 18 rfl rfl)
theorem dX4_person_153 : decode cX4_person 153 = .ok (.invokevirtual 168, 3) := dk_182 0 168 (dk_at dksX4_person_6 19 rfl rfl)
theorem dX4_person_156 : decode cX4_person 156 = .ok (.ireturn, 1) := dk_172 (dk_at dksX4_person_6 22 rfl rfl)
abbrev cX4_isPerson : ByteArray := prog_24_method_40_code
def yX4_isPerson : MethodName := ⟨RX4, "isPerson", "(I)Z"⟩
def dkwX4_isPerson_1 : List UInt8 := [167, 0, 4, 3, 172]
abbrev dktX4_isPerson_1 : List UInt8 := dkwX4_isPerson_1 ++ []
def dkwX4_isPerson_0 : List UInt8 := [42, 180, 0, 178, 153, 0, 23, 27, 3, 42, 180, 0, 20, 8, 46, 4, 100, 184, 0, 147, 153, 0, 7, 4]
abbrev dktX4_isPerson_0 : List UInt8 := dkwX4_isPerson_0 ++ dktX4_isPerson_1
theorem dksX4_isPerson_0 : cX4_isPerson.data.toList.drop 0 = dktX4_isPerson_0 := by decide +kernel
theorem dksX4_isPerson_1 : cX4_isPerson.data.toList.drop 24 = dktX4_isPerson_1 := dk_seg dksX4_isPerson_0 24 rfl rfl
theorem dX4_isPerson_0 : decode cX4_isPerson 0 = .ok (.aload_n 0, 1) := dk_42 (dk_at dksX4_isPerson_0 0 rfl rfl)
theorem dX4_isPerson_1 : decode cX4_isPerson 1 = .ok (.getfield 178, 3) := dk_180 0 178 (dk_at dksX4_isPerson_0 1 rfl rfl)
theorem dX4_isPerson_4 : decode cX4_isPerson 4 = .ok (.ifCond .eq 23, 3) := dk_153 0 23 (dk_at dksX4_isPerson_0 4 rfl rfl)
theorem dX4_isPerson_7 : decode cX4_isPerson 7 = .ok (.iload_n 1, 1) := dk_27 (dk_at dksX4_isPerson_0 7 rfl rfl)
theorem dX4_isPerson_8 : decode cX4_isPerson 8 = .ok (.iconst 0, 1) := dk_3 (dk_at dksX4_isPerson_0 8 rfl rfl)
theorem dX4_isPerson_9 : decode cX4_isPerson 9 = .ok (.aload_n 0, 1) := dk_42 (dk_at dksX4_isPerson_0 9 rfl rfl)
theorem dX4_isPerson_10 : decode cX4_isPerson 10 = .ok (.getfield 20, 3) := dk_180 0 20 (dk_at dksX4_isPerson_0 10 rfl rfl)
theorem dX4_isPerson_13 : decode cX4_isPerson 13 = .ok (.iconst 5, 1) := dk_8 (dk_at dksX4_isPerson_0 13 rfl rfl)
theorem dX4_isPerson_14 : decode cX4_isPerson 14 = .ok (.iaload, 1) := dk_46 (dk_at dksX4_isPerson_0 14 rfl rfl)
theorem dX4_isPerson_15 : decode cX4_isPerson 15 = .ok (.iconst 1, 1) := dk_4 (dk_at dksX4_isPerson_0 15 rfl rfl)
theorem dX4_isPerson_16 : decode cX4_isPerson 16 = .ok (.isub, 1) := dk_100 (dk_at dksX4_isPerson_0 16 rfl rfl)
theorem dX4_isPerson_17 : decode cX4_isPerson 17 = .ok (.invokestatic 147, 3) := dk_184 0 147 (dk_at dksX4_isPerson_0 17 rfl rfl)
theorem dX4_isPerson_20 : decode cX4_isPerson 20 = .ok (.ifCond .eq 7, 3) := dk_153 0 7 (dk_at dksX4_isPerson_0 20 rfl rfl)
theorem dX4_isPerson_23 : decode cX4_isPerson 23 = .ok (.iconst 1, 1) := dk_4 (dk_at dksX4_isPerson_0 23 rfl rfl)
theorem dX4_isPerson_24 : decode cX4_isPerson 24 = .ok (.goto 4, 3) := dk_167 0 4 (dk_at dksX4_isPerson_1 0 rfl rfl)
theorem dX4_isPerson_27 : decode cX4_isPerson 27 = .ok (.iconst 0, 1) := dk_3 (dk_at dksX4_isPerson_1 3 rfl rfl)
theorem dX4_isPerson_28 : decode cX4_isPerson 28 = .ok (.ireturn, 1) := dk_172 (dk_at dksX4_isPerson_1 4 rfl rfl)
abbrev cX4_staff : ByteArray := prog_24_method_67_code
def yX4_staff : MethodName := ⟨RX4, "staff", "(II)I"⟩
def dkwX4_staff_7 : List UInt8 := [21, 5, 167, 0, 9, 42, 180, 0, 26, 3, 46, 172]
abbrev dktX4_staff_7 : List UInt8 := dkwX4_staff_7 ++ []
def dkwX4_staff_6 : List UInt8 := [167, 0, 35, 28, 4, 160, 0, 8, 21, 4, 167, 0, 25, 21, 5, 42, 180, 0, 26, 3, 46, 164, 0, 8]
abbrev dktX4_staff_6 : List UInt8 := dkwX4_staff_6 ++ dktX4_staff_7
def dkwX4_staff_5 : List UInt8 := [167, 0, 5, 21, 5, 54, 5, 132, 6, 1, 167, 255, 179, 28, 154, 0, 12, 42, 180, 0, 26, 29, 46]
abbrev dktX4_staff_5 : List UInt8 := dkwX4_staff_5 ++ dktX4_staff_6
def dkwX4_staff_4 : List UInt8 := [180, 0, 26, 29, 21, 6, 96, 46, 21, 5, 162, 0, 15, 42, 180, 0, 26, 29, 21, 6, 96, 46]
abbrev dktX4_staff_4 : List UInt8 := dkwX4_staff_4 ++ dktX4_staff_5
def dkwX4_staff_3 : List UInt8 := [29, 21, 6, 96, 46, 42, 180, 0, 26, 3, 46, 164, 0, 7, 4, 167, 0, 4, 3, 96, 54, 4, 42]
abbrev dktX4_staff_3 : List UInt8 := dkwX4_staff_3 ++ dktX4_staff_4
def dkwX4_staff_2 : List UInt8 := [54, 6, 21, 6, 42, 180, 0, 38, 16, 6, 27, 104, 8, 96, 46, 163, 0, 67, 21, 4, 42, 180, 0, 26]
abbrev dktX4_staff_2 : List UInt8 := dkwX4_staff_2 ++ dktX4_staff_3
def dkwX4_staff_1 : List UInt8 := [182, 0, 168, 172, 42, 182, 0, 187, 16, 92, 7, 27, 104, 96, 62, 3, 54, 4, 19, 1, 41, 54, 5, 4]
abbrev dktX4_staff_1 : List UInt8 := dkwX4_staff_1 ++ dktX4_staff_2
def dkwX4_staff_0 : List UInt8 := [42, 182, 0, 165, 42, 27, 182, 1, 93, 153, 0, 12, 28, 3, 5, 184, 0, 147, 154, 0, 9, 42, 4]
abbrev dktX4_staff_0 : List UInt8 := dkwX4_staff_0 ++ dktX4_staff_1
theorem dksX4_staff_0 : cX4_staff.data.toList.drop 0 = dktX4_staff_0 := by decide +kernel
theorem dksX4_staff_1 : cX4_staff.data.toList.drop 23 = dktX4_staff_1 := dk_seg dksX4_staff_0 23 rfl rfl
theorem dksX4_staff_2 : cX4_staff.data.toList.drop 47 = dktX4_staff_2 := dk_seg dksX4_staff_1 24 rfl rfl
theorem dksX4_staff_3 : cX4_staff.data.toList.drop 71 = dktX4_staff_3 := dk_seg dksX4_staff_2 24 rfl rfl
theorem dksX4_staff_4 : cX4_staff.data.toList.drop 94 = dktX4_staff_4 := dk_seg dksX4_staff_3 23 rfl rfl
theorem dksX4_staff_5 : cX4_staff.data.toList.drop 116 = dktX4_staff_5 := dk_seg dksX4_staff_4 22 rfl rfl
theorem dksX4_staff_6 : cX4_staff.data.toList.drop 139 = dktX4_staff_6 := dk_seg dksX4_staff_5 23 rfl rfl
theorem dksX4_staff_7 : cX4_staff.data.toList.drop 163 = dktX4_staff_7 := dk_seg dksX4_staff_6 24 rfl rfl
theorem dX4_staff_0 : decode cX4_staff 0 = .ok (.aload_n 0, 1) := dk_42 (dk_at dksX4_staff_0 0 rfl rfl)
theorem dX4_staff_1 : decode cX4_staff 1 = .ok (.invokevirtual 165, 3) := dk_182 0 165 (dk_at dksX4_staff_0 1 rfl rfl)
theorem dX4_staff_4 : decode cX4_staff 4 = .ok (.aload_n 0, 1) := dk_42 (dk_at dksX4_staff_0 4 rfl rfl)
theorem dX4_staff_5 : decode cX4_staff 5 = .ok (.iload_n 1, 1) := dk_27 (dk_at dksX4_staff_0 5 rfl rfl)
theorem dX4_staff_6 : decode cX4_staff 6 = .ok (.invokevirtual 349, 3) := dk_182 1 93 (dk_at dksX4_staff_0 6 rfl rfl)
theorem dX4_staff_9 : decode cX4_staff 9 = .ok (.ifCond .eq 12, 3) := dk_153 0 12 (dk_at dksX4_staff_0 9 rfl rfl)
theorem dX4_staff_12 : decode cX4_staff 12 = .ok (.iload_n 2, 1) := dk_28 (dk_at dksX4_staff_0 12 rfl rfl)
theorem dX4_staff_13 : decode cX4_staff 13 = .ok (.iconst 0, 1) := dk_3 (dk_at dksX4_staff_0 13 rfl rfl)
theorem dX4_staff_14 : decode cX4_staff 14 = .ok (.iconst 2, 1) := dk_5 (dk_at dksX4_staff_0 14 rfl rfl)
theorem dX4_staff_15 : decode cX4_staff 15 = .ok (.invokestatic 147, 3) := dk_184 0 147 (dk_at dksX4_staff_0 15 rfl rfl)
theorem dX4_staff_18 : decode cX4_staff 18 = .ok (.ifCond .ne 9, 3) := dk_154 0 9 (dk_at dksX4_staff_0 18 rfl rfl)
theorem dX4_staff_21 : decode cX4_staff 21 = .ok (.aload_n 0, 1) := dk_42 (dk_at dksX4_staff_0 21 rfl rfl)
theorem dX4_staff_22 : decode cX4_staff 22 = .ok (.iconst 1, 1) := dk_4 (dk_at dksX4_staff_0 22 rfl rfl)
theorem dX4_staff_23 : decode cX4_staff 23 = .ok (.invokevirtual 168, 3) := dk_182 0 168 (dk_at dksX4_staff_1 0 rfl rfl)
theorem dX4_staff_26 : decode cX4_staff 26 = .ok (.ireturn, 1) := dk_172 (dk_at dksX4_staff_1 3 rfl rfl)
theorem dX4_staff_27 : decode cX4_staff 27 = .ok (.aload_n 0, 1) := dk_42 (dk_at dksX4_staff_1 4 rfl rfl)
theorem dX4_staff_28 : decode cX4_staff 28 = .ok (.invokevirtual 187, 3) := dk_182 0 187 (dk_at dksX4_staff_1 5 rfl rfl)
theorem dX4_staff_31 : decode cX4_staff 31 = .ok (.bipush 92, 2) := dk_16 92 (dk_at dksX4_staff_1 8 rfl rfl)
theorem dX4_staff_33 : decode cX4_staff 33 = .ok (.iconst 4, 1) := dk_7 (dk_at dksX4_staff_1 10 rfl rfl)
theorem dX4_staff_34 : decode cX4_staff 34 = .ok (.iload_n 1, 1) := dk_27 (dk_at dksX4_staff_1 11 rfl rfl)
theorem dX4_staff_35 : decode cX4_staff 35 = .ok (.imul, 1) := dk_104 (dk_at dksX4_staff_1 12 rfl rfl)
theorem dX4_staff_36 : decode cX4_staff 36 = .ok (.iadd, 1) := dk_96 (dk_at dksX4_staff_1 13 rfl rfl)
theorem dX4_staff_37 : decode cX4_staff 37 = .ok (.istore_n 3, 1) := dk_62 (dk_at dksX4_staff_1 14 rfl rfl)
theorem dX4_staff_38 : decode cX4_staff 38 = .ok (.iconst 0, 1) := dk_3 (dk_at dksX4_staff_1 15 rfl rfl)
theorem dX4_staff_39 : decode cX4_staff 39 = .ok (.istore 4, 2) := dk_54 4 (dk_at dksX4_staff_1 16 rfl rfl)
theorem dX4_staff_41 : decode cX4_staff 41 = .ok (.ldc_w 297, 3) := dk_19 1 41 (dk_at dksX4_staff_1 18 rfl rfl)
theorem dX4_staff_44 : decode cX4_staff 44 = .ok (.istore 5, 2) := dk_54 5 (dk_at dksX4_staff_1 21 rfl rfl)
theorem dX4_staff_46 : decode cX4_staff 46 = .ok (.iconst 1, 1) := dk_4 (dk_at dksX4_staff_1 23 rfl rfl)
theorem dX4_staff_47 : decode cX4_staff 47 = .ok (.istore 6, 2) := dk_54 6 (dk_at dksX4_staff_2 0 rfl rfl)
theorem dX4_staff_49 : decode cX4_staff 49 = .ok (.iload 6, 2) := dk_21 6 (dk_at dksX4_staff_2 2 rfl rfl)
theorem dX4_staff_51 : decode cX4_staff 51 = .ok (.aload_n 0, 1) := dk_42 (dk_at dksX4_staff_2 4 rfl rfl)
theorem dX4_staff_52 : decode cX4_staff 52 = .ok (.getfield 38, 3) := dk_180 0 38 (dk_at dksX4_staff_2 5 rfl rfl)
theorem dX4_staff_55 : decode cX4_staff 55 = .ok (.bipush 6, 2) := dk_16 6 (dk_at dksX4_staff_2 8 rfl rfl)
theorem dX4_staff_57 : decode cX4_staff 57 = .ok (.iload_n 1, 1) := dk_27 (dk_at dksX4_staff_2 10 rfl rfl)
theorem dX4_staff_58 : decode cX4_staff 58 = .ok (.imul, 1) := dk_104 (dk_at dksX4_staff_2 11 rfl rfl)
theorem dX4_staff_59 : decode cX4_staff 59 = .ok (.iconst 5, 1) := dk_8 (dk_at dksX4_staff_2 12 rfl rfl)
theorem dX4_staff_60 : decode cX4_staff 60 = .ok (.iadd, 1) := dk_96 (dk_at dksX4_staff_2 13 rfl rfl)
theorem dX4_staff_61 : decode cX4_staff 61 = .ok (.iaload, 1) := dk_46 (dk_at dksX4_staff_2 14 rfl rfl)
theorem dX4_staff_62 : decode cX4_staff 62 = .ok (.if_icmp .gt 67, 3) := dk_163 0 67 (dk_at dksX4_staff_2 15 rfl rfl)
theorem dX4_staff_65 : decode cX4_staff 65 = .ok (.iload 4, 2) := dk_21 4 (dk_at dksX4_staff_2 18 rfl rfl)
theorem dX4_staff_67 : decode cX4_staff 67 = .ok (.aload_n 0, 1) := dk_42 (dk_at dksX4_staff_2 20 rfl rfl)
theorem dX4_staff_68 : decode cX4_staff 68 = .ok (.getfield 26, 3) := dk_180 0 26 (dk_at dksX4_staff_2 21 rfl rfl)
theorem dX4_staff_71 : decode cX4_staff 71 = .ok (.iload_n 3, 1) := dk_29 (dk_at dksX4_staff_3 0 rfl rfl)
theorem dX4_staff_72 : decode cX4_staff 72 = .ok (.iload 6, 2) := dk_21 6 (dk_at dksX4_staff_3 1 rfl rfl)
theorem dX4_staff_74 : decode cX4_staff 74 = .ok (.iadd, 1) := dk_96 (dk_at dksX4_staff_3 3 rfl rfl)
theorem dX4_staff_75 : decode cX4_staff 75 = .ok (.iaload, 1) := dk_46 (dk_at dksX4_staff_3 4 rfl rfl)
theorem dX4_staff_76 : decode cX4_staff 76 = .ok (.aload_n 0, 1) := dk_42 (dk_at dksX4_staff_3 5 rfl rfl)
theorem dX4_staff_77 : decode cX4_staff 77 = .ok (.getfield 26, 3) := dk_180 0 26 (dk_at dksX4_staff_3 6 rfl rfl)
theorem dX4_staff_80 : decode cX4_staff 80 = .ok (.iconst 0, 1) := dk_3 (dk_at dksX4_staff_3 9 rfl rfl)
theorem dX4_staff_81 : decode cX4_staff 81 = .ok (.iaload, 1) := dk_46 (dk_at dksX4_staff_3 10 rfl rfl)
theorem dX4_staff_82 : decode cX4_staff 82 = .ok (.if_icmp .le 7, 3) := dk_164 0 7 (dk_at dksX4_staff_3 11 rfl rfl)
theorem dX4_staff_85 : decode cX4_staff 85 = .ok (.iconst 1, 1) := dk_4 (dk_at dksX4_staff_3 14 rfl rfl)
theorem dX4_staff_86 : decode cX4_staff 86 = .ok (.goto 4, 3) := dk_167 0 4 (dk_at dksX4_staff_3 15 rfl rfl)
theorem dX4_staff_89 : decode cX4_staff 89 = .ok (.iconst 0, 1) := dk_3 (dk_at dksX4_staff_3 18 rfl rfl)
theorem dX4_staff_90 : decode cX4_staff 90 = .ok (.iadd, 1) := dk_96 (dk_at dksX4_staff_3 19 rfl rfl)
theorem dX4_staff_91 : decode cX4_staff 91 = .ok (.istore 4, 2) := dk_54 4 (dk_at dksX4_staff_3 20 rfl rfl)
theorem dX4_staff_93 : decode cX4_staff 93 = .ok (.aload_n 0, 1) := dk_42 (dk_at dksX4_staff_3 22 rfl rfl)
theorem dX4_staff_94 : decode cX4_staff 94 = .ok (.getfield 26, 3) := dk_180 0 26 (dk_at dksX4_staff_4 0 rfl rfl)
theorem dX4_staff_97 : decode cX4_staff 97 = .ok (.iload_n 3, 1) := dk_29 (dk_at dksX4_staff_4 3 rfl rfl)
theorem dX4_staff_98 : decode cX4_staff 98 = .ok (.iload 6, 2) := dk_21 6 (dk_at dksX4_staff_4 4 rfl rfl)
theorem dX4_staff_100 : decode cX4_staff 100 = .ok (.iadd, 1) := dk_96 (dk_at dksX4_staff_4 6 rfl rfl)
theorem dX4_staff_101 : decode cX4_staff 101 = .ok (.iaload, 1) := dk_46 (dk_at dksX4_staff_4 7 rfl rfl)
theorem dX4_staff_102 : decode cX4_staff 102 = .ok (.iload 5, 2) := dk_21 5 (dk_at dksX4_staff_4 8 rfl rfl)
theorem dX4_staff_104 : decode cX4_staff 104 = .ok (.if_icmp .ge 15, 3) := dk_162 0 15 (dk_at dksX4_staff_4 10 rfl rfl)
theorem dX4_staff_107 : decode cX4_staff 107 = .ok (.aload_n 0, 1) := dk_42 (dk_at dksX4_staff_4 13 rfl rfl)
theorem dX4_staff_108 : decode cX4_staff 108 = .ok (.getfield 26, 3) := dk_180 0 26 (dk_at dksX4_staff_4 14 rfl rfl)
theorem dX4_staff_111 : decode cX4_staff 111 = .ok (.iload_n 3, 1) := dk_29 (dk_at dksX4_staff_4 17 rfl rfl)
theorem dX4_staff_112 : decode cX4_staff 112 = .ok (.iload 6, 2) := dk_21 6 (dk_at dksX4_staff_4 18 rfl rfl)
theorem dX4_staff_114 : decode cX4_staff 114 = .ok (.iadd, 1) := dk_96 (dk_at dksX4_staff_4 20 rfl rfl)
theorem dX4_staff_115 : decode cX4_staff 115 = .ok (.iaload, 1) := dk_46 (dk_at dksX4_staff_4 21 rfl rfl)
theorem dX4_staff_116 : decode cX4_staff 116 = .ok (.goto 5, 3) := dk_167 0 5 (dk_at dksX4_staff_5 0 rfl rfl)
theorem dX4_staff_119 : decode cX4_staff 119 = .ok (.iload 5, 2) := dk_21 5 (dk_at dksX4_staff_5 3 rfl rfl)
theorem dX4_staff_121 : decode cX4_staff 121 = .ok (.istore 5, 2) := dk_54 5 (dk_at dksX4_staff_5 5 rfl rfl)
theorem dX4_staff_123 : decode cX4_staff 123 = .ok (.iinc 6 1, 3) := dk_132 6 1 (dk_at dksX4_staff_5 7 rfl rfl)
theorem dX4_staff_126 : decode cX4_staff 126 = .ok (.goto (-77), 3) := dk_167 255 179 (dk_at dksX4_staff_5 10 rfl rfl)
theorem dX4_staff_129 : decode cX4_staff 129 = .ok (.iload_n 2, 1) := dk_28 (dk_at dksX4_staff_5 13 rfl rfl)
theorem dX4_staff_130 : decode cX4_staff 130 = .ok (.ifCond .ne 12, 3) := dk_154 0 12 (dk_at dksX4_staff_5 14 rfl rfl)
theorem dX4_staff_133 : decode cX4_staff 133 = .ok (.aload_n 0, 1) := dk_42 (dk_at dksX4_staff_5 17 rfl rfl)
theorem dX4_staff_134 : decode cX4_staff 134 = .ok (.getfield 26, 3) := dk_180 0 26 (dk_at dksX4_staff_5 18 rfl rfl)
theorem dX4_staff_137 : decode cX4_staff 137 = .ok (.iload_n 3, 1) := dk_29 (dk_at dksX4_staff_5 21 rfl rfl)
theorem dX4_staff_138 : decode cX4_staff 138 = .ok (.iaload, 1) := dk_46 (dk_at dksX4_staff_5 22 rfl rfl)
theorem dX4_staff_139 : decode cX4_staff 139 = .ok (.goto 35, 3) := dk_167 0 35 (dk_at dksX4_staff_6 0 rfl rfl)
theorem dX4_staff_142 : decode cX4_staff 142 = .ok (.iload_n 2, 1) := dk_28 (dk_at dksX4_staff_6 3 rfl rfl)
theorem dX4_staff_143 : decode cX4_staff 143 = .ok (.iconst 1, 1) := dk_4 (dk_at dksX4_staff_6 4 rfl rfl)
theorem dX4_staff_144 : decode cX4_staff 144 = .ok (.if_icmp .ne 8, 3) := dk_160 0 8 (dk_at dksX4_staff_6 5 rfl rfl)
theorem dX4_staff_147 : decode cX4_staff 147 = .ok (.iload 4, 2) := dk_21 4 (dk_at dksX4_staff_6 8 rfl rfl)
theorem dX4_staff_149 : decode cX4_staff 149 = .ok (.goto 25, 3) := dk_167 0 25 (dk_at dksX4_staff_6 10 rfl rfl)
theorem dX4_staff_152 : decode cX4_staff 152 = .ok (.iload 5, 2) := dk_21 5 (dk_at dksX4_staff_6 13 rfl rfl)
theorem dX4_staff_154 : decode cX4_staff 154 = .ok (.aload_n 0, 1) := dk_42 (dk_at dksX4_staff_6 15 rfl rfl)
theorem dX4_staff_155 : decode cX4_staff 155 = .ok (.getfield 26, 3) := dk_180 0 26 (dk_at dksX4_staff_6 16 rfl rfl)
theorem dX4_staff_158 : decode cX4_staff 158 = .ok (.iconst 0, 1) := dk_3 (dk_at dksX4_staff_6 19 rfl rfl)
theorem dX4_staff_159 : decode cX4_staff 159 = .ok (.iaload, 1) := dk_46 (dk_at dksX4_staff_6 20 rfl rfl)
theorem dX4_staff_160 : decode cX4_staff 160 = .ok (.if_icmp .le 8, 3) := dk_164 0 8 (dk_at dksX4_staff_6 21 rfl rfl)
theorem dX4_staff_163 : decode cX4_staff 163 = .ok (.iload 5, 2) := dk_21 5 (dk_at dksX4_staff_7 0 rfl rfl)
theorem dX4_staff_165 : decode cX4_staff 165 = .ok (.goto 9, 3) := dk_167 0 9 (dk_at dksX4_staff_7 2 rfl rfl)
theorem dX4_staff_168 : decode cX4_staff 168 = .ok (.aload_n 0, 1) := dk_42 (dk_at dksX4_staff_7 5 rfl rfl)
theorem dX4_staff_169 : decode cX4_staff 169 = .ok (.getfield 26, 3) := dk_180 0 26 (dk_at dksX4_staff_7 6 rfl rfl)
theorem dX4_staff_172 : decode cX4_staff 172 = .ok (.iconst 0, 1) := dk_3 (dk_at dksX4_staff_7 9 rfl rfl)
theorem dX4_staff_173 : decode cX4_staff 173 = .ok (.iaload, 1) := dk_46 (dk_at dksX4_staff_7 10 rfl rfl)
theorem dX4_staff_174 : decode cX4_staff 174 = .ok (.ireturn, 1) := dk_172 (dk_at dksX4_staff_7 11 rfl rfl)
abbrev cX4_isStaff : ByteArray := prog_24_method_41_code
def yX4_isStaff : MethodName := ⟨RX4, "isStaff", "(I)Z"⟩
def dkwX4_isStaff_1 : List UInt8 := [167, 0, 4, 3, 172]
abbrev dktX4_isStaff_1 : List UInt8 := dkwX4_isStaff_1 ++ []
def dkwX4_isStaff_0 : List UInt8 := [42, 180, 0, 178, 153, 0, 23, 27, 3, 42, 180, 0, 20, 7, 46, 4, 100, 184, 0, 147, 153, 0, 7, 4]
abbrev dktX4_isStaff_0 : List UInt8 := dkwX4_isStaff_0 ++ dktX4_isStaff_1
theorem dksX4_isStaff_0 : cX4_isStaff.data.toList.drop 0 = dktX4_isStaff_0 := by decide +kernel
theorem dksX4_isStaff_1 : cX4_isStaff.data.toList.drop 24 = dktX4_isStaff_1 := dk_seg dksX4_isStaff_0 24 rfl rfl
theorem dX4_isStaff_0 : decode cX4_isStaff 0 = .ok (.aload_n 0, 1) := dk_42 (dk_at dksX4_isStaff_0 0 rfl rfl)
theorem dX4_isStaff_1 : decode cX4_isStaff 1 = .ok (.getfield 178, 3) := dk_180 0 178 (dk_at dksX4_isStaff_0 1 rfl rfl)
theorem dX4_isStaff_4 : decode cX4_isStaff 4 = .ok (.ifCond .eq 23, 3) := dk_153 0 23 (dk_at dksX4_isStaff_0 4 rfl rfl)
theorem dX4_isStaff_7 : decode cX4_isStaff 7 = .ok (.iload_n 1, 1) := dk_27 (dk_at dksX4_isStaff_0 7 rfl rfl)
theorem dX4_isStaff_8 : decode cX4_isStaff 8 = .ok (.iconst 0, 1) := dk_3 (dk_at dksX4_isStaff_0 8 rfl rfl)
theorem dX4_isStaff_9 : decode cX4_isStaff 9 = .ok (.aload_n 0, 1) := dk_42 (dk_at dksX4_isStaff_0 9 rfl rfl)
theorem dX4_isStaff_10 : decode cX4_isStaff 10 = .ok (.getfield 20, 3) := dk_180 0 20 (dk_at dksX4_isStaff_0 10 rfl rfl)
theorem dX4_isStaff_13 : decode cX4_isStaff 13 = .ok (.iconst 4, 1) := dk_7 (dk_at dksX4_isStaff_0 13 rfl rfl)
theorem dX4_isStaff_14 : decode cX4_isStaff 14 = .ok (.iaload, 1) := dk_46 (dk_at dksX4_isStaff_0 14 rfl rfl)
theorem dX4_isStaff_15 : decode cX4_isStaff 15 = .ok (.iconst 1, 1) := dk_4 (dk_at dksX4_isStaff_0 15 rfl rfl)
theorem dX4_isStaff_16 : decode cX4_isStaff 16 = .ok (.isub, 1) := dk_100 (dk_at dksX4_isStaff_0 16 rfl rfl)
theorem dX4_isStaff_17 : decode cX4_isStaff 17 = .ok (.invokestatic 147, 3) := dk_184 0 147 (dk_at dksX4_isStaff_0 17 rfl rfl)
theorem dX4_isStaff_20 : decode cX4_isStaff 20 = .ok (.ifCond .eq 7, 3) := dk_153 0 7 (dk_at dksX4_isStaff_0 20 rfl rfl)
theorem dX4_isStaff_23 : decode cX4_isStaff 23 = .ok (.iconst 1, 1) := dk_4 (dk_at dksX4_isStaff_0 23 rfl rfl)
theorem dX4_isStaff_24 : decode cX4_isStaff 24 = .ok (.goto 4, 3) := dk_167 0 4 (dk_at dksX4_isStaff_1 0 rfl rfl)
theorem dX4_isStaff_27 : decode cX4_isStaff 27 = .ok (.iconst 0, 1) := dk_3 (dk_at dksX4_isStaff_1 3 rfl rfl)
theorem dX4_isStaff_28 : decode cX4_isStaff 28 = .ok (.ireturn, 1) := dk_172 (dk_at dksX4_isStaff_1 4 rfl rfl)
abbrev cX4_elbows : ByteArray := prog_24_method_68_code
def yX4_elbows : MethodName := ⟨RX4, "elbows", "(I)I"⟩
def dkwX4_elbows_2 : List UInt8 := [29, 4, 184, 1, 31, 27, 160, 0, 7, 4, 167, 0, 4, 3, 96, 61, 132, 3, 1, 167, 255, 211, 28, 172]
abbrev dktX4_elbows_2 : List UInt8 := dkwX4_elbows_2 ++ []
def dkwX4_elbows_1 : List UInt8 := [180, 0, 20, 8, 46, 162, 0, 41, 28, 42, 180, 0, 26, 29, 184, 1, 45, 153, 0, 20, 42, 180, 0, 26]
abbrev dktX4_elbows_1 : List UInt8 := dkwX4_elbows_1 ++ dktX4_elbows_2
def dkwX4_elbows_0 : List UInt8 := [42, 182, 0, 165, 42, 27, 182, 1, 96, 154, 0, 9, 42, 4, 182, 0, 168, 172, 3, 61, 3, 62, 29, 42]
abbrev dktX4_elbows_0 : List UInt8 := dkwX4_elbows_0 ++ dktX4_elbows_1
theorem dksX4_elbows_0 : cX4_elbows.data.toList.drop 0 = dktX4_elbows_0 := by decide +kernel
theorem dksX4_elbows_1 : cX4_elbows.data.toList.drop 24 = dktX4_elbows_1 := dk_seg dksX4_elbows_0 24 rfl rfl
theorem dksX4_elbows_2 : cX4_elbows.data.toList.drop 48 = dktX4_elbows_2 := dk_seg dksX4_elbows_1 24 rfl rfl
theorem dX4_elbows_0 : decode cX4_elbows 0 = .ok (.aload_n 0, 1) := dk_42 (dk_at dksX4_elbows_0 0 rfl rfl)
theorem dX4_elbows_1 : decode cX4_elbows 1 = .ok (.invokevirtual 165, 3) := dk_182 0 165 (dk_at dksX4_elbows_0 1 rfl rfl)
theorem dX4_elbows_4 : decode cX4_elbows 4 = .ok (.aload_n 0, 1) := dk_42 (dk_at dksX4_elbows_0 4 rfl rfl)
theorem dX4_elbows_5 : decode cX4_elbows 5 = .ok (.iload_n 1, 1) := dk_27 (dk_at dksX4_elbows_0 5 rfl rfl)
theorem dX4_elbows_6 : decode cX4_elbows 6 = .ok (.invokevirtual 352, 3) := dk_182 1 96 (dk_at dksX4_elbows_0 6 rfl rfl)
theorem dX4_elbows_9 : decode cX4_elbows 9 = .ok (.ifCond .ne 9, 3) := dk_154 0 9 (dk_at dksX4_elbows_0 9 rfl rfl)
theorem dX4_elbows_12 : decode cX4_elbows 12 = .ok (.aload_n 0, 1) := dk_42 (dk_at dksX4_elbows_0 12 rfl rfl)
theorem dX4_elbows_13 : decode cX4_elbows 13 = .ok (.iconst 1, 1) := dk_4 (dk_at dksX4_elbows_0 13 rfl rfl)
theorem dX4_elbows_14 : decode cX4_elbows 14 = .ok (.invokevirtual 168, 3) := dk_182 0 168 (dk_at dksX4_elbows_0 14 rfl rfl)
theorem dX4_elbows_17 : decode cX4_elbows 17 = .ok (.ireturn, 1) := dk_172 (dk_at dksX4_elbows_0 17 rfl rfl)
theorem dX4_elbows_18 : decode cX4_elbows 18 = .ok (.iconst 0, 1) := dk_3 (dk_at dksX4_elbows_0 18 rfl rfl)
theorem dX4_elbows_19 : decode cX4_elbows 19 = .ok (.istore_n 2, 1) := dk_61 (dk_at dksX4_elbows_0 19 rfl rfl)
theorem dX4_elbows_20 : decode cX4_elbows 20 = .ok (.iconst 0, 1) := dk_3 (dk_at dksX4_elbows_0 20 rfl rfl)
theorem dX4_elbows_21 : decode cX4_elbows 21 = .ok (.istore_n 3, 1) := dk_62 (dk_at dksX4_elbows_0 21 rfl rfl)
theorem dX4_elbows_22 : decode cX4_elbows 22 = .ok (.iload_n 3, 1) := dk_29 (dk_at dksX4_elbows_0 22 rfl rfl)
theorem dX4_elbows_23 : decode cX4_elbows 23 = .ok (.aload_n 0, 1) := dk_42 (dk_at dksX4_elbows_0 23 rfl rfl)
theorem dX4_elbows_24 : decode cX4_elbows 24 = .ok (.getfield 20, 3) := dk_180 0 20 (dk_at dksX4_elbows_1 0 rfl rfl)
theorem dX4_elbows_27 : decode cX4_elbows 27 = .ok (.iconst 5, 1) := dk_8 (dk_at dksX4_elbows_1 3 rfl rfl)
theorem dX4_elbows_28 : decode cX4_elbows 28 = .ok (.iaload, 1) := dk_46 (dk_at dksX4_elbows_1 4 rfl rfl)
theorem dX4_elbows_29 : decode cX4_elbows 29 = .ok (.if_icmp .ge 41, 3) := dk_162 0 41 (dk_at dksX4_elbows_1 5 rfl rfl)
theorem dX4_elbows_32 : decode cX4_elbows 32 = .ok (.iload_n 2, 1) := dk_28 (dk_at dksX4_elbows_1 8 rfl rfl)
theorem dX4_elbows_33 : decode cX4_elbows 33 = .ok (.aload_n 0, 1) := dk_42 (dk_at dksX4_elbows_1 9 rfl rfl)
theorem dX4_elbows_34 : decode cX4_elbows 34 = .ok (.getfield 26, 3) := dk_180 0 26 (dk_at dksX4_elbows_1 10 rfl rfl)
theorem dX4_elbows_37 : decode cX4_elbows 37 = .ok (.iload_n 3, 1) := dk_29 (dk_at dksX4_elbows_1 13 rfl rfl)
theorem dX4_elbows_38 : decode cX4_elbows 38 = .ok (.invokestatic 301, 3) := dk_184 1 45 (dk_at dksX4_elbows_1 14 rfl rfl)
theorem dX4_elbows_41 : decode cX4_elbows 41 = .ok (.ifCond .eq 20, 3) := dk_153 0 20 (dk_at dksX4_elbows_1 17 rfl rfl)
theorem dX4_elbows_44 : decode cX4_elbows 44 = .ok (.aload_n 0, 1) := dk_42 (dk_at dksX4_elbows_1 20 rfl rfl)
theorem dX4_elbows_45 : decode cX4_elbows 45 = .ok (.getfield 26, 3) := dk_180 0 26 (dk_at dksX4_elbows_1 21 rfl rfl)
theorem dX4_elbows_48 : decode cX4_elbows 48 = .ok (.iload_n 3, 1) := dk_29 (dk_at dksX4_elbows_2 0 rfl rfl)
theorem dX4_elbows_49 : decode cX4_elbows 49 = .ok (.iconst 1, 1) := dk_4 (dk_at dksX4_elbows_2 1 rfl rfl)
theorem dX4_elbows_50 : decode cX4_elbows 50 = .ok (.invokestatic 287, 3) := dk_184 1 31 (dk_at dksX4_elbows_2 2 rfl rfl)
theorem dX4_elbows_53 : decode cX4_elbows 53 = .ok (.iload_n 1, 1) := dk_27 (dk_at dksX4_elbows_2 5 rfl rfl)
theorem dX4_elbows_54 : decode cX4_elbows 54 = .ok (.if_icmp .ne 7, 3) := dk_160 0 7 (dk_at dksX4_elbows_2 6 rfl rfl)
theorem dX4_elbows_57 : decode cX4_elbows 57 = .ok (.iconst 1, 1) := dk_4 (dk_at dksX4_elbows_2 9 rfl rfl)
theorem dX4_elbows_58 : decode cX4_elbows 58 = .ok (.goto 4, 3) := dk_167 0 4 (dk_at dksX4_elbows_2 10 rfl rfl)
theorem dX4_elbows_61 : decode cX4_elbows 61 = .ok (.iconst 0, 1) := dk_3 (dk_at dksX4_elbows_2 13 rfl rfl)
theorem dX4_elbows_62 : decode cX4_elbows 62 = .ok (.iadd, 1) := dk_96 (dk_at dksX4_elbows_2 14 rfl rfl)
theorem dX4_elbows_63 : decode cX4_elbows 63 = .ok (.istore_n 2, 1) := dk_61 (dk_at dksX4_elbows_2 15 rfl rfl)
theorem dX4_elbows_64 : decode cX4_elbows 64 = .ok (.iinc 3 1, 3) := dk_132 3 1 (dk_at dksX4_elbows_2 16 rfl rfl)
theorem dX4_elbows_67 : decode cX4_elbows 67 = .ok (.goto (-45), 3) := dk_167 255 211 (dk_at dksX4_elbows_2 19 rfl rfl)
theorem dX4_elbows_70 : decode cX4_elbows 70 = .ok (.iload_n 2, 1) := dk_28 (dk_at dksX4_elbows_2 22 rfl rfl)
theorem dX4_elbows_71 : decode cX4_elbows 71 = .ok (.ireturn, 1) := dk_172 (dk_at dksX4_elbows_2 23 rfl rfl)
abbrev cX4_isSpot : ByteArray := prog_24_method_42_code
def yX4_isSpot : MethodName := ⟨RX4, "isSpot", "(I)Z"⟩
def dkwX4_isSpot_1 : List UInt8 := [167, 0, 4, 3, 172]
abbrev dktX4_isSpot_1 : List UInt8 := dkwX4_isSpot_1 ++ []
def dkwX4_isSpot_0 : List UInt8 := [42, 180, 0, 178, 153, 0, 23, 27, 3, 42, 180, 0, 20, 4, 46, 4, 100, 184, 0, 147, 153, 0, 7, 4]
abbrev dktX4_isSpot_0 : List UInt8 := dkwX4_isSpot_0 ++ dktX4_isSpot_1
theorem dksX4_isSpot_0 : cX4_isSpot.data.toList.drop 0 = dktX4_isSpot_0 := by decide +kernel
theorem dksX4_isSpot_1 : cX4_isSpot.data.toList.drop 24 = dktX4_isSpot_1 := dk_seg dksX4_isSpot_0 24 rfl rfl
theorem dX4_isSpot_0 : decode cX4_isSpot 0 = .ok (.aload_n 0, 1) := dk_42 (dk_at dksX4_isSpot_0 0 rfl rfl)
theorem dX4_isSpot_1 : decode cX4_isSpot 1 = .ok (.getfield 178, 3) := dk_180 0 178 (dk_at dksX4_isSpot_0 1 rfl rfl)
theorem dX4_isSpot_4 : decode cX4_isSpot 4 = .ok (.ifCond .eq 23, 3) := dk_153 0 23 (dk_at dksX4_isSpot_0 4 rfl rfl)
theorem dX4_isSpot_7 : decode cX4_isSpot 7 = .ok (.iload_n 1, 1) := dk_27 (dk_at dksX4_isSpot_0 7 rfl rfl)
theorem dX4_isSpot_8 : decode cX4_isSpot 8 = .ok (.iconst 0, 1) := dk_3 (dk_at dksX4_isSpot_0 8 rfl rfl)
theorem dX4_isSpot_9 : decode cX4_isSpot 9 = .ok (.aload_n 0, 1) := dk_42 (dk_at dksX4_isSpot_0 9 rfl rfl)
theorem dX4_isSpot_10 : decode cX4_isSpot 10 = .ok (.getfield 20, 3) := dk_180 0 20 (dk_at dksX4_isSpot_0 10 rfl rfl)
theorem dX4_isSpot_13 : decode cX4_isSpot 13 = .ok (.iconst 1, 1) := dk_4 (dk_at dksX4_isSpot_0 13 rfl rfl)
theorem dX4_isSpot_14 : decode cX4_isSpot 14 = .ok (.iaload, 1) := dk_46 (dk_at dksX4_isSpot_0 14 rfl rfl)
theorem dX4_isSpot_15 : decode cX4_isSpot 15 = .ok (.iconst 1, 1) := dk_4 (dk_at dksX4_isSpot_0 15 rfl rfl)
theorem dX4_isSpot_16 : decode cX4_isSpot 16 = .ok (.isub, 1) := dk_100 (dk_at dksX4_isSpot_0 16 rfl rfl)
theorem dX4_isSpot_17 : decode cX4_isSpot 17 = .ok (.invokestatic 147, 3) := dk_184 0 147 (dk_at dksX4_isSpot_0 17 rfl rfl)
theorem dX4_isSpot_20 : decode cX4_isSpot 20 = .ok (.ifCond .eq 7, 3) := dk_153 0 7 (dk_at dksX4_isSpot_0 20 rfl rfl)
theorem dX4_isSpot_23 : decode cX4_isSpot 23 = .ok (.iconst 1, 1) := dk_4 (dk_at dksX4_isSpot_0 23 rfl rfl)
theorem dX4_isSpot_24 : decode cX4_isSpot 24 = .ok (.goto 4, 3) := dk_167 0 4 (dk_at dksX4_isSpot_1 0 rfl rfl)
theorem dX4_isSpot_27 : decode cX4_isSpot 27 = .ok (.iconst 0, 1) := dk_3 (dk_at dksX4_isSpot_1 3 rfl rfl)
theorem dX4_isSpot_28 : decode cX4_isSpot 28 = .ok (.ireturn, 1) := dk_172 (dk_at dksX4_isSpot_1 4 rfl rfl)
abbrev cX4_isWaiting : ByteArray := prog_24_method_50_code
def yX4_isWaiting : MethodName := ⟨RX4, "isWaiting", "([II)Z"⟩
def dkwX4_isWaiting_0 : List UInt8 := [42, 27, 3, 184, 1, 31, 4, 160, 0, 7, 4, 167, 0, 4, 3, 172]
abbrev dktX4_isWaiting_0 : List UInt8 := dkwX4_isWaiting_0 ++ []
theorem dksX4_isWaiting_0 : cX4_isWaiting.data.toList.drop 0 = dktX4_isWaiting_0 := by decide +kernel
theorem dX4_isWaiting_0 : decode cX4_isWaiting 0 = .ok (.aload_n 0, 1) := dk_42 (dk_at dksX4_isWaiting_0 0 rfl rfl)
theorem dX4_isWaiting_1 : decode cX4_isWaiting 1 = .ok (.iload_n 1, 1) := dk_27 (dk_at dksX4_isWaiting_0 1 rfl rfl)
theorem dX4_isWaiting_2 : decode cX4_isWaiting 2 = .ok (.iconst 0, 1) := dk_3 (dk_at dksX4_isWaiting_0 2 rfl rfl)
theorem dX4_isWaiting_3 : decode cX4_isWaiting 3 = .ok (.invokestatic 287, 3) := dk_184 1 31 (dk_at dksX4_isWaiting_0 3 rfl rfl)
theorem dX4_isWaiting_6 : decode cX4_isWaiting 6 = .ok (.iconst 1, 1) := dk_4 (dk_at dksX4_isWaiting_0 6 rfl rfl)
theorem dX4_isWaiting_7 : decode cX4_isWaiting 7 = .ok (.if_icmp .ne 7, 3) := dk_160 0 7 (dk_at dksX4_isWaiting_0 7 rfl rfl)
theorem dX4_isWaiting_10 : decode cX4_isWaiting 10 = .ok (.iconst 1, 1) := dk_4 (dk_at dksX4_isWaiting_0 10 rfl rfl)
theorem dX4_isWaiting_11 : decode cX4_isWaiting 11 = .ok (.goto 4, 3) := dk_167 0 4 (dk_at dksX4_isWaiting_0 11 rfl rfl)
theorem dX4_isWaiting_14 : decode cX4_isWaiting 14 = .ok (.iconst 0, 1) := dk_3 (dk_at dksX4_isWaiting_0 14 rfl rfl)
theorem dX4_isWaiting_15 : decode cX4_isWaiting 15 = .ok (.ireturn, 1) := dk_172 (dk_at dksX4_isWaiting_0 15 rfl rfl)
abbrev cX4_its : ByteArray := prog_24_method_49_code
def yX4_its : MethodName := ⟨RX4, "its", "([III)I"⟩
def dkwX4_its_0 : List UInt8 := [42, 16, 12, 16, 8, 27, 104, 96, 28, 96, 46, 172]
abbrev dktX4_its_0 : List UInt8 := dkwX4_its_0 ++ []
theorem dksX4_its_0 : cX4_its.data.toList.drop 0 = dktX4_its_0 := by decide +kernel
theorem dX4_its_0 : decode cX4_its 0 = .ok (.aload_n 0, 1) := dk_42 (dk_at dksX4_its_0 0 rfl rfl)
theorem dX4_its_1 : decode cX4_its 1 = .ok (.bipush 12, 2) := dk_16 12 (dk_at dksX4_its_0 1 rfl rfl)
theorem dX4_its_3 : decode cX4_its 3 = .ok (.bipush 8, 2) := dk_16 8 (dk_at dksX4_its_0 3 rfl rfl)
theorem dX4_its_5 : decode cX4_its 5 = .ok (.iload_n 1, 1) := dk_27 (dk_at dksX4_its_0 5 rfl rfl)
theorem dX4_its_6 : decode cX4_its 6 = .ok (.imul, 1) := dk_104 (dk_at dksX4_its_0 6 rfl rfl)
theorem dX4_its_7 : decode cX4_its 7 = .ok (.iadd, 1) := dk_96 (dk_at dksX4_its_0 7 rfl rfl)
theorem dX4_its_8 : decode cX4_its 8 = .ok (.iload_n 2, 1) := dk_28 (dk_at dksX4_its_0 8 rfl rfl)
theorem dX4_its_9 : decode cX4_its 9 = .ok (.iadd, 1) := dk_96 (dk_at dksX4_its_0 9 rfl rfl)
theorem dX4_its_10 : decode cX4_its 10 = .ok (.iaload, 1) := dk_46 (dk_at dksX4_its_0 10 rfl rfl)
theorem dX4_its_11 : decode cX4_its 11 = .ok (.ireturn, 1) := dk_172 (dk_at dksX4_its_0 11 rfl rfl)
abbrev cX4_waiting : ByteArray := prog_24_method_70_code
def yX4_waiting : MethodName := ⟨RX4, "waiting", "()I"⟩
def dkwX4_waiting_1 : List UInt8 := [182, 0, 168, 172]
abbrev dktX4_waiting_1 : List UInt8 := dkwX4_waiting_1 ++ []
def dkwX4_waiting_0 : List UInt8 := [42, 182, 0, 165, 42, 180, 0, 178, 153, 0, 14, 42, 42, 180, 0, 26, 182, 1, 99, 167, 0, 8, 42, 4]
abbrev dktX4_waiting_0 : List UInt8 := dkwX4_waiting_0 ++ dktX4_waiting_1
theorem dksX4_waiting_0 : cX4_waiting.data.toList.drop 0 = dktX4_waiting_0 := by decide +kernel
theorem dksX4_waiting_1 : cX4_waiting.data.toList.drop 24 = dktX4_waiting_1 := dk_seg dksX4_waiting_0 24 rfl rfl
theorem dX4_waiting_0 : decode cX4_waiting 0 = .ok (.aload_n 0, 1) := dk_42 (dk_at dksX4_waiting_0 0 rfl rfl)
theorem dX4_waiting_1 : decode cX4_waiting 1 = .ok (.invokevirtual 165, 3) := dk_182 0 165 (dk_at dksX4_waiting_0 1 rfl rfl)
theorem dX4_waiting_4 : decode cX4_waiting 4 = .ok (.aload_n 0, 1) := dk_42 (dk_at dksX4_waiting_0 4 rfl rfl)
theorem dX4_waiting_5 : decode cX4_waiting 5 = .ok (.getfield 178, 3) := dk_180 0 178 (dk_at dksX4_waiting_0 5 rfl rfl)
theorem dX4_waiting_8 : decode cX4_waiting 8 = .ok (.ifCond .eq 14, 3) := dk_153 0 14 (dk_at dksX4_waiting_0 8 rfl rfl)
theorem dX4_waiting_11 : decode cX4_waiting 11 = .ok (.aload_n 0, 1) := dk_42 (dk_at dksX4_waiting_0 11 rfl rfl)
theorem dX4_waiting_12 : decode cX4_waiting 12 = .ok (.aload_n 0, 1) := dk_42 (dk_at dksX4_waiting_0 12 rfl rfl)
theorem dX4_waiting_13 : decode cX4_waiting 13 = .ok (.getfield 26, 3) := dk_180 0 26 (dk_at dksX4_waiting_0 13 rfl rfl)
theorem dX4_waiting_16 : decode cX4_waiting 16 = .ok (.invokevirtual 355, 3) := dk_182 1 99 (dk_at dksX4_waiting_0 16 rfl rfl)
theorem dX4_waiting_19 : decode cX4_waiting 19 = .ok (.goto 8, 3) := dk_167 0 8 (dk_at dksX4_waiting_0 19 rfl rfl)
theorem dX4_waiting_22 : decode cX4_waiting 22 = .ok (.aload_n 0, 1) := dk_42 (dk_at dksX4_waiting_0 22 rfl rfl)
theorem dX4_waiting_23 : decode cX4_waiting 23 = .ok (.iconst 1, 1) := dk_4 (dk_at dksX4_waiting_0 23 rfl rfl)
theorem dX4_waiting_24 : decode cX4_waiting 24 = .ok (.invokevirtual 168, 3) := dk_182 0 168 (dk_at dksX4_waiting_1 0 rfl rfl)
theorem dX4_waiting_27 : decode cX4_waiting 27 = .ok (.ireturn, 1) := dk_172 (dk_at dksX4_waiting_1 3 rfl rfl)
abbrev cX4_manyWaiting : ByteArray := prog_24_method_69_code
def yX4_manyWaiting : MethodName := ⟨RX4, "manyWaiting", "([I)I"⟩
def dkwX4_manyWaiting_1 : List UInt8 := [167, 0, 4, 3, 96, 61, 132, 3, 1, 167, 255, 227, 28, 172]
abbrev dktX4_manyWaiting_1 : List UInt8 := dkwX4_manyWaiting_1 ++ []
def dkwX4_manyWaiting_0 : List UInt8 := [3, 61, 3, 62, 29, 42, 180, 0, 20, 8, 46, 162, 0, 25, 28, 43, 29, 184, 1, 45, 153, 0, 7, 4]
abbrev dktX4_manyWaiting_0 : List UInt8 := dkwX4_manyWaiting_0 ++ dktX4_manyWaiting_1
theorem dksX4_manyWaiting_0 : cX4_manyWaiting.data.toList.drop 0 = dktX4_manyWaiting_0 := by decide +kernel
theorem dksX4_manyWaiting_1 : cX4_manyWaiting.data.toList.drop 24 = dktX4_manyWaiting_1 := dk_seg dksX4_manyWaiting_0 24 rfl rfl
theorem dX4_manyWaiting_0 : decode cX4_manyWaiting 0 = .ok (.iconst 0, 1) := dk_3 (dk_at dksX4_manyWaiting_0 0 rfl rfl)
theorem dX4_manyWaiting_1 : decode cX4_manyWaiting 1 = .ok (.istore_n 2, 1) := dk_61 (dk_at dksX4_manyWaiting_0 1 rfl rfl)
theorem dX4_manyWaiting_2 : decode cX4_manyWaiting 2 = .ok (.iconst 0, 1) := dk_3 (dk_at dksX4_manyWaiting_0 2 rfl rfl)
theorem dX4_manyWaiting_3 : decode cX4_manyWaiting 3 = .ok (.istore_n 3, 1) := dk_62 (dk_at dksX4_manyWaiting_0 3 rfl rfl)
theorem dX4_manyWaiting_4 : decode cX4_manyWaiting 4 = .ok (.iload_n 3, 1) := dk_29 (dk_at dksX4_manyWaiting_0 4 rfl rfl)
theorem dX4_manyWaiting_5 : decode cX4_manyWaiting 5 = .ok (.aload_n 0, 1) := dk_42 (dk_at dksX4_manyWaiting_0 5 rfl rfl)
theorem dX4_manyWaiting_6 : decode cX4_manyWaiting 6 = .ok (.getfield 20, 3) := dk_180 0 20 (dk_at dksX4_manyWaiting_0 6 rfl rfl)
theorem dX4_manyWaiting_9 : decode cX4_manyWaiting 9 = .ok (.iconst 5, 1) := dk_8 (dk_at dksX4_manyWaiting_0 9 rfl rfl)
theorem dX4_manyWaiting_10 : decode cX4_manyWaiting 10 = .ok (.iaload, 1) := dk_46 (dk_at dksX4_manyWaiting_0 10 rfl rfl)
theorem dX4_manyWaiting_11 : decode cX4_manyWaiting 11 = .ok (.if_icmp .ge 25, 3) := dk_162 0 25 (dk_at dksX4_manyWaiting_0 11 rfl rfl)
theorem dX4_manyWaiting_14 : decode cX4_manyWaiting 14 = .ok (.iload_n 2, 1) := dk_28 (dk_at dksX4_manyWaiting_0 14 rfl rfl)
theorem dX4_manyWaiting_15 : decode cX4_manyWaiting 15 = .ok (.aload_n 1, 1) := dk_43 (dk_at dksX4_manyWaiting_0 15 rfl rfl)
theorem dX4_manyWaiting_16 : decode cX4_manyWaiting 16 = .ok (.iload_n 3, 1) := dk_29 (dk_at dksX4_manyWaiting_0 16 rfl rfl)
theorem dX4_manyWaiting_17 : decode cX4_manyWaiting 17 = .ok (.invokestatic 301, 3) := dk_184 1 45 (dk_at dksX4_manyWaiting_0 17 rfl rfl)
theorem dX4_manyWaiting_20 : decode cX4_manyWaiting 20 = .ok (.ifCond .eq 7, 3) := dk_153 0 7 (dk_at dksX4_manyWaiting_0 20 rfl rfl)
theorem dX4_manyWaiting_23 : decode cX4_manyWaiting 23 = .ok (.iconst 1, 1) := dk_4 (dk_at dksX4_manyWaiting_0 23 rfl rfl)
theorem dX4_manyWaiting_24 : decode cX4_manyWaiting 24 = .ok (.goto 4, 3) := dk_167 0 4 (dk_at dksX4_manyWaiting_1 0 rfl rfl)
theorem dX4_manyWaiting_27 : decode cX4_manyWaiting 27 = .ok (.iconst 0, 1) := dk_3 (dk_at dksX4_manyWaiting_1 3 rfl rfl)
theorem dX4_manyWaiting_28 : decode cX4_manyWaiting 28 = .ok (.iadd, 1) := dk_96 (dk_at dksX4_manyWaiting_1 4 rfl rfl)
theorem dX4_manyWaiting_29 : decode cX4_manyWaiting 29 = .ok (.istore_n 2, 1) := dk_61 (dk_at dksX4_manyWaiting_1 5 rfl rfl)
theorem dX4_manyWaiting_30 : decode cX4_manyWaiting 30 = .ok (.iinc 3 1, 3) := dk_132 3 1 (dk_at dksX4_manyWaiting_1 6 rfl rfl)
theorem dX4_manyWaiting_33 : decode cX4_manyWaiting 33 = .ok (.goto (-29), 3) := dk_167 255 227 (dk_at dksX4_manyWaiting_1 9 rfl rfl)
theorem dX4_manyWaiting_36 : decode cX4_manyWaiting 36 = .ok (.iload_n 2, 1) := dk_28 (dk_at dksX4_manyWaiting_1 12 rfl rfl)
theorem dX4_manyWaiting_37 : decode cX4_manyWaiting 37 = .ok (.ireturn, 1) := dk_172 (dk_at dksX4_manyWaiting_1 13 rfl rfl)
abbrev cX4_next : ByteArray := prog_24_method_71_code
def yX4_next : MethodName := ⟨RX4, "next", "(I)I"⟩
def dkwX4_next_1 : List UInt8 := [180, 0, 26, 27, 182, 1, 56, 172]
abbrev dktX4_next_1 : List UInt8 := dkwX4_next_1 ++ []
def dkwX4_next_0 : List UInt8 := [42, 182, 0, 165, 42, 27, 182, 1, 93, 154, 0, 9, 42, 4, 182, 0, 168, 172, 42, 182, 0, 187, 42, 42]
abbrev dktX4_next_0 : List UInt8 := dkwX4_next_0 ++ dktX4_next_1
theorem dksX4_next_0 : cX4_next.data.toList.drop 0 = dktX4_next_0 := by decide +kernel
theorem dksX4_next_1 : cX4_next.data.toList.drop 24 = dktX4_next_1 := dk_seg dksX4_next_0 24 rfl rfl
theorem dX4_next_0 : decode cX4_next 0 = .ok (.aload_n 0, 1) := dk_42 (dk_at dksX4_next_0 0 rfl rfl)
theorem dX4_next_1 : decode cX4_next 1 = .ok (.invokevirtual 165, 3) := dk_182 0 165 (dk_at dksX4_next_0 1 rfl rfl)
theorem dX4_next_4 : decode cX4_next 4 = .ok (.aload_n 0, 1) := dk_42 (dk_at dksX4_next_0 4 rfl rfl)
theorem dX4_next_5 : decode cX4_next 5 = .ok (.iload_n 1, 1) := dk_27 (dk_at dksX4_next_0 5 rfl rfl)
theorem dX4_next_6 : decode cX4_next 6 = .ok (.invokevirtual 349, 3) := dk_182 1 93 (dk_at dksX4_next_0 6 rfl rfl)
theorem dX4_next_9 : decode cX4_next 9 = .ok (.ifCond .ne 9, 3) := dk_154 0 9 (dk_at dksX4_next_0 9 rfl rfl)
theorem dX4_next_12 : decode cX4_next 12 = .ok (.aload_n 0, 1) := dk_42 (dk_at dksX4_next_0 12 rfl rfl)
theorem dX4_next_13 : decode cX4_next 13 = .ok (.iconst 1, 1) := dk_4 (dk_at dksX4_next_0 13 rfl rfl)
theorem dX4_next_14 : decode cX4_next 14 = .ok (.invokevirtual 168, 3) := dk_182 0 168 (dk_at dksX4_next_0 14 rfl rfl)
theorem dX4_next_17 : decode cX4_next 17 = .ok (.ireturn, 1) := dk_172 (dk_at dksX4_next_0 17 rfl rfl)
theorem dX4_next_18 : decode cX4_next 18 = .ok (.aload_n 0, 1) := dk_42 (dk_at dksX4_next_0 18 rfl rfl)
theorem dX4_next_19 : decode cX4_next 19 = .ok (.invokevirtual 187, 3) := dk_182 0 187 (dk_at dksX4_next_0 19 rfl rfl)
theorem dX4_next_22 : decode cX4_next 22 = .ok (.aload_n 0, 1) := dk_42 (dk_at dksX4_next_0 22 rfl rfl)
theorem dX4_next_23 : decode cX4_next 23 = .ok (.aload_n 0, 1) := dk_42 (dk_at dksX4_next_0 23 rfl rfl)
theorem dX4_next_24 : decode cX4_next 24 = .ok (.getfield 26, 3) := dk_180 0 26 (dk_at dksX4_next_1 0 rfl rfl)
theorem dX4_next_27 : decode cX4_next 27 = .ok (.iload_n 1, 1) := dk_27 (dk_at dksX4_next_1 3 rfl rfl)
theorem dX4_next_28 : decode cX4_next 28 = .ok (.invokevirtual 312, 3) := dk_182 1 56 (dk_at dksX4_next_1 4 rfl rfl)
theorem dX4_next_31 : decode cX4_next 31 = .ok (.ireturn, 1) := dk_172 (dk_at dksX4_next_1 7 rfl rfl)
abbrev cX4_nextFor : ByteArray := prog_24_method_55_code
def yX4_nextFor : MethodName := ⟨RX4, "nextFo\x72", "([II)I"⟩
def dkwX4_nextFor_5 : List UInt8 := [182, 1, 25, 42, 29, 5, 182, 1, 25, 162, 0, 6, 21, 4, 62, 132, 4, 1, 167, 255, 131, 29, 172]
abbrev dktX4_nextFor_5 : List UInt8 := dkwX4_nextFor_5 ++ []
def dkwX4_nextFor_4 : List UInt8 := [182, 1, 49, 54, 6, 21, 5, 21, 6, 161, 0, 26, 21, 5, 21, 6, 160, 0, 22, 42, 21, 4, 5]
abbrev dktX4_nextFor_4 : List UInt8 := dkwX4_nextFor_4 ++ dktX4_nextFor_5
def dkwX4_nextFor_3 : List UInt8 := [160, 0, 9, 21, 4, 62, 167, 0, 55, 42, 43, 28, 21, 4, 182, 1, 49, 54, 5, 42, 43, 28, 29]
abbrev dktX4_nextFor_3 : List UInt8 := dkwX4_nextFor_3 ++ dktX4_nextFor_4
def dkwX4_nextFor_2 : List UInt8 := [180, 0, 38, 16, 6, 28, 104, 6, 96, 46, 184, 0, 147, 154, 0, 6, 167, 0, 67, 29, 16, 254]
abbrev dktX4_nextFor_2 : List UInt8 := dkwX4_nextFor_2 ++ dktX4_nextFor_3
def dkwX4_nextFor_1 : List UInt8 := [153, 0, 105, 43, 21, 4, 4, 184, 1, 31, 42, 180, 0, 38, 16, 6, 28, 104, 5, 96, 46, 42]
abbrev dktX4_nextFor_1 : List UInt8 := dkwX4_nextFor_1 ++ dktX4_nextFor_2
def dkwX4_nextFor_0 : List UInt8 := [16, 254, 62, 3, 54, 4, 21, 4, 42, 180, 0, 20, 8, 46, 162, 0, 120, 43, 21, 4, 184, 1, 45]
abbrev dktX4_nextFor_0 : List UInt8 := dkwX4_nextFor_0 ++ dktX4_nextFor_1
theorem dksX4_nextFor_0 : cX4_nextFor.data.toList.drop 0 = dktX4_nextFor_0 := by decide +kernel
theorem dksX4_nextFor_1 : cX4_nextFor.data.toList.drop 23 = dktX4_nextFor_1 := dk_seg dksX4_nextFor_0 23 rfl rfl
theorem dksX4_nextFor_2 : cX4_nextFor.data.toList.drop 45 = dktX4_nextFor_2 := dk_seg dksX4_nextFor_1 22 rfl rfl
theorem dksX4_nextFor_3 : cX4_nextFor.data.toList.drop 67 = dktX4_nextFor_3 := dk_seg dksX4_nextFor_2 22 rfl rfl
theorem dksX4_nextFor_4 : cX4_nextFor.data.toList.drop 90 = dktX4_nextFor_4 := dk_seg dksX4_nextFor_3 23 rfl rfl
theorem dksX4_nextFor_5 : cX4_nextFor.data.toList.drop 113 = dktX4_nextFor_5 := dk_seg dksX4_nextFor_4 23 rfl rfl
theorem dX4_nextFor_0 : decode cX4_nextFor 0 = .ok (.bipush (-2), 2) := dk_16 254 (dk_at dksX4_nextFor_0 0 rfl rfl)
theorem dX4_nextFor_2 : decode cX4_nextFor 2 = .ok (.istore_n 3, 1) := dk_62 (dk_at dksX4_nextFor_0 2 rfl rfl)
theorem dX4_nextFor_3 : decode cX4_nextFor 3 = .ok (.iconst 0, 1) := dk_3 (dk_at dksX4_nextFor_0 3 rfl rfl)
theorem dX4_nextFor_4 : decode cX4_nextFor 4 = .ok (.istore 4, 2) := dk_54 4 (dk_at dksX4_nextFor_0 4 rfl rfl)
theorem dX4_nextFor_6 : decode cX4_nextFor 6 = .ok (.iload 4, 2) := dk_21 4 (dk_at dksX4_nextFor_0 6 rfl rfl)
theorem dX4_nextFor_8 : decode cX4_nextFor 8 = .ok (.aload_n 0, 1) := dk_42 (dk_at dksX4_nextFor_0 8 rfl rfl)
theorem dX4_nextFor_9 : decode cX4_nextFor 9 = .ok (.getfield 20, 3) := dk_180 0 20 (dk_at dksX4_nextFor_0 9 rfl rfl)
theorem dX4_nextFor_12 : decode cX4_nextFor 12 = .ok (.iconst 5, 1) := dk_8 (dk_at dksX4_nextFor_0 12 rfl rfl)
theorem dX4_nextFor_13 : decode cX4_nextFor 13 = .ok (.iaload, 1) := dk_46 (dk_at dksX4_nextFor_0 13 rfl rfl)
theorem dX4_nextFor_14 : decode cX4_nextFor 14 = .ok (.if_icmp .ge 120, 3) := dk_162 0 120 (dk_at dksX4_nextFor_0 14 rfl rfl)
theorem dX4_nextFor_17 : decode cX4_nextFor 17 = .ok (.aload_n 1, 1) := dk_43 (dk_at dksX4_nextFor_0 17 rfl rfl)
theorem dX4_nextFor_18 : decode cX4_nextFor 18 = .ok (.iload 4, 2) := dk_21 4 (dk_at dksX4_nextFor_0 18 rfl rfl)
theorem dX4_nextFor_20 : decode cX4_nextFor 20 = .ok (.invokestatic 301, 3) := dk_184 1 45 (dk_at dksX4_nextFor_0 20 rfl rfl)
theorem dX4_nextFor_23 : decode cX4_nextFor 23 = .ok (.ifCond .eq 105, 3) := dk_153 0 105 (dk_at dksX4_nextFor_1 0 rfl rfl)
theorem dX4_nextFor_26 : decode cX4_nextFor 26 = .ok (.aload_n 1, 1) := dk_43 (dk_at dksX4_nextFor_1 3 rfl rfl)
theorem dX4_nextFor_27 : decode cX4_nextFor 27 = .ok (.iload 4, 2) := dk_21 4 (dk_at dksX4_nextFor_1 4 rfl rfl)
theorem dX4_nextFor_29 : decode cX4_nextFor 29 = .ok (.iconst 1, 1) := dk_4 (dk_at dksX4_nextFor_1 6 rfl rfl)
theorem dX4_nextFor_30 : decode cX4_nextFor 30 = .ok (.invokestatic 287, 3) := dk_184 1 31 (dk_at dksX4_nextFor_1 7 rfl rfl)
theorem dX4_nextFor_33 : decode cX4_nextFor 33 = .ok (.aload_n 0, 1) := dk_42 (dk_at dksX4_nextFor_1 10 rfl rfl)
theorem dX4_nextFor_34 : decode cX4_nextFor 34 = .ok (.getfield 38, 3) := dk_180 0 38 (dk_at dksX4_nextFor_1 11 rfl rfl)
theorem dX4_nextFor_37 : decode cX4_nextFor 37 = .ok (.bipush 6, 2) := dk_16 6 (dk_at dksX4_nextFor_1 14 rfl rfl)
theorem dX4_nextFor_39 : decode cX4_nextFor 39 = .ok (.iload_n 2, 1) := dk_28 (dk_at dksX4_nextFor_1 16 rfl rfl)
theorem dX4_nextFor_40 : decode cX4_nextFor 40 = .ok (.imul, 1) := dk_104 (dk_at dksX4_nextFor_1 17 rfl rfl)
theorem dX4_nextFor_41 : decode cX4_nextFor 41 = .ok (.iconst 2, 1) := dk_5 (dk_at dksX4_nextFor_1 18 rfl rfl)
theorem dX4_nextFor_42 : decode cX4_nextFor 42 = .ok (.iadd, 1) := dk_96 (dk_at dksX4_nextFor_1 19 rfl rfl)
theorem dX4_nextFor_43 : decode cX4_nextFor 43 = .ok (.iaload, 1) := dk_46 (dk_at dksX4_nextFor_1 20 rfl rfl)
theorem dX4_nextFor_44 : decode cX4_nextFor 44 = .ok (.aload_n 0, 1) := dk_42 (dk_at dksX4_nextFor_1 21 rfl rfl)
theorem dX4_nextFor_45 : decode cX4_nextFor 45 = .ok (.getfield 38, 3) := dk_180 0 38 (dk_at dksX4_nextFor_2 0 rfl rfl)
theorem dX4_nextFor_48 : decode cX4_nextFor 48 = .ok (.bipush 6, 2) := dk_16 6 (dk_at dksX4_nextFor_2 3 rfl rfl)
theorem dX4_nextFor_50 : decode cX4_nextFor 50 = .ok (.iload_n 2, 1) := dk_28 (dk_at dksX4_nextFor_2 5 rfl rfl)
theorem dX4_nextFor_51 : decode cX4_nextFor 51 = .ok (.imul, 1) := dk_104 (dk_at dksX4_nextFor_2 6 rfl rfl)
theorem dX4_nextFor_52 : decode cX4_nextFor 52 = .ok (.iconst 3, 1) := dk_6 (dk_at dksX4_nextFor_2 7 rfl rfl)
theorem dX4_nextFor_53 : decode cX4_nextFor 53 = .ok (.iadd, 1) := dk_96 (dk_at dksX4_nextFor_2 8 rfl rfl)
theorem dX4_nextFor_54 : decode cX4_nextFor 54 = .ok (.iaload, 1) := dk_46 (dk_at dksX4_nextFor_2 9 rfl rfl)
theorem dX4_nextFor_55 : decode cX4_nextFor 55 = .ok (.invokestatic 147, 3) := dk_184 0 147 (dk_at dksX4_nextFor_2 10 rfl rfl)
theorem dX4_nextFor_58 : decode cX4_nextFor 58 = .ok (.ifCond .ne 6, 3) := dk_154 0 6 (dk_at dksX4_nextFor_2 13 rfl rfl)
theorem dX4_nextFor_61 : decode cX4_nextFor 61 = .ok (.goto 67, 3) := dk_167 0 67 (dk_at dksX4_nextFor_2 16 rfl rfl)
theorem dX4_nextFor_64 : decode cX4_nextFor 64 = .ok (.iload_n 3, 1) := dk_29 (dk_at dksX4_nextFor_2 19 rfl rfl)
theorem dX4_nextFor_65 : decode cX4_nextFor 65 = .ok (.bipush (-2), 2) := dk_16 254 (dk_at dksX4_nextFor_2 20 rfl rfl)
theorem dX4_nextFor_67 : decode cX4_nextFor 67 = .ok (.if_icmp .ne 9, 3) := dk_160 0 9 (dk_at dksX4_nextFor_3 0 rfl rfl)
theorem dX4_nextFor_70 : decode cX4_nextFor 70 = .ok (.iload 4, 2) := dk_21 4 (dk_at dksX4_nextFor_3 3 rfl rfl)
theorem dX4_nextFor_72 : decode cX4_nextFor 72 = .ok (.istore_n 3, 1) := dk_62 (dk_at dksX4_nextFor_3 5 rfl rfl)
theorem dX4_nextFor_73 : decode cX4_nextFor 73 = .ok (.goto 55, 3) := dk_167 0 55 (dk_at dksX4_nextFor_3 6 rfl rfl)
theorem dX4_nextFor_76 : decode cX4_nextFor 76 = .ok (.aload_n 0, 1) := dk_42 (dk_at dksX4_nextFor_3 9 rfl rfl)
theorem dX4_nextFor_77 : decode cX4_nextFor 77 = .ok (.aload_n 1, 1) := dk_43 (dk_at dksX4_nextFor_3 10 rfl rfl)
theorem dX4_nextFor_78 : decode cX4_nextFor 78 = .ok (.iload_n 2, 1) := dk_28 (dk_at dksX4_nextFor_3 11 rfl rfl)
theorem dX4_nextFor_79 : decode cX4_nextFor 79 = .ok (.iload 4, 2) := dk_21 4 (dk_at dksX4_nextFor_3 12 rfl rfl)
theorem dX4_nextFor_81 : decode cX4_nextFor 81 = .ok (.invokevirtual 305, 3) := dk_182 1 49 (dk_at dksX4_nextFor_3 14 rfl rfl)
theorem dX4_nextFor_84 : decode cX4_nextFor 84 = .ok (.istore 5, 2) := dk_54 5 (dk_at dksX4_nextFor_3 17 rfl rfl)
theorem dX4_nextFor_86 : decode cX4_nextFor 86 = .ok (.aload_n 0, 1) := dk_42 (dk_at dksX4_nextFor_3 19 rfl rfl)
theorem dX4_nextFor_87 : decode cX4_nextFor 87 = .ok (.aload_n 1, 1) := dk_43 (dk_at dksX4_nextFor_3 20 rfl rfl)
theorem dX4_nextFor_88 : decode cX4_nextFor 88 = .ok (.iload_n 2, 1) := dk_28 (dk_at dksX4_nextFor_3 21 rfl rfl)
theorem dX4_nextFor_89 : decode cX4_nextFor 89 = .ok (.iload_n 3, 1) := dk_29 (dk_at dksX4_nextFor_3 22 rfl rfl)
theorem dX4_nextFor_90 : decode cX4_nextFor 90 = .ok (.invokevirtual 305, 3) := dk_182 1 49 (dk_at dksX4_nextFor_4 0 rfl rfl)
theorem dX4_nextFor_93 : decode cX4_nextFor 93 = .ok (.istore 6, 2) := dk_54 6 (dk_at dksX4_nextFor_4 3 rfl rfl)
theorem dX4_nextFor_95 : decode cX4_nextFor 95 = .ok (.iload 5, 2) := dk_21 5 (dk_at dksX4_nextFor_4 5 rfl rfl)
theorem dX4_nextFor_97 : decode cX4_nextFor 97 = .ok (.iload 6, 2) := dk_21 6 (dk_at dksX4_nextFor_4 7 rfl rfl)
theorem dX4_nextFor_99 : decode cX4_nextFor 99 = .ok (.if_icmp .lt 26, 3) := dk_161 0 26 (dk_at dksX4_nextFor_4 9 rfl rfl)
theorem dX4_nextFor_102 : decode cX4_nextFor 102 = .ok (.iload 5, 2) := dk_21 5 (dk_at dksX4_nextFor_4 12 rfl rfl)
theorem dX4_nextFor_104 : decode cX4_nextFor 104 = .ok (.iload 6, 2) := dk_21 6 (dk_at dksX4_nextFor_4 14 rfl rfl)
theorem dX4_nextFor_106 : decode cX4_nextFor 106 = .ok (.if_icmp .ne 22, 3) := dk_160 0 22 (dk_at dksX4_nextFor_4 16 rfl rfl)
theorem dX4_nextFor_109 : decode cX4_nextFor 109 = .ok (.aload_n 0, 1) := dk_42 (dk_at dksX4_nextFor_4 19 rfl rfl)
theorem dX4_nextFor_110 : decode cX4_nextFor 110 = .ok (.iload 4, 2) := dk_21 4 (dk_at dksX4_nextFor_4 20 rfl rfl)
theorem dX4_nextFor_112 : decode cX4_nextFor 112 = .ok (.iconst 2, 1) := dk_5 (dk_at dksX4_nextFor_4 22 rfl rfl)
theorem dX4_nextFor_113 : decode cX4_nextFor 113 = .ok (.invokevirtual 281, 3) := dk_182 1 25 (dk_at dksX4_nextFor_5 0 rfl rfl)
theorem dX4_nextFor_116 : decode cX4_nextFor 116 = .ok (.aload_n 0, 1) := dk_42 (dk_at dksX4_nextFor_5 3 rfl rfl)
theorem dX4_nextFor_117 : decode cX4_nextFor 117 = .ok (.iload_n 3, 1) := dk_29 (dk_at dksX4_nextFor_5 4 rfl rfl)
theorem dX4_nextFor_118 : decode cX4_nextFor 118 = .ok (.iconst 2, 1) := dk_5 (dk_at dksX4_nextFor_5 5 rfl rfl)
theorem dX4_nextFor_119 : decode cX4_nextFor 119 = .ok (.invokevirtual 281, 3) := dk_182 1 25 (dk_at dksX4_nextFor_5 6 rfl rfl)
theorem dX4_nextFor_122 : decode cX4_nextFor 122 = .ok (.if_icmp .ge 6, 3) := dk_162 0 6 (dk_at dksX4_nextFor_5 9 rfl rfl)
theorem dX4_nextFor_125 : decode cX4_nextFor 125 = .ok (.iload 4, 2) := dk_21 4 (dk_at dksX4_nextFor_5 12 rfl rfl)
theorem dX4_nextFor_127 : decode cX4_nextFor 127 = .ok (.istore_n 3, 1) := dk_62 (dk_at dksX4_nextFor_5 14 rfl rfl)
theorem dX4_nextFor_128 : decode cX4_nextFor 128 = .ok (.iinc 4 1, 3) := dk_132 4 1 (dk_at dksX4_nextFor_5 15 rfl rfl)
theorem dX4_nextFor_131 : decode cX4_nextFor 131 = .ok (.goto (-125), 3) := dk_167 255 131 (dk_at dksX4_nextFor_5 18 rfl rfl)
theorem dX4_nextFor_134 : decode cX4_nextFor 134 = .ok (.iload_n 3, 1) := dk_29 (dk_at dksX4_nextFor_5 21 rfl rfl)
theorem dX4_nextFor_135 : decode cX4_nextFor 135 = .ok (.ireturn, 1) := dk_172 (dk_at dksX4_nextFor_5 22 rfl rfl)
abbrev cX4_turn : ByteArray := prog_24_method_54_code
def yX4_turn : MethodName := ⟨RX4, "turn", "([III)I"⟩
def dkwX4_turn_6 : List UInt8 := [167, 0, 4, 4, 172]
abbrev dktX4_turn_6 : List UInt8 := dkwX4_turn_6 ++ []
def dkwX4_turn_5 : List UInt8 := [5, 184, 1, 31, 116, 172, 43, 29, 6, 184, 1, 31, 172, 42, 29, 3, 182, 1, 25, 6, 160, 0, 7, 3]
abbrev dktX4_turn_5 : List UInt8 := dkwX4_turn_5 ++ dktX4_turn_6
def dkwX4_turn_4 : List UInt8 := [21, 5, 21, 4, 184, 1, 42, 104, 21, 5, 21, 4, 164, 0, 7, 4, 167, 0, 4, 3, 96, 172, 43, 29]
abbrev dktX4_turn_4 : List UInt8 := dkwX4_turn_4 ++ dktX4_turn_5
def dkwX4_turn_3 : List UInt8 := [21, 5, 21, 4, 161, 0, 11, 21, 5, 21, 4, 100, 167, 0, 9, 19, 1, 41, 21, 5, 96, 172, 5]
abbrev dktX4_turn_3 : List UInt8 := dkwX4_turn_3 ++ dktX4_turn_4
def dkwX4_turn_2 : List UInt8 := [170, 0, 0, 0, 0, 0, 91, 0, 0, 0, 0, 0, 0, 0, 3, 0, 0, 0, 31, 0, 0, 0, 53, 0, 0, 0, 76, 0, 0, 0, 84]
abbrev dktX4_turn_2 : List UInt8 := dkwX4_turn_2 ++ dktX4_turn_3
def dkwX4_turn_1 : List UInt8 := [28, 104, 3, 96, 46]
abbrev dktX4_turn_1 : List UInt8 := dkwX4_turn_1 ++ dktX4_turn_2
def dkwX4_turn_0 : List UInt8 := [43, 16, 92, 7, 28, 104, 96, 46, 54, 4, 43, 29, 4, 184, 1, 31, 54, 5, 42, 180, 0, 38, 16, 6]
abbrev dktX4_turn_0 : List UInt8 := dkwX4_turn_0 ++ dktX4_turn_1
theorem dksX4_turn_0 : cX4_turn.data.toList.drop 0 = dktX4_turn_0 := by decide +kernel
theorem dksX4_turn_1 : cX4_turn.data.toList.drop 24 = dktX4_turn_1 := dk_seg dksX4_turn_0 24 rfl rfl
theorem dksX4_turn_2 : cX4_turn.data.toList.drop 29 = dktX4_turn_2 := dk_seg dksX4_turn_1 5 rfl rfl
theorem dksX4_turn_3 : cX4_turn.data.toList.drop 60 = dktX4_turn_3 := dk_seg dksX4_turn_2 31 rfl rfl
theorem dksX4_turn_4 : cX4_turn.data.toList.drop 83 = dktX4_turn_4 := dk_seg dksX4_turn_3 23 rfl rfl
theorem dksX4_turn_5 : cX4_turn.data.toList.drop 107 = dktX4_turn_5 := dk_seg dksX4_turn_4 24 rfl rfl
theorem dksX4_turn_6 : cX4_turn.data.toList.drop 131 = dktX4_turn_6 := dk_seg dksX4_turn_5 24 rfl rfl
theorem dX4_turn_0 : decode cX4_turn 0 = .ok (.aload_n 1, 1) := dk_43 (dk_at dksX4_turn_0 0 rfl rfl)
theorem dX4_turn_1 : decode cX4_turn 1 = .ok (.bipush 92, 2) := dk_16 92 (dk_at dksX4_turn_0 1 rfl rfl)
theorem dX4_turn_3 : decode cX4_turn 3 = .ok (.iconst 4, 1) := dk_7 (dk_at dksX4_turn_0 3 rfl rfl)
theorem dX4_turn_4 : decode cX4_turn 4 = .ok (.iload_n 2, 1) := dk_28 (dk_at dksX4_turn_0 4 rfl rfl)
theorem dX4_turn_5 : decode cX4_turn 5 = .ok (.imul, 1) := dk_104 (dk_at dksX4_turn_0 5 rfl rfl)
theorem dX4_turn_6 : decode cX4_turn 6 = .ok (.iadd, 1) := dk_96 (dk_at dksX4_turn_0 6 rfl rfl)
theorem dX4_turn_7 : decode cX4_turn 7 = .ok (.iaload, 1) := dk_46 (dk_at dksX4_turn_0 7 rfl rfl)
theorem dX4_turn_8 : decode cX4_turn 8 = .ok (.istore 4, 2) := dk_54 4 (dk_at dksX4_turn_0 8 rfl rfl)
theorem dX4_turn_10 : decode cX4_turn 10 = .ok (.aload_n 1, 1) := dk_43 (dk_at dksX4_turn_0 10 rfl rfl)
theorem dX4_turn_11 : decode cX4_turn 11 = .ok (.iload_n 3, 1) := dk_29 (dk_at dksX4_turn_0 11 rfl rfl)
theorem dX4_turn_12 : decode cX4_turn 12 = .ok (.iconst 1, 1) := dk_4 (dk_at dksX4_turn_0 12 rfl rfl)
theorem dX4_turn_13 : decode cX4_turn 13 = .ok (.invokestatic 287, 3) := dk_184 1 31 (dk_at dksX4_turn_0 13 rfl rfl)
theorem dX4_turn_16 : decode cX4_turn 16 = .ok (.istore 5, 2) := dk_54 5 (dk_at dksX4_turn_0 16 rfl rfl)
theorem dX4_turn_18 : decode cX4_turn 18 = .ok (.aload_n 0, 1) := dk_42 (dk_at dksX4_turn_0 18 rfl rfl)
theorem dX4_turn_19 : decode cX4_turn 19 = .ok (.getfield 38, 3) := dk_180 0 38 (dk_at dksX4_turn_0 19 rfl rfl)
theorem dX4_turn_22 : decode cX4_turn 22 = .ok (.bipush 6, 2) := dk_16 6 (dk_at dksX4_turn_0 22 rfl rfl)
theorem dX4_turn_24 : decode cX4_turn 24 = .ok (.iload_n 2, 1) := dk_28 (dk_at dksX4_turn_1 0 rfl rfl)
theorem dX4_turn_25 : decode cX4_turn 25 = .ok (.imul, 1) := dk_104 (dk_at dksX4_turn_1 1 rfl rfl)
theorem dX4_turn_26 : decode cX4_turn 26 = .ok (.iconst 0, 1) := dk_3 (dk_at dksX4_turn_1 2 rfl rfl)
theorem dX4_turn_27 : decode cX4_turn 27 = .ok (.iadd, 1) := dk_96 (dk_at dksX4_turn_1 3 rfl rfl)
theorem dX4_turn_28 : decode cX4_turn 28 = .ok (.iaload, 1) := dk_46 (dk_at dksX4_turn_1 4 rfl rfl)
theorem dX4_turn_29 : decode cX4_turn 29 = .ok (.tableswitch 91 0 3 #[31, 53, 76, 84], 31) := by decide +kernel
theorem dX4_turn_60 : decode cX4_turn 60 = .ok (.iload 5, 2) := dk_21 5 (dk_at dksX4_turn_3 0 rfl rfl)
theorem dX4_turn_62 : decode cX4_turn 62 = .ok (.iload 4, 2) := dk_21 4 (dk_at dksX4_turn_3 2 rfl rfl)
theorem dX4_turn_64 : decode cX4_turn 64 = .ok (.if_icmp .lt 11, 3) := dk_161 0 11 (dk_at dksX4_turn_3 4 rfl rfl)
theorem dX4_turn_67 : decode cX4_turn 67 = .ok (.iload 5, 2) := dk_21 5 (dk_at dksX4_turn_3 7 rfl rfl)
theorem dX4_turn_69 : decode cX4_turn 69 = .ok (.iload 4, 2) := dk_21 4 (dk_at dksX4_turn_3 9 rfl rfl)
theorem dX4_turn_71 : decode cX4_turn 71 = .ok (.isub, 1) := dk_100 (dk_at dksX4_turn_3 11 rfl rfl)
theorem dX4_turn_72 : decode cX4_turn 72 = .ok (.goto 9, 3) := dk_167 0 9 (dk_at dksX4_turn_3 12 rfl rfl)
theorem dX4_turn_75 : decode cX4_turn 75 = .ok (.ldc_w 297, 3) := dk_19 1 41 (dk_at dksX4_turn_3 15 rfl rfl)
theorem dX4_turn_78 : decode cX4_turn 78 = .ok (.iload 5, 2) := dk_21 5 (dk_at dksX4_turn_3 18 rfl rfl)
theorem dX4_turn_80 : decode cX4_turn 80 = .ok (.iadd, 1) := dk_96 (dk_at dksX4_turn_3 20 rfl rfl)
theorem dX4_turn_81 : decode cX4_turn 81 = .ok (.ireturn, 1) := dk_172 (dk_at dksX4_turn_3 21 rfl rfl)
theorem dX4_turn_82 : decode cX4_turn 82 = .ok (.iconst 2, 1) := dk_5 (dk_at dksX4_turn_3 22 rfl rfl)
theorem dX4_turn_83 : decode cX4_turn 83 = .ok (.iload 5, 2) := dk_21 5 (dk_at dksX4_turn_4 0 rfl rfl)
theorem dX4_turn_85 : decode cX4_turn 85 = .ok (.iload 4, 2) := dk_21 4 (dk_at dksX4_turn_4 2 rfl rfl)
theorem dX4_turn_87 : decode cX4_turn 87 = .ok (.invokestatic 298, 3) := dk_184 1 42 (dk_at dksX4_turn_4 4 rfl rfl)
theorem dX4_turn_90 : decode cX4_turn 90 = .ok (.imul, 1) := dk_104 (dk_at dksX4_turn_4 7 rfl rfl)
theorem dX4_turn_91 : decode cX4_turn 91 = .ok (.iload 5, 2) := dk_21 5 (dk_at dksX4_turn_4 8 rfl rfl)
theorem dX4_turn_93 : decode cX4_turn 93 = .ok (.iload 4, 2) := dk_21 4 (dk_at dksX4_turn_4 10 rfl rfl)
theorem dX4_turn_95 : decode cX4_turn 95 = .ok (.if_icmp .le 7, 3) := dk_164 0 7 (dk_at dksX4_turn_4 12 rfl rfl)
theorem dX4_turn_98 : decode cX4_turn 98 = .ok (.iconst 1, 1) := dk_4 (dk_at dksX4_turn_4 15 rfl rfl)
theorem dX4_turn_99 : decode cX4_turn 99 = .ok (.goto 4, 3) := dk_167 0 4 (dk_at dksX4_turn_4 16 rfl rfl)
theorem dX4_turn_102 : decode cX4_turn 102 = .ok (.iconst 0, 1) := dk_3 (dk_at dksX4_turn_4 19 rfl rfl)
theorem dX4_turn_103 : decode cX4_turn 103 = .ok (.iadd, 1) := dk_96 (dk_at dksX4_turn_4 20 rfl rfl)
theorem dX4_turn_104 : decode cX4_turn 104 = .ok (.ireturn, 1) := dk_172 (dk_at dksX4_turn_4 21 rfl rfl)
theorem dX4_turn_105 : decode cX4_turn 105 = .ok (.aload_n 1, 1) := dk_43 (dk_at dksX4_turn_4 22 rfl rfl)
theorem dX4_turn_106 : decode cX4_turn 106 = .ok (.iload_n 3, 1) := dk_29 (dk_at dksX4_turn_4 23 rfl rfl)
theorem dX4_turn_107 : decode cX4_turn 107 = .ok (.iconst 2, 1) := dk_5 (dk_at dksX4_turn_5 0 rfl rfl)
theorem dX4_turn_108 : decode cX4_turn 108 = .ok (.invokestatic 287, 3) := dk_184 1 31 (dk_at dksX4_turn_5 1 rfl rfl)
theorem dX4_turn_111 : decode cX4_turn 111 = .ok (.ineg, 1) := dk_116 (dk_at dksX4_turn_5 4 rfl rfl)
theorem dX4_turn_112 : decode cX4_turn 112 = .ok (.ireturn, 1) := dk_172 (dk_at dksX4_turn_5 5 rfl rfl)
theorem dX4_turn_113 : decode cX4_turn 113 = .ok (.aload_n 1, 1) := dk_43 (dk_at dksX4_turn_5 6 rfl rfl)
theorem dX4_turn_114 : decode cX4_turn 114 = .ok (.iload_n 3, 1) := dk_29 (dk_at dksX4_turn_5 7 rfl rfl)
theorem dX4_turn_115 : decode cX4_turn 115 = .ok (.iconst 3, 1) := dk_6 (dk_at dksX4_turn_5 8 rfl rfl)
theorem dX4_turn_116 : decode cX4_turn 116 = .ok (.invokestatic 287, 3) := dk_184 1 31 (dk_at dksX4_turn_5 9 rfl rfl)
theorem dX4_turn_119 : decode cX4_turn 119 = .ok (.ireturn, 1) := dk_172 (dk_at dksX4_turn_5 12 rfl rfl)
theorem dX4_turn_120 : decode cX4_turn 120 = .ok (.aload_n 0, 1) := dk_42 (dk_at dksX4_turn_5 13 rfl rfl)
theorem dX4_turn_121 : decode cX4_turn 121 = .ok (.iload_n 3, 1) := dk_29 (dk_at dksX4_turn_5 14 rfl rfl)
theorem dX4_turn_122 : decode cX4_turn 122 = .ok (.iconst 0, 1) := dk_3 (dk_at dksX4_turn_5 15 rfl rfl)
theorem dX4_turn_123 : decode cX4_turn 123 = .ok (.invokevirtual 281, 3) := dk_182 1 25 (dk_at dksX4_turn_5 16 rfl rfl)
theorem dX4_turn_126 : decode cX4_turn 126 = .ok (.iconst 3, 1) := dk_6 (dk_at dksX4_turn_5 19 rfl rfl)
theorem dX4_turn_127 : decode cX4_turn 127 = .ok (.if_icmp .ne 7, 3) := dk_160 0 7 (dk_at dksX4_turn_5 20 rfl rfl)
theorem dX4_turn_130 : decode cX4_turn 130 = .ok (.iconst 0, 1) := dk_3 (dk_at dksX4_turn_5 23 rfl rfl)
theorem dX4_turn_131 : decode cX4_turn 131 = .ok (.goto 4, 3) := dk_167 0 4 (dk_at dksX4_turn_6 0 rfl rfl)
theorem dX4_turn_134 : decode cX4_turn 134 = .ok (.iconst 1, 1) := dk_4 (dk_at dksX4_turn_6 3 rfl rfl)
theorem dX4_turn_135 : decode cX4_turn 135 = .ok (.ireturn, 1) := dk_172 (dk_at dksX4_turn_6 4 rfl rfl)
abbrev cX4_far : ByteArray := prog_24_method_51_code
def yX4_far : MethodName := ⟨RX4, "fa\x72", "(II)I"⟩
def dkwX4_far_0 : List UInt8 := [26, 27, 162, 0, 9, 27, 26, 100, 167, 0, 6, 26, 27, 100, 172]
abbrev dktX4_far_0 : List UInt8 := dkwX4_far_0 ++ []
theorem dksX4_far_0 : cX4_far.data.toList.drop 0 = dktX4_far_0 := by decide +kernel
theorem dX4_far_0 : decode cX4_far 0 = .ok (.iload_n 0, 1) := dk_26 (dk_at dksX4_far_0 0 rfl rfl)
theorem dX4_far_1 : decode cX4_far 1 = .ok (.iload_n 1, 1) := dk_27 (dk_at dksX4_far_0 1 rfl rfl)
theorem dX4_far_2 : decode cX4_far 2 = .ok (.if_icmp .ge 9, 3) := dk_162 0 9 (dk_at dksX4_far_0 2 rfl rfl)
theorem dX4_far_5 : decode cX4_far 5 = .ok (.iload_n 1, 1) := dk_27 (dk_at dksX4_far_0 5 rfl rfl)
theorem dX4_far_6 : decode cX4_far 6 = .ok (.iload_n 0, 1) := dk_26 (dk_at dksX4_far_0 6 rfl rfl)
theorem dX4_far_7 : decode cX4_far 7 = .ok (.isub, 1) := dk_100 (dk_at dksX4_far_0 7 rfl rfl)
theorem dX4_far_8 : decode cX4_far 8 = .ok (.goto 6, 3) := dk_167 0 6 (dk_at dksX4_far_0 8 rfl rfl)
theorem dX4_far_11 : decode cX4_far 11 = .ok (.iload_n 0, 1) := dk_26 (dk_at dksX4_far_0 11 rfl rfl)
theorem dX4_far_12 : decode cX4_far 12 = .ok (.iload_n 1, 1) := dk_27 (dk_at dksX4_far_0 12 rfl rfl)
theorem dX4_far_13 : decode cX4_far 13 = .ok (.isub, 1) := dk_100 (dk_at dksX4_far_0 13 rfl rfl)
theorem dX4_far_14 : decode cX4_far 14 = .ok (.ireturn, 1) := dk_172 (dk_at dksX4_far_0 14 rfl rfl)
abbrev cX4_time : ByteArray := prog_24_method_72_code
def yX4_time : MethodName := ⟨RX4, "time", "(II)I"⟩
def dkwX4_time_1 : List UInt8 := [180, 0, 26, 27, 28, 182, 1, 60, 167, 0, 8, 42, 4, 182, 0, 168, 172]
abbrev dktX4_time_1 : List UInt8 := dkwX4_time_1 ++ []
def dkwX4_time_0 : List UInt8 := [42, 182, 0, 165, 42, 27, 182, 1, 93, 153, 0, 24, 42, 28, 182, 1, 90, 153, 0, 16, 42, 42]
abbrev dktX4_time_0 : List UInt8 := dkwX4_time_0 ++ dktX4_time_1
theorem dksX4_time_0 : cX4_time.data.toList.drop 0 = dktX4_time_0 := by decide +kernel
theorem dksX4_time_1 : cX4_time.data.toList.drop 22 = dktX4_time_1 := dk_seg dksX4_time_0 22 rfl rfl
theorem dX4_time_0 : decode cX4_time 0 = .ok (.aload_n 0, 1) := dk_42 (dk_at dksX4_time_0 0 rfl rfl)
theorem dX4_time_1 : decode cX4_time 1 = .ok (.invokevirtual 165, 3) := dk_182 0 165 (dk_at dksX4_time_0 1 rfl rfl)
theorem dX4_time_4 : decode cX4_time 4 = .ok (.aload_n 0, 1) := dk_42 (dk_at dksX4_time_0 4 rfl rfl)
theorem dX4_time_5 : decode cX4_time 5 = .ok (.iload_n 1, 1) := dk_27 (dk_at dksX4_time_0 5 rfl rfl)
theorem dX4_time_6 : decode cX4_time 6 = .ok (.invokevirtual 349, 3) := dk_182 1 93 (dk_at dksX4_time_0 6 rfl rfl)
theorem dX4_time_9 : decode cX4_time 9 = .ok (.ifCond .eq 24, 3) := dk_153 0 24 (dk_at dksX4_time_0 9 rfl rfl)
theorem dX4_time_12 : decode cX4_time 12 = .ok (.aload_n 0, 1) := dk_42 (dk_at dksX4_time_0 12 rfl rfl)
theorem dX4_time_13 : decode cX4_time 13 = .ok (.iload_n 2, 1) := dk_28 (dk_at dksX4_time_0 13 rfl rfl)
theorem dX4_time_14 : decode cX4_time 14 = .ok (.invokevirtual 346, 3) := dk_182 1 90 (dk_at dksX4_time_0 14 rfl rfl)
theorem dX4_time_17 : decode cX4_time 17 = .ok (.ifCond .eq 16, 3) := dk_153 0 16 (dk_at dksX4_time_0 17 rfl rfl)
theorem dX4_time_20 : decode cX4_time 20 = .ok (.aload_n 0, 1) := dk_42 (dk_at dksX4_time_0 20 rfl rfl)
theorem dX4_time_21 : decode cX4_time 21 = .ok (.aload_n 0, 1) := dk_42 (dk_at dksX4_time_0 21 rfl rfl)
theorem dX4_time_22 : decode cX4_time 22 = .ok (.getfield 26, 3) := dk_180 0 26 (dk_at dksX4_time_1 0 rfl rfl)
theorem dX4_time_25 : decode cX4_time 25 = .ok (.iload_n 1, 1) := dk_27 (dk_at dksX4_time_1 3 rfl rfl)
theorem dX4_time_26 : decode cX4_time 26 = .ok (.iload_n 2, 1) := dk_28 (dk_at dksX4_time_1 4 rfl rfl)
theorem dX4_time_27 : decode cX4_time 27 = .ok (.invokevirtual 316, 3) := dk_182 1 60 (dk_at dksX4_time_1 5 rfl rfl)
theorem dX4_time_30 : decode cX4_time 30 = .ok (.goto 8, 3) := dk_167 0 8 (dk_at dksX4_time_1 8 rfl rfl)
theorem dX4_time_33 : decode cX4_time 33 = .ok (.aload_n 0, 1) := dk_42 (dk_at dksX4_time_1 11 rfl rfl)
theorem dX4_time_34 : decode cX4_time 34 = .ok (.iconst 1, 1) := dk_4 (dk_at dksX4_time_1 12 rfl rfl)
theorem dX4_time_35 : decode cX4_time 35 = .ok (.invokevirtual 168, 3) := dk_182 0 168 (dk_at dksX4_time_1 13 rfl rfl)
theorem dX4_time_38 : decode cX4_time 38 = .ok (.ireturn, 1) := dk_172 (dk_at dksX4_time_1 16 rfl rfl)
abbrev cX4_timeOf : ByteArray := prog_24_method_52_code
def yX4_timeOf : MethodName := ⟨RX4, "timeOf", "([III)I"⟩
def dkwX4_timeOf_0 : List UInt8 := [43, 16, 92, 7, 28, 104, 96, 6, 96, 46, 4, 100, 54, 4, 42, 21, 4, 29, 182, 1, 35, 172]
abbrev dktX4_timeOf_0 : List UInt8 := dkwX4_timeOf_0 ++ []
theorem dksX4_timeOf_0 : cX4_timeOf.data.toList.drop 0 = dktX4_timeOf_0 := by decide +kernel
theorem dX4_timeOf_0 : decode cX4_timeOf 0 = .ok (.aload_n 1, 1) := dk_43 (dk_at dksX4_timeOf_0 0 rfl rfl)
theorem dX4_timeOf_1 : decode cX4_timeOf 1 = .ok (.bipush 92, 2) := dk_16 92 (dk_at dksX4_timeOf_0 1 rfl rfl)
theorem dX4_timeOf_3 : decode cX4_timeOf 3 = .ok (.iconst 4, 1) := dk_7 (dk_at dksX4_timeOf_0 3 rfl rfl)
theorem dX4_timeOf_4 : decode cX4_timeOf 4 = .ok (.iload_n 2, 1) := dk_28 (dk_at dksX4_timeOf_0 4 rfl rfl)
theorem dX4_timeOf_5 : decode cX4_timeOf 5 = .ok (.imul, 1) := dk_104 (dk_at dksX4_timeOf_0 5 rfl rfl)
theorem dX4_timeOf_6 : decode cX4_timeOf 6 = .ok (.iadd, 1) := dk_96 (dk_at dksX4_timeOf_0 6 rfl rfl)
theorem dX4_timeOf_7 : decode cX4_timeOf 7 = .ok (.iconst 3, 1) := dk_6 (dk_at dksX4_timeOf_0 7 rfl rfl)
theorem dX4_timeOf_8 : decode cX4_timeOf 8 = .ok (.iadd, 1) := dk_96 (dk_at dksX4_timeOf_0 8 rfl rfl)
theorem dX4_timeOf_9 : decode cX4_timeOf 9 = .ok (.iaload, 1) := dk_46 (dk_at dksX4_timeOf_0 9 rfl rfl)
theorem dX4_timeOf_10 : decode cX4_timeOf 10 = .ok (.iconst 1, 1) := dk_4 (dk_at dksX4_timeOf_0 10 rfl rfl)
theorem dX4_timeOf_11 : decode cX4_timeOf 11 = .ok (.isub, 1) := dk_100 (dk_at dksX4_timeOf_0 11 rfl rfl)
theorem dX4_timeOf_12 : decode cX4_timeOf 12 = .ok (.istore 4, 2) := dk_54 4 (dk_at dksX4_timeOf_0 12 rfl rfl)
theorem dX4_timeOf_14 : decode cX4_timeOf 14 = .ok (.aload_n 0, 1) := dk_42 (dk_at dksX4_timeOf_0 14 rfl rfl)
theorem dX4_timeOf_15 : decode cX4_timeOf 15 = .ok (.iload 4, 2) := dk_21 4 (dk_at dksX4_timeOf_0 15 rfl rfl)
theorem dX4_timeOf_17 : decode cX4_timeOf 17 = .ok (.iload_n 3, 1) := dk_29 (dk_at dksX4_timeOf_0 17 rfl rfl)
theorem dX4_timeOf_18 : decode cX4_timeOf 18 = .ok (.invokevirtual 291, 3) := dk_182 1 35 (dk_at dksX4_timeOf_0 18 rfl rfl)
theorem dX4_timeOf_21 : decode cX4_timeOf 21 = .ok (.ireturn, 1) := dk_172 (dk_at dksX4_timeOf_0 21 rfl rfl)
abbrev cX4_timeBehind : ByteArray := prog_24_method_53_code
def yX4_timeBehind : MethodName := ⟨RX4, "timeBehind", "(II)I"⟩
def dkwX4_timeBehind_3 : List UInt8 := [180, 0, 20, 16, 8, 6, 21, 4, 104, 96, 46, 21, 6, 100, 96, 62, 132, 4, 1, 167, 255, 174, 29, 172]
abbrev dktX4_timeBehind_3 : List UInt8 := dkwX4_timeBehind_3 ++ []
def dkwX4_timeBehind_2 : List UInt8 := [21, 5, 21, 6, 104, 96, 62, 27, 155, 0, 13, 42, 27, 21, 4, 182, 1, 38, 154, 0, 21, 29, 42]
abbrev dktX4_timeBehind_2 : List UInt8 := dkwX4_timeBehind_2 ++ dktX4_timeBehind_3
def dkwX4_timeBehind_1 : List UInt8 := [154, 0, 6, 167, 0, 59, 42, 180, 0, 20, 16, 8, 6, 21, 4, 104, 96, 4, 96, 46, 54, 6, 29]
abbrev dktX4_timeBehind_1 : List UInt8 := dkwX4_timeBehind_1 ++ dktX4_timeBehind_2
def dkwX4_timeBehind_0 : List UInt8 := [3, 62, 3, 54, 4, 21, 4, 8, 162, 0, 82, 42, 28, 21, 4, 182, 1, 38, 54, 5, 21, 5]
abbrev dktX4_timeBehind_0 : List UInt8 := dkwX4_timeBehind_0 ++ dktX4_timeBehind_1
theorem dksX4_timeBehind_0 : cX4_timeBehind.data.toList.drop 0 = dktX4_timeBehind_0 := by decide +kernel
theorem dksX4_timeBehind_1 : cX4_timeBehind.data.toList.drop 22 = dktX4_timeBehind_1 := dk_seg dksX4_timeBehind_0 22 rfl rfl
theorem dksX4_timeBehind_2 : cX4_timeBehind.data.toList.drop 45 = dktX4_timeBehind_2 := dk_seg dksX4_timeBehind_1 23 rfl rfl
theorem dksX4_timeBehind_3 : cX4_timeBehind.data.toList.drop 68 = dktX4_timeBehind_3 := dk_seg dksX4_timeBehind_2 23 rfl rfl
theorem dX4_timeBehind_0 : decode cX4_timeBehind 0 = .ok (.iconst 0, 1) := dk_3 (dk_at dksX4_timeBehind_0 0 rfl rfl)
theorem dX4_timeBehind_1 : decode cX4_timeBehind 1 = .ok (.istore_n 3, 1) := dk_62 (dk_at dksX4_timeBehind_0 1 rfl rfl)
theorem dX4_timeBehind_2 : decode cX4_timeBehind 2 = .ok (.iconst 0, 1) := dk_3 (dk_at dksX4_timeBehind_0 2 rfl rfl)
theorem dX4_timeBehind_3 : decode cX4_timeBehind 3 = .ok (.istore 4, 2) := dk_54 4 (dk_at dksX4_timeBehind_0 3 rfl rfl)
theorem dX4_timeBehind_5 : decode cX4_timeBehind 5 = .ok (.iload 4, 2) := dk_21 4 (dk_at dksX4_timeBehind_0 5 rfl rfl)
theorem dX4_timeBehind_7 : decode cX4_timeBehind 7 = .ok (.iconst 5, 1) := dk_8 (dk_at dksX4_timeBehind_0 7 rfl rfl)
theorem dX4_timeBehind_8 : decode cX4_timeBehind 8 = .ok (.if_icmp .ge 82, 3) := dk_162 0 82 (dk_at dksX4_timeBehind_0 8 rfl rfl)
theorem dX4_timeBehind_11 : decode cX4_timeBehind 11 = .ok (.aload_n 0, 1) := dk_42 (dk_at dksX4_timeBehind_0 11 rfl rfl)
theorem dX4_timeBehind_12 : decode cX4_timeBehind 12 = .ok (.iload_n 2, 1) := dk_28 (dk_at dksX4_timeBehind_0 12 rfl rfl)
theorem dX4_timeBehind_13 : decode cX4_timeBehind 13 = .ok (.iload 4, 2) := dk_21 4 (dk_at dksX4_timeBehind_0 13 rfl rfl)
theorem dX4_timeBehind_15 : decode cX4_timeBehind 15 = .ok (.invokevirtual 294, 3) := dk_182 1 38 (dk_at dksX4_timeBehind_0 15 rfl rfl)
theorem dX4_timeBehind_18 : decode cX4_timeBehind 18 = .ok (.istore 5, 2) := dk_54 5 (dk_at dksX4_timeBehind_0 18 rfl rfl)
theorem dX4_timeBehind_20 : decode cX4_timeBehind 20 = .ok (.iload 5, 2) := dk_21 5 (dk_at dksX4_timeBehind_0 20 rfl rfl)
theorem dX4_timeBehind_22 : decode cX4_timeBehind 22 = .ok (.ifCond .ne 6, 3) := dk_154 0 6 (dk_at dksX4_timeBehind_1 0 rfl rfl)
theorem dX4_timeBehind_25 : decode cX4_timeBehind 25 = .ok (.goto 59, 3) := dk_167 0 59 (dk_at dksX4_timeBehind_1 3 rfl rfl)
theorem dX4_timeBehind_28 : decode cX4_timeBehind 28 = .ok (.aload_n 0, 1) := dk_42 (dk_at dksX4_timeBehind_1 6 rfl rfl)
theorem dX4_timeBehind_29 : decode cX4_timeBehind 29 = .ok (.getfield 20, 3) := dk_180 0 20 (dk_at dksX4_timeBehind_1 7 rfl rfl)
theorem dX4_timeBehind_32 : decode cX4_timeBehind 32 = .ok (.bipush 8, 2) := dk_16 8 (dk_at dksX4_timeBehind_1 10 rfl rfl)
theorem dX4_timeBehind_34 : decode cX4_timeBehind 34 = .ok (.iconst 3, 1) := dk_6 (dk_at dksX4_timeBehind_1 12 rfl rfl)
theorem dX4_timeBehind_35 : decode cX4_timeBehind 35 = .ok (.iload 4, 2) := dk_21 4 (dk_at dksX4_timeBehind_1 13 rfl rfl)
theorem dX4_timeBehind_37 : decode cX4_timeBehind 37 = .ok (.imul, 1) := dk_104 (dk_at dksX4_timeBehind_1 15 rfl rfl)
theorem dX4_timeBehind_38 : decode cX4_timeBehind 38 = .ok (.iadd, 1) := dk_96 (dk_at dksX4_timeBehind_1 16 rfl rfl)
theorem dX4_timeBehind_39 : decode cX4_timeBehind 39 = .ok (.iconst 1, 1) := dk_4 (dk_at dksX4_timeBehind_1 17 rfl rfl)
theorem dX4_timeBehind_40 : decode cX4_timeBehind 40 = .ok (.iadd, 1) := dk_96 (dk_at dksX4_timeBehind_1 18 rfl rfl)
theorem dX4_timeBehind_41 : decode cX4_timeBehind 41 = .ok (.iaload, 1) := dk_46 (dk_at dksX4_timeBehind_1 19 rfl rfl)
theorem dX4_timeBehind_42 : decode cX4_timeBehind 42 = .ok (.istore 6, 2) := dk_54 6 (dk_at dksX4_timeBehind_1 20 rfl rfl)
theorem dX4_timeBehind_44 : decode cX4_timeBehind 44 = .ok (.iload_n 3, 1) := dk_29 (dk_at dksX4_timeBehind_1 22 rfl rfl)
theorem dX4_timeBehind_45 : decode cX4_timeBehind 45 = .ok (.iload 5, 2) := dk_21 5 (dk_at dksX4_timeBehind_2 0 rfl rfl)
theorem dX4_timeBehind_47 : decode cX4_timeBehind 47 = .ok (.iload 6, 2) := dk_21 6 (dk_at dksX4_timeBehind_2 2 rfl rfl)
theorem dX4_timeBehind_49 : decode cX4_timeBehind 49 = .ok (.imul, 1) := dk_104 (dk_at dksX4_timeBehind_2 4 rfl rfl)
theorem dX4_timeBehind_50 : decode cX4_timeBehind 50 = .ok (.iadd, 1) := dk_96 (dk_at dksX4_timeBehind_2 5 rfl rfl)
theorem dX4_timeBehind_51 : decode cX4_timeBehind 51 = .ok (.istore_n 3, 1) := dk_62 (dk_at dksX4_timeBehind_2 6 rfl rfl)
theorem dX4_timeBehind_52 : decode cX4_timeBehind 52 = .ok (.iload_n 1, 1) := dk_27 (dk_at dksX4_timeBehind_2 7 rfl rfl)
theorem dX4_timeBehind_53 : decode cX4_timeBehind 53 = .ok (.ifCond .lt 13, 3) := dk_155 0 13 (dk_at dksX4_timeBehind_2 8 rfl rfl)
theorem dX4_timeBehind_56 : decode cX4_timeBehind 56 = .ok (.aload_n 0, 1) := dk_42 (dk_at dksX4_timeBehind_2 11 rfl rfl)
theorem dX4_timeBehind_57 : decode cX4_timeBehind 57 = .ok (.iload_n 1, 1) := dk_27 (dk_at dksX4_timeBehind_2 12 rfl rfl)
theorem dX4_timeBehind_58 : decode cX4_timeBehind 58 = .ok (.iload 4, 2) := dk_21 4 (dk_at dksX4_timeBehind_2 13 rfl rfl)
theorem dX4_timeBehind_60 : decode cX4_timeBehind 60 = .ok (.invokevirtual 294, 3) := dk_182 1 38 (dk_at dksX4_timeBehind_2 15 rfl rfl)
theorem dX4_timeBehind_63 : decode cX4_timeBehind 63 = .ok (.ifCond .ne 21, 3) := dk_154 0 21 (dk_at dksX4_timeBehind_2 18 rfl rfl)
theorem dX4_timeBehind_66 : decode cX4_timeBehind 66 = .ok (.iload_n 3, 1) := dk_29 (dk_at dksX4_timeBehind_2 21 rfl rfl)
theorem dX4_timeBehind_67 : decode cX4_timeBehind 67 = .ok (.aload_n 0, 1) := dk_42 (dk_at dksX4_timeBehind_2 22 rfl rfl)
theorem dX4_timeBehind_68 : decode cX4_timeBehind 68 = .ok (.getfield 20, 3) := dk_180 0 20 (dk_at dksX4_timeBehind_3 0 rfl rfl)
theorem dX4_timeBehind_71 : decode cX4_timeBehind 71 = .ok (.bipush 8, 2) := dk_16 8 (dk_at dksX4_timeBehind_3 3 rfl rfl)
theorem dX4_timeBehind_73 : decode cX4_timeBehind 73 = .ok (.iconst 3, 1) := dk_6 (dk_at dksX4_timeBehind_3 5 rfl rfl)
theorem dX4_timeBehind_74 : decode cX4_timeBehind 74 = .ok (.iload 4, 2) := dk_21 4 (dk_at dksX4_timeBehind_3 6 rfl rfl)
theorem dX4_timeBehind_76 : decode cX4_timeBehind 76 = .ok (.imul, 1) := dk_104 (dk_at dksX4_timeBehind_3 8 rfl rfl)
theorem dX4_timeBehind_77 : decode cX4_timeBehind 77 = .ok (.iadd, 1) := dk_96 (dk_at dksX4_timeBehind_3 9 rfl rfl)
theorem dX4_timeBehind_78 : decode cX4_timeBehind 78 = .ok (.iaload, 1) := dk_46 (dk_at dksX4_timeBehind_3 10 rfl rfl)
theorem dX4_timeBehind_79 : decode cX4_timeBehind 79 = .ok (.iload 6, 2) := dk_21 6 (dk_at dksX4_timeBehind_3 11 rfl rfl)
theorem dX4_timeBehind_81 : decode cX4_timeBehind 81 = .ok (.isub, 1) := dk_100 (dk_at dksX4_timeBehind_3 13 rfl rfl)
theorem dX4_timeBehind_82 : decode cX4_timeBehind 82 = .ok (.iadd, 1) := dk_96 (dk_at dksX4_timeBehind_3 14 rfl rfl)
theorem dX4_timeBehind_83 : decode cX4_timeBehind 83 = .ok (.istore_n 3, 1) := dk_62 (dk_at dksX4_timeBehind_3 15 rfl rfl)
theorem dX4_timeBehind_84 : decode cX4_timeBehind 84 = .ok (.iinc 4 1, 3) := dk_132 4 1 (dk_at dksX4_timeBehind_3 16 rfl rfl)
theorem dX4_timeBehind_87 : decode cX4_timeBehind 87 = .ok (.goto (-82), 3) := dk_167 255 174 (dk_at dksX4_timeBehind_3 19 rfl rfl)
theorem dX4_timeBehind_90 : decode cX4_timeBehind 90 = .ok (.iload_n 3, 1) := dk_29 (dk_at dksX4_timeBehind_3 22 rfl rfl)
theorem dX4_timeBehind_91 : decode cX4_timeBehind 91 = .ok (.ireturn, 1) := dk_172 (dk_at dksX4_timeBehind_3 23 rfl rfl)
abbrev cX4_wantsOf : ByteArray := prog_24_method_44_code
def yX4_wantsOf : MethodName := ⟨RX4, "wantsOf", "(II)I"⟩
def dkwX4_wantsOf_0 : List UInt8 := [42, 180, 0, 20, 16, 111, 8, 27, 104, 96, 28, 96, 46, 172]
abbrev dktX4_wantsOf_0 : List UInt8 := dkwX4_wantsOf_0 ++ []
theorem dksX4_wantsOf_0 : cX4_wantsOf.data.toList.drop 0 = dktX4_wantsOf_0 := by decide +kernel
theorem dX4_wantsOf_0 : decode cX4_wantsOf 0 = .ok (.aload_n 0, 1) := dk_42 (dk_at dksX4_wantsOf_0 0 rfl rfl)
theorem dX4_wantsOf_1 : decode cX4_wantsOf 1 = .ok (.getfield 20, 3) := dk_180 0 20 (dk_at dksX4_wantsOf_0 1 rfl rfl)
theorem dX4_wantsOf_4 : decode cX4_wantsOf 4 = .ok (.bipush 111, 2) := dk_16 111 (dk_at dksX4_wantsOf_0 4 rfl rfl)
theorem dX4_wantsOf_6 : decode cX4_wantsOf 6 = .ok (.iconst 5, 1) := dk_8 (dk_at dksX4_wantsOf_0 6 rfl rfl)
theorem dX4_wantsOf_7 : decode cX4_wantsOf 7 = .ok (.iload_n 1, 1) := dk_27 (dk_at dksX4_wantsOf_0 7 rfl rfl)
theorem dX4_wantsOf_8 : decode cX4_wantsOf 8 = .ok (.imul, 1) := dk_104 (dk_at dksX4_wantsOf_0 8 rfl rfl)
theorem dX4_wantsOf_9 : decode cX4_wantsOf 9 = .ok (.iadd, 1) := dk_96 (dk_at dksX4_wantsOf_0 9 rfl rfl)
theorem dX4_wantsOf_10 : decode cX4_wantsOf 10 = .ok (.iload_n 2, 1) := dk_28 (dk_at dksX4_wantsOf_0 10 rfl rfl)
theorem dX4_wantsOf_11 : decode cX4_wantsOf 11 = .ok (.iadd, 1) := dk_96 (dk_at dksX4_wantsOf_0 11 rfl rfl)
theorem dX4_wantsOf_12 : decode cX4_wantsOf 12 = .ok (.iaload, 1) := dk_46 (dk_at dksX4_wantsOf_0 12 rfl rfl)
theorem dX4_wantsOf_13 : decode cX4_wantsOf 13 = .ok (.ireturn, 1) := dk_172 (dk_at dksX4_wantsOf_0 13 rfl rfl)
abbrev cX4_costs : ByteArray := prog_24_method_73_code
def yX4_costs : MethodName := ⟨RX4, "costs", "(I)I"⟩
def dkwX4_costs_1 : List UInt8 := [182, 0, 168, 172]
abbrev dktX4_costs_1 : List UInt8 := dkwX4_costs_1 ++ []
def dkwX4_costs_0 : List UInt8 := [42, 182, 0, 165, 42, 27, 182, 1, 90, 153, 0, 11, 42, 27, 182, 1, 87, 167, 0, 8, 42, 4]
abbrev dktX4_costs_0 : List UInt8 := dkwX4_costs_0 ++ dktX4_costs_1
theorem dksX4_costs_0 : cX4_costs.data.toList.drop 0 = dktX4_costs_0 := by decide +kernel
theorem dksX4_costs_1 : cX4_costs.data.toList.drop 22 = dktX4_costs_1 := dk_seg dksX4_costs_0 22 rfl rfl
theorem dX4_costs_0 : decode cX4_costs 0 = .ok (.aload_n 0, 1) := dk_42 (dk_at dksX4_costs_0 0 rfl rfl)
theorem dX4_costs_1 : decode cX4_costs 1 = .ok (.invokevirtual 165, 3) := dk_182 0 165 (dk_at dksX4_costs_0 1 rfl rfl)
theorem dX4_costs_4 : decode cX4_costs 4 = .ok (.aload_n 0, 1) := dk_42 (dk_at dksX4_costs_0 4 rfl rfl)
theorem dX4_costs_5 : decode cX4_costs 5 = .ok (.iload_n 1, 1) := dk_27 (dk_at dksX4_costs_0 5 rfl rfl)
theorem dX4_costs_6 : decode cX4_costs 6 = .ok (.invokevirtual 346, 3) := dk_182 1 90 (dk_at dksX4_costs_0 6 rfl rfl)
theorem dX4_costs_9 : decode cX4_costs 9 = .ok (.ifCond .eq 11, 3) := dk_153 0 11 (dk_at dksX4_costs_0 9 rfl rfl)
theorem dX4_costs_12 : decode cX4_costs 12 = .ok (.aload_n 0, 1) := dk_42 (dk_at dksX4_costs_0 12 rfl rfl)
theorem dX4_costs_13 : decode cX4_costs 13 = .ok (.iload_n 1, 1) := dk_27 (dk_at dksX4_costs_0 13 rfl rfl)
theorem dX4_costs_14 : decode cX4_costs 14 = .ok (.invokevirtual 343, 3) := dk_182 1 87 (dk_at dksX4_costs_0 14 rfl rfl)
theorem dX4_costs_17 : decode cX4_costs 17 = .ok (.goto 8, 3) := dk_167 0 8 (dk_at dksX4_costs_0 17 rfl rfl)
theorem dX4_costs_20 : decode cX4_costs 20 = .ok (.aload_n 0, 1) := dk_42 (dk_at dksX4_costs_0 20 rfl rfl)
theorem dX4_costs_21 : decode cX4_costs 21 = .ok (.iconst 1, 1) := dk_4 (dk_at dksX4_costs_0 21 rfl rfl)
theorem dX4_costs_22 : decode cX4_costs 22 = .ok (.invokevirtual 168, 3) := dk_182 0 168 (dk_at dksX4_costs_1 0 rfl rfl)
theorem dX4_costs_25 : decode cX4_costs 25 = .ok (.ireturn, 1) := dk_172 (dk_at dksX4_costs_1 3 rfl rfl)
abbrev cX4_costsOf : ByteArray := prog_24_method_65_code
def yX4_costsOf : MethodName := ⟨RX4, "costsOf", "(I)I"⟩
def dkwX4_costsOf_1 : List UInt8 := [104, 96, 5, 96, 46, 104, 96, 61, 132, 3, 1, 167, 255, 225, 28, 172]
abbrev dktX4_costsOf_1 : List UInt8 := dkwX4_costsOf_1 ++ []
def dkwX4_costsOf_0 : List UInt8 := [3, 61, 3, 62, 29, 8, 162, 0, 32, 28, 42, 27, 29, 182, 1, 38, 42, 180, 0, 20, 16, 8, 6, 29]
abbrev dktX4_costsOf_0 : List UInt8 := dkwX4_costsOf_0 ++ dktX4_costsOf_1
theorem dksX4_costsOf_0 : cX4_costsOf.data.toList.drop 0 = dktX4_costsOf_0 := by decide +kernel
theorem dksX4_costsOf_1 : cX4_costsOf.data.toList.drop 24 = dktX4_costsOf_1 := dk_seg dksX4_costsOf_0 24 rfl rfl
theorem dX4_costsOf_0 : decode cX4_costsOf 0 = .ok (.iconst 0, 1) := dk_3 (dk_at dksX4_costsOf_0 0 rfl rfl)
theorem dX4_costsOf_1 : decode cX4_costsOf 1 = .ok (.istore_n 2, 1) := dk_61 (dk_at dksX4_costsOf_0 1 rfl rfl)
theorem dX4_costsOf_2 : decode cX4_costsOf 2 = .ok (.iconst 0, 1) := dk_3 (dk_at dksX4_costsOf_0 2 rfl rfl)
theorem dX4_costsOf_3 : decode cX4_costsOf 3 = .ok (.istore_n 3, 1) := dk_62 (dk_at dksX4_costsOf_0 3 rfl rfl)
theorem dX4_costsOf_4 : decode cX4_costsOf 4 = .ok (.iload_n 3, 1) := dk_29 (dk_at dksX4_costsOf_0 4 rfl rfl)
theorem dX4_costsOf_5 : decode cX4_costsOf 5 = .ok (.iconst 5, 1) := dk_8 (dk_at dksX4_costsOf_0 5 rfl rfl)
theorem dX4_costsOf_6 : decode cX4_costsOf 6 = .ok (.if_icmp .ge 32, 3) := dk_162 0 32 (dk_at dksX4_costsOf_0 6 rfl rfl)
theorem dX4_costsOf_9 : decode cX4_costsOf 9 = .ok (.iload_n 2, 1) := dk_28 (dk_at dksX4_costsOf_0 9 rfl rfl)
theorem dX4_costsOf_10 : decode cX4_costsOf 10 = .ok (.aload_n 0, 1) := dk_42 (dk_at dksX4_costsOf_0 10 rfl rfl)
theorem dX4_costsOf_11 : decode cX4_costsOf 11 = .ok (.iload_n 1, 1) := dk_27 (dk_at dksX4_costsOf_0 11 rfl rfl)
theorem dX4_costsOf_12 : decode cX4_costsOf 12 = .ok (.iload_n 3, 1) := dk_29 (dk_at dksX4_costsOf_0 12 rfl rfl)
theorem dX4_costsOf_13 : decode cX4_costsOf 13 = .ok (.invokevirtual 294, 3) := dk_182 1 38 (dk_at dksX4_costsOf_0 13 rfl rfl)
theorem dX4_costsOf_16 : decode cX4_costsOf 16 = .ok (.aload_n 0, 1) := dk_42 (dk_at dksX4_costsOf_0 16 rfl rfl)
theorem dX4_costsOf_17 : decode cX4_costsOf 17 = .ok (.getfield 20, 3) := dk_180 0 20 (dk_at dksX4_costsOf_0 17 rfl rfl)
theorem dX4_costsOf_20 : decode cX4_costsOf 20 = .ok (.bipush 8, 2) := dk_16 8 (dk_at dksX4_costsOf_0 20 rfl rfl)
theorem dX4_costsOf_22 : decode cX4_costsOf 22 = .ok (.iconst 3, 1) := dk_6 (dk_at dksX4_costsOf_0 22 rfl rfl)
theorem dX4_costsOf_23 : decode cX4_costsOf 23 = .ok (.iload_n 3, 1) := dk_29 (dk_at dksX4_costsOf_0 23 rfl rfl)
theorem dX4_costsOf_24 : decode cX4_costsOf 24 = .ok (.imul, 1) := dk_104 (dk_at dksX4_costsOf_1 0 rfl rfl)
theorem dX4_costsOf_25 : decode cX4_costsOf 25 = .ok (.iadd, 1) := dk_96 (dk_at dksX4_costsOf_1 1 rfl rfl)
theorem dX4_costsOf_26 : decode cX4_costsOf 26 = .ok (.iconst 2, 1) := dk_5 (dk_at dksX4_costsOf_1 2 rfl rfl)
theorem dX4_costsOf_27 : decode cX4_costsOf 27 = .ok (.iadd, 1) := dk_96 (dk_at dksX4_costsOf_1 3 rfl rfl)
theorem dX4_costsOf_28 : decode cX4_costsOf 28 = .ok (.iaload, 1) := dk_46 (dk_at dksX4_costsOf_1 4 rfl rfl)
theorem dX4_costsOf_29 : decode cX4_costsOf 29 = .ok (.imul, 1) := dk_104 (dk_at dksX4_costsOf_1 5 rfl rfl)
theorem dX4_costsOf_30 : decode cX4_costsOf 30 = .ok (.iadd, 1) := dk_96 (dk_at dksX4_costsOf_1 6 rfl rfl)
theorem dX4_costsOf_31 : decode cX4_costsOf 31 = .ok (.istore_n 2, 1) := dk_61 (dk_at dksX4_costsOf_1 7 rfl rfl)
theorem dX4_costsOf_32 : decode cX4_costsOf 32 = .ok (.iinc 3 1, 3) := dk_132 3 1 (dk_at dksX4_costsOf_1 8 rfl rfl)
theorem dX4_costsOf_35 : decode cX4_costsOf 35 = .ok (.goto (-31), 3) := dk_167 255 225 (dk_at dksX4_costsOf_1 11 rfl rfl)
theorem dX4_costsOf_38 : decode cX4_costsOf 38 = .ok (.iload_n 2, 1) := dk_28 (dk_at dksX4_costsOf_1 14 rfl rfl)
theorem dX4_costsOf_39 : decode cX4_costsOf 39 = .ok (.ireturn, 1) := dk_172 (dk_at dksX4_costsOf_1 15 rfl rfl)
abbrev cX4_fate : ByteArray := prog_24_method_75_code
def yX4_fate : MethodName := ⟨RX4, "fate", "(I)I"⟩
def dkwX4_fate_1 : List UInt8 := [182, 1, 68, 172]
abbrev dktX4_fate_1 : List UInt8 := dkwX4_fate_1 ++ []
def dkwX4_fate_0 : List UInt8 := [42, 182, 0, 165, 42, 27, 182, 1, 90, 154, 0, 9, 42, 4, 182, 0, 168, 172, 42, 182, 1, 106, 42, 27]
abbrev dktX4_fate_0 : List UInt8 := dkwX4_fate_0 ++ dktX4_fate_1
theorem dksX4_fate_0 : cX4_fate.data.toList.drop 0 = dktX4_fate_0 := by decide +kernel
theorem dksX4_fate_1 : cX4_fate.data.toList.drop 24 = dktX4_fate_1 := dk_seg dksX4_fate_0 24 rfl rfl
theorem dX4_fate_0 : decode cX4_fate 0 = .ok (.aload_n 0, 1) := dk_42 (dk_at dksX4_fate_0 0 rfl rfl)
theorem dX4_fate_1 : decode cX4_fate 1 = .ok (.invokevirtual 165, 3) := dk_182 0 165 (dk_at dksX4_fate_0 1 rfl rfl)
theorem dX4_fate_4 : decode cX4_fate 4 = .ok (.aload_n 0, 1) := dk_42 (dk_at dksX4_fate_0 4 rfl rfl)
theorem dX4_fate_5 : decode cX4_fate 5 = .ok (.iload_n 1, 1) := dk_27 (dk_at dksX4_fate_0 5 rfl rfl)
theorem dX4_fate_6 : decode cX4_fate 6 = .ok (.invokevirtual 346, 3) := dk_182 1 90 (dk_at dksX4_fate_0 6 rfl rfl)
theorem dX4_fate_9 : decode cX4_fate 9 = .ok (.ifCond .ne 9, 3) := dk_154 0 9 (dk_at dksX4_fate_0 9 rfl rfl)
theorem dX4_fate_12 : decode cX4_fate 12 = .ok (.aload_n 0, 1) := dk_42 (dk_at dksX4_fate_0 12 rfl rfl)
theorem dX4_fate_13 : decode cX4_fate 13 = .ok (.iconst 1, 1) := dk_4 (dk_at dksX4_fate_0 13 rfl rfl)
theorem dX4_fate_14 : decode cX4_fate 14 = .ok (.invokevirtual 168, 3) := dk_182 0 168 (dk_at dksX4_fate_0 14 rfl rfl)
theorem dX4_fate_17 : decode cX4_fate 17 = .ok (.ireturn, 1) := dk_172 (dk_at dksX4_fate_0 17 rfl rfl)
theorem dX4_fate_18 : decode cX4_fate 18 = .ok (.aload_n 0, 1) := dk_42 (dk_at dksX4_fate_0 18 rfl rfl)
theorem dX4_fate_19 : decode cX4_fate 19 = .ok (.invokevirtual 362, 3) := dk_182 1 106 (dk_at dksX4_fate_0 19 rfl rfl)
theorem dX4_fate_22 : decode cX4_fate 22 = .ok (.aload_n 0, 1) := dk_42 (dk_at dksX4_fate_0 22 rfl rfl)
theorem dX4_fate_23 : decode cX4_fate 23 = .ok (.iload_n 1, 1) := dk_27 (dk_at dksX4_fate_0 23 rfl rfl)
theorem dX4_fate_24 : decode cX4_fate 24 = .ok (.invokevirtual 324, 3) := dk_182 1 68 (dk_at dksX4_fate_1 0 rfl rfl)
theorem dX4_fate_27 : decode cX4_fate 27 = .ok (.ireturn, 1) := dk_172 (dk_at dksX4_fate_1 3 rfl rfl)
abbrev cX4_tellEvening : ByteArray := prog_24_method_74_code
def yX4_tellEvening : MethodName := ⟨RX4, "tellEvening", "()V"⟩
def dkwX4_tellEvening_0 : List UInt8 := [42, 182, 0, 187, 42, 42, 180, 0, 20, 5, 46, 181, 1, 63, 42, 182, 1, 103, 177]
abbrev dktX4_tellEvening_0 : List UInt8 := dkwX4_tellEvening_0 ++ []
theorem dksX4_tellEvening_0 : cX4_tellEvening.data.toList.drop 0 = dktX4_tellEvening_0 := by decide +kernel
theorem dX4_tellEvening_0 : decode cX4_tellEvening 0 = .ok (.aload_n 0, 1) := dk_42 (dk_at dksX4_tellEvening_0 0 rfl rfl)
theorem dX4_tellEvening_1 : decode cX4_tellEvening 1 = .ok (.invokevirtual 187, 3) := dk_182 0 187 (dk_at dksX4_tellEvening_0 1 rfl rfl)
theorem dX4_tellEvening_4 : decode cX4_tellEvening 4 = .ok (.aload_n 0, 1) := dk_42 (dk_at dksX4_tellEvening_0 4 rfl rfl)
theorem dX4_tellEvening_5 : decode cX4_tellEvening 5 = .ok (.aload_n 0, 1) := dk_42 (dk_at dksX4_tellEvening_0 5 rfl rfl)
theorem dX4_tellEvening_6 : decode cX4_tellEvening 6 = .ok (.getfield 20, 3) := dk_180 0 20 (dk_at dksX4_tellEvening_0 6 rfl rfl)
theorem dX4_tellEvening_9 : decode cX4_tellEvening 9 = .ok (.iconst 2, 1) := dk_5 (dk_at dksX4_tellEvening_0 9 rfl rfl)
theorem dX4_tellEvening_10 : decode cX4_tellEvening 10 = .ok (.iaload, 1) := dk_46 (dk_at dksX4_tellEvening_0 10 rfl rfl)
theorem dX4_tellEvening_11 : decode cX4_tellEvening 11 = .ok (.putfield 319, 3) := dk_181 1 63 (dk_at dksX4_tellEvening_0 11 rfl rfl)
theorem dX4_tellEvening_14 : decode cX4_tellEvening 14 = .ok (.aload_n 0, 1) := dk_42 (dk_at dksX4_tellEvening_0 14 rfl rfl)
theorem dX4_tellEvening_15 : decode cX4_tellEvening 15 = .ok (.invokevirtual 359, 3) := dk_182 1 103 (dk_at dksX4_tellEvening_0 15 rfl rfl)
theorem dX4_tellEvening_18 : decode cX4_tellEvening 18 = .ok (.return_, 1) := dk_177 (dk_at dksX4_tellEvening_0 18 rfl rfl)
abbrev cX4_evening : ByteArray := prog_24_method_58_code
def yX4_evening : MethodName := ⟨RX4, "evening", "()V"⟩
def dkwX4_evening_1 : List UInt8 := [180, 1, 63, 163, 0, 14, 42, 42, 180, 0, 29, 182, 1, 65, 167, 255, 235, 177]
abbrev dktX4_evening_1 : List UInt8 := dkwX4_evening_1 ++ []
def dkwX4_evening_0 : List UInt8 := [42, 180, 0, 26, 3, 42, 180, 0, 29, 3, 16, 108, 184, 0, 174, 42, 180, 0, 29, 3, 46, 42]
abbrev dktX4_evening_0 : List UInt8 := dkwX4_evening_0 ++ dktX4_evening_1
theorem dksX4_evening_0 : cX4_evening.data.toList.drop 0 = dktX4_evening_0 := by decide +kernel
theorem dksX4_evening_1 : cX4_evening.data.toList.drop 22 = dktX4_evening_1 := dk_seg dksX4_evening_0 22 rfl rfl
theorem dX4_evening_0 : decode cX4_evening 0 = .ok (.aload_n 0, 1) := dk_42 (dk_at dksX4_evening_0 0 rfl rfl)
theorem dX4_evening_1 : decode cX4_evening 1 = .ok (.getfield 26, 3) := dk_180 0 26 (dk_at dksX4_evening_0 1 rfl rfl)
theorem dX4_evening_4 : decode cX4_evening 4 = .ok (.iconst 0, 1) := dk_3 (dk_at dksX4_evening_0 4 rfl rfl)
theorem dX4_evening_5 : decode cX4_evening 5 = .ok (.aload_n 0, 1) := dk_42 (dk_at dksX4_evening_0 5 rfl rfl)
theorem dX4_evening_6 : decode cX4_evening 6 = .ok (.getfield 29, 3) := dk_180 0 29 (dk_at dksX4_evening_0 6 rfl rfl)
theorem dX4_evening_9 : decode cX4_evening 9 = .ok (.iconst 0, 1) := dk_3 (dk_at dksX4_evening_0 9 rfl rfl)
theorem dX4_evening_10 : decode cX4_evening 10 = .ok (.bipush 108, 2) := dk_16 108 (dk_at dksX4_evening_0 10 rfl rfl)
theorem dX4_evening_12 : decode cX4_evening 12 = .ok (.invokestatic 174, 3) := dk_184 0 174 (dk_at dksX4_evening_0 12 rfl rfl)
theorem dX4_evening_15 : decode cX4_evening 15 = .ok (.aload_n 0, 1) := dk_42 (dk_at dksX4_evening_0 15 rfl rfl)
theorem dX4_evening_16 : decode cX4_evening 16 = .ok (.getfield 29, 3) := dk_180 0 29 (dk_at dksX4_evening_0 16 rfl rfl)
theorem dX4_evening_19 : decode cX4_evening 19 = .ok (.iconst 0, 1) := dk_3 (dk_at dksX4_evening_0 19 rfl rfl)
theorem dX4_evening_20 : decode cX4_evening 20 = .ok (.iaload, 1) := dk_46 (dk_at dksX4_evening_0 20 rfl rfl)
theorem dX4_evening_21 : decode cX4_evening 21 = .ok (.aload_n 0, 1) := dk_42 (dk_at dksX4_evening_0 21 rfl rfl)
theorem dX4_evening_22 : decode cX4_evening 22 = .ok (.getfield 319, 3) := dk_180 1 63 (dk_at dksX4_evening_1 0 rfl rfl)
theorem dX4_evening_25 : decode cX4_evening 25 = .ok (.if_icmp .gt 14, 3) := dk_163 0 14 (dk_at dksX4_evening_1 3 rfl rfl)
theorem dX4_evening_28 : decode cX4_evening 28 = .ok (.aload_n 0, 1) := dk_42 (dk_at dksX4_evening_1 6 rfl rfl)
theorem dX4_evening_29 : decode cX4_evening 29 = .ok (.aload_n 0, 1) := dk_42 (dk_at dksX4_evening_1 7 rfl rfl)
theorem dX4_evening_30 : decode cX4_evening 30 = .ok (.getfield 29, 3) := dk_180 0 29 (dk_at dksX4_evening_1 8 rfl rfl)
theorem dX4_evening_33 : decode cX4_evening 33 = .ok (.invokevirtual 321, 3) := dk_182 1 65 (dk_at dksX4_evening_1 11 rfl rfl)
theorem dX4_evening_36 : decode cX4_evening 36 = .ok (.goto (-21), 3) := dk_167 255 235 (dk_at dksX4_evening_1 14 rfl rfl)
theorem dX4_evening_39 : decode cX4_evening 39 = .ok (.return_, 1) := dk_177 (dk_at dksX4_evening_1 17 rfl rfl)
abbrev cX4_second : ByteArray := prog_24_method_56_code
def yX4_second : MethodName := ⟨RX4, "second", "([I)V"⟩
def dkwX4_second_9 : List UInt8 := [43, 3, 92, 46, 4, 96, 79, 177]
abbrev dktX4_second_9 : List UInt8 := dkwX4_second_9 ++ []
def dkwX4_second_8 : List UInt8 := [28, 163, 0, 11, 42, 43, 29, 21, 4, 182, 1, 52, 132, 4, 1, 167, 255, 214, 132, 3, 1, 167, 255, 197]
abbrev dktX4_second_8 : List UInt8 := dkwX4_second_8 ++ dktX4_second_9
def dkwX4_second_7 : List UInt8 := [180, 0, 38, 16, 6, 29, 104, 8, 96, 46, 163, 0, 32, 43, 16, 92, 7, 29, 104, 96, 21, 4, 96, 46]
abbrev dktX4_second_7 : List UInt8 := dkwX4_second_7 ++ dktX4_second_8
def dkwX4_second_6 : List UInt8 := [79, 132, 3, 1, 167, 255, 116, 3, 62, 29, 42, 180, 1, 22, 162, 0, 57, 4, 54, 4, 21, 4, 42]
abbrev dktX4_second_6 : List UInt8 := dkwX4_second_6 ++ dktX4_second_7
def dkwX4_second_5 : List UInt8 := [100, 42, 29, 7, 182, 1, 25, 161, 0, 18, 43, 21, 4, 3, 96, 7, 79, 43, 21, 4, 16, 7, 96, 28]
abbrev dktX4_second_5 : List UInt8 := dkwX4_second_5 ++ dktX4_second_6
def dkwX4_second_4 : List UInt8 := [21, 4, 8, 96, 28, 79, 43, 21, 4, 16, 7, 96, 28, 79, 167, 0, 35, 28, 42, 29, 5, 182, 1, 25]
abbrev dktX4_second_4 : List UInt8 := dkwX4_second_4 ++ dktX4_second_5
def dkwX4_second_3 : List UInt8 := [4, 100, 54, 5, 21, 5, 155, 0, 34, 21, 5, 28, 163, 0, 28, 43, 21, 4, 3, 96, 6, 79, 43]
abbrev dktX4_second_3 : List UInt8 := dkwX4_second_3 ++ dktX4_second_4
def dkwX4_second_2 : List UInt8 := [3, 96, 4, 79, 43, 21, 4, 3, 96, 46, 4, 159, 0, 6, 167, 0, 82, 42, 29, 16, 6, 182, 1, 25]
abbrev dktX4_second_2 : List UInt8 := dkwX4_second_2 ++ dktX4_second_3
def dkwX4_second_1 : List UInt8 := [54, 4, 43, 21, 4, 3, 96, 46, 154, 0, 20, 42, 29, 5, 182, 1, 25, 28, 160, 0, 10, 43, 21, 4]
abbrev dktX4_second_1 : List UInt8 := dkwX4_second_1 ++ dktX4_second_2
def dkwX4_second_0 : List UInt8 := [43, 3, 46, 61, 3, 62, 29, 42, 180, 0, 20, 8, 46, 162, 0, 136, 16, 12, 16, 8, 29, 104, 96]
abbrev dktX4_second_0 : List UInt8 := dkwX4_second_0 ++ dktX4_second_1
theorem dksX4_second_0 : cX4_second.data.toList.drop 0 = dktX4_second_0 := by decide +kernel
theorem dksX4_second_1 : cX4_second.data.toList.drop 23 = dktX4_second_1 := dk_seg dksX4_second_0 23 rfl rfl
theorem dksX4_second_2 : cX4_second.data.toList.drop 47 = dktX4_second_2 := dk_seg dksX4_second_1 24 rfl rfl
theorem dksX4_second_3 : cX4_second.data.toList.drop 71 = dktX4_second_3 := dk_seg dksX4_second_2 24 rfl rfl
theorem dksX4_second_4 : cX4_second.data.toList.drop 94 = dktX4_second_4 := dk_seg dksX4_second_3 23 rfl rfl
theorem dksX4_second_5 : cX4_second.data.toList.drop 118 = dktX4_second_5 := dk_seg dksX4_second_4 24 rfl rfl
theorem dksX4_second_6 : cX4_second.data.toList.drop 142 = dktX4_second_6 := dk_seg dksX4_second_5 24 rfl rfl
theorem dksX4_second_7 : cX4_second.data.toList.drop 165 = dktX4_second_7 := dk_seg dksX4_second_6 23 rfl rfl
theorem dksX4_second_8 : cX4_second.data.toList.drop 189 = dktX4_second_8 := dk_seg dksX4_second_7 24 rfl rfl
theorem dksX4_second_9 : cX4_second.data.toList.drop 213 = dktX4_second_9 := dk_seg dksX4_second_8 24 rfl rfl
theorem dX4_second_0 : decode cX4_second 0 = .ok (.aload_n 1, 1) := dk_43 (dk_at dksX4_second_0 0 rfl rfl)
theorem dX4_second_1 : decode cX4_second 1 = .ok (.iconst 0, 1) := dk_3 (dk_at dksX4_second_0 1 rfl rfl)
theorem dX4_second_2 : decode cX4_second 2 = .ok (.iaload, 1) := dk_46 (dk_at dksX4_second_0 2 rfl rfl)
theorem dX4_second_3 : decode cX4_second 3 = .ok (.istore_n 2, 1) := dk_61 (dk_at dksX4_second_0 3 rfl rfl)
theorem dX4_second_4 : decode cX4_second 4 = .ok (.iconst 0, 1) := dk_3 (dk_at dksX4_second_0 4 rfl rfl)
theorem dX4_second_5 : decode cX4_second 5 = .ok (.istore_n 3, 1) := dk_62 (dk_at dksX4_second_0 5 rfl rfl)
theorem dX4_second_6 : decode cX4_second 6 = .ok (.iload_n 3, 1) := dk_29 (dk_at dksX4_second_0 6 rfl rfl)
theorem dX4_second_7 : decode cX4_second 7 = .ok (.aload_n 0, 1) := dk_42 (dk_at dksX4_second_0 7 rfl rfl)
theorem dX4_second_8 : decode cX4_second 8 = .ok (.getfield 20, 3) := dk_180 0 20 (dk_at dksX4_second_0 8 rfl rfl)
theorem dX4_second_11 : decode cX4_second 11 = .ok (.iconst 5, 1) := dk_8 (dk_at dksX4_second_0 11 rfl rfl)
theorem dX4_second_12 : decode cX4_second 12 = .ok (.iaload, 1) := dk_46 (dk_at dksX4_second_0 12 rfl rfl)
theorem dX4_second_13 : decode cX4_second 13 = .ok (.if_icmp .ge 136, 3) := dk_162 0 136 (dk_at dksX4_second_0 13 rfl rfl)
theorem dX4_second_16 : decode cX4_second 16 = .ok (.bipush 12, 2) := dk_16 12 (dk_at dksX4_second_0 16 rfl rfl)
theorem dX4_second_18 : decode cX4_second 18 = .ok (.bipush 8, 2) := dk_16 8 (dk_at dksX4_second_0 18 rfl rfl)
theorem dX4_second_20 : decode cX4_second 20 = .ok (.iload_n 3, 1) := dk_29 (dk_at dksX4_second_0 20 rfl rfl)
theorem dX4_second_21 : decode cX4_second 21 = .ok (.imul, 1) := dk_104 (dk_at dksX4_second_0 21 rfl rfl)
theorem dX4_second_22 : decode cX4_second 22 = .ok (.iadd, 1) := dk_96 (dk_at dksX4_second_0 22 rfl rfl)
theorem dX4_second_23 : decode cX4_second 23 = .ok (.istore 4, 2) := dk_54 4 (dk_at dksX4_second_1 0 rfl rfl)
theorem dX4_second_25 : decode cX4_second 25 = .ok (.aload_n 1, 1) := dk_43 (dk_at dksX4_second_1 2 rfl rfl)
theorem dX4_second_26 : decode cX4_second 26 = .ok (.iload 4, 2) := dk_21 4 (dk_at dksX4_second_1 3 rfl rfl)
theorem dX4_second_28 : decode cX4_second 28 = .ok (.iconst 0, 1) := dk_3 (dk_at dksX4_second_1 5 rfl rfl)
theorem dX4_second_29 : decode cX4_second 29 = .ok (.iadd, 1) := dk_96 (dk_at dksX4_second_1 6 rfl rfl)
theorem dX4_second_30 : decode cX4_second 30 = .ok (.iaload, 1) := dk_46 (dk_at dksX4_second_1 7 rfl rfl)
theorem dX4_second_31 : decode cX4_second 31 = .ok (.ifCond .ne 20, 3) := dk_154 0 20 (dk_at dksX4_second_1 8 rfl rfl)
theorem dX4_second_34 : decode cX4_second 34 = .ok (.aload_n 0, 1) := dk_42 (dk_at dksX4_second_1 11 rfl rfl)
theorem dX4_second_35 : decode cX4_second 35 = .ok (.iload_n 3, 1) := dk_29 (dk_at dksX4_second_1 12 rfl rfl)
theorem dX4_second_36 : decode cX4_second 36 = .ok (.iconst 2, 1) := dk_5 (dk_at dksX4_second_1 13 rfl rfl)
theorem dX4_second_37 : decode cX4_second 37 = .ok (.invokevirtual 281, 3) := dk_182 1 25 (dk_at dksX4_second_1 14 rfl rfl)
theorem dX4_second_40 : decode cX4_second 40 = .ok (.iload_n 2, 1) := dk_28 (dk_at dksX4_second_1 17 rfl rfl)
theorem dX4_second_41 : decode cX4_second 41 = .ok (.if_icmp .ne 10, 3) := dk_160 0 10 (dk_at dksX4_second_1 18 rfl rfl)
theorem dX4_second_44 : decode cX4_second 44 = .ok (.aload_n 1, 1) := dk_43 (dk_at dksX4_second_1 21 rfl rfl)
theorem dX4_second_45 : decode cX4_second 45 = .ok (.iload 4, 2) := dk_21 4 (dk_at dksX4_second_1 22 rfl rfl)
theorem dX4_second_47 : decode cX4_second 47 = .ok (.iconst 0, 1) := dk_3 (dk_at dksX4_second_2 0 rfl rfl)
theorem dX4_second_48 : decode cX4_second 48 = .ok (.iadd, 1) := dk_96 (dk_at dksX4_second_2 1 rfl rfl)
theorem dX4_second_49 : decode cX4_second 49 = .ok (.iconst 1, 1) := dk_4 (dk_at dksX4_second_2 2 rfl rfl)
theorem dX4_second_50 : decode cX4_second 50 = .ok (.iastore, 1) := dk_79 (dk_at dksX4_second_2 3 rfl rfl)
theorem dX4_second_51 : decode cX4_second 51 = .ok (.aload_n 1, 1) := dk_43 (dk_at dksX4_second_2 4 rfl rfl)
theorem dX4_second_52 : decode cX4_second 52 = .ok (.iload 4, 2) := dk_21 4 (dk_at dksX4_second_2 5 rfl rfl)
theorem dX4_second_54 : decode cX4_second 54 = .ok (.iconst 0, 1) := dk_3 (dk_at dksX4_second_2 7 rfl rfl)
theorem dX4_second_55 : decode cX4_second 55 = .ok (.iadd, 1) := dk_96 (dk_at dksX4_second_2 8 rfl rfl)
theorem dX4_second_56 : decode cX4_second 56 = .ok (.iaload, 1) := dk_46 (dk_at dksX4_second_2 9 rfl rfl)
theorem dX4_second_57 : decode cX4_second 57 = .ok (.iconst 1, 1) := dk_4 (dk_at dksX4_second_2 10 rfl rfl)
theorem dX4_second_58 : decode cX4_second 58 = .ok (.if_icmp .eq 6, 3) := dk_159 0 6 (dk_at dksX4_second_2 11 rfl rfl)
theorem dX4_second_61 : decode cX4_second 61 = .ok (.goto 82, 3) := dk_167 0 82 (dk_at dksX4_second_2 14 rfl rfl)
theorem dX4_second_64 : decode cX4_second 64 = .ok (.aload_n 0, 1) := dk_42 (dk_at dksX4_second_2 17 rfl rfl)
theorem dX4_second_65 : decode cX4_second 65 = .ok (.iload_n 3, 1) := dk_29 (dk_at dksX4_second_2 18 rfl rfl)
theorem dX4_second_66 : decode cX4_second 66 = .ok (.bipush 6, 2) := dk_16 6 (dk_at dksX4_second_2 19 rfl rfl)
theorem dX4_second_68 : decode cX4_second 68 = .ok (.invokevirtual 281, 3) := dk_182 1 25 (dk_at dksX4_second_2 21 rfl rfl)
theorem dX4_second_71 : decode cX4_second 71 = .ok (.iconst 1, 1) := dk_4 (dk_at dksX4_second_3 0 rfl rfl)
theorem dX4_second_72 : decode cX4_second 72 = .ok (.isub, 1) := dk_100 (dk_at dksX4_second_3 1 rfl rfl)
theorem dX4_second_73 : decode cX4_second 73 = .ok (.istore 5, 2) := dk_54 5 (dk_at dksX4_second_3 2 rfl rfl)
theorem dX4_second_75 : decode cX4_second 75 = .ok (.iload 5, 2) := dk_21 5 (dk_at dksX4_second_3 4 rfl rfl)
theorem dX4_second_77 : decode cX4_second 77 = .ok (.ifCond .lt 34, 3) := dk_155 0 34 (dk_at dksX4_second_3 6 rfl rfl)
theorem dX4_second_80 : decode cX4_second 80 = .ok (.iload 5, 2) := dk_21 5 (dk_at dksX4_second_3 9 rfl rfl)
theorem dX4_second_82 : decode cX4_second 82 = .ok (.iload_n 2, 1) := dk_28 (dk_at dksX4_second_3 11 rfl rfl)
theorem dX4_second_83 : decode cX4_second 83 = .ok (.if_icmp .gt 28, 3) := dk_163 0 28 (dk_at dksX4_second_3 12 rfl rfl)
theorem dX4_second_86 : decode cX4_second 86 = .ok (.aload_n 1, 1) := dk_43 (dk_at dksX4_second_3 15 rfl rfl)
theorem dX4_second_87 : decode cX4_second 87 = .ok (.iload 4, 2) := dk_21 4 (dk_at dksX4_second_3 16 rfl rfl)
theorem dX4_second_89 : decode cX4_second 89 = .ok (.iconst 0, 1) := dk_3 (dk_at dksX4_second_3 18 rfl rfl)
theorem dX4_second_90 : decode cX4_second 90 = .ok (.iadd, 1) := dk_96 (dk_at dksX4_second_3 19 rfl rfl)
theorem dX4_second_91 : decode cX4_second 91 = .ok (.iconst 3, 1) := dk_6 (dk_at dksX4_second_3 20 rfl rfl)
theorem dX4_second_92 : decode cX4_second 92 = .ok (.iastore, 1) := dk_79 (dk_at dksX4_second_3 21 rfl rfl)
theorem dX4_second_93 : decode cX4_second 93 = .ok (.aload_n 1, 1) := dk_43 (dk_at dksX4_second_3 22 rfl rfl)
theorem dX4_second_94 : decode cX4_second 94 = .ok (.iload 4, 2) := dk_21 4 (dk_at dksX4_second_4 0 rfl rfl)
theorem dX4_second_96 : decode cX4_second 96 = .ok (.iconst 5, 1) := dk_8 (dk_at dksX4_second_4 2 rfl rfl)
theorem dX4_second_97 : decode cX4_second 97 = .ok (.iadd, 1) := dk_96 (dk_at dksX4_second_4 3 rfl rfl)
theorem dX4_second_98 : decode cX4_second 98 = .ok (.iload_n 2, 1) := dk_28 (dk_at dksX4_second_4 4 rfl rfl)
theorem dX4_second_99 : decode cX4_second 99 = .ok (.iastore, 1) := dk_79 (dk_at dksX4_second_4 5 rfl rfl)
theorem dX4_second_100 : decode cX4_second 100 = .ok (.aload_n 1, 1) := dk_43 (dk_at dksX4_second_4 6 rfl rfl)
theorem dX4_second_101 : decode cX4_second 101 = .ok (.iload 4, 2) := dk_21 4 (dk_at dksX4_second_4 7 rfl rfl)
theorem dX4_second_103 : decode cX4_second 103 = .ok (.bipush 7, 2) := dk_16 7 (dk_at dksX4_second_4 9 rfl rfl)
theorem dX4_second_105 : decode cX4_second 105 = .ok (.iadd, 1) := dk_96 (dk_at dksX4_second_4 11 rfl rfl)
theorem dX4_second_106 : decode cX4_second 106 = .ok (.iload_n 2, 1) := dk_28 (dk_at dksX4_second_4 12 rfl rfl)
theorem dX4_second_107 : decode cX4_second 107 = .ok (.iastore, 1) := dk_79 (dk_at dksX4_second_4 13 rfl rfl)
theorem dX4_second_108 : decode cX4_second 108 = .ok (.goto 35, 3) := dk_167 0 35 (dk_at dksX4_second_4 14 rfl rfl)
theorem dX4_second_111 : decode cX4_second 111 = .ok (.iload_n 2, 1) := dk_28 (dk_at dksX4_second_4 17 rfl rfl)
theorem dX4_second_112 : decode cX4_second 112 = .ok (.aload_n 0, 1) := dk_42 (dk_at dksX4_second_4 18 rfl rfl)
theorem dX4_second_113 : decode cX4_second 113 = .ok (.iload_n 3, 1) := dk_29 (dk_at dksX4_second_4 19 rfl rfl)
theorem dX4_second_114 : decode cX4_second 114 = .ok (.iconst 2, 1) := dk_5 (dk_at dksX4_second_4 20 rfl rfl)
theorem dX4_second_115 : decode cX4_second 115 = .ok (.invokevirtual 281, 3) := dk_182 1 25 (dk_at dksX4_second_4 21 rfl rfl)
theorem dX4_second_118 : decode cX4_second 118 = .ok (.isub, 1) := dk_100 (dk_at dksX4_second_5 0 rfl rfl)
theorem dX4_second_119 : decode cX4_second 119 = .ok (.aload_n 0, 1) := dk_42 (dk_at dksX4_second_5 1 rfl rfl)
theorem dX4_second_120 : decode cX4_second 120 = .ok (.iload_n 3, 1) := dk_29 (dk_at dksX4_second_5 2 rfl rfl)
theorem dX4_second_121 : decode cX4_second 121 = .ok (.iconst 4, 1) := dk_7 (dk_at dksX4_second_5 3 rfl rfl)
theorem dX4_second_122 : decode cX4_second 122 = .ok (.invokevirtual 281, 3) := dk_182 1 25 (dk_at dksX4_second_5 4 rfl rfl)
theorem dX4_second_125 : decode cX4_second 125 = .ok (.if_icmp .lt 18, 3) := dk_161 0 18 (dk_at dksX4_second_5 7 rfl rfl)
theorem dX4_second_128 : decode cX4_second 128 = .ok (.aload_n 1, 1) := dk_43 (dk_at dksX4_second_5 10 rfl rfl)
theorem dX4_second_129 : decode cX4_second 129 = .ok (.iload 4, 2) := dk_21 4 (dk_at dksX4_second_5 11 rfl rfl)
theorem dX4_second_131 : decode cX4_second 131 = .ok (.iconst 0, 1) := dk_3 (dk_at dksX4_second_5 13 rfl rfl)
theorem dX4_second_132 : decode cX4_second 132 = .ok (.iadd, 1) := dk_96 (dk_at dksX4_second_5 14 rfl rfl)
theorem dX4_second_133 : decode cX4_second 133 = .ok (.iconst 4, 1) := dk_7 (dk_at dksX4_second_5 15 rfl rfl)
theorem dX4_second_134 : decode cX4_second 134 = .ok (.iastore, 1) := dk_79 (dk_at dksX4_second_5 16 rfl rfl)
theorem dX4_second_135 : decode cX4_second 135 = .ok (.aload_n 1, 1) := dk_43 (dk_at dksX4_second_5 17 rfl rfl)
theorem dX4_second_136 : decode cX4_second 136 = .ok (.iload 4, 2) := dk_21 4 (dk_at dksX4_second_5 18 rfl rfl)
theorem dX4_second_138 : decode cX4_second 138 = .ok (.bipush 7, 2) := dk_16 7 (dk_at dksX4_second_5 20 rfl rfl)
theorem dX4_second_140 : decode cX4_second 140 = .ok (.iadd, 1) := dk_96 (dk_at dksX4_second_5 22 rfl rfl)
theorem dX4_second_141 : decode cX4_second 141 = .ok (.iload_n 2, 1) := dk_28 (dk_at dksX4_second_5 23 rfl rfl)
theorem dX4_second_142 : decode cX4_second 142 = .ok (.iastore, 1) := dk_79 (dk_at dksX4_second_6 0 rfl rfl)
theorem dX4_second_143 : decode cX4_second 143 = .ok (.iinc 3 1, 3) := dk_132 3 1 (dk_at dksX4_second_6 1 rfl rfl)
theorem dX4_second_146 : decode cX4_second 146 = .ok (.goto (-140), 3) := dk_167 255 116 (dk_at dksX4_second_6 4 rfl rfl)
theorem dX4_second_149 : decode cX4_second 149 = .ok (.iconst 0, 1) := dk_3 (dk_at dksX4_second_6 7 rfl rfl)
theorem dX4_second_150 : decode cX4_second 150 = .ok (.istore_n 3, 1) := dk_62 (dk_at dksX4_second_6 8 rfl rfl)
theorem dX4_second_151 : decode cX4_second 151 = .ok (.iload_n 3, 1) := dk_29 (dk_at dksX4_second_6 9 rfl rfl)
theorem dX4_second_152 : decode cX4_second 152 = .ok (.aload_n 0, 1) := dk_42 (dk_at dksX4_second_6 10 rfl rfl)
theorem dX4_second_153 : decode cX4_second 153 = .ok (.getfield 278, 3) := dk_180 1 22 (dk_at dksX4_second_6 11 rfl rfl)
theorem dX4_second_156 : decode cX4_second 156 = .ok (.if_icmp .ge 57, 3) := dk_162 0 57 (dk_at dksX4_second_6 14 rfl rfl)
theorem dX4_second_159 : decode cX4_second 159 = .ok (.iconst 1, 1) := dk_4 (dk_at dksX4_second_6 17 rfl rfl)
theorem dX4_second_160 : decode cX4_second 160 = .ok (.istore 4, 2) := dk_54 4 (dk_at dksX4_second_6 18 rfl rfl)
theorem dX4_second_162 : decode cX4_second 162 = .ok (.iload 4, 2) := dk_21 4 (dk_at dksX4_second_6 20 rfl rfl)
theorem dX4_second_164 : decode cX4_second 164 = .ok (.aload_n 0, 1) := dk_42 (dk_at dksX4_second_6 22 rfl rfl)
theorem dX4_second_165 : decode cX4_second 165 = .ok (.getfield 38, 3) := dk_180 0 38 (dk_at dksX4_second_7 0 rfl rfl)
theorem dX4_second_168 : decode cX4_second 168 = .ok (.bipush 6, 2) := dk_16 6 (dk_at dksX4_second_7 3 rfl rfl)
theorem dX4_second_170 : decode cX4_second 170 = .ok (.iload_n 3, 1) := dk_29 (dk_at dksX4_second_7 5 rfl rfl)
theorem dX4_second_171 : decode cX4_second 171 = .ok (.imul, 1) := dk_104 (dk_at dksX4_second_7 6 rfl rfl)
theorem dX4_second_172 : decode cX4_second 172 = .ok (.iconst 5, 1) := dk_8 (dk_at dksX4_second_7 7 rfl rfl)
theorem dX4_second_173 : decode cX4_second 173 = .ok (.iadd, 1) := dk_96 (dk_at dksX4_second_7 8 rfl rfl)
theorem dX4_second_174 : decode cX4_second 174 = .ok (.iaload, 1) := dk_46 (dk_at dksX4_second_7 9 rfl rfl)
theorem dX4_second_175 : decode cX4_second 175 = .ok (.if_icmp .gt 32, 3) := dk_163 0 32 (dk_at dksX4_second_7 10 rfl rfl)
theorem dX4_second_178 : decode cX4_second 178 = .ok (.aload_n 1, 1) := dk_43 (dk_at dksX4_second_7 13 rfl rfl)
theorem dX4_second_179 : decode cX4_second 179 = .ok (.bipush 92, 2) := dk_16 92 (dk_at dksX4_second_7 14 rfl rfl)
theorem dX4_second_181 : decode cX4_second 181 = .ok (.iconst 4, 1) := dk_7 (dk_at dksX4_second_7 16 rfl rfl)
theorem dX4_second_182 : decode cX4_second 182 = .ok (.iload_n 3, 1) := dk_29 (dk_at dksX4_second_7 17 rfl rfl)
theorem dX4_second_183 : decode cX4_second 183 = .ok (.imul, 1) := dk_104 (dk_at dksX4_second_7 18 rfl rfl)
theorem dX4_second_184 : decode cX4_second 184 = .ok (.iadd, 1) := dk_96 (dk_at dksX4_second_7 19 rfl rfl)
theorem dX4_second_185 : decode cX4_second 185 = .ok (.iload 4, 2) := dk_21 4 (dk_at dksX4_second_7 20 rfl rfl)
theorem dX4_second_187 : decode cX4_second 187 = .ok (.iadd, 1) := dk_96 (dk_at dksX4_second_7 22 rfl rfl)
theorem dX4_second_188 : decode cX4_second 188 = .ok (.iaload, 1) := dk_46 (dk_at dksX4_second_7 23 rfl rfl)
theorem dX4_second_189 : decode cX4_second 189 = .ok (.iload_n 2, 1) := dk_28 (dk_at dksX4_second_8 0 rfl rfl)
theorem dX4_second_190 : decode cX4_second 190 = .ok (.if_icmp .gt 11, 3) := dk_163 0 11 (dk_at dksX4_second_8 1 rfl rfl)
theorem dX4_second_193 : decode cX4_second 193 = .ok (.aload_n 0, 1) := dk_42 (dk_at dksX4_second_8 4 rfl rfl)
theorem dX4_second_194 : decode cX4_second 194 = .ok (.aload_n 1, 1) := dk_43 (dk_at dksX4_second_8 5 rfl rfl)
theorem dX4_second_195 : decode cX4_second 195 = .ok (.iload_n 3, 1) := dk_29 (dk_at dksX4_second_8 6 rfl rfl)
theorem dX4_second_196 : decode cX4_second 196 = .ok (.iload 4, 2) := dk_21 4 (dk_at dksX4_second_8 7 rfl rfl)
theorem dX4_second_198 : decode cX4_second 198 = .ok (.invokevirtual 308, 3) := dk_182 1 52 (dk_at dksX4_second_8 9 rfl rfl)
theorem dX4_second_201 : decode cX4_second 201 = .ok (.iinc 4 1, 3) := dk_132 4 1 (dk_at dksX4_second_8 12 rfl rfl)
theorem dX4_second_204 : decode cX4_second 204 = .ok (.goto (-42), 3) := dk_167 255 214 (dk_at dksX4_second_8 15 rfl rfl)
theorem dX4_second_207 : decode cX4_second 207 = .ok (.iinc 3 1, 3) := dk_132 3 1 (dk_at dksX4_second_8 18 rfl rfl)
theorem dX4_second_210 : decode cX4_second 210 = .ok (.goto (-59), 3) := dk_167 255 197 (dk_at dksX4_second_8 21 rfl rfl)
theorem dX4_second_213 : decode cX4_second 213 = .ok (.aload_n 1, 1) := dk_43 (dk_at dksX4_second_9 0 rfl rfl)
theorem dX4_second_214 : decode cX4_second 214 = .ok (.iconst 0, 1) := dk_3 (dk_at dksX4_second_9 1 rfl rfl)
theorem dX4_second_215 : decode cX4_second 215 = .ok (.dup2, 1) := dk_92 (dk_at dksX4_second_9 2 rfl rfl)
theorem dX4_second_216 : decode cX4_second 216 = .ok (.iaload, 1) := dk_46 (dk_at dksX4_second_9 3 rfl rfl)
theorem dX4_second_217 : decode cX4_second 217 = .ok (.iconst 1, 1) := dk_4 (dk_at dksX4_second_9 4 rfl rfl)
theorem dX4_second_218 : decode cX4_second 218 = .ok (.iadd, 1) := dk_96 (dk_at dksX4_second_9 5 rfl rfl)
theorem dX4_second_219 : decode cX4_second 219 = .ok (.iastore, 1) := dk_79 (dk_at dksX4_second_9 6 rfl rfl)
theorem dX4_second_220 : decode cX4_second 220 = .ok (.return_, 1) := dk_177 (dk_at dksX4_second_9 7 rfl rfl)
abbrev cX4_begin : ByteArray := prog_24_method_57_code
def yX4_begin : MethodName := ⟨RX4, "begin", "([III)V"⟩
def dkwX4_begin_7 : List UInt8 := [167, 0, 5, 16, 254, 54, 5, 167, 255, 97, 177]
abbrev dktX4_begin_7 : List UInt8 := dkwX4_begin_7 ++ []
def dkwX4_begin_6 : List UInt8 := [21, 5, 79, 43, 4, 92, 46, 4, 96, 79, 21, 8, 21, 4, 163, 0, 12, 42, 43, 28, 182, 1, 56]
abbrev dktX4_begin_6 : List UInt8 := dkwX4_begin_6 ++ dktX4_begin_7
def dkwX4_begin_5 : List UInt8 := [21, 7, 29, 96, 21, 8, 79, 43, 21, 7, 6, 96, 21, 5, 4, 96, 79, 43, 5, 43, 4, 46, 96]
abbrev dktX4_begin_5 : List UInt8 := dkwX4_begin_5 ++ dktX4_begin_6
def dkwX4_begin_4 : List UInt8 := [8, 96, 21, 8, 79, 43, 21, 6, 16, 6, 96, 28, 79, 43, 21, 7, 43, 21, 6, 4, 96, 46, 79, 43]
abbrev dktX4_begin_4 : List UInt8 := dkwX4_begin_4 ++ dktX4_begin_5
def dkwX4_begin_3 : List UInt8 := [182, 1, 60, 96, 54, 8, 43, 21, 6, 3, 96, 5, 79, 43, 21, 6, 7, 96, 21, 4, 79, 43, 21, 6]
abbrev dktX4_begin_3 : List UInt8 := dkwX4_begin_3 ++ dktX4_begin_4
def dkwX4_begin_2 : List UInt8 := [7, 96, 46, 43, 21, 7, 46, 43, 21, 6, 4, 96, 46, 184, 1, 42, 104, 96, 42, 43, 28, 21, 5]
abbrev dktX4_begin_2 : List UInt8 := dkwX4_begin_2 ++ dktX4_begin_3
def dkwX4_begin_1 : List UInt8 := [21, 5, 104, 96, 54, 6, 16, 92, 7, 28, 104, 96, 54, 7, 21, 4, 42, 180, 0, 38, 16, 6, 28, 104]
abbrev dktX4_begin_1 : List UInt8 := dkwX4_begin_1 ++ dktX4_begin_2
def dkwX4_begin_0 : List UInt8 := [43, 3, 46, 54, 4, 42, 43, 28, 182, 1, 56, 54, 5, 21, 5, 16, 254, 159, 0, 158, 16, 12, 16, 8]
abbrev dktX4_begin_0 : List UInt8 := dkwX4_begin_0 ++ dktX4_begin_1
theorem dksX4_begin_0 : cX4_begin.data.toList.drop 0 = dktX4_begin_0 := by decide +kernel
theorem dksX4_begin_1 : cX4_begin.data.toList.drop 24 = dktX4_begin_1 := dk_seg dksX4_begin_0 24 rfl rfl
theorem dksX4_begin_2 : cX4_begin.data.toList.drop 48 = dktX4_begin_2 := dk_seg dksX4_begin_1 24 rfl rfl
theorem dksX4_begin_3 : cX4_begin.data.toList.drop 71 = dktX4_begin_3 := dk_seg dksX4_begin_2 23 rfl rfl
theorem dksX4_begin_4 : cX4_begin.data.toList.drop 95 = dktX4_begin_4 := dk_seg dksX4_begin_3 24 rfl rfl
theorem dksX4_begin_5 : cX4_begin.data.toList.drop 119 = dktX4_begin_5 := dk_seg dksX4_begin_4 24 rfl rfl
theorem dksX4_begin_6 : cX4_begin.data.toList.drop 142 = dktX4_begin_6 := dk_seg dksX4_begin_5 23 rfl rfl
theorem dksX4_begin_7 : cX4_begin.data.toList.drop 165 = dktX4_begin_7 := dk_seg dksX4_begin_6 23 rfl rfl
theorem dX4_begin_0 : decode cX4_begin 0 = .ok (.aload_n 1, 1) := dk_43 (dk_at dksX4_begin_0 0 rfl rfl)
theorem dX4_begin_1 : decode cX4_begin 1 = .ok (.iconst 0, 1) := dk_3 (dk_at dksX4_begin_0 1 rfl rfl)
theorem dX4_begin_2 : decode cX4_begin 2 = .ok (.iaload, 1) := dk_46 (dk_at dksX4_begin_0 2 rfl rfl)
theorem dX4_begin_3 : decode cX4_begin 3 = .ok (.istore 4, 2) := dk_54 4 (dk_at dksX4_begin_0 3 rfl rfl)
theorem dX4_begin_5 : decode cX4_begin 5 = .ok (.aload_n 0, 1) := dk_42 (dk_at dksX4_begin_0 5 rfl rfl)
theorem dX4_begin_6 : decode cX4_begin 6 = .ok (.aload_n 1, 1) := dk_43 (dk_at dksX4_begin_0 6 rfl rfl)
theorem dX4_begin_7 : decode cX4_begin 7 = .ok (.iload_n 2, 1) := dk_28 (dk_at dksX4_begin_0 7 rfl rfl)
theorem dX4_begin_8 : decode cX4_begin 8 = .ok (.invokevirtual 312, 3) := dk_182 1 56 (dk_at dksX4_begin_0 8 rfl rfl)
theorem dX4_begin_11 : decode cX4_begin 11 = .ok (.istore 5, 2) := dk_54 5 (dk_at dksX4_begin_0 11 rfl rfl)
theorem dX4_begin_13 : decode cX4_begin 13 = .ok (.iload 5, 2) := dk_21 5 (dk_at dksX4_begin_0 13 rfl rfl)
theorem dX4_begin_15 : decode cX4_begin 15 = .ok (.bipush (-2), 2) := dk_16 254 (dk_at dksX4_begin_0 15 rfl rfl)
theorem dX4_begin_17 : decode cX4_begin 17 = .ok (.if_icmp .eq 158, 3) := dk_159 0 158 (dk_at dksX4_begin_0 17 rfl rfl)
theorem dX4_begin_20 : decode cX4_begin 20 = .ok (.bipush 12, 2) := dk_16 12 (dk_at dksX4_begin_0 20 rfl rfl)
theorem dX4_begin_22 : decode cX4_begin 22 = .ok (.bipush 8, 2) := dk_16 8 (dk_at dksX4_begin_0 22 rfl rfl)
theorem dX4_begin_24 : decode cX4_begin 24 = .ok (.iload 5, 2) := dk_21 5 (dk_at dksX4_begin_1 0 rfl rfl)
theorem dX4_begin_26 : decode cX4_begin 26 = .ok (.imul, 1) := dk_104 (dk_at dksX4_begin_1 2 rfl rfl)
theorem dX4_begin_27 : decode cX4_begin 27 = .ok (.iadd, 1) := dk_96 (dk_at dksX4_begin_1 3 rfl rfl)
theorem dX4_begin_28 : decode cX4_begin 28 = .ok (.istore 6, 2) := dk_54 6 (dk_at dksX4_begin_1 4 rfl rfl)
theorem dX4_begin_30 : decode cX4_begin 30 = .ok (.bipush 92, 2) := dk_16 92 (dk_at dksX4_begin_1 6 rfl rfl)
theorem dX4_begin_32 : decode cX4_begin 32 = .ok (.iconst 4, 1) := dk_7 (dk_at dksX4_begin_1 8 rfl rfl)
theorem dX4_begin_33 : decode cX4_begin 33 = .ok (.iload_n 2, 1) := dk_28 (dk_at dksX4_begin_1 9 rfl rfl)
theorem dX4_begin_34 : decode cX4_begin 34 = .ok (.imul, 1) := dk_104 (dk_at dksX4_begin_1 10 rfl rfl)
theorem dX4_begin_35 : decode cX4_begin 35 = .ok (.iadd, 1) := dk_96 (dk_at dksX4_begin_1 11 rfl rfl)
theorem dX4_begin_36 : decode cX4_begin 36 = .ok (.istore 7, 2) := dk_54 7 (dk_at dksX4_begin_1 12 rfl rfl)
theorem dX4_begin_38 : decode cX4_begin 38 = .ok (.iload 4, 2) := dk_21 4 (dk_at dksX4_begin_1 14 rfl rfl)
theorem dX4_begin_40 : decode cX4_begin 40 = .ok (.aload_n 0, 1) := dk_42 (dk_at dksX4_begin_1 16 rfl rfl)
theorem dX4_begin_41 : decode cX4_begin 41 = .ok (.getfield 38, 3) := dk_180 0 38 (dk_at dksX4_begin_1 17 rfl rfl)
theorem dX4_begin_44 : decode cX4_begin 44 = .ok (.bipush 6, 2) := dk_16 6 (dk_at dksX4_begin_1 20 rfl rfl)
theorem dX4_begin_46 : decode cX4_begin 46 = .ok (.iload_n 2, 1) := dk_28 (dk_at dksX4_begin_1 22 rfl rfl)
theorem dX4_begin_47 : decode cX4_begin 47 = .ok (.imul, 1) := dk_104 (dk_at dksX4_begin_1 23 rfl rfl)
theorem dX4_begin_48 : decode cX4_begin 48 = .ok (.iconst 4, 1) := dk_7 (dk_at dksX4_begin_2 0 rfl rfl)
theorem dX4_begin_49 : decode cX4_begin 49 = .ok (.iadd, 1) := dk_96 (dk_at dksX4_begin_2 1 rfl rfl)
theorem dX4_begin_50 : decode cX4_begin 50 = .ok (.iaload, 1) := dk_46 (dk_at dksX4_begin_2 2 rfl rfl)
theorem dX4_begin_51 : decode cX4_begin 51 = .ok (.aload_n 1, 1) := dk_43 (dk_at dksX4_begin_2 3 rfl rfl)
theorem dX4_begin_52 : decode cX4_begin 52 = .ok (.iload 7, 2) := dk_21 7 (dk_at dksX4_begin_2 4 rfl rfl)
theorem dX4_begin_54 : decode cX4_begin 54 = .ok (.iaload, 1) := dk_46 (dk_at dksX4_begin_2 6 rfl rfl)
theorem dX4_begin_55 : decode cX4_begin 55 = .ok (.aload_n 1, 1) := dk_43 (dk_at dksX4_begin_2 7 rfl rfl)
theorem dX4_begin_56 : decode cX4_begin 56 = .ok (.iload 6, 2) := dk_21 6 (dk_at dksX4_begin_2 8 rfl rfl)
theorem dX4_begin_58 : decode cX4_begin 58 = .ok (.iconst 1, 1) := dk_4 (dk_at dksX4_begin_2 10 rfl rfl)
theorem dX4_begin_59 : decode cX4_begin 59 = .ok (.iadd, 1) := dk_96 (dk_at dksX4_begin_2 11 rfl rfl)
theorem dX4_begin_60 : decode cX4_begin 60 = .ok (.iaload, 1) := dk_46 (dk_at dksX4_begin_2 12 rfl rfl)
theorem dX4_begin_61 : decode cX4_begin 61 = .ok (.invokestatic 298, 3) := dk_184 1 42 (dk_at dksX4_begin_2 13 rfl rfl)
theorem dX4_begin_64 : decode cX4_begin 64 = .ok (.imul, 1) := dk_104 (dk_at dksX4_begin_2 16 rfl rfl)
theorem dX4_begin_65 : decode cX4_begin 65 = .ok (.iadd, 1) := dk_96 (dk_at dksX4_begin_2 17 rfl rfl)
theorem dX4_begin_66 : decode cX4_begin 66 = .ok (.aload_n 0, 1) := dk_42 (dk_at dksX4_begin_2 18 rfl rfl)
theorem dX4_begin_67 : decode cX4_begin 67 = .ok (.aload_n 1, 1) := dk_43 (dk_at dksX4_begin_2 19 rfl rfl)
theorem dX4_begin_68 : decode cX4_begin 68 = .ok (.iload_n 2, 1) := dk_28 (dk_at dksX4_begin_2 20 rfl rfl)
theorem dX4_begin_69 : decode cX4_begin 69 = .ok (.iload 5, 2) := dk_21 5 (dk_at dksX4_begin_2 21 rfl rfl)
theorem dX4_begin_71 : decode cX4_begin 71 = .ok (.invokevirtual 316, 3) := dk_182 1 60 (dk_at dksX4_begin_3 0 rfl rfl)
theorem dX4_begin_74 : decode cX4_begin 74 = .ok (.iadd, 1) := dk_96 (dk_at dksX4_begin_3 3 rfl rfl)
theorem dX4_begin_75 : decode cX4_begin 75 = .ok (.istore 8, 2) := dk_54 8 (dk_at dksX4_begin_3 4 rfl rfl)
theorem dX4_begin_77 : decode cX4_begin 77 = .ok (.aload_n 1, 1) := dk_43 (dk_at dksX4_begin_3 6 rfl rfl)
theorem dX4_begin_78 : decode cX4_begin 78 = .ok (.iload 6, 2) := dk_21 6 (dk_at dksX4_begin_3 7 rfl rfl)
theorem dX4_begin_80 : decode cX4_begin 80 = .ok (.iconst 0, 1) := dk_3 (dk_at dksX4_begin_3 9 rfl rfl)
theorem dX4_begin_81 : decode cX4_begin 81 = .ok (.iadd, 1) := dk_96 (dk_at dksX4_begin_3 10 rfl rfl)
theorem dX4_begin_82 : decode cX4_begin 82 = .ok (.iconst 2, 1) := dk_5 (dk_at dksX4_begin_3 11 rfl rfl)
theorem dX4_begin_83 : decode cX4_begin 83 = .ok (.iastore, 1) := dk_79 (dk_at dksX4_begin_3 12 rfl rfl)
theorem dX4_begin_84 : decode cX4_begin 84 = .ok (.aload_n 1, 1) := dk_43 (dk_at dksX4_begin_3 13 rfl rfl)
theorem dX4_begin_85 : decode cX4_begin 85 = .ok (.iload 6, 2) := dk_21 6 (dk_at dksX4_begin_3 14 rfl rfl)
theorem dX4_begin_87 : decode cX4_begin 87 = .ok (.iconst 4, 1) := dk_7 (dk_at dksX4_begin_3 16 rfl rfl)
theorem dX4_begin_88 : decode cX4_begin 88 = .ok (.iadd, 1) := dk_96 (dk_at dksX4_begin_3 17 rfl rfl)
theorem dX4_begin_89 : decode cX4_begin 89 = .ok (.iload 4, 2) := dk_21 4 (dk_at dksX4_begin_3 18 rfl rfl)
theorem dX4_begin_91 : decode cX4_begin 91 = .ok (.iastore, 1) := dk_79 (dk_at dksX4_begin_3 20 rfl rfl)
theorem dX4_begin_92 : decode cX4_begin 92 = .ok (.aload_n 1, 1) := dk_43 (dk_at dksX4_begin_3 21 rfl rfl)
theorem dX4_begin_93 : decode cX4_begin 93 = .ok (.iload 6, 2) := dk_21 6 (dk_at dksX4_begin_3 22 rfl rfl)
theorem dX4_begin_95 : decode cX4_begin 95 = .ok (.iconst 5, 1) := dk_8 (dk_at dksX4_begin_4 0 rfl rfl)
theorem dX4_begin_96 : decode cX4_begin 96 = .ok (.iadd, 1) := dk_96 (dk_at dksX4_begin_4 1 rfl rfl)
theorem dX4_begin_97 : decode cX4_begin 97 = .ok (.iload 8, 2) := dk_21 8 (dk_at dksX4_begin_4 2 rfl rfl)
theorem dX4_begin_99 : decode cX4_begin 99 = .ok (.iastore, 1) := dk_79 (dk_at dksX4_begin_4 4 rfl rfl)
theorem dX4_begin_100 : decode cX4_begin 100 = .ok (.aload_n 1, 1) := dk_43 (dk_at dksX4_begin_4 5 rfl rfl)
theorem dX4_begin_101 : decode cX4_begin 101 = .ok (.iload 6, 2) := dk_21 6 (dk_at dksX4_begin_4 6 rfl rfl)
theorem dX4_begin_103 : decode cX4_begin 103 = .ok (.bipush 6, 2) := dk_16 6 (dk_at dksX4_begin_4 8 rfl rfl)
theorem dX4_begin_105 : decode cX4_begin 105 = .ok (.iadd, 1) := dk_96 (dk_at dksX4_begin_4 10 rfl rfl)
theorem dX4_begin_106 : decode cX4_begin 106 = .ok (.iload_n 2, 1) := dk_28 (dk_at dksX4_begin_4 11 rfl rfl)
theorem dX4_begin_107 : decode cX4_begin 107 = .ok (.iastore, 1) := dk_79 (dk_at dksX4_begin_4 12 rfl rfl)
theorem dX4_begin_108 : decode cX4_begin 108 = .ok (.aload_n 1, 1) := dk_43 (dk_at dksX4_begin_4 13 rfl rfl)
theorem dX4_begin_109 : decode cX4_begin 109 = .ok (.iload 7, 2) := dk_21 7 (dk_at dksX4_begin_4 14 rfl rfl)
theorem dX4_begin_111 : decode cX4_begin 111 = .ok (.aload_n 1, 1) := dk_43 (dk_at dksX4_begin_4 16 rfl rfl)
theorem dX4_begin_112 : decode cX4_begin 112 = .ok (.iload 6, 2) := dk_21 6 (dk_at dksX4_begin_4 17 rfl rfl)
theorem dX4_begin_114 : decode cX4_begin 114 = .ok (.iconst 1, 1) := dk_4 (dk_at dksX4_begin_4 19 rfl rfl)
theorem dX4_begin_115 : decode cX4_begin 115 = .ok (.iadd, 1) := dk_96 (dk_at dksX4_begin_4 20 rfl rfl)
theorem dX4_begin_116 : decode cX4_begin 116 = .ok (.iaload, 1) := dk_46 (dk_at dksX4_begin_4 21 rfl rfl)
theorem dX4_begin_117 : decode cX4_begin 117 = .ok (.iastore, 1) := dk_79 (dk_at dksX4_begin_4 22 rfl rfl)
theorem dX4_begin_118 : decode cX4_begin 118 = .ok (.aload_n 1, 1) := dk_43 (dk_at dksX4_begin_4 23 rfl rfl)
theorem dX4_begin_119 : decode cX4_begin 119 = .ok (.iload 7, 2) := dk_21 7 (dk_at dksX4_begin_5 0 rfl rfl)
theorem dX4_begin_121 : decode cX4_begin 121 = .ok (.iload_n 3, 1) := dk_29 (dk_at dksX4_begin_5 2 rfl rfl)
theorem dX4_begin_122 : decode cX4_begin 122 = .ok (.iadd, 1) := dk_96 (dk_at dksX4_begin_5 3 rfl rfl)
theorem dX4_begin_123 : decode cX4_begin 123 = .ok (.iload 8, 2) := dk_21 8 (dk_at dksX4_begin_5 4 rfl rfl)
theorem dX4_begin_125 : decode cX4_begin 125 = .ok (.iastore, 1) := dk_79 (dk_at dksX4_begin_5 6 rfl rfl)
theorem dX4_begin_126 : decode cX4_begin 126 = .ok (.aload_n 1, 1) := dk_43 (dk_at dksX4_begin_5 7 rfl rfl)
theorem dX4_begin_127 : decode cX4_begin 127 = .ok (.iload 7, 2) := dk_21 7 (dk_at dksX4_begin_5 8 rfl rfl)
theorem dX4_begin_129 : decode cX4_begin 129 = .ok (.iconst 3, 1) := dk_6 (dk_at dksX4_begin_5 10 rfl rfl)
theorem dX4_begin_130 : decode cX4_begin 130 = .ok (.iadd, 1) := dk_96 (dk_at dksX4_begin_5 11 rfl rfl)
theorem dX4_begin_131 : decode cX4_begin 131 = .ok (.iload 5, 2) := dk_21 5 (dk_at dksX4_begin_5 12 rfl rfl)
theorem dX4_begin_133 : decode cX4_begin 133 = .ok (.iconst 1, 1) := dk_4 (dk_at dksX4_begin_5 14 rfl rfl)
theorem dX4_begin_134 : decode cX4_begin 134 = .ok (.iadd, 1) := dk_96 (dk_at dksX4_begin_5 15 rfl rfl)
theorem dX4_begin_135 : decode cX4_begin 135 = .ok (.iastore, 1) := dk_79 (dk_at dksX4_begin_5 16 rfl rfl)
theorem dX4_begin_136 : decode cX4_begin 136 = .ok (.aload_n 1, 1) := dk_43 (dk_at dksX4_begin_5 17 rfl rfl)
theorem dX4_begin_137 : decode cX4_begin 137 = .ok (.iconst 2, 1) := dk_5 (dk_at dksX4_begin_5 18 rfl rfl)
theorem dX4_begin_138 : decode cX4_begin 138 = .ok (.aload_n 1, 1) := dk_43 (dk_at dksX4_begin_5 19 rfl rfl)
theorem dX4_begin_139 : decode cX4_begin 139 = .ok (.iconst 1, 1) := dk_4 (dk_at dksX4_begin_5 20 rfl rfl)
theorem dX4_begin_140 : decode cX4_begin 140 = .ok (.iaload, 1) := dk_46 (dk_at dksX4_begin_5 21 rfl rfl)
theorem dX4_begin_141 : decode cX4_begin 141 = .ok (.iadd, 1) := dk_96 (dk_at dksX4_begin_5 22 rfl rfl)
theorem dX4_begin_142 : decode cX4_begin 142 = .ok (.iload 5, 2) := dk_21 5 (dk_at dksX4_begin_6 0 rfl rfl)
theorem dX4_begin_144 : decode cX4_begin 144 = .ok (.iastore, 1) := dk_79 (dk_at dksX4_begin_6 2 rfl rfl)
theorem dX4_begin_145 : decode cX4_begin 145 = .ok (.aload_n 1, 1) := dk_43 (dk_at dksX4_begin_6 3 rfl rfl)
theorem dX4_begin_146 : decode cX4_begin 146 = .ok (.iconst 1, 1) := dk_4 (dk_at dksX4_begin_6 4 rfl rfl)
theorem dX4_begin_147 : decode cX4_begin 147 = .ok (.dup2, 1) := dk_92 (dk_at dksX4_begin_6 5 rfl rfl)
theorem dX4_begin_148 : decode cX4_begin 148 = .ok (.iaload, 1) := dk_46 (dk_at dksX4_begin_6 6 rfl rfl)
theorem dX4_begin_149 : decode cX4_begin 149 = .ok (.iconst 1, 1) := dk_4 (dk_at dksX4_begin_6 7 rfl rfl)
theorem dX4_begin_150 : decode cX4_begin 150 = .ok (.iadd, 1) := dk_96 (dk_at dksX4_begin_6 8 rfl rfl)
theorem dX4_begin_151 : decode cX4_begin 151 = .ok (.iastore, 1) := dk_79 (dk_at dksX4_begin_6 9 rfl rfl)
theorem dX4_begin_152 : decode cX4_begin 152 = .ok (.iload 8, 2) := dk_21 8 (dk_at dksX4_begin_6 10 rfl rfl)
theorem dX4_begin_154 : decode cX4_begin 154 = .ok (.iload 4, 2) := dk_21 4 (dk_at dksX4_begin_6 12 rfl rfl)
theorem dX4_begin_156 : decode cX4_begin 156 = .ok (.if_icmp .gt 12, 3) := dk_163 0 12 (dk_at dksX4_begin_6 14 rfl rfl)
theorem dX4_begin_159 : decode cX4_begin 159 = .ok (.aload_n 0, 1) := dk_42 (dk_at dksX4_begin_6 17 rfl rfl)
theorem dX4_begin_160 : decode cX4_begin 160 = .ok (.aload_n 1, 1) := dk_43 (dk_at dksX4_begin_6 18 rfl rfl)
theorem dX4_begin_161 : decode cX4_begin 161 = .ok (.iload_n 2, 1) := dk_28 (dk_at dksX4_begin_6 19 rfl rfl)
theorem dX4_begin_162 : decode cX4_begin 162 = .ok (.invokevirtual 312, 3) := dk_182 1 56 (dk_at dksX4_begin_6 20 rfl rfl)
theorem dX4_begin_165 : decode cX4_begin 165 = .ok (.goto 5, 3) := dk_167 0 5 (dk_at dksX4_begin_7 0 rfl rfl)
theorem dX4_begin_168 : decode cX4_begin 168 = .ok (.bipush (-2), 2) := dk_16 254 (dk_at dksX4_begin_7 3 rfl rfl)
theorem dX4_begin_170 : decode cX4_begin 170 = .ok (.istore 5, 2) := dk_54 5 (dk_at dksX4_begin_7 5 rfl rfl)
theorem dX4_begin_172 : decode cX4_begin 172 = .ok (.goto (-159), 3) := dk_167 255 97 (dk_at dksX4_begin_7 7 rfl rfl)
theorem dX4_begin_175 : decode cX4_begin 175 = .ok (.return_, 1) := dk_177 (dk_at dksX4_begin_7 10 rfl rfl)
abbrev cX4_fateOf : ByteArray := prog_24_method_59_code
def yX4_fateOf : MethodName := ⟨RX4, "fateOf", "(I)I"⟩
def dkwX4_fateOf_3 : List UInt8 := [7, 172, 6, 172]
abbrev dktX4_fateOf_3 : List UInt8 := dkwX4_fateOf_3 ++ []
def dkwX4_fateOf_2 : List UInt8 := [3, 172, 42, 180, 0, 29, 27, 7, 184, 1, 31, 16, 254, 160, 0, 7, 4, 167, 0, 4, 3, 172, 5, 172]
abbrev dktX4_fateOf_2 : List UInt8 := dkwX4_fateOf_2 ++ dktX4_fateOf_3
def dkwX4_fateOf_1 : List UInt8 := [170, 0, 0, 0, 0, 0, 57, 0, 0, 0, 2, 0, 0, 0, 5, 0, 0, 0, 31, 0, 0, 0, 33, 0, 0, 0, 53, 0, 0, 0, 55]
abbrev dktX4_fateOf_1 : List UInt8 := dkwX4_fateOf_1 ++ dktX4_fateOf_2
def dkwX4_fateOf_0 : List UInt8 := [42, 180, 0, 29, 27, 3, 184, 1, 31]
abbrev dktX4_fateOf_0 : List UInt8 := dkwX4_fateOf_0 ++ dktX4_fateOf_1
theorem dksX4_fateOf_0 : cX4_fateOf.data.toList.drop 0 = dktX4_fateOf_0 := by decide +kernel
theorem dksX4_fateOf_1 : cX4_fateOf.data.toList.drop 9 = dktX4_fateOf_1 := dk_seg dksX4_fateOf_0 9 rfl rfl
theorem dksX4_fateOf_2 : cX4_fateOf.data.toList.drop 40 = dktX4_fateOf_2 := dk_seg dksX4_fateOf_1 31 rfl rfl
theorem dksX4_fateOf_3 : cX4_fateOf.data.toList.drop 64 = dktX4_fateOf_3 := dk_seg dksX4_fateOf_2 24 rfl rfl
theorem dX4_fateOf_0 : decode cX4_fateOf 0 = .ok (.aload_n 0, 1) := dk_42 (dk_at dksX4_fateOf_0 0 rfl rfl)
theorem dX4_fateOf_1 : decode cX4_fateOf 1 = .ok (.getfield 29, 3) := dk_180 0 29 (dk_at dksX4_fateOf_0 1 rfl rfl)
theorem dX4_fateOf_4 : decode cX4_fateOf 4 = .ok (.iload_n 1, 1) := dk_27 (dk_at dksX4_fateOf_0 4 rfl rfl)
theorem dX4_fateOf_5 : decode cX4_fateOf 5 = .ok (.iconst 0, 1) := dk_3 (dk_at dksX4_fateOf_0 5 rfl rfl)
theorem dX4_fateOf_6 : decode cX4_fateOf 6 = .ok (.invokestatic 287, 3) := dk_184 1 31 (dk_at dksX4_fateOf_0 6 rfl rfl)
theorem dX4_fateOf_9 : decode cX4_fateOf 9 = .ok (.tableswitch 57 2 5 #[31, 33, 53, 55], 31) := by decide +kernel
theorem dX4_fateOf_40 : decode cX4_fateOf 40 = .ok (.iconst 0, 1) := dk_3 (dk_at dksX4_fateOf_2 0 rfl rfl)
theorem dX4_fateOf_41 : decode cX4_fateOf 41 = .ok (.ireturn, 1) := dk_172 (dk_at dksX4_fateOf_2 1 rfl rfl)
theorem dX4_fateOf_42 : decode cX4_fateOf 42 = .ok (.aload_n 0, 1) := dk_42 (dk_at dksX4_fateOf_2 2 rfl rfl)
theorem dX4_fateOf_43 : decode cX4_fateOf 43 = .ok (.getfield 29, 3) := dk_180 0 29 (dk_at dksX4_fateOf_2 3 rfl rfl)
theorem dX4_fateOf_46 : decode cX4_fateOf 46 = .ok (.iload_n 1, 1) := dk_27 (dk_at dksX4_fateOf_2 6 rfl rfl)
theorem dX4_fateOf_47 : decode cX4_fateOf 47 = .ok (.iconst 4, 1) := dk_7 (dk_at dksX4_fateOf_2 7 rfl rfl)
theorem dX4_fateOf_48 : decode cX4_fateOf 48 = .ok (.invokestatic 287, 3) := dk_184 1 31 (dk_at dksX4_fateOf_2 8 rfl rfl)
theorem dX4_fateOf_51 : decode cX4_fateOf 51 = .ok (.bipush (-2), 2) := dk_16 254 (dk_at dksX4_fateOf_2 11 rfl rfl)
theorem dX4_fateOf_53 : decode cX4_fateOf 53 = .ok (.if_icmp .ne 7, 3) := dk_160 0 7 (dk_at dksX4_fateOf_2 13 rfl rfl)
theorem dX4_fateOf_56 : decode cX4_fateOf 56 = .ok (.iconst 1, 1) := dk_4 (dk_at dksX4_fateOf_2 16 rfl rfl)
theorem dX4_fateOf_57 : decode cX4_fateOf 57 = .ok (.goto 4, 3) := dk_167 0 4 (dk_at dksX4_fateOf_2 17 rfl rfl)
theorem dX4_fateOf_60 : decode cX4_fateOf 60 = .ok (.iconst 0, 1) := dk_3 (dk_at dksX4_fateOf_2 20 rfl rfl)
theorem dX4_fateOf_61 : decode cX4_fateOf 61 = .ok (.ireturn, 1) := dk_172 (dk_at dksX4_fateOf_2 21 rfl rfl)
theorem dX4_fateOf_62 : decode cX4_fateOf 62 = .ok (.iconst 2, 1) := dk_5 (dk_at dksX4_fateOf_2 22 rfl rfl)
theorem dX4_fateOf_63 : decode cX4_fateOf 63 = .ok (.ireturn, 1) := dk_172 (dk_at dksX4_fateOf_2 23 rfl rfl)
theorem dX4_fateOf_64 : decode cX4_fateOf 64 = .ok (.iconst 4, 1) := dk_7 (dk_at dksX4_fateOf_3 0 rfl rfl)
theorem dX4_fateOf_65 : decode cX4_fateOf 65 = .ok (.ireturn, 1) := dk_172 (dk_at dksX4_fateOf_3 1 rfl rfl)
theorem dX4_fateOf_66 : decode cX4_fateOf 66 = .ok (.iconst 3, 1) := dk_6 (dk_at dksX4_fateOf_3 2 rfl rfl)
theorem dX4_fateOf_67 : decode cX4_fateOf 67 = .ok (.ireturn, 1) := dk_172 (dk_at dksX4_fateOf_3 3 rfl rfl)
abbrev cX4_waits : ByteArray := prog_24_method_76_code
def yX4_waits : MethodName := ⟨RX4, "waits", "(I)I"⟩
def dkwX4_waits_1 : List UInt8 := [182, 1, 81, 172]
abbrev dktX4_waits_1 : List UInt8 := dkwX4_waits_1 ++ []
def dkwX4_waits_0 : List UInt8 := [42, 182, 0, 165, 42, 27, 182, 1, 90, 154, 0, 9, 42, 4, 182, 0, 168, 172, 42, 182, 1, 106, 42, 27]
abbrev dktX4_waits_0 : List UInt8 := dkwX4_waits_0 ++ dktX4_waits_1
theorem dksX4_waits_0 : cX4_waits.data.toList.drop 0 = dktX4_waits_0 := by decide +kernel
theorem dksX4_waits_1 : cX4_waits.data.toList.drop 24 = dktX4_waits_1 := dk_seg dksX4_waits_0 24 rfl rfl
theorem dX4_waits_0 : decode cX4_waits 0 = .ok (.aload_n 0, 1) := dk_42 (dk_at dksX4_waits_0 0 rfl rfl)
theorem dX4_waits_1 : decode cX4_waits 1 = .ok (.invokevirtual 165, 3) := dk_182 0 165 (dk_at dksX4_waits_0 1 rfl rfl)
theorem dX4_waits_4 : decode cX4_waits 4 = .ok (.aload_n 0, 1) := dk_42 (dk_at dksX4_waits_0 4 rfl rfl)
theorem dX4_waits_5 : decode cX4_waits 5 = .ok (.iload_n 1, 1) := dk_27 (dk_at dksX4_waits_0 5 rfl rfl)
theorem dX4_waits_6 : decode cX4_waits 6 = .ok (.invokevirtual 346, 3) := dk_182 1 90 (dk_at dksX4_waits_0 6 rfl rfl)
theorem dX4_waits_9 : decode cX4_waits 9 = .ok (.ifCond .ne 9, 3) := dk_154 0 9 (dk_at dksX4_waits_0 9 rfl rfl)
theorem dX4_waits_12 : decode cX4_waits 12 = .ok (.aload_n 0, 1) := dk_42 (dk_at dksX4_waits_0 12 rfl rfl)
theorem dX4_waits_13 : decode cX4_waits 13 = .ok (.iconst 1, 1) := dk_4 (dk_at dksX4_waits_0 13 rfl rfl)
theorem dX4_waits_14 : decode cX4_waits 14 = .ok (.invokevirtual 168, 3) := dk_182 0 168 (dk_at dksX4_waits_0 14 rfl rfl)
theorem dX4_waits_17 : decode cX4_waits 17 = .ok (.ireturn, 1) := dk_172 (dk_at dksX4_waits_0 17 rfl rfl)
theorem dX4_waits_18 : decode cX4_waits 18 = .ok (.aload_n 0, 1) := dk_42 (dk_at dksX4_waits_0 18 rfl rfl)
theorem dX4_waits_19 : decode cX4_waits 19 = .ok (.invokevirtual 362, 3) := dk_182 1 106 (dk_at dksX4_waits_0 19 rfl rfl)
theorem dX4_waits_22 : decode cX4_waits 22 = .ok (.aload_n 0, 1) := dk_42 (dk_at dksX4_waits_0 22 rfl rfl)
theorem dX4_waits_23 : decode cX4_waits 23 = .ok (.iload_n 1, 1) := dk_27 (dk_at dksX4_waits_0 23 rfl rfl)
theorem dX4_waits_24 : decode cX4_waits 24 = .ok (.invokevirtual 337, 3) := dk_182 1 81 (dk_at dksX4_waits_1 0 rfl rfl)
theorem dX4_waits_27 : decode cX4_waits 27 = .ok (.ireturn, 1) := dk_172 (dk_at dksX4_waits_1 3 rfl rfl)
abbrev cX4_waitOf : ByteArray := prog_24_method_60_code
def yX4_waitOf : MethodName := ⟨RX4, "waitOf", "(I)I"⟩
def dkwX4_waitOf_3 : List UInt8 := [180, 1, 63, 61, 28, 42, 27, 5, 182, 1, 25, 100, 172]
abbrev dktX4_waitOf_3 : List UInt8 := dkwX4_waitOf_3 ++ []
def dkwX4_waitOf_2 : List UInt8 := [184, 1, 31, 16, 254, 159, 0, 16, 42, 180, 0, 29, 27, 16, 7, 184, 1, 31, 167, 0, 7, 42]
abbrev dktX4_waitOf_2 : List UInt8 := dkwX4_waitOf_2 ++ dktX4_waitOf_3
def dkwX4_waitOf_1 : List UInt8 := [159, 0, 15, 42, 180, 0, 29, 27, 7, 184, 1, 31, 167, 0, 35, 42, 180, 0, 29, 27, 16, 7]
abbrev dktX4_waitOf_1 : List UInt8 := dkwX4_waitOf_1 ++ dktX4_waitOf_2
def dkwX4_waitOf_0 : List UInt8 := [42, 27, 182, 1, 68, 7, 160, 0, 6, 16, 254, 172, 42, 180, 0, 29, 27, 7, 184, 1, 31, 16, 254]
abbrev dktX4_waitOf_0 : List UInt8 := dkwX4_waitOf_0 ++ dktX4_waitOf_1
theorem dksX4_waitOf_0 : cX4_waitOf.data.toList.drop 0 = dktX4_waitOf_0 := by decide +kernel
theorem dksX4_waitOf_1 : cX4_waitOf.data.toList.drop 23 = dktX4_waitOf_1 := dk_seg dksX4_waitOf_0 23 rfl rfl
theorem dksX4_waitOf_2 : cX4_waitOf.data.toList.drop 45 = dktX4_waitOf_2 := dk_seg dksX4_waitOf_1 22 rfl rfl
theorem dksX4_waitOf_3 : cX4_waitOf.data.toList.drop 67 = dktX4_waitOf_3 := dk_seg dksX4_waitOf_2 22 rfl rfl
theorem dX4_waitOf_0 : decode cX4_waitOf 0 = .ok (.aload_n 0, 1) := dk_42 (dk_at dksX4_waitOf_0 0 rfl rfl)
theorem dX4_waitOf_1 : decode cX4_waitOf 1 = .ok (.iload_n 1, 1) := dk_27 (dk_at dksX4_waitOf_0 1 rfl rfl)
theorem dX4_waitOf_2 : decode cX4_waitOf 2 = .ok (.invokevirtual 324, 3) := dk_182 1 68 (dk_at dksX4_waitOf_0 2 rfl rfl)
theorem dX4_waitOf_5 : decode cX4_waitOf 5 = .ok (.iconst 4, 1) := dk_7 (dk_at dksX4_waitOf_0 5 rfl rfl)
theorem dX4_waitOf_6 : decode cX4_waitOf 6 = .ok (.if_icmp .ne 6, 3) := dk_160 0 6 (dk_at dksX4_waitOf_0 6 rfl rfl)
theorem dX4_waitOf_9 : decode cX4_waitOf 9 = .ok (.bipush (-2), 2) := dk_16 254 (dk_at dksX4_waitOf_0 9 rfl rfl)
theorem dX4_waitOf_11 : decode cX4_waitOf 11 = .ok (.ireturn, 1) := dk_172 (dk_at dksX4_waitOf_0 11 rfl rfl)
theorem dX4_waitOf_12 : decode cX4_waitOf 12 = .ok (.aload_n 0, 1) := dk_42 (dk_at dksX4_waitOf_0 12 rfl rfl)
theorem dX4_waitOf_13 : decode cX4_waitOf 13 = .ok (.getfield 29, 3) := dk_180 0 29 (dk_at dksX4_waitOf_0 13 rfl rfl)
theorem dX4_waitOf_16 : decode cX4_waitOf 16 = .ok (.iload_n 1, 1) := dk_27 (dk_at dksX4_waitOf_0 16 rfl rfl)
theorem dX4_waitOf_17 : decode cX4_waitOf 17 = .ok (.iconst 4, 1) := dk_7 (dk_at dksX4_waitOf_0 17 rfl rfl)
theorem dX4_waitOf_18 : decode cX4_waitOf 18 = .ok (.invokestatic 287, 3) := dk_184 1 31 (dk_at dksX4_waitOf_0 18 rfl rfl)
theorem dX4_waitOf_21 : decode cX4_waitOf 21 = .ok (.bipush (-2), 2) := dk_16 254 (dk_at dksX4_waitOf_0 21 rfl rfl)
theorem dX4_waitOf_23 : decode cX4_waitOf 23 = .ok (.if_icmp .eq 15, 3) := dk_159 0 15 (dk_at dksX4_waitOf_1 0 rfl rfl)
theorem dX4_waitOf_26 : decode cX4_waitOf 26 = .ok (.aload_n 0, 1) := dk_42 (dk_at dksX4_waitOf_1 3 rfl rfl)
theorem dX4_waitOf_27 : decode cX4_waitOf 27 = .ok (.getfield 29, 3) := dk_180 0 29 (dk_at dksX4_waitOf_1 4 rfl rfl)
theorem dX4_waitOf_30 : decode cX4_waitOf 30 = .ok (.iload_n 1, 1) := dk_27 (dk_at dksX4_waitOf_1 7 rfl rfl)
theorem dX4_waitOf_31 : decode cX4_waitOf 31 = .ok (.iconst 4, 1) := dk_7 (dk_at dksX4_waitOf_1 8 rfl rfl)
theorem dX4_waitOf_32 : decode cX4_waitOf 32 = .ok (.invokestatic 287, 3) := dk_184 1 31 (dk_at dksX4_waitOf_1 9 rfl rfl)
theorem dX4_waitOf_35 : decode cX4_waitOf 35 = .ok (.goto 35, 3) := dk_167 0 35 (dk_at dksX4_waitOf_1 12 rfl rfl)
theorem dX4_waitOf_38 : decode cX4_waitOf 38 = .ok (.aload_n 0, 1) := dk_42 (dk_at dksX4_waitOf_1 15 rfl rfl)
theorem dX4_waitOf_39 : decode cX4_waitOf 39 = .ok (.getfield 29, 3) := dk_180 0 29 (dk_at dksX4_waitOf_1 16 rfl rfl)
theorem dX4_waitOf_42 : decode cX4_waitOf 42 = .ok (.iload_n 1, 1) := dk_27 (dk_at dksX4_waitOf_1 19 rfl rfl)
theorem dX4_waitOf_43 : decode cX4_waitOf 43 = .ok (.bipush 7, 2) := dk_16 7 (dk_at dksX4_waitOf_1 20 rfl rfl)
theorem dX4_waitOf_45 : decode cX4_waitOf 45 = .ok (.invokestatic 287, 3) := dk_184 1 31 (dk_at dksX4_waitOf_2 0 rfl rfl)
theorem dX4_waitOf_48 : decode cX4_waitOf 48 = .ok (.bipush (-2), 2) := dk_16 254 (dk_at dksX4_waitOf_2 3 rfl rfl)
theorem dX4_waitOf_50 : decode cX4_waitOf 50 = .ok (.if_icmp .eq 16, 3) := dk_159 0 16 (dk_at dksX4_waitOf_2 5 rfl rfl)
theorem dX4_waitOf_53 : decode cX4_waitOf 53 = .ok (.aload_n 0, 1) := dk_42 (dk_at dksX4_waitOf_2 8 rfl rfl)
theorem dX4_waitOf_54 : decode cX4_waitOf 54 = .ok (.getfield 29, 3) := dk_180 0 29 (dk_at dksX4_waitOf_2 9 rfl rfl)
theorem dX4_waitOf_57 : decode cX4_waitOf 57 = .ok (.iload_n 1, 1) := dk_27 (dk_at dksX4_waitOf_2 12 rfl rfl)
theorem dX4_waitOf_58 : decode cX4_waitOf 58 = .ok (.bipush 7, 2) := dk_16 7 (dk_at dksX4_waitOf_2 13 rfl rfl)
theorem dX4_waitOf_60 : decode cX4_waitOf 60 = .ok (.invokestatic 287, 3) := dk_184 1 31 (dk_at dksX4_waitOf_2 15 rfl rfl)
theorem dX4_waitOf_63 : decode cX4_waitOf 63 = .ok (.goto 7, 3) := dk_167 0 7 (dk_at dksX4_waitOf_2 18 rfl rfl)
theorem dX4_waitOf_66 : decode cX4_waitOf 66 = .ok (.aload_n 0, 1) := dk_42 (dk_at dksX4_waitOf_2 21 rfl rfl)
theorem dX4_waitOf_67 : decode cX4_waitOf 67 = .ok (.getfield 319, 3) := dk_180 1 63 (dk_at dksX4_waitOf_3 0 rfl rfl)
theorem dX4_waitOf_70 : decode cX4_waitOf 70 = .ok (.istore_n 2, 1) := dk_61 (dk_at dksX4_waitOf_3 3 rfl rfl)
theorem dX4_waitOf_71 : decode cX4_waitOf 71 = .ok (.iload_n 2, 1) := dk_28 (dk_at dksX4_waitOf_3 4 rfl rfl)
theorem dX4_waitOf_72 : decode cX4_waitOf 72 = .ok (.aload_n 0, 1) := dk_42 (dk_at dksX4_waitOf_3 5 rfl rfl)
theorem dX4_waitOf_73 : decode cX4_waitOf 73 = .ok (.iload_n 1, 1) := dk_27 (dk_at dksX4_waitOf_3 6 rfl rfl)
theorem dX4_waitOf_74 : decode cX4_waitOf 74 = .ok (.iconst 2, 1) := dk_5 (dk_at dksX4_waitOf_3 7 rfl rfl)
theorem dX4_waitOf_75 : decode cX4_waitOf 75 = .ok (.invokevirtual 281, 3) := dk_182 1 25 (dk_at dksX4_waitOf_3 8 rfl rfl)
theorem dX4_waitOf_78 : decode cX4_waitOf 78 = .ok (.isub, 1) := dk_100 (dk_at dksX4_waitOf_3 11 rfl rfl)
theorem dX4_waitOf_79 : decode cX4_waitOf 79 = .ok (.ireturn, 1) := dk_172 (dk_at dksX4_waitOf_3 12 rfl rfl)
abbrev cX4_whom : ByteArray := prog_24_method_77_code
def yX4_whom : MethodName := ⟨RX4, "whom", "(I)I"⟩
def dkwX4_whom_1 : List UInt8 := [180, 0, 29, 27, 16, 6, 184, 1, 31, 172]
abbrev dktX4_whom_1 : List UInt8 := dkwX4_whom_1 ++ []
def dkwX4_whom_0 : List UInt8 := [42, 182, 0, 165, 42, 27, 182, 1, 90, 154, 0, 9, 42, 4, 182, 0, 168, 172, 42, 182, 1, 106, 42]
abbrev dktX4_whom_0 : List UInt8 := dkwX4_whom_0 ++ dktX4_whom_1
theorem dksX4_whom_0 : cX4_whom.data.toList.drop 0 = dktX4_whom_0 := by decide +kernel
theorem dksX4_whom_1 : cX4_whom.data.toList.drop 23 = dktX4_whom_1 := dk_seg dksX4_whom_0 23 rfl rfl
theorem dX4_whom_0 : decode cX4_whom 0 = .ok (.aload_n 0, 1) := dk_42 (dk_at dksX4_whom_0 0 rfl rfl)
theorem dX4_whom_1 : decode cX4_whom 1 = .ok (.invokevirtual 165, 3) := dk_182 0 165 (dk_at dksX4_whom_0 1 rfl rfl)
theorem dX4_whom_4 : decode cX4_whom 4 = .ok (.aload_n 0, 1) := dk_42 (dk_at dksX4_whom_0 4 rfl rfl)
theorem dX4_whom_5 : decode cX4_whom 5 = .ok (.iload_n 1, 1) := dk_27 (dk_at dksX4_whom_0 5 rfl rfl)
theorem dX4_whom_6 : decode cX4_whom 6 = .ok (.invokevirtual 346, 3) := dk_182 1 90 (dk_at dksX4_whom_0 6 rfl rfl)
theorem dX4_whom_9 : decode cX4_whom 9 = .ok (.ifCond .ne 9, 3) := dk_154 0 9 (dk_at dksX4_whom_0 9 rfl rfl)
theorem dX4_whom_12 : decode cX4_whom 12 = .ok (.aload_n 0, 1) := dk_42 (dk_at dksX4_whom_0 12 rfl rfl)
theorem dX4_whom_13 : decode cX4_whom 13 = .ok (.iconst 1, 1) := dk_4 (dk_at dksX4_whom_0 13 rfl rfl)
theorem dX4_whom_14 : decode cX4_whom 14 = .ok (.invokevirtual 168, 3) := dk_182 0 168 (dk_at dksX4_whom_0 14 rfl rfl)
theorem dX4_whom_17 : decode cX4_whom 17 = .ok (.ireturn, 1) := dk_172 (dk_at dksX4_whom_0 17 rfl rfl)
theorem dX4_whom_18 : decode cX4_whom 18 = .ok (.aload_n 0, 1) := dk_42 (dk_at dksX4_whom_0 18 rfl rfl)
theorem dX4_whom_19 : decode cX4_whom 19 = .ok (.invokevirtual 362, 3) := dk_182 1 106 (dk_at dksX4_whom_0 19 rfl rfl)
theorem dX4_whom_22 : decode cX4_whom 22 = .ok (.aload_n 0, 1) := dk_42 (dk_at dksX4_whom_0 22 rfl rfl)
theorem dX4_whom_23 : decode cX4_whom 23 = .ok (.getfield 29, 3) := dk_180 0 29 (dk_at dksX4_whom_1 0 rfl rfl)
theorem dX4_whom_26 : decode cX4_whom 26 = .ok (.iload_n 1, 1) := dk_27 (dk_at dksX4_whom_1 3 rfl rfl)
theorem dX4_whom_27 : decode cX4_whom 27 = .ok (.bipush 6, 2) := dk_16 6 (dk_at dksX4_whom_1 4 rfl rfl)
theorem dX4_whom_29 : decode cX4_whom 29 = .ok (.invokestatic 287, 3) := dk_184 1 31 (dk_at dksX4_whom_1 6 rfl rfl)
theorem dX4_whom_32 : decode cX4_whom 32 = .ok (.ireturn, 1) := dk_172 (dk_at dksX4_whom_1 9 rfl rfl)
abbrev cX4_has : ByteArray := prog_24_method_78_code
def yX4_has : MethodName := ⟨RX4, "has", "(I)I"⟩
def dkwX4_has_1 : List UInt8 := [180, 0, 29, 27, 8, 184, 1, 31, 172]
abbrev dktX4_has_1 : List UInt8 := dkwX4_has_1 ++ []
def dkwX4_has_0 : List UInt8 := [42, 182, 0, 165, 42, 27, 182, 1, 90, 154, 0, 9, 42, 4, 182, 0, 168, 172, 42, 182, 1, 106, 42]
abbrev dktX4_has_0 : List UInt8 := dkwX4_has_0 ++ dktX4_has_1
theorem dksX4_has_0 : cX4_has.data.toList.drop 0 = dktX4_has_0 := by decide +kernel
theorem dksX4_has_1 : cX4_has.data.toList.drop 23 = dktX4_has_1 := dk_seg dksX4_has_0 23 rfl rfl
theorem dX4_has_0 : decode cX4_has 0 = .ok (.aload_n 0, 1) := dk_42 (dk_at dksX4_has_0 0 rfl rfl)
theorem dX4_has_1 : decode cX4_has 1 = .ok (.invokevirtual 165, 3) := dk_182 0 165 (dk_at dksX4_has_0 1 rfl rfl)
theorem dX4_has_4 : decode cX4_has 4 = .ok (.aload_n 0, 1) := dk_42 (dk_at dksX4_has_0 4 rfl rfl)
theorem dX4_has_5 : decode cX4_has 5 = .ok (.iload_n 1, 1) := dk_27 (dk_at dksX4_has_0 5 rfl rfl)
theorem dX4_has_6 : decode cX4_has 6 = .ok (.invokevirtual 346, 3) := dk_182 1 90 (dk_at dksX4_has_0 6 rfl rfl)
theorem dX4_has_9 : decode cX4_has 9 = .ok (.ifCond .ne 9, 3) := dk_154 0 9 (dk_at dksX4_has_0 9 rfl rfl)
theorem dX4_has_12 : decode cX4_has 12 = .ok (.aload_n 0, 1) := dk_42 (dk_at dksX4_has_0 12 rfl rfl)
theorem dX4_has_13 : decode cX4_has 13 = .ok (.iconst 1, 1) := dk_4 (dk_at dksX4_has_0 13 rfl rfl)
theorem dX4_has_14 : decode cX4_has 14 = .ok (.invokevirtual 168, 3) := dk_182 0 168 (dk_at dksX4_has_0 14 rfl rfl)
theorem dX4_has_17 : decode cX4_has 17 = .ok (.ireturn, 1) := dk_172 (dk_at dksX4_has_0 17 rfl rfl)
theorem dX4_has_18 : decode cX4_has 18 = .ok (.aload_n 0, 1) := dk_42 (dk_at dksX4_has_0 18 rfl rfl)
theorem dX4_has_19 : decode cX4_has 19 = .ok (.invokevirtual 362, 3) := dk_182 1 106 (dk_at dksX4_has_0 19 rfl rfl)
theorem dX4_has_22 : decode cX4_has 22 = .ok (.aload_n 0, 1) := dk_42 (dk_at dksX4_has_0 22 rfl rfl)
theorem dX4_has_23 : decode cX4_has 23 = .ok (.getfield 29, 3) := dk_180 0 29 (dk_at dksX4_has_1 0 rfl rfl)
theorem dX4_has_26 : decode cX4_has 26 = .ok (.iload_n 1, 1) := dk_27 (dk_at dksX4_has_1 3 rfl rfl)
theorem dX4_has_27 : decode cX4_has 27 = .ok (.iconst 5, 1) := dk_8 (dk_at dksX4_has_1 4 rfl rfl)
theorem dX4_has_28 : decode cX4_has 28 = .ok (.invokestatic 287, 3) := dk_184 1 31 (dk_at dksX4_has_1 5 rfl rfl)
theorem dX4_has_31 : decode cX4_has 31 = .ok (.ireturn, 1) := dk_172 (dk_at dksX4_has_1 8 rfl rfl)
abbrev cX4_passed : ByteArray := prog_24_method_79_code
def yX4_passed : MethodName := ⟨RX4, "passed", "(I)I"⟩
def dkwX4_passed_1 : List UInt8 := [182, 1, 75, 172]
abbrev dktX4_passed_1 : List UInt8 := dkwX4_passed_1 ++ []
def dkwX4_passed_0 : List UInt8 := [42, 182, 0, 165, 42, 27, 182, 1, 90, 154, 0, 9, 42, 4, 182, 0, 168, 172, 42, 182, 1, 106, 42, 27]
abbrev dktX4_passed_0 : List UInt8 := dkwX4_passed_0 ++ dktX4_passed_1
theorem dksX4_passed_0 : cX4_passed.data.toList.drop 0 = dktX4_passed_0 := by decide +kernel
theorem dksX4_passed_1 : cX4_passed.data.toList.drop 24 = dktX4_passed_1 := dk_seg dksX4_passed_0 24 rfl rfl
theorem dX4_passed_0 : decode cX4_passed 0 = .ok (.aload_n 0, 1) := dk_42 (dk_at dksX4_passed_0 0 rfl rfl)
theorem dX4_passed_1 : decode cX4_passed 1 = .ok (.invokevirtual 165, 3) := dk_182 0 165 (dk_at dksX4_passed_0 1 rfl rfl)
theorem dX4_passed_4 : decode cX4_passed 4 = .ok (.aload_n 0, 1) := dk_42 (dk_at dksX4_passed_0 4 rfl rfl)
theorem dX4_passed_5 : decode cX4_passed 5 = .ok (.iload_n 1, 1) := dk_27 (dk_at dksX4_passed_0 5 rfl rfl)
theorem dX4_passed_6 : decode cX4_passed 6 = .ok (.invokevirtual 346, 3) := dk_182 1 90 (dk_at dksX4_passed_0 6 rfl rfl)
theorem dX4_passed_9 : decode cX4_passed 9 = .ok (.ifCond .ne 9, 3) := dk_154 0 9 (dk_at dksX4_passed_0 9 rfl rfl)
theorem dX4_passed_12 : decode cX4_passed 12 = .ok (.aload_n 0, 1) := dk_42 (dk_at dksX4_passed_0 12 rfl rfl)
theorem dX4_passed_13 : decode cX4_passed 13 = .ok (.iconst 1, 1) := dk_4 (dk_at dksX4_passed_0 13 rfl rfl)
theorem dX4_passed_14 : decode cX4_passed 14 = .ok (.invokevirtual 168, 3) := dk_182 0 168 (dk_at dksX4_passed_0 14 rfl rfl)
theorem dX4_passed_17 : decode cX4_passed 17 = .ok (.ireturn, 1) := dk_172 (dk_at dksX4_passed_0 17 rfl rfl)
theorem dX4_passed_18 : decode cX4_passed 18 = .ok (.aload_n 0, 1) := dk_42 (dk_at dksX4_passed_0 18 rfl rfl)
theorem dX4_passed_19 : decode cX4_passed 19 = .ok (.invokevirtual 362, 3) := dk_182 1 106 (dk_at dksX4_passed_0 19 rfl rfl)
theorem dX4_passed_22 : decode cX4_passed 22 = .ok (.aload_n 0, 1) := dk_42 (dk_at dksX4_passed_0 22 rfl rfl)
theorem dX4_passed_23 : decode cX4_passed 23 = .ok (.iload_n 1, 1) := dk_27 (dk_at dksX4_passed_0 23 rfl rfl)
theorem dX4_passed_24 : decode cX4_passed 24 = .ok (.invokevirtual 331, 3) := dk_182 1 75 (dk_at dksX4_passed_1 0 rfl rfl)
theorem dX4_passed_27 : decode cX4_passed 27 = .ok (.ireturn, 1) := dk_172 (dk_at dksX4_passed_1 3 rfl rfl)
abbrev cX4_passedOf : ByteArray := prog_24_method_62_code
def yX4_passedOf : MethodName := ⟨RX4, "passedOf", "(I)I"⟩
def dkwX4_passedOf_5 : List UInt8 := [167, 255, 143, 28, 172]
abbrev dktX4_passedOf_5 : List UInt8 := dkwX4_passedOf_5 ++ []
def dkwX4_passedOf_4 : List UInt8 := [5, 182, 1, 25, 161, 0, 15, 21, 6, 154, 0, 10, 28, 4, 21, 4, 120, 128, 61, 132, 3, 1]
abbrev dktX4_passedOf_4 : List UInt8 := dkwX4_passedOf_4 ++ dktX4_passedOf_5
def dkwX4_passedOf_3 : List UInt8 := [161, 0, 7, 4, 167, 0, 4, 3, 54, 6, 42, 21, 4, 27, 182, 1, 71, 153, 0, 26, 21, 5, 42, 27]
abbrev dktX4_passedOf_3 : List UInt8 := dkwX4_passedOf_3 ++ dktX4_passedOf_4
def dkwX4_passedOf_2 : List UInt8 := [27, 16, 7, 184, 1, 31, 16, 254, 159, 0, 22, 21, 5, 42, 180, 0, 29, 27, 16, 7, 184, 1, 31]
abbrev dktX4_passedOf_2 : List UInt8 := dkwX4_passedOf_2 ++ dktX4_passedOf_3
def dkwX4_passedOf_1 : List UInt8 := [21, 4, 27, 160, 0, 5, 28, 172, 42, 180, 0, 29, 21, 4, 7, 184, 1, 31, 54, 5, 42, 180, 0, 29]
abbrev dktX4_passedOf_1 : List UInt8 := dkwX4_passedOf_1 ++ dktX4_passedOf_2
def dkwX4_passedOf_0 : List UInt8 := [3, 61, 3, 62, 29, 42, 180, 0, 29, 4, 46, 162, 0, 109, 42, 180, 0, 29, 5, 29, 96, 46, 54, 4]
abbrev dktX4_passedOf_0 : List UInt8 := dkwX4_passedOf_0 ++ dktX4_passedOf_1
theorem dksX4_passedOf_0 : cX4_passedOf.data.toList.drop 0 = dktX4_passedOf_0 := by decide +kernel
theorem dksX4_passedOf_1 : cX4_passedOf.data.toList.drop 24 = dktX4_passedOf_1 := dk_seg dksX4_passedOf_0 24 rfl rfl
theorem dksX4_passedOf_2 : cX4_passedOf.data.toList.drop 48 = dktX4_passedOf_2 := dk_seg dksX4_passedOf_1 24 rfl rfl
theorem dksX4_passedOf_3 : cX4_passedOf.data.toList.drop 71 = dktX4_passedOf_3 := dk_seg dksX4_passedOf_2 23 rfl rfl
theorem dksX4_passedOf_4 : cX4_passedOf.data.toList.drop 95 = dktX4_passedOf_4 := dk_seg dksX4_passedOf_3 24 rfl rfl
theorem dksX4_passedOf_5 : cX4_passedOf.data.toList.drop 117 = dktX4_passedOf_5 := dk_seg dksX4_passedOf_4 22 rfl rfl
theorem dX4_passedOf_0 : decode cX4_passedOf 0 = .ok (.iconst 0, 1) := dk_3 (dk_at dksX4_passedOf_0 0 rfl rfl)
theorem dX4_passedOf_1 : decode cX4_passedOf 1 = .ok (.istore_n 2, 1) := dk_61 (dk_at dksX4_passedOf_0 1 rfl rfl)
theorem dX4_passedOf_2 : decode cX4_passedOf 2 = .ok (.iconst 0, 1) := dk_3 (dk_at dksX4_passedOf_0 2 rfl rfl)
theorem dX4_passedOf_3 : decode cX4_passedOf 3 = .ok (.istore_n 3, 1) := dk_62 (dk_at dksX4_passedOf_0 3 rfl rfl)
theorem dX4_passedOf_4 : decode cX4_passedOf 4 = .ok (.iload_n 3, 1) := dk_29 (dk_at dksX4_passedOf_0 4 rfl rfl)
theorem dX4_passedOf_5 : decode cX4_passedOf 5 = .ok (.aload_n 0, 1) := dk_42 (dk_at dksX4_passedOf_0 5 rfl rfl)
theorem dX4_passedOf_6 : decode cX4_passedOf 6 = .ok (.getfield 29, 3) := dk_180 0 29 (dk_at dksX4_passedOf_0 6 rfl rfl)
theorem dX4_passedOf_9 : decode cX4_passedOf 9 = .ok (.iconst 1, 1) := dk_4 (dk_at dksX4_passedOf_0 9 rfl rfl)
theorem dX4_passedOf_10 : decode cX4_passedOf 10 = .ok (.iaload, 1) := dk_46 (dk_at dksX4_passedOf_0 10 rfl rfl)
theorem dX4_passedOf_11 : decode cX4_passedOf 11 = .ok (.if_icmp .ge 109, 3) := dk_162 0 109 (dk_at dksX4_passedOf_0 11 rfl rfl)
theorem dX4_passedOf_14 : decode cX4_passedOf 14 = .ok (.aload_n 0, 1) := dk_42 (dk_at dksX4_passedOf_0 14 rfl rfl)
theorem dX4_passedOf_15 : decode cX4_passedOf 15 = .ok (.getfield 29, 3) := dk_180 0 29 (dk_at dksX4_passedOf_0 15 rfl rfl)
theorem dX4_passedOf_18 : decode cX4_passedOf 18 = .ok (.iconst 2, 1) := dk_5 (dk_at dksX4_passedOf_0 18 rfl rfl)
theorem dX4_passedOf_19 : decode cX4_passedOf 19 = .ok (.iload_n 3, 1) := dk_29 (dk_at dksX4_passedOf_0 19 rfl rfl)
theorem dX4_passedOf_20 : decode cX4_passedOf 20 = .ok (.iadd, 1) := dk_96 (dk_at dksX4_passedOf_0 20 rfl rfl)
theorem dX4_passedOf_21 : decode cX4_passedOf 21 = .ok (.iaload, 1) := dk_46 (dk_at dksX4_passedOf_0 21 rfl rfl)
theorem dX4_passedOf_22 : decode cX4_passedOf 22 = .ok (.istore 4, 2) := dk_54 4 (dk_at dksX4_passedOf_0 22 rfl rfl)
theorem dX4_passedOf_24 : decode cX4_passedOf 24 = .ok (.iload 4, 2) := dk_21 4 (dk_at dksX4_passedOf_1 0 rfl rfl)
theorem dX4_passedOf_26 : decode cX4_passedOf 26 = .ok (.iload_n 1, 1) := dk_27 (dk_at dksX4_passedOf_1 2 rfl rfl)
theorem dX4_passedOf_27 : decode cX4_passedOf 27 = .ok (.if_icmp .ne 5, 3) := dk_160 0 5 (dk_at dksX4_passedOf_1 3 rfl rfl)
theorem dX4_passedOf_30 : decode cX4_passedOf 30 = .ok (.iload_n 2, 1) := dk_28 (dk_at dksX4_passedOf_1 6 rfl rfl)
theorem dX4_passedOf_31 : decode cX4_passedOf 31 = .ok (.ireturn, 1) := dk_172 (dk_at dksX4_passedOf_1 7 rfl rfl)
theorem dX4_passedOf_32 : decode cX4_passedOf 32 = .ok (.aload_n 0, 1) := dk_42 (dk_at dksX4_passedOf_1 8 rfl rfl)
theorem dX4_passedOf_33 : decode cX4_passedOf 33 = .ok (.getfield 29, 3) := dk_180 0 29 (dk_at dksX4_passedOf_1 9 rfl rfl)
theorem dX4_passedOf_36 : decode cX4_passedOf 36 = .ok (.iload 4, 2) := dk_21 4 (dk_at dksX4_passedOf_1 12 rfl rfl)
theorem dX4_passedOf_38 : decode cX4_passedOf 38 = .ok (.iconst 4, 1) := dk_7 (dk_at dksX4_passedOf_1 14 rfl rfl)
theorem dX4_passedOf_39 : decode cX4_passedOf 39 = .ok (.invokestatic 287, 3) := dk_184 1 31 (dk_at dksX4_passedOf_1 15 rfl rfl)
theorem dX4_passedOf_42 : decode cX4_passedOf 42 = .ok (.istore 5, 2) := dk_54 5 (dk_at dksX4_passedOf_1 18 rfl rfl)
theorem dX4_passedOf_44 : decode cX4_passedOf 44 = .ok (.aload_n 0, 1) := dk_42 (dk_at dksX4_passedOf_1 20 rfl rfl)
theorem dX4_passedOf_45 : decode cX4_passedOf 45 = .ok (.getfield 29, 3) := dk_180 0 29 (dk_at dksX4_passedOf_1 21 rfl rfl)
theorem dX4_passedOf_48 : decode cX4_passedOf 48 = .ok (.iload_n 1, 1) := dk_27 (dk_at dksX4_passedOf_2 0 rfl rfl)
theorem dX4_passedOf_49 : decode cX4_passedOf 49 = .ok (.bipush 7, 2) := dk_16 7 (dk_at dksX4_passedOf_2 1 rfl rfl)
theorem dX4_passedOf_51 : decode cX4_passedOf 51 = .ok (.invokestatic 287, 3) := dk_184 1 31 (dk_at dksX4_passedOf_2 3 rfl rfl)
theorem dX4_passedOf_54 : decode cX4_passedOf 54 = .ok (.bipush (-2), 2) := dk_16 254 (dk_at dksX4_passedOf_2 6 rfl rfl)
theorem dX4_passedOf_56 : decode cX4_passedOf 56 = .ok (.if_icmp .eq 22, 3) := dk_159 0 22 (dk_at dksX4_passedOf_2 8 rfl rfl)
theorem dX4_passedOf_59 : decode cX4_passedOf 59 = .ok (.iload 5, 2) := dk_21 5 (dk_at dksX4_passedOf_2 11 rfl rfl)
theorem dX4_passedOf_61 : decode cX4_passedOf 61 = .ok (.aload_n 0, 1) := dk_42 (dk_at dksX4_passedOf_2 13 rfl rfl)
theorem dX4_passedOf_62 : decode cX4_passedOf 62 = .ok (.getfield 29, 3) := dk_180 0 29 (dk_at dksX4_passedOf_2 14 rfl rfl)
theorem dX4_passedOf_65 : decode cX4_passedOf 65 = .ok (.iload_n 1, 1) := dk_27 (dk_at dksX4_passedOf_2 17 rfl rfl)
theorem dX4_passedOf_66 : decode cX4_passedOf 66 = .ok (.bipush 7, 2) := dk_16 7 (dk_at dksX4_passedOf_2 18 rfl rfl)
theorem dX4_passedOf_68 : decode cX4_passedOf 68 = .ok (.invokestatic 287, 3) := dk_184 1 31 (dk_at dksX4_passedOf_2 20 rfl rfl)
theorem dX4_passedOf_71 : decode cX4_passedOf 71 = .ok (.if_icmp .lt 7, 3) := dk_161 0 7 (dk_at dksX4_passedOf_3 0 rfl rfl)
theorem dX4_passedOf_74 : decode cX4_passedOf 74 = .ok (.iconst 1, 1) := dk_4 (dk_at dksX4_passedOf_3 3 rfl rfl)
theorem dX4_passedOf_75 : decode cX4_passedOf 75 = .ok (.goto 4, 3) := dk_167 0 4 (dk_at dksX4_passedOf_3 4 rfl rfl)
theorem dX4_passedOf_78 : decode cX4_passedOf 78 = .ok (.iconst 0, 1) := dk_3 (dk_at dksX4_passedOf_3 7 rfl rfl)
theorem dX4_passedOf_79 : decode cX4_passedOf 79 = .ok (.istore 6, 2) := dk_54 6 (dk_at dksX4_passedOf_3 8 rfl rfl)
theorem dX4_passedOf_81 : decode cX4_passedOf 81 = .ok (.aload_n 0, 1) := dk_42 (dk_at dksX4_passedOf_3 10 rfl rfl)
theorem dX4_passedOf_82 : decode cX4_passedOf 82 = .ok (.iload 4, 2) := dk_21 4 (dk_at dksX4_passedOf_3 11 rfl rfl)
theorem dX4_passedOf_84 : decode cX4_passedOf 84 = .ok (.iload_n 1, 1) := dk_27 (dk_at dksX4_passedOf_3 13 rfl rfl)
theorem dX4_passedOf_85 : decode cX4_passedOf 85 = .ok (.invokevirtual 327, 3) := dk_182 1 71 (dk_at dksX4_passedOf_3 14 rfl rfl)
theorem dX4_passedOf_88 : decode cX4_passedOf 88 = .ok (.ifCond .eq 26, 3) := dk_153 0 26 (dk_at dksX4_passedOf_3 17 rfl rfl)
theorem dX4_passedOf_91 : decode cX4_passedOf 91 = .ok (.iload 5, 2) := dk_21 5 (dk_at dksX4_passedOf_3 20 rfl rfl)
theorem dX4_passedOf_93 : decode cX4_passedOf 93 = .ok (.aload_n 0, 1) := dk_42 (dk_at dksX4_passedOf_3 22 rfl rfl)
theorem dX4_passedOf_94 : decode cX4_passedOf 94 = .ok (.iload_n 1, 1) := dk_27 (dk_at dksX4_passedOf_3 23 rfl rfl)
theorem dX4_passedOf_95 : decode cX4_passedOf 95 = .ok (.iconst 2, 1) := dk_5 (dk_at dksX4_passedOf_4 0 rfl rfl)
theorem dX4_passedOf_96 : decode cX4_passedOf 96 = .ok (.invokevirtual 281, 3) := dk_182 1 25 (dk_at dksX4_passedOf_4 1 rfl rfl)
theorem dX4_passedOf_99 : decode cX4_passedOf 99 = .ok (.if_icmp .lt 15, 3) := dk_161 0 15 (dk_at dksX4_passedOf_4 4 rfl rfl)
theorem dX4_passedOf_102 : decode cX4_passedOf 102 = .ok (.iload 6, 2) := dk_21 6 (dk_at dksX4_passedOf_4 7 rfl rfl)
theorem dX4_passedOf_104 : decode cX4_passedOf 104 = .ok (.ifCond .ne 10, 3) := dk_154 0 10 (dk_at dksX4_passedOf_4 9 rfl rfl)
theorem dX4_passedOf_107 : decode cX4_passedOf 107 = .ok (.iload_n 2, 1) := dk_28 (dk_at dksX4_passedOf_4 12 rfl rfl)
theorem dX4_passedOf_108 : decode cX4_passedOf 108 = .ok (.iconst 1, 1) := dk_4 (dk_at dksX4_passedOf_4 13 rfl rfl)
theorem dX4_passedOf_109 : decode cX4_passedOf 109 = .ok (.iload 4, 2) := dk_21 4 (dk_at dksX4_passedOf_4 14 rfl rfl)
theorem dX4_passedOf_111 : decode cX4_passedOf 111 = .ok (.ishl, 1) := dk_120 (dk_at dksX4_passedOf_4 16 rfl rfl)
theorem dX4_passedOf_112 : decode cX4_passedOf 112 = .ok (.ior, 1) := dk_128 (dk_at dksX4_passedOf_4 17 rfl rfl)
theorem dX4_passedOf_113 : decode cX4_passedOf 113 = .ok (.istore_n 2, 1) := dk_61 (dk_at dksX4_passedOf_4 18 rfl rfl)
theorem dX4_passedOf_114 : decode cX4_passedOf 114 = .ok (.iinc 3 1, 3) := dk_132 3 1 (dk_at dksX4_passedOf_4 19 rfl rfl)
theorem dX4_passedOf_117 : decode cX4_passedOf 117 = .ok (.goto (-113), 3) := dk_167 255 143 (dk_at dksX4_passedOf_5 0 rfl rfl)
theorem dX4_passedOf_120 : decode cX4_passedOf 120 = .ok (.iload_n 2, 1) := dk_28 (dk_at dksX4_passedOf_5 3 rfl rfl)
theorem dX4_passedOf_121 : decode cX4_passedOf 121 = .ok (.ireturn, 1) := dk_172 (dk_at dksX4_passedOf_5 4 rfl rfl)
abbrev cX4_isBehind : ByteArray := prog_24_method_61_code
def yX4_isBehind : MethodName := ⟨RX4, "isBehind", "(II)Z"⟩
def dkwX4_isBehind_1 : List UInt8 := [182, 1, 25, 160, 0, 12, 27, 28, 164, 0, 7, 4, 167, 0, 4, 3, 172]
abbrev dktX4_isBehind_1 : List UInt8 := dkwX4_isBehind_1 ++ []
def dkwX4_isBehind_0 : List UInt8 := [42, 27, 5, 182, 1, 25, 42, 28, 5, 182, 1, 25, 163, 0, 23, 42, 27, 5, 182, 1, 25, 42, 28, 5]
abbrev dktX4_isBehind_0 : List UInt8 := dkwX4_isBehind_0 ++ dktX4_isBehind_1
theorem dksX4_isBehind_0 : cX4_isBehind.data.toList.drop 0 = dktX4_isBehind_0 := by decide +kernel
theorem dksX4_isBehind_1 : cX4_isBehind.data.toList.drop 24 = dktX4_isBehind_1 := dk_seg dksX4_isBehind_0 24 rfl rfl
theorem dX4_isBehind_0 : decode cX4_isBehind 0 = .ok (.aload_n 0, 1) := dk_42 (dk_at dksX4_isBehind_0 0 rfl rfl)
theorem dX4_isBehind_1 : decode cX4_isBehind 1 = .ok (.iload_n 1, 1) := dk_27 (dk_at dksX4_isBehind_0 1 rfl rfl)
theorem dX4_isBehind_2 : decode cX4_isBehind 2 = .ok (.iconst 2, 1) := dk_5 (dk_at dksX4_isBehind_0 2 rfl rfl)
theorem dX4_isBehind_3 : decode cX4_isBehind 3 = .ok (.invokevirtual 281, 3) := dk_182 1 25 (dk_at dksX4_isBehind_0 3 rfl rfl)
theorem dX4_isBehind_6 : decode cX4_isBehind 6 = .ok (.aload_n 0, 1) := dk_42 (dk_at dksX4_isBehind_0 6 rfl rfl)
theorem dX4_isBehind_7 : decode cX4_isBehind 7 = .ok (.iload_n 2, 1) := dk_28 (dk_at dksX4_isBehind_0 7 rfl rfl)
theorem dX4_isBehind_8 : decode cX4_isBehind 8 = .ok (.iconst 2, 1) := dk_5 (dk_at dksX4_isBehind_0 8 rfl rfl)
theorem dX4_isBehind_9 : decode cX4_isBehind 9 = .ok (.invokevirtual 281, 3) := dk_182 1 25 (dk_at dksX4_isBehind_0 9 rfl rfl)
theorem dX4_isBehind_12 : decode cX4_isBehind 12 = .ok (.if_icmp .gt 23, 3) := dk_163 0 23 (dk_at dksX4_isBehind_0 12 rfl rfl)
theorem dX4_isBehind_15 : decode cX4_isBehind 15 = .ok (.aload_n 0, 1) := dk_42 (dk_at dksX4_isBehind_0 15 rfl rfl)
theorem dX4_isBehind_16 : decode cX4_isBehind 16 = .ok (.iload_n 1, 1) := dk_27 (dk_at dksX4_isBehind_0 16 rfl rfl)
theorem dX4_isBehind_17 : decode cX4_isBehind 17 = .ok (.iconst 2, 1) := dk_5 (dk_at dksX4_isBehind_0 17 rfl rfl)
theorem dX4_isBehind_18 : decode cX4_isBehind 18 = .ok (.invokevirtual 281, 3) := dk_182 1 25 (dk_at dksX4_isBehind_0 18 rfl rfl)
theorem dX4_isBehind_21 : decode cX4_isBehind 21 = .ok (.aload_n 0, 1) := dk_42 (dk_at dksX4_isBehind_0 21 rfl rfl)
theorem dX4_isBehind_22 : decode cX4_isBehind 22 = .ok (.iload_n 2, 1) := dk_28 (dk_at dksX4_isBehind_0 22 rfl rfl)
theorem dX4_isBehind_23 : decode cX4_isBehind 23 = .ok (.iconst 2, 1) := dk_5 (dk_at dksX4_isBehind_0 23 rfl rfl)
theorem dX4_isBehind_24 : decode cX4_isBehind 24 = .ok (.invokevirtual 281, 3) := dk_182 1 25 (dk_at dksX4_isBehind_1 0 rfl rfl)
theorem dX4_isBehind_27 : decode cX4_isBehind 27 = .ok (.if_icmp .ne 12, 3) := dk_160 0 12 (dk_at dksX4_isBehind_1 3 rfl rfl)
theorem dX4_isBehind_30 : decode cX4_isBehind 30 = .ok (.iload_n 1, 1) := dk_27 (dk_at dksX4_isBehind_1 6 rfl rfl)
theorem dX4_isBehind_31 : decode cX4_isBehind 31 = .ok (.iload_n 2, 1) := dk_28 (dk_at dksX4_isBehind_1 7 rfl rfl)
theorem dX4_isBehind_32 : decode cX4_isBehind 32 = .ok (.if_icmp .le 7, 3) := dk_164 0 7 (dk_at dksX4_isBehind_1 8 rfl rfl)
theorem dX4_isBehind_35 : decode cX4_isBehind 35 = .ok (.iconst 1, 1) := dk_4 (dk_at dksX4_isBehind_1 11 rfl rfl)
theorem dX4_isBehind_36 : decode cX4_isBehind 36 = .ok (.goto 4, 3) := dk_167 0 4 (dk_at dksX4_isBehind_1 12 rfl rfl)
theorem dX4_isBehind_39 : decode cX4_isBehind 39 = .ok (.iconst 0, 1) := dk_3 (dk_at dksX4_isBehind_1 15 rfl rfl)
theorem dX4_isBehind_40 : decode cX4_isBehind 40 = .ok (.ireturn, 1) := dk_172 (dk_at dksX4_isBehind_1 16 rfl rfl)
abbrev cX4_pushed : ByteArray := prog_24_method_80_code
def yX4_pushed : MethodName := ⟨RX4, "pushed", "(I)I"⟩
def dkwX4_pushed_1 : List UInt8 := [182, 1, 109, 172]
abbrev dktX4_pushed_1 : List UInt8 := dkwX4_pushed_1 ++ []
def dkwX4_pushed_0 : List UInt8 := [42, 182, 0, 165, 42, 27, 182, 1, 90, 154, 0, 9, 42, 4, 182, 0, 168, 172, 42, 182, 1, 106, 42, 27]
abbrev dktX4_pushed_0 : List UInt8 := dkwX4_pushed_0 ++ dktX4_pushed_1
theorem dksX4_pushed_0 : cX4_pushed.data.toList.drop 0 = dktX4_pushed_0 := by decide +kernel
theorem dksX4_pushed_1 : cX4_pushed.data.toList.drop 24 = dktX4_pushed_1 := dk_seg dksX4_pushed_0 24 rfl rfl
theorem dX4_pushed_0 : decode cX4_pushed 0 = .ok (.aload_n 0, 1) := dk_42 (dk_at dksX4_pushed_0 0 rfl rfl)
theorem dX4_pushed_1 : decode cX4_pushed 1 = .ok (.invokevirtual 165, 3) := dk_182 0 165 (dk_at dksX4_pushed_0 1 rfl rfl)
theorem dX4_pushed_4 : decode cX4_pushed 4 = .ok (.aload_n 0, 1) := dk_42 (dk_at dksX4_pushed_0 4 rfl rfl)
theorem dX4_pushed_5 : decode cX4_pushed 5 = .ok (.iload_n 1, 1) := dk_27 (dk_at dksX4_pushed_0 5 rfl rfl)
theorem dX4_pushed_6 : decode cX4_pushed 6 = .ok (.invokevirtual 346, 3) := dk_182 1 90 (dk_at dksX4_pushed_0 6 rfl rfl)
theorem dX4_pushed_9 : decode cX4_pushed 9 = .ok (.ifCond .ne 9, 3) := dk_154 0 9 (dk_at dksX4_pushed_0 9 rfl rfl)
theorem dX4_pushed_12 : decode cX4_pushed 12 = .ok (.aload_n 0, 1) := dk_42 (dk_at dksX4_pushed_0 12 rfl rfl)
theorem dX4_pushed_13 : decode cX4_pushed 13 = .ok (.iconst 1, 1) := dk_4 (dk_at dksX4_pushed_0 13 rfl rfl)
theorem dX4_pushed_14 : decode cX4_pushed 14 = .ok (.invokevirtual 168, 3) := dk_182 0 168 (dk_at dksX4_pushed_0 14 rfl rfl)
theorem dX4_pushed_17 : decode cX4_pushed 17 = .ok (.ireturn, 1) := dk_172 (dk_at dksX4_pushed_0 17 rfl rfl)
theorem dX4_pushed_18 : decode cX4_pushed 18 = .ok (.aload_n 0, 1) := dk_42 (dk_at dksX4_pushed_0 18 rfl rfl)
theorem dX4_pushed_19 : decode cX4_pushed 19 = .ok (.invokevirtual 362, 3) := dk_182 1 106 (dk_at dksX4_pushed_0 19 rfl rfl)
theorem dX4_pushed_22 : decode cX4_pushed 22 = .ok (.aload_n 0, 1) := dk_42 (dk_at dksX4_pushed_0 22 rfl rfl)
theorem dX4_pushed_23 : decode cX4_pushed 23 = .ok (.iload_n 1, 1) := dk_27 (dk_at dksX4_pushed_0 23 rfl rfl)
theorem dX4_pushed_24 : decode cX4_pushed 24 = .ok (.invokevirtual 365, 3) := dk_182 1 109 (dk_at dksX4_pushed_1 0 rfl rfl)
theorem dX4_pushed_27 : decode cX4_pushed 27 = .ok (.ireturn, 1) := dk_172 (dk_at dksX4_pushed_1 3 rfl rfl)
abbrev cX4_pushedOf : ByteArray := prog_24_method_63_code
def yX4_pushedOf : MethodName := ⟨RX4, "pushedOf", "(I)I"⟩
def dkwX4_pushedOf_2 : List UInt8 := [182, 1, 75, 27, 184, 1, 78, 153, 0, 9, 28, 4, 29, 120, 128, 61, 132, 3, 1, 167, 255, 211, 28, 172]
abbrev dktX4_pushedOf_2 : List UInt8 := dkwX4_pushedOf_2 ++ []
def dkwX4_pushedOf_1 : List UInt8 := [180, 0, 20, 8, 46, 162, 0, 41, 29, 27, 159, 0, 30, 42, 27, 29, 182, 1, 71, 153, 0, 21, 42, 29]
abbrev dktX4_pushedOf_1 : List UInt8 := dkwX4_pushedOf_1 ++ dktX4_pushedOf_2
def dkwX4_pushedOf_0 : List UInt8 := [3, 61, 42, 180, 0, 29, 27, 7, 184, 1, 31, 16, 254, 160, 0, 5, 3, 172, 3, 62, 29, 42]
abbrev dktX4_pushedOf_0 : List UInt8 := dkwX4_pushedOf_0 ++ dktX4_pushedOf_1
theorem dksX4_pushedOf_0 : cX4_pushedOf.data.toList.drop 0 = dktX4_pushedOf_0 := by decide +kernel
theorem dksX4_pushedOf_1 : cX4_pushedOf.data.toList.drop 22 = dktX4_pushedOf_1 := dk_seg dksX4_pushedOf_0 22 rfl rfl
theorem dksX4_pushedOf_2 : cX4_pushedOf.data.toList.drop 46 = dktX4_pushedOf_2 := dk_seg dksX4_pushedOf_1 24 rfl rfl
theorem dX4_pushedOf_0 : decode cX4_pushedOf 0 = .ok (.iconst 0, 1) := dk_3 (dk_at dksX4_pushedOf_0 0 rfl rfl)
theorem dX4_pushedOf_1 : decode cX4_pushedOf 1 = .ok (.istore_n 2, 1) := dk_61 (dk_at dksX4_pushedOf_0 1 rfl rfl)
theorem dX4_pushedOf_2 : decode cX4_pushedOf 2 = .ok (.aload_n 0, 1) := dk_42 (dk_at dksX4_pushedOf_0 2 rfl rfl)
theorem dX4_pushedOf_3 : decode cX4_pushedOf 3 = .ok (.getfield 29, 3) := dk_180 0 29 (dk_at dksX4_pushedOf_0 3 rfl rfl)
theorem dX4_pushedOf_6 : decode cX4_pushedOf 6 = .ok (.iload_n 1, 1) := dk_27 (dk_at dksX4_pushedOf_0 6 rfl rfl)
theorem dX4_pushedOf_7 : decode cX4_pushedOf 7 = .ok (.iconst 4, 1) := dk_7 (dk_at dksX4_pushedOf_0 7 rfl rfl)
theorem dX4_pushedOf_8 : decode cX4_pushedOf 8 = .ok (.invokestatic 287, 3) := dk_184 1 31 (dk_at dksX4_pushedOf_0 8 rfl rfl)
theorem dX4_pushedOf_11 : decode cX4_pushedOf 11 = .ok (.bipush (-2), 2) := dk_16 254 (dk_at dksX4_pushedOf_0 11 rfl rfl)
theorem dX4_pushedOf_13 : decode cX4_pushedOf 13 = .ok (.if_icmp .ne 5, 3) := dk_160 0 5 (dk_at dksX4_pushedOf_0 13 rfl rfl)
theorem dX4_pushedOf_16 : decode cX4_pushedOf 16 = .ok (.iconst 0, 1) := dk_3 (dk_at dksX4_pushedOf_0 16 rfl rfl)
theorem dX4_pushedOf_17 : decode cX4_pushedOf 17 = .ok (.ireturn, 1) := dk_172 (dk_at dksX4_pushedOf_0 17 rfl rfl)
theorem dX4_pushedOf_18 : decode cX4_pushedOf 18 = .ok (.iconst 0, 1) := dk_3 (dk_at dksX4_pushedOf_0 18 rfl rfl)
theorem dX4_pushedOf_19 : decode cX4_pushedOf 19 = .ok (.istore_n 3, 1) := dk_62 (dk_at dksX4_pushedOf_0 19 rfl rfl)
theorem dX4_pushedOf_20 : decode cX4_pushedOf 20 = .ok (.iload_n 3, 1) := dk_29 (dk_at dksX4_pushedOf_0 20 rfl rfl)
theorem dX4_pushedOf_21 : decode cX4_pushedOf 21 = .ok (.aload_n 0, 1) := dk_42 (dk_at dksX4_pushedOf_0 21 rfl rfl)
theorem dX4_pushedOf_22 : decode cX4_pushedOf 22 = .ok (.getfield 20, 3) := dk_180 0 20 (dk_at dksX4_pushedOf_1 0 rfl rfl)
theorem dX4_pushedOf_25 : decode cX4_pushedOf 25 = .ok (.iconst 5, 1) := dk_8 (dk_at dksX4_pushedOf_1 3 rfl rfl)
theorem dX4_pushedOf_26 : decode cX4_pushedOf 26 = .ok (.iaload, 1) := dk_46 (dk_at dksX4_pushedOf_1 4 rfl rfl)
theorem dX4_pushedOf_27 : decode cX4_pushedOf 27 = .ok (.if_icmp .ge 41, 3) := dk_162 0 41 (dk_at dksX4_pushedOf_1 5 rfl rfl)
theorem dX4_pushedOf_30 : decode cX4_pushedOf 30 = .ok (.iload_n 3, 1) := dk_29 (dk_at dksX4_pushedOf_1 8 rfl rfl)
theorem dX4_pushedOf_31 : decode cX4_pushedOf 31 = .ok (.iload_n 1, 1) := dk_27 (dk_at dksX4_pushedOf_1 9 rfl rfl)
theorem dX4_pushedOf_32 : decode cX4_pushedOf 32 = .ok (.if_icmp .eq 30, 3) := dk_159 0 30 (dk_at dksX4_pushedOf_1 10 rfl rfl)
theorem dX4_pushedOf_35 : decode cX4_pushedOf 35 = .ok (.aload_n 0, 1) := dk_42 (dk_at dksX4_pushedOf_1 13 rfl rfl)
theorem dX4_pushedOf_36 : decode cX4_pushedOf 36 = .ok (.iload_n 1, 1) := dk_27 (dk_at dksX4_pushedOf_1 14 rfl rfl)
theorem dX4_pushedOf_37 : decode cX4_pushedOf 37 = .ok (.iload_n 3, 1) := dk_29 (dk_at dksX4_pushedOf_1 15 rfl rfl)
theorem dX4_pushedOf_38 : decode cX4_pushedOf 38 = .ok (.invokevirtual 327, 3) := dk_182 1 71 (dk_at dksX4_pushedOf_1 16 rfl rfl)
theorem dX4_pushedOf_41 : decode cX4_pushedOf 41 = .ok (.ifCond .eq 21, 3) := dk_153 0 21 (dk_at dksX4_pushedOf_1 19 rfl rfl)
theorem dX4_pushedOf_44 : decode cX4_pushedOf 44 = .ok (.aload_n 0, 1) := dk_42 (dk_at dksX4_pushedOf_1 22 rfl rfl)
theorem dX4_pushedOf_45 : decode cX4_pushedOf 45 = .ok (.iload_n 3, 1) := dk_29 (dk_at dksX4_pushedOf_1 23 rfl rfl)
theorem dX4_pushedOf_46 : decode cX4_pushedOf 46 = .ok (.invokevirtual 331, 3) := dk_182 1 75 (dk_at dksX4_pushedOf_2 0 rfl rfl)
theorem dX4_pushedOf_49 : decode cX4_pushedOf 49 = .ok (.iload_n 1, 1) := dk_27 (dk_at dksX4_pushedOf_2 3 rfl rfl)
theorem dX4_pushedOf_50 : decode cX4_pushedOf 50 = .ok (.invokestatic 334, 3) := dk_184 1 78 (dk_at dksX4_pushedOf_2 4 rfl rfl)
theorem dX4_pushedOf_53 : decode cX4_pushedOf 53 = .ok (.ifCond .eq 9, 3) := dk_153 0 9 (dk_at dksX4_pushedOf_2 7 rfl rfl)
theorem dX4_pushedOf_56 : decode cX4_pushedOf 56 = .ok (.iload_n 2, 1) := dk_28 (dk_at dksX4_pushedOf_2 10 rfl rfl)
theorem dX4_pushedOf_57 : decode cX4_pushedOf 57 = .ok (.iconst 1, 1) := dk_4 (dk_at dksX4_pushedOf_2 11 rfl rfl)
theorem dX4_pushedOf_58 : decode cX4_pushedOf 58 = .ok (.iload_n 3, 1) := dk_29 (dk_at dksX4_pushedOf_2 12 rfl rfl)
theorem dX4_pushedOf_59 : decode cX4_pushedOf 59 = .ok (.ishl, 1) := dk_120 (dk_at dksX4_pushedOf_2 13 rfl rfl)
theorem dX4_pushedOf_60 : decode cX4_pushedOf 60 = .ok (.ior, 1) := dk_128 (dk_at dksX4_pushedOf_2 14 rfl rfl)
theorem dX4_pushedOf_61 : decode cX4_pushedOf 61 = .ok (.istore_n 2, 1) := dk_61 (dk_at dksX4_pushedOf_2 15 rfl rfl)
theorem dX4_pushedOf_62 : decode cX4_pushedOf 62 = .ok (.iinc 3 1, 3) := dk_132 3 1 (dk_at dksX4_pushedOf_2 16 rfl rfl)
theorem dX4_pushedOf_65 : decode cX4_pushedOf 65 = .ok (.goto (-45), 3) := dk_167 255 211 (dk_at dksX4_pushedOf_2 19 rfl rfl)
theorem dX4_pushedOf_68 : decode cX4_pushedOf 68 = .ok (.iload_n 2, 1) := dk_28 (dk_at dksX4_pushedOf_2 22 rfl rfl)
theorem dX4_pushedOf_69 : decode cX4_pushedOf 69 = .ok (.ireturn, 1) := dk_172 (dk_at dksX4_pushedOf_2 23 rfl rfl)
abbrev cX4_hasBit : ByteArray := prog_24_method_8_code
def yX4_hasBit : MethodName := ⟨RX4, "hasBit", "(II)Z"⟩
def dkwX4_hasBit_0 : List UInt8 := [26, 27, 122, 4, 126, 4, 160, 0, 7, 4, 167, 0, 4, 3, 172]
abbrev dktX4_hasBit_0 : List UInt8 := dkwX4_hasBit_0 ++ []
theorem dksX4_hasBit_0 : cX4_hasBit.data.toList.drop 0 = dktX4_hasBit_0 := by decide +kernel
theorem dX4_hasBit_0 : decode cX4_hasBit 0 = .ok (.iload_n 0, 1) := dk_26 (dk_at dksX4_hasBit_0 0 rfl rfl)
theorem dX4_hasBit_1 : decode cX4_hasBit 1 = .ok (.iload_n 1, 1) := dk_27 (dk_at dksX4_hasBit_0 1 rfl rfl)
theorem dX4_hasBit_2 : decode cX4_hasBit 2 = .ok (.ishr, 1) := dk_122 (dk_at dksX4_hasBit_0 2 rfl rfl)
theorem dX4_hasBit_3 : decode cX4_hasBit 3 = .ok (.iconst 1, 1) := dk_4 (dk_at dksX4_hasBit_0 3 rfl rfl)
theorem dX4_hasBit_4 : decode cX4_hasBit 4 = .ok (.iand, 1) := dk_126 (dk_at dksX4_hasBit_0 4 rfl rfl)
theorem dX4_hasBit_5 : decode cX4_hasBit 5 = .ok (.iconst 1, 1) := dk_4 (dk_at dksX4_hasBit_0 5 rfl rfl)
theorem dX4_hasBit_6 : decode cX4_hasBit 6 = .ok (.if_icmp .ne 7, 3) := dk_160 0 7 (dk_at dksX4_hasBit_0 6 rfl rfl)
theorem dX4_hasBit_9 : decode cX4_hasBit 9 = .ok (.iconst 1, 1) := dk_4 (dk_at dksX4_hasBit_0 9 rfl rfl)
theorem dX4_hasBit_10 : decode cX4_hasBit 10 = .ok (.goto 4, 3) := dk_167 0 4 (dk_at dksX4_hasBit_0 10 rfl rfl)
theorem dX4_hasBit_13 : decode cX4_hasBit 13 = .ok (.iconst 0, 1) := dk_3 (dk_at dksX4_hasBit_0 13 rfl rfl)
theorem dX4_hasBit_14 : decode cX4_hasBit 14 = .ok (.ireturn, 1) := dk_172 (dk_at dksX4_hasBit_0 14 rfl rfl)
abbrev cX4_sum : ByteArray := prog_24_method_81_code
def yX4_sum : MethodName := ⟨RX4, "sum", "(I)I"⟩
def dkwX4_sum_1 : List UInt8 := [182, 0, 168, 172, 42, 182, 1, 106, 42, 27, 182, 1, 112, 172]
abbrev dktX4_sum_1 : List UInt8 := dkwX4_sum_1 ++ []
def dkwX4_sum_0 : List UInt8 := [42, 182, 0, 165, 42, 180, 0, 178, 153, 0, 12, 27, 3, 8, 184, 0, 147, 154, 0, 9, 42, 4]
abbrev dktX4_sum_0 : List UInt8 := dkwX4_sum_0 ++ dktX4_sum_1
theorem dksX4_sum_0 : cX4_sum.data.toList.drop 0 = dktX4_sum_0 := by decide +kernel
theorem dksX4_sum_1 : cX4_sum.data.toList.drop 22 = dktX4_sum_1 := dk_seg dksX4_sum_0 22 rfl rfl
theorem dX4_sum_0 : decode cX4_sum 0 = .ok (.aload_n 0, 1) := dk_42 (dk_at dksX4_sum_0 0 rfl rfl)
theorem dX4_sum_1 : decode cX4_sum 1 = .ok (.invokevirtual 165, 3) := dk_182 0 165 (dk_at dksX4_sum_0 1 rfl rfl)
theorem dX4_sum_4 : decode cX4_sum 4 = .ok (.aload_n 0, 1) := dk_42 (dk_at dksX4_sum_0 4 rfl rfl)
theorem dX4_sum_5 : decode cX4_sum 5 = .ok (.getfield 178, 3) := dk_180 0 178 (dk_at dksX4_sum_0 5 rfl rfl)
theorem dX4_sum_8 : decode cX4_sum 8 = .ok (.ifCond .eq 12, 3) := dk_153 0 12 (dk_at dksX4_sum_0 8 rfl rfl)
theorem dX4_sum_11 : decode cX4_sum 11 = .ok (.iload_n 1, 1) := dk_27 (dk_at dksX4_sum_0 11 rfl rfl)
theorem dX4_sum_12 : decode cX4_sum 12 = .ok (.iconst 0, 1) := dk_3 (dk_at dksX4_sum_0 12 rfl rfl)
theorem dX4_sum_13 : decode cX4_sum 13 = .ok (.iconst 5, 1) := dk_8 (dk_at dksX4_sum_0 13 rfl rfl)
theorem dX4_sum_14 : decode cX4_sum 14 = .ok (.invokestatic 147, 3) := dk_184 0 147 (dk_at dksX4_sum_0 14 rfl rfl)
theorem dX4_sum_17 : decode cX4_sum 17 = .ok (.ifCond .ne 9, 3) := dk_154 0 9 (dk_at dksX4_sum_0 17 rfl rfl)
theorem dX4_sum_20 : decode cX4_sum 20 = .ok (.aload_n 0, 1) := dk_42 (dk_at dksX4_sum_0 20 rfl rfl)
theorem dX4_sum_21 : decode cX4_sum 21 = .ok (.iconst 1, 1) := dk_4 (dk_at dksX4_sum_0 21 rfl rfl)
theorem dX4_sum_22 : decode cX4_sum 22 = .ok (.invokevirtual 168, 3) := dk_182 0 168 (dk_at dksX4_sum_1 0 rfl rfl)
theorem dX4_sum_25 : decode cX4_sum 25 = .ok (.ireturn, 1) := dk_172 (dk_at dksX4_sum_1 3 rfl rfl)
theorem dX4_sum_26 : decode cX4_sum 26 = .ok (.aload_n 0, 1) := dk_42 (dk_at dksX4_sum_1 4 rfl rfl)
theorem dX4_sum_27 : decode cX4_sum 27 = .ok (.invokevirtual 362, 3) := dk_182 1 106 (dk_at dksX4_sum_1 5 rfl rfl)
theorem dX4_sum_30 : decode cX4_sum 30 = .ok (.aload_n 0, 1) := dk_42 (dk_at dksX4_sum_1 8 rfl rfl)
theorem dX4_sum_31 : decode cX4_sum 31 = .ok (.iload_n 1, 1) := dk_27 (dk_at dksX4_sum_1 9 rfl rfl)
theorem dX4_sum_32 : decode cX4_sum 32 = .ok (.invokevirtual 368, 3) := dk_182 1 112 (dk_at dksX4_sum_1 10 rfl rfl)
theorem dX4_sum_35 : decode cX4_sum 35 = .ok (.ireturn, 1) := dk_172 (dk_at dksX4_sum_1 13 rfl rfl)
abbrev cX4_sumOf : ByteArray := prog_24_method_64_code
def yX4_sumOf : MethodName := ⟨RX4, "sumOf", "(I)I"⟩
def dkwX4_sumOf_7 : List UInt8 := [182, 1, 87, 167, 0, 4, 3, 96, 61, 132, 3, 1, 167, 255, 81, 28, 172]
abbrev dktX4_sumOf_7 : List UInt8 := dkwX4_sumOf_7 ++ []
def dkwX4_sumOf_6 : List UInt8 := [28, 42, 29, 182, 1, 75, 184, 1, 84, 96, 61, 167, 0, 21, 28, 21, 4, 5, 162, 0, 11, 42, 29]
abbrev dktX4_sumOf_6 : List UInt8 := dkwX4_sumOf_6 ++ dktX4_sumOf_7
def dkwX4_sumOf_5 : List UInt8 := [167, 0, 56, 28, 21, 4, 7, 160, 0, 7, 3, 167, 0, 8, 42, 29, 182, 1, 81, 96, 61, 167, 0, 35]
abbrev dktX4_sumOf_5 : List UInt8 := dkwX4_sumOf_5 ++ dktX4_sumOf_6
def dkwX4_sumOf_4 : List UInt8 := [4, 167, 0, 4, 3, 96, 61, 167, 0, 73, 28, 21, 4, 6, 160, 0, 7, 4, 167, 0, 4, 3, 96, 61]
abbrev dktX4_sumOf_4 : List UInt8 := dkwX4_sumOf_4 ++ dktX4_sumOf_5
def dkwX4_sumOf_3 : List UInt8 := [28, 21, 4, 5, 162, 0, 7, 4, 167, 0, 4, 3, 96, 61, 167, 0, 90, 28, 21, 4, 5, 160, 0, 7]
abbrev dktX4_sumOf_3 : List UInt8 := dkwX4_sumOf_3 ++ dktX4_sumOf_4
def dkwX4_sumOf_2 : List UInt8 := [170, 0, 0, 0, 0, 0, 121, 0, 0, 0, 0, 0, 0, 0, 4, 0, 0, 0, 35, 0, 0, 0, 52, 0, 0, 0, 69, 0, 0, 0, 86, 0, 0, 0, 107]
abbrev dktX4_sumOf_2 : List UInt8 := dkwX4_sumOf_2 ++ dktX4_sumOf_3
def dkwX4_sumOf_1 : List UInt8 := [180, 0, 29, 29, 3, 184, 1, 31, 154, 0, 6, 167, 0, 143, 27]
abbrev dktX4_sumOf_1 : List UInt8 := dkwX4_sumOf_1 ++ dktX4_sumOf_2
def dkwX4_sumOf_0 : List UInt8 := [3, 61, 3, 62, 29, 42, 180, 0, 20, 8, 46, 162, 0, 171, 42, 29, 182, 1, 68, 54, 4, 42]
abbrev dktX4_sumOf_0 : List UInt8 := dkwX4_sumOf_0 ++ dktX4_sumOf_1
theorem dksX4_sumOf_0 : cX4_sumOf.data.toList.drop 0 = dktX4_sumOf_0 := by decide +kernel
theorem dksX4_sumOf_1 : cX4_sumOf.data.toList.drop 22 = dktX4_sumOf_1 := dk_seg dksX4_sumOf_0 22 rfl rfl
theorem dksX4_sumOf_2 : cX4_sumOf.data.toList.drop 37 = dktX4_sumOf_2 := dk_seg dksX4_sumOf_1 15 rfl rfl
theorem dksX4_sumOf_3 : cX4_sumOf.data.toList.drop 72 = dktX4_sumOf_3 := dk_seg dksX4_sumOf_2 35 rfl rfl
theorem dksX4_sumOf_4 : cX4_sumOf.data.toList.drop 96 = dktX4_sumOf_4 := dk_seg dksX4_sumOf_3 24 rfl rfl
theorem dksX4_sumOf_5 : cX4_sumOf.data.toList.drop 120 = dktX4_sumOf_5 := dk_seg dksX4_sumOf_4 24 rfl rfl
theorem dksX4_sumOf_6 : cX4_sumOf.data.toList.drop 144 = dktX4_sumOf_6 := dk_seg dksX4_sumOf_5 24 rfl rfl
theorem dksX4_sumOf_7 : cX4_sumOf.data.toList.drop 167 = dktX4_sumOf_7 := dk_seg dksX4_sumOf_6 23 rfl rfl
theorem dX4_sumOf_0 : decode cX4_sumOf 0 = .ok (.iconst 0, 1) := dk_3 (dk_at dksX4_sumOf_0 0 rfl rfl)
theorem dX4_sumOf_1 : decode cX4_sumOf 1 = .ok (.istore_n 2, 1) := dk_61 (dk_at dksX4_sumOf_0 1 rfl rfl)
theorem dX4_sumOf_2 : decode cX4_sumOf 2 = .ok (.iconst 0, 1) := dk_3 (dk_at dksX4_sumOf_0 2 rfl rfl)
theorem dX4_sumOf_3 : decode cX4_sumOf 3 = .ok (.istore_n 3, 1) := dk_62 (dk_at dksX4_sumOf_0 3 rfl rfl)
theorem dX4_sumOf_4 : decode cX4_sumOf 4 = .ok (.iload_n 3, 1) := dk_29 (dk_at dksX4_sumOf_0 4 rfl rfl)
theorem dX4_sumOf_5 : decode cX4_sumOf 5 = .ok (.aload_n 0, 1) := dk_42 (dk_at dksX4_sumOf_0 5 rfl rfl)
theorem dX4_sumOf_6 : decode cX4_sumOf 6 = .ok (.getfield 20, 3) := dk_180 0 20 (dk_at dksX4_sumOf_0 6 rfl rfl)
theorem dX4_sumOf_9 : decode cX4_sumOf 9 = .ok (.iconst 5, 1) := dk_8 (dk_at dksX4_sumOf_0 9 rfl rfl)
theorem dX4_sumOf_10 : decode cX4_sumOf 10 = .ok (.iaload, 1) := dk_46 (dk_at dksX4_sumOf_0 10 rfl rfl)
theorem dX4_sumOf_11 : decode cX4_sumOf 11 = .ok (.if_icmp .ge 171, 3) := dk_162 0 171 (dk_at dksX4_sumOf_0 11 rfl rfl)
theorem dX4_sumOf_14 : decode cX4_sumOf 14 = .ok (.aload_n 0, 1) := dk_42 (dk_at dksX4_sumOf_0 14 rfl rfl)
theorem dX4_sumOf_15 : decode cX4_sumOf 15 = .ok (.iload_n 3, 1) := dk_29 (dk_at dksX4_sumOf_0 15 rfl rfl)
theorem dX4_sumOf_16 : decode cX4_sumOf 16 = .ok (.invokevirtual 324, 3) := dk_182 1 68 (dk_at dksX4_sumOf_0 16 rfl rfl)
theorem dX4_sumOf_19 : decode cX4_sumOf 19 = .ok (.istore 4, 2) := dk_54 4 (dk_at dksX4_sumOf_0 19 rfl rfl)
theorem dX4_sumOf_21 : decode cX4_sumOf 21 = .ok (.aload_n 0, 1) := dk_42 (dk_at dksX4_sumOf_0 21 rfl rfl)
theorem dX4_sumOf_22 : decode cX4_sumOf 22 = .ok (.getfield 29, 3) := dk_180 0 29 (dk_at dksX4_sumOf_1 0 rfl rfl)
theorem dX4_sumOf_25 : decode cX4_sumOf 25 = .ok (.iload_n 3, 1) := dk_29 (dk_at dksX4_sumOf_1 3 rfl rfl)
theorem dX4_sumOf_26 : decode cX4_sumOf 26 = .ok (.iconst 0, 1) := dk_3 (dk_at dksX4_sumOf_1 4 rfl rfl)
theorem dX4_sumOf_27 : decode cX4_sumOf 27 = .ok (.invokestatic 287, 3) := dk_184 1 31 (dk_at dksX4_sumOf_1 5 rfl rfl)
theorem dX4_sumOf_30 : decode cX4_sumOf 30 = .ok (.ifCond .ne 6, 3) := dk_154 0 6 (dk_at dksX4_sumOf_1 8 rfl rfl)
theorem dX4_sumOf_33 : decode cX4_sumOf 33 = .ok (.goto 143, 3) := dk_167 0 143 (dk_at dksX4_sumOf_1 11 rfl rfl)
theorem dX4_sumOf_36 : decode cX4_sumOf 36 = .ok (.iload_n 1, 1) := dk_27 (dk_at dksX4_sumOf_1 14 rfl rfl)
theorem dX4_sumOf_37 : decode cX4_sumOf 37 = .ok (.tableswitch 121 0 4 #[35, 52, 69, 86, 107], 35) := by decide +kernel
theorem dX4_sumOf_72 : decode cX4_sumOf 72 = .ok (.iload_n 2, 1) := dk_28 (dk_at dksX4_sumOf_3 0 rfl rfl)
theorem dX4_sumOf_73 : decode cX4_sumOf 73 = .ok (.iload 4, 2) := dk_21 4 (dk_at dksX4_sumOf_3 1 rfl rfl)
theorem dX4_sumOf_75 : decode cX4_sumOf 75 = .ok (.iconst 2, 1) := dk_5 (dk_at dksX4_sumOf_3 3 rfl rfl)
theorem dX4_sumOf_76 : decode cX4_sumOf 76 = .ok (.if_icmp .ge 7, 3) := dk_162 0 7 (dk_at dksX4_sumOf_3 4 rfl rfl)
theorem dX4_sumOf_79 : decode cX4_sumOf 79 = .ok (.iconst 1, 1) := dk_4 (dk_at dksX4_sumOf_3 7 rfl rfl)
theorem dX4_sumOf_80 : decode cX4_sumOf 80 = .ok (.goto 4, 3) := dk_167 0 4 (dk_at dksX4_sumOf_3 8 rfl rfl)
theorem dX4_sumOf_83 : decode cX4_sumOf 83 = .ok (.iconst 0, 1) := dk_3 (dk_at dksX4_sumOf_3 11 rfl rfl)
theorem dX4_sumOf_84 : decode cX4_sumOf 84 = .ok (.iadd, 1) := dk_96 (dk_at dksX4_sumOf_3 12 rfl rfl)
theorem dX4_sumOf_85 : decode cX4_sumOf 85 = .ok (.istore_n 2, 1) := dk_61 (dk_at dksX4_sumOf_3 13 rfl rfl)
theorem dX4_sumOf_86 : decode cX4_sumOf 86 = .ok (.goto 90, 3) := dk_167 0 90 (dk_at dksX4_sumOf_3 14 rfl rfl)
theorem dX4_sumOf_89 : decode cX4_sumOf 89 = .ok (.iload_n 2, 1) := dk_28 (dk_at dksX4_sumOf_3 17 rfl rfl)
theorem dX4_sumOf_90 : decode cX4_sumOf 90 = .ok (.iload 4, 2) := dk_21 4 (dk_at dksX4_sumOf_3 18 rfl rfl)
theorem dX4_sumOf_92 : decode cX4_sumOf 92 = .ok (.iconst 2, 1) := dk_5 (dk_at dksX4_sumOf_3 20 rfl rfl)
theorem dX4_sumOf_93 : decode cX4_sumOf 93 = .ok (.if_icmp .ne 7, 3) := dk_160 0 7 (dk_at dksX4_sumOf_3 21 rfl rfl)
theorem dX4_sumOf_96 : decode cX4_sumOf 96 = .ok (.iconst 1, 1) := dk_4 (dk_at dksX4_sumOf_4 0 rfl rfl)
theorem dX4_sumOf_97 : decode cX4_sumOf 97 = .ok (.goto 4, 3) := dk_167 0 4 (dk_at dksX4_sumOf_4 1 rfl rfl)
theorem dX4_sumOf_100 : decode cX4_sumOf 100 = .ok (.iconst 0, 1) := dk_3 (dk_at dksX4_sumOf_4 4 rfl rfl)
theorem dX4_sumOf_101 : decode cX4_sumOf 101 = .ok (.iadd, 1) := dk_96 (dk_at dksX4_sumOf_4 5 rfl rfl)
theorem dX4_sumOf_102 : decode cX4_sumOf 102 = .ok (.istore_n 2, 1) := dk_61 (dk_at dksX4_sumOf_4 6 rfl rfl)
theorem dX4_sumOf_103 : decode cX4_sumOf 103 = .ok (.goto 73, 3) := dk_167 0 73 (dk_at dksX4_sumOf_4 7 rfl rfl)
theorem dX4_sumOf_106 : decode cX4_sumOf 106 = .ok (.iload_n 2, 1) := dk_28 (dk_at dksX4_sumOf_4 10 rfl rfl)
theorem dX4_sumOf_107 : decode cX4_sumOf 107 = .ok (.iload 4, 2) := dk_21 4 (dk_at dksX4_sumOf_4 11 rfl rfl)
theorem dX4_sumOf_109 : decode cX4_sumOf 109 = .ok (.iconst 3, 1) := dk_6 (dk_at dksX4_sumOf_4 13 rfl rfl)
theorem dX4_sumOf_110 : decode cX4_sumOf 110 = .ok (.if_icmp .ne 7, 3) := dk_160 0 7 (dk_at dksX4_sumOf_4 14 rfl rfl)
theorem dX4_sumOf_113 : decode cX4_sumOf 113 = .ok (.iconst 1, 1) := dk_4 (dk_at dksX4_sumOf_4 17 rfl rfl)
theorem dX4_sumOf_114 : decode cX4_sumOf 114 = .ok (.goto 4, 3) := dk_167 0 4 (dk_at dksX4_sumOf_4 18 rfl rfl)
theorem dX4_sumOf_117 : decode cX4_sumOf 117 = .ok (.iconst 0, 1) := dk_3 (dk_at dksX4_sumOf_4 21 rfl rfl)
theorem dX4_sumOf_118 : decode cX4_sumOf 118 = .ok (.iadd, 1) := dk_96 (dk_at dksX4_sumOf_4 22 rfl rfl)
theorem dX4_sumOf_119 : decode cX4_sumOf 119 = .ok (.istore_n 2, 1) := dk_61 (dk_at dksX4_sumOf_4 23 rfl rfl)
theorem dX4_sumOf_120 : decode cX4_sumOf 120 = .ok (.goto 56, 3) := dk_167 0 56 (dk_at dksX4_sumOf_5 0 rfl rfl)
theorem dX4_sumOf_123 : decode cX4_sumOf 123 = .ok (.iload_n 2, 1) := dk_28 (dk_at dksX4_sumOf_5 3 rfl rfl)
theorem dX4_sumOf_124 : decode cX4_sumOf 124 = .ok (.iload 4, 2) := dk_21 4 (dk_at dksX4_sumOf_5 4 rfl rfl)
theorem dX4_sumOf_126 : decode cX4_sumOf 126 = .ok (.iconst 4, 1) := dk_7 (dk_at dksX4_sumOf_5 6 rfl rfl)
theorem dX4_sumOf_127 : decode cX4_sumOf 127 = .ok (.if_icmp .ne 7, 3) := dk_160 0 7 (dk_at dksX4_sumOf_5 7 rfl rfl)
theorem dX4_sumOf_130 : decode cX4_sumOf 130 = .ok (.iconst 0, 1) := dk_3 (dk_at dksX4_sumOf_5 10 rfl rfl)
theorem dX4_sumOf_131 : decode cX4_sumOf 131 = .ok (.goto 8, 3) := dk_167 0 8 (dk_at dksX4_sumOf_5 11 rfl rfl)
theorem dX4_sumOf_134 : decode cX4_sumOf 134 = .ok (.aload_n 0, 1) := dk_42 (dk_at dksX4_sumOf_5 14 rfl rfl)
theorem dX4_sumOf_135 : decode cX4_sumOf 135 = .ok (.iload_n 3, 1) := dk_29 (dk_at dksX4_sumOf_5 15 rfl rfl)
theorem dX4_sumOf_136 : decode cX4_sumOf 136 = .ok (.invokevirtual 337, 3) := dk_182 1 81 (dk_at dksX4_sumOf_5 16 rfl rfl)
theorem dX4_sumOf_139 : decode cX4_sumOf 139 = .ok (.iadd, 1) := dk_96 (dk_at dksX4_sumOf_5 19 rfl rfl)
theorem dX4_sumOf_140 : decode cX4_sumOf 140 = .ok (.istore_n 2, 1) := dk_61 (dk_at dksX4_sumOf_5 20 rfl rfl)
theorem dX4_sumOf_141 : decode cX4_sumOf 141 = .ok (.goto 35, 3) := dk_167 0 35 (dk_at dksX4_sumOf_5 21 rfl rfl)
theorem dX4_sumOf_144 : decode cX4_sumOf 144 = .ok (.iload_n 2, 1) := dk_28 (dk_at dksX4_sumOf_6 0 rfl rfl)
theorem dX4_sumOf_145 : decode cX4_sumOf 145 = .ok (.aload_n 0, 1) := dk_42 (dk_at dksX4_sumOf_6 1 rfl rfl)
theorem dX4_sumOf_146 : decode cX4_sumOf 146 = .ok (.iload_n 3, 1) := dk_29 (dk_at dksX4_sumOf_6 2 rfl rfl)
theorem dX4_sumOf_147 : decode cX4_sumOf 147 = .ok (.invokevirtual 331, 3) := dk_182 1 75 (dk_at dksX4_sumOf_6 3 rfl rfl)
theorem dX4_sumOf_150 : decode cX4_sumOf 150 = .ok (.invokestatic 340, 3) := dk_184 1 84 (dk_at dksX4_sumOf_6 6 rfl rfl)
theorem dX4_sumOf_153 : decode cX4_sumOf 153 = .ok (.iadd, 1) := dk_96 (dk_at dksX4_sumOf_6 9 rfl rfl)
theorem dX4_sumOf_154 : decode cX4_sumOf 154 = .ok (.istore_n 2, 1) := dk_61 (dk_at dksX4_sumOf_6 10 rfl rfl)
theorem dX4_sumOf_155 : decode cX4_sumOf 155 = .ok (.goto 21, 3) := dk_167 0 21 (dk_at dksX4_sumOf_6 11 rfl rfl)
theorem dX4_sumOf_158 : decode cX4_sumOf 158 = .ok (.iload_n 2, 1) := dk_28 (dk_at dksX4_sumOf_6 14 rfl rfl)
theorem dX4_sumOf_159 : decode cX4_sumOf 159 = .ok (.iload 4, 2) := dk_21 4 (dk_at dksX4_sumOf_6 15 rfl rfl)
theorem dX4_sumOf_161 : decode cX4_sumOf 161 = .ok (.iconst 2, 1) := dk_5 (dk_at dksX4_sumOf_6 17 rfl rfl)
theorem dX4_sumOf_162 : decode cX4_sumOf 162 = .ok (.if_icmp .ge 11, 3) := dk_162 0 11 (dk_at dksX4_sumOf_6 18 rfl rfl)
theorem dX4_sumOf_165 : decode cX4_sumOf 165 = .ok (.aload_n 0, 1) := dk_42 (dk_at dksX4_sumOf_6 21 rfl rfl)
theorem dX4_sumOf_166 : decode cX4_sumOf 166 = .ok (.iload_n 3, 1) := dk_29 (dk_at dksX4_sumOf_6 22 rfl rfl)
theorem dX4_sumOf_167 : decode cX4_sumOf 167 = .ok (.invokevirtual 343, 3) := dk_182 1 87 (dk_at dksX4_sumOf_7 0 rfl rfl)
theorem dX4_sumOf_170 : decode cX4_sumOf 170 = .ok (.goto 4, 3) := dk_167 0 4 (dk_at dksX4_sumOf_7 3 rfl rfl)
theorem dX4_sumOf_173 : decode cX4_sumOf 173 = .ok (.iconst 0, 1) := dk_3 (dk_at dksX4_sumOf_7 6 rfl rfl)
theorem dX4_sumOf_174 : decode cX4_sumOf 174 = .ok (.iadd, 1) := dk_96 (dk_at dksX4_sumOf_7 7 rfl rfl)
theorem dX4_sumOf_175 : decode cX4_sumOf 175 = .ok (.istore_n 2, 1) := dk_61 (dk_at dksX4_sumOf_7 8 rfl rfl)
theorem dX4_sumOf_176 : decode cX4_sumOf 176 = .ok (.iinc 3 1, 3) := dk_132 3 1 (dk_at dksX4_sumOf_7 9 rfl rfl)
theorem dX4_sumOf_179 : decode cX4_sumOf 179 = .ok (.goto (-175), 3) := dk_167 255 81 (dk_at dksX4_sumOf_7 12 rfl rfl)
theorem dX4_sumOf_182 : decode cX4_sumOf 182 = .ok (.iload_n 2, 1) := dk_28 (dk_at dksX4_sumOf_7 15 rfl rfl)
theorem dX4_sumOf_183 : decode cX4_sumOf 183 = .ok (.ireturn, 1) := dk_172 (dk_at dksX4_sumOf_7 16 rfl rfl)
abbrev cX4_ones : ByteArray := prog_24_method_9_code
def yX4_ones : MethodName := ⟨RX4, "ones", "(I)I"⟩
def dkwX4_ones_1 : List UInt8 := [27, 172]
abbrev dktX4_ones_1 : List UInt8 := dkwX4_ones_1 ++ []
def dkwX4_ones_0 : List UInt8 := [3, 60, 3, 61, 28, 16, 10, 162, 0, 17, 27, 26, 28, 122, 4, 126, 96, 60, 132, 2, 1, 167, 255, 239]
abbrev dktX4_ones_0 : List UInt8 := dkwX4_ones_0 ++ dktX4_ones_1
theorem dksX4_ones_0 : cX4_ones.data.toList.drop 0 = dktX4_ones_0 := by decide +kernel
theorem dksX4_ones_1 : cX4_ones.data.toList.drop 24 = dktX4_ones_1 := dk_seg dksX4_ones_0 24 rfl rfl
theorem dX4_ones_0 : decode cX4_ones 0 = .ok (.iconst 0, 1) := dk_3 (dk_at dksX4_ones_0 0 rfl rfl)
theorem dX4_ones_1 : decode cX4_ones 1 = .ok (.istore_n 1, 1) := dk_60 (dk_at dksX4_ones_0 1 rfl rfl)
theorem dX4_ones_2 : decode cX4_ones 2 = .ok (.iconst 0, 1) := dk_3 (dk_at dksX4_ones_0 2 rfl rfl)
theorem dX4_ones_3 : decode cX4_ones 3 = .ok (.istore_n 2, 1) := dk_61 (dk_at dksX4_ones_0 3 rfl rfl)
theorem dX4_ones_4 : decode cX4_ones 4 = .ok (.iload_n 2, 1) := dk_28 (dk_at dksX4_ones_0 4 rfl rfl)
theorem dX4_ones_5 : decode cX4_ones 5 = .ok (.bipush 10, 2) := dk_16 10 (dk_at dksX4_ones_0 5 rfl rfl)
theorem dX4_ones_7 : decode cX4_ones 7 = .ok (.if_icmp .ge 17, 3) := dk_162 0 17 (dk_at dksX4_ones_0 7 rfl rfl)
theorem dX4_ones_10 : decode cX4_ones 10 = .ok (.iload_n 1, 1) := dk_27 (dk_at dksX4_ones_0 10 rfl rfl)
theorem dX4_ones_11 : decode cX4_ones 11 = .ok (.iload_n 0, 1) := dk_26 (dk_at dksX4_ones_0 11 rfl rfl)
theorem dX4_ones_12 : decode cX4_ones 12 = .ok (.iload_n 2, 1) := dk_28 (dk_at dksX4_ones_0 12 rfl rfl)
theorem dX4_ones_13 : decode cX4_ones 13 = .ok (.ishr, 1) := dk_122 (dk_at dksX4_ones_0 13 rfl rfl)
theorem dX4_ones_14 : decode cX4_ones 14 = .ok (.iconst 1, 1) := dk_4 (dk_at dksX4_ones_0 14 rfl rfl)
theorem dX4_ones_15 : decode cX4_ones 15 = .ok (.iand, 1) := dk_126 (dk_at dksX4_ones_0 15 rfl rfl)
theorem dX4_ones_16 : decode cX4_ones 16 = .ok (.iadd, 1) := dk_96 (dk_at dksX4_ones_0 16 rfl rfl)
theorem dX4_ones_17 : decode cX4_ones 17 = .ok (.istore_n 1, 1) := dk_60 (dk_at dksX4_ones_0 17 rfl rfl)
theorem dX4_ones_18 : decode cX4_ones 18 = .ok (.iinc 2 1, 3) := dk_132 2 1 (dk_at dksX4_ones_0 18 rfl rfl)
theorem dX4_ones_21 : decode cX4_ones 21 = .ok (.goto (-17), 3) := dk_167 255 239 (dk_at dksX4_ones_0 21 rfl rfl)
theorem dX4_ones_24 : decode cX4_ones 24 = .ok (.iload_n 1, 1) := dk_27 (dk_at dksX4_ones_1 0 rfl rfl)
theorem dX4_ones_25 : decode cX4_ones 25 = .ok (.ireturn, 1) := dk_172 (dk_at dksX4_ones_1 1 rfl rfl)
abbrev cX4_served : ByteArray := prog_24_method_82_code
def yX4_served : MethodName := ⟨RX4, "served", "(I)I"⟩
def dkwX4_served_2 : List UInt8 := [42, 4, 182, 0, 168, 172]
abbrev dktX4_served_2 : List UInt8 := dkwX4_served_2 ++ []
def dkwX4_served_1 : List UInt8 := [182, 1, 106, 27, 42, 180, 0, 29, 4, 46, 162, 0, 14, 42, 180, 0, 29, 5, 27, 96, 46, 167, 0, 8]
abbrev dktX4_served_1 : List UInt8 := dkwX4_served_1 ++ dktX4_served_2
def dkwX4_served_0 : List UInt8 := [42, 182, 0, 165, 42, 180, 0, 178, 153, 0, 7, 27, 156, 0, 9, 42, 4, 182, 0, 168, 172, 42]
abbrev dktX4_served_0 : List UInt8 := dkwX4_served_0 ++ dktX4_served_1
theorem dksX4_served_0 : cX4_served.data.toList.drop 0 = dktX4_served_0 := by decide +kernel
theorem dksX4_served_1 : cX4_served.data.toList.drop 22 = dktX4_served_1 := dk_seg dksX4_served_0 22 rfl rfl
theorem dksX4_served_2 : cX4_served.data.toList.drop 46 = dktX4_served_2 := dk_seg dksX4_served_1 24 rfl rfl
theorem dX4_served_0 : decode cX4_served 0 = .ok (.aload_n 0, 1) := dk_42 (dk_at dksX4_served_0 0 rfl rfl)
theorem dX4_served_1 : decode cX4_served 1 = .ok (.invokevirtual 165, 3) := dk_182 0 165 (dk_at dksX4_served_0 1 rfl rfl)
theorem dX4_served_4 : decode cX4_served 4 = .ok (.aload_n 0, 1) := dk_42 (dk_at dksX4_served_0 4 rfl rfl)
theorem dX4_served_5 : decode cX4_served 5 = .ok (.getfield 178, 3) := dk_180 0 178 (dk_at dksX4_served_0 5 rfl rfl)
theorem dX4_served_8 : decode cX4_served 8 = .ok (.ifCond .eq 7, 3) := dk_153 0 7 (dk_at dksX4_served_0 8 rfl rfl)
theorem dX4_served_11 : decode cX4_served 11 = .ok (.iload_n 1, 1) := dk_27 (dk_at dksX4_served_0 11 rfl rfl)
theorem dX4_served_12 : decode cX4_served 12 = .ok (.ifCond .ge 9, 3) := dk_156 0 9 (dk_at dksX4_served_0 12 rfl rfl)
theorem dX4_served_15 : decode cX4_served 15 = .ok (.aload_n 0, 1) := dk_42 (dk_at dksX4_served_0 15 rfl rfl)
theorem dX4_served_16 : decode cX4_served 16 = .ok (.iconst 1, 1) := dk_4 (dk_at dksX4_served_0 16 rfl rfl)
theorem dX4_served_17 : decode cX4_served 17 = .ok (.invokevirtual 168, 3) := dk_182 0 168 (dk_at dksX4_served_0 17 rfl rfl)
theorem dX4_served_20 : decode cX4_served 20 = .ok (.ireturn, 1) := dk_172 (dk_at dksX4_served_0 20 rfl rfl)
theorem dX4_served_21 : decode cX4_served 21 = .ok (.aload_n 0, 1) := dk_42 (dk_at dksX4_served_0 21 rfl rfl)
theorem dX4_served_22 : decode cX4_served 22 = .ok (.invokevirtual 362, 3) := dk_182 1 106 (dk_at dksX4_served_1 0 rfl rfl)
theorem dX4_served_25 : decode cX4_served 25 = .ok (.iload_n 1, 1) := dk_27 (dk_at dksX4_served_1 3 rfl rfl)
theorem dX4_served_26 : decode cX4_served 26 = .ok (.aload_n 0, 1) := dk_42 (dk_at dksX4_served_1 4 rfl rfl)
theorem dX4_served_27 : decode cX4_served 27 = .ok (.getfield 29, 3) := dk_180 0 29 (dk_at dksX4_served_1 5 rfl rfl)
theorem dX4_served_30 : decode cX4_served 30 = .ok (.iconst 1, 1) := dk_4 (dk_at dksX4_served_1 8 rfl rfl)
theorem dX4_served_31 : decode cX4_served 31 = .ok (.iaload, 1) := dk_46 (dk_at dksX4_served_1 9 rfl rfl)
theorem dX4_served_32 : decode cX4_served 32 = .ok (.if_icmp .ge 14, 3) := dk_162 0 14 (dk_at dksX4_served_1 10 rfl rfl)
theorem dX4_served_35 : decode cX4_served 35 = .ok (.aload_n 0, 1) := dk_42 (dk_at dksX4_served_1 13 rfl rfl)
theorem dX4_served_36 : decode cX4_served 36 = .ok (.getfield 29, 3) := dk_180 0 29 (dk_at dksX4_served_1 14 rfl rfl)
theorem dX4_served_39 : decode cX4_served 39 = .ok (.iconst 2, 1) := dk_5 (dk_at dksX4_served_1 17 rfl rfl)
theorem dX4_served_40 : decode cX4_served 40 = .ok (.iload_n 1, 1) := dk_27 (dk_at dksX4_served_1 18 rfl rfl)
theorem dX4_served_41 : decode cX4_served 41 = .ok (.iadd, 1) := dk_96 (dk_at dksX4_served_1 19 rfl rfl)
theorem dX4_served_42 : decode cX4_served 42 = .ok (.iaload, 1) := dk_46 (dk_at dksX4_served_1 20 rfl rfl)
theorem dX4_served_43 : decode cX4_served 43 = .ok (.goto 8, 3) := dk_167 0 8 (dk_at dksX4_served_1 21 rfl rfl)
theorem dX4_served_46 : decode cX4_served 46 = .ok (.aload_n 0, 1) := dk_42 (dk_at dksX4_served_2 0 rfl rfl)
theorem dX4_served_47 : decode cX4_served 47 = .ok (.iconst 1, 1) := dk_4 (dk_at dksX4_served_2 1 rfl rfl)
theorem dX4_served_48 : decode cX4_served 48 = .ok (.invokevirtual 168, 3) := dk_182 0 168 (dk_at dksX4_served_2 2 rfl rfl)
theorem dX4_served_51 : decode cX4_served 51 = .ok (.ireturn, 1) := dk_172 (dk_at dksX4_served_2 5 rfl rfl)
abbrev cX4_waitingAt : ByteArray := prog_24_method_83_code
def yX4_waitingAt : MethodName := ⟨RX4, "waitingAt", "(I)I"⟩
def dkwX4_waitingAt_2 : List UInt8 := [181, 1, 63, 42, 182, 1, 103, 42, 42, 180, 0, 29, 182, 1, 99, 172]
abbrev dktX4_waitingAt_2 : List UInt8 := dkwX4_waitingAt_2 ++ []
def dkwX4_waitingAt_1 : List UInt8 := [42, 180, 0, 20, 5, 46, 184, 0, 147, 154, 0, 9, 42, 5, 182, 0, 168, 172, 42, 182, 0, 187, 42, 27]
abbrev dktX4_waitingAt_1 : List UInt8 := dkwX4_waitingAt_1 ++ dktX4_waitingAt_2
def dkwX4_waitingAt_0 : List UInt8 := [42, 182, 0, 165, 42, 180, 0, 178, 154, 0, 9, 42, 4, 182, 0, 168, 172, 27, 42, 180, 0, 26, 3, 46]
abbrev dktX4_waitingAt_0 : List UInt8 := dkwX4_waitingAt_0 ++ dktX4_waitingAt_1
theorem dksX4_waitingAt_0 : cX4_waitingAt.data.toList.drop 0 = dktX4_waitingAt_0 := by decide +kernel
theorem dksX4_waitingAt_1 : cX4_waitingAt.data.toList.drop 24 = dktX4_waitingAt_1 := dk_seg dksX4_waitingAt_0 24 rfl rfl
theorem dksX4_waitingAt_2 : cX4_waitingAt.data.toList.drop 48 = dktX4_waitingAt_2 := dk_seg dksX4_waitingAt_1 24 rfl rfl
theorem dX4_waitingAt_0 : decode cX4_waitingAt 0 = .ok (.aload_n 0, 1) := dk_42 (dk_at dksX4_waitingAt_0 0 rfl rfl)
theorem dX4_waitingAt_1 : decode cX4_waitingAt 1 = .ok (.invokevirtual 165, 3) := dk_182 0 165 (dk_at dksX4_waitingAt_0 1 rfl rfl)
theorem dX4_waitingAt_4 : decode cX4_waitingAt 4 = .ok (.aload_n 0, 1) := dk_42 (dk_at dksX4_waitingAt_0 4 rfl rfl)
theorem dX4_waitingAt_5 : decode cX4_waitingAt 5 = .ok (.getfield 178, 3) := dk_180 0 178 (dk_at dksX4_waitingAt_0 5 rfl rfl)
theorem dX4_waitingAt_8 : decode cX4_waitingAt 8 = .ok (.ifCond .ne 9, 3) := dk_154 0 9 (dk_at dksX4_waitingAt_0 8 rfl rfl)
theorem dX4_waitingAt_11 : decode cX4_waitingAt 11 = .ok (.aload_n 0, 1) := dk_42 (dk_at dksX4_waitingAt_0 11 rfl rfl)
theorem dX4_waitingAt_12 : decode cX4_waitingAt 12 = .ok (.iconst 1, 1) := dk_4 (dk_at dksX4_waitingAt_0 12 rfl rfl)
theorem dX4_waitingAt_13 : decode cX4_waitingAt 13 = .ok (.invokevirtual 168, 3) := dk_182 0 168 (dk_at dksX4_waitingAt_0 13 rfl rfl)
theorem dX4_waitingAt_16 : decode cX4_waitingAt 16 = .ok (.ireturn, 1) := dk_172 (dk_at dksX4_waitingAt_0 16 rfl rfl)
theorem dX4_waitingAt_17 : decode cX4_waitingAt 17 = .ok (.iload_n 1, 1) := dk_27 (dk_at dksX4_waitingAt_0 17 rfl rfl)
theorem dX4_waitingAt_18 : decode cX4_waitingAt 18 = .ok (.aload_n 0, 1) := dk_42 (dk_at dksX4_waitingAt_0 18 rfl rfl)
theorem dX4_waitingAt_19 : decode cX4_waitingAt 19 = .ok (.getfield 26, 3) := dk_180 0 26 (dk_at dksX4_waitingAt_0 19 rfl rfl)
theorem dX4_waitingAt_22 : decode cX4_waitingAt 22 = .ok (.iconst 0, 1) := dk_3 (dk_at dksX4_waitingAt_0 22 rfl rfl)
theorem dX4_waitingAt_23 : decode cX4_waitingAt 23 = .ok (.iaload, 1) := dk_46 (dk_at dksX4_waitingAt_0 23 rfl rfl)
theorem dX4_waitingAt_24 : decode cX4_waitingAt 24 = .ok (.aload_n 0, 1) := dk_42 (dk_at dksX4_waitingAt_1 0 rfl rfl)
theorem dX4_waitingAt_25 : decode cX4_waitingAt 25 = .ok (.getfield 20, 3) := dk_180 0 20 (dk_at dksX4_waitingAt_1 1 rfl rfl)
theorem dX4_waitingAt_28 : decode cX4_waitingAt 28 = .ok (.iconst 2, 1) := dk_5 (dk_at dksX4_waitingAt_1 4 rfl rfl)
theorem dX4_waitingAt_29 : decode cX4_waitingAt 29 = .ok (.iaload, 1) := dk_46 (dk_at dksX4_waitingAt_1 5 rfl rfl)
theorem dX4_waitingAt_30 : decode cX4_waitingAt 30 = .ok (.invokestatic 147, 3) := dk_184 0 147 (dk_at dksX4_waitingAt_1 6 rfl rfl)
theorem dX4_waitingAt_33 : decode cX4_waitingAt 33 = .ok (.ifCond .ne 9, 3) := dk_154 0 9 (dk_at dksX4_waitingAt_1 9 rfl rfl)
theorem dX4_waitingAt_36 : decode cX4_waitingAt 36 = .ok (.aload_n 0, 1) := dk_42 (dk_at dksX4_waitingAt_1 12 rfl rfl)
theorem dX4_waitingAt_37 : decode cX4_waitingAt 37 = .ok (.iconst 2, 1) := dk_5 (dk_at dksX4_waitingAt_1 13 rfl rfl)
theorem dX4_waitingAt_38 : decode cX4_waitingAt 38 = .ok (.invokevirtual 168, 3) := dk_182 0 168 (dk_at dksX4_waitingAt_1 14 rfl rfl)
theorem dX4_waitingAt_41 : decode cX4_waitingAt 41 = .ok (.ireturn, 1) := dk_172 (dk_at dksX4_waitingAt_1 17 rfl rfl)
theorem dX4_waitingAt_42 : decode cX4_waitingAt 42 = .ok (.aload_n 0, 1) := dk_42 (dk_at dksX4_waitingAt_1 18 rfl rfl)
theorem dX4_waitingAt_43 : decode cX4_waitingAt 43 = .ok (.invokevirtual 187, 3) := dk_182 0 187 (dk_at dksX4_waitingAt_1 19 rfl rfl)
theorem dX4_waitingAt_46 : decode cX4_waitingAt 46 = .ok (.aload_n 0, 1) := dk_42 (dk_at dksX4_waitingAt_1 22 rfl rfl)
theorem dX4_waitingAt_47 : decode cX4_waitingAt 47 = .ok (.iload_n 1, 1) := dk_27 (dk_at dksX4_waitingAt_1 23 rfl rfl)
theorem dX4_waitingAt_48 : decode cX4_waitingAt 48 = .ok (.putfield 319, 3) := dk_181 1 63 (dk_at dksX4_waitingAt_2 0 rfl rfl)
theorem dX4_waitingAt_51 : decode cX4_waitingAt 51 = .ok (.aload_n 0, 1) := dk_42 (dk_at dksX4_waitingAt_2 3 rfl rfl)
theorem dX4_waitingAt_52 : decode cX4_waitingAt 52 = .ok (.invokevirtual 359, 3) := dk_182 1 103 (dk_at dksX4_waitingAt_2 4 rfl rfl)
theorem dX4_waitingAt_55 : decode cX4_waitingAt 55 = .ok (.aload_n 0, 1) := dk_42 (dk_at dksX4_waitingAt_2 7 rfl rfl)
theorem dX4_waitingAt_56 : decode cX4_waitingAt 56 = .ok (.aload_n 0, 1) := dk_42 (dk_at dksX4_waitingAt_2 8 rfl rfl)
theorem dX4_waitingAt_57 : decode cX4_waitingAt 57 = .ok (.getfield 29, 3) := dk_180 0 29 (dk_at dksX4_waitingAt_2 9 rfl rfl)
theorem dX4_waitingAt_60 : decode cX4_waitingAt 60 = .ok (.invokevirtual 355, 3) := dk_182 1 99 (dk_at dksX4_waitingAt_2 12 rfl rfl)
theorem dX4_waitingAt_63 : decode cX4_waitingAt 63 = .ok (.ireturn, 1) := dk_172 (dk_at dksX4_waitingAt_2 15 rfl rfl)
abbrev cX4_bell : ByteArray := prog_24_method_84_code
def yX4_bell : MethodName := ⟨RX4, "bell", "(II)I"⟩
def dkwX4_bell_2 : List UInt8 := [182, 0, 168, 172, 42, 182, 0, 187, 42, 27, 181, 1, 63, 42, 182, 1, 103, 42, 28, 182, 1, 112, 172]
abbrev dktX4_bell_2 : List UInt8 := dkwX4_bell_2 ++ []
def dkwX4_bell_1 : List UInt8 := [182, 0, 168, 172, 27, 42, 180, 0, 26, 3, 46, 17, 3, 132, 184, 0, 147, 154, 0, 9, 42, 5]
abbrev dktX4_bell_1 : List UInt8 := dkwX4_bell_1 ++ dktX4_bell_2
def dkwX4_bell_0 : List UInt8 := [42, 182, 0, 165, 42, 180, 0, 178, 153, 0, 12, 28, 3, 8, 184, 0, 147, 154, 0, 9, 42, 4]
abbrev dktX4_bell_0 : List UInt8 := dkwX4_bell_0 ++ dktX4_bell_1
theorem dksX4_bell_0 : cX4_bell.data.toList.drop 0 = dktX4_bell_0 := by decide +kernel
theorem dksX4_bell_1 : cX4_bell.data.toList.drop 22 = dktX4_bell_1 := dk_seg dksX4_bell_0 22 rfl rfl
theorem dksX4_bell_2 : cX4_bell.data.toList.drop 44 = dktX4_bell_2 := dk_seg dksX4_bell_1 22 rfl rfl
theorem dX4_bell_0 : decode cX4_bell 0 = .ok (.aload_n 0, 1) := dk_42 (dk_at dksX4_bell_0 0 rfl rfl)
theorem dX4_bell_1 : decode cX4_bell 1 = .ok (.invokevirtual 165, 3) := dk_182 0 165 (dk_at dksX4_bell_0 1 rfl rfl)
theorem dX4_bell_4 : decode cX4_bell 4 = .ok (.aload_n 0, 1) := dk_42 (dk_at dksX4_bell_0 4 rfl rfl)
theorem dX4_bell_5 : decode cX4_bell 5 = .ok (.getfield 178, 3) := dk_180 0 178 (dk_at dksX4_bell_0 5 rfl rfl)
theorem dX4_bell_8 : decode cX4_bell 8 = .ok (.ifCond .eq 12, 3) := dk_153 0 12 (dk_at dksX4_bell_0 8 rfl rfl)
theorem dX4_bell_11 : decode cX4_bell 11 = .ok (.iload_n 2, 1) := dk_28 (dk_at dksX4_bell_0 11 rfl rfl)
theorem dX4_bell_12 : decode cX4_bell 12 = .ok (.iconst 0, 1) := dk_3 (dk_at dksX4_bell_0 12 rfl rfl)
theorem dX4_bell_13 : decode cX4_bell 13 = .ok (.iconst 5, 1) := dk_8 (dk_at dksX4_bell_0 13 rfl rfl)
theorem dX4_bell_14 : decode cX4_bell 14 = .ok (.invokestatic 147, 3) := dk_184 0 147 (dk_at dksX4_bell_0 14 rfl rfl)
theorem dX4_bell_17 : decode cX4_bell 17 = .ok (.ifCond .ne 9, 3) := dk_154 0 9 (dk_at dksX4_bell_0 17 rfl rfl)
theorem dX4_bell_20 : decode cX4_bell 20 = .ok (.aload_n 0, 1) := dk_42 (dk_at dksX4_bell_0 20 rfl rfl)
theorem dX4_bell_21 : decode cX4_bell 21 = .ok (.iconst 1, 1) := dk_4 (dk_at dksX4_bell_0 21 rfl rfl)
theorem dX4_bell_22 : decode cX4_bell 22 = .ok (.invokevirtual 168, 3) := dk_182 0 168 (dk_at dksX4_bell_1 0 rfl rfl)
theorem dX4_bell_25 : decode cX4_bell 25 = .ok (.ireturn, 1) := dk_172 (dk_at dksX4_bell_1 3 rfl rfl)
theorem dX4_bell_26 : decode cX4_bell 26 = .ok (.iload_n 1, 1) := dk_27 (dk_at dksX4_bell_1 4 rfl rfl)
theorem dX4_bell_27 : decode cX4_bell 27 = .ok (.aload_n 0, 1) := dk_42 (dk_at dksX4_bell_1 5 rfl rfl)
theorem dX4_bell_28 : decode cX4_bell 28 = .ok (.getfield 26, 3) := dk_180 0 26 (dk_at dksX4_bell_1 6 rfl rfl)
theorem dX4_bell_31 : decode cX4_bell 31 = .ok (.iconst 0, 1) := dk_3 (dk_at dksX4_bell_1 9 rfl rfl)
theorem dX4_bell_32 : decode cX4_bell 32 = .ok (.iaload, 1) := dk_46 (dk_at dksX4_bell_1 10 rfl rfl)
theorem dX4_bell_33 : decode cX4_bell 33 = .ok (.sipush 900, 3) := dk_17 3 132 (dk_at dksX4_bell_1 11 rfl rfl)
theorem dX4_bell_36 : decode cX4_bell 36 = .ok (.invokestatic 147, 3) := dk_184 0 147 (dk_at dksX4_bell_1 14 rfl rfl)
theorem dX4_bell_39 : decode cX4_bell 39 = .ok (.ifCond .ne 9, 3) := dk_154 0 9 (dk_at dksX4_bell_1 17 rfl rfl)
theorem dX4_bell_42 : decode cX4_bell 42 = .ok (.aload_n 0, 1) := dk_42 (dk_at dksX4_bell_1 20 rfl rfl)
theorem dX4_bell_43 : decode cX4_bell 43 = .ok (.iconst 2, 1) := dk_5 (dk_at dksX4_bell_1 21 rfl rfl)
theorem dX4_bell_44 : decode cX4_bell 44 = .ok (.invokevirtual 168, 3) := dk_182 0 168 (dk_at dksX4_bell_2 0 rfl rfl)
theorem dX4_bell_47 : decode cX4_bell 47 = .ok (.ireturn, 1) := dk_172 (dk_at dksX4_bell_2 3 rfl rfl)
theorem dX4_bell_48 : decode cX4_bell 48 = .ok (.aload_n 0, 1) := dk_42 (dk_at dksX4_bell_2 4 rfl rfl)
theorem dX4_bell_49 : decode cX4_bell 49 = .ok (.invokevirtual 187, 3) := dk_182 0 187 (dk_at dksX4_bell_2 5 rfl rfl)
theorem dX4_bell_52 : decode cX4_bell 52 = .ok (.aload_n 0, 1) := dk_42 (dk_at dksX4_bell_2 8 rfl rfl)
theorem dX4_bell_53 : decode cX4_bell 53 = .ok (.iload_n 1, 1) := dk_27 (dk_at dksX4_bell_2 9 rfl rfl)
theorem dX4_bell_54 : decode cX4_bell 54 = .ok (.putfield 319, 3) := dk_181 1 63 (dk_at dksX4_bell_2 10 rfl rfl)
theorem dX4_bell_57 : decode cX4_bell 57 = .ok (.aload_n 0, 1) := dk_42 (dk_at dksX4_bell_2 13 rfl rfl)
theorem dX4_bell_58 : decode cX4_bell 58 = .ok (.invokevirtual 359, 3) := dk_182 1 103 (dk_at dksX4_bell_2 14 rfl rfl)
theorem dX4_bell_61 : decode cX4_bell 61 = .ok (.aload_n 0, 1) := dk_42 (dk_at dksX4_bell_2 17 rfl rfl)
theorem dX4_bell_62 : decode cX4_bell 62 = .ok (.iload_n 2, 1) := dk_28 (dk_at dksX4_bell_2 18 rfl rfl)
theorem dX4_bell_63 : decode cX4_bell 63 = .ok (.invokevirtual 368, 3) := dk_182 1 112 (dk_at dksX4_bell_2 19 rfl rfl)
theorem dX4_bell_66 : decode cX4_bell 66 = .ok (.ireturn, 1) := dk_172 (dk_at dksX4_bell_2 22 rfl rfl)
abbrev cX4_by : ByteArray := prog_24_method_86_code
def yX4_by : MethodName := ⟨RX4, "by", "(IZI)I"⟩
def dkwX4_by_1 : List UInt8 := [184, 0, 147, 154, 0, 9, 42, 4, 182, 0, 168, 172, 42, 27, 28, 182, 1, 115, 42, 29, 182, 1, 112, 172]
abbrev dktX4_by_1 : List UInt8 := dkwX4_by_1 ++ []
def dkwX4_by_0 : List UInt8 := [42, 182, 0, 165, 42, 180, 0, 178, 153, 0, 21, 27, 3, 7, 184, 0, 147, 153, 0, 12, 29, 3, 8]
abbrev dktX4_by_0 : List UInt8 := dkwX4_by_0 ++ dktX4_by_1
theorem dksX4_by_0 : cX4_by.data.toList.drop 0 = dktX4_by_0 := by decide +kernel
theorem dksX4_by_1 : cX4_by.data.toList.drop 23 = dktX4_by_1 := dk_seg dksX4_by_0 23 rfl rfl
theorem dX4_by_0 : decode cX4_by 0 = .ok (.aload_n 0, 1) := dk_42 (dk_at dksX4_by_0 0 rfl rfl)
theorem dX4_by_1 : decode cX4_by 1 = .ok (.invokevirtual 165, 3) := dk_182 0 165 (dk_at dksX4_by_0 1 rfl rfl)
theorem dX4_by_4 : decode cX4_by 4 = .ok (.aload_n 0, 1) := dk_42 (dk_at dksX4_by_0 4 rfl rfl)
theorem dX4_by_5 : decode cX4_by 5 = .ok (.getfield 178, 3) := dk_180 0 178 (dk_at dksX4_by_0 5 rfl rfl)
theorem dX4_by_8 : decode cX4_by 8 = .ok (.ifCond .eq 21, 3) := dk_153 0 21 (dk_at dksX4_by_0 8 rfl rfl)
theorem dX4_by_11 : decode cX4_by 11 = .ok (.iload_n 1, 1) := dk_27 (dk_at dksX4_by_0 11 rfl rfl)
theorem dX4_by_12 : decode cX4_by 12 = .ok (.iconst 0, 1) := dk_3 (dk_at dksX4_by_0 12 rfl rfl)
theorem dX4_by_13 : decode cX4_by 13 = .ok (.iconst 4, 1) := dk_7 (dk_at dksX4_by_0 13 rfl rfl)
theorem dX4_by_14 : decode cX4_by 14 = .ok (.invokestatic 147, 3) := dk_184 0 147 (dk_at dksX4_by_0 14 rfl rfl)
theorem dX4_by_17 : decode cX4_by 17 = .ok (.ifCond .eq 12, 3) := dk_153 0 12 (dk_at dksX4_by_0 17 rfl rfl)
theorem dX4_by_20 : decode cX4_by 20 = .ok (.iload_n 3, 1) := dk_29 (dk_at dksX4_by_0 20 rfl rfl)
theorem dX4_by_21 : decode cX4_by 21 = .ok (.iconst 0, 1) := dk_3 (dk_at dksX4_by_0 21 rfl rfl)
theorem dX4_by_22 : decode cX4_by 22 = .ok (.iconst 5, 1) := dk_8 (dk_at dksX4_by_0 22 rfl rfl)
theorem dX4_by_23 : decode cX4_by 23 = .ok (.invokestatic 147, 3) := dk_184 0 147 (dk_at dksX4_by_1 0 rfl rfl)
theorem dX4_by_26 : decode cX4_by 26 = .ok (.ifCond .ne 9, 3) := dk_154 0 9 (dk_at dksX4_by_1 3 rfl rfl)
theorem dX4_by_29 : decode cX4_by 29 = .ok (.aload_n 0, 1) := dk_42 (dk_at dksX4_by_1 6 rfl rfl)
theorem dX4_by_30 : decode cX4_by 30 = .ok (.iconst 1, 1) := dk_4 (dk_at dksX4_by_1 7 rfl rfl)
theorem dX4_by_31 : decode cX4_by 31 = .ok (.invokevirtual 168, 3) := dk_182 0 168 (dk_at dksX4_by_1 8 rfl rfl)
theorem dX4_by_34 : decode cX4_by 34 = .ok (.ireturn, 1) := dk_172 (dk_at dksX4_by_1 11 rfl rfl)
theorem dX4_by_35 : decode cX4_by 35 = .ok (.aload_n 0, 1) := dk_42 (dk_at dksX4_by_1 12 rfl rfl)
theorem dX4_by_36 : decode cX4_by 36 = .ok (.iload_n 1, 1) := dk_27 (dk_at dksX4_by_1 13 rfl rfl)
theorem dX4_by_37 : decode cX4_by 37 = .ok (.iload_n 2, 1) := dk_28 (dk_at dksX4_by_1 14 rfl rfl)
theorem dX4_by_38 : decode cX4_by 38 = .ok (.invokevirtual 371, 3) := dk_182 1 115 (dk_at dksX4_by_1 15 rfl rfl)
theorem dX4_by_41 : decode cX4_by 41 = .ok (.aload_n 0, 1) := dk_42 (dk_at dksX4_by_1 18 rfl rfl)
theorem dX4_by_42 : decode cX4_by 42 = .ok (.iload_n 3, 1) := dk_29 (dk_at dksX4_by_1 19 rfl rfl)
theorem dX4_by_43 : decode cX4_by 43 = .ok (.invokevirtual 368, 3) := dk_182 1 112 (dk_at dksX4_by_1 20 rfl rfl)
theorem dX4_by_46 : decode cX4_by 46 = .ok (.ireturn, 1) := dk_172 (dk_at dksX4_by_1 23 rfl rfl)
abbrev cX4_layRule : ByteArray := prog_24_method_85_code
def yX4_layRule : MethodName := ⟨RX4, "layRule", "(IZ)V"⟩
def dkwX4_layRule_3 : List UInt8 := [4, 100, 79, 132, 3, 1, 167, 255, 195, 42, 182, 1, 103, 177]
abbrev dktX4_layRule_3 : List UInt8 := dkwX4_layRule_3 ++ []
def dkwX4_layRule_2 : List UInt8 := [16, 6, 29, 104, 5, 96, 3, 79, 42, 180, 0, 38, 16, 6, 29, 104, 6, 96, 42, 180, 0, 20, 4, 46]
abbrev dktX4_layRule_2 : List UInt8 := dkwX4_layRule_2 ++ dktX4_layRule_3
def dkwX4_layRule_1 : List UInt8 := [42, 180, 0, 38, 16, 6, 29, 104, 3, 96, 27, 79, 28, 154, 0, 6, 167, 0, 34, 42, 180, 0, 38]
abbrev dktX4_layRule_1 : List UInt8 := dkwX4_layRule_1 ++ dktX4_layRule_2
def dkwX4_layRule_0 : List UInt8 := [42, 182, 0, 187, 42, 42, 180, 0, 20, 5, 46, 181, 1, 63, 3, 62, 29, 42, 180, 1, 22, 162, 0, 59]
abbrev dktX4_layRule_0 : List UInt8 := dkwX4_layRule_0 ++ dktX4_layRule_1
theorem dksX4_layRule_0 : cX4_layRule.data.toList.drop 0 = dktX4_layRule_0 := by decide +kernel
theorem dksX4_layRule_1 : cX4_layRule.data.toList.drop 24 = dktX4_layRule_1 := dk_seg dksX4_layRule_0 24 rfl rfl
theorem dksX4_layRule_2 : cX4_layRule.data.toList.drop 47 = dktX4_layRule_2 := dk_seg dksX4_layRule_1 23 rfl rfl
theorem dksX4_layRule_3 : cX4_layRule.data.toList.drop 71 = dktX4_layRule_3 := dk_seg dksX4_layRule_2 24 rfl rfl
theorem dX4_layRule_0 : decode cX4_layRule 0 = .ok (.aload_n 0, 1) := dk_42 (dk_at dksX4_layRule_0 0 rfl rfl)
theorem dX4_layRule_1 : decode cX4_layRule 1 = .ok (.invokevirtual 187, 3) := dk_182 0 187 (dk_at dksX4_layRule_0 1 rfl rfl)
theorem dX4_layRule_4 : decode cX4_layRule 4 = .ok (.aload_n 0, 1) := dk_42 (dk_at dksX4_layRule_0 4 rfl rfl)
theorem dX4_layRule_5 : decode cX4_layRule 5 = .ok (.aload_n 0, 1) := dk_42 (dk_at dksX4_layRule_0 5 rfl rfl)
theorem dX4_layRule_6 : decode cX4_layRule 6 = .ok (.getfield 20, 3) := dk_180 0 20 (dk_at dksX4_layRule_0 6 rfl rfl)
theorem dX4_layRule_9 : decode cX4_layRule 9 = .ok (.iconst 2, 1) := dk_5 (dk_at dksX4_layRule_0 9 rfl rfl)
theorem dX4_layRule_10 : decode cX4_layRule 10 = .ok (.iaload, 1) := dk_46 (dk_at dksX4_layRule_0 10 rfl rfl)
theorem dX4_layRule_11 : decode cX4_layRule 11 = .ok (.putfield 319, 3) := dk_181 1 63 (dk_at dksX4_layRule_0 11 rfl rfl)
theorem dX4_layRule_14 : decode cX4_layRule 14 = .ok (.iconst 0, 1) := dk_3 (dk_at dksX4_layRule_0 14 rfl rfl)
theorem dX4_layRule_15 : decode cX4_layRule 15 = .ok (.istore_n 3, 1) := dk_62 (dk_at dksX4_layRule_0 15 rfl rfl)
theorem dX4_layRule_16 : decode cX4_layRule 16 = .ok (.iload_n 3, 1) := dk_29 (dk_at dksX4_layRule_0 16 rfl rfl)
theorem dX4_layRule_17 : decode cX4_layRule 17 = .ok (.aload_n 0, 1) := dk_42 (dk_at dksX4_layRule_0 17 rfl rfl)
theorem dX4_layRule_18 : decode cX4_layRule 18 = .ok (.getfield 278, 3) := dk_180 1 22 (dk_at dksX4_layRule_0 18 rfl rfl)
theorem dX4_layRule_21 : decode cX4_layRule 21 = .ok (.if_icmp .ge 59, 3) := dk_162 0 59 (dk_at dksX4_layRule_0 21 rfl rfl)
theorem dX4_layRule_24 : decode cX4_layRule 24 = .ok (.aload_n 0, 1) := dk_42 (dk_at dksX4_layRule_1 0 rfl rfl)
theorem dX4_layRule_25 : decode cX4_layRule 25 = .ok (.getfield 38, 3) := dk_180 0 38 (dk_at dksX4_layRule_1 1 rfl rfl)
theorem dX4_layRule_28 : decode cX4_layRule 28 = .ok (.bipush 6, 2) := dk_16 6 (dk_at dksX4_layRule_1 4 rfl rfl)
theorem dX4_layRule_30 : decode cX4_layRule 30 = .ok (.iload_n 3, 1) := dk_29 (dk_at dksX4_layRule_1 6 rfl rfl)
theorem dX4_layRule_31 : decode cX4_layRule 31 = .ok (.imul, 1) := dk_104 (dk_at dksX4_layRule_1 7 rfl rfl)
theorem dX4_layRule_32 : decode cX4_layRule 32 = .ok (.iconst 0, 1) := dk_3 (dk_at dksX4_layRule_1 8 rfl rfl)
theorem dX4_layRule_33 : decode cX4_layRule 33 = .ok (.iadd, 1) := dk_96 (dk_at dksX4_layRule_1 9 rfl rfl)
theorem dX4_layRule_34 : decode cX4_layRule 34 = .ok (.iload_n 1, 1) := dk_27 (dk_at dksX4_layRule_1 10 rfl rfl)
theorem dX4_layRule_35 : decode cX4_layRule 35 = .ok (.iastore, 1) := dk_79 (dk_at dksX4_layRule_1 11 rfl rfl)
theorem dX4_layRule_36 : decode cX4_layRule 36 = .ok (.iload_n 2, 1) := dk_28 (dk_at dksX4_layRule_1 12 rfl rfl)
theorem dX4_layRule_37 : decode cX4_layRule 37 = .ok (.ifCond .ne 6, 3) := dk_154 0 6 (dk_at dksX4_layRule_1 13 rfl rfl)
theorem dX4_layRule_40 : decode cX4_layRule 40 = .ok (.goto 34, 3) := dk_167 0 34 (dk_at dksX4_layRule_1 16 rfl rfl)
theorem dX4_layRule_43 : decode cX4_layRule 43 = .ok (.aload_n 0, 1) := dk_42 (dk_at dksX4_layRule_1 19 rfl rfl)
theorem dX4_layRule_44 : decode cX4_layRule 44 = .ok (.getfield 38, 3) := dk_180 0 38 (dk_at dksX4_layRule_1 20 rfl rfl)
theorem dX4_layRule_47 : decode cX4_layRule 47 = .ok (.bipush 6, 2) := dk_16 6 (dk_at dksX4_layRule_2 0 rfl rfl)
theorem dX4_layRule_49 : decode cX4_layRule 49 = .ok (.iload_n 3, 1) := dk_29 (dk_at dksX4_layRule_2 2 rfl rfl)
theorem dX4_layRule_50 : decode cX4_layRule 50 = .ok (.imul, 1) := dk_104 (dk_at dksX4_layRule_2 3 rfl rfl)
theorem dX4_layRule_51 : decode cX4_layRule 51 = .ok (.iconst 2, 1) := dk_5 (dk_at dksX4_layRule_2 4 rfl rfl)
theorem dX4_layRule_52 : decode cX4_layRule 52 = .ok (.iadd, 1) := dk_96 (dk_at dksX4_layRule_2 5 rfl rfl)
theorem dX4_layRule_53 : decode cX4_layRule 53 = .ok (.iconst 0, 1) := dk_3 (dk_at dksX4_layRule_2 6 rfl rfl)
theorem dX4_layRule_54 : decode cX4_layRule 54 = .ok (.iastore, 1) := dk_79 (dk_at dksX4_layRule_2 7 rfl rfl)
theorem dX4_layRule_55 : decode cX4_layRule 55 = .ok (.aload_n 0, 1) := dk_42 (dk_at dksX4_layRule_2 8 rfl rfl)
theorem dX4_layRule_56 : decode cX4_layRule 56 = .ok (.getfield 38, 3) := dk_180 0 38 (dk_at dksX4_layRule_2 9 rfl rfl)
theorem dX4_layRule_59 : decode cX4_layRule 59 = .ok (.bipush 6, 2) := dk_16 6 (dk_at dksX4_layRule_2 12 rfl rfl)
theorem dX4_layRule_61 : decode cX4_layRule 61 = .ok (.iload_n 3, 1) := dk_29 (dk_at dksX4_layRule_2 14 rfl rfl)
theorem dX4_layRule_62 : decode cX4_layRule 62 = .ok (.imul, 1) := dk_104 (dk_at dksX4_layRule_2 15 rfl rfl)
theorem dX4_layRule_63 : decode cX4_layRule 63 = .ok (.iconst 3, 1) := dk_6 (dk_at dksX4_layRule_2 16 rfl rfl)
theorem dX4_layRule_64 : decode cX4_layRule 64 = .ok (.iadd, 1) := dk_96 (dk_at dksX4_layRule_2 17 rfl rfl)
theorem dX4_layRule_65 : decode cX4_layRule 65 = .ok (.aload_n 0, 1) := dk_42 (dk_at dksX4_layRule_2 18 rfl rfl)
theorem dX4_layRule_66 : decode cX4_layRule 66 = .ok (.getfield 20, 3) := dk_180 0 20 (dk_at dksX4_layRule_2 19 rfl rfl)
theorem dX4_layRule_69 : decode cX4_layRule 69 = .ok (.iconst 1, 1) := dk_4 (dk_at dksX4_layRule_2 22 rfl rfl)
theorem dX4_layRule_70 : decode cX4_layRule 70 = .ok (.iaload, 1) := dk_46 (dk_at dksX4_layRule_2 23 rfl rfl)
theorem dX4_layRule_71 : decode cX4_layRule 71 = .ok (.iconst 1, 1) := dk_4 (dk_at dksX4_layRule_3 0 rfl rfl)
theorem dX4_layRule_72 : decode cX4_layRule 72 = .ok (.isub, 1) := dk_100 (dk_at dksX4_layRule_3 1 rfl rfl)
theorem dX4_layRule_73 : decode cX4_layRule 73 = .ok (.iastore, 1) := dk_79 (dk_at dksX4_layRule_3 2 rfl rfl)
theorem dX4_layRule_74 : decode cX4_layRule 74 = .ok (.iinc 3 1, 3) := dk_132 3 1 (dk_at dksX4_layRule_3 3 rfl rfl)
theorem dX4_layRule_77 : decode cX4_layRule 77 = .ok (.goto (-61), 3) := dk_167 255 195 (dk_at dksX4_layRule_3 6 rfl rfl)
theorem dX4_layRule_80 : decode cX4_layRule 80 = .ok (.aload_n 0, 1) := dk_42 (dk_at dksX4_layRule_3 9 rfl rfl)
theorem dX4_layRule_81 : decode cX4_layRule 81 = .ok (.invokevirtual 359, 3) := dk_182 1 103 (dk_at dksX4_layRule_3 10 rfl rfl)
theorem dX4_layRule_84 : decode cX4_layRule 84 = .ok (.return_, 1) := dk_177 (dk_at dksX4_layRule_3 13 rfl rfl)
abbrev cX4_bestRule : ByteArray := prog_24_method_87_code
def yX4_bestRule : MethodName := ⟨RX4, "bestRule", "(Z)I"⟩
def dkwX4_bestRule_3 : List UInt8 := [21, 5, 62, 132, 4, 1, 167, 255, 205, 28, 172]
abbrev dktX4_bestRule_3 : List UInt8 := dkwX4_bestRule_3 ++ []
def dkwX4_bestRule_2 : List UInt8 := [167, 0, 9, 42, 3, 182, 1, 112, 116, 54, 5, 21, 5, 29, 161, 0, 6, 167, 0, 9, 21, 4, 61]
abbrev dktX4_bestRule_2 : List UInt8 := dkwX4_bestRule_2 ++ dktX4_bestRule_3
def dkwX4_bestRule_1 : List UInt8 := [54, 4, 21, 4, 8, 162, 0, 51, 42, 21, 4, 3, 182, 1, 115, 27, 153, 0, 11, 42, 7, 182, 1, 112]
abbrev dktX4_bestRule_1 : List UInt8 := dkwX4_bestRule_1 ++ dktX4_bestRule_2
def dkwX4_bestRule_0 : List UInt8 := [42, 182, 0, 165, 42, 180, 0, 178, 154, 0, 9, 42, 4, 182, 0, 168, 172, 3, 61, 19, 1, 41, 62, 3]
abbrev dktX4_bestRule_0 : List UInt8 := dkwX4_bestRule_0 ++ dktX4_bestRule_1
theorem dksX4_bestRule_0 : cX4_bestRule.data.toList.drop 0 = dktX4_bestRule_0 := by decide +kernel
theorem dksX4_bestRule_1 : cX4_bestRule.data.toList.drop 24 = dktX4_bestRule_1 := dk_seg dksX4_bestRule_0 24 rfl rfl
theorem dksX4_bestRule_2 : cX4_bestRule.data.toList.drop 48 = dktX4_bestRule_2 := dk_seg dksX4_bestRule_1 24 rfl rfl
theorem dksX4_bestRule_3 : cX4_bestRule.data.toList.drop 71 = dktX4_bestRule_3 := dk_seg dksX4_bestRule_2 23 rfl rfl
theorem dX4_bestRule_0 : decode cX4_bestRule 0 = .ok (.aload_n 0, 1) := dk_42 (dk_at dksX4_bestRule_0 0 rfl rfl)
theorem dX4_bestRule_1 : decode cX4_bestRule 1 = .ok (.invokevirtual 165, 3) := dk_182 0 165 (dk_at dksX4_bestRule_0 1 rfl rfl)
theorem dX4_bestRule_4 : decode cX4_bestRule 4 = .ok (.aload_n 0, 1) := dk_42 (dk_at dksX4_bestRule_0 4 rfl rfl)
theorem dX4_bestRule_5 : decode cX4_bestRule 5 = .ok (.getfield 178, 3) := dk_180 0 178 (dk_at dksX4_bestRule_0 5 rfl rfl)
theorem dX4_bestRule_8 : decode cX4_bestRule 8 = .ok (.ifCond .ne 9, 3) := dk_154 0 9 (dk_at dksX4_bestRule_0 8 rfl rfl)
theorem dX4_bestRule_11 : decode cX4_bestRule 11 = .ok (.aload_n 0, 1) := dk_42 (dk_at dksX4_bestRule_0 11 rfl rfl)
theorem dX4_bestRule_12 : decode cX4_bestRule 12 = .ok (.iconst 1, 1) := dk_4 (dk_at dksX4_bestRule_0 12 rfl rfl)
theorem dX4_bestRule_13 : decode cX4_bestRule 13 = .ok (.invokevirtual 168, 3) := dk_182 0 168 (dk_at dksX4_bestRule_0 13 rfl rfl)
theorem dX4_bestRule_16 : decode cX4_bestRule 16 = .ok (.ireturn, 1) := dk_172 (dk_at dksX4_bestRule_0 16 rfl rfl)
theorem dX4_bestRule_17 : decode cX4_bestRule 17 = .ok (.iconst 0, 1) := dk_3 (dk_at dksX4_bestRule_0 17 rfl rfl)
theorem dX4_bestRule_18 : decode cX4_bestRule 18 = .ok (.istore_n 2, 1) := dk_61 (dk_at dksX4_bestRule_0 18 rfl rfl)
theorem dX4_bestRule_19 : decode cX4_bestRule 19 = .ok (.ldc_w 297, 3) := dk_19 1 41 (dk_at dksX4_bestRule_0 19 rfl rfl)
theorem dX4_bestRule_22 : decode cX4_bestRule 22 = .ok (.istore_n 3, 1) := dk_62 (dk_at dksX4_bestRule_0 22 rfl rfl)
theorem dX4_bestRule_23 : decode cX4_bestRule 23 = .ok (.iconst 0, 1) := dk_3 (dk_at dksX4_bestRule_0 23 rfl rfl)
theorem dX4_bestRule_24 : decode cX4_bestRule 24 = .ok (.istore 4, 2) := dk_54 4 (dk_at dksX4_bestRule_1 0 rfl rfl)
theorem dX4_bestRule_26 : decode cX4_bestRule 26 = .ok (.iload 4, 2) := dk_21 4 (dk_at dksX4_bestRule_1 2 rfl rfl)
theorem dX4_bestRule_28 : decode cX4_bestRule 28 = .ok (.iconst 5, 1) := dk_8 (dk_at dksX4_bestRule_1 4 rfl rfl)
theorem dX4_bestRule_29 : decode cX4_bestRule 29 = .ok (.if_icmp .ge 51, 3) := dk_162 0 51 (dk_at dksX4_bestRule_1 5 rfl rfl)
theorem dX4_bestRule_32 : decode cX4_bestRule 32 = .ok (.aload_n 0, 1) := dk_42 (dk_at dksX4_bestRule_1 8 rfl rfl)
theorem dX4_bestRule_33 : decode cX4_bestRule 33 = .ok (.iload 4, 2) := dk_21 4 (dk_at dksX4_bestRule_1 9 rfl rfl)
theorem dX4_bestRule_35 : decode cX4_bestRule 35 = .ok (.iconst 0, 1) := dk_3 (dk_at dksX4_bestRule_1 11 rfl rfl)
theorem dX4_bestRule_36 : decode cX4_bestRule 36 = .ok (.invokevirtual 371, 3) := dk_182 1 115 (dk_at dksX4_bestRule_1 12 rfl rfl)
theorem dX4_bestRule_39 : decode cX4_bestRule 39 = .ok (.iload_n 1, 1) := dk_27 (dk_at dksX4_bestRule_1 15 rfl rfl)
theorem dX4_bestRule_40 : decode cX4_bestRule 40 = .ok (.ifCond .eq 11, 3) := dk_153 0 11 (dk_at dksX4_bestRule_1 16 rfl rfl)
theorem dX4_bestRule_43 : decode cX4_bestRule 43 = .ok (.aload_n 0, 1) := dk_42 (dk_at dksX4_bestRule_1 19 rfl rfl)
theorem dX4_bestRule_44 : decode cX4_bestRule 44 = .ok (.iconst 4, 1) := dk_7 (dk_at dksX4_bestRule_1 20 rfl rfl)
theorem dX4_bestRule_45 : decode cX4_bestRule 45 = .ok (.invokevirtual 368, 3) := dk_182 1 112 (dk_at dksX4_bestRule_1 21 rfl rfl)
theorem dX4_bestRule_48 : decode cX4_bestRule 48 = .ok (.goto 9, 3) := dk_167 0 9 (dk_at dksX4_bestRule_2 0 rfl rfl)
theorem dX4_bestRule_51 : decode cX4_bestRule 51 = .ok (.aload_n 0, 1) := dk_42 (dk_at dksX4_bestRule_2 3 rfl rfl)
theorem dX4_bestRule_52 : decode cX4_bestRule 52 = .ok (.iconst 0, 1) := dk_3 (dk_at dksX4_bestRule_2 4 rfl rfl)
theorem dX4_bestRule_53 : decode cX4_bestRule 53 = .ok (.invokevirtual 368, 3) := dk_182 1 112 (dk_at dksX4_bestRule_2 5 rfl rfl)
theorem dX4_bestRule_56 : decode cX4_bestRule 56 = .ok (.ineg, 1) := dk_116 (dk_at dksX4_bestRule_2 8 rfl rfl)
theorem dX4_bestRule_57 : decode cX4_bestRule 57 = .ok (.istore 5, 2) := dk_54 5 (dk_at dksX4_bestRule_2 9 rfl rfl)
theorem dX4_bestRule_59 : decode cX4_bestRule 59 = .ok (.iload 5, 2) := dk_21 5 (dk_at dksX4_bestRule_2 11 rfl rfl)
theorem dX4_bestRule_61 : decode cX4_bestRule 61 = .ok (.iload_n 3, 1) := dk_29 (dk_at dksX4_bestRule_2 13 rfl rfl)
theorem dX4_bestRule_62 : decode cX4_bestRule 62 = .ok (.if_icmp .lt 6, 3) := dk_161 0 6 (dk_at dksX4_bestRule_2 14 rfl rfl)
theorem dX4_bestRule_65 : decode cX4_bestRule 65 = .ok (.goto 9, 3) := dk_167 0 9 (dk_at dksX4_bestRule_2 17 rfl rfl)
theorem dX4_bestRule_68 : decode cX4_bestRule 68 = .ok (.iload 4, 2) := dk_21 4 (dk_at dksX4_bestRule_2 20 rfl rfl)
theorem dX4_bestRule_70 : decode cX4_bestRule 70 = .ok (.istore_n 2, 1) := dk_61 (dk_at dksX4_bestRule_2 22 rfl rfl)
theorem dX4_bestRule_71 : decode cX4_bestRule 71 = .ok (.iload 5, 2) := dk_21 5 (dk_at dksX4_bestRule_3 0 rfl rfl)
theorem dX4_bestRule_73 : decode cX4_bestRule 73 = .ok (.istore_n 3, 1) := dk_62 (dk_at dksX4_bestRule_3 2 rfl rfl)
theorem dX4_bestRule_74 : decode cX4_bestRule 74 = .ok (.iinc 4 1, 3) := dk_132 4 1 (dk_at dksX4_bestRule_3 3 rfl rfl)
theorem dX4_bestRule_77 : decode cX4_bestRule 77 = .ok (.goto (-51), 3) := dk_167 255 205 (dk_at dksX4_bestRule_3 6 rfl rfl)
theorem dX4_bestRule_80 : decode cX4_bestRule 80 = .ok (.iload_n 2, 1) := dk_28 (dk_at dksX4_bestRule_3 9 rfl rfl)
theorem dX4_bestRule_81 : decode cX4_bestRule 81 = .ok (.ireturn, 1) := dk_172 (dk_at dksX4_bestRule_3 10 rfl rfl)
abbrev cX4_hand : ByteArray := prog_24_method_88_code
def yX4_hand : MethodName := ⟨RX4, "hand", "()I"⟩
def dkwX4_hand_8 : List UInt8 := [132, 4, 1, 167, 255, 237, 42, 3, 182, 1, 112, 27, 100, 172]
abbrev dktX4_hand_8 : List UInt8 := dkwX4_hand_8 ++ []
def dkwX4_hand_7 : List UInt8 := [182, 1, 103, 3, 54, 4, 21, 4, 7, 162, 0, 19, 42, 180, 0, 26, 29, 21, 4, 96, 3, 79]
abbrev dktX4_hand_7 : List UInt8 := dkwX4_hand_7 ++ dktX4_hand_8
def dkwX4_hand_6 : List UInt8 := [21, 4, 96, 3, 79, 132, 4, 1, 167, 255, 237, 42, 89, 180, 1, 22, 4, 96, 181, 1, 22, 42]
abbrev dktX4_hand_6 : List UInt8 := dkwX4_hand_6 ++ dktX4_hand_7
def dkwX4_hand_5 : List UInt8 := [29, 42, 180, 0, 38, 28, 4, 96, 46, 79, 4, 54, 4, 21, 4, 7, 162, 0, 19, 42, 180, 0, 26, 29]
abbrev dktX4_hand_5 : List UInt8 := dkwX4_hand_5 ++ dktX4_hand_6
def dkwX4_hand_4 : List UInt8 := [79, 42, 180, 0, 38, 28, 8, 96, 4, 79, 16, 92, 7, 42, 180, 1, 22, 104, 96, 62, 42, 180, 0, 26]
abbrev dktX4_hand_4 : List UInt8 := dkwX4_hand_4 ++ dktX4_hand_5
def dkwX4_hand_3 : List UInt8 := [42, 180, 0, 38, 28, 6, 96, 42, 180, 0, 20, 4, 46, 4, 100, 79, 42, 180, 0, 38, 28, 7, 96, 4]
abbrev dktX4_hand_3 : List UInt8 := dkwX4_hand_3 ++ dktX4_hand_4
def dkwX4_hand_2 : List UInt8 := [180, 0, 38, 28, 4, 96, 42, 180, 0, 20, 4, 46, 5, 108, 79, 42, 180, 0, 38, 28, 5, 96, 3, 79]
abbrev dktX4_hand_2 : List UInt8 := dkwX4_hand_2 ++ dktX4_hand_3
def dkwX4_hand_1 : List UInt8 := [182, 1, 112, 60, 16, 6, 42, 180, 1, 22, 104, 61, 42, 180, 0, 38, 28, 3, 96, 6, 79, 42]
abbrev dktX4_hand_1 : List UInt8 := dkwX4_hand_1 ++ dktX4_hand_2
def dkwX4_hand_0 : List UInt8 := [42, 182, 0, 165, 42, 180, 0, 178, 154, 0, 10, 42, 16, 156, 182, 1, 119, 172, 42, 182, 1, 106, 42, 3]
abbrev dktX4_hand_0 : List UInt8 := dkwX4_hand_0 ++ dktX4_hand_1
theorem dksX4_hand_0 : cX4_hand.data.toList.drop 0 = dktX4_hand_0 := by decide +kernel
theorem dksX4_hand_1 : cX4_hand.data.toList.drop 24 = dktX4_hand_1 := dk_seg dksX4_hand_0 24 rfl rfl
theorem dksX4_hand_2 : cX4_hand.data.toList.drop 46 = dktX4_hand_2 := dk_seg dksX4_hand_1 22 rfl rfl
theorem dksX4_hand_3 : cX4_hand.data.toList.drop 70 = dktX4_hand_3 := dk_seg dksX4_hand_2 24 rfl rfl
theorem dksX4_hand_4 : cX4_hand.data.toList.drop 94 = dktX4_hand_4 := dk_seg dksX4_hand_3 24 rfl rfl
theorem dksX4_hand_5 : cX4_hand.data.toList.drop 118 = dktX4_hand_5 := dk_seg dksX4_hand_4 24 rfl rfl
theorem dksX4_hand_6 : cX4_hand.data.toList.drop 142 = dktX4_hand_6 := dk_seg dksX4_hand_5 24 rfl rfl
theorem dksX4_hand_7 : cX4_hand.data.toList.drop 164 = dktX4_hand_7 := dk_seg dksX4_hand_6 22 rfl rfl
theorem dksX4_hand_8 : cX4_hand.data.toList.drop 186 = dktX4_hand_8 := dk_seg dksX4_hand_7 22 rfl rfl
theorem dX4_hand_0 : decode cX4_hand 0 = .ok (.aload_n 0, 1) := dk_42 (dk_at dksX4_hand_0 0 rfl rfl)
theorem dX4_hand_1 : decode cX4_hand 1 = .ok (.invokevirtual 165, 3) := dk_182 0 165 (dk_at dksX4_hand_0 1 rfl rfl)
theorem dX4_hand_4 : decode cX4_hand 4 = .ok (.aload_n 0, 1) := dk_42 (dk_at dksX4_hand_0 4 rfl rfl)
theorem dX4_hand_5 : decode cX4_hand 5 = .ok (.getfield 178, 3) := dk_180 0 178 (dk_at dksX4_hand_0 5 rfl rfl)
theorem dX4_hand_8 : decode cX4_hand 8 = .ok (.ifCond .ne 10, 3) := dk_154 0 10 (dk_at dksX4_hand_0 8 rfl rfl)
theorem dX4_hand_11 : decode cX4_hand 11 = .ok (.aload_n 0, 1) := dk_42 (dk_at dksX4_hand_0 11 rfl rfl)
theorem dX4_hand_12 : decode cX4_hand 12 = .ok (.bipush (-100), 2) := dk_16 156 (dk_at dksX4_hand_0 12 rfl rfl)
theorem dX4_hand_14 : decode cX4_hand 14 = .ok (.invokevirtual 375, 3) := dk_182 1 119 (dk_at dksX4_hand_0 14 rfl rfl)
theorem dX4_hand_17 : decode cX4_hand 17 = .ok (.ireturn, 1) := dk_172 (dk_at dksX4_hand_0 17 rfl rfl)
theorem dX4_hand_18 : decode cX4_hand 18 = .ok (.aload_n 0, 1) := dk_42 (dk_at dksX4_hand_0 18 rfl rfl)
theorem dX4_hand_19 : decode cX4_hand 19 = .ok (.invokevirtual 362, 3) := dk_182 1 106 (dk_at dksX4_hand_0 19 rfl rfl)
theorem dX4_hand_22 : decode cX4_hand 22 = .ok (.aload_n 0, 1) := dk_42 (dk_at dksX4_hand_0 22 rfl rfl)
theorem dX4_hand_23 : decode cX4_hand 23 = .ok (.iconst 0, 1) := dk_3 (dk_at dksX4_hand_0 23 rfl rfl)
theorem dX4_hand_24 : decode cX4_hand 24 = .ok (.invokevirtual 368, 3) := dk_182 1 112 (dk_at dksX4_hand_1 0 rfl rfl)
theorem dX4_hand_27 : decode cX4_hand 27 = .ok (.istore_n 1, 1) := dk_60 (dk_at dksX4_hand_1 3 rfl rfl)
theorem dX4_hand_28 : decode cX4_hand 28 = .ok (.bipush 6, 2) := dk_16 6 (dk_at dksX4_hand_1 4 rfl rfl)
theorem dX4_hand_30 : decode cX4_hand 30 = .ok (.aload_n 0, 1) := dk_42 (dk_at dksX4_hand_1 6 rfl rfl)
theorem dX4_hand_31 : decode cX4_hand 31 = .ok (.getfield 278, 3) := dk_180 1 22 (dk_at dksX4_hand_1 7 rfl rfl)
theorem dX4_hand_34 : decode cX4_hand 34 = .ok (.imul, 1) := dk_104 (dk_at dksX4_hand_1 10 rfl rfl)
theorem dX4_hand_35 : decode cX4_hand 35 = .ok (.istore_n 2, 1) := dk_61 (dk_at dksX4_hand_1 11 rfl rfl)
theorem dX4_hand_36 : decode cX4_hand 36 = .ok (.aload_n 0, 1) := dk_42 (dk_at dksX4_hand_1 12 rfl rfl)
theorem dX4_hand_37 : decode cX4_hand 37 = .ok (.getfield 38, 3) := dk_180 0 38 (dk_at dksX4_hand_1 13 rfl rfl)
theorem dX4_hand_40 : decode cX4_hand 40 = .ok (.iload_n 2, 1) := dk_28 (dk_at dksX4_hand_1 16 rfl rfl)
theorem dX4_hand_41 : decode cX4_hand 41 = .ok (.iconst 0, 1) := dk_3 (dk_at dksX4_hand_1 17 rfl rfl)
theorem dX4_hand_42 : decode cX4_hand 42 = .ok (.iadd, 1) := dk_96 (dk_at dksX4_hand_1 18 rfl rfl)
theorem dX4_hand_43 : decode cX4_hand 43 = .ok (.iconst 3, 1) := dk_6 (dk_at dksX4_hand_1 19 rfl rfl)
theorem dX4_hand_44 : decode cX4_hand 44 = .ok (.iastore, 1) := dk_79 (dk_at dksX4_hand_1 20 rfl rfl)
theorem dX4_hand_45 : decode cX4_hand 45 = .ok (.aload_n 0, 1) := dk_42 (dk_at dksX4_hand_1 21 rfl rfl)
theorem dX4_hand_46 : decode cX4_hand 46 = .ok (.getfield 38, 3) := dk_180 0 38 (dk_at dksX4_hand_2 0 rfl rfl)
theorem dX4_hand_49 : decode cX4_hand 49 = .ok (.iload_n 2, 1) := dk_28 (dk_at dksX4_hand_2 3 rfl rfl)
theorem dX4_hand_50 : decode cX4_hand 50 = .ok (.iconst 1, 1) := dk_4 (dk_at dksX4_hand_2 4 rfl rfl)
theorem dX4_hand_51 : decode cX4_hand 51 = .ok (.iadd, 1) := dk_96 (dk_at dksX4_hand_2 5 rfl rfl)
theorem dX4_hand_52 : decode cX4_hand 52 = .ok (.aload_n 0, 1) := dk_42 (dk_at dksX4_hand_2 6 rfl rfl)
theorem dX4_hand_53 : decode cX4_hand 53 = .ok (.getfield 20, 3) := dk_180 0 20 (dk_at dksX4_hand_2 7 rfl rfl)
theorem dX4_hand_56 : decode cX4_hand 56 = .ok (.iconst 1, 1) := dk_4 (dk_at dksX4_hand_2 10 rfl rfl)
theorem dX4_hand_57 : decode cX4_hand 57 = .ok (.iaload, 1) := dk_46 (dk_at dksX4_hand_2 11 rfl rfl)
theorem dX4_hand_58 : decode cX4_hand 58 = .ok (.iconst 2, 1) := dk_5 (dk_at dksX4_hand_2 12 rfl rfl)
theorem dX4_hand_59 : decode cX4_hand 59 = .ok (.idiv, 1) := dk_108 (dk_at dksX4_hand_2 13 rfl rfl)
theorem dX4_hand_60 : decode cX4_hand 60 = .ok (.iastore, 1) := dk_79 (dk_at dksX4_hand_2 14 rfl rfl)
theorem dX4_hand_61 : decode cX4_hand 61 = .ok (.aload_n 0, 1) := dk_42 (dk_at dksX4_hand_2 15 rfl rfl)
theorem dX4_hand_62 : decode cX4_hand 62 = .ok (.getfield 38, 3) := dk_180 0 38 (dk_at dksX4_hand_2 16 rfl rfl)
theorem dX4_hand_65 : decode cX4_hand 65 = .ok (.iload_n 2, 1) := dk_28 (dk_at dksX4_hand_2 19 rfl rfl)
theorem dX4_hand_66 : decode cX4_hand 66 = .ok (.iconst 2, 1) := dk_5 (dk_at dksX4_hand_2 20 rfl rfl)
theorem dX4_hand_67 : decode cX4_hand 67 = .ok (.iadd, 1) := dk_96 (dk_at dksX4_hand_2 21 rfl rfl)
theorem dX4_hand_68 : decode cX4_hand 68 = .ok (.iconst 0, 1) := dk_3 (dk_at dksX4_hand_2 22 rfl rfl)
theorem dX4_hand_69 : decode cX4_hand 69 = .ok (.iastore, 1) := dk_79 (dk_at dksX4_hand_2 23 rfl rfl)
theorem dX4_hand_70 : decode cX4_hand 70 = .ok (.aload_n 0, 1) := dk_42 (dk_at dksX4_hand_3 0 rfl rfl)
theorem dX4_hand_71 : decode cX4_hand 71 = .ok (.getfield 38, 3) := dk_180 0 38 (dk_at dksX4_hand_3 1 rfl rfl)
theorem dX4_hand_74 : decode cX4_hand 74 = .ok (.iload_n 2, 1) := dk_28 (dk_at dksX4_hand_3 4 rfl rfl)
theorem dX4_hand_75 : decode cX4_hand 75 = .ok (.iconst 3, 1) := dk_6 (dk_at dksX4_hand_3 5 rfl rfl)
theorem dX4_hand_76 : decode cX4_hand 76 = .ok (.iadd, 1) := dk_96 (dk_at dksX4_hand_3 6 rfl rfl)
theorem dX4_hand_77 : decode cX4_hand 77 = .ok (.aload_n 0, 1) := dk_42 (dk_at dksX4_hand_3 7 rfl rfl)
theorem dX4_hand_78 : decode cX4_hand 78 = .ok (.getfield 20, 3) := dk_180 0 20 (dk_at dksX4_hand_3 8 rfl rfl)
theorem dX4_hand_81 : decode cX4_hand 81 = .ok (.iconst 1, 1) := dk_4 (dk_at dksX4_hand_3 11 rfl rfl)
theorem dX4_hand_82 : decode cX4_hand 82 = .ok (.iaload, 1) := dk_46 (dk_at dksX4_hand_3 12 rfl rfl)
theorem dX4_hand_83 : decode cX4_hand 83 = .ok (.iconst 1, 1) := dk_4 (dk_at dksX4_hand_3 13 rfl rfl)
theorem dX4_hand_84 : decode cX4_hand 84 = .ok (.isub, 1) := dk_100 (dk_at dksX4_hand_3 14 rfl rfl)
theorem dX4_hand_85 : decode cX4_hand 85 = .ok (.iastore, 1) := dk_79 (dk_at dksX4_hand_3 15 rfl rfl)
theorem dX4_hand_86 : decode cX4_hand 86 = .ok (.aload_n 0, 1) := dk_42 (dk_at dksX4_hand_3 16 rfl rfl)
theorem dX4_hand_87 : decode cX4_hand 87 = .ok (.getfield 38, 3) := dk_180 0 38 (dk_at dksX4_hand_3 17 rfl rfl)
theorem dX4_hand_90 : decode cX4_hand 90 = .ok (.iload_n 2, 1) := dk_28 (dk_at dksX4_hand_3 20 rfl rfl)
theorem dX4_hand_91 : decode cX4_hand 91 = .ok (.iconst 4, 1) := dk_7 (dk_at dksX4_hand_3 21 rfl rfl)
theorem dX4_hand_92 : decode cX4_hand 92 = .ok (.iadd, 1) := dk_96 (dk_at dksX4_hand_3 22 rfl rfl)
theorem dX4_hand_93 : decode cX4_hand 93 = .ok (.iconst 1, 1) := dk_4 (dk_at dksX4_hand_3 23 rfl rfl)
theorem dX4_hand_94 : decode cX4_hand 94 = .ok (.iastore, 1) := dk_79 (dk_at dksX4_hand_4 0 rfl rfl)
theorem dX4_hand_95 : decode cX4_hand 95 = .ok (.aload_n 0, 1) := dk_42 (dk_at dksX4_hand_4 1 rfl rfl)
theorem dX4_hand_96 : decode cX4_hand 96 = .ok (.getfield 38, 3) := dk_180 0 38 (dk_at dksX4_hand_4 2 rfl rfl)
theorem dX4_hand_99 : decode cX4_hand 99 = .ok (.iload_n 2, 1) := dk_28 (dk_at dksX4_hand_4 5 rfl rfl)
theorem dX4_hand_100 : decode cX4_hand 100 = .ok (.iconst 5, 1) := dk_8 (dk_at dksX4_hand_4 6 rfl rfl)
theorem dX4_hand_101 : decode cX4_hand 101 = .ok (.iadd, 1) := dk_96 (dk_at dksX4_hand_4 7 rfl rfl)
theorem dX4_hand_102 : decode cX4_hand 102 = .ok (.iconst 1, 1) := dk_4 (dk_at dksX4_hand_4 8 rfl rfl)
theorem dX4_hand_103 : decode cX4_hand 103 = .ok (.iastore, 1) := dk_79 (dk_at dksX4_hand_4 9 rfl rfl)
theorem dX4_hand_104 : decode cX4_hand 104 = .ok (.bipush 92, 2) := dk_16 92 (dk_at dksX4_hand_4 10 rfl rfl)
theorem dX4_hand_106 : decode cX4_hand 106 = .ok (.iconst 4, 1) := dk_7 (dk_at dksX4_hand_4 12 rfl rfl)
theorem dX4_hand_107 : decode cX4_hand 107 = .ok (.aload_n 0, 1) := dk_42 (dk_at dksX4_hand_4 13 rfl rfl)
theorem dX4_hand_108 : decode cX4_hand 108 = .ok (.getfield 278, 3) := dk_180 1 22 (dk_at dksX4_hand_4 14 rfl rfl)
theorem dX4_hand_111 : decode cX4_hand 111 = .ok (.imul, 1) := dk_104 (dk_at dksX4_hand_4 17 rfl rfl)
theorem dX4_hand_112 : decode cX4_hand 112 = .ok (.iadd, 1) := dk_96 (dk_at dksX4_hand_4 18 rfl rfl)
theorem dX4_hand_113 : decode cX4_hand 113 = .ok (.istore_n 3, 1) := dk_62 (dk_at dksX4_hand_4 19 rfl rfl)
theorem dX4_hand_114 : decode cX4_hand 114 = .ok (.aload_n 0, 1) := dk_42 (dk_at dksX4_hand_4 20 rfl rfl)
theorem dX4_hand_115 : decode cX4_hand 115 = .ok (.getfield 26, 3) := dk_180 0 26 (dk_at dksX4_hand_4 21 rfl rfl)
theorem dX4_hand_118 : decode cX4_hand 118 = .ok (.iload_n 3, 1) := dk_29 (dk_at dksX4_hand_5 0 rfl rfl)
theorem dX4_hand_119 : decode cX4_hand 119 = .ok (.aload_n 0, 1) := dk_42 (dk_at dksX4_hand_5 1 rfl rfl)
theorem dX4_hand_120 : decode cX4_hand 120 = .ok (.getfield 38, 3) := dk_180 0 38 (dk_at dksX4_hand_5 2 rfl rfl)
theorem dX4_hand_123 : decode cX4_hand 123 = .ok (.iload_n 2, 1) := dk_28 (dk_at dksX4_hand_5 5 rfl rfl)
theorem dX4_hand_124 : decode cX4_hand 124 = .ok (.iconst 1, 1) := dk_4 (dk_at dksX4_hand_5 6 rfl rfl)
theorem dX4_hand_125 : decode cX4_hand 125 = .ok (.iadd, 1) := dk_96 (dk_at dksX4_hand_5 7 rfl rfl)
theorem dX4_hand_126 : decode cX4_hand 126 = .ok (.iaload, 1) := dk_46 (dk_at dksX4_hand_5 8 rfl rfl)
theorem dX4_hand_127 : decode cX4_hand 127 = .ok (.iastore, 1) := dk_79 (dk_at dksX4_hand_5 9 rfl rfl)
theorem dX4_hand_128 : decode cX4_hand 128 = .ok (.iconst 1, 1) := dk_4 (dk_at dksX4_hand_5 10 rfl rfl)
theorem dX4_hand_129 : decode cX4_hand 129 = .ok (.istore 4, 2) := dk_54 4 (dk_at dksX4_hand_5 11 rfl rfl)
theorem dX4_hand_131 : decode cX4_hand 131 = .ok (.iload 4, 2) := dk_21 4 (dk_at dksX4_hand_5 13 rfl rfl)
theorem dX4_hand_133 : decode cX4_hand 133 = .ok (.iconst 4, 1) := dk_7 (dk_at dksX4_hand_5 15 rfl rfl)
theorem dX4_hand_134 : decode cX4_hand 134 = .ok (.if_icmp .ge 19, 3) := dk_162 0 19 (dk_at dksX4_hand_5 16 rfl rfl)
theorem dX4_hand_137 : decode cX4_hand 137 = .ok (.aload_n 0, 1) := dk_42 (dk_at dksX4_hand_5 19 rfl rfl)
theorem dX4_hand_138 : decode cX4_hand 138 = .ok (.getfield 26, 3) := dk_180 0 26 (dk_at dksX4_hand_5 20 rfl rfl)
theorem dX4_hand_141 : decode cX4_hand 141 = .ok (.iload_n 3, 1) := dk_29 (dk_at dksX4_hand_5 23 rfl rfl)
theorem dX4_hand_142 : decode cX4_hand 142 = .ok (.iload 4, 2) := dk_21 4 (dk_at dksX4_hand_6 0 rfl rfl)
theorem dX4_hand_144 : decode cX4_hand 144 = .ok (.iadd, 1) := dk_96 (dk_at dksX4_hand_6 2 rfl rfl)
theorem dX4_hand_145 : decode cX4_hand 145 = .ok (.iconst 0, 1) := dk_3 (dk_at dksX4_hand_6 3 rfl rfl)
theorem dX4_hand_146 : decode cX4_hand 146 = .ok (.iastore, 1) := dk_79 (dk_at dksX4_hand_6 4 rfl rfl)
theorem dX4_hand_147 : decode cX4_hand 147 = .ok (.iinc 4 1, 3) := dk_132 4 1 (dk_at dksX4_hand_6 5 rfl rfl)
theorem dX4_hand_150 : decode cX4_hand 150 = .ok (.goto (-19), 3) := dk_167 255 237 (dk_at dksX4_hand_6 8 rfl rfl)
theorem dX4_hand_153 : decode cX4_hand 153 = .ok (.aload_n 0, 1) := dk_42 (dk_at dksX4_hand_6 11 rfl rfl)
theorem dX4_hand_154 : decode cX4_hand 154 = .ok (.dup, 1) := dk_89 (dk_at dksX4_hand_6 12 rfl rfl)
theorem dX4_hand_155 : decode cX4_hand 155 = .ok (.getfield 278, 3) := dk_180 1 22 (dk_at dksX4_hand_6 13 rfl rfl)
theorem dX4_hand_158 : decode cX4_hand 158 = .ok (.iconst 1, 1) := dk_4 (dk_at dksX4_hand_6 16 rfl rfl)
theorem dX4_hand_159 : decode cX4_hand 159 = .ok (.iadd, 1) := dk_96 (dk_at dksX4_hand_6 17 rfl rfl)
theorem dX4_hand_160 : decode cX4_hand 160 = .ok (.putfield 278, 3) := dk_181 1 22 (dk_at dksX4_hand_6 18 rfl rfl)
theorem dX4_hand_163 : decode cX4_hand 163 = .ok (.aload_n 0, 1) := dk_42 (dk_at dksX4_hand_6 21 rfl rfl)
theorem dX4_hand_164 : decode cX4_hand 164 = .ok (.invokevirtual 359, 3) := dk_182 1 103 (dk_at dksX4_hand_7 0 rfl rfl)
theorem dX4_hand_167 : decode cX4_hand 167 = .ok (.iconst 0, 1) := dk_3 (dk_at dksX4_hand_7 3 rfl rfl)
theorem dX4_hand_168 : decode cX4_hand 168 = .ok (.istore 4, 2) := dk_54 4 (dk_at dksX4_hand_7 4 rfl rfl)
theorem dX4_hand_170 : decode cX4_hand 170 = .ok (.iload 4, 2) := dk_21 4 (dk_at dksX4_hand_7 6 rfl rfl)
theorem dX4_hand_172 : decode cX4_hand 172 = .ok (.iconst 4, 1) := dk_7 (dk_at dksX4_hand_7 8 rfl rfl)
theorem dX4_hand_173 : decode cX4_hand 173 = .ok (.if_icmp .ge 19, 3) := dk_162 0 19 (dk_at dksX4_hand_7 9 rfl rfl)
theorem dX4_hand_176 : decode cX4_hand 176 = .ok (.aload_n 0, 1) := dk_42 (dk_at dksX4_hand_7 12 rfl rfl)
theorem dX4_hand_177 : decode cX4_hand 177 = .ok (.getfield 26, 3) := dk_180 0 26 (dk_at dksX4_hand_7 13 rfl rfl)
theorem dX4_hand_180 : decode cX4_hand 180 = .ok (.iload_n 3, 1) := dk_29 (dk_at dksX4_hand_7 16 rfl rfl)
theorem dX4_hand_181 : decode cX4_hand 181 = .ok (.iload 4, 2) := dk_21 4 (dk_at dksX4_hand_7 17 rfl rfl)
theorem dX4_hand_183 : decode cX4_hand 183 = .ok (.iadd, 1) := dk_96 (dk_at dksX4_hand_7 19 rfl rfl)
theorem dX4_hand_184 : decode cX4_hand 184 = .ok (.iconst 0, 1) := dk_3 (dk_at dksX4_hand_7 20 rfl rfl)
theorem dX4_hand_185 : decode cX4_hand 185 = .ok (.iastore, 1) := dk_79 (dk_at dksX4_hand_7 21 rfl rfl)
theorem dX4_hand_186 : decode cX4_hand 186 = .ok (.iinc 4 1, 3) := dk_132 4 1 (dk_at dksX4_hand_8 0 rfl rfl)
theorem dX4_hand_189 : decode cX4_hand 189 = .ok (.goto (-19), 3) := dk_167 255 237 (dk_at dksX4_hand_8 3 rfl rfl)
theorem dX4_hand_192 : decode cX4_hand 192 = .ok (.aload_n 0, 1) := dk_42 (dk_at dksX4_hand_8 6 rfl rfl)
theorem dX4_hand_193 : decode cX4_hand 193 = .ok (.iconst 0, 1) := dk_3 (dk_at dksX4_hand_8 7 rfl rfl)
theorem dX4_hand_194 : decode cX4_hand 194 = .ok (.invokevirtual 368, 3) := dk_182 1 112 (dk_at dksX4_hand_8 8 rfl rfl)
theorem dX4_hand_197 : decode cX4_hand 197 = .ok (.iload_n 1, 1) := dk_27 (dk_at dksX4_hand_8 11 rfl rfl)
theorem dX4_hand_198 : decode cX4_hand 198 = .ok (.isub, 1) := dk_100 (dk_at dksX4_hand_8 12 rfl rfl)
theorem dX4_hand_199 : decode cX4_hand 199 = .ok (.ireturn, 1) := dk_172 (dk_at dksX4_hand_8 13 rfl rfl)
abbrev cX4_noLess : ByteArray := prog_24_method_5_code
def yX4_noLess : MethodName := ⟨RX4, "noLess", "(I)I"⟩
def dkwX4_noLess_0 : List UInt8 := [42, 4, 181, 0, 63, 27, 172]
abbrev dktX4_noLess_0 : List UInt8 := dkwX4_noLess_0 ++ []
theorem dksX4_noLess_0 : cX4_noLess.data.toList.drop 0 = dktX4_noLess_0 := by decide +kernel
theorem dX4_noLess_0 : decode cX4_noLess 0 = .ok (.aload_n 0, 1) := dk_42 (dk_at dksX4_noLess_0 0 rfl rfl)
theorem dX4_noLess_1 : decode cX4_noLess 1 = .ok (.iconst 1, 1) := dk_4 (dk_at dksX4_noLess_0 1 rfl rfl)
theorem dX4_noLess_2 : decode cX4_noLess 2 = .ok (.putfield 63, 3) := dk_181 0 63 (dk_at dksX4_noLess_0 2 rfl rfl)
theorem dX4_noLess_5 : decode cX4_noLess 5 = .ok (.iload_n 1, 1) := dk_27 (dk_at dksX4_noLess_0 5 rfl rfl)
theorem dX4_noLess_6 : decode cX4_noLess 6 = .ok (.ireturn, 1) := dk_172 (dk_at dksX4_noLess_0 6 rfl rfl)
abbrev cX4_beforehand : ByteArray := prog_24_method_90_code
def yX4_beforehand : MethodName := ⟨RX4, "beforehand", "(I)I"⟩
def dkwX4_beforehand_4 : List UInt8 := [182, 1, 112, 100, 172]
abbrev dktX4_beforehand_4 : List UInt8 := dkwX4_beforehand_4 ++ []
def dkwX4_beforehand_3 : List UInt8 := [16, 7, 27, 104, 16, 6, 96, 42, 27, 5, 182, 1, 25, 4, 96, 79, 42, 182, 1, 103, 28, 42, 6]
abbrev dktX4_beforehand_3 : List UInt8 := dkwX4_beforehand_3 ++ dktX4_beforehand_4
def dkwX4_beforehand_2 : List UInt8 := [42, 8, 181, 0, 63, 17, 252, 24, 172, 42, 182, 1, 106, 42, 6, 182, 1, 112, 61, 42, 180, 0, 41]
abbrev dktX4_beforehand_2 : List UInt8 := dkwX4_beforehand_2 ++ dktX4_beforehand_3
def dkwX4_beforehand_1 : List UInt8 := [182, 1, 122, 154, 0, 21, 42, 180, 0, 20, 16, 41, 16, 7, 27, 104, 96, 16, 6, 96, 46, 158, 0, 12]
abbrev dktX4_beforehand_1 : List UInt8 := dkwX4_beforehand_1 ++ dktX4_beforehand_2
def dkwX4_beforehand_0 : List UInt8 := [42, 182, 0, 165, 42, 27, 182, 1, 90, 154, 0, 11, 42, 17, 252, 24, 182, 1, 119, 172, 42, 27]
abbrev dktX4_beforehand_0 : List UInt8 := dkwX4_beforehand_0 ++ dktX4_beforehand_1
theorem dksX4_beforehand_0 : cX4_beforehand.data.toList.drop 0 = dktX4_beforehand_0 := by decide +kernel
theorem dksX4_beforehand_1 : cX4_beforehand.data.toList.drop 22 = dktX4_beforehand_1 := dk_seg dksX4_beforehand_0 22 rfl rfl
theorem dksX4_beforehand_2 : cX4_beforehand.data.toList.drop 46 = dktX4_beforehand_2 := dk_seg dksX4_beforehand_1 24 rfl rfl
theorem dksX4_beforehand_3 : cX4_beforehand.data.toList.drop 69 = dktX4_beforehand_3 := dk_seg dksX4_beforehand_2 23 rfl rfl
theorem dksX4_beforehand_4 : cX4_beforehand.data.toList.drop 92 = dktX4_beforehand_4 := dk_seg dksX4_beforehand_3 23 rfl rfl
theorem dX4_beforehand_0 : decode cX4_beforehand 0 = .ok (.aload_n 0, 1) := dk_42 (dk_at dksX4_beforehand_0 0 rfl rfl)
theorem dX4_beforehand_1 : decode cX4_beforehand 1 = .ok (.invokevirtual 165, 3) := dk_182 0 165 (dk_at dksX4_beforehand_0 1 rfl rfl)
theorem dX4_beforehand_4 : decode cX4_beforehand 4 = .ok (.aload_n 0, 1) := dk_42 (dk_at dksX4_beforehand_0 4 rfl rfl)
theorem dX4_beforehand_5 : decode cX4_beforehand 5 = .ok (.iload_n 1, 1) := dk_27 (dk_at dksX4_beforehand_0 5 rfl rfl)
theorem dX4_beforehand_6 : decode cX4_beforehand 6 = .ok (.invokevirtual 346, 3) := dk_182 1 90 (dk_at dksX4_beforehand_0 6 rfl rfl)
theorem dX4_beforehand_9 : decode cX4_beforehand 9 = .ok (.ifCond .ne 11, 3) := dk_154 0 11 (dk_at dksX4_beforehand_0 9 rfl rfl)
theorem dX4_beforehand_12 : decode cX4_beforehand 12 = .ok (.aload_n 0, 1) := dk_42 (dk_at dksX4_beforehand_0 12 rfl rfl)
theorem dX4_beforehand_13 : decode cX4_beforehand 13 = .ok (.sipush (-1000), 3) := dk_17 252 24 (dk_at dksX4_beforehand_0 13 rfl rfl)
theorem dX4_beforehand_16 : decode cX4_beforehand 16 = .ok (.invokevirtual 375, 3) := dk_182 1 119 (dk_at dksX4_beforehand_0 16 rfl rfl)
theorem dX4_beforehand_19 : decode cX4_beforehand 19 = .ok (.ireturn, 1) := dk_172 (dk_at dksX4_beforehand_0 19 rfl rfl)
theorem dX4_beforehand_20 : decode cX4_beforehand 20 = .ok (.aload_n 0, 1) := dk_42 (dk_at dksX4_beforehand_0 20 rfl rfl)
theorem dX4_beforehand_21 : decode cX4_beforehand 21 = .ok (.iload_n 1, 1) := dk_27 (dk_at dksX4_beforehand_0 21 rfl rfl)
theorem dX4_beforehand_22 : decode cX4_beforehand 22 = .ok (.invokevirtual 378, 3) := dk_182 1 122 (dk_at dksX4_beforehand_1 0 rfl rfl)
theorem dX4_beforehand_25 : decode cX4_beforehand 25 = .ok (.ifCond .ne 21, 3) := dk_154 0 21 (dk_at dksX4_beforehand_1 3 rfl rfl)
theorem dX4_beforehand_28 : decode cX4_beforehand 28 = .ok (.aload_n 0, 1) := dk_42 (dk_at dksX4_beforehand_1 6 rfl rfl)
theorem dX4_beforehand_29 : decode cX4_beforehand 29 = .ok (.getfield 20, 3) := dk_180 0 20 (dk_at dksX4_beforehand_1 7 rfl rfl)
theorem dX4_beforehand_32 : decode cX4_beforehand 32 = .ok (.bipush 41, 2) := dk_16 41 (dk_at dksX4_beforehand_1 10 rfl rfl)
theorem dX4_beforehand_34 : decode cX4_beforehand 34 = .ok (.bipush 7, 2) := dk_16 7 (dk_at dksX4_beforehand_1 12 rfl rfl)
theorem dX4_beforehand_36 : decode cX4_beforehand 36 = .ok (.iload_n 1, 1) := dk_27 (dk_at dksX4_beforehand_1 14 rfl rfl)
theorem dX4_beforehand_37 : decode cX4_beforehand 37 = .ok (.imul, 1) := dk_104 (dk_at dksX4_beforehand_1 15 rfl rfl)
theorem dX4_beforehand_38 : decode cX4_beforehand 38 = .ok (.iadd, 1) := dk_96 (dk_at dksX4_beforehand_1 16 rfl rfl)
theorem dX4_beforehand_39 : decode cX4_beforehand 39 = .ok (.bipush 6, 2) := dk_16 6 (dk_at dksX4_beforehand_1 17 rfl rfl)
theorem dX4_beforehand_41 : decode cX4_beforehand 41 = .ok (.iadd, 1) := dk_96 (dk_at dksX4_beforehand_1 19 rfl rfl)
theorem dX4_beforehand_42 : decode cX4_beforehand 42 = .ok (.iaload, 1) := dk_46 (dk_at dksX4_beforehand_1 20 rfl rfl)
theorem dX4_beforehand_43 : decode cX4_beforehand 43 = .ok (.ifCond .le 12, 3) := dk_158 0 12 (dk_at dksX4_beforehand_1 21 rfl rfl)
theorem dX4_beforehand_46 : decode cX4_beforehand 46 = .ok (.aload_n 0, 1) := dk_42 (dk_at dksX4_beforehand_2 0 rfl rfl)
theorem dX4_beforehand_47 : decode cX4_beforehand 47 = .ok (.iconst 5, 1) := dk_8 (dk_at dksX4_beforehand_2 1 rfl rfl)
theorem dX4_beforehand_48 : decode cX4_beforehand 48 = .ok (.putfield 63, 3) := dk_181 0 63 (dk_at dksX4_beforehand_2 2 rfl rfl)
theorem dX4_beforehand_51 : decode cX4_beforehand 51 = .ok (.sipush (-1000), 3) := dk_17 252 24 (dk_at dksX4_beforehand_2 5 rfl rfl)
theorem dX4_beforehand_54 : decode cX4_beforehand 54 = .ok (.ireturn, 1) := dk_172 (dk_at dksX4_beforehand_2 8 rfl rfl)
theorem dX4_beforehand_55 : decode cX4_beforehand 55 = .ok (.aload_n 0, 1) := dk_42 (dk_at dksX4_beforehand_2 9 rfl rfl)
theorem dX4_beforehand_56 : decode cX4_beforehand 56 = .ok (.invokevirtual 362, 3) := dk_182 1 106 (dk_at dksX4_beforehand_2 10 rfl rfl)
theorem dX4_beforehand_59 : decode cX4_beforehand 59 = .ok (.aload_n 0, 1) := dk_42 (dk_at dksX4_beforehand_2 13 rfl rfl)
theorem dX4_beforehand_60 : decode cX4_beforehand 60 = .ok (.iconst 3, 1) := dk_6 (dk_at dksX4_beforehand_2 14 rfl rfl)
theorem dX4_beforehand_61 : decode cX4_beforehand 61 = .ok (.invokevirtual 368, 3) := dk_182 1 112 (dk_at dksX4_beforehand_2 15 rfl rfl)
theorem dX4_beforehand_64 : decode cX4_beforehand 64 = .ok (.istore_n 2, 1) := dk_61 (dk_at dksX4_beforehand_2 18 rfl rfl)
theorem dX4_beforehand_65 : decode cX4_beforehand 65 = .ok (.aload_n 0, 1) := dk_42 (dk_at dksX4_beforehand_2 19 rfl rfl)
theorem dX4_beforehand_66 : decode cX4_beforehand 66 = .ok (.getfield 41, 3) := dk_180 0 41 (dk_at dksX4_beforehand_2 20 rfl rfl)
theorem dX4_beforehand_69 : decode cX4_beforehand 69 = .ok (.bipush 7, 2) := dk_16 7 (dk_at dksX4_beforehand_3 0 rfl rfl)
theorem dX4_beforehand_71 : decode cX4_beforehand 71 = .ok (.iload_n 1, 1) := dk_27 (dk_at dksX4_beforehand_3 2 rfl rfl)
theorem dX4_beforehand_72 : decode cX4_beforehand 72 = .ok (.imul, 1) := dk_104 (dk_at dksX4_beforehand_3 3 rfl rfl)
theorem dX4_beforehand_73 : decode cX4_beforehand 73 = .ok (.bipush 6, 2) := dk_16 6 (dk_at dksX4_beforehand_3 4 rfl rfl)
theorem dX4_beforehand_75 : decode cX4_beforehand 75 = .ok (.iadd, 1) := dk_96 (dk_at dksX4_beforehand_3 6 rfl rfl)
theorem dX4_beforehand_76 : decode cX4_beforehand 76 = .ok (.aload_n 0, 1) := dk_42 (dk_at dksX4_beforehand_3 7 rfl rfl)
theorem dX4_beforehand_77 : decode cX4_beforehand 77 = .ok (.iload_n 1, 1) := dk_27 (dk_at dksX4_beforehand_3 8 rfl rfl)
theorem dX4_beforehand_78 : decode cX4_beforehand 78 = .ok (.iconst 2, 1) := dk_5 (dk_at dksX4_beforehand_3 9 rfl rfl)
theorem dX4_beforehand_79 : decode cX4_beforehand 79 = .ok (.invokevirtual 281, 3) := dk_182 1 25 (dk_at dksX4_beforehand_3 10 rfl rfl)
theorem dX4_beforehand_82 : decode cX4_beforehand 82 = .ok (.iconst 1, 1) := dk_4 (dk_at dksX4_beforehand_3 13 rfl rfl)
theorem dX4_beforehand_83 : decode cX4_beforehand 83 = .ok (.iadd, 1) := dk_96 (dk_at dksX4_beforehand_3 14 rfl rfl)
theorem dX4_beforehand_84 : decode cX4_beforehand 84 = .ok (.iastore, 1) := dk_79 (dk_at dksX4_beforehand_3 15 rfl rfl)
theorem dX4_beforehand_85 : decode cX4_beforehand 85 = .ok (.aload_n 0, 1) := dk_42 (dk_at dksX4_beforehand_3 16 rfl rfl)
theorem dX4_beforehand_86 : decode cX4_beforehand 86 = .ok (.invokevirtual 359, 3) := dk_182 1 103 (dk_at dksX4_beforehand_3 17 rfl rfl)
theorem dX4_beforehand_89 : decode cX4_beforehand 89 = .ok (.iload_n 2, 1) := dk_28 (dk_at dksX4_beforehand_3 20 rfl rfl)
theorem dX4_beforehand_90 : decode cX4_beforehand 90 = .ok (.aload_n 0, 1) := dk_42 (dk_at dksX4_beforehand_3 21 rfl rfl)
theorem dX4_beforehand_91 : decode cX4_beforehand 91 = .ok (.iconst 3, 1) := dk_6 (dk_at dksX4_beforehand_3 22 rfl rfl)
theorem dX4_beforehand_92 : decode cX4_beforehand 92 = .ok (.invokevirtual 368, 3) := dk_182 1 112 (dk_at dksX4_beforehand_4 0 rfl rfl)
theorem dX4_beforehand_95 : decode cX4_beforehand 95 = .ok (.isub, 1) := dk_100 (dk_at dksX4_beforehand_4 3 rfl rfl)
theorem dX4_beforehand_96 : decode cX4_beforehand 96 = .ok (.ireturn, 1) := dk_172 (dk_at dksX4_beforehand_4 4 rfl rfl)
abbrev cX4_hasCome : ByteArray := prog_24_method_89_code
def yX4_hasCome : MethodName := ⟨RX4, "hasCome", "(I)Z"⟩
def dkwX4_hasCome_0 : List UInt8 := [42, 180, 0, 26, 27, 3, 184, 1, 31, 153, 0, 7, 4, 167, 0, 4, 3, 172]
abbrev dktX4_hasCome_0 : List UInt8 := dkwX4_hasCome_0 ++ []
theorem dksX4_hasCome_0 : cX4_hasCome.data.toList.drop 0 = dktX4_hasCome_0 := by decide +kernel
theorem dX4_hasCome_0 : decode cX4_hasCome 0 = .ok (.aload_n 0, 1) := dk_42 (dk_at dksX4_hasCome_0 0 rfl rfl)
theorem dX4_hasCome_1 : decode cX4_hasCome 1 = .ok (.getfield 26, 3) := dk_180 0 26 (dk_at dksX4_hasCome_0 1 rfl rfl)
theorem dX4_hasCome_4 : decode cX4_hasCome 4 = .ok (.iload_n 1, 1) := dk_27 (dk_at dksX4_hasCome_0 4 rfl rfl)
theorem dX4_hasCome_5 : decode cX4_hasCome 5 = .ok (.iconst 0, 1) := dk_3 (dk_at dksX4_hasCome_0 5 rfl rfl)
theorem dX4_hasCome_6 : decode cX4_hasCome 6 = .ok (.invokestatic 287, 3) := dk_184 1 31 (dk_at dksX4_hasCome_0 6 rfl rfl)
theorem dX4_hasCome_9 : decode cX4_hasCome 9 = .ok (.ifCond .eq 7, 3) := dk_153 0 7 (dk_at dksX4_hasCome_0 9 rfl rfl)
theorem dX4_hasCome_12 : decode cX4_hasCome 12 = .ok (.iconst 1, 1) := dk_4 (dk_at dksX4_hasCome_0 12 rfl rfl)
theorem dX4_hasCome_13 : decode cX4_hasCome 13 = .ok (.goto 4, 3) := dk_167 0 4 (dk_at dksX4_hasCome_0 13 rfl rfl)
theorem dX4_hasCome_16 : decode cX4_hasCome 16 = .ok (.iconst 0, 1) := dk_3 (dk_at dksX4_hasCome_0 16 rfl rfl)
theorem dX4_hasCome_17 : decode cX4_hasCome 17 = .ok (.ireturn, 1) := dk_172 (dk_at dksX4_hasCome_0 17 rfl rfl)
abbrev cX4_bestPlace : ByteArray := prog_24_method_92_code
def yX4_bestPlace : MethodName := ⟨RX4, "bestPlace", "(I)I"⟩
def dkwX4_bestPlace_5 : List UInt8 := [54, 5, 132, 6, 1, 167, 255, 209, 42, 180, 0, 26, 28, 29, 79, 21, 4, 172]
abbrev dktX4_bestPlace_5 : List UInt8 := dkwX4_bestPlace_5 ++ []
def dkwX4_bestPlace_4 : List UInt8 := [42, 27, 182, 1, 125, 54, 7, 21, 7, 21, 5, 161, 0, 6, 167, 0, 11, 21, 6, 54, 4, 21, 7]
abbrev dktX4_bestPlace_4 : List UInt8 := dkwX4_bestPlace_4 ++ dktX4_bestPlace_5
def dkwX4_bestPlace_3 : List UInt8 := [54, 5, 3, 54, 6, 21, 6, 42, 180, 0, 20, 4, 46, 162, 0, 42, 42, 180, 0, 26, 28, 21, 6, 79]
abbrev dktX4_bestPlace_3 : List UInt8 := dkwX4_bestPlace_3 ++ dktX4_bestPlace_4
def dkwX4_bestPlace_2 : List UInt8 := [16, 12, 16, 8, 27, 104, 96, 4, 96, 61, 42, 180, 0, 26, 28, 46, 62, 16, 254, 54, 4, 19, 1, 41]
abbrev dktX4_bestPlace_2 : List UInt8 := dkwX4_bestPlace_2 ++ dktX4_bestPlace_3
def dkwX4_bestPlace_1 : List UInt8 := [153, 0, 9, 42, 8, 182, 0, 168, 172, 42, 182, 0, 187, 42, 42, 180, 0, 20, 5, 46, 181, 1, 63]
abbrev dktX4_bestPlace_1 : List UInt8 := dkwX4_bestPlace_1 ++ dktX4_bestPlace_2
def dkwX4_bestPlace_0 : List UInt8 := [42, 182, 0, 165, 42, 27, 182, 1, 90, 154, 0, 9, 42, 4, 182, 0, 168, 172, 42, 27, 182, 1, 122]
abbrev dktX4_bestPlace_0 : List UInt8 := dkwX4_bestPlace_0 ++ dktX4_bestPlace_1
theorem dksX4_bestPlace_0 : cX4_bestPlace.data.toList.drop 0 = dktX4_bestPlace_0 := by decide +kernel
theorem dksX4_bestPlace_1 : cX4_bestPlace.data.toList.drop 23 = dktX4_bestPlace_1 := dk_seg dksX4_bestPlace_0 23 rfl rfl
theorem dksX4_bestPlace_2 : cX4_bestPlace.data.toList.drop 46 = dktX4_bestPlace_2 := dk_seg dksX4_bestPlace_1 23 rfl rfl
theorem dksX4_bestPlace_3 : cX4_bestPlace.data.toList.drop 70 = dktX4_bestPlace_3 := dk_seg dksX4_bestPlace_2 24 rfl rfl
theorem dksX4_bestPlace_4 : cX4_bestPlace.data.toList.drop 94 = dktX4_bestPlace_4 := dk_seg dksX4_bestPlace_3 24 rfl rfl
theorem dksX4_bestPlace_5 : cX4_bestPlace.data.toList.drop 117 = dktX4_bestPlace_5 := dk_seg dksX4_bestPlace_4 23 rfl rfl
theorem dX4_bestPlace_0 : decode cX4_bestPlace 0 = .ok (.aload_n 0, 1) := dk_42 (dk_at dksX4_bestPlace_0 0 rfl rfl)
theorem dX4_bestPlace_1 : decode cX4_bestPlace 1 = .ok (.invokevirtual 165, 3) := dk_182 0 165 (dk_at dksX4_bestPlace_0 1 rfl rfl)
theorem dX4_bestPlace_4 : decode cX4_bestPlace 4 = .ok (.aload_n 0, 1) := dk_42 (dk_at dksX4_bestPlace_0 4 rfl rfl)
theorem dX4_bestPlace_5 : decode cX4_bestPlace 5 = .ok (.iload_n 1, 1) := dk_27 (dk_at dksX4_bestPlace_0 5 rfl rfl)
theorem dX4_bestPlace_6 : decode cX4_bestPlace 6 = .ok (.invokevirtual 346, 3) := dk_182 1 90 (dk_at dksX4_bestPlace_0 6 rfl rfl)
theorem dX4_bestPlace_9 : decode cX4_bestPlace 9 = .ok (.ifCond .ne 9, 3) := dk_154 0 9 (dk_at dksX4_bestPlace_0 9 rfl rfl)
theorem dX4_bestPlace_12 : decode cX4_bestPlace 12 = .ok (.aload_n 0, 1) := dk_42 (dk_at dksX4_bestPlace_0 12 rfl rfl)
theorem dX4_bestPlace_13 : decode cX4_bestPlace 13 = .ok (.iconst 1, 1) := dk_4 (dk_at dksX4_bestPlace_0 13 rfl rfl)
theorem dX4_bestPlace_14 : decode cX4_bestPlace 14 = .ok (.invokevirtual 168, 3) := dk_182 0 168 (dk_at dksX4_bestPlace_0 14 rfl rfl)
theorem dX4_bestPlace_17 : decode cX4_bestPlace 17 = .ok (.ireturn, 1) := dk_172 (dk_at dksX4_bestPlace_0 17 rfl rfl)
theorem dX4_bestPlace_18 : decode cX4_bestPlace 18 = .ok (.aload_n 0, 1) := dk_42 (dk_at dksX4_bestPlace_0 18 rfl rfl)
theorem dX4_bestPlace_19 : decode cX4_bestPlace 19 = .ok (.iload_n 1, 1) := dk_27 (dk_at dksX4_bestPlace_0 19 rfl rfl)
theorem dX4_bestPlace_20 : decode cX4_bestPlace 20 = .ok (.invokevirtual 378, 3) := dk_182 1 122 (dk_at dksX4_bestPlace_0 20 rfl rfl)
theorem dX4_bestPlace_23 : decode cX4_bestPlace 23 = .ok (.ifCond .eq 9, 3) := dk_153 0 9 (dk_at dksX4_bestPlace_1 0 rfl rfl)
theorem dX4_bestPlace_26 : decode cX4_bestPlace 26 = .ok (.aload_n 0, 1) := dk_42 (dk_at dksX4_bestPlace_1 3 rfl rfl)
theorem dX4_bestPlace_27 : decode cX4_bestPlace 27 = .ok (.iconst 5, 1) := dk_8 (dk_at dksX4_bestPlace_1 4 rfl rfl)
theorem dX4_bestPlace_28 : decode cX4_bestPlace 28 = .ok (.invokevirtual 168, 3) := dk_182 0 168 (dk_at dksX4_bestPlace_1 5 rfl rfl)
theorem dX4_bestPlace_31 : decode cX4_bestPlace 31 = .ok (.ireturn, 1) := dk_172 (dk_at dksX4_bestPlace_1 8 rfl rfl)
theorem dX4_bestPlace_32 : decode cX4_bestPlace 32 = .ok (.aload_n 0, 1) := dk_42 (dk_at dksX4_bestPlace_1 9 rfl rfl)
theorem dX4_bestPlace_33 : decode cX4_bestPlace 33 = .ok (.invokevirtual 187, 3) := dk_182 0 187 (dk_at dksX4_bestPlace_1 10 rfl rfl)
theorem dX4_bestPlace_36 : decode cX4_bestPlace 36 = .ok (.aload_n 0, 1) := dk_42 (dk_at dksX4_bestPlace_1 13 rfl rfl)
theorem dX4_bestPlace_37 : decode cX4_bestPlace 37 = .ok (.aload_n 0, 1) := dk_42 (dk_at dksX4_bestPlace_1 14 rfl rfl)
theorem dX4_bestPlace_38 : decode cX4_bestPlace 38 = .ok (.getfield 20, 3) := dk_180 0 20 (dk_at dksX4_bestPlace_1 15 rfl rfl)
theorem dX4_bestPlace_41 : decode cX4_bestPlace 41 = .ok (.iconst 2, 1) := dk_5 (dk_at dksX4_bestPlace_1 18 rfl rfl)
theorem dX4_bestPlace_42 : decode cX4_bestPlace 42 = .ok (.iaload, 1) := dk_46 (dk_at dksX4_bestPlace_1 19 rfl rfl)
theorem dX4_bestPlace_43 : decode cX4_bestPlace 43 = .ok (.putfield 319, 3) := dk_181 1 63 (dk_at dksX4_bestPlace_1 20 rfl rfl)
theorem dX4_bestPlace_46 : decode cX4_bestPlace 46 = .ok (.bipush 12, 2) := dk_16 12 (dk_at dksX4_bestPlace_2 0 rfl rfl)
theorem dX4_bestPlace_48 : decode cX4_bestPlace 48 = .ok (.bipush 8, 2) := dk_16 8 (dk_at dksX4_bestPlace_2 2 rfl rfl)
theorem dX4_bestPlace_50 : decode cX4_bestPlace 50 = .ok (.iload_n 1, 1) := dk_27 (dk_at dksX4_bestPlace_2 4 rfl rfl)
theorem dX4_bestPlace_51 : decode cX4_bestPlace 51 = .ok (.imul, 1) := dk_104 (dk_at dksX4_bestPlace_2 5 rfl rfl)
theorem dX4_bestPlace_52 : decode cX4_bestPlace 52 = .ok (.iadd, 1) := dk_96 (dk_at dksX4_bestPlace_2 6 rfl rfl)
theorem dX4_bestPlace_53 : decode cX4_bestPlace 53 = .ok (.iconst 1, 1) := dk_4 (dk_at dksX4_bestPlace_2 7 rfl rfl)
theorem dX4_bestPlace_54 : decode cX4_bestPlace 54 = .ok (.iadd, 1) := dk_96 (dk_at dksX4_bestPlace_2 8 rfl rfl)
theorem dX4_bestPlace_55 : decode cX4_bestPlace 55 = .ok (.istore_n 2, 1) := dk_61 (dk_at dksX4_bestPlace_2 9 rfl rfl)
theorem dX4_bestPlace_56 : decode cX4_bestPlace 56 = .ok (.aload_n 0, 1) := dk_42 (dk_at dksX4_bestPlace_2 10 rfl rfl)
theorem dX4_bestPlace_57 : decode cX4_bestPlace 57 = .ok (.getfield 26, 3) := dk_180 0 26 (dk_at dksX4_bestPlace_2 11 rfl rfl)
theorem dX4_bestPlace_60 : decode cX4_bestPlace 60 = .ok (.iload_n 2, 1) := dk_28 (dk_at dksX4_bestPlace_2 14 rfl rfl)
theorem dX4_bestPlace_61 : decode cX4_bestPlace 61 = .ok (.iaload, 1) := dk_46 (dk_at dksX4_bestPlace_2 15 rfl rfl)
theorem dX4_bestPlace_62 : decode cX4_bestPlace 62 = .ok (.istore_n 3, 1) := dk_62 (dk_at dksX4_bestPlace_2 16 rfl rfl)
theorem dX4_bestPlace_63 : decode cX4_bestPlace 63 = .ok (.bipush (-2), 2) := dk_16 254 (dk_at dksX4_bestPlace_2 17 rfl rfl)
theorem dX4_bestPlace_65 : decode cX4_bestPlace 65 = .ok (.istore 4, 2) := dk_54 4 (dk_at dksX4_bestPlace_2 19 rfl rfl)
theorem dX4_bestPlace_67 : decode cX4_bestPlace 67 = .ok (.ldc_w 297, 3) := dk_19 1 41 (dk_at dksX4_bestPlace_2 21 rfl rfl)
theorem dX4_bestPlace_70 : decode cX4_bestPlace 70 = .ok (.istore 5, 2) := dk_54 5 (dk_at dksX4_bestPlace_3 0 rfl rfl)
theorem dX4_bestPlace_72 : decode cX4_bestPlace 72 = .ok (.iconst 0, 1) := dk_3 (dk_at dksX4_bestPlace_3 2 rfl rfl)
theorem dX4_bestPlace_73 : decode cX4_bestPlace 73 = .ok (.istore 6, 2) := dk_54 6 (dk_at dksX4_bestPlace_3 3 rfl rfl)
theorem dX4_bestPlace_75 : decode cX4_bestPlace 75 = .ok (.iload 6, 2) := dk_21 6 (dk_at dksX4_bestPlace_3 5 rfl rfl)
theorem dX4_bestPlace_77 : decode cX4_bestPlace 77 = .ok (.aload_n 0, 1) := dk_42 (dk_at dksX4_bestPlace_3 7 rfl rfl)
theorem dX4_bestPlace_78 : decode cX4_bestPlace 78 = .ok (.getfield 20, 3) := dk_180 0 20 (dk_at dksX4_bestPlace_3 8 rfl rfl)
theorem dX4_bestPlace_81 : decode cX4_bestPlace 81 = .ok (.iconst 1, 1) := dk_4 (dk_at dksX4_bestPlace_3 11 rfl rfl)
theorem dX4_bestPlace_82 : decode cX4_bestPlace 82 = .ok (.iaload, 1) := dk_46 (dk_at dksX4_bestPlace_3 12 rfl rfl)
theorem dX4_bestPlace_83 : decode cX4_bestPlace 83 = .ok (.if_icmp .ge 42, 3) := dk_162 0 42 (dk_at dksX4_bestPlace_3 13 rfl rfl)
theorem dX4_bestPlace_86 : decode cX4_bestPlace 86 = .ok (.aload_n 0, 1) := dk_42 (dk_at dksX4_bestPlace_3 16 rfl rfl)
theorem dX4_bestPlace_87 : decode cX4_bestPlace 87 = .ok (.getfield 26, 3) := dk_180 0 26 (dk_at dksX4_bestPlace_3 17 rfl rfl)
theorem dX4_bestPlace_90 : decode cX4_bestPlace 90 = .ok (.iload_n 2, 1) := dk_28 (dk_at dksX4_bestPlace_3 20 rfl rfl)
theorem dX4_bestPlace_91 : decode cX4_bestPlace 91 = .ok (.iload 6, 2) := dk_21 6 (dk_at dksX4_bestPlace_3 21 rfl rfl)
theorem dX4_bestPlace_93 : decode cX4_bestPlace 93 = .ok (.iastore, 1) := dk_79 (dk_at dksX4_bestPlace_3 23 rfl rfl)
theorem dX4_bestPlace_94 : decode cX4_bestPlace 94 = .ok (.aload_n 0, 1) := dk_42 (dk_at dksX4_bestPlace_4 0 rfl rfl)
theorem dX4_bestPlace_95 : decode cX4_bestPlace 95 = .ok (.iload_n 1, 1) := dk_27 (dk_at dksX4_bestPlace_4 1 rfl rfl)
theorem dX4_bestPlace_96 : decode cX4_bestPlace 96 = .ok (.invokevirtual 381, 3) := dk_182 1 125 (dk_at dksX4_bestPlace_4 2 rfl rfl)
theorem dX4_bestPlace_99 : decode cX4_bestPlace 99 = .ok (.istore 7, 2) := dk_54 7 (dk_at dksX4_bestPlace_4 5 rfl rfl)
theorem dX4_bestPlace_101 : decode cX4_bestPlace 101 = .ok (.iload 7, 2) := dk_21 7 (dk_at dksX4_bestPlace_4 7 rfl rfl)
theorem dX4_bestPlace_103 : decode cX4_bestPlace 103 = .ok (.iload 5, 2) := dk_21 5 (dk_at dksX4_bestPlace_4 9 rfl rfl)
theorem dX4_bestPlace_105 : decode cX4_bestPlace 105 = .ok (.if_icmp .lt 6, 3) := dk_161 0 6 (dk_at dksX4_bestPlace_4 11 rfl rfl)
theorem dX4_bestPlace_108 : decode cX4_bestPlace 108 = .ok (.goto 11, 3) := dk_167 0 11 (dk_at dksX4_bestPlace_4 14 rfl rfl)
theorem dX4_bestPlace_111 : decode cX4_bestPlace 111 = .ok (.iload 6, 2) := dk_21 6 (dk_at dksX4_bestPlace_4 17 rfl rfl)
theorem dX4_bestPlace_113 : decode cX4_bestPlace 113 = .ok (.istore 4, 2) := dk_54 4 (dk_at dksX4_bestPlace_4 19 rfl rfl)
theorem dX4_bestPlace_115 : decode cX4_bestPlace 115 = .ok (.iload 7, 2) := dk_21 7 (dk_at dksX4_bestPlace_4 21 rfl rfl)
theorem dX4_bestPlace_117 : decode cX4_bestPlace 117 = .ok (.istore 5, 2) := dk_54 5 (dk_at dksX4_bestPlace_5 0 rfl rfl)
theorem dX4_bestPlace_119 : decode cX4_bestPlace 119 = .ok (.iinc 6 1, 3) := dk_132 6 1 (dk_at dksX4_bestPlace_5 2 rfl rfl)
theorem dX4_bestPlace_122 : decode cX4_bestPlace 122 = .ok (.goto (-47), 3) := dk_167 255 209 (dk_at dksX4_bestPlace_5 5 rfl rfl)
theorem dX4_bestPlace_125 : decode cX4_bestPlace 125 = .ok (.aload_n 0, 1) := dk_42 (dk_at dksX4_bestPlace_5 8 rfl rfl)
theorem dX4_bestPlace_126 : decode cX4_bestPlace 126 = .ok (.getfield 26, 3) := dk_180 0 26 (dk_at dksX4_bestPlace_5 9 rfl rfl)
theorem dX4_bestPlace_129 : decode cX4_bestPlace 129 = .ok (.iload_n 2, 1) := dk_28 (dk_at dksX4_bestPlace_5 12 rfl rfl)
theorem dX4_bestPlace_130 : decode cX4_bestPlace 130 = .ok (.iload_n 3, 1) := dk_29 (dk_at dksX4_bestPlace_5 13 rfl rfl)
theorem dX4_bestPlace_131 : decode cX4_bestPlace 131 = .ok (.iastore, 1) := dk_79 (dk_at dksX4_bestPlace_5 14 rfl rfl)
theorem dX4_bestPlace_132 : decode cX4_bestPlace 132 = .ok (.iload 4, 2) := dk_21 4 (dk_at dksX4_bestPlace_5 15 rfl rfl)
theorem dX4_bestPlace_134 : decode cX4_bestPlace 134 = .ok (.ireturn, 1) := dk_172 (dk_at dksX4_bestPlace_5 17 rfl rfl)
abbrev cX4_waitIfHas : ByteArray := prog_24_method_91_code
def yX4_waitIfHas : MethodName := ⟨RX4, "waitIfHas", "(I)I"⟩
def dkwX4_waitIfHas_1 : List UInt8 := [172]
abbrev dktX4_waitIfHas_1 : List UInt8 := dkwX4_waitIfHas_1 ++ []
def dkwX4_waitIfHas_0 : List UInt8 := [42, 182, 1, 103, 42, 27, 182, 1, 68, 5, 162, 0, 11, 42, 27, 182, 1, 81, 167, 0, 6, 19, 1, 41]
abbrev dktX4_waitIfHas_0 : List UInt8 := dkwX4_waitIfHas_0 ++ dktX4_waitIfHas_1
theorem dksX4_waitIfHas_0 : cX4_waitIfHas.data.toList.drop 0 = dktX4_waitIfHas_0 := by decide +kernel
theorem dksX4_waitIfHas_1 : cX4_waitIfHas.data.toList.drop 24 = dktX4_waitIfHas_1 := dk_seg dksX4_waitIfHas_0 24 rfl rfl
theorem dX4_waitIfHas_0 : decode cX4_waitIfHas 0 = .ok (.aload_n 0, 1) := dk_42 (dk_at dksX4_waitIfHas_0 0 rfl rfl)
theorem dX4_waitIfHas_1 : decode cX4_waitIfHas 1 = .ok (.invokevirtual 359, 3) := dk_182 1 103 (dk_at dksX4_waitIfHas_0 1 rfl rfl)
theorem dX4_waitIfHas_4 : decode cX4_waitIfHas 4 = .ok (.aload_n 0, 1) := dk_42 (dk_at dksX4_waitIfHas_0 4 rfl rfl)
theorem dX4_waitIfHas_5 : decode cX4_waitIfHas 5 = .ok (.iload_n 1, 1) := dk_27 (dk_at dksX4_waitIfHas_0 5 rfl rfl)
theorem dX4_waitIfHas_6 : decode cX4_waitIfHas 6 = .ok (.invokevirtual 324, 3) := dk_182 1 68 (dk_at dksX4_waitIfHas_0 6 rfl rfl)
theorem dX4_waitIfHas_9 : decode cX4_waitIfHas 9 = .ok (.iconst 2, 1) := dk_5 (dk_at dksX4_waitIfHas_0 9 rfl rfl)
theorem dX4_waitIfHas_10 : decode cX4_waitIfHas 10 = .ok (.if_icmp .ge 11, 3) := dk_162 0 11 (dk_at dksX4_waitIfHas_0 10 rfl rfl)
theorem dX4_waitIfHas_13 : decode cX4_waitIfHas 13 = .ok (.aload_n 0, 1) := dk_42 (dk_at dksX4_waitIfHas_0 13 rfl rfl)
theorem dX4_waitIfHas_14 : decode cX4_waitIfHas 14 = .ok (.iload_n 1, 1) := dk_27 (dk_at dksX4_waitIfHas_0 14 rfl rfl)
theorem dX4_waitIfHas_15 : decode cX4_waitIfHas 15 = .ok (.invokevirtual 337, 3) := dk_182 1 81 (dk_at dksX4_waitIfHas_0 15 rfl rfl)
theorem dX4_waitIfHas_18 : decode cX4_waitIfHas 18 = .ok (.goto 6, 3) := dk_167 0 6 (dk_at dksX4_waitIfHas_0 18 rfl rfl)
theorem dX4_waitIfHas_21 : decode cX4_waitIfHas 21 = .ok (.ldc_w 297, 3) := dk_19 1 41 (dk_at dksX4_waitIfHas_0 21 rfl rfl)
theorem dX4_waitIfHas_24 : decode cX4_waitIfHas 24 = .ok (.ireturn, 1) := dk_172 (dk_at dksX4_waitIfHas_1 0 rfl rfl)
abbrev cX4_bestManner : ByteArray := prog_24_method_94_code
def yX4_bestManner : MethodName := ⟨RX4, "bestManne\x72", "(I)I"⟩
def dkwX4_bestManner_5 : List UInt8 := [54, 4, 21, 7, 54, 5, 132, 6, 1, 167, 255, 204, 42, 180, 0, 26, 28, 29, 79, 21, 4, 172]
abbrev dktX4_bestManner_5 : List UInt8 := dkwX4_bestManner_5 ++ []
def dkwX4_bestManner_4 : List UInt8 := [27, 182, 1, 28, 79, 42, 27, 182, 1, 125, 54, 7, 21, 7, 21, 5, 161, 0, 6, 167, 0, 11, 21, 6]
abbrev dktX4_bestManner_4 : List UInt8 := dkwX4_bestManner_4 ++ dktX4_bestManner_5
def dkwX4_bestManner_3 : List UInt8 := [54, 5, 3, 54, 6, 21, 6, 7, 162, 0, 52, 42, 27, 21, 6, 182, 1, 128, 42, 180, 0, 26, 28, 42]
abbrev dktX4_bestManner_3 : List UInt8 := dkwX4_bestManner_3 ++ dktX4_bestManner_4
def dkwX4_bestManner_2 : List UInt8 := [16, 12, 16, 8, 27, 104, 96, 6, 96, 61, 42, 180, 0, 26, 28, 46, 62, 16, 254, 54, 4, 19, 1, 41]
abbrev dktX4_bestManner_2 : List UInt8 := dkwX4_bestManner_2 ++ dktX4_bestManner_3
def dkwX4_bestManner_1 : List UInt8 := [153, 0, 9, 42, 8, 182, 0, 168, 172, 42, 182, 0, 187, 42, 42, 180, 0, 20, 5, 46, 181, 1, 63]
abbrev dktX4_bestManner_1 : List UInt8 := dkwX4_bestManner_1 ++ dktX4_bestManner_2
def dkwX4_bestManner_0 : List UInt8 := [42, 182, 0, 165, 42, 27, 182, 1, 90, 154, 0, 9, 42, 4, 182, 0, 168, 172, 42, 27, 182, 1, 122]
abbrev dktX4_bestManner_0 : List UInt8 := dkwX4_bestManner_0 ++ dktX4_bestManner_1
theorem dksX4_bestManner_0 : cX4_bestManner.data.toList.drop 0 = dktX4_bestManner_0 := by decide +kernel
theorem dksX4_bestManner_1 : cX4_bestManner.data.toList.drop 23 = dktX4_bestManner_1 := dk_seg dksX4_bestManner_0 23 rfl rfl
theorem dksX4_bestManner_2 : cX4_bestManner.data.toList.drop 46 = dktX4_bestManner_2 := dk_seg dksX4_bestManner_1 23 rfl rfl
theorem dksX4_bestManner_3 : cX4_bestManner.data.toList.drop 70 = dktX4_bestManner_3 := dk_seg dksX4_bestManner_2 24 rfl rfl
theorem dksX4_bestManner_4 : cX4_bestManner.data.toList.drop 94 = dktX4_bestManner_4 := dk_seg dksX4_bestManner_3 24 rfl rfl
theorem dksX4_bestManner_5 : cX4_bestManner.data.toList.drop 118 = dktX4_bestManner_5 := dk_seg dksX4_bestManner_4 24 rfl rfl
theorem dX4_bestManner_0 : decode cX4_bestManner 0 = .ok (.aload_n 0, 1) := dk_42 (dk_at dksX4_bestManner_0 0 rfl rfl)
theorem dX4_bestManner_1 : decode cX4_bestManner 1 = .ok (.invokevirtual 165, 3) := dk_182 0 165 (dk_at dksX4_bestManner_0 1 rfl rfl)
theorem dX4_bestManner_4 : decode cX4_bestManner 4 = .ok (.aload_n 0, 1) := dk_42 (dk_at dksX4_bestManner_0 4 rfl rfl)
theorem dX4_bestManner_5 : decode cX4_bestManner 5 = .ok (.iload_n 1, 1) := dk_27 (dk_at dksX4_bestManner_0 5 rfl rfl)
theorem dX4_bestManner_6 : decode cX4_bestManner 6 = .ok (.invokevirtual 346, 3) := dk_182 1 90 (dk_at dksX4_bestManner_0 6 rfl rfl)
theorem dX4_bestManner_9 : decode cX4_bestManner 9 = .ok (.ifCond .ne 9, 3) := dk_154 0 9 (dk_at dksX4_bestManner_0 9 rfl rfl)
theorem dX4_bestManner_12 : decode cX4_bestManner 12 = .ok (.aload_n 0, 1) := dk_42 (dk_at dksX4_bestManner_0 12 rfl rfl)
theorem dX4_bestManner_13 : decode cX4_bestManner 13 = .ok (.iconst 1, 1) := dk_4 (dk_at dksX4_bestManner_0 13 rfl rfl)
theorem dX4_bestManner_14 : decode cX4_bestManner 14 = .ok (.invokevirtual 168, 3) := dk_182 0 168 (dk_at dksX4_bestManner_0 14 rfl rfl)
theorem dX4_bestManner_17 : decode cX4_bestManner 17 = .ok (.ireturn, 1) := dk_172 (dk_at dksX4_bestManner_0 17 rfl rfl)
theorem dX4_bestManner_18 : decode cX4_bestManner 18 = .ok (.aload_n 0, 1) := dk_42 (dk_at dksX4_bestManner_0 18 rfl rfl)
theorem dX4_bestManner_19 : decode cX4_bestManner 19 = .ok (.iload_n 1, 1) := dk_27 (dk_at dksX4_bestManner_0 19 rfl rfl)
theorem dX4_bestManner_20 : decode cX4_bestManner 20 = .ok (.invokevirtual 378, 3) := dk_182 1 122 (dk_at dksX4_bestManner_0 20 rfl rfl)
theorem dX4_bestManner_23 : decode cX4_bestManner 23 = .ok (.ifCond .eq 9, 3) := dk_153 0 9 (dk_at dksX4_bestManner_1 0 rfl rfl)
theorem dX4_bestManner_26 : decode cX4_bestManner 26 = .ok (.aload_n 0, 1) := dk_42 (dk_at dksX4_bestManner_1 3 rfl rfl)
theorem dX4_bestManner_27 : decode cX4_bestManner 27 = .ok (.iconst 5, 1) := dk_8 (dk_at dksX4_bestManner_1 4 rfl rfl)
theorem dX4_bestManner_28 : decode cX4_bestManner 28 = .ok (.invokevirtual 168, 3) := dk_182 0 168 (dk_at dksX4_bestManner_1 5 rfl rfl)
theorem dX4_bestManner_31 : decode cX4_bestManner 31 = .ok (.ireturn, 1) := dk_172 (dk_at dksX4_bestManner_1 8 rfl rfl)
theorem dX4_bestManner_32 : decode cX4_bestManner 32 = .ok (.aload_n 0, 1) := dk_42 (dk_at dksX4_bestManner_1 9 rfl rfl)
theorem dX4_bestManner_33 : decode cX4_bestManner 33 = .ok (.invokevirtual 187, 3) := dk_182 0 187 (dk_at dksX4_bestManner_1 10 rfl rfl)
theorem dX4_bestManner_36 : decode cX4_bestManner 36 = .ok (.aload_n 0, 1) := dk_42 (dk_at dksX4_bestManner_1 13 rfl rfl)
theorem dX4_bestManner_37 : decode cX4_bestManner 37 = .ok (.aload_n 0, 1) := dk_42 (dk_at dksX4_bestManner_1 14 rfl rfl)
theorem dX4_bestManner_38 : decode cX4_bestManner 38 = .ok (.getfield 20, 3) := dk_180 0 20 (dk_at dksX4_bestManner_1 15 rfl rfl)
theorem dX4_bestManner_41 : decode cX4_bestManner 41 = .ok (.iconst 2, 1) := dk_5 (dk_at dksX4_bestManner_1 18 rfl rfl)
theorem dX4_bestManner_42 : decode cX4_bestManner 42 = .ok (.iaload, 1) := dk_46 (dk_at dksX4_bestManner_1 19 rfl rfl)
theorem dX4_bestManner_43 : decode cX4_bestManner 43 = .ok (.putfield 319, 3) := dk_181 1 63 (dk_at dksX4_bestManner_1 20 rfl rfl)
theorem dX4_bestManner_46 : decode cX4_bestManner 46 = .ok (.bipush 12, 2) := dk_16 12 (dk_at dksX4_bestManner_2 0 rfl rfl)
theorem dX4_bestManner_48 : decode cX4_bestManner 48 = .ok (.bipush 8, 2) := dk_16 8 (dk_at dksX4_bestManner_2 2 rfl rfl)
theorem dX4_bestManner_50 : decode cX4_bestManner 50 = .ok (.iload_n 1, 1) := dk_27 (dk_at dksX4_bestManner_2 4 rfl rfl)
theorem dX4_bestManner_51 : decode cX4_bestManner 51 = .ok (.imul, 1) := dk_104 (dk_at dksX4_bestManner_2 5 rfl rfl)
theorem dX4_bestManner_52 : decode cX4_bestManner 52 = .ok (.iadd, 1) := dk_96 (dk_at dksX4_bestManner_2 6 rfl rfl)
theorem dX4_bestManner_53 : decode cX4_bestManner 53 = .ok (.iconst 3, 1) := dk_6 (dk_at dksX4_bestManner_2 7 rfl rfl)
theorem dX4_bestManner_54 : decode cX4_bestManner 54 = .ok (.iadd, 1) := dk_96 (dk_at dksX4_bestManner_2 8 rfl rfl)
theorem dX4_bestManner_55 : decode cX4_bestManner 55 = .ok (.istore_n 2, 1) := dk_61 (dk_at dksX4_bestManner_2 9 rfl rfl)
theorem dX4_bestManner_56 : decode cX4_bestManner 56 = .ok (.aload_n 0, 1) := dk_42 (dk_at dksX4_bestManner_2 10 rfl rfl)
theorem dX4_bestManner_57 : decode cX4_bestManner 57 = .ok (.getfield 26, 3) := dk_180 0 26 (dk_at dksX4_bestManner_2 11 rfl rfl)
theorem dX4_bestManner_60 : decode cX4_bestManner 60 = .ok (.iload_n 2, 1) := dk_28 (dk_at dksX4_bestManner_2 14 rfl rfl)
theorem dX4_bestManner_61 : decode cX4_bestManner 61 = .ok (.iaload, 1) := dk_46 (dk_at dksX4_bestManner_2 15 rfl rfl)
theorem dX4_bestManner_62 : decode cX4_bestManner 62 = .ok (.istore_n 3, 1) := dk_62 (dk_at dksX4_bestManner_2 16 rfl rfl)
theorem dX4_bestManner_63 : decode cX4_bestManner 63 = .ok (.bipush (-2), 2) := dk_16 254 (dk_at dksX4_bestManner_2 17 rfl rfl)
theorem dX4_bestManner_65 : decode cX4_bestManner 65 = .ok (.istore 4, 2) := dk_54 4 (dk_at dksX4_bestManner_2 19 rfl rfl)
theorem dX4_bestManner_67 : decode cX4_bestManner 67 = .ok (.ldc_w 297, 3) := dk_19 1 41 (dk_at dksX4_bestManner_2 21 rfl rfl)
theorem dX4_bestManner_70 : decode cX4_bestManner 70 = .ok (.istore 5, 2) := dk_54 5 (dk_at dksX4_bestManner_3 0 rfl rfl)
theorem dX4_bestManner_72 : decode cX4_bestManner 72 = .ok (.iconst 0, 1) := dk_3 (dk_at dksX4_bestManner_3 2 rfl rfl)
theorem dX4_bestManner_73 : decode cX4_bestManner 73 = .ok (.istore 6, 2) := dk_54 6 (dk_at dksX4_bestManner_3 3 rfl rfl)
theorem dX4_bestManner_75 : decode cX4_bestManner 75 = .ok (.iload 6, 2) := dk_21 6 (dk_at dksX4_bestManner_3 5 rfl rfl)
theorem dX4_bestManner_77 : decode cX4_bestManner 77 = .ok (.iconst 4, 1) := dk_7 (dk_at dksX4_bestManner_3 7 rfl rfl)
theorem dX4_bestManner_78 : decode cX4_bestManner 78 = .ok (.if_icmp .ge 52, 3) := dk_162 0 52 (dk_at dksX4_bestManner_3 8 rfl rfl)
theorem dX4_bestManner_81 : decode cX4_bestManner 81 = .ok (.aload_n 0, 1) := dk_42 (dk_at dksX4_bestManner_3 11 rfl rfl)
theorem dX4_bestManner_82 : decode cX4_bestManner 82 = .ok (.iload_n 1, 1) := dk_27 (dk_at dksX4_bestManner_3 12 rfl rfl)
theorem dX4_bestManner_83 : decode cX4_bestManner 83 = .ok (.iload 6, 2) := dk_21 6 (dk_at dksX4_bestManner_3 13 rfl rfl)
theorem dX4_bestManner_85 : decode cX4_bestManner 85 = .ok (.invokevirtual 384, 3) := dk_182 1 128 (dk_at dksX4_bestManner_3 15 rfl rfl)
theorem dX4_bestManner_88 : decode cX4_bestManner 88 = .ok (.aload_n 0, 1) := dk_42 (dk_at dksX4_bestManner_3 18 rfl rfl)
theorem dX4_bestManner_89 : decode cX4_bestManner 89 = .ok (.getfield 26, 3) := dk_180 0 26 (dk_at dksX4_bestManner_3 19 rfl rfl)
theorem dX4_bestManner_92 : decode cX4_bestManner 92 = .ok (.iload_n 2, 1) := dk_28 (dk_at dksX4_bestManner_3 22 rfl rfl)
theorem dX4_bestManner_93 : decode cX4_bestManner 93 = .ok (.aload_n 0, 1) := dk_42 (dk_at dksX4_bestManner_3 23 rfl rfl)
theorem dX4_bestManner_94 : decode cX4_bestManner 94 = .ok (.iload_n 1, 1) := dk_27 (dk_at dksX4_bestManner_4 0 rfl rfl)
theorem dX4_bestManner_95 : decode cX4_bestManner 95 = .ok (.invokevirtual 284, 3) := dk_182 1 28 (dk_at dksX4_bestManner_4 1 rfl rfl)
theorem dX4_bestManner_98 : decode cX4_bestManner 98 = .ok (.iastore, 1) := dk_79 (dk_at dksX4_bestManner_4 4 rfl rfl)
theorem dX4_bestManner_99 : decode cX4_bestManner 99 = .ok (.aload_n 0, 1) := dk_42 (dk_at dksX4_bestManner_4 5 rfl rfl)
theorem dX4_bestManner_100 : decode cX4_bestManner 100 = .ok (.iload_n 1, 1) := dk_27 (dk_at dksX4_bestManner_4 6 rfl rfl)
theorem dX4_bestManner_101 : decode cX4_bestManner 101 = .ok (.invokevirtual 381, 3) := dk_182 1 125 (dk_at dksX4_bestManner_4 7 rfl rfl)
theorem dX4_bestManner_104 : decode cX4_bestManner 104 = .ok (.istore 7, 2) := dk_54 7 (dk_at dksX4_bestManner_4 10 rfl rfl)
theorem dX4_bestManner_106 : decode cX4_bestManner 106 = .ok (.iload 7, 2) := dk_21 7 (dk_at dksX4_bestManner_4 12 rfl rfl)
theorem dX4_bestManner_108 : decode cX4_bestManner 108 = .ok (.iload 5, 2) := dk_21 5 (dk_at dksX4_bestManner_4 14 rfl rfl)
theorem dX4_bestManner_110 : decode cX4_bestManner 110 = .ok (.if_icmp .lt 6, 3) := dk_161 0 6 (dk_at dksX4_bestManner_4 16 rfl rfl)
theorem dX4_bestManner_113 : decode cX4_bestManner 113 = .ok (.goto 11, 3) := dk_167 0 11 (dk_at dksX4_bestManner_4 19 rfl rfl)
theorem dX4_bestManner_116 : decode cX4_bestManner 116 = .ok (.iload 6, 2) := dk_21 6 (dk_at dksX4_bestManner_4 22 rfl rfl)
theorem dX4_bestManner_118 : decode cX4_bestManner 118 = .ok (.istore 4, 2) := dk_54 4 (dk_at dksX4_bestManner_5 0 rfl rfl)
theorem dX4_bestManner_120 : decode cX4_bestManner 120 = .ok (.iload 7, 2) := dk_21 7 (dk_at dksX4_bestManner_5 2 rfl rfl)
theorem dX4_bestManner_122 : decode cX4_bestManner 122 = .ok (.istore 5, 2) := dk_54 5 (dk_at dksX4_bestManner_5 4 rfl rfl)
theorem dX4_bestManner_124 : decode cX4_bestManner 124 = .ok (.iinc 6 1, 3) := dk_132 6 1 (dk_at dksX4_bestManner_5 6 rfl rfl)
theorem dX4_bestManner_127 : decode cX4_bestManner 127 = .ok (.goto (-52), 3) := dk_167 255 204 (dk_at dksX4_bestManner_5 9 rfl rfl)
theorem dX4_bestManner_130 : decode cX4_bestManner 130 = .ok (.aload_n 0, 1) := dk_42 (dk_at dksX4_bestManner_5 12 rfl rfl)
theorem dX4_bestManner_131 : decode cX4_bestManner 131 = .ok (.getfield 26, 3) := dk_180 0 26 (dk_at dksX4_bestManner_5 13 rfl rfl)
theorem dX4_bestManner_134 : decode cX4_bestManner 134 = .ok (.iload_n 2, 1) := dk_28 (dk_at dksX4_bestManner_5 16 rfl rfl)
theorem dX4_bestManner_135 : decode cX4_bestManner 135 = .ok (.iload_n 3, 1) := dk_29 (dk_at dksX4_bestManner_5 17 rfl rfl)
theorem dX4_bestManner_136 : decode cX4_bestManner 136 = .ok (.iastore, 1) := dk_79 (dk_at dksX4_bestManner_5 18 rfl rfl)
theorem dX4_bestManner_137 : decode cX4_bestManner 137 = .ok (.iload 4, 2) := dk_21 4 (dk_at dksX4_bestManner_5 19 rfl rfl)
theorem dX4_bestManner_139 : decode cX4_bestManner 139 = .ok (.ireturn, 1) := dk_172 (dk_at dksX4_bestManner_5 21 rfl rfl)
abbrev cX4_beOf : ByteArray := prog_24_method_93_code
def yX4_beOf : MethodName := ⟨RX4, "beOf", "(II)V"⟩
def dkwX4_beOf_1 : List UInt8 := [159, 0, 8, 28, 5, 160, 0, 8, 16, 30, 167, 0, 4, 3, 79, 177]
abbrev dktX4_beOf_1 : List UInt8 := dkwX4_beOf_1 ++ []
def dkwX4_beOf_0 : List UInt8 := [42, 180, 0, 41, 16, 7, 27, 104, 3, 96, 28, 79, 42, 180, 0, 41, 16, 7, 27, 104, 4, 96, 28, 4]
abbrev dktX4_beOf_0 : List UInt8 := dkwX4_beOf_0 ++ dktX4_beOf_1
theorem dksX4_beOf_0 : cX4_beOf.data.toList.drop 0 = dktX4_beOf_0 := by decide +kernel
theorem dksX4_beOf_1 : cX4_beOf.data.toList.drop 24 = dktX4_beOf_1 := dk_seg dksX4_beOf_0 24 rfl rfl
theorem dX4_beOf_0 : decode cX4_beOf 0 = .ok (.aload_n 0, 1) := dk_42 (dk_at dksX4_beOf_0 0 rfl rfl)
theorem dX4_beOf_1 : decode cX4_beOf 1 = .ok (.getfield 41, 3) := dk_180 0 41 (dk_at dksX4_beOf_0 1 rfl rfl)
theorem dX4_beOf_4 : decode cX4_beOf 4 = .ok (.bipush 7, 2) := dk_16 7 (dk_at dksX4_beOf_0 4 rfl rfl)
theorem dX4_beOf_6 : decode cX4_beOf 6 = .ok (.iload_n 1, 1) := dk_27 (dk_at dksX4_beOf_0 6 rfl rfl)
theorem dX4_beOf_7 : decode cX4_beOf 7 = .ok (.imul, 1) := dk_104 (dk_at dksX4_beOf_0 7 rfl rfl)
theorem dX4_beOf_8 : decode cX4_beOf 8 = .ok (.iconst 0, 1) := dk_3 (dk_at dksX4_beOf_0 8 rfl rfl)
theorem dX4_beOf_9 : decode cX4_beOf 9 = .ok (.iadd, 1) := dk_96 (dk_at dksX4_beOf_0 9 rfl rfl)
theorem dX4_beOf_10 : decode cX4_beOf 10 = .ok (.iload_n 2, 1) := dk_28 (dk_at dksX4_beOf_0 10 rfl rfl)
theorem dX4_beOf_11 : decode cX4_beOf 11 = .ok (.iastore, 1) := dk_79 (dk_at dksX4_beOf_0 11 rfl rfl)
theorem dX4_beOf_12 : decode cX4_beOf 12 = .ok (.aload_n 0, 1) := dk_42 (dk_at dksX4_beOf_0 12 rfl rfl)
theorem dX4_beOf_13 : decode cX4_beOf 13 = .ok (.getfield 41, 3) := dk_180 0 41 (dk_at dksX4_beOf_0 13 rfl rfl)
theorem dX4_beOf_16 : decode cX4_beOf 16 = .ok (.bipush 7, 2) := dk_16 7 (dk_at dksX4_beOf_0 16 rfl rfl)
theorem dX4_beOf_18 : decode cX4_beOf 18 = .ok (.iload_n 1, 1) := dk_27 (dk_at dksX4_beOf_0 18 rfl rfl)
theorem dX4_beOf_19 : decode cX4_beOf 19 = .ok (.imul, 1) := dk_104 (dk_at dksX4_beOf_0 19 rfl rfl)
theorem dX4_beOf_20 : decode cX4_beOf 20 = .ok (.iconst 1, 1) := dk_4 (dk_at dksX4_beOf_0 20 rfl rfl)
theorem dX4_beOf_21 : decode cX4_beOf 21 = .ok (.iadd, 1) := dk_96 (dk_at dksX4_beOf_0 21 rfl rfl)
theorem dX4_beOf_22 : decode cX4_beOf 22 = .ok (.iload_n 2, 1) := dk_28 (dk_at dksX4_beOf_0 22 rfl rfl)
theorem dX4_beOf_23 : decode cX4_beOf 23 = .ok (.iconst 1, 1) := dk_4 (dk_at dksX4_beOf_0 23 rfl rfl)
theorem dX4_beOf_24 : decode cX4_beOf 24 = .ok (.if_icmp .eq 8, 3) := dk_159 0 8 (dk_at dksX4_beOf_1 0 rfl rfl)
theorem dX4_beOf_27 : decode cX4_beOf 27 = .ok (.iload_n 2, 1) := dk_28 (dk_at dksX4_beOf_1 3 rfl rfl)
theorem dX4_beOf_28 : decode cX4_beOf 28 = .ok (.iconst 2, 1) := dk_5 (dk_at dksX4_beOf_1 4 rfl rfl)
theorem dX4_beOf_29 : decode cX4_beOf 29 = .ok (.if_icmp .ne 8, 3) := dk_160 0 8 (dk_at dksX4_beOf_1 5 rfl rfl)
theorem dX4_beOf_32 : decode cX4_beOf 32 = .ok (.bipush 30, 2) := dk_16 30 (dk_at dksX4_beOf_1 8 rfl rfl)
theorem dX4_beOf_34 : decode cX4_beOf 34 = .ok (.goto 4, 3) := dk_167 0 4 (dk_at dksX4_beOf_1 10 rfl rfl)
theorem dX4_beOf_37 : decode cX4_beOf 37 = .ok (.iconst 0, 1) := dk_3 (dk_at dksX4_beOf_1 13 rfl rfl)
theorem dX4_beOf_38 : decode cX4_beOf 38 = .ok (.iastore, 1) := dk_79 (dk_at dksX4_beOf_1 14 rfl rfl)
theorem dX4_beOf_39 : decode cX4_beOf 39 = .ok (.return_, 1) := dk_177 (dk_at dksX4_beOf_1 15 rfl rfl)
abbrev cX4_leastLook : ByteArray := prog_24_method_95_code
def yX4_leastLook : MethodName := ⟨RX4, "leastLook", "(I)I"⟩
def dkwX4_leastLook_5 : List UInt8 := [132, 6, 1, 167, 255, 213, 42, 180, 0, 26, 28, 29, 79, 21, 4, 172]
abbrev dktX4_leastLook_5 : List UInt8 := dkwX4_leastLook_5 ++ []
def dkwX4_leastLook_4 : List UInt8 := [182, 1, 125, 54, 7, 21, 7, 21, 5, 161, 0, 6, 167, 0, 11, 21, 6, 54, 4, 21, 7, 54, 5]
abbrev dktX4_leastLook_4 : List UInt8 := dkwX4_leastLook_4 ++ dktX4_leastLook_5
def dkwX4_leastLook_3 : List UInt8 := [54, 5, 3, 54, 6, 21, 6, 16, 100, 162, 0, 42, 42, 180, 0, 26, 28, 21, 6, 79, 42, 27]
abbrev dktX4_leastLook_3 : List UInt8 := dkwX4_leastLook_3 ++ dktX4_leastLook_4
def dkwX4_leastLook_2 : List UInt8 := [16, 12, 16, 8, 27, 104, 96, 5, 96, 61, 42, 180, 0, 26, 28, 46, 62, 16, 254, 54, 4, 19, 1, 41]
abbrev dktX4_leastLook_2 : List UInt8 := dkwX4_leastLook_2 ++ dktX4_leastLook_3
def dkwX4_leastLook_1 : List UInt8 := [153, 0, 9, 42, 8, 182, 0, 168, 172, 42, 182, 0, 187, 42, 42, 180, 0, 20, 5, 46, 181, 1, 63]
abbrev dktX4_leastLook_1 : List UInt8 := dkwX4_leastLook_1 ++ dktX4_leastLook_2
def dkwX4_leastLook_0 : List UInt8 := [42, 182, 0, 165, 42, 27, 182, 1, 90, 154, 0, 9, 42, 4, 182, 0, 168, 172, 42, 27, 182, 1, 122]
abbrev dktX4_leastLook_0 : List UInt8 := dkwX4_leastLook_0 ++ dktX4_leastLook_1
theorem dksX4_leastLook_0 : cX4_leastLook.data.toList.drop 0 = dktX4_leastLook_0 := by decide +kernel
theorem dksX4_leastLook_1 : cX4_leastLook.data.toList.drop 23 = dktX4_leastLook_1 := dk_seg dksX4_leastLook_0 23 rfl rfl
theorem dksX4_leastLook_2 : cX4_leastLook.data.toList.drop 46 = dktX4_leastLook_2 := dk_seg dksX4_leastLook_1 23 rfl rfl
theorem dksX4_leastLook_3 : cX4_leastLook.data.toList.drop 70 = dktX4_leastLook_3 := dk_seg dksX4_leastLook_2 24 rfl rfl
theorem dksX4_leastLook_4 : cX4_leastLook.data.toList.drop 92 = dktX4_leastLook_4 := dk_seg dksX4_leastLook_3 22 rfl rfl
theorem dksX4_leastLook_5 : cX4_leastLook.data.toList.drop 115 = dktX4_leastLook_5 := dk_seg dksX4_leastLook_4 23 rfl rfl
theorem dX4_leastLook_0 : decode cX4_leastLook 0 = .ok (.aload_n 0, 1) := dk_42 (dk_at dksX4_leastLook_0 0 rfl rfl)
theorem dX4_leastLook_1 : decode cX4_leastLook 1 = .ok (.invokevirtual 165, 3) := dk_182 0 165 (dk_at dksX4_leastLook_0 1 rfl rfl)
theorem dX4_leastLook_4 : decode cX4_leastLook 4 = .ok (.aload_n 0, 1) := dk_42 (dk_at dksX4_leastLook_0 4 rfl rfl)
theorem dX4_leastLook_5 : decode cX4_leastLook 5 = .ok (.iload_n 1, 1) := dk_27 (dk_at dksX4_leastLook_0 5 rfl rfl)
theorem dX4_leastLook_6 : decode cX4_leastLook 6 = .ok (.invokevirtual 346, 3) := dk_182 1 90 (dk_at dksX4_leastLook_0 6 rfl rfl)
theorem dX4_leastLook_9 : decode cX4_leastLook 9 = .ok (.ifCond .ne 9, 3) := dk_154 0 9 (dk_at dksX4_leastLook_0 9 rfl rfl)
theorem dX4_leastLook_12 : decode cX4_leastLook 12 = .ok (.aload_n 0, 1) := dk_42 (dk_at dksX4_leastLook_0 12 rfl rfl)
theorem dX4_leastLook_13 : decode cX4_leastLook 13 = .ok (.iconst 1, 1) := dk_4 (dk_at dksX4_leastLook_0 13 rfl rfl)
theorem dX4_leastLook_14 : decode cX4_leastLook 14 = .ok (.invokevirtual 168, 3) := dk_182 0 168 (dk_at dksX4_leastLook_0 14 rfl rfl)
theorem dX4_leastLook_17 : decode cX4_leastLook 17 = .ok (.ireturn, 1) := dk_172 (dk_at dksX4_leastLook_0 17 rfl rfl)
theorem dX4_leastLook_18 : decode cX4_leastLook 18 = .ok (.aload_n 0, 1) := dk_42 (dk_at dksX4_leastLook_0 18 rfl rfl)
theorem dX4_leastLook_19 : decode cX4_leastLook 19 = .ok (.iload_n 1, 1) := dk_27 (dk_at dksX4_leastLook_0 19 rfl rfl)
theorem dX4_leastLook_20 : decode cX4_leastLook 20 = .ok (.invokevirtual 378, 3) := dk_182 1 122 (dk_at dksX4_leastLook_0 20 rfl rfl)
theorem dX4_leastLook_23 : decode cX4_leastLook 23 = .ok (.ifCond .eq 9, 3) := dk_153 0 9 (dk_at dksX4_leastLook_1 0 rfl rfl)
theorem dX4_leastLook_26 : decode cX4_leastLook 26 = .ok (.aload_n 0, 1) := dk_42 (dk_at dksX4_leastLook_1 3 rfl rfl)
theorem dX4_leastLook_27 : decode cX4_leastLook 27 = .ok (.iconst 5, 1) := dk_8 (dk_at dksX4_leastLook_1 4 rfl rfl)
theorem dX4_leastLook_28 : decode cX4_leastLook 28 = .ok (.invokevirtual 168, 3) := dk_182 0 168 (dk_at dksX4_leastLook_1 5 rfl rfl)
theorem dX4_leastLook_31 : decode cX4_leastLook 31 = .ok (.ireturn, 1) := dk_172 (dk_at dksX4_leastLook_1 8 rfl rfl)
theorem dX4_leastLook_32 : decode cX4_leastLook 32 = .ok (.aload_n 0, 1) := dk_42 (dk_at dksX4_leastLook_1 9 rfl rfl)
theorem dX4_leastLook_33 : decode cX4_leastLook 33 = .ok (.invokevirtual 187, 3) := dk_182 0 187 (dk_at dksX4_leastLook_1 10 rfl rfl)
theorem dX4_leastLook_36 : decode cX4_leastLook 36 = .ok (.aload_n 0, 1) := dk_42 (dk_at dksX4_leastLook_1 13 rfl rfl)
theorem dX4_leastLook_37 : decode cX4_leastLook 37 = .ok (.aload_n 0, 1) := dk_42 (dk_at dksX4_leastLook_1 14 rfl rfl)
theorem dX4_leastLook_38 : decode cX4_leastLook 38 = .ok (.getfield 20, 3) := dk_180 0 20 (dk_at dksX4_leastLook_1 15 rfl rfl)
theorem dX4_leastLook_41 : decode cX4_leastLook 41 = .ok (.iconst 2, 1) := dk_5 (dk_at dksX4_leastLook_1 18 rfl rfl)
theorem dX4_leastLook_42 : decode cX4_leastLook 42 = .ok (.iaload, 1) := dk_46 (dk_at dksX4_leastLook_1 19 rfl rfl)
theorem dX4_leastLook_43 : decode cX4_leastLook 43 = .ok (.putfield 319, 3) := dk_181 1 63 (dk_at dksX4_leastLook_1 20 rfl rfl)
theorem dX4_leastLook_46 : decode cX4_leastLook 46 = .ok (.bipush 12, 2) := dk_16 12 (dk_at dksX4_leastLook_2 0 rfl rfl)
theorem dX4_leastLook_48 : decode cX4_leastLook 48 = .ok (.bipush 8, 2) := dk_16 8 (dk_at dksX4_leastLook_2 2 rfl rfl)
theorem dX4_leastLook_50 : decode cX4_leastLook 50 = .ok (.iload_n 1, 1) := dk_27 (dk_at dksX4_leastLook_2 4 rfl rfl)
theorem dX4_leastLook_51 : decode cX4_leastLook 51 = .ok (.imul, 1) := dk_104 (dk_at dksX4_leastLook_2 5 rfl rfl)
theorem dX4_leastLook_52 : decode cX4_leastLook 52 = .ok (.iadd, 1) := dk_96 (dk_at dksX4_leastLook_2 6 rfl rfl)
theorem dX4_leastLook_53 : decode cX4_leastLook 53 = .ok (.iconst 2, 1) := dk_5 (dk_at dksX4_leastLook_2 7 rfl rfl)
theorem dX4_leastLook_54 : decode cX4_leastLook 54 = .ok (.iadd, 1) := dk_96 (dk_at dksX4_leastLook_2 8 rfl rfl)
theorem dX4_leastLook_55 : decode cX4_leastLook 55 = .ok (.istore_n 2, 1) := dk_61 (dk_at dksX4_leastLook_2 9 rfl rfl)
theorem dX4_leastLook_56 : decode cX4_leastLook 56 = .ok (.aload_n 0, 1) := dk_42 (dk_at dksX4_leastLook_2 10 rfl rfl)
theorem dX4_leastLook_57 : decode cX4_leastLook 57 = .ok (.getfield 26, 3) := dk_180 0 26 (dk_at dksX4_leastLook_2 11 rfl rfl)
theorem dX4_leastLook_60 : decode cX4_leastLook 60 = .ok (.iload_n 2, 1) := dk_28 (dk_at dksX4_leastLook_2 14 rfl rfl)
theorem dX4_leastLook_61 : decode cX4_leastLook 61 = .ok (.iaload, 1) := dk_46 (dk_at dksX4_leastLook_2 15 rfl rfl)
theorem dX4_leastLook_62 : decode cX4_leastLook 62 = .ok (.istore_n 3, 1) := dk_62 (dk_at dksX4_leastLook_2 16 rfl rfl)
theorem dX4_leastLook_63 : decode cX4_leastLook 63 = .ok (.bipush (-2), 2) := dk_16 254 (dk_at dksX4_leastLook_2 17 rfl rfl)
theorem dX4_leastLook_65 : decode cX4_leastLook 65 = .ok (.istore 4, 2) := dk_54 4 (dk_at dksX4_leastLook_2 19 rfl rfl)
theorem dX4_leastLook_67 : decode cX4_leastLook 67 = .ok (.ldc_w 297, 3) := dk_19 1 41 (dk_at dksX4_leastLook_2 21 rfl rfl)
theorem dX4_leastLook_70 : decode cX4_leastLook 70 = .ok (.istore 5, 2) := dk_54 5 (dk_at dksX4_leastLook_3 0 rfl rfl)
theorem dX4_leastLook_72 : decode cX4_leastLook 72 = .ok (.iconst 0, 1) := dk_3 (dk_at dksX4_leastLook_3 2 rfl rfl)
theorem dX4_leastLook_73 : decode cX4_leastLook 73 = .ok (.istore 6, 2) := dk_54 6 (dk_at dksX4_leastLook_3 3 rfl rfl)
theorem dX4_leastLook_75 : decode cX4_leastLook 75 = .ok (.iload 6, 2) := dk_21 6 (dk_at dksX4_leastLook_3 5 rfl rfl)
theorem dX4_leastLook_77 : decode cX4_leastLook 77 = .ok (.bipush 100, 2) := dk_16 100 (dk_at dksX4_leastLook_3 7 rfl rfl)
theorem dX4_leastLook_79 : decode cX4_leastLook 79 = .ok (.if_icmp .ge 42, 3) := dk_162 0 42 (dk_at dksX4_leastLook_3 9 rfl rfl)
theorem dX4_leastLook_82 : decode cX4_leastLook 82 = .ok (.aload_n 0, 1) := dk_42 (dk_at dksX4_leastLook_3 12 rfl rfl)
theorem dX4_leastLook_83 : decode cX4_leastLook 83 = .ok (.getfield 26, 3) := dk_180 0 26 (dk_at dksX4_leastLook_3 13 rfl rfl)
theorem dX4_leastLook_86 : decode cX4_leastLook 86 = .ok (.iload_n 2, 1) := dk_28 (dk_at dksX4_leastLook_3 16 rfl rfl)
theorem dX4_leastLook_87 : decode cX4_leastLook 87 = .ok (.iload 6, 2) := dk_21 6 (dk_at dksX4_leastLook_3 17 rfl rfl)
theorem dX4_leastLook_89 : decode cX4_leastLook 89 = .ok (.iastore, 1) := dk_79 (dk_at dksX4_leastLook_3 19 rfl rfl)
theorem dX4_leastLook_90 : decode cX4_leastLook 90 = .ok (.aload_n 0, 1) := dk_42 (dk_at dksX4_leastLook_3 20 rfl rfl)
theorem dX4_leastLook_91 : decode cX4_leastLook 91 = .ok (.iload_n 1, 1) := dk_27 (dk_at dksX4_leastLook_3 21 rfl rfl)
theorem dX4_leastLook_92 : decode cX4_leastLook 92 = .ok (.invokevirtual 381, 3) := dk_182 1 125 (dk_at dksX4_leastLook_4 0 rfl rfl)
theorem dX4_leastLook_95 : decode cX4_leastLook 95 = .ok (.istore 7, 2) := dk_54 7 (dk_at dksX4_leastLook_4 3 rfl rfl)
theorem dX4_leastLook_97 : decode cX4_leastLook 97 = .ok (.iload 7, 2) := dk_21 7 (dk_at dksX4_leastLook_4 5 rfl rfl)
theorem dX4_leastLook_99 : decode cX4_leastLook 99 = .ok (.iload 5, 2) := dk_21 5 (dk_at dksX4_leastLook_4 7 rfl rfl)
theorem dX4_leastLook_101 : decode cX4_leastLook 101 = .ok (.if_icmp .lt 6, 3) := dk_161 0 6 (dk_at dksX4_leastLook_4 9 rfl rfl)
theorem dX4_leastLook_104 : decode cX4_leastLook 104 = .ok (.goto 11, 3) := dk_167 0 11 (dk_at dksX4_leastLook_4 12 rfl rfl)
theorem dX4_leastLook_107 : decode cX4_leastLook 107 = .ok (.iload 6, 2) := dk_21 6 (dk_at dksX4_leastLook_4 15 rfl rfl)
theorem dX4_leastLook_109 : decode cX4_leastLook 109 = .ok (.istore 4, 2) := dk_54 4 (dk_at dksX4_leastLook_4 17 rfl rfl)
theorem dX4_leastLook_111 : decode cX4_leastLook 111 = .ok (.iload 7, 2) := dk_21 7 (dk_at dksX4_leastLook_4 19 rfl rfl)
theorem dX4_leastLook_113 : decode cX4_leastLook 113 = .ok (.istore 5, 2) := dk_54 5 (dk_at dksX4_leastLook_4 21 rfl rfl)
theorem dX4_leastLook_115 : decode cX4_leastLook 115 = .ok (.iinc 6 1, 3) := dk_132 6 1 (dk_at dksX4_leastLook_5 0 rfl rfl)
theorem dX4_leastLook_118 : decode cX4_leastLook 118 = .ok (.goto (-43), 3) := dk_167 255 213 (dk_at dksX4_leastLook_5 3 rfl rfl)
theorem dX4_leastLook_121 : decode cX4_leastLook 121 = .ok (.aload_n 0, 1) := dk_42 (dk_at dksX4_leastLook_5 6 rfl rfl)
theorem dX4_leastLook_122 : decode cX4_leastLook 122 = .ok (.getfield 26, 3) := dk_180 0 26 (dk_at dksX4_leastLook_5 7 rfl rfl)
theorem dX4_leastLook_125 : decode cX4_leastLook 125 = .ok (.iload_n 2, 1) := dk_28 (dk_at dksX4_leastLook_5 10 rfl rfl)
theorem dX4_leastLook_126 : decode cX4_leastLook 126 = .ok (.iload_n 3, 1) := dk_29 (dk_at dksX4_leastLook_5 11 rfl rfl)
theorem dX4_leastLook_127 : decode cX4_leastLook 127 = .ok (.iastore, 1) := dk_79 (dk_at dksX4_leastLook_5 12 rfl rfl)
theorem dX4_leastLook_128 : decode cX4_leastLook 128 = .ok (.iload 4, 2) := dk_21 4 (dk_at dksX4_leastLook_5 13 rfl rfl)
theorem dX4_leastLook_130 : decode cX4_leastLook 130 = .ok (.ireturn, 1) := dk_172 (dk_at dksX4_leastLook_5 15 rfl rfl)
abbrev cX4_cut : ByteArray := prog_24_method_97_code
def yX4_cut : MethodName := ⟨RX4, "cut", "()I"⟩
def dkwX4_cut_1 : List UInt8 := [180, 1, 134, 172]
abbrev dktX4_cut_1 : List UInt8 := dkwX4_cut_1 ++ []
def dkwX4_cut_0 : List UInt8 := [42, 182, 0, 165, 42, 182, 1, 137, 60, 27, 153, 0, 11, 42, 27, 182, 0, 168, 167, 0, 7, 42]
abbrev dktX4_cut_0 : List UInt8 := dkwX4_cut_0 ++ dktX4_cut_1
theorem dksX4_cut_0 : cX4_cut.data.toList.drop 0 = dktX4_cut_0 := by decide +kernel
theorem dksX4_cut_1 : cX4_cut.data.toList.drop 22 = dktX4_cut_1 := dk_seg dksX4_cut_0 22 rfl rfl
theorem dX4_cut_0 : decode cX4_cut 0 = .ok (.aload_n 0, 1) := dk_42 (dk_at dksX4_cut_0 0 rfl rfl)
theorem dX4_cut_1 : decode cX4_cut 1 = .ok (.invokevirtual 165, 3) := dk_182 0 165 (dk_at dksX4_cut_0 1 rfl rfl)
theorem dX4_cut_4 : decode cX4_cut 4 = .ok (.aload_n 0, 1) := dk_42 (dk_at dksX4_cut_0 4 rfl rfl)
theorem dX4_cut_5 : decode cX4_cut 5 = .ok (.invokevirtual 393, 3) := dk_182 1 137 (dk_at dksX4_cut_0 5 rfl rfl)
theorem dX4_cut_8 : decode cX4_cut 8 = .ok (.istore_n 1, 1) := dk_60 (dk_at dksX4_cut_0 8 rfl rfl)
theorem dX4_cut_9 : decode cX4_cut 9 = .ok (.iload_n 1, 1) := dk_27 (dk_at dksX4_cut_0 9 rfl rfl)
theorem dX4_cut_10 : decode cX4_cut 10 = .ok (.ifCond .eq 11, 3) := dk_153 0 11 (dk_at dksX4_cut_0 10 rfl rfl)
theorem dX4_cut_13 : decode cX4_cut 13 = .ok (.aload_n 0, 1) := dk_42 (dk_at dksX4_cut_0 13 rfl rfl)
theorem dX4_cut_14 : decode cX4_cut 14 = .ok (.iload_n 1, 1) := dk_27 (dk_at dksX4_cut_0 14 rfl rfl)
theorem dX4_cut_15 : decode cX4_cut 15 = .ok (.invokevirtual 168, 3) := dk_182 0 168 (dk_at dksX4_cut_0 15 rfl rfl)
theorem dX4_cut_18 : decode cX4_cut 18 = .ok (.goto 7, 3) := dk_167 0 7 (dk_at dksX4_cut_0 18 rfl rfl)
theorem dX4_cut_21 : decode cX4_cut 21 = .ok (.aload_n 0, 1) := dk_42 (dk_at dksX4_cut_0 21 rfl rfl)
theorem dX4_cut_22 : decode cX4_cut 22 = .ok (.getfield 390, 3) := dk_180 1 134 (dk_at dksX4_cut_1 0 rfl rfl)
theorem dX4_cut_25 : decode cX4_cut 25 = .ok (.ireturn, 1) := dk_172 (dk_at dksX4_cut_1 3 rfl rfl)
abbrev cX4_cutWhy : ByteArray := prog_24_method_96_code
def yX4_cutWhy : MethodName := ⟨RX4, "cutWhy", "()I"⟩
def dkwX4_cutWhy_5 : List UInt8 := [161, 0, 6, 167, 0, 13, 42, 28, 181, 1, 131, 42, 27, 181, 1, 134, 132, 1, 1, 167, 255, 157, 3, 172]
abbrev dktX4_cutWhy_5 : List UInt8 := dkwX4_cutWhy_5 ++ []
def dkwX4_cutWhy_4 : List UInt8 := [42, 180, 0, 20, 4, 46, 4, 100, 79, 42, 182, 1, 103, 42, 6, 182, 1, 112, 61, 28, 42, 180, 1, 131]
abbrev dktX4_cutWhy_4 : List UInt8 := dkwX4_cutWhy_4 ++ dktX4_cutWhy_5
def dkwX4_cutWhy_3 : List UInt8 := [79, 42, 180, 0, 38, 6, 27, 79, 42, 180, 0, 38, 16, 8, 27, 4, 96, 79, 42, 180, 0, 38, 16, 9]
abbrev dktX4_cutWhy_3 : List UInt8 := dkwX4_cutWhy_3 ++ dktX4_cutWhy_4
def dkwX4_cutWhy_2 : List UInt8 := [100, 162, 0, 93, 42, 182, 0, 187, 42, 42, 180, 0, 20, 5, 46, 181, 1, 63, 42, 180, 0, 38, 5, 3]
abbrev dktX4_cutWhy_2 : List UInt8 := dkwX4_cutWhy_2 ++ dktX4_cutWhy_3
def dkwX4_cutWhy_1 : List UInt8 := [46, 5, 162, 0, 5, 8, 172, 42, 19, 1, 41, 181, 1, 131, 3, 60, 27, 42, 180, 0, 20, 4, 46, 4]
abbrev dktX4_cutWhy_1 : List UInt8 := dkwX4_cutWhy_1 ++ dktX4_cutWhy_2
def dkwX4_cutWhy_0 : List UInt8 := [42, 180, 0, 178, 154, 0, 5, 4, 172, 42, 180, 0, 20, 7, 46, 5, 161, 0, 13, 42, 180, 0, 20, 4]
abbrev dktX4_cutWhy_0 : List UInt8 := dkwX4_cutWhy_0 ++ dktX4_cutWhy_1
theorem dksX4_cutWhy_0 : cX4_cutWhy.data.toList.drop 0 = dktX4_cutWhy_0 := by decide +kernel
theorem dksX4_cutWhy_1 : cX4_cutWhy.data.toList.drop 24 = dktX4_cutWhy_1 := dk_seg dksX4_cutWhy_0 24 rfl rfl
theorem dksX4_cutWhy_2 : cX4_cutWhy.data.toList.drop 48 = dktX4_cutWhy_2 := dk_seg dksX4_cutWhy_1 24 rfl rfl
theorem dksX4_cutWhy_3 : cX4_cutWhy.data.toList.drop 72 = dktX4_cutWhy_3 := dk_seg dksX4_cutWhy_2 24 rfl rfl
theorem dksX4_cutWhy_4 : cX4_cutWhy.data.toList.drop 96 = dktX4_cutWhy_4 := dk_seg dksX4_cutWhy_3 24 rfl rfl
theorem dksX4_cutWhy_5 : cX4_cutWhy.data.toList.drop 120 = dktX4_cutWhy_5 := dk_seg dksX4_cutWhy_4 24 rfl rfl
theorem dX4_cutWhy_0 : decode cX4_cutWhy 0 = .ok (.aload_n 0, 1) := dk_42 (dk_at dksX4_cutWhy_0 0 rfl rfl)
theorem dX4_cutWhy_1 : decode cX4_cutWhy 1 = .ok (.getfield 178, 3) := dk_180 0 178 (dk_at dksX4_cutWhy_0 1 rfl rfl)
theorem dX4_cutWhy_4 : decode cX4_cutWhy 4 = .ok (.ifCond .ne 5, 3) := dk_154 0 5 (dk_at dksX4_cutWhy_0 4 rfl rfl)
theorem dX4_cutWhy_7 : decode cX4_cutWhy 7 = .ok (.iconst 1, 1) := dk_4 (dk_at dksX4_cutWhy_0 7 rfl rfl)
theorem dX4_cutWhy_8 : decode cX4_cutWhy 8 = .ok (.ireturn, 1) := dk_172 (dk_at dksX4_cutWhy_0 8 rfl rfl)
theorem dX4_cutWhy_9 : decode cX4_cutWhy 9 = .ok (.aload_n 0, 1) := dk_42 (dk_at dksX4_cutWhy_0 9 rfl rfl)
theorem dX4_cutWhy_10 : decode cX4_cutWhy 10 = .ok (.getfield 20, 3) := dk_180 0 20 (dk_at dksX4_cutWhy_0 10 rfl rfl)
theorem dX4_cutWhy_13 : decode cX4_cutWhy 13 = .ok (.iconst 4, 1) := dk_7 (dk_at dksX4_cutWhy_0 13 rfl rfl)
theorem dX4_cutWhy_14 : decode cX4_cutWhy 14 = .ok (.iaload, 1) := dk_46 (dk_at dksX4_cutWhy_0 14 rfl rfl)
theorem dX4_cutWhy_15 : decode cX4_cutWhy 15 = .ok (.iconst 2, 1) := dk_5 (dk_at dksX4_cutWhy_0 15 rfl rfl)
theorem dX4_cutWhy_16 : decode cX4_cutWhy 16 = .ok (.if_icmp .lt 13, 3) := dk_161 0 13 (dk_at dksX4_cutWhy_0 16 rfl rfl)
theorem dX4_cutWhy_19 : decode cX4_cutWhy 19 = .ok (.aload_n 0, 1) := dk_42 (dk_at dksX4_cutWhy_0 19 rfl rfl)
theorem dX4_cutWhy_20 : decode cX4_cutWhy 20 = .ok (.getfield 20, 3) := dk_180 0 20 (dk_at dksX4_cutWhy_0 20 rfl rfl)
theorem dX4_cutWhy_23 : decode cX4_cutWhy 23 = .ok (.iconst 1, 1) := dk_4 (dk_at dksX4_cutWhy_0 23 rfl rfl)
theorem dX4_cutWhy_24 : decode cX4_cutWhy 24 = .ok (.iaload, 1) := dk_46 (dk_at dksX4_cutWhy_1 0 rfl rfl)
theorem dX4_cutWhy_25 : decode cX4_cutWhy 25 = .ok (.iconst 2, 1) := dk_5 (dk_at dksX4_cutWhy_1 1 rfl rfl)
theorem dX4_cutWhy_26 : decode cX4_cutWhy 26 = .ok (.if_icmp .ge 5, 3) := dk_162 0 5 (dk_at dksX4_cutWhy_1 2 rfl rfl)
theorem dX4_cutWhy_29 : decode cX4_cutWhy 29 = .ok (.iconst 5, 1) := dk_8 (dk_at dksX4_cutWhy_1 5 rfl rfl)
theorem dX4_cutWhy_30 : decode cX4_cutWhy 30 = .ok (.ireturn, 1) := dk_172 (dk_at dksX4_cutWhy_1 6 rfl rfl)
theorem dX4_cutWhy_31 : decode cX4_cutWhy 31 = .ok (.aload_n 0, 1) := dk_42 (dk_at dksX4_cutWhy_1 7 rfl rfl)
theorem dX4_cutWhy_32 : decode cX4_cutWhy 32 = .ok (.ldc_w 297, 3) := dk_19 1 41 (dk_at dksX4_cutWhy_1 8 rfl rfl)
theorem dX4_cutWhy_35 : decode cX4_cutWhy 35 = .ok (.putfield 387, 3) := dk_181 1 131 (dk_at dksX4_cutWhy_1 11 rfl rfl)
theorem dX4_cutWhy_38 : decode cX4_cutWhy 38 = .ok (.iconst 0, 1) := dk_3 (dk_at dksX4_cutWhy_1 14 rfl rfl)
theorem dX4_cutWhy_39 : decode cX4_cutWhy 39 = .ok (.istore_n 1, 1) := dk_60 (dk_at dksX4_cutWhy_1 15 rfl rfl)
theorem dX4_cutWhy_40 : decode cX4_cutWhy 40 = .ok (.iload_n 1, 1) := dk_27 (dk_at dksX4_cutWhy_1 16 rfl rfl)
theorem dX4_cutWhy_41 : decode cX4_cutWhy 41 = .ok (.aload_n 0, 1) := dk_42 (dk_at dksX4_cutWhy_1 17 rfl rfl)
theorem dX4_cutWhy_42 : decode cX4_cutWhy 42 = .ok (.getfield 20, 3) := dk_180 0 20 (dk_at dksX4_cutWhy_1 18 rfl rfl)
theorem dX4_cutWhy_45 : decode cX4_cutWhy 45 = .ok (.iconst 1, 1) := dk_4 (dk_at dksX4_cutWhy_1 21 rfl rfl)
theorem dX4_cutWhy_46 : decode cX4_cutWhy 46 = .ok (.iaload, 1) := dk_46 (dk_at dksX4_cutWhy_1 22 rfl rfl)
theorem dX4_cutWhy_47 : decode cX4_cutWhy 47 = .ok (.iconst 1, 1) := dk_4 (dk_at dksX4_cutWhy_1 23 rfl rfl)
theorem dX4_cutWhy_48 : decode cX4_cutWhy 48 = .ok (.isub, 1) := dk_100 (dk_at dksX4_cutWhy_2 0 rfl rfl)
theorem dX4_cutWhy_49 : decode cX4_cutWhy 49 = .ok (.if_icmp .ge 93, 3) := dk_162 0 93 (dk_at dksX4_cutWhy_2 1 rfl rfl)
theorem dX4_cutWhy_52 : decode cX4_cutWhy 52 = .ok (.aload_n 0, 1) := dk_42 (dk_at dksX4_cutWhy_2 4 rfl rfl)
theorem dX4_cutWhy_53 : decode cX4_cutWhy 53 = .ok (.invokevirtual 187, 3) := dk_182 0 187 (dk_at dksX4_cutWhy_2 5 rfl rfl)
theorem dX4_cutWhy_56 : decode cX4_cutWhy 56 = .ok (.aload_n 0, 1) := dk_42 (dk_at dksX4_cutWhy_2 8 rfl rfl)
theorem dX4_cutWhy_57 : decode cX4_cutWhy 57 = .ok (.aload_n 0, 1) := dk_42 (dk_at dksX4_cutWhy_2 9 rfl rfl)
theorem dX4_cutWhy_58 : decode cX4_cutWhy 58 = .ok (.getfield 20, 3) := dk_180 0 20 (dk_at dksX4_cutWhy_2 10 rfl rfl)
theorem dX4_cutWhy_61 : decode cX4_cutWhy 61 = .ok (.iconst 2, 1) := dk_5 (dk_at dksX4_cutWhy_2 13 rfl rfl)
theorem dX4_cutWhy_62 : decode cX4_cutWhy 62 = .ok (.iaload, 1) := dk_46 (dk_at dksX4_cutWhy_2 14 rfl rfl)
theorem dX4_cutWhy_63 : decode cX4_cutWhy 63 = .ok (.putfield 319, 3) := dk_181 1 63 (dk_at dksX4_cutWhy_2 15 rfl rfl)
theorem dX4_cutWhy_66 : decode cX4_cutWhy 66 = .ok (.aload_n 0, 1) := dk_42 (dk_at dksX4_cutWhy_2 18 rfl rfl)
theorem dX4_cutWhy_67 : decode cX4_cutWhy 67 = .ok (.getfield 38, 3) := dk_180 0 38 (dk_at dksX4_cutWhy_2 19 rfl rfl)
theorem dX4_cutWhy_70 : decode cX4_cutWhy 70 = .ok (.iconst 2, 1) := dk_5 (dk_at dksX4_cutWhy_2 22 rfl rfl)
theorem dX4_cutWhy_71 : decode cX4_cutWhy 71 = .ok (.iconst 0, 1) := dk_3 (dk_at dksX4_cutWhy_2 23 rfl rfl)
theorem dX4_cutWhy_72 : decode cX4_cutWhy 72 = .ok (.iastore, 1) := dk_79 (dk_at dksX4_cutWhy_3 0 rfl rfl)
theorem dX4_cutWhy_73 : decode cX4_cutWhy 73 = .ok (.aload_n 0, 1) := dk_42 (dk_at dksX4_cutWhy_3 1 rfl rfl)
theorem dX4_cutWhy_74 : decode cX4_cutWhy 74 = .ok (.getfield 38, 3) := dk_180 0 38 (dk_at dksX4_cutWhy_3 2 rfl rfl)
theorem dX4_cutWhy_77 : decode cX4_cutWhy 77 = .ok (.iconst 3, 1) := dk_6 (dk_at dksX4_cutWhy_3 5 rfl rfl)
theorem dX4_cutWhy_78 : decode cX4_cutWhy 78 = .ok (.iload_n 1, 1) := dk_27 (dk_at dksX4_cutWhy_3 6 rfl rfl)
theorem dX4_cutWhy_79 : decode cX4_cutWhy 79 = .ok (.iastore, 1) := dk_79 (dk_at dksX4_cutWhy_3 7 rfl rfl)
theorem dX4_cutWhy_80 : decode cX4_cutWhy 80 = .ok (.aload_n 0, 1) := dk_42 (dk_at dksX4_cutWhy_3 8 rfl rfl)
theorem dX4_cutWhy_81 : decode cX4_cutWhy 81 = .ok (.getfield 38, 3) := dk_180 0 38 (dk_at dksX4_cutWhy_3 9 rfl rfl)
theorem dX4_cutWhy_84 : decode cX4_cutWhy 84 = .ok (.bipush 8, 2) := dk_16 8 (dk_at dksX4_cutWhy_3 12 rfl rfl)
theorem dX4_cutWhy_86 : decode cX4_cutWhy 86 = .ok (.iload_n 1, 1) := dk_27 (dk_at dksX4_cutWhy_3 14 rfl rfl)
theorem dX4_cutWhy_87 : decode cX4_cutWhy 87 = .ok (.iconst 1, 1) := dk_4 (dk_at dksX4_cutWhy_3 15 rfl rfl)
theorem dX4_cutWhy_88 : decode cX4_cutWhy 88 = .ok (.iadd, 1) := dk_96 (dk_at dksX4_cutWhy_3 16 rfl rfl)
theorem dX4_cutWhy_89 : decode cX4_cutWhy 89 = .ok (.iastore, 1) := dk_79 (dk_at dksX4_cutWhy_3 17 rfl rfl)
theorem dX4_cutWhy_90 : decode cX4_cutWhy 90 = .ok (.aload_n 0, 1) := dk_42 (dk_at dksX4_cutWhy_3 18 rfl rfl)
theorem dX4_cutWhy_91 : decode cX4_cutWhy 91 = .ok (.getfield 38, 3) := dk_180 0 38 (dk_at dksX4_cutWhy_3 19 rfl rfl)
theorem dX4_cutWhy_94 : decode cX4_cutWhy 94 = .ok (.bipush 9, 2) := dk_16 9 (dk_at dksX4_cutWhy_3 22 rfl rfl)
theorem dX4_cutWhy_96 : decode cX4_cutWhy 96 = .ok (.aload_n 0, 1) := dk_42 (dk_at dksX4_cutWhy_4 0 rfl rfl)
theorem dX4_cutWhy_97 : decode cX4_cutWhy 97 = .ok (.getfield 20, 3) := dk_180 0 20 (dk_at dksX4_cutWhy_4 1 rfl rfl)
theorem dX4_cutWhy_100 : decode cX4_cutWhy 100 = .ok (.iconst 1, 1) := dk_4 (dk_at dksX4_cutWhy_4 4 rfl rfl)
theorem dX4_cutWhy_101 : decode cX4_cutWhy 101 = .ok (.iaload, 1) := dk_46 (dk_at dksX4_cutWhy_4 5 rfl rfl)
theorem dX4_cutWhy_102 : decode cX4_cutWhy 102 = .ok (.iconst 1, 1) := dk_4 (dk_at dksX4_cutWhy_4 6 rfl rfl)
theorem dX4_cutWhy_103 : decode cX4_cutWhy 103 = .ok (.isub, 1) := dk_100 (dk_at dksX4_cutWhy_4 7 rfl rfl)
theorem dX4_cutWhy_104 : decode cX4_cutWhy 104 = .ok (.iastore, 1) := dk_79 (dk_at dksX4_cutWhy_4 8 rfl rfl)
theorem dX4_cutWhy_105 : decode cX4_cutWhy 105 = .ok (.aload_n 0, 1) := dk_42 (dk_at dksX4_cutWhy_4 9 rfl rfl)
theorem dX4_cutWhy_106 : decode cX4_cutWhy 106 = .ok (.invokevirtual 359, 3) := dk_182 1 103 (dk_at dksX4_cutWhy_4 10 rfl rfl)
theorem dX4_cutWhy_109 : decode cX4_cutWhy 109 = .ok (.aload_n 0, 1) := dk_42 (dk_at dksX4_cutWhy_4 13 rfl rfl)
theorem dX4_cutWhy_110 : decode cX4_cutWhy 110 = .ok (.iconst 3, 1) := dk_6 (dk_at dksX4_cutWhy_4 14 rfl rfl)
theorem dX4_cutWhy_111 : decode cX4_cutWhy 111 = .ok (.invokevirtual 368, 3) := dk_182 1 112 (dk_at dksX4_cutWhy_4 15 rfl rfl)
theorem dX4_cutWhy_114 : decode cX4_cutWhy 114 = .ok (.istore_n 2, 1) := dk_61 (dk_at dksX4_cutWhy_4 18 rfl rfl)
theorem dX4_cutWhy_115 : decode cX4_cutWhy 115 = .ok (.iload_n 2, 1) := dk_28 (dk_at dksX4_cutWhy_4 19 rfl rfl)
theorem dX4_cutWhy_116 : decode cX4_cutWhy 116 = .ok (.aload_n 0, 1) := dk_42 (dk_at dksX4_cutWhy_4 20 rfl rfl)
theorem dX4_cutWhy_117 : decode cX4_cutWhy 117 = .ok (.getfield 387, 3) := dk_180 1 131 (dk_at dksX4_cutWhy_4 21 rfl rfl)
theorem dX4_cutWhy_120 : decode cX4_cutWhy 120 = .ok (.if_icmp .lt 6, 3) := dk_161 0 6 (dk_at dksX4_cutWhy_5 0 rfl rfl)
theorem dX4_cutWhy_123 : decode cX4_cutWhy 123 = .ok (.goto 13, 3) := dk_167 0 13 (dk_at dksX4_cutWhy_5 3 rfl rfl)
theorem dX4_cutWhy_126 : decode cX4_cutWhy 126 = .ok (.aload_n 0, 1) := dk_42 (dk_at dksX4_cutWhy_5 6 rfl rfl)
theorem dX4_cutWhy_127 : decode cX4_cutWhy 127 = .ok (.iload_n 2, 1) := dk_28 (dk_at dksX4_cutWhy_5 7 rfl rfl)
theorem dX4_cutWhy_128 : decode cX4_cutWhy 128 = .ok (.putfield 387, 3) := dk_181 1 131 (dk_at dksX4_cutWhy_5 8 rfl rfl)
theorem dX4_cutWhy_131 : decode cX4_cutWhy 131 = .ok (.aload_n 0, 1) := dk_42 (dk_at dksX4_cutWhy_5 11 rfl rfl)
theorem dX4_cutWhy_132 : decode cX4_cutWhy 132 = .ok (.iload_n 1, 1) := dk_27 (dk_at dksX4_cutWhy_5 12 rfl rfl)
theorem dX4_cutWhy_133 : decode cX4_cutWhy 133 = .ok (.putfield 390, 3) := dk_181 1 134 (dk_at dksX4_cutWhy_5 13 rfl rfl)
theorem dX4_cutWhy_136 : decode cX4_cutWhy 136 = .ok (.iinc 1 1, 3) := dk_132 1 1 (dk_at dksX4_cutWhy_5 16 rfl rfl)
theorem dX4_cutWhy_139 : decode cX4_cutWhy 139 = .ok (.goto (-99), 3) := dk_167 255 157 (dk_at dksX4_cutWhy_5 19 rfl rfl)
theorem dX4_cutWhy_142 : decode cX4_cutWhy 142 = .ok (.iconst 0, 1) := dk_3 (dk_at dksX4_cutWhy_5 22 rfl rfl)
theorem dX4_cutWhy_143 : decode cX4_cutWhy 143 = .ok (.ireturn, 1) := dk_172 (dk_at dksX4_cutWhy_5 23 rfl rfl)
abbrev cX4_cutWaits : ByteArray := prog_24_method_98_code
def yX4_cutWaits : MethodName := ⟨RX4, "cutWaits", "()I"⟩
def dkwX4_cutWaits_1 : List UInt8 := [180, 1, 131, 172]
abbrev dktX4_cutWaits_1 : List UInt8 := dkwX4_cutWaits_1 ++ []
def dkwX4_cutWaits_0 : List UInt8 := [42, 182, 0, 165, 42, 182, 1, 137, 60, 27, 153, 0, 11, 42, 27, 182, 0, 168, 167, 0, 7, 42]
abbrev dktX4_cutWaits_0 : List UInt8 := dkwX4_cutWaits_0 ++ dktX4_cutWaits_1
theorem dksX4_cutWaits_0 : cX4_cutWaits.data.toList.drop 0 = dktX4_cutWaits_0 := by decide +kernel
theorem dksX4_cutWaits_1 : cX4_cutWaits.data.toList.drop 22 = dktX4_cutWaits_1 := dk_seg dksX4_cutWaits_0 22 rfl rfl
theorem dX4_cutWaits_0 : decode cX4_cutWaits 0 = .ok (.aload_n 0, 1) := dk_42 (dk_at dksX4_cutWaits_0 0 rfl rfl)
theorem dX4_cutWaits_1 : decode cX4_cutWaits 1 = .ok (.invokevirtual 165, 3) := dk_182 0 165 (dk_at dksX4_cutWaits_0 1 rfl rfl)
theorem dX4_cutWaits_4 : decode cX4_cutWaits 4 = .ok (.aload_n 0, 1) := dk_42 (dk_at dksX4_cutWaits_0 4 rfl rfl)
theorem dX4_cutWaits_5 : decode cX4_cutWaits 5 = .ok (.invokevirtual 393, 3) := dk_182 1 137 (dk_at dksX4_cutWaits_0 5 rfl rfl)
theorem dX4_cutWaits_8 : decode cX4_cutWaits 8 = .ok (.istore_n 1, 1) := dk_60 (dk_at dksX4_cutWaits_0 8 rfl rfl)
theorem dX4_cutWaits_9 : decode cX4_cutWaits 9 = .ok (.iload_n 1, 1) := dk_27 (dk_at dksX4_cutWaits_0 9 rfl rfl)
theorem dX4_cutWaits_10 : decode cX4_cutWaits 10 = .ok (.ifCond .eq 11, 3) := dk_153 0 11 (dk_at dksX4_cutWaits_0 10 rfl rfl)
theorem dX4_cutWaits_13 : decode cX4_cutWaits 13 = .ok (.aload_n 0, 1) := dk_42 (dk_at dksX4_cutWaits_0 13 rfl rfl)
theorem dX4_cutWaits_14 : decode cX4_cutWaits 14 = .ok (.iload_n 1, 1) := dk_27 (dk_at dksX4_cutWaits_0 14 rfl rfl)
theorem dX4_cutWaits_15 : decode cX4_cutWaits 15 = .ok (.invokevirtual 168, 3) := dk_182 0 168 (dk_at dksX4_cutWaits_0 15 rfl rfl)
theorem dX4_cutWaits_18 : decode cX4_cutWaits 18 = .ok (.goto 7, 3) := dk_167 0 7 (dk_at dksX4_cutWaits_0 18 rfl rfl)
theorem dX4_cutWaits_21 : decode cX4_cutWaits 21 = .ok (.aload_n 0, 1) := dk_42 (dk_at dksX4_cutWaits_0 21 rfl rfl)
theorem dX4_cutWaits_22 : decode cX4_cutWaits 22 = .ok (.getfield 387, 3) := dk_180 1 131 (dk_at dksX4_cutWaits_1 0 rfl rfl)
theorem dX4_cutWaits_25 : decode cX4_cutWaits 25 = .ok (.ireturn, 1) := dk_172 (dk_at dksX4_cutWaits_1 3 rfl rfl)
abbrev cX4_letCosts : ByteArray := prog_24_method_100_code
def yX4_letCosts : MethodName := ⟨RX4, "letCosts", "(II)I"⟩
def dkwX4_letCosts_5 : List UInt8 := [182, 1, 81, 29, 100, 172]
abbrev dktX4_letCosts_5 : List UInt8 := dkwX4_letCosts_5 ++ []
def dkwX4_letCosts_4 : List UInt8 := [6, 184, 1, 31, 4, 96, 79, 42, 182, 1, 103, 42, 180, 0, 26, 21, 4, 21, 5, 79, 42, 27]
abbrev dktX4_letCosts_4 : List UInt8 := dkwX4_letCosts_4 ++ dktX4_letCosts_5
def dkwX4_letCosts_3 : List UInt8 := [6, 96, 54, 4, 42, 180, 0, 26, 21, 4, 46, 54, 5, 42, 180, 0, 26, 21, 4, 42, 180, 0, 26, 28]
abbrev dktX4_letCosts_3 : List UInt8 := dkwX4_letCosts_3 ++ dktX4_letCosts_4
def dkwX4_letCosts_2 : List UInt8 := [181, 0, 63, 17, 252, 24, 172, 42, 182, 1, 106, 42, 27, 182, 1, 81, 62, 16, 12, 16, 8, 27, 104, 96]
abbrev dktX4_letCosts_2 : List UInt8 := dkwX4_letCosts_2 ++ dktX4_letCosts_3
def dkwX4_letCosts_1 : List UInt8 := [160, 0, 11, 42, 17, 252, 24, 182, 1, 119, 172, 42, 27, 28, 182, 1, 140, 153, 0, 12, 42, 8]
abbrev dktX4_letCosts_1 : List UInt8 := dkwX4_letCosts_1 ++ dktX4_letCosts_2
def dkwX4_letCosts_0 : List UInt8 := [42, 182, 0, 165, 42, 27, 182, 1, 90, 153, 0, 16, 42, 28, 182, 1, 90, 153, 0, 8, 27, 28]
abbrev dktX4_letCosts_0 : List UInt8 := dkwX4_letCosts_0 ++ dktX4_letCosts_1
theorem dksX4_letCosts_0 : cX4_letCosts.data.toList.drop 0 = dktX4_letCosts_0 := by decide +kernel
theorem dksX4_letCosts_1 : cX4_letCosts.data.toList.drop 22 = dktX4_letCosts_1 := dk_seg dksX4_letCosts_0 22 rfl rfl
theorem dksX4_letCosts_2 : cX4_letCosts.data.toList.drop 44 = dktX4_letCosts_2 := dk_seg dksX4_letCosts_1 22 rfl rfl
theorem dksX4_letCosts_3 : cX4_letCosts.data.toList.drop 68 = dktX4_letCosts_3 := dk_seg dksX4_letCosts_2 24 rfl rfl
theorem dksX4_letCosts_4 : cX4_letCosts.data.toList.drop 92 = dktX4_letCosts_4 := dk_seg dksX4_letCosts_3 24 rfl rfl
theorem dksX4_letCosts_5 : cX4_letCosts.data.toList.drop 114 = dktX4_letCosts_5 := dk_seg dksX4_letCosts_4 22 rfl rfl
theorem dX4_letCosts_0 : decode cX4_letCosts 0 = .ok (.aload_n 0, 1) := dk_42 (dk_at dksX4_letCosts_0 0 rfl rfl)
theorem dX4_letCosts_1 : decode cX4_letCosts 1 = .ok (.invokevirtual 165, 3) := dk_182 0 165 (dk_at dksX4_letCosts_0 1 rfl rfl)
theorem dX4_letCosts_4 : decode cX4_letCosts 4 = .ok (.aload_n 0, 1) := dk_42 (dk_at dksX4_letCosts_0 4 rfl rfl)
theorem dX4_letCosts_5 : decode cX4_letCosts 5 = .ok (.iload_n 1, 1) := dk_27 (dk_at dksX4_letCosts_0 5 rfl rfl)
theorem dX4_letCosts_6 : decode cX4_letCosts 6 = .ok (.invokevirtual 346, 3) := dk_182 1 90 (dk_at dksX4_letCosts_0 6 rfl rfl)
theorem dX4_letCosts_9 : decode cX4_letCosts 9 = .ok (.ifCond .eq 16, 3) := dk_153 0 16 (dk_at dksX4_letCosts_0 9 rfl rfl)
theorem dX4_letCosts_12 : decode cX4_letCosts 12 = .ok (.aload_n 0, 1) := dk_42 (dk_at dksX4_letCosts_0 12 rfl rfl)
theorem dX4_letCosts_13 : decode cX4_letCosts 13 = .ok (.iload_n 2, 1) := dk_28 (dk_at dksX4_letCosts_0 13 rfl rfl)
theorem dX4_letCosts_14 : decode cX4_letCosts 14 = .ok (.invokevirtual 346, 3) := dk_182 1 90 (dk_at dksX4_letCosts_0 14 rfl rfl)
theorem dX4_letCosts_17 : decode cX4_letCosts 17 = .ok (.ifCond .eq 8, 3) := dk_153 0 8 (dk_at dksX4_letCosts_0 17 rfl rfl)
theorem dX4_letCosts_20 : decode cX4_letCosts 20 = .ok (.iload_n 1, 1) := dk_27 (dk_at dksX4_letCosts_0 20 rfl rfl)
theorem dX4_letCosts_21 : decode cX4_letCosts 21 = .ok (.iload_n 2, 1) := dk_28 (dk_at dksX4_letCosts_0 21 rfl rfl)
theorem dX4_letCosts_22 : decode cX4_letCosts 22 = .ok (.if_icmp .ne 11, 3) := dk_160 0 11 (dk_at dksX4_letCosts_1 0 rfl rfl)
theorem dX4_letCosts_25 : decode cX4_letCosts 25 = .ok (.aload_n 0, 1) := dk_42 (dk_at dksX4_letCosts_1 3 rfl rfl)
theorem dX4_letCosts_26 : decode cX4_letCosts 26 = .ok (.sipush (-1000), 3) := dk_17 252 24 (dk_at dksX4_letCosts_1 4 rfl rfl)
theorem dX4_letCosts_29 : decode cX4_letCosts 29 = .ok (.invokevirtual 375, 3) := dk_182 1 119 (dk_at dksX4_letCosts_1 7 rfl rfl)
theorem dX4_letCosts_32 : decode cX4_letCosts 32 = .ok (.ireturn, 1) := dk_172 (dk_at dksX4_letCosts_1 10 rfl rfl)
theorem dX4_letCosts_33 : decode cX4_letCosts 33 = .ok (.aload_n 0, 1) := dk_42 (dk_at dksX4_letCosts_1 11 rfl rfl)
theorem dX4_letCosts_34 : decode cX4_letCosts 34 = .ok (.iload_n 1, 1) := dk_27 (dk_at dksX4_letCosts_1 12 rfl rfl)
theorem dX4_letCosts_35 : decode cX4_letCosts 35 = .ok (.iload_n 2, 1) := dk_28 (dk_at dksX4_letCosts_1 13 rfl rfl)
theorem dX4_letCosts_36 : decode cX4_letCosts 36 = .ok (.invokevirtual 396, 3) := dk_182 1 140 (dk_at dksX4_letCosts_1 14 rfl rfl)
theorem dX4_letCosts_39 : decode cX4_letCosts 39 = .ok (.ifCond .eq 12, 3) := dk_153 0 12 (dk_at dksX4_letCosts_1 17 rfl rfl)
theorem dX4_letCosts_42 : decode cX4_letCosts 42 = .ok (.aload_n 0, 1) := dk_42 (dk_at dksX4_letCosts_1 20 rfl rfl)
theorem dX4_letCosts_43 : decode cX4_letCosts 43 = .ok (.iconst 5, 1) := dk_8 (dk_at dksX4_letCosts_1 21 rfl rfl)
theorem dX4_letCosts_44 : decode cX4_letCosts 44 = .ok (.putfield 63, 3) := dk_181 0 63 (dk_at dksX4_letCosts_2 0 rfl rfl)
theorem dX4_letCosts_47 : decode cX4_letCosts 47 = .ok (.sipush (-1000), 3) := dk_17 252 24 (dk_at dksX4_letCosts_2 3 rfl rfl)
theorem dX4_letCosts_50 : decode cX4_letCosts 50 = .ok (.ireturn, 1) := dk_172 (dk_at dksX4_letCosts_2 6 rfl rfl)
theorem dX4_letCosts_51 : decode cX4_letCosts 51 = .ok (.aload_n 0, 1) := dk_42 (dk_at dksX4_letCosts_2 7 rfl rfl)
theorem dX4_letCosts_52 : decode cX4_letCosts 52 = .ok (.invokevirtual 362, 3) := dk_182 1 106 (dk_at dksX4_letCosts_2 8 rfl rfl)
theorem dX4_letCosts_55 : decode cX4_letCosts 55 = .ok (.aload_n 0, 1) := dk_42 (dk_at dksX4_letCosts_2 11 rfl rfl)
theorem dX4_letCosts_56 : decode cX4_letCosts 56 = .ok (.iload_n 1, 1) := dk_27 (dk_at dksX4_letCosts_2 12 rfl rfl)
theorem dX4_letCosts_57 : decode cX4_letCosts 57 = .ok (.invokevirtual 337, 3) := dk_182 1 81 (dk_at dksX4_letCosts_2 13 rfl rfl)
theorem dX4_letCosts_60 : decode cX4_letCosts 60 = .ok (.istore_n 3, 1) := dk_62 (dk_at dksX4_letCosts_2 16 rfl rfl)
theorem dX4_letCosts_61 : decode cX4_letCosts 61 = .ok (.bipush 12, 2) := dk_16 12 (dk_at dksX4_letCosts_2 17 rfl rfl)
theorem dX4_letCosts_63 : decode cX4_letCosts 63 = .ok (.bipush 8, 2) := dk_16 8 (dk_at dksX4_letCosts_2 19 rfl rfl)
theorem dX4_letCosts_65 : decode cX4_letCosts 65 = .ok (.iload_n 1, 1) := dk_27 (dk_at dksX4_letCosts_2 21 rfl rfl)
theorem dX4_letCosts_66 : decode cX4_letCosts 66 = .ok (.imul, 1) := dk_104 (dk_at dksX4_letCosts_2 22 rfl rfl)
theorem dX4_letCosts_67 : decode cX4_letCosts 67 = .ok (.iadd, 1) := dk_96 (dk_at dksX4_letCosts_2 23 rfl rfl)
theorem dX4_letCosts_68 : decode cX4_letCosts 68 = .ok (.iconst 3, 1) := dk_6 (dk_at dksX4_letCosts_3 0 rfl rfl)
theorem dX4_letCosts_69 : decode cX4_letCosts 69 = .ok (.iadd, 1) := dk_96 (dk_at dksX4_letCosts_3 1 rfl rfl)
theorem dX4_letCosts_70 : decode cX4_letCosts 70 = .ok (.istore 4, 2) := dk_54 4 (dk_at dksX4_letCosts_3 2 rfl rfl)
theorem dX4_letCosts_72 : decode cX4_letCosts 72 = .ok (.aload_n 0, 1) := dk_42 (dk_at dksX4_letCosts_3 4 rfl rfl)
theorem dX4_letCosts_73 : decode cX4_letCosts 73 = .ok (.getfield 26, 3) := dk_180 0 26 (dk_at dksX4_letCosts_3 5 rfl rfl)
theorem dX4_letCosts_76 : decode cX4_letCosts 76 = .ok (.iload 4, 2) := dk_21 4 (dk_at dksX4_letCosts_3 8 rfl rfl)
theorem dX4_letCosts_78 : decode cX4_letCosts 78 = .ok (.iaload, 1) := dk_46 (dk_at dksX4_letCosts_3 10 rfl rfl)
theorem dX4_letCosts_79 : decode cX4_letCosts 79 = .ok (.istore 5, 2) := dk_54 5 (dk_at dksX4_letCosts_3 11 rfl rfl)
theorem dX4_letCosts_81 : decode cX4_letCosts 81 = .ok (.aload_n 0, 1) := dk_42 (dk_at dksX4_letCosts_3 13 rfl rfl)
theorem dX4_letCosts_82 : decode cX4_letCosts 82 = .ok (.getfield 26, 3) := dk_180 0 26 (dk_at dksX4_letCosts_3 14 rfl rfl)
theorem dX4_letCosts_85 : decode cX4_letCosts 85 = .ok (.iload 4, 2) := dk_21 4 (dk_at dksX4_letCosts_3 17 rfl rfl)
theorem dX4_letCosts_87 : decode cX4_letCosts 87 = .ok (.aload_n 0, 1) := dk_42 (dk_at dksX4_letCosts_3 19 rfl rfl)
theorem dX4_letCosts_88 : decode cX4_letCosts 88 = .ok (.getfield 26, 3) := dk_180 0 26 (dk_at dksX4_letCosts_3 20 rfl rfl)
theorem dX4_letCosts_91 : decode cX4_letCosts 91 = .ok (.iload_n 2, 1) := dk_28 (dk_at dksX4_letCosts_3 23 rfl rfl)
theorem dX4_letCosts_92 : decode cX4_letCosts 92 = .ok (.iconst 3, 1) := dk_6 (dk_at dksX4_letCosts_4 0 rfl rfl)
theorem dX4_letCosts_93 : decode cX4_letCosts 93 = .ok (.invokestatic 287, 3) := dk_184 1 31 (dk_at dksX4_letCosts_4 1 rfl rfl)
theorem dX4_letCosts_96 : decode cX4_letCosts 96 = .ok (.iconst 1, 1) := dk_4 (dk_at dksX4_letCosts_4 4 rfl rfl)
theorem dX4_letCosts_97 : decode cX4_letCosts 97 = .ok (.iadd, 1) := dk_96 (dk_at dksX4_letCosts_4 5 rfl rfl)
theorem dX4_letCosts_98 : decode cX4_letCosts 98 = .ok (.iastore, 1) := dk_79 (dk_at dksX4_letCosts_4 6 rfl rfl)
theorem dX4_letCosts_99 : decode cX4_letCosts 99 = .ok (.aload_n 0, 1) := dk_42 (dk_at dksX4_letCosts_4 7 rfl rfl)
theorem dX4_letCosts_100 : decode cX4_letCosts 100 = .ok (.invokevirtual 359, 3) := dk_182 1 103 (dk_at dksX4_letCosts_4 8 rfl rfl)
theorem dX4_letCosts_103 : decode cX4_letCosts 103 = .ok (.aload_n 0, 1) := dk_42 (dk_at dksX4_letCosts_4 11 rfl rfl)
theorem dX4_letCosts_104 : decode cX4_letCosts 104 = .ok (.getfield 26, 3) := dk_180 0 26 (dk_at dksX4_letCosts_4 12 rfl rfl)
theorem dX4_letCosts_107 : decode cX4_letCosts 107 = .ok (.iload 4, 2) := dk_21 4 (dk_at dksX4_letCosts_4 15 rfl rfl)
theorem dX4_letCosts_109 : decode cX4_letCosts 109 = .ok (.iload 5, 2) := dk_21 5 (dk_at dksX4_letCosts_4 17 rfl rfl)
theorem dX4_letCosts_111 : decode cX4_letCosts 111 = .ok (.iastore, 1) := dk_79 (dk_at dksX4_letCosts_4 19 rfl rfl)
theorem dX4_letCosts_112 : decode cX4_letCosts 112 = .ok (.aload_n 0, 1) := dk_42 (dk_at dksX4_letCosts_4 20 rfl rfl)
theorem dX4_letCosts_113 : decode cX4_letCosts 113 = .ok (.iload_n 1, 1) := dk_27 (dk_at dksX4_letCosts_4 21 rfl rfl)
theorem dX4_letCosts_114 : decode cX4_letCosts 114 = .ok (.invokevirtual 337, 3) := dk_182 1 81 (dk_at dksX4_letCosts_5 0 rfl rfl)
theorem dX4_letCosts_117 : decode cX4_letCosts 117 = .ok (.iload_n 3, 1) := dk_29 (dk_at dksX4_letCosts_5 3 rfl rfl)
theorem dX4_letCosts_118 : decode cX4_letCosts 118 = .ok (.isub, 1) := dk_100 (dk_at dksX4_letCosts_5 4 rfl rfl)
theorem dX4_letCosts_119 : decode cX4_letCosts 119 = .ok (.ireturn, 1) := dk_172 (dk_at dksX4_letCosts_5 5 rfl rfl)
abbrev cX4_canNotLet : ByteArray := prog_24_method_99_code
def yX4_canNotLet : MethodName := ⟨RX4, "canNotLet", "(II)Z"⟩
def dkwX4_canNotLet_2 : List UInt8 := [3, 172]
abbrev dktX4_canNotLet_2 : List UInt8 := dkwX4_canNotLet_2 ++ []
def dkwX4_canNotLet_1 : List UInt8 := [180, 0, 26, 27, 6, 184, 1, 31, 42, 180, 0, 26, 28, 6, 184, 1, 31, 164, 0, 7, 4, 167, 0, 4]
abbrev dktX4_canNotLet_1 : List UInt8 := dkwX4_canNotLet_1 ++ dktX4_canNotLet_2
def dkwX4_canNotLet_0 : List UInt8 := [42, 180, 0, 26, 27, 184, 1, 45, 153, 0, 35, 42, 180, 0, 26, 28, 184, 1, 45, 153, 0, 24, 42]
abbrev dktX4_canNotLet_0 : List UInt8 := dkwX4_canNotLet_0 ++ dktX4_canNotLet_1
theorem dksX4_canNotLet_0 : cX4_canNotLet.data.toList.drop 0 = dktX4_canNotLet_0 := by decide +kernel
theorem dksX4_canNotLet_1 : cX4_canNotLet.data.toList.drop 23 = dktX4_canNotLet_1 := dk_seg dksX4_canNotLet_0 23 rfl rfl
theorem dksX4_canNotLet_2 : cX4_canNotLet.data.toList.drop 47 = dktX4_canNotLet_2 := dk_seg dksX4_canNotLet_1 24 rfl rfl
theorem dX4_canNotLet_0 : decode cX4_canNotLet 0 = .ok (.aload_n 0, 1) := dk_42 (dk_at dksX4_canNotLet_0 0 rfl rfl)
theorem dX4_canNotLet_1 : decode cX4_canNotLet 1 = .ok (.getfield 26, 3) := dk_180 0 26 (dk_at dksX4_canNotLet_0 1 rfl rfl)
theorem dX4_canNotLet_4 : decode cX4_canNotLet 4 = .ok (.iload_n 1, 1) := dk_27 (dk_at dksX4_canNotLet_0 4 rfl rfl)
theorem dX4_canNotLet_5 : decode cX4_canNotLet 5 = .ok (.invokestatic 301, 3) := dk_184 1 45 (dk_at dksX4_canNotLet_0 5 rfl rfl)
theorem dX4_canNotLet_8 : decode cX4_canNotLet 8 = .ok (.ifCond .eq 35, 3) := dk_153 0 35 (dk_at dksX4_canNotLet_0 8 rfl rfl)
theorem dX4_canNotLet_11 : decode cX4_canNotLet 11 = .ok (.aload_n 0, 1) := dk_42 (dk_at dksX4_canNotLet_0 11 rfl rfl)
theorem dX4_canNotLet_12 : decode cX4_canNotLet 12 = .ok (.getfield 26, 3) := dk_180 0 26 (dk_at dksX4_canNotLet_0 12 rfl rfl)
theorem dX4_canNotLet_15 : decode cX4_canNotLet 15 = .ok (.iload_n 2, 1) := dk_28 (dk_at dksX4_canNotLet_0 15 rfl rfl)
theorem dX4_canNotLet_16 : decode cX4_canNotLet 16 = .ok (.invokestatic 301, 3) := dk_184 1 45 (dk_at dksX4_canNotLet_0 16 rfl rfl)
theorem dX4_canNotLet_19 : decode cX4_canNotLet 19 = .ok (.ifCond .eq 24, 3) := dk_153 0 24 (dk_at dksX4_canNotLet_0 19 rfl rfl)
theorem dX4_canNotLet_22 : decode cX4_canNotLet 22 = .ok (.aload_n 0, 1) := dk_42 (dk_at dksX4_canNotLet_0 22 rfl rfl)
theorem dX4_canNotLet_23 : decode cX4_canNotLet 23 = .ok (.getfield 26, 3) := dk_180 0 26 (dk_at dksX4_canNotLet_1 0 rfl rfl)
theorem dX4_canNotLet_26 : decode cX4_canNotLet 26 = .ok (.iload_n 1, 1) := dk_27 (dk_at dksX4_canNotLet_1 3 rfl rfl)
theorem dX4_canNotLet_27 : decode cX4_canNotLet 27 = .ok (.iconst 3, 1) := dk_6 (dk_at dksX4_canNotLet_1 4 rfl rfl)
theorem dX4_canNotLet_28 : decode cX4_canNotLet 28 = .ok (.invokestatic 287, 3) := dk_184 1 31 (dk_at dksX4_canNotLet_1 5 rfl rfl)
theorem dX4_canNotLet_31 : decode cX4_canNotLet 31 = .ok (.aload_n 0, 1) := dk_42 (dk_at dksX4_canNotLet_1 8 rfl rfl)
theorem dX4_canNotLet_32 : decode cX4_canNotLet 32 = .ok (.getfield 26, 3) := dk_180 0 26 (dk_at dksX4_canNotLet_1 9 rfl rfl)
theorem dX4_canNotLet_35 : decode cX4_canNotLet 35 = .ok (.iload_n 2, 1) := dk_28 (dk_at dksX4_canNotLet_1 12 rfl rfl)
theorem dX4_canNotLet_36 : decode cX4_canNotLet 36 = .ok (.iconst 3, 1) := dk_6 (dk_at dksX4_canNotLet_1 13 rfl rfl)
theorem dX4_canNotLet_37 : decode cX4_canNotLet 37 = .ok (.invokestatic 287, 3) := dk_184 1 31 (dk_at dksX4_canNotLet_1 14 rfl rfl)
theorem dX4_canNotLet_40 : decode cX4_canNotLet 40 = .ok (.if_icmp .le 7, 3) := dk_164 0 7 (dk_at dksX4_canNotLet_1 17 rfl rfl)
theorem dX4_canNotLet_43 : decode cX4_canNotLet 43 = .ok (.iconst 1, 1) := dk_4 (dk_at dksX4_canNotLet_1 20 rfl rfl)
theorem dX4_canNotLet_44 : decode cX4_canNotLet 44 = .ok (.goto 4, 3) := dk_167 0 4 (dk_at dksX4_canNotLet_1 21 rfl rfl)
theorem dX4_canNotLet_47 : decode cX4_canNotLet 47 = .ok (.iconst 0, 1) := dk_3 (dk_at dksX4_canNotLet_2 0 rfl rfl)
theorem dX4_canNotLet_48 : decode cX4_canNotLet 48 = .ok (.ireturn, 1) := dk_172 (dk_at dksX4_canNotLet_2 1 rfl rfl)
abbrev cX4_honesty : ByteArray := prog_24_method_104_code
def yX4_honesty : MethodName := ⟨RX4, "honesty", "(IZ)I"⟩
def dkwX4_honesty_3 : List UInt8 := [132, 5, 1, 167, 255, 217, 21, 4, 172]
abbrev dktX4_honesty_3 : List UInt8 := dkwX4_honesty_3 ++ []
def dkwX4_honesty_2 : List UInt8 := [21, 5, 184, 1, 78, 28, 159, 0, 12, 42, 21, 5, 182, 1, 81, 167, 0, 4, 3, 96, 54, 4]
abbrev dktX4_honesty_2 : List UInt8 := dkwX4_honesty_2 ++ dktX4_honesty_3
def dkwX4_honesty_1 : List UInt8 := [182, 1, 149, 3, 54, 4, 3, 54, 5, 21, 5, 42, 180, 0, 20, 8, 46, 162, 0, 34, 21, 4, 27]
abbrev dktX4_honesty_1 : List UInt8 := dkwX4_honesty_1 ++ dktX4_honesty_2
def dkwX4_honesty_0 : List UInt8 := [42, 182, 0, 165, 42, 27, 182, 1, 146, 62, 29, 153, 0, 9, 42, 29, 182, 0, 168, 172, 42, 27]
abbrev dktX4_honesty_0 : List UInt8 := dkwX4_honesty_0 ++ dktX4_honesty_1
theorem dksX4_honesty_0 : cX4_honesty.data.toList.drop 0 = dktX4_honesty_0 := by decide +kernel
theorem dksX4_honesty_1 : cX4_honesty.data.toList.drop 22 = dktX4_honesty_1 := dk_seg dksX4_honesty_0 22 rfl rfl
theorem dksX4_honesty_2 : cX4_honesty.data.toList.drop 45 = dktX4_honesty_2 := dk_seg dksX4_honesty_1 23 rfl rfl
theorem dksX4_honesty_3 : cX4_honesty.data.toList.drop 67 = dktX4_honesty_3 := dk_seg dksX4_honesty_2 22 rfl rfl
theorem dX4_honesty_0 : decode cX4_honesty 0 = .ok (.aload_n 0, 1) := dk_42 (dk_at dksX4_honesty_0 0 rfl rfl)
theorem dX4_honesty_1 : decode cX4_honesty 1 = .ok (.invokevirtual 165, 3) := dk_182 0 165 (dk_at dksX4_honesty_0 1 rfl rfl)
theorem dX4_honesty_4 : decode cX4_honesty 4 = .ok (.aload_n 0, 1) := dk_42 (dk_at dksX4_honesty_0 4 rfl rfl)
theorem dX4_honesty_5 : decode cX4_honesty 5 = .ok (.iload_n 1, 1) := dk_27 (dk_at dksX4_honesty_0 5 rfl rfl)
theorem dX4_honesty_6 : decode cX4_honesty 6 = .ok (.invokevirtual 402, 3) := dk_182 1 146 (dk_at dksX4_honesty_0 6 rfl rfl)
theorem dX4_honesty_9 : decode cX4_honesty 9 = .ok (.istore_n 3, 1) := dk_62 (dk_at dksX4_honesty_0 9 rfl rfl)
theorem dX4_honesty_10 : decode cX4_honesty 10 = .ok (.iload_n 3, 1) := dk_29 (dk_at dksX4_honesty_0 10 rfl rfl)
theorem dX4_honesty_11 : decode cX4_honesty 11 = .ok (.ifCond .eq 9, 3) := dk_153 0 9 (dk_at dksX4_honesty_0 11 rfl rfl)
theorem dX4_honesty_14 : decode cX4_honesty 14 = .ok (.aload_n 0, 1) := dk_42 (dk_at dksX4_honesty_0 14 rfl rfl)
theorem dX4_honesty_15 : decode cX4_honesty 15 = .ok (.iload_n 3, 1) := dk_29 (dk_at dksX4_honesty_0 15 rfl rfl)
theorem dX4_honesty_16 : decode cX4_honesty 16 = .ok (.invokevirtual 168, 3) := dk_182 0 168 (dk_at dksX4_honesty_0 16 rfl rfl)
theorem dX4_honesty_19 : decode cX4_honesty 19 = .ok (.ireturn, 1) := dk_172 (dk_at dksX4_honesty_0 19 rfl rfl)
theorem dX4_honesty_20 : decode cX4_honesty 20 = .ok (.aload_n 0, 1) := dk_42 (dk_at dksX4_honesty_0 20 rfl rfl)
theorem dX4_honesty_21 : decode cX4_honesty 21 = .ok (.iload_n 1, 1) := dk_27 (dk_at dksX4_honesty_0 21 rfl rfl)
theorem dX4_honesty_22 : decode cX4_honesty 22 = .ok (.invokevirtual 405, 3) := dk_182 1 149 (dk_at dksX4_honesty_1 0 rfl rfl)
theorem dX4_honesty_25 : decode cX4_honesty 25 = .ok (.iconst 0, 1) := dk_3 (dk_at dksX4_honesty_1 3 rfl rfl)
theorem dX4_honesty_26 : decode cX4_honesty 26 = .ok (.istore 4, 2) := dk_54 4 (dk_at dksX4_honesty_1 4 rfl rfl)
theorem dX4_honesty_28 : decode cX4_honesty 28 = .ok (.iconst 0, 1) := dk_3 (dk_at dksX4_honesty_1 6 rfl rfl)
theorem dX4_honesty_29 : decode cX4_honesty 29 = .ok (.istore 5, 2) := dk_54 5 (dk_at dksX4_honesty_1 7 rfl rfl)
theorem dX4_honesty_31 : decode cX4_honesty 31 = .ok (.iload 5, 2) := dk_21 5 (dk_at dksX4_honesty_1 9 rfl rfl)
theorem dX4_honesty_33 : decode cX4_honesty 33 = .ok (.aload_n 0, 1) := dk_42 (dk_at dksX4_honesty_1 11 rfl rfl)
theorem dX4_honesty_34 : decode cX4_honesty 34 = .ok (.getfield 20, 3) := dk_180 0 20 (dk_at dksX4_honesty_1 12 rfl rfl)
theorem dX4_honesty_37 : decode cX4_honesty 37 = .ok (.iconst 5, 1) := dk_8 (dk_at dksX4_honesty_1 15 rfl rfl)
theorem dX4_honesty_38 : decode cX4_honesty 38 = .ok (.iaload, 1) := dk_46 (dk_at dksX4_honesty_1 16 rfl rfl)
theorem dX4_honesty_39 : decode cX4_honesty 39 = .ok (.if_icmp .ge 34, 3) := dk_162 0 34 (dk_at dksX4_honesty_1 17 rfl rfl)
theorem dX4_honesty_42 : decode cX4_honesty 42 = .ok (.iload 4, 2) := dk_21 4 (dk_at dksX4_honesty_1 20 rfl rfl)
theorem dX4_honesty_44 : decode cX4_honesty 44 = .ok (.iload_n 1, 1) := dk_27 (dk_at dksX4_honesty_1 22 rfl rfl)
theorem dX4_honesty_45 : decode cX4_honesty 45 = .ok (.iload 5, 2) := dk_21 5 (dk_at dksX4_honesty_2 0 rfl rfl)
theorem dX4_honesty_47 : decode cX4_honesty 47 = .ok (.invokestatic 334, 3) := dk_184 1 78 (dk_at dksX4_honesty_2 2 rfl rfl)
theorem dX4_honesty_50 : decode cX4_honesty 50 = .ok (.iload_n 2, 1) := dk_28 (dk_at dksX4_honesty_2 5 rfl rfl)
theorem dX4_honesty_51 : decode cX4_honesty 51 = .ok (.if_icmp .eq 12, 3) := dk_159 0 12 (dk_at dksX4_honesty_2 6 rfl rfl)
theorem dX4_honesty_54 : decode cX4_honesty 54 = .ok (.aload_n 0, 1) := dk_42 (dk_at dksX4_honesty_2 9 rfl rfl)
theorem dX4_honesty_55 : decode cX4_honesty 55 = .ok (.iload 5, 2) := dk_21 5 (dk_at dksX4_honesty_2 10 rfl rfl)
theorem dX4_honesty_57 : decode cX4_honesty 57 = .ok (.invokevirtual 337, 3) := dk_182 1 81 (dk_at dksX4_honesty_2 12 rfl rfl)
theorem dX4_honesty_60 : decode cX4_honesty 60 = .ok (.goto 4, 3) := dk_167 0 4 (dk_at dksX4_honesty_2 15 rfl rfl)
theorem dX4_honesty_63 : decode cX4_honesty 63 = .ok (.iconst 0, 1) := dk_3 (dk_at dksX4_honesty_2 18 rfl rfl)
theorem dX4_honesty_64 : decode cX4_honesty 64 = .ok (.iadd, 1) := dk_96 (dk_at dksX4_honesty_2 19 rfl rfl)
theorem dX4_honesty_65 : decode cX4_honesty 65 = .ok (.istore 4, 2) := dk_54 4 (dk_at dksX4_honesty_2 20 rfl rfl)
theorem dX4_honesty_67 : decode cX4_honesty 67 = .ok (.iinc 5 1, 3) := dk_132 5 1 (dk_at dksX4_honesty_3 0 rfl rfl)
theorem dX4_honesty_70 : decode cX4_honesty 70 = .ok (.goto (-39), 3) := dk_167 255 217 (dk_at dksX4_honesty_3 3 rfl rfl)
theorem dX4_honesty_73 : decode cX4_honesty 73 = .ok (.iload 4, 2) := dk_21 4 (dk_at dksX4_honesty_3 6 rfl rfl)
theorem dX4_honesty_75 : decode cX4_honesty 75 = .ok (.ireturn, 1) := dk_172 (dk_at dksX4_honesty_3 8 rfl rfl)
abbrev cX4_setWhy : ByteArray := prog_24_method_103_code
def yX4_setWhy : MethodName := ⟨RX4, "setWhy", "(I)I"⟩
def dkwX4_setWhy_1 : List UInt8 := [167, 0, 4, 5, 172]
abbrev dktX4_setWhy_1 : List UInt8 := dkwX4_setWhy_1 ++ []
def dkwX4_setWhy_0 : List UInt8 := [42, 180, 0, 178, 154, 0, 7, 4, 167, 0, 20, 27, 3, 42, 182, 1, 143, 184, 0, 147, 153, 0, 7, 3]
abbrev dktX4_setWhy_0 : List UInt8 := dkwX4_setWhy_0 ++ dktX4_setWhy_1
theorem dksX4_setWhy_0 : cX4_setWhy.data.toList.drop 0 = dktX4_setWhy_0 := by decide +kernel
theorem dksX4_setWhy_1 : cX4_setWhy.data.toList.drop 24 = dktX4_setWhy_1 := dk_seg dksX4_setWhy_0 24 rfl rfl
theorem dX4_setWhy_0 : decode cX4_setWhy 0 = .ok (.aload_n 0, 1) := dk_42 (dk_at dksX4_setWhy_0 0 rfl rfl)
theorem dX4_setWhy_1 : decode cX4_setWhy 1 = .ok (.getfield 178, 3) := dk_180 0 178 (dk_at dksX4_setWhy_0 1 rfl rfl)
theorem dX4_setWhy_4 : decode cX4_setWhy 4 = .ok (.ifCond .ne 7, 3) := dk_154 0 7 (dk_at dksX4_setWhy_0 4 rfl rfl)
theorem dX4_setWhy_7 : decode cX4_setWhy 7 = .ok (.iconst 1, 1) := dk_4 (dk_at dksX4_setWhy_0 7 rfl rfl)
theorem dX4_setWhy_8 : decode cX4_setWhy 8 = .ok (.goto 20, 3) := dk_167 0 20 (dk_at dksX4_setWhy_0 8 rfl rfl)
theorem dX4_setWhy_11 : decode cX4_setWhy 11 = .ok (.iload_n 1, 1) := dk_27 (dk_at dksX4_setWhy_0 11 rfl rfl)
theorem dX4_setWhy_12 : decode cX4_setWhy 12 = .ok (.iconst 0, 1) := dk_3 (dk_at dksX4_setWhy_0 12 rfl rfl)
theorem dX4_setWhy_13 : decode cX4_setWhy 13 = .ok (.aload_n 0, 1) := dk_42 (dk_at dksX4_setWhy_0 13 rfl rfl)
theorem dX4_setWhy_14 : decode cX4_setWhy 14 = .ok (.invokevirtual 399, 3) := dk_182 1 143 (dk_at dksX4_setWhy_0 14 rfl rfl)
theorem dX4_setWhy_17 : decode cX4_setWhy 17 = .ok (.invokestatic 147, 3) := dk_184 0 147 (dk_at dksX4_setWhy_0 17 rfl rfl)
theorem dX4_setWhy_20 : decode cX4_setWhy 20 = .ok (.ifCond .eq 7, 3) := dk_153 0 7 (dk_at dksX4_setWhy_0 20 rfl rfl)
theorem dX4_setWhy_23 : decode cX4_setWhy 23 = .ok (.iconst 0, 1) := dk_3 (dk_at dksX4_setWhy_0 23 rfl rfl)
theorem dX4_setWhy_24 : decode cX4_setWhy 24 = .ok (.goto 4, 3) := dk_167 0 4 (dk_at dksX4_setWhy_1 0 rfl rfl)
theorem dX4_setWhy_27 : decode cX4_setWhy 27 = .ok (.iconst 2, 1) := dk_5 (dk_at dksX4_setWhy_1 3 rfl rfl)
theorem dX4_setWhy_28 : decode cX4_setWhy 28 = .ok (.ireturn, 1) := dk_172 (dk_at dksX4_setWhy_1 4 rfl rfl)
abbrev cX4_allPeople : ByteArray := prog_24_method_102_code
def yX4_allPeople : MethodName := ⟨RX4, "allPeople", "()I"⟩
def dkwX4_allPeople_0 : List UInt8 := [4, 42, 180, 0, 20, 8, 46, 120, 4, 100, 172]
abbrev dktX4_allPeople_0 : List UInt8 := dkwX4_allPeople_0 ++ []
theorem dksX4_allPeople_0 : cX4_allPeople.data.toList.drop 0 = dktX4_allPeople_0 := by decide +kernel
theorem dX4_allPeople_0 : decode cX4_allPeople 0 = .ok (.iconst 1, 1) := dk_4 (dk_at dksX4_allPeople_0 0 rfl rfl)
theorem dX4_allPeople_1 : decode cX4_allPeople 1 = .ok (.aload_n 0, 1) := dk_42 (dk_at dksX4_allPeople_0 1 rfl rfl)
theorem dX4_allPeople_2 : decode cX4_allPeople 2 = .ok (.getfield 20, 3) := dk_180 0 20 (dk_at dksX4_allPeople_0 2 rfl rfl)
theorem dX4_allPeople_5 : decode cX4_allPeople 5 = .ok (.iconst 5, 1) := dk_8 (dk_at dksX4_allPeople_0 5 rfl rfl)
theorem dX4_allPeople_6 : decode cX4_allPeople 6 = .ok (.iaload, 1) := dk_46 (dk_at dksX4_allPeople_0 6 rfl rfl)
theorem dX4_allPeople_7 : decode cX4_allPeople 7 = .ok (.ishl, 1) := dk_120 (dk_at dksX4_allPeople_0 7 rfl rfl)
theorem dX4_allPeople_8 : decode cX4_allPeople 8 = .ok (.iconst 1, 1) := dk_4 (dk_at dksX4_allPeople_0 8 rfl rfl)
theorem dX4_allPeople_9 : decode cX4_allPeople 9 = .ok (.isub, 1) := dk_100 (dk_at dksX4_allPeople_0 9 rfl rfl)
theorem dX4_allPeople_10 : decode cX4_allPeople 10 = .ok (.ireturn, 1) := dk_172 (dk_at dksX4_allPeople_0 10 rfl rfl)
abbrev cX4_layHonest : ByteArray := prog_24_method_101_code
def yX4_layHonest : MethodName := ⟨RX4, "layHonest", "(I)V"⟩
def dkwX4_layHonest_3 : List UInt8 := [182, 0, 190, 42, 182, 1, 103, 42, 180, 0, 44, 3, 42, 180, 0, 26, 3, 16, 108, 184, 0, 174, 177]
abbrev dktX4_layHonest_3 : List UInt8 := dkwX4_layHonest_3 ++ []
def dkwX4_layHonest_2 : List UInt8 := [167, 255, 225, 42, 180, 0, 26, 3, 42, 180, 0, 44, 3, 16, 108, 184, 0, 174, 42, 42, 180, 0, 26]
abbrev dktX4_layHonest_2 : List UInt8 := dkwX4_layHonest_2 ++ dktX4_layHonest_3
def dkwX4_layHonest_1 : List UInt8 := [162, 0, 27, 42, 28, 27, 28, 184, 1, 78, 153, 0, 7, 4, 167, 0, 4, 3, 182, 1, 128, 132, 2, 1]
abbrev dktX4_layHonest_1 : List UInt8 := dkwX4_layHonest_1 ++ dktX4_layHonest_2
def dkwX4_layHonest_0 : List UInt8 := [42, 182, 0, 187, 42, 42, 180, 0, 20, 5, 46, 181, 1, 63, 3, 61, 28, 42, 180, 0, 20, 8, 46]
abbrev dktX4_layHonest_0 : List UInt8 := dkwX4_layHonest_0 ++ dktX4_layHonest_1
theorem dksX4_layHonest_0 : cX4_layHonest.data.toList.drop 0 = dktX4_layHonest_0 := by decide +kernel
theorem dksX4_layHonest_1 : cX4_layHonest.data.toList.drop 23 = dktX4_layHonest_1 := dk_seg dksX4_layHonest_0 23 rfl rfl
theorem dksX4_layHonest_2 : cX4_layHonest.data.toList.drop 47 = dktX4_layHonest_2 := dk_seg dksX4_layHonest_1 24 rfl rfl
theorem dksX4_layHonest_3 : cX4_layHonest.data.toList.drop 70 = dktX4_layHonest_3 := dk_seg dksX4_layHonest_2 23 rfl rfl
theorem dX4_layHonest_0 : decode cX4_layHonest 0 = .ok (.aload_n 0, 1) := dk_42 (dk_at dksX4_layHonest_0 0 rfl rfl)
theorem dX4_layHonest_1 : decode cX4_layHonest 1 = .ok (.invokevirtual 187, 3) := dk_182 0 187 (dk_at dksX4_layHonest_0 1 rfl rfl)
theorem dX4_layHonest_4 : decode cX4_layHonest 4 = .ok (.aload_n 0, 1) := dk_42 (dk_at dksX4_layHonest_0 4 rfl rfl)
theorem dX4_layHonest_5 : decode cX4_layHonest 5 = .ok (.aload_n 0, 1) := dk_42 (dk_at dksX4_layHonest_0 5 rfl rfl)
theorem dX4_layHonest_6 : decode cX4_layHonest 6 = .ok (.getfield 20, 3) := dk_180 0 20 (dk_at dksX4_layHonest_0 6 rfl rfl)
theorem dX4_layHonest_9 : decode cX4_layHonest 9 = .ok (.iconst 2, 1) := dk_5 (dk_at dksX4_layHonest_0 9 rfl rfl)
theorem dX4_layHonest_10 : decode cX4_layHonest 10 = .ok (.iaload, 1) := dk_46 (dk_at dksX4_layHonest_0 10 rfl rfl)
theorem dX4_layHonest_11 : decode cX4_layHonest 11 = .ok (.putfield 319, 3) := dk_181 1 63 (dk_at dksX4_layHonest_0 11 rfl rfl)
theorem dX4_layHonest_14 : decode cX4_layHonest 14 = .ok (.iconst 0, 1) := dk_3 (dk_at dksX4_layHonest_0 14 rfl rfl)
theorem dX4_layHonest_15 : decode cX4_layHonest 15 = .ok (.istore_n 2, 1) := dk_61 (dk_at dksX4_layHonest_0 15 rfl rfl)
theorem dX4_layHonest_16 : decode cX4_layHonest 16 = .ok (.iload_n 2, 1) := dk_28 (dk_at dksX4_layHonest_0 16 rfl rfl)
theorem dX4_layHonest_17 : decode cX4_layHonest 17 = .ok (.aload_n 0, 1) := dk_42 (dk_at dksX4_layHonest_0 17 rfl rfl)
theorem dX4_layHonest_18 : decode cX4_layHonest 18 = .ok (.getfield 20, 3) := dk_180 0 20 (dk_at dksX4_layHonest_0 18 rfl rfl)
theorem dX4_layHonest_21 : decode cX4_layHonest 21 = .ok (.iconst 5, 1) := dk_8 (dk_at dksX4_layHonest_0 21 rfl rfl)
theorem dX4_layHonest_22 : decode cX4_layHonest 22 = .ok (.iaload, 1) := dk_46 (dk_at dksX4_layHonest_0 22 rfl rfl)
theorem dX4_layHonest_23 : decode cX4_layHonest 23 = .ok (.if_icmp .ge 27, 3) := dk_162 0 27 (dk_at dksX4_layHonest_1 0 rfl rfl)
theorem dX4_layHonest_26 : decode cX4_layHonest 26 = .ok (.aload_n 0, 1) := dk_42 (dk_at dksX4_layHonest_1 3 rfl rfl)
theorem dX4_layHonest_27 : decode cX4_layHonest 27 = .ok (.iload_n 2, 1) := dk_28 (dk_at dksX4_layHonest_1 4 rfl rfl)
theorem dX4_layHonest_28 : decode cX4_layHonest 28 = .ok (.iload_n 1, 1) := dk_27 (dk_at dksX4_layHonest_1 5 rfl rfl)
theorem dX4_layHonest_29 : decode cX4_layHonest 29 = .ok (.iload_n 2, 1) := dk_28 (dk_at dksX4_layHonest_1 6 rfl rfl)
theorem dX4_layHonest_30 : decode cX4_layHonest 30 = .ok (.invokestatic 334, 3) := dk_184 1 78 (dk_at dksX4_layHonest_1 7 rfl rfl)
theorem dX4_layHonest_33 : decode cX4_layHonest 33 = .ok (.ifCond .eq 7, 3) := dk_153 0 7 (dk_at dksX4_layHonest_1 10 rfl rfl)
theorem dX4_layHonest_36 : decode cX4_layHonest 36 = .ok (.iconst 1, 1) := dk_4 (dk_at dksX4_layHonest_1 13 rfl rfl)
theorem dX4_layHonest_37 : decode cX4_layHonest 37 = .ok (.goto 4, 3) := dk_167 0 4 (dk_at dksX4_layHonest_1 14 rfl rfl)
theorem dX4_layHonest_40 : decode cX4_layHonest 40 = .ok (.iconst 0, 1) := dk_3 (dk_at dksX4_layHonest_1 17 rfl rfl)
theorem dX4_layHonest_41 : decode cX4_layHonest 41 = .ok (.invokevirtual 384, 3) := dk_182 1 128 (dk_at dksX4_layHonest_1 18 rfl rfl)
theorem dX4_layHonest_44 : decode cX4_layHonest 44 = .ok (.iinc 2 1, 3) := dk_132 2 1 (dk_at dksX4_layHonest_1 21 rfl rfl)
theorem dX4_layHonest_47 : decode cX4_layHonest 47 = .ok (.goto (-31), 3) := dk_167 255 225 (dk_at dksX4_layHonest_2 0 rfl rfl)
theorem dX4_layHonest_50 : decode cX4_layHonest 50 = .ok (.aload_n 0, 1) := dk_42 (dk_at dksX4_layHonest_2 3 rfl rfl)
theorem dX4_layHonest_51 : decode cX4_layHonest 51 = .ok (.getfield 26, 3) := dk_180 0 26 (dk_at dksX4_layHonest_2 4 rfl rfl)
theorem dX4_layHonest_54 : decode cX4_layHonest 54 = .ok (.iconst 0, 1) := dk_3 (dk_at dksX4_layHonest_2 7 rfl rfl)
theorem dX4_layHonest_55 : decode cX4_layHonest 55 = .ok (.aload_n 0, 1) := dk_42 (dk_at dksX4_layHonest_2 8 rfl rfl)
theorem dX4_layHonest_56 : decode cX4_layHonest 56 = .ok (.getfield 44, 3) := dk_180 0 44 (dk_at dksX4_layHonest_2 9 rfl rfl)
theorem dX4_layHonest_59 : decode cX4_layHonest 59 = .ok (.iconst 0, 1) := dk_3 (dk_at dksX4_layHonest_2 12 rfl rfl)
theorem dX4_layHonest_60 : decode cX4_layHonest 60 = .ok (.bipush 108, 2) := dk_16 108 (dk_at dksX4_layHonest_2 13 rfl rfl)
theorem dX4_layHonest_62 : decode cX4_layHonest 62 = .ok (.invokestatic 174, 3) := dk_184 0 174 (dk_at dksX4_layHonest_2 15 rfl rfl)
theorem dX4_layHonest_65 : decode cX4_layHonest 65 = .ok (.aload_n 0, 1) := dk_42 (dk_at dksX4_layHonest_2 18 rfl rfl)
theorem dX4_layHonest_66 : decode cX4_layHonest 66 = .ok (.aload_n 0, 1) := dk_42 (dk_at dksX4_layHonest_2 19 rfl rfl)
theorem dX4_layHonest_67 : decode cX4_layHonest 67 = .ok (.getfield 26, 3) := dk_180 0 26 (dk_at dksX4_layHonest_2 20 rfl rfl)
theorem dX4_layHonest_70 : decode cX4_layHonest 70 = .ok (.invokevirtual 190, 3) := dk_182 0 190 (dk_at dksX4_layHonest_3 0 rfl rfl)
theorem dX4_layHonest_73 : decode cX4_layHonest 73 = .ok (.aload_n 0, 1) := dk_42 (dk_at dksX4_layHonest_3 3 rfl rfl)
theorem dX4_layHonest_74 : decode cX4_layHonest 74 = .ok (.invokevirtual 359, 3) := dk_182 1 103 (dk_at dksX4_layHonest_3 4 rfl rfl)
theorem dX4_layHonest_77 : decode cX4_layHonest 77 = .ok (.aload_n 0, 1) := dk_42 (dk_at dksX4_layHonest_3 7 rfl rfl)
theorem dX4_layHonest_78 : decode cX4_layHonest 78 = .ok (.getfield 44, 3) := dk_180 0 44 (dk_at dksX4_layHonest_3 8 rfl rfl)
theorem dX4_layHonest_81 : decode cX4_layHonest 81 = .ok (.iconst 0, 1) := dk_3 (dk_at dksX4_layHonest_3 11 rfl rfl)
theorem dX4_layHonest_82 : decode cX4_layHonest 82 = .ok (.aload_n 0, 1) := dk_42 (dk_at dksX4_layHonest_3 12 rfl rfl)
theorem dX4_layHonest_83 : decode cX4_layHonest 83 = .ok (.getfield 26, 3) := dk_180 0 26 (dk_at dksX4_layHonest_3 13 rfl rfl)
theorem dX4_layHonest_86 : decode cX4_layHonest 86 = .ok (.iconst 0, 1) := dk_3 (dk_at dksX4_layHonest_3 16 rfl rfl)
theorem dX4_layHonest_87 : decode cX4_layHonest 87 = .ok (.bipush 108, 2) := dk_16 108 (dk_at dksX4_layHonest_3 17 rfl rfl)
theorem dX4_layHonest_89 : decode cX4_layHonest 89 = .ok (.invokestatic 174, 3) := dk_184 0 174 (dk_at dksX4_layHonest_3 19 rfl rfl)
theorem dX4_layHonest_92 : decode cX4_layHonest 92 = .ok (.return_, 1) := dk_177 (dk_at dksX4_layHonest_3 22 rfl rfl)
abbrev cX4_rest : ByteArray := prog_24_method_106_code
def yX4_rest : MethodName := ⟨RX4, "rest", "(I)I"⟩
def dkwX4_rest_1 : List UInt8 := [182, 1, 152, 153, 0, 7, 4, 167, 0, 4, 3, 172]
abbrev dktX4_rest_1 : List UInt8 := dkwX4_rest_1 ++ []
def dkwX4_rest_0 : List UInt8 := [42, 182, 0, 165, 42, 27, 182, 1, 146, 61, 28, 153, 0, 11, 42, 28, 182, 0, 168, 167, 0, 16, 42, 27]
abbrev dktX4_rest_0 : List UInt8 := dkwX4_rest_0 ++ dktX4_rest_1
theorem dksX4_rest_0 : cX4_rest.data.toList.drop 0 = dktX4_rest_0 := by decide +kernel
theorem dksX4_rest_1 : cX4_rest.data.toList.drop 24 = dktX4_rest_1 := dk_seg dksX4_rest_0 24 rfl rfl
theorem dX4_rest_0 : decode cX4_rest 0 = .ok (.aload_n 0, 1) := dk_42 (dk_at dksX4_rest_0 0 rfl rfl)
theorem dX4_rest_1 : decode cX4_rest 1 = .ok (.invokevirtual 165, 3) := dk_182 0 165 (dk_at dksX4_rest_0 1 rfl rfl)
theorem dX4_rest_4 : decode cX4_rest 4 = .ok (.aload_n 0, 1) := dk_42 (dk_at dksX4_rest_0 4 rfl rfl)
theorem dX4_rest_5 : decode cX4_rest 5 = .ok (.iload_n 1, 1) := dk_27 (dk_at dksX4_rest_0 5 rfl rfl)
theorem dX4_rest_6 : decode cX4_rest 6 = .ok (.invokevirtual 402, 3) := dk_182 1 146 (dk_at dksX4_rest_0 6 rfl rfl)
theorem dX4_rest_9 : decode cX4_rest 9 = .ok (.istore_n 2, 1) := dk_61 (dk_at dksX4_rest_0 9 rfl rfl)
theorem dX4_rest_10 : decode cX4_rest 10 = .ok (.iload_n 2, 1) := dk_28 (dk_at dksX4_rest_0 10 rfl rfl)
theorem dX4_rest_11 : decode cX4_rest 11 = .ok (.ifCond .eq 11, 3) := dk_153 0 11 (dk_at dksX4_rest_0 11 rfl rfl)
theorem dX4_rest_14 : decode cX4_rest 14 = .ok (.aload_n 0, 1) := dk_42 (dk_at dksX4_rest_0 14 rfl rfl)
theorem dX4_rest_15 : decode cX4_rest 15 = .ok (.iload_n 2, 1) := dk_28 (dk_at dksX4_rest_0 15 rfl rfl)
theorem dX4_rest_16 : decode cX4_rest 16 = .ok (.invokevirtual 168, 3) := dk_182 0 168 (dk_at dksX4_rest_0 16 rfl rfl)
theorem dX4_rest_19 : decode cX4_rest 19 = .ok (.goto 16, 3) := dk_167 0 16 (dk_at dksX4_rest_0 19 rfl rfl)
theorem dX4_rest_22 : decode cX4_rest 22 = .ok (.aload_n 0, 1) := dk_42 (dk_at dksX4_rest_0 22 rfl rfl)
theorem dX4_rest_23 : decode cX4_rest 23 = .ok (.iload_n 1, 1) := dk_27 (dk_at dksX4_rest_0 23 rfl rfl)
theorem dX4_rest_24 : decode cX4_rest 24 = .ok (.invokevirtual 408, 3) := dk_182 1 152 (dk_at dksX4_rest_1 0 rfl rfl)
theorem dX4_rest_27 : decode cX4_rest 27 = .ok (.ifCond .eq 7, 3) := dk_153 0 7 (dk_at dksX4_rest_1 3 rfl rfl)
theorem dX4_rest_30 : decode cX4_rest 30 = .ok (.iconst 1, 1) := dk_4 (dk_at dksX4_rest_1 6 rfl rfl)
theorem dX4_rest_31 : decode cX4_rest 31 = .ok (.goto 4, 3) := dk_167 0 4 (dk_at dksX4_rest_1 7 rfl rfl)
theorem dX4_rest_34 : decode cX4_rest 34 = .ok (.iconst 0, 1) := dk_3 (dk_at dksX4_rest_1 10 rfl rfl)
theorem dX4_rest_35 : decode cX4_rest 35 = .ok (.ireturn, 1) := dk_172 (dk_at dksX4_rest_1 11 rfl rfl)
abbrev cX4_isAtRest : ByteArray := prog_24_method_105_code
def yX4_isAtRest : MethodName := ⟨RX4, "isAtRest", "(I)Z"⟩
def dkwX4_isAtRest_3 : List UInt8 := [132, 2, 1, 167, 255, 218, 4, 172]
abbrev dktX4_isAtRest_3 : List UInt8 := dkwX4_isAtRest_3 ++ []
def dkwX4_isAtRest_2 : List UInt8 := [4, 28, 120, 130, 182, 1, 149, 42, 28, 182, 1, 81, 42, 180, 0, 47, 28, 46, 162, 0, 5, 3, 172]
abbrev dktX4_isAtRest_2 : List UInt8 := dkwX4_isAtRest_2 ++ dktX4_isAtRest_3
def dkwX4_isAtRest_1 : List UInt8 := [182, 1, 81, 79, 132, 2, 1, 167, 255, 232, 3, 61, 28, 42, 180, 0, 20, 8, 46, 162, 0, 34, 42, 27]
abbrev dktX4_isAtRest_1 : List UInt8 := dkwX4_isAtRest_1 ++ dktX4_isAtRest_2
def dkwX4_isAtRest_0 : List UInt8 := [42, 27, 182, 1, 149, 3, 61, 28, 42, 180, 0, 20, 8, 46, 162, 0, 20, 42, 180, 0, 47, 28, 42, 28]
abbrev dktX4_isAtRest_0 : List UInt8 := dkwX4_isAtRest_0 ++ dktX4_isAtRest_1
theorem dksX4_isAtRest_0 : cX4_isAtRest.data.toList.drop 0 = dktX4_isAtRest_0 := by decide +kernel
theorem dksX4_isAtRest_1 : cX4_isAtRest.data.toList.drop 24 = dktX4_isAtRest_1 := dk_seg dksX4_isAtRest_0 24 rfl rfl
theorem dksX4_isAtRest_2 : cX4_isAtRest.data.toList.drop 48 = dktX4_isAtRest_2 := dk_seg dksX4_isAtRest_1 24 rfl rfl
theorem dksX4_isAtRest_3 : cX4_isAtRest.data.toList.drop 71 = dktX4_isAtRest_3 := dk_seg dksX4_isAtRest_2 23 rfl rfl
theorem dX4_isAtRest_0 : decode cX4_isAtRest 0 = .ok (.aload_n 0, 1) := dk_42 (dk_at dksX4_isAtRest_0 0 rfl rfl)
theorem dX4_isAtRest_1 : decode cX4_isAtRest 1 = .ok (.iload_n 1, 1) := dk_27 (dk_at dksX4_isAtRest_0 1 rfl rfl)
theorem dX4_isAtRest_2 : decode cX4_isAtRest 2 = .ok (.invokevirtual 405, 3) := dk_182 1 149 (dk_at dksX4_isAtRest_0 2 rfl rfl)
theorem dX4_isAtRest_5 : decode cX4_isAtRest 5 = .ok (.iconst 0, 1) := dk_3 (dk_at dksX4_isAtRest_0 5 rfl rfl)
theorem dX4_isAtRest_6 : decode cX4_isAtRest 6 = .ok (.istore_n 2, 1) := dk_61 (dk_at dksX4_isAtRest_0 6 rfl rfl)
theorem dX4_isAtRest_7 : decode cX4_isAtRest 7 = .ok (.iload_n 2, 1) := dk_28 (dk_at dksX4_isAtRest_0 7 rfl rfl)
theorem dX4_isAtRest_8 : decode cX4_isAtRest 8 = .ok (.aload_n 0, 1) := dk_42 (dk_at dksX4_isAtRest_0 8 rfl rfl)
theorem dX4_isAtRest_9 : decode cX4_isAtRest 9 = .ok (.getfield 20, 3) := dk_180 0 20 (dk_at dksX4_isAtRest_0 9 rfl rfl)
theorem dX4_isAtRest_12 : decode cX4_isAtRest 12 = .ok (.iconst 5, 1) := dk_8 (dk_at dksX4_isAtRest_0 12 rfl rfl)
theorem dX4_isAtRest_13 : decode cX4_isAtRest 13 = .ok (.iaload, 1) := dk_46 (dk_at dksX4_isAtRest_0 13 rfl rfl)
theorem dX4_isAtRest_14 : decode cX4_isAtRest 14 = .ok (.if_icmp .ge 20, 3) := dk_162 0 20 (dk_at dksX4_isAtRest_0 14 rfl rfl)
theorem dX4_isAtRest_17 : decode cX4_isAtRest 17 = .ok (.aload_n 0, 1) := dk_42 (dk_at dksX4_isAtRest_0 17 rfl rfl)
theorem dX4_isAtRest_18 : decode cX4_isAtRest 18 = .ok (.getfield 47, 3) := dk_180 0 47 (dk_at dksX4_isAtRest_0 18 rfl rfl)
theorem dX4_isAtRest_21 : decode cX4_isAtRest 21 = .ok (.iload_n 2, 1) := dk_28 (dk_at dksX4_isAtRest_0 21 rfl rfl)
theorem dX4_isAtRest_22 : decode cX4_isAtRest 22 = .ok (.aload_n 0, 1) := dk_42 (dk_at dksX4_isAtRest_0 22 rfl rfl)
theorem dX4_isAtRest_23 : decode cX4_isAtRest 23 = .ok (.iload_n 2, 1) := dk_28 (dk_at dksX4_isAtRest_0 23 rfl rfl)
theorem dX4_isAtRest_24 : decode cX4_isAtRest 24 = .ok (.invokevirtual 337, 3) := dk_182 1 81 (dk_at dksX4_isAtRest_1 0 rfl rfl)
theorem dX4_isAtRest_27 : decode cX4_isAtRest 27 = .ok (.iastore, 1) := dk_79 (dk_at dksX4_isAtRest_1 3 rfl rfl)
theorem dX4_isAtRest_28 : decode cX4_isAtRest 28 = .ok (.iinc 2 1, 3) := dk_132 2 1 (dk_at dksX4_isAtRest_1 4 rfl rfl)
theorem dX4_isAtRest_31 : decode cX4_isAtRest 31 = .ok (.goto (-24), 3) := dk_167 255 232 (dk_at dksX4_isAtRest_1 7 rfl rfl)
theorem dX4_isAtRest_34 : decode cX4_isAtRest 34 = .ok (.iconst 0, 1) := dk_3 (dk_at dksX4_isAtRest_1 10 rfl rfl)
theorem dX4_isAtRest_35 : decode cX4_isAtRest 35 = .ok (.istore_n 2, 1) := dk_61 (dk_at dksX4_isAtRest_1 11 rfl rfl)
theorem dX4_isAtRest_36 : decode cX4_isAtRest 36 = .ok (.iload_n 2, 1) := dk_28 (dk_at dksX4_isAtRest_1 12 rfl rfl)
theorem dX4_isAtRest_37 : decode cX4_isAtRest 37 = .ok (.aload_n 0, 1) := dk_42 (dk_at dksX4_isAtRest_1 13 rfl rfl)
theorem dX4_isAtRest_38 : decode cX4_isAtRest 38 = .ok (.getfield 20, 3) := dk_180 0 20 (dk_at dksX4_isAtRest_1 14 rfl rfl)
theorem dX4_isAtRest_41 : decode cX4_isAtRest 41 = .ok (.iconst 5, 1) := dk_8 (dk_at dksX4_isAtRest_1 17 rfl rfl)
theorem dX4_isAtRest_42 : decode cX4_isAtRest 42 = .ok (.iaload, 1) := dk_46 (dk_at dksX4_isAtRest_1 18 rfl rfl)
theorem dX4_isAtRest_43 : decode cX4_isAtRest 43 = .ok (.if_icmp .ge 34, 3) := dk_162 0 34 (dk_at dksX4_isAtRest_1 19 rfl rfl)
theorem dX4_isAtRest_46 : decode cX4_isAtRest 46 = .ok (.aload_n 0, 1) := dk_42 (dk_at dksX4_isAtRest_1 22 rfl rfl)
theorem dX4_isAtRest_47 : decode cX4_isAtRest 47 = .ok (.iload_n 1, 1) := dk_27 (dk_at dksX4_isAtRest_1 23 rfl rfl)
theorem dX4_isAtRest_48 : decode cX4_isAtRest 48 = .ok (.iconst 1, 1) := dk_4 (dk_at dksX4_isAtRest_2 0 rfl rfl)
theorem dX4_isAtRest_49 : decode cX4_isAtRest 49 = .ok (.iload_n 2, 1) := dk_28 (dk_at dksX4_isAtRest_2 1 rfl rfl)
theorem dX4_isAtRest_50 : decode cX4_isAtRest 50 = .ok (.ishl, 1) := dk_120 (dk_at dksX4_isAtRest_2 2 rfl rfl)
theorem dX4_isAtRest_51 : decode cX4_isAtRest 51 = .ok (.ixor, 1) := dk_130 (dk_at dksX4_isAtRest_2 3 rfl rfl)
theorem dX4_isAtRest_52 : decode cX4_isAtRest 52 = .ok (.invokevirtual 405, 3) := dk_182 1 149 (dk_at dksX4_isAtRest_2 4 rfl rfl)
theorem dX4_isAtRest_55 : decode cX4_isAtRest 55 = .ok (.aload_n 0, 1) := dk_42 (dk_at dksX4_isAtRest_2 7 rfl rfl)
theorem dX4_isAtRest_56 : decode cX4_isAtRest 56 = .ok (.iload_n 2, 1) := dk_28 (dk_at dksX4_isAtRest_2 8 rfl rfl)
theorem dX4_isAtRest_57 : decode cX4_isAtRest 57 = .ok (.invokevirtual 337, 3) := dk_182 1 81 (dk_at dksX4_isAtRest_2 9 rfl rfl)
theorem dX4_isAtRest_60 : decode cX4_isAtRest 60 = .ok (.aload_n 0, 1) := dk_42 (dk_at dksX4_isAtRest_2 12 rfl rfl)
theorem dX4_isAtRest_61 : decode cX4_isAtRest 61 = .ok (.getfield 47, 3) := dk_180 0 47 (dk_at dksX4_isAtRest_2 13 rfl rfl)
theorem dX4_isAtRest_64 : decode cX4_isAtRest 64 = .ok (.iload_n 2, 1) := dk_28 (dk_at dksX4_isAtRest_2 16 rfl rfl)
theorem dX4_isAtRest_65 : decode cX4_isAtRest 65 = .ok (.iaload, 1) := dk_46 (dk_at dksX4_isAtRest_2 17 rfl rfl)
theorem dX4_isAtRest_66 : decode cX4_isAtRest 66 = .ok (.if_icmp .ge 5, 3) := dk_162 0 5 (dk_at dksX4_isAtRest_2 18 rfl rfl)
theorem dX4_isAtRest_69 : decode cX4_isAtRest 69 = .ok (.iconst 0, 1) := dk_3 (dk_at dksX4_isAtRest_2 21 rfl rfl)
theorem dX4_isAtRest_70 : decode cX4_isAtRest 70 = .ok (.ireturn, 1) := dk_172 (dk_at dksX4_isAtRest_2 22 rfl rfl)
theorem dX4_isAtRest_71 : decode cX4_isAtRest 71 = .ok (.iinc 2 1, 3) := dk_132 2 1 (dk_at dksX4_isAtRest_3 0 rfl rfl)
theorem dX4_isAtRest_74 : decode cX4_isAtRest 74 = .ok (.goto (-38), 3) := dk_167 255 218 (dk_at dksX4_isAtRest_3 3 rfl rfl)
theorem dX4_isAtRest_77 : decode cX4_isAtRest 77 = .ok (.iconst 1, 1) := dk_4 (dk_at dksX4_isAtRest_3 6 rfl rfl)
theorem dX4_isAtRest_78 : decode cX4_isAtRest 78 = .ok (.ireturn, 1) := dk_172 (dk_at dksX4_isAtRest_3 7 rfl rfl)
abbrev cX4_rests : ByteArray := prog_24_method_107_code
def yX4_rests : MethodName := ⟨RX4, "rests", "()I"⟩
def dkwX4_rests_2 : List UInt8 := [42, 28, 182, 1, 152, 153, 0, 7, 4, 167, 0, 4, 3, 96, 60, 132, 2, 1, 167, 255, 229, 27, 172]
abbrev dktX4_rests_2 : List UInt8 := dkwX4_rests_2 ++ []
def dkwX4_rests_1 : List UInt8 := [16, 7, 164, 0, 9, 42, 6, 182, 0, 168, 172, 3, 60, 3, 61, 28, 42, 182, 1, 143, 163, 0, 25, 27]
abbrev dktX4_rests_1 : List UInt8 := dkwX4_rests_1 ++ dktX4_rests_2
def dkwX4_rests_0 : List UInt8 := [42, 182, 0, 165, 42, 180, 0, 178, 154, 0, 9, 42, 4, 182, 0, 168, 172, 42, 180, 0, 20, 8, 46]
abbrev dktX4_rests_0 : List UInt8 := dkwX4_rests_0 ++ dktX4_rests_1
theorem dksX4_rests_0 : cX4_rests.data.toList.drop 0 = dktX4_rests_0 := by decide +kernel
theorem dksX4_rests_1 : cX4_rests.data.toList.drop 23 = dktX4_rests_1 := dk_seg dksX4_rests_0 23 rfl rfl
theorem dksX4_rests_2 : cX4_rests.data.toList.drop 47 = dktX4_rests_2 := dk_seg dksX4_rests_1 24 rfl rfl
theorem dX4_rests_0 : decode cX4_rests 0 = .ok (.aload_n 0, 1) := dk_42 (dk_at dksX4_rests_0 0 rfl rfl)
theorem dX4_rests_1 : decode cX4_rests 1 = .ok (.invokevirtual 165, 3) := dk_182 0 165 (dk_at dksX4_rests_0 1 rfl rfl)
theorem dX4_rests_4 : decode cX4_rests 4 = .ok (.aload_n 0, 1) := dk_42 (dk_at dksX4_rests_0 4 rfl rfl)
theorem dX4_rests_5 : decode cX4_rests 5 = .ok (.getfield 178, 3) := dk_180 0 178 (dk_at dksX4_rests_0 5 rfl rfl)
theorem dX4_rests_8 : decode cX4_rests 8 = .ok (.ifCond .ne 9, 3) := dk_154 0 9 (dk_at dksX4_rests_0 8 rfl rfl)
theorem dX4_rests_11 : decode cX4_rests 11 = .ok (.aload_n 0, 1) := dk_42 (dk_at dksX4_rests_0 11 rfl rfl)
theorem dX4_rests_12 : decode cX4_rests 12 = .ok (.iconst 1, 1) := dk_4 (dk_at dksX4_rests_0 12 rfl rfl)
theorem dX4_rests_13 : decode cX4_rests 13 = .ok (.invokevirtual 168, 3) := dk_182 0 168 (dk_at dksX4_rests_0 13 rfl rfl)
theorem dX4_rests_16 : decode cX4_rests 16 = .ok (.ireturn, 1) := dk_172 (dk_at dksX4_rests_0 16 rfl rfl)
theorem dX4_rests_17 : decode cX4_rests 17 = .ok (.aload_n 0, 1) := dk_42 (dk_at dksX4_rests_0 17 rfl rfl)
theorem dX4_rests_18 : decode cX4_rests 18 = .ok (.getfield 20, 3) := dk_180 0 20 (dk_at dksX4_rests_0 18 rfl rfl)
theorem dX4_rests_21 : decode cX4_rests 21 = .ok (.iconst 5, 1) := dk_8 (dk_at dksX4_rests_0 21 rfl rfl)
theorem dX4_rests_22 : decode cX4_rests 22 = .ok (.iaload, 1) := dk_46 (dk_at dksX4_rests_0 22 rfl rfl)
theorem dX4_rests_23 : decode cX4_rests 23 = .ok (.bipush 7, 2) := dk_16 7 (dk_at dksX4_rests_1 0 rfl rfl)
theorem dX4_rests_25 : decode cX4_rests 25 = .ok (.if_icmp .le 9, 3) := dk_164 0 9 (dk_at dksX4_rests_1 2 rfl rfl)
theorem dX4_rests_28 : decode cX4_rests 28 = .ok (.aload_n 0, 1) := dk_42 (dk_at dksX4_rests_1 5 rfl rfl)
theorem dX4_rests_29 : decode cX4_rests 29 = .ok (.iconst 3, 1) := dk_6 (dk_at dksX4_rests_1 6 rfl rfl)
theorem dX4_rests_30 : decode cX4_rests 30 = .ok (.invokevirtual 168, 3) := dk_182 0 168 (dk_at dksX4_rests_1 7 rfl rfl)
theorem dX4_rests_33 : decode cX4_rests 33 = .ok (.ireturn, 1) := dk_172 (dk_at dksX4_rests_1 10 rfl rfl)
theorem dX4_rests_34 : decode cX4_rests 34 = .ok (.iconst 0, 1) := dk_3 (dk_at dksX4_rests_1 11 rfl rfl)
theorem dX4_rests_35 : decode cX4_rests 35 = .ok (.istore_n 1, 1) := dk_60 (dk_at dksX4_rests_1 12 rfl rfl)
theorem dX4_rests_36 : decode cX4_rests 36 = .ok (.iconst 0, 1) := dk_3 (dk_at dksX4_rests_1 13 rfl rfl)
theorem dX4_rests_37 : decode cX4_rests 37 = .ok (.istore_n 2, 1) := dk_61 (dk_at dksX4_rests_1 14 rfl rfl)
theorem dX4_rests_38 : decode cX4_rests 38 = .ok (.iload_n 2, 1) := dk_28 (dk_at dksX4_rests_1 15 rfl rfl)
theorem dX4_rests_39 : decode cX4_rests 39 = .ok (.aload_n 0, 1) := dk_42 (dk_at dksX4_rests_1 16 rfl rfl)
theorem dX4_rests_40 : decode cX4_rests 40 = .ok (.invokevirtual 399, 3) := dk_182 1 143 (dk_at dksX4_rests_1 17 rfl rfl)
theorem dX4_rests_43 : decode cX4_rests 43 = .ok (.if_icmp .gt 25, 3) := dk_163 0 25 (dk_at dksX4_rests_1 20 rfl rfl)
theorem dX4_rests_46 : decode cX4_rests 46 = .ok (.iload_n 1, 1) := dk_27 (dk_at dksX4_rests_1 23 rfl rfl)
theorem dX4_rests_47 : decode cX4_rests 47 = .ok (.aload_n 0, 1) := dk_42 (dk_at dksX4_rests_2 0 rfl rfl)
theorem dX4_rests_48 : decode cX4_rests 48 = .ok (.iload_n 2, 1) := dk_28 (dk_at dksX4_rests_2 1 rfl rfl)
theorem dX4_rests_49 : decode cX4_rests 49 = .ok (.invokevirtual 408, 3) := dk_182 1 152 (dk_at dksX4_rests_2 2 rfl rfl)
theorem dX4_rests_52 : decode cX4_rests 52 = .ok (.ifCond .eq 7, 3) := dk_153 0 7 (dk_at dksX4_rests_2 5 rfl rfl)
theorem dX4_rests_55 : decode cX4_rests 55 = .ok (.iconst 1, 1) := dk_4 (dk_at dksX4_rests_2 8 rfl rfl)
theorem dX4_rests_56 : decode cX4_rests 56 = .ok (.goto 4, 3) := dk_167 0 4 (dk_at dksX4_rests_2 9 rfl rfl)
theorem dX4_rests_59 : decode cX4_rests 59 = .ok (.iconst 0, 1) := dk_3 (dk_at dksX4_rests_2 12 rfl rfl)
theorem dX4_rests_60 : decode cX4_rests 60 = .ok (.iadd, 1) := dk_96 (dk_at dksX4_rests_2 13 rfl rfl)
theorem dX4_rests_61 : decode cX4_rests 61 = .ok (.istore_n 1, 1) := dk_60 (dk_at dksX4_rests_2 14 rfl rfl)
theorem dX4_rests_62 : decode cX4_rests 62 = .ok (.iinc 2 1, 3) := dk_132 2 1 (dk_at dksX4_rests_2 15 rfl rfl)
theorem dX4_rests_65 : decode cX4_rests 65 = .ok (.goto (-27), 3) := dk_167 255 229 (dk_at dksX4_rests_2 18 rfl rfl)
theorem dX4_rests_68 : decode cX4_rests 68 = .ok (.iload_n 1, 1) := dk_27 (dk_at dksX4_rests_2 21 rfl rfl)
theorem dX4_rests_69 : decode cX4_rests 69 = .ok (.ireturn, 1) := dk_172 (dk_at dksX4_rests_2 22 rfl rfl)
abbrev cX4_row : ByteArray := prog_24_method_110_code
def yX4_row : MethodName := ⟨RX4, "row", "(II)I"⟩
def dkwX4_row_2 : List UInt8 := [182, 0, 168, 167, 0, 9, 42, 180, 0, 53, 28, 46, 172]
abbrev dktX4_row_2 : List UInt8 := dkwX4_row_2 ++ []
def dkwX4_row_1 : List UInt8 := [184, 0, 147, 154, 0, 9, 42, 4, 182, 0, 168, 172, 42, 27, 182, 1, 162, 62, 29, 153, 0, 11, 42, 29]
abbrev dktX4_row_1 : List UInt8 := dkwX4_row_1 ++ dktX4_row_2
def dkwX4_row_0 : List UInt8 := [42, 182, 0, 165, 42, 27, 182, 1, 93, 153, 0, 21, 28, 3, 42, 42, 180, 0, 26, 182, 1, 99, 4, 100]
abbrev dktX4_row_0 : List UInt8 := dkwX4_row_0 ++ dktX4_row_1
theorem dksX4_row_0 : cX4_row.data.toList.drop 0 = dktX4_row_0 := by decide +kernel
theorem dksX4_row_1 : cX4_row.data.toList.drop 24 = dktX4_row_1 := dk_seg dksX4_row_0 24 rfl rfl
theorem dksX4_row_2 : cX4_row.data.toList.drop 48 = dktX4_row_2 := dk_seg dksX4_row_1 24 rfl rfl
theorem dX4_row_0 : decode cX4_row 0 = .ok (.aload_n 0, 1) := dk_42 (dk_at dksX4_row_0 0 rfl rfl)
theorem dX4_row_1 : decode cX4_row 1 = .ok (.invokevirtual 165, 3) := dk_182 0 165 (dk_at dksX4_row_0 1 rfl rfl)
theorem dX4_row_4 : decode cX4_row 4 = .ok (.aload_n 0, 1) := dk_42 (dk_at dksX4_row_0 4 rfl rfl)
theorem dX4_row_5 : decode cX4_row 5 = .ok (.iload_n 1, 1) := dk_27 (dk_at dksX4_row_0 5 rfl rfl)
theorem dX4_row_6 : decode cX4_row 6 = .ok (.invokevirtual 349, 3) := dk_182 1 93 (dk_at dksX4_row_0 6 rfl rfl)
theorem dX4_row_9 : decode cX4_row 9 = .ok (.ifCond .eq 21, 3) := dk_153 0 21 (dk_at dksX4_row_0 9 rfl rfl)
theorem dX4_row_12 : decode cX4_row 12 = .ok (.iload_n 2, 1) := dk_28 (dk_at dksX4_row_0 12 rfl rfl)
theorem dX4_row_13 : decode cX4_row 13 = .ok (.iconst 0, 1) := dk_3 (dk_at dksX4_row_0 13 rfl rfl)
theorem dX4_row_14 : decode cX4_row 14 = .ok (.aload_n 0, 1) := dk_42 (dk_at dksX4_row_0 14 rfl rfl)
theorem dX4_row_15 : decode cX4_row 15 = .ok (.aload_n 0, 1) := dk_42 (dk_at dksX4_row_0 15 rfl rfl)
theorem dX4_row_16 : decode cX4_row 16 = .ok (.getfield 26, 3) := dk_180 0 26 (dk_at dksX4_row_0 16 rfl rfl)
theorem dX4_row_19 : decode cX4_row 19 = .ok (.invokevirtual 355, 3) := dk_182 1 99 (dk_at dksX4_row_0 19 rfl rfl)
theorem dX4_row_22 : decode cX4_row 22 = .ok (.iconst 1, 1) := dk_4 (dk_at dksX4_row_0 22 rfl rfl)
theorem dX4_row_23 : decode cX4_row 23 = .ok (.isub, 1) := dk_100 (dk_at dksX4_row_0 23 rfl rfl)
theorem dX4_row_24 : decode cX4_row 24 = .ok (.invokestatic 147, 3) := dk_184 0 147 (dk_at dksX4_row_1 0 rfl rfl)
theorem dX4_row_27 : decode cX4_row 27 = .ok (.ifCond .ne 9, 3) := dk_154 0 9 (dk_at dksX4_row_1 3 rfl rfl)
theorem dX4_row_30 : decode cX4_row 30 = .ok (.aload_n 0, 1) := dk_42 (dk_at dksX4_row_1 6 rfl rfl)
theorem dX4_row_31 : decode cX4_row 31 = .ok (.iconst 1, 1) := dk_4 (dk_at dksX4_row_1 7 rfl rfl)
theorem dX4_row_32 : decode cX4_row 32 = .ok (.invokevirtual 168, 3) := dk_182 0 168 (dk_at dksX4_row_1 8 rfl rfl)
theorem dX4_row_35 : decode cX4_row 35 = .ok (.ireturn, 1) := dk_172 (dk_at dksX4_row_1 11 rfl rfl)
theorem dX4_row_36 : decode cX4_row 36 = .ok (.aload_n 0, 1) := dk_42 (dk_at dksX4_row_1 12 rfl rfl)
theorem dX4_row_37 : decode cX4_row 37 = .ok (.iload_n 1, 1) := dk_27 (dk_at dksX4_row_1 13 rfl rfl)
theorem dX4_row_38 : decode cX4_row 38 = .ok (.invokevirtual 418, 3) := dk_182 1 162 (dk_at dksX4_row_1 14 rfl rfl)
theorem dX4_row_41 : decode cX4_row 41 = .ok (.istore_n 3, 1) := dk_62 (dk_at dksX4_row_1 17 rfl rfl)
theorem dX4_row_42 : decode cX4_row 42 = .ok (.iload_n 3, 1) := dk_29 (dk_at dksX4_row_1 18 rfl rfl)
theorem dX4_row_43 : decode cX4_row 43 = .ok (.ifCond .eq 11, 3) := dk_153 0 11 (dk_at dksX4_row_1 19 rfl rfl)
theorem dX4_row_46 : decode cX4_row 46 = .ok (.aload_n 0, 1) := dk_42 (dk_at dksX4_row_1 22 rfl rfl)
theorem dX4_row_47 : decode cX4_row 47 = .ok (.iload_n 3, 1) := dk_29 (dk_at dksX4_row_1 23 rfl rfl)
theorem dX4_row_48 : decode cX4_row 48 = .ok (.invokevirtual 168, 3) := dk_182 0 168 (dk_at dksX4_row_2 0 rfl rfl)
theorem dX4_row_51 : decode cX4_row 51 = .ok (.goto 9, 3) := dk_167 0 9 (dk_at dksX4_row_2 3 rfl rfl)
theorem dX4_row_54 : decode cX4_row 54 = .ok (.aload_n 0, 1) := dk_42 (dk_at dksX4_row_2 6 rfl rfl)
theorem dX4_row_55 : decode cX4_row 55 = .ok (.getfield 53, 3) := dk_180 0 53 (dk_at dksX4_row_2 7 rfl rfl)
theorem dX4_row_58 : decode cX4_row 58 = .ok (.iload_n 2, 1) := dk_28 (dk_at dksX4_row_2 10 rfl rfl)
theorem dX4_row_59 : decode cX4_row 59 = .ok (.iaload, 1) := dk_46 (dk_at dksX4_row_2 11 rfl rfl)
theorem dX4_row_60 : decode cX4_row 60 = .ok (.ireturn, 1) := dk_172 (dk_at dksX4_row_2 12 rfl rfl)
abbrev cX4_rowWhy : ByteArray := prog_24_method_109_code
def yX4_rowWhy : MethodName := ⟨RX4, "rowWhy", "(I)I"⟩
def dkwX4_rowWhy_2 : List UInt8 := [104, 96, 6, 96, 46, 4, 100, 3, 3, 182, 1, 158, 3, 172]
abbrev dktX4_rowWhy_2 : List UInt8 := dkwX4_rowWhy_2 ++ []
def dkwX4_rowWhy_1 : List UInt8 := [164, 0, 5, 6, 172, 42, 19, 1, 41, 181, 1, 155, 42, 3, 28, 3, 42, 180, 0, 26, 16, 92, 7, 27]
abbrev dktX4_rowWhy_1 : List UInt8 := dkwX4_rowWhy_1 ++ dktX4_rowWhy_2
def dkwX4_rowWhy_0 : List UInt8 := [42, 27, 182, 1, 93, 154, 0, 5, 4, 172, 42, 42, 180, 0, 26, 182, 1, 99, 61, 28, 16, 7]
abbrev dktX4_rowWhy_0 : List UInt8 := dkwX4_rowWhy_0 ++ dktX4_rowWhy_1
theorem dksX4_rowWhy_0 : cX4_rowWhy.data.toList.drop 0 = dktX4_rowWhy_0 := by decide +kernel
theorem dksX4_rowWhy_1 : cX4_rowWhy.data.toList.drop 22 = dktX4_rowWhy_1 := dk_seg dksX4_rowWhy_0 22 rfl rfl
theorem dksX4_rowWhy_2 : cX4_rowWhy.data.toList.drop 46 = dktX4_rowWhy_2 := dk_seg dksX4_rowWhy_1 24 rfl rfl
theorem dX4_rowWhy_0 : decode cX4_rowWhy 0 = .ok (.aload_n 0, 1) := dk_42 (dk_at dksX4_rowWhy_0 0 rfl rfl)
theorem dX4_rowWhy_1 : decode cX4_rowWhy 1 = .ok (.iload_n 1, 1) := dk_27 (dk_at dksX4_rowWhy_0 1 rfl rfl)
theorem dX4_rowWhy_2 : decode cX4_rowWhy 2 = .ok (.invokevirtual 349, 3) := dk_182 1 93 (dk_at dksX4_rowWhy_0 2 rfl rfl)
theorem dX4_rowWhy_5 : decode cX4_rowWhy 5 = .ok (.ifCond .ne 5, 3) := dk_154 0 5 (dk_at dksX4_rowWhy_0 5 rfl rfl)
theorem dX4_rowWhy_8 : decode cX4_rowWhy 8 = .ok (.iconst 1, 1) := dk_4 (dk_at dksX4_rowWhy_0 8 rfl rfl)
theorem dX4_rowWhy_9 : decode cX4_rowWhy 9 = .ok (.ireturn, 1) := dk_172 (dk_at dksX4_rowWhy_0 9 rfl rfl)
theorem dX4_rowWhy_10 : decode cX4_rowWhy 10 = .ok (.aload_n 0, 1) := dk_42 (dk_at dksX4_rowWhy_0 10 rfl rfl)
theorem dX4_rowWhy_11 : decode cX4_rowWhy 11 = .ok (.aload_n 0, 1) := dk_42 (dk_at dksX4_rowWhy_0 11 rfl rfl)
theorem dX4_rowWhy_12 : decode cX4_rowWhy 12 = .ok (.getfield 26, 3) := dk_180 0 26 (dk_at dksX4_rowWhy_0 12 rfl rfl)
theorem dX4_rowWhy_15 : decode cX4_rowWhy 15 = .ok (.invokevirtual 355, 3) := dk_182 1 99 (dk_at dksX4_rowWhy_0 15 rfl rfl)
theorem dX4_rowWhy_18 : decode cX4_rowWhy 18 = .ok (.istore_n 2, 1) := dk_61 (dk_at dksX4_rowWhy_0 18 rfl rfl)
theorem dX4_rowWhy_19 : decode cX4_rowWhy 19 = .ok (.iload_n 2, 1) := dk_28 (dk_at dksX4_rowWhy_0 19 rfl rfl)
theorem dX4_rowWhy_20 : decode cX4_rowWhy 20 = .ok (.bipush 7, 2) := dk_16 7 (dk_at dksX4_rowWhy_0 20 rfl rfl)
theorem dX4_rowWhy_22 : decode cX4_rowWhy 22 = .ok (.if_icmp .le 5, 3) := dk_164 0 5 (dk_at dksX4_rowWhy_1 0 rfl rfl)
theorem dX4_rowWhy_25 : decode cX4_rowWhy 25 = .ok (.iconst 3, 1) := dk_6 (dk_at dksX4_rowWhy_1 3 rfl rfl)
theorem dX4_rowWhy_26 : decode cX4_rowWhy 26 = .ok (.ireturn, 1) := dk_172 (dk_at dksX4_rowWhy_1 4 rfl rfl)
theorem dX4_rowWhy_27 : decode cX4_rowWhy 27 = .ok (.aload_n 0, 1) := dk_42 (dk_at dksX4_rowWhy_1 5 rfl rfl)
theorem dX4_rowWhy_28 : decode cX4_rowWhy 28 = .ok (.ldc_w 297, 3) := dk_19 1 41 (dk_at dksX4_rowWhy_1 6 rfl rfl)
theorem dX4_rowWhy_31 : decode cX4_rowWhy 31 = .ok (.putfield 411, 3) := dk_181 1 155 (dk_at dksX4_rowWhy_1 9 rfl rfl)
theorem dX4_rowWhy_34 : decode cX4_rowWhy 34 = .ok (.aload_n 0, 1) := dk_42 (dk_at dksX4_rowWhy_1 12 rfl rfl)
theorem dX4_rowWhy_35 : decode cX4_rowWhy 35 = .ok (.iconst 0, 1) := dk_3 (dk_at dksX4_rowWhy_1 13 rfl rfl)
theorem dX4_rowWhy_36 : decode cX4_rowWhy 36 = .ok (.iload_n 2, 1) := dk_28 (dk_at dksX4_rowWhy_1 14 rfl rfl)
theorem dX4_rowWhy_37 : decode cX4_rowWhy 37 = .ok (.iconst 0, 1) := dk_3 (dk_at dksX4_rowWhy_1 15 rfl rfl)
theorem dX4_rowWhy_38 : decode cX4_rowWhy 38 = .ok (.aload_n 0, 1) := dk_42 (dk_at dksX4_rowWhy_1 16 rfl rfl)
theorem dX4_rowWhy_39 : decode cX4_rowWhy 39 = .ok (.getfield 26, 3) := dk_180 0 26 (dk_at dksX4_rowWhy_1 17 rfl rfl)
theorem dX4_rowWhy_42 : decode cX4_rowWhy 42 = .ok (.bipush 92, 2) := dk_16 92 (dk_at dksX4_rowWhy_1 20 rfl rfl)
theorem dX4_rowWhy_44 : decode cX4_rowWhy 44 = .ok (.iconst 4, 1) := dk_7 (dk_at dksX4_rowWhy_1 22 rfl rfl)
theorem dX4_rowWhy_45 : decode cX4_rowWhy 45 = .ok (.iload_n 1, 1) := dk_27 (dk_at dksX4_rowWhy_1 23 rfl rfl)
theorem dX4_rowWhy_46 : decode cX4_rowWhy 46 = .ok (.imul, 1) := dk_104 (dk_at dksX4_rowWhy_2 0 rfl rfl)
theorem dX4_rowWhy_47 : decode cX4_rowWhy 47 = .ok (.iadd, 1) := dk_96 (dk_at dksX4_rowWhy_2 1 rfl rfl)
theorem dX4_rowWhy_48 : decode cX4_rowWhy 48 = .ok (.iconst 3, 1) := dk_6 (dk_at dksX4_rowWhy_2 2 rfl rfl)
theorem dX4_rowWhy_49 : decode cX4_rowWhy 49 = .ok (.iadd, 1) := dk_96 (dk_at dksX4_rowWhy_2 3 rfl rfl)
theorem dX4_rowWhy_50 : decode cX4_rowWhy 50 = .ok (.iaload, 1) := dk_46 (dk_at dksX4_rowWhy_2 4 rfl rfl)
theorem dX4_rowWhy_51 : decode cX4_rowWhy 51 = .ok (.iconst 1, 1) := dk_4 (dk_at dksX4_rowWhy_2 5 rfl rfl)
theorem dX4_rowWhy_52 : decode cX4_rowWhy 52 = .ok (.isub, 1) := dk_100 (dk_at dksX4_rowWhy_2 6 rfl rfl)
theorem dX4_rowWhy_53 : decode cX4_rowWhy 53 = .ok (.iconst 0, 1) := dk_3 (dk_at dksX4_rowWhy_2 7 rfl rfl)
theorem dX4_rowWhy_54 : decode cX4_rowWhy 54 = .ok (.iconst 0, 1) := dk_3 (dk_at dksX4_rowWhy_2 8 rfl rfl)
theorem dX4_rowWhy_55 : decode cX4_rowWhy 55 = .ok (.invokevirtual 414, 3) := dk_182 1 158 (dk_at dksX4_rowWhy_2 9 rfl rfl)
theorem dX4_rowWhy_58 : decode cX4_rowWhy 58 = .ok (.iconst 0, 1) := dk_3 (dk_at dksX4_rowWhy_2 12 rfl rfl)
theorem dX4_rowWhy_59 : decode cX4_rowWhy 59 = .ok (.ireturn, 1) := dk_172 (dk_at dksX4_rowWhy_2 13 rfl rfl)
abbrev cX4_rowFrom : ByteArray := prog_24_method_108_code
def yX4_rowFrom : MethodName := ⟨RX4, "rowFrom", "(IIIIII)V"⟩
def dkwX4_rowFrom_5 : List UInt8 := [182, 1, 158, 132, 7, 1, 167, 255, 174, 177]
abbrev dktX4_rowFrom_5 : List UInt8 := dkwX4_rowFrom_5 ++ []
def dkwX4_rowFrom_4 : List UInt8 := [21, 7, 79, 42, 27, 4, 96, 28, 29, 4, 21, 7, 120, 128, 21, 7, 21, 8, 21, 6, 21, 8, 96]
abbrev dktX4_rowFrom_4 : List UInt8 := dkwX4_rowFrom_4 ++ dktX4_rowFrom_5
def dkwX4_rowFrom_3 : List UInt8 := [154, 0, 6, 167, 0, 47, 21, 5, 42, 21, 4, 21, 7, 182, 1, 35, 96, 54, 8, 42, 180, 0, 50, 27]
abbrev dktX4_rowFrom_3 : List UInt8 := dkwX4_rowFrom_3 ++ dktX4_rowFrom_4
def dkwX4_rowFrom_2 : List UInt8 := [46, 162, 0, 77, 29, 21, 7, 184, 1, 78, 154, 0, 62, 42, 180, 0, 26, 21, 7, 184, 1, 45]
abbrev dktX4_rowFrom_2 : List UInt8 := dkwX4_rowFrom_2 ++ dktX4_rowFrom_3
def dkwX4_rowFrom_1 : List UInt8 := [180, 0, 50, 3, 42, 180, 0, 53, 3, 28, 184, 0, 174, 177, 3, 54, 7, 21, 7, 42, 180, 0, 20, 8]
abbrev dktX4_rowFrom_1 : List UInt8 := dkwX4_rowFrom_1 ++ dktX4_rowFrom_2
def dkwX4_rowFrom_0 : List UInt8 := [21, 6, 42, 180, 1, 155, 161, 0, 4, 177, 27, 28, 160, 0, 24, 42, 21, 6, 181, 1, 155, 42]
abbrev dktX4_rowFrom_0 : List UInt8 := dkwX4_rowFrom_0 ++ dktX4_rowFrom_1
theorem dksX4_rowFrom_0 : cX4_rowFrom.data.toList.drop 0 = dktX4_rowFrom_0 := by decide +kernel
theorem dksX4_rowFrom_1 : cX4_rowFrom.data.toList.drop 22 = dktX4_rowFrom_1 := dk_seg dksX4_rowFrom_0 22 rfl rfl
theorem dksX4_rowFrom_2 : cX4_rowFrom.data.toList.drop 46 = dktX4_rowFrom_2 := dk_seg dksX4_rowFrom_1 24 rfl rfl
theorem dksX4_rowFrom_3 : cX4_rowFrom.data.toList.drop 68 = dktX4_rowFrom_3 := dk_seg dksX4_rowFrom_2 22 rfl rfl
theorem dksX4_rowFrom_4 : cX4_rowFrom.data.toList.drop 92 = dktX4_rowFrom_4 := dk_seg dksX4_rowFrom_3 24 rfl rfl
theorem dksX4_rowFrom_5 : cX4_rowFrom.data.toList.drop 115 = dktX4_rowFrom_5 := dk_seg dksX4_rowFrom_4 23 rfl rfl
theorem dX4_rowFrom_0 : decode cX4_rowFrom 0 = .ok (.iload 6, 2) := dk_21 6 (dk_at dksX4_rowFrom_0 0 rfl rfl)
theorem dX4_rowFrom_2 : decode cX4_rowFrom 2 = .ok (.aload_n 0, 1) := dk_42 (dk_at dksX4_rowFrom_0 2 rfl rfl)
theorem dX4_rowFrom_3 : decode cX4_rowFrom 3 = .ok (.getfield 411, 3) := dk_180 1 155 (dk_at dksX4_rowFrom_0 3 rfl rfl)
theorem dX4_rowFrom_6 : decode cX4_rowFrom 6 = .ok (.if_icmp .lt 4, 3) := dk_161 0 4 (dk_at dksX4_rowFrom_0 6 rfl rfl)
theorem dX4_rowFrom_9 : decode cX4_rowFrom 9 = .ok (.return_, 1) := dk_177 (dk_at dksX4_rowFrom_0 9 rfl rfl)
theorem dX4_rowFrom_10 : decode cX4_rowFrom 10 = .ok (.iload_n 1, 1) := dk_27 (dk_at dksX4_rowFrom_0 10 rfl rfl)
theorem dX4_rowFrom_11 : decode cX4_rowFrom 11 = .ok (.iload_n 2, 1) := dk_28 (dk_at dksX4_rowFrom_0 11 rfl rfl)
theorem dX4_rowFrom_12 : decode cX4_rowFrom 12 = .ok (.if_icmp .ne 24, 3) := dk_160 0 24 (dk_at dksX4_rowFrom_0 12 rfl rfl)
theorem dX4_rowFrom_15 : decode cX4_rowFrom 15 = .ok (.aload_n 0, 1) := dk_42 (dk_at dksX4_rowFrom_0 15 rfl rfl)
theorem dX4_rowFrom_16 : decode cX4_rowFrom 16 = .ok (.iload 6, 2) := dk_21 6 (dk_at dksX4_rowFrom_0 16 rfl rfl)
theorem dX4_rowFrom_18 : decode cX4_rowFrom 18 = .ok (.putfield 411, 3) := dk_181 1 155 (dk_at dksX4_rowFrom_0 18 rfl rfl)
theorem dX4_rowFrom_21 : decode cX4_rowFrom 21 = .ok (.aload_n 0, 1) := dk_42 (dk_at dksX4_rowFrom_0 21 rfl rfl)
theorem dX4_rowFrom_22 : decode cX4_rowFrom 22 = .ok (.getfield 50, 3) := dk_180 0 50 (dk_at dksX4_rowFrom_1 0 rfl rfl)
theorem dX4_rowFrom_25 : decode cX4_rowFrom 25 = .ok (.iconst 0, 1) := dk_3 (dk_at dksX4_rowFrom_1 3 rfl rfl)
theorem dX4_rowFrom_26 : decode cX4_rowFrom 26 = .ok (.aload_n 0, 1) := dk_42 (dk_at dksX4_rowFrom_1 4 rfl rfl)
theorem dX4_rowFrom_27 : decode cX4_rowFrom 27 = .ok (.getfield 53, 3) := dk_180 0 53 (dk_at dksX4_rowFrom_1 5 rfl rfl)
theorem dX4_rowFrom_30 : decode cX4_rowFrom 30 = .ok (.iconst 0, 1) := dk_3 (dk_at dksX4_rowFrom_1 8 rfl rfl)
theorem dX4_rowFrom_31 : decode cX4_rowFrom 31 = .ok (.iload_n 2, 1) := dk_28 (dk_at dksX4_rowFrom_1 9 rfl rfl)
theorem dX4_rowFrom_32 : decode cX4_rowFrom 32 = .ok (.invokestatic 174, 3) := dk_184 0 174 (dk_at dksX4_rowFrom_1 10 rfl rfl)
theorem dX4_rowFrom_35 : decode cX4_rowFrom 35 = .ok (.return_, 1) := dk_177 (dk_at dksX4_rowFrom_1 13 rfl rfl)
theorem dX4_rowFrom_36 : decode cX4_rowFrom 36 = .ok (.iconst 0, 1) := dk_3 (dk_at dksX4_rowFrom_1 14 rfl rfl)
theorem dX4_rowFrom_37 : decode cX4_rowFrom 37 = .ok (.istore 7, 2) := dk_54 7 (dk_at dksX4_rowFrom_1 15 rfl rfl)
theorem dX4_rowFrom_39 : decode cX4_rowFrom 39 = .ok (.iload 7, 2) := dk_21 7 (dk_at dksX4_rowFrom_1 17 rfl rfl)
theorem dX4_rowFrom_41 : decode cX4_rowFrom 41 = .ok (.aload_n 0, 1) := dk_42 (dk_at dksX4_rowFrom_1 19 rfl rfl)
theorem dX4_rowFrom_42 : decode cX4_rowFrom 42 = .ok (.getfield 20, 3) := dk_180 0 20 (dk_at dksX4_rowFrom_1 20 rfl rfl)
theorem dX4_rowFrom_45 : decode cX4_rowFrom 45 = .ok (.iconst 5, 1) := dk_8 (dk_at dksX4_rowFrom_1 23 rfl rfl)
theorem dX4_rowFrom_46 : decode cX4_rowFrom 46 = .ok (.iaload, 1) := dk_46 (dk_at dksX4_rowFrom_2 0 rfl rfl)
theorem dX4_rowFrom_47 : decode cX4_rowFrom 47 = .ok (.if_icmp .ge 77, 3) := dk_162 0 77 (dk_at dksX4_rowFrom_2 1 rfl rfl)
theorem dX4_rowFrom_50 : decode cX4_rowFrom 50 = .ok (.iload_n 3, 1) := dk_29 (dk_at dksX4_rowFrom_2 4 rfl rfl)
theorem dX4_rowFrom_51 : decode cX4_rowFrom 51 = .ok (.iload 7, 2) := dk_21 7 (dk_at dksX4_rowFrom_2 5 rfl rfl)
theorem dX4_rowFrom_53 : decode cX4_rowFrom 53 = .ok (.invokestatic 334, 3) := dk_184 1 78 (dk_at dksX4_rowFrom_2 7 rfl rfl)
theorem dX4_rowFrom_56 : decode cX4_rowFrom 56 = .ok (.ifCond .ne 62, 3) := dk_154 0 62 (dk_at dksX4_rowFrom_2 10 rfl rfl)
theorem dX4_rowFrom_59 : decode cX4_rowFrom 59 = .ok (.aload_n 0, 1) := dk_42 (dk_at dksX4_rowFrom_2 13 rfl rfl)
theorem dX4_rowFrom_60 : decode cX4_rowFrom 60 = .ok (.getfield 26, 3) := dk_180 0 26 (dk_at dksX4_rowFrom_2 14 rfl rfl)
theorem dX4_rowFrom_63 : decode cX4_rowFrom 63 = .ok (.iload 7, 2) := dk_21 7 (dk_at dksX4_rowFrom_2 17 rfl rfl)
theorem dX4_rowFrom_65 : decode cX4_rowFrom 65 = .ok (.invokestatic 301, 3) := dk_184 1 45 (dk_at dksX4_rowFrom_2 19 rfl rfl)
theorem dX4_rowFrom_68 : decode cX4_rowFrom 68 = .ok (.ifCond .ne 6, 3) := dk_154 0 6 (dk_at dksX4_rowFrom_3 0 rfl rfl)
theorem dX4_rowFrom_71 : decode cX4_rowFrom 71 = .ok (.goto 47, 3) := dk_167 0 47 (dk_at dksX4_rowFrom_3 3 rfl rfl)
theorem dX4_rowFrom_74 : decode cX4_rowFrom 74 = .ok (.iload 5, 2) := dk_21 5 (dk_at dksX4_rowFrom_3 6 rfl rfl)
theorem dX4_rowFrom_76 : decode cX4_rowFrom 76 = .ok (.aload_n 0, 1) := dk_42 (dk_at dksX4_rowFrom_3 8 rfl rfl)
theorem dX4_rowFrom_77 : decode cX4_rowFrom 77 = .ok (.iload 4, 2) := dk_21 4 (dk_at dksX4_rowFrom_3 9 rfl rfl)
theorem dX4_rowFrom_79 : decode cX4_rowFrom 79 = .ok (.iload 7, 2) := dk_21 7 (dk_at dksX4_rowFrom_3 11 rfl rfl)
theorem dX4_rowFrom_81 : decode cX4_rowFrom 81 = .ok (.invokevirtual 291, 3) := dk_182 1 35 (dk_at dksX4_rowFrom_3 13 rfl rfl)
theorem dX4_rowFrom_84 : decode cX4_rowFrom 84 = .ok (.iadd, 1) := dk_96 (dk_at dksX4_rowFrom_3 16 rfl rfl)
theorem dX4_rowFrom_85 : decode cX4_rowFrom 85 = .ok (.istore 8, 2) := dk_54 8 (dk_at dksX4_rowFrom_3 17 rfl rfl)
theorem dX4_rowFrom_87 : decode cX4_rowFrom 87 = .ok (.aload_n 0, 1) := dk_42 (dk_at dksX4_rowFrom_3 19 rfl rfl)
theorem dX4_rowFrom_88 : decode cX4_rowFrom 88 = .ok (.getfield 50, 3) := dk_180 0 50 (dk_at dksX4_rowFrom_3 20 rfl rfl)
theorem dX4_rowFrom_91 : decode cX4_rowFrom 91 = .ok (.iload_n 1, 1) := dk_27 (dk_at dksX4_rowFrom_3 23 rfl rfl)
theorem dX4_rowFrom_92 : decode cX4_rowFrom 92 = .ok (.iload 7, 2) := dk_21 7 (dk_at dksX4_rowFrom_4 0 rfl rfl)
theorem dX4_rowFrom_94 : decode cX4_rowFrom 94 = .ok (.iastore, 1) := dk_79 (dk_at dksX4_rowFrom_4 2 rfl rfl)
theorem dX4_rowFrom_95 : decode cX4_rowFrom 95 = .ok (.aload_n 0, 1) := dk_42 (dk_at dksX4_rowFrom_4 3 rfl rfl)
theorem dX4_rowFrom_96 : decode cX4_rowFrom 96 = .ok (.iload_n 1, 1) := dk_27 (dk_at dksX4_rowFrom_4 4 rfl rfl)
theorem dX4_rowFrom_97 : decode cX4_rowFrom 97 = .ok (.iconst 1, 1) := dk_4 (dk_at dksX4_rowFrom_4 5 rfl rfl)
theorem dX4_rowFrom_98 : decode cX4_rowFrom 98 = .ok (.iadd, 1) := dk_96 (dk_at dksX4_rowFrom_4 6 rfl rfl)
theorem dX4_rowFrom_99 : decode cX4_rowFrom 99 = .ok (.iload_n 2, 1) := dk_28 (dk_at dksX4_rowFrom_4 7 rfl rfl)
theorem dX4_rowFrom_100 : decode cX4_rowFrom 100 = .ok (.iload_n 3, 1) := dk_29 (dk_at dksX4_rowFrom_4 8 rfl rfl)
theorem dX4_rowFrom_101 : decode cX4_rowFrom 101 = .ok (.iconst 1, 1) := dk_4 (dk_at dksX4_rowFrom_4 9 rfl rfl)
theorem dX4_rowFrom_102 : decode cX4_rowFrom 102 = .ok (.iload 7, 2) := dk_21 7 (dk_at dksX4_rowFrom_4 10 rfl rfl)
theorem dX4_rowFrom_104 : decode cX4_rowFrom 104 = .ok (.ishl, 1) := dk_120 (dk_at dksX4_rowFrom_4 12 rfl rfl)
theorem dX4_rowFrom_105 : decode cX4_rowFrom 105 = .ok (.ior, 1) := dk_128 (dk_at dksX4_rowFrom_4 13 rfl rfl)
theorem dX4_rowFrom_106 : decode cX4_rowFrom 106 = .ok (.iload 7, 2) := dk_21 7 (dk_at dksX4_rowFrom_4 14 rfl rfl)
theorem dX4_rowFrom_108 : decode cX4_rowFrom 108 = .ok (.iload 8, 2) := dk_21 8 (dk_at dksX4_rowFrom_4 16 rfl rfl)
theorem dX4_rowFrom_110 : decode cX4_rowFrom 110 = .ok (.iload 6, 2) := dk_21 6 (dk_at dksX4_rowFrom_4 18 rfl rfl)
theorem dX4_rowFrom_112 : decode cX4_rowFrom 112 = .ok (.iload 8, 2) := dk_21 8 (dk_at dksX4_rowFrom_4 20 rfl rfl)
theorem dX4_rowFrom_114 : decode cX4_rowFrom 114 = .ok (.iadd, 1) := dk_96 (dk_at dksX4_rowFrom_4 22 rfl rfl)
theorem dX4_rowFrom_115 : decode cX4_rowFrom 115 = .ok (.invokevirtual 414, 3) := dk_182 1 158 (dk_at dksX4_rowFrom_5 0 rfl rfl)
theorem dX4_rowFrom_118 : decode cX4_rowFrom 118 = .ok (.iinc 7 1, 3) := dk_132 7 1 (dk_at dksX4_rowFrom_5 3 rfl rfl)
theorem dX4_rowFrom_121 : decode cX4_rowFrom 121 = .ok (.goto (-82), 3) := dk_167 255 174 (dk_at dksX4_rowFrom_5 6 rfl rfl)
theorem dX4_rowFrom_124 : decode cX4_rowFrom 124 = .ok (.return_, 1) := dk_177 (dk_at dksX4_rowFrom_5 9 rfl rfl)
abbrev cX4_rowSum : ByteArray := prog_24_method_111_code
def yX4_rowSum : MethodName := ⟨RX4, "rowSum", "(I)I"⟩
def dkwX4_rowSum_1 : List UInt8 := [180, 1, 155, 172]
abbrev dktX4_rowSum_1 : List UInt8 := dkwX4_rowSum_1 ++ []
def dkwX4_rowSum_0 : List UInt8 := [42, 182, 0, 165, 42, 27, 182, 1, 162, 61, 28, 153, 0, 11, 42, 28, 182, 0, 168, 167, 0, 7, 42]
abbrev dktX4_rowSum_0 : List UInt8 := dkwX4_rowSum_0 ++ dktX4_rowSum_1
theorem dksX4_rowSum_0 : cX4_rowSum.data.toList.drop 0 = dktX4_rowSum_0 := by decide +kernel
theorem dksX4_rowSum_1 : cX4_rowSum.data.toList.drop 23 = dktX4_rowSum_1 := dk_seg dksX4_rowSum_0 23 rfl rfl
theorem dX4_rowSum_0 : decode cX4_rowSum 0 = .ok (.aload_n 0, 1) := dk_42 (dk_at dksX4_rowSum_0 0 rfl rfl)
theorem dX4_rowSum_1 : decode cX4_rowSum 1 = .ok (.invokevirtual 165, 3) := dk_182 0 165 (dk_at dksX4_rowSum_0 1 rfl rfl)
theorem dX4_rowSum_4 : decode cX4_rowSum 4 = .ok (.aload_n 0, 1) := dk_42 (dk_at dksX4_rowSum_0 4 rfl rfl)
theorem dX4_rowSum_5 : decode cX4_rowSum 5 = .ok (.iload_n 1, 1) := dk_27 (dk_at dksX4_rowSum_0 5 rfl rfl)
theorem dX4_rowSum_6 : decode cX4_rowSum 6 = .ok (.invokevirtual 418, 3) := dk_182 1 162 (dk_at dksX4_rowSum_0 6 rfl rfl)
theorem dX4_rowSum_9 : decode cX4_rowSum 9 = .ok (.istore_n 2, 1) := dk_61 (dk_at dksX4_rowSum_0 9 rfl rfl)
theorem dX4_rowSum_10 : decode cX4_rowSum 10 = .ok (.iload_n 2, 1) := dk_28 (dk_at dksX4_rowSum_0 10 rfl rfl)
theorem dX4_rowSum_11 : decode cX4_rowSum 11 = .ok (.ifCond .eq 11, 3) := dk_153 0 11 (dk_at dksX4_rowSum_0 11 rfl rfl)
theorem dX4_rowSum_14 : decode cX4_rowSum 14 = .ok (.aload_n 0, 1) := dk_42 (dk_at dksX4_rowSum_0 14 rfl rfl)
theorem dX4_rowSum_15 : decode cX4_rowSum 15 = .ok (.iload_n 2, 1) := dk_28 (dk_at dksX4_rowSum_0 15 rfl rfl)
theorem dX4_rowSum_16 : decode cX4_rowSum 16 = .ok (.invokevirtual 168, 3) := dk_182 0 168 (dk_at dksX4_rowSum_0 16 rfl rfl)
theorem dX4_rowSum_19 : decode cX4_rowSum 19 = .ok (.goto 7, 3) := dk_167 0 7 (dk_at dksX4_rowSum_0 19 rfl rfl)
theorem dX4_rowSum_22 : decode cX4_rowSum 22 = .ok (.aload_n 0, 1) := dk_42 (dk_at dksX4_rowSum_0 22 rfl rfl)
theorem dX4_rowSum_23 : decode cX4_rowSum 23 = .ok (.getfield 411, 3) := dk_180 1 155 (dk_at dksX4_rowSum_1 0 rfl rfl)
theorem dX4_rowSum_26 : decode cX4_rowSum 26 = .ok (.ireturn, 1) := dk_172 (dk_at dksX4_rowSum_1 3 rfl rfl)
abbrev cX4_liars : ByteArray := prog_24_method_114_code
def yX4_liars : MethodName := ⟨RX4, "liars", "()I"⟩
def dkwX4_liars_0 : List UInt8 := [42, 182, 0, 165, 42, 180, 0, 178, 153, 0, 10, 42, 182, 1, 168, 167, 0, 8, 42, 4, 182, 0, 168, 172]
abbrev dktX4_liars_0 : List UInt8 := dkwX4_liars_0 ++ []
theorem dksX4_liars_0 : cX4_liars.data.toList.drop 0 = dktX4_liars_0 := by decide +kernel
theorem dX4_liars_0 : decode cX4_liars 0 = .ok (.aload_n 0, 1) := dk_42 (dk_at dksX4_liars_0 0 rfl rfl)
theorem dX4_liars_1 : decode cX4_liars 1 = .ok (.invokevirtual 165, 3) := dk_182 0 165 (dk_at dksX4_liars_0 1 rfl rfl)
theorem dX4_liars_4 : decode cX4_liars 4 = .ok (.aload_n 0, 1) := dk_42 (dk_at dksX4_liars_0 4 rfl rfl)
theorem dX4_liars_5 : decode cX4_liars 5 = .ok (.getfield 178, 3) := dk_180 0 178 (dk_at dksX4_liars_0 5 rfl rfl)
theorem dX4_liars_8 : decode cX4_liars 8 = .ok (.ifCond .eq 10, 3) := dk_153 0 10 (dk_at dksX4_liars_0 8 rfl rfl)
theorem dX4_liars_11 : decode cX4_liars 11 = .ok (.aload_n 0, 1) := dk_42 (dk_at dksX4_liars_0 11 rfl rfl)
theorem dX4_liars_12 : decode cX4_liars 12 = .ok (.invokevirtual 424, 3) := dk_182 1 168 (dk_at dksX4_liars_0 12 rfl rfl)
theorem dX4_liars_15 : decode cX4_liars 15 = .ok (.goto 8, 3) := dk_167 0 8 (dk_at dksX4_liars_0 15 rfl rfl)
theorem dX4_liars_18 : decode cX4_liars 18 = .ok (.aload_n 0, 1) := dk_42 (dk_at dksX4_liars_0 18 rfl rfl)
theorem dX4_liars_19 : decode cX4_liars 19 = .ok (.iconst 1, 1) := dk_4 (dk_at dksX4_liars_0 19 rfl rfl)
theorem dX4_liars_20 : decode cX4_liars 20 = .ok (.invokevirtual 168, 3) := dk_182 0 168 (dk_at dksX4_liars_0 20 rfl rfl)
theorem dX4_liars_23 : decode cX4_liars 23 = .ok (.ireturn, 1) := dk_172 (dk_at dksX4_liars_0 23 rfl rfl)
abbrev cX4_liarsOf : ByteArray := prog_24_method_113_code
def yX4_liarsOf : MethodName := ⟨RX4, "liarsOf", "()I"⟩
def dkwX4_liarsOf_1 : List UInt8 := [162, 0, 13, 42, 28, 182, 1, 165, 153, 0, 5, 28, 60, 132, 2, 1, 167, 255, 224, 27, 172]
abbrev dktX4_liarsOf_1 : List UInt8 := dkwX4_liarsOf_1 ++ []
def dkwX4_liarsOf_0 : List UInt8 := [42, 182, 1, 143, 60, 3, 61, 28, 42, 182, 1, 143, 163, 0, 30, 28, 184, 1, 84, 27, 184, 1, 84]
abbrev dktX4_liarsOf_0 : List UInt8 := dkwX4_liarsOf_0 ++ dktX4_liarsOf_1
theorem dksX4_liarsOf_0 : cX4_liarsOf.data.toList.drop 0 = dktX4_liarsOf_0 := by decide +kernel
theorem dksX4_liarsOf_1 : cX4_liarsOf.data.toList.drop 23 = dktX4_liarsOf_1 := dk_seg dksX4_liarsOf_0 23 rfl rfl
theorem dX4_liarsOf_0 : decode cX4_liarsOf 0 = .ok (.aload_n 0, 1) := dk_42 (dk_at dksX4_liarsOf_0 0 rfl rfl)
theorem dX4_liarsOf_1 : decode cX4_liarsOf 1 = .ok (.invokevirtual 399, 3) := dk_182 1 143 (dk_at dksX4_liarsOf_0 1 rfl rfl)
theorem dX4_liarsOf_4 : decode cX4_liarsOf 4 = .ok (.istore_n 1, 1) := dk_60 (dk_at dksX4_liarsOf_0 4 rfl rfl)
theorem dX4_liarsOf_5 : decode cX4_liarsOf 5 = .ok (.iconst 0, 1) := dk_3 (dk_at dksX4_liarsOf_0 5 rfl rfl)
theorem dX4_liarsOf_6 : decode cX4_liarsOf 6 = .ok (.istore_n 2, 1) := dk_61 (dk_at dksX4_liarsOf_0 6 rfl rfl)
theorem dX4_liarsOf_7 : decode cX4_liarsOf 7 = .ok (.iload_n 2, 1) := dk_28 (dk_at dksX4_liarsOf_0 7 rfl rfl)
theorem dX4_liarsOf_8 : decode cX4_liarsOf 8 = .ok (.aload_n 0, 1) := dk_42 (dk_at dksX4_liarsOf_0 8 rfl rfl)
theorem dX4_liarsOf_9 : decode cX4_liarsOf 9 = .ok (.invokevirtual 399, 3) := dk_182 1 143 (dk_at dksX4_liarsOf_0 9 rfl rfl)
theorem dX4_liarsOf_12 : decode cX4_liarsOf 12 = .ok (.if_icmp .gt 30, 3) := dk_163 0 30 (dk_at dksX4_liarsOf_0 12 rfl rfl)
theorem dX4_liarsOf_15 : decode cX4_liarsOf 15 = .ok (.iload_n 2, 1) := dk_28 (dk_at dksX4_liarsOf_0 15 rfl rfl)
theorem dX4_liarsOf_16 : decode cX4_liarsOf 16 = .ok (.invokestatic 340, 3) := dk_184 1 84 (dk_at dksX4_liarsOf_0 16 rfl rfl)
theorem dX4_liarsOf_19 : decode cX4_liarsOf 19 = .ok (.iload_n 1, 1) := dk_27 (dk_at dksX4_liarsOf_0 19 rfl rfl)
theorem dX4_liarsOf_20 : decode cX4_liarsOf 20 = .ok (.invokestatic 340, 3) := dk_184 1 84 (dk_at dksX4_liarsOf_0 20 rfl rfl)
theorem dX4_liarsOf_23 : decode cX4_liarsOf 23 = .ok (.if_icmp .ge 13, 3) := dk_162 0 13 (dk_at dksX4_liarsOf_1 0 rfl rfl)
theorem dX4_liarsOf_26 : decode cX4_liarsOf 26 = .ok (.aload_n 0, 1) := dk_42 (dk_at dksX4_liarsOf_1 3 rfl rfl)
theorem dX4_liarsOf_27 : decode cX4_liarsOf 27 = .ok (.iload_n 2, 1) := dk_28 (dk_at dksX4_liarsOf_1 4 rfl rfl)
theorem dX4_liarsOf_28 : decode cX4_liarsOf 28 = .ok (.invokevirtual 421, 3) := dk_182 1 165 (dk_at dksX4_liarsOf_1 5 rfl rfl)
theorem dX4_liarsOf_31 : decode cX4_liarsOf 31 = .ok (.ifCond .eq 5, 3) := dk_153 0 5 (dk_at dksX4_liarsOf_1 8 rfl rfl)
theorem dX4_liarsOf_34 : decode cX4_liarsOf 34 = .ok (.iload_n 2, 1) := dk_28 (dk_at dksX4_liarsOf_1 11 rfl rfl)
theorem dX4_liarsOf_35 : decode cX4_liarsOf 35 = .ok (.istore_n 1, 1) := dk_60 (dk_at dksX4_liarsOf_1 12 rfl rfl)
theorem dX4_liarsOf_36 : decode cX4_liarsOf 36 = .ok (.iinc 2 1, 3) := dk_132 2 1 (dk_at dksX4_liarsOf_1 13 rfl rfl)
theorem dX4_liarsOf_39 : decode cX4_liarsOf 39 = .ok (.goto (-32), 3) := dk_167 255 224 (dk_at dksX4_liarsOf_1 16 rfl rfl)
theorem dX4_liarsOf_42 : decode cX4_liarsOf 42 = .ok (.iload_n 1, 1) := dk_27 (dk_at dksX4_liarsOf_1 19 rfl rfl)
theorem dX4_liarsOf_43 : decode cX4_liarsOf 43 = .ok (.ireturn, 1) := dk_172 (dk_at dksX4_liarsOf_1 20 rfl rfl)
abbrev cX4_layTellings : ByteArray := prog_24_method_112_code
def yX4_layTellings : MethodName := ⟨RX4, "layTellings", "(I)Z"⟩
def dkwX4_layTellings_10 : List UInt8 := [61, 132, 3, 1, 167, 255, 225, 28, 172]
abbrev dktX4_layTellings_10 : List UInt8 := dkwX4_layTellings_10 ++ []
def dkwX4_layTellings_9 : List UInt8 := [162, 0, 31, 28, 153, 0, 19, 42, 180, 0, 56, 16, 11, 29, 104, 51, 154, 0, 7, 4, 167, 0, 4, 3]
abbrev dktX4_layTellings_9 : List UInt8 := dkwX4_layTellings_9 ++ dktX4_layTellings_10
def dkwX4_layTellings_8 : List UInt8 := [167, 255, 185, 132, 3, 1, 167, 255, 170, 132, 2, 1, 167, 255, 156, 4, 61, 3, 62, 29, 16, 10]
abbrev dktX4_layTellings_8 : List UInt8 := dkwX4_layTellings_8 ++ dktX4_layTellings_9
def dkwX4_layTellings_7 : List UInt8 := [180, 0, 56, 16, 10, 28, 104, 21, 4, 96, 51, 153, 0, 7, 4, 167, 0, 4, 3, 84, 132, 4, 1]
abbrev dktX4_layTellings_7 : List UInt8 := dkwX4_layTellings_7 ++ dktX4_layTellings_8
def dkwX4_layTellings_6 : List UInt8 := [21, 4, 96, 51, 154, 0, 32, 42, 180, 0, 56, 16, 10, 29, 104, 28, 96, 51, 153, 0, 22, 42]
abbrev dktX4_layTellings_6 : List UInt8 := dkwX4_layTellings_6 ++ dktX4_layTellings_7
def dkwX4_layTellings_5 : List UInt8 := [16, 10, 162, 0, 70, 42, 180, 0, 56, 16, 10, 29, 104, 21, 4, 96, 42, 180, 0, 56, 16, 10, 29, 104]
abbrev dktX4_layTellings_5 : List UInt8 := dkwX4_layTellings_5 ++ dktX4_layTellings_6
def dkwX4_layTellings_4 : List UInt8 := [167, 255, 185, 3, 61, 28, 16, 10, 162, 0, 100, 3, 62, 29, 16, 10, 162, 0, 86, 3, 54, 4, 21, 4]
abbrev dktX4_layTellings_4 : List UInt8 := dkwX4_layTellings_4 ++ dktX4_layTellings_5
def dkwX4_layTellings_3 : List UInt8 := [96, 46, 104, 42, 180, 0, 20, 17, 0, 161, 6, 28, 104, 96, 5, 96, 46, 96, 4, 84, 132, 2, 1]
abbrev dktX4_layTellings_3 : List UInt8 := dkwX4_layTellings_3 ++ dktX4_layTellings_4
def dkwX4_layTellings_2 : List UInt8 := [184, 1, 78, 154, 0, 41, 42, 180, 0, 56, 16, 10, 42, 180, 0, 20, 17, 0, 161, 6, 28, 104, 96, 4]
abbrev dktX4_layTellings_2 : List UInt8 := dkwX4_layTellings_2 ++ dktX4_layTellings_3
def dkwX4_layTellings_1 : List UInt8 := [42, 180, 0, 20, 16, 7, 46, 162, 0, 66, 27, 42, 180, 0, 20, 17, 0, 161, 6, 28, 104, 96, 46]
abbrev dktX4_layTellings_1 : List UInt8 := dkwX4_layTellings_1 ++ dktX4_layTellings_2
def dkwX4_layTellings_0 : List UInt8 := [3, 61, 28, 16, 100, 162, 0, 16, 42, 180, 0, 56, 28, 3, 84, 132, 2, 1, 167, 255, 240, 3, 61, 28]
abbrev dktX4_layTellings_0 : List UInt8 := dkwX4_layTellings_0 ++ dktX4_layTellings_1
theorem dksX4_layTellings_0 : cX4_layTellings.data.toList.drop 0 = dktX4_layTellings_0 := by decide +kernel
theorem dksX4_layTellings_1 : cX4_layTellings.data.toList.drop 24 = dktX4_layTellings_1 := dk_seg dksX4_layTellings_0 24 rfl rfl
theorem dksX4_layTellings_2 : cX4_layTellings.data.toList.drop 47 = dktX4_layTellings_2 := dk_seg dksX4_layTellings_1 23 rfl rfl
theorem dksX4_layTellings_3 : cX4_layTellings.data.toList.drop 71 = dktX4_layTellings_3 := dk_seg dksX4_layTellings_2 24 rfl rfl
theorem dksX4_layTellings_4 : cX4_layTellings.data.toList.drop 94 = dktX4_layTellings_4 := dk_seg dksX4_layTellings_3 23 rfl rfl
theorem dksX4_layTellings_5 : cX4_layTellings.data.toList.drop 118 = dktX4_layTellings_5 := dk_seg dksX4_layTellings_4 24 rfl rfl
theorem dksX4_layTellings_6 : cX4_layTellings.data.toList.drop 142 = dktX4_layTellings_6 := dk_seg dksX4_layTellings_5 24 rfl rfl
theorem dksX4_layTellings_7 : cX4_layTellings.data.toList.drop 164 = dktX4_layTellings_7 := dk_seg dksX4_layTellings_6 22 rfl rfl
theorem dksX4_layTellings_8 : cX4_layTellings.data.toList.drop 187 = dktX4_layTellings_8 := dk_seg dksX4_layTellings_7 23 rfl rfl
theorem dksX4_layTellings_9 : cX4_layTellings.data.toList.drop 209 = dktX4_layTellings_9 := dk_seg dksX4_layTellings_8 22 rfl rfl
theorem dksX4_layTellings_10 : cX4_layTellings.data.toList.drop 233 = dktX4_layTellings_10 := dk_seg dksX4_layTellings_9 24 rfl rfl
theorem dX4_layTellings_0 : decode cX4_layTellings 0 = .ok (.iconst 0, 1) := dk_3 (dk_at dksX4_layTellings_0 0 rfl rfl)
theorem dX4_layTellings_1 : decode cX4_layTellings 1 = .ok (.istore_n 2, 1) := dk_61 (dk_at dksX4_layTellings_0 1 rfl rfl)
theorem dX4_layTellings_2 : decode cX4_layTellings 2 = .ok (.iload_n 2, 1) := dk_28 (dk_at dksX4_layTellings_0 2 rfl rfl)
theorem dX4_layTellings_3 : decode cX4_layTellings 3 = .ok (.bipush 100, 2) := dk_16 100 (dk_at dksX4_layTellings_0 3 rfl rfl)
theorem dX4_layTellings_5 : decode cX4_layTellings 5 = .ok (.if_icmp .ge 16, 3) := dk_162 0 16 (dk_at dksX4_layTellings_0 5 rfl rfl)
theorem dX4_layTellings_8 : decode cX4_layTellings 8 = .ok (.aload_n 0, 1) := dk_42 (dk_at dksX4_layTellings_0 8 rfl rfl)
theorem dX4_layTellings_9 : decode cX4_layTellings 9 = .ok (.getfield 56, 3) := dk_180 0 56 (dk_at dksX4_layTellings_0 9 rfl rfl)
theorem dX4_layTellings_12 : decode cX4_layTellings 12 = .ok (.iload_n 2, 1) := dk_28 (dk_at dksX4_layTellings_0 12 rfl rfl)
theorem dX4_layTellings_13 : decode cX4_layTellings 13 = .ok (.iconst 0, 1) := dk_3 (dk_at dksX4_layTellings_0 13 rfl rfl)
theorem dX4_layTellings_14 : decode cX4_layTellings 14 = .ok (.bastore, 1) := dk_84 (dk_at dksX4_layTellings_0 14 rfl rfl)
theorem dX4_layTellings_15 : decode cX4_layTellings 15 = .ok (.iinc 2 1, 3) := dk_132 2 1 (dk_at dksX4_layTellings_0 15 rfl rfl)
theorem dX4_layTellings_18 : decode cX4_layTellings 18 = .ok (.goto (-16), 3) := dk_167 255 240 (dk_at dksX4_layTellings_0 18 rfl rfl)
theorem dX4_layTellings_21 : decode cX4_layTellings 21 = .ok (.iconst 0, 1) := dk_3 (dk_at dksX4_layTellings_0 21 rfl rfl)
theorem dX4_layTellings_22 : decode cX4_layTellings 22 = .ok (.istore_n 2, 1) := dk_61 (dk_at dksX4_layTellings_0 22 rfl rfl)
theorem dX4_layTellings_23 : decode cX4_layTellings 23 = .ok (.iload_n 2, 1) := dk_28 (dk_at dksX4_layTellings_0 23 rfl rfl)
theorem dX4_layTellings_24 : decode cX4_layTellings 24 = .ok (.aload_n 0, 1) := dk_42 (dk_at dksX4_layTellings_1 0 rfl rfl)
theorem dX4_layTellings_25 : decode cX4_layTellings 25 = .ok (.getfield 20, 3) := dk_180 0 20 (dk_at dksX4_layTellings_1 1 rfl rfl)
theorem dX4_layTellings_28 : decode cX4_layTellings 28 = .ok (.bipush 7, 2) := dk_16 7 (dk_at dksX4_layTellings_1 4 rfl rfl)
theorem dX4_layTellings_30 : decode cX4_layTellings 30 = .ok (.iaload, 1) := dk_46 (dk_at dksX4_layTellings_1 6 rfl rfl)
theorem dX4_layTellings_31 : decode cX4_layTellings 31 = .ok (.if_icmp .ge 66, 3) := dk_162 0 66 (dk_at dksX4_layTellings_1 7 rfl rfl)
theorem dX4_layTellings_34 : decode cX4_layTellings 34 = .ok (.iload_n 1, 1) := dk_27 (dk_at dksX4_layTellings_1 10 rfl rfl)
theorem dX4_layTellings_35 : decode cX4_layTellings 35 = .ok (.aload_n 0, 1) := dk_42 (dk_at dksX4_layTellings_1 11 rfl rfl)
theorem dX4_layTellings_36 : decode cX4_layTellings 36 = .ok (.getfield 20, 3) := dk_180 0 20 (dk_at dksX4_layTellings_1 12 rfl rfl)
theorem dX4_layTellings_39 : decode cX4_layTellings 39 = .ok (.sipush 161, 3) := dk_17 0 161 (dk_at dksX4_layTellings_1 15 rfl rfl)
theorem dX4_layTellings_42 : decode cX4_layTellings 42 = .ok (.iconst 3, 1) := dk_6 (dk_at dksX4_layTellings_1 18 rfl rfl)
theorem dX4_layTellings_43 : decode cX4_layTellings 43 = .ok (.iload_n 2, 1) := dk_28 (dk_at dksX4_layTellings_1 19 rfl rfl)
theorem dX4_layTellings_44 : decode cX4_layTellings 44 = .ok (.imul, 1) := dk_104 (dk_at dksX4_layTellings_1 20 rfl rfl)
theorem dX4_layTellings_45 : decode cX4_layTellings 45 = .ok (.iadd, 1) := dk_96 (dk_at dksX4_layTellings_1 21 rfl rfl)
theorem dX4_layTellings_46 : decode cX4_layTellings 46 = .ok (.iaload, 1) := dk_46 (dk_at dksX4_layTellings_1 22 rfl rfl)
theorem dX4_layTellings_47 : decode cX4_layTellings 47 = .ok (.invokestatic 334, 3) := dk_184 1 78 (dk_at dksX4_layTellings_2 0 rfl rfl)
theorem dX4_layTellings_50 : decode cX4_layTellings 50 = .ok (.ifCond .ne 41, 3) := dk_154 0 41 (dk_at dksX4_layTellings_2 3 rfl rfl)
theorem dX4_layTellings_53 : decode cX4_layTellings 53 = .ok (.aload_n 0, 1) := dk_42 (dk_at dksX4_layTellings_2 6 rfl rfl)
theorem dX4_layTellings_54 : decode cX4_layTellings 54 = .ok (.getfield 56, 3) := dk_180 0 56 (dk_at dksX4_layTellings_2 7 rfl rfl)
theorem dX4_layTellings_57 : decode cX4_layTellings 57 = .ok (.bipush 10, 2) := dk_16 10 (dk_at dksX4_layTellings_2 10 rfl rfl)
theorem dX4_layTellings_59 : decode cX4_layTellings 59 = .ok (.aload_n 0, 1) := dk_42 (dk_at dksX4_layTellings_2 12 rfl rfl)
theorem dX4_layTellings_60 : decode cX4_layTellings 60 = .ok (.getfield 20, 3) := dk_180 0 20 (dk_at dksX4_layTellings_2 13 rfl rfl)
theorem dX4_layTellings_63 : decode cX4_layTellings 63 = .ok (.sipush 161, 3) := dk_17 0 161 (dk_at dksX4_layTellings_2 16 rfl rfl)
theorem dX4_layTellings_66 : decode cX4_layTellings 66 = .ok (.iconst 3, 1) := dk_6 (dk_at dksX4_layTellings_2 19 rfl rfl)
theorem dX4_layTellings_67 : decode cX4_layTellings 67 = .ok (.iload_n 2, 1) := dk_28 (dk_at dksX4_layTellings_2 20 rfl rfl)
theorem dX4_layTellings_68 : decode cX4_layTellings 68 = .ok (.imul, 1) := dk_104 (dk_at dksX4_layTellings_2 21 rfl rfl)
theorem dX4_layTellings_69 : decode cX4_layTellings 69 = .ok (.iadd, 1) := dk_96 (dk_at dksX4_layTellings_2 22 rfl rfl)
theorem dX4_layTellings_70 : decode cX4_layTellings 70 = .ok (.iconst 1, 1) := dk_4 (dk_at dksX4_layTellings_2 23 rfl rfl)
theorem dX4_layTellings_71 : decode cX4_layTellings 71 = .ok (.iadd, 1) := dk_96 (dk_at dksX4_layTellings_3 0 rfl rfl)
theorem dX4_layTellings_72 : decode cX4_layTellings 72 = .ok (.iaload, 1) := dk_46 (dk_at dksX4_layTellings_3 1 rfl rfl)
theorem dX4_layTellings_73 : decode cX4_layTellings 73 = .ok (.imul, 1) := dk_104 (dk_at dksX4_layTellings_3 2 rfl rfl)
theorem dX4_layTellings_74 : decode cX4_layTellings 74 = .ok (.aload_n 0, 1) := dk_42 (dk_at dksX4_layTellings_3 3 rfl rfl)
theorem dX4_layTellings_75 : decode cX4_layTellings 75 = .ok (.getfield 20, 3) := dk_180 0 20 (dk_at dksX4_layTellings_3 4 rfl rfl)
theorem dX4_layTellings_78 : decode cX4_layTellings 78 = .ok (.sipush 161, 3) := dk_17 0 161 (dk_at dksX4_layTellings_3 7 rfl rfl)
theorem dX4_layTellings_81 : decode cX4_layTellings 81 = .ok (.iconst 3, 1) := dk_6 (dk_at dksX4_layTellings_3 10 rfl rfl)
theorem dX4_layTellings_82 : decode cX4_layTellings 82 = .ok (.iload_n 2, 1) := dk_28 (dk_at dksX4_layTellings_3 11 rfl rfl)
theorem dX4_layTellings_83 : decode cX4_layTellings 83 = .ok (.imul, 1) := dk_104 (dk_at dksX4_layTellings_3 12 rfl rfl)
theorem dX4_layTellings_84 : decode cX4_layTellings 84 = .ok (.iadd, 1) := dk_96 (dk_at dksX4_layTellings_3 13 rfl rfl)
theorem dX4_layTellings_85 : decode cX4_layTellings 85 = .ok (.iconst 2, 1) := dk_5 (dk_at dksX4_layTellings_3 14 rfl rfl)
theorem dX4_layTellings_86 : decode cX4_layTellings 86 = .ok (.iadd, 1) := dk_96 (dk_at dksX4_layTellings_3 15 rfl rfl)
theorem dX4_layTellings_87 : decode cX4_layTellings 87 = .ok (.iaload, 1) := dk_46 (dk_at dksX4_layTellings_3 16 rfl rfl)
theorem dX4_layTellings_88 : decode cX4_layTellings 88 = .ok (.iadd, 1) := dk_96 (dk_at dksX4_layTellings_3 17 rfl rfl)
theorem dX4_layTellings_89 : decode cX4_layTellings 89 = .ok (.iconst 1, 1) := dk_4 (dk_at dksX4_layTellings_3 18 rfl rfl)
theorem dX4_layTellings_90 : decode cX4_layTellings 90 = .ok (.bastore, 1) := dk_84 (dk_at dksX4_layTellings_3 19 rfl rfl)
theorem dX4_layTellings_91 : decode cX4_layTellings 91 = .ok (.iinc 2 1, 3) := dk_132 2 1 (dk_at dksX4_layTellings_3 20 rfl rfl)
theorem dX4_layTellings_94 : decode cX4_layTellings 94 = .ok (.goto (-71), 3) := dk_167 255 185 (dk_at dksX4_layTellings_4 0 rfl rfl)
theorem dX4_layTellings_97 : decode cX4_layTellings 97 = .ok (.iconst 0, 1) := dk_3 (dk_at dksX4_layTellings_4 3 rfl rfl)
theorem dX4_layTellings_98 : decode cX4_layTellings 98 = .ok (.istore_n 2, 1) := dk_61 (dk_at dksX4_layTellings_4 4 rfl rfl)
theorem dX4_layTellings_99 : decode cX4_layTellings 99 = .ok (.iload_n 2, 1) := dk_28 (dk_at dksX4_layTellings_4 5 rfl rfl)
theorem dX4_layTellings_100 : decode cX4_layTellings 100 = .ok (.bipush 10, 2) := dk_16 10 (dk_at dksX4_layTellings_4 6 rfl rfl)
theorem dX4_layTellings_102 : decode cX4_layTellings 102 = .ok (.if_icmp .ge 100, 3) := dk_162 0 100 (dk_at dksX4_layTellings_4 8 rfl rfl)
theorem dX4_layTellings_105 : decode cX4_layTellings 105 = .ok (.iconst 0, 1) := dk_3 (dk_at dksX4_layTellings_4 11 rfl rfl)
theorem dX4_layTellings_106 : decode cX4_layTellings 106 = .ok (.istore_n 3, 1) := dk_62 (dk_at dksX4_layTellings_4 12 rfl rfl)
theorem dX4_layTellings_107 : decode cX4_layTellings 107 = .ok (.iload_n 3, 1) := dk_29 (dk_at dksX4_layTellings_4 13 rfl rfl)
theorem dX4_layTellings_108 : decode cX4_layTellings 108 = .ok (.bipush 10, 2) := dk_16 10 (dk_at dksX4_layTellings_4 14 rfl rfl)
theorem dX4_layTellings_110 : decode cX4_layTellings 110 = .ok (.if_icmp .ge 86, 3) := dk_162 0 86 (dk_at dksX4_layTellings_4 16 rfl rfl)
theorem dX4_layTellings_113 : decode cX4_layTellings 113 = .ok (.iconst 0, 1) := dk_3 (dk_at dksX4_layTellings_4 19 rfl rfl)
theorem dX4_layTellings_114 : decode cX4_layTellings 114 = .ok (.istore 4, 2) := dk_54 4 (dk_at dksX4_layTellings_4 20 rfl rfl)
theorem dX4_layTellings_116 : decode cX4_layTellings 116 = .ok (.iload 4, 2) := dk_21 4 (dk_at dksX4_layTellings_4 22 rfl rfl)
theorem dX4_layTellings_118 : decode cX4_layTellings 118 = .ok (.bipush 10, 2) := dk_16 10 (dk_at dksX4_layTellings_5 0 rfl rfl)
theorem dX4_layTellings_120 : decode cX4_layTellings 120 = .ok (.if_icmp .ge 70, 3) := dk_162 0 70 (dk_at dksX4_layTellings_5 2 rfl rfl)
theorem dX4_layTellings_123 : decode cX4_layTellings 123 = .ok (.aload_n 0, 1) := dk_42 (dk_at dksX4_layTellings_5 5 rfl rfl)
theorem dX4_layTellings_124 : decode cX4_layTellings 124 = .ok (.getfield 56, 3) := dk_180 0 56 (dk_at dksX4_layTellings_5 6 rfl rfl)
theorem dX4_layTellings_127 : decode cX4_layTellings 127 = .ok (.bipush 10, 2) := dk_16 10 (dk_at dksX4_layTellings_5 9 rfl rfl)
theorem dX4_layTellings_129 : decode cX4_layTellings 129 = .ok (.iload_n 3, 1) := dk_29 (dk_at dksX4_layTellings_5 11 rfl rfl)
theorem dX4_layTellings_130 : decode cX4_layTellings 130 = .ok (.imul, 1) := dk_104 (dk_at dksX4_layTellings_5 12 rfl rfl)
theorem dX4_layTellings_131 : decode cX4_layTellings 131 = .ok (.iload 4, 2) := dk_21 4 (dk_at dksX4_layTellings_5 13 rfl rfl)
theorem dX4_layTellings_133 : decode cX4_layTellings 133 = .ok (.iadd, 1) := dk_96 (dk_at dksX4_layTellings_5 15 rfl rfl)
theorem dX4_layTellings_134 : decode cX4_layTellings 134 = .ok (.aload_n 0, 1) := dk_42 (dk_at dksX4_layTellings_5 16 rfl rfl)
theorem dX4_layTellings_135 : decode cX4_layTellings 135 = .ok (.getfield 56, 3) := dk_180 0 56 (dk_at dksX4_layTellings_5 17 rfl rfl)
theorem dX4_layTellings_138 : decode cX4_layTellings 138 = .ok (.bipush 10, 2) := dk_16 10 (dk_at dksX4_layTellings_5 20 rfl rfl)
theorem dX4_layTellings_140 : decode cX4_layTellings 140 = .ok (.iload_n 3, 1) := dk_29 (dk_at dksX4_layTellings_5 22 rfl rfl)
theorem dX4_layTellings_141 : decode cX4_layTellings 141 = .ok (.imul, 1) := dk_104 (dk_at dksX4_layTellings_5 23 rfl rfl)
theorem dX4_layTellings_142 : decode cX4_layTellings 142 = .ok (.iload 4, 2) := dk_21 4 (dk_at dksX4_layTellings_6 0 rfl rfl)
theorem dX4_layTellings_144 : decode cX4_layTellings 144 = .ok (.iadd, 1) := dk_96 (dk_at dksX4_layTellings_6 2 rfl rfl)
theorem dX4_layTellings_145 : decode cX4_layTellings 145 = .ok (.baload, 1) := dk_51 (dk_at dksX4_layTellings_6 3 rfl rfl)
theorem dX4_layTellings_146 : decode cX4_layTellings 146 = .ok (.ifCond .ne 32, 3) := dk_154 0 32 (dk_at dksX4_layTellings_6 4 rfl rfl)
theorem dX4_layTellings_149 : decode cX4_layTellings 149 = .ok (.aload_n 0, 1) := dk_42 (dk_at dksX4_layTellings_6 7 rfl rfl)
theorem dX4_layTellings_150 : decode cX4_layTellings 150 = .ok (.getfield 56, 3) := dk_180 0 56 (dk_at dksX4_layTellings_6 8 rfl rfl)
theorem dX4_layTellings_153 : decode cX4_layTellings 153 = .ok (.bipush 10, 2) := dk_16 10 (dk_at dksX4_layTellings_6 11 rfl rfl)
theorem dX4_layTellings_155 : decode cX4_layTellings 155 = .ok (.iload_n 3, 1) := dk_29 (dk_at dksX4_layTellings_6 13 rfl rfl)
theorem dX4_layTellings_156 : decode cX4_layTellings 156 = .ok (.imul, 1) := dk_104 (dk_at dksX4_layTellings_6 14 rfl rfl)
theorem dX4_layTellings_157 : decode cX4_layTellings 157 = .ok (.iload_n 2, 1) := dk_28 (dk_at dksX4_layTellings_6 15 rfl rfl)
theorem dX4_layTellings_158 : decode cX4_layTellings 158 = .ok (.iadd, 1) := dk_96 (dk_at dksX4_layTellings_6 16 rfl rfl)
theorem dX4_layTellings_159 : decode cX4_layTellings 159 = .ok (.baload, 1) := dk_51 (dk_at dksX4_layTellings_6 17 rfl rfl)
theorem dX4_layTellings_160 : decode cX4_layTellings 160 = .ok (.ifCond .eq 22, 3) := dk_153 0 22 (dk_at dksX4_layTellings_6 18 rfl rfl)
theorem dX4_layTellings_163 : decode cX4_layTellings 163 = .ok (.aload_n 0, 1) := dk_42 (dk_at dksX4_layTellings_6 21 rfl rfl)
theorem dX4_layTellings_164 : decode cX4_layTellings 164 = .ok (.getfield 56, 3) := dk_180 0 56 (dk_at dksX4_layTellings_7 0 rfl rfl)
theorem dX4_layTellings_167 : decode cX4_layTellings 167 = .ok (.bipush 10, 2) := dk_16 10 (dk_at dksX4_layTellings_7 3 rfl rfl)
theorem dX4_layTellings_169 : decode cX4_layTellings 169 = .ok (.iload_n 2, 1) := dk_28 (dk_at dksX4_layTellings_7 5 rfl rfl)
theorem dX4_layTellings_170 : decode cX4_layTellings 170 = .ok (.imul, 1) := dk_104 (dk_at dksX4_layTellings_7 6 rfl rfl)
theorem dX4_layTellings_171 : decode cX4_layTellings 171 = .ok (.iload 4, 2) := dk_21 4 (dk_at dksX4_layTellings_7 7 rfl rfl)
theorem dX4_layTellings_173 : decode cX4_layTellings 173 = .ok (.iadd, 1) := dk_96 (dk_at dksX4_layTellings_7 9 rfl rfl)
theorem dX4_layTellings_174 : decode cX4_layTellings 174 = .ok (.baload, 1) := dk_51 (dk_at dksX4_layTellings_7 10 rfl rfl)
theorem dX4_layTellings_175 : decode cX4_layTellings 175 = .ok (.ifCond .eq 7, 3) := dk_153 0 7 (dk_at dksX4_layTellings_7 11 rfl rfl)
theorem dX4_layTellings_178 : decode cX4_layTellings 178 = .ok (.iconst 1, 1) := dk_4 (dk_at dksX4_layTellings_7 14 rfl rfl)
theorem dX4_layTellings_179 : decode cX4_layTellings 179 = .ok (.goto 4, 3) := dk_167 0 4 (dk_at dksX4_layTellings_7 15 rfl rfl)
theorem dX4_layTellings_182 : decode cX4_layTellings 182 = .ok (.iconst 0, 1) := dk_3 (dk_at dksX4_layTellings_7 18 rfl rfl)
theorem dX4_layTellings_183 : decode cX4_layTellings 183 = .ok (.bastore, 1) := dk_84 (dk_at dksX4_layTellings_7 19 rfl rfl)
theorem dX4_layTellings_184 : decode cX4_layTellings 184 = .ok (.iinc 4 1, 3) := dk_132 4 1 (dk_at dksX4_layTellings_7 20 rfl rfl)
theorem dX4_layTellings_187 : decode cX4_layTellings 187 = .ok (.goto (-71), 3) := dk_167 255 185 (dk_at dksX4_layTellings_8 0 rfl rfl)
theorem dX4_layTellings_190 : decode cX4_layTellings 190 = .ok (.iinc 3 1, 3) := dk_132 3 1 (dk_at dksX4_layTellings_8 3 rfl rfl)
theorem dX4_layTellings_193 : decode cX4_layTellings 193 = .ok (.goto (-86), 3) := dk_167 255 170 (dk_at dksX4_layTellings_8 6 rfl rfl)
theorem dX4_layTellings_196 : decode cX4_layTellings 196 = .ok (.iinc 2 1, 3) := dk_132 2 1 (dk_at dksX4_layTellings_8 9 rfl rfl)
theorem dX4_layTellings_199 : decode cX4_layTellings 199 = .ok (.goto (-100), 3) := dk_167 255 156 (dk_at dksX4_layTellings_8 12 rfl rfl)
theorem dX4_layTellings_202 : decode cX4_layTellings 202 = .ok (.iconst 1, 1) := dk_4 (dk_at dksX4_layTellings_8 15 rfl rfl)
theorem dX4_layTellings_203 : decode cX4_layTellings 203 = .ok (.istore_n 2, 1) := dk_61 (dk_at dksX4_layTellings_8 16 rfl rfl)
theorem dX4_layTellings_204 : decode cX4_layTellings 204 = .ok (.iconst 0, 1) := dk_3 (dk_at dksX4_layTellings_8 17 rfl rfl)
theorem dX4_layTellings_205 : decode cX4_layTellings 205 = .ok (.istore_n 3, 1) := dk_62 (dk_at dksX4_layTellings_8 18 rfl rfl)
theorem dX4_layTellings_206 : decode cX4_layTellings 206 = .ok (.iload_n 3, 1) := dk_29 (dk_at dksX4_layTellings_8 19 rfl rfl)
theorem dX4_layTellings_207 : decode cX4_layTellings 207 = .ok (.bipush 10, 2) := dk_16 10 (dk_at dksX4_layTellings_8 20 rfl rfl)
theorem dX4_layTellings_209 : decode cX4_layTellings 209 = .ok (.if_icmp .ge 31, 3) := dk_162 0 31 (dk_at dksX4_layTellings_9 0 rfl rfl)
theorem dX4_layTellings_212 : decode cX4_layTellings 212 = .ok (.iload_n 2, 1) := dk_28 (dk_at dksX4_layTellings_9 3 rfl rfl)
theorem dX4_layTellings_213 : decode cX4_layTellings 213 = .ok (.ifCond .eq 19, 3) := dk_153 0 19 (dk_at dksX4_layTellings_9 4 rfl rfl)
theorem dX4_layTellings_216 : decode cX4_layTellings 216 = .ok (.aload_n 0, 1) := dk_42 (dk_at dksX4_layTellings_9 7 rfl rfl)
theorem dX4_layTellings_217 : decode cX4_layTellings 217 = .ok (.getfield 56, 3) := dk_180 0 56 (dk_at dksX4_layTellings_9 8 rfl rfl)
theorem dX4_layTellings_220 : decode cX4_layTellings 220 = .ok (.bipush 11, 2) := dk_16 11 (dk_at dksX4_layTellings_9 11 rfl rfl)
theorem dX4_layTellings_222 : decode cX4_layTellings 222 = .ok (.iload_n 3, 1) := dk_29 (dk_at dksX4_layTellings_9 13 rfl rfl)
theorem dX4_layTellings_223 : decode cX4_layTellings 223 = .ok (.imul, 1) := dk_104 (dk_at dksX4_layTellings_9 14 rfl rfl)
theorem dX4_layTellings_224 : decode cX4_layTellings 224 = .ok (.baload, 1) := dk_51 (dk_at dksX4_layTellings_9 15 rfl rfl)
theorem dX4_layTellings_225 : decode cX4_layTellings 225 = .ok (.ifCond .ne 7, 3) := dk_154 0 7 (dk_at dksX4_layTellings_9 16 rfl rfl)
theorem dX4_layTellings_228 : decode cX4_layTellings 228 = .ok (.iconst 1, 1) := dk_4 (dk_at dksX4_layTellings_9 19 rfl rfl)
theorem dX4_layTellings_229 : decode cX4_layTellings 229 = .ok (.goto 4, 3) := dk_167 0 4 (dk_at dksX4_layTellings_9 20 rfl rfl)
theorem dX4_layTellings_232 : decode cX4_layTellings 232 = .ok (.iconst 0, 1) := dk_3 (dk_at dksX4_layTellings_9 23 rfl rfl)
theorem dX4_layTellings_233 : decode cX4_layTellings 233 = .ok (.istore_n 2, 1) := dk_61 (dk_at dksX4_layTellings_10 0 rfl rfl)
theorem dX4_layTellings_234 : decode cX4_layTellings 234 = .ok (.iinc 3 1, 3) := dk_132 3 1 (dk_at dksX4_layTellings_10 1 rfl rfl)
theorem dX4_layTellings_237 : decode cX4_layTellings 237 = .ok (.goto (-31), 3) := dk_167 255 225 (dk_at dksX4_layTellings_10 4 rfl rfl)
theorem dX4_layTellings_240 : decode cX4_layTellings 240 = .ok (.iload_n 2, 1) := dk_28 (dk_at dksX4_layTellings_10 7 rfl rfl)
theorem dX4_layTellings_241 : decode cX4_layTellings 241 = .ok (.ireturn, 1) := dk_172 (dk_at dksX4_layTellings_10 8 rfl rfl)
abbrev cX4_surely : ByteArray := prog_24_method_115_code
def yX4_surely : MethodName := ⟨RX4, "surely", "(II)I"⟩
def dkwX4_surely_2 : List UInt8 := [27, 104, 28, 96, 51, 153, 0, 7, 4, 167, 0, 4, 3, 172]
abbrev dktX4_surely_2 : List UInt8 := dkwX4_surely_2 ++ []
def dkwX4_surely_1 : List UInt8 := [160, 0, 9, 42, 4, 182, 0, 168, 172, 42, 42, 182, 1, 168, 182, 1, 165, 87, 42, 180, 0, 56, 16, 10]
abbrev dktX4_surely_1 : List UInt8 := dkwX4_surely_1 ++ dktX4_surely_2
def dkwX4_surely_0 : List UInt8 := [42, 182, 0, 165, 42, 27, 182, 1, 90, 153, 0, 16, 42, 28, 182, 1, 90, 153, 0, 8, 27, 28]
abbrev dktX4_surely_0 : List UInt8 := dkwX4_surely_0 ++ dktX4_surely_1
theorem dksX4_surely_0 : cX4_surely.data.toList.drop 0 = dktX4_surely_0 := by decide +kernel
theorem dksX4_surely_1 : cX4_surely.data.toList.drop 22 = dktX4_surely_1 := dk_seg dksX4_surely_0 22 rfl rfl
theorem dksX4_surely_2 : cX4_surely.data.toList.drop 46 = dktX4_surely_2 := dk_seg dksX4_surely_1 24 rfl rfl
theorem dX4_surely_0 : decode cX4_surely 0 = .ok (.aload_n 0, 1) := dk_42 (dk_at dksX4_surely_0 0 rfl rfl)
theorem dX4_surely_1 : decode cX4_surely 1 = .ok (.invokevirtual 165, 3) := dk_182 0 165 (dk_at dksX4_surely_0 1 rfl rfl)
theorem dX4_surely_4 : decode cX4_surely 4 = .ok (.aload_n 0, 1) := dk_42 (dk_at dksX4_surely_0 4 rfl rfl)
theorem dX4_surely_5 : decode cX4_surely 5 = .ok (.iload_n 1, 1) := dk_27 (dk_at dksX4_surely_0 5 rfl rfl)
theorem dX4_surely_6 : decode cX4_surely 6 = .ok (.invokevirtual 346, 3) := dk_182 1 90 (dk_at dksX4_surely_0 6 rfl rfl)
theorem dX4_surely_9 : decode cX4_surely 9 = .ok (.ifCond .eq 16, 3) := dk_153 0 16 (dk_at dksX4_surely_0 9 rfl rfl)
theorem dX4_surely_12 : decode cX4_surely 12 = .ok (.aload_n 0, 1) := dk_42 (dk_at dksX4_surely_0 12 rfl rfl)
theorem dX4_surely_13 : decode cX4_surely 13 = .ok (.iload_n 2, 1) := dk_28 (dk_at dksX4_surely_0 13 rfl rfl)
theorem dX4_surely_14 : decode cX4_surely 14 = .ok (.invokevirtual 346, 3) := dk_182 1 90 (dk_at dksX4_surely_0 14 rfl rfl)
theorem dX4_surely_17 : decode cX4_surely 17 = .ok (.ifCond .eq 8, 3) := dk_153 0 8 (dk_at dksX4_surely_0 17 rfl rfl)
theorem dX4_surely_20 : decode cX4_surely 20 = .ok (.iload_n 1, 1) := dk_27 (dk_at dksX4_surely_0 20 rfl rfl)
theorem dX4_surely_21 : decode cX4_surely 21 = .ok (.iload_n 2, 1) := dk_28 (dk_at dksX4_surely_0 21 rfl rfl)
theorem dX4_surely_22 : decode cX4_surely 22 = .ok (.if_icmp .ne 9, 3) := dk_160 0 9 (dk_at dksX4_surely_1 0 rfl rfl)
theorem dX4_surely_25 : decode cX4_surely 25 = .ok (.aload_n 0, 1) := dk_42 (dk_at dksX4_surely_1 3 rfl rfl)
theorem dX4_surely_26 : decode cX4_surely 26 = .ok (.iconst 1, 1) := dk_4 (dk_at dksX4_surely_1 4 rfl rfl)
theorem dX4_surely_27 : decode cX4_surely 27 = .ok (.invokevirtual 168, 3) := dk_182 0 168 (dk_at dksX4_surely_1 5 rfl rfl)
theorem dX4_surely_30 : decode cX4_surely 30 = .ok (.ireturn, 1) := dk_172 (dk_at dksX4_surely_1 8 rfl rfl)
theorem dX4_surely_31 : decode cX4_surely 31 = .ok (.aload_n 0, 1) := dk_42 (dk_at dksX4_surely_1 9 rfl rfl)
theorem dX4_surely_32 : decode cX4_surely 32 = .ok (.aload_n 0, 1) := dk_42 (dk_at dksX4_surely_1 10 rfl rfl)
theorem dX4_surely_33 : decode cX4_surely 33 = .ok (.invokevirtual 424, 3) := dk_182 1 168 (dk_at dksX4_surely_1 11 rfl rfl)
theorem dX4_surely_36 : decode cX4_surely 36 = .ok (.invokevirtual 421, 3) := dk_182 1 165 (dk_at dksX4_surely_1 14 rfl rfl)
theorem dX4_surely_39 : decode cX4_surely 39 = .ok (.pop, 1) := dk_87 (dk_at dksX4_surely_1 17 rfl rfl)
theorem dX4_surely_40 : decode cX4_surely 40 = .ok (.aload_n 0, 1) := dk_42 (dk_at dksX4_surely_1 18 rfl rfl)
theorem dX4_surely_41 : decode cX4_surely 41 = .ok (.getfield 56, 3) := dk_180 0 56 (dk_at dksX4_surely_1 19 rfl rfl)
theorem dX4_surely_44 : decode cX4_surely 44 = .ok (.bipush 10, 2) := dk_16 10 (dk_at dksX4_surely_1 22 rfl rfl)
theorem dX4_surely_46 : decode cX4_surely 46 = .ok (.iload_n 1, 1) := dk_27 (dk_at dksX4_surely_2 0 rfl rfl)
theorem dX4_surely_47 : decode cX4_surely 47 = .ok (.imul, 1) := dk_104 (dk_at dksX4_surely_2 1 rfl rfl)
theorem dX4_surely_48 : decode cX4_surely 48 = .ok (.iload_n 2, 1) := dk_28 (dk_at dksX4_surely_2 2 rfl rfl)
theorem dX4_surely_49 : decode cX4_surely 49 = .ok (.iadd, 1) := dk_96 (dk_at dksX4_surely_2 3 rfl rfl)
theorem dX4_surely_50 : decode cX4_surely 50 = .ok (.baload, 1) := dk_51 (dk_at dksX4_surely_2 4 rfl rfl)
theorem dX4_surely_51 : decode cX4_surely 51 = .ok (.ifCond .eq 7, 3) := dk_153 0 7 (dk_at dksX4_surely_2 5 rfl rfl)
theorem dX4_surely_54 : decode cX4_surely 54 = .ok (.iconst 1, 1) := dk_4 (dk_at dksX4_surely_2 8 rfl rfl)
theorem dX4_surely_55 : decode cX4_surely 55 = .ok (.goto 4, 3) := dk_167 0 4 (dk_at dksX4_surely_2 9 rfl rfl)
theorem dX4_surely_58 : decode cX4_surely 58 = .ok (.iconst 0, 1) := dk_3 (dk_at dksX4_surely_2 12 rfl rfl)
theorem dX4_surely_59 : decode cX4_surely 59 = .ok (.ireturn, 1) := dk_172 (dk_at dksX4_surely_2 13 rfl rfl)
abbrev cX4_so : ByteArray := prog_24_method_116_code
def yX4_so : MethodName := ⟨RX4, "so", "()I"⟩
def dkwX4_so_3 : List UInt8 := [4, 167, 0, 4, 3, 96, 60, 132, 2, 1, 167, 255, 199, 27, 172]
abbrev dktX4_so_3 : List UInt8 := dkwX4_so_3 ++ []
def dkwX4_so_2 : List UInt8 := [96, 5, 96, 46, 42, 180, 0, 20, 17, 0, 161, 6, 28, 104, 96, 4, 96, 46, 182, 1, 71, 153, 0, 7]
abbrev dktX4_so_2 : List UInt8 := dkwX4_so_2 ++ dktX4_so_3
def dkwX4_so_1 : List UInt8 := [61, 28, 42, 180, 0, 20, 16, 7, 46, 162, 0, 52, 27, 42, 42, 180, 0, 20, 17, 0, 161, 6, 28, 104]
abbrev dktX4_so_1 : List UInt8 := dkwX4_so_1 ++ dktX4_so_2
def dkwX4_so_0 : List UInt8 := [42, 182, 0, 165, 42, 180, 0, 178, 154, 0, 9, 42, 4, 182, 0, 168, 172, 42, 182, 0, 187, 3, 60, 3]
abbrev dktX4_so_0 : List UInt8 := dkwX4_so_0 ++ dktX4_so_1
theorem dksX4_so_0 : cX4_so.data.toList.drop 0 = dktX4_so_0 := by decide +kernel
theorem dksX4_so_1 : cX4_so.data.toList.drop 24 = dktX4_so_1 := dk_seg dksX4_so_0 24 rfl rfl
theorem dksX4_so_2 : cX4_so.data.toList.drop 48 = dktX4_so_2 := dk_seg dksX4_so_1 24 rfl rfl
theorem dksX4_so_3 : cX4_so.data.toList.drop 72 = dktX4_so_3 := dk_seg dksX4_so_2 24 rfl rfl
theorem dX4_so_0 : decode cX4_so 0 = .ok (.aload_n 0, 1) := dk_42 (dk_at dksX4_so_0 0 rfl rfl)
theorem dX4_so_1 : decode cX4_so 1 = .ok (.invokevirtual 165, 3) := dk_182 0 165 (dk_at dksX4_so_0 1 rfl rfl)
theorem dX4_so_4 : decode cX4_so 4 = .ok (.aload_n 0, 1) := dk_42 (dk_at dksX4_so_0 4 rfl rfl)
theorem dX4_so_5 : decode cX4_so 5 = .ok (.getfield 178, 3) := dk_180 0 178 (dk_at dksX4_so_0 5 rfl rfl)
theorem dX4_so_8 : decode cX4_so 8 = .ok (.ifCond .ne 9, 3) := dk_154 0 9 (dk_at dksX4_so_0 8 rfl rfl)
theorem dX4_so_11 : decode cX4_so 11 = .ok (.aload_n 0, 1) := dk_42 (dk_at dksX4_so_0 11 rfl rfl)
theorem dX4_so_12 : decode cX4_so 12 = .ok (.iconst 1, 1) := dk_4 (dk_at dksX4_so_0 12 rfl rfl)
theorem dX4_so_13 : decode cX4_so 13 = .ok (.invokevirtual 168, 3) := dk_182 0 168 (dk_at dksX4_so_0 13 rfl rfl)
theorem dX4_so_16 : decode cX4_so 16 = .ok (.ireturn, 1) := dk_172 (dk_at dksX4_so_0 16 rfl rfl)
theorem dX4_so_17 : decode cX4_so 17 = .ok (.aload_n 0, 1) := dk_42 (dk_at dksX4_so_0 17 rfl rfl)
theorem dX4_so_18 : decode cX4_so 18 = .ok (.invokevirtual 187, 3) := dk_182 0 187 (dk_at dksX4_so_0 18 rfl rfl)
theorem dX4_so_21 : decode cX4_so 21 = .ok (.iconst 0, 1) := dk_3 (dk_at dksX4_so_0 21 rfl rfl)
theorem dX4_so_22 : decode cX4_so 22 = .ok (.istore_n 1, 1) := dk_60 (dk_at dksX4_so_0 22 rfl rfl)
theorem dX4_so_23 : decode cX4_so 23 = .ok (.iconst 0, 1) := dk_3 (dk_at dksX4_so_0 23 rfl rfl)
theorem dX4_so_24 : decode cX4_so 24 = .ok (.istore_n 2, 1) := dk_61 (dk_at dksX4_so_1 0 rfl rfl)
theorem dX4_so_25 : decode cX4_so 25 = .ok (.iload_n 2, 1) := dk_28 (dk_at dksX4_so_1 1 rfl rfl)
theorem dX4_so_26 : decode cX4_so 26 = .ok (.aload_n 0, 1) := dk_42 (dk_at dksX4_so_1 2 rfl rfl)
theorem dX4_so_27 : decode cX4_so 27 = .ok (.getfield 20, 3) := dk_180 0 20 (dk_at dksX4_so_1 3 rfl rfl)
theorem dX4_so_30 : decode cX4_so 30 = .ok (.bipush 7, 2) := dk_16 7 (dk_at dksX4_so_1 6 rfl rfl)
theorem dX4_so_32 : decode cX4_so 32 = .ok (.iaload, 1) := dk_46 (dk_at dksX4_so_1 8 rfl rfl)
theorem dX4_so_33 : decode cX4_so 33 = .ok (.if_icmp .ge 52, 3) := dk_162 0 52 (dk_at dksX4_so_1 9 rfl rfl)
theorem dX4_so_36 : decode cX4_so 36 = .ok (.iload_n 1, 1) := dk_27 (dk_at dksX4_so_1 12 rfl rfl)
theorem dX4_so_37 : decode cX4_so 37 = .ok (.aload_n 0, 1) := dk_42 (dk_at dksX4_so_1 13 rfl rfl)
theorem dX4_so_38 : decode cX4_so 38 = .ok (.aload_n 0, 1) := dk_42 (dk_at dksX4_so_1 14 rfl rfl)
theorem dX4_so_39 : decode cX4_so 39 = .ok (.getfield 20, 3) := dk_180 0 20 (dk_at dksX4_so_1 15 rfl rfl)
theorem dX4_so_42 : decode cX4_so 42 = .ok (.sipush 161, 3) := dk_17 0 161 (dk_at dksX4_so_1 18 rfl rfl)
theorem dX4_so_45 : decode cX4_so 45 = .ok (.iconst 3, 1) := dk_6 (dk_at dksX4_so_1 21 rfl rfl)
theorem dX4_so_46 : decode cX4_so 46 = .ok (.iload_n 2, 1) := dk_28 (dk_at dksX4_so_1 22 rfl rfl)
theorem dX4_so_47 : decode cX4_so 47 = .ok (.imul, 1) := dk_104 (dk_at dksX4_so_1 23 rfl rfl)
theorem dX4_so_48 : decode cX4_so 48 = .ok (.iadd, 1) := dk_96 (dk_at dksX4_so_2 0 rfl rfl)
theorem dX4_so_49 : decode cX4_so 49 = .ok (.iconst 2, 1) := dk_5 (dk_at dksX4_so_2 1 rfl rfl)
theorem dX4_so_50 : decode cX4_so 50 = .ok (.iadd, 1) := dk_96 (dk_at dksX4_so_2 2 rfl rfl)
theorem dX4_so_51 : decode cX4_so 51 = .ok (.iaload, 1) := dk_46 (dk_at dksX4_so_2 3 rfl rfl)
theorem dX4_so_52 : decode cX4_so 52 = .ok (.aload_n 0, 1) := dk_42 (dk_at dksX4_so_2 4 rfl rfl)
theorem dX4_so_53 : decode cX4_so 53 = .ok (.getfield 20, 3) := dk_180 0 20 (dk_at dksX4_so_2 5 rfl rfl)
theorem dX4_so_56 : decode cX4_so 56 = .ok (.sipush 161, 3) := dk_17 0 161 (dk_at dksX4_so_2 8 rfl rfl)
theorem dX4_so_59 : decode cX4_so 59 = .ok (.iconst 3, 1) := dk_6 (dk_at dksX4_so_2 11 rfl rfl)
theorem dX4_so_60 : decode cX4_so 60 = .ok (.iload_n 2, 1) := dk_28 (dk_at dksX4_so_2 12 rfl rfl)
theorem dX4_so_61 : decode cX4_so 61 = .ok (.imul, 1) := dk_104 (dk_at dksX4_so_2 13 rfl rfl)
theorem dX4_so_62 : decode cX4_so 62 = .ok (.iadd, 1) := dk_96 (dk_at dksX4_so_2 14 rfl rfl)
theorem dX4_so_63 : decode cX4_so 63 = .ok (.iconst 1, 1) := dk_4 (dk_at dksX4_so_2 15 rfl rfl)
theorem dX4_so_64 : decode cX4_so 64 = .ok (.iadd, 1) := dk_96 (dk_at dksX4_so_2 16 rfl rfl)
theorem dX4_so_65 : decode cX4_so 65 = .ok (.iaload, 1) := dk_46 (dk_at dksX4_so_2 17 rfl rfl)
theorem dX4_so_66 : decode cX4_so 66 = .ok (.invokevirtual 327, 3) := dk_182 1 71 (dk_at dksX4_so_2 18 rfl rfl)
theorem dX4_so_69 : decode cX4_so 69 = .ok (.ifCond .eq 7, 3) := dk_153 0 7 (dk_at dksX4_so_2 21 rfl rfl)
theorem dX4_so_72 : decode cX4_so 72 = .ok (.iconst 1, 1) := dk_4 (dk_at dksX4_so_3 0 rfl rfl)
theorem dX4_so_73 : decode cX4_so 73 = .ok (.goto 4, 3) := dk_167 0 4 (dk_at dksX4_so_3 1 rfl rfl)
theorem dX4_so_76 : decode cX4_so 76 = .ok (.iconst 0, 1) := dk_3 (dk_at dksX4_so_3 4 rfl rfl)
theorem dX4_so_77 : decode cX4_so 77 = .ok (.iadd, 1) := dk_96 (dk_at dksX4_so_3 5 rfl rfl)
theorem dX4_so_78 : decode cX4_so 78 = .ok (.istore_n 1, 1) := dk_60 (dk_at dksX4_so_3 6 rfl rfl)
theorem dX4_so_79 : decode cX4_so 79 = .ok (.iinc 2 1, 3) := dk_132 2 1 (dk_at dksX4_so_3 7 rfl rfl)
theorem dX4_so_82 : decode cX4_so 82 = .ok (.goto (-57), 3) := dk_167 255 199 (dk_at dksX4_so_3 10 rfl rfl)
theorem dX4_so_85 : decode cX4_so 85 = .ok (.iload_n 1, 1) := dk_27 (dk_at dksX4_so_3 13 rfl rfl)
theorem dX4_so_86 : decode cX4_so 86 = .ok (.ireturn, 1) := dk_172 (dk_at dksX4_so_3 14 rfl rfl)
abbrev cX4_pass : ByteArray := prog_24_method_118_code
def yX4_pass : MethodName := ⟨RX4, "pass", "(I)I"⟩
def dkwX4_pass_4 : List UInt8 := [172]
abbrev dktX4_pass_4 : List UInt8 := dkwX4_pass_4 ++ []
def dkwX4_pass_3 : List UInt8 := [27, 162, 0, 17, 42, 42, 180, 0, 26, 182, 1, 65, 132, 2, 1, 167, 255, 240, 42, 180, 0, 26, 3, 46]
abbrev dktX4_pass_3 : List UInt8 := dkwX4_pass_3 ++ dktX4_pass_4
def dkwX4_pass_2 : List UInt8 := [5, 46, 4, 96, 164, 0, 9, 42, 6, 182, 0, 168, 172, 42, 182, 1, 171, 42, 182, 0, 187, 3, 61, 28]
abbrev dktX4_pass_2 : List UInt8 := dkwX4_pass_2 ++ dktX4_pass_3
def dkwX4_pass_1 : List UInt8 := [184, 0, 147, 154, 0, 9, 42, 5, 182, 0, 168, 172, 42, 180, 0, 26, 3, 46, 27, 96, 42, 180, 0, 20]
abbrev dktX4_pass_1 : List UInt8 := dkwX4_pass_1 ++ dktX4_pass_2
def dkwX4_pass_0 : List UInt8 := [42, 182, 0, 165, 42, 180, 0, 178, 154, 0, 9, 42, 4, 182, 0, 168, 172, 27, 4, 17, 0, 200]
abbrev dktX4_pass_0 : List UInt8 := dkwX4_pass_0 ++ dktX4_pass_1
theorem dksX4_pass_0 : cX4_pass.data.toList.drop 0 = dktX4_pass_0 := by decide +kernel
theorem dksX4_pass_1 : cX4_pass.data.toList.drop 22 = dktX4_pass_1 := dk_seg dksX4_pass_0 22 rfl rfl
theorem dksX4_pass_2 : cX4_pass.data.toList.drop 46 = dktX4_pass_2 := dk_seg dksX4_pass_1 24 rfl rfl
theorem dksX4_pass_3 : cX4_pass.data.toList.drop 70 = dktX4_pass_3 := dk_seg dksX4_pass_2 24 rfl rfl
theorem dksX4_pass_4 : cX4_pass.data.toList.drop 94 = dktX4_pass_4 := dk_seg dksX4_pass_3 24 rfl rfl
theorem dX4_pass_0 : decode cX4_pass 0 = .ok (.aload_n 0, 1) := dk_42 (dk_at dksX4_pass_0 0 rfl rfl)
theorem dX4_pass_1 : decode cX4_pass 1 = .ok (.invokevirtual 165, 3) := dk_182 0 165 (dk_at dksX4_pass_0 1 rfl rfl)
theorem dX4_pass_4 : decode cX4_pass 4 = .ok (.aload_n 0, 1) := dk_42 (dk_at dksX4_pass_0 4 rfl rfl)
theorem dX4_pass_5 : decode cX4_pass 5 = .ok (.getfield 178, 3) := dk_180 0 178 (dk_at dksX4_pass_0 5 rfl rfl)
theorem dX4_pass_8 : decode cX4_pass 8 = .ok (.ifCond .ne 9, 3) := dk_154 0 9 (dk_at dksX4_pass_0 8 rfl rfl)
theorem dX4_pass_11 : decode cX4_pass 11 = .ok (.aload_n 0, 1) := dk_42 (dk_at dksX4_pass_0 11 rfl rfl)
theorem dX4_pass_12 : decode cX4_pass 12 = .ok (.iconst 1, 1) := dk_4 (dk_at dksX4_pass_0 12 rfl rfl)
theorem dX4_pass_13 : decode cX4_pass 13 = .ok (.invokevirtual 168, 3) := dk_182 0 168 (dk_at dksX4_pass_0 13 rfl rfl)
theorem dX4_pass_16 : decode cX4_pass 16 = .ok (.ireturn, 1) := dk_172 (dk_at dksX4_pass_0 16 rfl rfl)
theorem dX4_pass_17 : decode cX4_pass 17 = .ok (.iload_n 1, 1) := dk_27 (dk_at dksX4_pass_0 17 rfl rfl)
theorem dX4_pass_18 : decode cX4_pass 18 = .ok (.iconst 1, 1) := dk_4 (dk_at dksX4_pass_0 18 rfl rfl)
theorem dX4_pass_19 : decode cX4_pass 19 = .ok (.sipush 200, 3) := dk_17 0 200 (dk_at dksX4_pass_0 19 rfl rfl)
theorem dX4_pass_22 : decode cX4_pass 22 = .ok (.invokestatic 147, 3) := dk_184 0 147 (dk_at dksX4_pass_1 0 rfl rfl)
theorem dX4_pass_25 : decode cX4_pass 25 = .ok (.ifCond .ne 9, 3) := dk_154 0 9 (dk_at dksX4_pass_1 3 rfl rfl)
theorem dX4_pass_28 : decode cX4_pass 28 = .ok (.aload_n 0, 1) := dk_42 (dk_at dksX4_pass_1 6 rfl rfl)
theorem dX4_pass_29 : decode cX4_pass 29 = .ok (.iconst 2, 1) := dk_5 (dk_at dksX4_pass_1 7 rfl rfl)
theorem dX4_pass_30 : decode cX4_pass 30 = .ok (.invokevirtual 168, 3) := dk_182 0 168 (dk_at dksX4_pass_1 8 rfl rfl)
theorem dX4_pass_33 : decode cX4_pass 33 = .ok (.ireturn, 1) := dk_172 (dk_at dksX4_pass_1 11 rfl rfl)
theorem dX4_pass_34 : decode cX4_pass 34 = .ok (.aload_n 0, 1) := dk_42 (dk_at dksX4_pass_1 12 rfl rfl)
theorem dX4_pass_35 : decode cX4_pass 35 = .ok (.getfield 26, 3) := dk_180 0 26 (dk_at dksX4_pass_1 13 rfl rfl)
theorem dX4_pass_38 : decode cX4_pass 38 = .ok (.iconst 0, 1) := dk_3 (dk_at dksX4_pass_1 16 rfl rfl)
theorem dX4_pass_39 : decode cX4_pass 39 = .ok (.iaload, 1) := dk_46 (dk_at dksX4_pass_1 17 rfl rfl)
theorem dX4_pass_40 : decode cX4_pass 40 = .ok (.iload_n 1, 1) := dk_27 (dk_at dksX4_pass_1 18 rfl rfl)
theorem dX4_pass_41 : decode cX4_pass 41 = .ok (.iadd, 1) := dk_96 (dk_at dksX4_pass_1 19 rfl rfl)
theorem dX4_pass_42 : decode cX4_pass 42 = .ok (.aload_n 0, 1) := dk_42 (dk_at dksX4_pass_1 20 rfl rfl)
theorem dX4_pass_43 : decode cX4_pass 43 = .ok (.getfield 20, 3) := dk_180 0 20 (dk_at dksX4_pass_1 21 rfl rfl)
theorem dX4_pass_46 : decode cX4_pass 46 = .ok (.iconst 2, 1) := dk_5 (dk_at dksX4_pass_2 0 rfl rfl)
theorem dX4_pass_47 : decode cX4_pass 47 = .ok (.iaload, 1) := dk_46 (dk_at dksX4_pass_2 1 rfl rfl)
theorem dX4_pass_48 : decode cX4_pass 48 = .ok (.iconst 1, 1) := dk_4 (dk_at dksX4_pass_2 2 rfl rfl)
theorem dX4_pass_49 : decode cX4_pass 49 = .ok (.iadd, 1) := dk_96 (dk_at dksX4_pass_2 3 rfl rfl)
theorem dX4_pass_50 : decode cX4_pass 50 = .ok (.if_icmp .le 9, 3) := dk_164 0 9 (dk_at dksX4_pass_2 4 rfl rfl)
theorem dX4_pass_53 : decode cX4_pass 53 = .ok (.aload_n 0, 1) := dk_42 (dk_at dksX4_pass_2 7 rfl rfl)
theorem dX4_pass_54 : decode cX4_pass 54 = .ok (.iconst 3, 1) := dk_6 (dk_at dksX4_pass_2 8 rfl rfl)
theorem dX4_pass_55 : decode cX4_pass 55 = .ok (.invokevirtual 168, 3) := dk_182 0 168 (dk_at dksX4_pass_2 9 rfl rfl)
theorem dX4_pass_58 : decode cX4_pass 58 = .ok (.ireturn, 1) := dk_172 (dk_at dksX4_pass_2 12 rfl rfl)
theorem dX4_pass_59 : decode cX4_pass 59 = .ok (.aload_n 0, 1) := dk_42 (dk_at dksX4_pass_2 13 rfl rfl)
theorem dX4_pass_60 : decode cX4_pass 60 = .ok (.invokevirtual 427, 3) := dk_182 1 171 (dk_at dksX4_pass_2 14 rfl rfl)
theorem dX4_pass_63 : decode cX4_pass 63 = .ok (.aload_n 0, 1) := dk_42 (dk_at dksX4_pass_2 17 rfl rfl)
theorem dX4_pass_64 : decode cX4_pass 64 = .ok (.invokevirtual 187, 3) := dk_182 0 187 (dk_at dksX4_pass_2 18 rfl rfl)
theorem dX4_pass_67 : decode cX4_pass 67 = .ok (.iconst 0, 1) := dk_3 (dk_at dksX4_pass_2 21 rfl rfl)
theorem dX4_pass_68 : decode cX4_pass 68 = .ok (.istore_n 2, 1) := dk_61 (dk_at dksX4_pass_2 22 rfl rfl)
theorem dX4_pass_69 : decode cX4_pass 69 = .ok (.iload_n 2, 1) := dk_28 (dk_at dksX4_pass_2 23 rfl rfl)
theorem dX4_pass_70 : decode cX4_pass 70 = .ok (.iload_n 1, 1) := dk_27 (dk_at dksX4_pass_3 0 rfl rfl)
theorem dX4_pass_71 : decode cX4_pass 71 = .ok (.if_icmp .ge 17, 3) := dk_162 0 17 (dk_at dksX4_pass_3 1 rfl rfl)
theorem dX4_pass_74 : decode cX4_pass 74 = .ok (.aload_n 0, 1) := dk_42 (dk_at dksX4_pass_3 4 rfl rfl)
theorem dX4_pass_75 : decode cX4_pass 75 = .ok (.aload_n 0, 1) := dk_42 (dk_at dksX4_pass_3 5 rfl rfl)
theorem dX4_pass_76 : decode cX4_pass 76 = .ok (.getfield 26, 3) := dk_180 0 26 (dk_at dksX4_pass_3 6 rfl rfl)
theorem dX4_pass_79 : decode cX4_pass 79 = .ok (.invokevirtual 321, 3) := dk_182 1 65 (dk_at dksX4_pass_3 9 rfl rfl)
theorem dX4_pass_82 : decode cX4_pass 82 = .ok (.iinc 2 1, 3) := dk_132 2 1 (dk_at dksX4_pass_3 12 rfl rfl)
theorem dX4_pass_85 : decode cX4_pass 85 = .ok (.goto (-16), 3) := dk_167 255 240 (dk_at dksX4_pass_3 15 rfl rfl)
theorem dX4_pass_88 : decode cX4_pass 88 = .ok (.aload_n 0, 1) := dk_42 (dk_at dksX4_pass_3 18 rfl rfl)
theorem dX4_pass_89 : decode cX4_pass 89 = .ok (.getfield 26, 3) := dk_180 0 26 (dk_at dksX4_pass_3 19 rfl rfl)
theorem dX4_pass_92 : decode cX4_pass 92 = .ok (.iconst 0, 1) := dk_3 (dk_at dksX4_pass_3 22 rfl rfl)
theorem dX4_pass_93 : decode cX4_pass 93 = .ok (.iaload, 1) := dk_46 (dk_at dksX4_pass_3 23 rfl rfl)
theorem dX4_pass_94 : decode cX4_pass 94 = .ok (.ireturn, 1) := dk_172 (dk_at dksX4_pass_4 0 rfl rfl)
abbrev cX4_note : ByteArray := prog_24_method_117_code
def yX4_note : MethodName := ⟨RX4, "note", "()V"⟩
def dkwX4_note_3 : List UInt8 := [42, 89, 180, 0, 181, 4, 96, 181, 0, 181, 177]
abbrev dktX4_note_3 : List UInt8 := dkwX4_note_3 ++ []
def dkwX4_note_2 : List UInt8 := [181, 0, 181, 42, 180, 0, 26, 3, 42, 180, 0, 32, 16, 108, 42, 180, 0, 181, 104, 16, 108, 184, 0, 174]
abbrev dktX4_note_2 : List UInt8 := dkwX4_note_2 ++ dktX4_note_3
def dkwX4_note_1 : List UInt8 := [180, 0, 32, 27, 16, 108, 96, 46, 79, 132, 1, 1, 167, 255, 231, 42, 89, 180, 0, 181, 4, 100]
abbrev dktX4_note_1 : List UInt8 := dkwX4_note_1 ++ dktX4_note_2
def dkwX4_note_0 : List UInt8 := [42, 180, 0, 181, 16, 12, 160, 0, 43, 3, 60, 27, 17, 4, 164, 162, 0, 24, 42, 180, 0, 32, 27, 42]
abbrev dktX4_note_0 : List UInt8 := dkwX4_note_0 ++ dktX4_note_1
theorem dksX4_note_0 : cX4_note.data.toList.drop 0 = dktX4_note_0 := by decide +kernel
theorem dksX4_note_1 : cX4_note.data.toList.drop 24 = dktX4_note_1 := dk_seg dksX4_note_0 24 rfl rfl
theorem dksX4_note_2 : cX4_note.data.toList.drop 46 = dktX4_note_2 := dk_seg dksX4_note_1 22 rfl rfl
theorem dksX4_note_3 : cX4_note.data.toList.drop 70 = dktX4_note_3 := dk_seg dksX4_note_2 24 rfl rfl
theorem dX4_note_0 : decode cX4_note 0 = .ok (.aload_n 0, 1) := dk_42 (dk_at dksX4_note_0 0 rfl rfl)
theorem dX4_note_1 : decode cX4_note 1 = .ok (.getfield 181, 3) := dk_180 0 181 (dk_at dksX4_note_0 1 rfl rfl)
theorem dX4_note_4 : decode cX4_note 4 = .ok (.bipush 12, 2) := dk_16 12 (dk_at dksX4_note_0 4 rfl rfl)
theorem dX4_note_6 : decode cX4_note 6 = .ok (.if_icmp .ne 43, 3) := dk_160 0 43 (dk_at dksX4_note_0 6 rfl rfl)
theorem dX4_note_9 : decode cX4_note 9 = .ok (.iconst 0, 1) := dk_3 (dk_at dksX4_note_0 9 rfl rfl)
theorem dX4_note_10 : decode cX4_note 10 = .ok (.istore_n 1, 1) := dk_60 (dk_at dksX4_note_0 10 rfl rfl)
theorem dX4_note_11 : decode cX4_note 11 = .ok (.iload_n 1, 1) := dk_27 (dk_at dksX4_note_0 11 rfl rfl)
theorem dX4_note_12 : decode cX4_note 12 = .ok (.sipush 1188, 3) := dk_17 4 164 (dk_at dksX4_note_0 12 rfl rfl)
theorem dX4_note_15 : decode cX4_note 15 = .ok (.if_icmp .ge 24, 3) := dk_162 0 24 (dk_at dksX4_note_0 15 rfl rfl)
theorem dX4_note_18 : decode cX4_note 18 = .ok (.aload_n 0, 1) := dk_42 (dk_at dksX4_note_0 18 rfl rfl)
theorem dX4_note_19 : decode cX4_note 19 = .ok (.getfield 32, 3) := dk_180 0 32 (dk_at dksX4_note_0 19 rfl rfl)
theorem dX4_note_22 : decode cX4_note 22 = .ok (.iload_n 1, 1) := dk_27 (dk_at dksX4_note_0 22 rfl rfl)
theorem dX4_note_23 : decode cX4_note 23 = .ok (.aload_n 0, 1) := dk_42 (dk_at dksX4_note_0 23 rfl rfl)
theorem dX4_note_24 : decode cX4_note 24 = .ok (.getfield 32, 3) := dk_180 0 32 (dk_at dksX4_note_1 0 rfl rfl)
theorem dX4_note_27 : decode cX4_note 27 = .ok (.iload_n 1, 1) := dk_27 (dk_at dksX4_note_1 3 rfl rfl)
theorem dX4_note_28 : decode cX4_note 28 = .ok (.bipush 108, 2) := dk_16 108 (dk_at dksX4_note_1 4 rfl rfl)
theorem dX4_note_30 : decode cX4_note 30 = .ok (.iadd, 1) := dk_96 (dk_at dksX4_note_1 6 rfl rfl)
theorem dX4_note_31 : decode cX4_note 31 = .ok (.iaload, 1) := dk_46 (dk_at dksX4_note_1 7 rfl rfl)
theorem dX4_note_32 : decode cX4_note 32 = .ok (.iastore, 1) := dk_79 (dk_at dksX4_note_1 8 rfl rfl)
theorem dX4_note_33 : decode cX4_note 33 = .ok (.iinc 1 1, 3) := dk_132 1 1 (dk_at dksX4_note_1 9 rfl rfl)
theorem dX4_note_36 : decode cX4_note 36 = .ok (.goto (-25), 3) := dk_167 255 231 (dk_at dksX4_note_1 12 rfl rfl)
theorem dX4_note_39 : decode cX4_note 39 = .ok (.aload_n 0, 1) := dk_42 (dk_at dksX4_note_1 15 rfl rfl)
theorem dX4_note_40 : decode cX4_note 40 = .ok (.dup, 1) := dk_89 (dk_at dksX4_note_1 16 rfl rfl)
theorem dX4_note_41 : decode cX4_note 41 = .ok (.getfield 181, 3) := dk_180 0 181 (dk_at dksX4_note_1 17 rfl rfl)
theorem dX4_note_44 : decode cX4_note 44 = .ok (.iconst 1, 1) := dk_4 (dk_at dksX4_note_1 20 rfl rfl)
theorem dX4_note_45 : decode cX4_note 45 = .ok (.isub, 1) := dk_100 (dk_at dksX4_note_1 21 rfl rfl)
theorem dX4_note_46 : decode cX4_note 46 = .ok (.putfield 181, 3) := dk_181 0 181 (dk_at dksX4_note_2 0 rfl rfl)
theorem dX4_note_49 : decode cX4_note 49 = .ok (.aload_n 0, 1) := dk_42 (dk_at dksX4_note_2 3 rfl rfl)
theorem dX4_note_50 : decode cX4_note 50 = .ok (.getfield 26, 3) := dk_180 0 26 (dk_at dksX4_note_2 4 rfl rfl)
theorem dX4_note_53 : decode cX4_note 53 = .ok (.iconst 0, 1) := dk_3 (dk_at dksX4_note_2 7 rfl rfl)
theorem dX4_note_54 : decode cX4_note 54 = .ok (.aload_n 0, 1) := dk_42 (dk_at dksX4_note_2 8 rfl rfl)
theorem dX4_note_55 : decode cX4_note 55 = .ok (.getfield 32, 3) := dk_180 0 32 (dk_at dksX4_note_2 9 rfl rfl)
theorem dX4_note_58 : decode cX4_note 58 = .ok (.bipush 108, 2) := dk_16 108 (dk_at dksX4_note_2 12 rfl rfl)
theorem dX4_note_60 : decode cX4_note 60 = .ok (.aload_n 0, 1) := dk_42 (dk_at dksX4_note_2 14 rfl rfl)
theorem dX4_note_61 : decode cX4_note 61 = .ok (.getfield 181, 3) := dk_180 0 181 (dk_at dksX4_note_2 15 rfl rfl)
theorem dX4_note_64 : decode cX4_note 64 = .ok (.imul, 1) := dk_104 (dk_at dksX4_note_2 18 rfl rfl)
theorem dX4_note_65 : decode cX4_note 65 = .ok (.bipush 108, 2) := dk_16 108 (dk_at dksX4_note_2 19 rfl rfl)
theorem dX4_note_67 : decode cX4_note 67 = .ok (.invokestatic 174, 3) := dk_184 0 174 (dk_at dksX4_note_2 21 rfl rfl)
theorem dX4_note_70 : decode cX4_note 70 = .ok (.aload_n 0, 1) := dk_42 (dk_at dksX4_note_3 0 rfl rfl)
theorem dX4_note_71 : decode cX4_note 71 = .ok (.dup, 1) := dk_89 (dk_at dksX4_note_3 1 rfl rfl)
theorem dX4_note_72 : decode cX4_note 72 = .ok (.getfield 181, 3) := dk_180 0 181 (dk_at dksX4_note_3 2 rfl rfl)
theorem dX4_note_75 : decode cX4_note 75 = .ok (.iconst 1, 1) := dk_4 (dk_at dksX4_note_3 5 rfl rfl)
theorem dX4_note_76 : decode cX4_note 76 = .ok (.iadd, 1) := dk_96 (dk_at dksX4_note_3 6 rfl rfl)
theorem dX4_note_77 : decode cX4_note 77 = .ok (.putfield 181, 3) := dk_181 0 181 (dk_at dksX4_note_3 7 rfl rfl)
theorem dX4_note_80 : decode cX4_note 80 = .ok (.return_, 1) := dk_177 (dk_at dksX4_note_3 10 rfl rfl)
abbrev cX4_moves : ByteArray := prog_24_method_119_code
def yX4_moves : MethodName := ⟨RX4, "moves", "(II)Z"⟩
def dkwX4_moves_3 : List UInt8 := [96, 4, 96, 28, 79, 4, 172]
abbrev dktX4_moves_3 : List UInt8 := dkwX4_moves_3 ++ []
def dkwX4_moves_2 : List UInt8 := [28, 160, 0, 9, 42, 8, 182, 1, 174, 172, 42, 182, 1, 171, 42, 180, 0, 26, 16, 12, 16, 8, 27, 104]
abbrev dktX4_moves_2 : List UInt8 := dkwX4_moves_2 ++ dktX4_moves_3
def dkwX4_moves_1 : List UInt8 := [182, 1, 174, 172, 42, 180, 0, 26, 27, 184, 1, 45, 153, 0, 16, 42, 180, 0, 26, 27, 4, 184, 1, 31]
abbrev dktX4_moves_1 : List UInt8 := dkwX4_moves_1 ++ dktX4_moves_2
def dkwX4_moves_0 : List UInt8 := [42, 182, 0, 165, 42, 27, 182, 1, 90, 153, 0, 11, 42, 28, 182, 1, 96, 154, 0, 9, 42, 4]
abbrev dktX4_moves_0 : List UInt8 := dkwX4_moves_0 ++ dktX4_moves_1
theorem dksX4_moves_0 : cX4_moves.data.toList.drop 0 = dktX4_moves_0 := by decide +kernel
theorem dksX4_moves_1 : cX4_moves.data.toList.drop 22 = dktX4_moves_1 := dk_seg dksX4_moves_0 22 rfl rfl
theorem dksX4_moves_2 : cX4_moves.data.toList.drop 46 = dktX4_moves_2 := dk_seg dksX4_moves_1 24 rfl rfl
theorem dksX4_moves_3 : cX4_moves.data.toList.drop 70 = dktX4_moves_3 := dk_seg dksX4_moves_2 24 rfl rfl
theorem dX4_moves_0 : decode cX4_moves 0 = .ok (.aload_n 0, 1) := dk_42 (dk_at dksX4_moves_0 0 rfl rfl)
theorem dX4_moves_1 : decode cX4_moves 1 = .ok (.invokevirtual 165, 3) := dk_182 0 165 (dk_at dksX4_moves_0 1 rfl rfl)
theorem dX4_moves_4 : decode cX4_moves 4 = .ok (.aload_n 0, 1) := dk_42 (dk_at dksX4_moves_0 4 rfl rfl)
theorem dX4_moves_5 : decode cX4_moves 5 = .ok (.iload_n 1, 1) := dk_27 (dk_at dksX4_moves_0 5 rfl rfl)
theorem dX4_moves_6 : decode cX4_moves 6 = .ok (.invokevirtual 346, 3) := dk_182 1 90 (dk_at dksX4_moves_0 6 rfl rfl)
theorem dX4_moves_9 : decode cX4_moves 9 = .ok (.ifCond .eq 11, 3) := dk_153 0 11 (dk_at dksX4_moves_0 9 rfl rfl)
theorem dX4_moves_12 : decode cX4_moves 12 = .ok (.aload_n 0, 1) := dk_42 (dk_at dksX4_moves_0 12 rfl rfl)
theorem dX4_moves_13 : decode cX4_moves 13 = .ok (.iload_n 2, 1) := dk_28 (dk_at dksX4_moves_0 13 rfl rfl)
theorem dX4_moves_14 : decode cX4_moves 14 = .ok (.invokevirtual 352, 3) := dk_182 1 96 (dk_at dksX4_moves_0 14 rfl rfl)
theorem dX4_moves_17 : decode cX4_moves 17 = .ok (.ifCond .ne 9, 3) := dk_154 0 9 (dk_at dksX4_moves_0 17 rfl rfl)
theorem dX4_moves_20 : decode cX4_moves 20 = .ok (.aload_n 0, 1) := dk_42 (dk_at dksX4_moves_0 20 rfl rfl)
theorem dX4_moves_21 : decode cX4_moves 21 = .ok (.iconst 1, 1) := dk_4 (dk_at dksX4_moves_0 21 rfl rfl)
theorem dX4_moves_22 : decode cX4_moves 22 = .ok (.invokevirtual 430, 3) := dk_182 1 174 (dk_at dksX4_moves_1 0 rfl rfl)
theorem dX4_moves_25 : decode cX4_moves 25 = .ok (.ireturn, 1) := dk_172 (dk_at dksX4_moves_1 3 rfl rfl)
theorem dX4_moves_26 : decode cX4_moves 26 = .ok (.aload_n 0, 1) := dk_42 (dk_at dksX4_moves_1 4 rfl rfl)
theorem dX4_moves_27 : decode cX4_moves 27 = .ok (.getfield 26, 3) := dk_180 0 26 (dk_at dksX4_moves_1 5 rfl rfl)
theorem dX4_moves_30 : decode cX4_moves 30 = .ok (.iload_n 1, 1) := dk_27 (dk_at dksX4_moves_1 8 rfl rfl)
theorem dX4_moves_31 : decode cX4_moves 31 = .ok (.invokestatic 301, 3) := dk_184 1 45 (dk_at dksX4_moves_1 9 rfl rfl)
theorem dX4_moves_34 : decode cX4_moves 34 = .ok (.ifCond .eq 16, 3) := dk_153 0 16 (dk_at dksX4_moves_1 12 rfl rfl)
theorem dX4_moves_37 : decode cX4_moves 37 = .ok (.aload_n 0, 1) := dk_42 (dk_at dksX4_moves_1 15 rfl rfl)
theorem dX4_moves_38 : decode cX4_moves 38 = .ok (.getfield 26, 3) := dk_180 0 26 (dk_at dksX4_moves_1 16 rfl rfl)
theorem dX4_moves_41 : decode cX4_moves 41 = .ok (.iload_n 1, 1) := dk_27 (dk_at dksX4_moves_1 19 rfl rfl)
theorem dX4_moves_42 : decode cX4_moves 42 = .ok (.iconst 1, 1) := dk_4 (dk_at dksX4_moves_1 20 rfl rfl)
theorem dX4_moves_43 : decode cX4_moves 43 = .ok (.invokestatic 287, 3) := dk_184 1 31 (dk_at dksX4_moves_1 21 rfl rfl)
theorem dX4_moves_46 : decode cX4_moves 46 = .ok (.iload_n 2, 1) := dk_28 (dk_at dksX4_moves_2 0 rfl rfl)
theorem dX4_moves_47 : decode cX4_moves 47 = .ok (.if_icmp .ne 9, 3) := dk_160 0 9 (dk_at dksX4_moves_2 1 rfl rfl)
theorem dX4_moves_50 : decode cX4_moves 50 = .ok (.aload_n 0, 1) := dk_42 (dk_at dksX4_moves_2 4 rfl rfl)
theorem dX4_moves_51 : decode cX4_moves 51 = .ok (.iconst 5, 1) := dk_8 (dk_at dksX4_moves_2 5 rfl rfl)
theorem dX4_moves_52 : decode cX4_moves 52 = .ok (.invokevirtual 430, 3) := dk_182 1 174 (dk_at dksX4_moves_2 6 rfl rfl)
theorem dX4_moves_55 : decode cX4_moves 55 = .ok (.ireturn, 1) := dk_172 (dk_at dksX4_moves_2 9 rfl rfl)
theorem dX4_moves_56 : decode cX4_moves 56 = .ok (.aload_n 0, 1) := dk_42 (dk_at dksX4_moves_2 10 rfl rfl)
theorem dX4_moves_57 : decode cX4_moves 57 = .ok (.invokevirtual 427, 3) := dk_182 1 171 (dk_at dksX4_moves_2 11 rfl rfl)
theorem dX4_moves_60 : decode cX4_moves 60 = .ok (.aload_n 0, 1) := dk_42 (dk_at dksX4_moves_2 14 rfl rfl)
theorem dX4_moves_61 : decode cX4_moves 61 = .ok (.getfield 26, 3) := dk_180 0 26 (dk_at dksX4_moves_2 15 rfl rfl)
theorem dX4_moves_64 : decode cX4_moves 64 = .ok (.bipush 12, 2) := dk_16 12 (dk_at dksX4_moves_2 18 rfl rfl)
theorem dX4_moves_66 : decode cX4_moves 66 = .ok (.bipush 8, 2) := dk_16 8 (dk_at dksX4_moves_2 20 rfl rfl)
theorem dX4_moves_68 : decode cX4_moves 68 = .ok (.iload_n 1, 1) := dk_27 (dk_at dksX4_moves_2 22 rfl rfl)
theorem dX4_moves_69 : decode cX4_moves 69 = .ok (.imul, 1) := dk_104 (dk_at dksX4_moves_2 23 rfl rfl)
theorem dX4_moves_70 : decode cX4_moves 70 = .ok (.iadd, 1) := dk_96 (dk_at dksX4_moves_3 0 rfl rfl)
theorem dX4_moves_71 : decode cX4_moves 71 = .ok (.iconst 1, 1) := dk_4 (dk_at dksX4_moves_3 1 rfl rfl)
theorem dX4_moves_72 : decode cX4_moves 72 = .ok (.iadd, 1) := dk_96 (dk_at dksX4_moves_3 2 rfl rfl)
theorem dX4_moves_73 : decode cX4_moves 73 = .ok (.iload_n 2, 1) := dk_28 (dk_at dksX4_moves_3 3 rfl rfl)
theorem dX4_moves_74 : decode cX4_moves 74 = .ok (.iastore, 1) := dk_79 (dk_at dksX4_moves_3 4 rfl rfl)
theorem dX4_moves_75 : decode cX4_moves 75 = .ok (.iconst 1, 1) := dk_4 (dk_at dksX4_moves_3 5 rfl rfl)
theorem dX4_moves_76 : decode cX4_moves 76 = .ok (.ireturn, 1) := dk_172 (dk_at dksX4_moves_3 6 rfl rfl)
abbrev cX4_isNot : ByteArray := prog_24_method_6_code
def yX4_isNot : MethodName := ⟨RX4, "isNot", "(I)Z"⟩
def dkwX4_isNot_0 : List UInt8 := [42, 27, 181, 0, 63, 3, 172]
abbrev dktX4_isNot_0 : List UInt8 := dkwX4_isNot_0 ++ []
theorem dksX4_isNot_0 : cX4_isNot.data.toList.drop 0 = dktX4_isNot_0 := by decide +kernel
theorem dX4_isNot_0 : decode cX4_isNot 0 = .ok (.aload_n 0, 1) := dk_42 (dk_at dksX4_isNot_0 0 rfl rfl)
theorem dX4_isNot_1 : decode cX4_isNot 1 = .ok (.iload_n 1, 1) := dk_27 (dk_at dksX4_isNot_0 1 rfl rfl)
theorem dX4_isNot_2 : decode cX4_isNot 2 = .ok (.putfield 63, 3) := dk_181 0 63 (dk_at dksX4_isNot_0 2 rfl rfl)
theorem dX4_isNot_5 : decode cX4_isNot 5 = .ok (.iconst 0, 1) := dk_3 (dk_at dksX4_isNot_0 5 rfl rfl)
theorem dX4_isNot_6 : decode cX4_isNot 6 = .ok (.ireturn, 1) := dk_172 (dk_at dksX4_isNot_0 6 rfl rfl)
abbrev cX4_lets : ByteArray := prog_24_method_120_code
def yX4_lets : MethodName := ⟨RX4, "lets", "(II)Z"⟩
def dkwX4_lets_3 : List UInt8 := [184, 1, 31, 4, 96, 79, 4, 172]
abbrev dktX4_lets_3 : List UInt8 := dkwX4_lets_3 ++ []
def dkwX4_lets_2 : List UInt8 := [42, 182, 1, 171, 42, 180, 0, 26, 16, 12, 16, 8, 27, 104, 96, 6, 96, 42, 180, 0, 26, 28, 6]
abbrev dktX4_lets_2 : List UInt8 := dkwX4_lets_2 ++ dktX4_lets_3
def dkwX4_lets_1 : List UInt8 := [160, 0, 9, 42, 4, 182, 1, 174, 172, 42, 27, 28, 182, 1, 140, 153, 0, 9, 42, 8, 182, 1, 174, 172]
abbrev dktX4_lets_1 : List UInt8 := dkwX4_lets_1 ++ dktX4_lets_2
def dkwX4_lets_0 : List UInt8 := [42, 182, 0, 165, 42, 27, 182, 1, 90, 153, 0, 16, 42, 28, 182, 1, 90, 153, 0, 8, 27, 28]
abbrev dktX4_lets_0 : List UInt8 := dkwX4_lets_0 ++ dktX4_lets_1
theorem dksX4_lets_0 : cX4_lets.data.toList.drop 0 = dktX4_lets_0 := by decide +kernel
theorem dksX4_lets_1 : cX4_lets.data.toList.drop 22 = dktX4_lets_1 := dk_seg dksX4_lets_0 22 rfl rfl
theorem dksX4_lets_2 : cX4_lets.data.toList.drop 46 = dktX4_lets_2 := dk_seg dksX4_lets_1 24 rfl rfl
theorem dksX4_lets_3 : cX4_lets.data.toList.drop 69 = dktX4_lets_3 := dk_seg dksX4_lets_2 23 rfl rfl
theorem dX4_lets_0 : decode cX4_lets 0 = .ok (.aload_n 0, 1) := dk_42 (dk_at dksX4_lets_0 0 rfl rfl)
theorem dX4_lets_1 : decode cX4_lets 1 = .ok (.invokevirtual 165, 3) := dk_182 0 165 (dk_at dksX4_lets_0 1 rfl rfl)
theorem dX4_lets_4 : decode cX4_lets 4 = .ok (.aload_n 0, 1) := dk_42 (dk_at dksX4_lets_0 4 rfl rfl)
theorem dX4_lets_5 : decode cX4_lets 5 = .ok (.iload_n 1, 1) := dk_27 (dk_at dksX4_lets_0 5 rfl rfl)
theorem dX4_lets_6 : decode cX4_lets 6 = .ok (.invokevirtual 346, 3) := dk_182 1 90 (dk_at dksX4_lets_0 6 rfl rfl)
theorem dX4_lets_9 : decode cX4_lets 9 = .ok (.ifCond .eq 16, 3) := dk_153 0 16 (dk_at dksX4_lets_0 9 rfl rfl)
theorem dX4_lets_12 : decode cX4_lets 12 = .ok (.aload_n 0, 1) := dk_42 (dk_at dksX4_lets_0 12 rfl rfl)
theorem dX4_lets_13 : decode cX4_lets 13 = .ok (.iload_n 2, 1) := dk_28 (dk_at dksX4_lets_0 13 rfl rfl)
theorem dX4_lets_14 : decode cX4_lets 14 = .ok (.invokevirtual 346, 3) := dk_182 1 90 (dk_at dksX4_lets_0 14 rfl rfl)
theorem dX4_lets_17 : decode cX4_lets 17 = .ok (.ifCond .eq 8, 3) := dk_153 0 8 (dk_at dksX4_lets_0 17 rfl rfl)
theorem dX4_lets_20 : decode cX4_lets 20 = .ok (.iload_n 1, 1) := dk_27 (dk_at dksX4_lets_0 20 rfl rfl)
theorem dX4_lets_21 : decode cX4_lets 21 = .ok (.iload_n 2, 1) := dk_28 (dk_at dksX4_lets_0 21 rfl rfl)
theorem dX4_lets_22 : decode cX4_lets 22 = .ok (.if_icmp .ne 9, 3) := dk_160 0 9 (dk_at dksX4_lets_1 0 rfl rfl)
theorem dX4_lets_25 : decode cX4_lets 25 = .ok (.aload_n 0, 1) := dk_42 (dk_at dksX4_lets_1 3 rfl rfl)
theorem dX4_lets_26 : decode cX4_lets 26 = .ok (.iconst 1, 1) := dk_4 (dk_at dksX4_lets_1 4 rfl rfl)
theorem dX4_lets_27 : decode cX4_lets 27 = .ok (.invokevirtual 430, 3) := dk_182 1 174 (dk_at dksX4_lets_1 5 rfl rfl)
theorem dX4_lets_30 : decode cX4_lets 30 = .ok (.ireturn, 1) := dk_172 (dk_at dksX4_lets_1 8 rfl rfl)
theorem dX4_lets_31 : decode cX4_lets 31 = .ok (.aload_n 0, 1) := dk_42 (dk_at dksX4_lets_1 9 rfl rfl)
theorem dX4_lets_32 : decode cX4_lets 32 = .ok (.iload_n 1, 1) := dk_27 (dk_at dksX4_lets_1 10 rfl rfl)
theorem dX4_lets_33 : decode cX4_lets 33 = .ok (.iload_n 2, 1) := dk_28 (dk_at dksX4_lets_1 11 rfl rfl)
theorem dX4_lets_34 : decode cX4_lets 34 = .ok (.invokevirtual 396, 3) := dk_182 1 140 (dk_at dksX4_lets_1 12 rfl rfl)
theorem dX4_lets_37 : decode cX4_lets 37 = .ok (.ifCond .eq 9, 3) := dk_153 0 9 (dk_at dksX4_lets_1 15 rfl rfl)
theorem dX4_lets_40 : decode cX4_lets 40 = .ok (.aload_n 0, 1) := dk_42 (dk_at dksX4_lets_1 18 rfl rfl)
theorem dX4_lets_41 : decode cX4_lets 41 = .ok (.iconst 5, 1) := dk_8 (dk_at dksX4_lets_1 19 rfl rfl)
theorem dX4_lets_42 : decode cX4_lets 42 = .ok (.invokevirtual 430, 3) := dk_182 1 174 (dk_at dksX4_lets_1 20 rfl rfl)
theorem dX4_lets_45 : decode cX4_lets 45 = .ok (.ireturn, 1) := dk_172 (dk_at dksX4_lets_1 23 rfl rfl)
theorem dX4_lets_46 : decode cX4_lets 46 = .ok (.aload_n 0, 1) := dk_42 (dk_at dksX4_lets_2 0 rfl rfl)
theorem dX4_lets_47 : decode cX4_lets 47 = .ok (.invokevirtual 427, 3) := dk_182 1 171 (dk_at dksX4_lets_2 1 rfl rfl)
theorem dX4_lets_50 : decode cX4_lets 50 = .ok (.aload_n 0, 1) := dk_42 (dk_at dksX4_lets_2 4 rfl rfl)
theorem dX4_lets_51 : decode cX4_lets 51 = .ok (.getfield 26, 3) := dk_180 0 26 (dk_at dksX4_lets_2 5 rfl rfl)
theorem dX4_lets_54 : decode cX4_lets 54 = .ok (.bipush 12, 2) := dk_16 12 (dk_at dksX4_lets_2 8 rfl rfl)
theorem dX4_lets_56 : decode cX4_lets 56 = .ok (.bipush 8, 2) := dk_16 8 (dk_at dksX4_lets_2 10 rfl rfl)
theorem dX4_lets_58 : decode cX4_lets 58 = .ok (.iload_n 1, 1) := dk_27 (dk_at dksX4_lets_2 12 rfl rfl)
theorem dX4_lets_59 : decode cX4_lets 59 = .ok (.imul, 1) := dk_104 (dk_at dksX4_lets_2 13 rfl rfl)
theorem dX4_lets_60 : decode cX4_lets 60 = .ok (.iadd, 1) := dk_96 (dk_at dksX4_lets_2 14 rfl rfl)
theorem dX4_lets_61 : decode cX4_lets 61 = .ok (.iconst 3, 1) := dk_6 (dk_at dksX4_lets_2 15 rfl rfl)
theorem dX4_lets_62 : decode cX4_lets 62 = .ok (.iadd, 1) := dk_96 (dk_at dksX4_lets_2 16 rfl rfl)
theorem dX4_lets_63 : decode cX4_lets 63 = .ok (.aload_n 0, 1) := dk_42 (dk_at dksX4_lets_2 17 rfl rfl)
theorem dX4_lets_64 : decode cX4_lets 64 = .ok (.getfield 26, 3) := dk_180 0 26 (dk_at dksX4_lets_2 18 rfl rfl)
theorem dX4_lets_67 : decode cX4_lets 67 = .ok (.iload_n 2, 1) := dk_28 (dk_at dksX4_lets_2 21 rfl rfl)
theorem dX4_lets_68 : decode cX4_lets 68 = .ok (.iconst 3, 1) := dk_6 (dk_at dksX4_lets_2 22 rfl rfl)
theorem dX4_lets_69 : decode cX4_lets 69 = .ok (.invokestatic 287, 3) := dk_184 1 31 (dk_at dksX4_lets_3 0 rfl rfl)
theorem dX4_lets_72 : decode cX4_lets 72 = .ok (.iconst 1, 1) := dk_4 (dk_at dksX4_lets_3 3 rfl rfl)
theorem dX4_lets_73 : decode cX4_lets 73 = .ok (.iadd, 1) := dk_96 (dk_at dksX4_lets_3 4 rfl rfl)
theorem dX4_lets_74 : decode cX4_lets 74 = .ok (.iastore, 1) := dk_79 (dk_at dksX4_lets_3 5 rfl rfl)
theorem dX4_lets_75 : decode cX4_lets 75 = .ok (.iconst 1, 1) := dk_4 (dk_at dksX4_lets_3 6 rfl rfl)
theorem dX4_lets_76 : decode cX4_lets 76 = .ok (.ireturn, 1) := dk_172 (dk_at dksX4_lets_3 7 rfl rfl)
abbrev cX4_calls : ByteArray := prog_24_method_121_code
def yX4_calls : MethodName := ⟨RX4, "calls", "(I)I"⟩
def dkwX4_calls_3 : List UInt8 := [167, 0, 11, 42, 180, 0, 26, 28, 46, 8, 96, 79, 42, 180, 0, 26, 28, 46, 172]
abbrev dktX4_calls_3 : List UInt8 := dkwX4_calls_3 ++ []
def dkwX4_calls_2 : List UInt8 := [96, 61, 42, 180, 0, 26, 28, 42, 180, 0, 26, 28, 46, 8, 96, 16, 99, 164, 0, 8, 16, 99]
abbrev dktX4_calls_2 : List UInt8 := dkwX4_calls_2 ++ dktX4_calls_3
def dkwX4_calls_1 : List UInt8 := [184, 1, 45, 154, 0, 9, 42, 8, 182, 0, 168, 172, 42, 182, 1, 171, 16, 12, 16, 8, 27, 104, 96, 5]
abbrev dktX4_calls_1 : List UInt8 := dkwX4_calls_1 ++ dktX4_calls_2
def dkwX4_calls_0 : List UInt8 := [42, 182, 0, 165, 42, 27, 182, 1, 90, 154, 0, 9, 42, 4, 182, 0, 168, 172, 42, 180, 0, 26, 27]
abbrev dktX4_calls_0 : List UInt8 := dkwX4_calls_0 ++ dktX4_calls_1
theorem dksX4_calls_0 : cX4_calls.data.toList.drop 0 = dktX4_calls_0 := by decide +kernel
theorem dksX4_calls_1 : cX4_calls.data.toList.drop 23 = dktX4_calls_1 := dk_seg dksX4_calls_0 23 rfl rfl
theorem dksX4_calls_2 : cX4_calls.data.toList.drop 47 = dktX4_calls_2 := dk_seg dksX4_calls_1 24 rfl rfl
theorem dksX4_calls_3 : cX4_calls.data.toList.drop 69 = dktX4_calls_3 := dk_seg dksX4_calls_2 22 rfl rfl
theorem dX4_calls_0 : decode cX4_calls 0 = .ok (.aload_n 0, 1) := dk_42 (dk_at dksX4_calls_0 0 rfl rfl)
theorem dX4_calls_1 : decode cX4_calls 1 = .ok (.invokevirtual 165, 3) := dk_182 0 165 (dk_at dksX4_calls_0 1 rfl rfl)
theorem dX4_calls_4 : decode cX4_calls 4 = .ok (.aload_n 0, 1) := dk_42 (dk_at dksX4_calls_0 4 rfl rfl)
theorem dX4_calls_5 : decode cX4_calls 5 = .ok (.iload_n 1, 1) := dk_27 (dk_at dksX4_calls_0 5 rfl rfl)
theorem dX4_calls_6 : decode cX4_calls 6 = .ok (.invokevirtual 346, 3) := dk_182 1 90 (dk_at dksX4_calls_0 6 rfl rfl)
theorem dX4_calls_9 : decode cX4_calls 9 = .ok (.ifCond .ne 9, 3) := dk_154 0 9 (dk_at dksX4_calls_0 9 rfl rfl)
theorem dX4_calls_12 : decode cX4_calls 12 = .ok (.aload_n 0, 1) := dk_42 (dk_at dksX4_calls_0 12 rfl rfl)
theorem dX4_calls_13 : decode cX4_calls 13 = .ok (.iconst 1, 1) := dk_4 (dk_at dksX4_calls_0 13 rfl rfl)
theorem dX4_calls_14 : decode cX4_calls 14 = .ok (.invokevirtual 168, 3) := dk_182 0 168 (dk_at dksX4_calls_0 14 rfl rfl)
theorem dX4_calls_17 : decode cX4_calls 17 = .ok (.ireturn, 1) := dk_172 (dk_at dksX4_calls_0 17 rfl rfl)
theorem dX4_calls_18 : decode cX4_calls 18 = .ok (.aload_n 0, 1) := dk_42 (dk_at dksX4_calls_0 18 rfl rfl)
theorem dX4_calls_19 : decode cX4_calls 19 = .ok (.getfield 26, 3) := dk_180 0 26 (dk_at dksX4_calls_0 19 rfl rfl)
theorem dX4_calls_22 : decode cX4_calls 22 = .ok (.iload_n 1, 1) := dk_27 (dk_at dksX4_calls_0 22 rfl rfl)
theorem dX4_calls_23 : decode cX4_calls 23 = .ok (.invokestatic 301, 3) := dk_184 1 45 (dk_at dksX4_calls_1 0 rfl rfl)
theorem dX4_calls_26 : decode cX4_calls 26 = .ok (.ifCond .ne 9, 3) := dk_154 0 9 (dk_at dksX4_calls_1 3 rfl rfl)
theorem dX4_calls_29 : decode cX4_calls 29 = .ok (.aload_n 0, 1) := dk_42 (dk_at dksX4_calls_1 6 rfl rfl)
theorem dX4_calls_30 : decode cX4_calls 30 = .ok (.iconst 5, 1) := dk_8 (dk_at dksX4_calls_1 7 rfl rfl)
theorem dX4_calls_31 : decode cX4_calls 31 = .ok (.invokevirtual 168, 3) := dk_182 0 168 (dk_at dksX4_calls_1 8 rfl rfl)
theorem dX4_calls_34 : decode cX4_calls 34 = .ok (.ireturn, 1) := dk_172 (dk_at dksX4_calls_1 11 rfl rfl)
theorem dX4_calls_35 : decode cX4_calls 35 = .ok (.aload_n 0, 1) := dk_42 (dk_at dksX4_calls_1 12 rfl rfl)
theorem dX4_calls_36 : decode cX4_calls 36 = .ok (.invokevirtual 427, 3) := dk_182 1 171 (dk_at dksX4_calls_1 13 rfl rfl)
theorem dX4_calls_39 : decode cX4_calls 39 = .ok (.bipush 12, 2) := dk_16 12 (dk_at dksX4_calls_1 16 rfl rfl)
theorem dX4_calls_41 : decode cX4_calls 41 = .ok (.bipush 8, 2) := dk_16 8 (dk_at dksX4_calls_1 18 rfl rfl)
theorem dX4_calls_43 : decode cX4_calls 43 = .ok (.iload_n 1, 1) := dk_27 (dk_at dksX4_calls_1 20 rfl rfl)
theorem dX4_calls_44 : decode cX4_calls 44 = .ok (.imul, 1) := dk_104 (dk_at dksX4_calls_1 21 rfl rfl)
theorem dX4_calls_45 : decode cX4_calls 45 = .ok (.iadd, 1) := dk_96 (dk_at dksX4_calls_1 22 rfl rfl)
theorem dX4_calls_46 : decode cX4_calls 46 = .ok (.iconst 2, 1) := dk_5 (dk_at dksX4_calls_1 23 rfl rfl)
theorem dX4_calls_47 : decode cX4_calls 47 = .ok (.iadd, 1) := dk_96 (dk_at dksX4_calls_2 0 rfl rfl)
theorem dX4_calls_48 : decode cX4_calls 48 = .ok (.istore_n 2, 1) := dk_61 (dk_at dksX4_calls_2 1 rfl rfl)
theorem dX4_calls_49 : decode cX4_calls 49 = .ok (.aload_n 0, 1) := dk_42 (dk_at dksX4_calls_2 2 rfl rfl)
theorem dX4_calls_50 : decode cX4_calls 50 = .ok (.getfield 26, 3) := dk_180 0 26 (dk_at dksX4_calls_2 3 rfl rfl)
theorem dX4_calls_53 : decode cX4_calls 53 = .ok (.iload_n 2, 1) := dk_28 (dk_at dksX4_calls_2 6 rfl rfl)
theorem dX4_calls_54 : decode cX4_calls 54 = .ok (.aload_n 0, 1) := dk_42 (dk_at dksX4_calls_2 7 rfl rfl)
theorem dX4_calls_55 : decode cX4_calls 55 = .ok (.getfield 26, 3) := dk_180 0 26 (dk_at dksX4_calls_2 8 rfl rfl)
theorem dX4_calls_58 : decode cX4_calls 58 = .ok (.iload_n 2, 1) := dk_28 (dk_at dksX4_calls_2 11 rfl rfl)
theorem dX4_calls_59 : decode cX4_calls 59 = .ok (.iaload, 1) := dk_46 (dk_at dksX4_calls_2 12 rfl rfl)
theorem dX4_calls_60 : decode cX4_calls 60 = .ok (.iconst 5, 1) := dk_8 (dk_at dksX4_calls_2 13 rfl rfl)
theorem dX4_calls_61 : decode cX4_calls 61 = .ok (.iadd, 1) := dk_96 (dk_at dksX4_calls_2 14 rfl rfl)
theorem dX4_calls_62 : decode cX4_calls 62 = .ok (.bipush 99, 2) := dk_16 99 (dk_at dksX4_calls_2 15 rfl rfl)
theorem dX4_calls_64 : decode cX4_calls 64 = .ok (.if_icmp .le 8, 3) := dk_164 0 8 (dk_at dksX4_calls_2 17 rfl rfl)
theorem dX4_calls_67 : decode cX4_calls 67 = .ok (.bipush 99, 2) := dk_16 99 (dk_at dksX4_calls_2 20 rfl rfl)
theorem dX4_calls_69 : decode cX4_calls 69 = .ok (.goto 11, 3) := dk_167 0 11 (dk_at dksX4_calls_3 0 rfl rfl)
theorem dX4_calls_72 : decode cX4_calls 72 = .ok (.aload_n 0, 1) := dk_42 (dk_at dksX4_calls_3 3 rfl rfl)
theorem dX4_calls_73 : decode cX4_calls 73 = .ok (.getfield 26, 3) := dk_180 0 26 (dk_at dksX4_calls_3 4 rfl rfl)
theorem dX4_calls_76 : decode cX4_calls 76 = .ok (.iload_n 2, 1) := dk_28 (dk_at dksX4_calls_3 7 rfl rfl)
theorem dX4_calls_77 : decode cX4_calls 77 = .ok (.iaload, 1) := dk_46 (dk_at dksX4_calls_3 8 rfl rfl)
theorem dX4_calls_78 : decode cX4_calls 78 = .ok (.iconst 5, 1) := dk_8 (dk_at dksX4_calls_3 9 rfl rfl)
theorem dX4_calls_79 : decode cX4_calls 79 = .ok (.iadd, 1) := dk_96 (dk_at dksX4_calls_3 10 rfl rfl)
theorem dX4_calls_80 : decode cX4_calls 80 = .ok (.iastore, 1) := dk_79 (dk_at dksX4_calls_3 11 rfl rfl)
theorem dX4_calls_81 : decode cX4_calls 81 = .ok (.aload_n 0, 1) := dk_42 (dk_at dksX4_calls_3 12 rfl rfl)
theorem dX4_calls_82 : decode cX4_calls 82 = .ok (.getfield 26, 3) := dk_180 0 26 (dk_at dksX4_calls_3 13 rfl rfl)
theorem dX4_calls_85 : decode cX4_calls 85 = .ok (.iload_n 2, 1) := dk_28 (dk_at dksX4_calls_3 16 rfl rfl)
theorem dX4_calls_86 : decode cX4_calls 86 = .ok (.iaload, 1) := dk_46 (dk_at dksX4_calls_3 17 rfl rfl)
theorem dX4_calls_87 : decode cX4_calls 87 = .ok (.ireturn, 1) := dk_172 (dk_at dksX4_calls_3 18 rfl rfl)
abbrev cX4_leaves : ByteArray := prog_24_method_122_code
def yX4_leaves : MethodName := ⟨RX4, "leaves", "(I)Z"⟩
def dkwX4_leaves_3 : List UInt8 := [180, 0, 26, 3, 46, 79, 4, 172]
abbrev dktX4_leaves_3 : List UInt8 := dkwX4_leaves_3 ++ []
def dkwX4_leaves_2 : List UInt8 := [27, 104, 96, 3, 96, 8, 79, 42, 180, 0, 26, 16, 12, 16, 8, 27, 104, 96, 16, 7, 96, 42]
abbrev dktX4_leaves_2 : List UInt8 := dkwX4_leaves_2 ++ dktX4_leaves_3
def dkwX4_leaves_1 : List UInt8 := [184, 1, 45, 154, 0, 9, 42, 8, 182, 1, 174, 172, 42, 182, 1, 171, 42, 180, 0, 26, 16, 12, 16, 8]
abbrev dktX4_leaves_1 : List UInt8 := dkwX4_leaves_1 ++ dktX4_leaves_2
def dkwX4_leaves_0 : List UInt8 := [42, 182, 0, 165, 42, 27, 182, 1, 90, 154, 0, 9, 42, 4, 182, 1, 174, 172, 42, 180, 0, 26, 27]
abbrev dktX4_leaves_0 : List UInt8 := dkwX4_leaves_0 ++ dktX4_leaves_1
theorem dksX4_leaves_0 : cX4_leaves.data.toList.drop 0 = dktX4_leaves_0 := by decide +kernel
theorem dksX4_leaves_1 : cX4_leaves.data.toList.drop 23 = dktX4_leaves_1 := dk_seg dksX4_leaves_0 23 rfl rfl
theorem dksX4_leaves_2 : cX4_leaves.data.toList.drop 47 = dktX4_leaves_2 := dk_seg dksX4_leaves_1 24 rfl rfl
theorem dksX4_leaves_3 : cX4_leaves.data.toList.drop 69 = dktX4_leaves_3 := dk_seg dksX4_leaves_2 22 rfl rfl
theorem dX4_leaves_0 : decode cX4_leaves 0 = .ok (.aload_n 0, 1) := dk_42 (dk_at dksX4_leaves_0 0 rfl rfl)
theorem dX4_leaves_1 : decode cX4_leaves 1 = .ok (.invokevirtual 165, 3) := dk_182 0 165 (dk_at dksX4_leaves_0 1 rfl rfl)
theorem dX4_leaves_4 : decode cX4_leaves 4 = .ok (.aload_n 0, 1) := dk_42 (dk_at dksX4_leaves_0 4 rfl rfl)
theorem dX4_leaves_5 : decode cX4_leaves 5 = .ok (.iload_n 1, 1) := dk_27 (dk_at dksX4_leaves_0 5 rfl rfl)
theorem dX4_leaves_6 : decode cX4_leaves 6 = .ok (.invokevirtual 346, 3) := dk_182 1 90 (dk_at dksX4_leaves_0 6 rfl rfl)
theorem dX4_leaves_9 : decode cX4_leaves 9 = .ok (.ifCond .ne 9, 3) := dk_154 0 9 (dk_at dksX4_leaves_0 9 rfl rfl)
theorem dX4_leaves_12 : decode cX4_leaves 12 = .ok (.aload_n 0, 1) := dk_42 (dk_at dksX4_leaves_0 12 rfl rfl)
theorem dX4_leaves_13 : decode cX4_leaves 13 = .ok (.iconst 1, 1) := dk_4 (dk_at dksX4_leaves_0 13 rfl rfl)
theorem dX4_leaves_14 : decode cX4_leaves 14 = .ok (.invokevirtual 430, 3) := dk_182 1 174 (dk_at dksX4_leaves_0 14 rfl rfl)
theorem dX4_leaves_17 : decode cX4_leaves 17 = .ok (.ireturn, 1) := dk_172 (dk_at dksX4_leaves_0 17 rfl rfl)
theorem dX4_leaves_18 : decode cX4_leaves 18 = .ok (.aload_n 0, 1) := dk_42 (dk_at dksX4_leaves_0 18 rfl rfl)
theorem dX4_leaves_19 : decode cX4_leaves 19 = .ok (.getfield 26, 3) := dk_180 0 26 (dk_at dksX4_leaves_0 19 rfl rfl)
theorem dX4_leaves_22 : decode cX4_leaves 22 = .ok (.iload_n 1, 1) := dk_27 (dk_at dksX4_leaves_0 22 rfl rfl)
theorem dX4_leaves_23 : decode cX4_leaves 23 = .ok (.invokestatic 301, 3) := dk_184 1 45 (dk_at dksX4_leaves_1 0 rfl rfl)
theorem dX4_leaves_26 : decode cX4_leaves 26 = .ok (.ifCond .ne 9, 3) := dk_154 0 9 (dk_at dksX4_leaves_1 3 rfl rfl)
theorem dX4_leaves_29 : decode cX4_leaves 29 = .ok (.aload_n 0, 1) := dk_42 (dk_at dksX4_leaves_1 6 rfl rfl)
theorem dX4_leaves_30 : decode cX4_leaves 30 = .ok (.iconst 5, 1) := dk_8 (dk_at dksX4_leaves_1 7 rfl rfl)
theorem dX4_leaves_31 : decode cX4_leaves 31 = .ok (.invokevirtual 430, 3) := dk_182 1 174 (dk_at dksX4_leaves_1 8 rfl rfl)
theorem dX4_leaves_34 : decode cX4_leaves 34 = .ok (.ireturn, 1) := dk_172 (dk_at dksX4_leaves_1 11 rfl rfl)
theorem dX4_leaves_35 : decode cX4_leaves 35 = .ok (.aload_n 0, 1) := dk_42 (dk_at dksX4_leaves_1 12 rfl rfl)
theorem dX4_leaves_36 : decode cX4_leaves 36 = .ok (.invokevirtual 427, 3) := dk_182 1 171 (dk_at dksX4_leaves_1 13 rfl rfl)
theorem dX4_leaves_39 : decode cX4_leaves 39 = .ok (.aload_n 0, 1) := dk_42 (dk_at dksX4_leaves_1 16 rfl rfl)
theorem dX4_leaves_40 : decode cX4_leaves 40 = .ok (.getfield 26, 3) := dk_180 0 26 (dk_at dksX4_leaves_1 17 rfl rfl)
theorem dX4_leaves_43 : decode cX4_leaves 43 = .ok (.bipush 12, 2) := dk_16 12 (dk_at dksX4_leaves_1 20 rfl rfl)
theorem dX4_leaves_45 : decode cX4_leaves 45 = .ok (.bipush 8, 2) := dk_16 8 (dk_at dksX4_leaves_1 22 rfl rfl)
theorem dX4_leaves_47 : decode cX4_leaves 47 = .ok (.iload_n 1, 1) := dk_27 (dk_at dksX4_leaves_2 0 rfl rfl)
theorem dX4_leaves_48 : decode cX4_leaves 48 = .ok (.imul, 1) := dk_104 (dk_at dksX4_leaves_2 1 rfl rfl)
theorem dX4_leaves_49 : decode cX4_leaves 49 = .ok (.iadd, 1) := dk_96 (dk_at dksX4_leaves_2 2 rfl rfl)
theorem dX4_leaves_50 : decode cX4_leaves 50 = .ok (.iconst 0, 1) := dk_3 (dk_at dksX4_leaves_2 3 rfl rfl)
theorem dX4_leaves_51 : decode cX4_leaves 51 = .ok (.iadd, 1) := dk_96 (dk_at dksX4_leaves_2 4 rfl rfl)
theorem dX4_leaves_52 : decode cX4_leaves 52 = .ok (.iconst 5, 1) := dk_8 (dk_at dksX4_leaves_2 5 rfl rfl)
theorem dX4_leaves_53 : decode cX4_leaves 53 = .ok (.iastore, 1) := dk_79 (dk_at dksX4_leaves_2 6 rfl rfl)
theorem dX4_leaves_54 : decode cX4_leaves 54 = .ok (.aload_n 0, 1) := dk_42 (dk_at dksX4_leaves_2 7 rfl rfl)
theorem dX4_leaves_55 : decode cX4_leaves 55 = .ok (.getfield 26, 3) := dk_180 0 26 (dk_at dksX4_leaves_2 8 rfl rfl)
theorem dX4_leaves_58 : decode cX4_leaves 58 = .ok (.bipush 12, 2) := dk_16 12 (dk_at dksX4_leaves_2 11 rfl rfl)
theorem dX4_leaves_60 : decode cX4_leaves 60 = .ok (.bipush 8, 2) := dk_16 8 (dk_at dksX4_leaves_2 13 rfl rfl)
theorem dX4_leaves_62 : decode cX4_leaves 62 = .ok (.iload_n 1, 1) := dk_27 (dk_at dksX4_leaves_2 15 rfl rfl)
theorem dX4_leaves_63 : decode cX4_leaves 63 = .ok (.imul, 1) := dk_104 (dk_at dksX4_leaves_2 16 rfl rfl)
theorem dX4_leaves_64 : decode cX4_leaves 64 = .ok (.iadd, 1) := dk_96 (dk_at dksX4_leaves_2 17 rfl rfl)
theorem dX4_leaves_65 : decode cX4_leaves 65 = .ok (.bipush 7, 2) := dk_16 7 (dk_at dksX4_leaves_2 18 rfl rfl)
theorem dX4_leaves_67 : decode cX4_leaves 67 = .ok (.iadd, 1) := dk_96 (dk_at dksX4_leaves_2 20 rfl rfl)
theorem dX4_leaves_68 : decode cX4_leaves 68 = .ok (.aload_n 0, 1) := dk_42 (dk_at dksX4_leaves_2 21 rfl rfl)
theorem dX4_leaves_69 : decode cX4_leaves 69 = .ok (.getfield 26, 3) := dk_180 0 26 (dk_at dksX4_leaves_3 0 rfl rfl)
theorem dX4_leaves_72 : decode cX4_leaves 72 = .ok (.iconst 0, 1) := dk_3 (dk_at dksX4_leaves_3 3 rfl rfl)
theorem dX4_leaves_73 : decode cX4_leaves 73 = .ok (.iaload, 1) := dk_46 (dk_at dksX4_leaves_3 4 rfl rfl)
theorem dX4_leaves_74 : decode cX4_leaves 74 = .ok (.iastore, 1) := dk_79 (dk_at dksX4_leaves_3 5 rfl rfl)
theorem dX4_leaves_75 : decode cX4_leaves 75 = .ok (.iconst 1, 1) := dk_4 (dk_at dksX4_leaves_3 6 rfl rfl)
theorem dX4_leaves_76 : decode cX4_leaves 76 = .ok (.ireturn, 1) := dk_172 (dk_at dksX4_leaves_3 7 rfl rfl)
abbrev cX4_undo : ByteArray := prog_24_method_123_code
def yX4_undo : MethodName := ⟨RX4, "undo", "()Z"⟩
def dkwX4_undo_2 : List UInt8 := [184, 0, 174, 4, 172]
abbrev dktX4_undo_2 : List UInt8 := dkwX4_undo_2 ++ []
def dkwX4_undo_1 : List UInt8 := [100, 181, 0, 181, 42, 180, 0, 32, 16, 108, 42, 180, 0, 181, 104, 42, 180, 0, 26, 3, 16, 108]
abbrev dktX4_undo_1 : List UInt8 := dkwX4_undo_1 ++ dktX4_undo_2
def dkwX4_undo_0 : List UInt8 := [42, 182, 0, 165, 42, 180, 0, 181, 154, 0, 10, 42, 16, 6, 182, 1, 174, 172, 42, 89, 180, 0, 181, 4]
abbrev dktX4_undo_0 : List UInt8 := dkwX4_undo_0 ++ dktX4_undo_1
theorem dksX4_undo_0 : cX4_undo.data.toList.drop 0 = dktX4_undo_0 := by decide +kernel
theorem dksX4_undo_1 : cX4_undo.data.toList.drop 24 = dktX4_undo_1 := dk_seg dksX4_undo_0 24 rfl rfl
theorem dksX4_undo_2 : cX4_undo.data.toList.drop 46 = dktX4_undo_2 := dk_seg dksX4_undo_1 22 rfl rfl
theorem dX4_undo_0 : decode cX4_undo 0 = .ok (.aload_n 0, 1) := dk_42 (dk_at dksX4_undo_0 0 rfl rfl)
theorem dX4_undo_1 : decode cX4_undo 1 = .ok (.invokevirtual 165, 3) := dk_182 0 165 (dk_at dksX4_undo_0 1 rfl rfl)
theorem dX4_undo_4 : decode cX4_undo 4 = .ok (.aload_n 0, 1) := dk_42 (dk_at dksX4_undo_0 4 rfl rfl)
theorem dX4_undo_5 : decode cX4_undo 5 = .ok (.getfield 181, 3) := dk_180 0 181 (dk_at dksX4_undo_0 5 rfl rfl)
theorem dX4_undo_8 : decode cX4_undo 8 = .ok (.ifCond .ne 10, 3) := dk_154 0 10 (dk_at dksX4_undo_0 8 rfl rfl)
theorem dX4_undo_11 : decode cX4_undo 11 = .ok (.aload_n 0, 1) := dk_42 (dk_at dksX4_undo_0 11 rfl rfl)
theorem dX4_undo_12 : decode cX4_undo 12 = .ok (.bipush 6, 2) := dk_16 6 (dk_at dksX4_undo_0 12 rfl rfl)
theorem dX4_undo_14 : decode cX4_undo 14 = .ok (.invokevirtual 430, 3) := dk_182 1 174 (dk_at dksX4_undo_0 14 rfl rfl)
theorem dX4_undo_17 : decode cX4_undo 17 = .ok (.ireturn, 1) := dk_172 (dk_at dksX4_undo_0 17 rfl rfl)
theorem dX4_undo_18 : decode cX4_undo 18 = .ok (.aload_n 0, 1) := dk_42 (dk_at dksX4_undo_0 18 rfl rfl)
theorem dX4_undo_19 : decode cX4_undo 19 = .ok (.dup, 1) := dk_89 (dk_at dksX4_undo_0 19 rfl rfl)
theorem dX4_undo_20 : decode cX4_undo 20 = .ok (.getfield 181, 3) := dk_180 0 181 (dk_at dksX4_undo_0 20 rfl rfl)
theorem dX4_undo_23 : decode cX4_undo 23 = .ok (.iconst 1, 1) := dk_4 (dk_at dksX4_undo_0 23 rfl rfl)
theorem dX4_undo_24 : decode cX4_undo 24 = .ok (.isub, 1) := dk_100 (dk_at dksX4_undo_1 0 rfl rfl)
theorem dX4_undo_25 : decode cX4_undo 25 = .ok (.putfield 181, 3) := dk_181 0 181 (dk_at dksX4_undo_1 1 rfl rfl)
theorem dX4_undo_28 : decode cX4_undo 28 = .ok (.aload_n 0, 1) := dk_42 (dk_at dksX4_undo_1 4 rfl rfl)
theorem dX4_undo_29 : decode cX4_undo 29 = .ok (.getfield 32, 3) := dk_180 0 32 (dk_at dksX4_undo_1 5 rfl rfl)
theorem dX4_undo_32 : decode cX4_undo 32 = .ok (.bipush 108, 2) := dk_16 108 (dk_at dksX4_undo_1 8 rfl rfl)
theorem dX4_undo_34 : decode cX4_undo 34 = .ok (.aload_n 0, 1) := dk_42 (dk_at dksX4_undo_1 10 rfl rfl)
theorem dX4_undo_35 : decode cX4_undo 35 = .ok (.getfield 181, 3) := dk_180 0 181 (dk_at dksX4_undo_1 11 rfl rfl)
theorem dX4_undo_38 : decode cX4_undo 38 = .ok (.imul, 1) := dk_104 (dk_at dksX4_undo_1 14 rfl rfl)
theorem dX4_undo_39 : decode cX4_undo 39 = .ok (.aload_n 0, 1) := dk_42 (dk_at dksX4_undo_1 15 rfl rfl)
theorem dX4_undo_40 : decode cX4_undo 40 = .ok (.getfield 26, 3) := dk_180 0 26 (dk_at dksX4_undo_1 16 rfl rfl)
theorem dX4_undo_43 : decode cX4_undo 43 = .ok (.iconst 0, 1) := dk_3 (dk_at dksX4_undo_1 19 rfl rfl)
theorem dX4_undo_44 : decode cX4_undo 44 = .ok (.bipush 108, 2) := dk_16 108 (dk_at dksX4_undo_1 20 rfl rfl)
theorem dX4_undo_46 : decode cX4_undo 46 = .ok (.invokestatic 174, 3) := dk_184 0 174 (dk_at dksX4_undo_2 0 rfl rfl)
theorem dX4_undo_49 : decode cX4_undo 49 = .ok (.iconst 1, 1) := dk_4 (dk_at dksX4_undo_2 3 rfl rfl)
theorem dX4_undo_50 : decode cX4_undo 50 = .ok (.ireturn, 1) := dk_172 (dk_at dksX4_undo_2 4 rfl rfl)
abbrev cX4_image : ByteArray := prog_24_method_124_code
def yX4_image : MethodName := ⟨RX4, "image", "()I"⟩
def dkwX4_image_2 : List UInt8 := [104, 16, 108, 184, 0, 174, 42, 89, 180, 0, 184, 4, 96, 181, 0, 184, 42, 180, 0, 184, 4, 100, 172]
abbrev dktX4_image_2 : List UInt8 := dkwX4_image_2 ++ []
def dkwX4_image_1 : List UInt8 := [160, 0, 9, 42, 6, 182, 0, 168, 172, 42, 180, 0, 26, 3, 42, 180, 0, 35, 16, 108, 42, 180, 0, 184]
abbrev dktX4_image_1 : List UInt8 := dkwX4_image_1 ++ dktX4_image_2
def dkwX4_image_0 : List UInt8 := [42, 182, 0, 165, 42, 180, 0, 178, 154, 0, 9, 42, 4, 182, 0, 168, 172, 42, 180, 0, 184, 6]
abbrev dktX4_image_0 : List UInt8 := dkwX4_image_0 ++ dktX4_image_1
theorem dksX4_image_0 : cX4_image.data.toList.drop 0 = dktX4_image_0 := by decide +kernel
theorem dksX4_image_1 : cX4_image.data.toList.drop 22 = dktX4_image_1 := dk_seg dksX4_image_0 22 rfl rfl
theorem dksX4_image_2 : cX4_image.data.toList.drop 46 = dktX4_image_2 := dk_seg dksX4_image_1 24 rfl rfl
theorem dX4_image_0 : decode cX4_image 0 = .ok (.aload_n 0, 1) := dk_42 (dk_at dksX4_image_0 0 rfl rfl)
theorem dX4_image_1 : decode cX4_image 1 = .ok (.invokevirtual 165, 3) := dk_182 0 165 (dk_at dksX4_image_0 1 rfl rfl)
theorem dX4_image_4 : decode cX4_image 4 = .ok (.aload_n 0, 1) := dk_42 (dk_at dksX4_image_0 4 rfl rfl)
theorem dX4_image_5 : decode cX4_image 5 = .ok (.getfield 178, 3) := dk_180 0 178 (dk_at dksX4_image_0 5 rfl rfl)
theorem dX4_image_8 : decode cX4_image 8 = .ok (.ifCond .ne 9, 3) := dk_154 0 9 (dk_at dksX4_image_0 8 rfl rfl)
theorem dX4_image_11 : decode cX4_image 11 = .ok (.aload_n 0, 1) := dk_42 (dk_at dksX4_image_0 11 rfl rfl)
theorem dX4_image_12 : decode cX4_image 12 = .ok (.iconst 1, 1) := dk_4 (dk_at dksX4_image_0 12 rfl rfl)
theorem dX4_image_13 : decode cX4_image 13 = .ok (.invokevirtual 168, 3) := dk_182 0 168 (dk_at dksX4_image_0 13 rfl rfl)
theorem dX4_image_16 : decode cX4_image 16 = .ok (.ireturn, 1) := dk_172 (dk_at dksX4_image_0 16 rfl rfl)
theorem dX4_image_17 : decode cX4_image 17 = .ok (.aload_n 0, 1) := dk_42 (dk_at dksX4_image_0 17 rfl rfl)
theorem dX4_image_18 : decode cX4_image 18 = .ok (.getfield 184, 3) := dk_180 0 184 (dk_at dksX4_image_0 18 rfl rfl)
theorem dX4_image_21 : decode cX4_image 21 = .ok (.iconst 3, 1) := dk_6 (dk_at dksX4_image_0 21 rfl rfl)
theorem dX4_image_22 : decode cX4_image 22 = .ok (.if_icmp .ne 9, 3) := dk_160 0 9 (dk_at dksX4_image_1 0 rfl rfl)
theorem dX4_image_25 : decode cX4_image 25 = .ok (.aload_n 0, 1) := dk_42 (dk_at dksX4_image_1 3 rfl rfl)
theorem dX4_image_26 : decode cX4_image 26 = .ok (.iconst 3, 1) := dk_6 (dk_at dksX4_image_1 4 rfl rfl)
theorem dX4_image_27 : decode cX4_image 27 = .ok (.invokevirtual 168, 3) := dk_182 0 168 (dk_at dksX4_image_1 5 rfl rfl)
theorem dX4_image_30 : decode cX4_image 30 = .ok (.ireturn, 1) := dk_172 (dk_at dksX4_image_1 8 rfl rfl)
theorem dX4_image_31 : decode cX4_image 31 = .ok (.aload_n 0, 1) := dk_42 (dk_at dksX4_image_1 9 rfl rfl)
theorem dX4_image_32 : decode cX4_image 32 = .ok (.getfield 26, 3) := dk_180 0 26 (dk_at dksX4_image_1 10 rfl rfl)
theorem dX4_image_35 : decode cX4_image 35 = .ok (.iconst 0, 1) := dk_3 (dk_at dksX4_image_1 13 rfl rfl)
theorem dX4_image_36 : decode cX4_image 36 = .ok (.aload_n 0, 1) := dk_42 (dk_at dksX4_image_1 14 rfl rfl)
theorem dX4_image_37 : decode cX4_image 37 = .ok (.getfield 35, 3) := dk_180 0 35 (dk_at dksX4_image_1 15 rfl rfl)
theorem dX4_image_40 : decode cX4_image 40 = .ok (.bipush 108, 2) := dk_16 108 (dk_at dksX4_image_1 18 rfl rfl)
theorem dX4_image_42 : decode cX4_image 42 = .ok (.aload_n 0, 1) := dk_42 (dk_at dksX4_image_1 20 rfl rfl)
theorem dX4_image_43 : decode cX4_image 43 = .ok (.getfield 184, 3) := dk_180 0 184 (dk_at dksX4_image_1 21 rfl rfl)
theorem dX4_image_46 : decode cX4_image 46 = .ok (.imul, 1) := dk_104 (dk_at dksX4_image_2 0 rfl rfl)
theorem dX4_image_47 : decode cX4_image 47 = .ok (.bipush 108, 2) := dk_16 108 (dk_at dksX4_image_2 1 rfl rfl)
theorem dX4_image_49 : decode cX4_image 49 = .ok (.invokestatic 174, 3) := dk_184 0 174 (dk_at dksX4_image_2 3 rfl rfl)
theorem dX4_image_52 : decode cX4_image 52 = .ok (.aload_n 0, 1) := dk_42 (dk_at dksX4_image_2 6 rfl rfl)
theorem dX4_image_53 : decode cX4_image 53 = .ok (.dup, 1) := dk_89 (dk_at dksX4_image_2 7 rfl rfl)
theorem dX4_image_54 : decode cX4_image 54 = .ok (.getfield 184, 3) := dk_180 0 184 (dk_at dksX4_image_2 8 rfl rfl)
theorem dX4_image_57 : decode cX4_image 57 = .ok (.iconst 1, 1) := dk_4 (dk_at dksX4_image_2 11 rfl rfl)
theorem dX4_image_58 : decode cX4_image 58 = .ok (.iadd, 1) := dk_96 (dk_at dksX4_image_2 12 rfl rfl)
theorem dX4_image_59 : decode cX4_image 59 = .ok (.putfield 184, 3) := dk_181 0 184 (dk_at dksX4_image_2 13 rfl rfl)
theorem dX4_image_62 : decode cX4_image 62 = .ok (.aload_n 0, 1) := dk_42 (dk_at dksX4_image_2 16 rfl rfl)
theorem dX4_image_63 : decode cX4_image 63 = .ok (.getfield 184, 3) := dk_180 0 184 (dk_at dksX4_image_2 17 rfl rfl)
theorem dX4_image_66 : decode cX4_image 66 = .ok (.iconst 1, 1) := dk_4 (dk_at dksX4_image_2 20 rfl rfl)
theorem dX4_image_67 : decode cX4_image 67 = .ok (.isub, 1) := dk_100 (dk_at dksX4_image_2 21 rfl rfl)
theorem dX4_image_68 : decode cX4_image 68 = .ok (.ireturn, 1) := dk_172 (dk_at dksX4_image_2 22 rfl rfl)
abbrev cX4_back : ByteArray := prog_24_method_125_code
def yX4_back : MethodName := ⟨RX4, "back", "(I)Z"⟩
def dkwX4_back_2 : List UInt8 := [172]
abbrev dktX4_back_2 : List UInt8 := dkwX4_back_2 ++ []
def dkwX4_back_1 : List UInt8 := [42, 180, 0, 35, 16, 108, 27, 104, 42, 180, 0, 26, 3, 16, 108, 184, 0, 174, 42, 3, 181, 0, 181, 4]
abbrev dktX4_back_1 : List UInt8 := dkwX4_back_1 ++ dktX4_back_2
def dkwX4_back_0 : List UInt8 := [42, 182, 0, 165, 27, 3, 42, 180, 0, 184, 4, 100, 184, 0, 147, 154, 0, 9, 42, 4, 182, 1, 174, 172]
abbrev dktX4_back_0 : List UInt8 := dkwX4_back_0 ++ dktX4_back_1
theorem dksX4_back_0 : cX4_back.data.toList.drop 0 = dktX4_back_0 := by decide +kernel
theorem dksX4_back_1 : cX4_back.data.toList.drop 24 = dktX4_back_1 := dk_seg dksX4_back_0 24 rfl rfl
theorem dksX4_back_2 : cX4_back.data.toList.drop 48 = dktX4_back_2 := dk_seg dksX4_back_1 24 rfl rfl
theorem dX4_back_0 : decode cX4_back 0 = .ok (.aload_n 0, 1) := dk_42 (dk_at dksX4_back_0 0 rfl rfl)
theorem dX4_back_1 : decode cX4_back 1 = .ok (.invokevirtual 165, 3) := dk_182 0 165 (dk_at dksX4_back_0 1 rfl rfl)
theorem dX4_back_4 : decode cX4_back 4 = .ok (.iload_n 1, 1) := dk_27 (dk_at dksX4_back_0 4 rfl rfl)
theorem dX4_back_5 : decode cX4_back 5 = .ok (.iconst 0, 1) := dk_3 (dk_at dksX4_back_0 5 rfl rfl)
theorem dX4_back_6 : decode cX4_back 6 = .ok (.aload_n 0, 1) := dk_42 (dk_at dksX4_back_0 6 rfl rfl)
theorem dX4_back_7 : decode cX4_back 7 = .ok (.getfield 184, 3) := dk_180 0 184 (dk_at dksX4_back_0 7 rfl rfl)
theorem dX4_back_10 : decode cX4_back 10 = .ok (.iconst 1, 1) := dk_4 (dk_at dksX4_back_0 10 rfl rfl)
theorem dX4_back_11 : decode cX4_back 11 = .ok (.isub, 1) := dk_100 (dk_at dksX4_back_0 11 rfl rfl)
theorem dX4_back_12 : decode cX4_back 12 = .ok (.invokestatic 147, 3) := dk_184 0 147 (dk_at dksX4_back_0 12 rfl rfl)
theorem dX4_back_15 : decode cX4_back 15 = .ok (.ifCond .ne 9, 3) := dk_154 0 9 (dk_at dksX4_back_0 15 rfl rfl)
theorem dX4_back_18 : decode cX4_back 18 = .ok (.aload_n 0, 1) := dk_42 (dk_at dksX4_back_0 18 rfl rfl)
theorem dX4_back_19 : decode cX4_back 19 = .ok (.iconst 1, 1) := dk_4 (dk_at dksX4_back_0 19 rfl rfl)
theorem dX4_back_20 : decode cX4_back 20 = .ok (.invokevirtual 430, 3) := dk_182 1 174 (dk_at dksX4_back_0 20 rfl rfl)
theorem dX4_back_23 : decode cX4_back 23 = .ok (.ireturn, 1) := dk_172 (dk_at dksX4_back_0 23 rfl rfl)
theorem dX4_back_24 : decode cX4_back 24 = .ok (.aload_n 0, 1) := dk_42 (dk_at dksX4_back_1 0 rfl rfl)
theorem dX4_back_25 : decode cX4_back 25 = .ok (.getfield 35, 3) := dk_180 0 35 (dk_at dksX4_back_1 1 rfl rfl)
theorem dX4_back_28 : decode cX4_back 28 = .ok (.bipush 108, 2) := dk_16 108 (dk_at dksX4_back_1 4 rfl rfl)
theorem dX4_back_30 : decode cX4_back 30 = .ok (.iload_n 1, 1) := dk_27 (dk_at dksX4_back_1 6 rfl rfl)
theorem dX4_back_31 : decode cX4_back 31 = .ok (.imul, 1) := dk_104 (dk_at dksX4_back_1 7 rfl rfl)
theorem dX4_back_32 : decode cX4_back 32 = .ok (.aload_n 0, 1) := dk_42 (dk_at dksX4_back_1 8 rfl rfl)
theorem dX4_back_33 : decode cX4_back 33 = .ok (.getfield 26, 3) := dk_180 0 26 (dk_at dksX4_back_1 9 rfl rfl)
theorem dX4_back_36 : decode cX4_back 36 = .ok (.iconst 0, 1) := dk_3 (dk_at dksX4_back_1 12 rfl rfl)
theorem dX4_back_37 : decode cX4_back 37 = .ok (.bipush 108, 2) := dk_16 108 (dk_at dksX4_back_1 13 rfl rfl)
theorem dX4_back_39 : decode cX4_back 39 = .ok (.invokestatic 174, 3) := dk_184 0 174 (dk_at dksX4_back_1 15 rfl rfl)
theorem dX4_back_42 : decode cX4_back 42 = .ok (.aload_n 0, 1) := dk_42 (dk_at dksX4_back_1 18 rfl rfl)
theorem dX4_back_43 : decode cX4_back 43 = .ok (.iconst 0, 1) := dk_3 (dk_at dksX4_back_1 19 rfl rfl)
theorem dX4_back_44 : decode cX4_back 44 = .ok (.putfield 181, 3) := dk_181 0 181 (dk_at dksX4_back_1 20 rfl rfl)
theorem dX4_back_47 : decode cX4_back 47 = .ok (.iconst 1, 1) := dk_4 (dk_at dksX4_back_1 23 rfl rfl)
theorem dX4_back_48 : decode cX4_back 48 = .ok (.ireturn, 1) := dk_172 (dk_at dksX4_back_2 0 rfl rfl)
abbrev cX4_told : ByteArray := prog_24_method_126_code
def yX4_told : MethodName := ⟨RX4, "told", "(II)I"⟩
def dkwX4_told_2 : List UInt8 := [162, 0, 7, 29, 167, 0, 15, 29, 154, 0, 8, 16, 254, 167, 0, 6, 29, 4, 100, 172]
abbrev dktX4_told_2 : List UInt8 := dkwX4_told_2 ++ []
def dkwX4_told_1 : List UInt8 := [182, 0, 168, 172, 42, 180, 0, 20, 16, 41, 16, 7, 27, 104, 96, 28, 96, 46, 62, 28, 16, 6]
abbrev dktX4_told_1 : List UInt8 := dkwX4_told_1 ++ dktX4_told_2
def dkwX4_told_0 : List UInt8 := [42, 182, 0, 165, 42, 27, 182, 1, 90, 153, 0, 13, 28, 3, 16, 6, 184, 0, 147, 154, 0, 9, 42, 4]
abbrev dktX4_told_0 : List UInt8 := dkwX4_told_0 ++ dktX4_told_1
theorem dksX4_told_0 : cX4_told.data.toList.drop 0 = dktX4_told_0 := by decide +kernel
theorem dksX4_told_1 : cX4_told.data.toList.drop 24 = dktX4_told_1 := dk_seg dksX4_told_0 24 rfl rfl
theorem dksX4_told_2 : cX4_told.data.toList.drop 46 = dktX4_told_2 := dk_seg dksX4_told_1 22 rfl rfl
theorem dX4_told_0 : decode cX4_told 0 = .ok (.aload_n 0, 1) := dk_42 (dk_at dksX4_told_0 0 rfl rfl)
theorem dX4_told_1 : decode cX4_told 1 = .ok (.invokevirtual 165, 3) := dk_182 0 165 (dk_at dksX4_told_0 1 rfl rfl)
theorem dX4_told_4 : decode cX4_told 4 = .ok (.aload_n 0, 1) := dk_42 (dk_at dksX4_told_0 4 rfl rfl)
theorem dX4_told_5 : decode cX4_told 5 = .ok (.iload_n 1, 1) := dk_27 (dk_at dksX4_told_0 5 rfl rfl)
theorem dX4_told_6 : decode cX4_told 6 = .ok (.invokevirtual 346, 3) := dk_182 1 90 (dk_at dksX4_told_0 6 rfl rfl)
theorem dX4_told_9 : decode cX4_told 9 = .ok (.ifCond .eq 13, 3) := dk_153 0 13 (dk_at dksX4_told_0 9 rfl rfl)
theorem dX4_told_12 : decode cX4_told 12 = .ok (.iload_n 2, 1) := dk_28 (dk_at dksX4_told_0 12 rfl rfl)
theorem dX4_told_13 : decode cX4_told 13 = .ok (.iconst 0, 1) := dk_3 (dk_at dksX4_told_0 13 rfl rfl)
theorem dX4_told_14 : decode cX4_told 14 = .ok (.bipush 6, 2) := dk_16 6 (dk_at dksX4_told_0 14 rfl rfl)
theorem dX4_told_16 : decode cX4_told 16 = .ok (.invokestatic 147, 3) := dk_184 0 147 (dk_at dksX4_told_0 16 rfl rfl)
theorem dX4_told_19 : decode cX4_told 19 = .ok (.ifCond .ne 9, 3) := dk_154 0 9 (dk_at dksX4_told_0 19 rfl rfl)
theorem dX4_told_22 : decode cX4_told 22 = .ok (.aload_n 0, 1) := dk_42 (dk_at dksX4_told_0 22 rfl rfl)
theorem dX4_told_23 : decode cX4_told 23 = .ok (.iconst 1, 1) := dk_4 (dk_at dksX4_told_0 23 rfl rfl)
theorem dX4_told_24 : decode cX4_told 24 = .ok (.invokevirtual 168, 3) := dk_182 0 168 (dk_at dksX4_told_1 0 rfl rfl)
theorem dX4_told_27 : decode cX4_told 27 = .ok (.ireturn, 1) := dk_172 (dk_at dksX4_told_1 3 rfl rfl)
theorem dX4_told_28 : decode cX4_told 28 = .ok (.aload_n 0, 1) := dk_42 (dk_at dksX4_told_1 4 rfl rfl)
theorem dX4_told_29 : decode cX4_told 29 = .ok (.getfield 20, 3) := dk_180 0 20 (dk_at dksX4_told_1 5 rfl rfl)
theorem dX4_told_32 : decode cX4_told 32 = .ok (.bipush 41, 2) := dk_16 41 (dk_at dksX4_told_1 8 rfl rfl)
theorem dX4_told_34 : decode cX4_told 34 = .ok (.bipush 7, 2) := dk_16 7 (dk_at dksX4_told_1 10 rfl rfl)
theorem dX4_told_36 : decode cX4_told 36 = .ok (.iload_n 1, 1) := dk_27 (dk_at dksX4_told_1 12 rfl rfl)
theorem dX4_told_37 : decode cX4_told 37 = .ok (.imul, 1) := dk_104 (dk_at dksX4_told_1 13 rfl rfl)
theorem dX4_told_38 : decode cX4_told 38 = .ok (.iadd, 1) := dk_96 (dk_at dksX4_told_1 14 rfl rfl)
theorem dX4_told_39 : decode cX4_told 39 = .ok (.iload_n 2, 1) := dk_28 (dk_at dksX4_told_1 15 rfl rfl)
theorem dX4_told_40 : decode cX4_told 40 = .ok (.iadd, 1) := dk_96 (dk_at dksX4_told_1 16 rfl rfl)
theorem dX4_told_41 : decode cX4_told 41 = .ok (.iaload, 1) := dk_46 (dk_at dksX4_told_1 17 rfl rfl)
theorem dX4_told_42 : decode cX4_told 42 = .ok (.istore_n 3, 1) := dk_62 (dk_at dksX4_told_1 18 rfl rfl)
theorem dX4_told_43 : decode cX4_told 43 = .ok (.iload_n 2, 1) := dk_28 (dk_at dksX4_told_1 19 rfl rfl)
theorem dX4_told_44 : decode cX4_told 44 = .ok (.bipush 6, 2) := dk_16 6 (dk_at dksX4_told_1 20 rfl rfl)
theorem dX4_told_46 : decode cX4_told 46 = .ok (.if_icmp .ge 7, 3) := dk_162 0 7 (dk_at dksX4_told_2 0 rfl rfl)
theorem dX4_told_49 : decode cX4_told 49 = .ok (.iload_n 3, 1) := dk_29 (dk_at dksX4_told_2 3 rfl rfl)
theorem dX4_told_50 : decode cX4_told 50 = .ok (.goto 15, 3) := dk_167 0 15 (dk_at dksX4_told_2 4 rfl rfl)
theorem dX4_told_53 : decode cX4_told 53 = .ok (.iload_n 3, 1) := dk_29 (dk_at dksX4_told_2 7 rfl rfl)
theorem dX4_told_54 : decode cX4_told 54 = .ok (.ifCond .ne 8, 3) := dk_154 0 8 (dk_at dksX4_told_2 8 rfl rfl)
theorem dX4_told_57 : decode cX4_told 57 = .ok (.bipush (-2), 2) := dk_16 254 (dk_at dksX4_told_2 11 rfl rfl)
theorem dX4_told_59 : decode cX4_told 59 = .ok (.goto 6, 3) := dk_167 0 6 (dk_at dksX4_told_2 13 rfl rfl)
theorem dX4_told_62 : decode cX4_told 62 = .ok (.iload_n 3, 1) := dk_29 (dk_at dksX4_told_2 16 rfl rfl)
theorem dX4_told_63 : decode cX4_told 63 = .ok (.iconst 1, 1) := dk_4 (dk_at dksX4_told_2 17 rfl rfl)
theorem dX4_told_64 : decode cX4_told 64 = .ok (.isub, 1) := dk_100 (dk_at dksX4_told_2 18 rfl rfl)
theorem dX4_told_65 : decode cX4_told 65 = .ok (.ireturn, 1) := dk_172 (dk_at dksX4_told_2 19 rfl rfl)
abbrev cX4_wants : ByteArray := prog_24_method_127_code
def yX4_wants : MethodName := ⟨RX4, "wants", "(II)I"⟩
def dkwX4_wants_1 : List UInt8 := [182, 1, 38, 167, 0, 8, 42, 4, 182, 0, 168, 172]
abbrev dktX4_wants_1 : List UInt8 := dkwX4_wants_1 ++ []
def dkwX4_wants_0 : List UInt8 := [42, 182, 0, 165, 42, 27, 182, 1, 90, 153, 0, 20, 42, 28, 182, 1, 177, 153, 0, 12, 42, 27, 28]
abbrev dktX4_wants_0 : List UInt8 := dkwX4_wants_0 ++ dktX4_wants_1
theorem dksX4_wants_0 : cX4_wants.data.toList.drop 0 = dktX4_wants_0 := by decide +kernel
theorem dksX4_wants_1 : cX4_wants.data.toList.drop 23 = dktX4_wants_1 := dk_seg dksX4_wants_0 23 rfl rfl
theorem dX4_wants_0 : decode cX4_wants 0 = .ok (.aload_n 0, 1) := dk_42 (dk_at dksX4_wants_0 0 rfl rfl)
theorem dX4_wants_1 : decode cX4_wants 1 = .ok (.invokevirtual 165, 3) := dk_182 0 165 (dk_at dksX4_wants_0 1 rfl rfl)
theorem dX4_wants_4 : decode cX4_wants 4 = .ok (.aload_n 0, 1) := dk_42 (dk_at dksX4_wants_0 4 rfl rfl)
theorem dX4_wants_5 : decode cX4_wants 5 = .ok (.iload_n 1, 1) := dk_27 (dk_at dksX4_wants_0 5 rfl rfl)
theorem dX4_wants_6 : decode cX4_wants 6 = .ok (.invokevirtual 346, 3) := dk_182 1 90 (dk_at dksX4_wants_0 6 rfl rfl)
theorem dX4_wants_9 : decode cX4_wants 9 = .ok (.ifCond .eq 20, 3) := dk_153 0 20 (dk_at dksX4_wants_0 9 rfl rfl)
theorem dX4_wants_12 : decode cX4_wants 12 = .ok (.aload_n 0, 1) := dk_42 (dk_at dksX4_wants_0 12 rfl rfl)
theorem dX4_wants_13 : decode cX4_wants 13 = .ok (.iload_n 2, 1) := dk_28 (dk_at dksX4_wants_0 13 rfl rfl)
theorem dX4_wants_14 : decode cX4_wants 14 = .ok (.invokevirtual 433, 3) := dk_182 1 177 (dk_at dksX4_wants_0 14 rfl rfl)
theorem dX4_wants_17 : decode cX4_wants 17 = .ok (.ifCond .eq 12, 3) := dk_153 0 12 (dk_at dksX4_wants_0 17 rfl rfl)
theorem dX4_wants_20 : decode cX4_wants 20 = .ok (.aload_n 0, 1) := dk_42 (dk_at dksX4_wants_0 20 rfl rfl)
theorem dX4_wants_21 : decode cX4_wants 21 = .ok (.iload_n 1, 1) := dk_27 (dk_at dksX4_wants_0 21 rfl rfl)
theorem dX4_wants_22 : decode cX4_wants 22 = .ok (.iload_n 2, 1) := dk_28 (dk_at dksX4_wants_0 22 rfl rfl)
theorem dX4_wants_23 : decode cX4_wants 23 = .ok (.invokevirtual 294, 3) := dk_182 1 38 (dk_at dksX4_wants_1 0 rfl rfl)
theorem dX4_wants_26 : decode cX4_wants 26 = .ok (.goto 8, 3) := dk_167 0 8 (dk_at dksX4_wants_1 3 rfl rfl)
theorem dX4_wants_29 : decode cX4_wants 29 = .ok (.aload_n 0, 1) := dk_42 (dk_at dksX4_wants_1 6 rfl rfl)
theorem dX4_wants_30 : decode cX4_wants 30 = .ok (.iconst 1, 1) := dk_4 (dk_at dksX4_wants_1 7 rfl rfl)
theorem dX4_wants_31 : decode cX4_wants 31 = .ok (.invokevirtual 168, 3) := dk_182 0 168 (dk_at dksX4_wants_1 8 rfl rfl)
theorem dX4_wants_34 : decode cX4_wants 34 = .ok (.ireturn, 1) := dk_172 (dk_at dksX4_wants_1 11 rfl rfl)
abbrev cX4_isDrink : ByteArray := prog_24_method_43_code
def yX4_isDrink : MethodName := ⟨RX4, "isDrink", "(I)Z"⟩
def dkwX4_isDrink_1 : List UInt8 := [167, 0, 4, 3, 172]
abbrev dktX4_isDrink_1 : List UInt8 := dkwX4_isDrink_1 ++ []
def dkwX4_isDrink_0 : List UInt8 := [42, 180, 0, 178, 153, 0, 23, 27, 3, 42, 180, 0, 20, 6, 46, 4, 100, 184, 0, 147, 153, 0, 7, 4]
abbrev dktX4_isDrink_0 : List UInt8 := dkwX4_isDrink_0 ++ dktX4_isDrink_1
theorem dksX4_isDrink_0 : cX4_isDrink.data.toList.drop 0 = dktX4_isDrink_0 := by decide +kernel
theorem dksX4_isDrink_1 : cX4_isDrink.data.toList.drop 24 = dktX4_isDrink_1 := dk_seg dksX4_isDrink_0 24 rfl rfl
theorem dX4_isDrink_0 : decode cX4_isDrink 0 = .ok (.aload_n 0, 1) := dk_42 (dk_at dksX4_isDrink_0 0 rfl rfl)
theorem dX4_isDrink_1 : decode cX4_isDrink 1 = .ok (.getfield 178, 3) := dk_180 0 178 (dk_at dksX4_isDrink_0 1 rfl rfl)
theorem dX4_isDrink_4 : decode cX4_isDrink 4 = .ok (.ifCond .eq 23, 3) := dk_153 0 23 (dk_at dksX4_isDrink_0 4 rfl rfl)
theorem dX4_isDrink_7 : decode cX4_isDrink 7 = .ok (.iload_n 1, 1) := dk_27 (dk_at dksX4_isDrink_0 7 rfl rfl)
theorem dX4_isDrink_8 : decode cX4_isDrink 8 = .ok (.iconst 0, 1) := dk_3 (dk_at dksX4_isDrink_0 8 rfl rfl)
theorem dX4_isDrink_9 : decode cX4_isDrink 9 = .ok (.aload_n 0, 1) := dk_42 (dk_at dksX4_isDrink_0 9 rfl rfl)
theorem dX4_isDrink_10 : decode cX4_isDrink 10 = .ok (.getfield 20, 3) := dk_180 0 20 (dk_at dksX4_isDrink_0 10 rfl rfl)
theorem dX4_isDrink_13 : decode cX4_isDrink 13 = .ok (.iconst 3, 1) := dk_6 (dk_at dksX4_isDrink_0 13 rfl rfl)
theorem dX4_isDrink_14 : decode cX4_isDrink 14 = .ok (.iaload, 1) := dk_46 (dk_at dksX4_isDrink_0 14 rfl rfl)
theorem dX4_isDrink_15 : decode cX4_isDrink 15 = .ok (.iconst 1, 1) := dk_4 (dk_at dksX4_isDrink_0 15 rfl rfl)
theorem dX4_isDrink_16 : decode cX4_isDrink 16 = .ok (.isub, 1) := dk_100 (dk_at dksX4_isDrink_0 16 rfl rfl)
theorem dX4_isDrink_17 : decode cX4_isDrink 17 = .ok (.invokestatic 147, 3) := dk_184 0 147 (dk_at dksX4_isDrink_0 17 rfl rfl)
theorem dX4_isDrink_20 : decode cX4_isDrink 20 = .ok (.ifCond .eq 7, 3) := dk_153 0 7 (dk_at dksX4_isDrink_0 20 rfl rfl)
theorem dX4_isDrink_23 : decode cX4_isDrink 23 = .ok (.iconst 1, 1) := dk_4 (dk_at dksX4_isDrink_0 23 rfl rfl)
theorem dX4_isDrink_24 : decode cX4_isDrink 24 = .ok (.goto 4, 3) := dk_167 0 4 (dk_at dksX4_isDrink_1 0 rfl rfl)
theorem dX4_isDrink_27 : decode cX4_isDrink 27 = .ok (.iconst 0, 1) := dk_3 (dk_at dksX4_isDrink_1 3 rfl rfl)
theorem dX4_isDrink_28 : decode cX4_isDrink 28 = .ok (.ireturn, 1) := dk_172 (dk_at dksX4_isDrink_1 4 rfl rfl)
abbrev cX4_led : ByteArray := prog_24_method_128_code
def yX4_led : MethodName := ⟨RX4, "led", "(I)I"⟩
def dkwX4_led_2 : List UInt8 := [172, 132, 2, 1, 132, 3, 1, 167, 255, 207, 42, 4, 181, 0, 60, 3, 172]
abbrev dktX4_led_2 : List UInt8 := dkwX4_led_2 ++ []
def dkwX4_led_1 : List UInt8 := [180, 0, 26, 29, 184, 1, 45, 154, 0, 6, 167, 0, 18, 28, 27, 160, 0, 10, 42, 3, 181, 0, 60, 29]
abbrev dktX4_led_1 : List UInt8 := dkwX4_led_1 ++ dktX4_led_2
def dkwX4_led_0 : List UInt8 := [3, 61, 3, 62, 42, 180, 0, 178, 153, 0, 48, 29, 42, 180, 0, 20, 8, 46, 162, 0, 38, 42]
abbrev dktX4_led_0 : List UInt8 := dkwX4_led_0 ++ dktX4_led_1
theorem dksX4_led_0 : cX4_led.data.toList.drop 0 = dktX4_led_0 := by decide +kernel
theorem dksX4_led_1 : cX4_led.data.toList.drop 22 = dktX4_led_1 := dk_seg dksX4_led_0 22 rfl rfl
theorem dksX4_led_2 : cX4_led.data.toList.drop 46 = dktX4_led_2 := dk_seg dksX4_led_1 24 rfl rfl
theorem dX4_led_0 : decode cX4_led 0 = .ok (.iconst 0, 1) := dk_3 (dk_at dksX4_led_0 0 rfl rfl)
theorem dX4_led_1 : decode cX4_led 1 = .ok (.istore_n 2, 1) := dk_61 (dk_at dksX4_led_0 1 rfl rfl)
theorem dX4_led_2 : decode cX4_led 2 = .ok (.iconst 0, 1) := dk_3 (dk_at dksX4_led_0 2 rfl rfl)
theorem dX4_led_3 : decode cX4_led 3 = .ok (.istore_n 3, 1) := dk_62 (dk_at dksX4_led_0 3 rfl rfl)
theorem dX4_led_4 : decode cX4_led 4 = .ok (.aload_n 0, 1) := dk_42 (dk_at dksX4_led_0 4 rfl rfl)
theorem dX4_led_5 : decode cX4_led 5 = .ok (.getfield 178, 3) := dk_180 0 178 (dk_at dksX4_led_0 5 rfl rfl)
theorem dX4_led_8 : decode cX4_led 8 = .ok (.ifCond .eq 48, 3) := dk_153 0 48 (dk_at dksX4_led_0 8 rfl rfl)
theorem dX4_led_11 : decode cX4_led 11 = .ok (.iload_n 3, 1) := dk_29 (dk_at dksX4_led_0 11 rfl rfl)
theorem dX4_led_12 : decode cX4_led 12 = .ok (.aload_n 0, 1) := dk_42 (dk_at dksX4_led_0 12 rfl rfl)
theorem dX4_led_13 : decode cX4_led 13 = .ok (.getfield 20, 3) := dk_180 0 20 (dk_at dksX4_led_0 13 rfl rfl)
theorem dX4_led_16 : decode cX4_led 16 = .ok (.iconst 5, 1) := dk_8 (dk_at dksX4_led_0 16 rfl rfl)
theorem dX4_led_17 : decode cX4_led 17 = .ok (.iaload, 1) := dk_46 (dk_at dksX4_led_0 17 rfl rfl)
theorem dX4_led_18 : decode cX4_led 18 = .ok (.if_icmp .ge 38, 3) := dk_162 0 38 (dk_at dksX4_led_0 18 rfl rfl)
theorem dX4_led_21 : decode cX4_led 21 = .ok (.aload_n 0, 1) := dk_42 (dk_at dksX4_led_0 21 rfl rfl)
theorem dX4_led_22 : decode cX4_led 22 = .ok (.getfield 26, 3) := dk_180 0 26 (dk_at dksX4_led_1 0 rfl rfl)
theorem dX4_led_25 : decode cX4_led 25 = .ok (.iload_n 3, 1) := dk_29 (dk_at dksX4_led_1 3 rfl rfl)
theorem dX4_led_26 : decode cX4_led 26 = .ok (.invokestatic 301, 3) := dk_184 1 45 (dk_at dksX4_led_1 4 rfl rfl)
theorem dX4_led_29 : decode cX4_led 29 = .ok (.ifCond .ne 6, 3) := dk_154 0 6 (dk_at dksX4_led_1 7 rfl rfl)
theorem dX4_led_32 : decode cX4_led 32 = .ok (.goto 18, 3) := dk_167 0 18 (dk_at dksX4_led_1 10 rfl rfl)
theorem dX4_led_35 : decode cX4_led 35 = .ok (.iload_n 2, 1) := dk_28 (dk_at dksX4_led_1 13 rfl rfl)
theorem dX4_led_36 : decode cX4_led 36 = .ok (.iload_n 1, 1) := dk_27 (dk_at dksX4_led_1 14 rfl rfl)
theorem dX4_led_37 : decode cX4_led 37 = .ok (.if_icmp .ne 10, 3) := dk_160 0 10 (dk_at dksX4_led_1 15 rfl rfl)
theorem dX4_led_40 : decode cX4_led 40 = .ok (.aload_n 0, 1) := dk_42 (dk_at dksX4_led_1 18 rfl rfl)
theorem dX4_led_41 : decode cX4_led 41 = .ok (.iconst 0, 1) := dk_3 (dk_at dksX4_led_1 19 rfl rfl)
theorem dX4_led_42 : decode cX4_led 42 = .ok (.putfield 60, 3) := dk_181 0 60 (dk_at dksX4_led_1 20 rfl rfl)
theorem dX4_led_45 : decode cX4_led 45 = .ok (.iload_n 3, 1) := dk_29 (dk_at dksX4_led_1 23 rfl rfl)
theorem dX4_led_46 : decode cX4_led 46 = .ok (.ireturn, 1) := dk_172 (dk_at dksX4_led_2 0 rfl rfl)
theorem dX4_led_47 : decode cX4_led 47 = .ok (.iinc 2 1, 3) := dk_132 2 1 (dk_at dksX4_led_2 1 rfl rfl)
theorem dX4_led_50 : decode cX4_led 50 = .ok (.iinc 3 1, 3) := dk_132 3 1 (dk_at dksX4_led_2 4 rfl rfl)
theorem dX4_led_53 : decode cX4_led 53 = .ok (.goto (-49), 3) := dk_167 255 207 (dk_at dksX4_led_2 7 rfl rfl)
theorem dX4_led_56 : decode cX4_led 56 = .ok (.aload_n 0, 1) := dk_42 (dk_at dksX4_led_2 10 rfl rfl)
theorem dX4_led_57 : decode cX4_led 57 = .ok (.iconst 1, 1) := dk_4 (dk_at dksX4_led_2 11 rfl rfl)
theorem dX4_led_58 : decode cX4_led 58 = .ok (.putfield 60, 3) := dk_181 0 60 (dk_at dksX4_led_2 12 rfl rfl)
theorem dX4_led_61 : decode cX4_led 61 = .ok (.iconst 0, 1) := dk_3 (dk_at dksX4_led_2 15 rfl rfl)
theorem dX4_led_62 : decode cX4_led 62 = .ok (.ireturn, 1) := dk_172 (dk_at dksX4_led_2 16 rfl rfl)
abbrev cX4_size : ByteArray := prog_24_method_129_code
def yX4_size : MethodName := ⟨RX4, "size", "(I)I"⟩
def dkwX4_size_6 : List UInt8 := [2, 172]
abbrev dktX4_size_6 : List UInt8 := dkwX4_size_6 ++ []
def dkwX4_size_5 : List UInt8 := [180, 0, 20, 16, 7, 46, 172, 42, 180, 0, 26, 3, 46, 172, 42, 180, 0, 181, 172, 42, 180, 0, 184, 172]
abbrev dktX4_size_5 : List UInt8 := dkwX4_size_5 ++ dktX4_size_6
def dkwX4_size_4 : List UInt8 := [180, 0, 20, 7, 46, 172, 42, 180, 0, 20, 8, 46, 172, 42, 180, 0, 20, 16, 6, 46, 172, 42]
abbrev dktX4_size_4 : List UInt8 := dkwX4_size_4 ++ dktX4_size_5
def dkwX4_size_3 : List UInt8 := [42, 180, 0, 20, 4, 46, 172, 42, 180, 0, 20, 5, 46, 172, 42, 180, 0, 20, 6, 46, 172, 42]
abbrev dktX4_size_3 : List UInt8 := dkwX4_size_3 ++ dktX4_size_4
def dkwX4_size_2 : List UInt8 := [170, 0, 0, 0, 0, 0, 0, 124, 0, 0, 0, 0, 0, 0, 0, 9, 0, 0, 0, 56, 0, 0, 0, 63, 0, 0, 0, 70, 0, 0, 0, 77, 0, 0, 0, 84, 0, 0, 0, 91, 0, 0, 0, 99, 0, 0, 0, 107, 0, 0, 0, 114, 0, 0, 0, 119]
abbrev dktX4_size_2 : List UInt8 := dkwX4_size_2 ++ dktX4_size_3
def dkwX4_size_1 : List UInt8 := [3, 16, 9, 184, 0, 147, 153, 0, 7, 3, 167, 0, 4, 2, 172, 27]
abbrev dktX4_size_1 : List UInt8 := dkwX4_size_1 ++ dktX4_size_2
def dkwX4_size_0 : List UInt8 := [42, 3, 181, 0, 60, 27, 16, 10, 160, 0, 8, 42, 180, 0, 66, 172, 42, 180, 0, 178, 154, 0, 19, 27]
abbrev dktX4_size_0 : List UInt8 := dkwX4_size_0 ++ dktX4_size_1
theorem dksX4_size_0 : cX4_size.data.toList.drop 0 = dktX4_size_0 := by decide +kernel
theorem dksX4_size_1 : cX4_size.data.toList.drop 24 = dktX4_size_1 := dk_seg dksX4_size_0 24 rfl rfl
theorem dksX4_size_2 : cX4_size.data.toList.drop 40 = dktX4_size_2 := dk_seg dksX4_size_1 16 rfl rfl
theorem dksX4_size_3 : cX4_size.data.toList.drop 96 = dktX4_size_3 := dk_seg dksX4_size_2 56 rfl rfl
theorem dksX4_size_4 : cX4_size.data.toList.drop 118 = dktX4_size_4 := dk_seg dksX4_size_3 22 rfl rfl
theorem dksX4_size_5 : cX4_size.data.toList.drop 140 = dktX4_size_5 := dk_seg dksX4_size_4 22 rfl rfl
theorem dksX4_size_6 : cX4_size.data.toList.drop 164 = dktX4_size_6 := dk_seg dksX4_size_5 24 rfl rfl
theorem dX4_size_0 : decode cX4_size 0 = .ok (.aload_n 0, 1) := dk_42 (dk_at dksX4_size_0 0 rfl rfl)
theorem dX4_size_1 : decode cX4_size 1 = .ok (.iconst 0, 1) := dk_3 (dk_at dksX4_size_0 1 rfl rfl)
theorem dX4_size_2 : decode cX4_size 2 = .ok (.putfield 60, 3) := dk_181 0 60 (dk_at dksX4_size_0 2 rfl rfl)
theorem dX4_size_5 : decode cX4_size 5 = .ok (.iload_n 1, 1) := dk_27 (dk_at dksX4_size_0 5 rfl rfl)
theorem dX4_size_6 : decode cX4_size 6 = .ok (.bipush 10, 2) := dk_16 10 (dk_at dksX4_size_0 6 rfl rfl)
theorem dX4_size_8 : decode cX4_size 8 = .ok (.if_icmp .ne 8, 3) := dk_160 0 8 (dk_at dksX4_size_0 8 rfl rfl)
theorem dX4_size_11 : decode cX4_size 11 = .ok (.aload_n 0, 1) := dk_42 (dk_at dksX4_size_0 11 rfl rfl)
theorem dX4_size_12 : decode cX4_size 12 = .ok (.getfield 66, 3) := dk_180 0 66 (dk_at dksX4_size_0 12 rfl rfl)
theorem dX4_size_15 : decode cX4_size 15 = .ok (.ireturn, 1) := dk_172 (dk_at dksX4_size_0 15 rfl rfl)
theorem dX4_size_16 : decode cX4_size 16 = .ok (.aload_n 0, 1) := dk_42 (dk_at dksX4_size_0 16 rfl rfl)
theorem dX4_size_17 : decode cX4_size 17 = .ok (.getfield 178, 3) := dk_180 0 178 (dk_at dksX4_size_0 17 rfl rfl)
theorem dX4_size_20 : decode cX4_size 20 = .ok (.ifCond .ne 19, 3) := dk_154 0 19 (dk_at dksX4_size_0 20 rfl rfl)
theorem dX4_size_23 : decode cX4_size 23 = .ok (.iload_n 1, 1) := dk_27 (dk_at dksX4_size_0 23 rfl rfl)
theorem dX4_size_24 : decode cX4_size 24 = .ok (.iconst 0, 1) := dk_3 (dk_at dksX4_size_1 0 rfl rfl)
theorem dX4_size_25 : decode cX4_size 25 = .ok (.bipush 9, 2) := dk_16 9 (dk_at dksX4_size_1 1 rfl rfl)
theorem dX4_size_27 : decode cX4_size 27 = .ok (.invokestatic 147, 3) := dk_184 0 147 (dk_at dksX4_size_1 3 rfl rfl)
theorem dX4_size_30 : decode cX4_size 30 = .ok (.ifCond .eq 7, 3) := dk_153 0 7 (dk_at dksX4_size_1 6 rfl rfl)
theorem dX4_size_33 : decode cX4_size 33 = .ok (.iconst 0, 1) := dk_3 (dk_at dksX4_size_1 9 rfl rfl)
theorem dX4_size_34 : decode cX4_size 34 = .ok (.goto 4, 3) := dk_167 0 4 (dk_at dksX4_size_1 10 rfl rfl)
theorem dX4_size_37 : decode cX4_size 37 = .ok (.iconst (-1), 1) := dk_2 (dk_at dksX4_size_1 13 rfl rfl)
theorem dX4_size_38 : decode cX4_size 38 = .ok (.ireturn, 1) := dk_172 (dk_at dksX4_size_1 14 rfl rfl)
theorem dX4_size_39 : decode cX4_size 39 = .ok (.iload_n 1, 1) := dk_27 (dk_at dksX4_size_1 15 rfl rfl)
theorem dX4_size_40 : decode cX4_size 40 = .ok (.tableswitch 124 0 9 #[56, 63, 70, 77, 84, 91, 99, 107, 114, 119], 56) := by decide +kernel
theorem dX4_size_96 : decode cX4_size 96 = .ok (.aload_n 0, 1) := dk_42 (dk_at dksX4_size_3 0 rfl rfl)
theorem dX4_size_97 : decode cX4_size 97 = .ok (.getfield 20, 3) := dk_180 0 20 (dk_at dksX4_size_3 1 rfl rfl)
theorem dX4_size_100 : decode cX4_size 100 = .ok (.iconst 1, 1) := dk_4 (dk_at dksX4_size_3 4 rfl rfl)
theorem dX4_size_101 : decode cX4_size 101 = .ok (.iaload, 1) := dk_46 (dk_at dksX4_size_3 5 rfl rfl)
theorem dX4_size_102 : decode cX4_size 102 = .ok (.ireturn, 1) := dk_172 (dk_at dksX4_size_3 6 rfl rfl)
theorem dX4_size_103 : decode cX4_size 103 = .ok (.aload_n 0, 1) := dk_42 (dk_at dksX4_size_3 7 rfl rfl)
theorem dX4_size_104 : decode cX4_size 104 = .ok (.getfield 20, 3) := dk_180 0 20 (dk_at dksX4_size_3 8 rfl rfl)
theorem dX4_size_107 : decode cX4_size 107 = .ok (.iconst 2, 1) := dk_5 (dk_at dksX4_size_3 11 rfl rfl)
theorem dX4_size_108 : decode cX4_size 108 = .ok (.iaload, 1) := dk_46 (dk_at dksX4_size_3 12 rfl rfl)
theorem dX4_size_109 : decode cX4_size 109 = .ok (.ireturn, 1) := dk_172 (dk_at dksX4_size_3 13 rfl rfl)
theorem dX4_size_110 : decode cX4_size 110 = .ok (.aload_n 0, 1) := dk_42 (dk_at dksX4_size_3 14 rfl rfl)
theorem dX4_size_111 : decode cX4_size 111 = .ok (.getfield 20, 3) := dk_180 0 20 (dk_at dksX4_size_3 15 rfl rfl)
theorem dX4_size_114 : decode cX4_size 114 = .ok (.iconst 3, 1) := dk_6 (dk_at dksX4_size_3 18 rfl rfl)
theorem dX4_size_115 : decode cX4_size 115 = .ok (.iaload, 1) := dk_46 (dk_at dksX4_size_3 19 rfl rfl)
theorem dX4_size_116 : decode cX4_size 116 = .ok (.ireturn, 1) := dk_172 (dk_at dksX4_size_3 20 rfl rfl)
theorem dX4_size_117 : decode cX4_size 117 = .ok (.aload_n 0, 1) := dk_42 (dk_at dksX4_size_3 21 rfl rfl)
theorem dX4_size_118 : decode cX4_size 118 = .ok (.getfield 20, 3) := dk_180 0 20 (dk_at dksX4_size_4 0 rfl rfl)
theorem dX4_size_121 : decode cX4_size 121 = .ok (.iconst 4, 1) := dk_7 (dk_at dksX4_size_4 3 rfl rfl)
theorem dX4_size_122 : decode cX4_size 122 = .ok (.iaload, 1) := dk_46 (dk_at dksX4_size_4 4 rfl rfl)
theorem dX4_size_123 : decode cX4_size 123 = .ok (.ireturn, 1) := dk_172 (dk_at dksX4_size_4 5 rfl rfl)
theorem dX4_size_124 : decode cX4_size 124 = .ok (.aload_n 0, 1) := dk_42 (dk_at dksX4_size_4 6 rfl rfl)
theorem dX4_size_125 : decode cX4_size 125 = .ok (.getfield 20, 3) := dk_180 0 20 (dk_at dksX4_size_4 7 rfl rfl)
theorem dX4_size_128 : decode cX4_size 128 = .ok (.iconst 5, 1) := dk_8 (dk_at dksX4_size_4 10 rfl rfl)
theorem dX4_size_129 : decode cX4_size 129 = .ok (.iaload, 1) := dk_46 (dk_at dksX4_size_4 11 rfl rfl)
theorem dX4_size_130 : decode cX4_size 130 = .ok (.ireturn, 1) := dk_172 (dk_at dksX4_size_4 12 rfl rfl)
theorem dX4_size_131 : decode cX4_size 131 = .ok (.aload_n 0, 1) := dk_42 (dk_at dksX4_size_4 13 rfl rfl)
theorem dX4_size_132 : decode cX4_size 132 = .ok (.getfield 20, 3) := dk_180 0 20 (dk_at dksX4_size_4 14 rfl rfl)
theorem dX4_size_135 : decode cX4_size 135 = .ok (.bipush 6, 2) := dk_16 6 (dk_at dksX4_size_4 17 rfl rfl)
theorem dX4_size_137 : decode cX4_size 137 = .ok (.iaload, 1) := dk_46 (dk_at dksX4_size_4 19 rfl rfl)
theorem dX4_size_138 : decode cX4_size 138 = .ok (.ireturn, 1) := dk_172 (dk_at dksX4_size_4 20 rfl rfl)
theorem dX4_size_139 : decode cX4_size 139 = .ok (.aload_n 0, 1) := dk_42 (dk_at dksX4_size_4 21 rfl rfl)
theorem dX4_size_140 : decode cX4_size 140 = .ok (.getfield 20, 3) := dk_180 0 20 (dk_at dksX4_size_5 0 rfl rfl)
theorem dX4_size_143 : decode cX4_size 143 = .ok (.bipush 7, 2) := dk_16 7 (dk_at dksX4_size_5 3 rfl rfl)
theorem dX4_size_145 : decode cX4_size 145 = .ok (.iaload, 1) := dk_46 (dk_at dksX4_size_5 5 rfl rfl)
theorem dX4_size_146 : decode cX4_size 146 = .ok (.ireturn, 1) := dk_172 (dk_at dksX4_size_5 6 rfl rfl)
theorem dX4_size_147 : decode cX4_size 147 = .ok (.aload_n 0, 1) := dk_42 (dk_at dksX4_size_5 7 rfl rfl)
theorem dX4_size_148 : decode cX4_size 148 = .ok (.getfield 26, 3) := dk_180 0 26 (dk_at dksX4_size_5 8 rfl rfl)
theorem dX4_size_151 : decode cX4_size 151 = .ok (.iconst 0, 1) := dk_3 (dk_at dksX4_size_5 11 rfl rfl)
theorem dX4_size_152 : decode cX4_size 152 = .ok (.iaload, 1) := dk_46 (dk_at dksX4_size_5 12 rfl rfl)
theorem dX4_size_153 : decode cX4_size 153 = .ok (.ireturn, 1) := dk_172 (dk_at dksX4_size_5 13 rfl rfl)
theorem dX4_size_154 : decode cX4_size 154 = .ok (.aload_n 0, 1) := dk_42 (dk_at dksX4_size_5 14 rfl rfl)
theorem dX4_size_155 : decode cX4_size 155 = .ok (.getfield 181, 3) := dk_180 0 181 (dk_at dksX4_size_5 15 rfl rfl)
theorem dX4_size_158 : decode cX4_size 158 = .ok (.ireturn, 1) := dk_172 (dk_at dksX4_size_5 18 rfl rfl)
theorem dX4_size_159 : decode cX4_size 159 = .ok (.aload_n 0, 1) := dk_42 (dk_at dksX4_size_5 19 rfl rfl)
theorem dX4_size_160 : decode cX4_size 160 = .ok (.getfield 184, 3) := dk_180 0 184 (dk_at dksX4_size_5 20 rfl rfl)
theorem dX4_size_163 : decode cX4_size 163 = .ok (.ireturn, 1) := dk_172 (dk_at dksX4_size_5 23 rfl rfl)
theorem dX4_size_164 : decode cX4_size 164 = .ok (.iconst (-1), 1) := dk_2 (dk_at dksX4_size_6 0 rfl rfl)
theorem dX4_size_165 : decode cX4_size 165 = .ok (.ireturn, 1) := dk_172 (dk_at dksX4_size_6 1 rfl rfl)
abbrev cX4_trouble : ByteArray := prog_24_method_130_code
def yX4_trouble : MethodName := ⟨RX4, "trouble", "()I"⟩
def dkwX4_trouble_0 : List UInt8 := [42, 3, 181, 0, 60, 42, 180, 0, 63, 172]
abbrev dktX4_trouble_0 : List UInt8 := dkwX4_trouble_0 ++ []
theorem dksX4_trouble_0 : cX4_trouble.data.toList.drop 0 = dktX4_trouble_0 := by decide +kernel
theorem dX4_trouble_0 : decode cX4_trouble 0 = .ok (.aload_n 0, 1) := dk_42 (dk_at dksX4_trouble_0 0 rfl rfl)
theorem dX4_trouble_1 : decode cX4_trouble 1 = .ok (.iconst 0, 1) := dk_3 (dk_at dksX4_trouble_0 1 rfl rfl)
theorem dX4_trouble_2 : decode cX4_trouble 2 = .ok (.putfield 60, 3) := dk_181 0 60 (dk_at dksX4_trouble_0 2 rfl rfl)
theorem dX4_trouble_5 : decode cX4_trouble 5 = .ok (.aload_n 0, 1) := dk_42 (dk_at dksX4_trouble_0 5 rfl rfl)
theorem dX4_trouble_6 : decode cX4_trouble 6 = .ok (.getfield 63, 3) := dk_180 0 63 (dk_at dksX4_trouble_0 6 rfl rfl)
theorem dX4_trouble_9 : decode cX4_trouble 9 = .ok (.ireturn, 1) := dk_172 (dk_at dksX4_trouble_0 9 rfl rfl)
theorem q129 : (Jvm.Cond.initialized "NextAtBarModel") ∈ lw_all := lw_g (lw_at lw_m1 7 rfl) rfl
theorem q827 : (Jvm.Cond.selects "NextAtBarModel" ({ cls := "java/lang/Object", name := "getClass", desc := "()Ljava/lang/Class;" } : Jvm.MethodName) ({ cls := "java/lang/Object", name := "getClass", desc := "()Ljava/lang/Class;" } : Jvm.MethodName)) ∈ lw_all := lw_g (lw_at lw_m3 225 rfl) rfl
theorem q1832 : (Jvm.Cond.instantiable "NextAtBarModel" (35 : Nat)) ∈ lw_all := lw_g (lw_at lw_m8 30 rfl) rfl
theorem q1834 : (Jvm.Cond.instanceMethod ({ cls := "NextAtBarModel", name := "<init>", desc := "()V" } : Jvm.MethodName)) ∈ lw_all := lw_g (lw_at lw_m8 32 rfl) rfl
theorem q1835 : (Jvm.Cond.code ({ cls := "NextAtBarModel", name := "<init>", desc := "()V" } : Jvm.MethodName) prog_24_method_1_code (1 : Nat) (Option.none : Option Jvm.ClassFile.FieldType)) ∈ lw_all := lw_g (lw_at lw_m8 33 rfl) rfl
theorem q1836 : (Jvm.Cond.methodLink "NextAtBarModel" (1 : Nat) ({ cls := "java/lang/Object", name := "<init>", desc := "()V" } : Jvm.MethodName)) ∈ lw_all := lw_g (lw_at lw_m8 34 rfl) rfl
theorem q1837 : (Jvm.Cond.fieldLink "NextAtBarModel" (60 : Nat) "NextAtBarModel" "thrown" "I") ∈ lw_all := lw_g (lw_at lw_m8 35 rfl) rfl
theorem q1838 : (Jvm.Cond.fieldLink "NextAtBarModel" (7 : Nat) "NextAtBarModel" "tape" "[I") ∈ lw_all := lw_g (lw_at lw_m8 36 rfl) rfl
theorem q1839 : (Jvm.Cond.fieldLink "NextAtBarModel" (66 : Nat) "NextAtBarModel" "taped" "I") ∈ lw_all := lw_g (lw_at lw_m8 37 rfl) rfl
theorem q1840 : (Jvm.Cond.fieldLink "NextAtBarModel" (69 : Nat) "NextAtBarModel" "size" "I") ∈ lw_all := lw_g (lw_at lw_m8 38 rfl) rfl
theorem q1841 : (Jvm.Cond.fieldLink "NextAtBarModel" (79 : Nat) "NextAtBarModel" "at" "I") ∈ lw_all := lw_g (lw_at lw_m8 39 rfl) rfl
theorem q1842 : (Jvm.Cond.fieldLink "NextAtBarModel" (72 : Nat) "NextAtBarModel" "end" "I") ∈ lw_all := lw_g (lw_at lw_m8 40 rfl) rfl
theorem q1843 : (Jvm.Cond.fieldLink "NextAtBarModel" (88 : Nat) "NextAtBarModel" "token" "I") ∈ lw_all := lw_g (lw_at lw_m8 41 rfl) rfl
theorem q1844 : (Jvm.Cond.fieldLink "NextAtBarModel" (85 : Nat) "NextAtBarModel" "whole" "I") ∈ lw_all := lw_g (lw_at lw_m8 42 rfl) rfl
theorem q1845 : (Jvm.Cond.fieldLink "NextAtBarModel" (82 : Nat) "NextAtBarModel" "nameSize" "I") ∈ lw_all := lw_g (lw_at lw_m8 43 rfl) rfl
theorem q1846 : (Jvm.Cond.fieldLink "NextAtBarModel" (102 : Nat) "NextAtBarModel" "fault" "I") ∈ lw_all := lw_g (lw_at lw_m8 44 rfl) rfl
theorem q1847 : (Jvm.Cond.fieldLink "NextAtBarModel" (13 : Nat) "NextAtBarModel" "place" "I") ∈ lw_all := lw_g (lw_at lw_m8 45 rfl) rfl
theorem q1848 : (Jvm.Cond.fieldLink "NextAtBarModel" (63 : Nat) "NextAtBarModel" "trouble" "I") ∈ lw_all := lw_g (lw_at lw_m8 46 rfl) rfl
theorem q1849 : (Jvm.Cond.fieldLink "NextAtBarModel" (17 : Nat) "NextAtBarModel" "letters" "[I") ∈ lw_all := lw_g (lw_at lw_m8 47 rfl) rfl
theorem q1850 : (Jvm.Cond.fieldLink "NextAtBarModel" (98 : Nat) "NextAtBarModel" "failed" "Z") ∈ lw_all := lw_g (lw_at lw_m8 48 rfl) rfl
theorem q1851 : (Jvm.Cond.fieldLink "NextAtBarModel" (178 : Nat) "NextAtBarModel" "hasHouse" "Z") ∈ lw_all := lw_g (lw_at lw_m8 49 rfl) rfl
theorem q1852 : (Jvm.Cond.fieldLink "NextAtBarModel" (20 : Nat) "NextAtBarModel" "\x72" "[I") ∈ lw_all := lw_g (lw_at lw_m8 50 rfl) rfl
theorem q1853 : (Jvm.Cond.fieldLink "NextAtBarModel" (23 : Nat) "NextAtBarModel" "fresh" "[I") ∈ lw_all := lw_g (lw_at lw_m8 51 rfl) rfl
theorem q1854 : (Jvm.Cond.fieldLink "NextAtBarModel" (26 : Nat) "NextAtBarModel" "st" "[I") ∈ lw_all := lw_g (lw_at lw_m8 52 rfl) rfl
theorem q1855 : (Jvm.Cond.fieldLink "NextAtBarModel" (29 : Nat) "NextAtBarModel" "e" "[I") ∈ lw_all := lw_g (lw_at lw_m8 53 rfl) rfl
theorem q1856 : (Jvm.Cond.fieldLink "NextAtBarModel" (32 : Nat) "NextAtBarModel" "undone" "[I") ∈ lw_all := lw_g (lw_at lw_m8 54 rfl) rfl
theorem q1857 : (Jvm.Cond.fieldLink "NextAtBarModel" (35 : Nat) "NextAtBarModel" "kept" "[I") ∈ lw_all := lw_g (lw_at lw_m8 55 rfl) rfl
theorem q1858 : (Jvm.Cond.fieldLink "NextAtBarModel" (181 : Nat) "NextAtBarModel" "undos" "I") ∈ lw_all := lw_g (lw_at lw_m8 56 rfl) rfl
theorem q1859 : (Jvm.Cond.fieldLink "NextAtBarModel" (184 : Nat) "NextAtBarModel" "images" "I") ∈ lw_all := lw_g (lw_at lw_m8 57 rfl) rfl
theorem q1860 : (Jvm.Cond.fieldLink "NextAtBarModel" (38 : Nat) "NextAtBarModel" "crew" "[I") ∈ lw_all := lw_g (lw_at lw_m8 58 rfl) rfl
theorem q1861 : (Jvm.Cond.fieldLink "NextAtBarModel" (41 : Nat) "NextAtBarModel" "people" "[I") ∈ lw_all := lw_g (lw_at lw_m8 59 rfl) rfl
theorem q1862 : (Jvm.Cond.fieldLink "NextAtBarModel" (278 : Nat) "NextAtBarModel" "crewMany" "I") ∈ lw_all := lw_g (lw_at lw_m8 60 rfl) rfl
theorem q1863 : (Jvm.Cond.fieldLink "NextAtBarModel" (319 : Nat) "NextAtBarModel" "bell" "I") ∈ lw_all := lw_g (lw_at lw_m8 61 rfl) rfl
theorem q1864 : (Jvm.Cond.fieldLink "NextAtBarModel" (390 : Nat) "NextAtBarModel" "cutPlace" "I") ∈ lw_all := lw_g (lw_at lw_m8 62 rfl) rfl
theorem q1865 : (Jvm.Cond.fieldLink "NextAtBarModel" (387 : Nat) "NextAtBarModel" "cutLeast" "I") ∈ lw_all := lw_g (lw_at lw_m8 63 rfl) rfl
theorem q1866 : (Jvm.Cond.fieldLink "NextAtBarModel" (44 : Nat) "NextAtBarModel" "saved" "[I") ∈ lw_all := lw_g (lw_at lw_m8 64 rfl) rfl
theorem q1867 : (Jvm.Cond.fieldLink "NextAtBarModel" (47 : Nat) "NextAtBarModel" "waited" "[I") ∈ lw_all := lw_g (lw_at lw_m8 65 rfl) rfl
theorem q1868 : (Jvm.Cond.fieldLink "NextAtBarModel" (50 : Nat) "NextAtBarModel" "orde\x72" "[I") ∈ lw_all := lw_g (lw_at lw_m8 66 rfl) rfl
theorem q1869 : (Jvm.Cond.fieldLink "NextAtBarModel" (53 : Nat) "NextAtBarModel" "bestOrde\x72" "[I") ∈ lw_all := lw_g (lw_at lw_m8 67 rfl) rfl
theorem q1870 : (Jvm.Cond.fieldLink "NextAtBarModel" (411 : Nat) "NextAtBarModel" "bestSum" "I") ∈ lw_all := lw_g (lw_at lw_m8 68 rfl) rfl
theorem q1871 : (Jvm.Cond.fieldLink "NextAtBarModel" (56 : Nat) "NextAtBarModel" "ahead" "[Z") ∈ lw_all := lw_g (lw_at lw_m8 69 rfl) rfl
theorem q1872 : (Jvm.Cond.lays "NextAtBarModel" "NextAtBarModel" "thrown" "I") ∈ lw_all := lw_g (lw_at lw_m8 70 rfl) rfl
theorem q1873 : (Jvm.Cond.soleField "NextAtBarModel" "thrown") ∈ lw_all := lw_g (lw_at lw_m8 71 rfl) rfl
theorem q1874 : (Jvm.Cond.laysFinal "NextAtBarModel" "NextAtBarModel" "tape" "[I") ∈ lw_all := lw_g (lw_at lw_m8 72 rfl) rfl
theorem q1875 : (Jvm.Cond.soleField "NextAtBarModel" "tape") ∈ lw_all := lw_g (lw_at lw_m8 73 rfl) rfl
theorem q1876 : (Jvm.Cond.lays "NextAtBarModel" "NextAtBarModel" "taped" "I") ∈ lw_all := lw_g (lw_at lw_m8 74 rfl) rfl
theorem q1877 : (Jvm.Cond.soleField "NextAtBarModel" "taped") ∈ lw_all := lw_g (lw_at lw_m8 75 rfl) rfl
theorem q1878 : (Jvm.Cond.lays "NextAtBarModel" "NextAtBarModel" "size" "I") ∈ lw_all := lw_g (lw_at lw_m8 76 rfl) rfl
theorem q1879 : (Jvm.Cond.soleField "NextAtBarModel" "size") ∈ lw_all := lw_g (lw_at lw_m8 77 rfl) rfl
theorem q1880 : (Jvm.Cond.lays "NextAtBarModel" "NextAtBarModel" "at" "I") ∈ lw_all := lw_g (lw_at lw_m8 78 rfl) rfl
theorem q1881 : (Jvm.Cond.soleField "NextAtBarModel" "at") ∈ lw_all := lw_g (lw_at lw_m8 79 rfl) rfl
theorem q1882 : (Jvm.Cond.lays "NextAtBarModel" "NextAtBarModel" "end" "I") ∈ lw_all := lw_g (lw_at lw_m8 80 rfl) rfl
theorem q1883 : (Jvm.Cond.soleField "NextAtBarModel" "end") ∈ lw_all := lw_g (lw_at lw_m8 81 rfl) rfl
theorem q1884 : (Jvm.Cond.lays "NextAtBarModel" "NextAtBarModel" "token" "I") ∈ lw_all := lw_g (lw_at lw_m8 82 rfl) rfl
theorem q1885 : (Jvm.Cond.soleField "NextAtBarModel" "token") ∈ lw_all := lw_g (lw_at lw_m8 83 rfl) rfl
theorem q1886 : (Jvm.Cond.lays "NextAtBarModel" "NextAtBarModel" "whole" "I") ∈ lw_all := lw_g (lw_at lw_m8 84 rfl) rfl
theorem q1887 : (Jvm.Cond.soleField "NextAtBarModel" "whole") ∈ lw_all := lw_g (lw_at lw_m8 85 rfl) rfl
theorem q1888 : (Jvm.Cond.lays "NextAtBarModel" "NextAtBarModel" "nameSize" "I") ∈ lw_all := lw_g (lw_at lw_m8 86 rfl) rfl
theorem q1889 : (Jvm.Cond.soleField "NextAtBarModel" "nameSize") ∈ lw_all := lw_g (lw_at lw_m8 87 rfl) rfl
theorem q1890 : (Jvm.Cond.lays "NextAtBarModel" "NextAtBarModel" "fault" "I") ∈ lw_all := lw_g (lw_at lw_m8 88 rfl) rfl
theorem q1891 : (Jvm.Cond.soleField "NextAtBarModel" "fault") ∈ lw_all := lw_g (lw_at lw_m8 89 rfl) rfl
theorem q1892 : (Jvm.Cond.lays "NextAtBarModel" "NextAtBarModel" "place" "I") ∈ lw_all := lw_g (lw_at lw_m8 90 rfl) rfl
theorem q1893 : (Jvm.Cond.soleField "NextAtBarModel" "place") ∈ lw_all := lw_g (lw_at lw_m8 91 rfl) rfl
theorem q1894 : (Jvm.Cond.lays "NextAtBarModel" "NextAtBarModel" "trouble" "I") ∈ lw_all := lw_g (lw_at lw_m8 92 rfl) rfl
theorem q1895 : (Jvm.Cond.soleField "NextAtBarModel" "trouble") ∈ lw_all := lw_g (lw_at lw_m8 93 rfl) rfl
theorem q1896 : (Jvm.Cond.laysFinal "NextAtBarModel" "NextAtBarModel" "letters" "[I") ∈ lw_all := lw_g (lw_at lw_m8 94 rfl) rfl
theorem q1897 : (Jvm.Cond.soleField "NextAtBarModel" "letters") ∈ lw_all := lw_g (lw_at lw_m8 95 rfl) rfl
theorem q1898 : (Jvm.Cond.lays "NextAtBarModel" "NextAtBarModel" "failed" "Z") ∈ lw_all := lw_g (lw_at lw_m8 96 rfl) rfl
theorem q1899 : (Jvm.Cond.soleField "NextAtBarModel" "failed") ∈ lw_all := lw_g (lw_at lw_m8 97 rfl) rfl
theorem q1900 : (Jvm.Cond.lays "NextAtBarModel" "NextAtBarModel" "hasHouse" "Z") ∈ lw_all := lw_g (lw_at lw_m8 98 rfl) rfl
theorem q1901 : (Jvm.Cond.soleField "NextAtBarModel" "hasHouse") ∈ lw_all := lw_g (lw_at lw_m8 99 rfl) rfl
theorem q1902 : (Jvm.Cond.laysFinal "NextAtBarModel" "NextAtBarModel" "\x72" "[I") ∈ lw_all := lw_g (lw_at lw_m8 100 rfl) rfl
theorem q1903 : (Jvm.Cond.soleField "NextAtBarModel" "\x72") ∈ lw_all := lw_g (lw_at lw_m8 101 rfl) rfl
theorem q1904 : (Jvm.Cond.laysFinal "NextAtBarModel" "NextAtBarModel" "fresh" "[I") ∈ lw_all := lw_g (lw_at lw_m8 102 rfl) rfl
theorem q1905 : (Jvm.Cond.soleField "NextAtBarModel" "fresh") ∈ lw_all := lw_g (lw_at lw_m8 103 rfl) rfl
theorem q1906 : (Jvm.Cond.laysFinal "NextAtBarModel" "NextAtBarModel" "st" "[I") ∈ lw_all := lw_g (lw_at lw_m8 104 rfl) rfl
theorem q1907 : (Jvm.Cond.soleField "NextAtBarModel" "st") ∈ lw_all := lw_g (lw_at lw_m8 105 rfl) rfl
theorem q1908 : (Jvm.Cond.laysFinal "NextAtBarModel" "NextAtBarModel" "e" "[I") ∈ lw_all := lw_g (lw_at lw_m8 106 rfl) rfl
theorem q1909 : (Jvm.Cond.soleField "NextAtBarModel" "e") ∈ lw_all := lw_g (lw_at lw_m8 107 rfl) rfl
theorem q1910 : (Jvm.Cond.laysFinal "NextAtBarModel" "NextAtBarModel" "undone" "[I") ∈ lw_all := lw_g (lw_at lw_m8 108 rfl) rfl
theorem q1911 : (Jvm.Cond.soleField "NextAtBarModel" "undone") ∈ lw_all := lw_g (lw_at lw_m8 109 rfl) rfl
theorem q1912 : (Jvm.Cond.laysFinal "NextAtBarModel" "NextAtBarModel" "kept" "[I") ∈ lw_all := lw_g (lw_at lw_m8 110 rfl) rfl
theorem q1913 : (Jvm.Cond.soleField "NextAtBarModel" "kept") ∈ lw_all := lw_g (lw_at lw_m8 111 rfl) rfl
theorem q1914 : (Jvm.Cond.lays "NextAtBarModel" "NextAtBarModel" "undos" "I") ∈ lw_all := lw_g (lw_at lw_m8 112 rfl) rfl
theorem q1915 : (Jvm.Cond.soleField "NextAtBarModel" "undos") ∈ lw_all := lw_g (lw_at lw_m8 113 rfl) rfl
theorem q1916 : (Jvm.Cond.lays "NextAtBarModel" "NextAtBarModel" "images" "I") ∈ lw_all := lw_g (lw_at lw_m8 114 rfl) rfl
theorem q1917 : (Jvm.Cond.soleField "NextAtBarModel" "images") ∈ lw_all := lw_g (lw_at lw_m8 115 rfl) rfl
theorem q1918 : (Jvm.Cond.laysFinal "NextAtBarModel" "NextAtBarModel" "crew" "[I") ∈ lw_all := lw_g (lw_at lw_m8 116 rfl) rfl
theorem q1919 : (Jvm.Cond.soleField "NextAtBarModel" "crew") ∈ lw_all := lw_g (lw_at lw_m8 117 rfl) rfl
theorem q1920 : (Jvm.Cond.laysFinal "NextAtBarModel" "NextAtBarModel" "people" "[I") ∈ lw_all := lw_g (lw_at lw_m8 118 rfl) rfl
theorem q1921 : (Jvm.Cond.soleField "NextAtBarModel" "people") ∈ lw_all := lw_g (lw_at lw_m8 119 rfl) rfl
theorem q1922 : (Jvm.Cond.lays "NextAtBarModel" "NextAtBarModel" "crewMany" "I") ∈ lw_all := lw_g (lw_at lw_m8 120 rfl) rfl
theorem q1923 : (Jvm.Cond.soleField "NextAtBarModel" "crewMany") ∈ lw_all := lw_g (lw_at lw_m8 121 rfl) rfl
theorem q1924 : (Jvm.Cond.lays "NextAtBarModel" "NextAtBarModel" "bell" "I") ∈ lw_all := lw_g (lw_at lw_m8 122 rfl) rfl
theorem q1925 : (Jvm.Cond.soleField "NextAtBarModel" "bell") ∈ lw_all := lw_g (lw_at lw_m8 123 rfl) rfl
theorem q1926 : (Jvm.Cond.lays "NextAtBarModel" "NextAtBarModel" "cutPlace" "I") ∈ lw_all := lw_g (lw_at lw_m8 124 rfl) rfl
theorem q1927 : (Jvm.Cond.soleField "NextAtBarModel" "cutPlace") ∈ lw_all := lw_g (lw_at lw_m8 125 rfl) rfl
theorem q1928 : (Jvm.Cond.lays "NextAtBarModel" "NextAtBarModel" "cutLeast" "I") ∈ lw_all := lw_g (lw_at lw_m8 126 rfl) rfl
theorem q1929 : (Jvm.Cond.soleField "NextAtBarModel" "cutLeast") ∈ lw_all := lw_g (lw_at lw_m8 127 rfl) rfl
theorem q1930 : (Jvm.Cond.laysFinal "NextAtBarModel" "NextAtBarModel" "saved" "[I") ∈ lw_all := lw_g (lw_at lw_m8 128 rfl) rfl
theorem q1931 : (Jvm.Cond.soleField "NextAtBarModel" "saved") ∈ lw_all := lw_g (lw_at lw_m8 129 rfl) rfl
theorem q1932 : (Jvm.Cond.laysFinal "NextAtBarModel" "NextAtBarModel" "waited" "[I") ∈ lw_all := lw_g (lw_at lw_m8 130 rfl) rfl
theorem q1933 : (Jvm.Cond.soleField "NextAtBarModel" "waited") ∈ lw_all := lw_g (lw_at lw_m8 131 rfl) rfl
theorem q1934 : (Jvm.Cond.laysFinal "NextAtBarModel" "NextAtBarModel" "orde\x72" "[I") ∈ lw_all := lw_g (lw_at lw_m8 132 rfl) rfl
theorem q1935 : (Jvm.Cond.soleField "NextAtBarModel" "orde\x72") ∈ lw_all := lw_g (lw_at lw_m8 133 rfl) rfl
theorem q1936 : (Jvm.Cond.laysFinal "NextAtBarModel" "NextAtBarModel" "bestOrde\x72" "[I") ∈ lw_all := lw_g (lw_at lw_m8 134 rfl) rfl
theorem q1937 : (Jvm.Cond.soleField "NextAtBarModel" "bestOrde\x72") ∈ lw_all := lw_g (lw_at lw_m8 135 rfl) rfl
theorem q1938 : (Jvm.Cond.lays "NextAtBarModel" "NextAtBarModel" "bestSum" "I") ∈ lw_all := lw_g (lw_at lw_m8 136 rfl) rfl
theorem q1939 : (Jvm.Cond.soleField "NextAtBarModel" "bestSum") ∈ lw_all := lw_g (lw_at lw_m8 137 rfl) rfl
theorem q1940 : (Jvm.Cond.laysFinal "NextAtBarModel" "NextAtBarModel" "ahead" "[Z") ∈ lw_all := lw_g (lw_at lw_m8 138 rfl) rfl
theorem q1941 : (Jvm.Cond.soleField "NextAtBarModel" "ahead") ∈ lw_all := lw_g (lw_at lw_m8 139 rfl) rfl
theorem q1942 : (Jvm.Cond.superclass "NextAtBarModel" "java/lang/Object") ∈ lw_all := lw_g (lw_at lw_m8 140 rfl) rfl
theorem q1944 : (Jvm.Cond.instanceMethod ({ cls := "NextAtBarModel", name := "thrown", desc := "()I" } : Jvm.MethodName)) ∈ lw_all := lw_g (lw_at lw_m8 142 rfl) rfl
theorem q1945 : (Jvm.Cond.selects "NextAtBarModel" ({ cls := "NextAtBarModel", name := "thrown", desc := "()I" } : Jvm.MethodName) ({ cls := "NextAtBarModel", name := "thrown", desc := "()I" } : Jvm.MethodName)) ∈ lw_all := lw_g (lw_at lw_m8 143 rfl) rfl
theorem q1946 : (Jvm.Cond.code ({ cls := "NextAtBarModel", name := "thrown", desc := "()I" } : Jvm.MethodName) prog_24_method_2_code (1 : Nat) (Option.some Jvm.ClassFile.FieldType.int)) ∈ lw_all := lw_g (lw_at lw_m8 144 rfl) rfl
theorem q1948 : (Jvm.Cond.instanceMethod ({ cls := "NextAtBarModel", name := "feed", desc := "(IIIII)I" } : Jvm.MethodName)) ∈ lw_all := lw_g (lw_at lw_m8 146 rfl) rfl
theorem q1949 : (Jvm.Cond.selects "NextAtBarModel" ({ cls := "NextAtBarModel", name := "feed", desc := "(IIIII)I" } : Jvm.MethodName) ({ cls := "NextAtBarModel", name := "feed", desc := "(IIIII)I" } : Jvm.MethodName)) ∈ lw_all := lw_g (lw_at lw_m8 147 rfl) rfl
theorem q1950 : (Jvm.Cond.code ({ cls := "NextAtBarModel", name := "feed", desc := "(IIIII)I" } : Jvm.MethodName) prog_24_method_11_code (8 : Nat) (Option.some Jvm.ClassFile.FieldType.int)) ∈ lw_all := lw_g (lw_at lw_m8 148 rfl) rfl
theorem q1952 : (Jvm.Cond.instanceMethod ({ cls := "NextAtBarModel", name := "house", desc := "(I)I" } : Jvm.MethodName)) ∈ lw_all := lw_g (lw_at lw_m8 150 rfl) rfl
theorem q1953 : (Jvm.Cond.selects "NextAtBarModel" ({ cls := "NextAtBarModel", name := "house", desc := "(I)I" } : Jvm.MethodName) ({ cls := "NextAtBarModel", name := "house", desc := "(I)I" } : Jvm.MethodName)) ∈ lw_all := lw_g (lw_at lw_m8 151 rfl) rfl
theorem q1954 : (Jvm.Cond.code ({ cls := "NextAtBarModel", name := "house", desc := "(I)I" } : Jvm.MethodName) prog_24_method_29_code (3 : Nat) (Option.some Jvm.ClassFile.FieldType.int)) ∈ lw_all := lw_g (lw_at lw_m8 152 rfl) rfl
theorem q1955 : (Jvm.Cond.methodLink "NextAtBarModel" (165 : Nat) ({ cls := "NextAtBarModel", name := "good", desc := "()V" } : Jvm.MethodName)) ∈ lw_all := lw_g (lw_at lw_m8 153 rfl) rfl
theorem q1956 : (Jvm.Cond.privateMethod ({ cls := "NextAtBarModel", name := "good", desc := "()V" } : Jvm.MethodName)) ∈ lw_tbl := lw_at lw_m8 154 rfl
theorem q1957 : (Jvm.Cond.instanceMethod ({ cls := "NextAtBarModel", name := "good", desc := "()V" } : Jvm.MethodName)) ∈ lw_all := lw_g (lw_at lw_m8 155 rfl) rfl
theorem q1958 : (Jvm.Cond.code ({ cls := "NextAtBarModel", name := "good", desc := "()V" } : Jvm.MethodName) prog_24_method_3_code (1 : Nat) (Option.none : Option Jvm.ClassFile.FieldType)) ∈ lw_all := lw_g (lw_at lw_m8 156 rfl) rfl
theorem q1959 : (Jvm.Cond.methodLink "NextAtBarModel" (147 : Nat) ({ cls := "NextAtBarModel", name := "within", desc := "(III)Z" } : Jvm.MethodName)) ∈ lw_all := lw_g (lw_at lw_m8 157 rfl) rfl
theorem q1960 : (Jvm.Cond.static ({ cls := "NextAtBarModel", name := "within", desc := "(III)Z" } : Jvm.MethodName)) ∈ lw_all := lw_g (lw_at lw_m8 158 rfl) rfl
theorem q1961 : (Jvm.Cond.code ({ cls := "NextAtBarModel", name := "within", desc := "(III)Z" } : Jvm.MethodName) prog_24_method_7_code (3 : Nat) (Option.some Jvm.ClassFile.FieldType.boolean)) ∈ lw_all := lw_g (lw_at lw_m8 159 rfl) rfl
theorem q1962 : (Jvm.Cond.methodLink "NextAtBarModel" (168 : Nat) ({ cls := "NextAtBarModel", name := "no", desc := "(I)I" } : Jvm.MethodName)) ∈ lw_all := lw_g (lw_at lw_m8 160 rfl) rfl
theorem q1963 : (Jvm.Cond.privateMethod ({ cls := "NextAtBarModel", name := "no", desc := "(I)I" } : Jvm.MethodName)) ∈ lw_tbl := lw_at lw_m8 161 rfl
theorem q1964 : (Jvm.Cond.instanceMethod ({ cls := "NextAtBarModel", name := "no", desc := "(I)I" } : Jvm.MethodName)) ∈ lw_all := lw_g (lw_at lw_m8 162 rfl) rfl
theorem q1965 : (Jvm.Cond.code ({ cls := "NextAtBarModel", name := "no", desc := "(I)I" } : Jvm.MethodName) prog_24_method_4_code (2 : Nat) (Option.some Jvm.ClassFile.FieldType.int)) ∈ lw_all := lw_g (lw_at lw_m8 163 rfl) rfl
theorem q1966 : (Jvm.Cond.methodLink "NextAtBarModel" (119 : Nat) ({ cls := "NextAtBarModel", name := "nextToken", desc := "()V" } : Jvm.MethodName)) ∈ lw_all := lw_g (lw_at lw_m8 164 rfl) rfl
theorem q1967 : (Jvm.Cond.privateMethod ({ cls := "NextAtBarModel", name := "nextToken", desc := "()V" } : Jvm.MethodName)) ∈ lw_tbl := lw_at lw_m8 165 rfl
theorem q1968 : (Jvm.Cond.instanceMethod ({ cls := "NextAtBarModel", name := "nextToken", desc := "()V" } : Jvm.MethodName)) ∈ lw_all := lw_g (lw_at lw_m8 166 rfl) rfl
theorem q1969 : (Jvm.Cond.code ({ cls := "NextAtBarModel", name := "nextToken", desc := "()V" } : Jvm.MethodName) prog_24_method_15_code (4 : Nat) (Option.none : Option Jvm.ClassFile.FieldType)) ∈ lw_all := lw_g (lw_at lw_m8 167 rfl) rfl
theorem q1970 : (Jvm.Cond.methodLink "NextAtBarModel" (75 : Nat) ({ cls := "NextAtBarModel", name := "seen", desc := "(I)I" } : Jvm.MethodName)) ∈ lw_all := lw_g (lw_at lw_m8 168 rfl) rfl
theorem q1971 : (Jvm.Cond.privateMethod ({ cls := "NextAtBarModel", name := "seen", desc := "(I)I" } : Jvm.MethodName)) ∈ lw_tbl := lw_at lw_m8 169 rfl
theorem q1972 : (Jvm.Cond.instanceMethod ({ cls := "NextAtBarModel", name := "seen", desc := "(I)I" } : Jvm.MethodName)) ∈ lw_all := lw_g (lw_at lw_m8 170 rfl) rfl
theorem q1973 : (Jvm.Cond.code ({ cls := "NextAtBarModel", name := "seen", desc := "(I)I" } : Jvm.MethodName) prog_24_method_12_code (2 : Nat) (Option.some Jvm.ClassFile.FieldType.int)) ∈ lw_all := lw_g (lw_at lw_m8 171 rfl) rfl
theorem q1974 : (Jvm.Cond.methodLink "NextAtBarModel" (91 : Nat) ({ cls := "NextAtBarModel", name := "isSmall", desc := "(I)Z" } : Jvm.MethodName)) ∈ lw_all := lw_g (lw_at lw_m8 172 rfl) rfl
theorem q1975 : (Jvm.Cond.static ({ cls := "NextAtBarModel", name := "isSmall", desc := "(I)Z" } : Jvm.MethodName)) ∈ lw_all := lw_g (lw_at lw_m8 173 rfl) rfl
theorem q1976 : (Jvm.Cond.code ({ cls := "NextAtBarModel", name := "isSmall", desc := "(I)Z" } : Jvm.MethodName) prog_24_method_13_code (1 : Nat) (Option.some Jvm.ClassFile.FieldType.boolean)) ∈ lw_all := lw_g (lw_at lw_m8 174 rfl) rfl
theorem q1977 : (Jvm.Cond.methodLink "NextAtBarModel" (95 : Nat) ({ cls := "NextAtBarModel", name := "isDigit", desc := "(I)Z" } : Jvm.MethodName)) ∈ lw_all := lw_g (lw_at lw_m8 175 rfl) rfl
theorem q1978 : (Jvm.Cond.static ({ cls := "NextAtBarModel", name := "isDigit", desc := "(I)Z" } : Jvm.MethodName)) ∈ lw_all := lw_g (lw_at lw_m8 176 rfl) rfl
theorem q1979 : (Jvm.Cond.code ({ cls := "NextAtBarModel", name := "isDigit", desc := "(I)Z" } : Jvm.MethodName) prog_24_method_14_code (1 : Nat) (Option.some Jvm.ClassFile.FieldType.boolean)) ∈ lw_all := lw_g (lw_at lw_m8 177 rfl) rfl
theorem q1980 : (Jvm.Cond.methodLink "NextAtBarModel" (171 : Nat) ({ cls := "NextAtBarModel", name := "readLine", desc := "()V" } : Jvm.MethodName)) ∈ lw_all := lw_g (lw_at lw_m8 178 rfl) rfl
theorem q1981 : (Jvm.Cond.privateMethod ({ cls := "NextAtBarModel", name := "readLine", desc := "()V" } : Jvm.MethodName)) ∈ lw_tbl := lw_at lw_m8 179 rfl
theorem q1982 : (Jvm.Cond.instanceMethod ({ cls := "NextAtBarModel", name := "readLine", desc := "()V" } : Jvm.MethodName)) ∈ lw_all := lw_g (lw_at lw_m8 180 rfl) rfl
theorem q1983 : (Jvm.Cond.code ({ cls := "NextAtBarModel", name := "readLine", desc := "()V" } : Jvm.MethodName) prog_24_method_31_code (1 : Nat) (Option.none : Option Jvm.ClassFile.FieldType)) ∈ lw_all := lw_g (lw_at lw_m8 181 rfl) rfl
theorem q1984 : (Jvm.Cond.stringRef "NextAtBarModel" (129 : Nat) "house") ∈ lw_tbl := lw_at lw_m8 182 rfl
theorem q1985 : (Jvm.Cond.methodLink "NextAtBarModel" (115 : Nat) ({ cls := "NextAtBarModel", name := "isWord", desc := "(Ljava/lang/String;)Z" } : Jvm.MethodName)) ∈ lw_all := lw_g (lw_at lw_m8 183 rfl) rfl
theorem q1986 : (Jvm.Cond.privateMethod ({ cls := "NextAtBarModel", name := "isWord", desc := "(Ljava/lang/String;)Z" } : Jvm.MethodName)) ∈ lw_tbl := lw_at lw_m8 184 rfl
theorem q1987 : (Jvm.Cond.instanceMethod ({ cls := "NextAtBarModel", name := "isWord", desc := "(Ljava/lang/String;)Z" } : Jvm.MethodName)) ∈ lw_all := lw_g (lw_at lw_m8 185 rfl) rfl
theorem q1988 : (Jvm.Cond.code ({ cls := "NextAtBarModel", name := "isWord", desc := "(Ljava/lang/String;)Z" } : Jvm.MethodName) prog_24_method_17_code (4 : Nat) (Option.some Jvm.ClassFile.FieldType.boolean)) ∈ lw_all := lw_g (lw_at lw_m8 186 rfl) rfl
theorem q1989 : (Jvm.Cond.methodLink "NextAtBarModel" (105 : Nat) ({ cls := "java/lang/String", name := "length", desc := "()I" } : Jvm.MethodName)) ∈ lw_all := lw_g (lw_at lw_m8 187 rfl) rfl
theorem q1997 : (Jvm.Cond.methodLink "NextAtBarModel" (111 : Nat) ({ cls := "java/lang/String", name := "charAt", desc := "(I)C" } : Jvm.MethodName)) ∈ lw_all := lw_g (lw_at lw_m8 195 rfl) rfl
theorem q2008 : (Jvm.Cond.methodLink "NextAtBarModel" (194 : Nat) ({ cls := "NextAtBarModel", name := "houseLine", desc := "()V" } : Jvm.MethodName)) ∈ lw_all := lw_g (lw_at lw_m8 206 rfl) rfl
theorem q2009 : (Jvm.Cond.privateMethod ({ cls := "NextAtBarModel", name := "houseLine", desc := "()V" } : Jvm.MethodName)) ∈ lw_tbl := lw_at lw_m8 207 rfl
theorem q2010 : (Jvm.Cond.instanceMethod ({ cls := "NextAtBarModel", name := "houseLine", desc := "()V" } : Jvm.MethodName)) ∈ lw_all := lw_g (lw_at lw_m8 208 rfl) rfl
theorem q2011 : (Jvm.Cond.code ({ cls := "NextAtBarModel", name := "houseLine", desc := "()V" } : Jvm.MethodName) prog_24_method_32_code (1 : Nat) (Option.none : Option Jvm.ClassFile.FieldType)) ∈ lw_all := lw_g (lw_at lw_m8 209 rfl) rfl
theorem q2012 : (Jvm.Cond.methodLink "NextAtBarModel" (125 : Nat) ({ cls := "NextAtBarModel", name := "wrong", desc := "(II)V" } : Jvm.MethodName)) ∈ lw_all := lw_g (lw_at lw_m8 210 rfl) rfl
theorem q2013 : (Jvm.Cond.privateMethod ({ cls := "NextAtBarModel", name := "wrong", desc := "(II)V" } : Jvm.MethodName)) ∈ lw_tbl := lw_at lw_m8 211 rfl
theorem q2014 : (Jvm.Cond.instanceMethod ({ cls := "NextAtBarModel", name := "wrong", desc := "(II)V" } : Jvm.MethodName)) ∈ lw_all := lw_g (lw_at lw_m8 212 rfl) rfl
theorem q2015 : (Jvm.Cond.code ({ cls := "NextAtBarModel", name := "wrong", desc := "(II)V" } : Jvm.MethodName) prog_24_method_16_code (3 : Nat) (Option.none : Option Jvm.ClassFile.FieldType)) ∈ lw_all := lw_g (lw_at lw_m8 213 rfl) rfl
theorem q2016 : (Jvm.Cond.stringRef "NextAtBarModel" (216 : Nat) "long") ∈ lw_tbl := lw_at lw_m8 214 rfl
theorem q2017 : (Jvm.Cond.methodLink "NextAtBarModel" (218 : Nat) ({ cls := "NextAtBarModel", name := "afte\x72", desc := "(Ljava/lang/String;II)I" } : Jvm.MethodName)) ∈ lw_all := lw_g (lw_at lw_m8 215 rfl) rfl
theorem q2018 : (Jvm.Cond.privateMethod ({ cls := "NextAtBarModel", name := "afte\x72", desc := "(Ljava/lang/String;II)I" } : Jvm.MethodName)) ∈ lw_tbl := lw_at lw_m8 216 rfl
theorem q2019 : (Jvm.Cond.instanceMethod ({ cls := "NextAtBarModel", name := "afte\x72", desc := "(Ljava/lang/String;II)I" } : Jvm.MethodName)) ∈ lw_all := lw_g (lw_at lw_m8 217 rfl) rfl
theorem q2020 : (Jvm.Cond.code ({ cls := "NextAtBarModel", name := "afte\x72", desc := "(Ljava/lang/String;II)I" } : Jvm.MethodName) prog_24_method_27_code (4 : Nat) (Option.some Jvm.ClassFile.FieldType.int)) ∈ lw_all := lw_g (lw_at lw_m8 218 rfl) rfl
theorem q2021 : (Jvm.Cond.methodLink "NextAtBarModel" (158 : Nat) ({ cls := "NextAtBarModel", name := "must", desc := "(Ljava/lang/String;)V" } : Jvm.MethodName)) ∈ lw_all := lw_g (lw_at lw_m8 219 rfl) rfl
theorem q2022 : (Jvm.Cond.privateMethod ({ cls := "NextAtBarModel", name := "must", desc := "(Ljava/lang/String;)V" } : Jvm.MethodName)) ∈ lw_tbl := lw_at lw_m8 220 rfl
theorem q2023 : (Jvm.Cond.instanceMethod ({ cls := "NextAtBarModel", name := "must", desc := "(Ljava/lang/String;)V" } : Jvm.MethodName)) ∈ lw_all := lw_g (lw_at lw_m8 221 rfl) rfl
theorem q2024 : (Jvm.Cond.code ({ cls := "NextAtBarModel", name := "must", desc := "(Ljava/lang/String;)V" } : Jvm.MethodName) prog_24_method_19_code (2 : Nat) (Option.none : Option Jvm.ClassFile.FieldType)) ∈ lw_all := lw_g (lw_at lw_m8 222 rfl) rfl
theorem q2025 : (Jvm.Cond.methodLink "NextAtBarModel" (122 : Nat) ({ cls := "NextAtBarModel", name := "takesWord", desc := "(Ljava/lang/String;)Z" } : Jvm.MethodName)) ∈ lw_all := lw_g (lw_at lw_m8 223 rfl) rfl
theorem q2026 : (Jvm.Cond.privateMethod ({ cls := "NextAtBarModel", name := "takesWord", desc := "(Ljava/lang/String;)Z" } : Jvm.MethodName)) ∈ lw_tbl := lw_at lw_m8 224 rfl
theorem q2027 : (Jvm.Cond.instanceMethod ({ cls := "NextAtBarModel", name := "takesWord", desc := "(Ljava/lang/String;)Z" } : Jvm.MethodName)) ∈ lw_all := lw_g (lw_at lw_m8 225 rfl) rfl
theorem q2028 : (Jvm.Cond.code ({ cls := "NextAtBarModel", name := "takesWord", desc := "(Ljava/lang/String;)Z" } : Jvm.MethodName) prog_24_method_18_code (2 : Nat) (Option.some Jvm.ClassFile.FieldType.boolean)) ∈ lw_all := lw_g (lw_at lw_m8 226 rfl) rfl
theorem q2029 : (Jvm.Cond.methodLink "NextAtBarModel" (162 : Nat) ({ cls := "NextAtBarModel", name := "numbe\x72", desc := "(II)I" } : Jvm.MethodName)) ∈ lw_all := lw_g (lw_at lw_m8 227 rfl) rfl
theorem q2030 : (Jvm.Cond.privateMethod ({ cls := "NextAtBarModel", name := "numbe\x72", desc := "(II)I" } : Jvm.MethodName)) ∈ lw_tbl := lw_at lw_m8 228 rfl
theorem q2031 : (Jvm.Cond.instanceMethod ({ cls := "NextAtBarModel", name := "numbe\x72", desc := "(II)I" } : Jvm.MethodName)) ∈ lw_all := lw_g (lw_at lw_m8 229 rfl) rfl
theorem q2032 : (Jvm.Cond.code ({ cls := "NextAtBarModel", name := "numbe\x72", desc := "(II)I" } : Jvm.MethodName) prog_24_method_26_code (4 : Nat) (Option.some Jvm.ClassFile.FieldType.int)) ∈ lw_all := lw_g (lw_at lw_m8 230 rfl) rfl
theorem q2033 : (Jvm.Cond.stringRef "NextAtBarModel" (222 : Nat) "bell") ∈ lw_tbl := lw_at lw_m8 231 rfl
theorem q2034 : (Jvm.Cond.stringRef "NextAtBarModel" (131 : Nat) "drink") ∈ lw_tbl := lw_at lw_m8 232 rfl
theorem q2035 : (Jvm.Cond.methodLink "NextAtBarModel" (197 : Nat) ({ cls := "NextAtBarModel", name := "begins", desc := "(Ljava/lang/String;Z)Z" } : Jvm.MethodName)) ∈ lw_all := lw_g (lw_at lw_m8 233 rfl) rfl
theorem q2036 : (Jvm.Cond.privateMethod ({ cls := "NextAtBarModel", name := "begins", desc := "(Ljava/lang/String;Z)Z" } : Jvm.MethodName)) ∈ lw_tbl := lw_at lw_m8 234 rfl
theorem q2037 : (Jvm.Cond.instanceMethod ({ cls := "NextAtBarModel", name := "begins", desc := "(Ljava/lang/String;Z)Z" } : Jvm.MethodName)) ∈ lw_all := lw_g (lw_at lw_m8 235 rfl) rfl
theorem q2038 : (Jvm.Cond.code ({ cls := "NextAtBarModel", name := "begins", desc := "(Ljava/lang/String;Z)Z" } : Jvm.MethodName) prog_24_method_30_code (3 : Nat) (Option.some Jvm.ClassFile.FieldType.boolean)) ∈ lw_all := lw_g (lw_at lw_m8 236 rfl) rfl
theorem q2039 : (Jvm.Cond.methodLink "NextAtBarModel" (201 : Nat) ({ cls := "NextAtBarModel", name := "drinkLine", desc := "()V" } : Jvm.MethodName)) ∈ lw_all := lw_g (lw_at lw_m8 237 rfl) rfl
theorem q2040 : (Jvm.Cond.privateMethod ({ cls := "NextAtBarModel", name := "drinkLine", desc := "()V" } : Jvm.MethodName)) ∈ lw_tbl := lw_at lw_m8 238 rfl
theorem q2041 : (Jvm.Cond.instanceMethod ({ cls := "NextAtBarModel", name := "drinkLine", desc := "()V" } : Jvm.MethodName)) ∈ lw_all := lw_g (lw_at lw_m8 239 rfl) rfl
theorem q2042 : (Jvm.Cond.code ({ cls := "NextAtBarModel", name := "drinkLine", desc := "()V" } : Jvm.MethodName) prog_24_method_33_code (2 : Nat) (Option.none : Option Jvm.ClassFile.FieldType)) ∈ lw_all := lw_g (lw_at lw_m9 0 rfl) rfl
theorem q2043 : (Jvm.Cond.methodLink "NextAtBarModel" (224 : Nat) ({ cls := "NextAtBarModel", name := "newName", desc := "(I)V" } : Jvm.MethodName)) ∈ lw_all := lw_g (lw_at lw_m9 1 rfl) rfl
theorem q2044 : (Jvm.Cond.privateMethod ({ cls := "NextAtBarModel", name := "newName", desc := "(I)V" } : Jvm.MethodName)) ∈ lw_tbl := lw_at lw_m9 2 rfl
theorem q2045 : (Jvm.Cond.instanceMethod ({ cls := "NextAtBarModel", name := "newName", desc := "(I)V" } : Jvm.MethodName)) ∈ lw_all := lw_g (lw_at lw_m9 3 rfl) rfl
theorem q2046 : (Jvm.Cond.code ({ cls := "NextAtBarModel", name := "newName", desc := "(I)V" } : Jvm.MethodName) prog_24_method_22_code (3 : Nat) (Option.none : Option Jvm.ClassFile.FieldType)) ∈ lw_all := lw_g (lw_at lw_m9 4 rfl) rfl
theorem q2047 : (Jvm.Cond.methodLink "NextAtBarModel" (141 : Nat) ({ cls := "NextAtBarModel", name := "mustName", desc := "()V" } : Jvm.MethodName)) ∈ lw_all := lw_g (lw_at lw_m9 5 rfl) rfl
theorem q2048 : (Jvm.Cond.privateMethod ({ cls := "NextAtBarModel", name := "mustName", desc := "()V" } : Jvm.MethodName)) ∈ lw_tbl := lw_at lw_m9 6 rfl
theorem q2049 : (Jvm.Cond.instanceMethod ({ cls := "NextAtBarModel", name := "mustName", desc := "()V" } : Jvm.MethodName)) ∈ lw_all := lw_g (lw_at lw_m9 7 rfl) rfl
theorem q2050 : (Jvm.Cond.code ({ cls := "NextAtBarModel", name := "mustName", desc := "()V" } : Jvm.MethodName) prog_24_method_20_code (2 : Nat) (Option.none : Option Jvm.ClassFile.FieldType)) ∈ lw_all := lw_g (lw_at lw_m9 8 rfl) rfl
theorem q2051 : (Jvm.Cond.stringRef "NextAtBarModel" (133 : Nat) "staff") ∈ lw_tbl := lw_at lw_m9 9 rfl
theorem q2052 : (Jvm.Cond.stringRef "NextAtBarModel" (135 : Nat) "person") ∈ lw_tbl := lw_at lw_m9 10 rfl
theorem q2053 : (Jvm.Cond.stringRef "NextAtBarModel" (137 : Nat) "shelf") ∈ lw_tbl := lw_at lw_m9 11 rfl
theorem q2054 : (Jvm.Cond.stringRef "NextAtBarModel" (139 : Nat) "says") ∈ lw_tbl := lw_at lw_m9 12 rfl
theorem q2055 : (Jvm.Cond.methodLink "NextAtBarModel" (144 : Nat) ({ cls := "NextAtBarModel", name := "find", desc := "()I" } : Jvm.MethodName)) ∈ lw_all := lw_g (lw_at lw_m9 13 rfl) rfl
theorem q2056 : (Jvm.Cond.privateMethod ({ cls := "NextAtBarModel", name := "find", desc := "()I" } : Jvm.MethodName)) ∈ lw_tbl := lw_at lw_m9 14 rfl
theorem q2057 : (Jvm.Cond.instanceMethod ({ cls := "NextAtBarModel", name := "find", desc := "()I" } : Jvm.MethodName)) ∈ lw_all := lw_g (lw_at lw_m9 15 rfl) rfl
theorem q2058 : (Jvm.Cond.code ({ cls := "NextAtBarModel", name := "find", desc := "()I" } : Jvm.MethodName) prog_24_method_21_code (4 : Nat) (Option.some Jvm.ClassFile.FieldType.int)) ∈ lw_all := lw_g (lw_at lw_m9 16 rfl) rfl
theorem q2059 : (Jvm.Cond.stringRef "NextAtBarModel" (228 : Nat) "takes") ∈ lw_tbl := lw_at lw_m9 17 rfl
theorem q2060 : (Jvm.Cond.stringRef "NextAtBarModel" (230 : Nat) "then") ∈ lw_tbl := lw_at lw_m9 18 rfl
theorem q2061 : (Jvm.Cond.stringRef "NextAtBarModel" (232 : Nat) "costs") ∈ lw_tbl := lw_at lw_m9 19 rfl
theorem q2062 : (Jvm.Cond.methodLink "NextAtBarModel" (204 : Nat) ({ cls := "NextAtBarModel", name := "staffLine", desc := "()V" } : Jvm.MethodName)) ∈ lw_all := lw_g (lw_at lw_m9 20 rfl) rfl
theorem q2063 : (Jvm.Cond.privateMethod ({ cls := "NextAtBarModel", name := "staffLine", desc := "()V" } : Jvm.MethodName)) ∈ lw_tbl := lw_at lw_m9 21 rfl
theorem q2064 : (Jvm.Cond.instanceMethod ({ cls := "NextAtBarModel", name := "staffLine", desc := "()V" } : Jvm.MethodName)) ∈ lw_all := lw_g (lw_at lw_m9 22 rfl) rfl
theorem q2065 : (Jvm.Cond.code ({ cls := "NextAtBarModel", name := "staffLine", desc := "()V" } : Jvm.MethodName) prog_24_method_34_code (3 : Nat) (Option.none : Option Jvm.ClassFile.FieldType)) ∈ lw_all := lw_g (lw_at lw_m9 23 rfl) rfl
theorem q2066 : (Jvm.Cond.stringRef "NextAtBarModel" (234 : Nat) "row") ∈ lw_tbl := lw_at lw_m9 24 rfl
theorem q2067 : (Jvm.Cond.stringRef "NextAtBarModel" (236 : Nat) "nea\x72") ∈ lw_tbl := lw_at lw_m9 25 rfl
theorem q2068 : (Jvm.Cond.stringRef "NextAtBarModel" (238 : Nat) "eye") ∈ lw_tbl := lw_at lw_m9 26 rfl
theorem q2069 : (Jvm.Cond.stringRef "NextAtBarModel" (240 : Nat) "asked") ∈ lw_tbl := lw_at lw_m9 27 rfl
theorem q2070 : (Jvm.Cond.stringRef "NextAtBarModel" (242 : Nat) "regula\x72") ∈ lw_tbl := lw_at lw_m9 28 rfl
theorem q2071 : (Jvm.Cond.stringRef "NextAtBarModel" (244 : Nat) "at") ∈ lw_tbl := lw_at lw_m9 29 rfl
theorem q2072 : (Jvm.Cond.stringRef "NextAtBarModel" (245 : Nat) "from") ∈ lw_tbl := lw_at lw_m9 30 rfl
theorem q2073 : (Jvm.Cond.stringRef "NextAtBarModel" (247 : Nat) "to") ∈ lw_tbl := lw_at lw_m9 31 rfl
theorem q2074 : (Jvm.Cond.stringRef "NextAtBarModel" (249 : Nat) "step") ∈ lw_tbl := lw_at lw_m9 32 rfl
theorem q2075 : (Jvm.Cond.stringRef "NextAtBarModel" (251 : Nat) "hands") ∈ lw_tbl := lw_at lw_m9 33 rfl
theorem q2076 : (Jvm.Cond.methodLink "NextAtBarModel" (207 : Nat) ({ cls := "NextAtBarModel", name := "personLine", desc := "()V" } : Jvm.MethodName)) ∈ lw_all := lw_g (lw_at lw_m9 34 rfl) rfl
theorem q2077 : (Jvm.Cond.privateMethod ({ cls := "NextAtBarModel", name := "personLine", desc := "()V" } : Jvm.MethodName)) ∈ lw_tbl := lw_at lw_m9 35 rfl
theorem q2078 : (Jvm.Cond.instanceMethod ({ cls := "NextAtBarModel", name := "personLine", desc := "()V" } : Jvm.MethodName)) ∈ lw_all := lw_g (lw_at lw_m9 36 rfl) rfl
theorem q2079 : (Jvm.Cond.code ({ cls := "NextAtBarModel", name := "personLine", desc := "()V" } : Jvm.MethodName) prog_24_method_35_code (7 : Nat) (Option.none : Option Jvm.ClassFile.FieldType)) ∈ lw_all := lw_g (lw_at lw_m9 37 rfl) rfl
theorem q2080 : (Jvm.Cond.stringRef "NextAtBarModel" (253 : Nat) "honest") ∈ lw_tbl := lw_at lw_m9 38 rfl
theorem q2081 : (Jvm.Cond.stringRef "NextAtBarModel" (255 : Nat) "lia\x72") ∈ lw_tbl := lw_at lw_m9 39 rfl
theorem q2082 : (Jvm.Cond.stringRef "NextAtBarModel" (257 : Nat) "polite") ∈ lw_tbl := lw_at lw_m9 40 rfl
theorem q2083 : (Jvm.Cond.stringRef "NextAtBarModel" (259 : Nat) "comes") ∈ lw_tbl := lw_at lw_m9 41 rfl
theorem q2084 : (Jvm.Cond.stringRef "NextAtBarModel" (261 : Nat) "patience") ∈ lw_tbl := lw_at lw_m9 42 rfl
theorem q2085 : (Jvm.Cond.stringRef "NextAtBarModel" (263 : Nat) "look") ∈ lw_tbl := lw_at lw_m9 43 rfl
theorem q2086 : (Jvm.Cond.stringRef "NextAtBarModel" (265 : Nat) "wants") ∈ lw_tbl := lw_at lw_m9 44 rfl
theorem q2087 : (Jvm.Cond.methodLink "NextAtBarModel" (151 : Nat) ({ cls := "NextAtBarModel", name := "named", desc := "(II)I" } : Jvm.MethodName)) ∈ lw_all := lw_g (lw_at lw_m9 45 rfl) rfl
theorem q2088 : (Jvm.Cond.privateMethod ({ cls := "NextAtBarModel", name := "named", desc := "(II)I" } : Jvm.MethodName)) ∈ lw_tbl := lw_at lw_m9 46 rfl
theorem q2089 : (Jvm.Cond.instanceMethod ({ cls := "NextAtBarModel", name := "named", desc := "(II)I" } : Jvm.MethodName)) ∈ lw_all := lw_g (lw_at lw_m9 47 rfl) rfl
theorem q2090 : (Jvm.Cond.code ({ cls := "NextAtBarModel", name := "named", desc := "(II)I" } : Jvm.MethodName) prog_24_method_23_code (4 : Nat) (Option.some Jvm.ClassFile.FieldType.int)) ∈ lw_all := lw_g (lw_at lw_m9 48 rfl) rfl
theorem q2091 : (Jvm.Cond.methodLink "NextAtBarModel" (267 : Nat) ({ cls := "NextAtBarModel", name := "comma", desc := "()Z" } : Jvm.MethodName)) ∈ lw_all := lw_g (lw_at lw_m9 49 rfl) rfl
theorem q2092 : (Jvm.Cond.privateMethod ({ cls := "NextAtBarModel", name := "comma", desc := "()Z" } : Jvm.MethodName)) ∈ lw_tbl := lw_at lw_m9 50 rfl
theorem q2093 : (Jvm.Cond.instanceMethod ({ cls := "NextAtBarModel", name := "comma", desc := "()Z" } : Jvm.MethodName)) ∈ lw_all := lw_g (lw_at lw_m9 51 rfl) rfl
theorem q2094 : (Jvm.Cond.code ({ cls := "NextAtBarModel", name := "comma", desc := "()Z" } : Jvm.MethodName) prog_24_method_28_code (1 : Nat) (Option.some Jvm.ClassFile.FieldType.boolean)) ∈ lw_all := lw_g (lw_at lw_m9 52 rfl) rfl
theorem q2095 : (Jvm.Cond.methodLink "NextAtBarModel" (210 : Nat) ({ cls := "NextAtBarModel", name := "shelfLine", desc := "()V" } : Jvm.MethodName)) ∈ lw_all := lw_g (lw_at lw_m9 53 rfl) rfl
theorem q2096 : (Jvm.Cond.privateMethod ({ cls := "NextAtBarModel", name := "shelfLine", desc := "()V" } : Jvm.MethodName)) ∈ lw_tbl := lw_at lw_m9 54 rfl
theorem q2097 : (Jvm.Cond.instanceMethod ({ cls := "NextAtBarModel", name := "shelfLine", desc := "()V" } : Jvm.MethodName)) ∈ lw_all := lw_g (lw_at lw_m9 55 rfl) rfl
theorem q2098 : (Jvm.Cond.code ({ cls := "NextAtBarModel", name := "shelfLine", desc := "()V" } : Jvm.MethodName) prog_24_method_36_code (3 : Nat) (Option.none : Option Jvm.ClassFile.FieldType)) ∈ lw_all := lw_g (lw_at lw_m9 56 rfl) rfl
theorem q2099 : (Jvm.Cond.methodLink "NextAtBarModel" (155 : Nat) ({ cls := "NextAtBarModel", name := "personHere", desc := "()I" } : Jvm.MethodName)) ∈ lw_all := lw_g (lw_at lw_m9 57 rfl) rfl
theorem q2100 : (Jvm.Cond.privateMethod ({ cls := "NextAtBarModel", name := "personHere", desc := "()I" } : Jvm.MethodName)) ∈ lw_tbl := lw_at lw_m9 58 rfl
theorem q2101 : (Jvm.Cond.instanceMethod ({ cls := "NextAtBarModel", name := "personHere", desc := "()I" } : Jvm.MethodName)) ∈ lw_all := lw_g (lw_at lw_m9 59 rfl) rfl
theorem q2102 : (Jvm.Cond.code ({ cls := "NextAtBarModel", name := "personHere", desc := "()I" } : Jvm.MethodName) prog_24_method_24_code (1 : Nat) (Option.some Jvm.ClassFile.FieldType.int)) ∈ lw_all := lw_g (lw_at lw_m9 60 rfl) rfl
theorem q2103 : (Jvm.Cond.stringRef "NextAtBarModel" (271 : Nat) "ready") ∈ lw_tbl := lw_at lw_m9 61 rfl
theorem q2104 : (Jvm.Cond.methodLink "NextAtBarModel" (213 : Nat) ({ cls := "NextAtBarModel", name := "saysLine", desc := "()V" } : Jvm.MethodName)) ∈ lw_all := lw_g (lw_at lw_m9 62 rfl) rfl
theorem q2105 : (Jvm.Cond.privateMethod ({ cls := "NextAtBarModel", name := "saysLine", desc := "()V" } : Jvm.MethodName)) ∈ lw_tbl := lw_at lw_m9 63 rfl
theorem q2106 : (Jvm.Cond.instanceMethod ({ cls := "NextAtBarModel", name := "saysLine", desc := "()V" } : Jvm.MethodName)) ∈ lw_all := lw_g (lw_at lw_m9 64 rfl) rfl
theorem q2107 : (Jvm.Cond.code ({ cls := "NextAtBarModel", name := "saysLine", desc := "()V" } : Jvm.MethodName) prog_24_method_37_code (3 : Nat) (Option.none : Option Jvm.ClassFile.FieldType)) ∈ lw_all := lw_g (lw_at lw_m9 65 rfl) rfl
theorem q2108 : (Jvm.Cond.methodLink "NextAtBarModel" (273 : Nat) ({ cls := "NextAtBarModel", name := "personPassed", desc := "()I" } : Jvm.MethodName)) ∈ lw_all := lw_g (lw_at lw_m9 66 rfl) rfl
theorem q2109 : (Jvm.Cond.privateMethod ({ cls := "NextAtBarModel", name := "personPassed", desc := "()I" } : Jvm.MethodName)) ∈ lw_tbl := lw_at lw_m9 67 rfl
theorem q2110 : (Jvm.Cond.instanceMethod ({ cls := "NextAtBarModel", name := "personPassed", desc := "()I" } : Jvm.MethodName)) ∈ lw_all := lw_g (lw_at lw_m9 68 rfl) rfl
theorem q2111 : (Jvm.Cond.code ({ cls := "NextAtBarModel", name := "personPassed", desc := "()I" } : Jvm.MethodName) prog_24_method_25_code (2 : Nat) (Option.some Jvm.ClassFile.FieldType.int)) ∈ lw_all := lw_g (lw_at lw_m9 69 rfl) rfl
theorem q2112 : (Jvm.Cond.stringRef "NextAtBarModel" (276 : Nat) "before") ∈ lw_tbl := lw_at lw_m9 70 rfl
theorem q2113 : (Jvm.Cond.methodLink "NextAtBarModel" (174 : Nat) ({ cls := "NextAtBarModel", name := "copy", desc := "([II[III)V" } : Jvm.MethodName)) ∈ lw_all := lw_g (lw_at lw_m9 71 rfl) rfl
theorem q2114 : (Jvm.Cond.static ({ cls := "NextAtBarModel", name := "copy", desc := "([II[III)V" } : Jvm.MethodName)) ∈ lw_all := lw_g (lw_at lw_m9 72 rfl) rfl
theorem q2115 : (Jvm.Cond.code ({ cls := "NextAtBarModel", name := "copy", desc := "([II[III)V" } : Jvm.MethodName) prog_24_method_10_code (6 : Nat) (Option.none : Option Jvm.ClassFile.FieldType)) ∈ lw_all := lw_g (lw_at lw_m9 73 rfl) rfl
theorem q2116 : (Jvm.Cond.methodLink "NextAtBarModel" (187 : Nat) ({ cls := "NextAtBarModel", name := "asTold", desc := "()V" } : Jvm.MethodName)) ∈ lw_all := lw_g (lw_at lw_m9 74 rfl) rfl
theorem q2117 : (Jvm.Cond.privateMethod ({ cls := "NextAtBarModel", name := "asTold", desc := "()V" } : Jvm.MethodName)) ∈ lw_tbl := lw_at lw_m9 75 rfl
theorem q2118 : (Jvm.Cond.instanceMethod ({ cls := "NextAtBarModel", name := "asTold", desc := "()V" } : Jvm.MethodName)) ∈ lw_all := lw_g (lw_at lw_m9 76 rfl) rfl
theorem q2119 : (Jvm.Cond.code ({ cls := "NextAtBarModel", name := "asTold", desc := "()V" } : Jvm.MethodName) prog_24_method_45_code (1 : Nat) (Option.none : Option Jvm.ClassFile.FieldType)) ∈ lw_all := lw_g (lw_at lw_m9 77 rfl) rfl
theorem q2120 : (Jvm.Cond.methodLink "NextAtBarModel" (190 : Nat) ({ cls := "NextAtBarModel", name := "layFirst", desc := "([I)V" } : Jvm.MethodName)) ∈ lw_all := lw_g (lw_at lw_m9 78 rfl) rfl
theorem q2121 : (Jvm.Cond.privateMethod ({ cls := "NextAtBarModel", name := "layFirst", desc := "([I)V" } : Jvm.MethodName)) ∈ lw_tbl := lw_at lw_m9 79 rfl
theorem q2122 : (Jvm.Cond.instanceMethod ({ cls := "NextAtBarModel", name := "layFirst", desc := "([I)V" } : Jvm.MethodName)) ∈ lw_all := lw_g (lw_at lw_m9 80 rfl) rfl
theorem q2123 : (Jvm.Cond.code ({ cls := "NextAtBarModel", name := "layFirst", desc := "([I)V" } : Jvm.MethodName) prog_24_method_48_code (4 : Nat) (Option.none : Option Jvm.ClassFile.FieldType)) ∈ lw_all := lw_g (lw_at lw_m9 81 rfl) rfl
theorem q2124 : (Jvm.Cond.methodLink "NextAtBarModel" (281 : Nat) ({ cls := "NextAtBarModel", name := "man", desc := "(II)I" } : Jvm.MethodName)) ∈ lw_all := lw_g (lw_at lw_m9 82 rfl) rfl
theorem q2125 : (Jvm.Cond.privateMethod ({ cls := "NextAtBarModel", name := "man", desc := "(II)I" } : Jvm.MethodName)) ∈ lw_tbl := lw_at lw_m9 83 rfl
theorem q2126 : (Jvm.Cond.instanceMethod ({ cls := "NextAtBarModel", name := "man", desc := "(II)I" } : Jvm.MethodName)) ∈ lw_all := lw_g (lw_at lw_m9 84 rfl) rfl
theorem q2127 : (Jvm.Cond.code ({ cls := "NextAtBarModel", name := "man", desc := "(II)I" } : Jvm.MethodName) prog_24_method_46_code (3 : Nat) (Option.some Jvm.ClassFile.FieldType.int)) ∈ lw_all := lw_g (lw_at lw_m9 85 rfl) rfl
theorem q2128 : (Jvm.Cond.methodLink "NextAtBarModel" (284 : Nat) ({ cls := "NextAtBarModel", name := "saysFirst", desc := "(I)I" } : Jvm.MethodName)) ∈ lw_all := lw_g (lw_at lw_m9 86 rfl) rfl
theorem q2129 : (Jvm.Cond.privateMethod ({ cls := "NextAtBarModel", name := "saysFirst", desc := "(I)I" } : Jvm.MethodName)) ∈ lw_tbl := lw_at lw_m9 87 rfl
theorem q2130 : (Jvm.Cond.instanceMethod ({ cls := "NextAtBarModel", name := "saysFirst", desc := "(I)I" } : Jvm.MethodName)) ∈ lw_all := lw_g (lw_at lw_m9 88 rfl) rfl
theorem q2131 : (Jvm.Cond.code ({ cls := "NextAtBarModel", name := "saysFirst", desc := "(I)I" } : Jvm.MethodName) prog_24_method_47_code (3 : Nat) (Option.some Jvm.ClassFile.FieldType.int)) ∈ lw_all := lw_g (lw_at lw_m9 89 rfl) rfl
theorem q2133 : (Jvm.Cond.instanceMethod ({ cls := "NextAtBarModel", name := "fault", desc := "()I" } : Jvm.MethodName)) ∈ lw_all := lw_g (lw_at lw_m9 91 rfl) rfl
theorem q2134 : (Jvm.Cond.selects "NextAtBarModel" ({ cls := "NextAtBarModel", name := "fault", desc := "()I" } : Jvm.MethodName) ({ cls := "NextAtBarModel", name := "fault", desc := "()I" } : Jvm.MethodName)) ∈ lw_all := lw_g (lw_at lw_m9 92 rfl) rfl
theorem q2135 : (Jvm.Cond.code ({ cls := "NextAtBarModel", name := "fault", desc := "()I" } : Jvm.MethodName) prog_24_method_38_code (1 : Nat) (Option.some Jvm.ClassFile.FieldType.int)) ∈ lw_all := lw_g (lw_at lw_m9 93 rfl) rfl
theorem q2137 : (Jvm.Cond.instanceMethod ({ cls := "NextAtBarModel", name := "where", desc := "()I" } : Jvm.MethodName)) ∈ lw_all := lw_g (lw_at lw_m9 95 rfl) rfl
theorem q2138 : (Jvm.Cond.selects "NextAtBarModel" ({ cls := "NextAtBarModel", name := "where", desc := "()I" } : Jvm.MethodName) ({ cls := "NextAtBarModel", name := "where", desc := "()I" } : Jvm.MethodName)) ∈ lw_all := lw_g (lw_at lw_m9 96 rfl) rfl
theorem q2139 : (Jvm.Cond.code ({ cls := "NextAtBarModel", name := "where", desc := "()I" } : Jvm.MethodName) prog_24_method_39_code (1 : Nat) (Option.some Jvm.ClassFile.FieldType.int)) ∈ lw_all := lw_g (lw_at lw_m9 97 rfl) rfl
theorem q2141 : (Jvm.Cond.instanceMethod ({ cls := "NextAtBarModel", name := "person", desc := "(II)I" } : Jvm.MethodName)) ∈ lw_all := lw_g (lw_at lw_m9 99 rfl) rfl
theorem q2142 : (Jvm.Cond.selects "NextAtBarModel" ({ cls := "NextAtBarModel", name := "person", desc := "(II)I" } : Jvm.MethodName) ({ cls := "NextAtBarModel", name := "person", desc := "(II)I" } : Jvm.MethodName)) ∈ lw_all := lw_g (lw_at lw_m9 100 rfl) rfl
theorem q2143 : (Jvm.Cond.code ({ cls := "NextAtBarModel", name := "person", desc := "(II)I" } : Jvm.MethodName) prog_24_method_66_code (4 : Nat) (Option.some Jvm.ClassFile.FieldType.int)) ∈ lw_all := lw_g (lw_at lw_m9 101 rfl) rfl
theorem q2144 : (Jvm.Cond.methodLink "NextAtBarModel" (346 : Nat) ({ cls := "NextAtBarModel", name := "isPerson", desc := "(I)Z" } : Jvm.MethodName)) ∈ lw_all := lw_g (lw_at lw_m9 102 rfl) rfl
theorem q2145 : (Jvm.Cond.privateMethod ({ cls := "NextAtBarModel", name := "isPerson", desc := "(I)Z" } : Jvm.MethodName)) ∈ lw_tbl := lw_at lw_m9 103 rfl
theorem q2146 : (Jvm.Cond.instanceMethod ({ cls := "NextAtBarModel", name := "isPerson", desc := "(I)Z" } : Jvm.MethodName)) ∈ lw_all := lw_g (lw_at lw_m9 104 rfl) rfl
theorem q2147 : (Jvm.Cond.code ({ cls := "NextAtBarModel", name := "isPerson", desc := "(I)Z" } : Jvm.MethodName) prog_24_method_40_code (2 : Nat) (Option.some Jvm.ClassFile.FieldType.boolean)) ∈ lw_all := lw_g (lw_at lw_m9 105 rfl) rfl
theorem q2149 : (Jvm.Cond.instanceMethod ({ cls := "NextAtBarModel", name := "staff", desc := "(II)I" } : Jvm.MethodName)) ∈ lw_all := lw_g (lw_at lw_m9 107 rfl) rfl
theorem q2150 : (Jvm.Cond.selects "NextAtBarModel" ({ cls := "NextAtBarModel", name := "staff", desc := "(II)I" } : Jvm.MethodName) ({ cls := "NextAtBarModel", name := "staff", desc := "(II)I" } : Jvm.MethodName)) ∈ lw_all := lw_g (lw_at lw_m9 108 rfl) rfl
theorem q2151 : (Jvm.Cond.code ({ cls := "NextAtBarModel", name := "staff", desc := "(II)I" } : Jvm.MethodName) prog_24_method_67_code (7 : Nat) (Option.some Jvm.ClassFile.FieldType.int)) ∈ lw_all := lw_g (lw_at lw_m9 109 rfl) rfl
theorem q2152 : (Jvm.Cond.methodLink "NextAtBarModel" (349 : Nat) ({ cls := "NextAtBarModel", name := "isStaff", desc := "(I)Z" } : Jvm.MethodName)) ∈ lw_all := lw_g (lw_at lw_m9 110 rfl) rfl
theorem q2153 : (Jvm.Cond.privateMethod ({ cls := "NextAtBarModel", name := "isStaff", desc := "(I)Z" } : Jvm.MethodName)) ∈ lw_tbl := lw_at lw_m9 111 rfl
theorem q2154 : (Jvm.Cond.instanceMethod ({ cls := "NextAtBarModel", name := "isStaff", desc := "(I)Z" } : Jvm.MethodName)) ∈ lw_all := lw_g (lw_at lw_m9 112 rfl) rfl
theorem q2155 : (Jvm.Cond.code ({ cls := "NextAtBarModel", name := "isStaff", desc := "(I)Z" } : Jvm.MethodName) prog_24_method_41_code (2 : Nat) (Option.some Jvm.ClassFile.FieldType.boolean)) ∈ lw_all := lw_g (lw_at lw_m9 113 rfl) rfl
theorem q2156 : (Jvm.Cond.constant "NextAtBarModel" (297 : Nat) (1000000 : Int32)) ∈ lw_all := lw_g (lw_at lw_m9 114 rfl) rfl
theorem q2158 : (Jvm.Cond.instanceMethod ({ cls := "NextAtBarModel", name := "elbows", desc := "(I)I" } : Jvm.MethodName)) ∈ lw_all := lw_g (lw_at lw_m9 116 rfl) rfl
theorem q2159 : (Jvm.Cond.selects "NextAtBarModel" ({ cls := "NextAtBarModel", name := "elbows", desc := "(I)I" } : Jvm.MethodName) ({ cls := "NextAtBarModel", name := "elbows", desc := "(I)I" } : Jvm.MethodName)) ∈ lw_all := lw_g (lw_at lw_m9 117 rfl) rfl
theorem q2160 : (Jvm.Cond.code ({ cls := "NextAtBarModel", name := "elbows", desc := "(I)I" } : Jvm.MethodName) prog_24_method_68_code (4 : Nat) (Option.some Jvm.ClassFile.FieldType.int)) ∈ lw_all := lw_g (lw_at lw_m9 118 rfl) rfl
theorem q2161 : (Jvm.Cond.methodLink "NextAtBarModel" (352 : Nat) ({ cls := "NextAtBarModel", name := "isSpot", desc := "(I)Z" } : Jvm.MethodName)) ∈ lw_all := lw_g (lw_at lw_m9 119 rfl) rfl
theorem q2162 : (Jvm.Cond.privateMethod ({ cls := "NextAtBarModel", name := "isSpot", desc := "(I)Z" } : Jvm.MethodName)) ∈ lw_tbl := lw_at lw_m9 120 rfl
theorem q2163 : (Jvm.Cond.instanceMethod ({ cls := "NextAtBarModel", name := "isSpot", desc := "(I)Z" } : Jvm.MethodName)) ∈ lw_all := lw_g (lw_at lw_m9 121 rfl) rfl
theorem q2164 : (Jvm.Cond.code ({ cls := "NextAtBarModel", name := "isSpot", desc := "(I)Z" } : Jvm.MethodName) prog_24_method_42_code (2 : Nat) (Option.some Jvm.ClassFile.FieldType.boolean)) ∈ lw_all := lw_g (lw_at lw_m9 122 rfl) rfl
theorem q2165 : (Jvm.Cond.methodLink "NextAtBarModel" (301 : Nat) ({ cls := "NextAtBarModel", name := "isWaiting", desc := "([II)Z" } : Jvm.MethodName)) ∈ lw_all := lw_g (lw_at lw_m9 123 rfl) rfl
theorem q2166 : (Jvm.Cond.static ({ cls := "NextAtBarModel", name := "isWaiting", desc := "([II)Z" } : Jvm.MethodName)) ∈ lw_all := lw_g (lw_at lw_m9 124 rfl) rfl
theorem q2167 : (Jvm.Cond.code ({ cls := "NextAtBarModel", name := "isWaiting", desc := "([II)Z" } : Jvm.MethodName) prog_24_method_50_code (2 : Nat) (Option.some Jvm.ClassFile.FieldType.boolean)) ∈ lw_all := lw_g (lw_at lw_m9 125 rfl) rfl
theorem q2168 : (Jvm.Cond.methodLink "NextAtBarModel" (287 : Nat) ({ cls := "NextAtBarModel", name := "its", desc := "([III)I" } : Jvm.MethodName)) ∈ lw_all := lw_g (lw_at lw_m9 126 rfl) rfl
theorem q2169 : (Jvm.Cond.static ({ cls := "NextAtBarModel", name := "its", desc := "([III)I" } : Jvm.MethodName)) ∈ lw_all := lw_g (lw_at lw_m9 127 rfl) rfl
theorem q2170 : (Jvm.Cond.code ({ cls := "NextAtBarModel", name := "its", desc := "([III)I" } : Jvm.MethodName) prog_24_method_49_code (3 : Nat) (Option.some Jvm.ClassFile.FieldType.int)) ∈ lw_all := lw_g (lw_at lw_m9 128 rfl) rfl
theorem q2172 : (Jvm.Cond.instanceMethod ({ cls := "NextAtBarModel", name := "waiting", desc := "()I" } : Jvm.MethodName)) ∈ lw_all := lw_g (lw_at lw_m9 130 rfl) rfl
theorem q2173 : (Jvm.Cond.selects "NextAtBarModel" ({ cls := "NextAtBarModel", name := "waiting", desc := "()I" } : Jvm.MethodName) ({ cls := "NextAtBarModel", name := "waiting", desc := "()I" } : Jvm.MethodName)) ∈ lw_all := lw_g (lw_at lw_m9 131 rfl) rfl
theorem q2174 : (Jvm.Cond.code ({ cls := "NextAtBarModel", name := "waiting", desc := "()I" } : Jvm.MethodName) prog_24_method_70_code (1 : Nat) (Option.some Jvm.ClassFile.FieldType.int)) ∈ lw_all := lw_g (lw_at lw_m9 132 rfl) rfl
theorem q2175 : (Jvm.Cond.methodLink "NextAtBarModel" (355 : Nat) ({ cls := "NextAtBarModel", name := "manyWaiting", desc := "([I)I" } : Jvm.MethodName)) ∈ lw_all := lw_g (lw_at lw_m9 133 rfl) rfl
theorem q2176 : (Jvm.Cond.privateMethod ({ cls := "NextAtBarModel", name := "manyWaiting", desc := "([I)I" } : Jvm.MethodName)) ∈ lw_tbl := lw_at lw_m9 134 rfl
theorem q2177 : (Jvm.Cond.instanceMethod ({ cls := "NextAtBarModel", name := "manyWaiting", desc := "([I)I" } : Jvm.MethodName)) ∈ lw_all := lw_g (lw_at lw_m9 135 rfl) rfl
theorem q2178 : (Jvm.Cond.code ({ cls := "NextAtBarModel", name := "manyWaiting", desc := "([I)I" } : Jvm.MethodName) prog_24_method_69_code (4 : Nat) (Option.some Jvm.ClassFile.FieldType.int)) ∈ lw_all := lw_g (lw_at lw_m9 136 rfl) rfl
theorem q2180 : (Jvm.Cond.instanceMethod ({ cls := "NextAtBarModel", name := "next", desc := "(I)I" } : Jvm.MethodName)) ∈ lw_all := lw_g (lw_at lw_m9 138 rfl) rfl
theorem q2181 : (Jvm.Cond.selects "NextAtBarModel" ({ cls := "NextAtBarModel", name := "next", desc := "(I)I" } : Jvm.MethodName) ({ cls := "NextAtBarModel", name := "next", desc := "(I)I" } : Jvm.MethodName)) ∈ lw_all := lw_g (lw_at lw_m9 139 rfl) rfl
theorem q2182 : (Jvm.Cond.code ({ cls := "NextAtBarModel", name := "next", desc := "(I)I" } : Jvm.MethodName) prog_24_method_71_code (2 : Nat) (Option.some Jvm.ClassFile.FieldType.int)) ∈ lw_all := lw_g (lw_at lw_m9 140 rfl) rfl
theorem q2183 : (Jvm.Cond.methodLink "NextAtBarModel" (312 : Nat) ({ cls := "NextAtBarModel", name := "nextFo\x72", desc := "([II)I" } : Jvm.MethodName)) ∈ lw_all := lw_g (lw_at lw_m9 141 rfl) rfl
theorem q2184 : (Jvm.Cond.privateMethod ({ cls := "NextAtBarModel", name := "nextFo\x72", desc := "([II)I" } : Jvm.MethodName)) ∈ lw_tbl := lw_at lw_m9 142 rfl
theorem q2185 : (Jvm.Cond.instanceMethod ({ cls := "NextAtBarModel", name := "nextFo\x72", desc := "([II)I" } : Jvm.MethodName)) ∈ lw_all := lw_g (lw_at lw_m9 143 rfl) rfl
theorem q2186 : (Jvm.Cond.code ({ cls := "NextAtBarModel", name := "nextFo\x72", desc := "([II)I" } : Jvm.MethodName) prog_24_method_55_code (7 : Nat) (Option.some Jvm.ClassFile.FieldType.int)) ∈ lw_all := lw_g (lw_at lw_m9 144 rfl) rfl
theorem q2187 : (Jvm.Cond.methodLink "NextAtBarModel" (305 : Nat) ({ cls := "NextAtBarModel", name := "turn", desc := "([III)I" } : Jvm.MethodName)) ∈ lw_all := lw_g (lw_at lw_m9 145 rfl) rfl
theorem q2188 : (Jvm.Cond.privateMethod ({ cls := "NextAtBarModel", name := "turn", desc := "([III)I" } : Jvm.MethodName)) ∈ lw_tbl := lw_at lw_m9 146 rfl
theorem q2189 : (Jvm.Cond.instanceMethod ({ cls := "NextAtBarModel", name := "turn", desc := "([III)I" } : Jvm.MethodName)) ∈ lw_all := lw_g (lw_at lw_m9 147 rfl) rfl
theorem q2190 : (Jvm.Cond.code ({ cls := "NextAtBarModel", name := "turn", desc := "([III)I" } : Jvm.MethodName) prog_24_method_54_code (6 : Nat) (Option.some Jvm.ClassFile.FieldType.int)) ∈ lw_all := lw_g (lw_at lw_m9 148 rfl) rfl
theorem q2191 : (Jvm.Cond.methodLink "NextAtBarModel" (298 : Nat) ({ cls := "NextAtBarModel", name := "fa\x72", desc := "(II)I" } : Jvm.MethodName)) ∈ lw_all := lw_g (lw_at lw_m9 149 rfl) rfl
theorem q2192 : (Jvm.Cond.static ({ cls := "NextAtBarModel", name := "fa\x72", desc := "(II)I" } : Jvm.MethodName)) ∈ lw_all := lw_g (lw_at lw_m9 150 rfl) rfl
theorem q2193 : (Jvm.Cond.code ({ cls := "NextAtBarModel", name := "fa\x72", desc := "(II)I" } : Jvm.MethodName) prog_24_method_51_code (2 : Nat) (Option.some Jvm.ClassFile.FieldType.int)) ∈ lw_all := lw_g (lw_at lw_m9 151 rfl) rfl
theorem q2195 : (Jvm.Cond.instanceMethod ({ cls := "NextAtBarModel", name := "time", desc := "(II)I" } : Jvm.MethodName)) ∈ lw_all := lw_g (lw_at lw_m9 153 rfl) rfl
theorem q2196 : (Jvm.Cond.selects "NextAtBarModel" ({ cls := "NextAtBarModel", name := "time", desc := "(II)I" } : Jvm.MethodName) ({ cls := "NextAtBarModel", name := "time", desc := "(II)I" } : Jvm.MethodName)) ∈ lw_all := lw_g (lw_at lw_m9 154 rfl) rfl
theorem q2197 : (Jvm.Cond.code ({ cls := "NextAtBarModel", name := "time", desc := "(II)I" } : Jvm.MethodName) prog_24_method_72_code (3 : Nat) (Option.some Jvm.ClassFile.FieldType.int)) ∈ lw_all := lw_g (lw_at lw_m9 155 rfl) rfl
theorem q2198 : (Jvm.Cond.methodLink "NextAtBarModel" (316 : Nat) ({ cls := "NextAtBarModel", name := "timeOf", desc := "([III)I" } : Jvm.MethodName)) ∈ lw_all := lw_g (lw_at lw_m9 156 rfl) rfl
theorem q2199 : (Jvm.Cond.privateMethod ({ cls := "NextAtBarModel", name := "timeOf", desc := "([III)I" } : Jvm.MethodName)) ∈ lw_tbl := lw_at lw_m9 157 rfl
theorem q2200 : (Jvm.Cond.instanceMethod ({ cls := "NextAtBarModel", name := "timeOf", desc := "([III)I" } : Jvm.MethodName)) ∈ lw_all := lw_g (lw_at lw_m9 158 rfl) rfl
theorem q2201 : (Jvm.Cond.code ({ cls := "NextAtBarModel", name := "timeOf", desc := "([III)I" } : Jvm.MethodName) prog_24_method_52_code (5 : Nat) (Option.some Jvm.ClassFile.FieldType.int)) ∈ lw_all := lw_g (lw_at lw_m9 159 rfl) rfl
theorem q2202 : (Jvm.Cond.methodLink "NextAtBarModel" (291 : Nat) ({ cls := "NextAtBarModel", name := "timeBehind", desc := "(II)I" } : Jvm.MethodName)) ∈ lw_all := lw_g (lw_at lw_m9 160 rfl) rfl
theorem q2203 : (Jvm.Cond.privateMethod ({ cls := "NextAtBarModel", name := "timeBehind", desc := "(II)I" } : Jvm.MethodName)) ∈ lw_tbl := lw_at lw_m9 161 rfl
theorem q2204 : (Jvm.Cond.instanceMethod ({ cls := "NextAtBarModel", name := "timeBehind", desc := "(II)I" } : Jvm.MethodName)) ∈ lw_all := lw_g (lw_at lw_m9 162 rfl) rfl
theorem q2205 : (Jvm.Cond.code ({ cls := "NextAtBarModel", name := "timeBehind", desc := "(II)I" } : Jvm.MethodName) prog_24_method_53_code (7 : Nat) (Option.some Jvm.ClassFile.FieldType.int)) ∈ lw_all := lw_g (lw_at lw_m9 163 rfl) rfl
theorem q2206 : (Jvm.Cond.methodLink "NextAtBarModel" (294 : Nat) ({ cls := "NextAtBarModel", name := "wantsOf", desc := "(II)I" } : Jvm.MethodName)) ∈ lw_all := lw_g (lw_at lw_m9 164 rfl) rfl
theorem q2207 : (Jvm.Cond.privateMethod ({ cls := "NextAtBarModel", name := "wantsOf", desc := "(II)I" } : Jvm.MethodName)) ∈ lw_tbl := lw_at lw_m9 165 rfl
theorem q2208 : (Jvm.Cond.instanceMethod ({ cls := "NextAtBarModel", name := "wantsOf", desc := "(II)I" } : Jvm.MethodName)) ∈ lw_all := lw_g (lw_at lw_m9 166 rfl) rfl
theorem q2209 : (Jvm.Cond.code ({ cls := "NextAtBarModel", name := "wantsOf", desc := "(II)I" } : Jvm.MethodName) prog_24_method_44_code (3 : Nat) (Option.some Jvm.ClassFile.FieldType.int)) ∈ lw_all := lw_g (lw_at lw_m9 167 rfl) rfl
theorem q2211 : (Jvm.Cond.instanceMethod ({ cls := "NextAtBarModel", name := "costs", desc := "(I)I" } : Jvm.MethodName)) ∈ lw_all := lw_g (lw_at lw_m9 169 rfl) rfl
theorem q2212 : (Jvm.Cond.selects "NextAtBarModel" ({ cls := "NextAtBarModel", name := "costs", desc := "(I)I" } : Jvm.MethodName) ({ cls := "NextAtBarModel", name := "costs", desc := "(I)I" } : Jvm.MethodName)) ∈ lw_all := lw_g (lw_at lw_m9 170 rfl) rfl
theorem q2213 : (Jvm.Cond.code ({ cls := "NextAtBarModel", name := "costs", desc := "(I)I" } : Jvm.MethodName) prog_24_method_73_code (2 : Nat) (Option.some Jvm.ClassFile.FieldType.int)) ∈ lw_all := lw_g (lw_at lw_m9 171 rfl) rfl
theorem q2214 : (Jvm.Cond.methodLink "NextAtBarModel" (343 : Nat) ({ cls := "NextAtBarModel", name := "costsOf", desc := "(I)I" } : Jvm.MethodName)) ∈ lw_all := lw_g (lw_at lw_m9 172 rfl) rfl
theorem q2215 : (Jvm.Cond.privateMethod ({ cls := "NextAtBarModel", name := "costsOf", desc := "(I)I" } : Jvm.MethodName)) ∈ lw_tbl := lw_at lw_m9 173 rfl
theorem q2216 : (Jvm.Cond.instanceMethod ({ cls := "NextAtBarModel", name := "costsOf", desc := "(I)I" } : Jvm.MethodName)) ∈ lw_all := lw_g (lw_at lw_m9 174 rfl) rfl
theorem q2217 : (Jvm.Cond.code ({ cls := "NextAtBarModel", name := "costsOf", desc := "(I)I" } : Jvm.MethodName) prog_24_method_65_code (4 : Nat) (Option.some Jvm.ClassFile.FieldType.int)) ∈ lw_all := lw_g (lw_at lw_m9 175 rfl) rfl
theorem q2219 : (Jvm.Cond.instanceMethod ({ cls := "NextAtBarModel", name := "fate", desc := "(I)I" } : Jvm.MethodName)) ∈ lw_all := lw_g (lw_at lw_m9 177 rfl) rfl
theorem q2220 : (Jvm.Cond.selects "NextAtBarModel" ({ cls := "NextAtBarModel", name := "fate", desc := "(I)I" } : Jvm.MethodName) ({ cls := "NextAtBarModel", name := "fate", desc := "(I)I" } : Jvm.MethodName)) ∈ lw_all := lw_g (lw_at lw_m9 178 rfl) rfl
theorem q2221 : (Jvm.Cond.code ({ cls := "NextAtBarModel", name := "fate", desc := "(I)I" } : Jvm.MethodName) prog_24_method_75_code (2 : Nat) (Option.some Jvm.ClassFile.FieldType.int)) ∈ lw_all := lw_g (lw_at lw_m9 179 rfl) rfl
theorem q2222 : (Jvm.Cond.methodLink "NextAtBarModel" (362 : Nat) ({ cls := "NextAtBarModel", name := "tellEvening", desc := "()V" } : Jvm.MethodName)) ∈ lw_all := lw_g (lw_at lw_m9 180 rfl) rfl
theorem q2223 : (Jvm.Cond.privateMethod ({ cls := "NextAtBarModel", name := "tellEvening", desc := "()V" } : Jvm.MethodName)) ∈ lw_tbl := lw_at lw_m9 181 rfl
theorem q2224 : (Jvm.Cond.instanceMethod ({ cls := "NextAtBarModel", name := "tellEvening", desc := "()V" } : Jvm.MethodName)) ∈ lw_all := lw_g (lw_at lw_m9 182 rfl) rfl
theorem q2225 : (Jvm.Cond.code ({ cls := "NextAtBarModel", name := "tellEvening", desc := "()V" } : Jvm.MethodName) prog_24_method_74_code (1 : Nat) (Option.none : Option Jvm.ClassFile.FieldType)) ∈ lw_all := lw_g (lw_at lw_m9 183 rfl) rfl
theorem q2226 : (Jvm.Cond.methodLink "NextAtBarModel" (359 : Nat) ({ cls := "NextAtBarModel", name := "evening", desc := "()V" } : Jvm.MethodName)) ∈ lw_all := lw_g (lw_at lw_m9 184 rfl) rfl
theorem q2227 : (Jvm.Cond.privateMethod ({ cls := "NextAtBarModel", name := "evening", desc := "()V" } : Jvm.MethodName)) ∈ lw_tbl := lw_at lw_m9 185 rfl
theorem q2228 : (Jvm.Cond.instanceMethod ({ cls := "NextAtBarModel", name := "evening", desc := "()V" } : Jvm.MethodName)) ∈ lw_all := lw_g (lw_at lw_m9 186 rfl) rfl
theorem q2229 : (Jvm.Cond.code ({ cls := "NextAtBarModel", name := "evening", desc := "()V" } : Jvm.MethodName) prog_24_method_58_code (1 : Nat) (Option.none : Option Jvm.ClassFile.FieldType)) ∈ lw_all := lw_g (lw_at lw_m9 187 rfl) rfl
theorem q2230 : (Jvm.Cond.methodLink "NextAtBarModel" (321 : Nat) ({ cls := "NextAtBarModel", name := "second", desc := "([I)V" } : Jvm.MethodName)) ∈ lw_all := lw_g (lw_at lw_m9 188 rfl) rfl
theorem q2231 : (Jvm.Cond.privateMethod ({ cls := "NextAtBarModel", name := "second", desc := "([I)V" } : Jvm.MethodName)) ∈ lw_tbl := lw_at lw_m9 189 rfl
theorem q2232 : (Jvm.Cond.instanceMethod ({ cls := "NextAtBarModel", name := "second", desc := "([I)V" } : Jvm.MethodName)) ∈ lw_all := lw_g (lw_at lw_m9 190 rfl) rfl
theorem q2233 : (Jvm.Cond.code ({ cls := "NextAtBarModel", name := "second", desc := "([I)V" } : Jvm.MethodName) prog_24_method_56_code (6 : Nat) (Option.none : Option Jvm.ClassFile.FieldType)) ∈ lw_all := lw_g (lw_at lw_m9 191 rfl) rfl
theorem q2234 : (Jvm.Cond.methodLink "NextAtBarModel" (308 : Nat) ({ cls := "NextAtBarModel", name := "begin", desc := "([III)V" } : Jvm.MethodName)) ∈ lw_all := lw_g (lw_at lw_m9 192 rfl) rfl
theorem q2235 : (Jvm.Cond.privateMethod ({ cls := "NextAtBarModel", name := "begin", desc := "([III)V" } : Jvm.MethodName)) ∈ lw_tbl := lw_at lw_m9 193 rfl
theorem q2236 : (Jvm.Cond.instanceMethod ({ cls := "NextAtBarModel", name := "begin", desc := "([III)V" } : Jvm.MethodName)) ∈ lw_all := lw_g (lw_at lw_m9 194 rfl) rfl
theorem q2237 : (Jvm.Cond.code ({ cls := "NextAtBarModel", name := "begin", desc := "([III)V" } : Jvm.MethodName) prog_24_method_57_code (9 : Nat) (Option.none : Option Jvm.ClassFile.FieldType)) ∈ lw_all := lw_g (lw_at lw_m9 195 rfl) rfl
theorem q2238 : (Jvm.Cond.methodLink "NextAtBarModel" (324 : Nat) ({ cls := "NextAtBarModel", name := "fateOf", desc := "(I)I" } : Jvm.MethodName)) ∈ lw_all := lw_g (lw_at lw_m9 196 rfl) rfl
theorem q2239 : (Jvm.Cond.privateMethod ({ cls := "NextAtBarModel", name := "fateOf", desc := "(I)I" } : Jvm.MethodName)) ∈ lw_tbl := lw_at lw_m9 197 rfl
theorem q2240 : (Jvm.Cond.instanceMethod ({ cls := "NextAtBarModel", name := "fateOf", desc := "(I)I" } : Jvm.MethodName)) ∈ lw_all := lw_g (lw_at lw_m9 198 rfl) rfl
theorem q2241 : (Jvm.Cond.code ({ cls := "NextAtBarModel", name := "fateOf", desc := "(I)I" } : Jvm.MethodName) prog_24_method_59_code (2 : Nat) (Option.some Jvm.ClassFile.FieldType.int)) ∈ lw_all := lw_g (lw_at lw_m9 199 rfl) rfl
theorem q2243 : (Jvm.Cond.instanceMethod ({ cls := "NextAtBarModel", name := "waits", desc := "(I)I" } : Jvm.MethodName)) ∈ lw_all := lw_g (lw_at lw_m9 201 rfl) rfl
theorem q2244 : (Jvm.Cond.selects "NextAtBarModel" ({ cls := "NextAtBarModel", name := "waits", desc := "(I)I" } : Jvm.MethodName) ({ cls := "NextAtBarModel", name := "waits", desc := "(I)I" } : Jvm.MethodName)) ∈ lw_all := lw_g (lw_at lw_m9 202 rfl) rfl
theorem q2245 : (Jvm.Cond.code ({ cls := "NextAtBarModel", name := "waits", desc := "(I)I" } : Jvm.MethodName) prog_24_method_76_code (2 : Nat) (Option.some Jvm.ClassFile.FieldType.int)) ∈ lw_all := lw_g (lw_at lw_m9 203 rfl) rfl
theorem q2246 : (Jvm.Cond.methodLink "NextAtBarModel" (337 : Nat) ({ cls := "NextAtBarModel", name := "waitOf", desc := "(I)I" } : Jvm.MethodName)) ∈ lw_all := lw_g (lw_at lw_m9 204 rfl) rfl
theorem q2247 : (Jvm.Cond.privateMethod ({ cls := "NextAtBarModel", name := "waitOf", desc := "(I)I" } : Jvm.MethodName)) ∈ lw_tbl := lw_at lw_m9 205 rfl
theorem q2248 : (Jvm.Cond.instanceMethod ({ cls := "NextAtBarModel", name := "waitOf", desc := "(I)I" } : Jvm.MethodName)) ∈ lw_all := lw_g (lw_at lw_m9 206 rfl) rfl
theorem q2249 : (Jvm.Cond.code ({ cls := "NextAtBarModel", name := "waitOf", desc := "(I)I" } : Jvm.MethodName) prog_24_method_60_code (3 : Nat) (Option.some Jvm.ClassFile.FieldType.int)) ∈ lw_all := lw_g (lw_at lw_m9 207 rfl) rfl
theorem q2251 : (Jvm.Cond.instanceMethod ({ cls := "NextAtBarModel", name := "whom", desc := "(I)I" } : Jvm.MethodName)) ∈ lw_all := lw_g (lw_at lw_m9 209 rfl) rfl
theorem q2252 : (Jvm.Cond.selects "NextAtBarModel" ({ cls := "NextAtBarModel", name := "whom", desc := "(I)I" } : Jvm.MethodName) ({ cls := "NextAtBarModel", name := "whom", desc := "(I)I" } : Jvm.MethodName)) ∈ lw_all := lw_g (lw_at lw_m9 210 rfl) rfl
theorem q2253 : (Jvm.Cond.code ({ cls := "NextAtBarModel", name := "whom", desc := "(I)I" } : Jvm.MethodName) prog_24_method_77_code (2 : Nat) (Option.some Jvm.ClassFile.FieldType.int)) ∈ lw_all := lw_g (lw_at lw_m9 211 rfl) rfl
theorem q2255 : (Jvm.Cond.instanceMethod ({ cls := "NextAtBarModel", name := "has", desc := "(I)I" } : Jvm.MethodName)) ∈ lw_all := lw_g (lw_at lw_m9 213 rfl) rfl
theorem q2256 : (Jvm.Cond.selects "NextAtBarModel" ({ cls := "NextAtBarModel", name := "has", desc := "(I)I" } : Jvm.MethodName) ({ cls := "NextAtBarModel", name := "has", desc := "(I)I" } : Jvm.MethodName)) ∈ lw_all := lw_g (lw_at lw_m9 214 rfl) rfl
theorem q2257 : (Jvm.Cond.code ({ cls := "NextAtBarModel", name := "has", desc := "(I)I" } : Jvm.MethodName) prog_24_method_78_code (2 : Nat) (Option.some Jvm.ClassFile.FieldType.int)) ∈ lw_all := lw_g (lw_at lw_m9 215 rfl) rfl
theorem q2259 : (Jvm.Cond.instanceMethod ({ cls := "NextAtBarModel", name := "passed", desc := "(I)I" } : Jvm.MethodName)) ∈ lw_all := lw_g (lw_at lw_m9 217 rfl) rfl
theorem q2260 : (Jvm.Cond.selects "NextAtBarModel" ({ cls := "NextAtBarModel", name := "passed", desc := "(I)I" } : Jvm.MethodName) ({ cls := "NextAtBarModel", name := "passed", desc := "(I)I" } : Jvm.MethodName)) ∈ lw_all := lw_g (lw_at lw_m9 218 rfl) rfl
theorem q2261 : (Jvm.Cond.code ({ cls := "NextAtBarModel", name := "passed", desc := "(I)I" } : Jvm.MethodName) prog_24_method_79_code (2 : Nat) (Option.some Jvm.ClassFile.FieldType.int)) ∈ lw_all := lw_g (lw_at lw_m9 219 rfl) rfl
theorem q2262 : (Jvm.Cond.methodLink "NextAtBarModel" (331 : Nat) ({ cls := "NextAtBarModel", name := "passedOf", desc := "(I)I" } : Jvm.MethodName)) ∈ lw_all := lw_g (lw_at lw_m9 220 rfl) rfl
theorem q2263 : (Jvm.Cond.privateMethod ({ cls := "NextAtBarModel", name := "passedOf", desc := "(I)I" } : Jvm.MethodName)) ∈ lw_tbl := lw_at lw_m9 221 rfl
theorem q2264 : (Jvm.Cond.instanceMethod ({ cls := "NextAtBarModel", name := "passedOf", desc := "(I)I" } : Jvm.MethodName)) ∈ lw_all := lw_g (lw_at lw_m9 222 rfl) rfl
theorem q2265 : (Jvm.Cond.code ({ cls := "NextAtBarModel", name := "passedOf", desc := "(I)I" } : Jvm.MethodName) prog_24_method_62_code (7 : Nat) (Option.some Jvm.ClassFile.FieldType.int)) ∈ lw_all := lw_g (lw_at lw_m9 223 rfl) rfl
theorem q2266 : (Jvm.Cond.methodLink "NextAtBarModel" (327 : Nat) ({ cls := "NextAtBarModel", name := "isBehind", desc := "(II)Z" } : Jvm.MethodName)) ∈ lw_all := lw_g (lw_at lw_m9 224 rfl) rfl
theorem q2267 : (Jvm.Cond.privateMethod ({ cls := "NextAtBarModel", name := "isBehind", desc := "(II)Z" } : Jvm.MethodName)) ∈ lw_tbl := lw_at lw_m9 225 rfl
theorem q2268 : (Jvm.Cond.instanceMethod ({ cls := "NextAtBarModel", name := "isBehind", desc := "(II)Z" } : Jvm.MethodName)) ∈ lw_all := lw_g (lw_at lw_m9 226 rfl) rfl
theorem q2269 : (Jvm.Cond.code ({ cls := "NextAtBarModel", name := "isBehind", desc := "(II)Z" } : Jvm.MethodName) prog_24_method_61_code (3 : Nat) (Option.some Jvm.ClassFile.FieldType.boolean)) ∈ lw_all := lw_g (lw_at lw_m9 227 rfl) rfl
theorem q2271 : (Jvm.Cond.instanceMethod ({ cls := "NextAtBarModel", name := "pushed", desc := "(I)I" } : Jvm.MethodName)) ∈ lw_all := lw_g (lw_at lw_m9 229 rfl) rfl
theorem q2272 : (Jvm.Cond.selects "NextAtBarModel" ({ cls := "NextAtBarModel", name := "pushed", desc := "(I)I" } : Jvm.MethodName) ({ cls := "NextAtBarModel", name := "pushed", desc := "(I)I" } : Jvm.MethodName)) ∈ lw_all := lw_g (lw_at lw_m9 230 rfl) rfl
theorem q2273 : (Jvm.Cond.code ({ cls := "NextAtBarModel", name := "pushed", desc := "(I)I" } : Jvm.MethodName) prog_24_method_80_code (2 : Nat) (Option.some Jvm.ClassFile.FieldType.int)) ∈ lw_all := lw_g (lw_at lw_m9 231 rfl) rfl
theorem q2274 : (Jvm.Cond.methodLink "NextAtBarModel" (365 : Nat) ({ cls := "NextAtBarModel", name := "pushedOf", desc := "(I)I" } : Jvm.MethodName)) ∈ lw_all := lw_g (lw_at lw_m9 232 rfl) rfl
theorem q2275 : (Jvm.Cond.privateMethod ({ cls := "NextAtBarModel", name := "pushedOf", desc := "(I)I" } : Jvm.MethodName)) ∈ lw_tbl := lw_at lw_m9 233 rfl
theorem q2276 : (Jvm.Cond.instanceMethod ({ cls := "NextAtBarModel", name := "pushedOf", desc := "(I)I" } : Jvm.MethodName)) ∈ lw_all := lw_g (lw_at lw_m9 234 rfl) rfl
theorem q2277 : (Jvm.Cond.code ({ cls := "NextAtBarModel", name := "pushedOf", desc := "(I)I" } : Jvm.MethodName) prog_24_method_63_code (4 : Nat) (Option.some Jvm.ClassFile.FieldType.int)) ∈ lw_all := lw_g (lw_at lw_m9 235 rfl) rfl
theorem q2278 : (Jvm.Cond.methodLink "NextAtBarModel" (334 : Nat) ({ cls := "NextAtBarModel", name := "hasBit", desc := "(II)Z" } : Jvm.MethodName)) ∈ lw_all := lw_g (lw_at lw_m9 236 rfl) rfl
theorem q2279 : (Jvm.Cond.static ({ cls := "NextAtBarModel", name := "hasBit", desc := "(II)Z" } : Jvm.MethodName)) ∈ lw_all := lw_g (lw_at lw_m9 237 rfl) rfl
theorem q2280 : (Jvm.Cond.code ({ cls := "NextAtBarModel", name := "hasBit", desc := "(II)Z" } : Jvm.MethodName) prog_24_method_8_code (2 : Nat) (Option.some Jvm.ClassFile.FieldType.boolean)) ∈ lw_all := lw_g (lw_at lw_m9 238 rfl) rfl
theorem q2282 : (Jvm.Cond.instanceMethod ({ cls := "NextAtBarModel", name := "sum", desc := "(I)I" } : Jvm.MethodName)) ∈ lw_all := lw_g (lw_at lw_m10 0 rfl) rfl
theorem q2283 : (Jvm.Cond.selects "NextAtBarModel" ({ cls := "NextAtBarModel", name := "sum", desc := "(I)I" } : Jvm.MethodName) ({ cls := "NextAtBarModel", name := "sum", desc := "(I)I" } : Jvm.MethodName)) ∈ lw_all := lw_g (lw_at lw_m10 1 rfl) rfl
theorem q2284 : (Jvm.Cond.code ({ cls := "NextAtBarModel", name := "sum", desc := "(I)I" } : Jvm.MethodName) prog_24_method_81_code (2 : Nat) (Option.some Jvm.ClassFile.FieldType.int)) ∈ lw_all := lw_g (lw_at lw_m10 2 rfl) rfl
theorem q2285 : (Jvm.Cond.methodLink "NextAtBarModel" (368 : Nat) ({ cls := "NextAtBarModel", name := "sumOf", desc := "(I)I" } : Jvm.MethodName)) ∈ lw_all := lw_g (lw_at lw_m10 3 rfl) rfl
theorem q2286 : (Jvm.Cond.privateMethod ({ cls := "NextAtBarModel", name := "sumOf", desc := "(I)I" } : Jvm.MethodName)) ∈ lw_tbl := lw_at lw_m10 4 rfl
theorem q2287 : (Jvm.Cond.instanceMethod ({ cls := "NextAtBarModel", name := "sumOf", desc := "(I)I" } : Jvm.MethodName)) ∈ lw_all := lw_g (lw_at lw_m10 5 rfl) rfl
theorem q2288 : (Jvm.Cond.code ({ cls := "NextAtBarModel", name := "sumOf", desc := "(I)I" } : Jvm.MethodName) prog_24_method_64_code (5 : Nat) (Option.some Jvm.ClassFile.FieldType.int)) ∈ lw_all := lw_g (lw_at lw_m10 6 rfl) rfl
theorem q2289 : (Jvm.Cond.methodLink "NextAtBarModel" (340 : Nat) ({ cls := "NextAtBarModel", name := "ones", desc := "(I)I" } : Jvm.MethodName)) ∈ lw_all := lw_g (lw_at lw_m10 7 rfl) rfl
theorem q2290 : (Jvm.Cond.static ({ cls := "NextAtBarModel", name := "ones", desc := "(I)I" } : Jvm.MethodName)) ∈ lw_all := lw_g (lw_at lw_m10 8 rfl) rfl
theorem q2291 : (Jvm.Cond.code ({ cls := "NextAtBarModel", name := "ones", desc := "(I)I" } : Jvm.MethodName) prog_24_method_9_code (3 : Nat) (Option.some Jvm.ClassFile.FieldType.int)) ∈ lw_all := lw_g (lw_at lw_m10 9 rfl) rfl
theorem q2293 : (Jvm.Cond.instanceMethod ({ cls := "NextAtBarModel", name := "served", desc := "(I)I" } : Jvm.MethodName)) ∈ lw_all := lw_g (lw_at lw_m10 11 rfl) rfl
theorem q2294 : (Jvm.Cond.selects "NextAtBarModel" ({ cls := "NextAtBarModel", name := "served", desc := "(I)I" } : Jvm.MethodName) ({ cls := "NextAtBarModel", name := "served", desc := "(I)I" } : Jvm.MethodName)) ∈ lw_all := lw_g (lw_at lw_m10 12 rfl) rfl
theorem q2295 : (Jvm.Cond.code ({ cls := "NextAtBarModel", name := "served", desc := "(I)I" } : Jvm.MethodName) prog_24_method_82_code (2 : Nat) (Option.some Jvm.ClassFile.FieldType.int)) ∈ lw_all := lw_g (lw_at lw_m10 13 rfl) rfl
theorem q2297 : (Jvm.Cond.instanceMethod ({ cls := "NextAtBarModel", name := "waitingAt", desc := "(I)I" } : Jvm.MethodName)) ∈ lw_all := lw_g (lw_at lw_m10 15 rfl) rfl
theorem q2298 : (Jvm.Cond.selects "NextAtBarModel" ({ cls := "NextAtBarModel", name := "waitingAt", desc := "(I)I" } : Jvm.MethodName) ({ cls := "NextAtBarModel", name := "waitingAt", desc := "(I)I" } : Jvm.MethodName)) ∈ lw_all := lw_g (lw_at lw_m10 16 rfl) rfl
theorem q2299 : (Jvm.Cond.code ({ cls := "NextAtBarModel", name := "waitingAt", desc := "(I)I" } : Jvm.MethodName) prog_24_method_83_code (2 : Nat) (Option.some Jvm.ClassFile.FieldType.int)) ∈ lw_all := lw_g (lw_at lw_m10 17 rfl) rfl
theorem q2301 : (Jvm.Cond.instanceMethod ({ cls := "NextAtBarModel", name := "bell", desc := "(II)I" } : Jvm.MethodName)) ∈ lw_all := lw_g (lw_at lw_m10 19 rfl) rfl
theorem q2302 : (Jvm.Cond.selects "NextAtBarModel" ({ cls := "NextAtBarModel", name := "bell", desc := "(II)I" } : Jvm.MethodName) ({ cls := "NextAtBarModel", name := "bell", desc := "(II)I" } : Jvm.MethodName)) ∈ lw_all := lw_g (lw_at lw_m10 20 rfl) rfl
theorem q2303 : (Jvm.Cond.code ({ cls := "NextAtBarModel", name := "bell", desc := "(II)I" } : Jvm.MethodName) prog_24_method_84_code (3 : Nat) (Option.some Jvm.ClassFile.FieldType.int)) ∈ lw_all := lw_g (lw_at lw_m10 21 rfl) rfl
theorem q2305 : (Jvm.Cond.instanceMethod ({ cls := "NextAtBarModel", name := "by", desc := "(IZI)I" } : Jvm.MethodName)) ∈ lw_all := lw_g (lw_at lw_m10 23 rfl) rfl
theorem q2306 : (Jvm.Cond.selects "NextAtBarModel" ({ cls := "NextAtBarModel", name := "by", desc := "(IZI)I" } : Jvm.MethodName) ({ cls := "NextAtBarModel", name := "by", desc := "(IZI)I" } : Jvm.MethodName)) ∈ lw_all := lw_g (lw_at lw_m10 24 rfl) rfl
theorem q2307 : (Jvm.Cond.code ({ cls := "NextAtBarModel", name := "by", desc := "(IZI)I" } : Jvm.MethodName) prog_24_method_86_code (4 : Nat) (Option.some Jvm.ClassFile.FieldType.int)) ∈ lw_all := lw_g (lw_at lw_m10 25 rfl) rfl
theorem q2308 : (Jvm.Cond.methodLink "NextAtBarModel" (371 : Nat) ({ cls := "NextAtBarModel", name := "layRule", desc := "(IZ)V" } : Jvm.MethodName)) ∈ lw_all := lw_g (lw_at lw_m10 26 rfl) rfl
theorem q2309 : (Jvm.Cond.privateMethod ({ cls := "NextAtBarModel", name := "layRule", desc := "(IZ)V" } : Jvm.MethodName)) ∈ lw_tbl := lw_at lw_m10 27 rfl
theorem q2310 : (Jvm.Cond.instanceMethod ({ cls := "NextAtBarModel", name := "layRule", desc := "(IZ)V" } : Jvm.MethodName)) ∈ lw_all := lw_g (lw_at lw_m10 28 rfl) rfl
theorem q2311 : (Jvm.Cond.code ({ cls := "NextAtBarModel", name := "layRule", desc := "(IZ)V" } : Jvm.MethodName) prog_24_method_85_code (4 : Nat) (Option.none : Option Jvm.ClassFile.FieldType)) ∈ lw_all := lw_g (lw_at lw_m10 29 rfl) rfl
theorem q2313 : (Jvm.Cond.instanceMethod ({ cls := "NextAtBarModel", name := "bestRule", desc := "(Z)I" } : Jvm.MethodName)) ∈ lw_all := lw_g (lw_at lw_m10 31 rfl) rfl
theorem q2314 : (Jvm.Cond.selects "NextAtBarModel" ({ cls := "NextAtBarModel", name := "bestRule", desc := "(Z)I" } : Jvm.MethodName) ({ cls := "NextAtBarModel", name := "bestRule", desc := "(Z)I" } : Jvm.MethodName)) ∈ lw_all := lw_g (lw_at lw_m10 32 rfl) rfl
theorem q2315 : (Jvm.Cond.code ({ cls := "NextAtBarModel", name := "bestRule", desc := "(Z)I" } : Jvm.MethodName) prog_24_method_87_code (6 : Nat) (Option.some Jvm.ClassFile.FieldType.int)) ∈ lw_all := lw_g (lw_at lw_m10 33 rfl) rfl
theorem q2317 : (Jvm.Cond.instanceMethod ({ cls := "NextAtBarModel", name := "hand", desc := "()I" } : Jvm.MethodName)) ∈ lw_all := lw_g (lw_at lw_m10 35 rfl) rfl
theorem q2318 : (Jvm.Cond.selects "NextAtBarModel" ({ cls := "NextAtBarModel", name := "hand", desc := "()I" } : Jvm.MethodName) ({ cls := "NextAtBarModel", name := "hand", desc := "()I" } : Jvm.MethodName)) ∈ lw_all := lw_g (lw_at lw_m10 36 rfl) rfl
theorem q2319 : (Jvm.Cond.code ({ cls := "NextAtBarModel", name := "hand", desc := "()I" } : Jvm.MethodName) prog_24_method_88_code (5 : Nat) (Option.some Jvm.ClassFile.FieldType.int)) ∈ lw_all := lw_g (lw_at lw_m10 37 rfl) rfl
theorem q2320 : (Jvm.Cond.methodLink "NextAtBarModel" (375 : Nat) ({ cls := "NextAtBarModel", name := "noLess", desc := "(I)I" } : Jvm.MethodName)) ∈ lw_all := lw_g (lw_at lw_m10 38 rfl) rfl
theorem q2321 : (Jvm.Cond.privateMethod ({ cls := "NextAtBarModel", name := "noLess", desc := "(I)I" } : Jvm.MethodName)) ∈ lw_tbl := lw_at lw_m10 39 rfl
theorem q2322 : (Jvm.Cond.instanceMethod ({ cls := "NextAtBarModel", name := "noLess", desc := "(I)I" } : Jvm.MethodName)) ∈ lw_all := lw_g (lw_at lw_m10 40 rfl) rfl
theorem q2323 : (Jvm.Cond.code ({ cls := "NextAtBarModel", name := "noLess", desc := "(I)I" } : Jvm.MethodName) prog_24_method_5_code (2 : Nat) (Option.some Jvm.ClassFile.FieldType.int)) ∈ lw_all := lw_g (lw_at lw_m10 41 rfl) rfl
theorem q2325 : (Jvm.Cond.instanceMethod ({ cls := "NextAtBarModel", name := "beforehand", desc := "(I)I" } : Jvm.MethodName)) ∈ lw_all := lw_g (lw_at lw_m10 43 rfl) rfl
theorem q2326 : (Jvm.Cond.selects "NextAtBarModel" ({ cls := "NextAtBarModel", name := "beforehand", desc := "(I)I" } : Jvm.MethodName) ({ cls := "NextAtBarModel", name := "beforehand", desc := "(I)I" } : Jvm.MethodName)) ∈ lw_all := lw_g (lw_at lw_m10 44 rfl) rfl
theorem q2327 : (Jvm.Cond.code ({ cls := "NextAtBarModel", name := "beforehand", desc := "(I)I" } : Jvm.MethodName) prog_24_method_90_code (3 : Nat) (Option.some Jvm.ClassFile.FieldType.int)) ∈ lw_all := lw_g (lw_at lw_m10 45 rfl) rfl
theorem q2328 : (Jvm.Cond.methodLink "NextAtBarModel" (378 : Nat) ({ cls := "NextAtBarModel", name := "hasCome", desc := "(I)Z" } : Jvm.MethodName)) ∈ lw_all := lw_g (lw_at lw_m10 46 rfl) rfl
theorem q2329 : (Jvm.Cond.privateMethod ({ cls := "NextAtBarModel", name := "hasCome", desc := "(I)Z" } : Jvm.MethodName)) ∈ lw_tbl := lw_at lw_m10 47 rfl
theorem q2330 : (Jvm.Cond.instanceMethod ({ cls := "NextAtBarModel", name := "hasCome", desc := "(I)Z" } : Jvm.MethodName)) ∈ lw_all := lw_g (lw_at lw_m10 48 rfl) rfl
theorem q2331 : (Jvm.Cond.code ({ cls := "NextAtBarModel", name := "hasCome", desc := "(I)Z" } : Jvm.MethodName) prog_24_method_89_code (2 : Nat) (Option.some Jvm.ClassFile.FieldType.boolean)) ∈ lw_all := lw_g (lw_at lw_m10 49 rfl) rfl
theorem q2333 : (Jvm.Cond.instanceMethod ({ cls := "NextAtBarModel", name := "bestPlace", desc := "(I)I" } : Jvm.MethodName)) ∈ lw_all := lw_g (lw_at lw_m10 51 rfl) rfl
theorem q2334 : (Jvm.Cond.selects "NextAtBarModel" ({ cls := "NextAtBarModel", name := "bestPlace", desc := "(I)I" } : Jvm.MethodName) ({ cls := "NextAtBarModel", name := "bestPlace", desc := "(I)I" } : Jvm.MethodName)) ∈ lw_all := lw_g (lw_at lw_m10 52 rfl) rfl
theorem q2335 : (Jvm.Cond.code ({ cls := "NextAtBarModel", name := "bestPlace", desc := "(I)I" } : Jvm.MethodName) prog_24_method_92_code (8 : Nat) (Option.some Jvm.ClassFile.FieldType.int)) ∈ lw_all := lw_g (lw_at lw_m10 53 rfl) rfl
theorem q2336 : (Jvm.Cond.methodLink "NextAtBarModel" (381 : Nat) ({ cls := "NextAtBarModel", name := "waitIfHas", desc := "(I)I" } : Jvm.MethodName)) ∈ lw_all := lw_g (lw_at lw_m10 54 rfl) rfl
theorem q2337 : (Jvm.Cond.privateMethod ({ cls := "NextAtBarModel", name := "waitIfHas", desc := "(I)I" } : Jvm.MethodName)) ∈ lw_tbl := lw_at lw_m10 55 rfl
theorem q2338 : (Jvm.Cond.instanceMethod ({ cls := "NextAtBarModel", name := "waitIfHas", desc := "(I)I" } : Jvm.MethodName)) ∈ lw_all := lw_g (lw_at lw_m10 56 rfl) rfl
theorem q2339 : (Jvm.Cond.code ({ cls := "NextAtBarModel", name := "waitIfHas", desc := "(I)I" } : Jvm.MethodName) prog_24_method_91_code (2 : Nat) (Option.some Jvm.ClassFile.FieldType.int)) ∈ lw_all := lw_g (lw_at lw_m10 57 rfl) rfl
theorem q2341 : (Jvm.Cond.instanceMethod ({ cls := "NextAtBarModel", name := "bestManne\x72", desc := "(I)I" } : Jvm.MethodName)) ∈ lw_all := lw_g (lw_at lw_m10 59 rfl) rfl
theorem q2342 : (Jvm.Cond.selects "NextAtBarModel" ({ cls := "NextAtBarModel", name := "bestManne\x72", desc := "(I)I" } : Jvm.MethodName) ({ cls := "NextAtBarModel", name := "bestManne\x72", desc := "(I)I" } : Jvm.MethodName)) ∈ lw_all := lw_g (lw_at lw_m10 60 rfl) rfl
theorem q2343 : (Jvm.Cond.code ({ cls := "NextAtBarModel", name := "bestManne\x72", desc := "(I)I" } : Jvm.MethodName) prog_24_method_94_code (8 : Nat) (Option.some Jvm.ClassFile.FieldType.int)) ∈ lw_all := lw_g (lw_at lw_m10 61 rfl) rfl
theorem q2344 : (Jvm.Cond.methodLink "NextAtBarModel" (384 : Nat) ({ cls := "NextAtBarModel", name := "beOf", desc := "(II)V" } : Jvm.MethodName)) ∈ lw_all := lw_g (lw_at lw_m10 62 rfl) rfl
theorem q2345 : (Jvm.Cond.privateMethod ({ cls := "NextAtBarModel", name := "beOf", desc := "(II)V" } : Jvm.MethodName)) ∈ lw_tbl := lw_at lw_m10 63 rfl
theorem q2346 : (Jvm.Cond.instanceMethod ({ cls := "NextAtBarModel", name := "beOf", desc := "(II)V" } : Jvm.MethodName)) ∈ lw_all := lw_g (lw_at lw_m10 64 rfl) rfl
theorem q2347 : (Jvm.Cond.code ({ cls := "NextAtBarModel", name := "beOf", desc := "(II)V" } : Jvm.MethodName) prog_24_method_93_code (3 : Nat) (Option.none : Option Jvm.ClassFile.FieldType)) ∈ lw_all := lw_g (lw_at lw_m10 65 rfl) rfl
theorem q2349 : (Jvm.Cond.instanceMethod ({ cls := "NextAtBarModel", name := "leastLook", desc := "(I)I" } : Jvm.MethodName)) ∈ lw_all := lw_g (lw_at lw_m10 67 rfl) rfl
theorem q2350 : (Jvm.Cond.selects "NextAtBarModel" ({ cls := "NextAtBarModel", name := "leastLook", desc := "(I)I" } : Jvm.MethodName) ({ cls := "NextAtBarModel", name := "leastLook", desc := "(I)I" } : Jvm.MethodName)) ∈ lw_all := lw_g (lw_at lw_m10 68 rfl) rfl
theorem q2351 : (Jvm.Cond.code ({ cls := "NextAtBarModel", name := "leastLook", desc := "(I)I" } : Jvm.MethodName) prog_24_method_95_code (8 : Nat) (Option.some Jvm.ClassFile.FieldType.int)) ∈ lw_all := lw_g (lw_at lw_m10 69 rfl) rfl
theorem q2353 : (Jvm.Cond.instanceMethod ({ cls := "NextAtBarModel", name := "cut", desc := "()I" } : Jvm.MethodName)) ∈ lw_all := lw_g (lw_at lw_m10 71 rfl) rfl
theorem q2354 : (Jvm.Cond.selects "NextAtBarModel" ({ cls := "NextAtBarModel", name := "cut", desc := "()I" } : Jvm.MethodName) ({ cls := "NextAtBarModel", name := "cut", desc := "()I" } : Jvm.MethodName)) ∈ lw_all := lw_g (lw_at lw_m10 72 rfl) rfl
theorem q2355 : (Jvm.Cond.code ({ cls := "NextAtBarModel", name := "cut", desc := "()I" } : Jvm.MethodName) prog_24_method_97_code (2 : Nat) (Option.some Jvm.ClassFile.FieldType.int)) ∈ lw_all := lw_g (lw_at lw_m10 73 rfl) rfl
theorem q2356 : (Jvm.Cond.methodLink "NextAtBarModel" (393 : Nat) ({ cls := "NextAtBarModel", name := "cutWhy", desc := "()I" } : Jvm.MethodName)) ∈ lw_all := lw_g (lw_at lw_m10 74 rfl) rfl
theorem q2357 : (Jvm.Cond.privateMethod ({ cls := "NextAtBarModel", name := "cutWhy", desc := "()I" } : Jvm.MethodName)) ∈ lw_tbl := lw_at lw_m10 75 rfl
theorem q2358 : (Jvm.Cond.instanceMethod ({ cls := "NextAtBarModel", name := "cutWhy", desc := "()I" } : Jvm.MethodName)) ∈ lw_all := lw_g (lw_at lw_m10 76 rfl) rfl
theorem q2359 : (Jvm.Cond.code ({ cls := "NextAtBarModel", name := "cutWhy", desc := "()I" } : Jvm.MethodName) prog_24_method_96_code (3 : Nat) (Option.some Jvm.ClassFile.FieldType.int)) ∈ lw_all := lw_g (lw_at lw_m10 77 rfl) rfl
theorem q2361 : (Jvm.Cond.instanceMethod ({ cls := "NextAtBarModel", name := "cutWaits", desc := "()I" } : Jvm.MethodName)) ∈ lw_all := lw_g (lw_at lw_m10 79 rfl) rfl
theorem q2362 : (Jvm.Cond.selects "NextAtBarModel" ({ cls := "NextAtBarModel", name := "cutWaits", desc := "()I" } : Jvm.MethodName) ({ cls := "NextAtBarModel", name := "cutWaits", desc := "()I" } : Jvm.MethodName)) ∈ lw_all := lw_g (lw_at lw_m10 80 rfl) rfl
theorem q2363 : (Jvm.Cond.code ({ cls := "NextAtBarModel", name := "cutWaits", desc := "()I" } : Jvm.MethodName) prog_24_method_98_code (2 : Nat) (Option.some Jvm.ClassFile.FieldType.int)) ∈ lw_all := lw_g (lw_at lw_m10 81 rfl) rfl
theorem q2365 : (Jvm.Cond.instanceMethod ({ cls := "NextAtBarModel", name := "letCosts", desc := "(II)I" } : Jvm.MethodName)) ∈ lw_all := lw_g (lw_at lw_m10 83 rfl) rfl
theorem q2366 : (Jvm.Cond.selects "NextAtBarModel" ({ cls := "NextAtBarModel", name := "letCosts", desc := "(II)I" } : Jvm.MethodName) ({ cls := "NextAtBarModel", name := "letCosts", desc := "(II)I" } : Jvm.MethodName)) ∈ lw_all := lw_g (lw_at lw_m10 84 rfl) rfl
theorem q2367 : (Jvm.Cond.code ({ cls := "NextAtBarModel", name := "letCosts", desc := "(II)I" } : Jvm.MethodName) prog_24_method_100_code (6 : Nat) (Option.some Jvm.ClassFile.FieldType.int)) ∈ lw_all := lw_g (lw_at lw_m10 85 rfl) rfl
theorem q2368 : (Jvm.Cond.methodLink "NextAtBarModel" (396 : Nat) ({ cls := "NextAtBarModel", name := "canNotLet", desc := "(II)Z" } : Jvm.MethodName)) ∈ lw_all := lw_g (lw_at lw_m10 86 rfl) rfl
theorem q2369 : (Jvm.Cond.privateMethod ({ cls := "NextAtBarModel", name := "canNotLet", desc := "(II)Z" } : Jvm.MethodName)) ∈ lw_tbl := lw_at lw_m10 87 rfl
theorem q2370 : (Jvm.Cond.instanceMethod ({ cls := "NextAtBarModel", name := "canNotLet", desc := "(II)Z" } : Jvm.MethodName)) ∈ lw_all := lw_g (lw_at lw_m10 88 rfl) rfl
theorem q2371 : (Jvm.Cond.code ({ cls := "NextAtBarModel", name := "canNotLet", desc := "(II)Z" } : Jvm.MethodName) prog_24_method_99_code (3 : Nat) (Option.some Jvm.ClassFile.FieldType.boolean)) ∈ lw_all := lw_g (lw_at lw_m10 89 rfl) rfl
theorem q2373 : (Jvm.Cond.instanceMethod ({ cls := "NextAtBarModel", name := "honesty", desc := "(IZ)I" } : Jvm.MethodName)) ∈ lw_all := lw_g (lw_at lw_m10 91 rfl) rfl
theorem q2374 : (Jvm.Cond.selects "NextAtBarModel" ({ cls := "NextAtBarModel", name := "honesty", desc := "(IZ)I" } : Jvm.MethodName) ({ cls := "NextAtBarModel", name := "honesty", desc := "(IZ)I" } : Jvm.MethodName)) ∈ lw_all := lw_g (lw_at lw_m10 92 rfl) rfl
theorem q2375 : (Jvm.Cond.code ({ cls := "NextAtBarModel", name := "honesty", desc := "(IZ)I" } : Jvm.MethodName) prog_24_method_104_code (6 : Nat) (Option.some Jvm.ClassFile.FieldType.int)) ∈ lw_all := lw_g (lw_at lw_m10 93 rfl) rfl
theorem q2376 : (Jvm.Cond.methodLink "NextAtBarModel" (402 : Nat) ({ cls := "NextAtBarModel", name := "setWhy", desc := "(I)I" } : Jvm.MethodName)) ∈ lw_all := lw_g (lw_at lw_m10 94 rfl) rfl
theorem q2377 : (Jvm.Cond.privateMethod ({ cls := "NextAtBarModel", name := "setWhy", desc := "(I)I" } : Jvm.MethodName)) ∈ lw_tbl := lw_at lw_m10 95 rfl
theorem q2378 : (Jvm.Cond.instanceMethod ({ cls := "NextAtBarModel", name := "setWhy", desc := "(I)I" } : Jvm.MethodName)) ∈ lw_all := lw_g (lw_at lw_m10 96 rfl) rfl
theorem q2379 : (Jvm.Cond.code ({ cls := "NextAtBarModel", name := "setWhy", desc := "(I)I" } : Jvm.MethodName) prog_24_method_103_code (2 : Nat) (Option.some Jvm.ClassFile.FieldType.int)) ∈ lw_all := lw_g (lw_at lw_m10 97 rfl) rfl
theorem q2380 : (Jvm.Cond.methodLink "NextAtBarModel" (399 : Nat) ({ cls := "NextAtBarModel", name := "allPeople", desc := "()I" } : Jvm.MethodName)) ∈ lw_all := lw_g (lw_at lw_m10 98 rfl) rfl
theorem q2381 : (Jvm.Cond.privateMethod ({ cls := "NextAtBarModel", name := "allPeople", desc := "()I" } : Jvm.MethodName)) ∈ lw_tbl := lw_at lw_m10 99 rfl
theorem q2382 : (Jvm.Cond.instanceMethod ({ cls := "NextAtBarModel", name := "allPeople", desc := "()I" } : Jvm.MethodName)) ∈ lw_all := lw_g (lw_at lw_m10 100 rfl) rfl
theorem q2383 : (Jvm.Cond.code ({ cls := "NextAtBarModel", name := "allPeople", desc := "()I" } : Jvm.MethodName) prog_24_method_102_code (1 : Nat) (Option.some Jvm.ClassFile.FieldType.int)) ∈ lw_all := lw_g (lw_at lw_m10 101 rfl) rfl
theorem q2384 : (Jvm.Cond.methodLink "NextAtBarModel" (405 : Nat) ({ cls := "NextAtBarModel", name := "layHonest", desc := "(I)V" } : Jvm.MethodName)) ∈ lw_all := lw_g (lw_at lw_m10 102 rfl) rfl
theorem q2385 : (Jvm.Cond.privateMethod ({ cls := "NextAtBarModel", name := "layHonest", desc := "(I)V" } : Jvm.MethodName)) ∈ lw_tbl := lw_at lw_m10 103 rfl
theorem q2386 : (Jvm.Cond.instanceMethod ({ cls := "NextAtBarModel", name := "layHonest", desc := "(I)V" } : Jvm.MethodName)) ∈ lw_all := lw_g (lw_at lw_m10 104 rfl) rfl
theorem q2387 : (Jvm.Cond.code ({ cls := "NextAtBarModel", name := "layHonest", desc := "(I)V" } : Jvm.MethodName) prog_24_method_101_code (3 : Nat) (Option.none : Option Jvm.ClassFile.FieldType)) ∈ lw_all := lw_g (lw_at lw_m10 105 rfl) rfl
theorem q2389 : (Jvm.Cond.instanceMethod ({ cls := "NextAtBarModel", name := "rest", desc := "(I)I" } : Jvm.MethodName)) ∈ lw_all := lw_g (lw_at lw_m10 107 rfl) rfl
theorem q2390 : (Jvm.Cond.selects "NextAtBarModel" ({ cls := "NextAtBarModel", name := "rest", desc := "(I)I" } : Jvm.MethodName) ({ cls := "NextAtBarModel", name := "rest", desc := "(I)I" } : Jvm.MethodName)) ∈ lw_all := lw_g (lw_at lw_m10 108 rfl) rfl
theorem q2391 : (Jvm.Cond.code ({ cls := "NextAtBarModel", name := "rest", desc := "(I)I" } : Jvm.MethodName) prog_24_method_106_code (3 : Nat) (Option.some Jvm.ClassFile.FieldType.int)) ∈ lw_all := lw_g (lw_at lw_m10 109 rfl) rfl
theorem q2392 : (Jvm.Cond.methodLink "NextAtBarModel" (408 : Nat) ({ cls := "NextAtBarModel", name := "isAtRest", desc := "(I)Z" } : Jvm.MethodName)) ∈ lw_all := lw_g (lw_at lw_m10 110 rfl) rfl
theorem q2393 : (Jvm.Cond.privateMethod ({ cls := "NextAtBarModel", name := "isAtRest", desc := "(I)Z" } : Jvm.MethodName)) ∈ lw_tbl := lw_at lw_m10 111 rfl
theorem q2394 : (Jvm.Cond.instanceMethod ({ cls := "NextAtBarModel", name := "isAtRest", desc := "(I)Z" } : Jvm.MethodName)) ∈ lw_all := lw_g (lw_at lw_m10 112 rfl) rfl
theorem q2395 : (Jvm.Cond.code ({ cls := "NextAtBarModel", name := "isAtRest", desc := "(I)Z" } : Jvm.MethodName) prog_24_method_105_code (3 : Nat) (Option.some Jvm.ClassFile.FieldType.boolean)) ∈ lw_all := lw_g (lw_at lw_m10 113 rfl) rfl
theorem q2397 : (Jvm.Cond.instanceMethod ({ cls := "NextAtBarModel", name := "rests", desc := "()I" } : Jvm.MethodName)) ∈ lw_all := lw_g (lw_at lw_m10 115 rfl) rfl
theorem q2398 : (Jvm.Cond.selects "NextAtBarModel" ({ cls := "NextAtBarModel", name := "rests", desc := "()I" } : Jvm.MethodName) ({ cls := "NextAtBarModel", name := "rests", desc := "()I" } : Jvm.MethodName)) ∈ lw_all := lw_g (lw_at lw_m10 116 rfl) rfl
theorem q2399 : (Jvm.Cond.code ({ cls := "NextAtBarModel", name := "rests", desc := "()I" } : Jvm.MethodName) prog_24_method_107_code (3 : Nat) (Option.some Jvm.ClassFile.FieldType.int)) ∈ lw_all := lw_g (lw_at lw_m10 117 rfl) rfl
theorem q2401 : (Jvm.Cond.instanceMethod ({ cls := "NextAtBarModel", name := "row", desc := "(II)I" } : Jvm.MethodName)) ∈ lw_all := lw_g (lw_at lw_m10 119 rfl) rfl
theorem q2402 : (Jvm.Cond.selects "NextAtBarModel" ({ cls := "NextAtBarModel", name := "row", desc := "(II)I" } : Jvm.MethodName) ({ cls := "NextAtBarModel", name := "row", desc := "(II)I" } : Jvm.MethodName)) ∈ lw_all := lw_g (lw_at lw_m10 120 rfl) rfl
theorem q2403 : (Jvm.Cond.code ({ cls := "NextAtBarModel", name := "row", desc := "(II)I" } : Jvm.MethodName) prog_24_method_110_code (4 : Nat) (Option.some Jvm.ClassFile.FieldType.int)) ∈ lw_all := lw_g (lw_at lw_m10 121 rfl) rfl
theorem q2404 : (Jvm.Cond.methodLink "NextAtBarModel" (418 : Nat) ({ cls := "NextAtBarModel", name := "rowWhy", desc := "(I)I" } : Jvm.MethodName)) ∈ lw_all := lw_g (lw_at lw_m10 122 rfl) rfl
theorem q2405 : (Jvm.Cond.privateMethod ({ cls := "NextAtBarModel", name := "rowWhy", desc := "(I)I" } : Jvm.MethodName)) ∈ lw_tbl := lw_at lw_m10 123 rfl
theorem q2406 : (Jvm.Cond.instanceMethod ({ cls := "NextAtBarModel", name := "rowWhy", desc := "(I)I" } : Jvm.MethodName)) ∈ lw_all := lw_g (lw_at lw_m10 124 rfl) rfl
theorem q2407 : (Jvm.Cond.code ({ cls := "NextAtBarModel", name := "rowWhy", desc := "(I)I" } : Jvm.MethodName) prog_24_method_109_code (3 : Nat) (Option.some Jvm.ClassFile.FieldType.int)) ∈ lw_all := lw_g (lw_at lw_m10 125 rfl) rfl
theorem q2408 : (Jvm.Cond.methodLink "NextAtBarModel" (414 : Nat) ({ cls := "NextAtBarModel", name := "rowFrom", desc := "(IIIIII)V" } : Jvm.MethodName)) ∈ lw_all := lw_g (lw_at lw_m10 126 rfl) rfl
theorem q2409 : (Jvm.Cond.privateMethod ({ cls := "NextAtBarModel", name := "rowFrom", desc := "(IIIIII)V" } : Jvm.MethodName)) ∈ lw_tbl := lw_at lw_m10 127 rfl
theorem q2410 : (Jvm.Cond.instanceMethod ({ cls := "NextAtBarModel", name := "rowFrom", desc := "(IIIIII)V" } : Jvm.MethodName)) ∈ lw_all := lw_g (lw_at lw_m10 128 rfl) rfl
theorem q2411 : (Jvm.Cond.code ({ cls := "NextAtBarModel", name := "rowFrom", desc := "(IIIIII)V" } : Jvm.MethodName) prog_24_method_108_code (9 : Nat) (Option.none : Option Jvm.ClassFile.FieldType)) ∈ lw_all := lw_g (lw_at lw_m10 129 rfl) rfl
theorem q2413 : (Jvm.Cond.instanceMethod ({ cls := "NextAtBarModel", name := "rowSum", desc := "(I)I" } : Jvm.MethodName)) ∈ lw_all := lw_g (lw_at lw_m10 131 rfl) rfl
theorem q2414 : (Jvm.Cond.selects "NextAtBarModel" ({ cls := "NextAtBarModel", name := "rowSum", desc := "(I)I" } : Jvm.MethodName) ({ cls := "NextAtBarModel", name := "rowSum", desc := "(I)I" } : Jvm.MethodName)) ∈ lw_all := lw_g (lw_at lw_m10 132 rfl) rfl
theorem q2415 : (Jvm.Cond.code ({ cls := "NextAtBarModel", name := "rowSum", desc := "(I)I" } : Jvm.MethodName) prog_24_method_111_code (3 : Nat) (Option.some Jvm.ClassFile.FieldType.int)) ∈ lw_all := lw_g (lw_at lw_m10 133 rfl) rfl
theorem q2417 : (Jvm.Cond.instanceMethod ({ cls := "NextAtBarModel", name := "liars", desc := "()I" } : Jvm.MethodName)) ∈ lw_all := lw_g (lw_at lw_m10 135 rfl) rfl
theorem q2418 : (Jvm.Cond.selects "NextAtBarModel" ({ cls := "NextAtBarModel", name := "liars", desc := "()I" } : Jvm.MethodName) ({ cls := "NextAtBarModel", name := "liars", desc := "()I" } : Jvm.MethodName)) ∈ lw_all := lw_g (lw_at lw_m10 136 rfl) rfl
theorem q2419 : (Jvm.Cond.code ({ cls := "NextAtBarModel", name := "liars", desc := "()I" } : Jvm.MethodName) prog_24_method_114_code (1 : Nat) (Option.some Jvm.ClassFile.FieldType.int)) ∈ lw_all := lw_g (lw_at lw_m10 137 rfl) rfl
theorem q2420 : (Jvm.Cond.methodLink "NextAtBarModel" (424 : Nat) ({ cls := "NextAtBarModel", name := "liarsOf", desc := "()I" } : Jvm.MethodName)) ∈ lw_all := lw_g (lw_at lw_m10 138 rfl) rfl
theorem q2421 : (Jvm.Cond.privateMethod ({ cls := "NextAtBarModel", name := "liarsOf", desc := "()I" } : Jvm.MethodName)) ∈ lw_tbl := lw_at lw_m10 139 rfl
theorem q2422 : (Jvm.Cond.instanceMethod ({ cls := "NextAtBarModel", name := "liarsOf", desc := "()I" } : Jvm.MethodName)) ∈ lw_all := lw_g (lw_at lw_m10 140 rfl) rfl
theorem q2423 : (Jvm.Cond.code ({ cls := "NextAtBarModel", name := "liarsOf", desc := "()I" } : Jvm.MethodName) prog_24_method_113_code (3 : Nat) (Option.some Jvm.ClassFile.FieldType.int)) ∈ lw_all := lw_g (lw_at lw_m10 141 rfl) rfl
theorem q2424 : (Jvm.Cond.methodLink "NextAtBarModel" (421 : Nat) ({ cls := "NextAtBarModel", name := "layTellings", desc := "(I)Z" } : Jvm.MethodName)) ∈ lw_all := lw_g (lw_at lw_m10 142 rfl) rfl
theorem q2425 : (Jvm.Cond.privateMethod ({ cls := "NextAtBarModel", name := "layTellings", desc := "(I)Z" } : Jvm.MethodName)) ∈ lw_tbl := lw_at lw_m10 143 rfl
theorem q2426 : (Jvm.Cond.instanceMethod ({ cls := "NextAtBarModel", name := "layTellings", desc := "(I)Z" } : Jvm.MethodName)) ∈ lw_all := lw_g (lw_at lw_m10 144 rfl) rfl
theorem q2427 : (Jvm.Cond.code ({ cls := "NextAtBarModel", name := "layTellings", desc := "(I)Z" } : Jvm.MethodName) prog_24_method_112_code (5 : Nat) (Option.some Jvm.ClassFile.FieldType.boolean)) ∈ lw_all := lw_g (lw_at lw_m10 145 rfl) rfl
theorem q2429 : (Jvm.Cond.instanceMethod ({ cls := "NextAtBarModel", name := "surely", desc := "(II)I" } : Jvm.MethodName)) ∈ lw_all := lw_g (lw_at lw_m10 147 rfl) rfl
theorem q2430 : (Jvm.Cond.selects "NextAtBarModel" ({ cls := "NextAtBarModel", name := "surely", desc := "(II)I" } : Jvm.MethodName) ({ cls := "NextAtBarModel", name := "surely", desc := "(II)I" } : Jvm.MethodName)) ∈ lw_all := lw_g (lw_at lw_m10 148 rfl) rfl
theorem q2431 : (Jvm.Cond.code ({ cls := "NextAtBarModel", name := "surely", desc := "(II)I" } : Jvm.MethodName) prog_24_method_115_code (3 : Nat) (Option.some Jvm.ClassFile.FieldType.int)) ∈ lw_all := lw_g (lw_at lw_m10 149 rfl) rfl
theorem q2433 : (Jvm.Cond.instanceMethod ({ cls := "NextAtBarModel", name := "so", desc := "()I" } : Jvm.MethodName)) ∈ lw_all := lw_g (lw_at lw_m10 151 rfl) rfl
theorem q2434 : (Jvm.Cond.selects "NextAtBarModel" ({ cls := "NextAtBarModel", name := "so", desc := "()I" } : Jvm.MethodName) ({ cls := "NextAtBarModel", name := "so", desc := "()I" } : Jvm.MethodName)) ∈ lw_all := lw_g (lw_at lw_m10 152 rfl) rfl
theorem q2435 : (Jvm.Cond.code ({ cls := "NextAtBarModel", name := "so", desc := "()I" } : Jvm.MethodName) prog_24_method_116_code (3 : Nat) (Option.some Jvm.ClassFile.FieldType.int)) ∈ lw_all := lw_g (lw_at lw_m10 153 rfl) rfl
theorem q2437 : (Jvm.Cond.instanceMethod ({ cls := "NextAtBarModel", name := "pass", desc := "(I)I" } : Jvm.MethodName)) ∈ lw_all := lw_g (lw_at lw_m10 155 rfl) rfl
theorem q2438 : (Jvm.Cond.selects "NextAtBarModel" ({ cls := "NextAtBarModel", name := "pass", desc := "(I)I" } : Jvm.MethodName) ({ cls := "NextAtBarModel", name := "pass", desc := "(I)I" } : Jvm.MethodName)) ∈ lw_all := lw_g (lw_at lw_m10 156 rfl) rfl
theorem q2439 : (Jvm.Cond.code ({ cls := "NextAtBarModel", name := "pass", desc := "(I)I" } : Jvm.MethodName) prog_24_method_118_code (3 : Nat) (Option.some Jvm.ClassFile.FieldType.int)) ∈ lw_all := lw_g (lw_at lw_m10 157 rfl) rfl
theorem q2440 : (Jvm.Cond.methodLink "NextAtBarModel" (427 : Nat) ({ cls := "NextAtBarModel", name := "note", desc := "()V" } : Jvm.MethodName)) ∈ lw_all := lw_g (lw_at lw_m10 158 rfl) rfl
theorem q2441 : (Jvm.Cond.privateMethod ({ cls := "NextAtBarModel", name := "note", desc := "()V" } : Jvm.MethodName)) ∈ lw_tbl := lw_at lw_m10 159 rfl
theorem q2442 : (Jvm.Cond.instanceMethod ({ cls := "NextAtBarModel", name := "note", desc := "()V" } : Jvm.MethodName)) ∈ lw_all := lw_g (lw_at lw_m10 160 rfl) rfl
theorem q2443 : (Jvm.Cond.code ({ cls := "NextAtBarModel", name := "note", desc := "()V" } : Jvm.MethodName) prog_24_method_117_code (2 : Nat) (Option.none : Option Jvm.ClassFile.FieldType)) ∈ lw_all := lw_g (lw_at lw_m10 161 rfl) rfl
theorem q2445 : (Jvm.Cond.instanceMethod ({ cls := "NextAtBarModel", name := "moves", desc := "(II)Z" } : Jvm.MethodName)) ∈ lw_all := lw_g (lw_at lw_m10 163 rfl) rfl
theorem q2446 : (Jvm.Cond.selects "NextAtBarModel" ({ cls := "NextAtBarModel", name := "moves", desc := "(II)Z" } : Jvm.MethodName) ({ cls := "NextAtBarModel", name := "moves", desc := "(II)Z" } : Jvm.MethodName)) ∈ lw_all := lw_g (lw_at lw_m10 164 rfl) rfl
theorem q2447 : (Jvm.Cond.code ({ cls := "NextAtBarModel", name := "moves", desc := "(II)Z" } : Jvm.MethodName) prog_24_method_119_code (3 : Nat) (Option.some Jvm.ClassFile.FieldType.boolean)) ∈ lw_all := lw_g (lw_at lw_m10 165 rfl) rfl
theorem q2448 : (Jvm.Cond.methodLink "NextAtBarModel" (430 : Nat) ({ cls := "NextAtBarModel", name := "isNot", desc := "(I)Z" } : Jvm.MethodName)) ∈ lw_all := lw_g (lw_at lw_m10 166 rfl) rfl
theorem q2449 : (Jvm.Cond.privateMethod ({ cls := "NextAtBarModel", name := "isNot", desc := "(I)Z" } : Jvm.MethodName)) ∈ lw_tbl := lw_at lw_m10 167 rfl
theorem q2450 : (Jvm.Cond.instanceMethod ({ cls := "NextAtBarModel", name := "isNot", desc := "(I)Z" } : Jvm.MethodName)) ∈ lw_all := lw_g (lw_at lw_m10 168 rfl) rfl
theorem q2451 : (Jvm.Cond.code ({ cls := "NextAtBarModel", name := "isNot", desc := "(I)Z" } : Jvm.MethodName) prog_24_method_6_code (2 : Nat) (Option.some Jvm.ClassFile.FieldType.boolean)) ∈ lw_all := lw_g (lw_at lw_m10 169 rfl) rfl
theorem q2453 : (Jvm.Cond.instanceMethod ({ cls := "NextAtBarModel", name := "lets", desc := "(II)Z" } : Jvm.MethodName)) ∈ lw_all := lw_g (lw_at lw_m10 171 rfl) rfl
theorem q2454 : (Jvm.Cond.selects "NextAtBarModel" ({ cls := "NextAtBarModel", name := "lets", desc := "(II)Z" } : Jvm.MethodName) ({ cls := "NextAtBarModel", name := "lets", desc := "(II)Z" } : Jvm.MethodName)) ∈ lw_all := lw_g (lw_at lw_m10 172 rfl) rfl
theorem q2455 : (Jvm.Cond.code ({ cls := "NextAtBarModel", name := "lets", desc := "(II)Z" } : Jvm.MethodName) prog_24_method_120_code (3 : Nat) (Option.some Jvm.ClassFile.FieldType.boolean)) ∈ lw_all := lw_g (lw_at lw_m10 173 rfl) rfl
theorem q2457 : (Jvm.Cond.instanceMethod ({ cls := "NextAtBarModel", name := "calls", desc := "(I)I" } : Jvm.MethodName)) ∈ lw_all := lw_g (lw_at lw_m10 175 rfl) rfl
theorem q2458 : (Jvm.Cond.selects "NextAtBarModel" ({ cls := "NextAtBarModel", name := "calls", desc := "(I)I" } : Jvm.MethodName) ({ cls := "NextAtBarModel", name := "calls", desc := "(I)I" } : Jvm.MethodName)) ∈ lw_all := lw_g (lw_at lw_m10 176 rfl) rfl
theorem q2459 : (Jvm.Cond.code ({ cls := "NextAtBarModel", name := "calls", desc := "(I)I" } : Jvm.MethodName) prog_24_method_121_code (3 : Nat) (Option.some Jvm.ClassFile.FieldType.int)) ∈ lw_all := lw_g (lw_at lw_m10 177 rfl) rfl
theorem q2461 : (Jvm.Cond.instanceMethod ({ cls := "NextAtBarModel", name := "leaves", desc := "(I)Z" } : Jvm.MethodName)) ∈ lw_all := lw_g (lw_at lw_m10 179 rfl) rfl
theorem q2462 : (Jvm.Cond.selects "NextAtBarModel" ({ cls := "NextAtBarModel", name := "leaves", desc := "(I)Z" } : Jvm.MethodName) ({ cls := "NextAtBarModel", name := "leaves", desc := "(I)Z" } : Jvm.MethodName)) ∈ lw_all := lw_g (lw_at lw_m10 180 rfl) rfl
theorem q2463 : (Jvm.Cond.code ({ cls := "NextAtBarModel", name := "leaves", desc := "(I)Z" } : Jvm.MethodName) prog_24_method_122_code (2 : Nat) (Option.some Jvm.ClassFile.FieldType.boolean)) ∈ lw_all := lw_g (lw_at lw_m10 181 rfl) rfl
theorem q2465 : (Jvm.Cond.instanceMethod ({ cls := "NextAtBarModel", name := "undo", desc := "()Z" } : Jvm.MethodName)) ∈ lw_all := lw_g (lw_at lw_m10 183 rfl) rfl
theorem q2466 : (Jvm.Cond.selects "NextAtBarModel" ({ cls := "NextAtBarModel", name := "undo", desc := "()Z" } : Jvm.MethodName) ({ cls := "NextAtBarModel", name := "undo", desc := "()Z" } : Jvm.MethodName)) ∈ lw_all := lw_g (lw_at lw_m10 184 rfl) rfl
theorem q2467 : (Jvm.Cond.code ({ cls := "NextAtBarModel", name := "undo", desc := "()Z" } : Jvm.MethodName) prog_24_method_123_code (1 : Nat) (Option.some Jvm.ClassFile.FieldType.boolean)) ∈ lw_all := lw_g (lw_at lw_m10 185 rfl) rfl
theorem q2469 : (Jvm.Cond.instanceMethod ({ cls := "NextAtBarModel", name := "image", desc := "()I" } : Jvm.MethodName)) ∈ lw_all := lw_g (lw_at lw_m10 187 rfl) rfl
theorem q2470 : (Jvm.Cond.selects "NextAtBarModel" ({ cls := "NextAtBarModel", name := "image", desc := "()I" } : Jvm.MethodName) ({ cls := "NextAtBarModel", name := "image", desc := "()I" } : Jvm.MethodName)) ∈ lw_all := lw_g (lw_at lw_m10 188 rfl) rfl
theorem q2471 : (Jvm.Cond.code ({ cls := "NextAtBarModel", name := "image", desc := "()I" } : Jvm.MethodName) prog_24_method_124_code (1 : Nat) (Option.some Jvm.ClassFile.FieldType.int)) ∈ lw_all := lw_g (lw_at lw_m10 189 rfl) rfl
theorem q2473 : (Jvm.Cond.instanceMethod ({ cls := "NextAtBarModel", name := "back", desc := "(I)Z" } : Jvm.MethodName)) ∈ lw_all := lw_g (lw_at lw_m10 191 rfl) rfl
theorem q2474 : (Jvm.Cond.selects "NextAtBarModel" ({ cls := "NextAtBarModel", name := "back", desc := "(I)Z" } : Jvm.MethodName) ({ cls := "NextAtBarModel", name := "back", desc := "(I)Z" } : Jvm.MethodName)) ∈ lw_all := lw_g (lw_at lw_m10 192 rfl) rfl
theorem q2475 : (Jvm.Cond.code ({ cls := "NextAtBarModel", name := "back", desc := "(I)Z" } : Jvm.MethodName) prog_24_method_125_code (2 : Nat) (Option.some Jvm.ClassFile.FieldType.boolean)) ∈ lw_all := lw_g (lw_at lw_m10 193 rfl) rfl
theorem q2477 : (Jvm.Cond.instanceMethod ({ cls := "NextAtBarModel", name := "told", desc := "(II)I" } : Jvm.MethodName)) ∈ lw_all := lw_g (lw_at lw_m10 195 rfl) rfl
theorem q2478 : (Jvm.Cond.selects "NextAtBarModel" ({ cls := "NextAtBarModel", name := "told", desc := "(II)I" } : Jvm.MethodName) ({ cls := "NextAtBarModel", name := "told", desc := "(II)I" } : Jvm.MethodName)) ∈ lw_all := lw_g (lw_at lw_m10 196 rfl) rfl
theorem q2479 : (Jvm.Cond.code ({ cls := "NextAtBarModel", name := "told", desc := "(II)I" } : Jvm.MethodName) prog_24_method_126_code (4 : Nat) (Option.some Jvm.ClassFile.FieldType.int)) ∈ lw_all := lw_g (lw_at lw_m10 197 rfl) rfl
theorem q2481 : (Jvm.Cond.instanceMethod ({ cls := "NextAtBarModel", name := "wants", desc := "(II)I" } : Jvm.MethodName)) ∈ lw_all := lw_g (lw_at lw_m10 199 rfl) rfl
theorem q2482 : (Jvm.Cond.selects "NextAtBarModel" ({ cls := "NextAtBarModel", name := "wants", desc := "(II)I" } : Jvm.MethodName) ({ cls := "NextAtBarModel", name := "wants", desc := "(II)I" } : Jvm.MethodName)) ∈ lw_all := lw_g (lw_at lw_m10 200 rfl) rfl
theorem q2483 : (Jvm.Cond.code ({ cls := "NextAtBarModel", name := "wants", desc := "(II)I" } : Jvm.MethodName) prog_24_method_127_code (3 : Nat) (Option.some Jvm.ClassFile.FieldType.int)) ∈ lw_all := lw_g (lw_at lw_m10 201 rfl) rfl
theorem q2484 : (Jvm.Cond.methodLink "NextAtBarModel" (433 : Nat) ({ cls := "NextAtBarModel", name := "isDrink", desc := "(I)Z" } : Jvm.MethodName)) ∈ lw_all := lw_g (lw_at lw_m10 202 rfl) rfl
theorem q2485 : (Jvm.Cond.privateMethod ({ cls := "NextAtBarModel", name := "isDrink", desc := "(I)Z" } : Jvm.MethodName)) ∈ lw_tbl := lw_at lw_m10 203 rfl
theorem q2486 : (Jvm.Cond.instanceMethod ({ cls := "NextAtBarModel", name := "isDrink", desc := "(I)Z" } : Jvm.MethodName)) ∈ lw_all := lw_g (lw_at lw_m10 204 rfl) rfl
theorem q2487 : (Jvm.Cond.code ({ cls := "NextAtBarModel", name := "isDrink", desc := "(I)Z" } : Jvm.MethodName) prog_24_method_43_code (2 : Nat) (Option.some Jvm.ClassFile.FieldType.boolean)) ∈ lw_all := lw_g (lw_at lw_m10 205 rfl) rfl
theorem q2489 : (Jvm.Cond.instanceMethod ({ cls := "NextAtBarModel", name := "led", desc := "(I)I" } : Jvm.MethodName)) ∈ lw_all := lw_g (lw_at lw_m10 207 rfl) rfl
theorem q2490 : (Jvm.Cond.selects "NextAtBarModel" ({ cls := "NextAtBarModel", name := "led", desc := "(I)I" } : Jvm.MethodName) ({ cls := "NextAtBarModel", name := "led", desc := "(I)I" } : Jvm.MethodName)) ∈ lw_all := lw_g (lw_at lw_m10 208 rfl) rfl
theorem q2491 : (Jvm.Cond.code ({ cls := "NextAtBarModel", name := "led", desc := "(I)I" } : Jvm.MethodName) prog_24_method_128_code (4 : Nat) (Option.some Jvm.ClassFile.FieldType.int)) ∈ lw_all := lw_g (lw_at lw_m10 209 rfl) rfl
theorem q2493 : (Jvm.Cond.instanceMethod ({ cls := "NextAtBarModel", name := "size", desc := "(I)I" } : Jvm.MethodName)) ∈ lw_all := lw_g (lw_at lw_m10 211 rfl) rfl
theorem q2494 : (Jvm.Cond.selects "NextAtBarModel" ({ cls := "NextAtBarModel", name := "size", desc := "(I)I" } : Jvm.MethodName) ({ cls := "NextAtBarModel", name := "size", desc := "(I)I" } : Jvm.MethodName)) ∈ lw_all := lw_g (lw_at lw_m10 212 rfl) rfl
theorem q2495 : (Jvm.Cond.code ({ cls := "NextAtBarModel", name := "size", desc := "(I)I" } : Jvm.MethodName) prog_24_method_129_code (2 : Nat) (Option.some Jvm.ClassFile.FieldType.int)) ∈ lw_all := lw_g (lw_at lw_m10 213 rfl) rfl
theorem q2497 : (Jvm.Cond.instanceMethod ({ cls := "NextAtBarModel", name := "trouble", desc := "()I" } : Jvm.MethodName)) ∈ lw_all := lw_g (lw_at lw_m10 215 rfl) rfl
theorem q2498 : (Jvm.Cond.selects "NextAtBarModel" ({ cls := "NextAtBarModel", name := "trouble", desc := "()I" } : Jvm.MethodName) ({ cls := "NextAtBarModel", name := "trouble", desc := "()I" } : Jvm.MethodName)) ∈ lw_all := lw_g (lw_at lw_m10 216 rfl) rfl
theorem q2499 : (Jvm.Cond.code ({ cls := "NextAtBarModel", name := "trouble", desc := "()I" } : Jvm.MethodName) prog_24_method_130_code (1 : Nat) (Option.some Jvm.ClassFile.FieldType.int)) ∈ lw_all := lw_g (lw_at lw_m10 217 rfl) rfl
theorem q2512 : (Jvm.Cond.castable "NextAtBarModel" "java/lang/Object") ∈ lw_tbl := lw_at lw_m10 230 rfl
theorem in_X4 : ∀ w ∈ wsX40, w ∈ lw_all := lw_in wsX40 [1872, 1874, 1876, 1878, 1880, 1882, 1884, 1886, 1888, 1890, 1892, 1894, 1896, 1898, 1900, 1902, 1904, 1906, 1908, 1910, 1912, 1914, 1916, 1918, 1920, 1922, 1924, 1926, 1928, 1930, 1932, 1934, 1936, 1938, 1940] (by decide +kernel) (by decide +kernel)
