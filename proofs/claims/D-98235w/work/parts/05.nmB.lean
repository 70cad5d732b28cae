/-! NextAtBar$Bar -/
set_option maxRecDepth 100000
def RX21 : String := "NextAtBar$Ba\x72"
def TX21 : u_T := fun k => match k with
  | 0 => ("NextAtBar$Ba\x72", "house", "LNextAtBar$House;", true)
  | 1 => ("NextAtBar$Ba\x72", "people", "I", true)
  | 2 => ("NextAtBar$Ba\x72", "does", "[I", true)
  | 3 => ("NextAtBar$Ba\x72", "place", "[I", true)
  | 4 => ("NextAtBar$Ba\x72", "look", "[I", true)
  | 5 => ("NextAtBar$Ba\x72", "says", "[I", true)
  | 6 => ("NextAtBar$Ba\x72", "shelf", "[I", true)
  | 7 => ("NextAtBar$Ba\x72", "begun", "[I", true)
  | 8 => ("NextAtBar$Ba\x72", "whom", "[I", true)
  | 9 => ("NextAtBar$Ba\x72", "had", "[I", true)
  | 10 => ("NextAtBar$Ba\x72", "wait", "[I", true)
  | 11 => ("NextAtBar$Ba\x72", "passed", "[I", true)
  | 12 => ("NextAtBar$Ba\x72", "pushed", "[I", true)
  | 13 => ("NextAtBar$Ba\x72", "served", "[I", true)
  | 14 => ("NextAtBar$Ba\x72", "isRegula\x72", "[Z", true)
  | 15 => ("NextAtBar$Ba\x72", "rule", "[LNextAtBar$Rule;", true)
  | 16 => ("NextAtBar$Ba\x72", "at", "[I", true)
  | 17 => ("NextAtBar$Ba\x72", "from", "[I", true)
  | 18 => ("NextAtBar$Ba\x72", "to", "[I", true)
  | 19 => ("NextAtBar$Ba\x72", "step", "[I", true)
  | 20 => ("NextAtBar$Ba\x72", "hands", "[I", true)
  | 21 => ("NextAtBar$Ba\x72", "busy", "[I", true)
  | 22 => ("NextAtBar$Ba\x72", "last", "[I", true)
  | 23 => ("NextAtBar$Ba\x72", "staff", "I", false)
  | 24 => ("NextAtBar$Ba\x72", "now", "I", false)
  | 25 => ("NextAtBar$Ba\x72", "many", "I", false)
  | _ => ("NextAtBar$Ba\x72", "bell", "I", false)
def tyX21 : Nat → FieldType := fun k => match k with
  | 0 => .object "NextAtBar$House"
  | 1 => .int
  | 2 => .array .int
  | 3 => .array .int
  | 4 => .array .int
  | 5 => .array .int
  | 6 => .array .int
  | 7 => .array .int
  | 8 => .array .int
  | 9 => .array .int
  | 10 => .array .int
  | 11 => .array .int
  | 12 => .array .int
  | 13 => .array .int
  | 14 => .array .boolean
  | 15 => .array (.object "NextAtBar$Rule")
  | 16 => .array .int
  | 17 => .array .int
  | 18 => .array .int
  | 19 => .array .int
  | 20 => .array .int
  | 21 => .array .int
  | 22 => .array .int
  | 23 => .int
  | 24 => .int
  | 25 => .int
  | _ => .int
abbrev wsX210 : List Cond := u_ws RX21 TX21 27
set_option maxRecDepth 100000 in
theorem nmX21 : ∀ a, a < 27 → ∀ b, b < 27 → a ≠ b → (TX21 a).2.1 ≠ (TX21 b).2.1 := by decide +kernel
set_option maxRecDepth 100000 in
theorem tyX21_ok : ∀ k, k < 27 → parseFieldDescriptor (TX21 k).2.2.1 = some (tyX21 k) := by decide +kernel
abbrev cX21_init : ByteArray := prog_3_method_1_code
def yX21_init : MethodName := ⟨RX21, "<init>", "(LNextAtBar$House;)V"⟩
def dkwX21_init_13 : List UInt8 := [192, 0, 125, 182, 0, 127, 132, 2, 1, 167, 255, 227, 177]
abbrev dktX21_init_13 : List UInt8 := dkwX21_init_13 ++ []
def dkwX21_init_12 : List UInt8 := [3, 61, 28, 43, 180, 0, 122, 182, 0, 89, 162, 0, 24, 42, 43, 180, 0, 122, 28, 182, 0, 102]
abbrev dktX21_init_12 : List UInt8 := dkwX21_init_12 ++ dktX21_init_13
def dkwX21_init_11 : List UInt8 := [79, 42, 180, 0, 33, 28, 16, 254, 79, 42, 28, 45, 180, 0, 114, 182, 0, 118, 132, 2, 1, 167, 255, 170]
abbrev dktX21_init_11 : List UInt8 := dkwX21_init_11 ++ dktX21_init_12
def dkwX21_init_10 : List UInt8 := [180, 0, 24, 28, 45, 180, 0, 112, 79, 42, 180, 0, 27, 28, 16, 254, 79, 42, 180, 0, 30, 28, 16, 254]
abbrev dktX21_init_10 : List UInt8 := dkwX21_init_10 ++ dktX21_init_11
def dkwX21_init_9 : List UInt8 := [78, 42, 180, 0, 15, 28, 45, 180, 0, 108, 79, 42, 180, 0, 18, 28, 45, 180, 0, 110, 79, 42]
abbrev dktX21_init_9 : List UInt8 := dkwX21_init_9 ++ dktX21_init_10
def dkwX21_init_8 : List UInt8 := [181, 0, 101, 3, 61, 28, 42, 180, 0, 95, 162, 0, 84, 43, 180, 0, 83, 28, 182, 0, 102, 192, 0, 106]
abbrev dktX21_init_8 : List UInt8 := dkwX21_init_8 ++ dktX21_init_9
def dkwX21_init_7 : List UInt8 := [181, 0, 76, 42, 43, 181, 0, 79, 42, 43, 180, 0, 83, 182, 0, 89, 181, 0, 95, 42, 43, 180, 0, 98]
abbrev dktX21_init_7 : List UInt8 := dkwX21_init_7 ++ dktX21_init_8
def dkwX21_init_6 : List UInt8 := [181, 0, 67, 42, 7, 188, 10, 181, 0, 70, 42, 16, 8, 188, 10, 181, 0, 73, 42, 7, 188, 10]
abbrev dktX21_init_6 : List UInt8 := dkwX21_init_6 ++ dktX21_init_7
def dkwX21_init_5 : List UInt8 := [188, 10, 181, 0, 58, 42, 7, 188, 10, 181, 0, 61, 42, 7, 188, 10, 181, 0, 64, 42, 7, 188, 10]
abbrev dktX21_init_5 : List UInt8 := dkwX21_init_5 ++ dktX21_init_6
def dkwX21_init_4 : List UInt8 := [188, 10, 181, 0, 45, 42, 16, 10, 188, 4, 181, 0, 48, 42, 7, 189, 0, 52, 181, 0, 54, 42, 7]
abbrev dktX21_init_4 : List UInt8 := dkwX21_init_4 ++ dktX21_init_5
def dkwX21_init_3 : List UInt8 := [188, 10, 181, 0, 36, 42, 16, 10, 188, 10, 181, 0, 39, 42, 16, 10, 188, 10, 181, 0, 42, 42, 16, 10]
abbrev dktX21_init_3 : List UInt8 := dkwX21_init_3 ++ dktX21_init_4
def dkwX21_init_2 : List UInt8 := [188, 10, 181, 0, 27, 42, 16, 10, 188, 10, 181, 0, 30, 42, 16, 10, 188, 10, 181, 0, 33, 42, 16, 10]
abbrev dktX21_init_2 : List UInt8 := dkwX21_init_2 ++ dktX21_init_3
def dkwX21_init_1 : List UInt8 := [188, 10, 181, 0, 18, 42, 16, 10, 188, 10, 181, 0, 21, 42, 16, 10, 188, 10, 181, 0, 24, 42, 16, 10]
abbrev dktX21_init_1 : List UInt8 := dkwX21_init_1 ++ dktX21_init_2
def dkwX21_init_0 : List UInt8 := [42, 183, 0, 3, 42, 16, 10, 188, 10, 181, 0, 9, 42, 16, 10, 188, 10, 181, 0, 15, 42, 16, 10]
abbrev dktX21_init_0 : List UInt8 := dkwX21_init_0 ++ dktX21_init_1
theorem dksX21_init_0 : cX21_init.data.toList.drop 0 = dktX21_init_0 := by decide +kernel
theorem dksX21_init_1 : cX21_init.data.toList.drop 23 = dktX21_init_1 := dk_seg dksX21_init_0 23 rfl rfl
theorem dksX21_init_2 : cX21_init.data.toList.drop 47 = dktX21_init_2 := dk_seg dksX21_init_1 24 rfl rfl
theorem dksX21_init_3 : cX21_init.data.toList.drop 71 = dktX21_init_3 := dk_seg dksX21_init_2 24 rfl rfl
theorem dksX21_init_4 : cX21_init.data.toList.drop 95 = dktX21_init_4 := dk_seg dksX21_init_3 24 rfl rfl
theorem dksX21_init_5 : cX21_init.data.toList.drop 118 = dktX21_init_5 := dk_seg dksX21_init_4 23 rfl rfl
theorem dksX21_init_6 : cX21_init.data.toList.drop 141 = dktX21_init_6 := dk_seg dksX21_init_5 23 rfl rfl
theorem dksX21_init_7 : cX21_init.data.toList.drop 163 = dktX21_init_7 := dk_seg dksX21_init_6 22 rfl rfl
theorem dksX21_init_8 : cX21_init.data.toList.drop 187 = dktX21_init_8 := dk_seg dksX21_init_7 24 rfl rfl
theorem dksX21_init_9 : cX21_init.data.toList.drop 211 = dktX21_init_9 := dk_seg dksX21_init_8 24 rfl rfl
theorem dksX21_init_10 : cX21_init.data.toList.drop 233 = dktX21_init_10 := dk_seg dksX21_init_9 22 rfl rfl
theorem dksX21_init_11 : cX21_init.data.toList.drop 257 = dktX21_init_11 := dk_seg dksX21_init_10 24 rfl rfl
theorem dksX21_init_12 : cX21_init.data.toList.drop 281 = dktX21_init_12 := dk_seg dksX21_init_11 24 rfl rfl
theorem dksX21_init_13 : cX21_init.data.toList.drop 303 = dktX21_init_13 := dk_seg dksX21_init_12 22 rfl rfl
theorem dX21_init_0 : decode cX21_init 0 = .ok (.aload_n 0, 1) := dk_42 (dk_at dksX21_init_0 0 rfl rfl)
theorem dX21_init_1 : decode cX21_init 1 = .ok (.invokespecial 3, 3) := dk_183 0 3 (dk_at dksX21_init_0 1 rfl rfl)
theorem dX21_init_4 : decode cX21_init 4 = .ok (.aload_n 0, 1) := dk_42 (dk_at dksX21_init_0 4 rfl rfl)
theorem dX21_init_5 : decode cX21_init 5 = .ok (.bipush 10, 2) := dk_16 10 (dk_at dksX21_init_0 5 rfl rfl)
theorem dX21_init_7 : decode cX21_init 7 = .ok (.newarray .int, 2) := dk_188_10 (dk_at dksX21_init_0 7 rfl rfl)
theorem dX21_init_9 : decode cX21_init 9 = .ok (.putfield 9, 3) := dk_181 0 9 (dk_at dksX21_init_0 9 rfl rfl)
theorem dX21_init_12 : decode cX21_init 12 = .ok (.aload_n 0, 1) := dk_42 (dk_at dksX21_init_0 12 rfl rfl)
theorem dX21_init_13 : decode cX21_init 13 = .ok (.bipush 10, 2) := dk_16 10 (dk_at dksX21_init_0 13 rfl rfl)
theorem dX21_init_15 : decode cX21_init 15 = .ok (.newarray .int, 2) := dk_188_10 (dk_at dksX21_init_0 15 rfl rfl)
theorem dX21_init_17 : decode cX21_init 17 = .ok (.putfield 15, 3) := dk_181 0 15 (dk_at dksX21_init_0 17 rfl rfl)
theorem dX21_init_20 : decode cX21_init 20 = .ok (.aload_n 0, 1) := dk_42 (dk_at dksX21_init_0 20 rfl rfl)
theorem dX21_init_21 : decode cX21_init 21 = .ok (.bipush 10, 2) := dk_16 10 (dk_at dksX21_init_0 21 rfl rfl)
theorem dX21_init_23 : decode cX21_init 23 = .ok (.newarray .int, 2) := dk_188_10 (dk_at dksX21_init_1 0 rfl rfl)
theorem dX21_init_25 : decode cX21_init 25 = .ok (.putfield 18, 3) := dk_181 0 18 (dk_at dksX21_init_1 2 rfl rfl)
theorem dX21_init_28 : decode cX21_init 28 = .ok (.aload_n 0, 1) := dk_42 (dk_at dksX21_init_1 5 rfl rfl)
theorem dX21_init_29 : decode cX21_init 29 = .ok (.bipush 10, 2) := dk_16 10 (dk_at dksX21_init_1 6 rfl rfl)
theorem dX21_init_31 : decode cX21_init 31 = .ok (.newarray .int, 2) := dk_188_10 (dk_at dksX21_init_1 8 rfl rfl)
theorem dX21_init_33 : decode cX21_init 33 = .ok (.putfield 21, 3) := dk_181 0 21 (dk_at dksX21_init_1 10 rfl rfl)
theorem dX21_init_36 : decode cX21_init 36 = .ok (.aload_n 0, 1) := dk_42 (dk_at dksX21_init_1 13 rfl rfl)
theorem dX21_init_37 : decode cX21_init 37 = .ok (.bipush 10, 2) := dk_16 10 (dk_at dksX21_init_1 14 rfl rfl)
theorem dX21_init_39 : decode cX21_init 39 = .ok (.newarray .int, 2) := dk_188_10 (dk_at dksX21_init_1 16 rfl rfl)
theorem dX21_init_41 : decode cX21_init 41 = .ok (.putfield 24, 3) := dk_181 0 24 (dk_at dksX21_init_1 18 rfl rfl)
theorem dX21_init_44 : decode cX21_init 44 = .ok (.aload_n 0, 1) := dk_42 (dk_at dksX21_init_1 21 rfl rfl)
theorem dX21_init_45 : decode cX21_init 45 = .ok (.bipush 10, 2) := dk_16 10 (dk_at dksX21_init_1 22 rfl rfl)
theorem dX21_init_47 : decode cX21_init 47 = .ok (.newarray .int, 2) := dk_188_10 (dk_at dksX21_init_2 0 rfl rfl)
theorem dX21_init_49 : decode cX21_init 49 = .ok (.putfield 27, 3) := dk_181 0 27 (dk_at dksX21_init_2 2 rfl rfl)
theorem dX21_init_52 : decode cX21_init 52 = .ok (.aload_n 0, 1) := dk_42 (dk_at dksX21_init_2 5 rfl rfl)
theorem dX21_init_53 : decode cX21_init 53 = .ok (.bipush 10, 2) := dk_16 10 (dk_at dksX21_init_2 6 rfl rfl)
theorem dX21_init_55 : decode cX21_init 55 = .ok (.newarray .int, 2) := dk_188_10 (dk_at dksX21_init_2 8 rfl rfl)
theorem dX21_init_57 : decode cX21_init 57 = .ok (.putfield 30, 3) := dk_181 0 30 (dk_at dksX21_init_2 10 rfl rfl)
theorem dX21_init_60 : decode cX21_init 60 = .ok (.aload_n 0, 1) := dk_42 (dk_at dksX21_init_2 13 rfl rfl)
theorem dX21_init_61 : decode cX21_init 61 = .ok (.bipush 10, 2) := dk_16 10 (dk_at dksX21_init_2 14 rfl rfl)
theorem dX21_init_63 : decode cX21_init 63 = .ok (.newarray .int, 2) := dk_188_10 (dk_at dksX21_init_2 16 rfl rfl)
theorem dX21_init_65 : decode cX21_init 65 = .ok (.putfield 33, 3) := dk_181 0 33 (dk_at dksX21_init_2 18 rfl rfl)
theorem dX21_init_68 : decode cX21_init 68 = .ok (.aload_n 0, 1) := dk_42 (dk_at dksX21_init_2 21 rfl rfl)
theorem dX21_init_69 : decode cX21_init 69 = .ok (.bipush 10, 2) := dk_16 10 (dk_at dksX21_init_2 22 rfl rfl)
theorem dX21_init_71 : decode cX21_init 71 = .ok (.newarray .int, 2) := dk_188_10 (dk_at dksX21_init_3 0 rfl rfl)
theorem dX21_init_73 : decode cX21_init 73 = .ok (.putfield 36, 3) := dk_181 0 36 (dk_at dksX21_init_3 2 rfl rfl)
theorem dX21_init_76 : decode cX21_init 76 = .ok (.aload_n 0, 1) := dk_42 (dk_at dksX21_init_3 5 rfl rfl)
theorem dX21_init_77 : decode cX21_init 77 = .ok (.bipush 10, 2) := dk_16 10 (dk_at dksX21_init_3 6 rfl rfl)
theorem dX21_init_79 : decode cX21_init 79 = .ok (.newarray .int, 2) := dk_188_10 (dk_at dksX21_init_3 8 rfl rfl)
theorem dX21_init_81 : decode cX21_init 81 = .ok (.putfield 39, 3) := dk_181 0 39 (dk_at dksX21_init_3 10 rfl rfl)
theorem dX21_init_84 : decode cX21_init 84 = .ok (.aload_n 0, 1) := dk_42 (dk_at dksX21_init_3 13 rfl rfl)
theorem dX21_init_85 : decode cX21_init 85 = .ok (.bipush 10, 2) := dk_16 10 (dk_at dksX21_init_3 14 rfl rfl)
theorem dX21_init_87 : decode cX21_init 87 = .ok (.newarray .int, 2) := dk_188_10 (dk_at dksX21_init_3 16 rfl rfl)
theorem dX21_init_89 : decode cX21_init 89 = .ok (.putfield 42, 3) := dk_181 0 42 (dk_at dksX21_init_3 18 rfl rfl)
theorem dX21_init_92 : decode cX21_init 92 = .ok (.aload_n 0, 1) := dk_42 (dk_at dksX21_init_3 21 rfl rfl)
theorem dX21_init_93 : decode cX21_init 93 = .ok (.bipush 10, 2) := dk_16 10 (dk_at dksX21_init_3 22 rfl rfl)
theorem dX21_init_95 : decode cX21_init 95 = .ok (.newarray .int, 2) := dk_188_10 (dk_at dksX21_init_4 0 rfl rfl)
theorem dX21_init_97 : decode cX21_init 97 = .ok (.putfield 45, 3) := dk_181 0 45 (dk_at dksX21_init_4 2 rfl rfl)
theorem dX21_init_100 : decode cX21_init 100 = .ok (.aload_n 0, 1) := dk_42 (dk_at dksX21_init_4 5 rfl rfl)
theorem dX21_init_101 : decode cX21_init 101 = .ok (.bipush 10, 2) := dk_16 10 (dk_at dksX21_init_4 6 rfl rfl)
theorem dX21_init_103 : decode cX21_init 103 = .ok (.newarray .boolean, 2) := dk_188_4 (dk_at dksX21_init_4 8 rfl rfl)
theorem dX21_init_105 : decode cX21_init 105 = .ok (.putfield 48, 3) := dk_181 0 48 (dk_at dksX21_init_4 10 rfl rfl)
theorem dX21_init_108 : decode cX21_init 108 = .ok (.aload_n 0, 1) := dk_42 (dk_at dksX21_init_4 13 rfl rfl)
theorem dX21_init_109 : decode cX21_init 109 = .ok (.iconst 4, 1) := dk_7 (dk_at dksX21_init_4 14 rfl rfl)
theorem dX21_init_110 : decode cX21_init 110 = .ok (.anewarray 52, 3) := dk_189 0 52 (dk_at dksX21_init_4 15 rfl rfl)
theorem dX21_init_113 : decode cX21_init 113 = .ok (.putfield 54, 3) := dk_181 0 54 (dk_at dksX21_init_4 18 rfl rfl)
theorem dX21_init_116 : decode cX21_init 116 = .ok (.aload_n 0, 1) := dk_42 (dk_at dksX21_init_4 21 rfl rfl)
theorem dX21_init_117 : decode cX21_init 117 = .ok (.iconst 4, 1) := dk_7 (dk_at dksX21_init_4 22 rfl rfl)
theorem dX21_init_118 : decode cX21_init 118 = .ok (.newarray .int, 2) := dk_188_10 (dk_at dksX21_init_5 0 rfl rfl)
theorem dX21_init_120 : decode cX21_init 120 = .ok (.putfield 58, 3) := dk_181 0 58 (dk_at dksX21_init_5 2 rfl rfl)
theorem dX21_init_123 : decode cX21_init 123 = .ok (.aload_n 0, 1) := dk_42 (dk_at dksX21_init_5 5 rfl rfl)
theorem dX21_init_124 : decode cX21_init 124 = .ok (.iconst 4, 1) := dk_7 (dk_at dksX21_init_5 6 rfl rfl)
theorem dX21_init_125 : decode cX21_init 125 = .ok (.newarray .int, 2) := dk_188_10 (dk_at dksX21_init_5 7 rfl rfl)
theorem dX21_init_127 : decode cX21_init 127 = .ok (.putfield 61, 3) := dk_181 0 61 (dk_at dksX21_init_5 9 rfl rfl)
theorem dX21_init_130 : decode cX21_init 130 = .ok (.aload_n 0, 1) := dk_42 (dk_at dksX21_init_5 12 rfl rfl)
theorem dX21_init_131 : decode cX21_init 131 = .ok (.iconst 4, 1) := dk_7 (dk_at dksX21_init_5 13 rfl rfl)
theorem dX21_init_132 : decode cX21_init 132 = .ok (.newarray .int, 2) := dk_188_10 (dk_at dksX21_init_5 14 rfl rfl)
theorem dX21_init_134 : decode cX21_init 134 = .ok (.putfield 64, 3) := dk_181 0 64 (dk_at dksX21_init_5 16 rfl rfl)
theorem dX21_init_137 : decode cX21_init 137 = .ok (.aload_n 0, 1) := dk_42 (dk_at dksX21_init_5 19 rfl rfl)
theorem dX21_init_138 : decode cX21_init 138 = .ok (.iconst 4, 1) := dk_7 (dk_at dksX21_init_5 20 rfl rfl)
theorem dX21_init_139 : decode cX21_init 139 = .ok (.newarray .int, 2) := dk_188_10 (dk_at dksX21_init_5 21 rfl rfl)
theorem dX21_init_141 : decode cX21_init 141 = .ok (.putfield 67, 3) := dk_181 0 67 (dk_at dksX21_init_6 0 rfl rfl)
theorem dX21_init_144 : decode cX21_init 144 = .ok (.aload_n 0, 1) := dk_42 (dk_at dksX21_init_6 3 rfl rfl)
theorem dX21_init_145 : decode cX21_init 145 = .ok (.iconst 4, 1) := dk_7 (dk_at dksX21_init_6 4 rfl rfl)
theorem dX21_init_146 : decode cX21_init 146 = .ok (.newarray .int, 2) := dk_188_10 (dk_at dksX21_init_6 5 rfl rfl)
theorem dX21_init_148 : decode cX21_init 148 = .ok (.putfield 70, 3) := dk_181 0 70 (dk_at dksX21_init_6 7 rfl rfl)
theorem dX21_init_151 : decode cX21_init 151 = .ok (.aload_n 0, 1) := dk_42 (dk_at dksX21_init_6 10 rfl rfl)
theorem dX21_init_152 : decode cX21_init 152 = .ok (.bipush 8, 2) := dk_16 8 (dk_at dksX21_init_6 11 rfl rfl)
theorem dX21_init_154 : decode cX21_init 154 = .ok (.newarray .int, 2) := dk_188_10 (dk_at dksX21_init_6 13 rfl rfl)
theorem dX21_init_156 : decode cX21_init 156 = .ok (.putfield 73, 3) := dk_181 0 73 (dk_at dksX21_init_6 15 rfl rfl)
theorem dX21_init_159 : decode cX21_init 159 = .ok (.aload_n 0, 1) := dk_42 (dk_at dksX21_init_6 18 rfl rfl)
theorem dX21_init_160 : decode cX21_init 160 = .ok (.iconst 4, 1) := dk_7 (dk_at dksX21_init_6 19 rfl rfl)
theorem dX21_init_161 : decode cX21_init 161 = .ok (.newarray .int, 2) := dk_188_10 (dk_at dksX21_init_6 20 rfl rfl)
theorem dX21_init_163 : decode cX21_init 163 = .ok (.putfield 76, 3) := dk_181 0 76 (dk_at dksX21_init_7 0 rfl rfl)
theorem dX21_init_166 : decode cX21_init 166 = .ok (.aload_n 0, 1) := dk_42 (dk_at dksX21_init_7 3 rfl rfl)
theorem dX21_init_167 : decode cX21_init 167 = .ok (.aload_n 1, 1) := dk_43 (dk_at dksX21_init_7 4 rfl rfl)
theorem dX21_init_168 : decode cX21_init 168 = .ok (.putfield 79, 3) := dk_181 0 79 (dk_at dksX21_init_7 5 rfl rfl)
theorem dX21_init_171 : decode cX21_init 171 = .ok (.aload_n 0, 1) := dk_42 (dk_at dksX21_init_7 8 rfl rfl)
theorem dX21_init_172 : decode cX21_init 172 = .ok (.aload_n 1, 1) := dk_43 (dk_at dksX21_init_7 9 rfl rfl)
theorem dX21_init_173 : decode cX21_init 173 = .ok (.getfield 83, 3) := dk_180 0 83 (dk_at dksX21_init_7 10 rfl rfl)
theorem dX21_init_176 : decode cX21_init 176 = .ok (.invokevirtual 89, 3) := dk_182 0 89 (dk_at dksX21_init_7 13 rfl rfl)
theorem dX21_init_179 : decode cX21_init 179 = .ok (.putfield 95, 3) := dk_181 0 95 (dk_at dksX21_init_7 16 rfl rfl)
theorem dX21_init_182 : decode cX21_init 182 = .ok (.aload_n 0, 1) := dk_42 (dk_at dksX21_init_7 19 rfl rfl)
theorem dX21_init_183 : decode cX21_init 183 = .ok (.aload_n 1, 1) := dk_43 (dk_at dksX21_init_7 20 rfl rfl)
theorem dX21_init_184 : decode cX21_init 184 = .ok (.getfield 98, 3) := dk_180 0 98 (dk_at dksX21_init_7 21 rfl rfl)
theorem dX21_init_187 : decode cX21_init 187 = .ok (.putfield 101, 3) := dk_181 0 101 (dk_at dksX21_init_8 0 rfl rfl)
theorem dX21_init_190 : decode cX21_init 190 = .ok (.iconst 0, 1) := dk_3 (dk_at dksX21_init_8 3 rfl rfl)
theorem dX21_init_191 : decode cX21_init 191 = .ok (.istore_n 2, 1) := dk_61 (dk_at dksX21_init_8 4 rfl rfl)
theorem dX21_init_192 : decode cX21_init 192 = .ok (.iload_n 2, 1) := dk_28 (dk_at dksX21_init_8 5 rfl rfl)
theorem dX21_init_193 : decode cX21_init 193 = .ok (.aload_n 0, 1) := dk_42 (dk_at dksX21_init_8 6 rfl rfl)
theorem dX21_init_194 : decode cX21_init 194 = .ok (.getfield 95, 3) := dk_180 0 95 (dk_at dksX21_init_8 7 rfl rfl)
theorem dX21_init_197 : decode cX21_init 197 = .ok (.if_icmp .ge 84, 3) := dk_162 0 84 (dk_at dksX21_init_8 10 rfl rfl)
theorem dX21_init_200 : decode cX21_init 200 = .ok (.aload_n 1, 1) := dk_43 (dk_at dksX21_init_8 13 rfl rfl)
theorem dX21_init_201 : decode cX21_init 201 = .ok (.getfield 83, 3) := dk_180 0 83 (dk_at dksX21_init_8 14 rfl rfl)
theorem dX21_init_204 : decode cX21_init 204 = .ok (.iload_n 2, 1) := dk_28 (dk_at dksX21_init_8 17 rfl rfl)
theorem dX21_init_205 : decode cX21_init 205 = .ok (.invokevirtual 102, 3) := dk_182 0 102 (dk_at dksX21_init_8 18 rfl rfl)
theorem dX21_init_208 : decode cX21_init 208 = .ok (.checkcast 106, 3) := dk_192 0 106 (dk_at dksX21_init_8 21 rfl rfl)
theorem dX21_init_211 : decode cX21_init 211 = .ok (.astore_n 3, 1) := dk_78 (dk_at dksX21_init_9 0 rfl rfl)
theorem dX21_init_212 : decode cX21_init 212 = .ok (.aload_n 0, 1) := dk_42 (dk_at dksX21_init_9 1 rfl rfl)
theorem dX21_init_213 : decode cX21_init 213 = .ok (.getfield 15, 3) := dk_180 0 15 (dk_at dksX21_init_9 2 rfl rfl)
theorem dX21_init_216 : decode cX21_init 216 = .ok (.iload_n 2, 1) := dk_28 (dk_at dksX21_init_9 5 rfl rfl)
theorem dX21_init_217 : decode cX21_init 217 = .ok (.aload_n 3, 1) := dk_45 (dk_at dksX21_init_9 6 rfl rfl)
theorem dX21_init_218 : decode cX21_init 218 = .ok (.getfield 108, 3) := dk_180 0 108 (dk_at dksX21_init_9 7 rfl rfl)
theorem dX21_init_221 : decode cX21_init 221 = .ok (.iastore, 1) := dk_79 (dk_at dksX21_init_9 10 rfl rfl)
theorem dX21_init_222 : decode cX21_init 222 = .ok (.aload_n 0, 1) := dk_42 (dk_at dksX21_init_9 11 rfl rfl)
theorem dX21_init_223 : decode cX21_init 223 = .ok (.getfield 18, 3) := dk_180 0 18 (dk_at dksX21_init_9 12 rfl rfl)
theorem dX21_init_226 : decode cX21_init 226 = .ok (.iload_n 2, 1) := dk_28 (dk_at dksX21_init_9 15 rfl rfl)
theorem dX21_init_227 : decode cX21_init 227 = .ok (.aload_n 3, 1) := dk_45 (dk_at dksX21_init_9 16 rfl rfl)
theorem dX21_init_228 : decode cX21_init 228 = .ok (.getfield 110, 3) := dk_180 0 110 (dk_at dksX21_init_9 17 rfl rfl)
theorem dX21_init_231 : decode cX21_init 231 = .ok (.iastore, 1) := dk_79 (dk_at dksX21_init_9 20 rfl rfl)
theorem dX21_init_232 : decode cX21_init 232 = .ok (.aload_n 0, 1) := dk_42 (dk_at dksX21_init_9 21 rfl rfl)
theorem dX21_init_233 : decode cX21_init 233 = .ok (.getfield 24, 3) := dk_180 0 24 (dk_at dksX21_init_10 0 rfl rfl)
theorem dX21_init_236 : decode cX21_init 236 = .ok (.iload_n 2, 1) := dk_28 (dk_at dksX21_init_10 3 rfl rfl)
theorem dX21_init_237 : decode cX21_init 237 = .ok (.aload_n 3, 1) := dk_45 (dk_at dksX21_init_10 4 rfl rfl)
theorem dX21_init_238 : decode cX21_init 238 = .ok (.getfield 112, 3) := dk_180 0 112 (dk_at dksX21_init_10 5 rfl rfl)
theorem dX21_init_241 : decode cX21_init 241 = .ok (.iastore, 1) := dk_79 (dk_at dksX21_init_10 8 rfl rfl)
theorem dX21_init_242 : decode cX21_init 242 = .ok (.aload_n 0, 1) := dk_42 (dk_at dksX21_init_10 9 rfl rfl)
theorem dX21_init_243 : decode cX21_init 243 = .ok (.getfield 27, 3) := dk_180 0 27 (dk_at dksX21_init_10 10 rfl rfl)
theorem dX21_init_246 : decode cX21_init 246 = .ok (.iload_n 2, 1) := dk_28 (dk_at dksX21_init_10 13 rfl rfl)
theorem dX21_init_247 : decode cX21_init 247 = .ok (.bipush (-2), 2) := dk_16 254 (dk_at dksX21_init_10 14 rfl rfl)
theorem dX21_init_249 : decode cX21_init 249 = .ok (.iastore, 1) := dk_79 (dk_at dksX21_init_10 16 rfl rfl)
theorem dX21_init_250 : decode cX21_init 250 = .ok (.aload_n 0, 1) := dk_42 (dk_at dksX21_init_10 17 rfl rfl)
theorem dX21_init_251 : decode cX21_init 251 = .ok (.getfield 30, 3) := dk_180 0 30 (dk_at dksX21_init_10 18 rfl rfl)
theorem dX21_init_254 : decode cX21_init 254 = .ok (.iload_n 2, 1) := dk_28 (dk_at dksX21_init_10 21 rfl rfl)
theorem dX21_init_255 : decode cX21_init 255 = .ok (.bipush (-2), 2) := dk_16 254 (dk_at dksX21_init_10 22 rfl rfl)
theorem dX21_init_257 : decode cX21_init 257 = .ok (.iastore, 1) := dk_79 (dk_at dksX21_init_11 0 rfl rfl)
theorem dX21_init_258 : decode cX21_init 258 = .ok (.aload_n 0, 1) := dk_42 (dk_at dksX21_init_11 1 rfl rfl)
theorem dX21_init_259 : decode cX21_init 259 = .ok (.getfield 33, 3) := dk_180 0 33 (dk_at dksX21_init_11 2 rfl rfl)
theorem dX21_init_262 : decode cX21_init 262 = .ok (.iload_n 2, 1) := dk_28 (dk_at dksX21_init_11 5 rfl rfl)
theorem dX21_init_263 : decode cX21_init 263 = .ok (.bipush (-2), 2) := dk_16 254 (dk_at dksX21_init_11 6 rfl rfl)
theorem dX21_init_265 : decode cX21_init 265 = .ok (.iastore, 1) := dk_79 (dk_at dksX21_init_11 8 rfl rfl)
theorem dX21_init_266 : decode cX21_init 266 = .ok (.aload_n 0, 1) := dk_42 (dk_at dksX21_init_11 9 rfl rfl)
theorem dX21_init_267 : decode cX21_init 267 = .ok (.iload_n 2, 1) := dk_28 (dk_at dksX21_init_11 10 rfl rfl)
theorem dX21_init_268 : decode cX21_init 268 = .ok (.aload_n 3, 1) := dk_45 (dk_at dksX21_init_11 11 rfl rfl)
theorem dX21_init_269 : decode cX21_init 269 = .ok (.getfield 114, 3) := dk_180 0 114 (dk_at dksX21_init_11 12 rfl rfl)
theorem dX21_init_272 : decode cX21_init 272 = .ok (.invokevirtual 118, 3) := dk_182 0 118 (dk_at dksX21_init_11 15 rfl rfl)
theorem dX21_init_275 : decode cX21_init 275 = .ok (.iinc 2 1, 3) := dk_132 2 1 (dk_at dksX21_init_11 18 rfl rfl)
theorem dX21_init_278 : decode cX21_init 278 = .ok (.goto (-86), 3) := dk_167 255 170 (dk_at dksX21_init_11 21 rfl rfl)
theorem dX21_init_281 : decode cX21_init 281 = .ok (.iconst 0, 1) := dk_3 (dk_at dksX21_init_12 0 rfl rfl)
theorem dX21_init_282 : decode cX21_init 282 = .ok (.istore_n 2, 1) := dk_61 (dk_at dksX21_init_12 1 rfl rfl)
theorem dX21_init_283 : decode cX21_init 283 = .ok (.iload_n 2, 1) := dk_28 (dk_at dksX21_init_12 2 rfl rfl)
theorem dX21_init_284 : decode cX21_init 284 = .ok (.aload_n 1, 1) := dk_43 (dk_at dksX21_init_12 3 rfl rfl)
theorem dX21_init_285 : decode cX21_init 285 = .ok (.getfield 122, 3) := dk_180 0 122 (dk_at dksX21_init_12 4 rfl rfl)
theorem dX21_init_288 : decode cX21_init 288 = .ok (.invokevirtual 89, 3) := dk_182 0 89 (dk_at dksX21_init_12 7 rfl rfl)
theorem dX21_init_291 : decode cX21_init 291 = .ok (.if_icmp .ge 24, 3) := dk_162 0 24 (dk_at dksX21_init_12 10 rfl rfl)
theorem dX21_init_294 : decode cX21_init 294 = .ok (.aload_n 0, 1) := dk_42 (dk_at dksX21_init_12 13 rfl rfl)
theorem dX21_init_295 : decode cX21_init 295 = .ok (.aload_n 1, 1) := dk_43 (dk_at dksX21_init_12 14 rfl rfl)
theorem dX21_init_296 : decode cX21_init 296 = .ok (.getfield 122, 3) := dk_180 0 122 (dk_at dksX21_init_12 15 rfl rfl)
theorem dX21_init_299 : decode cX21_init 299 = .ok (.iload_n 2, 1) := dk_28 (dk_at dksX21_init_12 18 rfl rfl)
theorem dX21_init_300 : decode cX21_init 300 = .ok (.invokevirtual 102, 3) := dk_182 0 102 (dk_at dksX21_init_12 19 rfl rfl)
theorem dX21_init_303 : decode cX21_init 303 = .ok (.checkcast 125, 3) := dk_192 0 125 (dk_at dksX21_init_13 0 rfl rfl)
theorem dX21_init_306 : decode cX21_init 306 = .ok (.invokevirtual 127, 3) := dk_182 0 127 (dk_at dksX21_init_13 3 rfl rfl)
theorem dX21_init_309 : decode cX21_init 309 = .ok (.iinc 2 1, 3) := dk_132 2 1 (dk_at dksX21_init_13 6 rfl rfl)
theorem dX21_init_312 : decode cX21_init 312 = .ok (.goto (-29), 3) := dk_167 255 227 (dk_at dksX21_init_13 9 rfl rfl)
theorem dX21_init_315 : decode cX21_init 315 = .ok (.return_, 1) := dk_177 (dk_at dksX21_init_13 12 rfl rfl)
abbrev cX21_takesManner : ByteArray := prog_3_method_2_code
def yX21_takesManner : MethodName := ⟨RX21, "takesManne\x72", "(ILNextAtBar$Manner;)V"⟩
def dkwX21_takesManner_1 : List UInt8 := [182, 0, 134, 79, 42, 180, 0, 48, 27, 44, 182, 0, 139, 84, 177]
abbrev dktX21_takesManner_1 : List UInt8 := dkwX21_takesManner_1 ++ []
def dkwX21_takesManner_0 : List UInt8 := [42, 180, 0, 21, 27, 44, 42, 180, 0, 79, 180, 0, 83, 27, 182, 0, 102, 192, 0, 106, 180, 0, 131]
abbrev dktX21_takesManner_0 : List UInt8 := dkwX21_takesManner_0 ++ dktX21_takesManner_1
theorem dksX21_takesManner_0 : cX21_takesManner.data.toList.drop 0 = dktX21_takesManner_0 := by decide +kernel
theorem dksX21_takesManner_1 : cX21_takesManner.data.toList.drop 23 = dktX21_takesManner_1 := dk_seg dksX21_takesManner_0 23 rfl rfl
theorem dX21_takesManner_0 : decode cX21_takesManner 0 = .ok (.aload_n 0, 1) := dk_42 (dk_at dksX21_takesManner_0 0 rfl rfl)
theorem dX21_takesManner_1 : decode cX21_takesManner 1 = .ok (.getfield 21, 3) := dk_180 0 21 (dk_at dksX21_takesManner_0 1 rfl rfl)
theorem dX21_takesManner_4 : decode cX21_takesManner 4 = .ok (.iload_n 1, 1) := dk_27 (dk_at dksX21_takesManner_0 4 rfl rfl)
theorem dX21_takesManner_5 : decode cX21_takesManner 5 = .ok (.aload_n 2, 1) := dk_44 (dk_at dksX21_takesManner_0 5 rfl rfl)
theorem dX21_takesManner_6 : decode cX21_takesManner 6 = .ok (.aload_n 0, 1) := dk_42 (dk_at dksX21_takesManner_0 6 rfl rfl)
theorem dX21_takesManner_7 : decode cX21_takesManner 7 = .ok (.getfield 79, 3) := dk_180 0 79 (dk_at dksX21_takesManner_0 7 rfl rfl)
theorem dX21_takesManner_10 : decode cX21_takesManner 10 = .ok (.getfield 83, 3) := dk_180 0 83 (dk_at dksX21_takesManner_0 10 rfl rfl)
theorem dX21_takesManner_13 : decode cX21_takesManner 13 = .ok (.iload_n 1, 1) := dk_27 (dk_at dksX21_takesManner_0 13 rfl rfl)
theorem dX21_takesManner_14 : decode cX21_takesManner 14 = .ok (.invokevirtual 102, 3) := dk_182 0 102 (dk_at dksX21_takesManner_0 14 rfl rfl)
theorem dX21_takesManner_17 : decode cX21_takesManner 17 = .ok (.checkcast 106, 3) := dk_192 0 106 (dk_at dksX21_takesManner_0 17 rfl rfl)
theorem dX21_takesManner_20 : decode cX21_takesManner 20 = .ok (.getfield 131, 3) := dk_180 0 131 (dk_at dksX21_takesManner_0 20 rfl rfl)
theorem dX21_takesManner_23 : decode cX21_takesManner 23 = .ok (.invokevirtual 134, 3) := dk_182 0 134 (dk_at dksX21_takesManner_1 0 rfl rfl)
theorem dX21_takesManner_26 : decode cX21_takesManner 26 = .ok (.iastore, 1) := dk_79 (dk_at dksX21_takesManner_1 3 rfl rfl)
theorem dX21_takesManner_27 : decode cX21_takesManner 27 = .ok (.aload_n 0, 1) := dk_42 (dk_at dksX21_takesManner_1 4 rfl rfl)
theorem dX21_takesManner_28 : decode cX21_takesManner 28 = .ok (.getfield 48, 3) := dk_180 0 48 (dk_at dksX21_takesManner_1 5 rfl rfl)
theorem dX21_takesManner_31 : decode cX21_takesManner 31 = .ok (.iload_n 1, 1) := dk_27 (dk_at dksX21_takesManner_1 8 rfl rfl)
theorem dX21_takesManner_32 : decode cX21_takesManner 32 = .ok (.aload_n 2, 1) := dk_44 (dk_at dksX21_takesManner_1 9 rfl rfl)
theorem dX21_takesManner_33 : decode cX21_takesManner 33 = .ok (.invokevirtual 139, 3) := dk_182 0 139 (dk_at dksX21_takesManner_1 10 rfl rfl)
theorem dX21_takesManner_36 : decode cX21_takesManner 36 = .ok (.bastore, 1) := dk_84 (dk_at dksX21_takesManner_1 13 rfl rfl)
theorem dX21_takesManner_37 : decode cX21_takesManner 37 = .ok (.return_, 1) := dk_177 (dk_at dksX21_takesManner_1 14 rfl rfl)
abbrev cX21_adds : ByteArray := prog_3_method_3_code
def yX21_adds : MethodName := ⟨RX21, "adds", "(LNextAtBar$Server;)V"⟩
def dkwX21_adds_4 : List UInt8 := [180, 0, 142, 4, 96, 181, 0, 142, 177]
abbrev dktX21_adds_4 : List UInt8 := dkwX21_adds_4 ++ []
def dkwX21_adds_3 : List UInt8 := [180, 0, 70, 42, 180, 0, 142, 43, 180, 0, 154, 79, 42, 180, 0, 76, 42, 180, 0, 142, 2, 79, 42, 89]
abbrev dktX21_adds_3 : List UInt8 := dkwX21_adds_3 ++ dktX21_adds_4
def dkwX21_adds_2 : List UInt8 := [180, 0, 142, 43, 180, 0, 150, 79, 42, 180, 0, 67, 42, 180, 0, 142, 43, 180, 0, 152, 79, 42]
abbrev dktX21_adds_2 : List UInt8 := dkwX21_adds_2 ++ dktX21_adds_3
def dkwX21_adds_1 : List UInt8 := [180, 0, 147, 79, 42, 180, 0, 61, 42, 180, 0, 142, 43, 180, 0, 148, 79, 42, 180, 0, 64, 42]
abbrev dktX21_adds_1 : List UInt8 := dkwX21_adds_1 ++ dktX21_adds_2
def dkwX21_adds_0 : List UInt8 := [42, 180, 0, 54, 42, 180, 0, 142, 43, 180, 0, 144, 83, 42, 180, 0, 58, 42, 180, 0, 142, 43]
abbrev dktX21_adds_0 : List UInt8 := dkwX21_adds_0 ++ dktX21_adds_1
theorem dksX21_adds_0 : cX21_adds.data.toList.drop 0 = dktX21_adds_0 := by decide +kernel
theorem dksX21_adds_1 : cX21_adds.data.toList.drop 22 = dktX21_adds_1 := dk_seg dksX21_adds_0 22 rfl rfl
theorem dksX21_adds_2 : cX21_adds.data.toList.drop 44 = dktX21_adds_2 := dk_seg dksX21_adds_1 22 rfl rfl
theorem dksX21_adds_3 : cX21_adds.data.toList.drop 66 = dktX21_adds_3 := dk_seg dksX21_adds_2 22 rfl rfl
theorem dksX21_adds_4 : cX21_adds.data.toList.drop 90 = dktX21_adds_4 := dk_seg dksX21_adds_3 24 rfl rfl
theorem dX21_adds_0 : decode cX21_adds 0 = .ok (.aload_n 0, 1) := dk_42 (dk_at dksX21_adds_0 0 rfl rfl)
theorem dX21_adds_1 : decode cX21_adds 1 = .ok (.getfield 54, 3) := dk_180 0 54 (dk_at dksX21_adds_0 1 rfl rfl)
theorem dX21_adds_4 : decode cX21_adds 4 = .ok (.aload_n 0, 1) := dk_42 (dk_at dksX21_adds_0 4 rfl rfl)
theorem dX21_adds_5 : decode cX21_adds 5 = .ok (.getfield 142, 3) := dk_180 0 142 (dk_at dksX21_adds_0 5 rfl rfl)
theorem dX21_adds_8 : decode cX21_adds 8 = .ok (.aload_n 1, 1) := dk_43 (dk_at dksX21_adds_0 8 rfl rfl)
theorem dX21_adds_9 : decode cX21_adds 9 = .ok (.getfield 144, 3) := dk_180 0 144 (dk_at dksX21_adds_0 9 rfl rfl)
theorem dX21_adds_12 : decode cX21_adds 12 = .ok (.aastore, 1) := dk_83 (dk_at dksX21_adds_0 12 rfl rfl)
theorem dX21_adds_13 : decode cX21_adds 13 = .ok (.aload_n 0, 1) := dk_42 (dk_at dksX21_adds_0 13 rfl rfl)
theorem dX21_adds_14 : decode cX21_adds 14 = .ok (.getfield 58, 3) := dk_180 0 58 (dk_at dksX21_adds_0 14 rfl rfl)
theorem dX21_adds_17 : decode cX21_adds 17 = .ok (.aload_n 0, 1) := dk_42 (dk_at dksX21_adds_0 17 rfl rfl)
theorem dX21_adds_18 : decode cX21_adds 18 = .ok (.getfield 142, 3) := dk_180 0 142 (dk_at dksX21_adds_0 18 rfl rfl)
theorem dX21_adds_21 : decode cX21_adds 21 = .ok (.aload_n 1, 1) := dk_43 (dk_at dksX21_adds_0 21 rfl rfl)
theorem dX21_adds_22 : decode cX21_adds 22 = .ok (.getfield 147, 3) := dk_180 0 147 (dk_at dksX21_adds_1 0 rfl rfl)
theorem dX21_adds_25 : decode cX21_adds 25 = .ok (.iastore, 1) := dk_79 (dk_at dksX21_adds_1 3 rfl rfl)
theorem dX21_adds_26 : decode cX21_adds 26 = .ok (.aload_n 0, 1) := dk_42 (dk_at dksX21_adds_1 4 rfl rfl)
theorem dX21_adds_27 : decode cX21_adds 27 = .ok (.getfield 61, 3) := dk_180 0 61 (dk_at dksX21_adds_1 5 rfl rfl)
theorem dX21_adds_30 : decode cX21_adds 30 = .ok (.aload_n 0, 1) := dk_42 (dk_at dksX21_adds_1 8 rfl rfl)
theorem dX21_adds_31 : decode cX21_adds 31 = .ok (.getfield 142, 3) := dk_180 0 142 (dk_at dksX21_adds_1 9 rfl rfl)
theorem dX21_adds_34 : decode cX21_adds 34 = .ok (.aload_n 1, 1) := dk_43 (dk_at dksX21_adds_1 12 rfl rfl)
theorem dX21_adds_35 : decode cX21_adds 35 = .ok (.getfield 148, 3) := dk_180 0 148 (dk_at dksX21_adds_1 13 rfl rfl)
theorem dX21_adds_38 : decode cX21_adds 38 = .ok (.iastore, 1) := dk_79 (dk_at dksX21_adds_1 16 rfl rfl)
theorem dX21_adds_39 : decode cX21_adds 39 = .ok (.aload_n 0, 1) := dk_42 (dk_at dksX21_adds_1 17 rfl rfl)
theorem dX21_adds_40 : decode cX21_adds 40 = .ok (.getfield 64, 3) := dk_180 0 64 (dk_at dksX21_adds_1 18 rfl rfl)
theorem dX21_adds_43 : decode cX21_adds 43 = .ok (.aload_n 0, 1) := dk_42 (dk_at dksX21_adds_1 21 rfl rfl)
theorem dX21_adds_44 : decode cX21_adds 44 = .ok (.getfield 142, 3) := dk_180 0 142 (dk_at dksX21_adds_2 0 rfl rfl)
theorem dX21_adds_47 : decode cX21_adds 47 = .ok (.aload_n 1, 1) := dk_43 (dk_at dksX21_adds_2 3 rfl rfl)
theorem dX21_adds_48 : decode cX21_adds 48 = .ok (.getfield 150, 3) := dk_180 0 150 (dk_at dksX21_adds_2 4 rfl rfl)
theorem dX21_adds_51 : decode cX21_adds 51 = .ok (.iastore, 1) := dk_79 (dk_at dksX21_adds_2 7 rfl rfl)
theorem dX21_adds_52 : decode cX21_adds 52 = .ok (.aload_n 0, 1) := dk_42 (dk_at dksX21_adds_2 8 rfl rfl)
theorem dX21_adds_53 : decode cX21_adds 53 = .ok (.getfield 67, 3) := dk_180 0 67 (dk_at dksX21_adds_2 9 rfl rfl)
theorem dX21_adds_56 : decode cX21_adds 56 = .ok (.aload_n 0, 1) := dk_42 (dk_at dksX21_adds_2 12 rfl rfl)
theorem dX21_adds_57 : decode cX21_adds 57 = .ok (.getfield 142, 3) := dk_180 0 142 (dk_at dksX21_adds_2 13 rfl rfl)
theorem dX21_adds_60 : decode cX21_adds 60 = .ok (.aload_n 1, 1) := dk_43 (dk_at dksX21_adds_2 16 rfl rfl)
theorem dX21_adds_61 : decode cX21_adds 61 = .ok (.getfield 152, 3) := dk_180 0 152 (dk_at dksX21_adds_2 17 rfl rfl)
theorem dX21_adds_64 : decode cX21_adds 64 = .ok (.iastore, 1) := dk_79 (dk_at dksX21_adds_2 20 rfl rfl)
theorem dX21_adds_65 : decode cX21_adds 65 = .ok (.aload_n 0, 1) := dk_42 (dk_at dksX21_adds_2 21 rfl rfl)
theorem dX21_adds_66 : decode cX21_adds 66 = .ok (.getfield 70, 3) := dk_180 0 70 (dk_at dksX21_adds_3 0 rfl rfl)
theorem dX21_adds_69 : decode cX21_adds 69 = .ok (.aload_n 0, 1) := dk_42 (dk_at dksX21_adds_3 3 rfl rfl)
theorem dX21_adds_70 : decode cX21_adds 70 = .ok (.getfield 142, 3) := dk_180 0 142 (dk_at dksX21_adds_3 4 rfl rfl)
theorem dX21_adds_73 : decode cX21_adds 73 = .ok (.aload_n 1, 1) := dk_43 (dk_at dksX21_adds_3 7 rfl rfl)
theorem dX21_adds_74 : decode cX21_adds 74 = .ok (.getfield 154, 3) := dk_180 0 154 (dk_at dksX21_adds_3 8 rfl rfl)
theorem dX21_adds_77 : decode cX21_adds 77 = .ok (.iastore, 1) := dk_79 (dk_at dksX21_adds_3 11 rfl rfl)
theorem dX21_adds_78 : decode cX21_adds 78 = .ok (.aload_n 0, 1) := dk_42 (dk_at dksX21_adds_3 12 rfl rfl)
theorem dX21_adds_79 : decode cX21_adds 79 = .ok (.getfield 76, 3) := dk_180 0 76 (dk_at dksX21_adds_3 13 rfl rfl)
theorem dX21_adds_82 : decode cX21_adds 82 = .ok (.aload_n 0, 1) := dk_42 (dk_at dksX21_adds_3 16 rfl rfl)
theorem dX21_adds_83 : decode cX21_adds 83 = .ok (.getfield 142, 3) := dk_180 0 142 (dk_at dksX21_adds_3 17 rfl rfl)
theorem dX21_adds_86 : decode cX21_adds 86 = .ok (.iconst (-1), 1) := dk_2 (dk_at dksX21_adds_3 20 rfl rfl)
theorem dX21_adds_87 : decode cX21_adds 87 = .ok (.iastore, 1) := dk_79 (dk_at dksX21_adds_3 21 rfl rfl)
theorem dX21_adds_88 : decode cX21_adds 88 = .ok (.aload_n 0, 1) := dk_42 (dk_at dksX21_adds_3 22 rfl rfl)
theorem dX21_adds_89 : decode cX21_adds 89 = .ok (.dup, 1) := dk_89 (dk_at dksX21_adds_3 23 rfl rfl)
theorem dX21_adds_90 : decode cX21_adds 90 = .ok (.getfield 142, 3) := dk_180 0 142 (dk_at dksX21_adds_4 0 rfl rfl)
theorem dX21_adds_93 : decode cX21_adds 93 = .ok (.iconst 1, 1) := dk_4 (dk_at dksX21_adds_4 3 rfl rfl)
theorem dX21_adds_94 : decode cX21_adds 94 = .ok (.iadd, 1) := dk_96 (dk_at dksX21_adds_4 4 rfl rfl)
theorem dX21_adds_95 : decode cX21_adds 95 = .ok (.putfield 142, 3) := dk_181 0 142 (dk_at dksX21_adds_4 5 rfl rfl)
theorem dX21_adds_98 : decode cX21_adds 98 = .ok (.return_, 1) := dk_177 (dk_at dksX21_adds_4 8 rfl rfl)
abbrev cX21_copy : ByteArray := prog_3_method_4_code
def yX21_copy : MethodName := ⟨RX21, "copy", "()LNextAtBar$Bar;"⟩
def dkwX21_copy_0 : List UInt8 := [187, 0, 10, 89, 42, 180, 0, 79, 183, 0, 156, 76, 43, 42, 182, 0, 159, 43, 176]
abbrev dktX21_copy_0 : List UInt8 := dkwX21_copy_0 ++ []
theorem dksX21_copy_0 : cX21_copy.data.toList.drop 0 = dktX21_copy_0 := by decide +kernel
theorem dX21_copy_0 : decode cX21_copy 0 = .ok (.new 10, 3) := dk_187 0 10 (dk_at dksX21_copy_0 0 rfl rfl)
theorem dX21_copy_3 : decode cX21_copy 3 = .ok (.dup, 1) := dk_89 (dk_at dksX21_copy_0 3 rfl rfl)
theorem dX21_copy_4 : decode cX21_copy 4 = .ok (.aload_n 0, 1) := dk_42 (dk_at dksX21_copy_0 4 rfl rfl)
theorem dX21_copy_5 : decode cX21_copy 5 = .ok (.getfield 79, 3) := dk_180 0 79 (dk_at dksX21_copy_0 5 rfl rfl)
theorem dX21_copy_8 : decode cX21_copy 8 = .ok (.invokespecial 156, 3) := dk_183 0 156 (dk_at dksX21_copy_0 8 rfl rfl)
theorem dX21_copy_11 : decode cX21_copy 11 = .ok (.astore_n 1, 1) := dk_76 (dk_at dksX21_copy_0 11 rfl rfl)
theorem dX21_copy_12 : decode cX21_copy 12 = .ok (.aload_n 1, 1) := dk_43 (dk_at dksX21_copy_0 12 rfl rfl)
theorem dX21_copy_13 : decode cX21_copy 13 = .ok (.aload_n 0, 1) := dk_42 (dk_at dksX21_copy_0 13 rfl rfl)
theorem dX21_copy_14 : decode cX21_copy 14 = .ok (.invokevirtual 159, 3) := dk_182 0 159 (dk_at dksX21_copy_0 14 rfl rfl)
theorem dX21_copy_17 : decode cX21_copy 17 = .ok (.aload_n 1, 1) := dk_43 (dk_at dksX21_copy_0 17 rfl rfl)
theorem dX21_copy_18 : decode cX21_copy 18 = .ok (.areturn, 1) := dk_176 (dk_at dksX21_copy_0 18 rfl rfl)
abbrev cX21_takes : ByteArray := prog_3_method_5_code
def yX21_takes : MethodName := ⟨RX21, "takes", "(LNextAtBar$Bar;)V"⟩
def dkwX21_takes_14 : List UInt8 := [181, 0, 172, 42, 43, 180, 0, 101, 181, 0, 101, 177]
abbrev dktX21_takes_14 : List UInt8 := dkwX21_takes_14 ++ []
def dkwX21_takes_13 : List UInt8 := [184, 0, 163, 42, 43, 180, 0, 142, 181, 0, 142, 42, 43, 180, 0, 169, 181, 0, 169, 42, 43, 180, 0, 172]
abbrev dktX21_takes_13 : List UInt8 := dkwX21_takes_13 ++ dktX21_takes_14
def dkwX21_takes_12 : List UInt8 := [180, 0, 73, 3, 42, 180, 0, 73, 190, 184, 0, 163, 43, 180, 0, 76, 3, 42, 180, 0, 76, 3, 7]
abbrev dktX21_takes_12 : List UInt8 := dkwX21_takes_12 ++ dktX21_takes_13
def dkwX21_takes_11 : List UInt8 := [7, 184, 0, 163, 43, 180, 0, 70, 3, 42, 180, 0, 70, 3, 7, 184, 0, 163, 43, 180, 0, 73, 3, 42]
abbrev dktX21_takes_11 : List UInt8 := dkwX21_takes_11 ++ dktX21_takes_12
def dkwX21_takes_10 : List UInt8 := [43, 180, 0, 64, 3, 42, 180, 0, 64, 3, 7, 184, 0, 163, 43, 180, 0, 67, 3, 42, 180, 0, 67, 3]
abbrev dktX21_takes_10 : List UInt8 := dkwX21_takes_10 ++ dktX21_takes_11
def dkwX21_takes_9 : List UInt8 := [3, 42, 180, 0, 58, 3, 7, 184, 0, 163, 43, 180, 0, 61, 3, 42, 180, 0, 61, 3, 7, 184, 0, 163]
abbrev dktX21_takes_9 : List UInt8 := dkwX21_takes_9 ++ dktX21_takes_10
def dkwX21_takes_8 : List UInt8 := [3, 16, 10, 184, 0, 163, 43, 180, 0, 54, 3, 42, 180, 0, 54, 3, 7, 184, 0, 163, 43, 180, 0, 58]
abbrev dktX21_takes_8 : List UInt8 := dkwX21_takes_8 ++ dktX21_takes_9
def dkwX21_takes_7 : List UInt8 := [43, 180, 0, 45, 3, 42, 180, 0, 45, 3, 16, 10, 184, 0, 163, 43, 180, 0, 48, 3, 42, 180, 0, 48]
abbrev dktX21_takes_7 : List UInt8 := dkwX21_takes_7 ++ dktX21_takes_8
def dkwX21_takes_6 : List UInt8 := [180, 0, 39, 3, 16, 10, 184, 0, 163, 43, 180, 0, 42, 3, 42, 180, 0, 42, 3, 16, 10, 184, 0, 163]
abbrev dktX21_takes_6 : List UInt8 := dkwX21_takes_6 ++ dktX21_takes_7
def dkwX21_takes_5 : List UInt8 := [184, 0, 163, 43, 180, 0, 36, 3, 42, 180, 0, 36, 3, 16, 10, 184, 0, 163, 43, 180, 0, 39, 3, 42]
abbrev dktX21_takes_5 : List UInt8 := dkwX21_takes_5 ++ dktX21_takes_6
def dkwX21_takes_4 : List UInt8 := [3, 42, 180, 0, 30, 3, 16, 10, 184, 0, 163, 43, 180, 0, 33, 3, 42, 180, 0, 33, 3, 16, 10]
abbrev dktX21_takes_4 : List UInt8 := dkwX21_takes_4 ++ dktX21_takes_5
def dkwX21_takes_3 : List UInt8 := [16, 10, 184, 0, 163, 43, 180, 0, 27, 3, 42, 180, 0, 27, 3, 16, 10, 184, 0, 163, 43, 180, 0, 30]
abbrev dktX21_takes_3 : List UInt8 := dkwX21_takes_3 ++ dktX21_takes_4
def dkwX21_takes_2 : List UInt8 := [180, 0, 21, 3, 42, 180, 0, 21, 3, 16, 10, 184, 0, 163, 43, 180, 0, 24, 3, 42, 180, 0, 24, 3]
abbrev dktX21_takes_2 : List UInt8 := dkwX21_takes_2 ++ dktX21_takes_3
def dkwX21_takes_1 : List UInt8 := [3, 16, 10, 184, 0, 163, 43, 180, 0, 18, 3, 42, 180, 0, 18, 3, 16, 10, 184, 0, 163, 43]
abbrev dktX21_takes_1 : List UInt8 := dkwX21_takes_1 ++ dktX21_takes_2
def dkwX21_takes_0 : List UInt8 := [43, 180, 0, 9, 3, 42, 180, 0, 9, 3, 16, 10, 184, 0, 163, 43, 180, 0, 15, 3, 42, 180, 0, 15]
abbrev dktX21_takes_0 : List UInt8 := dkwX21_takes_0 ++ dktX21_takes_1
theorem dksX21_takes_0 : cX21_takes.data.toList.drop 0 = dktX21_takes_0 := by decide +kernel
theorem dksX21_takes_1 : cX21_takes.data.toList.drop 24 = dktX21_takes_1 := dk_seg dksX21_takes_0 24 rfl rfl
theorem dksX21_takes_2 : cX21_takes.data.toList.drop 46 = dktX21_takes_2 := dk_seg dksX21_takes_1 22 rfl rfl
theorem dksX21_takes_3 : cX21_takes.data.toList.drop 70 = dktX21_takes_3 := dk_seg dksX21_takes_2 24 rfl rfl
theorem dksX21_takes_4 : cX21_takes.data.toList.drop 94 = dktX21_takes_4 := dk_seg dksX21_takes_3 24 rfl rfl
theorem dksX21_takes_5 : cX21_takes.data.toList.drop 117 = dktX21_takes_5 := dk_seg dksX21_takes_4 23 rfl rfl
theorem dksX21_takes_6 : cX21_takes.data.toList.drop 141 = dktX21_takes_6 := dk_seg dksX21_takes_5 24 rfl rfl
theorem dksX21_takes_7 : cX21_takes.data.toList.drop 165 = dktX21_takes_7 := dk_seg dksX21_takes_6 24 rfl rfl
theorem dksX21_takes_8 : cX21_takes.data.toList.drop 189 = dktX21_takes_8 := dk_seg dksX21_takes_7 24 rfl rfl
theorem dksX21_takes_9 : cX21_takes.data.toList.drop 213 = dktX21_takes_9 := dk_seg dksX21_takes_8 24 rfl rfl
theorem dksX21_takes_10 : cX21_takes.data.toList.drop 237 = dktX21_takes_10 := dk_seg dksX21_takes_9 24 rfl rfl
theorem dksX21_takes_11 : cX21_takes.data.toList.drop 261 = dktX21_takes_11 := dk_seg dksX21_takes_10 24 rfl rfl
theorem dksX21_takes_12 : cX21_takes.data.toList.drop 285 = dktX21_takes_12 := dk_seg dksX21_takes_11 24 rfl rfl
theorem dksX21_takes_13 : cX21_takes.data.toList.drop 308 = dktX21_takes_13 := dk_seg dksX21_takes_12 23 rfl rfl
theorem dksX21_takes_14 : cX21_takes.data.toList.drop 332 = dktX21_takes_14 := dk_seg dksX21_takes_13 24 rfl rfl
theorem dX21_takes_0 : decode cX21_takes 0 = .ok (.aload_n 1, 1) := dk_43 (dk_at dksX21_takes_0 0 rfl rfl)
theorem dX21_takes_1 : decode cX21_takes 1 = .ok (.getfield 9, 3) := dk_180 0 9 (dk_at dksX21_takes_0 1 rfl rfl)
theorem dX21_takes_4 : decode cX21_takes 4 = .ok (.iconst 0, 1) := dk_3 (dk_at dksX21_takes_0 4 rfl rfl)
theorem dX21_takes_5 : decode cX21_takes 5 = .ok (.aload_n 0, 1) := dk_42 (dk_at dksX21_takes_0 5 rfl rfl)
theorem dX21_takes_6 : decode cX21_takes 6 = .ok (.getfield 9, 3) := dk_180 0 9 (dk_at dksX21_takes_0 6 rfl rfl)
theorem dX21_takes_9 : decode cX21_takes 9 = .ok (.iconst 0, 1) := dk_3 (dk_at dksX21_takes_0 9 rfl rfl)
theorem dX21_takes_10 : decode cX21_takes 10 = .ok (.bipush 10, 2) := dk_16 10 (dk_at dksX21_takes_0 10 rfl rfl)
theorem dX21_takes_12 : decode cX21_takes 12 = .ok (.invokestatic 163, 3) := dk_184 0 163 (dk_at dksX21_takes_0 12 rfl rfl)
theorem dX21_takes_15 : decode cX21_takes 15 = .ok (.aload_n 1, 1) := dk_43 (dk_at dksX21_takes_0 15 rfl rfl)
theorem dX21_takes_16 : decode cX21_takes 16 = .ok (.getfield 15, 3) := dk_180 0 15 (dk_at dksX21_takes_0 16 rfl rfl)
theorem dX21_takes_19 : decode cX21_takes 19 = .ok (.iconst 0, 1) := dk_3 (dk_at dksX21_takes_0 19 rfl rfl)
theorem dX21_takes_20 : decode cX21_takes 20 = .ok (.aload_n 0, 1) := dk_42 (dk_at dksX21_takes_0 20 rfl rfl)
theorem dX21_takes_21 : decode cX21_takes 21 = .ok (.getfield 15, 3) := dk_180 0 15 (dk_at dksX21_takes_0 21 rfl rfl)
theorem dX21_takes_24 : decode cX21_takes 24 = .ok (.iconst 0, 1) := dk_3 (dk_at dksX21_takes_1 0 rfl rfl)
theorem dX21_takes_25 : decode cX21_takes 25 = .ok (.bipush 10, 2) := dk_16 10 (dk_at dksX21_takes_1 1 rfl rfl)
theorem dX21_takes_27 : decode cX21_takes 27 = .ok (.invokestatic 163, 3) := dk_184 0 163 (dk_at dksX21_takes_1 3 rfl rfl)
theorem dX21_takes_30 : decode cX21_takes 30 = .ok (.aload_n 1, 1) := dk_43 (dk_at dksX21_takes_1 6 rfl rfl)
theorem dX21_takes_31 : decode cX21_takes 31 = .ok (.getfield 18, 3) := dk_180 0 18 (dk_at dksX21_takes_1 7 rfl rfl)
theorem dX21_takes_34 : decode cX21_takes 34 = .ok (.iconst 0, 1) := dk_3 (dk_at dksX21_takes_1 10 rfl rfl)
theorem dX21_takes_35 : decode cX21_takes 35 = .ok (.aload_n 0, 1) := dk_42 (dk_at dksX21_takes_1 11 rfl rfl)
theorem dX21_takes_36 : decode cX21_takes 36 = .ok (.getfield 18, 3) := dk_180 0 18 (dk_at dksX21_takes_1 12 rfl rfl)
theorem dX21_takes_39 : decode cX21_takes 39 = .ok (.iconst 0, 1) := dk_3 (dk_at dksX21_takes_1 15 rfl rfl)
theorem dX21_takes_40 : decode cX21_takes 40 = .ok (.bipush 10, 2) := dk_16 10 (dk_at dksX21_takes_1 16 rfl rfl)
theorem dX21_takes_42 : decode cX21_takes 42 = .ok (.invokestatic 163, 3) := dk_184 0 163 (dk_at dksX21_takes_1 18 rfl rfl)
theorem dX21_takes_45 : decode cX21_takes 45 = .ok (.aload_n 1, 1) := dk_43 (dk_at dksX21_takes_1 21 rfl rfl)
theorem dX21_takes_46 : decode cX21_takes 46 = .ok (.getfield 21, 3) := dk_180 0 21 (dk_at dksX21_takes_2 0 rfl rfl)
theorem dX21_takes_49 : decode cX21_takes 49 = .ok (.iconst 0, 1) := dk_3 (dk_at dksX21_takes_2 3 rfl rfl)
theorem dX21_takes_50 : decode cX21_takes 50 = .ok (.aload_n 0, 1) := dk_42 (dk_at dksX21_takes_2 4 rfl rfl)
theorem dX21_takes_51 : decode cX21_takes 51 = .ok (.getfield 21, 3) := dk_180 0 21 (dk_at dksX21_takes_2 5 rfl rfl)
theorem dX21_takes_54 : decode cX21_takes 54 = .ok (.iconst 0, 1) := dk_3 (dk_at dksX21_takes_2 8 rfl rfl)
theorem dX21_takes_55 : decode cX21_takes 55 = .ok (.bipush 10, 2) := dk_16 10 (dk_at dksX21_takes_2 9 rfl rfl)
theorem dX21_takes_57 : decode cX21_takes 57 = .ok (.invokestatic 163, 3) := dk_184 0 163 (dk_at dksX21_takes_2 11 rfl rfl)
theorem dX21_takes_60 : decode cX21_takes 60 = .ok (.aload_n 1, 1) := dk_43 (dk_at dksX21_takes_2 14 rfl rfl)
theorem dX21_takes_61 : decode cX21_takes 61 = .ok (.getfield 24, 3) := dk_180 0 24 (dk_at dksX21_takes_2 15 rfl rfl)
theorem dX21_takes_64 : decode cX21_takes 64 = .ok (.iconst 0, 1) := dk_3 (dk_at dksX21_takes_2 18 rfl rfl)
theorem dX21_takes_65 : decode cX21_takes 65 = .ok (.aload_n 0, 1) := dk_42 (dk_at dksX21_takes_2 19 rfl rfl)
theorem dX21_takes_66 : decode cX21_takes 66 = .ok (.getfield 24, 3) := dk_180 0 24 (dk_at dksX21_takes_2 20 rfl rfl)
theorem dX21_takes_69 : decode cX21_takes 69 = .ok (.iconst 0, 1) := dk_3 (dk_at dksX21_takes_2 23 rfl rfl)
theorem dX21_takes_70 : decode cX21_takes 70 = .ok (.bipush 10, 2) := dk_16 10 (dk_at dksX21_takes_3 0 rfl rfl)
theorem dX21_takes_72 : decode cX21_takes 72 = .ok (.invokestatic 163, 3) := dk_184 0 163 (dk_at dksX21_takes_3 2 rfl rfl)
theorem dX21_takes_75 : decode cX21_takes 75 = .ok (.aload_n 1, 1) := dk_43 (dk_at dksX21_takes_3 5 rfl rfl)
theorem dX21_takes_76 : decode cX21_takes 76 = .ok (.getfield 27, 3) := dk_180 0 27 (dk_at dksX21_takes_3 6 rfl rfl)
theorem dX21_takes_79 : decode cX21_takes 79 = .ok (.iconst 0, 1) := dk_3 (dk_at dksX21_takes_3 9 rfl rfl)
theorem dX21_takes_80 : decode cX21_takes 80 = .ok (.aload_n 0, 1) := dk_42 (dk_at dksX21_takes_3 10 rfl rfl)
theorem dX21_takes_81 : decode cX21_takes 81 = .ok (.getfield 27, 3) := dk_180 0 27 (dk_at dksX21_takes_3 11 rfl rfl)
theorem dX21_takes_84 : decode cX21_takes 84 = .ok (.iconst 0, 1) := dk_3 (dk_at dksX21_takes_3 14 rfl rfl)
theorem dX21_takes_85 : decode cX21_takes 85 = .ok (.bipush 10, 2) := dk_16 10 (dk_at dksX21_takes_3 15 rfl rfl)
theorem dX21_takes_87 : decode cX21_takes 87 = .ok (.invokestatic 163, 3) := dk_184 0 163 (dk_at dksX21_takes_3 17 rfl rfl)
theorem dX21_takes_90 : decode cX21_takes 90 = .ok (.aload_n 1, 1) := dk_43 (dk_at dksX21_takes_3 20 rfl rfl)
theorem dX21_takes_91 : decode cX21_takes 91 = .ok (.getfield 30, 3) := dk_180 0 30 (dk_at dksX21_takes_3 21 rfl rfl)
theorem dX21_takes_94 : decode cX21_takes 94 = .ok (.iconst 0, 1) := dk_3 (dk_at dksX21_takes_4 0 rfl rfl)
theorem dX21_takes_95 : decode cX21_takes 95 = .ok (.aload_n 0, 1) := dk_42 (dk_at dksX21_takes_4 1 rfl rfl)
theorem dX21_takes_96 : decode cX21_takes 96 = .ok (.getfield 30, 3) := dk_180 0 30 (dk_at dksX21_takes_4 2 rfl rfl)
theorem dX21_takes_99 : decode cX21_takes 99 = .ok (.iconst 0, 1) := dk_3 (dk_at dksX21_takes_4 5 rfl rfl)
theorem dX21_takes_100 : decode cX21_takes 100 = .ok (.bipush 10, 2) := dk_16 10 (dk_at dksX21_takes_4 6 rfl rfl)
theorem dX21_takes_102 : decode cX21_takes 102 = .ok (.invokestatic 163, 3) := dk_184 0 163 (dk_at dksX21_takes_4 8 rfl rfl)
theorem dX21_takes_105 : decode cX21_takes 105 = .ok (.aload_n 1, 1) := dk_43 (dk_at dksX21_takes_4 11 rfl rfl)
theorem dX21_takes_106 : decode cX21_takes 106 = .ok (.getfield 33, 3) := dk_180 0 33 (dk_at dksX21_takes_4 12 rfl rfl)
theorem dX21_takes_109 : decode cX21_takes 109 = .ok (.iconst 0, 1) := dk_3 (dk_at dksX21_takes_4 15 rfl rfl)
theorem dX21_takes_110 : decode cX21_takes 110 = .ok (.aload_n 0, 1) := dk_42 (dk_at dksX21_takes_4 16 rfl rfl)
theorem dX21_takes_111 : decode cX21_takes 111 = .ok (.getfield 33, 3) := dk_180 0 33 (dk_at dksX21_takes_4 17 rfl rfl)
theorem dX21_takes_114 : decode cX21_takes 114 = .ok (.iconst 0, 1) := dk_3 (dk_at dksX21_takes_4 20 rfl rfl)
theorem dX21_takes_115 : decode cX21_takes 115 = .ok (.bipush 10, 2) := dk_16 10 (dk_at dksX21_takes_4 21 rfl rfl)
theorem dX21_takes_117 : decode cX21_takes 117 = .ok (.invokestatic 163, 3) := dk_184 0 163 (dk_at dksX21_takes_5 0 rfl rfl)
theorem dX21_takes_120 : decode cX21_takes 120 = .ok (.aload_n 1, 1) := dk_43 (dk_at dksX21_takes_5 3 rfl rfl)
theorem dX21_takes_121 : decode cX21_takes 121 = .ok (.getfield 36, 3) := dk_180 0 36 (dk_at dksX21_takes_5 4 rfl rfl)
theorem dX21_takes_124 : decode cX21_takes 124 = .ok (.iconst 0, 1) := dk_3 (dk_at dksX21_takes_5 7 rfl rfl)
theorem dX21_takes_125 : decode cX21_takes 125 = .ok (.aload_n 0, 1) := dk_42 (dk_at dksX21_takes_5 8 rfl rfl)
theorem dX21_takes_126 : decode cX21_takes 126 = .ok (.getfield 36, 3) := dk_180 0 36 (dk_at dksX21_takes_5 9 rfl rfl)
theorem dX21_takes_129 : decode cX21_takes 129 = .ok (.iconst 0, 1) := dk_3 (dk_at dksX21_takes_5 12 rfl rfl)
theorem dX21_takes_130 : decode cX21_takes 130 = .ok (.bipush 10, 2) := dk_16 10 (dk_at dksX21_takes_5 13 rfl rfl)
theorem dX21_takes_132 : decode cX21_takes 132 = .ok (.invokestatic 163, 3) := dk_184 0 163 (dk_at dksX21_takes_5 15 rfl rfl)
theorem dX21_takes_135 : decode cX21_takes 135 = .ok (.aload_n 1, 1) := dk_43 (dk_at dksX21_takes_5 18 rfl rfl)
theorem dX21_takes_136 : decode cX21_takes 136 = .ok (.getfield 39, 3) := dk_180 0 39 (dk_at dksX21_takes_5 19 rfl rfl)
theorem dX21_takes_139 : decode cX21_takes 139 = .ok (.iconst 0, 1) := dk_3 (dk_at dksX21_takes_5 22 rfl rfl)
theorem dX21_takes_140 : decode cX21_takes 140 = .ok (.aload_n 0, 1) := dk_42 (dk_at dksX21_takes_5 23 rfl rfl)
theorem dX21_takes_141 : decode cX21_takes 141 = .ok (.getfield 39, 3) := dk_180 0 39 (dk_at dksX21_takes_6 0 rfl rfl)
theorem dX21_takes_144 : decode cX21_takes 144 = .ok (.iconst 0, 1) := dk_3 (dk_at dksX21_takes_6 3 rfl rfl)
theorem dX21_takes_145 : decode cX21_takes 145 = .ok (.bipush 10, 2) := dk_16 10 (dk_at dksX21_takes_6 4 rfl rfl)
theorem dX21_takes_147 : decode cX21_takes 147 = .ok (.invokestatic 163, 3) := dk_184 0 163 (dk_at dksX21_takes_6 6 rfl rfl)
theorem dX21_takes_150 : decode cX21_takes 150 = .ok (.aload_n 1, 1) := dk_43 (dk_at dksX21_takes_6 9 rfl rfl)
theorem dX21_takes_151 : decode cX21_takes 151 = .ok (.getfield 42, 3) := dk_180 0 42 (dk_at dksX21_takes_6 10 rfl rfl)
theorem dX21_takes_154 : decode cX21_takes 154 = .ok (.iconst 0, 1) := dk_3 (dk_at dksX21_takes_6 13 rfl rfl)
theorem dX21_takes_155 : decode cX21_takes 155 = .ok (.aload_n 0, 1) := dk_42 (dk_at dksX21_takes_6 14 rfl rfl)
theorem dX21_takes_156 : decode cX21_takes 156 = .ok (.getfield 42, 3) := dk_180 0 42 (dk_at dksX21_takes_6 15 rfl rfl)
theorem dX21_takes_159 : decode cX21_takes 159 = .ok (.iconst 0, 1) := dk_3 (dk_at dksX21_takes_6 18 rfl rfl)
theorem dX21_takes_160 : decode cX21_takes 160 = .ok (.bipush 10, 2) := dk_16 10 (dk_at dksX21_takes_6 19 rfl rfl)
theorem dX21_takes_162 : decode cX21_takes 162 = .ok (.invokestatic 163, 3) := dk_184 0 163 (dk_at dksX21_takes_6 21 rfl rfl)
theorem dX21_takes_165 : decode cX21_takes 165 = .ok (.aload_n 1, 1) := dk_43 (dk_at dksX21_takes_7 0 rfl rfl)
theorem dX21_takes_166 : decode cX21_takes 166 = .ok (.getfield 45, 3) := dk_180 0 45 (dk_at dksX21_takes_7 1 rfl rfl)
theorem dX21_takes_169 : decode cX21_takes 169 = .ok (.iconst 0, 1) := dk_3 (dk_at dksX21_takes_7 4 rfl rfl)
theorem dX21_takes_170 : decode cX21_takes 170 = .ok (.aload_n 0, 1) := dk_42 (dk_at dksX21_takes_7 5 rfl rfl)
theorem dX21_takes_171 : decode cX21_takes 171 = .ok (.getfield 45, 3) := dk_180 0 45 (dk_at dksX21_takes_7 6 rfl rfl)
theorem dX21_takes_174 : decode cX21_takes 174 = .ok (.iconst 0, 1) := dk_3 (dk_at dksX21_takes_7 9 rfl rfl)
theorem dX21_takes_175 : decode cX21_takes 175 = .ok (.bipush 10, 2) := dk_16 10 (dk_at dksX21_takes_7 10 rfl rfl)
theorem dX21_takes_177 : decode cX21_takes 177 = .ok (.invokestatic 163, 3) := dk_184 0 163 (dk_at dksX21_takes_7 12 rfl rfl)
theorem dX21_takes_180 : decode cX21_takes 180 = .ok (.aload_n 1, 1) := dk_43 (dk_at dksX21_takes_7 15 rfl rfl)
theorem dX21_takes_181 : decode cX21_takes 181 = .ok (.getfield 48, 3) := dk_180 0 48 (dk_at dksX21_takes_7 16 rfl rfl)
theorem dX21_takes_184 : decode cX21_takes 184 = .ok (.iconst 0, 1) := dk_3 (dk_at dksX21_takes_7 19 rfl rfl)
theorem dX21_takes_185 : decode cX21_takes 185 = .ok (.aload_n 0, 1) := dk_42 (dk_at dksX21_takes_7 20 rfl rfl)
theorem dX21_takes_186 : decode cX21_takes 186 = .ok (.getfield 48, 3) := dk_180 0 48 (dk_at dksX21_takes_7 21 rfl rfl)
theorem dX21_takes_189 : decode cX21_takes 189 = .ok (.iconst 0, 1) := dk_3 (dk_at dksX21_takes_8 0 rfl rfl)
theorem dX21_takes_190 : decode cX21_takes 190 = .ok (.bipush 10, 2) := dk_16 10 (dk_at dksX21_takes_8 1 rfl rfl)
theorem dX21_takes_192 : decode cX21_takes 192 = .ok (.invokestatic 163, 3) := dk_184 0 163 (dk_at dksX21_takes_8 3 rfl rfl)
theorem dX21_takes_195 : decode cX21_takes 195 = .ok (.aload_n 1, 1) := dk_43 (dk_at dksX21_takes_8 6 rfl rfl)
theorem dX21_takes_196 : decode cX21_takes 196 = .ok (.getfield 54, 3) := dk_180 0 54 (dk_at dksX21_takes_8 7 rfl rfl)
theorem dX21_takes_199 : decode cX21_takes 199 = .ok (.iconst 0, 1) := dk_3 (dk_at dksX21_takes_8 10 rfl rfl)
theorem dX21_takes_200 : decode cX21_takes 200 = .ok (.aload_n 0, 1) := dk_42 (dk_at dksX21_takes_8 11 rfl rfl)
theorem dX21_takes_201 : decode cX21_takes 201 = .ok (.getfield 54, 3) := dk_180 0 54 (dk_at dksX21_takes_8 12 rfl rfl)
theorem dX21_takes_204 : decode cX21_takes 204 = .ok (.iconst 0, 1) := dk_3 (dk_at dksX21_takes_8 15 rfl rfl)
theorem dX21_takes_205 : decode cX21_takes 205 = .ok (.iconst 4, 1) := dk_7 (dk_at dksX21_takes_8 16 rfl rfl)
theorem dX21_takes_206 : decode cX21_takes 206 = .ok (.invokestatic 163, 3) := dk_184 0 163 (dk_at dksX21_takes_8 17 rfl rfl)
theorem dX21_takes_209 : decode cX21_takes 209 = .ok (.aload_n 1, 1) := dk_43 (dk_at dksX21_takes_8 20 rfl rfl)
theorem dX21_takes_210 : decode cX21_takes 210 = .ok (.getfield 58, 3) := dk_180 0 58 (dk_at dksX21_takes_8 21 rfl rfl)
theorem dX21_takes_213 : decode cX21_takes 213 = .ok (.iconst 0, 1) := dk_3 (dk_at dksX21_takes_9 0 rfl rfl)
theorem dX21_takes_214 : decode cX21_takes 214 = .ok (.aload_n 0, 1) := dk_42 (dk_at dksX21_takes_9 1 rfl rfl)
theorem dX21_takes_215 : decode cX21_takes 215 = .ok (.getfield 58, 3) := dk_180 0 58 (dk_at dksX21_takes_9 2 rfl rfl)
theorem dX21_takes_218 : decode cX21_takes 218 = .ok (.iconst 0, 1) := dk_3 (dk_at dksX21_takes_9 5 rfl rfl)
theorem dX21_takes_219 : decode cX21_takes 219 = .ok (.iconst 4, 1) := dk_7 (dk_at dksX21_takes_9 6 rfl rfl)
theorem dX21_takes_220 : decode cX21_takes 220 = .ok (.invokestatic 163, 3) := dk_184 0 163 (dk_at dksX21_takes_9 7 rfl rfl)
theorem dX21_takes_223 : decode cX21_takes 223 = .ok (.aload_n 1, 1) := dk_43 (dk_at dksX21_takes_9 10 rfl rfl)
theorem dX21_takes_224 : decode cX21_takes 224 = .ok (.getfield 61, 3) := dk_180 0 61 (dk_at dksX21_takes_9 11 rfl rfl)
theorem dX21_takes_227 : decode cX21_takes 227 = .ok (.iconst 0, 1) := dk_3 (dk_at dksX21_takes_9 14 rfl rfl)
theorem dX21_takes_228 : decode cX21_takes 228 = .ok (.aload_n 0, 1) := dk_42 (dk_at dksX21_takes_9 15 rfl rfl)
theorem dX21_takes_229 : decode cX21_takes 229 = .ok (.getfield 61, 3) := dk_180 0 61 (dk_at dksX21_takes_9 16 rfl rfl)
theorem dX21_takes_232 : decode cX21_takes 232 = .ok (.iconst 0, 1) := dk_3 (dk_at dksX21_takes_9 19 rfl rfl)
theorem dX21_takes_233 : decode cX21_takes 233 = .ok (.iconst 4, 1) := dk_7 (dk_at dksX21_takes_9 20 rfl rfl)
theorem dX21_takes_234 : decode cX21_takes 234 = .ok (.invokestatic 163, 3) := dk_184 0 163 (dk_at dksX21_takes_9 21 rfl rfl)
theorem dX21_takes_237 : decode cX21_takes 237 = .ok (.aload_n 1, 1) := dk_43 (dk_at dksX21_takes_10 0 rfl rfl)
theorem dX21_takes_238 : decode cX21_takes 238 = .ok (.getfield 64, 3) := dk_180 0 64 (dk_at dksX21_takes_10 1 rfl rfl)
theorem dX21_takes_241 : decode cX21_takes 241 = .ok (.iconst 0, 1) := dk_3 (dk_at dksX21_takes_10 4 rfl rfl)
theorem dX21_takes_242 : decode cX21_takes 242 = .ok (.aload_n 0, 1) := dk_42 (dk_at dksX21_takes_10 5 rfl rfl)
theorem dX21_takes_243 : decode cX21_takes 243 = .ok (.getfield 64, 3) := dk_180 0 64 (dk_at dksX21_takes_10 6 rfl rfl)
theorem dX21_takes_246 : decode cX21_takes 246 = .ok (.iconst 0, 1) := dk_3 (dk_at dksX21_takes_10 9 rfl rfl)
theorem dX21_takes_247 : decode cX21_takes 247 = .ok (.iconst 4, 1) := dk_7 (dk_at dksX21_takes_10 10 rfl rfl)
theorem dX21_takes_248 : decode cX21_takes 248 = .ok (.invokestatic 163, 3) := dk_184 0 163 (dk_at dksX21_takes_10 11 rfl rfl)
theorem dX21_takes_251 : decode cX21_takes 251 = .ok (.aload_n 1, 1) := dk_43 (dk_at dksX21_takes_10 14 rfl rfl)
theorem dX21_takes_252 : decode cX21_takes 252 = .ok (.getfield 67, 3) := dk_180 0 67 (dk_at dksX21_takes_10 15 rfl rfl)
theorem dX21_takes_255 : decode cX21_takes 255 = .ok (.iconst 0, 1) := dk_3 (dk_at dksX21_takes_10 18 rfl rfl)
theorem dX21_takes_256 : decode cX21_takes 256 = .ok (.aload_n 0, 1) := dk_42 (dk_at dksX21_takes_10 19 rfl rfl)
theorem dX21_takes_257 : decode cX21_takes 257 = .ok (.getfield 67, 3) := dk_180 0 67 (dk_at dksX21_takes_10 20 rfl rfl)
theorem dX21_takes_260 : decode cX21_takes 260 = .ok (.iconst 0, 1) := dk_3 (dk_at dksX21_takes_10 23 rfl rfl)
theorem dX21_takes_261 : decode cX21_takes 261 = .ok (.iconst 4, 1) := dk_7 (dk_at dksX21_takes_11 0 rfl rfl)
theorem dX21_takes_262 : decode cX21_takes 262 = .ok (.invokestatic 163, 3) := dk_184 0 163 (dk_at dksX21_takes_11 1 rfl rfl)
theorem dX21_takes_265 : decode cX21_takes 265 = .ok (.aload_n 1, 1) := dk_43 (dk_at dksX21_takes_11 4 rfl rfl)
theorem dX21_takes_266 : decode cX21_takes 266 = .ok (.getfield 70, 3) := dk_180 0 70 (dk_at dksX21_takes_11 5 rfl rfl)
theorem dX21_takes_269 : decode cX21_takes 269 = .ok (.iconst 0, 1) := dk_3 (dk_at dksX21_takes_11 8 rfl rfl)
theorem dX21_takes_270 : decode cX21_takes 270 = .ok (.aload_n 0, 1) := dk_42 (dk_at dksX21_takes_11 9 rfl rfl)
theorem dX21_takes_271 : decode cX21_takes 271 = .ok (.getfield 70, 3) := dk_180 0 70 (dk_at dksX21_takes_11 10 rfl rfl)
theorem dX21_takes_274 : decode cX21_takes 274 = .ok (.iconst 0, 1) := dk_3 (dk_at dksX21_takes_11 13 rfl rfl)
theorem dX21_takes_275 : decode cX21_takes 275 = .ok (.iconst 4, 1) := dk_7 (dk_at dksX21_takes_11 14 rfl rfl)
theorem dX21_takes_276 : decode cX21_takes 276 = .ok (.invokestatic 163, 3) := dk_184 0 163 (dk_at dksX21_takes_11 15 rfl rfl)
theorem dX21_takes_279 : decode cX21_takes 279 = .ok (.aload_n 1, 1) := dk_43 (dk_at dksX21_takes_11 18 rfl rfl)
theorem dX21_takes_280 : decode cX21_takes 280 = .ok (.getfield 73, 3) := dk_180 0 73 (dk_at dksX21_takes_11 19 rfl rfl)
theorem dX21_takes_283 : decode cX21_takes 283 = .ok (.iconst 0, 1) := dk_3 (dk_at dksX21_takes_11 22 rfl rfl)
theorem dX21_takes_284 : decode cX21_takes 284 = .ok (.aload_n 0, 1) := dk_42 (dk_at dksX21_takes_11 23 rfl rfl)
theorem dX21_takes_285 : decode cX21_takes 285 = .ok (.getfield 73, 3) := dk_180 0 73 (dk_at dksX21_takes_12 0 rfl rfl)
theorem dX21_takes_288 : decode cX21_takes 288 = .ok (.iconst 0, 1) := dk_3 (dk_at dksX21_takes_12 3 rfl rfl)
theorem dX21_takes_289 : decode cX21_takes 289 = .ok (.aload_n 0, 1) := dk_42 (dk_at dksX21_takes_12 4 rfl rfl)
theorem dX21_takes_290 : decode cX21_takes 290 = .ok (.getfield 73, 3) := dk_180 0 73 (dk_at dksX21_takes_12 5 rfl rfl)
theorem dX21_takes_293 : decode cX21_takes 293 = .ok (.arraylength, 1) := dk_190 (dk_at dksX21_takes_12 8 rfl rfl)
theorem dX21_takes_294 : decode cX21_takes 294 = .ok (.invokestatic 163, 3) := dk_184 0 163 (dk_at dksX21_takes_12 9 rfl rfl)
theorem dX21_takes_297 : decode cX21_takes 297 = .ok (.aload_n 1, 1) := dk_43 (dk_at dksX21_takes_12 12 rfl rfl)
theorem dX21_takes_298 : decode cX21_takes 298 = .ok (.getfield 76, 3) := dk_180 0 76 (dk_at dksX21_takes_12 13 rfl rfl)
theorem dX21_takes_301 : decode cX21_takes 301 = .ok (.iconst 0, 1) := dk_3 (dk_at dksX21_takes_12 16 rfl rfl)
theorem dX21_takes_302 : decode cX21_takes 302 = .ok (.aload_n 0, 1) := dk_42 (dk_at dksX21_takes_12 17 rfl rfl)
theorem dX21_takes_303 : decode cX21_takes 303 = .ok (.getfield 76, 3) := dk_180 0 76 (dk_at dksX21_takes_12 18 rfl rfl)
theorem dX21_takes_306 : decode cX21_takes 306 = .ok (.iconst 0, 1) := dk_3 (dk_at dksX21_takes_12 21 rfl rfl)
theorem dX21_takes_307 : decode cX21_takes 307 = .ok (.iconst 4, 1) := dk_7 (dk_at dksX21_takes_12 22 rfl rfl)
theorem dX21_takes_308 : decode cX21_takes 308 = .ok (.invokestatic 163, 3) := dk_184 0 163 (dk_at dksX21_takes_13 0 rfl rfl)
theorem dX21_takes_311 : decode cX21_takes 311 = .ok (.aload_n 0, 1) := dk_42 (dk_at dksX21_takes_13 3 rfl rfl)
theorem dX21_takes_312 : decode cX21_takes 312 = .ok (.aload_n 1, 1) := dk_43 (dk_at dksX21_takes_13 4 rfl rfl)
theorem dX21_takes_313 : decode cX21_takes 313 = .ok (.getfield 142, 3) := dk_180 0 142 (dk_at dksX21_takes_13 5 rfl rfl)
theorem dX21_takes_316 : decode cX21_takes 316 = .ok (.putfield 142, 3) := dk_181 0 142 (dk_at dksX21_takes_13 8 rfl rfl)
theorem dX21_takes_319 : decode cX21_takes 319 = .ok (.aload_n 0, 1) := dk_42 (dk_at dksX21_takes_13 11 rfl rfl)
theorem dX21_takes_320 : decode cX21_takes 320 = .ok (.aload_n 1, 1) := dk_43 (dk_at dksX21_takes_13 12 rfl rfl)
theorem dX21_takes_321 : decode cX21_takes 321 = .ok (.getfield 169, 3) := dk_180 0 169 (dk_at dksX21_takes_13 13 rfl rfl)
theorem dX21_takes_324 : decode cX21_takes 324 = .ok (.putfield 169, 3) := dk_181 0 169 (dk_at dksX21_takes_13 16 rfl rfl)
theorem dX21_takes_327 : decode cX21_takes 327 = .ok (.aload_n 0, 1) := dk_42 (dk_at dksX21_takes_13 19 rfl rfl)
theorem dX21_takes_328 : decode cX21_takes 328 = .ok (.aload_n 1, 1) := dk_43 (dk_at dksX21_takes_13 20 rfl rfl)
theorem dX21_takes_329 : decode cX21_takes 329 = .ok (.getfield 172, 3) := dk_180 0 172 (dk_at dksX21_takes_13 21 rfl rfl)
theorem dX21_takes_332 : decode cX21_takes 332 = .ok (.putfield 172, 3) := dk_181 0 172 (dk_at dksX21_takes_14 0 rfl rfl)
theorem dX21_takes_335 : decode cX21_takes 335 = .ok (.aload_n 0, 1) := dk_42 (dk_at dksX21_takes_14 3 rfl rfl)
theorem dX21_takes_336 : decode cX21_takes 336 = .ok (.aload_n 1, 1) := dk_43 (dk_at dksX21_takes_14 4 rfl rfl)
theorem dX21_takes_337 : decode cX21_takes 337 = .ok (.getfield 101, 3) := dk_180 0 101 (dk_at dksX21_takes_14 5 rfl rfl)
theorem dX21_takes_340 : decode cX21_takes 340 = .ok (.putfield 101, 3) := dk_181 0 101 (dk_at dksX21_takes_14 8 rfl rfl)
theorem dX21_takes_343 : decode cX21_takes 343 = .ok (.return_, 1) := dk_177 (dk_at dksX21_takes_14 11 rfl rfl)
abbrev cX21_doesNow : ByteArray := prog_3_method_18_code
def yX21_doesNow : MethodName := ⟨RX21, "doesNow", "(I)I"⟩
def dkwX21_doesNow_1 : List UInt8 := [167, 0, 9, 42, 180, 0, 9, 27, 46, 172]
abbrev dktX21_doesNow_1 : List UInt8 := dkwX21_doesNow_1 ++ []
def dkwX21_doesNow_0 : List UInt8 := [42, 180, 0, 9, 27, 46, 5, 160, 0, 20, 42, 180, 0, 33, 27, 46, 42, 180, 0, 169, 163, 0, 7, 6]
abbrev dktX21_doesNow_0 : List UInt8 := dkwX21_doesNow_0 ++ dktX21_doesNow_1
theorem dksX21_doesNow_0 : cX21_doesNow.data.toList.drop 0 = dktX21_doesNow_0 := by decide +kernel
theorem dksX21_doesNow_1 : cX21_doesNow.data.toList.drop 24 = dktX21_doesNow_1 := dk_seg dksX21_doesNow_0 24 rfl rfl
theorem dX21_doesNow_0 : decode cX21_doesNow 0 = .ok (.aload_n 0, 1) := dk_42 (dk_at dksX21_doesNow_0 0 rfl rfl)
theorem dX21_doesNow_1 : decode cX21_doesNow 1 = .ok (.getfield 9, 3) := dk_180 0 9 (dk_at dksX21_doesNow_0 1 rfl rfl)
theorem dX21_doesNow_4 : decode cX21_doesNow 4 = .ok (.iload_n 1, 1) := dk_27 (dk_at dksX21_doesNow_0 4 rfl rfl)
theorem dX21_doesNow_5 : decode cX21_doesNow 5 = .ok (.iaload, 1) := dk_46 (dk_at dksX21_doesNow_0 5 rfl rfl)
theorem dX21_doesNow_6 : decode cX21_doesNow 6 = .ok (.iconst 2, 1) := dk_5 (dk_at dksX21_doesNow_0 6 rfl rfl)
theorem dX21_doesNow_7 : decode cX21_doesNow 7 = .ok (.if_icmp .ne 20, 3) := dk_160 0 20 (dk_at dksX21_doesNow_0 7 rfl rfl)
theorem dX21_doesNow_10 : decode cX21_doesNow 10 = .ok (.aload_n 0, 1) := dk_42 (dk_at dksX21_doesNow_0 10 rfl rfl)
theorem dX21_doesNow_11 : decode cX21_doesNow 11 = .ok (.getfield 33, 3) := dk_180 0 33 (dk_at dksX21_doesNow_0 11 rfl rfl)
theorem dX21_doesNow_14 : decode cX21_doesNow 14 = .ok (.iload_n 1, 1) := dk_27 (dk_at dksX21_doesNow_0 14 rfl rfl)
theorem dX21_doesNow_15 : decode cX21_doesNow 15 = .ok (.iaload, 1) := dk_46 (dk_at dksX21_doesNow_0 15 rfl rfl)
theorem dX21_doesNow_16 : decode cX21_doesNow 16 = .ok (.aload_n 0, 1) := dk_42 (dk_at dksX21_doesNow_0 16 rfl rfl)
theorem dX21_doesNow_17 : decode cX21_doesNow 17 = .ok (.getfield 169, 3) := dk_180 0 169 (dk_at dksX21_doesNow_0 17 rfl rfl)
theorem dX21_doesNow_20 : decode cX21_doesNow 20 = .ok (.if_icmp .gt 7, 3) := dk_163 0 7 (dk_at dksX21_doesNow_0 20 rfl rfl)
theorem dX21_doesNow_23 : decode cX21_doesNow 23 = .ok (.iconst 3, 1) := dk_6 (dk_at dksX21_doesNow_0 23 rfl rfl)
theorem dX21_doesNow_24 : decode cX21_doesNow 24 = .ok (.goto 9, 3) := dk_167 0 9 (dk_at dksX21_doesNow_1 0 rfl rfl)
theorem dX21_doesNow_27 : decode cX21_doesNow 27 = .ok (.aload_n 0, 1) := dk_42 (dk_at dksX21_doesNow_1 3 rfl rfl)
theorem dX21_doesNow_28 : decode cX21_doesNow 28 = .ok (.getfield 9, 3) := dk_180 0 9 (dk_at dksX21_doesNow_1 4 rfl rfl)
theorem dX21_doesNow_31 : decode cX21_doesNow 31 = .ok (.iload_n 1, 1) := dk_27 (dk_at dksX21_doesNow_1 7 rfl rfl)
theorem dX21_doesNow_32 : decode cX21_doesNow 32 = .ok (.iaload, 1) := dk_46 (dk_at dksX21_doesNow_1 8 rfl rfl)
theorem dX21_doesNow_33 : decode cX21_doesNow 33 = .ok (.ireturn, 1) := dk_172 (dk_at dksX21_doesNow_1 9 rfl rfl)
abbrev cX21_busyHands : ByteArray := prog_3_method_10_code
def yX21_busyHands : MethodName := ⟨RX21, "busyHands", "(I)I"⟩
def dkwX21_busyHands_1 : List UInt8 := [46, 42, 180, 0, 169, 164, 0, 7, 4, 167, 0, 4, 3, 96, 61, 132, 3, 1, 167, 255, 218, 28, 172]
abbrev dktX21_busyHands_1 : List UInt8 := dkwX21_busyHands_1 ++ []
def dkwX21_busyHands_0 : List UInt8 := [3, 61, 3, 62, 29, 42, 180, 0, 70, 27, 46, 162, 0, 34, 28, 42, 180, 0, 73, 5, 27, 104, 29, 96]
abbrev dktX21_busyHands_0 : List UInt8 := dkwX21_busyHands_0 ++ dktX21_busyHands_1
theorem dksX21_busyHands_0 : cX21_busyHands.data.toList.drop 0 = dktX21_busyHands_0 := by decide +kernel
theorem dksX21_busyHands_1 : cX21_busyHands.data.toList.drop 24 = dktX21_busyHands_1 := dk_seg dksX21_busyHands_0 24 rfl rfl
theorem dX21_busyHands_0 : decode cX21_busyHands 0 = .ok (.iconst 0, 1) := dk_3 (dk_at dksX21_busyHands_0 0 rfl rfl)
theorem dX21_busyHands_1 : decode cX21_busyHands 1 = .ok (.istore_n 2, 1) := dk_61 (dk_at dksX21_busyHands_0 1 rfl rfl)
theorem dX21_busyHands_2 : decode cX21_busyHands 2 = .ok (.iconst 0, 1) := dk_3 (dk_at dksX21_busyHands_0 2 rfl rfl)
theorem dX21_busyHands_3 : decode cX21_busyHands 3 = .ok (.istore_n 3, 1) := dk_62 (dk_at dksX21_busyHands_0 3 rfl rfl)
theorem dX21_busyHands_4 : decode cX21_busyHands 4 = .ok (.iload_n 3, 1) := dk_29 (dk_at dksX21_busyHands_0 4 rfl rfl)
theorem dX21_busyHands_5 : decode cX21_busyHands 5 = .ok (.aload_n 0, 1) := dk_42 (dk_at dksX21_busyHands_0 5 rfl rfl)
theorem dX21_busyHands_6 : decode cX21_busyHands 6 = .ok (.getfield 70, 3) := dk_180 0 70 (dk_at dksX21_busyHands_0 6 rfl rfl)
theorem dX21_busyHands_9 : decode cX21_busyHands 9 = .ok (.iload_n 1, 1) := dk_27 (dk_at dksX21_busyHands_0 9 rfl rfl)
theorem dX21_busyHands_10 : decode cX21_busyHands 10 = .ok (.iaload, 1) := dk_46 (dk_at dksX21_busyHands_0 10 rfl rfl)
theorem dX21_busyHands_11 : decode cX21_busyHands 11 = .ok (.if_icmp .ge 34, 3) := dk_162 0 34 (dk_at dksX21_busyHands_0 11 rfl rfl)
theorem dX21_busyHands_14 : decode cX21_busyHands 14 = .ok (.iload_n 2, 1) := dk_28 (dk_at dksX21_busyHands_0 14 rfl rfl)
theorem dX21_busyHands_15 : decode cX21_busyHands 15 = .ok (.aload_n 0, 1) := dk_42 (dk_at dksX21_busyHands_0 15 rfl rfl)
theorem dX21_busyHands_16 : decode cX21_busyHands 16 = .ok (.getfield 73, 3) := dk_180 0 73 (dk_at dksX21_busyHands_0 16 rfl rfl)
theorem dX21_busyHands_19 : decode cX21_busyHands 19 = .ok (.iconst 2, 1) := dk_5 (dk_at dksX21_busyHands_0 19 rfl rfl)
theorem dX21_busyHands_20 : decode cX21_busyHands 20 = .ok (.iload_n 1, 1) := dk_27 (dk_at dksX21_busyHands_0 20 rfl rfl)
theorem dX21_busyHands_21 : decode cX21_busyHands 21 = .ok (.imul, 1) := dk_104 (dk_at dksX21_busyHands_0 21 rfl rfl)
theorem dX21_busyHands_22 : decode cX21_busyHands 22 = .ok (.iload_n 3, 1) := dk_29 (dk_at dksX21_busyHands_0 22 rfl rfl)
theorem dX21_busyHands_23 : decode cX21_busyHands 23 = .ok (.iadd, 1) := dk_96 (dk_at dksX21_busyHands_0 23 rfl rfl)
theorem dX21_busyHands_24 : decode cX21_busyHands 24 = .ok (.iaload, 1) := dk_46 (dk_at dksX21_busyHands_1 0 rfl rfl)
theorem dX21_busyHands_25 : decode cX21_busyHands 25 = .ok (.aload_n 0, 1) := dk_42 (dk_at dksX21_busyHands_1 1 rfl rfl)
theorem dX21_busyHands_26 : decode cX21_busyHands 26 = .ok (.getfield 169, 3) := dk_180 0 169 (dk_at dksX21_busyHands_1 2 rfl rfl)
theorem dX21_busyHands_29 : decode cX21_busyHands 29 = .ok (.if_icmp .le 7, 3) := dk_164 0 7 (dk_at dksX21_busyHands_1 5 rfl rfl)
theorem dX21_busyHands_32 : decode cX21_busyHands 32 = .ok (.iconst 1, 1) := dk_4 (dk_at dksX21_busyHands_1 8 rfl rfl)
theorem dX21_busyHands_33 : decode cX21_busyHands 33 = .ok (.goto 4, 3) := dk_167 0 4 (dk_at dksX21_busyHands_1 9 rfl rfl)
theorem dX21_busyHands_36 : decode cX21_busyHands 36 = .ok (.iconst 0, 1) := dk_3 (dk_at dksX21_busyHands_1 12 rfl rfl)
theorem dX21_busyHands_37 : decode cX21_busyHands 37 = .ok (.iadd, 1) := dk_96 (dk_at dksX21_busyHands_1 13 rfl rfl)
theorem dX21_busyHands_38 : decode cX21_busyHands 38 = .ok (.istore_n 2, 1) := dk_61 (dk_at dksX21_busyHands_1 14 rfl rfl)
theorem dX21_busyHands_39 : decode cX21_busyHands 39 = .ok (.iinc 3 1, 3) := dk_132 3 1 (dk_at dksX21_busyHands_1 15 rfl rfl)
theorem dX21_busyHands_42 : decode cX21_busyHands 42 = .ok (.goto (-38), 3) := dk_167 255 218 (dk_at dksX21_busyHands_1 18 rfl rfl)
theorem dX21_busyHands_45 : decode cX21_busyHands 45 = .ok (.iload_n 2, 1) := dk_28 (dk_at dksX21_busyHands_1 21 rfl rfl)
theorem dX21_busyHands_46 : decode cX21_busyHands 46 = .ok (.ireturn, 1) := dk_172 (dk_at dksX21_busyHands_1 22 rfl rfl)
abbrev cX21_firstFree : ByteArray := prog_3_method_11_code
def yX21_firstFree : MethodName := ⟨RX21, "firstFree", "(I)I"⟩
def dkwX21_firstFree_2 : List UInt8 := [184, 0, 199, 172]
abbrev dktX21_firstFree_2 : List UInt8 := dkwX21_firstFree_2 ++ []
def dkwX21_firstFree_1 : List UInt8 := [180, 0, 73, 5, 27, 104, 29, 96, 46, 184, 0, 193, 61, 132, 3, 1, 167, 255, 228, 42, 180, 0, 169, 28]
abbrev dktX21_firstFree_1 : List UInt8 := dkwX21_firstFree_1 ++ dktX21_firstFree_2
def dkwX21_firstFree_0 : List UInt8 := [42, 180, 0, 73, 5, 27, 104, 46, 61, 4, 62, 29, 42, 180, 0, 70, 27, 46, 162, 0, 24, 28, 42]
abbrev dktX21_firstFree_0 : List UInt8 := dkwX21_firstFree_0 ++ dktX21_firstFree_1
theorem dksX21_firstFree_0 : cX21_firstFree.data.toList.drop 0 = dktX21_firstFree_0 := by decide +kernel
theorem dksX21_firstFree_1 : cX21_firstFree.data.toList.drop 23 = dktX21_firstFree_1 := dk_seg dksX21_firstFree_0 23 rfl rfl
theorem dksX21_firstFree_2 : cX21_firstFree.data.toList.drop 47 = dktX21_firstFree_2 := dk_seg dksX21_firstFree_1 24 rfl rfl
theorem dX21_firstFree_0 : decode cX21_firstFree 0 = .ok (.aload_n 0, 1) := dk_42 (dk_at dksX21_firstFree_0 0 rfl rfl)
theorem dX21_firstFree_1 : decode cX21_firstFree 1 = .ok (.getfield 73, 3) := dk_180 0 73 (dk_at dksX21_firstFree_0 1 rfl rfl)
theorem dX21_firstFree_4 : decode cX21_firstFree 4 = .ok (.iconst 2, 1) := dk_5 (dk_at dksX21_firstFree_0 4 rfl rfl)
theorem dX21_firstFree_5 : decode cX21_firstFree 5 = .ok (.iload_n 1, 1) := dk_27 (dk_at dksX21_firstFree_0 5 rfl rfl)
theorem dX21_firstFree_6 : decode cX21_firstFree 6 = .ok (.imul, 1) := dk_104 (dk_at dksX21_firstFree_0 6 rfl rfl)
theorem dX21_firstFree_7 : decode cX21_firstFree 7 = .ok (.iaload, 1) := dk_46 (dk_at dksX21_firstFree_0 7 rfl rfl)
theorem dX21_firstFree_8 : decode cX21_firstFree 8 = .ok (.istore_n 2, 1) := dk_61 (dk_at dksX21_firstFree_0 8 rfl rfl)
theorem dX21_firstFree_9 : decode cX21_firstFree 9 = .ok (.iconst 1, 1) := dk_4 (dk_at dksX21_firstFree_0 9 rfl rfl)
theorem dX21_firstFree_10 : decode cX21_firstFree 10 = .ok (.istore_n 3, 1) := dk_62 (dk_at dksX21_firstFree_0 10 rfl rfl)
theorem dX21_firstFree_11 : decode cX21_firstFree 11 = .ok (.iload_n 3, 1) := dk_29 (dk_at dksX21_firstFree_0 11 rfl rfl)
theorem dX21_firstFree_12 : decode cX21_firstFree 12 = .ok (.aload_n 0, 1) := dk_42 (dk_at dksX21_firstFree_0 12 rfl rfl)
theorem dX21_firstFree_13 : decode cX21_firstFree 13 = .ok (.getfield 70, 3) := dk_180 0 70 (dk_at dksX21_firstFree_0 13 rfl rfl)
theorem dX21_firstFree_16 : decode cX21_firstFree 16 = .ok (.iload_n 1, 1) := dk_27 (dk_at dksX21_firstFree_0 16 rfl rfl)
theorem dX21_firstFree_17 : decode cX21_firstFree 17 = .ok (.iaload, 1) := dk_46 (dk_at dksX21_firstFree_0 17 rfl rfl)
theorem dX21_firstFree_18 : decode cX21_firstFree 18 = .ok (.if_icmp .ge 24, 3) := dk_162 0 24 (dk_at dksX21_firstFree_0 18 rfl rfl)
theorem dX21_firstFree_21 : decode cX21_firstFree 21 = .ok (.iload_n 2, 1) := dk_28 (dk_at dksX21_firstFree_0 21 rfl rfl)
theorem dX21_firstFree_22 : decode cX21_firstFree 22 = .ok (.aload_n 0, 1) := dk_42 (dk_at dksX21_firstFree_0 22 rfl rfl)
theorem dX21_firstFree_23 : decode cX21_firstFree 23 = .ok (.getfield 73, 3) := dk_180 0 73 (dk_at dksX21_firstFree_1 0 rfl rfl)
theorem dX21_firstFree_26 : decode cX21_firstFree 26 = .ok (.iconst 2, 1) := dk_5 (dk_at dksX21_firstFree_1 3 rfl rfl)
theorem dX21_firstFree_27 : decode cX21_firstFree 27 = .ok (.iload_n 1, 1) := dk_27 (dk_at dksX21_firstFree_1 4 rfl rfl)
theorem dX21_firstFree_28 : decode cX21_firstFree 28 = .ok (.imul, 1) := dk_104 (dk_at dksX21_firstFree_1 5 rfl rfl)
theorem dX21_firstFree_29 : decode cX21_firstFree 29 = .ok (.iload_n 3, 1) := dk_29 (dk_at dksX21_firstFree_1 6 rfl rfl)
theorem dX21_firstFree_30 : decode cX21_firstFree 30 = .ok (.iadd, 1) := dk_96 (dk_at dksX21_firstFree_1 7 rfl rfl)
theorem dX21_firstFree_31 : decode cX21_firstFree 31 = .ok (.iaload, 1) := dk_46 (dk_at dksX21_firstFree_1 8 rfl rfl)
theorem dX21_firstFree_32 : decode cX21_firstFree 32 = .ok (.invokestatic 193, 3) := dk_184 0 193 (dk_at dksX21_firstFree_1 9 rfl rfl)
theorem dX21_firstFree_35 : decode cX21_firstFree 35 = .ok (.istore_n 2, 1) := dk_61 (dk_at dksX21_firstFree_1 12 rfl rfl)
theorem dX21_firstFree_36 : decode cX21_firstFree 36 = .ok (.iinc 3 1, 3) := dk_132 3 1 (dk_at dksX21_firstFree_1 13 rfl rfl)
theorem dX21_firstFree_39 : decode cX21_firstFree 39 = .ok (.goto (-28), 3) := dk_167 255 228 (dk_at dksX21_firstFree_1 16 rfl rfl)
theorem dX21_firstFree_42 : decode cX21_firstFree 42 = .ok (.aload_n 0, 1) := dk_42 (dk_at dksX21_firstFree_1 19 rfl rfl)
theorem dX21_firstFree_43 : decode cX21_firstFree 43 = .ok (.getfield 169, 3) := dk_180 0 169 (dk_at dksX21_firstFree_1 20 rfl rfl)
theorem dX21_firstFree_46 : decode cX21_firstFree 46 = .ok (.iload_n 2, 1) := dk_28 (dk_at dksX21_firstFree_1 23 rfl rfl)
theorem dX21_firstFree_47 : decode cX21_firstFree 47 = .ok (.invokestatic 199, 3) := dk_184 0 199 (dk_at dksX21_firstFree_2 0 rfl rfl)
theorem dX21_firstFree_50 : decode cX21_firstFree 50 = .ok (.ireturn, 1) := dk_172 (dk_at dksX21_firstFree_2 3 rfl rfl)
abbrev cX21_next : ByteArray := prog_3_method_7_code
def yX21_next : MethodName := ⟨RX21, "next", "(I)I"⟩
def dkwX21_next_2 : List UInt8 := [29, 61, 132, 3, 1, 167, 255, 208, 28, 172]
abbrev dktX21_next_2 : List UInt8 := dkwX21_next_2 ++ []
def dkwX21_next_1 : List UInt8 := [27, 29, 182, 0, 179, 153, 0, 21, 28, 16, 254, 159, 0, 13, 42, 27, 29, 28, 182, 0, 183, 153, 0, 5]
abbrev dktX21_next_1 : List UInt8 := dkwX21_next_1 ++ dktX21_next_2
def dkwX21_next_0 : List UInt8 := [16, 254, 61, 3, 62, 29, 42, 180, 0, 95, 162, 0, 46, 42, 180, 0, 9, 29, 46, 4, 160, 0, 30, 42]
abbrev dktX21_next_0 : List UInt8 := dkwX21_next_0 ++ dktX21_next_1
theorem dksX21_next_0 : cX21_next.data.toList.drop 0 = dktX21_next_0 := by decide +kernel
theorem dksX21_next_1 : cX21_next.data.toList.drop 24 = dktX21_next_1 := dk_seg dksX21_next_0 24 rfl rfl
theorem dksX21_next_2 : cX21_next.data.toList.drop 48 = dktX21_next_2 := dk_seg dksX21_next_1 24 rfl rfl
theorem dX21_next_0 : decode cX21_next 0 = .ok (.bipush (-2), 2) := dk_16 254 (dk_at dksX21_next_0 0 rfl rfl)
theorem dX21_next_2 : decode cX21_next 2 = .ok (.istore_n 2, 1) := dk_61 (dk_at dksX21_next_0 2 rfl rfl)
theorem dX21_next_3 : decode cX21_next 3 = .ok (.iconst 0, 1) := dk_3 (dk_at dksX21_next_0 3 rfl rfl)
theorem dX21_next_4 : decode cX21_next 4 = .ok (.istore_n 3, 1) := dk_62 (dk_at dksX21_next_0 4 rfl rfl)
theorem dX21_next_5 : decode cX21_next 5 = .ok (.iload_n 3, 1) := dk_29 (dk_at dksX21_next_0 5 rfl rfl)
theorem dX21_next_6 : decode cX21_next 6 = .ok (.aload_n 0, 1) := dk_42 (dk_at dksX21_next_0 6 rfl rfl)
theorem dX21_next_7 : decode cX21_next 7 = .ok (.getfield 95, 3) := dk_180 0 95 (dk_at dksX21_next_0 7 rfl rfl)
theorem dX21_next_10 : decode cX21_next 10 = .ok (.if_icmp .ge 46, 3) := dk_162 0 46 (dk_at dksX21_next_0 10 rfl rfl)
theorem dX21_next_13 : decode cX21_next 13 = .ok (.aload_n 0, 1) := dk_42 (dk_at dksX21_next_0 13 rfl rfl)
theorem dX21_next_14 : decode cX21_next 14 = .ok (.getfield 9, 3) := dk_180 0 9 (dk_at dksX21_next_0 14 rfl rfl)
theorem dX21_next_17 : decode cX21_next 17 = .ok (.iload_n 3, 1) := dk_29 (dk_at dksX21_next_0 17 rfl rfl)
theorem dX21_next_18 : decode cX21_next 18 = .ok (.iaload, 1) := dk_46 (dk_at dksX21_next_0 18 rfl rfl)
theorem dX21_next_19 : decode cX21_next 19 = .ok (.iconst 1, 1) := dk_4 (dk_at dksX21_next_0 19 rfl rfl)
theorem dX21_next_20 : decode cX21_next 20 = .ok (.if_icmp .ne 30, 3) := dk_160 0 30 (dk_at dksX21_next_0 20 rfl rfl)
theorem dX21_next_23 : decode cX21_next 23 = .ok (.aload_n 0, 1) := dk_42 (dk_at dksX21_next_0 23 rfl rfl)
theorem dX21_next_24 : decode cX21_next 24 = .ok (.iload_n 1, 1) := dk_27 (dk_at dksX21_next_1 0 rfl rfl)
theorem dX21_next_25 : decode cX21_next 25 = .ok (.iload_n 3, 1) := dk_29 (dk_at dksX21_next_1 1 rfl rfl)
theorem dX21_next_26 : decode cX21_next 26 = .ok (.invokevirtual 179, 3) := dk_182 0 179 (dk_at dksX21_next_1 2 rfl rfl)
theorem dX21_next_29 : decode cX21_next 29 = .ok (.ifCond .eq 21, 3) := dk_153 0 21 (dk_at dksX21_next_1 5 rfl rfl)
theorem dX21_next_32 : decode cX21_next 32 = .ok (.iload_n 2, 1) := dk_28 (dk_at dksX21_next_1 8 rfl rfl)
theorem dX21_next_33 : decode cX21_next 33 = .ok (.bipush (-2), 2) := dk_16 254 (dk_at dksX21_next_1 9 rfl rfl)
theorem dX21_next_35 : decode cX21_next 35 = .ok (.if_icmp .eq 13, 3) := dk_159 0 13 (dk_at dksX21_next_1 11 rfl rfl)
theorem dX21_next_38 : decode cX21_next 38 = .ok (.aload_n 0, 1) := dk_42 (dk_at dksX21_next_1 14 rfl rfl)
theorem dX21_next_39 : decode cX21_next 39 = .ok (.iload_n 1, 1) := dk_27 (dk_at dksX21_next_1 15 rfl rfl)
theorem dX21_next_40 : decode cX21_next 40 = .ok (.iload_n 3, 1) := dk_29 (dk_at dksX21_next_1 16 rfl rfl)
theorem dX21_next_41 : decode cX21_next 41 = .ok (.iload_n 2, 1) := dk_28 (dk_at dksX21_next_1 17 rfl rfl)
theorem dX21_next_42 : decode cX21_next 42 = .ok (.invokevirtual 183, 3) := dk_182 0 183 (dk_at dksX21_next_1 18 rfl rfl)
theorem dX21_next_45 : decode cX21_next 45 = .ok (.ifCond .eq 5, 3) := dk_153 0 5 (dk_at dksX21_next_1 21 rfl rfl)
theorem dX21_next_48 : decode cX21_next 48 = .ok (.iload_n 3, 1) := dk_29 (dk_at dksX21_next_2 0 rfl rfl)
theorem dX21_next_49 : decode cX21_next 49 = .ok (.istore_n 2, 1) := dk_61 (dk_at dksX21_next_2 1 rfl rfl)
theorem dX21_next_50 : decode cX21_next 50 = .ok (.iinc 3 1, 3) := dk_132 3 1 (dk_at dksX21_next_2 2 rfl rfl)
theorem dX21_next_53 : decode cX21_next 53 = .ok (.goto (-48), 3) := dk_167 255 208 (dk_at dksX21_next_2 5 rfl rfl)
theorem dX21_next_56 : decode cX21_next 56 = .ok (.iload_n 2, 1) := dk_28 (dk_at dksX21_next_2 8 rfl rfl)
theorem dX21_next_57 : decode cX21_next 57 = .ok (.ireturn, 1) := dk_172 (dk_at dksX21_next_2 9 rfl rfl)
abbrev cX21_isOnStretch : ByteArray := prog_3_method_6_code
def yX21_isOnStretch : MethodName := ⟨RX21, "isOnStretch", "(II)Z"⟩
def dkwX21_isOnStretch_0 : List UInt8 := [42, 180, 0, 15, 28, 46, 42, 180, 0, 61, 27, 46, 42, 180, 0, 64, 27, 46, 184, 0, 175, 172]
abbrev dktX21_isOnStretch_0 : List UInt8 := dkwX21_isOnStretch_0 ++ []
theorem dksX21_isOnStretch_0 : cX21_isOnStretch.data.toList.drop 0 = dktX21_isOnStretch_0 := by decide +kernel
theorem dX21_isOnStretch_0 : decode cX21_isOnStretch 0 = .ok (.aload_n 0, 1) := dk_42 (dk_at dksX21_isOnStretch_0 0 rfl rfl)
theorem dX21_isOnStretch_1 : decode cX21_isOnStretch 1 = .ok (.getfield 15, 3) := dk_180 0 15 (dk_at dksX21_isOnStretch_0 1 rfl rfl)
theorem dX21_isOnStretch_4 : decode cX21_isOnStretch 4 = .ok (.iload_n 2, 1) := dk_28 (dk_at dksX21_isOnStretch_0 4 rfl rfl)
theorem dX21_isOnStretch_5 : decode cX21_isOnStretch 5 = .ok (.iaload, 1) := dk_46 (dk_at dksX21_isOnStretch_0 5 rfl rfl)
theorem dX21_isOnStretch_6 : decode cX21_isOnStretch 6 = .ok (.aload_n 0, 1) := dk_42 (dk_at dksX21_isOnStretch_0 6 rfl rfl)
theorem dX21_isOnStretch_7 : decode cX21_isOnStretch 7 = .ok (.getfield 61, 3) := dk_180 0 61 (dk_at dksX21_isOnStretch_0 7 rfl rfl)
theorem dX21_isOnStretch_10 : decode cX21_isOnStretch 10 = .ok (.iload_n 1, 1) := dk_27 (dk_at dksX21_isOnStretch_0 10 rfl rfl)
theorem dX21_isOnStretch_11 : decode cX21_isOnStretch 11 = .ok (.iaload, 1) := dk_46 (dk_at dksX21_isOnStretch_0 11 rfl rfl)
theorem dX21_isOnStretch_12 : decode cX21_isOnStretch 12 = .ok (.aload_n 0, 1) := dk_42 (dk_at dksX21_isOnStretch_0 12 rfl rfl)
theorem dX21_isOnStretch_13 : decode cX21_isOnStretch 13 = .ok (.getfield 64, 3) := dk_180 0 64 (dk_at dksX21_isOnStretch_0 13 rfl rfl)
theorem dX21_isOnStretch_16 : decode cX21_isOnStretch 16 = .ok (.iload_n 1, 1) := dk_27 (dk_at dksX21_isOnStretch_0 16 rfl rfl)
theorem dX21_isOnStretch_17 : decode cX21_isOnStretch 17 = .ok (.iaload, 1) := dk_46 (dk_at dksX21_isOnStretch_0 17 rfl rfl)
theorem dX21_isOnStretch_18 : decode cX21_isOnStretch 18 = .ok (.invokestatic 175, 3) := dk_184 0 175 (dk_at dksX21_isOnStretch_0 18 rfl rfl)
theorem dX21_isOnStretch_21 : decode cX21_isOnStretch 21 = .ok (.ireturn, 1) := dk_172 (dk_at dksX21_isOnStretch_0 21 rfl rfl)
abbrev cX21_isSooner : ByteArray := prog_3_method_8_code
def yX21_isSooner : MethodName := ⟨RX21, "isSoone\x72", "(III)Z"⟩
def dkwX21_isSooner_2 : List UInt8 := [29, 182, 0, 190, 153, 0, 7, 4, 167, 0, 4, 3, 172]
abbrev dktX21_isSooner_2 : List UInt8 := dkwX21_isSooner_2 ++ []
def dkwX21_isSooner_1 : List UInt8 := [182, 0, 186, 54, 5, 21, 4, 21, 5, 161, 0, 22, 21, 4, 21, 5, 160, 0, 19, 42, 180, 0, 79, 28]
abbrev dktX21_isSooner_1 : List UInt8 := dkwX21_isSooner_1 ++ dktX21_isSooner_2
def dkwX21_isSooner_0 : List UInt8 := [42, 180, 0, 54, 27, 50, 42, 27, 28, 182, 0, 186, 54, 4, 42, 180, 0, 54, 27, 50, 42, 27, 29]
abbrev dktX21_isSooner_0 : List UInt8 := dkwX21_isSooner_0 ++ dktX21_isSooner_1
theorem dksX21_isSooner_0 : cX21_isSooner.data.toList.drop 0 = dktX21_isSooner_0 := by decide +kernel
theorem dksX21_isSooner_1 : cX21_isSooner.data.toList.drop 23 = dktX21_isSooner_1 := dk_seg dksX21_isSooner_0 23 rfl rfl
theorem dksX21_isSooner_2 : cX21_isSooner.data.toList.drop 47 = dktX21_isSooner_2 := dk_seg dksX21_isSooner_1 24 rfl rfl
theorem dX21_isSooner_0 : decode cX21_isSooner 0 = .ok (.aload_n 0, 1) := dk_42 (dk_at dksX21_isSooner_0 0 rfl rfl)
theorem dX21_isSooner_1 : decode cX21_isSooner 1 = .ok (.getfield 54, 3) := dk_180 0 54 (dk_at dksX21_isSooner_0 1 rfl rfl)
theorem dX21_isSooner_4 : decode cX21_isSooner 4 = .ok (.iload_n 1, 1) := dk_27 (dk_at dksX21_isSooner_0 4 rfl rfl)
theorem dX21_isSooner_5 : decode cX21_isSooner 5 = .ok (.aaload, 1) := dk_50 (dk_at dksX21_isSooner_0 5 rfl rfl)
theorem dX21_isSooner_6 : decode cX21_isSooner 6 = .ok (.aload_n 0, 1) := dk_42 (dk_at dksX21_isSooner_0 6 rfl rfl)
theorem dX21_isSooner_7 : decode cX21_isSooner 7 = .ok (.iload_n 1, 1) := dk_27 (dk_at dksX21_isSooner_0 7 rfl rfl)
theorem dX21_isSooner_8 : decode cX21_isSooner 8 = .ok (.iload_n 2, 1) := dk_28 (dk_at dksX21_isSooner_0 8 rfl rfl)
theorem dX21_isSooner_9 : decode cX21_isSooner 9 = .ok (.invokevirtual 186, 3) := dk_182 0 186 (dk_at dksX21_isSooner_0 9 rfl rfl)
theorem dX21_isSooner_12 : decode cX21_isSooner 12 = .ok (.istore 4, 2) := dk_54 4 (dk_at dksX21_isSooner_0 12 rfl rfl)
theorem dX21_isSooner_14 : decode cX21_isSooner 14 = .ok (.aload_n 0, 1) := dk_42 (dk_at dksX21_isSooner_0 14 rfl rfl)
theorem dX21_isSooner_15 : decode cX21_isSooner 15 = .ok (.getfield 54, 3) := dk_180 0 54 (dk_at dksX21_isSooner_0 15 rfl rfl)
theorem dX21_isSooner_18 : decode cX21_isSooner 18 = .ok (.iload_n 1, 1) := dk_27 (dk_at dksX21_isSooner_0 18 rfl rfl)
theorem dX21_isSooner_19 : decode cX21_isSooner 19 = .ok (.aaload, 1) := dk_50 (dk_at dksX21_isSooner_0 19 rfl rfl)
theorem dX21_isSooner_20 : decode cX21_isSooner 20 = .ok (.aload_n 0, 1) := dk_42 (dk_at dksX21_isSooner_0 20 rfl rfl)
theorem dX21_isSooner_21 : decode cX21_isSooner 21 = .ok (.iload_n 1, 1) := dk_27 (dk_at dksX21_isSooner_0 21 rfl rfl)
theorem dX21_isSooner_22 : decode cX21_isSooner 22 = .ok (.iload_n 3, 1) := dk_29 (dk_at dksX21_isSooner_0 22 rfl rfl)
theorem dX21_isSooner_23 : decode cX21_isSooner 23 = .ok (.invokevirtual 186, 3) := dk_182 0 186 (dk_at dksX21_isSooner_1 0 rfl rfl)
theorem dX21_isSooner_26 : decode cX21_isSooner 26 = .ok (.istore 5, 2) := dk_54 5 (dk_at dksX21_isSooner_1 3 rfl rfl)
theorem dX21_isSooner_28 : decode cX21_isSooner 28 = .ok (.iload 4, 2) := dk_21 4 (dk_at dksX21_isSooner_1 5 rfl rfl)
theorem dX21_isSooner_30 : decode cX21_isSooner 30 = .ok (.iload 5, 2) := dk_21 5 (dk_at dksX21_isSooner_1 7 rfl rfl)
theorem dX21_isSooner_32 : decode cX21_isSooner 32 = .ok (.if_icmp .lt 22, 3) := dk_161 0 22 (dk_at dksX21_isSooner_1 9 rfl rfl)
theorem dX21_isSooner_35 : decode cX21_isSooner 35 = .ok (.iload 4, 2) := dk_21 4 (dk_at dksX21_isSooner_1 12 rfl rfl)
theorem dX21_isSooner_37 : decode cX21_isSooner 37 = .ok (.iload 5, 2) := dk_21 5 (dk_at dksX21_isSooner_1 14 rfl rfl)
theorem dX21_isSooner_39 : decode cX21_isSooner 39 = .ok (.if_icmp .ne 19, 3) := dk_160 0 19 (dk_at dksX21_isSooner_1 16 rfl rfl)
theorem dX21_isSooner_42 : decode cX21_isSooner 42 = .ok (.aload_n 0, 1) := dk_42 (dk_at dksX21_isSooner_1 19 rfl rfl)
theorem dX21_isSooner_43 : decode cX21_isSooner 43 = .ok (.getfield 79, 3) := dk_180 0 79 (dk_at dksX21_isSooner_1 20 rfl rfl)
theorem dX21_isSooner_46 : decode cX21_isSooner 46 = .ok (.iload_n 2, 1) := dk_28 (dk_at dksX21_isSooner_1 23 rfl rfl)
theorem dX21_isSooner_47 : decode cX21_isSooner 47 = .ok (.iload_n 3, 1) := dk_29 (dk_at dksX21_isSooner_2 0 rfl rfl)
theorem dX21_isSooner_48 : decode cX21_isSooner 48 = .ok (.invokevirtual 190, 3) := dk_182 0 190 (dk_at dksX21_isSooner_2 1 rfl rfl)
theorem dX21_isSooner_51 : decode cX21_isSooner 51 = .ok (.ifCond .eq 7, 3) := dk_153 0 7 (dk_at dksX21_isSooner_2 4 rfl rfl)
theorem dX21_isSooner_54 : decode cX21_isSooner 54 = .ok (.iconst 1, 1) := dk_4 (dk_at dksX21_isSooner_2 7 rfl rfl)
theorem dX21_isSooner_55 : decode cX21_isSooner 55 = .ok (.goto 4, 3) := dk_167 0 4 (dk_at dksX21_isSooner_2 8 rfl rfl)
theorem dX21_isSooner_58 : decode cX21_isSooner 58 = .ok (.iconst 0, 1) := dk_3 (dk_at dksX21_isSooner_2 11 rfl rfl)
theorem dX21_isSooner_59 : decode cX21_isSooner 59 = .ok (.ireturn, 1) := dk_172 (dk_at dksX21_isSooner_2 12 rfl rfl)
abbrev cX21_time : ByteArray := prog_3_method_12_code
def yX21_time : MethodName := ⟨RX21, "time", "(II)I"⟩
def dkwX21_time_0 : List UInt8 := [42, 180, 0, 79, 28, 42, 180, 0, 76, 27, 46, 182, 0, 202, 172]
abbrev dktX21_time_0 : List UInt8 := dkwX21_time_0 ++ []
theorem dksX21_time_0 : cX21_time.data.toList.drop 0 = dktX21_time_0 := by decide +kernel
theorem dX21_time_0 : decode cX21_time 0 = .ok (.aload_n 0, 1) := dk_42 (dk_at dksX21_time_0 0 rfl rfl)
theorem dX21_time_1 : decode cX21_time 1 = .ok (.getfield 79, 3) := dk_180 0 79 (dk_at dksX21_time_0 1 rfl rfl)
theorem dX21_time_4 : decode cX21_time 4 = .ok (.iload_n 2, 1) := dk_28 (dk_at dksX21_time_0 4 rfl rfl)
theorem dX21_time_5 : decode cX21_time 5 = .ok (.aload_n 0, 1) := dk_42 (dk_at dksX21_time_0 5 rfl rfl)
theorem dX21_time_6 : decode cX21_time 6 = .ok (.getfield 76, 3) := dk_180 0 76 (dk_at dksX21_time_0 6 rfl rfl)
theorem dX21_time_9 : decode cX21_time 9 = .ok (.iload_n 1, 1) := dk_27 (dk_at dksX21_time_0 9 rfl rfl)
theorem dX21_time_10 : decode cX21_time 10 = .ok (.iaload, 1) := dk_46 (dk_at dksX21_time_0 10 rfl rfl)
theorem dX21_time_11 : decode cX21_time 11 = .ok (.invokevirtual 202, 3) := dk_182 0 202 (dk_at dksX21_time_0 11 rfl rfl)
theorem dX21_time_14 : decode cX21_time 14 = .ok (.ireturn, 1) := dk_172 (dk_at dksX21_time_0 14 rfl rfl)
abbrev cX21_evening : ByteArray := prog_3_method_17_code
def yX21_evening : MethodName := ⟨RX21, "evening", "()LNextAtBar$Bar;"⟩
def dkwX21_evening_0 : List UInt8 := [42, 180, 0, 169, 42, 180, 0, 101, 163, 0, 10, 42, 182, 0, 230, 167, 255, 241, 42, 176]
abbrev dktX21_evening_0 : List UInt8 := dkwX21_evening_0 ++ []
theorem dksX21_evening_0 : cX21_evening.data.toList.drop 0 = dktX21_evening_0 := by decide +kernel
theorem dX21_evening_0 : decode cX21_evening 0 = .ok (.aload_n 0, 1) := dk_42 (dk_at dksX21_evening_0 0 rfl rfl)
theorem dX21_evening_1 : decode cX21_evening 1 = .ok (.getfield 169, 3) := dk_180 0 169 (dk_at dksX21_evening_0 1 rfl rfl)
theorem dX21_evening_4 : decode cX21_evening 4 = .ok (.aload_n 0, 1) := dk_42 (dk_at dksX21_evening_0 4 rfl rfl)
theorem dX21_evening_5 : decode cX21_evening 5 = .ok (.getfield 101, 3) := dk_180 0 101 (dk_at dksX21_evening_0 5 rfl rfl)
theorem dX21_evening_8 : decode cX21_evening 8 = .ok (.if_icmp .gt 10, 3) := dk_163 0 10 (dk_at dksX21_evening_0 8 rfl rfl)
theorem dX21_evening_11 : decode cX21_evening 11 = .ok (.aload_n 0, 1) := dk_42 (dk_at dksX21_evening_0 11 rfl rfl)
theorem dX21_evening_12 : decode cX21_evening 12 = .ok (.invokevirtual 230, 3) := dk_182 0 230 (dk_at dksX21_evening_0 12 rfl rfl)
theorem dX21_evening_15 : decode cX21_evening 15 = .ok (.goto (-15), 3) := dk_167 255 241 (dk_at dksX21_evening_0 15 rfl rfl)
theorem dX21_evening_18 : decode cX21_evening 18 = .ok (.aload_n 0, 1) := dk_42 (dk_at dksX21_evening_0 18 rfl rfl)
theorem dX21_evening_19 : decode cX21_evening 19 = .ok (.areturn, 1) := dk_176 (dk_at dksX21_evening_0 19 rfl rfl)
abbrev cX21_goes : ByteArray := prog_3_method_15_code
def yX21_goes : MethodName := ⟨RX21, "goes", "()V"⟩
def dkwX21_goes_8 : List UInt8 := [132, 1, 1, 167, 255, 240, 42, 89, 180, 0, 169, 4, 96, 181, 0, 169, 177]
abbrev dktX21_goes_8 : List UInt8 := dkwX21_goes_8 ++ []
def dkwX21_goes_7 : List UInt8 := [182, 0, 209, 132, 1, 1, 167, 255, 141, 3, 60, 27, 42, 180, 0, 142, 162, 0, 14, 42, 27, 182, 0, 216]
abbrev dktX21_goes_7 : List UInt8 := dkwX21_goes_7 ++ dktX21_goes_8
def dkwX21_goes_6 : List UInt8 := [100, 42, 180, 0, 79, 180, 0, 83, 27, 182, 0, 102, 192, 0, 106, 180, 0, 213, 161, 0, 9, 42, 27, 7]
abbrev dktX21_goes_6 : List UInt8 := dkwX21_goes_6 ++ dktX21_goes_7
def dkwX21_goes_5 : List UInt8 := [167, 0, 51, 42, 180, 0, 169, 42, 180, 0, 79, 180, 0, 83, 27, 182, 0, 102, 192, 0, 106, 180, 0, 131]
abbrev dktX21_goes_5 : List UInt8 := dkwX21_goes_5 ++ dktX21_goes_6
def dkwX21_goes_4 : List UInt8 := [46, 42, 180, 0, 169, 163, 0, 22, 42, 27, 6, 182, 0, 209, 42, 180, 0, 33, 27, 42, 180, 0, 169, 79]
abbrev dktX21_goes_4 : List UInt8 := dkwX21_goes_4 ++ dktX21_goes_5
def dkwX21_goes_3 : List UInt8 := [46, 4, 159, 0, 6, 167, 0, 94, 42, 180, 0, 24, 27, 46, 16, 254, 159, 0, 35, 42, 180, 0, 24, 27]
abbrev dktX21_goes_3 : List UInt8 := dkwX21_goes_3 ++ dktX21_goes_4
def dkwX21_goes_2 : List UInt8 := [27, 4, 79, 132, 1, 1, 167, 255, 205, 3, 60, 27, 42, 180, 0, 95, 162, 0, 113, 42, 180, 0, 9, 27]
abbrev dktX21_goes_2 : List UInt8 := dkwX21_goes_2 ++ dktX21_goes_3
def dkwX21_goes_1 : List UInt8 := [180, 0, 83, 27, 182, 0, 102, 192, 0, 106, 180, 0, 131, 42, 180, 0, 169, 160, 0, 10, 42, 180, 0, 9]
abbrev dktX21_goes_1 : List UInt8 := dkwX21_goes_1 ++ dktX21_goes_2
def dkwX21_goes_0 : List UInt8 := [3, 60, 27, 42, 180, 0, 95, 162, 0, 49, 42, 180, 0, 9, 27, 46, 154, 0, 34, 42, 180, 0, 79]
abbrev dktX21_goes_0 : List UInt8 := dkwX21_goes_0 ++ dktX21_goes_1
theorem dksX21_goes_0 : cX21_goes.data.toList.drop 0 = dktX21_goes_0 := by decide +kernel
theorem dksX21_goes_1 : cX21_goes.data.toList.drop 23 = dktX21_goes_1 := dk_seg dksX21_goes_0 23 rfl rfl
theorem dksX21_goes_2 : cX21_goes.data.toList.drop 47 = dktX21_goes_2 := dk_seg dksX21_goes_1 24 rfl rfl
theorem dksX21_goes_3 : cX21_goes.data.toList.drop 71 = dktX21_goes_3 := dk_seg dksX21_goes_2 24 rfl rfl
theorem dksX21_goes_4 : cX21_goes.data.toList.drop 95 = dktX21_goes_4 := dk_seg dksX21_goes_3 24 rfl rfl
theorem dksX21_goes_5 : cX21_goes.data.toList.drop 119 = dktX21_goes_5 := dk_seg dksX21_goes_4 24 rfl rfl
theorem dksX21_goes_6 : cX21_goes.data.toList.drop 143 = dktX21_goes_6 := dk_seg dksX21_goes_5 24 rfl rfl
theorem dksX21_goes_7 : cX21_goes.data.toList.drop 167 = dktX21_goes_7 := dk_seg dksX21_goes_6 24 rfl rfl
theorem dksX21_goes_8 : cX21_goes.data.toList.drop 191 = dktX21_goes_8 := dk_seg dksX21_goes_7 24 rfl rfl
theorem dX21_goes_0 : decode cX21_goes 0 = .ok (.iconst 0, 1) := dk_3 (dk_at dksX21_goes_0 0 rfl rfl)
theorem dX21_goes_1 : decode cX21_goes 1 = .ok (.istore_n 1, 1) := dk_60 (dk_at dksX21_goes_0 1 rfl rfl)
theorem dX21_goes_2 : decode cX21_goes 2 = .ok (.iload_n 1, 1) := dk_27 (dk_at dksX21_goes_0 2 rfl rfl)
theorem dX21_goes_3 : decode cX21_goes 3 = .ok (.aload_n 0, 1) := dk_42 (dk_at dksX21_goes_0 3 rfl rfl)
theorem dX21_goes_4 : decode cX21_goes 4 = .ok (.getfield 95, 3) := dk_180 0 95 (dk_at dksX21_goes_0 4 rfl rfl)
theorem dX21_goes_7 : decode cX21_goes 7 = .ok (.if_icmp .ge 49, 3) := dk_162 0 49 (dk_at dksX21_goes_0 7 rfl rfl)
theorem dX21_goes_10 : decode cX21_goes 10 = .ok (.aload_n 0, 1) := dk_42 (dk_at dksX21_goes_0 10 rfl rfl)
theorem dX21_goes_11 : decode cX21_goes 11 = .ok (.getfield 9, 3) := dk_180 0 9 (dk_at dksX21_goes_0 11 rfl rfl)
theorem dX21_goes_14 : decode cX21_goes 14 = .ok (.iload_n 1, 1) := dk_27 (dk_at dksX21_goes_0 14 rfl rfl)
theorem dX21_goes_15 : decode cX21_goes 15 = .ok (.iaload, 1) := dk_46 (dk_at dksX21_goes_0 15 rfl rfl)
theorem dX21_goes_16 : decode cX21_goes 16 = .ok (.ifCond .ne 34, 3) := dk_154 0 34 (dk_at dksX21_goes_0 16 rfl rfl)
theorem dX21_goes_19 : decode cX21_goes 19 = .ok (.aload_n 0, 1) := dk_42 (dk_at dksX21_goes_0 19 rfl rfl)
theorem dX21_goes_20 : decode cX21_goes 20 = .ok (.getfield 79, 3) := dk_180 0 79 (dk_at dksX21_goes_0 20 rfl rfl)
theorem dX21_goes_23 : decode cX21_goes 23 = .ok (.getfield 83, 3) := dk_180 0 83 (dk_at dksX21_goes_1 0 rfl rfl)
theorem dX21_goes_26 : decode cX21_goes 26 = .ok (.iload_n 1, 1) := dk_27 (dk_at dksX21_goes_1 3 rfl rfl)
theorem dX21_goes_27 : decode cX21_goes 27 = .ok (.invokevirtual 102, 3) := dk_182 0 102 (dk_at dksX21_goes_1 4 rfl rfl)
theorem dX21_goes_30 : decode cX21_goes 30 = .ok (.checkcast 106, 3) := dk_192 0 106 (dk_at dksX21_goes_1 7 rfl rfl)
theorem dX21_goes_33 : decode cX21_goes 33 = .ok (.getfield 131, 3) := dk_180 0 131 (dk_at dksX21_goes_1 10 rfl rfl)
theorem dX21_goes_36 : decode cX21_goes 36 = .ok (.aload_n 0, 1) := dk_42 (dk_at dksX21_goes_1 13 rfl rfl)
theorem dX21_goes_37 : decode cX21_goes 37 = .ok (.getfield 169, 3) := dk_180 0 169 (dk_at dksX21_goes_1 14 rfl rfl)
theorem dX21_goes_40 : decode cX21_goes 40 = .ok (.if_icmp .ne 10, 3) := dk_160 0 10 (dk_at dksX21_goes_1 17 rfl rfl)
theorem dX21_goes_43 : decode cX21_goes 43 = .ok (.aload_n 0, 1) := dk_42 (dk_at dksX21_goes_1 20 rfl rfl)
theorem dX21_goes_44 : decode cX21_goes 44 = .ok (.getfield 9, 3) := dk_180 0 9 (dk_at dksX21_goes_1 21 rfl rfl)
theorem dX21_goes_47 : decode cX21_goes 47 = .ok (.iload_n 1, 1) := dk_27 (dk_at dksX21_goes_2 0 rfl rfl)
theorem dX21_goes_48 : decode cX21_goes 48 = .ok (.iconst 1, 1) := dk_4 (dk_at dksX21_goes_2 1 rfl rfl)
theorem dX21_goes_49 : decode cX21_goes 49 = .ok (.iastore, 1) := dk_79 (dk_at dksX21_goes_2 2 rfl rfl)
theorem dX21_goes_50 : decode cX21_goes 50 = .ok (.iinc 1 1, 3) := dk_132 1 1 (dk_at dksX21_goes_2 3 rfl rfl)
theorem dX21_goes_53 : decode cX21_goes 53 = .ok (.goto (-51), 3) := dk_167 255 205 (dk_at dksX21_goes_2 6 rfl rfl)
theorem dX21_goes_56 : decode cX21_goes 56 = .ok (.iconst 0, 1) := dk_3 (dk_at dksX21_goes_2 9 rfl rfl)
theorem dX21_goes_57 : decode cX21_goes 57 = .ok (.istore_n 1, 1) := dk_60 (dk_at dksX21_goes_2 10 rfl rfl)
theorem dX21_goes_58 : decode cX21_goes 58 = .ok (.iload_n 1, 1) := dk_27 (dk_at dksX21_goes_2 11 rfl rfl)
theorem dX21_goes_59 : decode cX21_goes 59 = .ok (.aload_n 0, 1) := dk_42 (dk_at dksX21_goes_2 12 rfl rfl)
theorem dX21_goes_60 : decode cX21_goes 60 = .ok (.getfield 95, 3) := dk_180 0 95 (dk_at dksX21_goes_2 13 rfl rfl)
theorem dX21_goes_63 : decode cX21_goes 63 = .ok (.if_icmp .ge 113, 3) := dk_162 0 113 (dk_at dksX21_goes_2 16 rfl rfl)
theorem dX21_goes_66 : decode cX21_goes 66 = .ok (.aload_n 0, 1) := dk_42 (dk_at dksX21_goes_2 19 rfl rfl)
theorem dX21_goes_67 : decode cX21_goes 67 = .ok (.getfield 9, 3) := dk_180 0 9 (dk_at dksX21_goes_2 20 rfl rfl)
theorem dX21_goes_70 : decode cX21_goes 70 = .ok (.iload_n 1, 1) := dk_27 (dk_at dksX21_goes_2 23 rfl rfl)
theorem dX21_goes_71 : decode cX21_goes 71 = .ok (.iaload, 1) := dk_46 (dk_at dksX21_goes_3 0 rfl rfl)
theorem dX21_goes_72 : decode cX21_goes 72 = .ok (.iconst 1, 1) := dk_4 (dk_at dksX21_goes_3 1 rfl rfl)
theorem dX21_goes_73 : decode cX21_goes 73 = .ok (.if_icmp .eq 6, 3) := dk_159 0 6 (dk_at dksX21_goes_3 2 rfl rfl)
theorem dX21_goes_76 : decode cX21_goes 76 = .ok (.goto 94, 3) := dk_167 0 94 (dk_at dksX21_goes_3 5 rfl rfl)
theorem dX21_goes_79 : decode cX21_goes 79 = .ok (.aload_n 0, 1) := dk_42 (dk_at dksX21_goes_3 8 rfl rfl)
theorem dX21_goes_80 : decode cX21_goes 80 = .ok (.getfield 24, 3) := dk_180 0 24 (dk_at dksX21_goes_3 9 rfl rfl)
theorem dX21_goes_83 : decode cX21_goes 83 = .ok (.iload_n 1, 1) := dk_27 (dk_at dksX21_goes_3 12 rfl rfl)
theorem dX21_goes_84 : decode cX21_goes 84 = .ok (.iaload, 1) := dk_46 (dk_at dksX21_goes_3 13 rfl rfl)
theorem dX21_goes_85 : decode cX21_goes 85 = .ok (.bipush (-2), 2) := dk_16 254 (dk_at dksX21_goes_3 14 rfl rfl)
theorem dX21_goes_87 : decode cX21_goes 87 = .ok (.if_icmp .eq 35, 3) := dk_159 0 35 (dk_at dksX21_goes_3 16 rfl rfl)
theorem dX21_goes_90 : decode cX21_goes 90 = .ok (.aload_n 0, 1) := dk_42 (dk_at dksX21_goes_3 19 rfl rfl)
theorem dX21_goes_91 : decode cX21_goes 91 = .ok (.getfield 24, 3) := dk_180 0 24 (dk_at dksX21_goes_3 20 rfl rfl)
theorem dX21_goes_94 : decode cX21_goes 94 = .ok (.iload_n 1, 1) := dk_27 (dk_at dksX21_goes_3 23 rfl rfl)
theorem dX21_goes_95 : decode cX21_goes 95 = .ok (.iaload, 1) := dk_46 (dk_at dksX21_goes_4 0 rfl rfl)
theorem dX21_goes_96 : decode cX21_goes 96 = .ok (.aload_n 0, 1) := dk_42 (dk_at dksX21_goes_4 1 rfl rfl)
theorem dX21_goes_97 : decode cX21_goes 97 = .ok (.getfield 169, 3) := dk_180 0 169 (dk_at dksX21_goes_4 2 rfl rfl)
theorem dX21_goes_100 : decode cX21_goes 100 = .ok (.if_icmp .gt 22, 3) := dk_163 0 22 (dk_at dksX21_goes_4 5 rfl rfl)
theorem dX21_goes_103 : decode cX21_goes 103 = .ok (.aload_n 0, 1) := dk_42 (dk_at dksX21_goes_4 8 rfl rfl)
theorem dX21_goes_104 : decode cX21_goes 104 = .ok (.iload_n 1, 1) := dk_27 (dk_at dksX21_goes_4 9 rfl rfl)
theorem dX21_goes_105 : decode cX21_goes 105 = .ok (.iconst 3, 1) := dk_6 (dk_at dksX21_goes_4 10 rfl rfl)
theorem dX21_goes_106 : decode cX21_goes 106 = .ok (.invokevirtual 209, 3) := dk_182 0 209 (dk_at dksX21_goes_4 11 rfl rfl)
theorem dX21_goes_109 : decode cX21_goes 109 = .ok (.aload_n 0, 1) := dk_42 (dk_at dksX21_goes_4 14 rfl rfl)
theorem dX21_goes_110 : decode cX21_goes 110 = .ok (.getfield 33, 3) := dk_180 0 33 (dk_at dksX21_goes_4 15 rfl rfl)
theorem dX21_goes_113 : decode cX21_goes 113 = .ok (.iload_n 1, 1) := dk_27 (dk_at dksX21_goes_4 18 rfl rfl)
theorem dX21_goes_114 : decode cX21_goes 114 = .ok (.aload_n 0, 1) := dk_42 (dk_at dksX21_goes_4 19 rfl rfl)
theorem dX21_goes_115 : decode cX21_goes 115 = .ok (.getfield 169, 3) := dk_180 0 169 (dk_at dksX21_goes_4 20 rfl rfl)
theorem dX21_goes_118 : decode cX21_goes 118 = .ok (.iastore, 1) := dk_79 (dk_at dksX21_goes_4 23 rfl rfl)
theorem dX21_goes_119 : decode cX21_goes 119 = .ok (.goto 51, 3) := dk_167 0 51 (dk_at dksX21_goes_5 0 rfl rfl)
theorem dX21_goes_122 : decode cX21_goes 122 = .ok (.aload_n 0, 1) := dk_42 (dk_at dksX21_goes_5 3 rfl rfl)
theorem dX21_goes_123 : decode cX21_goes 123 = .ok (.getfield 169, 3) := dk_180 0 169 (dk_at dksX21_goes_5 4 rfl rfl)
theorem dX21_goes_126 : decode cX21_goes 126 = .ok (.aload_n 0, 1) := dk_42 (dk_at dksX21_goes_5 7 rfl rfl)
theorem dX21_goes_127 : decode cX21_goes 127 = .ok (.getfield 79, 3) := dk_180 0 79 (dk_at dksX21_goes_5 8 rfl rfl)
theorem dX21_goes_130 : decode cX21_goes 130 = .ok (.getfield 83, 3) := dk_180 0 83 (dk_at dksX21_goes_5 11 rfl rfl)
theorem dX21_goes_133 : decode cX21_goes 133 = .ok (.iload_n 1, 1) := dk_27 (dk_at dksX21_goes_5 14 rfl rfl)
theorem dX21_goes_134 : decode cX21_goes 134 = .ok (.invokevirtual 102, 3) := dk_182 0 102 (dk_at dksX21_goes_5 15 rfl rfl)
theorem dX21_goes_137 : decode cX21_goes 137 = .ok (.checkcast 106, 3) := dk_192 0 106 (dk_at dksX21_goes_5 18 rfl rfl)
theorem dX21_goes_140 : decode cX21_goes 140 = .ok (.getfield 131, 3) := dk_180 0 131 (dk_at dksX21_goes_5 21 rfl rfl)
theorem dX21_goes_143 : decode cX21_goes 143 = .ok (.isub, 1) := dk_100 (dk_at dksX21_goes_6 0 rfl rfl)
theorem dX21_goes_144 : decode cX21_goes 144 = .ok (.aload_n 0, 1) := dk_42 (dk_at dksX21_goes_6 1 rfl rfl)
theorem dX21_goes_145 : decode cX21_goes 145 = .ok (.getfield 79, 3) := dk_180 0 79 (dk_at dksX21_goes_6 2 rfl rfl)
theorem dX21_goes_148 : decode cX21_goes 148 = .ok (.getfield 83, 3) := dk_180 0 83 (dk_at dksX21_goes_6 5 rfl rfl)
theorem dX21_goes_151 : decode cX21_goes 151 = .ok (.iload_n 1, 1) := dk_27 (dk_at dksX21_goes_6 8 rfl rfl)
theorem dX21_goes_152 : decode cX21_goes 152 = .ok (.invokevirtual 102, 3) := dk_182 0 102 (dk_at dksX21_goes_6 9 rfl rfl)
theorem dX21_goes_155 : decode cX21_goes 155 = .ok (.checkcast 106, 3) := dk_192 0 106 (dk_at dksX21_goes_6 12 rfl rfl)
theorem dX21_goes_158 : decode cX21_goes 158 = .ok (.getfield 213, 3) := dk_180 0 213 (dk_at dksX21_goes_6 15 rfl rfl)
theorem dX21_goes_161 : decode cX21_goes 161 = .ok (.if_icmp .lt 9, 3) := dk_161 0 9 (dk_at dksX21_goes_6 18 rfl rfl)
theorem dX21_goes_164 : decode cX21_goes 164 = .ok (.aload_n 0, 1) := dk_42 (dk_at dksX21_goes_6 21 rfl rfl)
theorem dX21_goes_165 : decode cX21_goes 165 = .ok (.iload_n 1, 1) := dk_27 (dk_at dksX21_goes_6 22 rfl rfl)
theorem dX21_goes_166 : decode cX21_goes 166 = .ok (.iconst 4, 1) := dk_7 (dk_at dksX21_goes_6 23 rfl rfl)
theorem dX21_goes_167 : decode cX21_goes 167 = .ok (.invokevirtual 209, 3) := dk_182 0 209 (dk_at dksX21_goes_7 0 rfl rfl)
theorem dX21_goes_170 : decode cX21_goes 170 = .ok (.iinc 1 1, 3) := dk_132 1 1 (dk_at dksX21_goes_7 3 rfl rfl)
theorem dX21_goes_173 : decode cX21_goes 173 = .ok (.goto (-115), 3) := dk_167 255 141 (dk_at dksX21_goes_7 6 rfl rfl)
theorem dX21_goes_176 : decode cX21_goes 176 = .ok (.iconst 0, 1) := dk_3 (dk_at dksX21_goes_7 9 rfl rfl)
theorem dX21_goes_177 : decode cX21_goes 177 = .ok (.istore_n 1, 1) := dk_60 (dk_at dksX21_goes_7 10 rfl rfl)
theorem dX21_goes_178 : decode cX21_goes 178 = .ok (.iload_n 1, 1) := dk_27 (dk_at dksX21_goes_7 11 rfl rfl)
theorem dX21_goes_179 : decode cX21_goes 179 = .ok (.aload_n 0, 1) := dk_42 (dk_at dksX21_goes_7 12 rfl rfl)
theorem dX21_goes_180 : decode cX21_goes 180 = .ok (.getfield 142, 3) := dk_180 0 142 (dk_at dksX21_goes_7 13 rfl rfl)
theorem dX21_goes_183 : decode cX21_goes 183 = .ok (.if_icmp .ge 14, 3) := dk_162 0 14 (dk_at dksX21_goes_7 16 rfl rfl)
theorem dX21_goes_186 : decode cX21_goes 186 = .ok (.aload_n 0, 1) := dk_42 (dk_at dksX21_goes_7 19 rfl rfl)
theorem dX21_goes_187 : decode cX21_goes 187 = .ok (.iload_n 1, 1) := dk_27 (dk_at dksX21_goes_7 20 rfl rfl)
theorem dX21_goes_188 : decode cX21_goes 188 = .ok (.invokevirtual 216, 3) := dk_182 0 216 (dk_at dksX21_goes_7 21 rfl rfl)
theorem dX21_goes_191 : decode cX21_goes 191 = .ok (.iinc 1 1, 3) := dk_132 1 1 (dk_at dksX21_goes_8 0 rfl rfl)
theorem dX21_goes_194 : decode cX21_goes 194 = .ok (.goto (-16), 3) := dk_167 255 240 (dk_at dksX21_goes_8 3 rfl rfl)
theorem dX21_goes_197 : decode cX21_goes 197 = .ok (.aload_n 0, 1) := dk_42 (dk_at dksX21_goes_8 6 rfl rfl)
theorem dX21_goes_198 : decode cX21_goes 198 = .ok (.dup, 1) := dk_89 (dk_at dksX21_goes_8 7 rfl rfl)
theorem dX21_goes_199 : decode cX21_goes 199 = .ok (.getfield 169, 3) := dk_180 0 169 (dk_at dksX21_goes_8 8 rfl rfl)
theorem dX21_goes_202 : decode cX21_goes 202 = .ok (.iconst 1, 1) := dk_4 (dk_at dksX21_goes_8 11 rfl rfl)
theorem dX21_goes_203 : decode cX21_goes 203 = .ok (.iadd, 1) := dk_96 (dk_at dksX21_goes_8 12 rfl rfl)
theorem dX21_goes_204 : decode cX21_goes 204 = .ok (.putfield 169, 3) := dk_181 0 169 (dk_at dksX21_goes_8 13 rfl rfl)
theorem dX21_goes_207 : decode cX21_goes 207 = .ok (.return_, 1) := dk_177 (dk_at dksX21_goes_8 16 rfl rfl)
abbrev cX21_ends : ByteArray := prog_3_method_14_code
def yX21_ends : MethodName := ⟨RX21, "ends", "(II)V"⟩
def dkwX21_ends_1 : List UInt8 := [182, 0, 102, 192, 0, 106, 180, 0, 131, 100, 79, 177]
abbrev dktX21_ends_1 : List UInt8 := dkwX21_ends_1 ++ []
def dkwX21_ends_0 : List UInt8 := [42, 180, 0, 9, 27, 28, 79, 42, 180, 0, 36, 27, 42, 180, 0, 169, 42, 180, 0, 79, 180, 0, 83, 27]
abbrev dktX21_ends_0 : List UInt8 := dkwX21_ends_0 ++ dktX21_ends_1
theorem dksX21_ends_0 : cX21_ends.data.toList.drop 0 = dktX21_ends_0 := by decide +kernel
theorem dksX21_ends_1 : cX21_ends.data.toList.drop 24 = dktX21_ends_1 := dk_seg dksX21_ends_0 24 rfl rfl
theorem dX21_ends_0 : decode cX21_ends 0 = .ok (.aload_n 0, 1) := dk_42 (dk_at dksX21_ends_0 0 rfl rfl)
theorem dX21_ends_1 : decode cX21_ends 1 = .ok (.getfield 9, 3) := dk_180 0 9 (dk_at dksX21_ends_0 1 rfl rfl)
theorem dX21_ends_4 : decode cX21_ends 4 = .ok (.iload_n 1, 1) := dk_27 (dk_at dksX21_ends_0 4 rfl rfl)
theorem dX21_ends_5 : decode cX21_ends 5 = .ok (.iload_n 2, 1) := dk_28 (dk_at dksX21_ends_0 5 rfl rfl)
theorem dX21_ends_6 : decode cX21_ends 6 = .ok (.iastore, 1) := dk_79 (dk_at dksX21_ends_0 6 rfl rfl)
theorem dX21_ends_7 : decode cX21_ends 7 = .ok (.aload_n 0, 1) := dk_42 (dk_at dksX21_ends_0 7 rfl rfl)
theorem dX21_ends_8 : decode cX21_ends 8 = .ok (.getfield 36, 3) := dk_180 0 36 (dk_at dksX21_ends_0 8 rfl rfl)
theorem dX21_ends_11 : decode cX21_ends 11 = .ok (.iload_n 1, 1) := dk_27 (dk_at dksX21_ends_0 11 rfl rfl)
theorem dX21_ends_12 : decode cX21_ends 12 = .ok (.aload_n 0, 1) := dk_42 (dk_at dksX21_ends_0 12 rfl rfl)
theorem dX21_ends_13 : decode cX21_ends 13 = .ok (.getfield 169, 3) := dk_180 0 169 (dk_at dksX21_ends_0 13 rfl rfl)
theorem dX21_ends_16 : decode cX21_ends 16 = .ok (.aload_n 0, 1) := dk_42 (dk_at dksX21_ends_0 16 rfl rfl)
theorem dX21_ends_17 : decode cX21_ends 17 = .ok (.getfield 79, 3) := dk_180 0 79 (dk_at dksX21_ends_0 17 rfl rfl)
theorem dX21_ends_20 : decode cX21_ends 20 = .ok (.getfield 83, 3) := dk_180 0 83 (dk_at dksX21_ends_0 20 rfl rfl)
theorem dX21_ends_23 : decode cX21_ends 23 = .ok (.iload_n 1, 1) := dk_27 (dk_at dksX21_ends_0 23 rfl rfl)
theorem dX21_ends_24 : decode cX21_ends 24 = .ok (.invokevirtual 102, 3) := dk_182 0 102 (dk_at dksX21_ends_1 0 rfl rfl)
theorem dX21_ends_27 : decode cX21_ends 27 = .ok (.checkcast 106, 3) := dk_192 0 106 (dk_at dksX21_ends_1 3 rfl rfl)
theorem dX21_ends_30 : decode cX21_ends 30 = .ok (.getfield 131, 3) := dk_180 0 131 (dk_at dksX21_ends_1 6 rfl rfl)
theorem dX21_ends_33 : decode cX21_ends 33 = .ok (.isub, 1) := dk_100 (dk_at dksX21_ends_1 9 rfl rfl)
theorem dX21_ends_34 : decode cX21_ends 34 = .ok (.iastore, 1) := dk_79 (dk_at dksX21_ends_1 10 rfl rfl)
theorem dX21_ends_35 : decode cX21_ends 35 = .ok (.return_, 1) := dk_177 (dk_at dksX21_ends_1 11 rfl rfl)
abbrev cX21_serves : ByteArray := prog_3_method_16_code
def yX21_serves : MethodName := ⟨RX21, "serves", "(I)V"⟩
def dkwX21_serves_1 : List UInt8 := [27, 28, 29, 182, 0, 226, 42, 27, 182, 0, 220, 61, 42, 27, 182, 0, 223, 62, 167, 255, 226, 177]
abbrev dktX21_serves_1 : List UInt8 := dkwX21_serves_1 ++ []
def dkwX21_serves_0 : List UInt8 := [42, 27, 182, 0, 220, 61, 42, 27, 182, 0, 223, 62, 28, 2, 159, 0, 31, 29, 16, 254, 159, 0, 25, 42]
abbrev dktX21_serves_0 : List UInt8 := dkwX21_serves_0 ++ dktX21_serves_1
theorem dksX21_serves_0 : cX21_serves.data.toList.drop 0 = dktX21_serves_0 := by decide +kernel
theorem dksX21_serves_1 : cX21_serves.data.toList.drop 24 = dktX21_serves_1 := dk_seg dksX21_serves_0 24 rfl rfl
theorem dX21_serves_0 : decode cX21_serves 0 = .ok (.aload_n 0, 1) := dk_42 (dk_at dksX21_serves_0 0 rfl rfl)
theorem dX21_serves_1 : decode cX21_serves 1 = .ok (.iload_n 1, 1) := dk_27 (dk_at dksX21_serves_0 1 rfl rfl)
theorem dX21_serves_2 : decode cX21_serves 2 = .ok (.invokevirtual 220, 3) := dk_182 0 220 (dk_at dksX21_serves_0 2 rfl rfl)
theorem dX21_serves_5 : decode cX21_serves 5 = .ok (.istore_n 2, 1) := dk_61 (dk_at dksX21_serves_0 5 rfl rfl)
theorem dX21_serves_6 : decode cX21_serves 6 = .ok (.aload_n 0, 1) := dk_42 (dk_at dksX21_serves_0 6 rfl rfl)
theorem dX21_serves_7 : decode cX21_serves 7 = .ok (.iload_n 1, 1) := dk_27 (dk_at dksX21_serves_0 7 rfl rfl)
theorem dX21_serves_8 : decode cX21_serves 8 = .ok (.invokevirtual 223, 3) := dk_182 0 223 (dk_at dksX21_serves_0 8 rfl rfl)
theorem dX21_serves_11 : decode cX21_serves 11 = .ok (.istore_n 3, 1) := dk_62 (dk_at dksX21_serves_0 11 rfl rfl)
theorem dX21_serves_12 : decode cX21_serves 12 = .ok (.iload_n 2, 1) := dk_28 (dk_at dksX21_serves_0 12 rfl rfl)
theorem dX21_serves_13 : decode cX21_serves 13 = .ok (.iconst (-1), 1) := dk_2 (dk_at dksX21_serves_0 13 rfl rfl)
theorem dX21_serves_14 : decode cX21_serves 14 = .ok (.if_icmp .eq 31, 3) := dk_159 0 31 (dk_at dksX21_serves_0 14 rfl rfl)
theorem dX21_serves_17 : decode cX21_serves 17 = .ok (.iload_n 3, 1) := dk_29 (dk_at dksX21_serves_0 17 rfl rfl)
theorem dX21_serves_18 : decode cX21_serves 18 = .ok (.bipush (-2), 2) := dk_16 254 (dk_at dksX21_serves_0 18 rfl rfl)
theorem dX21_serves_20 : decode cX21_serves 20 = .ok (.if_icmp .eq 25, 3) := dk_159 0 25 (dk_at dksX21_serves_0 20 rfl rfl)
theorem dX21_serves_23 : decode cX21_serves 23 = .ok (.aload_n 0, 1) := dk_42 (dk_at dksX21_serves_0 23 rfl rfl)
theorem dX21_serves_24 : decode cX21_serves 24 = .ok (.iload_n 1, 1) := dk_27 (dk_at dksX21_serves_1 0 rfl rfl)
theorem dX21_serves_25 : decode cX21_serves 25 = .ok (.iload_n 2, 1) := dk_28 (dk_at dksX21_serves_1 1 rfl rfl)
theorem dX21_serves_26 : decode cX21_serves 26 = .ok (.iload_n 3, 1) := dk_29 (dk_at dksX21_serves_1 2 rfl rfl)
theorem dX21_serves_27 : decode cX21_serves 27 = .ok (.invokevirtual 226, 3) := dk_182 0 226 (dk_at dksX21_serves_1 3 rfl rfl)
theorem dX21_serves_30 : decode cX21_serves 30 = .ok (.aload_n 0, 1) := dk_42 (dk_at dksX21_serves_1 6 rfl rfl)
theorem dX21_serves_31 : decode cX21_serves 31 = .ok (.iload_n 1, 1) := dk_27 (dk_at dksX21_serves_1 7 rfl rfl)
theorem dX21_serves_32 : decode cX21_serves 32 = .ok (.invokevirtual 220, 3) := dk_182 0 220 (dk_at dksX21_serves_1 8 rfl rfl)
theorem dX21_serves_35 : decode cX21_serves 35 = .ok (.istore_n 2, 1) := dk_61 (dk_at dksX21_serves_1 11 rfl rfl)
theorem dX21_serves_36 : decode cX21_serves 36 = .ok (.aload_n 0, 1) := dk_42 (dk_at dksX21_serves_1 12 rfl rfl)
theorem dX21_serves_37 : decode cX21_serves 37 = .ok (.iload_n 1, 1) := dk_27 (dk_at dksX21_serves_1 13 rfl rfl)
theorem dX21_serves_38 : decode cX21_serves 38 = .ok (.invokevirtual 223, 3) := dk_182 0 223 (dk_at dksX21_serves_1 14 rfl rfl)
theorem dX21_serves_41 : decode cX21_serves 41 = .ok (.istore_n 3, 1) := dk_62 (dk_at dksX21_serves_1 17 rfl rfl)
theorem dX21_serves_42 : decode cX21_serves 42 = .ok (.goto (-30), 3) := dk_167 255 226 (dk_at dksX21_serves_1 18 rfl rfl)
theorem dX21_serves_45 : decode cX21_serves 45 = .ok (.return_, 1) := dk_177 (dk_at dksX21_serves_1 21 rfl rfl)
abbrev cX21_freeHand : ByteArray := prog_3_method_9_code
def yX21_freeHand : MethodName := ⟨RX21, "freeHand", "(I)I"⟩
def dkwX21_freeHand_1 : List UInt8 := [180, 0, 169, 163, 0, 9, 5, 27, 104, 28, 96, 172, 132, 2, 1, 167, 255, 220, 2, 172]
abbrev dktX21_freeHand_1 : List UInt8 := dkwX21_freeHand_1 ++ []
def dkwX21_freeHand_0 : List UInt8 := [3, 61, 28, 42, 180, 0, 70, 27, 46, 162, 0, 32, 42, 180, 0, 73, 5, 27, 104, 28, 96, 46, 42]
abbrev dktX21_freeHand_0 : List UInt8 := dkwX21_freeHand_0 ++ dktX21_freeHand_1
theorem dksX21_freeHand_0 : cX21_freeHand.data.toList.drop 0 = dktX21_freeHand_0 := by decide +kernel
theorem dksX21_freeHand_1 : cX21_freeHand.data.toList.drop 23 = dktX21_freeHand_1 := dk_seg dksX21_freeHand_0 23 rfl rfl
theorem dX21_freeHand_0 : decode cX21_freeHand 0 = .ok (.iconst 0, 1) := dk_3 (dk_at dksX21_freeHand_0 0 rfl rfl)
theorem dX21_freeHand_1 : decode cX21_freeHand 1 = .ok (.istore_n 2, 1) := dk_61 (dk_at dksX21_freeHand_0 1 rfl rfl)
theorem dX21_freeHand_2 : decode cX21_freeHand 2 = .ok (.iload_n 2, 1) := dk_28 (dk_at dksX21_freeHand_0 2 rfl rfl)
theorem dX21_freeHand_3 : decode cX21_freeHand 3 = .ok (.aload_n 0, 1) := dk_42 (dk_at dksX21_freeHand_0 3 rfl rfl)
theorem dX21_freeHand_4 : decode cX21_freeHand 4 = .ok (.getfield 70, 3) := dk_180 0 70 (dk_at dksX21_freeHand_0 4 rfl rfl)
theorem dX21_freeHand_7 : decode cX21_freeHand 7 = .ok (.iload_n 1, 1) := dk_27 (dk_at dksX21_freeHand_0 7 rfl rfl)
theorem dX21_freeHand_8 : decode cX21_freeHand 8 = .ok (.iaload, 1) := dk_46 (dk_at dksX21_freeHand_0 8 rfl rfl)
theorem dX21_freeHand_9 : decode cX21_freeHand 9 = .ok (.if_icmp .ge 32, 3) := dk_162 0 32 (dk_at dksX21_freeHand_0 9 rfl rfl)
theorem dX21_freeHand_12 : decode cX21_freeHand 12 = .ok (.aload_n 0, 1) := dk_42 (dk_at dksX21_freeHand_0 12 rfl rfl)
theorem dX21_freeHand_13 : decode cX21_freeHand 13 = .ok (.getfield 73, 3) := dk_180 0 73 (dk_at dksX21_freeHand_0 13 rfl rfl)
theorem dX21_freeHand_16 : decode cX21_freeHand 16 = .ok (.iconst 2, 1) := dk_5 (dk_at dksX21_freeHand_0 16 rfl rfl)
theorem dX21_freeHand_17 : decode cX21_freeHand 17 = .ok (.iload_n 1, 1) := dk_27 (dk_at dksX21_freeHand_0 17 rfl rfl)
theorem dX21_freeHand_18 : decode cX21_freeHand 18 = .ok (.imul, 1) := dk_104 (dk_at dksX21_freeHand_0 18 rfl rfl)
theorem dX21_freeHand_19 : decode cX21_freeHand 19 = .ok (.iload_n 2, 1) := dk_28 (dk_at dksX21_freeHand_0 19 rfl rfl)
theorem dX21_freeHand_20 : decode cX21_freeHand 20 = .ok (.iadd, 1) := dk_96 (dk_at dksX21_freeHand_0 20 rfl rfl)
theorem dX21_freeHand_21 : decode cX21_freeHand 21 = .ok (.iaload, 1) := dk_46 (dk_at dksX21_freeHand_0 21 rfl rfl)
theorem dX21_freeHand_22 : decode cX21_freeHand 22 = .ok (.aload_n 0, 1) := dk_42 (dk_at dksX21_freeHand_0 22 rfl rfl)
theorem dX21_freeHand_23 : decode cX21_freeHand 23 = .ok (.getfield 169, 3) := dk_180 0 169 (dk_at dksX21_freeHand_1 0 rfl rfl)
theorem dX21_freeHand_26 : decode cX21_freeHand 26 = .ok (.if_icmp .gt 9, 3) := dk_163 0 9 (dk_at dksX21_freeHand_1 3 rfl rfl)
theorem dX21_freeHand_29 : decode cX21_freeHand 29 = .ok (.iconst 2, 1) := dk_5 (dk_at dksX21_freeHand_1 6 rfl rfl)
theorem dX21_freeHand_30 : decode cX21_freeHand 30 = .ok (.iload_n 1, 1) := dk_27 (dk_at dksX21_freeHand_1 7 rfl rfl)
theorem dX21_freeHand_31 : decode cX21_freeHand 31 = .ok (.imul, 1) := dk_104 (dk_at dksX21_freeHand_1 8 rfl rfl)
theorem dX21_freeHand_32 : decode cX21_freeHand 32 = .ok (.iload_n 2, 1) := dk_28 (dk_at dksX21_freeHand_1 9 rfl rfl)
theorem dX21_freeHand_33 : decode cX21_freeHand 33 = .ok (.iadd, 1) := dk_96 (dk_at dksX21_freeHand_1 10 rfl rfl)
theorem dX21_freeHand_34 : decode cX21_freeHand 34 = .ok (.ireturn, 1) := dk_172 (dk_at dksX21_freeHand_1 11 rfl rfl)
theorem dX21_freeHand_35 : decode cX21_freeHand 35 = .ok (.iinc 2 1, 3) := dk_132 2 1 (dk_at dksX21_freeHand_1 12 rfl rfl)
theorem dX21_freeHand_38 : decode cX21_freeHand 38 = .ok (.goto (-36), 3) := dk_167 255 220 (dk_at dksX21_freeHand_1 15 rfl rfl)
theorem dX21_freeHand_41 : decode cX21_freeHand 41 = .ok (.iconst (-1), 1) := dk_2 (dk_at dksX21_freeHand_1 18 rfl rfl)
theorem dX21_freeHand_42 : decode cX21_freeHand 42 = .ok (.ireturn, 1) := dk_172 (dk_at dksX21_freeHand_1 19 rfl rfl)
abbrev cX21_begins : ByteArray := prog_3_method_13_code
def yX21_begins : MethodName := ⟨RX21, "begins", "(III)V"⟩
def dkwX21_begins_8 : List UInt8 := [181, 0, 172, 177]
abbrev dktX21_begins_8 : List UInt8 := dkwX21_begins_8 ++ []
def dkwX21_begins_7 : List UInt8 := [180, 0, 33, 29, 21, 4, 79, 42, 180, 0, 45, 42, 180, 0, 172, 29, 79, 42, 89, 180, 0, 172, 4, 96]
abbrev dktX21_begins_7 : List UInt8 := dkwX21_begins_7 ++ dktX21_begins_8
def dkwX21_begins_6 : List UInt8 := [29, 5, 182, 0, 209, 42, 180, 0, 27, 29, 42, 180, 0, 169, 79, 42, 180, 0, 30, 29, 27, 79, 42]
abbrev dktX21_begins_6 : List UInt8 := dkwX21_begins_6 ++ dktX21_begins_7
def dkwX21_begins_5 : List UInt8 := [27, 42, 180, 0, 15, 29, 46, 79, 42, 180, 0, 76, 27, 29, 79, 42, 180, 0, 73, 28, 21, 4, 79, 42]
abbrev dktX21_begins_5 : List UInt8 := dkwX21_begins_5 ++ dktX21_begins_6
def dkwX21_begins_4 : List UInt8 := [180, 0, 58, 27, 46, 100, 184, 0, 205, 104, 96, 42, 27, 29, 182, 0, 208, 96, 54, 4, 42, 180, 0, 58]
abbrev dktX21_begins_4 : List UInt8 := dkwX21_begins_4 ++ dktX21_begins_5
def dkwX21_begins_3 : List UInt8 := [79, 132, 4, 1, 167, 255, 185, 42, 180, 0, 169, 42, 180, 0, 67, 27, 46, 42, 180, 0, 15, 29, 46, 42]
abbrev dktX21_begins_3 : List UInt8 := dkwX21_begins_3 ++ dktX21_begins_4
def dkwX21_begins_2 : List UInt8 := [180, 0, 39, 21, 4, 92, 46, 4, 29, 120, 128, 79, 42, 180, 0, 42, 29, 92, 46, 4, 21, 4, 120, 128]
abbrev dktX21_begins_2 : List UInt8 := dkwX21_begins_2 ++ dktX21_begins_3
def dkwX21_begins_1 : List UInt8 := [46, 4, 160, 0, 45, 42, 180, 0, 79, 21, 4, 29, 182, 0, 190, 154, 0, 6, 167, 0, 29, 42]
abbrev dktX21_begins_1 : List UInt8 := dkwX21_begins_1 ++ dktX21_begins_2
def dkwX21_begins_0 : List UInt8 := [3, 54, 4, 21, 4, 42, 180, 0, 95, 162, 0, 68, 21, 4, 29, 159, 0, 56, 42, 180, 0, 9, 21, 4]
abbrev dktX21_begins_0 : List UInt8 := dkwX21_begins_0 ++ dktX21_begins_1
theorem dksX21_begins_0 : cX21_begins.data.toList.drop 0 = dktX21_begins_0 := by decide +kernel
theorem dksX21_begins_1 : cX21_begins.data.toList.drop 24 = dktX21_begins_1 := dk_seg dksX21_begins_0 24 rfl rfl
theorem dksX21_begins_2 : cX21_begins.data.toList.drop 46 = dktX21_begins_2 := dk_seg dksX21_begins_1 22 rfl rfl
theorem dksX21_begins_3 : cX21_begins.data.toList.drop 70 = dktX21_begins_3 := dk_seg dksX21_begins_2 24 rfl rfl
theorem dksX21_begins_4 : cX21_begins.data.toList.drop 94 = dktX21_begins_4 := dk_seg dksX21_begins_3 24 rfl rfl
theorem dksX21_begins_5 : cX21_begins.data.toList.drop 118 = dktX21_begins_5 := dk_seg dksX21_begins_4 24 rfl rfl
theorem dksX21_begins_6 : cX21_begins.data.toList.drop 142 = dktX21_begins_6 := dk_seg dksX21_begins_5 24 rfl rfl
theorem dksX21_begins_7 : cX21_begins.data.toList.drop 165 = dktX21_begins_7 := dk_seg dksX21_begins_6 23 rfl rfl
theorem dksX21_begins_8 : cX21_begins.data.toList.drop 189 = dktX21_begins_8 := dk_seg dksX21_begins_7 24 rfl rfl
theorem dX21_begins_0 : decode cX21_begins 0 = .ok (.iconst 0, 1) := dk_3 (dk_at dksX21_begins_0 0 rfl rfl)
theorem dX21_begins_1 : decode cX21_begins 1 = .ok (.istore 4, 2) := dk_54 4 (dk_at dksX21_begins_0 1 rfl rfl)
theorem dX21_begins_3 : decode cX21_begins 3 = .ok (.iload 4, 2) := dk_21 4 (dk_at dksX21_begins_0 3 rfl rfl)
theorem dX21_begins_5 : decode cX21_begins 5 = .ok (.aload_n 0, 1) := dk_42 (dk_at dksX21_begins_0 5 rfl rfl)
theorem dX21_begins_6 : decode cX21_begins 6 = .ok (.getfield 95, 3) := dk_180 0 95 (dk_at dksX21_begins_0 6 rfl rfl)
theorem dX21_begins_9 : decode cX21_begins 9 = .ok (.if_icmp .ge 68, 3) := dk_162 0 68 (dk_at dksX21_begins_0 9 rfl rfl)
theorem dX21_begins_12 : decode cX21_begins 12 = .ok (.iload 4, 2) := dk_21 4 (dk_at dksX21_begins_0 12 rfl rfl)
theorem dX21_begins_14 : decode cX21_begins 14 = .ok (.iload_n 3, 1) := dk_29 (dk_at dksX21_begins_0 14 rfl rfl)
theorem dX21_begins_15 : decode cX21_begins 15 = .ok (.if_icmp .eq 56, 3) := dk_159 0 56 (dk_at dksX21_begins_0 15 rfl rfl)
theorem dX21_begins_18 : decode cX21_begins 18 = .ok (.aload_n 0, 1) := dk_42 (dk_at dksX21_begins_0 18 rfl rfl)
theorem dX21_begins_19 : decode cX21_begins 19 = .ok (.getfield 9, 3) := dk_180 0 9 (dk_at dksX21_begins_0 19 rfl rfl)
theorem dX21_begins_22 : decode cX21_begins 22 = .ok (.iload 4, 2) := dk_21 4 (dk_at dksX21_begins_0 22 rfl rfl)
theorem dX21_begins_24 : decode cX21_begins 24 = .ok (.iaload, 1) := dk_46 (dk_at dksX21_begins_1 0 rfl rfl)
theorem dX21_begins_25 : decode cX21_begins 25 = .ok (.iconst 1, 1) := dk_4 (dk_at dksX21_begins_1 1 rfl rfl)
theorem dX21_begins_26 : decode cX21_begins 26 = .ok (.if_icmp .ne 45, 3) := dk_160 0 45 (dk_at dksX21_begins_1 2 rfl rfl)
theorem dX21_begins_29 : decode cX21_begins 29 = .ok (.aload_n 0, 1) := dk_42 (dk_at dksX21_begins_1 5 rfl rfl)
theorem dX21_begins_30 : decode cX21_begins 30 = .ok (.getfield 79, 3) := dk_180 0 79 (dk_at dksX21_begins_1 6 rfl rfl)
theorem dX21_begins_33 : decode cX21_begins 33 = .ok (.iload 4, 2) := dk_21 4 (dk_at dksX21_begins_1 9 rfl rfl)
theorem dX21_begins_35 : decode cX21_begins 35 = .ok (.iload_n 3, 1) := dk_29 (dk_at dksX21_begins_1 11 rfl rfl)
theorem dX21_begins_36 : decode cX21_begins 36 = .ok (.invokevirtual 190, 3) := dk_182 0 190 (dk_at dksX21_begins_1 12 rfl rfl)
theorem dX21_begins_39 : decode cX21_begins 39 = .ok (.ifCond .ne 6, 3) := dk_154 0 6 (dk_at dksX21_begins_1 15 rfl rfl)
theorem dX21_begins_42 : decode cX21_begins 42 = .ok (.goto 29, 3) := dk_167 0 29 (dk_at dksX21_begins_1 18 rfl rfl)
theorem dX21_begins_45 : decode cX21_begins 45 = .ok (.aload_n 0, 1) := dk_42 (dk_at dksX21_begins_1 21 rfl rfl)
theorem dX21_begins_46 : decode cX21_begins 46 = .ok (.getfield 39, 3) := dk_180 0 39 (dk_at dksX21_begins_2 0 rfl rfl)
theorem dX21_begins_49 : decode cX21_begins 49 = .ok (.iload 4, 2) := dk_21 4 (dk_at dksX21_begins_2 3 rfl rfl)
theorem dX21_begins_51 : decode cX21_begins 51 = .ok (.dup2, 1) := dk_92 (dk_at dksX21_begins_2 5 rfl rfl)
theorem dX21_begins_52 : decode cX21_begins 52 = .ok (.iaload, 1) := dk_46 (dk_at dksX21_begins_2 6 rfl rfl)
theorem dX21_begins_53 : decode cX21_begins 53 = .ok (.iconst 1, 1) := dk_4 (dk_at dksX21_begins_2 7 rfl rfl)
theorem dX21_begins_54 : decode cX21_begins 54 = .ok (.iload_n 3, 1) := dk_29 (dk_at dksX21_begins_2 8 rfl rfl)
theorem dX21_begins_55 : decode cX21_begins 55 = .ok (.ishl, 1) := dk_120 (dk_at dksX21_begins_2 9 rfl rfl)
theorem dX21_begins_56 : decode cX21_begins 56 = .ok (.ior, 1) := dk_128 (dk_at dksX21_begins_2 10 rfl rfl)
theorem dX21_begins_57 : decode cX21_begins 57 = .ok (.iastore, 1) := dk_79 (dk_at dksX21_begins_2 11 rfl rfl)
theorem dX21_begins_58 : decode cX21_begins 58 = .ok (.aload_n 0, 1) := dk_42 (dk_at dksX21_begins_2 12 rfl rfl)
theorem dX21_begins_59 : decode cX21_begins 59 = .ok (.getfield 42, 3) := dk_180 0 42 (dk_at dksX21_begins_2 13 rfl rfl)
theorem dX21_begins_62 : decode cX21_begins 62 = .ok (.iload_n 3, 1) := dk_29 (dk_at dksX21_begins_2 16 rfl rfl)
theorem dX21_begins_63 : decode cX21_begins 63 = .ok (.dup2, 1) := dk_92 (dk_at dksX21_begins_2 17 rfl rfl)
theorem dX21_begins_64 : decode cX21_begins 64 = .ok (.iaload, 1) := dk_46 (dk_at dksX21_begins_2 18 rfl rfl)
theorem dX21_begins_65 : decode cX21_begins 65 = .ok (.iconst 1, 1) := dk_4 (dk_at dksX21_begins_2 19 rfl rfl)
theorem dX21_begins_66 : decode cX21_begins 66 = .ok (.iload 4, 2) := dk_21 4 (dk_at dksX21_begins_2 20 rfl rfl)
theorem dX21_begins_68 : decode cX21_begins 68 = .ok (.ishl, 1) := dk_120 (dk_at dksX21_begins_2 22 rfl rfl)
theorem dX21_begins_69 : decode cX21_begins 69 = .ok (.ior, 1) := dk_128 (dk_at dksX21_begins_2 23 rfl rfl)
theorem dX21_begins_70 : decode cX21_begins 70 = .ok (.iastore, 1) := dk_79 (dk_at dksX21_begins_3 0 rfl rfl)
theorem dX21_begins_71 : decode cX21_begins 71 = .ok (.iinc 4 1, 3) := dk_132 4 1 (dk_at dksX21_begins_3 1 rfl rfl)
theorem dX21_begins_74 : decode cX21_begins 74 = .ok (.goto (-71), 3) := dk_167 255 185 (dk_at dksX21_begins_3 4 rfl rfl)
theorem dX21_begins_77 : decode cX21_begins 77 = .ok (.aload_n 0, 1) := dk_42 (dk_at dksX21_begins_3 7 rfl rfl)
theorem dX21_begins_78 : decode cX21_begins 78 = .ok (.getfield 169, 3) := dk_180 0 169 (dk_at dksX21_begins_3 8 rfl rfl)
theorem dX21_begins_81 : decode cX21_begins 81 = .ok (.aload_n 0, 1) := dk_42 (dk_at dksX21_begins_3 11 rfl rfl)
theorem dX21_begins_82 : decode cX21_begins 82 = .ok (.getfield 67, 3) := dk_180 0 67 (dk_at dksX21_begins_3 12 rfl rfl)
theorem dX21_begins_85 : decode cX21_begins 85 = .ok (.iload_n 1, 1) := dk_27 (dk_at dksX21_begins_3 15 rfl rfl)
theorem dX21_begins_86 : decode cX21_begins 86 = .ok (.iaload, 1) := dk_46 (dk_at dksX21_begins_3 16 rfl rfl)
theorem dX21_begins_87 : decode cX21_begins 87 = .ok (.aload_n 0, 1) := dk_42 (dk_at dksX21_begins_3 17 rfl rfl)
theorem dX21_begins_88 : decode cX21_begins 88 = .ok (.getfield 15, 3) := dk_180 0 15 (dk_at dksX21_begins_3 18 rfl rfl)
theorem dX21_begins_91 : decode cX21_begins 91 = .ok (.iload_n 3, 1) := dk_29 (dk_at dksX21_begins_3 21 rfl rfl)
theorem dX21_begins_92 : decode cX21_begins 92 = .ok (.iaload, 1) := dk_46 (dk_at dksX21_begins_3 22 rfl rfl)
theorem dX21_begins_93 : decode cX21_begins 93 = .ok (.aload_n 0, 1) := dk_42 (dk_at dksX21_begins_3 23 rfl rfl)
theorem dX21_begins_94 : decode cX21_begins 94 = .ok (.getfield 58, 3) := dk_180 0 58 (dk_at dksX21_begins_4 0 rfl rfl)
theorem dX21_begins_97 : decode cX21_begins 97 = .ok (.iload_n 1, 1) := dk_27 (dk_at dksX21_begins_4 3 rfl rfl)
theorem dX21_begins_98 : decode cX21_begins 98 = .ok (.iaload, 1) := dk_46 (dk_at dksX21_begins_4 4 rfl rfl)
theorem dX21_begins_99 : decode cX21_begins 99 = .ok (.isub, 1) := dk_100 (dk_at dksX21_begins_4 5 rfl rfl)
theorem dX21_begins_100 : decode cX21_begins 100 = .ok (.invokestatic 205, 3) := dk_184 0 205 (dk_at dksX21_begins_4 6 rfl rfl)
theorem dX21_begins_103 : decode cX21_begins 103 = .ok (.imul, 1) := dk_104 (dk_at dksX21_begins_4 9 rfl rfl)
theorem dX21_begins_104 : decode cX21_begins 104 = .ok (.iadd, 1) := dk_96 (dk_at dksX21_begins_4 10 rfl rfl)
theorem dX21_begins_105 : decode cX21_begins 105 = .ok (.aload_n 0, 1) := dk_42 (dk_at dksX21_begins_4 11 rfl rfl)
theorem dX21_begins_106 : decode cX21_begins 106 = .ok (.iload_n 1, 1) := dk_27 (dk_at dksX21_begins_4 12 rfl rfl)
theorem dX21_begins_107 : decode cX21_begins 107 = .ok (.iload_n 3, 1) := dk_29 (dk_at dksX21_begins_4 13 rfl rfl)
theorem dX21_begins_108 : decode cX21_begins 108 = .ok (.invokevirtual 208, 3) := dk_182 0 208 (dk_at dksX21_begins_4 14 rfl rfl)
theorem dX21_begins_111 : decode cX21_begins 111 = .ok (.iadd, 1) := dk_96 (dk_at dksX21_begins_4 17 rfl rfl)
theorem dX21_begins_112 : decode cX21_begins 112 = .ok (.istore 4, 2) := dk_54 4 (dk_at dksX21_begins_4 18 rfl rfl)
theorem dX21_begins_114 : decode cX21_begins 114 = .ok (.aload_n 0, 1) := dk_42 (dk_at dksX21_begins_4 20 rfl rfl)
theorem dX21_begins_115 : decode cX21_begins 115 = .ok (.getfield 58, 3) := dk_180 0 58 (dk_at dksX21_begins_4 21 rfl rfl)
theorem dX21_begins_118 : decode cX21_begins 118 = .ok (.iload_n 1, 1) := dk_27 (dk_at dksX21_begins_5 0 rfl rfl)
theorem dX21_begins_119 : decode cX21_begins 119 = .ok (.aload_n 0, 1) := dk_42 (dk_at dksX21_begins_5 1 rfl rfl)
theorem dX21_begins_120 : decode cX21_begins 120 = .ok (.getfield 15, 3) := dk_180 0 15 (dk_at dksX21_begins_5 2 rfl rfl)
theorem dX21_begins_123 : decode cX21_begins 123 = .ok (.iload_n 3, 1) := dk_29 (dk_at dksX21_begins_5 5 rfl rfl)
theorem dX21_begins_124 : decode cX21_begins 124 = .ok (.iaload, 1) := dk_46 (dk_at dksX21_begins_5 6 rfl rfl)
theorem dX21_begins_125 : decode cX21_begins 125 = .ok (.iastore, 1) := dk_79 (dk_at dksX21_begins_5 7 rfl rfl)
theorem dX21_begins_126 : decode cX21_begins 126 = .ok (.aload_n 0, 1) := dk_42 (dk_at dksX21_begins_5 8 rfl rfl)
theorem dX21_begins_127 : decode cX21_begins 127 = .ok (.getfield 76, 3) := dk_180 0 76 (dk_at dksX21_begins_5 9 rfl rfl)
theorem dX21_begins_130 : decode cX21_begins 130 = .ok (.iload_n 1, 1) := dk_27 (dk_at dksX21_begins_5 12 rfl rfl)
theorem dX21_begins_131 : decode cX21_begins 131 = .ok (.iload_n 3, 1) := dk_29 (dk_at dksX21_begins_5 13 rfl rfl)
theorem dX21_begins_132 : decode cX21_begins 132 = .ok (.iastore, 1) := dk_79 (dk_at dksX21_begins_5 14 rfl rfl)
theorem dX21_begins_133 : decode cX21_begins 133 = .ok (.aload_n 0, 1) := dk_42 (dk_at dksX21_begins_5 15 rfl rfl)
theorem dX21_begins_134 : decode cX21_begins 134 = .ok (.getfield 73, 3) := dk_180 0 73 (dk_at dksX21_begins_5 16 rfl rfl)
theorem dX21_begins_137 : decode cX21_begins 137 = .ok (.iload_n 2, 1) := dk_28 (dk_at dksX21_begins_5 19 rfl rfl)
theorem dX21_begins_138 : decode cX21_begins 138 = .ok (.iload 4, 2) := dk_21 4 (dk_at dksX21_begins_5 20 rfl rfl)
theorem dX21_begins_140 : decode cX21_begins 140 = .ok (.iastore, 1) := dk_79 (dk_at dksX21_begins_5 22 rfl rfl)
theorem dX21_begins_141 : decode cX21_begins 141 = .ok (.aload_n 0, 1) := dk_42 (dk_at dksX21_begins_5 23 rfl rfl)
theorem dX21_begins_142 : decode cX21_begins 142 = .ok (.iload_n 3, 1) := dk_29 (dk_at dksX21_begins_6 0 rfl rfl)
theorem dX21_begins_143 : decode cX21_begins 143 = .ok (.iconst 2, 1) := dk_5 (dk_at dksX21_begins_6 1 rfl rfl)
theorem dX21_begins_144 : decode cX21_begins 144 = .ok (.invokevirtual 209, 3) := dk_182 0 209 (dk_at dksX21_begins_6 2 rfl rfl)
theorem dX21_begins_147 : decode cX21_begins 147 = .ok (.aload_n 0, 1) := dk_42 (dk_at dksX21_begins_6 5 rfl rfl)
theorem dX21_begins_148 : decode cX21_begins 148 = .ok (.getfield 27, 3) := dk_180 0 27 (dk_at dksX21_begins_6 6 rfl rfl)
theorem dX21_begins_151 : decode cX21_begins 151 = .ok (.iload_n 3, 1) := dk_29 (dk_at dksX21_begins_6 9 rfl rfl)
theorem dX21_begins_152 : decode cX21_begins 152 = .ok (.aload_n 0, 1) := dk_42 (dk_at dksX21_begins_6 10 rfl rfl)
theorem dX21_begins_153 : decode cX21_begins 153 = .ok (.getfield 169, 3) := dk_180 0 169 (dk_at dksX21_begins_6 11 rfl rfl)
theorem dX21_begins_156 : decode cX21_begins 156 = .ok (.iastore, 1) := dk_79 (dk_at dksX21_begins_6 14 rfl rfl)
theorem dX21_begins_157 : decode cX21_begins 157 = .ok (.aload_n 0, 1) := dk_42 (dk_at dksX21_begins_6 15 rfl rfl)
theorem dX21_begins_158 : decode cX21_begins 158 = .ok (.getfield 30, 3) := dk_180 0 30 (dk_at dksX21_begins_6 16 rfl rfl)
theorem dX21_begins_161 : decode cX21_begins 161 = .ok (.iload_n 3, 1) := dk_29 (dk_at dksX21_begins_6 19 rfl rfl)
theorem dX21_begins_162 : decode cX21_begins 162 = .ok (.iload_n 1, 1) := dk_27 (dk_at dksX21_begins_6 20 rfl rfl)
theorem dX21_begins_163 : decode cX21_begins 163 = .ok (.iastore, 1) := dk_79 (dk_at dksX21_begins_6 21 rfl rfl)
theorem dX21_begins_164 : decode cX21_begins 164 = .ok (.aload_n 0, 1) := dk_42 (dk_at dksX21_begins_6 22 rfl rfl)
theorem dX21_begins_165 : decode cX21_begins 165 = .ok (.getfield 33, 3) := dk_180 0 33 (dk_at dksX21_begins_7 0 rfl rfl)
theorem dX21_begins_168 : decode cX21_begins 168 = .ok (.iload_n 3, 1) := dk_29 (dk_at dksX21_begins_7 3 rfl rfl)
theorem dX21_begins_169 : decode cX21_begins 169 = .ok (.iload 4, 2) := dk_21 4 (dk_at dksX21_begins_7 4 rfl rfl)
theorem dX21_begins_171 : decode cX21_begins 171 = .ok (.iastore, 1) := dk_79 (dk_at dksX21_begins_7 6 rfl rfl)
theorem dX21_begins_172 : decode cX21_begins 172 = .ok (.aload_n 0, 1) := dk_42 (dk_at dksX21_begins_7 7 rfl rfl)
theorem dX21_begins_173 : decode cX21_begins 173 = .ok (.getfield 45, 3) := dk_180 0 45 (dk_at dksX21_begins_7 8 rfl rfl)
theorem dX21_begins_176 : decode cX21_begins 176 = .ok (.aload_n 0, 1) := dk_42 (dk_at dksX21_begins_7 11 rfl rfl)
theorem dX21_begins_177 : decode cX21_begins 177 = .ok (.getfield 172, 3) := dk_180 0 172 (dk_at dksX21_begins_7 12 rfl rfl)
theorem dX21_begins_180 : decode cX21_begins 180 = .ok (.iload_n 3, 1) := dk_29 (dk_at dksX21_begins_7 15 rfl rfl)
theorem dX21_begins_181 : decode cX21_begins 181 = .ok (.iastore, 1) := dk_79 (dk_at dksX21_begins_7 16 rfl rfl)
theorem dX21_begins_182 : decode cX21_begins 182 = .ok (.aload_n 0, 1) := dk_42 (dk_at dksX21_begins_7 17 rfl rfl)
theorem dX21_begins_183 : decode cX21_begins 183 = .ok (.dup, 1) := dk_89 (dk_at dksX21_begins_7 18 rfl rfl)
theorem dX21_begins_184 : decode cX21_begins 184 = .ok (.getfield 172, 3) := dk_180 0 172 (dk_at dksX21_begins_7 19 rfl rfl)
theorem dX21_begins_187 : decode cX21_begins 187 = .ok (.iconst 1, 1) := dk_4 (dk_at dksX21_begins_7 22 rfl rfl)
theorem dX21_begins_188 : decode cX21_begins 188 = .ok (.iadd, 1) := dk_96 (dk_at dksX21_begins_7 23 rfl rfl)
theorem dX21_begins_189 : decode cX21_begins 189 = .ok (.putfield 172, 3) := dk_181 0 172 (dk_at dksX21_begins_8 0 rfl rfl)
theorem dX21_begins_192 : decode cX21_begins 192 = .ok (.return_, 1) := dk_177 (dk_at dksX21_begins_8 3 rfl rfl)
abbrev cX21_fate : ByteArray := prog_3_method_19_code
def yX21_fate : MethodName := ⟨RX21, "fate", "(I)I"⟩
def dkwX21_fate_2 : List UInt8 := [180, 0, 30, 27, 46, 16, 254, 160, 0, 7, 4, 167, 0, 4, 3, 172]
abbrev dktX21_fate_2 : List UInt8 := dkwX21_fate_2 ++ []
def dkwX21_fate_1 : List UInt8 := [42, 180, 0, 9, 27, 46, 4, 160, 0, 5, 6, 172, 42, 180, 0, 9, 27, 46, 154, 0, 5, 8, 172, 42]
abbrev dktX21_fate_1 : List UInt8 := dkwX21_fate_1 ++ dktX21_fate_2
def dkwX21_fate_0 : List UInt8 := [42, 180, 0, 9, 27, 46, 8, 160, 0, 5, 7, 172, 42, 180, 0, 9, 27, 46, 7, 160, 0, 5, 5, 172]
abbrev dktX21_fate_0 : List UInt8 := dkwX21_fate_0 ++ dktX21_fate_1
theorem dksX21_fate_0 : cX21_fate.data.toList.drop 0 = dktX21_fate_0 := by decide +kernel
theorem dksX21_fate_1 : cX21_fate.data.toList.drop 24 = dktX21_fate_1 := dk_seg dksX21_fate_0 24 rfl rfl
theorem dksX21_fate_2 : cX21_fate.data.toList.drop 48 = dktX21_fate_2 := dk_seg dksX21_fate_1 24 rfl rfl
theorem dX21_fate_0 : decode cX21_fate 0 = .ok (.aload_n 0, 1) := dk_42 (dk_at dksX21_fate_0 0 rfl rfl)
theorem dX21_fate_1 : decode cX21_fate 1 = .ok (.getfield 9, 3) := dk_180 0 9 (dk_at dksX21_fate_0 1 rfl rfl)
theorem dX21_fate_4 : decode cX21_fate 4 = .ok (.iload_n 1, 1) := dk_27 (dk_at dksX21_fate_0 4 rfl rfl)
theorem dX21_fate_5 : decode cX21_fate 5 = .ok (.iaload, 1) := dk_46 (dk_at dksX21_fate_0 5 rfl rfl)
theorem dX21_fate_6 : decode cX21_fate 6 = .ok (.iconst 5, 1) := dk_8 (dk_at dksX21_fate_0 6 rfl rfl)
theorem dX21_fate_7 : decode cX21_fate 7 = .ok (.if_icmp .ne 5, 3) := dk_160 0 5 (dk_at dksX21_fate_0 7 rfl rfl)
theorem dX21_fate_10 : decode cX21_fate 10 = .ok (.iconst 4, 1) := dk_7 (dk_at dksX21_fate_0 10 rfl rfl)
theorem dX21_fate_11 : decode cX21_fate 11 = .ok (.ireturn, 1) := dk_172 (dk_at dksX21_fate_0 11 rfl rfl)
theorem dX21_fate_12 : decode cX21_fate 12 = .ok (.aload_n 0, 1) := dk_42 (dk_at dksX21_fate_0 12 rfl rfl)
theorem dX21_fate_13 : decode cX21_fate 13 = .ok (.getfield 9, 3) := dk_180 0 9 (dk_at dksX21_fate_0 13 rfl rfl)
theorem dX21_fate_16 : decode cX21_fate 16 = .ok (.iload_n 1, 1) := dk_27 (dk_at dksX21_fate_0 16 rfl rfl)
theorem dX21_fate_17 : decode cX21_fate 17 = .ok (.iaload, 1) := dk_46 (dk_at dksX21_fate_0 17 rfl rfl)
theorem dX21_fate_18 : decode cX21_fate 18 = .ok (.iconst 4, 1) := dk_7 (dk_at dksX21_fate_0 18 rfl rfl)
theorem dX21_fate_19 : decode cX21_fate 19 = .ok (.if_icmp .ne 5, 3) := dk_160 0 5 (dk_at dksX21_fate_0 19 rfl rfl)
theorem dX21_fate_22 : decode cX21_fate 22 = .ok (.iconst 2, 1) := dk_5 (dk_at dksX21_fate_0 22 rfl rfl)
theorem dX21_fate_23 : decode cX21_fate 23 = .ok (.ireturn, 1) := dk_172 (dk_at dksX21_fate_0 23 rfl rfl)
theorem dX21_fate_24 : decode cX21_fate 24 = .ok (.aload_n 0, 1) := dk_42 (dk_at dksX21_fate_1 0 rfl rfl)
theorem dX21_fate_25 : decode cX21_fate 25 = .ok (.getfield 9, 3) := dk_180 0 9 (dk_at dksX21_fate_1 1 rfl rfl)
theorem dX21_fate_28 : decode cX21_fate 28 = .ok (.iload_n 1, 1) := dk_27 (dk_at dksX21_fate_1 4 rfl rfl)
theorem dX21_fate_29 : decode cX21_fate 29 = .ok (.iaload, 1) := dk_46 (dk_at dksX21_fate_1 5 rfl rfl)
theorem dX21_fate_30 : decode cX21_fate 30 = .ok (.iconst 1, 1) := dk_4 (dk_at dksX21_fate_1 6 rfl rfl)
theorem dX21_fate_31 : decode cX21_fate 31 = .ok (.if_icmp .ne 5, 3) := dk_160 0 5 (dk_at dksX21_fate_1 7 rfl rfl)
theorem dX21_fate_34 : decode cX21_fate 34 = .ok (.iconst 3, 1) := dk_6 (dk_at dksX21_fate_1 10 rfl rfl)
theorem dX21_fate_35 : decode cX21_fate 35 = .ok (.ireturn, 1) := dk_172 (dk_at dksX21_fate_1 11 rfl rfl)
theorem dX21_fate_36 : decode cX21_fate 36 = .ok (.aload_n 0, 1) := dk_42 (dk_at dksX21_fate_1 12 rfl rfl)
theorem dX21_fate_37 : decode cX21_fate 37 = .ok (.getfield 9, 3) := dk_180 0 9 (dk_at dksX21_fate_1 13 rfl rfl)
theorem dX21_fate_40 : decode cX21_fate 40 = .ok (.iload_n 1, 1) := dk_27 (dk_at dksX21_fate_1 16 rfl rfl)
theorem dX21_fate_41 : decode cX21_fate 41 = .ok (.iaload, 1) := dk_46 (dk_at dksX21_fate_1 17 rfl rfl)
theorem dX21_fate_42 : decode cX21_fate 42 = .ok (.ifCond .ne 5, 3) := dk_154 0 5 (dk_at dksX21_fate_1 18 rfl rfl)
theorem dX21_fate_45 : decode cX21_fate 45 = .ok (.iconst 5, 1) := dk_8 (dk_at dksX21_fate_1 21 rfl rfl)
theorem dX21_fate_46 : decode cX21_fate 46 = .ok (.ireturn, 1) := dk_172 (dk_at dksX21_fate_1 22 rfl rfl)
theorem dX21_fate_47 : decode cX21_fate 47 = .ok (.aload_n 0, 1) := dk_42 (dk_at dksX21_fate_1 23 rfl rfl)
theorem dX21_fate_48 : decode cX21_fate 48 = .ok (.getfield 30, 3) := dk_180 0 30 (dk_at dksX21_fate_2 0 rfl rfl)
theorem dX21_fate_51 : decode cX21_fate 51 = .ok (.iload_n 1, 1) := dk_27 (dk_at dksX21_fate_2 3 rfl rfl)
theorem dX21_fate_52 : decode cX21_fate 52 = .ok (.iaload, 1) := dk_46 (dk_at dksX21_fate_2 4 rfl rfl)
theorem dX21_fate_53 : decode cX21_fate 53 = .ok (.bipush (-2), 2) := dk_16 254 (dk_at dksX21_fate_2 5 rfl rfl)
theorem dX21_fate_55 : decode cX21_fate 55 = .ok (.if_icmp .ne 7, 3) := dk_160 0 7 (dk_at dksX21_fate_2 7 rfl rfl)
theorem dX21_fate_58 : decode cX21_fate 58 = .ok (.iconst 1, 1) := dk_4 (dk_at dksX21_fate_2 10 rfl rfl)
theorem dX21_fate_59 : decode cX21_fate 59 = .ok (.goto 4, 3) := dk_167 0 4 (dk_at dksX21_fate_2 11 rfl rfl)
theorem dX21_fate_62 : decode cX21_fate 62 = .ok (.iconst 0, 1) := dk_3 (dk_at dksX21_fate_2 14 rfl rfl)
theorem dX21_fate_63 : decode cX21_fate 63 = .ok (.ireturn, 1) := dk_172 (dk_at dksX21_fate_2 15 rfl rfl)
abbrev cX21_waits : ByteArray := prog_3_method_21_code
def yX21_waits : MethodName := ⟨RX21, "waits", "(I)I"⟩
def dkwX21_waits_2 : List UInt8 := [100, 167, 0, 22, 42, 180, 0, 9, 27, 46, 154, 0, 7, 3, 167, 0, 9, 42, 180, 0, 36, 27, 46, 172]
abbrev dktX21_waits_2 : List UInt8 := dkwX21_waits_2 ++ []
def dkwX21_waits_1 : List UInt8 := [160, 0, 28, 42, 180, 0, 101, 42, 180, 0, 79, 180, 0, 83, 27, 182, 0, 102, 192, 0, 106, 180, 0, 131]
abbrev dktX21_waits_1 : List UInt8 := dkwX21_waits_1 ++ dktX21_waits_2
def dkwX21_waits_0 : List UInt8 := [42, 180, 0, 9, 27, 46, 8, 160, 0, 8, 16, 254, 167, 0, 57, 42, 180, 0, 9, 27, 46, 4]
abbrev dktX21_waits_0 : List UInt8 := dkwX21_waits_0 ++ dktX21_waits_1
theorem dksX21_waits_0 : cX21_waits.data.toList.drop 0 = dktX21_waits_0 := by decide +kernel
theorem dksX21_waits_1 : cX21_waits.data.toList.drop 22 = dktX21_waits_1 := dk_seg dksX21_waits_0 22 rfl rfl
theorem dksX21_waits_2 : cX21_waits.data.toList.drop 46 = dktX21_waits_2 := dk_seg dksX21_waits_1 24 rfl rfl
theorem dX21_waits_0 : decode cX21_waits 0 = .ok (.aload_n 0, 1) := dk_42 (dk_at dksX21_waits_0 0 rfl rfl)
theorem dX21_waits_1 : decode cX21_waits 1 = .ok (.getfield 9, 3) := dk_180 0 9 (dk_at dksX21_waits_0 1 rfl rfl)
theorem dX21_waits_4 : decode cX21_waits 4 = .ok (.iload_n 1, 1) := dk_27 (dk_at dksX21_waits_0 4 rfl rfl)
theorem dX21_waits_5 : decode cX21_waits 5 = .ok (.iaload, 1) := dk_46 (dk_at dksX21_waits_0 5 rfl rfl)
theorem dX21_waits_6 : decode cX21_waits 6 = .ok (.iconst 5, 1) := dk_8 (dk_at dksX21_waits_0 6 rfl rfl)
theorem dX21_waits_7 : decode cX21_waits 7 = .ok (.if_icmp .ne 8, 3) := dk_160 0 8 (dk_at dksX21_waits_0 7 rfl rfl)
theorem dX21_waits_10 : decode cX21_waits 10 = .ok (.bipush (-2), 2) := dk_16 254 (dk_at dksX21_waits_0 10 rfl rfl)
theorem dX21_waits_12 : decode cX21_waits 12 = .ok (.goto 57, 3) := dk_167 0 57 (dk_at dksX21_waits_0 12 rfl rfl)
theorem dX21_waits_15 : decode cX21_waits 15 = .ok (.aload_n 0, 1) := dk_42 (dk_at dksX21_waits_0 15 rfl rfl)
theorem dX21_waits_16 : decode cX21_waits 16 = .ok (.getfield 9, 3) := dk_180 0 9 (dk_at dksX21_waits_0 16 rfl rfl)
theorem dX21_waits_19 : decode cX21_waits 19 = .ok (.iload_n 1, 1) := dk_27 (dk_at dksX21_waits_0 19 rfl rfl)
theorem dX21_waits_20 : decode cX21_waits 20 = .ok (.iaload, 1) := dk_46 (dk_at dksX21_waits_0 20 rfl rfl)
theorem dX21_waits_21 : decode cX21_waits 21 = .ok (.iconst 1, 1) := dk_4 (dk_at dksX21_waits_0 21 rfl rfl)
theorem dX21_waits_22 : decode cX21_waits 22 = .ok (.if_icmp .ne 28, 3) := dk_160 0 28 (dk_at dksX21_waits_1 0 rfl rfl)
theorem dX21_waits_25 : decode cX21_waits 25 = .ok (.aload_n 0, 1) := dk_42 (dk_at dksX21_waits_1 3 rfl rfl)
theorem dX21_waits_26 : decode cX21_waits 26 = .ok (.getfield 101, 3) := dk_180 0 101 (dk_at dksX21_waits_1 4 rfl rfl)
theorem dX21_waits_29 : decode cX21_waits 29 = .ok (.aload_n 0, 1) := dk_42 (dk_at dksX21_waits_1 7 rfl rfl)
theorem dX21_waits_30 : decode cX21_waits 30 = .ok (.getfield 79, 3) := dk_180 0 79 (dk_at dksX21_waits_1 8 rfl rfl)
theorem dX21_waits_33 : decode cX21_waits 33 = .ok (.getfield 83, 3) := dk_180 0 83 (dk_at dksX21_waits_1 11 rfl rfl)
theorem dX21_waits_36 : decode cX21_waits 36 = .ok (.iload_n 1, 1) := dk_27 (dk_at dksX21_waits_1 14 rfl rfl)
theorem dX21_waits_37 : decode cX21_waits 37 = .ok (.invokevirtual 102, 3) := dk_182 0 102 (dk_at dksX21_waits_1 15 rfl rfl)
theorem dX21_waits_40 : decode cX21_waits 40 = .ok (.checkcast 106, 3) := dk_192 0 106 (dk_at dksX21_waits_1 18 rfl rfl)
theorem dX21_waits_43 : decode cX21_waits 43 = .ok (.getfield 131, 3) := dk_180 0 131 (dk_at dksX21_waits_1 21 rfl rfl)
theorem dX21_waits_46 : decode cX21_waits 46 = .ok (.isub, 1) := dk_100 (dk_at dksX21_waits_2 0 rfl rfl)
theorem dX21_waits_47 : decode cX21_waits 47 = .ok (.goto 22, 3) := dk_167 0 22 (dk_at dksX21_waits_2 1 rfl rfl)
theorem dX21_waits_50 : decode cX21_waits 50 = .ok (.aload_n 0, 1) := dk_42 (dk_at dksX21_waits_2 4 rfl rfl)
theorem dX21_waits_51 : decode cX21_waits 51 = .ok (.getfield 9, 3) := dk_180 0 9 (dk_at dksX21_waits_2 5 rfl rfl)
theorem dX21_waits_54 : decode cX21_waits 54 = .ok (.iload_n 1, 1) := dk_27 (dk_at dksX21_waits_2 8 rfl rfl)
theorem dX21_waits_55 : decode cX21_waits 55 = .ok (.iaload, 1) := dk_46 (dk_at dksX21_waits_2 9 rfl rfl)
theorem dX21_waits_56 : decode cX21_waits 56 = .ok (.ifCond .ne 7, 3) := dk_154 0 7 (dk_at dksX21_waits_2 10 rfl rfl)
theorem dX21_waits_59 : decode cX21_waits 59 = .ok (.iconst 0, 1) := dk_3 (dk_at dksX21_waits_2 13 rfl rfl)
theorem dX21_waits_60 : decode cX21_waits 60 = .ok (.goto 9, 3) := dk_167 0 9 (dk_at dksX21_waits_2 14 rfl rfl)
theorem dX21_waits_63 : decode cX21_waits 63 = .ok (.aload_n 0, 1) := dk_42 (dk_at dksX21_waits_2 17 rfl rfl)
theorem dX21_waits_64 : decode cX21_waits 64 = .ok (.getfield 36, 3) := dk_180 0 36 (dk_at dksX21_waits_2 18 rfl rfl)
theorem dX21_waits_67 : decode cX21_waits 67 = .ok (.iload_n 1, 1) := dk_27 (dk_at dksX21_waits_2 21 rfl rfl)
theorem dX21_waits_68 : decode cX21_waits 68 = .ok (.iaload, 1) := dk_46 (dk_at dksX21_waits_2 22 rfl rfl)
theorem dX21_waits_69 : decode cX21_waits 69 = .ok (.ireturn, 1) := dk_172 (dk_at dksX21_waits_2 23 rfl rfl)
abbrev cX21_sum : ByteArray := prog_3_method_22_code
def yX21_sum : MethodName := ⟨RX21, "sum", "(I)I"⟩
def dkwX21_sum_7 : List UInt8 := [167, 255, 97, 28, 172]
abbrev dktX21_sum_7 : List UInt8 := dkwX21_sum_7 ++ []
def dkwX21_sum_6 : List UInt8 := [182, 0, 236, 153, 0, 14, 42, 180, 0, 79, 29, 182, 0, 246, 167, 0, 4, 3, 96, 61, 132, 3, 1]
abbrev dktX21_sum_6 : List UInt8 := dkwX21_sum_6 ++ dktX21_sum_7
def dkwX21_sum_5 : List UInt8 := [61, 167, 0, 41, 28, 42, 180, 0, 39, 29, 46, 184, 0, 243, 96, 61, 167, 0, 26, 28, 42, 29]
abbrev dktX21_sum_5 : List UInt8 := dkwX21_sum_5 ++ dktX21_sum_6
def dkwX21_sum_4 : List UInt8 := [160, 0, 7, 4, 167, 0, 4, 3, 96, 61, 167, 0, 56, 28, 3, 42, 29, 182, 0, 240, 184, 0, 199, 96]
abbrev dktX21_sum_4 : List UInt8 := dkwX21_sum_4 ++ dktX21_sum_5
def dkwX21_sum_3 : List UInt8 := [182, 0, 233, 5, 160, 0, 7, 4, 167, 0, 4, 3, 96, 61, 167, 0, 76, 28, 42, 29, 182, 0, 233, 6]
abbrev dktX21_sum_3 : List UInt8 := dkwX21_sum_3 ++ dktX21_sum_4
def dkwX21_sum_2 : List UInt8 := [28, 42, 29, 182, 0, 236, 153, 0, 7, 4, 167, 0, 4, 3, 96, 61, 167, 0, 96, 28, 42, 29]
abbrev dktX21_sum_2 : List UInt8 := dkwX21_sum_2 ++ dktX21_sum_3
def dkwX21_sum_1 : List UInt8 := [170, 0, 0, 0, 0, 0, 124, 0, 0, 0, 0, 0, 0, 0, 4, 0, 0, 0, 35, 0, 0, 0, 54, 0, 0, 0, 74, 0, 0, 0, 94, 0, 0, 0, 109]
abbrev dktX21_sum_1 : List UInt8 := dkwX21_sum_1 ++ dktX21_sum_2
def dkwX21_sum_0 : List UInt8 := [3, 61, 3, 62, 29, 42, 180, 0, 95, 162, 0, 157, 27]
abbrev dktX21_sum_0 : List UInt8 := dkwX21_sum_0 ++ dktX21_sum_1
theorem dksX21_sum_0 : cX21_sum.data.toList.drop 0 = dktX21_sum_0 := by decide +kernel
theorem dksX21_sum_1 : cX21_sum.data.toList.drop 13 = dktX21_sum_1 := dk_seg dksX21_sum_0 13 rfl rfl
theorem dksX21_sum_2 : cX21_sum.data.toList.drop 48 = dktX21_sum_2 := dk_seg dksX21_sum_1 35 rfl rfl
theorem dksX21_sum_3 : cX21_sum.data.toList.drop 70 = dktX21_sum_3 := dk_seg dksX21_sum_2 22 rfl rfl
theorem dksX21_sum_4 : cX21_sum.data.toList.drop 94 = dktX21_sum_4 := dk_seg dksX21_sum_3 24 rfl rfl
theorem dksX21_sum_5 : cX21_sum.data.toList.drop 118 = dktX21_sum_5 := dk_seg dksX21_sum_4 24 rfl rfl
theorem dksX21_sum_6 : cX21_sum.data.toList.drop 140 = dktX21_sum_6 := dk_seg dksX21_sum_5 22 rfl rfl
theorem dksX21_sum_7 : cX21_sum.data.toList.drop 163 = dktX21_sum_7 := dk_seg dksX21_sum_6 23 rfl rfl
theorem dX21_sum_0 : decode cX21_sum 0 = .ok (.iconst 0, 1) := dk_3 (dk_at dksX21_sum_0 0 rfl rfl)
theorem dX21_sum_1 : decode cX21_sum 1 = .ok (.istore_n 2, 1) := dk_61 (dk_at dksX21_sum_0 1 rfl rfl)
theorem dX21_sum_2 : decode cX21_sum 2 = .ok (.iconst 0, 1) := dk_3 (dk_at dksX21_sum_0 2 rfl rfl)
theorem dX21_sum_3 : decode cX21_sum 3 = .ok (.istore_n 3, 1) := dk_62 (dk_at dksX21_sum_0 3 rfl rfl)
theorem dX21_sum_4 : decode cX21_sum 4 = .ok (.iload_n 3, 1) := dk_29 (dk_at dksX21_sum_0 4 rfl rfl)
theorem dX21_sum_5 : decode cX21_sum 5 = .ok (.aload_n 0, 1) := dk_42 (dk_at dksX21_sum_0 5 rfl rfl)
theorem dX21_sum_6 : decode cX21_sum 6 = .ok (.getfield 95, 3) := dk_180 0 95 (dk_at dksX21_sum_0 6 rfl rfl)
theorem dX21_sum_9 : decode cX21_sum 9 = .ok (.if_icmp .ge 157, 3) := dk_162 0 157 (dk_at dksX21_sum_0 9 rfl rfl)
theorem dX21_sum_12 : decode cX21_sum 12 = .ok (.iload_n 1, 1) := dk_27 (dk_at dksX21_sum_0 12 rfl rfl)
theorem dX21_sum_13 : decode cX21_sum 13 = .ok (.tableswitch 124 0 4 #[35, 54, 74, 94, 109], 35) := by decide +kernel
theorem dX21_sum_48 : decode cX21_sum 48 = .ok (.iload_n 2, 1) := dk_28 (dk_at dksX21_sum_2 0 rfl rfl)
theorem dX21_sum_49 : decode cX21_sum 49 = .ok (.aload_n 0, 1) := dk_42 (dk_at dksX21_sum_2 1 rfl rfl)
theorem dX21_sum_50 : decode cX21_sum 50 = .ok (.iload_n 3, 1) := dk_29 (dk_at dksX21_sum_2 2 rfl rfl)
theorem dX21_sum_51 : decode cX21_sum 51 = .ok (.invokevirtual 236, 3) := dk_182 0 236 (dk_at dksX21_sum_2 3 rfl rfl)
theorem dX21_sum_54 : decode cX21_sum 54 = .ok (.ifCond .eq 7, 3) := dk_153 0 7 (dk_at dksX21_sum_2 6 rfl rfl)
theorem dX21_sum_57 : decode cX21_sum 57 = .ok (.iconst 1, 1) := dk_4 (dk_at dksX21_sum_2 9 rfl rfl)
theorem dX21_sum_58 : decode cX21_sum 58 = .ok (.goto 4, 3) := dk_167 0 4 (dk_at dksX21_sum_2 10 rfl rfl)
theorem dX21_sum_61 : decode cX21_sum 61 = .ok (.iconst 0, 1) := dk_3 (dk_at dksX21_sum_2 13 rfl rfl)
theorem dX21_sum_62 : decode cX21_sum 62 = .ok (.iadd, 1) := dk_96 (dk_at dksX21_sum_2 14 rfl rfl)
theorem dX21_sum_63 : decode cX21_sum 63 = .ok (.istore_n 2, 1) := dk_61 (dk_at dksX21_sum_2 15 rfl rfl)
theorem dX21_sum_64 : decode cX21_sum 64 = .ok (.goto 96, 3) := dk_167 0 96 (dk_at dksX21_sum_2 16 rfl rfl)
theorem dX21_sum_67 : decode cX21_sum 67 = .ok (.iload_n 2, 1) := dk_28 (dk_at dksX21_sum_2 19 rfl rfl)
theorem dX21_sum_68 : decode cX21_sum 68 = .ok (.aload_n 0, 1) := dk_42 (dk_at dksX21_sum_2 20 rfl rfl)
theorem dX21_sum_69 : decode cX21_sum 69 = .ok (.iload_n 3, 1) := dk_29 (dk_at dksX21_sum_2 21 rfl rfl)
theorem dX21_sum_70 : decode cX21_sum 70 = .ok (.invokevirtual 233, 3) := dk_182 0 233 (dk_at dksX21_sum_3 0 rfl rfl)
theorem dX21_sum_73 : decode cX21_sum 73 = .ok (.iconst 2, 1) := dk_5 (dk_at dksX21_sum_3 3 rfl rfl)
theorem dX21_sum_74 : decode cX21_sum 74 = .ok (.if_icmp .ne 7, 3) := dk_160 0 7 (dk_at dksX21_sum_3 4 rfl rfl)
theorem dX21_sum_77 : decode cX21_sum 77 = .ok (.iconst 1, 1) := dk_4 (dk_at dksX21_sum_3 7 rfl rfl)
theorem dX21_sum_78 : decode cX21_sum 78 = .ok (.goto 4, 3) := dk_167 0 4 (dk_at dksX21_sum_3 8 rfl rfl)
theorem dX21_sum_81 : decode cX21_sum 81 = .ok (.iconst 0, 1) := dk_3 (dk_at dksX21_sum_3 11 rfl rfl)
theorem dX21_sum_82 : decode cX21_sum 82 = .ok (.iadd, 1) := dk_96 (dk_at dksX21_sum_3 12 rfl rfl)
theorem dX21_sum_83 : decode cX21_sum 83 = .ok (.istore_n 2, 1) := dk_61 (dk_at dksX21_sum_3 13 rfl rfl)
theorem dX21_sum_84 : decode cX21_sum 84 = .ok (.goto 76, 3) := dk_167 0 76 (dk_at dksX21_sum_3 14 rfl rfl)
theorem dX21_sum_87 : decode cX21_sum 87 = .ok (.iload_n 2, 1) := dk_28 (dk_at dksX21_sum_3 17 rfl rfl)
theorem dX21_sum_88 : decode cX21_sum 88 = .ok (.aload_n 0, 1) := dk_42 (dk_at dksX21_sum_3 18 rfl rfl)
theorem dX21_sum_89 : decode cX21_sum 89 = .ok (.iload_n 3, 1) := dk_29 (dk_at dksX21_sum_3 19 rfl rfl)
theorem dX21_sum_90 : decode cX21_sum 90 = .ok (.invokevirtual 233, 3) := dk_182 0 233 (dk_at dksX21_sum_3 20 rfl rfl)
theorem dX21_sum_93 : decode cX21_sum 93 = .ok (.iconst 3, 1) := dk_6 (dk_at dksX21_sum_3 23 rfl rfl)
theorem dX21_sum_94 : decode cX21_sum 94 = .ok (.if_icmp .ne 7, 3) := dk_160 0 7 (dk_at dksX21_sum_4 0 rfl rfl)
theorem dX21_sum_97 : decode cX21_sum 97 = .ok (.iconst 1, 1) := dk_4 (dk_at dksX21_sum_4 3 rfl rfl)
theorem dX21_sum_98 : decode cX21_sum 98 = .ok (.goto 4, 3) := dk_167 0 4 (dk_at dksX21_sum_4 4 rfl rfl)
theorem dX21_sum_101 : decode cX21_sum 101 = .ok (.iconst 0, 1) := dk_3 (dk_at dksX21_sum_4 7 rfl rfl)
theorem dX21_sum_102 : decode cX21_sum 102 = .ok (.iadd, 1) := dk_96 (dk_at dksX21_sum_4 8 rfl rfl)
theorem dX21_sum_103 : decode cX21_sum 103 = .ok (.istore_n 2, 1) := dk_61 (dk_at dksX21_sum_4 9 rfl rfl)
theorem dX21_sum_104 : decode cX21_sum 104 = .ok (.goto 56, 3) := dk_167 0 56 (dk_at dksX21_sum_4 10 rfl rfl)
theorem dX21_sum_107 : decode cX21_sum 107 = .ok (.iload_n 2, 1) := dk_28 (dk_at dksX21_sum_4 13 rfl rfl)
theorem dX21_sum_108 : decode cX21_sum 108 = .ok (.iconst 0, 1) := dk_3 (dk_at dksX21_sum_4 14 rfl rfl)
theorem dX21_sum_109 : decode cX21_sum 109 = .ok (.aload_n 0, 1) := dk_42 (dk_at dksX21_sum_4 15 rfl rfl)
theorem dX21_sum_110 : decode cX21_sum 110 = .ok (.iload_n 3, 1) := dk_29 (dk_at dksX21_sum_4 16 rfl rfl)
theorem dX21_sum_111 : decode cX21_sum 111 = .ok (.invokevirtual 240, 3) := dk_182 0 240 (dk_at dksX21_sum_4 17 rfl rfl)
theorem dX21_sum_114 : decode cX21_sum 114 = .ok (.invokestatic 199, 3) := dk_184 0 199 (dk_at dksX21_sum_4 20 rfl rfl)
theorem dX21_sum_117 : decode cX21_sum 117 = .ok (.iadd, 1) := dk_96 (dk_at dksX21_sum_4 23 rfl rfl)
theorem dX21_sum_118 : decode cX21_sum 118 = .ok (.istore_n 2, 1) := dk_61 (dk_at dksX21_sum_5 0 rfl rfl)
theorem dX21_sum_119 : decode cX21_sum 119 = .ok (.goto 41, 3) := dk_167 0 41 (dk_at dksX21_sum_5 1 rfl rfl)
theorem dX21_sum_122 : decode cX21_sum 122 = .ok (.iload_n 2, 1) := dk_28 (dk_at dksX21_sum_5 4 rfl rfl)
theorem dX21_sum_123 : decode cX21_sum 123 = .ok (.aload_n 0, 1) := dk_42 (dk_at dksX21_sum_5 5 rfl rfl)
theorem dX21_sum_124 : decode cX21_sum 124 = .ok (.getfield 39, 3) := dk_180 0 39 (dk_at dksX21_sum_5 6 rfl rfl)
theorem dX21_sum_127 : decode cX21_sum 127 = .ok (.iload_n 3, 1) := dk_29 (dk_at dksX21_sum_5 9 rfl rfl)
theorem dX21_sum_128 : decode cX21_sum 128 = .ok (.iaload, 1) := dk_46 (dk_at dksX21_sum_5 10 rfl rfl)
theorem dX21_sum_129 : decode cX21_sum 129 = .ok (.invokestatic 243, 3) := dk_184 0 243 (dk_at dksX21_sum_5 11 rfl rfl)
theorem dX21_sum_132 : decode cX21_sum 132 = .ok (.iadd, 1) := dk_96 (dk_at dksX21_sum_5 14 rfl rfl)
theorem dX21_sum_133 : decode cX21_sum 133 = .ok (.istore_n 2, 1) := dk_61 (dk_at dksX21_sum_5 15 rfl rfl)
theorem dX21_sum_134 : decode cX21_sum 134 = .ok (.goto 26, 3) := dk_167 0 26 (dk_at dksX21_sum_5 16 rfl rfl)
theorem dX21_sum_137 : decode cX21_sum 137 = .ok (.iload_n 2, 1) := dk_28 (dk_at dksX21_sum_5 19 rfl rfl)
theorem dX21_sum_138 : decode cX21_sum 138 = .ok (.aload_n 0, 1) := dk_42 (dk_at dksX21_sum_5 20 rfl rfl)
theorem dX21_sum_139 : decode cX21_sum 139 = .ok (.iload_n 3, 1) := dk_29 (dk_at dksX21_sum_5 21 rfl rfl)
theorem dX21_sum_140 : decode cX21_sum 140 = .ok (.invokevirtual 236, 3) := dk_182 0 236 (dk_at dksX21_sum_6 0 rfl rfl)
theorem dX21_sum_143 : decode cX21_sum 143 = .ok (.ifCond .eq 14, 3) := dk_153 0 14 (dk_at dksX21_sum_6 3 rfl rfl)
theorem dX21_sum_146 : decode cX21_sum 146 = .ok (.aload_n 0, 1) := dk_42 (dk_at dksX21_sum_6 6 rfl rfl)
theorem dX21_sum_147 : decode cX21_sum 147 = .ok (.getfield 79, 3) := dk_180 0 79 (dk_at dksX21_sum_6 7 rfl rfl)
theorem dX21_sum_150 : decode cX21_sum 150 = .ok (.iload_n 3, 1) := dk_29 (dk_at dksX21_sum_6 10 rfl rfl)
theorem dX21_sum_151 : decode cX21_sum 151 = .ok (.invokevirtual 246, 3) := dk_182 0 246 (dk_at dksX21_sum_6 11 rfl rfl)
theorem dX21_sum_154 : decode cX21_sum 154 = .ok (.goto 4, 3) := dk_167 0 4 (dk_at dksX21_sum_6 14 rfl rfl)
theorem dX21_sum_157 : decode cX21_sum 157 = .ok (.iconst 0, 1) := dk_3 (dk_at dksX21_sum_6 17 rfl rfl)
theorem dX21_sum_158 : decode cX21_sum 158 = .ok (.iadd, 1) := dk_96 (dk_at dksX21_sum_6 18 rfl rfl)
theorem dX21_sum_159 : decode cX21_sum 159 = .ok (.istore_n 2, 1) := dk_61 (dk_at dksX21_sum_6 19 rfl rfl)
theorem dX21_sum_160 : decode cX21_sum 160 = .ok (.iinc 3 1, 3) := dk_132 3 1 (dk_at dksX21_sum_6 20 rfl rfl)
theorem dX21_sum_163 : decode cX21_sum 163 = .ok (.goto (-159), 3) := dk_167 255 97 (dk_at dksX21_sum_7 0 rfl rfl)
theorem dX21_sum_166 : decode cX21_sum 166 = .ok (.iload_n 2, 1) := dk_28 (dk_at dksX21_sum_7 3 rfl rfl)
theorem dX21_sum_167 : decode cX21_sum 167 = .ok (.ireturn, 1) := dk_172 (dk_at dksX21_sum_7 4 rfl rfl)
abbrev cX21_hasIt : ByteArray := prog_3_method_20_code
def yX21_hasIt : MethodName := ⟨RX21, "hasIt", "(I)Z"⟩
def dkwX21_hasIt_0 : List UInt8 := [42, 27, 182, 0, 233, 5, 162, 0, 7, 4, 167, 0, 4, 3, 172]
abbrev dktX21_hasIt_0 : List UInt8 := dkwX21_hasIt_0 ++ []
theorem dksX21_hasIt_0 : cX21_hasIt.data.toList.drop 0 = dktX21_hasIt_0 := by decide +kernel
theorem dX21_hasIt_0 : decode cX21_hasIt 0 = .ok (.aload_n 0, 1) := dk_42 (dk_at dksX21_hasIt_0 0 rfl rfl)
theorem dX21_hasIt_1 : decode cX21_hasIt 1 = .ok (.iload_n 1, 1) := dk_27 (dk_at dksX21_hasIt_0 1 rfl rfl)
theorem dX21_hasIt_2 : decode cX21_hasIt 2 = .ok (.invokevirtual 233, 3) := dk_182 0 233 (dk_at dksX21_hasIt_0 2 rfl rfl)
theorem dX21_hasIt_5 : decode cX21_hasIt 5 = .ok (.iconst 2, 1) := dk_5 (dk_at dksX21_hasIt_0 5 rfl rfl)
theorem dX21_hasIt_6 : decode cX21_hasIt 6 = .ok (.if_icmp .ge 7, 3) := dk_162 0 7 (dk_at dksX21_hasIt_0 6 rfl rfl)
theorem dX21_hasIt_9 : decode cX21_hasIt 9 = .ok (.iconst 1, 1) := dk_4 (dk_at dksX21_hasIt_0 9 rfl rfl)
theorem dX21_hasIt_10 : decode cX21_hasIt 10 = .ok (.goto 4, 3) := dk_167 0 4 (dk_at dksX21_hasIt_0 10 rfl rfl)
theorem dX21_hasIt_13 : decode cX21_hasIt 13 = .ok (.iconst 0, 1) := dk_3 (dk_at dksX21_hasIt_0 13 rfl rfl)
theorem dX21_hasIt_14 : decode cX21_hasIt 14 = .ok (.ireturn, 1) := dk_172 (dk_at dksX21_hasIt_0 14 rfl rfl)
theorem q157 : (Jvm.Cond.initialized "NextAtBar$Ba\x72") ∈ lw_all := lw_g (lw_at lw_m1 35 rfl) rfl
theorem q315 : (Jvm.Cond.fieldLink "NextAtBar$Ba\x72" (98 : Nat) "NextAtBar$House" "bell" "I") ∈ lw_all := lw_g (lw_at lw_m1 193 rfl) rfl
theorem q324 : (Jvm.Cond.fieldLink "NextAtBar$Ba\x72" (122 : Nat) "NextAtBar$House" "staff" "Ljava/util/ArrayList;") ∈ lw_all := lw_g (lw_at lw_m1 202 rfl) rfl
theorem q328 : (Jvm.Cond.fieldLink "NextAtBar$Ba\x72" (83 : Nat) "NextAtBar$House" "people" "Ljava/util/ArrayList;") ∈ lw_all := lw_g (lw_at lw_m1 206 rfl) rfl
theorem q808 : (Jvm.Cond.selects "NextAtBar$Ba\x72" ({ cls := "java/lang/Object", name := "getClass", desc := "()Ljava/lang/Class;" } : Jvm.MethodName) ({ cls := "java/lang/Object", name := "getClass", desc := "()Ljava/lang/Class;" } : Jvm.MethodName)) ∈ lw_all := lw_g (lw_at lw_m3 206 rfl) rfl
theorem q905 : (Jvm.Cond.fieldLink "NextAtBar$Ba\x72" (144 : Nat) "NextAtBar$Serve\x72" "rule" "LNextAtBar$Rule;") ∈ lw_all := lw_g (lw_at lw_m4 63 rfl) rfl
theorem q906 : (Jvm.Cond.fieldLink "NextAtBar$Ba\x72" (147 : Nat) "NextAtBar$Serve\x72" "at" "I") ∈ lw_all := lw_g (lw_at lw_m4 64 rfl) rfl
theorem q909 : (Jvm.Cond.fieldLink "NextAtBar$Ba\x72" (148 : Nat) "NextAtBar$Serve\x72" "from" "I") ∈ lw_all := lw_g (lw_at lw_m4 67 rfl) rfl
theorem q911 : (Jvm.Cond.fieldLink "NextAtBar$Ba\x72" (150 : Nat) "NextAtBar$Serve\x72" "to" "I") ∈ lw_all := lw_g (lw_at lw_m4 69 rfl) rfl
theorem q914 : (Jvm.Cond.fieldLink "NextAtBar$Ba\x72" (152 : Nat) "NextAtBar$Serve\x72" "step" "I") ∈ lw_all := lw_g (lw_at lw_m4 72 rfl) rfl
theorem q917 : (Jvm.Cond.fieldLink "NextAtBar$Ba\x72" (154 : Nat) "NextAtBar$Serve\x72" "hands" "I") ∈ lw_all := lw_g (lw_at lw_m4 75 rfl) rfl
theorem q979 : (Jvm.Cond.fieldLink "NextAtBar$Ba\x72" (114 : Nat) "NextAtBar$Person" "manne\x72" "LNextAtBar$Manner;") ∈ lw_all := lw_g (lw_at lw_m4 137 rfl) rfl
theorem q986 : (Jvm.Cond.fieldLink "NextAtBar$Ba\x72" (131 : Nat) "NextAtBar$Person" "comes" "I") ∈ lw_all := lw_g (lw_at lw_m4 144 rfl) rfl
theorem q989 : (Jvm.Cond.fieldLink "NextAtBar$Ba\x72" (108 : Nat) "NextAtBar$Person" "at" "I") ∈ lw_all := lw_g (lw_at lw_m4 147 rfl) rfl
theorem q992 : (Jvm.Cond.fieldLink "NextAtBar$Ba\x72" (213 : Nat) "NextAtBar$Person" "patience" "I") ∈ lw_all := lw_g (lw_at lw_m4 150 rfl) rfl
theorem q995 : (Jvm.Cond.fieldLink "NextAtBar$Ba\x72" (110 : Nat) "NextAtBar$Person" "look" "I") ∈ lw_all := lw_g (lw_at lw_m4 153 rfl) rfl
theorem q999 : (Jvm.Cond.fieldLink "NextAtBar$Ba\x72" (112 : Nat) "NextAtBar$Person" "shelf" "I") ∈ lw_all := lw_g (lw_at lw_m4 157 rfl) rfl
theorem q1079 : (Jvm.Cond.instantiable "NextAtBar$Ba\x72" (27 : Nat)) ∈ lw_all := lw_g (lw_at lw_m4 237 rfl) rfl
theorem q1081 : (Jvm.Cond.instanceMethod ({ cls := "NextAtBar$Ba\x72", name := "<init>", desc := "(LNextAtBar$House;)V" } : Jvm.MethodName)) ∈ lw_all := lw_g (lw_at lw_m4 239 rfl) rfl
theorem q1082 : (Jvm.Cond.code ({ cls := "NextAtBar$Ba\x72", name := "<init>", desc := "(LNextAtBar$House;)V" } : Jvm.MethodName) prog_3_method_1_code (4 : Nat) (Option.none : Option Jvm.ClassFile.FieldType)) ∈ lw_all := lw_g (lw_at lw_m5 0 rfl) rfl
theorem q1083 : (Jvm.Cond.methodLink "NextAtBar$Ba\x72" (3 : Nat) ({ cls := "java/lang/Object", name := "<init>", desc := "()V" } : Jvm.MethodName)) ∈ lw_all := lw_g (lw_at lw_m5 1 rfl) rfl
theorem q1084 : (Jvm.Cond.classLink "NextAtBar$Ba\x72" (52 : Nat) "NextAtBar$Rule") ∈ lw_all := lw_g (lw_at lw_m5 2 rfl) rfl
theorem q1086 : (Jvm.Cond.methodLink "NextAtBar$Ba\x72" (89 : Nat) ({ cls := "java/util/ArrayList", name := "size", desc := "()I" } : Jvm.MethodName)) ∈ lw_all := lw_g (lw_at lw_m5 4 rfl) rfl
theorem q1087 : (Jvm.Cond.methodLink "NextAtBar$Ba\x72" (102 : Nat) ({ cls := "java/util/ArrayList", name := "get", desc := "(I)Ljava/lang/Object;" } : Jvm.MethodName)) ∈ lw_all := lw_g (lw_at lw_m5 5 rfl) rfl
theorem q1088 : (Jvm.Cond.classLink "NextAtBar$Ba\x72" (106 : Nat) "NextAtBar$Person") ∈ lw_all := lw_g (lw_at lw_m5 6 rfl) rfl
theorem q1089 : (Jvm.Cond.methodLink "NextAtBar$Ba\x72" (118 : Nat) ({ cls := "NextAtBar$Ba\x72", name := "takesManne\x72", desc := "(ILNextAtBar$Manner;)V" } : Jvm.MethodName)) ∈ lw_all := lw_g (lw_at lw_m5 7 rfl) rfl
theorem q1090 : (Jvm.Cond.instanceMethod ({ cls := "NextAtBar$Ba\x72", name := "takesManne\x72", desc := "(ILNextAtBar$Manner;)V" } : Jvm.MethodName)) ∈ lw_all := lw_g (lw_at lw_m5 8 rfl) rfl
theorem q1091 : (Jvm.Cond.selects "NextAtBar$Ba\x72" ({ cls := "NextAtBar$Ba\x72", name := "takesManne\x72", desc := "(ILNextAtBar$Manner;)V" } : Jvm.MethodName) ({ cls := "NextAtBar$Ba\x72", name := "takesManne\x72", desc := "(ILNextAtBar$Manner;)V" } : Jvm.MethodName)) ∈ lw_all := lw_g (lw_at lw_m5 9 rfl) rfl
theorem q1092 : (Jvm.Cond.code ({ cls := "NextAtBar$Ba\x72", name := "takesManne\x72", desc := "(ILNextAtBar$Manner;)V" } : Jvm.MethodName) prog_3_method_2_code (3 : Nat) (Option.none : Option Jvm.ClassFile.FieldType)) ∈ lw_all := lw_g (lw_at lw_m5 10 rfl) rfl
theorem q1093 : (Jvm.Cond.methodLink "NextAtBar$Ba\x72" (134 : Nat) ({ cls := "NextAtBar$Manne\x72", name := "says", desc := "(I)I" } : Jvm.MethodName)) ∈ lw_all := lw_g (lw_at lw_m5 11 rfl) rfl
theorem q1107 : (Jvm.Cond.methodLink "NextAtBar$Ba\x72" (139 : Nat) ({ cls := "NextAtBar$Manne\x72", name := "isRegula\x72", desc := "()Z" } : Jvm.MethodName)) ∈ lw_all := lw_g (lw_at lw_m5 25 rfl) rfl
theorem q1117 : (Jvm.Cond.classLink "NextAtBar$Ba\x72" (125 : Nat) "NextAtBar$Serve\x72") ∈ lw_all := lw_g (lw_at lw_m5 35 rfl) rfl
theorem q1118 : (Jvm.Cond.methodLink "NextAtBar$Ba\x72" (127 : Nat) ({ cls := "NextAtBar$Ba\x72", name := "adds", desc := "(LNextAtBar$Server;)V" } : Jvm.MethodName)) ∈ lw_all := lw_g (lw_at lw_m5 36 rfl) rfl
theorem q1119 : (Jvm.Cond.instanceMethod ({ cls := "NextAtBar$Ba\x72", name := "adds", desc := "(LNextAtBar$Server;)V" } : Jvm.MethodName)) ∈ lw_all := lw_g (lw_at lw_m5 37 rfl) rfl
theorem q1120 : (Jvm.Cond.selects "NextAtBar$Ba\x72" ({ cls := "NextAtBar$Ba\x72", name := "adds", desc := "(LNextAtBar$Server;)V" } : Jvm.MethodName) ({ cls := "NextAtBar$Ba\x72", name := "adds", desc := "(LNextAtBar$Server;)V" } : Jvm.MethodName)) ∈ lw_all := lw_g (lw_at lw_m5 38 rfl) rfl
theorem q1121 : (Jvm.Cond.code ({ cls := "NextAtBar$Ba\x72", name := "adds", desc := "(LNextAtBar$Server;)V" } : Jvm.MethodName) prog_3_method_3_code (2 : Nat) (Option.none : Option Jvm.ClassFile.FieldType)) ∈ lw_all := lw_g (lw_at lw_m5 39 rfl) rfl
theorem q1122 : (Jvm.Cond.fieldLink "NextAtBar$Ba\x72" (79 : Nat) "NextAtBar$Ba\x72" "house" "LNextAtBar$House;") ∈ lw_all := lw_g (lw_at lw_m5 40 rfl) rfl
theorem q1123 : (Jvm.Cond.fieldLink "NextAtBar$Ba\x72" (95 : Nat) "NextAtBar$Ba\x72" "people" "I") ∈ lw_all := lw_g (lw_at lw_m5 41 rfl) rfl
theorem q1124 : (Jvm.Cond.fieldLink "NextAtBar$Ba\x72" (9 : Nat) "NextAtBar$Ba\x72" "does" "[I") ∈ lw_all := lw_g (lw_at lw_m5 42 rfl) rfl
theorem q1126 : (Jvm.Cond.fieldLink "NextAtBar$Ba\x72" (15 : Nat) "NextAtBar$Ba\x72" "place" "[I") ∈ lw_all := lw_g (lw_at lw_m5 44 rfl) rfl
theorem q1130 : (Jvm.Cond.fieldLink "NextAtBar$Ba\x72" (18 : Nat) "NextAtBar$Ba\x72" "look" "[I") ∈ lw_all := lw_g (lw_at lw_m5 48 rfl) rfl
theorem q1133 : (Jvm.Cond.fieldLink "NextAtBar$Ba\x72" (21 : Nat) "NextAtBar$Ba\x72" "says" "[I") ∈ lw_all := lw_g (lw_at lw_m5 51 rfl) rfl
theorem q1136 : (Jvm.Cond.fieldLink "NextAtBar$Ba\x72" (24 : Nat) "NextAtBar$Ba\x72" "shelf" "[I") ∈ lw_all := lw_g (lw_at lw_m5 54 rfl) rfl
theorem q1138 : (Jvm.Cond.fieldLink "NextAtBar$Ba\x72" (27 : Nat) "NextAtBar$Ba\x72" "begun" "[I") ∈ lw_all := lw_g (lw_at lw_m5 56 rfl) rfl
theorem q1140 : (Jvm.Cond.fieldLink "NextAtBar$Ba\x72" (30 : Nat) "NextAtBar$Ba\x72" "whom" "[I") ∈ lw_all := lw_g (lw_at lw_m5 58 rfl) rfl
theorem q1142 : (Jvm.Cond.fieldLink "NextAtBar$Ba\x72" (33 : Nat) "NextAtBar$Ba\x72" "had" "[I") ∈ lw_all := lw_g (lw_at lw_m5 60 rfl) rfl
theorem q1144 : (Jvm.Cond.fieldLink "NextAtBar$Ba\x72" (36 : Nat) "NextAtBar$Ba\x72" "wait" "[I") ∈ lw_all := lw_g (lw_at lw_m5 62 rfl) rfl
theorem q1145 : (Jvm.Cond.fieldLink "NextAtBar$Ba\x72" (39 : Nat) "NextAtBar$Ba\x72" "passed" "[I") ∈ lw_all := lw_g (lw_at lw_m5 63 rfl) rfl
theorem q1147 : (Jvm.Cond.fieldLink "NextAtBar$Ba\x72" (42 : Nat) "NextAtBar$Ba\x72" "pushed" "[I") ∈ lw_all := lw_g (lw_at lw_m5 65 rfl) rfl
theorem q1149 : (Jvm.Cond.fieldLink "NextAtBar$Ba\x72" (45 : Nat) "NextAtBar$Ba\x72" "served" "[I") ∈ lw_all := lw_g (lw_at lw_m5 67 rfl) rfl
theorem q1151 : (Jvm.Cond.fieldLink "NextAtBar$Ba\x72" (48 : Nat) "NextAtBar$Ba\x72" "isRegula\x72" "[Z") ∈ lw_all := lw_g (lw_at lw_m5 69 rfl) rfl
theorem q1153 : (Jvm.Cond.fieldLink "NextAtBar$Ba\x72" (54 : Nat) "NextAtBar$Ba\x72" "rule" "[LNextAtBar$Rule;") ∈ lw_all := lw_g (lw_at lw_m5 71 rfl) rfl
theorem q1155 : (Jvm.Cond.fieldLink "NextAtBar$Ba\x72" (58 : Nat) "NextAtBar$Ba\x72" "at" "[I") ∈ lw_all := lw_g (lw_at lw_m5 73 rfl) rfl
theorem q1159 : (Jvm.Cond.fieldLink "NextAtBar$Ba\x72" (61 : Nat) "NextAtBar$Ba\x72" "from" "[I") ∈ lw_all := lw_g (lw_at lw_m5 77 rfl) rfl
theorem q1161 : (Jvm.Cond.fieldLink "NextAtBar$Ba\x72" (64 : Nat) "NextAtBar$Ba\x72" "to" "[I") ∈ lw_all := lw_g (lw_at lw_m5 79 rfl) rfl
theorem q1163 : (Jvm.Cond.fieldLink "NextAtBar$Ba\x72" (67 : Nat) "NextAtBar$Ba\x72" "step" "[I") ∈ lw_all := lw_g (lw_at lw_m5 81 rfl) rfl
theorem q1164 : (Jvm.Cond.fieldLink "NextAtBar$Ba\x72" (70 : Nat) "NextAtBar$Ba\x72" "hands" "[I") ∈ lw_all := lw_g (lw_at lw_m5 82 rfl) rfl
theorem q1165 : (Jvm.Cond.fieldLink "NextAtBar$Ba\x72" (73 : Nat) "NextAtBar$Ba\x72" "busy" "[I") ∈ lw_all := lw_g (lw_at lw_m5 83 rfl) rfl
theorem q1167 : (Jvm.Cond.fieldLink "NextAtBar$Ba\x72" (76 : Nat) "NextAtBar$Ba\x72" "last" "[I") ∈ lw_all := lw_g (lw_at lw_m5 85 rfl) rfl
theorem q1169 : (Jvm.Cond.fieldLink "NextAtBar$Ba\x72" (142 : Nat) "NextAtBar$Ba\x72" "staff" "I") ∈ lw_all := lw_g (lw_at lw_m5 87 rfl) rfl
theorem q1171 : (Jvm.Cond.fieldLink "NextAtBar$Ba\x72" (169 : Nat) "NextAtBar$Ba\x72" "now" "I") ∈ lw_all := lw_g (lw_at lw_m5 89 rfl) rfl
theorem q1173 : (Jvm.Cond.fieldLink "NextAtBar$Ba\x72" (172 : Nat) "NextAtBar$Ba\x72" "many" "I") ∈ lw_all := lw_g (lw_at lw_m5 91 rfl) rfl
theorem q1175 : (Jvm.Cond.fieldLink "NextAtBar$Ba\x72" (101 : Nat) "NextAtBar$Ba\x72" "bell" "I") ∈ lw_all := lw_g (lw_at lw_m5 93 rfl) rfl
theorem q1177 : (Jvm.Cond.laysFinal "NextAtBar$Ba\x72" "NextAtBar$Ba\x72" "house" "LNextAtBar$House;") ∈ lw_all := lw_g (lw_at lw_m5 95 rfl) rfl
theorem q1178 : (Jvm.Cond.soleField "NextAtBar$Ba\x72" "house") ∈ lw_all := lw_g (lw_at lw_m5 96 rfl) rfl
theorem q1179 : (Jvm.Cond.laysFinal "NextAtBar$Ba\x72" "NextAtBar$Ba\x72" "people" "I") ∈ lw_all := lw_g (lw_at lw_m5 97 rfl) rfl
theorem q1180 : (Jvm.Cond.soleField "NextAtBar$Ba\x72" "people") ∈ lw_all := lw_g (lw_at lw_m5 98 rfl) rfl
theorem q1181 : (Jvm.Cond.laysFinal "NextAtBar$Ba\x72" "NextAtBar$Ba\x72" "does" "[I") ∈ lw_all := lw_g (lw_at lw_m5 99 rfl) rfl
theorem q1182 : (Jvm.Cond.soleField "NextAtBar$Ba\x72" "does") ∈ lw_all := lw_g (lw_at lw_m5 100 rfl) rfl
theorem q1183 : (Jvm.Cond.laysFinal "NextAtBar$Ba\x72" "NextAtBar$Ba\x72" "place" "[I") ∈ lw_all := lw_g (lw_at lw_m5 101 rfl) rfl
theorem q1184 : (Jvm.Cond.soleField "NextAtBar$Ba\x72" "place") ∈ lw_all := lw_g (lw_at lw_m5 102 rfl) rfl
theorem q1185 : (Jvm.Cond.laysFinal "NextAtBar$Ba\x72" "NextAtBar$Ba\x72" "look" "[I") ∈ lw_all := lw_g (lw_at lw_m5 103 rfl) rfl
theorem q1186 : (Jvm.Cond.soleField "NextAtBar$Ba\x72" "look") ∈ lw_all := lw_g (lw_at lw_m5 104 rfl) rfl
theorem q1187 : (Jvm.Cond.laysFinal "NextAtBar$Ba\x72" "NextAtBar$Ba\x72" "says" "[I") ∈ lw_all := lw_g (lw_at lw_m5 105 rfl) rfl
theorem q1188 : (Jvm.Cond.soleField "NextAtBar$Ba\x72" "says") ∈ lw_all := lw_g (lw_at lw_m5 106 rfl) rfl
theorem q1189 : (Jvm.Cond.laysFinal "NextAtBar$Ba\x72" "NextAtBar$Ba\x72" "shelf" "[I") ∈ lw_all := lw_g (lw_at lw_m5 107 rfl) rfl
theorem q1190 : (Jvm.Cond.soleField "NextAtBar$Ba\x72" "shelf") ∈ lw_all := lw_g (lw_at lw_m5 108 rfl) rfl
theorem q1191 : (Jvm.Cond.laysFinal "NextAtBar$Ba\x72" "NextAtBar$Ba\x72" "begun" "[I") ∈ lw_all := lw_g (lw_at lw_m5 109 rfl) rfl
theorem q1192 : (Jvm.Cond.soleField "NextAtBar$Ba\x72" "begun") ∈ lw_all := lw_g (lw_at lw_m5 110 rfl) rfl
theorem q1193 : (Jvm.Cond.laysFinal "NextAtBar$Ba\x72" "NextAtBar$Ba\x72" "whom" "[I") ∈ lw_all := lw_g (lw_at lw_m5 111 rfl) rfl
theorem q1194 : (Jvm.Cond.soleField "NextAtBar$Ba\x72" "whom") ∈ lw_all := lw_g (lw_at lw_m5 112 rfl) rfl
theorem q1195 : (Jvm.Cond.laysFinal "NextAtBar$Ba\x72" "NextAtBar$Ba\x72" "had" "[I") ∈ lw_all := lw_g (lw_at lw_m5 113 rfl) rfl
theorem q1196 : (Jvm.Cond.soleField "NextAtBar$Ba\x72" "had") ∈ lw_all := lw_g (lw_at lw_m5 114 rfl) rfl
theorem q1197 : (Jvm.Cond.laysFinal "NextAtBar$Ba\x72" "NextAtBar$Ba\x72" "wait" "[I") ∈ lw_all := lw_g (lw_at lw_m5 115 rfl) rfl
theorem q1198 : (Jvm.Cond.soleField "NextAtBar$Ba\x72" "wait") ∈ lw_all := lw_g (lw_at lw_m5 116 rfl) rfl
theorem q1199 : (Jvm.Cond.laysFinal "NextAtBar$Ba\x72" "NextAtBar$Ba\x72" "passed" "[I") ∈ lw_all := lw_g (lw_at lw_m5 117 rfl) rfl
theorem q1200 : (Jvm.Cond.soleField "NextAtBar$Ba\x72" "passed") ∈ lw_all := lw_g (lw_at lw_m5 118 rfl) rfl
theorem q1201 : (Jvm.Cond.laysFinal "NextAtBar$Ba\x72" "NextAtBar$Ba\x72" "pushed" "[I") ∈ lw_all := lw_g (lw_at lw_m5 119 rfl) rfl
theorem q1202 : (Jvm.Cond.soleField "NextAtBar$Ba\x72" "pushed") ∈ lw_all := lw_g (lw_at lw_m5 120 rfl) rfl
theorem q1203 : (Jvm.Cond.laysFinal "NextAtBar$Ba\x72" "NextAtBar$Ba\x72" "served" "[I") ∈ lw_all := lw_g (lw_at lw_m5 121 rfl) rfl
theorem q1204 : (Jvm.Cond.soleField "NextAtBar$Ba\x72" "served") ∈ lw_all := lw_g (lw_at lw_m5 122 rfl) rfl
theorem q1205 : (Jvm.Cond.laysFinal "NextAtBar$Ba\x72" "NextAtBar$Ba\x72" "isRegula\x72" "[Z") ∈ lw_all := lw_g (lw_at lw_m5 123 rfl) rfl
theorem q1206 : (Jvm.Cond.soleField "NextAtBar$Ba\x72" "isRegula\x72") ∈ lw_all := lw_g (lw_at lw_m5 124 rfl) rfl
theorem q1207 : (Jvm.Cond.laysFinal "NextAtBar$Ba\x72" "NextAtBar$Ba\x72" "rule" "[LNextAtBar$Rule;") ∈ lw_all := lw_g (lw_at lw_m5 125 rfl) rfl
theorem q1208 : (Jvm.Cond.soleField "NextAtBar$Ba\x72" "rule") ∈ lw_all := lw_g (lw_at lw_m5 126 rfl) rfl
theorem q1209 : (Jvm.Cond.laysFinal "NextAtBar$Ba\x72" "NextAtBar$Ba\x72" "at" "[I") ∈ lw_all := lw_g (lw_at lw_m5 127 rfl) rfl
theorem q1210 : (Jvm.Cond.soleField "NextAtBar$Ba\x72" "at") ∈ lw_all := lw_g (lw_at lw_m5 128 rfl) rfl
theorem q1211 : (Jvm.Cond.laysFinal "NextAtBar$Ba\x72" "NextAtBar$Ba\x72" "from" "[I") ∈ lw_all := lw_g (lw_at lw_m5 129 rfl) rfl
theorem q1212 : (Jvm.Cond.soleField "NextAtBar$Ba\x72" "from") ∈ lw_all := lw_g (lw_at lw_m5 130 rfl) rfl
theorem q1213 : (Jvm.Cond.laysFinal "NextAtBar$Ba\x72" "NextAtBar$Ba\x72" "to" "[I") ∈ lw_all := lw_g (lw_at lw_m5 131 rfl) rfl
theorem q1214 : (Jvm.Cond.soleField "NextAtBar$Ba\x72" "to") ∈ lw_all := lw_g (lw_at lw_m5 132 rfl) rfl
theorem q1215 : (Jvm.Cond.laysFinal "NextAtBar$Ba\x72" "NextAtBar$Ba\x72" "step" "[I") ∈ lw_all := lw_g (lw_at lw_m5 133 rfl) rfl
theorem q1216 : (Jvm.Cond.soleField "NextAtBar$Ba\x72" "step") ∈ lw_all := lw_g (lw_at lw_m5 134 rfl) rfl
theorem q1217 : (Jvm.Cond.laysFinal "NextAtBar$Ba\x72" "NextAtBar$Ba\x72" "hands" "[I") ∈ lw_all := lw_g (lw_at lw_m5 135 rfl) rfl
theorem q1218 : (Jvm.Cond.soleField "NextAtBar$Ba\x72" "hands") ∈ lw_all := lw_g (lw_at lw_m5 136 rfl) rfl
theorem q1219 : (Jvm.Cond.laysFinal "NextAtBar$Ba\x72" "NextAtBar$Ba\x72" "busy" "[I") ∈ lw_all := lw_g (lw_at lw_m5 137 rfl) rfl
theorem q1220 : (Jvm.Cond.soleField "NextAtBar$Ba\x72" "busy") ∈ lw_all := lw_g (lw_at lw_m5 138 rfl) rfl
theorem q1221 : (Jvm.Cond.laysFinal "NextAtBar$Ba\x72" "NextAtBar$Ba\x72" "last" "[I") ∈ lw_all := lw_g (lw_at lw_m5 139 rfl) rfl
theorem q1222 : (Jvm.Cond.soleField "NextAtBar$Ba\x72" "last") ∈ lw_all := lw_g (lw_at lw_m5 140 rfl) rfl
theorem q1223 : (Jvm.Cond.lays "NextAtBar$Ba\x72" "NextAtBar$Ba\x72" "staff" "I") ∈ lw_all := lw_g (lw_at lw_m5 141 rfl) rfl
theorem q1224 : (Jvm.Cond.soleField "NextAtBar$Ba\x72" "staff") ∈ lw_all := lw_g (lw_at lw_m5 142 rfl) rfl
theorem q1225 : (Jvm.Cond.lays "NextAtBar$Ba\x72" "NextAtBar$Ba\x72" "now" "I") ∈ lw_all := lw_g (lw_at lw_m5 143 rfl) rfl
theorem q1226 : (Jvm.Cond.soleField "NextAtBar$Ba\x72" "now") ∈ lw_all := lw_g (lw_at lw_m5 144 rfl) rfl
theorem q1227 : (Jvm.Cond.lays "NextAtBar$Ba\x72" "NextAtBar$Ba\x72" "many" "I") ∈ lw_all := lw_g (lw_at lw_m5 145 rfl) rfl
theorem q1228 : (Jvm.Cond.soleField "NextAtBar$Ba\x72" "many") ∈ lw_all := lw_g (lw_at lw_m5 146 rfl) rfl
theorem q1229 : (Jvm.Cond.lays "NextAtBar$Ba\x72" "NextAtBar$Ba\x72" "bell" "I") ∈ lw_all := lw_g (lw_at lw_m5 147 rfl) rfl
theorem q1230 : (Jvm.Cond.soleField "NextAtBar$Ba\x72" "bell") ∈ lw_all := lw_g (lw_at lw_m5 148 rfl) rfl
theorem q1231 : (Jvm.Cond.superclass "NextAtBar$Ba\x72" "java/lang/Object") ∈ lw_all := lw_g (lw_at lw_m5 149 rfl) rfl
theorem q1234 : (Jvm.Cond.instanceMethod ({ cls := "NextAtBar$Ba\x72", name := "copy", desc := "()LNextAtBar$Bar;" } : Jvm.MethodName)) ∈ lw_all := lw_g (lw_at lw_m5 152 rfl) rfl
theorem q1235 : (Jvm.Cond.selects "NextAtBar$Ba\x72" ({ cls := "NextAtBar$Ba\x72", name := "copy", desc := "()LNextAtBar$Bar;" } : Jvm.MethodName) ({ cls := "NextAtBar$Ba\x72", name := "copy", desc := "()LNextAtBar$Bar;" } : Jvm.MethodName)) ∈ lw_all := lw_g (lw_at lw_m5 153 rfl) rfl
theorem q1236 : (Jvm.Cond.code ({ cls := "NextAtBar$Ba\x72", name := "copy", desc := "()LNextAtBar$Bar;" } : Jvm.MethodName) prog_3_method_4_code (2 : Nat) (Option.some (Jvm.ClassFile.FieldType.object "NextAtBar$Ba\x72"))) ∈ lw_all := lw_g (lw_at lw_m5 154 rfl) rfl
theorem q1237 : (Jvm.Cond.classLink "NextAtBar$Ba\x72" (10 : Nat) "NextAtBar$Ba\x72") ∈ lw_all := lw_g (lw_at lw_m5 155 rfl) rfl
theorem q1238 : (Jvm.Cond.methodLink "NextAtBar$Ba\x72" (156 : Nat) ({ cls := "NextAtBar$Ba\x72", name := "<init>", desc := "(LNextAtBar$House;)V" } : Jvm.MethodName)) ∈ lw_all := lw_g (lw_at lw_m5 156 rfl) rfl
theorem q1239 : (Jvm.Cond.methodLink "NextAtBar$Ba\x72" (159 : Nat) ({ cls := "NextAtBar$Ba\x72", name := "takes", desc := "(LNextAtBar$Bar;)V" } : Jvm.MethodName)) ∈ lw_all := lw_g (lw_at lw_m5 157 rfl) rfl
theorem q1240 : (Jvm.Cond.instanceMethod ({ cls := "NextAtBar$Ba\x72", name := "takes", desc := "(LNextAtBar$Bar;)V" } : Jvm.MethodName)) ∈ lw_all := lw_g (lw_at lw_m5 158 rfl) rfl
theorem q1241 : (Jvm.Cond.selects "NextAtBar$Ba\x72" ({ cls := "NextAtBar$Ba\x72", name := "takes", desc := "(LNextAtBar$Bar;)V" } : Jvm.MethodName) ({ cls := "NextAtBar$Ba\x72", name := "takes", desc := "(LNextAtBar$Bar;)V" } : Jvm.MethodName)) ∈ lw_all := lw_g (lw_at lw_m5 159 rfl) rfl
theorem q1242 : (Jvm.Cond.code ({ cls := "NextAtBar$Ba\x72", name := "takes", desc := "(LNextAtBar$Bar;)V" } : Jvm.MethodName) prog_3_method_5_code (2 : Nat) (Option.none : Option Jvm.ClassFile.FieldType)) ∈ lw_all := lw_g (lw_at lw_m5 160 rfl) rfl
theorem q1243 : (Jvm.Cond.methodLink "NextAtBar$Ba\x72" (163 : Nat) ({ cls := "java/lang/System", name := "arraycopy", desc := "(Ljava/lang/Object;ILjava/lang/Object;II)V" } : Jvm.MethodName)) ∈ lw_all := lw_g (lw_at lw_m5 161 rfl) rfl
theorem q1274 : (Jvm.Cond.instanceMethod ({ cls := "NextAtBar$Ba\x72", name := "doesNow", desc := "(I)I" } : Jvm.MethodName)) ∈ lw_all := lw_g (lw_at lw_m5 192 rfl) rfl
theorem q1275 : (Jvm.Cond.selects "NextAtBar$Ba\x72" ({ cls := "NextAtBar$Ba\x72", name := "doesNow", desc := "(I)I" } : Jvm.MethodName) ({ cls := "NextAtBar$Ba\x72", name := "doesNow", desc := "(I)I" } : Jvm.MethodName)) ∈ lw_all := lw_g (lw_at lw_m5 193 rfl) rfl
theorem q1276 : (Jvm.Cond.code ({ cls := "NextAtBar$Ba\x72", name := "doesNow", desc := "(I)I" } : Jvm.MethodName) prog_3_method_18_code (2 : Nat) (Option.some Jvm.ClassFile.FieldType.int)) ∈ lw_all := lw_g (lw_at lw_m5 194 rfl) rfl
theorem q1286 : (Jvm.Cond.instanceMethod ({ cls := "NextAtBar$Ba\x72", name := "busyHands", desc := "(I)I" } : Jvm.MethodName)) ∈ lw_all := lw_g (lw_at lw_m5 204 rfl) rfl
theorem q1287 : (Jvm.Cond.selects "NextAtBar$Ba\x72" ({ cls := "NextAtBar$Ba\x72", name := "busyHands", desc := "(I)I" } : Jvm.MethodName) ({ cls := "NextAtBar$Ba\x72", name := "busyHands", desc := "(I)I" } : Jvm.MethodName)) ∈ lw_all := lw_g (lw_at lw_m5 205 rfl) rfl
theorem q1288 : (Jvm.Cond.code ({ cls := "NextAtBar$Ba\x72", name := "busyHands", desc := "(I)I" } : Jvm.MethodName) prog_3_method_10_code (4 : Nat) (Option.some Jvm.ClassFile.FieldType.int)) ∈ lw_all := lw_g (lw_at lw_m5 206 rfl) rfl
theorem q1290 : (Jvm.Cond.instanceMethod ({ cls := "NextAtBar$Ba\x72", name := "firstFree", desc := "(I)I" } : Jvm.MethodName)) ∈ lw_all := lw_g (lw_at lw_m5 208 rfl) rfl
theorem q1291 : (Jvm.Cond.selects "NextAtBar$Ba\x72" ({ cls := "NextAtBar$Ba\x72", name := "firstFree", desc := "(I)I" } : Jvm.MethodName) ({ cls := "NextAtBar$Ba\x72", name := "firstFree", desc := "(I)I" } : Jvm.MethodName)) ∈ lw_all := lw_g (lw_at lw_m5 209 rfl) rfl
theorem q1292 : (Jvm.Cond.code ({ cls := "NextAtBar$Ba\x72", name := "firstFree", desc := "(I)I" } : Jvm.MethodName) prog_3_method_11_code (4 : Nat) (Option.some Jvm.ClassFile.FieldType.int)) ∈ lw_all := lw_g (lw_at lw_m5 210 rfl) rfl
theorem q1293 : (Jvm.Cond.methodLink "NextAtBar$Ba\x72" (193 : Nat) ({ cls := "java/lang/Math", name := "min", desc := "(II)I" } : Jvm.MethodName)) ∈ lw_all := lw_g (lw_at lw_m5 211 rfl) rfl
theorem q1294 : (Jvm.Cond.methodLink "NextAtBar$Ba\x72" (199 : Nat) ({ cls := "java/lang/Math", name := "max", desc := "(II)I" } : Jvm.MethodName)) ∈ lw_all := lw_g (lw_at lw_m5 212 rfl) rfl
theorem q1316 : (Jvm.Cond.instanceMethod ({ cls := "NextAtBar$Ba\x72", name := "next", desc := "(I)I" } : Jvm.MethodName)) ∈ lw_all := lw_g (lw_at lw_m5 234 rfl) rfl
theorem q1317 : (Jvm.Cond.selects "NextAtBar$Ba\x72" ({ cls := "NextAtBar$Ba\x72", name := "next", desc := "(I)I" } : Jvm.MethodName) ({ cls := "NextAtBar$Ba\x72", name := "next", desc := "(I)I" } : Jvm.MethodName)) ∈ lw_all := lw_g (lw_at lw_m5 235 rfl) rfl
theorem q1318 : (Jvm.Cond.code ({ cls := "NextAtBar$Ba\x72", name := "next", desc := "(I)I" } : Jvm.MethodName) prog_3_method_7_code (4 : Nat) (Option.some Jvm.ClassFile.FieldType.int)) ∈ lw_all := lw_g (lw_at lw_m5 236 rfl) rfl
theorem q1319 : (Jvm.Cond.methodLink "NextAtBar$Ba\x72" (179 : Nat) ({ cls := "NextAtBar$Ba\x72", name := "isOnStretch", desc := "(II)Z" } : Jvm.MethodName)) ∈ lw_all := lw_g (lw_at lw_m5 237 rfl) rfl
theorem q1320 : (Jvm.Cond.instanceMethod ({ cls := "NextAtBar$Ba\x72", name := "isOnStretch", desc := "(II)Z" } : Jvm.MethodName)) ∈ lw_all := lw_g (lw_at lw_m5 238 rfl) rfl
theorem q1321 : (Jvm.Cond.selects "NextAtBar$Ba\x72" ({ cls := "NextAtBar$Ba\x72", name := "isOnStretch", desc := "(II)Z" } : Jvm.MethodName) ({ cls := "NextAtBar$Ba\x72", name := "isOnStretch", desc := "(II)Z" } : Jvm.MethodName)) ∈ lw_all := lw_g (lw_at lw_m5 239 rfl) rfl
theorem q1322 : (Jvm.Cond.code ({ cls := "NextAtBar$Ba\x72", name := "isOnStretch", desc := "(II)Z" } : Jvm.MethodName) prog_3_method_6_code (3 : Nat) (Option.some Jvm.ClassFile.FieldType.boolean)) ∈ lw_all := lw_g (lw_at lw_m6 0 rfl) rfl
theorem q1323 : (Jvm.Cond.methodLinkNest "NextAtBar$Ba\x72" (175 : Nat) ({ cls := "NextAtBa\x72", name := "in", desc := "(III)Z" } : Jvm.MethodName) "NextAtBa\x72") ∈ lw_tbl := lw_at lw_m6 1 rfl
theorem q1324 : (Jvm.Cond.methodLink "NextAtBar$Ba\x72" (183 : Nat) ({ cls := "NextAtBar$Ba\x72", name := "isSoone\x72", desc := "(III)Z" } : Jvm.MethodName)) ∈ lw_all := lw_g (lw_at lw_m6 2 rfl) rfl
theorem q1325 : (Jvm.Cond.privateMethod ({ cls := "NextAtBar$Ba\x72", name := "isSoone\x72", desc := "(III)Z" } : Jvm.MethodName)) ∈ lw_tbl := lw_at lw_m6 3 rfl
theorem q1326 : (Jvm.Cond.instanceMethod ({ cls := "NextAtBar$Ba\x72", name := "isSoone\x72", desc := "(III)Z" } : Jvm.MethodName)) ∈ lw_all := lw_g (lw_at lw_m6 4 rfl) rfl
theorem q1327 : (Jvm.Cond.code ({ cls := "NextAtBar$Ba\x72", name := "isSoone\x72", desc := "(III)Z" } : Jvm.MethodName) prog_3_method_8_code (6 : Nat) (Option.some Jvm.ClassFile.FieldType.boolean)) ∈ lw_all := lw_g (lw_at lw_m6 5 rfl) rfl
theorem q1328 : (Jvm.Cond.methodLink "NextAtBar$Ba\x72" (186 : Nat) ({ cls := "NextAtBar$Rule", name := "fa\x72", desc := "(LNextAtBar$Bar;II)I" } : Jvm.MethodName)) ∈ lw_all := lw_g (lw_at lw_m6 6 rfl) rfl
theorem q1349 : (Jvm.Cond.methodLink "NextAtBar$Ba\x72" (190 : Nat) ({ cls := "NextAtBar$House", name := "isAhead", desc := "(II)Z" } : Jvm.MethodName)) ∈ lw_all := lw_g (lw_at lw_m6 27 rfl) rfl
theorem q1362 : (Jvm.Cond.instanceMethod ({ cls := "NextAtBar$Ba\x72", name := "time", desc := "(II)I" } : Jvm.MethodName)) ∈ lw_all := lw_g (lw_at lw_m6 40 rfl) rfl
theorem q1363 : (Jvm.Cond.selects "NextAtBar$Ba\x72" ({ cls := "NextAtBar$Ba\x72", name := "time", desc := "(II)I" } : Jvm.MethodName) ({ cls := "NextAtBar$Ba\x72", name := "time", desc := "(II)I" } : Jvm.MethodName)) ∈ lw_all := lw_g (lw_at lw_m6 41 rfl) rfl
theorem q1364 : (Jvm.Cond.code ({ cls := "NextAtBar$Ba\x72", name := "time", desc := "(II)I" } : Jvm.MethodName) prog_3_method_12_code (3 : Nat) (Option.some Jvm.ClassFile.FieldType.int)) ∈ lw_all := lw_g (lw_at lw_m6 42 rfl) rfl
theorem q1365 : (Jvm.Cond.methodLink "NextAtBar$Ba\x72" (202 : Nat) ({ cls := "NextAtBar$House", name := "time", desc := "(II)I" } : Jvm.MethodName)) ∈ lw_all := lw_g (lw_at lw_m6 43 rfl) rfl
theorem q1391 : (Jvm.Cond.instanceMethod ({ cls := "NextAtBar$Ba\x72", name := "evening", desc := "()LNextAtBar$Bar;" } : Jvm.MethodName)) ∈ lw_all := lw_g (lw_at lw_m6 69 rfl) rfl
theorem q1392 : (Jvm.Cond.selects "NextAtBar$Ba\x72" ({ cls := "NextAtBar$Ba\x72", name := "evening", desc := "()LNextAtBar$Bar;" } : Jvm.MethodName) ({ cls := "NextAtBar$Ba\x72", name := "evening", desc := "()LNextAtBar$Bar;" } : Jvm.MethodName)) ∈ lw_all := lw_g (lw_at lw_m6 70 rfl) rfl
theorem q1393 : (Jvm.Cond.code ({ cls := "NextAtBar$Ba\x72", name := "evening", desc := "()LNextAtBar$Bar;" } : Jvm.MethodName) prog_3_method_17_code (1 : Nat) (Option.some (Jvm.ClassFile.FieldType.object "NextAtBar$Ba\x72"))) ∈ lw_all := lw_g (lw_at lw_m6 71 rfl) rfl
theorem q1394 : (Jvm.Cond.methodLink "NextAtBar$Ba\x72" (230 : Nat) ({ cls := "NextAtBar$Ba\x72", name := "goes", desc := "()V" } : Jvm.MethodName)) ∈ lw_all := lw_g (lw_at lw_m6 72 rfl) rfl
theorem q1395 : (Jvm.Cond.instanceMethod ({ cls := "NextAtBar$Ba\x72", name := "goes", desc := "()V" } : Jvm.MethodName)) ∈ lw_all := lw_g (lw_at lw_m6 73 rfl) rfl
theorem q1396 : (Jvm.Cond.selects "NextAtBar$Ba\x72" ({ cls := "NextAtBar$Ba\x72", name := "goes", desc := "()V" } : Jvm.MethodName) ({ cls := "NextAtBar$Ba\x72", name := "goes", desc := "()V" } : Jvm.MethodName)) ∈ lw_all := lw_g (lw_at lw_m6 74 rfl) rfl
theorem q1397 : (Jvm.Cond.code ({ cls := "NextAtBar$Ba\x72", name := "goes", desc := "()V" } : Jvm.MethodName) prog_3_method_15_code (2 : Nat) (Option.none : Option Jvm.ClassFile.FieldType)) ∈ lw_all := lw_g (lw_at lw_m6 75 rfl) rfl
theorem q1398 : (Jvm.Cond.methodLink "NextAtBar$Ba\x72" (209 : Nat) ({ cls := "NextAtBar$Ba\x72", name := "ends", desc := "(II)V" } : Jvm.MethodName)) ∈ lw_all := lw_g (lw_at lw_m6 76 rfl) rfl
theorem q1399 : (Jvm.Cond.privateMethod ({ cls := "NextAtBar$Ba\x72", name := "ends", desc := "(II)V" } : Jvm.MethodName)) ∈ lw_tbl := lw_at lw_m6 77 rfl
theorem q1400 : (Jvm.Cond.instanceMethod ({ cls := "NextAtBar$Ba\x72", name := "ends", desc := "(II)V" } : Jvm.MethodName)) ∈ lw_all := lw_g (lw_at lw_m6 78 rfl) rfl
theorem q1401 : (Jvm.Cond.code ({ cls := "NextAtBar$Ba\x72", name := "ends", desc := "(II)V" } : Jvm.MethodName) prog_3_method_14_code (3 : Nat) (Option.none : Option Jvm.ClassFile.FieldType)) ∈ lw_all := lw_g (lw_at lw_m6 79 rfl) rfl
theorem q1402 : (Jvm.Cond.methodLink "NextAtBar$Ba\x72" (216 : Nat) ({ cls := "NextAtBar$Ba\x72", name := "serves", desc := "(I)V" } : Jvm.MethodName)) ∈ lw_all := lw_g (lw_at lw_m6 80 rfl) rfl
theorem q1403 : (Jvm.Cond.privateMethod ({ cls := "NextAtBar$Ba\x72", name := "serves", desc := "(I)V" } : Jvm.MethodName)) ∈ lw_tbl := lw_at lw_m6 81 rfl
theorem q1404 : (Jvm.Cond.instanceMethod ({ cls := "NextAtBar$Ba\x72", name := "serves", desc := "(I)V" } : Jvm.MethodName)) ∈ lw_all := lw_g (lw_at lw_m6 82 rfl) rfl
theorem q1405 : (Jvm.Cond.code ({ cls := "NextAtBar$Ba\x72", name := "serves", desc := "(I)V" } : Jvm.MethodName) prog_3_method_16_code (4 : Nat) (Option.none : Option Jvm.ClassFile.FieldType)) ∈ lw_all := lw_g (lw_at lw_m6 83 rfl) rfl
theorem q1406 : (Jvm.Cond.methodLink "NextAtBar$Ba\x72" (220 : Nat) ({ cls := "NextAtBar$Ba\x72", name := "freeHand", desc := "(I)I" } : Jvm.MethodName)) ∈ lw_all := lw_g (lw_at lw_m6 84 rfl) rfl
theorem q1407 : (Jvm.Cond.privateMethod ({ cls := "NextAtBar$Ba\x72", name := "freeHand", desc := "(I)I" } : Jvm.MethodName)) ∈ lw_tbl := lw_at lw_m6 85 rfl
theorem q1408 : (Jvm.Cond.instanceMethod ({ cls := "NextAtBar$Ba\x72", name := "freeHand", desc := "(I)I" } : Jvm.MethodName)) ∈ lw_all := lw_g (lw_at lw_m6 86 rfl) rfl
theorem q1409 : (Jvm.Cond.code ({ cls := "NextAtBar$Ba\x72", name := "freeHand", desc := "(I)I" } : Jvm.MethodName) prog_3_method_9_code (3 : Nat) (Option.some Jvm.ClassFile.FieldType.int)) ∈ lw_all := lw_g (lw_at lw_m6 87 rfl) rfl
theorem q1410 : (Jvm.Cond.methodLink "NextAtBar$Ba\x72" (223 : Nat) ({ cls := "NextAtBar$Ba\x72", name := "next", desc := "(I)I" } : Jvm.MethodName)) ∈ lw_all := lw_g (lw_at lw_m6 88 rfl) rfl
theorem q1411 : (Jvm.Cond.methodLink "NextAtBar$Ba\x72" (226 : Nat) ({ cls := "NextAtBar$Ba\x72", name := "begins", desc := "(III)V" } : Jvm.MethodName)) ∈ lw_all := lw_g (lw_at lw_m6 89 rfl) rfl
theorem q1412 : (Jvm.Cond.privateMethod ({ cls := "NextAtBar$Ba\x72", name := "begins", desc := "(III)V" } : Jvm.MethodName)) ∈ lw_tbl := lw_at lw_m6 90 rfl
theorem q1413 : (Jvm.Cond.instanceMethod ({ cls := "NextAtBar$Ba\x72", name := "begins", desc := "(III)V" } : Jvm.MethodName)) ∈ lw_all := lw_g (lw_at lw_m6 91 rfl) rfl
theorem q1414 : (Jvm.Cond.code ({ cls := "NextAtBar$Ba\x72", name := "begins", desc := "(III)V" } : Jvm.MethodName) prog_3_method_13_code (5 : Nat) (Option.none : Option Jvm.ClassFile.FieldType)) ∈ lw_all := lw_g (lw_at lw_m6 92 rfl) rfl
theorem q1415 : (Jvm.Cond.methodLink "NextAtBar$Ba\x72" (205 : Nat) ({ cls := "java/lang/Math", name := "abs", desc := "(I)I" } : Jvm.MethodName)) ∈ lw_all := lw_g (lw_at lw_m6 93 rfl) rfl
theorem q1416 : (Jvm.Cond.methodLink "NextAtBar$Ba\x72" (208 : Nat) ({ cls := "NextAtBar$Ba\x72", name := "time", desc := "(II)I" } : Jvm.MethodName)) ∈ lw_all := lw_g (lw_at lw_m6 94 rfl) rfl
theorem q1418 : (Jvm.Cond.instanceMethod ({ cls := "NextAtBar$Ba\x72", name := "fate", desc := "(I)I" } : Jvm.MethodName)) ∈ lw_all := lw_g (lw_at lw_m6 96 rfl) rfl
theorem q1419 : (Jvm.Cond.selects "NextAtBar$Ba\x72" ({ cls := "NextAtBar$Ba\x72", name := "fate", desc := "(I)I" } : Jvm.MethodName) ({ cls := "NextAtBar$Ba\x72", name := "fate", desc := "(I)I" } : Jvm.MethodName)) ∈ lw_all := lw_g (lw_at lw_m6 97 rfl) rfl
theorem q1420 : (Jvm.Cond.code ({ cls := "NextAtBar$Ba\x72", name := "fate", desc := "(I)I" } : Jvm.MethodName) prog_3_method_19_code (2 : Nat) (Option.some Jvm.ClassFile.FieldType.int)) ∈ lw_all := lw_g (lw_at lw_m6 98 rfl) rfl
theorem q1426 : (Jvm.Cond.instanceMethod ({ cls := "NextAtBar$Ba\x72", name := "waits", desc := "(I)I" } : Jvm.MethodName)) ∈ lw_all := lw_g (lw_at lw_m6 104 rfl) rfl
theorem q1427 : (Jvm.Cond.selects "NextAtBar$Ba\x72" ({ cls := "NextAtBar$Ba\x72", name := "waits", desc := "(I)I" } : Jvm.MethodName) ({ cls := "NextAtBar$Ba\x72", name := "waits", desc := "(I)I" } : Jvm.MethodName)) ∈ lw_all := lw_g (lw_at lw_m6 105 rfl) rfl
theorem q1428 : (Jvm.Cond.code ({ cls := "NextAtBar$Ba\x72", name := "waits", desc := "(I)I" } : Jvm.MethodName) prog_3_method_21_code (2 : Nat) (Option.some Jvm.ClassFile.FieldType.int)) ∈ lw_all := lw_g (lw_at lw_m6 106 rfl) rfl
theorem q1450 : (Jvm.Cond.instanceMethod ({ cls := "NextAtBar$Ba\x72", name := "sum", desc := "(I)I" } : Jvm.MethodName)) ∈ lw_all := lw_g (lw_at lw_m6 128 rfl) rfl
theorem q1451 : (Jvm.Cond.selects "NextAtBar$Ba\x72" ({ cls := "NextAtBar$Ba\x72", name := "sum", desc := "(I)I" } : Jvm.MethodName) ({ cls := "NextAtBar$Ba\x72", name := "sum", desc := "(I)I" } : Jvm.MethodName)) ∈ lw_all := lw_g (lw_at lw_m6 129 rfl) rfl
theorem q1452 : (Jvm.Cond.code ({ cls := "NextAtBar$Ba\x72", name := "sum", desc := "(I)I" } : Jvm.MethodName) prog_3_method_22_code (4 : Nat) (Option.some Jvm.ClassFile.FieldType.int)) ∈ lw_all := lw_g (lw_at lw_m6 130 rfl) rfl
theorem q1453 : (Jvm.Cond.methodLink "NextAtBar$Ba\x72" (236 : Nat) ({ cls := "NextAtBar$Ba\x72", name := "hasIt", desc := "(I)Z" } : Jvm.MethodName)) ∈ lw_all := lw_g (lw_at lw_m6 131 rfl) rfl
theorem q1454 : (Jvm.Cond.instanceMethod ({ cls := "NextAtBar$Ba\x72", name := "hasIt", desc := "(I)Z" } : Jvm.MethodName)) ∈ lw_all := lw_g (lw_at lw_m6 132 rfl) rfl
theorem q1455 : (Jvm.Cond.selects "NextAtBar$Ba\x72" ({ cls := "NextAtBar$Ba\x72", name := "hasIt", desc := "(I)Z" } : Jvm.MethodName) ({ cls := "NextAtBar$Ba\x72", name := "hasIt", desc := "(I)Z" } : Jvm.MethodName)) ∈ lw_all := lw_g (lw_at lw_m6 133 rfl) rfl
theorem q1456 : (Jvm.Cond.code ({ cls := "NextAtBar$Ba\x72", name := "hasIt", desc := "(I)Z" } : Jvm.MethodName) prog_3_method_20_code (2 : Nat) (Option.some Jvm.ClassFile.FieldType.boolean)) ∈ lw_all := lw_g (lw_at lw_m6 134 rfl) rfl
theorem q1457 : (Jvm.Cond.methodLink "NextAtBar$Ba\x72" (233 : Nat) ({ cls := "NextAtBar$Ba\x72", name := "fate", desc := "(I)I" } : Jvm.MethodName)) ∈ lw_all := lw_g (lw_at lw_m6 135 rfl) rfl
theorem q1458 : (Jvm.Cond.methodLink "NextAtBar$Ba\x72" (240 : Nat) ({ cls := "NextAtBar$Ba\x72", name := "waits", desc := "(I)I" } : Jvm.MethodName)) ∈ lw_all := lw_g (lw_at lw_m6 136 rfl) rfl
theorem q1459 : (Jvm.Cond.methodLinkNest "NextAtBar$Ba\x72" (243 : Nat) ({ cls := "NextAtBa\x72", name := "bits", desc := "(I)I" } : Jvm.MethodName) "NextAtBa\x72") ∈ lw_tbl := lw_at lw_m6 137 rfl
theorem q1462 : (Jvm.Cond.methodLink "NextAtBar$Ba\x72" (246 : Nat) ({ cls := "NextAtBar$House", name := "costs", desc := "(I)I" } : Jvm.MethodName)) ∈ lw_all := lw_g (lw_at lw_m6 140 rfl) rfl
theorem q2531 : (Jvm.Cond.castable "NextAtBar$Ba\x72" "java/lang/Object") ∈ lw_tbl := lw_at lw_m11 9 rfl
theorem in_X21 : ∀ w ∈ wsX210, w ∈ lw_all := lw_in wsX210 [1177, 1179, 1181, 1183, 1185, 1187, 1189, 1191, 1193, 1195, 1197, 1199, 1201, 1203, 1205, 1207, 1209, 1211, 1213, 1215, 1217, 1219, 1221, 1223, 1225, 1227, 1229] (by decide +kernel) (by decide +kernel)
/-! NextAtBar$Orders -/
set_option maxRecDepth 100000
def RX22 : String := "NextAtBar$Orders"
def TX22 : u_T := fun k => match k with
  | 0 => ("NextAtBar$Orders", "house", "LNextAtBar$House;", true)
  | 1 => ("NextAtBar$Orders", "row", "[I", true)
  | 2 => ("NextAtBar$Orders", "best", "[I", true)
  | 3 => ("NextAtBar$Orders", "many", "I", true)
  | _ => ("NextAtBar$Orders", "sum", "I", false)
def tyX22 : Nat → FieldType := fun k => match k with
  | 0 => .object "NextAtBar$House"
  | 1 => .array .int
  | 2 => .array .int
  | 3 => .int
  | _ => .int
abbrev wsX220 : List Cond := u_ws RX22 TX22 5
theorem nmX22 : ∀ a, a < 5 → ∀ b, b < 5 → a ≠ b → (TX22 a).2.1 ≠ (TX22 b).2.1 := by decide +kernel
theorem tyX22_ok : ∀ k, k < 5 → parseFieldDescriptor (TX22 k).2.2.1 = some (tyX22 k) := by decide +kernel
abbrev cX22_init : ByteArray := prog_10_method_1_code
def yX22_init : MethodName := ⟨RX22, "<init>", "(LNextAtBar$House;[III)V"⟩
def dkwX22_init_2 : List UInt8 := [177]
abbrev dktX22_init_2 : List UInt8 := dkwX22_init_2 ++ []
def dkwX22_init_1 : List UInt8 := [181, 0, 18, 42, 43, 181, 0, 22, 42, 29, 181, 0, 26, 42, 44, 3, 3, 21, 4, 3, 3, 182, 0, 29]
abbrev dktX22_init_1 : List UInt8 := dkwX22_init_1 ++ dktX22_init_2
def dkwX22_init_0 : List UInt8 := [42, 183, 0, 3, 42, 16, 7, 188, 10, 181, 0, 9, 42, 16, 7, 188, 10, 181, 0, 15, 42, 2]
abbrev dktX22_init_0 : List UInt8 := dkwX22_init_0 ++ dktX22_init_1
theorem dksX22_init_0 : cX22_init.data.toList.drop 0 = dktX22_init_0 := by decide +kernel
theorem dksX22_init_1 : cX22_init.data.toList.drop 22 = dktX22_init_1 := dk_seg dksX22_init_0 22 rfl rfl
theorem dksX22_init_2 : cX22_init.data.toList.drop 46 = dktX22_init_2 := dk_seg dksX22_init_1 24 rfl rfl
theorem dX22_init_0 : decode cX22_init 0 = .ok (.aload_n 0, 1) := dk_42 (dk_at dksX22_init_0 0 rfl rfl)
theorem dX22_init_1 : decode cX22_init 1 = .ok (.invokespecial 3, 3) := dk_183 0 3 (dk_at dksX22_init_0 1 rfl rfl)
theorem dX22_init_4 : decode cX22_init 4 = .ok (.aload_n 0, 1) := dk_42 (dk_at dksX22_init_0 4 rfl rfl)
theorem dX22_init_5 : decode cX22_init 5 = .ok (.bipush 7, 2) := dk_16 7 (dk_at dksX22_init_0 5 rfl rfl)
theorem dX22_init_7 : decode cX22_init 7 = .ok (.newarray .int, 2) := dk_188_10 (dk_at dksX22_init_0 7 rfl rfl)
theorem dX22_init_9 : decode cX22_init 9 = .ok (.putfield 9, 3) := dk_181 0 9 (dk_at dksX22_init_0 9 rfl rfl)
theorem dX22_init_12 : decode cX22_init 12 = .ok (.aload_n 0, 1) := dk_42 (dk_at dksX22_init_0 12 rfl rfl)
theorem dX22_init_13 : decode cX22_init 13 = .ok (.bipush 7, 2) := dk_16 7 (dk_at dksX22_init_0 13 rfl rfl)
theorem dX22_init_15 : decode cX22_init 15 = .ok (.newarray .int, 2) := dk_188_10 (dk_at dksX22_init_0 15 rfl rfl)
theorem dX22_init_17 : decode cX22_init 17 = .ok (.putfield 15, 3) := dk_181 0 15 (dk_at dksX22_init_0 17 rfl rfl)
theorem dX22_init_20 : decode cX22_init 20 = .ok (.aload_n 0, 1) := dk_42 (dk_at dksX22_init_0 20 rfl rfl)
theorem dX22_init_21 : decode cX22_init 21 = .ok (.iconst (-1), 1) := dk_2 (dk_at dksX22_init_0 21 rfl rfl)
theorem dX22_init_22 : decode cX22_init 22 = .ok (.putfield 18, 3) := dk_181 0 18 (dk_at dksX22_init_1 0 rfl rfl)
theorem dX22_init_25 : decode cX22_init 25 = .ok (.aload_n 0, 1) := dk_42 (dk_at dksX22_init_1 3 rfl rfl)
theorem dX22_init_26 : decode cX22_init 26 = .ok (.aload_n 1, 1) := dk_43 (dk_at dksX22_init_1 4 rfl rfl)
theorem dX22_init_27 : decode cX22_init 27 = .ok (.putfield 22, 3) := dk_181 0 22 (dk_at dksX22_init_1 5 rfl rfl)
theorem dX22_init_30 : decode cX22_init 30 = .ok (.aload_n 0, 1) := dk_42 (dk_at dksX22_init_1 8 rfl rfl)
theorem dX22_init_31 : decode cX22_init 31 = .ok (.iload_n 3, 1) := dk_29 (dk_at dksX22_init_1 9 rfl rfl)
theorem dX22_init_32 : decode cX22_init 32 = .ok (.putfield 26, 3) := dk_181 0 26 (dk_at dksX22_init_1 10 rfl rfl)
theorem dX22_init_35 : decode cX22_init 35 = .ok (.aload_n 0, 1) := dk_42 (dk_at dksX22_init_1 13 rfl rfl)
theorem dX22_init_36 : decode cX22_init 36 = .ok (.aload_n 2, 1) := dk_44 (dk_at dksX22_init_1 14 rfl rfl)
theorem dX22_init_37 : decode cX22_init 37 = .ok (.iconst 0, 1) := dk_3 (dk_at dksX22_init_1 15 rfl rfl)
theorem dX22_init_38 : decode cX22_init 38 = .ok (.iconst 0, 1) := dk_3 (dk_at dksX22_init_1 16 rfl rfl)
theorem dX22_init_39 : decode cX22_init 39 = .ok (.iload 4, 2) := dk_21 4 (dk_at dksX22_init_1 17 rfl rfl)
theorem dX22_init_41 : decode cX22_init 41 = .ok (.iconst 0, 1) := dk_3 (dk_at dksX22_init_1 19 rfl rfl)
theorem dX22_init_42 : decode cX22_init 42 = .ok (.iconst 0, 1) := dk_3 (dk_at dksX22_init_1 20 rfl rfl)
theorem dX22_init_43 : decode cX22_init 43 = .ok (.invokevirtual 29, 3) := dk_182 0 29 (dk_at dksX22_init_1 21 rfl rfl)
theorem dX22_init_46 : decode cX22_init 46 = .ok (.return_, 1) := dk_177 (dk_at dksX22_init_2 0 rfl rfl)
abbrev cX22_goes : ByteArray := prog_10_method_2_code
def yX22_goes : MethodName := ⟨RX22, "goes", "([IIIIII)V"⟩
def dkwX22_goes_5 : List UInt8 := [21, 7, 46, 21, 8, 21, 6, 21, 8, 96, 182, 0, 29, 132, 7, 1, 167, 255, 179, 177]
abbrev dktX22_goes_5 : List UInt8 := dkwX22_goes_5 ++ []
def dkwX22_goes_4 : List UInt8 := [21, 7, 46, 21, 4, 182, 0, 43, 96, 54, 8, 42, 43, 28, 4, 96, 29, 4, 21, 7, 120, 128, 43]
abbrev dktX22_goes_4 : List UInt8 := dkwX22_goes_4 ++ dktX22_goes_5
def dkwX22_goes_3 : List UInt8 := [153, 0, 6, 167, 0, 56, 42, 180, 0, 9, 28, 43, 21, 7, 46, 79, 21, 5, 42, 180, 0, 22, 43]
abbrev dktX22_goes_3 : List UInt8 := dkwX22_goes_3 ++ dktX22_goes_4
def dkwX22_goes_2 : List UInt8 := [184, 0, 33, 177, 3, 54, 7, 21, 7, 42, 180, 0, 26, 162, 0, 74, 29, 21, 7, 184, 0, 39]
abbrev dktX22_goes_2 : List UInt8 := dkwX22_goes_2 ++ dktX22_goes_3
def dkwX22_goes_1 : List UInt8 := [160, 0, 27, 42, 21, 6, 181, 0, 18, 42, 180, 0, 9, 3, 42, 180, 0, 15, 3, 42, 180, 0, 26]
abbrev dktX22_goes_1 : List UInt8 := dkwX22_goes_1 ++ dktX22_goes_2
def dkwX22_goes_0 : List UInt8 := [42, 180, 0, 18, 2, 159, 0, 13, 21, 6, 42, 180, 0, 18, 161, 0, 4, 177, 28, 42, 180, 0, 26]
abbrev dktX22_goes_0 : List UInt8 := dkwX22_goes_0 ++ dktX22_goes_1
theorem dksX22_goes_0 : cX22_goes.data.toList.drop 0 = dktX22_goes_0 := by decide +kernel
theorem dksX22_goes_1 : cX22_goes.data.toList.drop 23 = dktX22_goes_1 := dk_seg dksX22_goes_0 23 rfl rfl
theorem dksX22_goes_2 : cX22_goes.data.toList.drop 46 = dktX22_goes_2 := dk_seg dksX22_goes_1 23 rfl rfl
theorem dksX22_goes_3 : cX22_goes.data.toList.drop 68 = dktX22_goes_3 := dk_seg dksX22_goes_2 22 rfl rfl
theorem dksX22_goes_4 : cX22_goes.data.toList.drop 91 = dktX22_goes_4 := dk_seg dksX22_goes_3 23 rfl rfl
theorem dksX22_goes_5 : cX22_goes.data.toList.drop 114 = dktX22_goes_5 := dk_seg dksX22_goes_4 23 rfl rfl
theorem dX22_goes_0 : decode cX22_goes 0 = .ok (.aload_n 0, 1) := dk_42 (dk_at dksX22_goes_0 0 rfl rfl)
theorem dX22_goes_1 : decode cX22_goes 1 = .ok (.getfield 18, 3) := dk_180 0 18 (dk_at dksX22_goes_0 1 rfl rfl)
theorem dX22_goes_4 : decode cX22_goes 4 = .ok (.iconst (-1), 1) := dk_2 (dk_at dksX22_goes_0 4 rfl rfl)
theorem dX22_goes_5 : decode cX22_goes 5 = .ok (.if_icmp .eq 13, 3) := dk_159 0 13 (dk_at dksX22_goes_0 5 rfl rfl)
theorem dX22_goes_8 : decode cX22_goes 8 = .ok (.iload 6, 2) := dk_21 6 (dk_at dksX22_goes_0 8 rfl rfl)
theorem dX22_goes_10 : decode cX22_goes 10 = .ok (.aload_n 0, 1) := dk_42 (dk_at dksX22_goes_0 10 rfl rfl)
theorem dX22_goes_11 : decode cX22_goes 11 = .ok (.getfield 18, 3) := dk_180 0 18 (dk_at dksX22_goes_0 11 rfl rfl)
theorem dX22_goes_14 : decode cX22_goes 14 = .ok (.if_icmp .lt 4, 3) := dk_161 0 4 (dk_at dksX22_goes_0 14 rfl rfl)
theorem dX22_goes_17 : decode cX22_goes 17 = .ok (.return_, 1) := dk_177 (dk_at dksX22_goes_0 17 rfl rfl)
theorem dX22_goes_18 : decode cX22_goes 18 = .ok (.iload_n 2, 1) := dk_28 (dk_at dksX22_goes_0 18 rfl rfl)
theorem dX22_goes_19 : decode cX22_goes 19 = .ok (.aload_n 0, 1) := dk_42 (dk_at dksX22_goes_0 19 rfl rfl)
theorem dX22_goes_20 : decode cX22_goes 20 = .ok (.getfield 26, 3) := dk_180 0 26 (dk_at dksX22_goes_0 20 rfl rfl)
theorem dX22_goes_23 : decode cX22_goes 23 = .ok (.if_icmp .ne 27, 3) := dk_160 0 27 (dk_at dksX22_goes_1 0 rfl rfl)
theorem dX22_goes_26 : decode cX22_goes 26 = .ok (.aload_n 0, 1) := dk_42 (dk_at dksX22_goes_1 3 rfl rfl)
theorem dX22_goes_27 : decode cX22_goes 27 = .ok (.iload 6, 2) := dk_21 6 (dk_at dksX22_goes_1 4 rfl rfl)
theorem dX22_goes_29 : decode cX22_goes 29 = .ok (.putfield 18, 3) := dk_181 0 18 (dk_at dksX22_goes_1 6 rfl rfl)
theorem dX22_goes_32 : decode cX22_goes 32 = .ok (.aload_n 0, 1) := dk_42 (dk_at dksX22_goes_1 9 rfl rfl)
theorem dX22_goes_33 : decode cX22_goes 33 = .ok (.getfield 9, 3) := dk_180 0 9 (dk_at dksX22_goes_1 10 rfl rfl)
theorem dX22_goes_36 : decode cX22_goes 36 = .ok (.iconst 0, 1) := dk_3 (dk_at dksX22_goes_1 13 rfl rfl)
theorem dX22_goes_37 : decode cX22_goes 37 = .ok (.aload_n 0, 1) := dk_42 (dk_at dksX22_goes_1 14 rfl rfl)
theorem dX22_goes_38 : decode cX22_goes 38 = .ok (.getfield 15, 3) := dk_180 0 15 (dk_at dksX22_goes_1 15 rfl rfl)
theorem dX22_goes_41 : decode cX22_goes 41 = .ok (.iconst 0, 1) := dk_3 (dk_at dksX22_goes_1 18 rfl rfl)
theorem dX22_goes_42 : decode cX22_goes 42 = .ok (.aload_n 0, 1) := dk_42 (dk_at dksX22_goes_1 19 rfl rfl)
theorem dX22_goes_43 : decode cX22_goes 43 = .ok (.getfield 26, 3) := dk_180 0 26 (dk_at dksX22_goes_1 20 rfl rfl)
theorem dX22_goes_46 : decode cX22_goes 46 = .ok (.invokestatic 33, 3) := dk_184 0 33 (dk_at dksX22_goes_2 0 rfl rfl)
theorem dX22_goes_49 : decode cX22_goes 49 = .ok (.return_, 1) := dk_177 (dk_at dksX22_goes_2 3 rfl rfl)
theorem dX22_goes_50 : decode cX22_goes 50 = .ok (.iconst 0, 1) := dk_3 (dk_at dksX22_goes_2 4 rfl rfl)
theorem dX22_goes_51 : decode cX22_goes 51 = .ok (.istore 7, 2) := dk_54 7 (dk_at dksX22_goes_2 5 rfl rfl)
theorem dX22_goes_53 : decode cX22_goes 53 = .ok (.iload 7, 2) := dk_21 7 (dk_at dksX22_goes_2 7 rfl rfl)
theorem dX22_goes_55 : decode cX22_goes 55 = .ok (.aload_n 0, 1) := dk_42 (dk_at dksX22_goes_2 9 rfl rfl)
theorem dX22_goes_56 : decode cX22_goes 56 = .ok (.getfield 26, 3) := dk_180 0 26 (dk_at dksX22_goes_2 10 rfl rfl)
theorem dX22_goes_59 : decode cX22_goes 59 = .ok (.if_icmp .ge 74, 3) := dk_162 0 74 (dk_at dksX22_goes_2 13 rfl rfl)
theorem dX22_goes_62 : decode cX22_goes 62 = .ok (.iload_n 3, 1) := dk_29 (dk_at dksX22_goes_2 16 rfl rfl)
theorem dX22_goes_63 : decode cX22_goes 63 = .ok (.iload 7, 2) := dk_21 7 (dk_at dksX22_goes_2 17 rfl rfl)
theorem dX22_goes_65 : decode cX22_goes 65 = .ok (.invokestatic 39, 3) := dk_184 0 39 (dk_at dksX22_goes_2 19 rfl rfl)
theorem dX22_goes_68 : decode cX22_goes 68 = .ok (.ifCond .eq 6, 3) := dk_153 0 6 (dk_at dksX22_goes_3 0 rfl rfl)
theorem dX22_goes_71 : decode cX22_goes 71 = .ok (.goto 56, 3) := dk_167 0 56 (dk_at dksX22_goes_3 3 rfl rfl)
theorem dX22_goes_74 : decode cX22_goes 74 = .ok (.aload_n 0, 1) := dk_42 (dk_at dksX22_goes_3 6 rfl rfl)
theorem dX22_goes_75 : decode cX22_goes 75 = .ok (.getfield 9, 3) := dk_180 0 9 (dk_at dksX22_goes_3 7 rfl rfl)
theorem dX22_goes_78 : decode cX22_goes 78 = .ok (.iload_n 2, 1) := dk_28 (dk_at dksX22_goes_3 10 rfl rfl)
theorem dX22_goes_79 : decode cX22_goes 79 = .ok (.aload_n 1, 1) := dk_43 (dk_at dksX22_goes_3 11 rfl rfl)
theorem dX22_goes_80 : decode cX22_goes 80 = .ok (.iload 7, 2) := dk_21 7 (dk_at dksX22_goes_3 12 rfl rfl)
theorem dX22_goes_82 : decode cX22_goes 82 = .ok (.iaload, 1) := dk_46 (dk_at dksX22_goes_3 14 rfl rfl)
theorem dX22_goes_83 : decode cX22_goes 83 = .ok (.iastore, 1) := dk_79 (dk_at dksX22_goes_3 15 rfl rfl)
theorem dX22_goes_84 : decode cX22_goes 84 = .ok (.iload 5, 2) := dk_21 5 (dk_at dksX22_goes_3 16 rfl rfl)
theorem dX22_goes_86 : decode cX22_goes 86 = .ok (.aload_n 0, 1) := dk_42 (dk_at dksX22_goes_3 18 rfl rfl)
theorem dX22_goes_87 : decode cX22_goes 87 = .ok (.getfield 22, 3) := dk_180 0 22 (dk_at dksX22_goes_3 19 rfl rfl)
theorem dX22_goes_90 : decode cX22_goes 90 = .ok (.aload_n 1, 1) := dk_43 (dk_at dksX22_goes_3 22 rfl rfl)
theorem dX22_goes_91 : decode cX22_goes 91 = .ok (.iload 7, 2) := dk_21 7 (dk_at dksX22_goes_4 0 rfl rfl)
theorem dX22_goes_93 : decode cX22_goes 93 = .ok (.iaload, 1) := dk_46 (dk_at dksX22_goes_4 2 rfl rfl)
theorem dX22_goes_94 : decode cX22_goes 94 = .ok (.iload 4, 2) := dk_21 4 (dk_at dksX22_goes_4 3 rfl rfl)
theorem dX22_goes_96 : decode cX22_goes 96 = .ok (.invokevirtual 43, 3) := dk_182 0 43 (dk_at dksX22_goes_4 5 rfl rfl)
theorem dX22_goes_99 : decode cX22_goes 99 = .ok (.iadd, 1) := dk_96 (dk_at dksX22_goes_4 8 rfl rfl)
theorem dX22_goes_100 : decode cX22_goes 100 = .ok (.istore 8, 2) := dk_54 8 (dk_at dksX22_goes_4 9 rfl rfl)
theorem dX22_goes_102 : decode cX22_goes 102 = .ok (.aload_n 0, 1) := dk_42 (dk_at dksX22_goes_4 11 rfl rfl)
theorem dX22_goes_103 : decode cX22_goes 103 = .ok (.aload_n 1, 1) := dk_43 (dk_at dksX22_goes_4 12 rfl rfl)
theorem dX22_goes_104 : decode cX22_goes 104 = .ok (.iload_n 2, 1) := dk_28 (dk_at dksX22_goes_4 13 rfl rfl)
theorem dX22_goes_105 : decode cX22_goes 105 = .ok (.iconst 1, 1) := dk_4 (dk_at dksX22_goes_4 14 rfl rfl)
theorem dX22_goes_106 : decode cX22_goes 106 = .ok (.iadd, 1) := dk_96 (dk_at dksX22_goes_4 15 rfl rfl)
theorem dX22_goes_107 : decode cX22_goes 107 = .ok (.iload_n 3, 1) := dk_29 (dk_at dksX22_goes_4 16 rfl rfl)
theorem dX22_goes_108 : decode cX22_goes 108 = .ok (.iconst 1, 1) := dk_4 (dk_at dksX22_goes_4 17 rfl rfl)
theorem dX22_goes_109 : decode cX22_goes 109 = .ok (.iload 7, 2) := dk_21 7 (dk_at dksX22_goes_4 18 rfl rfl)
theorem dX22_goes_111 : decode cX22_goes 111 = .ok (.ishl, 1) := dk_120 (dk_at dksX22_goes_4 20 rfl rfl)
theorem dX22_goes_112 : decode cX22_goes 112 = .ok (.ior, 1) := dk_128 (dk_at dksX22_goes_4 21 rfl rfl)
theorem dX22_goes_113 : decode cX22_goes 113 = .ok (.aload_n 1, 1) := dk_43 (dk_at dksX22_goes_4 22 rfl rfl)
theorem dX22_goes_114 : decode cX22_goes 114 = .ok (.iload 7, 2) := dk_21 7 (dk_at dksX22_goes_5 0 rfl rfl)
theorem dX22_goes_116 : decode cX22_goes 116 = .ok (.iaload, 1) := dk_46 (dk_at dksX22_goes_5 2 rfl rfl)
theorem dX22_goes_117 : decode cX22_goes 117 = .ok (.iload 8, 2) := dk_21 8 (dk_at dksX22_goes_5 3 rfl rfl)
theorem dX22_goes_119 : decode cX22_goes 119 = .ok (.iload 6, 2) := dk_21 6 (dk_at dksX22_goes_5 5 rfl rfl)
theorem dX22_goes_121 : decode cX22_goes 121 = .ok (.iload 8, 2) := dk_21 8 (dk_at dksX22_goes_5 7 rfl rfl)
theorem dX22_goes_123 : decode cX22_goes 123 = .ok (.iadd, 1) := dk_96 (dk_at dksX22_goes_5 9 rfl rfl)
theorem dX22_goes_124 : decode cX22_goes 124 = .ok (.invokevirtual 29, 3) := dk_182 0 29 (dk_at dksX22_goes_5 10 rfl rfl)
theorem dX22_goes_127 : decode cX22_goes 127 = .ok (.iinc 7 1, 3) := dk_132 7 1 (dk_at dksX22_goes_5 13 rfl rfl)
theorem dX22_goes_130 : decode cX22_goes 130 = .ok (.goto (-77), 3) := dk_167 255 179 (dk_at dksX22_goes_5 16 rfl rfl)
theorem dX22_goes_133 : decode cX22_goes 133 = .ok (.return_, 1) := dk_177 (dk_at dksX22_goes_5 19 rfl rfl)
abbrev cX22_at : ByteArray := prog_10_method_3_code
def yX22_at : MethodName := ⟨RX22, "at", "(I)I"⟩
def dkwX22_at_0 : List UInt8 := [42, 180, 0, 15, 27, 46, 172]
abbrev dktX22_at_0 : List UInt8 := dkwX22_at_0 ++ []
theorem dksX22_at_0 : cX22_at.data.toList.drop 0 = dktX22_at_0 := by decide +kernel
theorem dX22_at_0 : decode cX22_at 0 = .ok (.aload_n 0, 1) := dk_42 (dk_at dksX22_at_0 0 rfl rfl)
theorem dX22_at_1 : decode cX22_at 1 = .ok (.getfield 15, 3) := dk_180 0 15 (dk_at dksX22_at_0 1 rfl rfl)
theorem dX22_at_4 : decode cX22_at 4 = .ok (.iload_n 1, 1) := dk_27 (dk_at dksX22_at_0 4 rfl rfl)
theorem dX22_at_5 : decode cX22_at 5 = .ok (.iaload, 1) := dk_46 (dk_at dksX22_at_0 5 rfl rfl)
theorem dX22_at_6 : decode cX22_at 6 = .ok (.ireturn, 1) := dk_172 (dk_at dksX22_at_0 6 rfl rfl)
theorem q158 : (Jvm.Cond.initialized "NextAtBar$Orders") ∈ lw_all := lw_g (lw_at lw_m1 36 rfl) rfl
theorem q815 : (Jvm.Cond.selects "NextAtBar$Orders" ({ cls := "java/lang/Object", name := "getClass", desc := "()Ljava/lang/Class;" } : Jvm.MethodName) ({ cls := "java/lang/Object", name := "getClass", desc := "()Ljava/lang/Class;" } : Jvm.MethodName)) ∈ lw_all := lw_g (lw_at lw_m3 213 rfl) rfl
theorem q1593 : (Jvm.Cond.instantiable "NextAtBar$Orders" (5 : Nat)) ∈ lw_all := lw_g (lw_at lw_m7 31 rfl) rfl
theorem q1595 : (Jvm.Cond.instanceMethod ({ cls := "NextAtBar$Orders", name := "<init>", desc := "(LNextAtBar$House;[III)V" } : Jvm.MethodName)) ∈ lw_all := lw_g (lw_at lw_m7 33 rfl) rfl
theorem q1596 : (Jvm.Cond.code ({ cls := "NextAtBar$Orders", name := "<init>", desc := "(LNextAtBar$House;[III)V" } : Jvm.MethodName) prog_10_method_1_code (5 : Nat) (Option.none : Option Jvm.ClassFile.FieldType)) ∈ lw_all := lw_g (lw_at lw_m7 34 rfl) rfl
theorem q1597 : (Jvm.Cond.methodLink "NextAtBar$Orders" (3 : Nat) ({ cls := "java/lang/Object", name := "<init>", desc := "()V" } : Jvm.MethodName)) ∈ lw_all := lw_g (lw_at lw_m7 35 rfl) rfl
theorem q1598 : (Jvm.Cond.methodLink "NextAtBar$Orders" (29 : Nat) ({ cls := "NextAtBar$Orders", name := "goes", desc := "([IIIIII)V" } : Jvm.MethodName)) ∈ lw_all := lw_g (lw_at lw_m7 36 rfl) rfl
theorem q1599 : (Jvm.Cond.privateMethod ({ cls := "NextAtBar$Orders", name := "goes", desc := "([IIIIII)V" } : Jvm.MethodName)) ∈ lw_tbl := lw_at lw_m7 37 rfl
theorem q1600 : (Jvm.Cond.instanceMethod ({ cls := "NextAtBar$Orders", name := "goes", desc := "([IIIIII)V" } : Jvm.MethodName)) ∈ lw_all := lw_g (lw_at lw_m7 38 rfl) rfl
theorem q1601 : (Jvm.Cond.code ({ cls := "NextAtBar$Orders", name := "goes", desc := "([IIIIII)V" } : Jvm.MethodName) prog_10_method_2_code (9 : Nat) (Option.none : Option Jvm.ClassFile.FieldType)) ∈ lw_all := lw_g (lw_at lw_m7 39 rfl) rfl
theorem q1602 : (Jvm.Cond.methodLink "NextAtBar$Orders" (33 : Nat) ({ cls := "java/lang/System", name := "arraycopy", desc := "(Ljava/lang/Object;ILjava/lang/Object;II)V" } : Jvm.MethodName)) ∈ lw_all := lw_g (lw_at lw_m7 40 rfl) rfl
theorem q1603 : (Jvm.Cond.methodLinkNest "NextAtBar$Orders" (39 : Nat) ({ cls := "NextAtBa\x72", name := "holds", desc := "(II)Z" } : Jvm.MethodName) "NextAtBa\x72") ∈ lw_tbl := lw_at lw_m7 41 rfl
theorem q1604 : (Jvm.Cond.methodLink "NextAtBar$Orders" (43 : Nat) ({ cls := "NextAtBar$House", name := "time", desc := "(II)I" } : Jvm.MethodName)) ∈ lw_all := lw_g (lw_at lw_m7 42 rfl) rfl
theorem q1605 : (Jvm.Cond.fieldLink "NextAtBar$Orders" (22 : Nat) "NextAtBar$Orders" "house" "LNextAtBar$House;") ∈ lw_all := lw_g (lw_at lw_m7 43 rfl) rfl
theorem q1606 : (Jvm.Cond.fieldLink "NextAtBar$Orders" (9 : Nat) "NextAtBar$Orders" "row" "[I") ∈ lw_all := lw_g (lw_at lw_m7 44 rfl) rfl
theorem q1607 : (Jvm.Cond.fieldLink "NextAtBar$Orders" (15 : Nat) "NextAtBar$Orders" "best" "[I") ∈ lw_all := lw_g (lw_at lw_m7 45 rfl) rfl
theorem q1608 : (Jvm.Cond.fieldLink "NextAtBar$Orders" (26 : Nat) "NextAtBar$Orders" "many" "I") ∈ lw_all := lw_g (lw_at lw_m7 46 rfl) rfl
theorem q1609 : (Jvm.Cond.fieldLink "NextAtBar$Orders" (18 : Nat) "NextAtBar$Orders" "sum" "I") ∈ lw_all := lw_g (lw_at lw_m7 47 rfl) rfl
theorem q1611 : (Jvm.Cond.laysFinal "NextAtBar$Orders" "NextAtBar$Orders" "house" "LNextAtBar$House;") ∈ lw_all := lw_g (lw_at lw_m7 49 rfl) rfl
theorem q1612 : (Jvm.Cond.soleField "NextAtBar$Orders" "house") ∈ lw_all := lw_g (lw_at lw_m7 50 rfl) rfl
theorem q1613 : (Jvm.Cond.laysFinal "NextAtBar$Orders" "NextAtBar$Orders" "row" "[I") ∈ lw_all := lw_g (lw_at lw_m7 51 rfl) rfl
theorem q1614 : (Jvm.Cond.soleField "NextAtBar$Orders" "row") ∈ lw_all := lw_g (lw_at lw_m7 52 rfl) rfl
theorem q1615 : (Jvm.Cond.laysFinal "NextAtBar$Orders" "NextAtBar$Orders" "best" "[I") ∈ lw_all := lw_g (lw_at lw_m7 53 rfl) rfl
theorem q1616 : (Jvm.Cond.soleField "NextAtBar$Orders" "best") ∈ lw_all := lw_g (lw_at lw_m7 54 rfl) rfl
theorem q1617 : (Jvm.Cond.laysFinal "NextAtBar$Orders" "NextAtBar$Orders" "many" "I") ∈ lw_all := lw_g (lw_at lw_m7 55 rfl) rfl
theorem q1618 : (Jvm.Cond.soleField "NextAtBar$Orders" "many") ∈ lw_all := lw_g (lw_at lw_m7 56 rfl) rfl
theorem q1619 : (Jvm.Cond.lays "NextAtBar$Orders" "NextAtBar$Orders" "sum" "I") ∈ lw_all := lw_g (lw_at lw_m7 57 rfl) rfl
theorem q1620 : (Jvm.Cond.soleField "NextAtBar$Orders" "sum") ∈ lw_all := lw_g (lw_at lw_m7 58 rfl) rfl
theorem q1621 : (Jvm.Cond.superclass "NextAtBar$Orders" "java/lang/Object") ∈ lw_all := lw_g (lw_at lw_m7 59 rfl) rfl
theorem q1623 : (Jvm.Cond.instanceMethod ({ cls := "NextAtBar$Orders", name := "at", desc := "(I)I" } : Jvm.MethodName)) ∈ lw_all := lw_g (lw_at lw_m7 61 rfl) rfl
theorem q1624 : (Jvm.Cond.selects "NextAtBar$Orders" ({ cls := "NextAtBar$Orders", name := "at", desc := "(I)I" } : Jvm.MethodName) ({ cls := "NextAtBar$Orders", name := "at", desc := "(I)I" } : Jvm.MethodName)) ∈ lw_all := lw_g (lw_at lw_m7 62 rfl) rfl
theorem q1625 : (Jvm.Cond.code ({ cls := "NextAtBar$Orders", name := "at", desc := "(I)I" } : Jvm.MethodName) prog_10_method_3_code (2 : Nat) (Option.some Jvm.ClassFile.FieldType.int)) ∈ lw_all := lw_g (lw_at lw_m7 63 rfl) rfl
theorem q2532 : (Jvm.Cond.castable "NextAtBar$Orders" "java/lang/Object") ∈ lw_tbl := lw_at lw_m11 10 rfl
theorem in_X22 : ∀ w ∈ wsX220, w ∈ lw_all := lw_in wsX220 [1611, 1613, 1615, 1617, 1619] (by decide +kernel) (by decide +kernel)
/-! NextAtBar$Tellings -/
set_option maxRecDepth 100000
def RX23 : String := "NextAtBar$Tellings"
def TX23 : u_T := fun k => match k with
  | 0 => ("NextAtBar$Tellings", "house", "LNextAtBar$House;", true)
  | _ => ("NextAtBar$Tellings", "ahead", "[I", true)
def tyX23 : Nat → FieldType := fun k => match k with
  | 0 => .object "NextAtBar$House"
  | _ => .array .int
abbrev wsX230 : List Cond := u_ws RX23 TX23 2
theorem nmX23 : ∀ a, a < 2 → ∀ b, b < 2 → a ≠ b → (TX23 a).2.1 ≠ (TX23 b).2.1 := by decide +kernel
theorem tyX23_ok : ∀ k, k < 2 → parseFieldDescriptor (TX23 k).2.2.1 = some (tyX23 k) := by decide +kernel
abbrev cX23_init : ByteArray := prog_20_method_1_code
def yX23_init : MethodName := ⟨RX23, "<init>", "(LNextAtBar$House;)V"⟩
def dkwX23_init_0 : List UInt8 := [42, 183, 0, 3, 42, 16, 10, 188, 10, 181, 0, 9, 42, 43, 181, 0, 15, 177]
abbrev dktX23_init_0 : List UInt8 := dkwX23_init_0 ++ []
theorem dksX23_init_0 : cX23_init.data.toList.drop 0 = dktX23_init_0 := by decide +kernel
theorem dX23_init_0 : decode cX23_init 0 = .ok (.aload_n 0, 1) := dk_42 (dk_at dksX23_init_0 0 rfl rfl)
theorem dX23_init_1 : decode cX23_init 1 = .ok (.invokespecial 3, 3) := dk_183 0 3 (dk_at dksX23_init_0 1 rfl rfl)
theorem dX23_init_4 : decode cX23_init 4 = .ok (.aload_n 0, 1) := dk_42 (dk_at dksX23_init_0 4 rfl rfl)
theorem dX23_init_5 : decode cX23_init 5 = .ok (.bipush 10, 2) := dk_16 10 (dk_at dksX23_init_0 5 rfl rfl)
theorem dX23_init_7 : decode cX23_init 7 = .ok (.newarray .int, 2) := dk_188_10 (dk_at dksX23_init_0 7 rfl rfl)
theorem dX23_init_9 : decode cX23_init 9 = .ok (.putfield 9, 3) := dk_181 0 9 (dk_at dksX23_init_0 9 rfl rfl)
theorem dX23_init_12 : decode cX23_init 12 = .ok (.aload_n 0, 1) := dk_42 (dk_at dksX23_init_0 12 rfl rfl)
theorem dX23_init_13 : decode cX23_init 13 = .ok (.aload_n 1, 1) := dk_43 (dk_at dksX23_init_0 13 rfl rfl)
theorem dX23_init_14 : decode cX23_init 14 = .ok (.putfield 15, 3) := dk_181 0 15 (dk_at dksX23_init_0 14 rfl rfl)
theorem dX23_init_17 : decode cX23_init 17 = .ok (.return_, 1) := dk_177 (dk_at dksX23_init_0 17 rfl rfl)
abbrev cX23_liars : ByteArray := prog_20_method_3_code
def yX23_liars : MethodName := ⟨RX23, "liars", "()I"⟩
def dkwX23_liars_2 : List UInt8 := [132, 2, 1, 167, 255, 211, 27, 172]
abbrev dktX23_liars_2 : List UInt8 := dkwX23_liars_2 ++ []
def dkwX23_liars_1 : List UInt8 := [159, 0, 14, 28, 184, 0, 54, 27, 184, 0, 54, 162, 0, 13, 42, 28, 182, 0, 58, 153, 0, 5, 28, 60]
abbrev dktX23_liars_1 : List UInt8 := dkwX23_liars_1 ++ dktX23_liars_2
def dkwX23_liars_0 : List UInt8 := [2, 60, 3, 61, 28, 4, 42, 180, 0, 15, 180, 0, 51, 182, 0, 25, 120, 162, 0, 35, 27, 2]
abbrev dktX23_liars_0 : List UInt8 := dkwX23_liars_0 ++ dktX23_liars_1
theorem dksX23_liars_0 : cX23_liars.data.toList.drop 0 = dktX23_liars_0 := by decide +kernel
theorem dksX23_liars_1 : cX23_liars.data.toList.drop 22 = dktX23_liars_1 := dk_seg dksX23_liars_0 22 rfl rfl
theorem dksX23_liars_2 : cX23_liars.data.toList.drop 46 = dktX23_liars_2 := dk_seg dksX23_liars_1 24 rfl rfl
theorem dX23_liars_0 : decode cX23_liars 0 = .ok (.iconst (-1), 1) := dk_2 (dk_at dksX23_liars_0 0 rfl rfl)
theorem dX23_liars_1 : decode cX23_liars 1 = .ok (.istore_n 1, 1) := dk_60 (dk_at dksX23_liars_0 1 rfl rfl)
theorem dX23_liars_2 : decode cX23_liars 2 = .ok (.iconst 0, 1) := dk_3 (dk_at dksX23_liars_0 2 rfl rfl)
theorem dX23_liars_3 : decode cX23_liars 3 = .ok (.istore_n 2, 1) := dk_61 (dk_at dksX23_liars_0 3 rfl rfl)
theorem dX23_liars_4 : decode cX23_liars 4 = .ok (.iload_n 2, 1) := dk_28 (dk_at dksX23_liars_0 4 rfl rfl)
theorem dX23_liars_5 : decode cX23_liars 5 = .ok (.iconst 1, 1) := dk_4 (dk_at dksX23_liars_0 5 rfl rfl)
theorem dX23_liars_6 : decode cX23_liars 6 = .ok (.aload_n 0, 1) := dk_42 (dk_at dksX23_liars_0 6 rfl rfl)
theorem dX23_liars_7 : decode cX23_liars 7 = .ok (.getfield 15, 3) := dk_180 0 15 (dk_at dksX23_liars_0 7 rfl rfl)
theorem dX23_liars_10 : decode cX23_liars 10 = .ok (.getfield 51, 3) := dk_180 0 51 (dk_at dksX23_liars_0 10 rfl rfl)
theorem dX23_liars_13 : decode cX23_liars 13 = .ok (.invokevirtual 25, 3) := dk_182 0 25 (dk_at dksX23_liars_0 13 rfl rfl)
theorem dX23_liars_16 : decode cX23_liars 16 = .ok (.ishl, 1) := dk_120 (dk_at dksX23_liars_0 16 rfl rfl)
theorem dX23_liars_17 : decode cX23_liars 17 = .ok (.if_icmp .ge 35, 3) := dk_162 0 35 (dk_at dksX23_liars_0 17 rfl rfl)
theorem dX23_liars_20 : decode cX23_liars 20 = .ok (.iload_n 1, 1) := dk_27 (dk_at dksX23_liars_0 20 rfl rfl)
theorem dX23_liars_21 : decode cX23_liars 21 = .ok (.iconst (-1), 1) := dk_2 (dk_at dksX23_liars_0 21 rfl rfl)
theorem dX23_liars_22 : decode cX23_liars 22 = .ok (.if_icmp .eq 14, 3) := dk_159 0 14 (dk_at dksX23_liars_1 0 rfl rfl)
theorem dX23_liars_25 : decode cX23_liars 25 = .ok (.iload_n 2, 1) := dk_28 (dk_at dksX23_liars_1 3 rfl rfl)
theorem dX23_liars_26 : decode cX23_liars 26 = .ok (.invokestatic 54, 3) := dk_184 0 54 (dk_at dksX23_liars_1 4 rfl rfl)
theorem dX23_liars_29 : decode cX23_liars 29 = .ok (.iload_n 1, 1) := dk_27 (dk_at dksX23_liars_1 7 rfl rfl)
theorem dX23_liars_30 : decode cX23_liars 30 = .ok (.invokestatic 54, 3) := dk_184 0 54 (dk_at dksX23_liars_1 8 rfl rfl)
theorem dX23_liars_33 : decode cX23_liars 33 = .ok (.if_icmp .ge 13, 3) := dk_162 0 13 (dk_at dksX23_liars_1 11 rfl rfl)
theorem dX23_liars_36 : decode cX23_liars 36 = .ok (.aload_n 0, 1) := dk_42 (dk_at dksX23_liars_1 14 rfl rfl)
theorem dX23_liars_37 : decode cX23_liars 37 = .ok (.iload_n 2, 1) := dk_28 (dk_at dksX23_liars_1 15 rfl rfl)
theorem dX23_liars_38 : decode cX23_liars 38 = .ok (.invokevirtual 58, 3) := dk_182 0 58 (dk_at dksX23_liars_1 16 rfl rfl)
theorem dX23_liars_41 : decode cX23_liars 41 = .ok (.ifCond .eq 5, 3) := dk_153 0 5 (dk_at dksX23_liars_1 19 rfl rfl)
theorem dX23_liars_44 : decode cX23_liars 44 = .ok (.iload_n 2, 1) := dk_28 (dk_at dksX23_liars_1 22 rfl rfl)
theorem dX23_liars_45 : decode cX23_liars 45 = .ok (.istore_n 1, 1) := dk_60 (dk_at dksX23_liars_1 23 rfl rfl)
theorem dX23_liars_46 : decode cX23_liars 46 = .ok (.iinc 2 1, 3) := dk_132 2 1 (dk_at dksX23_liars_2 0 rfl rfl)
theorem dX23_liars_49 : decode cX23_liars 49 = .ok (.goto (-45), 3) := dk_167 255 211 (dk_at dksX23_liars_2 3 rfl rfl)
theorem dX23_liars_52 : decode cX23_liars 52 = .ok (.iload_n 1, 1) := dk_27 (dk_at dksX23_liars_2 6 rfl rfl)
theorem dX23_liars_53 : decode cX23_liars 53 = .ok (.ireturn, 1) := dk_172 (dk_at dksX23_liars_2 7 rfl rfl)
abbrev cX23_canBe : ByteArray := prog_20_method_2_code
def yX23_canBe : MethodName := ⟨RX23, "canBe", "(I)Z"⟩
def dkwX23_canBe_8 : List UInt8 := [3, 172, 132, 2, 1, 167, 255, 232, 4, 172]
abbrev dktX23_canBe_8 : List UInt8 := dkwX23_canBe_8 ++ []
def dkwX23_canBe_7 : List UInt8 := [167, 255, 205, 3, 61, 28, 16, 10, 162, 0, 24, 42, 180, 0, 9, 28, 46, 28, 184, 0, 41, 153, 0, 5]
abbrev dktX23_canBe_7 : List UInt8 := dkwX23_canBe_7 ++ dktX23_canBe_8
def dkwX23_canBe_6 : List UInt8 := [42, 180, 0, 9, 29, 92, 46, 42, 180, 0, 9, 28, 46, 128, 79, 132, 3, 1, 167, 255, 219, 132, 2, 1]
abbrev dktX23_canBe_6 : List UInt8 := dkwX23_canBe_6 ++ dktX23_canBe_7
def dkwX23_canBe_5 : List UInt8 := [162, 0, 51, 3, 62, 29, 16, 10, 162, 0, 37, 42, 180, 0, 9, 29, 46, 28, 184, 0, 41, 153, 0, 18]
abbrev dktX23_canBe_5 : List UInt8 := dkwX23_canBe_5 ++ dktX23_canBe_6
def dkwX23_canBe_4 : List UInt8 := [182, 0, 31, 192, 0, 35, 180, 0, 48, 120, 128, 79, 132, 2, 1, 167, 255, 171, 3, 61, 28, 16, 10]
abbrev dktX23_canBe_4 : List UInt8 := dkwX23_canBe_4 ++ dktX23_canBe_5
def dkwX23_canBe_3 : List UInt8 := [180, 0, 19, 28, 182, 0, 31, 192, 0, 35, 180, 0, 45, 92, 46, 4, 42, 180, 0, 15, 180, 0, 19, 28]
abbrev dktX23_canBe_3 : List UInt8 := dkwX23_canBe_3 ++ dktX23_canBe_4
def dkwX23_canBe_2 : List UInt8 := [182, 0, 31, 192, 0, 35, 180, 0, 37, 184, 0, 41, 154, 0, 47, 42, 180, 0, 9, 42, 180, 0, 15]
abbrev dktX23_canBe_2 : List UInt8 := dkwX23_canBe_2 ++ dktX23_canBe_3
def dkwX23_canBe_1 : List UInt8 := [42, 180, 0, 15, 180, 0, 19, 182, 0, 25, 162, 0, 77, 27, 42, 180, 0, 15, 180, 0, 19, 28]
abbrev dktX23_canBe_1 : List UInt8 := dkwX23_canBe_1 ++ dktX23_canBe_2
def dkwX23_canBe_0 : List UInt8 := [3, 61, 28, 16, 10, 162, 0, 16, 42, 180, 0, 9, 28, 3, 79, 132, 2, 1, 167, 255, 240, 3, 61, 28]
abbrev dktX23_canBe_0 : List UInt8 := dkwX23_canBe_0 ++ dktX23_canBe_1
theorem dksX23_canBe_0 : cX23_canBe.data.toList.drop 0 = dktX23_canBe_0 := by decide +kernel
theorem dksX23_canBe_1 : cX23_canBe.data.toList.drop 24 = dktX23_canBe_1 := dk_seg dksX23_canBe_0 24 rfl rfl
theorem dksX23_canBe_2 : cX23_canBe.data.toList.drop 46 = dktX23_canBe_2 := dk_seg dksX23_canBe_1 22 rfl rfl
theorem dksX23_canBe_3 : cX23_canBe.data.toList.drop 69 = dktX23_canBe_3 := dk_seg dksX23_canBe_2 23 rfl rfl
theorem dksX23_canBe_4 : cX23_canBe.data.toList.drop 93 = dktX23_canBe_4 := dk_seg dksX23_canBe_3 24 rfl rfl
theorem dksX23_canBe_5 : cX23_canBe.data.toList.drop 116 = dktX23_canBe_5 := dk_seg dksX23_canBe_4 23 rfl rfl
theorem dksX23_canBe_6 : cX23_canBe.data.toList.drop 140 = dktX23_canBe_6 := dk_seg dksX23_canBe_5 24 rfl rfl
theorem dksX23_canBe_7 : cX23_canBe.data.toList.drop 164 = dktX23_canBe_7 := dk_seg dksX23_canBe_6 24 rfl rfl
theorem dksX23_canBe_8 : cX23_canBe.data.toList.drop 188 = dktX23_canBe_8 := dk_seg dksX23_canBe_7 24 rfl rfl
theorem dX23_canBe_0 : decode cX23_canBe 0 = .ok (.iconst 0, 1) := dk_3 (dk_at dksX23_canBe_0 0 rfl rfl)
theorem dX23_canBe_1 : decode cX23_canBe 1 = .ok (.istore_n 2, 1) := dk_61 (dk_at dksX23_canBe_0 1 rfl rfl)
theorem dX23_canBe_2 : decode cX23_canBe 2 = .ok (.iload_n 2, 1) := dk_28 (dk_at dksX23_canBe_0 2 rfl rfl)
theorem dX23_canBe_3 : decode cX23_canBe 3 = .ok (.bipush 10, 2) := dk_16 10 (dk_at dksX23_canBe_0 3 rfl rfl)
theorem dX23_canBe_5 : decode cX23_canBe 5 = .ok (.if_icmp .ge 16, 3) := dk_162 0 16 (dk_at dksX23_canBe_0 5 rfl rfl)
theorem dX23_canBe_8 : decode cX23_canBe 8 = .ok (.aload_n 0, 1) := dk_42 (dk_at dksX23_canBe_0 8 rfl rfl)
theorem dX23_canBe_9 : decode cX23_canBe 9 = .ok (.getfield 9, 3) := dk_180 0 9 (dk_at dksX23_canBe_0 9 rfl rfl)
theorem dX23_canBe_12 : decode cX23_canBe 12 = .ok (.iload_n 2, 1) := dk_28 (dk_at dksX23_canBe_0 12 rfl rfl)
theorem dX23_canBe_13 : decode cX23_canBe 13 = .ok (.iconst 0, 1) := dk_3 (dk_at dksX23_canBe_0 13 rfl rfl)
theorem dX23_canBe_14 : decode cX23_canBe 14 = .ok (.iastore, 1) := dk_79 (dk_at dksX23_canBe_0 14 rfl rfl)
theorem dX23_canBe_15 : decode cX23_canBe 15 = .ok (.iinc 2 1, 3) := dk_132 2 1 (dk_at dksX23_canBe_0 15 rfl rfl)
theorem dX23_canBe_18 : decode cX23_canBe 18 = .ok (.goto (-16), 3) := dk_167 255 240 (dk_at dksX23_canBe_0 18 rfl rfl)
theorem dX23_canBe_21 : decode cX23_canBe 21 = .ok (.iconst 0, 1) := dk_3 (dk_at dksX23_canBe_0 21 rfl rfl)
theorem dX23_canBe_22 : decode cX23_canBe 22 = .ok (.istore_n 2, 1) := dk_61 (dk_at dksX23_canBe_0 22 rfl rfl)
theorem dX23_canBe_23 : decode cX23_canBe 23 = .ok (.iload_n 2, 1) := dk_28 (dk_at dksX23_canBe_0 23 rfl rfl)
theorem dX23_canBe_24 : decode cX23_canBe 24 = .ok (.aload_n 0, 1) := dk_42 (dk_at dksX23_canBe_1 0 rfl rfl)
theorem dX23_canBe_25 : decode cX23_canBe 25 = .ok (.getfield 15, 3) := dk_180 0 15 (dk_at dksX23_canBe_1 1 rfl rfl)
theorem dX23_canBe_28 : decode cX23_canBe 28 = .ok (.getfield 19, 3) := dk_180 0 19 (dk_at dksX23_canBe_1 4 rfl rfl)
theorem dX23_canBe_31 : decode cX23_canBe 31 = .ok (.invokevirtual 25, 3) := dk_182 0 25 (dk_at dksX23_canBe_1 7 rfl rfl)
theorem dX23_canBe_34 : decode cX23_canBe 34 = .ok (.if_icmp .ge 77, 3) := dk_162 0 77 (dk_at dksX23_canBe_1 10 rfl rfl)
theorem dX23_canBe_37 : decode cX23_canBe 37 = .ok (.iload_n 1, 1) := dk_27 (dk_at dksX23_canBe_1 13 rfl rfl)
theorem dX23_canBe_38 : decode cX23_canBe 38 = .ok (.aload_n 0, 1) := dk_42 (dk_at dksX23_canBe_1 14 rfl rfl)
theorem dX23_canBe_39 : decode cX23_canBe 39 = .ok (.getfield 15, 3) := dk_180 0 15 (dk_at dksX23_canBe_1 15 rfl rfl)
theorem dX23_canBe_42 : decode cX23_canBe 42 = .ok (.getfield 19, 3) := dk_180 0 19 (dk_at dksX23_canBe_1 18 rfl rfl)
theorem dX23_canBe_45 : decode cX23_canBe 45 = .ok (.iload_n 2, 1) := dk_28 (dk_at dksX23_canBe_1 21 rfl rfl)
theorem dX23_canBe_46 : decode cX23_canBe 46 = .ok (.invokevirtual 31, 3) := dk_182 0 31 (dk_at dksX23_canBe_2 0 rfl rfl)
theorem dX23_canBe_49 : decode cX23_canBe 49 = .ok (.checkcast 35, 3) := dk_192 0 35 (dk_at dksX23_canBe_2 3 rfl rfl)
theorem dX23_canBe_52 : decode cX23_canBe 52 = .ok (.getfield 37, 3) := dk_180 0 37 (dk_at dksX23_canBe_2 6 rfl rfl)
theorem dX23_canBe_55 : decode cX23_canBe 55 = .ok (.invokestatic 41, 3) := dk_184 0 41 (dk_at dksX23_canBe_2 9 rfl rfl)
theorem dX23_canBe_58 : decode cX23_canBe 58 = .ok (.ifCond .ne 47, 3) := dk_154 0 47 (dk_at dksX23_canBe_2 12 rfl rfl)
theorem dX23_canBe_61 : decode cX23_canBe 61 = .ok (.aload_n 0, 1) := dk_42 (dk_at dksX23_canBe_2 15 rfl rfl)
theorem dX23_canBe_62 : decode cX23_canBe 62 = .ok (.getfield 9, 3) := dk_180 0 9 (dk_at dksX23_canBe_2 16 rfl rfl)
theorem dX23_canBe_65 : decode cX23_canBe 65 = .ok (.aload_n 0, 1) := dk_42 (dk_at dksX23_canBe_2 19 rfl rfl)
theorem dX23_canBe_66 : decode cX23_canBe 66 = .ok (.getfield 15, 3) := dk_180 0 15 (dk_at dksX23_canBe_2 20 rfl rfl)
theorem dX23_canBe_69 : decode cX23_canBe 69 = .ok (.getfield 19, 3) := dk_180 0 19 (dk_at dksX23_canBe_3 0 rfl rfl)
theorem dX23_canBe_72 : decode cX23_canBe 72 = .ok (.iload_n 2, 1) := dk_28 (dk_at dksX23_canBe_3 3 rfl rfl)
theorem dX23_canBe_73 : decode cX23_canBe 73 = .ok (.invokevirtual 31, 3) := dk_182 0 31 (dk_at dksX23_canBe_3 4 rfl rfl)
theorem dX23_canBe_76 : decode cX23_canBe 76 = .ok (.checkcast 35, 3) := dk_192 0 35 (dk_at dksX23_canBe_3 7 rfl rfl)
theorem dX23_canBe_79 : decode cX23_canBe 79 = .ok (.getfield 45, 3) := dk_180 0 45 (dk_at dksX23_canBe_3 10 rfl rfl)
theorem dX23_canBe_82 : decode cX23_canBe 82 = .ok (.dup2, 1) := dk_92 (dk_at dksX23_canBe_3 13 rfl rfl)
theorem dX23_canBe_83 : decode cX23_canBe 83 = .ok (.iaload, 1) := dk_46 (dk_at dksX23_canBe_3 14 rfl rfl)
theorem dX23_canBe_84 : decode cX23_canBe 84 = .ok (.iconst 1, 1) := dk_4 (dk_at dksX23_canBe_3 15 rfl rfl)
theorem dX23_canBe_85 : decode cX23_canBe 85 = .ok (.aload_n 0, 1) := dk_42 (dk_at dksX23_canBe_3 16 rfl rfl)
theorem dX23_canBe_86 : decode cX23_canBe 86 = .ok (.getfield 15, 3) := dk_180 0 15 (dk_at dksX23_canBe_3 17 rfl rfl)
theorem dX23_canBe_89 : decode cX23_canBe 89 = .ok (.getfield 19, 3) := dk_180 0 19 (dk_at dksX23_canBe_3 20 rfl rfl)
theorem dX23_canBe_92 : decode cX23_canBe 92 = .ok (.iload_n 2, 1) := dk_28 (dk_at dksX23_canBe_3 23 rfl rfl)
theorem dX23_canBe_93 : decode cX23_canBe 93 = .ok (.invokevirtual 31, 3) := dk_182 0 31 (dk_at dksX23_canBe_4 0 rfl rfl)
theorem dX23_canBe_96 : decode cX23_canBe 96 = .ok (.checkcast 35, 3) := dk_192 0 35 (dk_at dksX23_canBe_4 3 rfl rfl)
theorem dX23_canBe_99 : decode cX23_canBe 99 = .ok (.getfield 48, 3) := dk_180 0 48 (dk_at dksX23_canBe_4 6 rfl rfl)
theorem dX23_canBe_102 : decode cX23_canBe 102 = .ok (.ishl, 1) := dk_120 (dk_at dksX23_canBe_4 9 rfl rfl)
theorem dX23_canBe_103 : decode cX23_canBe 103 = .ok (.ior, 1) := dk_128 (dk_at dksX23_canBe_4 10 rfl rfl)
theorem dX23_canBe_104 : decode cX23_canBe 104 = .ok (.iastore, 1) := dk_79 (dk_at dksX23_canBe_4 11 rfl rfl)
theorem dX23_canBe_105 : decode cX23_canBe 105 = .ok (.iinc 2 1, 3) := dk_132 2 1 (dk_at dksX23_canBe_4 12 rfl rfl)
theorem dX23_canBe_108 : decode cX23_canBe 108 = .ok (.goto (-85), 3) := dk_167 255 171 (dk_at dksX23_canBe_4 15 rfl rfl)
theorem dX23_canBe_111 : decode cX23_canBe 111 = .ok (.iconst 0, 1) := dk_3 (dk_at dksX23_canBe_4 18 rfl rfl)
theorem dX23_canBe_112 : decode cX23_canBe 112 = .ok (.istore_n 2, 1) := dk_61 (dk_at dksX23_canBe_4 19 rfl rfl)
theorem dX23_canBe_113 : decode cX23_canBe 113 = .ok (.iload_n 2, 1) := dk_28 (dk_at dksX23_canBe_4 20 rfl rfl)
theorem dX23_canBe_114 : decode cX23_canBe 114 = .ok (.bipush 10, 2) := dk_16 10 (dk_at dksX23_canBe_4 21 rfl rfl)
theorem dX23_canBe_116 : decode cX23_canBe 116 = .ok (.if_icmp .ge 51, 3) := dk_162 0 51 (dk_at dksX23_canBe_5 0 rfl rfl)
theorem dX23_canBe_119 : decode cX23_canBe 119 = .ok (.iconst 0, 1) := dk_3 (dk_at dksX23_canBe_5 3 rfl rfl)
theorem dX23_canBe_120 : decode cX23_canBe 120 = .ok (.istore_n 3, 1) := dk_62 (dk_at dksX23_canBe_5 4 rfl rfl)
theorem dX23_canBe_121 : decode cX23_canBe 121 = .ok (.iload_n 3, 1) := dk_29 (dk_at dksX23_canBe_5 5 rfl rfl)
theorem dX23_canBe_122 : decode cX23_canBe 122 = .ok (.bipush 10, 2) := dk_16 10 (dk_at dksX23_canBe_5 6 rfl rfl)
theorem dX23_canBe_124 : decode cX23_canBe 124 = .ok (.if_icmp .ge 37, 3) := dk_162 0 37 (dk_at dksX23_canBe_5 8 rfl rfl)
theorem dX23_canBe_127 : decode cX23_canBe 127 = .ok (.aload_n 0, 1) := dk_42 (dk_at dksX23_canBe_5 11 rfl rfl)
theorem dX23_canBe_128 : decode cX23_canBe 128 = .ok (.getfield 9, 3) := dk_180 0 9 (dk_at dksX23_canBe_5 12 rfl rfl)
theorem dX23_canBe_131 : decode cX23_canBe 131 = .ok (.iload_n 3, 1) := dk_29 (dk_at dksX23_canBe_5 15 rfl rfl)
theorem dX23_canBe_132 : decode cX23_canBe 132 = .ok (.iaload, 1) := dk_46 (dk_at dksX23_canBe_5 16 rfl rfl)
theorem dX23_canBe_133 : decode cX23_canBe 133 = .ok (.iload_n 2, 1) := dk_28 (dk_at dksX23_canBe_5 17 rfl rfl)
theorem dX23_canBe_134 : decode cX23_canBe 134 = .ok (.invokestatic 41, 3) := dk_184 0 41 (dk_at dksX23_canBe_5 18 rfl rfl)
theorem dX23_canBe_137 : decode cX23_canBe 137 = .ok (.ifCond .eq 18, 3) := dk_153 0 18 (dk_at dksX23_canBe_5 21 rfl rfl)
theorem dX23_canBe_140 : decode cX23_canBe 140 = .ok (.aload_n 0, 1) := dk_42 (dk_at dksX23_canBe_6 0 rfl rfl)
theorem dX23_canBe_141 : decode cX23_canBe 141 = .ok (.getfield 9, 3) := dk_180 0 9 (dk_at dksX23_canBe_6 1 rfl rfl)
theorem dX23_canBe_144 : decode cX23_canBe 144 = .ok (.iload_n 3, 1) := dk_29 (dk_at dksX23_canBe_6 4 rfl rfl)
theorem dX23_canBe_145 : decode cX23_canBe 145 = .ok (.dup2, 1) := dk_92 (dk_at dksX23_canBe_6 5 rfl rfl)
theorem dX23_canBe_146 : decode cX23_canBe 146 = .ok (.iaload, 1) := dk_46 (dk_at dksX23_canBe_6 6 rfl rfl)
theorem dX23_canBe_147 : decode cX23_canBe 147 = .ok (.aload_n 0, 1) := dk_42 (dk_at dksX23_canBe_6 7 rfl rfl)
theorem dX23_canBe_148 : decode cX23_canBe 148 = .ok (.getfield 9, 3) := dk_180 0 9 (dk_at dksX23_canBe_6 8 rfl rfl)
theorem dX23_canBe_151 : decode cX23_canBe 151 = .ok (.iload_n 2, 1) := dk_28 (dk_at dksX23_canBe_6 11 rfl rfl)
theorem dX23_canBe_152 : decode cX23_canBe 152 = .ok (.iaload, 1) := dk_46 (dk_at dksX23_canBe_6 12 rfl rfl)
theorem dX23_canBe_153 : decode cX23_canBe 153 = .ok (.ior, 1) := dk_128 (dk_at dksX23_canBe_6 13 rfl rfl)
theorem dX23_canBe_154 : decode cX23_canBe 154 = .ok (.iastore, 1) := dk_79 (dk_at dksX23_canBe_6 14 rfl rfl)
theorem dX23_canBe_155 : decode cX23_canBe 155 = .ok (.iinc 3 1, 3) := dk_132 3 1 (dk_at dksX23_canBe_6 15 rfl rfl)
theorem dX23_canBe_158 : decode cX23_canBe 158 = .ok (.goto (-37), 3) := dk_167 255 219 (dk_at dksX23_canBe_6 18 rfl rfl)
theorem dX23_canBe_161 : decode cX23_canBe 161 = .ok (.iinc 2 1, 3) := dk_132 2 1 (dk_at dksX23_canBe_6 21 rfl rfl)
theorem dX23_canBe_164 : decode cX23_canBe 164 = .ok (.goto (-51), 3) := dk_167 255 205 (dk_at dksX23_canBe_7 0 rfl rfl)
theorem dX23_canBe_167 : decode cX23_canBe 167 = .ok (.iconst 0, 1) := dk_3 (dk_at dksX23_canBe_7 3 rfl rfl)
theorem dX23_canBe_168 : decode cX23_canBe 168 = .ok (.istore_n 2, 1) := dk_61 (dk_at dksX23_canBe_7 4 rfl rfl)
theorem dX23_canBe_169 : decode cX23_canBe 169 = .ok (.iload_n 2, 1) := dk_28 (dk_at dksX23_canBe_7 5 rfl rfl)
theorem dX23_canBe_170 : decode cX23_canBe 170 = .ok (.bipush 10, 2) := dk_16 10 (dk_at dksX23_canBe_7 6 rfl rfl)
theorem dX23_canBe_172 : decode cX23_canBe 172 = .ok (.if_icmp .ge 24, 3) := dk_162 0 24 (dk_at dksX23_canBe_7 8 rfl rfl)
theorem dX23_canBe_175 : decode cX23_canBe 175 = .ok (.aload_n 0, 1) := dk_42 (dk_at dksX23_canBe_7 11 rfl rfl)
theorem dX23_canBe_176 : decode cX23_canBe 176 = .ok (.getfield 9, 3) := dk_180 0 9 (dk_at dksX23_canBe_7 12 rfl rfl)
theorem dX23_canBe_179 : decode cX23_canBe 179 = .ok (.iload_n 2, 1) := dk_28 (dk_at dksX23_canBe_7 15 rfl rfl)
theorem dX23_canBe_180 : decode cX23_canBe 180 = .ok (.iaload, 1) := dk_46 (dk_at dksX23_canBe_7 16 rfl rfl)
theorem dX23_canBe_181 : decode cX23_canBe 181 = .ok (.iload_n 2, 1) := dk_28 (dk_at dksX23_canBe_7 17 rfl rfl)
theorem dX23_canBe_182 : decode cX23_canBe 182 = .ok (.invokestatic 41, 3) := dk_184 0 41 (dk_at dksX23_canBe_7 18 rfl rfl)
theorem dX23_canBe_185 : decode cX23_canBe 185 = .ok (.ifCond .eq 5, 3) := dk_153 0 5 (dk_at dksX23_canBe_7 21 rfl rfl)
theorem dX23_canBe_188 : decode cX23_canBe 188 = .ok (.iconst 0, 1) := dk_3 (dk_at dksX23_canBe_8 0 rfl rfl)
theorem dX23_canBe_189 : decode cX23_canBe 189 = .ok (.ireturn, 1) := dk_172 (dk_at dksX23_canBe_8 1 rfl rfl)
theorem dX23_canBe_190 : decode cX23_canBe 190 = .ok (.iinc 2 1, 3) := dk_132 2 1 (dk_at dksX23_canBe_8 2 rfl rfl)
theorem dX23_canBe_193 : decode cX23_canBe 193 = .ok (.goto (-24), 3) := dk_167 255 232 (dk_at dksX23_canBe_8 5 rfl rfl)
theorem dX23_canBe_196 : decode cX23_canBe 196 = .ok (.iconst 1, 1) := dk_4 (dk_at dksX23_canBe_8 8 rfl rfl)
theorem dX23_canBe_197 : decode cX23_canBe 197 = .ok (.ireturn, 1) := dk_172 (dk_at dksX23_canBe_8 9 rfl rfl)
abbrev cX23_isAhead : ByteArray := prog_20_method_4_code
def yX23_isAhead : MethodName := ⟨RX23, "isAhead", "(II)Z"⟩
def dkwX23_isAhead_0 : List UInt8 := [42, 180, 0, 9, 27, 46, 28, 184, 0, 41, 172]
abbrev dktX23_isAhead_0 : List UInt8 := dkwX23_isAhead_0 ++ []
theorem dksX23_isAhead_0 : cX23_isAhead.data.toList.drop 0 = dktX23_isAhead_0 := by decide +kernel
theorem dX23_isAhead_0 : decode cX23_isAhead 0 = .ok (.aload_n 0, 1) := dk_42 (dk_at dksX23_isAhead_0 0 rfl rfl)
theorem dX23_isAhead_1 : decode cX23_isAhead 1 = .ok (.getfield 9, 3) := dk_180 0 9 (dk_at dksX23_isAhead_0 1 rfl rfl)
theorem dX23_isAhead_4 : decode cX23_isAhead 4 = .ok (.iload_n 1, 1) := dk_27 (dk_at dksX23_isAhead_0 4 rfl rfl)
theorem dX23_isAhead_5 : decode cX23_isAhead 5 = .ok (.iaload, 1) := dk_46 (dk_at dksX23_isAhead_0 5 rfl rfl)
theorem dX23_isAhead_6 : decode cX23_isAhead 6 = .ok (.iload_n 2, 1) := dk_28 (dk_at dksX23_isAhead_0 6 rfl rfl)
theorem dX23_isAhead_7 : decode cX23_isAhead 7 = .ok (.invokestatic 41, 3) := dk_184 0 41 (dk_at dksX23_isAhead_0 7 rfl rfl)
theorem dX23_isAhead_10 : decode cX23_isAhead 10 = .ok (.ireturn, 1) := dk_172 (dk_at dksX23_isAhead_0 10 rfl rfl)
theorem q159 : (Jvm.Cond.initialized "NextAtBar$Tellings") ∈ lw_all := lw_g (lw_at lw_m1 37 rfl) rfl
theorem q329 : (Jvm.Cond.fieldLink "NextAtBar$Tellings" (51 : Nat) "NextAtBar$House" "people" "Ljava/util/ArrayList;") ∈ lw_all := lw_g (lw_at lw_m1 207 rfl) rfl
theorem q333 : (Jvm.Cond.fieldLink "NextAtBar$Tellings" (19 : Nat) "NextAtBar$House" "tellings" "Ljava/util/ArrayList;") ∈ lw_all := lw_g (lw_at lw_m1 211 rfl) rfl
theorem q824 : (Jvm.Cond.selects "NextAtBar$Tellings" ({ cls := "java/lang/Object", name := "getClass", desc := "()Ljava/lang/Class;" } : Jvm.MethodName) ({ cls := "java/lang/Object", name := "getClass", desc := "()Ljava/lang/Class;" } : Jvm.MethodName)) ∈ lw_all := lw_g (lw_at lw_m3 222 rfl) rfl
theorem q1060 : (Jvm.Cond.fieldLink "NextAtBar$Tellings" (37 : Nat) "NextAtBar$Telling" "telle\x72" "I") ∈ lw_all := lw_g (lw_at lw_m4 218 rfl) rfl
theorem q1062 : (Jvm.Cond.fieldLink "NextAtBar$Tellings" (45 : Nat) "NextAtBar$Telling" "one" "I") ∈ lw_all := lw_g (lw_at lw_m4 220 rfl) rfl
theorem q1065 : (Jvm.Cond.fieldLink "NextAtBar$Tellings" (48 : Nat) "NextAtBar$Telling" "othe\x72" "I") ∈ lw_all := lw_g (lw_at lw_m4 223 rfl) rfl
theorem q1635 : (Jvm.Cond.instantiable "NextAtBar$Tellings" (2 : Nat)) ∈ lw_all := lw_g (lw_at lw_m7 73 rfl) rfl
theorem q1637 : (Jvm.Cond.instanceMethod ({ cls := "NextAtBar$Tellings", name := "<init>", desc := "(LNextAtBar$House;)V" } : Jvm.MethodName)) ∈ lw_all := lw_g (lw_at lw_m7 75 rfl) rfl
theorem q1638 : (Jvm.Cond.code ({ cls := "NextAtBar$Tellings", name := "<init>", desc := "(LNextAtBar$House;)V" } : Jvm.MethodName) prog_20_method_1_code (2 : Nat) (Option.none : Option Jvm.ClassFile.FieldType)) ∈ lw_all := lw_g (lw_at lw_m7 76 rfl) rfl
theorem q1639 : (Jvm.Cond.methodLink "NextAtBar$Tellings" (3 : Nat) ({ cls := "java/lang/Object", name := "<init>", desc := "()V" } : Jvm.MethodName)) ∈ lw_all := lw_g (lw_at lw_m7 77 rfl) rfl
theorem q1640 : (Jvm.Cond.fieldLink "NextAtBar$Tellings" (15 : Nat) "NextAtBar$Tellings" "house" "LNextAtBar$House;") ∈ lw_all := lw_g (lw_at lw_m7 78 rfl) rfl
theorem q1641 : (Jvm.Cond.fieldLink "NextAtBar$Tellings" (9 : Nat) "NextAtBar$Tellings" "ahead" "[I") ∈ lw_all := lw_g (lw_at lw_m7 79 rfl) rfl
theorem q1642 : (Jvm.Cond.laysFinal "NextAtBar$Tellings" "NextAtBar$Tellings" "house" "LNextAtBar$House;") ∈ lw_all := lw_g (lw_at lw_m7 80 rfl) rfl
theorem q1643 : (Jvm.Cond.soleField "NextAtBar$Tellings" "house") ∈ lw_all := lw_g (lw_at lw_m7 81 rfl) rfl
theorem q1644 : (Jvm.Cond.laysFinal "NextAtBar$Tellings" "NextAtBar$Tellings" "ahead" "[I") ∈ lw_all := lw_g (lw_at lw_m7 82 rfl) rfl
theorem q1645 : (Jvm.Cond.soleField "NextAtBar$Tellings" "ahead") ∈ lw_all := lw_g (lw_at lw_m7 83 rfl) rfl
theorem q1646 : (Jvm.Cond.superclass "NextAtBar$Tellings" "java/lang/Object") ∈ lw_all := lw_g (lw_at lw_m7 84 rfl) rfl
theorem q1648 : (Jvm.Cond.instanceMethod ({ cls := "NextAtBar$Tellings", name := "liars", desc := "()I" } : Jvm.MethodName)) ∈ lw_all := lw_g (lw_at lw_m7 86 rfl) rfl
theorem q1649 : (Jvm.Cond.selects "NextAtBar$Tellings" ({ cls := "NextAtBar$Tellings", name := "liars", desc := "()I" } : Jvm.MethodName) ({ cls := "NextAtBar$Tellings", name := "liars", desc := "()I" } : Jvm.MethodName)) ∈ lw_all := lw_g (lw_at lw_m7 87 rfl) rfl
theorem q1650 : (Jvm.Cond.code ({ cls := "NextAtBar$Tellings", name := "liars", desc := "()I" } : Jvm.MethodName) prog_20_method_3_code (3 : Nat) (Option.some Jvm.ClassFile.FieldType.int)) ∈ lw_all := lw_g (lw_at lw_m7 88 rfl) rfl
theorem q1651 : (Jvm.Cond.methodLink "NextAtBar$Tellings" (25 : Nat) ({ cls := "java/util/ArrayList", name := "size", desc := "()I" } : Jvm.MethodName)) ∈ lw_all := lw_g (lw_at lw_m7 89 rfl) rfl
theorem q1652 : (Jvm.Cond.methodLinkNest "NextAtBar$Tellings" (54 : Nat) ({ cls := "NextAtBa\x72", name := "bits", desc := "(I)I" } : Jvm.MethodName) "NextAtBa\x72") ∈ lw_tbl := lw_at lw_m7 90 rfl
theorem q1653 : (Jvm.Cond.methodLink "NextAtBar$Tellings" (58 : Nat) ({ cls := "NextAtBar$Tellings", name := "canBe", desc := "(I)Z" } : Jvm.MethodName)) ∈ lw_all := lw_g (lw_at lw_m7 91 rfl) rfl
theorem q1654 : (Jvm.Cond.instanceMethod ({ cls := "NextAtBar$Tellings", name := "canBe", desc := "(I)Z" } : Jvm.MethodName)) ∈ lw_all := lw_g (lw_at lw_m7 92 rfl) rfl
theorem q1655 : (Jvm.Cond.selects "NextAtBar$Tellings" ({ cls := "NextAtBar$Tellings", name := "canBe", desc := "(I)Z" } : Jvm.MethodName) ({ cls := "NextAtBar$Tellings", name := "canBe", desc := "(I)Z" } : Jvm.MethodName)) ∈ lw_all := lw_g (lw_at lw_m7 93 rfl) rfl
theorem q1656 : (Jvm.Cond.code ({ cls := "NextAtBar$Tellings", name := "canBe", desc := "(I)Z" } : Jvm.MethodName) prog_20_method_2_code (4 : Nat) (Option.some Jvm.ClassFile.FieldType.boolean)) ∈ lw_all := lw_g (lw_at lw_m7 94 rfl) rfl
theorem q1657 : (Jvm.Cond.methodLink "NextAtBar$Tellings" (31 : Nat) ({ cls := "java/util/ArrayList", name := "get", desc := "(I)Ljava/lang/Object;" } : Jvm.MethodName)) ∈ lw_all := lw_g (lw_at lw_m7 95 rfl) rfl
theorem q1658 : (Jvm.Cond.classLink "NextAtBar$Tellings" (35 : Nat) "NextAtBar$Telling") ∈ lw_all := lw_g (lw_at lw_m7 96 rfl) rfl
theorem q1659 : (Jvm.Cond.methodLinkNest "NextAtBar$Tellings" (41 : Nat) ({ cls := "NextAtBa\x72", name := "holds", desc := "(II)Z" } : Jvm.MethodName) "NextAtBa\x72") ∈ lw_tbl := lw_at lw_m7 97 rfl
theorem q1666 : (Jvm.Cond.instanceMethod ({ cls := "NextAtBar$Tellings", name := "isAhead", desc := "(II)Z" } : Jvm.MethodName)) ∈ lw_all := lw_g (lw_at lw_m7 104 rfl) rfl
theorem q1667 : (Jvm.Cond.selects "NextAtBar$Tellings" ({ cls := "NextAtBar$Tellings", name := "isAhead", desc := "(II)Z" } : Jvm.MethodName) ({ cls := "NextAtBar$Tellings", name := "isAhead", desc := "(II)Z" } : Jvm.MethodName)) ∈ lw_all := lw_g (lw_at lw_m7 105 rfl) rfl
theorem q1668 : (Jvm.Cond.code ({ cls := "NextAtBar$Tellings", name := "isAhead", desc := "(II)Z" } : Jvm.MethodName) prog_20_method_4_code (3 : Nat) (Option.some Jvm.ClassFile.FieldType.boolean)) ∈ lw_all := lw_g (lw_at lw_m7 106 rfl) rfl
theorem q2533 : (Jvm.Cond.castable "NextAtBar$Tellings" "java/lang/Object") ∈ lw_tbl := lw_at lw_m11 11 rfl
theorem in_X23 : ∀ w ∈ wsX230, w ∈ lw_all := lw_in wsX230 [1642, 1644] (by decide +kernel) (by decide +kernel)
