/-! TokenRingModel -/
set_option maxRecDepth 100000
def RX3 : String := "TokenRingModel"
def TX3 : u_T := fun k => match k with
  | 0 => ("TokenRingModel", "now", "[I", true)
  | 1 => ("TokenRingModel", "before", "[I", true)
  | 2 => ("TokenRingModel", "aside", "[I", true)
  | 3 => ("TokenRingModel", "saved", "[I", true)
  | 4 => ("TokenRingModel", "changes", "[I", true)
  | 5 => ("TokenRingModel", "thrown", "I", false)
  | 6 => ("TokenRingModel", "changed", "I", false)
  | 7 => ("TokenRingModel", "why", "I", false)
  | 8 => ("TokenRingModel", "number", "I", false)
  | 9 => ("TokenRingModel", "reason", "I", false)
  | 10 => ("TokenRingModel", "detail", "I", false)
  | 11 => ("TokenRingModel", "causeWhy", "I", false)
  | 12 => ("TokenRingModel", "causeNumber", "I", false)
  | 13 => ("TokenRingModel", "faultAt", "I", false)
  | 14 => ("TokenRingModel", "isSaved", "Z", false)
  | 15 => ("TokenRingModel", "text", "[I", true)
  | 16 => ("TokenRingModel", "signs", "[I", true)
  | 17 => ("TokenRingModel", "a", "[I", true)
  | 18 => ("TokenRingModel", "b2", "[I", true)
  | 19 => ("TokenRingModel", "c3", "[I", true)
  | 20 => ("TokenRingModel", "fed", "I", false)
  | 21 => ("TokenRingModel", "at", "I", false)
  | 22 => ("TokenRingModel", "orders", "I", false)
  | 23 => ("TokenRingModel", "isWrong", "Z", false)
  | 24 => ("TokenRingModel", "line", "[I", true)
  | _ => ("TokenRingModel", "lineLong", "I", false)
def tyX3 : Nat → FieldType := fun k => match k with
  | 0 => .array .int
  | 1 => .array .int
  | 2 => .array .int
  | 3 => .array .int
  | 4 => .array .int
  | 5 => .int
  | 6 => .int
  | 7 => .int
  | 8 => .int
  | 9 => .int
  | 10 => .int
  | 11 => .int
  | 12 => .int
  | 13 => .int
  | 14 => .boolean
  | 15 => .array .int
  | 16 => .array .int
  | 17 => .array .int
  | 18 => .array .int
  | 19 => .array .int
  | 20 => .int
  | 21 => .int
  | 22 => .int
  | 23 => .boolean
  | 24 => .array .int
  | _ => .int
abbrev wsX30 : List Cond := u_ws RX3 TX3 26
set_option maxRecDepth 100000 in
theorem nmX3 : ∀ a, a < 26 → ∀ b, b < 26 → a ≠ b → (TX3 a).2.1 ≠ (TX3 b).2.1 := by decide +kernel
set_option maxRecDepth 100000 in
theorem tyX3_ok : ∀ k, k < 26 → parseFieldDescriptor (TX3 k).2.2.1 = some (tyX3 k) := by decide +kernel
abbrev cX3_init : ByteArray := prog_20_method_1_code
def yX3_init : MethodName := ⟨RX3, "<init>", "()V"⟩
def dkwX3_init_7 : List UInt8 := [181, 0, 84, 42, 3, 181, 0, 87, 42, 180, 0, 7, 5, 2, 79, 177]
abbrev dktX3_init_7 : List UInt8 := dkwX3_init_7 ++ []
def dkwX3_init_6 : List UInt8 := [181, 0, 72, 42, 3, 181, 0, 75, 42, 3, 181, 0, 78, 42, 3, 181, 0, 81, 42, 16, 120, 188, 10]
abbrev dktX3_init_6 : List UInt8 := dkwX3_init_6 ++ dktX3_init_7
def dkwX3_init_5 : List UInt8 := [188, 10, 181, 0, 63, 42, 16, 32, 188, 10, 181, 0, 66, 42, 16, 32, 188, 10, 181, 0, 69, 42, 3]
abbrev dktX3_init_5 : List UInt8 := dkwX3_init_5 ++ dktX3_init_6
def dkwX3_init_4 : List UInt8 := [42, 3, 181, 0, 53, 42, 16, 60, 188, 10, 181, 0, 57, 42, 16, 32, 188, 10, 181, 0, 60, 42, 16, 32]
abbrev dktX3_init_4 : List UInt8 := dkwX3_init_4 ++ dktX3_init_5
def dkwX3_init_3 : List UInt8 := [3, 181, 0, 38, 42, 3, 181, 0, 41, 42, 3, 181, 0, 44, 42, 3, 181, 0, 47, 42, 2, 181, 0, 50]
abbrev dktX3_init_3 : List UInt8 := dkwX3_init_3 ++ dktX3_init_4
def dkwX3_init_2 : List UInt8 := [181, 0, 22, 42, 3, 181, 0, 25, 42, 3, 181, 0, 29, 42, 3, 181, 0, 32, 42, 3, 181, 0, 35, 42]
abbrev dktX3_init_2 : List UInt8 := dkwX3_init_2 ++ dktX3_init_3
def dkwX3_init_1 : List UInt8 := [17, 2, 159, 188, 10, 181, 0, 16, 42, 17, 2, 159, 188, 10, 181, 0, 19, 42, 17, 20, 248, 188, 10]
abbrev dktX3_init_1 : List UInt8 := dkwX3_init_1 ++ dktX3_init_2
def dkwX3_init_0 : List UInt8 := [42, 183, 0, 1, 42, 17, 2, 159, 188, 10, 181, 0, 7, 42, 17, 2, 159, 188, 10, 181, 0, 13, 42]
abbrev dktX3_init_0 : List UInt8 := dkwX3_init_0 ++ dktX3_init_1
theorem dksX3_init_0 : cX3_init.data.toList.drop 0 = dktX3_init_0 := by decide +kernel
theorem dksX3_init_1 : cX3_init.data.toList.drop 23 = dktX3_init_1 := dk_seg dksX3_init_0 23 rfl rfl
theorem dksX3_init_2 : cX3_init.data.toList.drop 46 = dktX3_init_2 := dk_seg dksX3_init_1 23 rfl rfl
theorem dksX3_init_3 : cX3_init.data.toList.drop 70 = dktX3_init_3 := dk_seg dksX3_init_2 24 rfl rfl
theorem dksX3_init_4 : cX3_init.data.toList.drop 94 = dktX3_init_4 := dk_seg dksX3_init_3 24 rfl rfl
theorem dksX3_init_5 : cX3_init.data.toList.drop 118 = dktX3_init_5 := dk_seg dksX3_init_4 24 rfl rfl
theorem dksX3_init_6 : cX3_init.data.toList.drop 141 = dktX3_init_6 := dk_seg dksX3_init_5 23 rfl rfl
theorem dksX3_init_7 : cX3_init.data.toList.drop 164 = dktX3_init_7 := dk_seg dksX3_init_6 23 rfl rfl
theorem dX3_init_0 : decode cX3_init 0 = .ok (.aload_n 0, 1) := dk_42 (dk_at dksX3_init_0 0 rfl rfl)
theorem dX3_init_1 : decode cX3_init 1 = .ok (.invokespecial 1, 3) := dk_183 0 1 (dk_at dksX3_init_0 1 rfl rfl)
theorem dX3_init_4 : decode cX3_init 4 = .ok (.aload_n 0, 1) := dk_42 (dk_at dksX3_init_0 4 rfl rfl)
theorem dX3_init_5 : decode cX3_init 5 = .ok (.sipush 671, 3) := dk_17 2 159 (dk_at dksX3_init_0 5 rfl rfl)
theorem dX3_init_8 : decode cX3_init 8 = .ok (.newarray .int, 2) := dk_188_10 (dk_at dksX3_init_0 8 rfl rfl)
theorem dX3_init_10 : decode cX3_init 10 = .ok (.putfield 7, 3) := dk_181 0 7 (dk_at dksX3_init_0 10 rfl rfl)
theorem dX3_init_13 : decode cX3_init 13 = .ok (.aload_n 0, 1) := dk_42 (dk_at dksX3_init_0 13 rfl rfl)
theorem dX3_init_14 : decode cX3_init 14 = .ok (.sipush 671, 3) := dk_17 2 159 (dk_at dksX3_init_0 14 rfl rfl)
theorem dX3_init_17 : decode cX3_init 17 = .ok (.newarray .int, 2) := dk_188_10 (dk_at dksX3_init_0 17 rfl rfl)
theorem dX3_init_19 : decode cX3_init 19 = .ok (.putfield 13, 3) := dk_181 0 13 (dk_at dksX3_init_0 19 rfl rfl)
theorem dX3_init_22 : decode cX3_init 22 = .ok (.aload_n 0, 1) := dk_42 (dk_at dksX3_init_0 22 rfl rfl)
theorem dX3_init_23 : decode cX3_init 23 = .ok (.sipush 671, 3) := dk_17 2 159 (dk_at dksX3_init_1 0 rfl rfl)
theorem dX3_init_26 : decode cX3_init 26 = .ok (.newarray .int, 2) := dk_188_10 (dk_at dksX3_init_1 3 rfl rfl)
theorem dX3_init_28 : decode cX3_init 28 = .ok (.putfield 16, 3) := dk_181 0 16 (dk_at dksX3_init_1 5 rfl rfl)
theorem dX3_init_31 : decode cX3_init 31 = .ok (.aload_n 0, 1) := dk_42 (dk_at dksX3_init_1 8 rfl rfl)
theorem dX3_init_32 : decode cX3_init 32 = .ok (.sipush 671, 3) := dk_17 2 159 (dk_at dksX3_init_1 9 rfl rfl)
theorem dX3_init_35 : decode cX3_init 35 = .ok (.newarray .int, 2) := dk_188_10 (dk_at dksX3_init_1 12 rfl rfl)
theorem dX3_init_37 : decode cX3_init 37 = .ok (.putfield 19, 3) := dk_181 0 19 (dk_at dksX3_init_1 14 rfl rfl)
theorem dX3_init_40 : decode cX3_init 40 = .ok (.aload_n 0, 1) := dk_42 (dk_at dksX3_init_1 17 rfl rfl)
theorem dX3_init_41 : decode cX3_init 41 = .ok (.sipush 5368, 3) := dk_17 20 248 (dk_at dksX3_init_1 18 rfl rfl)
theorem dX3_init_44 : decode cX3_init 44 = .ok (.newarray .int, 2) := dk_188_10 (dk_at dksX3_init_1 21 rfl rfl)
theorem dX3_init_46 : decode cX3_init 46 = .ok (.putfield 22, 3) := dk_181 0 22 (dk_at dksX3_init_2 0 rfl rfl)
theorem dX3_init_49 : decode cX3_init 49 = .ok (.aload_n 0, 1) := dk_42 (dk_at dksX3_init_2 3 rfl rfl)
theorem dX3_init_50 : decode cX3_init 50 = .ok (.iconst 0, 1) := dk_3 (dk_at dksX3_init_2 4 rfl rfl)
theorem dX3_init_51 : decode cX3_init 51 = .ok (.putfield 25, 3) := dk_181 0 25 (dk_at dksX3_init_2 5 rfl rfl)
theorem dX3_init_54 : decode cX3_init 54 = .ok (.aload_n 0, 1) := dk_42 (dk_at dksX3_init_2 8 rfl rfl)
theorem dX3_init_55 : decode cX3_init 55 = .ok (.iconst 0, 1) := dk_3 (dk_at dksX3_init_2 9 rfl rfl)
theorem dX3_init_56 : decode cX3_init 56 = .ok (.putfield 29, 3) := dk_181 0 29 (dk_at dksX3_init_2 10 rfl rfl)
theorem dX3_init_59 : decode cX3_init 59 = .ok (.aload_n 0, 1) := dk_42 (dk_at dksX3_init_2 13 rfl rfl)
theorem dX3_init_60 : decode cX3_init 60 = .ok (.iconst 0, 1) := dk_3 (dk_at dksX3_init_2 14 rfl rfl)
theorem dX3_init_61 : decode cX3_init 61 = .ok (.putfield 32, 3) := dk_181 0 32 (dk_at dksX3_init_2 15 rfl rfl)
theorem dX3_init_64 : decode cX3_init 64 = .ok (.aload_n 0, 1) := dk_42 (dk_at dksX3_init_2 18 rfl rfl)
theorem dX3_init_65 : decode cX3_init 65 = .ok (.iconst 0, 1) := dk_3 (dk_at dksX3_init_2 19 rfl rfl)
theorem dX3_init_66 : decode cX3_init 66 = .ok (.putfield 35, 3) := dk_181 0 35 (dk_at dksX3_init_2 20 rfl rfl)
theorem dX3_init_69 : decode cX3_init 69 = .ok (.aload_n 0, 1) := dk_42 (dk_at dksX3_init_2 23 rfl rfl)
theorem dX3_init_70 : decode cX3_init 70 = .ok (.iconst 0, 1) := dk_3 (dk_at dksX3_init_3 0 rfl rfl)
theorem dX3_init_71 : decode cX3_init 71 = .ok (.putfield 38, 3) := dk_181 0 38 (dk_at dksX3_init_3 1 rfl rfl)
theorem dX3_init_74 : decode cX3_init 74 = .ok (.aload_n 0, 1) := dk_42 (dk_at dksX3_init_3 4 rfl rfl)
theorem dX3_init_75 : decode cX3_init 75 = .ok (.iconst 0, 1) := dk_3 (dk_at dksX3_init_3 5 rfl rfl)
theorem dX3_init_76 : decode cX3_init 76 = .ok (.putfield 41, 3) := dk_181 0 41 (dk_at dksX3_init_3 6 rfl rfl)
theorem dX3_init_79 : decode cX3_init 79 = .ok (.aload_n 0, 1) := dk_42 (dk_at dksX3_init_3 9 rfl rfl)
theorem dX3_init_80 : decode cX3_init 80 = .ok (.iconst 0, 1) := dk_3 (dk_at dksX3_init_3 10 rfl rfl)
theorem dX3_init_81 : decode cX3_init 81 = .ok (.putfield 44, 3) := dk_181 0 44 (dk_at dksX3_init_3 11 rfl rfl)
theorem dX3_init_84 : decode cX3_init 84 = .ok (.aload_n 0, 1) := dk_42 (dk_at dksX3_init_3 14 rfl rfl)
theorem dX3_init_85 : decode cX3_init 85 = .ok (.iconst 0, 1) := dk_3 (dk_at dksX3_init_3 15 rfl rfl)
theorem dX3_init_86 : decode cX3_init 86 = .ok (.putfield 47, 3) := dk_181 0 47 (dk_at dksX3_init_3 16 rfl rfl)
theorem dX3_init_89 : decode cX3_init 89 = .ok (.aload_n 0, 1) := dk_42 (dk_at dksX3_init_3 19 rfl rfl)
theorem dX3_init_90 : decode cX3_init 90 = .ok (.iconst (-1), 1) := dk_2 (dk_at dksX3_init_3 20 rfl rfl)
theorem dX3_init_91 : decode cX3_init 91 = .ok (.putfield 50, 3) := dk_181 0 50 (dk_at dksX3_init_3 21 rfl rfl)
theorem dX3_init_94 : decode cX3_init 94 = .ok (.aload_n 0, 1) := dk_42 (dk_at dksX3_init_4 0 rfl rfl)
theorem dX3_init_95 : decode cX3_init 95 = .ok (.iconst 0, 1) := dk_3 (dk_at dksX3_init_4 1 rfl rfl)
theorem dX3_init_96 : decode cX3_init 96 = .ok (.putfield 53, 3) := dk_181 0 53 (dk_at dksX3_init_4 2 rfl rfl)
theorem dX3_init_99 : decode cX3_init 99 = .ok (.aload_n 0, 1) := dk_42 (dk_at dksX3_init_4 5 rfl rfl)
theorem dX3_init_100 : decode cX3_init 100 = .ok (.bipush 60, 2) := dk_16 60 (dk_at dksX3_init_4 6 rfl rfl)
theorem dX3_init_102 : decode cX3_init 102 = .ok (.newarray .int, 2) := dk_188_10 (dk_at dksX3_init_4 8 rfl rfl)
theorem dX3_init_104 : decode cX3_init 104 = .ok (.putfield 57, 3) := dk_181 0 57 (dk_at dksX3_init_4 10 rfl rfl)
theorem dX3_init_107 : decode cX3_init 107 = .ok (.aload_n 0, 1) := dk_42 (dk_at dksX3_init_4 13 rfl rfl)
theorem dX3_init_108 : decode cX3_init 108 = .ok (.bipush 32, 2) := dk_16 32 (dk_at dksX3_init_4 14 rfl rfl)
theorem dX3_init_110 : decode cX3_init 110 = .ok (.newarray .int, 2) := dk_188_10 (dk_at dksX3_init_4 16 rfl rfl)
theorem dX3_init_112 : decode cX3_init 112 = .ok (.putfield 60, 3) := dk_181 0 60 (dk_at dksX3_init_4 18 rfl rfl)
theorem dX3_init_115 : decode cX3_init 115 = .ok (.aload_n 0, 1) := dk_42 (dk_at dksX3_init_4 21 rfl rfl)
theorem dX3_init_116 : decode cX3_init 116 = .ok (.bipush 32, 2) := dk_16 32 (dk_at dksX3_init_4 22 rfl rfl)
theorem dX3_init_118 : decode cX3_init 118 = .ok (.newarray .int, 2) := dk_188_10 (dk_at dksX3_init_5 0 rfl rfl)
theorem dX3_init_120 : decode cX3_init 120 = .ok (.putfield 63, 3) := dk_181 0 63 (dk_at dksX3_init_5 2 rfl rfl)
theorem dX3_init_123 : decode cX3_init 123 = .ok (.aload_n 0, 1) := dk_42 (dk_at dksX3_init_5 5 rfl rfl)
theorem dX3_init_124 : decode cX3_init 124 = .ok (.bipush 32, 2) := dk_16 32 (dk_at dksX3_init_5 6 rfl rfl)
theorem dX3_init_126 : decode cX3_init 126 = .ok (.newarray .int, 2) := dk_188_10 (dk_at dksX3_init_5 8 rfl rfl)
theorem dX3_init_128 : decode cX3_init 128 = .ok (.putfield 66, 3) := dk_181 0 66 (dk_at dksX3_init_5 10 rfl rfl)
theorem dX3_init_131 : decode cX3_init 131 = .ok (.aload_n 0, 1) := dk_42 (dk_at dksX3_init_5 13 rfl rfl)
theorem dX3_init_132 : decode cX3_init 132 = .ok (.bipush 32, 2) := dk_16 32 (dk_at dksX3_init_5 14 rfl rfl)
theorem dX3_init_134 : decode cX3_init 134 = .ok (.newarray .int, 2) := dk_188_10 (dk_at dksX3_init_5 16 rfl rfl)
theorem dX3_init_136 : decode cX3_init 136 = .ok (.putfield 69, 3) := dk_181 0 69 (dk_at dksX3_init_5 18 rfl rfl)
theorem dX3_init_139 : decode cX3_init 139 = .ok (.aload_n 0, 1) := dk_42 (dk_at dksX3_init_5 21 rfl rfl)
theorem dX3_init_140 : decode cX3_init 140 = .ok (.iconst 0, 1) := dk_3 (dk_at dksX3_init_5 22 rfl rfl)
theorem dX3_init_141 : decode cX3_init 141 = .ok (.putfield 72, 3) := dk_181 0 72 (dk_at dksX3_init_6 0 rfl rfl)
theorem dX3_init_144 : decode cX3_init 144 = .ok (.aload_n 0, 1) := dk_42 (dk_at dksX3_init_6 3 rfl rfl)
theorem dX3_init_145 : decode cX3_init 145 = .ok (.iconst 0, 1) := dk_3 (dk_at dksX3_init_6 4 rfl rfl)
theorem dX3_init_146 : decode cX3_init 146 = .ok (.putfield 75, 3) := dk_181 0 75 (dk_at dksX3_init_6 5 rfl rfl)
theorem dX3_init_149 : decode cX3_init 149 = .ok (.aload_n 0, 1) := dk_42 (dk_at dksX3_init_6 8 rfl rfl)
theorem dX3_init_150 : decode cX3_init 150 = .ok (.iconst 0, 1) := dk_3 (dk_at dksX3_init_6 9 rfl rfl)
theorem dX3_init_151 : decode cX3_init 151 = .ok (.putfield 78, 3) := dk_181 0 78 (dk_at dksX3_init_6 10 rfl rfl)
theorem dX3_init_154 : decode cX3_init 154 = .ok (.aload_n 0, 1) := dk_42 (dk_at dksX3_init_6 13 rfl rfl)
theorem dX3_init_155 : decode cX3_init 155 = .ok (.iconst 0, 1) := dk_3 (dk_at dksX3_init_6 14 rfl rfl)
theorem dX3_init_156 : decode cX3_init 156 = .ok (.putfield 81, 3) := dk_181 0 81 (dk_at dksX3_init_6 15 rfl rfl)
theorem dX3_init_159 : decode cX3_init 159 = .ok (.aload_n 0, 1) := dk_42 (dk_at dksX3_init_6 18 rfl rfl)
theorem dX3_init_160 : decode cX3_init 160 = .ok (.bipush 120, 2) := dk_16 120 (dk_at dksX3_init_6 19 rfl rfl)
theorem dX3_init_162 : decode cX3_init 162 = .ok (.newarray .int, 2) := dk_188_10 (dk_at dksX3_init_6 21 rfl rfl)
theorem dX3_init_164 : decode cX3_init 164 = .ok (.putfield 84, 3) := dk_181 0 84 (dk_at dksX3_init_7 0 rfl rfl)
theorem dX3_init_167 : decode cX3_init 167 = .ok (.aload_n 0, 1) := dk_42 (dk_at dksX3_init_7 3 rfl rfl)
theorem dX3_init_168 : decode cX3_init 168 = .ok (.iconst 0, 1) := dk_3 (dk_at dksX3_init_7 4 rfl rfl)
theorem dX3_init_169 : decode cX3_init 169 = .ok (.putfield 87, 3) := dk_181 0 87 (dk_at dksX3_init_7 5 rfl rfl)
theorem dX3_init_172 : decode cX3_init 172 = .ok (.aload_n 0, 1) := dk_42 (dk_at dksX3_init_7 8 rfl rfl)
theorem dX3_init_173 : decode cX3_init 173 = .ok (.getfield 7, 3) := dk_180 0 7 (dk_at dksX3_init_7 9 rfl rfl)
theorem dX3_init_176 : decode cX3_init 176 = .ok (.iconst 2, 1) := dk_5 (dk_at dksX3_init_7 12 rfl rfl)
theorem dX3_init_177 : decode cX3_init 177 = .ok (.iconst (-1), 1) := dk_2 (dk_at dksX3_init_7 13 rfl rfl)
theorem dX3_init_178 : decode cX3_init 178 = .ok (.iastore, 1) := dk_79 (dk_at dksX3_init_7 14 rfl rfl)
theorem dX3_init_179 : decode cX3_init 179 = .ok (.return_, 1) := dk_177 (dk_at dksX3_init_7 15 rfl rfl)
abbrev cX3_thrown : ByteArray := prog_20_method_2_code
def yX3_thrown : MethodName := ⟨RX3, "thrown", "()I"⟩
theorem dX3_thrown_0 : decode cX3_thrown 0 = .ok (.aload_n 0, 1) := by decide +kernel
theorem dX3_thrown_1 : decode cX3_thrown 1 = .ok (.getfield 25, 3) := by decide +kernel
theorem dX3_thrown_4 : decode cX3_thrown 4 = .ok (.ireturn, 1) := by decide +kernel
abbrev cX3_join : ByteArray := prog_20_method_19_code
def yX3_join : MethodName := ⟨RX3, "join", "(I)I"⟩
def dkwX3_join_1 : List UInt8 := [182, 0, 131, 182, 0, 134, 172]
abbrev dktX3_join_1 : List UInt8 := dkwX3_join_1 ++ []
def dkwX3_join_0 : List UInt8 := [42, 182, 0, 121, 42, 27, 182, 0, 124, 153, 0, 10, 42, 182, 0, 127, 167, 0, 12, 42, 42, 27]
abbrev dktX3_join_0 : List UInt8 := dkwX3_join_0 ++ dktX3_join_1
theorem dksX3_join_0 : cX3_join.data.toList.drop 0 = dktX3_join_0 := by decide +kernel
theorem dksX3_join_1 : cX3_join.data.toList.drop 22 = dktX3_join_1 := dk_seg dksX3_join_0 22 rfl rfl
theorem dX3_join_0 : decode cX3_join 0 = .ok (.aload_n 0, 1) := dk_42 (dk_at dksX3_join_0 0 rfl rfl)
theorem dX3_join_1 : decode cX3_join 1 = .ok (.invokevirtual 121, 3) := dk_182 0 121 (dk_at dksX3_join_0 1 rfl rfl)
theorem dX3_join_4 : decode cX3_join 4 = .ok (.aload_n 0, 1) := dk_42 (dk_at dksX3_join_0 4 rfl rfl)
theorem dX3_join_5 : decode cX3_join 5 = .ok (.iload_n 1, 1) := dk_27 (dk_at dksX3_join_0 5 rfl rfl)
theorem dX3_join_6 : decode cX3_join 6 = .ok (.invokevirtual 124, 3) := dk_182 0 124 (dk_at dksX3_join_0 6 rfl rfl)
theorem dX3_join_9 : decode cX3_join 9 = .ok (.ifCond .eq 10, 3) := dk_153 0 10 (dk_at dksX3_join_0 9 rfl rfl)
theorem dX3_join_12 : decode cX3_join 12 = .ok (.aload_n 0, 1) := dk_42 (dk_at dksX3_join_0 12 rfl rfl)
theorem dX3_join_13 : decode cX3_join 13 = .ok (.invokevirtual 127, 3) := dk_182 0 127 (dk_at dksX3_join_0 13 rfl rfl)
theorem dX3_join_16 : decode cX3_join 16 = .ok (.goto 12, 3) := dk_167 0 12 (dk_at dksX3_join_0 16 rfl rfl)
theorem dX3_join_19 : decode cX3_join 19 = .ok (.aload_n 0, 1) := dk_42 (dk_at dksX3_join_0 19 rfl rfl)
theorem dX3_join_20 : decode cX3_join 20 = .ok (.aload_n 0, 1) := dk_42 (dk_at dksX3_join_0 20 rfl rfl)
theorem dX3_join_21 : decode cX3_join 21 = .ok (.iload_n 1, 1) := dk_27 (dk_at dksX3_join_0 21 rfl rfl)
theorem dX3_join_22 : decode cX3_join 22 = .ok (.invokevirtual 131, 3) := dk_182 0 131 (dk_at dksX3_join_1 0 rfl rfl)
theorem dX3_join_25 : decode cX3_join 25 = .ok (.invokevirtual 134, 3) := dk_182 0 134 (dk_at dksX3_join_1 3 rfl rfl)
theorem dX3_join_28 : decode cX3_join 28 = .ok (.ireturn, 1) := dk_172 (dk_at dksX3_join_1 6 rfl rfl)
abbrev cX3_begins : ByteArray := prog_20_method_9_code
def yX3_begins : MethodName := ⟨RX3, "begins", "()V"⟩
def dkwX3_begins_0 : List UInt8 := [42, 3, 181, 0, 25, 42, 180, 0, 7, 3, 42, 180, 0, 13, 3, 184, 0, 94, 177]
abbrev dktX3_begins_0 : List UInt8 := dkwX3_begins_0 ++ []
theorem dksX3_begins_0 : cX3_begins.data.toList.drop 0 = dktX3_begins_0 := by decide +kernel
theorem dX3_begins_0 : decode cX3_begins 0 = .ok (.aload_n 0, 1) := dk_42 (dk_at dksX3_begins_0 0 rfl rfl)
theorem dX3_begins_1 : decode cX3_begins 1 = .ok (.iconst 0, 1) := dk_3 (dk_at dksX3_begins_0 1 rfl rfl)
theorem dX3_begins_2 : decode cX3_begins 2 = .ok (.putfield 25, 3) := dk_181 0 25 (dk_at dksX3_begins_0 2 rfl rfl)
theorem dX3_begins_5 : decode cX3_begins 5 = .ok (.aload_n 0, 1) := dk_42 (dk_at dksX3_begins_0 5 rfl rfl)
theorem dX3_begins_6 : decode cX3_begins 6 = .ok (.getfield 7, 3) := dk_180 0 7 (dk_at dksX3_begins_0 6 rfl rfl)
theorem dX3_begins_9 : decode cX3_begins 9 = .ok (.iconst 0, 1) := dk_3 (dk_at dksX3_begins_0 9 rfl rfl)
theorem dX3_begins_10 : decode cX3_begins 10 = .ok (.aload_n 0, 1) := dk_42 (dk_at dksX3_begins_0 10 rfl rfl)
theorem dX3_begins_11 : decode cX3_begins 11 = .ok (.getfield 13, 3) := dk_180 0 13 (dk_at dksX3_begins_0 11 rfl rfl)
theorem dX3_begins_14 : decode cX3_begins 14 = .ok (.iconst 0, 1) := dk_3 (dk_at dksX3_begins_0 14 rfl rfl)
theorem dX3_begins_15 : decode cX3_begins 15 = .ok (.invokestatic 94, 3) := dk_184 0 94 (dk_at dksX3_begins_0 15 rfl rfl)
theorem dX3_begins_18 : decode cX3_begins 18 = .ok (.return_, 1) := dk_177 (dk_at dksX3_begins_0 18 rfl rfl)
abbrev cX3_copies : ByteArray := prog_20_method_5_code
def yX3_copies : MethodName := ⟨RX3, "copies", "([II[II)V"⟩
def dkwX3_copies_1 : List UInt8 := [132, 4, 1, 167, 255, 233, 177]
abbrev dktX3_copies_1 : List UInt8 := dkwX3_copies_1 ++ []
def dkwX3_copies_0 : List UInt8 := [3, 54, 4, 21, 4, 17, 2, 159, 162, 0, 21, 44, 29, 21, 4, 96, 42, 27, 21, 4, 96, 46, 79]
abbrev dktX3_copies_0 : List UInt8 := dkwX3_copies_0 ++ dktX3_copies_1
theorem dksX3_copies_0 : cX3_copies.data.toList.drop 0 = dktX3_copies_0 := by decide +kernel
theorem dksX3_copies_1 : cX3_copies.data.toList.drop 23 = dktX3_copies_1 := dk_seg dksX3_copies_0 23 rfl rfl
theorem dX3_copies_0 : decode cX3_copies 0 = .ok (.iconst 0, 1) := dk_3 (dk_at dksX3_copies_0 0 rfl rfl)
theorem dX3_copies_1 : decode cX3_copies 1 = .ok (.istore 4, 2) := dk_54 4 (dk_at dksX3_copies_0 1 rfl rfl)
theorem dX3_copies_3 : decode cX3_copies 3 = .ok (.iload 4, 2) := dk_21 4 (dk_at dksX3_copies_0 3 rfl rfl)
theorem dX3_copies_5 : decode cX3_copies 5 = .ok (.sipush 671, 3) := dk_17 2 159 (dk_at dksX3_copies_0 5 rfl rfl)
theorem dX3_copies_8 : decode cX3_copies 8 = .ok (.if_icmp .ge 21, 3) := dk_162 0 21 (dk_at dksX3_copies_0 8 rfl rfl)
theorem dX3_copies_11 : decode cX3_copies 11 = .ok (.aload_n 2, 1) := dk_44 (dk_at dksX3_copies_0 11 rfl rfl)
theorem dX3_copies_12 : decode cX3_copies 12 = .ok (.iload_n 3, 1) := dk_29 (dk_at dksX3_copies_0 12 rfl rfl)
theorem dX3_copies_13 : decode cX3_copies 13 = .ok (.iload 4, 2) := dk_21 4 (dk_at dksX3_copies_0 13 rfl rfl)
theorem dX3_copies_15 : decode cX3_copies 15 = .ok (.iadd, 1) := dk_96 (dk_at dksX3_copies_0 15 rfl rfl)
theorem dX3_copies_16 : decode cX3_copies 16 = .ok (.aload_n 0, 1) := dk_42 (dk_at dksX3_copies_0 16 rfl rfl)
theorem dX3_copies_17 : decode cX3_copies 17 = .ok (.iload_n 1, 1) := dk_27 (dk_at dksX3_copies_0 17 rfl rfl)
theorem dX3_copies_18 : decode cX3_copies 18 = .ok (.iload 4, 2) := dk_21 4 (dk_at dksX3_copies_0 18 rfl rfl)
theorem dX3_copies_20 : decode cX3_copies 20 = .ok (.iadd, 1) := dk_96 (dk_at dksX3_copies_0 20 rfl rfl)
theorem dX3_copies_21 : decode cX3_copies 21 = .ok (.iaload, 1) := dk_46 (dk_at dksX3_copies_0 21 rfl rfl)
theorem dX3_copies_22 : decode cX3_copies 22 = .ok (.iastore, 1) := dk_79 (dk_at dksX3_copies_0 22 rfl rfl)
theorem dX3_copies_23 : decode cX3_copies 23 = .ok (.iinc 4 1, 3) := dk_132 4 1 (dk_at dksX3_copies_1 0 rfl rfl)
theorem dX3_copies_26 : decode cX3_copies 26 = .ok (.goto (-23), 3) := dk_167 255 233 (dk_at dksX3_copies_1 3 rfl rfl)
theorem dX3_copies_29 : decode cX3_copies 29 = .ok (.return_, 1) := dk_177 (dk_at dksX3_copies_1 6 rfl rfl)
abbrev cX3_isRefusedJoin : ByteArray := prog_20_method_17_code
def yX3_isRefusedJoin : MethodName := ⟨RX3, "isRefusedJoin", "(I)Z"⟩
def dkwX3_isRefusedJoin_2 : List UInt8 := [153, 0, 7, 4, 167, 0, 4, 3, 172]
abbrev dktX3_isRefusedJoin_2 : List UInt8 := dkwX3_isRefusedJoin_2 ++ []
def dkwX3_isRefusedJoin_1 : List UInt8 := [27, 182, 0, 109, 172, 42, 180, 0, 7, 4, 46, 16, 10, 160, 0, 17, 42, 7, 16, 10, 182, 0, 109]
abbrev dktX3_isRefusedJoin_1 : List UInt8 := dkwX3_isRefusedJoin_1 ++ dktX3_isRefusedJoin_2
def dkwX3_isRefusedJoin_0 : List UInt8 := [27, 184, 0, 113, 154, 0, 10, 42, 4, 27, 182, 0, 109, 172, 42, 27, 182, 0, 106, 155, 0, 10, 42, 5]
abbrev dktX3_isRefusedJoin_0 : List UInt8 := dkwX3_isRefusedJoin_0 ++ dktX3_isRefusedJoin_1
theorem dksX3_isRefusedJoin_0 : cX3_isRefusedJoin.data.toList.drop 0 = dktX3_isRefusedJoin_0 := by decide +kernel
theorem dksX3_isRefusedJoin_1 : cX3_isRefusedJoin.data.toList.drop 24 = dktX3_isRefusedJoin_1 := dk_seg dksX3_isRefusedJoin_0 24 rfl rfl
theorem dksX3_isRefusedJoin_2 : cX3_isRefusedJoin.data.toList.drop 47 = dktX3_isRefusedJoin_2 := dk_seg dksX3_isRefusedJoin_1 23 rfl rfl
theorem dX3_isRefusedJoin_0 : decode cX3_isRefusedJoin 0 = .ok (.iload_n 1, 1) := dk_27 (dk_at dksX3_isRefusedJoin_0 0 rfl rfl)
theorem dX3_isRefusedJoin_1 : decode cX3_isRefusedJoin 1 = .ok (.invokestatic 113, 3) := dk_184 0 113 (dk_at dksX3_isRefusedJoin_0 1 rfl rfl)
theorem dX3_isRefusedJoin_4 : decode cX3_isRefusedJoin 4 = .ok (.ifCond .ne 10, 3) := dk_154 0 10 (dk_at dksX3_isRefusedJoin_0 4 rfl rfl)
theorem dX3_isRefusedJoin_7 : decode cX3_isRefusedJoin 7 = .ok (.aload_n 0, 1) := dk_42 (dk_at dksX3_isRefusedJoin_0 7 rfl rfl)
theorem dX3_isRefusedJoin_8 : decode cX3_isRefusedJoin 8 = .ok (.iconst 1, 1) := dk_4 (dk_at dksX3_isRefusedJoin_0 8 rfl rfl)
theorem dX3_isRefusedJoin_9 : decode cX3_isRefusedJoin 9 = .ok (.iload_n 1, 1) := dk_27 (dk_at dksX3_isRefusedJoin_0 9 rfl rfl)
theorem dX3_isRefusedJoin_10 : decode cX3_isRefusedJoin 10 = .ok (.invokevirtual 109, 3) := dk_182 0 109 (dk_at dksX3_isRefusedJoin_0 10 rfl rfl)
theorem dX3_isRefusedJoin_13 : decode cX3_isRefusedJoin 13 = .ok (.ireturn, 1) := dk_172 (dk_at dksX3_isRefusedJoin_0 13 rfl rfl)
theorem dX3_isRefusedJoin_14 : decode cX3_isRefusedJoin 14 = .ok (.aload_n 0, 1) := dk_42 (dk_at dksX3_isRefusedJoin_0 14 rfl rfl)
theorem dX3_isRefusedJoin_15 : decode cX3_isRefusedJoin 15 = .ok (.iload_n 1, 1) := dk_27 (dk_at dksX3_isRefusedJoin_0 15 rfl rfl)
theorem dX3_isRefusedJoin_16 : decode cX3_isRefusedJoin 16 = .ok (.invokevirtual 106, 3) := dk_182 0 106 (dk_at dksX3_isRefusedJoin_0 16 rfl rfl)
theorem dX3_isRefusedJoin_19 : decode cX3_isRefusedJoin 19 = .ok (.ifCond .lt 10, 3) := dk_155 0 10 (dk_at dksX3_isRefusedJoin_0 19 rfl rfl)
theorem dX3_isRefusedJoin_22 : decode cX3_isRefusedJoin 22 = .ok (.aload_n 0, 1) := dk_42 (dk_at dksX3_isRefusedJoin_0 22 rfl rfl)
theorem dX3_isRefusedJoin_23 : decode cX3_isRefusedJoin 23 = .ok (.iconst 2, 1) := dk_5 (dk_at dksX3_isRefusedJoin_0 23 rfl rfl)
theorem dX3_isRefusedJoin_24 : decode cX3_isRefusedJoin 24 = .ok (.iload_n 1, 1) := dk_27 (dk_at dksX3_isRefusedJoin_1 0 rfl rfl)
theorem dX3_isRefusedJoin_25 : decode cX3_isRefusedJoin 25 = .ok (.invokevirtual 109, 3) := dk_182 0 109 (dk_at dksX3_isRefusedJoin_1 1 rfl rfl)
theorem dX3_isRefusedJoin_28 : decode cX3_isRefusedJoin 28 = .ok (.ireturn, 1) := dk_172 (dk_at dksX3_isRefusedJoin_1 4 rfl rfl)
theorem dX3_isRefusedJoin_29 : decode cX3_isRefusedJoin 29 = .ok (.aload_n 0, 1) := dk_42 (dk_at dksX3_isRefusedJoin_1 5 rfl rfl)
theorem dX3_isRefusedJoin_30 : decode cX3_isRefusedJoin 30 = .ok (.getfield 7, 3) := dk_180 0 7 (dk_at dksX3_isRefusedJoin_1 6 rfl rfl)
theorem dX3_isRefusedJoin_33 : decode cX3_isRefusedJoin 33 = .ok (.iconst 1, 1) := dk_4 (dk_at dksX3_isRefusedJoin_1 9 rfl rfl)
theorem dX3_isRefusedJoin_34 : decode cX3_isRefusedJoin 34 = .ok (.iaload, 1) := dk_46 (dk_at dksX3_isRefusedJoin_1 10 rfl rfl)
theorem dX3_isRefusedJoin_35 : decode cX3_isRefusedJoin 35 = .ok (.bipush 10, 2) := dk_16 10 (dk_at dksX3_isRefusedJoin_1 11 rfl rfl)
theorem dX3_isRefusedJoin_37 : decode cX3_isRefusedJoin 37 = .ok (.if_icmp .ne 17, 3) := dk_160 0 17 (dk_at dksX3_isRefusedJoin_1 13 rfl rfl)
theorem dX3_isRefusedJoin_40 : decode cX3_isRefusedJoin 40 = .ok (.aload_n 0, 1) := dk_42 (dk_at dksX3_isRefusedJoin_1 16 rfl rfl)
theorem dX3_isRefusedJoin_41 : decode cX3_isRefusedJoin 41 = .ok (.iconst 4, 1) := dk_7 (dk_at dksX3_isRefusedJoin_1 17 rfl rfl)
theorem dX3_isRefusedJoin_42 : decode cX3_isRefusedJoin 42 = .ok (.bipush 10, 2) := dk_16 10 (dk_at dksX3_isRefusedJoin_1 18 rfl rfl)
theorem dX3_isRefusedJoin_44 : decode cX3_isRefusedJoin 44 = .ok (.invokevirtual 109, 3) := dk_182 0 109 (dk_at dksX3_isRefusedJoin_1 20 rfl rfl)
theorem dX3_isRefusedJoin_47 : decode cX3_isRefusedJoin 47 = .ok (.ifCond .eq 7, 3) := dk_153 0 7 (dk_at dksX3_isRefusedJoin_2 0 rfl rfl)
theorem dX3_isRefusedJoin_50 : decode cX3_isRefusedJoin 50 = .ok (.iconst 1, 1) := dk_4 (dk_at dksX3_isRefusedJoin_2 3 rfl rfl)
theorem dX3_isRefusedJoin_51 : decode cX3_isRefusedJoin 51 = .ok (.goto 4, 3) := dk_167 0 4 (dk_at dksX3_isRefusedJoin_2 4 rfl rfl)
theorem dX3_isRefusedJoin_54 : decode cX3_isRefusedJoin 54 = .ok (.iconst 0, 1) := dk_3 (dk_at dksX3_isRefusedJoin_2 7 rfl rfl)
theorem dX3_isRefusedJoin_55 : decode cX3_isRefusedJoin 55 = .ok (.ireturn, 1) := dk_172 (dk_at dksX3_isRefusedJoin_2 8 rfl rfl)
abbrev cX3_isAddress : ByteArray := prog_20_method_15_code
def yX3_isAddress : MethodName := ⟨RX3, "isAddress", "(I)Z"⟩
def dkwX3_isAddress_0 : List UInt8 := [26, 3, 16, 99, 184, 0, 102, 172]
abbrev dktX3_isAddress_0 : List UInt8 := dkwX3_isAddress_0 ++ []
theorem dksX3_isAddress_0 : cX3_isAddress.data.toList.drop 0 = dktX3_isAddress_0 := by decide +kernel
theorem dX3_isAddress_0 : decode cX3_isAddress 0 = .ok (.iload_n 0, 1) := dk_26 (dk_at dksX3_isAddress_0 0 rfl rfl)
theorem dX3_isAddress_1 : decode cX3_isAddress 1 = .ok (.iconst 0, 1) := dk_3 (dk_at dksX3_isAddress_0 1 rfl rfl)
theorem dX3_isAddress_2 : decode cX3_isAddress 2 = .ok (.bipush 99, 2) := dk_16 99 (dk_at dksX3_isAddress_0 2 rfl rfl)
theorem dX3_isAddress_4 : decode cX3_isAddress 4 = .ok (.invokestatic 102, 3) := dk_184 0 102 (dk_at dksX3_isAddress_0 4 rfl rfl)
theorem dX3_isAddress_7 : decode cX3_isAddress 7 = .ok (.ireturn, 1) := dk_172 (dk_at dksX3_isAddress_0 7 rfl rfl)
abbrev cX3_in : ByteArray := prog_20_method_3_code
def yX3_in : MethodName := ⟨RX3, "in", "(III)Z"⟩
def dkwX3_in_0 : List UInt8 := [26, 27, 161, 0, 12, 26, 28, 163, 0, 7, 4, 167, 0, 4, 3, 172]
abbrev dktX3_in_0 : List UInt8 := dkwX3_in_0 ++ []
theorem dksX3_in_0 : cX3_in.data.toList.drop 0 = dktX3_in_0 := by decide +kernel
theorem dX3_in_0 : decode cX3_in 0 = .ok (.iload_n 0, 1) := dk_26 (dk_at dksX3_in_0 0 rfl rfl)
theorem dX3_in_1 : decode cX3_in 1 = .ok (.iload_n 1, 1) := dk_27 (dk_at dksX3_in_0 1 rfl rfl)
theorem dX3_in_2 : decode cX3_in 2 = .ok (.if_icmp .lt 12, 3) := dk_161 0 12 (dk_at dksX3_in_0 2 rfl rfl)
theorem dX3_in_5 : decode cX3_in 5 = .ok (.iload_n 0, 1) := dk_26 (dk_at dksX3_in_0 5 rfl rfl)
theorem dX3_in_6 : decode cX3_in 6 = .ok (.iload_n 2, 1) := dk_28 (dk_at dksX3_in_0 6 rfl rfl)
theorem dX3_in_7 : decode cX3_in 7 = .ok (.if_icmp .gt 7, 3) := dk_163 0 7 (dk_at dksX3_in_0 7 rfl rfl)
theorem dX3_in_10 : decode cX3_in 10 = .ok (.iconst 1, 1) := dk_4 (dk_at dksX3_in_0 10 rfl rfl)
theorem dX3_in_11 : decode cX3_in 11 = .ok (.goto 4, 3) := dk_167 0 4 (dk_at dksX3_in_0 11 rfl rfl)
theorem dX3_in_14 : decode cX3_in 14 = .ok (.iconst 0, 1) := dk_3 (dk_at dksX3_in_0 14 rfl rfl)
theorem dX3_in_15 : decode cX3_in 15 = .ok (.ireturn, 1) := dk_172 (dk_at dksX3_in_0 15 rfl rfl)
abbrev cX3_isBad : ByteArray := prog_20_method_7_code
def yX3_isBad : MethodName := ⟨RX3, "isBad", "(II)Z"⟩
def dkwX3_isBad_0 : List UInt8 := [42, 27, 181, 0, 32, 42, 28, 181, 0, 35, 4, 172]
abbrev dktX3_isBad_0 : List UInt8 := dkwX3_isBad_0 ++ []
theorem dksX3_isBad_0 : cX3_isBad.data.toList.drop 0 = dktX3_isBad_0 := by decide +kernel
theorem dX3_isBad_0 : decode cX3_isBad 0 = .ok (.aload_n 0, 1) := dk_42 (dk_at dksX3_isBad_0 0 rfl rfl)
theorem dX3_isBad_1 : decode cX3_isBad 1 = .ok (.iload_n 1, 1) := dk_27 (dk_at dksX3_isBad_0 1 rfl rfl)
theorem dX3_isBad_2 : decode cX3_isBad 2 = .ok (.putfield 32, 3) := dk_181 0 32 (dk_at dksX3_isBad_0 2 rfl rfl)
theorem dX3_isBad_5 : decode cX3_isBad 5 = .ok (.aload_n 0, 1) := dk_42 (dk_at dksX3_isBad_0 5 rfl rfl)
theorem dX3_isBad_6 : decode cX3_isBad 6 = .ok (.iload_n 2, 1) := dk_28 (dk_at dksX3_isBad_0 6 rfl rfl)
theorem dX3_isBad_7 : decode cX3_isBad 7 = .ok (.putfield 35, 3) := dk_181 0 35 (dk_at dksX3_isBad_0 7 rfl rfl)
theorem dX3_isBad_10 : decode cX3_isBad 10 = .ok (.iconst 1, 1) := dk_4 (dk_at dksX3_isBad_0 10 rfl rfl)
theorem dX3_isBad_11 : decode cX3_isBad 11 = .ok (.ireturn, 1) := dk_172 (dk_at dksX3_isBad_0 11 rfl rfl)
abbrev cX3_placeOf : ByteArray := prog_20_method_14_code
def yX3_placeOf : MethodName := ⟨RX3, "placeOf", "(I)I"⟩
def dkwX3_placeOf_1 : List UInt8 := [132, 2, 1, 167, 255, 231, 2, 172]
abbrev dktX3_placeOf_1 : List UInt8 := dkwX3_placeOf_1 ++ []
def dkwX3_placeOf_0 : List UInt8 := [3, 61, 28, 42, 180, 0, 7, 4, 46, 162, 0, 21, 42, 28, 3, 182, 0, 98, 27, 160, 0, 5, 28, 172]
abbrev dktX3_placeOf_0 : List UInt8 := dkwX3_placeOf_0 ++ dktX3_placeOf_1
theorem dksX3_placeOf_0 : cX3_placeOf.data.toList.drop 0 = dktX3_placeOf_0 := by decide +kernel
theorem dksX3_placeOf_1 : cX3_placeOf.data.toList.drop 24 = dktX3_placeOf_1 := dk_seg dksX3_placeOf_0 24 rfl rfl
theorem dX3_placeOf_0 : decode cX3_placeOf 0 = .ok (.iconst 0, 1) := dk_3 (dk_at dksX3_placeOf_0 0 rfl rfl)
theorem dX3_placeOf_1 : decode cX3_placeOf 1 = .ok (.istore_n 2, 1) := dk_61 (dk_at dksX3_placeOf_0 1 rfl rfl)
theorem dX3_placeOf_2 : decode cX3_placeOf 2 = .ok (.iload_n 2, 1) := dk_28 (dk_at dksX3_placeOf_0 2 rfl rfl)
theorem dX3_placeOf_3 : decode cX3_placeOf 3 = .ok (.aload_n 0, 1) := dk_42 (dk_at dksX3_placeOf_0 3 rfl rfl)
theorem dX3_placeOf_4 : decode cX3_placeOf 4 = .ok (.getfield 7, 3) := dk_180 0 7 (dk_at dksX3_placeOf_0 4 rfl rfl)
theorem dX3_placeOf_7 : decode cX3_placeOf 7 = .ok (.iconst 1, 1) := dk_4 (dk_at dksX3_placeOf_0 7 rfl rfl)
theorem dX3_placeOf_8 : decode cX3_placeOf 8 = .ok (.iaload, 1) := dk_46 (dk_at dksX3_placeOf_0 8 rfl rfl)
theorem dX3_placeOf_9 : decode cX3_placeOf 9 = .ok (.if_icmp .ge 21, 3) := dk_162 0 21 (dk_at dksX3_placeOf_0 9 rfl rfl)
theorem dX3_placeOf_12 : decode cX3_placeOf 12 = .ok (.aload_n 0, 1) := dk_42 (dk_at dksX3_placeOf_0 12 rfl rfl)
theorem dX3_placeOf_13 : decode cX3_placeOf 13 = .ok (.iload_n 2, 1) := dk_28 (dk_at dksX3_placeOf_0 13 rfl rfl)
theorem dX3_placeOf_14 : decode cX3_placeOf 14 = .ok (.iconst 0, 1) := dk_3 (dk_at dksX3_placeOf_0 14 rfl rfl)
theorem dX3_placeOf_15 : decode cX3_placeOf 15 = .ok (.invokevirtual 98, 3) := dk_182 0 98 (dk_at dksX3_placeOf_0 15 rfl rfl)
theorem dX3_placeOf_18 : decode cX3_placeOf 18 = .ok (.iload_n 1, 1) := dk_27 (dk_at dksX3_placeOf_0 18 rfl rfl)
theorem dX3_placeOf_19 : decode cX3_placeOf 19 = .ok (.if_icmp .ne 5, 3) := dk_160 0 5 (dk_at dksX3_placeOf_0 19 rfl rfl)
theorem dX3_placeOf_22 : decode cX3_placeOf 22 = .ok (.iload_n 2, 1) := dk_28 (dk_at dksX3_placeOf_0 22 rfl rfl)
theorem dX3_placeOf_23 : decode cX3_placeOf 23 = .ok (.ireturn, 1) := dk_172 (dk_at dksX3_placeOf_0 23 rfl rfl)
theorem dX3_placeOf_24 : decode cX3_placeOf 24 = .ok (.iinc 2 1, 3) := dk_132 2 1 (dk_at dksX3_placeOf_1 0 rfl rfl)
theorem dX3_placeOf_27 : decode cX3_placeOf 27 = .ok (.goto (-25), 3) := dk_167 255 231 (dk_at dksX3_placeOf_1 3 rfl rfl)
theorem dX3_placeOf_30 : decode cX3_placeOf 30 = .ok (.iconst (-1), 1) := dk_2 (dk_at dksX3_placeOf_1 6 rfl rfl)
theorem dX3_placeOf_31 : decode cX3_placeOf 31 = .ok (.ireturn, 1) := dk_172 (dk_at dksX3_placeOf_1 7 rfl rfl)
abbrev cX3_sv : ByteArray := prog_20_method_11_code
def yX3_sv : MethodName := ⟨RX3, "sv", "(II)I"⟩
def dkwX3_sv_0 : List UInt8 := [42, 180, 0, 7, 16, 31, 16, 64, 27, 104, 96, 28, 96, 46, 172]
abbrev dktX3_sv_0 : List UInt8 := dkwX3_sv_0 ++ []
theorem dksX3_sv_0 : cX3_sv.data.toList.drop 0 = dktX3_sv_0 := by decide +kernel
theorem dX3_sv_0 : decode cX3_sv 0 = .ok (.aload_n 0, 1) := dk_42 (dk_at dksX3_sv_0 0 rfl rfl)
theorem dX3_sv_1 : decode cX3_sv 1 = .ok (.getfield 7, 3) := dk_180 0 7 (dk_at dksX3_sv_0 1 rfl rfl)
theorem dX3_sv_4 : decode cX3_sv 4 = .ok (.bipush 31, 2) := dk_16 31 (dk_at dksX3_sv_0 4 rfl rfl)
theorem dX3_sv_6 : decode cX3_sv 6 = .ok (.bipush 64, 2) := dk_16 64 (dk_at dksX3_sv_0 6 rfl rfl)
theorem dX3_sv_8 : decode cX3_sv 8 = .ok (.iload_n 1, 1) := dk_27 (dk_at dksX3_sv_0 8 rfl rfl)
theorem dX3_sv_9 : decode cX3_sv 9 = .ok (.imul, 1) := dk_104 (dk_at dksX3_sv_0 9 rfl rfl)
theorem dX3_sv_10 : decode cX3_sv 10 = .ok (.iadd, 1) := dk_96 (dk_at dksX3_sv_0 10 rfl rfl)
theorem dX3_sv_11 : decode cX3_sv 11 = .ok (.iload_n 2, 1) := dk_28 (dk_at dksX3_sv_0 11 rfl rfl)
theorem dX3_sv_12 : decode cX3_sv 12 = .ok (.iadd, 1) := dk_96 (dk_at dksX3_sv_0 12 rfl rfl)
theorem dX3_sv_13 : decode cX3_sv 13 = .ok (.iaload, 1) := dk_46 (dk_at dksX3_sv_0 13 rfl rfl)
theorem dX3_sv_14 : decode cX3_sv 14 = .ok (.ireturn, 1) := dk_172 (dk_at dksX3_sv_0 14 rfl rfl)
abbrev cX3_refused : ByteArray := prog_20_method_8_code
def yX3_refused : MethodName := ⟨RX3, "refused", "()I"⟩
def dkwX3_refused_1 : List UInt8 := [182, 0, 90, 172]
abbrev dktX3_refused_1 : List UInt8 := dkwX3_refused_1 ++ []
def dkwX3_refused_0 : List UInt8 := [42, 42, 180, 0, 32, 181, 0, 38, 42, 42, 180, 0, 35, 181, 0, 41, 42, 3, 181, 0, 44, 42, 4]
abbrev dktX3_refused_0 : List UInt8 := dkwX3_refused_0 ++ dktX3_refused_1
theorem dksX3_refused_0 : cX3_refused.data.toList.drop 0 = dktX3_refused_0 := by decide +kernel
theorem dksX3_refused_1 : cX3_refused.data.toList.drop 23 = dktX3_refused_1 := dk_seg dksX3_refused_0 23 rfl rfl
theorem dX3_refused_0 : decode cX3_refused 0 = .ok (.aload_n 0, 1) := dk_42 (dk_at dksX3_refused_0 0 rfl rfl)
theorem dX3_refused_1 : decode cX3_refused 1 = .ok (.aload_n 0, 1) := dk_42 (dk_at dksX3_refused_0 1 rfl rfl)
theorem dX3_refused_2 : decode cX3_refused 2 = .ok (.getfield 32, 3) := dk_180 0 32 (dk_at dksX3_refused_0 2 rfl rfl)
theorem dX3_refused_5 : decode cX3_refused 5 = .ok (.putfield 38, 3) := dk_181 0 38 (dk_at dksX3_refused_0 5 rfl rfl)
theorem dX3_refused_8 : decode cX3_refused 8 = .ok (.aload_n 0, 1) := dk_42 (dk_at dksX3_refused_0 8 rfl rfl)
theorem dX3_refused_9 : decode cX3_refused 9 = .ok (.aload_n 0, 1) := dk_42 (dk_at dksX3_refused_0 9 rfl rfl)
theorem dX3_refused_10 : decode cX3_refused 10 = .ok (.getfield 35, 3) := dk_180 0 35 (dk_at dksX3_refused_0 10 rfl rfl)
theorem dX3_refused_13 : decode cX3_refused 13 = .ok (.putfield 41, 3) := dk_181 0 41 (dk_at dksX3_refused_0 13 rfl rfl)
theorem dX3_refused_16 : decode cX3_refused 16 = .ok (.aload_n 0, 1) := dk_42 (dk_at dksX3_refused_0 16 rfl rfl)
theorem dX3_refused_17 : decode cX3_refused 17 = .ok (.iconst 0, 1) := dk_3 (dk_at dksX3_refused_0 17 rfl rfl)
theorem dX3_refused_18 : decode cX3_refused 18 = .ok (.putfield 44, 3) := dk_181 0 44 (dk_at dksX3_refused_0 18 rfl rfl)
theorem dX3_refused_21 : decode cX3_refused 21 = .ok (.aload_n 0, 1) := dk_42 (dk_at dksX3_refused_0 21 rfl rfl)
theorem dX3_refused_22 : decode cX3_refused 22 = .ok (.iconst 1, 1) := dk_4 (dk_at dksX3_refused_0 22 rfl rfl)
theorem dX3_refused_23 : decode cX3_refused 23 = .ok (.invokevirtual 90, 3) := dk_182 0 90 (dk_at dksX3_refused_1 0 rfl rfl)
theorem dX3_refused_26 : decode cX3_refused 26 = .ok (.ireturn, 1) := dk_172 (dk_at dksX3_refused_1 3 rfl rfl)
abbrev cX3_no : ByteArray := prog_20_method_6_code
def yX3_no : MethodName := ⟨RX3, "no", "(I)I"⟩
def dkwX3_no_0 : List UInt8 := [42, 27, 181, 0, 25, 3, 172]
abbrev dktX3_no_0 : List UInt8 := dkwX3_no_0 ++ []
theorem dksX3_no_0 : cX3_no.data.toList.drop 0 = dktX3_no_0 := by decide +kernel
theorem dX3_no_0 : decode cX3_no 0 = .ok (.aload_n 0, 1) := dk_42 (dk_at dksX3_no_0 0 rfl rfl)
theorem dX3_no_1 : decode cX3_no 1 = .ok (.iload_n 1, 1) := dk_27 (dk_at dksX3_no_0 1 rfl rfl)
theorem dX3_no_2 : decode cX3_no 2 = .ok (.putfield 25, 3) := dk_181 0 25 (dk_at dksX3_no_0 2 rfl rfl)
theorem dX3_no_5 : decode cX3_no 5 = .ok (.iconst 0, 1) := dk_3 (dk_at dksX3_no_0 5 rfl rfl)
theorem dX3_no_6 : decode cX3_no 6 = .ok (.ireturn, 1) := dk_172 (dk_at dksX3_no_0 6 rfl rfl)
abbrev cX3_joins : ByteArray := prog_20_method_18_code
def yX3_joins : MethodName := ⟨RX3, "joins", "(I)I"⟩
def dkwX3_joins_4 : List UInt8 := [180, 0, 7, 4, 46, 172]
abbrev dktX3_joins_4 : List UInt8 := dkwX3_joins_4 ++ []
def dkwX3_joins_3 : List UInt8 := [132, 3, 1, 167, 255, 240, 42, 28, 3, 27, 182, 0, 117, 42, 180, 0, 7, 4, 92, 46, 4, 96, 79, 42]
abbrev dktX3_joins_3 : List UInt8 := dkwX3_joins_3 ++ dktX3_joins_4
def dkwX3_joins_2 : List UInt8 := [167, 255, 233, 132, 2, 255, 167, 255, 209, 3, 62, 29, 16, 64, 162, 0, 16, 42, 28, 29, 3, 182, 0, 117]
abbrev dktX3_joins_2 : List UInt8 := dkwX3_joins_2 ++ dktX3_joins_3
def dkwX3_joins_1 : List UInt8 := [62, 29, 16, 64, 162, 0, 23, 42, 28, 29, 42, 28, 4, 100, 29, 182, 0, 98, 182, 0, 117, 132, 3, 1]
abbrev dktX3_joins_1 : List UInt8 := dkwX3_joins_1 ++ dktX3_joins_2
def dkwX3_joins_0 : List UInt8 := [42, 180, 0, 7, 4, 46, 61, 28, 158, 0, 49, 42, 28, 4, 100, 3, 182, 0, 98, 27, 164, 0, 37, 3]
abbrev dktX3_joins_0 : List UInt8 := dkwX3_joins_0 ++ dktX3_joins_1
theorem dksX3_joins_0 : cX3_joins.data.toList.drop 0 = dktX3_joins_0 := by decide +kernel
theorem dksX3_joins_1 : cX3_joins.data.toList.drop 24 = dktX3_joins_1 := dk_seg dksX3_joins_0 24 rfl rfl
theorem dksX3_joins_2 : cX3_joins.data.toList.drop 48 = dktX3_joins_2 := dk_seg dksX3_joins_1 24 rfl rfl
theorem dksX3_joins_3 : cX3_joins.data.toList.drop 72 = dktX3_joins_3 := dk_seg dksX3_joins_2 24 rfl rfl
theorem dksX3_joins_4 : cX3_joins.data.toList.drop 96 = dktX3_joins_4 := dk_seg dksX3_joins_3 24 rfl rfl
theorem dX3_joins_0 : decode cX3_joins 0 = .ok (.aload_n 0, 1) := dk_42 (dk_at dksX3_joins_0 0 rfl rfl)
theorem dX3_joins_1 : decode cX3_joins 1 = .ok (.getfield 7, 3) := dk_180 0 7 (dk_at dksX3_joins_0 1 rfl rfl)
theorem dX3_joins_4 : decode cX3_joins 4 = .ok (.iconst 1, 1) := dk_4 (dk_at dksX3_joins_0 4 rfl rfl)
theorem dX3_joins_5 : decode cX3_joins 5 = .ok (.iaload, 1) := dk_46 (dk_at dksX3_joins_0 5 rfl rfl)
theorem dX3_joins_6 : decode cX3_joins 6 = .ok (.istore_n 2, 1) := dk_61 (dk_at dksX3_joins_0 6 rfl rfl)
theorem dX3_joins_7 : decode cX3_joins 7 = .ok (.iload_n 2, 1) := dk_28 (dk_at dksX3_joins_0 7 rfl rfl)
theorem dX3_joins_8 : decode cX3_joins 8 = .ok (.ifCond .le 49, 3) := dk_158 0 49 (dk_at dksX3_joins_0 8 rfl rfl)
theorem dX3_joins_11 : decode cX3_joins 11 = .ok (.aload_n 0, 1) := dk_42 (dk_at dksX3_joins_0 11 rfl rfl)
theorem dX3_joins_12 : decode cX3_joins 12 = .ok (.iload_n 2, 1) := dk_28 (dk_at dksX3_joins_0 12 rfl rfl)
theorem dX3_joins_13 : decode cX3_joins 13 = .ok (.iconst 1, 1) := dk_4 (dk_at dksX3_joins_0 13 rfl rfl)
theorem dX3_joins_14 : decode cX3_joins 14 = .ok (.isub, 1) := dk_100 (dk_at dksX3_joins_0 14 rfl rfl)
theorem dX3_joins_15 : decode cX3_joins 15 = .ok (.iconst 0, 1) := dk_3 (dk_at dksX3_joins_0 15 rfl rfl)
theorem dX3_joins_16 : decode cX3_joins 16 = .ok (.invokevirtual 98, 3) := dk_182 0 98 (dk_at dksX3_joins_0 16 rfl rfl)
theorem dX3_joins_19 : decode cX3_joins 19 = .ok (.iload_n 1, 1) := dk_27 (dk_at dksX3_joins_0 19 rfl rfl)
theorem dX3_joins_20 : decode cX3_joins 20 = .ok (.if_icmp .le 37, 3) := dk_164 0 37 (dk_at dksX3_joins_0 20 rfl rfl)
theorem dX3_joins_23 : decode cX3_joins 23 = .ok (.iconst 0, 1) := dk_3 (dk_at dksX3_joins_0 23 rfl rfl)
theorem dX3_joins_24 : decode cX3_joins 24 = .ok (.istore_n 3, 1) := dk_62 (dk_at dksX3_joins_1 0 rfl rfl)
theorem dX3_joins_25 : decode cX3_joins 25 = .ok (.iload_n 3, 1) := dk_29 (dk_at dksX3_joins_1 1 rfl rfl)
theorem dX3_joins_26 : decode cX3_joins 26 = .ok (.bipush 64, 2) := dk_16 64 (dk_at dksX3_joins_1 2 rfl rfl)
theorem dX3_joins_28 : decode cX3_joins 28 = .ok (.if_icmp .ge 23, 3) := dk_162 0 23 (dk_at dksX3_joins_1 4 rfl rfl)
theorem dX3_joins_31 : decode cX3_joins 31 = .ok (.aload_n 0, 1) := dk_42 (dk_at dksX3_joins_1 7 rfl rfl)
theorem dX3_joins_32 : decode cX3_joins 32 = .ok (.iload_n 2, 1) := dk_28 (dk_at dksX3_joins_1 8 rfl rfl)
theorem dX3_joins_33 : decode cX3_joins 33 = .ok (.iload_n 3, 1) := dk_29 (dk_at dksX3_joins_1 9 rfl rfl)
theorem dX3_joins_34 : decode cX3_joins 34 = .ok (.aload_n 0, 1) := dk_42 (dk_at dksX3_joins_1 10 rfl rfl)
theorem dX3_joins_35 : decode cX3_joins 35 = .ok (.iload_n 2, 1) := dk_28 (dk_at dksX3_joins_1 11 rfl rfl)
theorem dX3_joins_36 : decode cX3_joins 36 = .ok (.iconst 1, 1) := dk_4 (dk_at dksX3_joins_1 12 rfl rfl)
theorem dX3_joins_37 : decode cX3_joins 37 = .ok (.isub, 1) := dk_100 (dk_at dksX3_joins_1 13 rfl rfl)
theorem dX3_joins_38 : decode cX3_joins 38 = .ok (.iload_n 3, 1) := dk_29 (dk_at dksX3_joins_1 14 rfl rfl)
theorem dX3_joins_39 : decode cX3_joins 39 = .ok (.invokevirtual 98, 3) := dk_182 0 98 (dk_at dksX3_joins_1 15 rfl rfl)
theorem dX3_joins_42 : decode cX3_joins 42 = .ok (.invokevirtual 117, 3) := dk_182 0 117 (dk_at dksX3_joins_1 18 rfl rfl)
theorem dX3_joins_45 : decode cX3_joins 45 = .ok (.iinc 3 1, 3) := dk_132 3 1 (dk_at dksX3_joins_1 21 rfl rfl)
theorem dX3_joins_48 : decode cX3_joins 48 = .ok (.goto (-23), 3) := dk_167 255 233 (dk_at dksX3_joins_2 0 rfl rfl)
theorem dX3_joins_51 : decode cX3_joins 51 = .ok (.iinc 2 (-1), 3) := dk_132 2 255 (dk_at dksX3_joins_2 3 rfl rfl)
theorem dX3_joins_54 : decode cX3_joins 54 = .ok (.goto (-47), 3) := dk_167 255 209 (dk_at dksX3_joins_2 6 rfl rfl)
theorem dX3_joins_57 : decode cX3_joins 57 = .ok (.iconst 0, 1) := dk_3 (dk_at dksX3_joins_2 9 rfl rfl)
theorem dX3_joins_58 : decode cX3_joins 58 = .ok (.istore_n 3, 1) := dk_62 (dk_at dksX3_joins_2 10 rfl rfl)
theorem dX3_joins_59 : decode cX3_joins 59 = .ok (.iload_n 3, 1) := dk_29 (dk_at dksX3_joins_2 11 rfl rfl)
theorem dX3_joins_60 : decode cX3_joins 60 = .ok (.bipush 64, 2) := dk_16 64 (dk_at dksX3_joins_2 12 rfl rfl)
theorem dX3_joins_62 : decode cX3_joins 62 = .ok (.if_icmp .ge 16, 3) := dk_162 0 16 (dk_at dksX3_joins_2 14 rfl rfl)
theorem dX3_joins_65 : decode cX3_joins 65 = .ok (.aload_n 0, 1) := dk_42 (dk_at dksX3_joins_2 17 rfl rfl)
theorem dX3_joins_66 : decode cX3_joins 66 = .ok (.iload_n 2, 1) := dk_28 (dk_at dksX3_joins_2 18 rfl rfl)
theorem dX3_joins_67 : decode cX3_joins 67 = .ok (.iload_n 3, 1) := dk_29 (dk_at dksX3_joins_2 19 rfl rfl)
theorem dX3_joins_68 : decode cX3_joins 68 = .ok (.iconst 0, 1) := dk_3 (dk_at dksX3_joins_2 20 rfl rfl)
theorem dX3_joins_69 : decode cX3_joins 69 = .ok (.invokevirtual 117, 3) := dk_182 0 117 (dk_at dksX3_joins_2 21 rfl rfl)
theorem dX3_joins_72 : decode cX3_joins 72 = .ok (.iinc 3 1, 3) := dk_132 3 1 (dk_at dksX3_joins_3 0 rfl rfl)
theorem dX3_joins_75 : decode cX3_joins 75 = .ok (.goto (-16), 3) := dk_167 255 240 (dk_at dksX3_joins_3 3 rfl rfl)
theorem dX3_joins_78 : decode cX3_joins 78 = .ok (.aload_n 0, 1) := dk_42 (dk_at dksX3_joins_3 6 rfl rfl)
theorem dX3_joins_79 : decode cX3_joins 79 = .ok (.iload_n 2, 1) := dk_28 (dk_at dksX3_joins_3 7 rfl rfl)
theorem dX3_joins_80 : decode cX3_joins 80 = .ok (.iconst 0, 1) := dk_3 (dk_at dksX3_joins_3 8 rfl rfl)
theorem dX3_joins_81 : decode cX3_joins 81 = .ok (.iload_n 1, 1) := dk_27 (dk_at dksX3_joins_3 9 rfl rfl)
theorem dX3_joins_82 : decode cX3_joins 82 = .ok (.invokevirtual 117, 3) := dk_182 0 117 (dk_at dksX3_joins_3 10 rfl rfl)
theorem dX3_joins_85 : decode cX3_joins 85 = .ok (.aload_n 0, 1) := dk_42 (dk_at dksX3_joins_3 13 rfl rfl)
theorem dX3_joins_86 : decode cX3_joins 86 = .ok (.getfield 7, 3) := dk_180 0 7 (dk_at dksX3_joins_3 14 rfl rfl)
theorem dX3_joins_89 : decode cX3_joins 89 = .ok (.iconst 1, 1) := dk_4 (dk_at dksX3_joins_3 17 rfl rfl)
theorem dX3_joins_90 : decode cX3_joins 90 = .ok (.dup2, 1) := dk_92 (dk_at dksX3_joins_3 18 rfl rfl)
theorem dX3_joins_91 : decode cX3_joins 91 = .ok (.iaload, 1) := dk_46 (dk_at dksX3_joins_3 19 rfl rfl)
theorem dX3_joins_92 : decode cX3_joins 92 = .ok (.iconst 1, 1) := dk_4 (dk_at dksX3_joins_3 20 rfl rfl)
theorem dX3_joins_93 : decode cX3_joins 93 = .ok (.iadd, 1) := dk_96 (dk_at dksX3_joins_3 21 rfl rfl)
theorem dX3_joins_94 : decode cX3_joins 94 = .ok (.iastore, 1) := dk_79 (dk_at dksX3_joins_3 22 rfl rfl)
theorem dX3_joins_95 : decode cX3_joins 95 = .ok (.aload_n 0, 1) := dk_42 (dk_at dksX3_joins_3 23 rfl rfl)
theorem dX3_joins_96 : decode cX3_joins 96 = .ok (.getfield 7, 3) := dk_180 0 7 (dk_at dksX3_joins_4 0 rfl rfl)
theorem dX3_joins_99 : decode cX3_joins 99 = .ok (.iconst 1, 1) := dk_4 (dk_at dksX3_joins_4 3 rfl rfl)
theorem dX3_joins_100 : decode cX3_joins 100 = .ok (.iaload, 1) := dk_46 (dk_at dksX3_joins_4 4 rfl rfl)
theorem dX3_joins_101 : decode cX3_joins 101 = .ok (.ireturn, 1) := dk_172 (dk_at dksX3_joins_4 5 rfl rfl)
abbrev cX3_ls : ByteArray := prog_20_method_12_code
def yX3_ls : MethodName := ⟨RX3, "ls", "(III)V"⟩
def dkwX3_ls_0 : List UInt8 := [42, 180, 0, 7, 16, 31, 16, 64, 27, 104, 96, 28, 96, 29, 79, 177]
abbrev dktX3_ls_0 : List UInt8 := dkwX3_ls_0 ++ []
theorem dksX3_ls_0 : cX3_ls.data.toList.drop 0 = dktX3_ls_0 := by decide +kernel
theorem dX3_ls_0 : decode cX3_ls 0 = .ok (.aload_n 0, 1) := dk_42 (dk_at dksX3_ls_0 0 rfl rfl)
theorem dX3_ls_1 : decode cX3_ls 1 = .ok (.getfield 7, 3) := dk_180 0 7 (dk_at dksX3_ls_0 1 rfl rfl)
theorem dX3_ls_4 : decode cX3_ls 4 = .ok (.bipush 31, 2) := dk_16 31 (dk_at dksX3_ls_0 4 rfl rfl)
theorem dX3_ls_6 : decode cX3_ls 6 = .ok (.bipush 64, 2) := dk_16 64 (dk_at dksX3_ls_0 6 rfl rfl)
theorem dX3_ls_8 : decode cX3_ls 8 = .ok (.iload_n 1, 1) := dk_27 (dk_at dksX3_ls_0 8 rfl rfl)
theorem dX3_ls_9 : decode cX3_ls 9 = .ok (.imul, 1) := dk_104 (dk_at dksX3_ls_0 9 rfl rfl)
theorem dX3_ls_10 : decode cX3_ls 10 = .ok (.iadd, 1) := dk_96 (dk_at dksX3_ls_0 10 rfl rfl)
theorem dX3_ls_11 : decode cX3_ls 11 = .ok (.iload_n 2, 1) := dk_28 (dk_at dksX3_ls_0 11 rfl rfl)
theorem dX3_ls_12 : decode cX3_ls 12 = .ok (.iadd, 1) := dk_96 (dk_at dksX3_ls_0 12 rfl rfl)
theorem dX3_ls_13 : decode cX3_ls 13 = .ok (.iload_n 3, 1) := dk_29 (dk_at dksX3_ls_0 13 rfl rfl)
theorem dX3_ls_14 : decode cX3_ls 14 = .ok (.iastore, 1) := dk_79 (dk_at dksX3_ls_0 14 rfl rfl)
theorem dX3_ls_15 : decode cX3_ls 15 = .ok (.return_, 1) := dk_177 (dk_at dksX3_ls_0 15 rfl rfl)
abbrev cX3_keeps : ByteArray := prog_20_method_10_code
def yX3_keeps : MethodName := ⟨RX3, "keeps", "(I)I"⟩
def dkwX3_keeps_3 : List UInt8 := [104, 184, 0, 94, 42, 89, 180, 0, 29, 4, 96, 181, 0, 29, 27, 172]
abbrev dktX3_keeps_3 : List UInt8 := dkwX3_keeps_3 ++ []
def dkwX3_keeps_2 : List UInt8 := [180, 0, 29, 4, 100, 181, 0, 29, 42, 180, 0, 13, 3, 42, 180, 0, 22, 17, 2, 159, 42, 180, 0, 29]
abbrev dktX3_keeps_2 : List UInt8 := dkwX3_keeps_2 ++ dktX3_keeps_3
def dkwX3_keeps_1 : List UInt8 := [28, 104, 42, 180, 0, 22, 17, 2, 159, 28, 4, 100, 104, 184, 0, 94, 132, 2, 1, 167, 255, 224, 42, 89]
abbrev dktX3_keeps_1 : List UInt8 := dkwX3_keeps_1 ++ dktX3_keeps_2
def dkwX3_keeps_0 : List UInt8 := [42, 180, 0, 29, 16, 8, 160, 0, 50, 4, 61, 28, 16, 8, 162, 0, 32, 42, 180, 0, 22, 17, 2, 159]
abbrev dktX3_keeps_0 : List UInt8 := dkwX3_keeps_0 ++ dktX3_keeps_1
theorem dksX3_keeps_0 : cX3_keeps.data.toList.drop 0 = dktX3_keeps_0 := by decide +kernel
theorem dksX3_keeps_1 : cX3_keeps.data.toList.drop 24 = dktX3_keeps_1 := dk_seg dksX3_keeps_0 24 rfl rfl
theorem dksX3_keeps_2 : cX3_keeps.data.toList.drop 48 = dktX3_keeps_2 := dk_seg dksX3_keeps_1 24 rfl rfl
theorem dksX3_keeps_3 : cX3_keeps.data.toList.drop 72 = dktX3_keeps_3 := dk_seg dksX3_keeps_2 24 rfl rfl
theorem dX3_keeps_0 : decode cX3_keeps 0 = .ok (.aload_n 0, 1) := dk_42 (dk_at dksX3_keeps_0 0 rfl rfl)
theorem dX3_keeps_1 : decode cX3_keeps 1 = .ok (.getfield 29, 3) := dk_180 0 29 (dk_at dksX3_keeps_0 1 rfl rfl)
theorem dX3_keeps_4 : decode cX3_keeps 4 = .ok (.bipush 8, 2) := dk_16 8 (dk_at dksX3_keeps_0 4 rfl rfl)
theorem dX3_keeps_6 : decode cX3_keeps 6 = .ok (.if_icmp .ne 50, 3) := dk_160 0 50 (dk_at dksX3_keeps_0 6 rfl rfl)
theorem dX3_keeps_9 : decode cX3_keeps 9 = .ok (.iconst 1, 1) := dk_4 (dk_at dksX3_keeps_0 9 rfl rfl)
theorem dX3_keeps_10 : decode cX3_keeps 10 = .ok (.istore_n 2, 1) := dk_61 (dk_at dksX3_keeps_0 10 rfl rfl)
theorem dX3_keeps_11 : decode cX3_keeps 11 = .ok (.iload_n 2, 1) := dk_28 (dk_at dksX3_keeps_0 11 rfl rfl)
theorem dX3_keeps_12 : decode cX3_keeps 12 = .ok (.bipush 8, 2) := dk_16 8 (dk_at dksX3_keeps_0 12 rfl rfl)
theorem dX3_keeps_14 : decode cX3_keeps 14 = .ok (.if_icmp .ge 32, 3) := dk_162 0 32 (dk_at dksX3_keeps_0 14 rfl rfl)
theorem dX3_keeps_17 : decode cX3_keeps 17 = .ok (.aload_n 0, 1) := dk_42 (dk_at dksX3_keeps_0 17 rfl rfl)
theorem dX3_keeps_18 : decode cX3_keeps 18 = .ok (.getfield 22, 3) := dk_180 0 22 (dk_at dksX3_keeps_0 18 rfl rfl)
theorem dX3_keeps_21 : decode cX3_keeps 21 = .ok (.sipush 671, 3) := dk_17 2 159 (dk_at dksX3_keeps_0 21 rfl rfl)
theorem dX3_keeps_24 : decode cX3_keeps 24 = .ok (.iload_n 2, 1) := dk_28 (dk_at dksX3_keeps_1 0 rfl rfl)
theorem dX3_keeps_25 : decode cX3_keeps 25 = .ok (.imul, 1) := dk_104 (dk_at dksX3_keeps_1 1 rfl rfl)
theorem dX3_keeps_26 : decode cX3_keeps 26 = .ok (.aload_n 0, 1) := dk_42 (dk_at dksX3_keeps_1 2 rfl rfl)
theorem dX3_keeps_27 : decode cX3_keeps 27 = .ok (.getfield 22, 3) := dk_180 0 22 (dk_at dksX3_keeps_1 3 rfl rfl)
theorem dX3_keeps_30 : decode cX3_keeps 30 = .ok (.sipush 671, 3) := dk_17 2 159 (dk_at dksX3_keeps_1 6 rfl rfl)
theorem dX3_keeps_33 : decode cX3_keeps 33 = .ok (.iload_n 2, 1) := dk_28 (dk_at dksX3_keeps_1 9 rfl rfl)
theorem dX3_keeps_34 : decode cX3_keeps 34 = .ok (.iconst 1, 1) := dk_4 (dk_at dksX3_keeps_1 10 rfl rfl)
theorem dX3_keeps_35 : decode cX3_keeps 35 = .ok (.isub, 1) := dk_100 (dk_at dksX3_keeps_1 11 rfl rfl)
theorem dX3_keeps_36 : decode cX3_keeps 36 = .ok (.imul, 1) := dk_104 (dk_at dksX3_keeps_1 12 rfl rfl)
theorem dX3_keeps_37 : decode cX3_keeps 37 = .ok (.invokestatic 94, 3) := dk_184 0 94 (dk_at dksX3_keeps_1 13 rfl rfl)
theorem dX3_keeps_40 : decode cX3_keeps 40 = .ok (.iinc 2 1, 3) := dk_132 2 1 (dk_at dksX3_keeps_1 16 rfl rfl)
theorem dX3_keeps_43 : decode cX3_keeps 43 = .ok (.goto (-32), 3) := dk_167 255 224 (dk_at dksX3_keeps_1 19 rfl rfl)
theorem dX3_keeps_46 : decode cX3_keeps 46 = .ok (.aload_n 0, 1) := dk_42 (dk_at dksX3_keeps_1 22 rfl rfl)
theorem dX3_keeps_47 : decode cX3_keeps 47 = .ok (.dup, 1) := dk_89 (dk_at dksX3_keeps_1 23 rfl rfl)
theorem dX3_keeps_48 : decode cX3_keeps 48 = .ok (.getfield 29, 3) := dk_180 0 29 (dk_at dksX3_keeps_2 0 rfl rfl)
theorem dX3_keeps_51 : decode cX3_keeps 51 = .ok (.iconst 1, 1) := dk_4 (dk_at dksX3_keeps_2 3 rfl rfl)
theorem dX3_keeps_52 : decode cX3_keeps 52 = .ok (.isub, 1) := dk_100 (dk_at dksX3_keeps_2 4 rfl rfl)
theorem dX3_keeps_53 : decode cX3_keeps 53 = .ok (.putfield 29, 3) := dk_181 0 29 (dk_at dksX3_keeps_2 5 rfl rfl)
theorem dX3_keeps_56 : decode cX3_keeps 56 = .ok (.aload_n 0, 1) := dk_42 (dk_at dksX3_keeps_2 8 rfl rfl)
theorem dX3_keeps_57 : decode cX3_keeps 57 = .ok (.getfield 13, 3) := dk_180 0 13 (dk_at dksX3_keeps_2 9 rfl rfl)
theorem dX3_keeps_60 : decode cX3_keeps 60 = .ok (.iconst 0, 1) := dk_3 (dk_at dksX3_keeps_2 12 rfl rfl)
theorem dX3_keeps_61 : decode cX3_keeps 61 = .ok (.aload_n 0, 1) := dk_42 (dk_at dksX3_keeps_2 13 rfl rfl)
theorem dX3_keeps_62 : decode cX3_keeps 62 = .ok (.getfield 22, 3) := dk_180 0 22 (dk_at dksX3_keeps_2 14 rfl rfl)
theorem dX3_keeps_65 : decode cX3_keeps 65 = .ok (.sipush 671, 3) := dk_17 2 159 (dk_at dksX3_keeps_2 17 rfl rfl)
theorem dX3_keeps_68 : decode cX3_keeps 68 = .ok (.aload_n 0, 1) := dk_42 (dk_at dksX3_keeps_2 20 rfl rfl)
theorem dX3_keeps_69 : decode cX3_keeps 69 = .ok (.getfield 29, 3) := dk_180 0 29 (dk_at dksX3_keeps_2 21 rfl rfl)
theorem dX3_keeps_72 : decode cX3_keeps 72 = .ok (.imul, 1) := dk_104 (dk_at dksX3_keeps_3 0 rfl rfl)
theorem dX3_keeps_73 : decode cX3_keeps 73 = .ok (.invokestatic 94, 3) := dk_184 0 94 (dk_at dksX3_keeps_3 1 rfl rfl)
theorem dX3_keeps_76 : decode cX3_keeps 76 = .ok (.aload_n 0, 1) := dk_42 (dk_at dksX3_keeps_3 4 rfl rfl)
theorem dX3_keeps_77 : decode cX3_keeps 77 = .ok (.dup, 1) := dk_89 (dk_at dksX3_keeps_3 5 rfl rfl)
theorem dX3_keeps_78 : decode cX3_keeps 78 = .ok (.getfield 29, 3) := dk_180 0 29 (dk_at dksX3_keeps_3 6 rfl rfl)
theorem dX3_keeps_81 : decode cX3_keeps 81 = .ok (.iconst 1, 1) := dk_4 (dk_at dksX3_keeps_3 9 rfl rfl)
theorem dX3_keeps_82 : decode cX3_keeps 82 = .ok (.iadd, 1) := dk_96 (dk_at dksX3_keeps_3 10 rfl rfl)
theorem dX3_keeps_83 : decode cX3_keeps 83 = .ok (.putfield 29, 3) := dk_181 0 29 (dk_at dksX3_keeps_3 11 rfl rfl)
theorem dX3_keeps_86 : decode cX3_keeps 86 = .ok (.iload_n 1, 1) := dk_27 (dk_at dksX3_keeps_3 14 rfl rfl)
theorem dX3_keeps_87 : decode cX3_keeps 87 = .ok (.ireturn, 1) := dk_172 (dk_at dksX3_keeps_3 15 rfl rfl)
abbrev cX3_leave : ByteArray := prog_20_method_23_code
def yX3_leave : MethodName := ⟨RX3, "leave", "(I)I"⟩
def dkwX3_leave_1 : List UInt8 := [182, 0, 146, 182, 0, 134, 172]
abbrev dktX3_leave_1 : List UInt8 := dkwX3_leave_1 ++ []
def dkwX3_leave_0 : List UInt8 := [42, 182, 0, 121, 42, 27, 182, 0, 143, 153, 0, 10, 42, 182, 0, 127, 167, 0, 12, 42, 42, 27]
abbrev dktX3_leave_0 : List UInt8 := dkwX3_leave_0 ++ dktX3_leave_1
theorem dksX3_leave_0 : cX3_leave.data.toList.drop 0 = dktX3_leave_0 := by decide +kernel
theorem dksX3_leave_1 : cX3_leave.data.toList.drop 22 = dktX3_leave_1 := dk_seg dksX3_leave_0 22 rfl rfl
theorem dX3_leave_0 : decode cX3_leave 0 = .ok (.aload_n 0, 1) := dk_42 (dk_at dksX3_leave_0 0 rfl rfl)
theorem dX3_leave_1 : decode cX3_leave 1 = .ok (.invokevirtual 121, 3) := dk_182 0 121 (dk_at dksX3_leave_0 1 rfl rfl)
theorem dX3_leave_4 : decode cX3_leave 4 = .ok (.aload_n 0, 1) := dk_42 (dk_at dksX3_leave_0 4 rfl rfl)
theorem dX3_leave_5 : decode cX3_leave 5 = .ok (.iload_n 1, 1) := dk_27 (dk_at dksX3_leave_0 5 rfl rfl)
theorem dX3_leave_6 : decode cX3_leave 6 = .ok (.invokevirtual 143, 3) := dk_182 0 143 (dk_at dksX3_leave_0 6 rfl rfl)
theorem dX3_leave_9 : decode cX3_leave 9 = .ok (.ifCond .eq 10, 3) := dk_153 0 10 (dk_at dksX3_leave_0 9 rfl rfl)
theorem dX3_leave_12 : decode cX3_leave 12 = .ok (.aload_n 0, 1) := dk_42 (dk_at dksX3_leave_0 12 rfl rfl)
theorem dX3_leave_13 : decode cX3_leave 13 = .ok (.invokevirtual 127, 3) := dk_182 0 127 (dk_at dksX3_leave_0 13 rfl rfl)
theorem dX3_leave_16 : decode cX3_leave 16 = .ok (.goto 12, 3) := dk_167 0 12 (dk_at dksX3_leave_0 16 rfl rfl)
theorem dX3_leave_19 : decode cX3_leave 19 = .ok (.aload_n 0, 1) := dk_42 (dk_at dksX3_leave_0 19 rfl rfl)
theorem dX3_leave_20 : decode cX3_leave 20 = .ok (.aload_n 0, 1) := dk_42 (dk_at dksX3_leave_0 20 rfl rfl)
theorem dX3_leave_21 : decode cX3_leave 21 = .ok (.iload_n 1, 1) := dk_27 (dk_at dksX3_leave_0 21 rfl rfl)
theorem dX3_leave_22 : decode cX3_leave 22 = .ok (.invokevirtual 146, 3) := dk_182 0 146 (dk_at dksX3_leave_1 0 rfl rfl)
theorem dX3_leave_25 : decode cX3_leave 25 = .ok (.invokevirtual 134, 3) := dk_182 0 134 (dk_at dksX3_leave_1 3 rfl rfl)
theorem dX3_leave_28 : decode cX3_leave 28 = .ok (.ireturn, 1) := dk_172 (dk_at dksX3_leave_1 6 rfl rfl)
abbrev cX3_isOut : ByteArray := prog_20_method_16_code
def yX3_isOut : MethodName := ⟨RX3, "isOut", "(I)Z"⟩
def dkwX3_isOut_0 : List UInt8 := [42, 27, 182, 0, 106, 156, 0, 16, 42, 6, 27, 182, 0, 109, 153, 0, 7, 4, 167, 0, 4, 3, 172]
abbrev dktX3_isOut_0 : List UInt8 := dkwX3_isOut_0 ++ []
theorem dksX3_isOut_0 : cX3_isOut.data.toList.drop 0 = dktX3_isOut_0 := by decide +kernel
theorem dX3_isOut_0 : decode cX3_isOut 0 = .ok (.aload_n 0, 1) := dk_42 (dk_at dksX3_isOut_0 0 rfl rfl)
theorem dX3_isOut_1 : decode cX3_isOut 1 = .ok (.iload_n 1, 1) := dk_27 (dk_at dksX3_isOut_0 1 rfl rfl)
theorem dX3_isOut_2 : decode cX3_isOut 2 = .ok (.invokevirtual 106, 3) := dk_182 0 106 (dk_at dksX3_isOut_0 2 rfl rfl)
theorem dX3_isOut_5 : decode cX3_isOut 5 = .ok (.ifCond .ge 16, 3) := dk_156 0 16 (dk_at dksX3_isOut_0 5 rfl rfl)
theorem dX3_isOut_8 : decode cX3_isOut 8 = .ok (.aload_n 0, 1) := dk_42 (dk_at dksX3_isOut_0 8 rfl rfl)
theorem dX3_isOut_9 : decode cX3_isOut 9 = .ok (.iconst 3, 1) := dk_6 (dk_at dksX3_isOut_0 9 rfl rfl)
theorem dX3_isOut_10 : decode cX3_isOut 10 = .ok (.iload_n 1, 1) := dk_27 (dk_at dksX3_isOut_0 10 rfl rfl)
theorem dX3_isOut_11 : decode cX3_isOut 11 = .ok (.invokevirtual 109, 3) := dk_182 0 109 (dk_at dksX3_isOut_0 11 rfl rfl)
theorem dX3_isOut_14 : decode cX3_isOut 14 = .ok (.ifCond .eq 7, 3) := dk_153 0 7 (dk_at dksX3_isOut_0 14 rfl rfl)
theorem dX3_isOut_17 : decode cX3_isOut 17 = .ok (.iconst 1, 1) := dk_4 (dk_at dksX3_isOut_0 17 rfl rfl)
theorem dX3_isOut_18 : decode cX3_isOut 18 = .ok (.goto 4, 3) := dk_167 0 4 (dk_at dksX3_isOut_0 18 rfl rfl)
theorem dX3_isOut_21 : decode cX3_isOut 21 = .ok (.iconst 0, 1) := dk_3 (dk_at dksX3_isOut_0 21 rfl rfl)
theorem dX3_isOut_22 : decode cX3_isOut 22 = .ok (.ireturn, 1) := dk_172 (dk_at dksX3_isOut_0 22 rfl rfl)
abbrev cX3_leaves : ByteArray := prog_20_method_22_code
def yX3_leaves : MethodName := ⟨RX3, "leaves", "(I)I"⟩
def dkwX3_leaves_7 : List UInt8 := [167, 255, 208, 29, 172]
abbrev dktX3_leaves_7 : List UInt8 := dkwX3_leaves_7 ++ []
def dkwX3_leaves_6 : List UInt8 := [21, 5, 42, 21, 4, 4, 96, 21, 5, 182, 0, 98, 182, 0, 117, 132, 5, 1, 167, 255, 228, 132, 4, 1]
abbrev dktX3_leaves_6 : List UInt8 := dkwX3_leaves_6 ++ dktX3_leaves_7
def dkwX3_leaves_5 : List UInt8 := [21, 4, 42, 180, 0, 7, 4, 46, 162, 0, 43, 3, 54, 5, 21, 5, 16, 64, 162, 0, 27, 42, 21, 4]
abbrev dktX3_leaves_5 : List UInt8 := dkwX3_leaves_5 ++ dktX3_leaves_6
def dkwX3_leaves_4 : List UInt8 := [160, 0, 10, 42, 180, 0, 7, 5, 2, 79, 42, 180, 0, 7, 4, 92, 46, 4, 100, 79, 28, 54, 4]
abbrev dktX3_leaves_4 : List UInt8 := dkwX3_leaves_4 ++ dktX3_leaves_5
def dkwX3_leaves_3 : List UInt8 := [62, 167, 0, 15, 42, 180, 0, 7, 16, 19, 42, 27, 182, 0, 140, 79, 42, 180, 0, 7, 5, 46, 27]
abbrev dktX3_leaves_3 : List UInt8 := dkwX3_leaves_3 ++ dktX3_leaves_4
def dkwX3_leaves_2 : List UInt8 := [180, 0, 7, 4, 46, 4, 160, 0, 22, 29, 42, 182, 0, 137, 5, 160, 0, 7, 4, 167, 0, 4, 3, 96]
abbrev dktX3_leaves_2 : List UInt8 := dkwX3_leaves_2 ++ dktX3_leaves_3
def dkwX3_leaves_1 : List UInt8 := [42, 180, 0, 7, 16, 18, 46, 158, 0, 55, 42, 180, 0, 7, 16, 19, 46, 27, 160, 0, 44, 42]
abbrev dktX3_leaves_1 : List UInt8 := dkwX3_leaves_1 ++ dktX3_leaves_2
def dkwX3_leaves_0 : List UInt8 := [42, 27, 182, 0, 106, 61, 42, 28, 4, 182, 0, 98, 62, 42, 180, 0, 7, 16, 10, 92, 46, 29, 96, 79]
abbrev dktX3_leaves_0 : List UInt8 := dkwX3_leaves_0 ++ dktX3_leaves_1
theorem dksX3_leaves_0 : cX3_leaves.data.toList.drop 0 = dktX3_leaves_0 := by decide +kernel
theorem dksX3_leaves_1 : cX3_leaves.data.toList.drop 24 = dktX3_leaves_1 := dk_seg dksX3_leaves_0 24 rfl rfl
theorem dksX3_leaves_2 : cX3_leaves.data.toList.drop 46 = dktX3_leaves_2 := dk_seg dksX3_leaves_1 22 rfl rfl
theorem dksX3_leaves_3 : cX3_leaves.data.toList.drop 70 = dktX3_leaves_3 := dk_seg dksX3_leaves_2 24 rfl rfl
theorem dksX3_leaves_4 : cX3_leaves.data.toList.drop 93 = dktX3_leaves_4 := dk_seg dksX3_leaves_3 23 rfl rfl
theorem dksX3_leaves_5 : cX3_leaves.data.toList.drop 116 = dktX3_leaves_5 := dk_seg dksX3_leaves_4 23 rfl rfl
theorem dksX3_leaves_6 : cX3_leaves.data.toList.drop 140 = dktX3_leaves_6 := dk_seg dksX3_leaves_5 24 rfl rfl
theorem dksX3_leaves_7 : cX3_leaves.data.toList.drop 164 = dktX3_leaves_7 := dk_seg dksX3_leaves_6 24 rfl rfl
theorem dX3_leaves_0 : decode cX3_leaves 0 = .ok (.aload_n 0, 1) := dk_42 (dk_at dksX3_leaves_0 0 rfl rfl)
theorem dX3_leaves_1 : decode cX3_leaves 1 = .ok (.iload_n 1, 1) := dk_27 (dk_at dksX3_leaves_0 1 rfl rfl)
theorem dX3_leaves_2 : decode cX3_leaves 2 = .ok (.invokevirtual 106, 3) := dk_182 0 106 (dk_at dksX3_leaves_0 2 rfl rfl)
theorem dX3_leaves_5 : decode cX3_leaves 5 = .ok (.istore_n 2, 1) := dk_61 (dk_at dksX3_leaves_0 5 rfl rfl)
theorem dX3_leaves_6 : decode cX3_leaves 6 = .ok (.aload_n 0, 1) := dk_42 (dk_at dksX3_leaves_0 6 rfl rfl)
theorem dX3_leaves_7 : decode cX3_leaves 7 = .ok (.iload_n 2, 1) := dk_28 (dk_at dksX3_leaves_0 7 rfl rfl)
theorem dX3_leaves_8 : decode cX3_leaves 8 = .ok (.iconst 1, 1) := dk_4 (dk_at dksX3_leaves_0 8 rfl rfl)
theorem dX3_leaves_9 : decode cX3_leaves 9 = .ok (.invokevirtual 98, 3) := dk_182 0 98 (dk_at dksX3_leaves_0 9 rfl rfl)
theorem dX3_leaves_12 : decode cX3_leaves 12 = .ok (.istore_n 3, 1) := dk_62 (dk_at dksX3_leaves_0 12 rfl rfl)
theorem dX3_leaves_13 : decode cX3_leaves 13 = .ok (.aload_n 0, 1) := dk_42 (dk_at dksX3_leaves_0 13 rfl rfl)
theorem dX3_leaves_14 : decode cX3_leaves 14 = .ok (.getfield 7, 3) := dk_180 0 7 (dk_at dksX3_leaves_0 14 rfl rfl)
theorem dX3_leaves_17 : decode cX3_leaves 17 = .ok (.bipush 10, 2) := dk_16 10 (dk_at dksX3_leaves_0 17 rfl rfl)
theorem dX3_leaves_19 : decode cX3_leaves 19 = .ok (.dup2, 1) := dk_92 (dk_at dksX3_leaves_0 19 rfl rfl)
theorem dX3_leaves_20 : decode cX3_leaves 20 = .ok (.iaload, 1) := dk_46 (dk_at dksX3_leaves_0 20 rfl rfl)
theorem dX3_leaves_21 : decode cX3_leaves 21 = .ok (.iload_n 3, 1) := dk_29 (dk_at dksX3_leaves_0 21 rfl rfl)
theorem dX3_leaves_22 : decode cX3_leaves 22 = .ok (.iadd, 1) := dk_96 (dk_at dksX3_leaves_0 22 rfl rfl)
theorem dX3_leaves_23 : decode cX3_leaves 23 = .ok (.iastore, 1) := dk_79 (dk_at dksX3_leaves_0 23 rfl rfl)
theorem dX3_leaves_24 : decode cX3_leaves 24 = .ok (.aload_n 0, 1) := dk_42 (dk_at dksX3_leaves_1 0 rfl rfl)
theorem dX3_leaves_25 : decode cX3_leaves 25 = .ok (.getfield 7, 3) := dk_180 0 7 (dk_at dksX3_leaves_1 1 rfl rfl)
theorem dX3_leaves_28 : decode cX3_leaves 28 = .ok (.bipush 18, 2) := dk_16 18 (dk_at dksX3_leaves_1 4 rfl rfl)
theorem dX3_leaves_30 : decode cX3_leaves 30 = .ok (.iaload, 1) := dk_46 (dk_at dksX3_leaves_1 6 rfl rfl)
theorem dX3_leaves_31 : decode cX3_leaves 31 = .ok (.ifCond .le 55, 3) := dk_158 0 55 (dk_at dksX3_leaves_1 7 rfl rfl)
theorem dX3_leaves_34 : decode cX3_leaves 34 = .ok (.aload_n 0, 1) := dk_42 (dk_at dksX3_leaves_1 10 rfl rfl)
theorem dX3_leaves_35 : decode cX3_leaves 35 = .ok (.getfield 7, 3) := dk_180 0 7 (dk_at dksX3_leaves_1 11 rfl rfl)
theorem dX3_leaves_38 : decode cX3_leaves 38 = .ok (.bipush 19, 2) := dk_16 19 (dk_at dksX3_leaves_1 14 rfl rfl)
theorem dX3_leaves_40 : decode cX3_leaves 40 = .ok (.iaload, 1) := dk_46 (dk_at dksX3_leaves_1 16 rfl rfl)
theorem dX3_leaves_41 : decode cX3_leaves 41 = .ok (.iload_n 1, 1) := dk_27 (dk_at dksX3_leaves_1 17 rfl rfl)
theorem dX3_leaves_42 : decode cX3_leaves 42 = .ok (.if_icmp .ne 44, 3) := dk_160 0 44 (dk_at dksX3_leaves_1 18 rfl rfl)
theorem dX3_leaves_45 : decode cX3_leaves 45 = .ok (.aload_n 0, 1) := dk_42 (dk_at dksX3_leaves_1 21 rfl rfl)
theorem dX3_leaves_46 : decode cX3_leaves 46 = .ok (.getfield 7, 3) := dk_180 0 7 (dk_at dksX3_leaves_2 0 rfl rfl)
theorem dX3_leaves_49 : decode cX3_leaves 49 = .ok (.iconst 1, 1) := dk_4 (dk_at dksX3_leaves_2 3 rfl rfl)
theorem dX3_leaves_50 : decode cX3_leaves 50 = .ok (.iaload, 1) := dk_46 (dk_at dksX3_leaves_2 4 rfl rfl)
theorem dX3_leaves_51 : decode cX3_leaves 51 = .ok (.iconst 1, 1) := dk_4 (dk_at dksX3_leaves_2 5 rfl rfl)
theorem dX3_leaves_52 : decode cX3_leaves 52 = .ok (.if_icmp .ne 22, 3) := dk_160 0 22 (dk_at dksX3_leaves_2 6 rfl rfl)
theorem dX3_leaves_55 : decode cX3_leaves 55 = .ok (.iload_n 3, 1) := dk_29 (dk_at dksX3_leaves_2 9 rfl rfl)
theorem dX3_leaves_56 : decode cX3_leaves 56 = .ok (.aload_n 0, 1) := dk_42 (dk_at dksX3_leaves_2 10 rfl rfl)
theorem dX3_leaves_57 : decode cX3_leaves 57 = .ok (.invokevirtual 137, 3) := dk_182 0 137 (dk_at dksX3_leaves_2 11 rfl rfl)
theorem dX3_leaves_60 : decode cX3_leaves 60 = .ok (.iconst 2, 1) := dk_5 (dk_at dksX3_leaves_2 14 rfl rfl)
theorem dX3_leaves_61 : decode cX3_leaves 61 = .ok (.if_icmp .ne 7, 3) := dk_160 0 7 (dk_at dksX3_leaves_2 15 rfl rfl)
theorem dX3_leaves_64 : decode cX3_leaves 64 = .ok (.iconst 1, 1) := dk_4 (dk_at dksX3_leaves_2 18 rfl rfl)
theorem dX3_leaves_65 : decode cX3_leaves 65 = .ok (.goto 4, 3) := dk_167 0 4 (dk_at dksX3_leaves_2 19 rfl rfl)
theorem dX3_leaves_68 : decode cX3_leaves 68 = .ok (.iconst 0, 1) := dk_3 (dk_at dksX3_leaves_2 22 rfl rfl)
theorem dX3_leaves_69 : decode cX3_leaves 69 = .ok (.iadd, 1) := dk_96 (dk_at dksX3_leaves_2 23 rfl rfl)
theorem dX3_leaves_70 : decode cX3_leaves 70 = .ok (.istore_n 3, 1) := dk_62 (dk_at dksX3_leaves_3 0 rfl rfl)
theorem dX3_leaves_71 : decode cX3_leaves 71 = .ok (.goto 15, 3) := dk_167 0 15 (dk_at dksX3_leaves_3 1 rfl rfl)
theorem dX3_leaves_74 : decode cX3_leaves 74 = .ok (.aload_n 0, 1) := dk_42 (dk_at dksX3_leaves_3 4 rfl rfl)
theorem dX3_leaves_75 : decode cX3_leaves 75 = .ok (.getfield 7, 3) := dk_180 0 7 (dk_at dksX3_leaves_3 5 rfl rfl)
theorem dX3_leaves_78 : decode cX3_leaves 78 = .ok (.bipush 19, 2) := dk_16 19 (dk_at dksX3_leaves_3 8 rfl rfl)
theorem dX3_leaves_80 : decode cX3_leaves 80 = .ok (.aload_n 0, 1) := dk_42 (dk_at dksX3_leaves_3 10 rfl rfl)
theorem dX3_leaves_81 : decode cX3_leaves 81 = .ok (.iload_n 1, 1) := dk_27 (dk_at dksX3_leaves_3 11 rfl rfl)
theorem dX3_leaves_82 : decode cX3_leaves 82 = .ok (.invokevirtual 140, 3) := dk_182 0 140 (dk_at dksX3_leaves_3 12 rfl rfl)
theorem dX3_leaves_85 : decode cX3_leaves 85 = .ok (.iastore, 1) := dk_79 (dk_at dksX3_leaves_3 15 rfl rfl)
theorem dX3_leaves_86 : decode cX3_leaves 86 = .ok (.aload_n 0, 1) := dk_42 (dk_at dksX3_leaves_3 16 rfl rfl)
theorem dX3_leaves_87 : decode cX3_leaves 87 = .ok (.getfield 7, 3) := dk_180 0 7 (dk_at dksX3_leaves_3 17 rfl rfl)
theorem dX3_leaves_90 : decode cX3_leaves 90 = .ok (.iconst 2, 1) := dk_5 (dk_at dksX3_leaves_3 20 rfl rfl)
theorem dX3_leaves_91 : decode cX3_leaves 91 = .ok (.iaload, 1) := dk_46 (dk_at dksX3_leaves_3 21 rfl rfl)
theorem dX3_leaves_92 : decode cX3_leaves 92 = .ok (.iload_n 1, 1) := dk_27 (dk_at dksX3_leaves_3 22 rfl rfl)
theorem dX3_leaves_93 : decode cX3_leaves 93 = .ok (.if_icmp .ne 10, 3) := dk_160 0 10 (dk_at dksX3_leaves_4 0 rfl rfl)
theorem dX3_leaves_96 : decode cX3_leaves 96 = .ok (.aload_n 0, 1) := dk_42 (dk_at dksX3_leaves_4 3 rfl rfl)
theorem dX3_leaves_97 : decode cX3_leaves 97 = .ok (.getfield 7, 3) := dk_180 0 7 (dk_at dksX3_leaves_4 4 rfl rfl)
theorem dX3_leaves_100 : decode cX3_leaves 100 = .ok (.iconst 2, 1) := dk_5 (dk_at dksX3_leaves_4 7 rfl rfl)
theorem dX3_leaves_101 : decode cX3_leaves 101 = .ok (.iconst (-1), 1) := dk_2 (dk_at dksX3_leaves_4 8 rfl rfl)
theorem dX3_leaves_102 : decode cX3_leaves 102 = .ok (.iastore, 1) := dk_79 (dk_at dksX3_leaves_4 9 rfl rfl)
theorem dX3_leaves_103 : decode cX3_leaves 103 = .ok (.aload_n 0, 1) := dk_42 (dk_at dksX3_leaves_4 10 rfl rfl)
theorem dX3_leaves_104 : decode cX3_leaves 104 = .ok (.getfield 7, 3) := dk_180 0 7 (dk_at dksX3_leaves_4 11 rfl rfl)
theorem dX3_leaves_107 : decode cX3_leaves 107 = .ok (.iconst 1, 1) := dk_4 (dk_at dksX3_leaves_4 14 rfl rfl)
theorem dX3_leaves_108 : decode cX3_leaves 108 = .ok (.dup2, 1) := dk_92 (dk_at dksX3_leaves_4 15 rfl rfl)
theorem dX3_leaves_109 : decode cX3_leaves 109 = .ok (.iaload, 1) := dk_46 (dk_at dksX3_leaves_4 16 rfl rfl)
theorem dX3_leaves_110 : decode cX3_leaves 110 = .ok (.iconst 1, 1) := dk_4 (dk_at dksX3_leaves_4 17 rfl rfl)
theorem dX3_leaves_111 : decode cX3_leaves 111 = .ok (.isub, 1) := dk_100 (dk_at dksX3_leaves_4 18 rfl rfl)
theorem dX3_leaves_112 : decode cX3_leaves 112 = .ok (.iastore, 1) := dk_79 (dk_at dksX3_leaves_4 19 rfl rfl)
theorem dX3_leaves_113 : decode cX3_leaves 113 = .ok (.iload_n 2, 1) := dk_28 (dk_at dksX3_leaves_4 20 rfl rfl)
theorem dX3_leaves_114 : decode cX3_leaves 114 = .ok (.istore 4, 2) := dk_54 4 (dk_at dksX3_leaves_4 21 rfl rfl)
theorem dX3_leaves_116 : decode cX3_leaves 116 = .ok (.iload 4, 2) := dk_21 4 (dk_at dksX3_leaves_5 0 rfl rfl)
theorem dX3_leaves_118 : decode cX3_leaves 118 = .ok (.aload_n 0, 1) := dk_42 (dk_at dksX3_leaves_5 2 rfl rfl)
theorem dX3_leaves_119 : decode cX3_leaves 119 = .ok (.getfield 7, 3) := dk_180 0 7 (dk_at dksX3_leaves_5 3 rfl rfl)
theorem dX3_leaves_122 : decode cX3_leaves 122 = .ok (.iconst 1, 1) := dk_4 (dk_at dksX3_leaves_5 6 rfl rfl)
theorem dX3_leaves_123 : decode cX3_leaves 123 = .ok (.iaload, 1) := dk_46 (dk_at dksX3_leaves_5 7 rfl rfl)
theorem dX3_leaves_124 : decode cX3_leaves 124 = .ok (.if_icmp .ge 43, 3) := dk_162 0 43 (dk_at dksX3_leaves_5 8 rfl rfl)
theorem dX3_leaves_127 : decode cX3_leaves 127 = .ok (.iconst 0, 1) := dk_3 (dk_at dksX3_leaves_5 11 rfl rfl)
theorem dX3_leaves_128 : decode cX3_leaves 128 = .ok (.istore 5, 2) := dk_54 5 (dk_at dksX3_leaves_5 12 rfl rfl)
theorem dX3_leaves_130 : decode cX3_leaves 130 = .ok (.iload 5, 2) := dk_21 5 (dk_at dksX3_leaves_5 14 rfl rfl)
theorem dX3_leaves_132 : decode cX3_leaves 132 = .ok (.bipush 64, 2) := dk_16 64 (dk_at dksX3_leaves_5 16 rfl rfl)
theorem dX3_leaves_134 : decode cX3_leaves 134 = .ok (.if_icmp .ge 27, 3) := dk_162 0 27 (dk_at dksX3_leaves_5 18 rfl rfl)
theorem dX3_leaves_137 : decode cX3_leaves 137 = .ok (.aload_n 0, 1) := dk_42 (dk_at dksX3_leaves_5 21 rfl rfl)
theorem dX3_leaves_138 : decode cX3_leaves 138 = .ok (.iload 4, 2) := dk_21 4 (dk_at dksX3_leaves_5 22 rfl rfl)
theorem dX3_leaves_140 : decode cX3_leaves 140 = .ok (.iload 5, 2) := dk_21 5 (dk_at dksX3_leaves_6 0 rfl rfl)
theorem dX3_leaves_142 : decode cX3_leaves 142 = .ok (.aload_n 0, 1) := dk_42 (dk_at dksX3_leaves_6 2 rfl rfl)
theorem dX3_leaves_143 : decode cX3_leaves 143 = .ok (.iload 4, 2) := dk_21 4 (dk_at dksX3_leaves_6 3 rfl rfl)
theorem dX3_leaves_145 : decode cX3_leaves 145 = .ok (.iconst 1, 1) := dk_4 (dk_at dksX3_leaves_6 5 rfl rfl)
theorem dX3_leaves_146 : decode cX3_leaves 146 = .ok (.iadd, 1) := dk_96 (dk_at dksX3_leaves_6 6 rfl rfl)
theorem dX3_leaves_147 : decode cX3_leaves 147 = .ok (.iload 5, 2) := dk_21 5 (dk_at dksX3_leaves_6 7 rfl rfl)
theorem dX3_leaves_149 : decode cX3_leaves 149 = .ok (.invokevirtual 98, 3) := dk_182 0 98 (dk_at dksX3_leaves_6 9 rfl rfl)
theorem dX3_leaves_152 : decode cX3_leaves 152 = .ok (.invokevirtual 117, 3) := dk_182 0 117 (dk_at dksX3_leaves_6 12 rfl rfl)
theorem dX3_leaves_155 : decode cX3_leaves 155 = .ok (.iinc 5 1, 3) := dk_132 5 1 (dk_at dksX3_leaves_6 15 rfl rfl)
theorem dX3_leaves_158 : decode cX3_leaves 158 = .ok (.goto (-28), 3) := dk_167 255 228 (dk_at dksX3_leaves_6 18 rfl rfl)
theorem dX3_leaves_161 : decode cX3_leaves 161 = .ok (.iinc 4 1, 3) := dk_132 4 1 (dk_at dksX3_leaves_6 21 rfl rfl)
theorem dX3_leaves_164 : decode cX3_leaves 164 = .ok (.goto (-48), 3) := dk_167 255 208 (dk_at dksX3_leaves_7 0 rfl rfl)
theorem dX3_leaves_167 : decode cX3_leaves 167 = .ok (.iload_n 3, 1) := dk_29 (dk_at dksX3_leaves_7 3 rfl rfl)
theorem dX3_leaves_168 : decode cX3_leaves 168 = .ok (.ireturn, 1) := dk_172 (dk_at dksX3_leaves_7 4 rfl rfl)
abbrev cX3_losesIt : ByteArray := prog_20_method_20_code
def yX3_losesIt : MethodName := ⟨RX3, "losesIt", "()I"⟩
def dkwX3_losesIt_1 : List UInt8 := [92, 46, 4, 96, 79, 42, 180, 0, 7, 16, 18, 3, 79, 27, 172]
abbrev dktX3_losesIt_1 : List UInt8 := dkwX3_losesIt_1 ++ []
def dkwX3_losesIt_0 : List UInt8 := [42, 180, 0, 7, 16, 18, 46, 60, 42, 180, 0, 7, 27, 4, 160, 0, 8, 16, 17, 167, 0, 5, 16, 9]
abbrev dktX3_losesIt_0 : List UInt8 := dkwX3_losesIt_0 ++ dktX3_losesIt_1
theorem dksX3_losesIt_0 : cX3_losesIt.data.toList.drop 0 = dktX3_losesIt_0 := by decide +kernel
theorem dksX3_losesIt_1 : cX3_losesIt.data.toList.drop 24 = dktX3_losesIt_1 := dk_seg dksX3_losesIt_0 24 rfl rfl
theorem dX3_losesIt_0 : decode cX3_losesIt 0 = .ok (.aload_n 0, 1) := dk_42 (dk_at dksX3_losesIt_0 0 rfl rfl)
theorem dX3_losesIt_1 : decode cX3_losesIt 1 = .ok (.getfield 7, 3) := dk_180 0 7 (dk_at dksX3_losesIt_0 1 rfl rfl)
theorem dX3_losesIt_4 : decode cX3_losesIt 4 = .ok (.bipush 18, 2) := dk_16 18 (dk_at dksX3_losesIt_0 4 rfl rfl)
theorem dX3_losesIt_6 : decode cX3_losesIt 6 = .ok (.iaload, 1) := dk_46 (dk_at dksX3_losesIt_0 6 rfl rfl)
theorem dX3_losesIt_7 : decode cX3_losesIt 7 = .ok (.istore_n 1, 1) := dk_60 (dk_at dksX3_losesIt_0 7 rfl rfl)
theorem dX3_losesIt_8 : decode cX3_losesIt 8 = .ok (.aload_n 0, 1) := dk_42 (dk_at dksX3_losesIt_0 8 rfl rfl)
theorem dX3_losesIt_9 : decode cX3_losesIt 9 = .ok (.getfield 7, 3) := dk_180 0 7 (dk_at dksX3_losesIt_0 9 rfl rfl)
theorem dX3_losesIt_12 : decode cX3_losesIt 12 = .ok (.iload_n 1, 1) := dk_27 (dk_at dksX3_losesIt_0 12 rfl rfl)
theorem dX3_losesIt_13 : decode cX3_losesIt 13 = .ok (.iconst 1, 1) := dk_4 (dk_at dksX3_losesIt_0 13 rfl rfl)
theorem dX3_losesIt_14 : decode cX3_losesIt 14 = .ok (.if_icmp .ne 8, 3) := dk_160 0 8 (dk_at dksX3_losesIt_0 14 rfl rfl)
theorem dX3_losesIt_17 : decode cX3_losesIt 17 = .ok (.bipush 17, 2) := dk_16 17 (dk_at dksX3_losesIt_0 17 rfl rfl)
theorem dX3_losesIt_19 : decode cX3_losesIt 19 = .ok (.goto 5, 3) := dk_167 0 5 (dk_at dksX3_losesIt_0 19 rfl rfl)
theorem dX3_losesIt_22 : decode cX3_losesIt 22 = .ok (.bipush 9, 2) := dk_16 9 (dk_at dksX3_losesIt_0 22 rfl rfl)
theorem dX3_losesIt_24 : decode cX3_losesIt 24 = .ok (.dup2, 1) := dk_92 (dk_at dksX3_losesIt_1 0 rfl rfl)
theorem dX3_losesIt_25 : decode cX3_losesIt 25 = .ok (.iaload, 1) := dk_46 (dk_at dksX3_losesIt_1 1 rfl rfl)
theorem dX3_losesIt_26 : decode cX3_losesIt 26 = .ok (.iconst 1, 1) := dk_4 (dk_at dksX3_losesIt_1 2 rfl rfl)
theorem dX3_losesIt_27 : decode cX3_losesIt 27 = .ok (.iadd, 1) := dk_96 (dk_at dksX3_losesIt_1 3 rfl rfl)
theorem dX3_losesIt_28 : decode cX3_losesIt 28 = .ok (.iastore, 1) := dk_79 (dk_at dksX3_losesIt_1 4 rfl rfl)
theorem dX3_losesIt_29 : decode cX3_losesIt 29 = .ok (.aload_n 0, 1) := dk_42 (dk_at dksX3_losesIt_1 5 rfl rfl)
theorem dX3_losesIt_30 : decode cX3_losesIt 30 = .ok (.getfield 7, 3) := dk_180 0 7 (dk_at dksX3_losesIt_1 6 rfl rfl)
theorem dX3_losesIt_33 : decode cX3_losesIt 33 = .ok (.bipush 18, 2) := dk_16 18 (dk_at dksX3_losesIt_1 9 rfl rfl)
theorem dX3_losesIt_35 : decode cX3_losesIt 35 = .ok (.iconst 0, 1) := dk_3 (dk_at dksX3_losesIt_1 11 rfl rfl)
theorem dX3_losesIt_36 : decode cX3_losesIt 36 = .ok (.iastore, 1) := dk_79 (dk_at dksX3_losesIt_1 12 rfl rfl)
theorem dX3_losesIt_37 : decode cX3_losesIt 37 = .ok (.iload_n 1, 1) := dk_27 (dk_at dksX3_losesIt_1 13 rfl rfl)
theorem dX3_losesIt_38 : decode cX3_losesIt 38 = .ok (.ireturn, 1) := dk_172 (dk_at dksX3_losesIt_1 14 rfl rfl)
abbrev cX3_nextOf : ByteArray := prog_20_method_21_code
def yX3_nextOf : MethodName := ⟨RX3, "nextOf", "(I)I"⟩
def dkwX3_nextOf_0 : List UInt8 := [42, 42, 27, 182, 0, 106, 4, 96, 42, 180, 0, 7, 4, 46, 112, 3, 182, 0, 98, 172]
abbrev dktX3_nextOf_0 : List UInt8 := dkwX3_nextOf_0 ++ []
theorem dksX3_nextOf_0 : cX3_nextOf.data.toList.drop 0 = dktX3_nextOf_0 := by decide +kernel
theorem dX3_nextOf_0 : decode cX3_nextOf 0 = .ok (.aload_n 0, 1) := dk_42 (dk_at dksX3_nextOf_0 0 rfl rfl)
theorem dX3_nextOf_1 : decode cX3_nextOf 1 = .ok (.aload_n 0, 1) := dk_42 (dk_at dksX3_nextOf_0 1 rfl rfl)
theorem dX3_nextOf_2 : decode cX3_nextOf 2 = .ok (.iload_n 1, 1) := dk_27 (dk_at dksX3_nextOf_0 2 rfl rfl)
theorem dX3_nextOf_3 : decode cX3_nextOf 3 = .ok (.invokevirtual 106, 3) := dk_182 0 106 (dk_at dksX3_nextOf_0 3 rfl rfl)
theorem dX3_nextOf_6 : decode cX3_nextOf 6 = .ok (.iconst 1, 1) := dk_4 (dk_at dksX3_nextOf_0 6 rfl rfl)
theorem dX3_nextOf_7 : decode cX3_nextOf 7 = .ok (.iadd, 1) := dk_96 (dk_at dksX3_nextOf_0 7 rfl rfl)
theorem dX3_nextOf_8 : decode cX3_nextOf 8 = .ok (.aload_n 0, 1) := dk_42 (dk_at dksX3_nextOf_0 8 rfl rfl)
theorem dX3_nextOf_9 : decode cX3_nextOf 9 = .ok (.getfield 7, 3) := dk_180 0 7 (dk_at dksX3_nextOf_0 9 rfl rfl)
theorem dX3_nextOf_12 : decode cX3_nextOf 12 = .ok (.iconst 1, 1) := dk_4 (dk_at dksX3_nextOf_0 12 rfl rfl)
theorem dX3_nextOf_13 : decode cX3_nextOf 13 = .ok (.iaload, 1) := dk_46 (dk_at dksX3_nextOf_0 13 rfl rfl)
theorem dX3_nextOf_14 : decode cX3_nextOf 14 = .ok (.irem, 1) := dk_112 (dk_at dksX3_nextOf_0 14 rfl rfl)
theorem dX3_nextOf_15 : decode cX3_nextOf 15 = .ok (.iconst 0, 1) := dk_3 (dk_at dksX3_nextOf_0 15 rfl rfl)
theorem dX3_nextOf_16 : decode cX3_nextOf 16 = .ok (.invokevirtual 98, 3) := dk_182 0 98 (dk_at dksX3_nextOf_0 16 rfl rfl)
theorem dX3_nextOf_19 : decode cX3_nextOf 19 = .ok (.ireturn, 1) := dk_172 (dk_at dksX3_nextOf_0 19 rfl rfl)
abbrev cX3_queue : ByteArray := prog_20_method_26_code
def yX3_queue : MethodName := ⟨RX3, "queue", "(IIII)I"⟩
def dkwX3_queue_1 : List UInt8 := [42, 27, 28, 29, 21, 4, 182, 0, 157, 182, 0, 134, 172]
abbrev dktX3_queue_1 : List UInt8 := dkwX3_queue_1 ++ []
def dkwX3_queue_0 : List UInt8 := [42, 182, 0, 121, 42, 27, 28, 29, 21, 4, 182, 0, 153, 153, 0, 10, 42, 182, 0, 127, 167, 0, 16, 42]
abbrev dktX3_queue_0 : List UInt8 := dkwX3_queue_0 ++ dktX3_queue_1
theorem dksX3_queue_0 : cX3_queue.data.toList.drop 0 = dktX3_queue_0 := by decide +kernel
theorem dksX3_queue_1 : cX3_queue.data.toList.drop 24 = dktX3_queue_1 := dk_seg dksX3_queue_0 24 rfl rfl
theorem dX3_queue_0 : decode cX3_queue 0 = .ok (.aload_n 0, 1) := dk_42 (dk_at dksX3_queue_0 0 rfl rfl)
theorem dX3_queue_1 : decode cX3_queue 1 = .ok (.invokevirtual 121, 3) := dk_182 0 121 (dk_at dksX3_queue_0 1 rfl rfl)
theorem dX3_queue_4 : decode cX3_queue 4 = .ok (.aload_n 0, 1) := dk_42 (dk_at dksX3_queue_0 4 rfl rfl)
theorem dX3_queue_5 : decode cX3_queue 5 = .ok (.iload_n 1, 1) := dk_27 (dk_at dksX3_queue_0 5 rfl rfl)
theorem dX3_queue_6 : decode cX3_queue 6 = .ok (.iload_n 2, 1) := dk_28 (dk_at dksX3_queue_0 6 rfl rfl)
theorem dX3_queue_7 : decode cX3_queue 7 = .ok (.iload_n 3, 1) := dk_29 (dk_at dksX3_queue_0 7 rfl rfl)
theorem dX3_queue_8 : decode cX3_queue 8 = .ok (.iload 4, 2) := dk_21 4 (dk_at dksX3_queue_0 8 rfl rfl)
theorem dX3_queue_10 : decode cX3_queue 10 = .ok (.invokevirtual 153, 3) := dk_182 0 153 (dk_at dksX3_queue_0 10 rfl rfl)
theorem dX3_queue_13 : decode cX3_queue 13 = .ok (.ifCond .eq 10, 3) := dk_153 0 10 (dk_at dksX3_queue_0 13 rfl rfl)
theorem dX3_queue_16 : decode cX3_queue 16 = .ok (.aload_n 0, 1) := dk_42 (dk_at dksX3_queue_0 16 rfl rfl)
theorem dX3_queue_17 : decode cX3_queue 17 = .ok (.invokevirtual 127, 3) := dk_182 0 127 (dk_at dksX3_queue_0 17 rfl rfl)
theorem dX3_queue_20 : decode cX3_queue 20 = .ok (.goto 16, 3) := dk_167 0 16 (dk_at dksX3_queue_0 20 rfl rfl)
theorem dX3_queue_23 : decode cX3_queue 23 = .ok (.aload_n 0, 1) := dk_42 (dk_at dksX3_queue_0 23 rfl rfl)
theorem dX3_queue_24 : decode cX3_queue 24 = .ok (.aload_n 0, 1) := dk_42 (dk_at dksX3_queue_1 0 rfl rfl)
theorem dX3_queue_25 : decode cX3_queue 25 = .ok (.iload_n 1, 1) := dk_27 (dk_at dksX3_queue_1 1 rfl rfl)
theorem dX3_queue_26 : decode cX3_queue 26 = .ok (.iload_n 2, 1) := dk_28 (dk_at dksX3_queue_1 2 rfl rfl)
theorem dX3_queue_27 : decode cX3_queue 27 = .ok (.iload_n 3, 1) := dk_29 (dk_at dksX3_queue_1 3 rfl rfl)
theorem dX3_queue_28 : decode cX3_queue 28 = .ok (.iload 4, 2) := dk_21 4 (dk_at dksX3_queue_1 4 rfl rfl)
theorem dX3_queue_30 : decode cX3_queue 30 = .ok (.invokevirtual 157, 3) := dk_182 0 157 (dk_at dksX3_queue_1 6 rfl rfl)
theorem dX3_queue_33 : decode cX3_queue 33 = .ok (.invokevirtual 134, 3) := dk_182 0 134 (dk_at dksX3_queue_1 9 rfl rfl)
theorem dX3_queue_36 : decode cX3_queue 36 = .ok (.ireturn, 1) := dk_172 (dk_at dksX3_queue_1 12 rfl rfl)
abbrev cX3_isRefusedQueue : ByteArray := prog_20_method_24_code
def yX3_isRefusedQueue : MethodName := ⟨RX3, "isRefusedQueue", "(IIII)Z"⟩
def dkwX3_isRefusedQueue_4 : List UInt8 := [4, 167, 0, 4, 3, 172]
abbrev dktX3_isRefusedQueue_4 : List UInt8 := dkwX3_isRefusedQueue_4 ++ []
def dkwX3_isRefusedQueue_3 : List UInt8 := [42, 27, 182, 0, 106, 4, 182, 0, 98, 16, 12, 160, 0, 17, 42, 7, 16, 12, 182, 0, 109, 153, 0, 7]
abbrev dktX3_isRefusedQueue_3 : List UInt8 := dkwX3_isRefusedQueue_3 ++ dktX3_isRefusedQueue_4
def dkwX3_isRefusedQueue_2 : List UInt8 := [154, 0, 11, 42, 4, 21, 4, 182, 0, 109, 172, 27, 28, 160, 0, 10, 42, 8, 27, 182, 0, 109, 172, 42]
abbrev dktX3_isRefusedQueue_2 : List UInt8 := dkwX3_isRefusedQueue_2 ++ dktX3_isRefusedQueue_3
def dkwX3_isRefusedQueue_1 : List UInt8 := [29, 3, 6, 184, 0, 102, 154, 0, 10, 42, 4, 29, 182, 0, 109, 172, 21, 4, 4, 16, 9, 184, 0, 102]
abbrev dktX3_isRefusedQueue_1 : List UInt8 := dkwX3_isRefusedQueue_1 ++ dktX3_isRefusedQueue_2
def dkwX3_isRefusedQueue_0 : List UInt8 := [42, 27, 182, 0, 143, 153, 0, 5, 4, 172, 28, 184, 0, 113, 154, 0, 10, 42, 4, 28, 182, 0, 109, 172]
abbrev dktX3_isRefusedQueue_0 : List UInt8 := dkwX3_isRefusedQueue_0 ++ dktX3_isRefusedQueue_1
theorem dksX3_isRefusedQueue_0 : cX3_isRefusedQueue.data.toList.drop 0 = dktX3_isRefusedQueue_0 := by decide +kernel
theorem dksX3_isRefusedQueue_1 : cX3_isRefusedQueue.data.toList.drop 24 = dktX3_isRefusedQueue_1 := dk_seg dksX3_isRefusedQueue_0 24 rfl rfl
theorem dksX3_isRefusedQueue_2 : cX3_isRefusedQueue.data.toList.drop 48 = dktX3_isRefusedQueue_2 := dk_seg dksX3_isRefusedQueue_1 24 rfl rfl
theorem dksX3_isRefusedQueue_3 : cX3_isRefusedQueue.data.toList.drop 72 = dktX3_isRefusedQueue_3 := dk_seg dksX3_isRefusedQueue_2 24 rfl rfl
theorem dksX3_isRefusedQueue_4 : cX3_isRefusedQueue.data.toList.drop 96 = dktX3_isRefusedQueue_4 := dk_seg dksX3_isRefusedQueue_3 24 rfl rfl
theorem dX3_isRefusedQueue_0 : decode cX3_isRefusedQueue 0 = .ok (.aload_n 0, 1) := dk_42 (dk_at dksX3_isRefusedQueue_0 0 rfl rfl)
theorem dX3_isRefusedQueue_1 : decode cX3_isRefusedQueue 1 = .ok (.iload_n 1, 1) := dk_27 (dk_at dksX3_isRefusedQueue_0 1 rfl rfl)
theorem dX3_isRefusedQueue_2 : decode cX3_isRefusedQueue 2 = .ok (.invokevirtual 143, 3) := dk_182 0 143 (dk_at dksX3_isRefusedQueue_0 2 rfl rfl)
theorem dX3_isRefusedQueue_5 : decode cX3_isRefusedQueue 5 = .ok (.ifCond .eq 5, 3) := dk_153 0 5 (dk_at dksX3_isRefusedQueue_0 5 rfl rfl)
theorem dX3_isRefusedQueue_8 : decode cX3_isRefusedQueue 8 = .ok (.iconst 1, 1) := dk_4 (dk_at dksX3_isRefusedQueue_0 8 rfl rfl)
theorem dX3_isRefusedQueue_9 : decode cX3_isRefusedQueue 9 = .ok (.ireturn, 1) := dk_172 (dk_at dksX3_isRefusedQueue_0 9 rfl rfl)
theorem dX3_isRefusedQueue_10 : decode cX3_isRefusedQueue 10 = .ok (.iload_n 2, 1) := dk_28 (dk_at dksX3_isRefusedQueue_0 10 rfl rfl)
theorem dX3_isRefusedQueue_11 : decode cX3_isRefusedQueue 11 = .ok (.invokestatic 113, 3) := dk_184 0 113 (dk_at dksX3_isRefusedQueue_0 11 rfl rfl)
theorem dX3_isRefusedQueue_14 : decode cX3_isRefusedQueue 14 = .ok (.ifCond .ne 10, 3) := dk_154 0 10 (dk_at dksX3_isRefusedQueue_0 14 rfl rfl)
theorem dX3_isRefusedQueue_17 : decode cX3_isRefusedQueue 17 = .ok (.aload_n 0, 1) := dk_42 (dk_at dksX3_isRefusedQueue_0 17 rfl rfl)
theorem dX3_isRefusedQueue_18 : decode cX3_isRefusedQueue 18 = .ok (.iconst 1, 1) := dk_4 (dk_at dksX3_isRefusedQueue_0 18 rfl rfl)
theorem dX3_isRefusedQueue_19 : decode cX3_isRefusedQueue 19 = .ok (.iload_n 2, 1) := dk_28 (dk_at dksX3_isRefusedQueue_0 19 rfl rfl)
theorem dX3_isRefusedQueue_20 : decode cX3_isRefusedQueue 20 = .ok (.invokevirtual 109, 3) := dk_182 0 109 (dk_at dksX3_isRefusedQueue_0 20 rfl rfl)
theorem dX3_isRefusedQueue_23 : decode cX3_isRefusedQueue 23 = .ok (.ireturn, 1) := dk_172 (dk_at dksX3_isRefusedQueue_0 23 rfl rfl)
theorem dX3_isRefusedQueue_24 : decode cX3_isRefusedQueue 24 = .ok (.iload_n 3, 1) := dk_29 (dk_at dksX3_isRefusedQueue_1 0 rfl rfl)
theorem dX3_isRefusedQueue_25 : decode cX3_isRefusedQueue 25 = .ok (.iconst 0, 1) := dk_3 (dk_at dksX3_isRefusedQueue_1 1 rfl rfl)
theorem dX3_isRefusedQueue_26 : decode cX3_isRefusedQueue 26 = .ok (.iconst 3, 1) := dk_6 (dk_at dksX3_isRefusedQueue_1 2 rfl rfl)
theorem dX3_isRefusedQueue_27 : decode cX3_isRefusedQueue 27 = .ok (.invokestatic 102, 3) := dk_184 0 102 (dk_at dksX3_isRefusedQueue_1 3 rfl rfl)
theorem dX3_isRefusedQueue_30 : decode cX3_isRefusedQueue 30 = .ok (.ifCond .ne 10, 3) := dk_154 0 10 (dk_at dksX3_isRefusedQueue_1 6 rfl rfl)
theorem dX3_isRefusedQueue_33 : decode cX3_isRefusedQueue 33 = .ok (.aload_n 0, 1) := dk_42 (dk_at dksX3_isRefusedQueue_1 9 rfl rfl)
theorem dX3_isRefusedQueue_34 : decode cX3_isRefusedQueue 34 = .ok (.iconst 1, 1) := dk_4 (dk_at dksX3_isRefusedQueue_1 10 rfl rfl)
theorem dX3_isRefusedQueue_35 : decode cX3_isRefusedQueue 35 = .ok (.iload_n 3, 1) := dk_29 (dk_at dksX3_isRefusedQueue_1 11 rfl rfl)
theorem dX3_isRefusedQueue_36 : decode cX3_isRefusedQueue 36 = .ok (.invokevirtual 109, 3) := dk_182 0 109 (dk_at dksX3_isRefusedQueue_1 12 rfl rfl)
theorem dX3_isRefusedQueue_39 : decode cX3_isRefusedQueue 39 = .ok (.ireturn, 1) := dk_172 (dk_at dksX3_isRefusedQueue_1 15 rfl rfl)
theorem dX3_isRefusedQueue_40 : decode cX3_isRefusedQueue 40 = .ok (.iload 4, 2) := dk_21 4 (dk_at dksX3_isRefusedQueue_1 16 rfl rfl)
theorem dX3_isRefusedQueue_42 : decode cX3_isRefusedQueue 42 = .ok (.iconst 1, 1) := dk_4 (dk_at dksX3_isRefusedQueue_1 18 rfl rfl)
theorem dX3_isRefusedQueue_43 : decode cX3_isRefusedQueue 43 = .ok (.bipush 9, 2) := dk_16 9 (dk_at dksX3_isRefusedQueue_1 19 rfl rfl)
theorem dX3_isRefusedQueue_45 : decode cX3_isRefusedQueue 45 = .ok (.invokestatic 102, 3) := dk_184 0 102 (dk_at dksX3_isRefusedQueue_1 21 rfl rfl)
theorem dX3_isRefusedQueue_48 : decode cX3_isRefusedQueue 48 = .ok (.ifCond .ne 11, 3) := dk_154 0 11 (dk_at dksX3_isRefusedQueue_2 0 rfl rfl)
theorem dX3_isRefusedQueue_51 : decode cX3_isRefusedQueue 51 = .ok (.aload_n 0, 1) := dk_42 (dk_at dksX3_isRefusedQueue_2 3 rfl rfl)
theorem dX3_isRefusedQueue_52 : decode cX3_isRefusedQueue 52 = .ok (.iconst 1, 1) := dk_4 (dk_at dksX3_isRefusedQueue_2 4 rfl rfl)
theorem dX3_isRefusedQueue_53 : decode cX3_isRefusedQueue 53 = .ok (.iload 4, 2) := dk_21 4 (dk_at dksX3_isRefusedQueue_2 5 rfl rfl)
theorem dX3_isRefusedQueue_55 : decode cX3_isRefusedQueue 55 = .ok (.invokevirtual 109, 3) := dk_182 0 109 (dk_at dksX3_isRefusedQueue_2 7 rfl rfl)
theorem dX3_isRefusedQueue_58 : decode cX3_isRefusedQueue 58 = .ok (.ireturn, 1) := dk_172 (dk_at dksX3_isRefusedQueue_2 10 rfl rfl)
theorem dX3_isRefusedQueue_59 : decode cX3_isRefusedQueue 59 = .ok (.iload_n 1, 1) := dk_27 (dk_at dksX3_isRefusedQueue_2 11 rfl rfl)
theorem dX3_isRefusedQueue_60 : decode cX3_isRefusedQueue 60 = .ok (.iload_n 2, 1) := dk_28 (dk_at dksX3_isRefusedQueue_2 12 rfl rfl)
theorem dX3_isRefusedQueue_61 : decode cX3_isRefusedQueue 61 = .ok (.if_icmp .ne 10, 3) := dk_160 0 10 (dk_at dksX3_isRefusedQueue_2 13 rfl rfl)
theorem dX3_isRefusedQueue_64 : decode cX3_isRefusedQueue 64 = .ok (.aload_n 0, 1) := dk_42 (dk_at dksX3_isRefusedQueue_2 16 rfl rfl)
theorem dX3_isRefusedQueue_65 : decode cX3_isRefusedQueue 65 = .ok (.iconst 5, 1) := dk_8 (dk_at dksX3_isRefusedQueue_2 17 rfl rfl)
theorem dX3_isRefusedQueue_66 : decode cX3_isRefusedQueue 66 = .ok (.iload_n 1, 1) := dk_27 (dk_at dksX3_isRefusedQueue_2 18 rfl rfl)
theorem dX3_isRefusedQueue_67 : decode cX3_isRefusedQueue 67 = .ok (.invokevirtual 109, 3) := dk_182 0 109 (dk_at dksX3_isRefusedQueue_2 19 rfl rfl)
theorem dX3_isRefusedQueue_70 : decode cX3_isRefusedQueue 70 = .ok (.ireturn, 1) := dk_172 (dk_at dksX3_isRefusedQueue_2 22 rfl rfl)
theorem dX3_isRefusedQueue_71 : decode cX3_isRefusedQueue 71 = .ok (.aload_n 0, 1) := dk_42 (dk_at dksX3_isRefusedQueue_2 23 rfl rfl)
theorem dX3_isRefusedQueue_72 : decode cX3_isRefusedQueue 72 = .ok (.aload_n 0, 1) := dk_42 (dk_at dksX3_isRefusedQueue_3 0 rfl rfl)
theorem dX3_isRefusedQueue_73 : decode cX3_isRefusedQueue 73 = .ok (.iload_n 1, 1) := dk_27 (dk_at dksX3_isRefusedQueue_3 1 rfl rfl)
theorem dX3_isRefusedQueue_74 : decode cX3_isRefusedQueue 74 = .ok (.invokevirtual 106, 3) := dk_182 0 106 (dk_at dksX3_isRefusedQueue_3 2 rfl rfl)
theorem dX3_isRefusedQueue_77 : decode cX3_isRefusedQueue 77 = .ok (.iconst 1, 1) := dk_4 (dk_at dksX3_isRefusedQueue_3 5 rfl rfl)
theorem dX3_isRefusedQueue_78 : decode cX3_isRefusedQueue 78 = .ok (.invokevirtual 98, 3) := dk_182 0 98 (dk_at dksX3_isRefusedQueue_3 6 rfl rfl)
theorem dX3_isRefusedQueue_81 : decode cX3_isRefusedQueue 81 = .ok (.bipush 12, 2) := dk_16 12 (dk_at dksX3_isRefusedQueue_3 9 rfl rfl)
theorem dX3_isRefusedQueue_83 : decode cX3_isRefusedQueue 83 = .ok (.if_icmp .ne 17, 3) := dk_160 0 17 (dk_at dksX3_isRefusedQueue_3 11 rfl rfl)
theorem dX3_isRefusedQueue_86 : decode cX3_isRefusedQueue 86 = .ok (.aload_n 0, 1) := dk_42 (dk_at dksX3_isRefusedQueue_3 14 rfl rfl)
theorem dX3_isRefusedQueue_87 : decode cX3_isRefusedQueue 87 = .ok (.iconst 4, 1) := dk_7 (dk_at dksX3_isRefusedQueue_3 15 rfl rfl)
theorem dX3_isRefusedQueue_88 : decode cX3_isRefusedQueue 88 = .ok (.bipush 12, 2) := dk_16 12 (dk_at dksX3_isRefusedQueue_3 16 rfl rfl)
theorem dX3_isRefusedQueue_90 : decode cX3_isRefusedQueue 90 = .ok (.invokevirtual 109, 3) := dk_182 0 109 (dk_at dksX3_isRefusedQueue_3 18 rfl rfl)
theorem dX3_isRefusedQueue_93 : decode cX3_isRefusedQueue 93 = .ok (.ifCond .eq 7, 3) := dk_153 0 7 (dk_at dksX3_isRefusedQueue_3 21 rfl rfl)
theorem dX3_isRefusedQueue_96 : decode cX3_isRefusedQueue 96 = .ok (.iconst 1, 1) := dk_4 (dk_at dksX3_isRefusedQueue_4 0 rfl rfl)
theorem dX3_isRefusedQueue_97 : decode cX3_isRefusedQueue 97 = .ok (.goto 4, 3) := dk_167 0 4 (dk_at dksX3_isRefusedQueue_4 1 rfl rfl)
theorem dX3_isRefusedQueue_100 : decode cX3_isRefusedQueue 100 = .ok (.iconst 0, 1) := dk_3 (dk_at dksX3_isRefusedQueue_4 4 rfl rfl)
theorem dX3_isRefusedQueue_101 : decode cX3_isRefusedQueue 101 = .ok (.ireturn, 1) := dk_172 (dk_at dksX3_isRefusedQueue_4 5 rfl rfl)
abbrev cX3_queues : ByteArray := prog_20_method_25_code
def yX3_queues : MethodName := ⟨RX3, "queues", "(IIII)I"⟩
def dkwX3_queues_8 : List UInt8 := [4, 100, 172]
abbrev dktX3_queues_8 : List UInt8 := dkwX3_queues_8 ++ []
def dkwX3_queues_7 : List UInt8 := [182, 0, 98, 4, 96, 182, 0, 117, 42, 180, 0, 7, 7, 92, 46, 4, 96, 79, 42, 180, 0, 7, 7, 46]
abbrev dktX3_queues_7 : List UInt8 := dkwX3_queues_7 ++ dktX3_queues_8
def dkwX3_queues_6 : List UInt8 := [21, 5, 21, 7, 7, 96, 42, 180, 0, 7, 3, 46, 182, 0, 117, 42, 21, 5, 4, 42, 21, 5, 4]
abbrev dktX3_queues_6 : List UInt8 := dkwX3_queues_6 ++ dktX3_queues_7
def dkwX3_queues_5 : List UInt8 := [42, 21, 5, 21, 7, 5, 96, 29, 182, 0, 117, 42, 21, 5, 21, 7, 6, 96, 21, 4, 182, 0, 117, 42]
abbrev dktX3_queues_5 : List UInt8 := dkwX3_queues_5 ++ dktX3_queues_6
def dkwX3_queues_4 : List UInt8 := [21, 7, 3, 96, 42, 180, 0, 7, 7, 46, 182, 0, 117, 42, 21, 5, 21, 7, 4, 96, 28, 182, 0, 117]
abbrev dktX3_queues_4 : List UInt8 := dkwX3_queues_4 ++ dktX3_queues_5
def dkwX3_queues_3 : List UInt8 := [132, 7, 1, 167, 255, 220, 132, 6, 255, 167, 255, 191, 7, 8, 21, 6, 104, 96, 54, 7, 42, 21, 5]
abbrev dktX3_queues_3 : List UInt8 := dkwX3_queues_3 ++ dktX3_queues_4
def dkwX3_queues_2 : List UInt8 := [7, 8, 21, 6, 104, 96, 21, 7, 96, 42, 21, 5, 21, 6, 4, 100, 21, 7, 182, 0, 149, 182, 0, 117]
abbrev dktX3_queues_2 : List UInt8 := dkwX3_queues_2 ++ dktX3_queues_3
def dkwX3_queues_1 : List UInt8 := [21, 6, 4, 100, 5, 182, 0, 149, 29, 162, 0, 51, 3, 54, 7, 21, 7, 8, 162, 0, 36, 42, 21, 5]
abbrev dktX3_queues_1 : List UInt8 := dkwX3_queues_1 ++ dktX3_queues_2
def dkwX3_queues_0 : List UInt8 := [42, 27, 182, 0, 106, 54, 5, 42, 21, 5, 4, 182, 0, 98, 54, 6, 21, 6, 158, 0, 66, 42, 21, 5]
abbrev dktX3_queues_0 : List UInt8 := dkwX3_queues_0 ++ dktX3_queues_1
theorem dksX3_queues_0 : cX3_queues.data.toList.drop 0 = dktX3_queues_0 := by decide +kernel
theorem dksX3_queues_1 : cX3_queues.data.toList.drop 24 = dktX3_queues_1 := dk_seg dksX3_queues_0 24 rfl rfl
theorem dksX3_queues_2 : cX3_queues.data.toList.drop 48 = dktX3_queues_2 := dk_seg dksX3_queues_1 24 rfl rfl
theorem dksX3_queues_3 : cX3_queues.data.toList.drop 72 = dktX3_queues_3 := dk_seg dksX3_queues_2 24 rfl rfl
theorem dksX3_queues_4 : cX3_queues.data.toList.drop 95 = dktX3_queues_4 := dk_seg dksX3_queues_3 23 rfl rfl
theorem dksX3_queues_5 : cX3_queues.data.toList.drop 119 = dktX3_queues_5 := dk_seg dksX3_queues_4 24 rfl rfl
theorem dksX3_queues_6 : cX3_queues.data.toList.drop 143 = dktX3_queues_6 := dk_seg dksX3_queues_5 24 rfl rfl
theorem dksX3_queues_7 : cX3_queues.data.toList.drop 166 = dktX3_queues_7 := dk_seg dksX3_queues_6 23 rfl rfl
theorem dksX3_queues_8 : cX3_queues.data.toList.drop 190 = dktX3_queues_8 := dk_seg dksX3_queues_7 24 rfl rfl
theorem dX3_queues_0 : decode cX3_queues 0 = .ok (.aload_n 0, 1) := dk_42 (dk_at dksX3_queues_0 0 rfl rfl)
theorem dX3_queues_1 : decode cX3_queues 1 = .ok (.iload_n 1, 1) := dk_27 (dk_at dksX3_queues_0 1 rfl rfl)
theorem dX3_queues_2 : decode cX3_queues 2 = .ok (.invokevirtual 106, 3) := dk_182 0 106 (dk_at dksX3_queues_0 2 rfl rfl)
theorem dX3_queues_5 : decode cX3_queues 5 = .ok (.istore 5, 2) := dk_54 5 (dk_at dksX3_queues_0 5 rfl rfl)
theorem dX3_queues_7 : decode cX3_queues 7 = .ok (.aload_n 0, 1) := dk_42 (dk_at dksX3_queues_0 7 rfl rfl)
theorem dX3_queues_8 : decode cX3_queues 8 = .ok (.iload 5, 2) := dk_21 5 (dk_at dksX3_queues_0 8 rfl rfl)
theorem dX3_queues_10 : decode cX3_queues 10 = .ok (.iconst 1, 1) := dk_4 (dk_at dksX3_queues_0 10 rfl rfl)
theorem dX3_queues_11 : decode cX3_queues 11 = .ok (.invokevirtual 98, 3) := dk_182 0 98 (dk_at dksX3_queues_0 11 rfl rfl)
theorem dX3_queues_14 : decode cX3_queues 14 = .ok (.istore 6, 2) := dk_54 6 (dk_at dksX3_queues_0 14 rfl rfl)
theorem dX3_queues_16 : decode cX3_queues 16 = .ok (.iload 6, 2) := dk_21 6 (dk_at dksX3_queues_0 16 rfl rfl)
theorem dX3_queues_18 : decode cX3_queues 18 = .ok (.ifCond .le 66, 3) := dk_158 0 66 (dk_at dksX3_queues_0 18 rfl rfl)
theorem dX3_queues_21 : decode cX3_queues 21 = .ok (.aload_n 0, 1) := dk_42 (dk_at dksX3_queues_0 21 rfl rfl)
theorem dX3_queues_22 : decode cX3_queues 22 = .ok (.iload 5, 2) := dk_21 5 (dk_at dksX3_queues_0 22 rfl rfl)
theorem dX3_queues_24 : decode cX3_queues 24 = .ok (.iload 6, 2) := dk_21 6 (dk_at dksX3_queues_1 0 rfl rfl)
theorem dX3_queues_26 : decode cX3_queues 26 = .ok (.iconst 1, 1) := dk_4 (dk_at dksX3_queues_1 2 rfl rfl)
theorem dX3_queues_27 : decode cX3_queues 27 = .ok (.isub, 1) := dk_100 (dk_at dksX3_queues_1 3 rfl rfl)
theorem dX3_queues_28 : decode cX3_queues 28 = .ok (.iconst 2, 1) := dk_5 (dk_at dksX3_queues_1 4 rfl rfl)
theorem dX3_queues_29 : decode cX3_queues 29 = .ok (.invokevirtual 149, 3) := dk_182 0 149 (dk_at dksX3_queues_1 5 rfl rfl)
theorem dX3_queues_32 : decode cX3_queues 32 = .ok (.iload_n 3, 1) := dk_29 (dk_at dksX3_queues_1 8 rfl rfl)
theorem dX3_queues_33 : decode cX3_queues 33 = .ok (.if_icmp .ge 51, 3) := dk_162 0 51 (dk_at dksX3_queues_1 9 rfl rfl)
theorem dX3_queues_36 : decode cX3_queues 36 = .ok (.iconst 0, 1) := dk_3 (dk_at dksX3_queues_1 12 rfl rfl)
theorem dX3_queues_37 : decode cX3_queues 37 = .ok (.istore 7, 2) := dk_54 7 (dk_at dksX3_queues_1 13 rfl rfl)
theorem dX3_queues_39 : decode cX3_queues 39 = .ok (.iload 7, 2) := dk_21 7 (dk_at dksX3_queues_1 15 rfl rfl)
theorem dX3_queues_41 : decode cX3_queues 41 = .ok (.iconst 5, 1) := dk_8 (dk_at dksX3_queues_1 17 rfl rfl)
theorem dX3_queues_42 : decode cX3_queues 42 = .ok (.if_icmp .ge 36, 3) := dk_162 0 36 (dk_at dksX3_queues_1 18 rfl rfl)
theorem dX3_queues_45 : decode cX3_queues 45 = .ok (.aload_n 0, 1) := dk_42 (dk_at dksX3_queues_1 21 rfl rfl)
theorem dX3_queues_46 : decode cX3_queues 46 = .ok (.iload 5, 2) := dk_21 5 (dk_at dksX3_queues_1 22 rfl rfl)
theorem dX3_queues_48 : decode cX3_queues 48 = .ok (.iconst 4, 1) := dk_7 (dk_at dksX3_queues_2 0 rfl rfl)
theorem dX3_queues_49 : decode cX3_queues 49 = .ok (.iconst 5, 1) := dk_8 (dk_at dksX3_queues_2 1 rfl rfl)
theorem dX3_queues_50 : decode cX3_queues 50 = .ok (.iload 6, 2) := dk_21 6 (dk_at dksX3_queues_2 2 rfl rfl)
theorem dX3_queues_52 : decode cX3_queues 52 = .ok (.imul, 1) := dk_104 (dk_at dksX3_queues_2 4 rfl rfl)
theorem dX3_queues_53 : decode cX3_queues 53 = .ok (.iadd, 1) := dk_96 (dk_at dksX3_queues_2 5 rfl rfl)
theorem dX3_queues_54 : decode cX3_queues 54 = .ok (.iload 7, 2) := dk_21 7 (dk_at dksX3_queues_2 6 rfl rfl)
theorem dX3_queues_56 : decode cX3_queues 56 = .ok (.iadd, 1) := dk_96 (dk_at dksX3_queues_2 8 rfl rfl)
theorem dX3_queues_57 : decode cX3_queues 57 = .ok (.aload_n 0, 1) := dk_42 (dk_at dksX3_queues_2 9 rfl rfl)
theorem dX3_queues_58 : decode cX3_queues 58 = .ok (.iload 5, 2) := dk_21 5 (dk_at dksX3_queues_2 10 rfl rfl)
theorem dX3_queues_60 : decode cX3_queues 60 = .ok (.iload 6, 2) := dk_21 6 (dk_at dksX3_queues_2 12 rfl rfl)
theorem dX3_queues_62 : decode cX3_queues 62 = .ok (.iconst 1, 1) := dk_4 (dk_at dksX3_queues_2 14 rfl rfl)
theorem dX3_queues_63 : decode cX3_queues 63 = .ok (.isub, 1) := dk_100 (dk_at dksX3_queues_2 15 rfl rfl)
theorem dX3_queues_64 : decode cX3_queues 64 = .ok (.iload 7, 2) := dk_21 7 (dk_at dksX3_queues_2 16 rfl rfl)
theorem dX3_queues_66 : decode cX3_queues 66 = .ok (.invokevirtual 149, 3) := dk_182 0 149 (dk_at dksX3_queues_2 18 rfl rfl)
theorem dX3_queues_69 : decode cX3_queues 69 = .ok (.invokevirtual 117, 3) := dk_182 0 117 (dk_at dksX3_queues_2 21 rfl rfl)
theorem dX3_queues_72 : decode cX3_queues 72 = .ok (.iinc 7 1, 3) := dk_132 7 1 (dk_at dksX3_queues_3 0 rfl rfl)
theorem dX3_queues_75 : decode cX3_queues 75 = .ok (.goto (-36), 3) := dk_167 255 220 (dk_at dksX3_queues_3 3 rfl rfl)
theorem dX3_queues_78 : decode cX3_queues 78 = .ok (.iinc 6 (-1), 3) := dk_132 6 255 (dk_at dksX3_queues_3 6 rfl rfl)
theorem dX3_queues_81 : decode cX3_queues 81 = .ok (.goto (-65), 3) := dk_167 255 191 (dk_at dksX3_queues_3 9 rfl rfl)
theorem dX3_queues_84 : decode cX3_queues 84 = .ok (.iconst 4, 1) := dk_7 (dk_at dksX3_queues_3 12 rfl rfl)
theorem dX3_queues_85 : decode cX3_queues 85 = .ok (.iconst 5, 1) := dk_8 (dk_at dksX3_queues_3 13 rfl rfl)
theorem dX3_queues_86 : decode cX3_queues 86 = .ok (.iload 6, 2) := dk_21 6 (dk_at dksX3_queues_3 14 rfl rfl)
theorem dX3_queues_88 : decode cX3_queues 88 = .ok (.imul, 1) := dk_104 (dk_at dksX3_queues_3 16 rfl rfl)
theorem dX3_queues_89 : decode cX3_queues 89 = .ok (.iadd, 1) := dk_96 (dk_at dksX3_queues_3 17 rfl rfl)
theorem dX3_queues_90 : decode cX3_queues 90 = .ok (.istore 7, 2) := dk_54 7 (dk_at dksX3_queues_3 18 rfl rfl)
theorem dX3_queues_92 : decode cX3_queues 92 = .ok (.aload_n 0, 1) := dk_42 (dk_at dksX3_queues_3 20 rfl rfl)
theorem dX3_queues_93 : decode cX3_queues 93 = .ok (.iload 5, 2) := dk_21 5 (dk_at dksX3_queues_3 21 rfl rfl)
theorem dX3_queues_95 : decode cX3_queues 95 = .ok (.iload 7, 2) := dk_21 7 (dk_at dksX3_queues_4 0 rfl rfl)
theorem dX3_queues_97 : decode cX3_queues 97 = .ok (.iconst 0, 1) := dk_3 (dk_at dksX3_queues_4 2 rfl rfl)
theorem dX3_queues_98 : decode cX3_queues 98 = .ok (.iadd, 1) := dk_96 (dk_at dksX3_queues_4 3 rfl rfl)
theorem dX3_queues_99 : decode cX3_queues 99 = .ok (.aload_n 0, 1) := dk_42 (dk_at dksX3_queues_4 4 rfl rfl)
theorem dX3_queues_100 : decode cX3_queues 100 = .ok (.getfield 7, 3) := dk_180 0 7 (dk_at dksX3_queues_4 5 rfl rfl)
theorem dX3_queues_103 : decode cX3_queues 103 = .ok (.iconst 4, 1) := dk_7 (dk_at dksX3_queues_4 8 rfl rfl)
theorem dX3_queues_104 : decode cX3_queues 104 = .ok (.iaload, 1) := dk_46 (dk_at dksX3_queues_4 9 rfl rfl)
theorem dX3_queues_105 : decode cX3_queues 105 = .ok (.invokevirtual 117, 3) := dk_182 0 117 (dk_at dksX3_queues_4 10 rfl rfl)
theorem dX3_queues_108 : decode cX3_queues 108 = .ok (.aload_n 0, 1) := dk_42 (dk_at dksX3_queues_4 13 rfl rfl)
theorem dX3_queues_109 : decode cX3_queues 109 = .ok (.iload 5, 2) := dk_21 5 (dk_at dksX3_queues_4 14 rfl rfl)
theorem dX3_queues_111 : decode cX3_queues 111 = .ok (.iload 7, 2) := dk_21 7 (dk_at dksX3_queues_4 16 rfl rfl)
theorem dX3_queues_113 : decode cX3_queues 113 = .ok (.iconst 1, 1) := dk_4 (dk_at dksX3_queues_4 18 rfl rfl)
theorem dX3_queues_114 : decode cX3_queues 114 = .ok (.iadd, 1) := dk_96 (dk_at dksX3_queues_4 19 rfl rfl)
theorem dX3_queues_115 : decode cX3_queues 115 = .ok (.iload_n 2, 1) := dk_28 (dk_at dksX3_queues_4 20 rfl rfl)
theorem dX3_queues_116 : decode cX3_queues 116 = .ok (.invokevirtual 117, 3) := dk_182 0 117 (dk_at dksX3_queues_4 21 rfl rfl)
theorem dX3_queues_119 : decode cX3_queues 119 = .ok (.aload_n 0, 1) := dk_42 (dk_at dksX3_queues_5 0 rfl rfl)
theorem dX3_queues_120 : decode cX3_queues 120 = .ok (.iload 5, 2) := dk_21 5 (dk_at dksX3_queues_5 1 rfl rfl)
theorem dX3_queues_122 : decode cX3_queues 122 = .ok (.iload 7, 2) := dk_21 7 (dk_at dksX3_queues_5 3 rfl rfl)
theorem dX3_queues_124 : decode cX3_queues 124 = .ok (.iconst 2, 1) := dk_5 (dk_at dksX3_queues_5 5 rfl rfl)
theorem dX3_queues_125 : decode cX3_queues 125 = .ok (.iadd, 1) := dk_96 (dk_at dksX3_queues_5 6 rfl rfl)
theorem dX3_queues_126 : decode cX3_queues 126 = .ok (.iload_n 3, 1) := dk_29 (dk_at dksX3_queues_5 7 rfl rfl)
theorem dX3_queues_127 : decode cX3_queues 127 = .ok (.invokevirtual 117, 3) := dk_182 0 117 (dk_at dksX3_queues_5 8 rfl rfl)
theorem dX3_queues_130 : decode cX3_queues 130 = .ok (.aload_n 0, 1) := dk_42 (dk_at dksX3_queues_5 11 rfl rfl)
theorem dX3_queues_131 : decode cX3_queues 131 = .ok (.iload 5, 2) := dk_21 5 (dk_at dksX3_queues_5 12 rfl rfl)
theorem dX3_queues_133 : decode cX3_queues 133 = .ok (.iload 7, 2) := dk_21 7 (dk_at dksX3_queues_5 14 rfl rfl)
theorem dX3_queues_135 : decode cX3_queues 135 = .ok (.iconst 3, 1) := dk_6 (dk_at dksX3_queues_5 16 rfl rfl)
theorem dX3_queues_136 : decode cX3_queues 136 = .ok (.iadd, 1) := dk_96 (dk_at dksX3_queues_5 17 rfl rfl)
theorem dX3_queues_137 : decode cX3_queues 137 = .ok (.iload 4, 2) := dk_21 4 (dk_at dksX3_queues_5 18 rfl rfl)
theorem dX3_queues_139 : decode cX3_queues 139 = .ok (.invokevirtual 117, 3) := dk_182 0 117 (dk_at dksX3_queues_5 20 rfl rfl)
theorem dX3_queues_142 : decode cX3_queues 142 = .ok (.aload_n 0, 1) := dk_42 (dk_at dksX3_queues_5 23 rfl rfl)
theorem dX3_queues_143 : decode cX3_queues 143 = .ok (.iload 5, 2) := dk_21 5 (dk_at dksX3_queues_6 0 rfl rfl)
theorem dX3_queues_145 : decode cX3_queues 145 = .ok (.iload 7, 2) := dk_21 7 (dk_at dksX3_queues_6 2 rfl rfl)
theorem dX3_queues_147 : decode cX3_queues 147 = .ok (.iconst 4, 1) := dk_7 (dk_at dksX3_queues_6 4 rfl rfl)
theorem dX3_queues_148 : decode cX3_queues 148 = .ok (.iadd, 1) := dk_96 (dk_at dksX3_queues_6 5 rfl rfl)
theorem dX3_queues_149 : decode cX3_queues 149 = .ok (.aload_n 0, 1) := dk_42 (dk_at dksX3_queues_6 6 rfl rfl)
theorem dX3_queues_150 : decode cX3_queues 150 = .ok (.getfield 7, 3) := dk_180 0 7 (dk_at dksX3_queues_6 7 rfl rfl)
theorem dX3_queues_153 : decode cX3_queues 153 = .ok (.iconst 0, 1) := dk_3 (dk_at dksX3_queues_6 10 rfl rfl)
theorem dX3_queues_154 : decode cX3_queues 154 = .ok (.iaload, 1) := dk_46 (dk_at dksX3_queues_6 11 rfl rfl)
theorem dX3_queues_155 : decode cX3_queues 155 = .ok (.invokevirtual 117, 3) := dk_182 0 117 (dk_at dksX3_queues_6 12 rfl rfl)
theorem dX3_queues_158 : decode cX3_queues 158 = .ok (.aload_n 0, 1) := dk_42 (dk_at dksX3_queues_6 15 rfl rfl)
theorem dX3_queues_159 : decode cX3_queues 159 = .ok (.iload 5, 2) := dk_21 5 (dk_at dksX3_queues_6 16 rfl rfl)
theorem dX3_queues_161 : decode cX3_queues 161 = .ok (.iconst 1, 1) := dk_4 (dk_at dksX3_queues_6 18 rfl rfl)
theorem dX3_queues_162 : decode cX3_queues 162 = .ok (.aload_n 0, 1) := dk_42 (dk_at dksX3_queues_6 19 rfl rfl)
theorem dX3_queues_163 : decode cX3_queues 163 = .ok (.iload 5, 2) := dk_21 5 (dk_at dksX3_queues_6 20 rfl rfl)
theorem dX3_queues_165 : decode cX3_queues 165 = .ok (.iconst 1, 1) := dk_4 (dk_at dksX3_queues_6 22 rfl rfl)
theorem dX3_queues_166 : decode cX3_queues 166 = .ok (.invokevirtual 98, 3) := dk_182 0 98 (dk_at dksX3_queues_7 0 rfl rfl)
theorem dX3_queues_169 : decode cX3_queues 169 = .ok (.iconst 1, 1) := dk_4 (dk_at dksX3_queues_7 3 rfl rfl)
theorem dX3_queues_170 : decode cX3_queues 170 = .ok (.iadd, 1) := dk_96 (dk_at dksX3_queues_7 4 rfl rfl)
theorem dX3_queues_171 : decode cX3_queues 171 = .ok (.invokevirtual 117, 3) := dk_182 0 117 (dk_at dksX3_queues_7 5 rfl rfl)
theorem dX3_queues_174 : decode cX3_queues 174 = .ok (.aload_n 0, 1) := dk_42 (dk_at dksX3_queues_7 8 rfl rfl)
theorem dX3_queues_175 : decode cX3_queues 175 = .ok (.getfield 7, 3) := dk_180 0 7 (dk_at dksX3_queues_7 9 rfl rfl)
theorem dX3_queues_178 : decode cX3_queues 178 = .ok (.iconst 4, 1) := dk_7 (dk_at dksX3_queues_7 12 rfl rfl)
theorem dX3_queues_179 : decode cX3_queues 179 = .ok (.dup2, 1) := dk_92 (dk_at dksX3_queues_7 13 rfl rfl)
theorem dX3_queues_180 : decode cX3_queues 180 = .ok (.iaload, 1) := dk_46 (dk_at dksX3_queues_7 14 rfl rfl)
theorem dX3_queues_181 : decode cX3_queues 181 = .ok (.iconst 1, 1) := dk_4 (dk_at dksX3_queues_7 15 rfl rfl)
theorem dX3_queues_182 : decode cX3_queues 182 = .ok (.iadd, 1) := dk_96 (dk_at dksX3_queues_7 16 rfl rfl)
theorem dX3_queues_183 : decode cX3_queues 183 = .ok (.iastore, 1) := dk_79 (dk_at dksX3_queues_7 17 rfl rfl)
theorem dX3_queues_184 : decode cX3_queues 184 = .ok (.aload_n 0, 1) := dk_42 (dk_at dksX3_queues_7 18 rfl rfl)
theorem dX3_queues_185 : decode cX3_queues 185 = .ok (.getfield 7, 3) := dk_180 0 7 (dk_at dksX3_queues_7 19 rfl rfl)
theorem dX3_queues_188 : decode cX3_queues 188 = .ok (.iconst 4, 1) := dk_7 (dk_at dksX3_queues_7 22 rfl rfl)
theorem dX3_queues_189 : decode cX3_queues 189 = .ok (.iaload, 1) := dk_46 (dk_at dksX3_queues_7 23 rfl rfl)
theorem dX3_queues_190 : decode cX3_queues 190 = .ok (.iconst 1, 1) := dk_4 (dk_at dksX3_queues_8 0 rfl rfl)
theorem dX3_queues_191 : decode cX3_queues 191 = .ok (.isub, 1) := dk_100 (dk_at dksX3_queues_8 1 rfl rfl)
theorem dX3_queues_192 : decode cX3_queues 192 = .ok (.ireturn, 1) := dk_172 (dk_at dksX3_queues_8 2 rfl rfl)
abbrev cX3_qv : ByteArray := prog_20_method_13_code
def yX3_qv : MethodName := ⟨RX3, "qv", "(III)I"⟩
def dkwX3_qv_0 : List UInt8 := [42, 27, 7, 8, 28, 104, 96, 29, 96, 182, 0, 98, 172]
abbrev dktX3_qv_0 : List UInt8 := dkwX3_qv_0 ++ []
theorem dksX3_qv_0 : cX3_qv.data.toList.drop 0 = dktX3_qv_0 := by decide +kernel
theorem dX3_qv_0 : decode cX3_qv 0 = .ok (.aload_n 0, 1) := dk_42 (dk_at dksX3_qv_0 0 rfl rfl)
theorem dX3_qv_1 : decode cX3_qv 1 = .ok (.iload_n 1, 1) := dk_27 (dk_at dksX3_qv_0 1 rfl rfl)
theorem dX3_qv_2 : decode cX3_qv 2 = .ok (.iconst 4, 1) := dk_7 (dk_at dksX3_qv_0 2 rfl rfl)
theorem dX3_qv_3 : decode cX3_qv 3 = .ok (.iconst 5, 1) := dk_8 (dk_at dksX3_qv_0 3 rfl rfl)
theorem dX3_qv_4 : decode cX3_qv 4 = .ok (.iload_n 2, 1) := dk_28 (dk_at dksX3_qv_0 4 rfl rfl)
theorem dX3_qv_5 : decode cX3_qv 5 = .ok (.imul, 1) := dk_104 (dk_at dksX3_qv_0 5 rfl rfl)
theorem dX3_qv_6 : decode cX3_qv 6 = .ok (.iadd, 1) := dk_96 (dk_at dksX3_qv_0 6 rfl rfl)
theorem dX3_qv_7 : decode cX3_qv 7 = .ok (.iload_n 3, 1) := dk_29 (dk_at dksX3_qv_0 7 rfl rfl)
theorem dX3_qv_8 : decode cX3_qv 8 = .ok (.iadd, 1) := dk_96 (dk_at dksX3_qv_0 8 rfl rfl)
theorem dX3_qv_9 : decode cX3_qv 9 = .ok (.invokevirtual 98, 3) := dk_182 0 98 (dk_at dksX3_qv_0 9 rfl rfl)
theorem dX3_qv_12 : decode cX3_qv 12 = .ok (.ireturn, 1) := dk_172 (dk_at dksX3_qv_0 12 rfl rfl)
abbrev cX3_drop : ByteArray := prog_20_method_27_code
def yX3_drop : MethodName := ⟨RX3, "drop", "(I)I"⟩
def dkwX3_drop_3 : List UInt8 := [29, 3, 182, 0, 149, 182, 0, 134, 172]
abbrev dktX3_drop_3 : List UInt8 := dkwX3_drop_3 ++ []
def dkwX3_drop_2 : List UInt8 := [4, 100, 62, 42, 28, 4, 29, 182, 0, 117, 42, 180, 0, 7, 16, 11, 92, 46, 4, 96, 79, 42, 42, 28]
abbrev dktX3_drop_2 : List UInt8 := dkwX3_drop_2 ++ dktX3_drop_3
def dkwX3_drop_1 : List UInt8 := [154, 0, 18, 42, 16, 9, 27, 182, 0, 109, 153, 0, 8, 42, 182, 0, 127, 172, 42, 28, 4, 182, 0, 98]
abbrev dktX3_drop_1 : List UInt8 := dkwX3_drop_1 ++ dktX3_drop_2
def dkwX3_drop_0 : List UInt8 := [42, 182, 0, 121, 42, 27, 182, 0, 106, 61, 42, 27, 182, 0, 143, 154, 0, 22, 42, 28, 4, 182, 0, 98]
abbrev dktX3_drop_0 : List UInt8 := dkwX3_drop_0 ++ dktX3_drop_1
theorem dksX3_drop_0 : cX3_drop.data.toList.drop 0 = dktX3_drop_0 := by decide +kernel
theorem dksX3_drop_1 : cX3_drop.data.toList.drop 24 = dktX3_drop_1 := dk_seg dksX3_drop_0 24 rfl rfl
theorem dksX3_drop_2 : cX3_drop.data.toList.drop 48 = dktX3_drop_2 := dk_seg dksX3_drop_1 24 rfl rfl
theorem dksX3_drop_3 : cX3_drop.data.toList.drop 72 = dktX3_drop_3 := dk_seg dksX3_drop_2 24 rfl rfl
theorem dX3_drop_0 : decode cX3_drop 0 = .ok (.aload_n 0, 1) := dk_42 (dk_at dksX3_drop_0 0 rfl rfl)
theorem dX3_drop_1 : decode cX3_drop 1 = .ok (.invokevirtual 121, 3) := dk_182 0 121 (dk_at dksX3_drop_0 1 rfl rfl)
theorem dX3_drop_4 : decode cX3_drop 4 = .ok (.aload_n 0, 1) := dk_42 (dk_at dksX3_drop_0 4 rfl rfl)
theorem dX3_drop_5 : decode cX3_drop 5 = .ok (.iload_n 1, 1) := dk_27 (dk_at dksX3_drop_0 5 rfl rfl)
theorem dX3_drop_6 : decode cX3_drop 6 = .ok (.invokevirtual 106, 3) := dk_182 0 106 (dk_at dksX3_drop_0 6 rfl rfl)
theorem dX3_drop_9 : decode cX3_drop 9 = .ok (.istore_n 2, 1) := dk_61 (dk_at dksX3_drop_0 9 rfl rfl)
theorem dX3_drop_10 : decode cX3_drop 10 = .ok (.aload_n 0, 1) := dk_42 (dk_at dksX3_drop_0 10 rfl rfl)
theorem dX3_drop_11 : decode cX3_drop 11 = .ok (.iload_n 1, 1) := dk_27 (dk_at dksX3_drop_0 11 rfl rfl)
theorem dX3_drop_12 : decode cX3_drop 12 = .ok (.invokevirtual 143, 3) := dk_182 0 143 (dk_at dksX3_drop_0 12 rfl rfl)
theorem dX3_drop_15 : decode cX3_drop 15 = .ok (.ifCond .ne 22, 3) := dk_154 0 22 (dk_at dksX3_drop_0 15 rfl rfl)
theorem dX3_drop_18 : decode cX3_drop 18 = .ok (.aload_n 0, 1) := dk_42 (dk_at dksX3_drop_0 18 rfl rfl)
theorem dX3_drop_19 : decode cX3_drop 19 = .ok (.iload_n 2, 1) := dk_28 (dk_at dksX3_drop_0 19 rfl rfl)
theorem dX3_drop_20 : decode cX3_drop 20 = .ok (.iconst 1, 1) := dk_4 (dk_at dksX3_drop_0 20 rfl rfl)
theorem dX3_drop_21 : decode cX3_drop 21 = .ok (.invokevirtual 98, 3) := dk_182 0 98 (dk_at dksX3_drop_0 21 rfl rfl)
theorem dX3_drop_24 : decode cX3_drop 24 = .ok (.ifCond .ne 18, 3) := dk_154 0 18 (dk_at dksX3_drop_1 0 rfl rfl)
theorem dX3_drop_27 : decode cX3_drop 27 = .ok (.aload_n 0, 1) := dk_42 (dk_at dksX3_drop_1 3 rfl rfl)
theorem dX3_drop_28 : decode cX3_drop 28 = .ok (.bipush 9, 2) := dk_16 9 (dk_at dksX3_drop_1 4 rfl rfl)
theorem dX3_drop_30 : decode cX3_drop 30 = .ok (.iload_n 1, 1) := dk_27 (dk_at dksX3_drop_1 6 rfl rfl)
theorem dX3_drop_31 : decode cX3_drop 31 = .ok (.invokevirtual 109, 3) := dk_182 0 109 (dk_at dksX3_drop_1 7 rfl rfl)
theorem dX3_drop_34 : decode cX3_drop 34 = .ok (.ifCond .eq 8, 3) := dk_153 0 8 (dk_at dksX3_drop_1 10 rfl rfl)
theorem dX3_drop_37 : decode cX3_drop 37 = .ok (.aload_n 0, 1) := dk_42 (dk_at dksX3_drop_1 13 rfl rfl)
theorem dX3_drop_38 : decode cX3_drop 38 = .ok (.invokevirtual 127, 3) := dk_182 0 127 (dk_at dksX3_drop_1 14 rfl rfl)
theorem dX3_drop_41 : decode cX3_drop 41 = .ok (.ireturn, 1) := dk_172 (dk_at dksX3_drop_1 17 rfl rfl)
theorem dX3_drop_42 : decode cX3_drop 42 = .ok (.aload_n 0, 1) := dk_42 (dk_at dksX3_drop_1 18 rfl rfl)
theorem dX3_drop_43 : decode cX3_drop 43 = .ok (.iload_n 2, 1) := dk_28 (dk_at dksX3_drop_1 19 rfl rfl)
theorem dX3_drop_44 : decode cX3_drop 44 = .ok (.iconst 1, 1) := dk_4 (dk_at dksX3_drop_1 20 rfl rfl)
theorem dX3_drop_45 : decode cX3_drop 45 = .ok (.invokevirtual 98, 3) := dk_182 0 98 (dk_at dksX3_drop_1 21 rfl rfl)
theorem dX3_drop_48 : decode cX3_drop 48 = .ok (.iconst 1, 1) := dk_4 (dk_at dksX3_drop_2 0 rfl rfl)
theorem dX3_drop_49 : decode cX3_drop 49 = .ok (.isub, 1) := dk_100 (dk_at dksX3_drop_2 1 rfl rfl)
theorem dX3_drop_50 : decode cX3_drop 50 = .ok (.istore_n 3, 1) := dk_62 (dk_at dksX3_drop_2 2 rfl rfl)
theorem dX3_drop_51 : decode cX3_drop 51 = .ok (.aload_n 0, 1) := dk_42 (dk_at dksX3_drop_2 3 rfl rfl)
theorem dX3_drop_52 : decode cX3_drop 52 = .ok (.iload_n 2, 1) := dk_28 (dk_at dksX3_drop_2 4 rfl rfl)
theorem dX3_drop_53 : decode cX3_drop 53 = .ok (.iconst 1, 1) := dk_4 (dk_at dksX3_drop_2 5 rfl rfl)
theorem dX3_drop_54 : decode cX3_drop 54 = .ok (.iload_n 3, 1) := dk_29 (dk_at dksX3_drop_2 6 rfl rfl)
theorem dX3_drop_55 : decode cX3_drop 55 = .ok (.invokevirtual 117, 3) := dk_182 0 117 (dk_at dksX3_drop_2 7 rfl rfl)
theorem dX3_drop_58 : decode cX3_drop 58 = .ok (.aload_n 0, 1) := dk_42 (dk_at dksX3_drop_2 10 rfl rfl)
theorem dX3_drop_59 : decode cX3_drop 59 = .ok (.getfield 7, 3) := dk_180 0 7 (dk_at dksX3_drop_2 11 rfl rfl)
theorem dX3_drop_62 : decode cX3_drop 62 = .ok (.bipush 11, 2) := dk_16 11 (dk_at dksX3_drop_2 14 rfl rfl)
theorem dX3_drop_64 : decode cX3_drop 64 = .ok (.dup2, 1) := dk_92 (dk_at dksX3_drop_2 16 rfl rfl)
theorem dX3_drop_65 : decode cX3_drop 65 = .ok (.iaload, 1) := dk_46 (dk_at dksX3_drop_2 17 rfl rfl)
theorem dX3_drop_66 : decode cX3_drop 66 = .ok (.iconst 1, 1) := dk_4 (dk_at dksX3_drop_2 18 rfl rfl)
theorem dX3_drop_67 : decode cX3_drop 67 = .ok (.iadd, 1) := dk_96 (dk_at dksX3_drop_2 19 rfl rfl)
theorem dX3_drop_68 : decode cX3_drop 68 = .ok (.iastore, 1) := dk_79 (dk_at dksX3_drop_2 20 rfl rfl)
theorem dX3_drop_69 : decode cX3_drop 69 = .ok (.aload_n 0, 1) := dk_42 (dk_at dksX3_drop_2 21 rfl rfl)
theorem dX3_drop_70 : decode cX3_drop 70 = .ok (.aload_n 0, 1) := dk_42 (dk_at dksX3_drop_2 22 rfl rfl)
theorem dX3_drop_71 : decode cX3_drop 71 = .ok (.iload_n 2, 1) := dk_28 (dk_at dksX3_drop_2 23 rfl rfl)
theorem dX3_drop_72 : decode cX3_drop 72 = .ok (.iload_n 3, 1) := dk_29 (dk_at dksX3_drop_3 0 rfl rfl)
theorem dX3_drop_73 : decode cX3_drop 73 = .ok (.iconst 0, 1) := dk_3 (dk_at dksX3_drop_3 1 rfl rfl)
theorem dX3_drop_74 : decode cX3_drop 74 = .ok (.invokevirtual 149, 3) := dk_182 0 149 (dk_at dksX3_drop_3 2 rfl rfl)
theorem dX3_drop_77 : decode cX3_drop 77 = .ok (.invokevirtual 134, 3) := dk_182 0 134 (dk_at dksX3_drop_3 5 rfl rfl)
theorem dX3_drop_80 : decode cX3_drop 80 = .ok (.ireturn, 1) := dk_172 (dk_at dksX3_drop_3 8 rfl rfl)
abbrev cX3_monitor : ByteArray := prog_20_method_30_code
def yX3_monitor : MethodName := ⟨RX3, "monitor", "(I)I"⟩
def dkwX3_monitor_1 : List UInt8 := [182, 0, 164, 182, 0, 134, 172]
abbrev dktX3_monitor_1 : List UInt8 := dkwX3_monitor_1 ++ []
def dkwX3_monitor_0 : List UInt8 := [42, 182, 0, 121, 42, 27, 182, 0, 161, 153, 0, 10, 42, 182, 0, 127, 167, 0, 12, 42, 42, 27]
abbrev dktX3_monitor_0 : List UInt8 := dkwX3_monitor_0 ++ dktX3_monitor_1
theorem dksX3_monitor_0 : cX3_monitor.data.toList.drop 0 = dktX3_monitor_0 := by decide +kernel
theorem dksX3_monitor_1 : cX3_monitor.data.toList.drop 22 = dktX3_monitor_1 := dk_seg dksX3_monitor_0 22 rfl rfl
theorem dX3_monitor_0 : decode cX3_monitor 0 = .ok (.aload_n 0, 1) := dk_42 (dk_at dksX3_monitor_0 0 rfl rfl)
theorem dX3_monitor_1 : decode cX3_monitor 1 = .ok (.invokevirtual 121, 3) := dk_182 0 121 (dk_at dksX3_monitor_0 1 rfl rfl)
theorem dX3_monitor_4 : decode cX3_monitor 4 = .ok (.aload_n 0, 1) := dk_42 (dk_at dksX3_monitor_0 4 rfl rfl)
theorem dX3_monitor_5 : decode cX3_monitor 5 = .ok (.iload_n 1, 1) := dk_27 (dk_at dksX3_monitor_0 5 rfl rfl)
theorem dX3_monitor_6 : decode cX3_monitor 6 = .ok (.invokevirtual 161, 3) := dk_182 0 161 (dk_at dksX3_monitor_0 6 rfl rfl)
theorem dX3_monitor_9 : decode cX3_monitor 9 = .ok (.ifCond .eq 10, 3) := dk_153 0 10 (dk_at dksX3_monitor_0 9 rfl rfl)
theorem dX3_monitor_12 : decode cX3_monitor 12 = .ok (.aload_n 0, 1) := dk_42 (dk_at dksX3_monitor_0 12 rfl rfl)
theorem dX3_monitor_13 : decode cX3_monitor 13 = .ok (.invokevirtual 127, 3) := dk_182 0 127 (dk_at dksX3_monitor_0 13 rfl rfl)
theorem dX3_monitor_16 : decode cX3_monitor 16 = .ok (.goto 12, 3) := dk_167 0 12 (dk_at dksX3_monitor_0 16 rfl rfl)
theorem dX3_monitor_19 : decode cX3_monitor 19 = .ok (.aload_n 0, 1) := dk_42 (dk_at dksX3_monitor_0 19 rfl rfl)
theorem dX3_monitor_20 : decode cX3_monitor 20 = .ok (.aload_n 0, 1) := dk_42 (dk_at dksX3_monitor_0 20 rfl rfl)
theorem dX3_monitor_21 : decode cX3_monitor 21 = .ok (.iload_n 1, 1) := dk_27 (dk_at dksX3_monitor_0 21 rfl rfl)
theorem dX3_monitor_22 : decode cX3_monitor 22 = .ok (.invokevirtual 164, 3) := dk_182 0 164 (dk_at dksX3_monitor_1 0 rfl rfl)
theorem dX3_monitor_25 : decode cX3_monitor 25 = .ok (.invokevirtual 134, 3) := dk_182 0 134 (dk_at dksX3_monitor_1 3 rfl rfl)
theorem dX3_monitor_28 : decode cX3_monitor 28 = .ok (.ireturn, 1) := dk_172 (dk_at dksX3_monitor_1 6 rfl rfl)
abbrev cX3_isRefusedMonitor : ByteArray := prog_20_method_28_code
def yX3_isRefusedMonitor : MethodName := ⟨RX3, "isRefusedMonitor", "(I)Z"⟩
def dkwX3_isRefusedMonitor_1 : List UInt8 := [182, 0, 109, 153, 0, 7, 4, 167, 0, 4, 3, 172]
abbrev dktX3_isRefusedMonitor_1 : List UInt8 := dkwX3_isRefusedMonitor_1 ++ []
def dkwX3_isRefusedMonitor_0 : List UInt8 := [42, 27, 182, 0, 143, 154, 0, 23, 42, 180, 0, 7, 5, 46, 27, 160, 0, 17, 42, 16, 8, 27]
abbrev dktX3_isRefusedMonitor_0 : List UInt8 := dkwX3_isRefusedMonitor_0 ++ dktX3_isRefusedMonitor_1
theorem dksX3_isRefusedMonitor_0 : cX3_isRefusedMonitor.data.toList.drop 0 = dktX3_isRefusedMonitor_0 := by decide +kernel
theorem dksX3_isRefusedMonitor_1 : cX3_isRefusedMonitor.data.toList.drop 22 = dktX3_isRefusedMonitor_1 := dk_seg dksX3_isRefusedMonitor_0 22 rfl rfl
theorem dX3_isRefusedMonitor_0 : decode cX3_isRefusedMonitor 0 = .ok (.aload_n 0, 1) := dk_42 (dk_at dksX3_isRefusedMonitor_0 0 rfl rfl)
theorem dX3_isRefusedMonitor_1 : decode cX3_isRefusedMonitor 1 = .ok (.iload_n 1, 1) := dk_27 (dk_at dksX3_isRefusedMonitor_0 1 rfl rfl)
theorem dX3_isRefusedMonitor_2 : decode cX3_isRefusedMonitor 2 = .ok (.invokevirtual 143, 3) := dk_182 0 143 (dk_at dksX3_isRefusedMonitor_0 2 rfl rfl)
theorem dX3_isRefusedMonitor_5 : decode cX3_isRefusedMonitor 5 = .ok (.ifCond .ne 23, 3) := dk_154 0 23 (dk_at dksX3_isRefusedMonitor_0 5 rfl rfl)
theorem dX3_isRefusedMonitor_8 : decode cX3_isRefusedMonitor 8 = .ok (.aload_n 0, 1) := dk_42 (dk_at dksX3_isRefusedMonitor_0 8 rfl rfl)
theorem dX3_isRefusedMonitor_9 : decode cX3_isRefusedMonitor 9 = .ok (.getfield 7, 3) := dk_180 0 7 (dk_at dksX3_isRefusedMonitor_0 9 rfl rfl)
theorem dX3_isRefusedMonitor_12 : decode cX3_isRefusedMonitor 12 = .ok (.iconst 2, 1) := dk_5 (dk_at dksX3_isRefusedMonitor_0 12 rfl rfl)
theorem dX3_isRefusedMonitor_13 : decode cX3_isRefusedMonitor 13 = .ok (.iaload, 1) := dk_46 (dk_at dksX3_isRefusedMonitor_0 13 rfl rfl)
theorem dX3_isRefusedMonitor_14 : decode cX3_isRefusedMonitor 14 = .ok (.iload_n 1, 1) := dk_27 (dk_at dksX3_isRefusedMonitor_0 14 rfl rfl)
theorem dX3_isRefusedMonitor_15 : decode cX3_isRefusedMonitor 15 = .ok (.if_icmp .ne 17, 3) := dk_160 0 17 (dk_at dksX3_isRefusedMonitor_0 15 rfl rfl)
theorem dX3_isRefusedMonitor_18 : decode cX3_isRefusedMonitor 18 = .ok (.aload_n 0, 1) := dk_42 (dk_at dksX3_isRefusedMonitor_0 18 rfl rfl)
theorem dX3_isRefusedMonitor_19 : decode cX3_isRefusedMonitor 19 = .ok (.bipush 8, 2) := dk_16 8 (dk_at dksX3_isRefusedMonitor_0 19 rfl rfl)
theorem dX3_isRefusedMonitor_21 : decode cX3_isRefusedMonitor 21 = .ok (.iload_n 1, 1) := dk_27 (dk_at dksX3_isRefusedMonitor_0 21 rfl rfl)
theorem dX3_isRefusedMonitor_22 : decode cX3_isRefusedMonitor 22 = .ok (.invokevirtual 109, 3) := dk_182 0 109 (dk_at dksX3_isRefusedMonitor_1 0 rfl rfl)
theorem dX3_isRefusedMonitor_25 : decode cX3_isRefusedMonitor 25 = .ok (.ifCond .eq 7, 3) := dk_153 0 7 (dk_at dksX3_isRefusedMonitor_1 3 rfl rfl)
theorem dX3_isRefusedMonitor_28 : decode cX3_isRefusedMonitor 28 = .ok (.iconst 1, 1) := dk_4 (dk_at dksX3_isRefusedMonitor_1 6 rfl rfl)
theorem dX3_isRefusedMonitor_29 : decode cX3_isRefusedMonitor 29 = .ok (.goto 4, 3) := dk_167 0 4 (dk_at dksX3_isRefusedMonitor_1 7 rfl rfl)
theorem dX3_isRefusedMonitor_32 : decode cX3_isRefusedMonitor 32 = .ok (.iconst 0, 1) := dk_3 (dk_at dksX3_isRefusedMonitor_1 10 rfl rfl)
theorem dX3_isRefusedMonitor_33 : decode cX3_isRefusedMonitor 33 = .ok (.ireturn, 1) := dk_172 (dk_at dksX3_isRefusedMonitor_1 11 rfl rfl)
abbrev cX3_monitors : ByteArray := prog_20_method_29_code
def yX3_monitors : MethodName := ⟨RX3, "monitors", "(I)I"⟩
def dkwX3_monitors_0 : List UInt8 := [42, 180, 0, 7, 5, 46, 61, 42, 180, 0, 7, 5, 27, 79, 28, 172]
abbrev dktX3_monitors_0 : List UInt8 := dkwX3_monitors_0 ++ []
theorem dksX3_monitors_0 : cX3_monitors.data.toList.drop 0 = dktX3_monitors_0 := by decide +kernel
theorem dX3_monitors_0 : decode cX3_monitors 0 = .ok (.aload_n 0, 1) := dk_42 (dk_at dksX3_monitors_0 0 rfl rfl)
theorem dX3_monitors_1 : decode cX3_monitors 1 = .ok (.getfield 7, 3) := dk_180 0 7 (dk_at dksX3_monitors_0 1 rfl rfl)
theorem dX3_monitors_4 : decode cX3_monitors 4 = .ok (.iconst 2, 1) := dk_5 (dk_at dksX3_monitors_0 4 rfl rfl)
theorem dX3_monitors_5 : decode cX3_monitors 5 = .ok (.iaload, 1) := dk_46 (dk_at dksX3_monitors_0 5 rfl rfl)
theorem dX3_monitors_6 : decode cX3_monitors 6 = .ok (.istore_n 2, 1) := dk_61 (dk_at dksX3_monitors_0 6 rfl rfl)
theorem dX3_monitors_7 : decode cX3_monitors 7 = .ok (.aload_n 0, 1) := dk_42 (dk_at dksX3_monitors_0 7 rfl rfl)
theorem dX3_monitors_8 : decode cX3_monitors 8 = .ok (.getfield 7, 3) := dk_180 0 7 (dk_at dksX3_monitors_0 8 rfl rfl)
theorem dX3_monitors_11 : decode cX3_monitors 11 = .ok (.iconst 2, 1) := dk_5 (dk_at dksX3_monitors_0 11 rfl rfl)
theorem dX3_monitors_12 : decode cX3_monitors 12 = .ok (.iload_n 1, 1) := dk_27 (dk_at dksX3_monitors_0 12 rfl rfl)
theorem dX3_monitors_13 : decode cX3_monitors 13 = .ok (.iastore, 1) := dk_79 (dk_at dksX3_monitors_0 13 rfl rfl)
theorem dX3_monitors_14 : decode cX3_monitors 14 = .ok (.iload_n 2, 1) := dk_28 (dk_at dksX3_monitors_0 14 rfl rfl)
theorem dX3_monitors_15 : decode cX3_monitors 15 = .ok (.ireturn, 1) := dk_172 (dk_at dksX3_monitors_0 15 rfl rfl)
abbrev cX3_token : ByteArray := prog_20_method_33_code
def yX3_token : MethodName := ⟨RX3, "token", "(I)I"⟩
def dkwX3_token_2 : List UInt8 := [182, 0, 167, 42, 180, 0, 7, 6, 3, 79, 42, 42, 182, 0, 171, 182, 0, 134, 172]
abbrev dktX3_token_2 : List UInt8 := dkwX3_token_2 ++ []
def dkwX3_token_1 : List UInt8 := [16, 6, 42, 180, 0, 7, 16, 18, 46, 182, 0, 109, 153, 0, 8, 42, 182, 0, 127, 172, 42, 27, 3]
abbrev dktX3_token_1 : List UInt8 := dkwX3_token_1 ++ dktX3_token_2
def dkwX3_token_0 : List UInt8 := [42, 182, 0, 121, 42, 27, 182, 0, 143, 154, 0, 29, 42, 180, 0, 7, 16, 18, 46, 158, 0, 24, 42]
abbrev dktX3_token_0 : List UInt8 := dkwX3_token_0 ++ dktX3_token_1
theorem dksX3_token_0 : cX3_token.data.toList.drop 0 = dktX3_token_0 := by decide +kernel
theorem dksX3_token_1 : cX3_token.data.toList.drop 23 = dktX3_token_1 := dk_seg dksX3_token_0 23 rfl rfl
theorem dksX3_token_2 : cX3_token.data.toList.drop 46 = dktX3_token_2 := dk_seg dksX3_token_1 23 rfl rfl
theorem dX3_token_0 : decode cX3_token 0 = .ok (.aload_n 0, 1) := dk_42 (dk_at dksX3_token_0 0 rfl rfl)
theorem dX3_token_1 : decode cX3_token 1 = .ok (.invokevirtual 121, 3) := dk_182 0 121 (dk_at dksX3_token_0 1 rfl rfl)
theorem dX3_token_4 : decode cX3_token 4 = .ok (.aload_n 0, 1) := dk_42 (dk_at dksX3_token_0 4 rfl rfl)
theorem dX3_token_5 : decode cX3_token 5 = .ok (.iload_n 1, 1) := dk_27 (dk_at dksX3_token_0 5 rfl rfl)
theorem dX3_token_6 : decode cX3_token 6 = .ok (.invokevirtual 143, 3) := dk_182 0 143 (dk_at dksX3_token_0 6 rfl rfl)
theorem dX3_token_9 : decode cX3_token 9 = .ok (.ifCond .ne 29, 3) := dk_154 0 29 (dk_at dksX3_token_0 9 rfl rfl)
theorem dX3_token_12 : decode cX3_token 12 = .ok (.aload_n 0, 1) := dk_42 (dk_at dksX3_token_0 12 rfl rfl)
theorem dX3_token_13 : decode cX3_token 13 = .ok (.getfield 7, 3) := dk_180 0 7 (dk_at dksX3_token_0 13 rfl rfl)
theorem dX3_token_16 : decode cX3_token 16 = .ok (.bipush 18, 2) := dk_16 18 (dk_at dksX3_token_0 16 rfl rfl)
theorem dX3_token_18 : decode cX3_token 18 = .ok (.iaload, 1) := dk_46 (dk_at dksX3_token_0 18 rfl rfl)
theorem dX3_token_19 : decode cX3_token 19 = .ok (.ifCond .le 24, 3) := dk_158 0 24 (dk_at dksX3_token_0 19 rfl rfl)
theorem dX3_token_22 : decode cX3_token 22 = .ok (.aload_n 0, 1) := dk_42 (dk_at dksX3_token_0 22 rfl rfl)
theorem dX3_token_23 : decode cX3_token 23 = .ok (.bipush 6, 2) := dk_16 6 (dk_at dksX3_token_1 0 rfl rfl)
theorem dX3_token_25 : decode cX3_token 25 = .ok (.aload_n 0, 1) := dk_42 (dk_at dksX3_token_1 2 rfl rfl)
theorem dX3_token_26 : decode cX3_token 26 = .ok (.getfield 7, 3) := dk_180 0 7 (dk_at dksX3_token_1 3 rfl rfl)
theorem dX3_token_29 : decode cX3_token 29 = .ok (.bipush 18, 2) := dk_16 18 (dk_at dksX3_token_1 6 rfl rfl)
theorem dX3_token_31 : decode cX3_token 31 = .ok (.iaload, 1) := dk_46 (dk_at dksX3_token_1 8 rfl rfl)
theorem dX3_token_32 : decode cX3_token 32 = .ok (.invokevirtual 109, 3) := dk_182 0 109 (dk_at dksX3_token_1 9 rfl rfl)
theorem dX3_token_35 : decode cX3_token 35 = .ok (.ifCond .eq 8, 3) := dk_153 0 8 (dk_at dksX3_token_1 12 rfl rfl)
theorem dX3_token_38 : decode cX3_token 38 = .ok (.aload_n 0, 1) := dk_42 (dk_at dksX3_token_1 15 rfl rfl)
theorem dX3_token_39 : decode cX3_token 39 = .ok (.invokevirtual 127, 3) := dk_182 0 127 (dk_at dksX3_token_1 16 rfl rfl)
theorem dX3_token_42 : decode cX3_token 42 = .ok (.ireturn, 1) := dk_172 (dk_at dksX3_token_1 19 rfl rfl)
theorem dX3_token_43 : decode cX3_token 43 = .ok (.aload_n 0, 1) := dk_42 (dk_at dksX3_token_1 20 rfl rfl)
theorem dX3_token_44 : decode cX3_token 44 = .ok (.iload_n 1, 1) := dk_27 (dk_at dksX3_token_1 21 rfl rfl)
theorem dX3_token_45 : decode cX3_token 45 = .ok (.iconst 0, 1) := dk_3 (dk_at dksX3_token_1 22 rfl rfl)
theorem dX3_token_46 : decode cX3_token 46 = .ok (.invokevirtual 167, 3) := dk_182 0 167 (dk_at dksX3_token_2 0 rfl rfl)
theorem dX3_token_49 : decode cX3_token 49 = .ok (.aload_n 0, 1) := dk_42 (dk_at dksX3_token_2 3 rfl rfl)
theorem dX3_token_50 : decode cX3_token 50 = .ok (.getfield 7, 3) := dk_180 0 7 (dk_at dksX3_token_2 4 rfl rfl)
theorem dX3_token_53 : decode cX3_token 53 = .ok (.iconst 3, 1) := dk_6 (dk_at dksX3_token_2 7 rfl rfl)
theorem dX3_token_54 : decode cX3_token 54 = .ok (.iconst 0, 1) := dk_3 (dk_at dksX3_token_2 8 rfl rfl)
theorem dX3_token_55 : decode cX3_token 55 = .ok (.iastore, 1) := dk_79 (dk_at dksX3_token_2 9 rfl rfl)
theorem dX3_token_56 : decode cX3_token 56 = .ok (.aload_n 0, 1) := dk_42 (dk_at dksX3_token_2 10 rfl rfl)
theorem dX3_token_57 : decode cX3_token 57 = .ok (.aload_n 0, 1) := dk_42 (dk_at dksX3_token_2 11 rfl rfl)
theorem dX3_token_58 : decode cX3_token 58 = .ok (.invokevirtual 171, 3) := dk_182 0 171 (dk_at dksX3_token_2 12 rfl rfl)
theorem dX3_token_61 : decode cX3_token 61 = .ok (.invokevirtual 134, 3) := dk_182 0 134 (dk_at dksX3_token_2 15 rfl rfl)
theorem dX3_token_64 : decode cX3_token 64 = .ok (.ireturn, 1) := dk_172 (dk_at dksX3_token_2 18 rfl rfl)
abbrev cX3_comesToken : ByteArray := prog_20_method_31_code
def yX3_comesToken : MethodName := ⟨RX3, "comesToken", "(II)V"⟩
def dkwX3_comesToken_1 : List UInt8 := [42, 180, 0, 7, 16, 21, 3, 79, 177]
abbrev dktX3_comesToken_1 : List UInt8 := dkwX3_comesToken_1 ++ []
def dkwX3_comesToken_0 : List UInt8 := [42, 180, 0, 7, 16, 18, 4, 79, 42, 180, 0, 7, 16, 19, 27, 79, 42, 180, 0, 7, 16, 20, 28, 79]
abbrev dktX3_comesToken_0 : List UInt8 := dkwX3_comesToken_0 ++ dktX3_comesToken_1
theorem dksX3_comesToken_0 : cX3_comesToken.data.toList.drop 0 = dktX3_comesToken_0 := by decide +kernel
theorem dksX3_comesToken_1 : cX3_comesToken.data.toList.drop 24 = dktX3_comesToken_1 := dk_seg dksX3_comesToken_0 24 rfl rfl
theorem dX3_comesToken_0 : decode cX3_comesToken 0 = .ok (.aload_n 0, 1) := dk_42 (dk_at dksX3_comesToken_0 0 rfl rfl)
theorem dX3_comesToken_1 : decode cX3_comesToken 1 = .ok (.getfield 7, 3) := dk_180 0 7 (dk_at dksX3_comesToken_0 1 rfl rfl)
theorem dX3_comesToken_4 : decode cX3_comesToken 4 = .ok (.bipush 18, 2) := dk_16 18 (dk_at dksX3_comesToken_0 4 rfl rfl)
theorem dX3_comesToken_6 : decode cX3_comesToken 6 = .ok (.iconst 1, 1) := dk_4 (dk_at dksX3_comesToken_0 6 rfl rfl)
theorem dX3_comesToken_7 : decode cX3_comesToken 7 = .ok (.iastore, 1) := dk_79 (dk_at dksX3_comesToken_0 7 rfl rfl)
theorem dX3_comesToken_8 : decode cX3_comesToken 8 = .ok (.aload_n 0, 1) := dk_42 (dk_at dksX3_comesToken_0 8 rfl rfl)
theorem dX3_comesToken_9 : decode cX3_comesToken 9 = .ok (.getfield 7, 3) := dk_180 0 7 (dk_at dksX3_comesToken_0 9 rfl rfl)
theorem dX3_comesToken_12 : decode cX3_comesToken 12 = .ok (.bipush 19, 2) := dk_16 19 (dk_at dksX3_comesToken_0 12 rfl rfl)
theorem dX3_comesToken_14 : decode cX3_comesToken 14 = .ok (.iload_n 1, 1) := dk_27 (dk_at dksX3_comesToken_0 14 rfl rfl)
theorem dX3_comesToken_15 : decode cX3_comesToken 15 = .ok (.iastore, 1) := dk_79 (dk_at dksX3_comesToken_0 15 rfl rfl)
theorem dX3_comesToken_16 : decode cX3_comesToken 16 = .ok (.aload_n 0, 1) := dk_42 (dk_at dksX3_comesToken_0 16 rfl rfl)
theorem dX3_comesToken_17 : decode cX3_comesToken 17 = .ok (.getfield 7, 3) := dk_180 0 7 (dk_at dksX3_comesToken_0 17 rfl rfl)
theorem dX3_comesToken_20 : decode cX3_comesToken 20 = .ok (.bipush 20, 2) := dk_16 20 (dk_at dksX3_comesToken_0 20 rfl rfl)
theorem dX3_comesToken_22 : decode cX3_comesToken 22 = .ok (.iload_n 2, 1) := dk_28 (dk_at dksX3_comesToken_0 22 rfl rfl)
theorem dX3_comesToken_23 : decode cX3_comesToken 23 = .ok (.iastore, 1) := dk_79 (dk_at dksX3_comesToken_0 23 rfl rfl)
theorem dX3_comesToken_24 : decode cX3_comesToken 24 = .ok (.aload_n 0, 1) := dk_42 (dk_at dksX3_comesToken_1 0 rfl rfl)
theorem dX3_comesToken_25 : decode cX3_comesToken 25 = .ok (.getfield 7, 3) := dk_180 0 7 (dk_at dksX3_comesToken_1 1 rfl rfl)
theorem dX3_comesToken_28 : decode cX3_comesToken 28 = .ok (.bipush 21, 2) := dk_16 21 (dk_at dksX3_comesToken_1 4 rfl rfl)
theorem dX3_comesToken_30 : decode cX3_comesToken 30 = .ok (.iconst 0, 1) := dk_3 (dk_at dksX3_comesToken_1 6 rfl rfl)
theorem dX3_comesToken_31 : decode cX3_comesToken 31 = .ok (.iastore, 1) := dk_79 (dk_at dksX3_comesToken_1 7 rfl rfl)
theorem dX3_comesToken_32 : decode cX3_comesToken 32 = .ok (.return_, 1) := dk_177 (dk_at dksX3_comesToken_1 8 rfl rfl)
abbrev cX3_allWaiting : ByteArray := prog_20_method_32_code
def yX3_allWaiting : MethodName := ⟨RX3, "allWaiting", "()I"⟩
def dkwX3_allWaiting_1 : List UInt8 := [132, 2, 1, 167, 255, 234, 27, 172]
abbrev dktX3_allWaiting_1 : List UInt8 := dkwX3_allWaiting_1 ++ []
def dkwX3_allWaiting_0 : List UInt8 := [3, 60, 3, 61, 28, 42, 180, 0, 7, 4, 46, 162, 0, 18, 27, 42, 28, 4, 182, 0, 98, 96, 60]
abbrev dktX3_allWaiting_0 : List UInt8 := dkwX3_allWaiting_0 ++ dktX3_allWaiting_1
theorem dksX3_allWaiting_0 : cX3_allWaiting.data.toList.drop 0 = dktX3_allWaiting_0 := by decide +kernel
theorem dksX3_allWaiting_1 : cX3_allWaiting.data.toList.drop 23 = dktX3_allWaiting_1 := dk_seg dksX3_allWaiting_0 23 rfl rfl
theorem dX3_allWaiting_0 : decode cX3_allWaiting 0 = .ok (.iconst 0, 1) := dk_3 (dk_at dksX3_allWaiting_0 0 rfl rfl)
theorem dX3_allWaiting_1 : decode cX3_allWaiting 1 = .ok (.istore_n 1, 1) := dk_60 (dk_at dksX3_allWaiting_0 1 rfl rfl)
theorem dX3_allWaiting_2 : decode cX3_allWaiting 2 = .ok (.iconst 0, 1) := dk_3 (dk_at dksX3_allWaiting_0 2 rfl rfl)
theorem dX3_allWaiting_3 : decode cX3_allWaiting 3 = .ok (.istore_n 2, 1) := dk_61 (dk_at dksX3_allWaiting_0 3 rfl rfl)
theorem dX3_allWaiting_4 : decode cX3_allWaiting 4 = .ok (.iload_n 2, 1) := dk_28 (dk_at dksX3_allWaiting_0 4 rfl rfl)
theorem dX3_allWaiting_5 : decode cX3_allWaiting 5 = .ok (.aload_n 0, 1) := dk_42 (dk_at dksX3_allWaiting_0 5 rfl rfl)
theorem dX3_allWaiting_6 : decode cX3_allWaiting 6 = .ok (.getfield 7, 3) := dk_180 0 7 (dk_at dksX3_allWaiting_0 6 rfl rfl)
theorem dX3_allWaiting_9 : decode cX3_allWaiting 9 = .ok (.iconst 1, 1) := dk_4 (dk_at dksX3_allWaiting_0 9 rfl rfl)
theorem dX3_allWaiting_10 : decode cX3_allWaiting 10 = .ok (.iaload, 1) := dk_46 (dk_at dksX3_allWaiting_0 10 rfl rfl)
theorem dX3_allWaiting_11 : decode cX3_allWaiting 11 = .ok (.if_icmp .ge 18, 3) := dk_162 0 18 (dk_at dksX3_allWaiting_0 11 rfl rfl)
theorem dX3_allWaiting_14 : decode cX3_allWaiting 14 = .ok (.iload_n 1, 1) := dk_27 (dk_at dksX3_allWaiting_0 14 rfl rfl)
theorem dX3_allWaiting_15 : decode cX3_allWaiting 15 = .ok (.aload_n 0, 1) := dk_42 (dk_at dksX3_allWaiting_0 15 rfl rfl)
theorem dX3_allWaiting_16 : decode cX3_allWaiting 16 = .ok (.iload_n 2, 1) := dk_28 (dk_at dksX3_allWaiting_0 16 rfl rfl)
theorem dX3_allWaiting_17 : decode cX3_allWaiting 17 = .ok (.iconst 1, 1) := dk_4 (dk_at dksX3_allWaiting_0 17 rfl rfl)
theorem dX3_allWaiting_18 : decode cX3_allWaiting 18 = .ok (.invokevirtual 98, 3) := dk_182 0 98 (dk_at dksX3_allWaiting_0 18 rfl rfl)
theorem dX3_allWaiting_21 : decode cX3_allWaiting 21 = .ok (.iadd, 1) := dk_96 (dk_at dksX3_allWaiting_0 21 rfl rfl)
theorem dX3_allWaiting_22 : decode cX3_allWaiting 22 = .ok (.istore_n 1, 1) := dk_60 (dk_at dksX3_allWaiting_0 22 rfl rfl)
theorem dX3_allWaiting_23 : decode cX3_allWaiting 23 = .ok (.iinc 2 1, 3) := dk_132 2 1 (dk_at dksX3_allWaiting_1 0 rfl rfl)
theorem dX3_allWaiting_26 : decode cX3_allWaiting 26 = .ok (.goto (-22), 3) := dk_167 255 234 (dk_at dksX3_allWaiting_1 3 rfl rfl)
theorem dX3_allWaiting_29 : decode cX3_allWaiting 29 = .ok (.iload_n 1, 1) := dk_27 (dk_at dksX3_allWaiting_1 6 rfl rfl)
theorem dX3_allWaiting_30 : decode cX3_allWaiting 30 = .ok (.ireturn, 1) := dk_172 (dk_at dksX3_allWaiting_1 7 rfl rfl)
abbrev cX3_lose : ByteArray := prog_20_method_35_code
def yX3_lose : MethodName := ⟨RX3, "lose", "()I"⟩
def dkwX3_lose_1 : List UInt8 := [182, 0, 134, 172]
abbrev dktX3_lose_1 : List UInt8 := dkwX3_lose_1 ++ []
def dkwX3_lose_0 : List UInt8 := [42, 182, 0, 121, 42, 182, 0, 174, 153, 0, 10, 42, 182, 0, 127, 167, 0, 11, 42, 42, 182, 0, 137]
abbrev dktX3_lose_0 : List UInt8 := dkwX3_lose_0 ++ dktX3_lose_1
theorem dksX3_lose_0 : cX3_lose.data.toList.drop 0 = dktX3_lose_0 := by decide +kernel
theorem dksX3_lose_1 : cX3_lose.data.toList.drop 23 = dktX3_lose_1 := dk_seg dksX3_lose_0 23 rfl rfl
theorem dX3_lose_0 : decode cX3_lose 0 = .ok (.aload_n 0, 1) := dk_42 (dk_at dksX3_lose_0 0 rfl rfl)
theorem dX3_lose_1 : decode cX3_lose 1 = .ok (.invokevirtual 121, 3) := dk_182 0 121 (dk_at dksX3_lose_0 1 rfl rfl)
theorem dX3_lose_4 : decode cX3_lose 4 = .ok (.aload_n 0, 1) := dk_42 (dk_at dksX3_lose_0 4 rfl rfl)
theorem dX3_lose_5 : decode cX3_lose 5 = .ok (.invokevirtual 174, 3) := dk_182 0 174 (dk_at dksX3_lose_0 5 rfl rfl)
theorem dX3_lose_8 : decode cX3_lose 8 = .ok (.ifCond .eq 10, 3) := dk_153 0 10 (dk_at dksX3_lose_0 8 rfl rfl)
theorem dX3_lose_11 : decode cX3_lose 11 = .ok (.aload_n 0, 1) := dk_42 (dk_at dksX3_lose_0 11 rfl rfl)
theorem dX3_lose_12 : decode cX3_lose 12 = .ok (.invokevirtual 127, 3) := dk_182 0 127 (dk_at dksX3_lose_0 12 rfl rfl)
theorem dX3_lose_15 : decode cX3_lose 15 = .ok (.goto 11, 3) := dk_167 0 11 (dk_at dksX3_lose_0 15 rfl rfl)
theorem dX3_lose_18 : decode cX3_lose 18 = .ok (.aload_n 0, 1) := dk_42 (dk_at dksX3_lose_0 18 rfl rfl)
theorem dX3_lose_19 : decode cX3_lose 19 = .ok (.aload_n 0, 1) := dk_42 (dk_at dksX3_lose_0 19 rfl rfl)
theorem dX3_lose_20 : decode cX3_lose 20 = .ok (.invokevirtual 137, 3) := dk_182 0 137 (dk_at dksX3_lose_0 20 rfl rfl)
theorem dX3_lose_23 : decode cX3_lose 23 = .ok (.invokevirtual 134, 3) := dk_182 0 134 (dk_at dksX3_lose_1 0 rfl rfl)
theorem dX3_lose_26 : decode cX3_lose 26 = .ok (.ireturn, 1) := dk_172 (dk_at dksX3_lose_1 3 rfl rfl)
abbrev cX3_isSilent : ByteArray := prog_20_method_34_code
def yX3_isSilent : MethodName := ⟨RX3, "isSilent", "()Z"⟩
def dkwX3_isSilent_1 : List UInt8 := [3, 172]
abbrev dktX3_isSilent_1 : List UInt8 := dkwX3_isSilent_1 ++ []
def dkwX3_isSilent_0 : List UInt8 := [42, 180, 0, 7, 16, 18, 46, 154, 0, 17, 42, 16, 7, 3, 182, 0, 109, 153, 0, 7, 4, 167, 0, 4]
abbrev dktX3_isSilent_0 : List UInt8 := dkwX3_isSilent_0 ++ dktX3_isSilent_1
theorem dksX3_isSilent_0 : cX3_isSilent.data.toList.drop 0 = dktX3_isSilent_0 := by decide +kernel
theorem dksX3_isSilent_1 : cX3_isSilent.data.toList.drop 24 = dktX3_isSilent_1 := dk_seg dksX3_isSilent_0 24 rfl rfl
theorem dX3_isSilent_0 : decode cX3_isSilent 0 = .ok (.aload_n 0, 1) := dk_42 (dk_at dksX3_isSilent_0 0 rfl rfl)
theorem dX3_isSilent_1 : decode cX3_isSilent 1 = .ok (.getfield 7, 3) := dk_180 0 7 (dk_at dksX3_isSilent_0 1 rfl rfl)
theorem dX3_isSilent_4 : decode cX3_isSilent 4 = .ok (.bipush 18, 2) := dk_16 18 (dk_at dksX3_isSilent_0 4 rfl rfl)
theorem dX3_isSilent_6 : decode cX3_isSilent 6 = .ok (.iaload, 1) := dk_46 (dk_at dksX3_isSilent_0 6 rfl rfl)
theorem dX3_isSilent_7 : decode cX3_isSilent 7 = .ok (.ifCond .ne 17, 3) := dk_154 0 17 (dk_at dksX3_isSilent_0 7 rfl rfl)
theorem dX3_isSilent_10 : decode cX3_isSilent 10 = .ok (.aload_n 0, 1) := dk_42 (dk_at dksX3_isSilent_0 10 rfl rfl)
theorem dX3_isSilent_11 : decode cX3_isSilent 11 = .ok (.bipush 7, 2) := dk_16 7 (dk_at dksX3_isSilent_0 11 rfl rfl)
theorem dX3_isSilent_13 : decode cX3_isSilent 13 = .ok (.iconst 0, 1) := dk_3 (dk_at dksX3_isSilent_0 13 rfl rfl)
theorem dX3_isSilent_14 : decode cX3_isSilent 14 = .ok (.invokevirtual 109, 3) := dk_182 0 109 (dk_at dksX3_isSilent_0 14 rfl rfl)
theorem dX3_isSilent_17 : decode cX3_isSilent 17 = .ok (.ifCond .eq 7, 3) := dk_153 0 7 (dk_at dksX3_isSilent_0 17 rfl rfl)
theorem dX3_isSilent_20 : decode cX3_isSilent 20 = .ok (.iconst 1, 1) := dk_4 (dk_at dksX3_isSilent_0 20 rfl rfl)
theorem dX3_isSilent_21 : decode cX3_isSilent 21 = .ok (.goto 4, 3) := dk_167 0 4 (dk_at dksX3_isSilent_0 21 rfl rfl)
theorem dX3_isSilent_24 : decode cX3_isSilent 24 = .ok (.iconst 0, 1) := dk_3 (dk_at dksX3_isSilent_1 0 rfl rfl)
theorem dX3_isSilent_25 : decode cX3_isSilent 25 = .ok (.ireturn, 1) := dk_172 (dk_at dksX3_isSilent_1 1 rfl rfl)
abbrev cX3_tick : ByteArray := prog_20_method_45_code
def yX3_tick : MethodName := ⟨RX3, "tick", "(I)I"⟩
def dkwX3_tick_1 : List UInt8 := [182, 0, 206, 182, 0, 134, 172]
abbrev dktX3_tick_1 : List UInt8 := dkwX3_tick_1 ++ []
def dkwX3_tick_0 : List UInt8 := [42, 182, 0, 121, 42, 27, 182, 0, 203, 153, 0, 10, 42, 182, 0, 127, 167, 0, 12, 42, 42, 27]
abbrev dktX3_tick_0 : List UInt8 := dkwX3_tick_0 ++ dktX3_tick_1
theorem dksX3_tick_0 : cX3_tick.data.toList.drop 0 = dktX3_tick_0 := by decide +kernel
theorem dksX3_tick_1 : cX3_tick.data.toList.drop 22 = dktX3_tick_1 := dk_seg dksX3_tick_0 22 rfl rfl
theorem dX3_tick_0 : decode cX3_tick 0 = .ok (.aload_n 0, 1) := dk_42 (dk_at dksX3_tick_0 0 rfl rfl)
theorem dX3_tick_1 : decode cX3_tick 1 = .ok (.invokevirtual 121, 3) := dk_182 0 121 (dk_at dksX3_tick_0 1 rfl rfl)
theorem dX3_tick_4 : decode cX3_tick 4 = .ok (.aload_n 0, 1) := dk_42 (dk_at dksX3_tick_0 4 rfl rfl)
theorem dX3_tick_5 : decode cX3_tick 5 = .ok (.iload_n 1, 1) := dk_27 (dk_at dksX3_tick_0 5 rfl rfl)
theorem dX3_tick_6 : decode cX3_tick 6 = .ok (.invokevirtual 203, 3) := dk_182 0 203 (dk_at dksX3_tick_0 6 rfl rfl)
theorem dX3_tick_9 : decode cX3_tick 9 = .ok (.ifCond .eq 10, 3) := dk_153 0 10 (dk_at dksX3_tick_0 9 rfl rfl)
theorem dX3_tick_12 : decode cX3_tick 12 = .ok (.aload_n 0, 1) := dk_42 (dk_at dksX3_tick_0 12 rfl rfl)
theorem dX3_tick_13 : decode cX3_tick 13 = .ok (.invokevirtual 127, 3) := dk_182 0 127 (dk_at dksX3_tick_0 13 rfl rfl)
theorem dX3_tick_16 : decode cX3_tick 16 = .ok (.goto 12, 3) := dk_167 0 12 (dk_at dksX3_tick_0 16 rfl rfl)
theorem dX3_tick_19 : decode cX3_tick 19 = .ok (.aload_n 0, 1) := dk_42 (dk_at dksX3_tick_0 19 rfl rfl)
theorem dX3_tick_20 : decode cX3_tick 20 = .ok (.aload_n 0, 1) := dk_42 (dk_at dksX3_tick_0 20 rfl rfl)
theorem dX3_tick_21 : decode cX3_tick 21 = .ok (.iload_n 1, 1) := dk_27 (dk_at dksX3_tick_0 21 rfl rfl)
theorem dX3_tick_22 : decode cX3_tick 22 = .ok (.invokevirtual 206, 3) := dk_182 0 206 (dk_at dksX3_tick_1 0 rfl rfl)
theorem dX3_tick_25 : decode cX3_tick 25 = .ok (.invokevirtual 134, 3) := dk_182 0 134 (dk_at dksX3_tick_1 3 rfl rfl)
theorem dX3_tick_28 : decode cX3_tick 28 = .ok (.ireturn, 1) := dk_172 (dk_at dksX3_tick_1 6 rfl rfl)
abbrev cX3_isRefusedTicks : ByteArray := prog_20_method_44_code
def yX3_isRefusedTicks : MethodName := ⟨RX3, "isRefusedTicks", "(I)Z"⟩
def dkwX3_isRefusedTicks_0 : List UInt8 := [27, 184, 0, 200, 154, 0, 16, 42, 4, 27, 182, 0, 109, 153, 0, 7, 4, 167, 0, 4, 3, 172]
abbrev dktX3_isRefusedTicks_0 : List UInt8 := dkwX3_isRefusedTicks_0 ++ []
theorem dksX3_isRefusedTicks_0 : cX3_isRefusedTicks.data.toList.drop 0 = dktX3_isRefusedTicks_0 := by decide +kernel
theorem dX3_isRefusedTicks_0 : decode cX3_isRefusedTicks 0 = .ok (.iload_n 1, 1) := dk_27 (dk_at dksX3_isRefusedTicks_0 0 rfl rfl)
theorem dX3_isRefusedTicks_1 : decode cX3_isRefusedTicks 1 = .ok (.invokestatic 200, 3) := dk_184 0 200 (dk_at dksX3_isRefusedTicks_0 1 rfl rfl)
theorem dX3_isRefusedTicks_4 : decode cX3_isRefusedTicks 4 = .ok (.ifCond .ne 16, 3) := dk_154 0 16 (dk_at dksX3_isRefusedTicks_0 4 rfl rfl)
theorem dX3_isRefusedTicks_7 : decode cX3_isRefusedTicks 7 = .ok (.aload_n 0, 1) := dk_42 (dk_at dksX3_isRefusedTicks_0 7 rfl rfl)
theorem dX3_isRefusedTicks_8 : decode cX3_isRefusedTicks 8 = .ok (.iconst 1, 1) := dk_4 (dk_at dksX3_isRefusedTicks_0 8 rfl rfl)
theorem dX3_isRefusedTicks_9 : decode cX3_isRefusedTicks 9 = .ok (.iload_n 1, 1) := dk_27 (dk_at dksX3_isRefusedTicks_0 9 rfl rfl)
theorem dX3_isRefusedTicks_10 : decode cX3_isRefusedTicks 10 = .ok (.invokevirtual 109, 3) := dk_182 0 109 (dk_at dksX3_isRefusedTicks_0 10 rfl rfl)
theorem dX3_isRefusedTicks_13 : decode cX3_isRefusedTicks 13 = .ok (.ifCond .eq 7, 3) := dk_153 0 7 (dk_at dksX3_isRefusedTicks_0 13 rfl rfl)
theorem dX3_isRefusedTicks_16 : decode cX3_isRefusedTicks 16 = .ok (.iconst 1, 1) := dk_4 (dk_at dksX3_isRefusedTicks_0 16 rfl rfl)
theorem dX3_isRefusedTicks_17 : decode cX3_isRefusedTicks 17 = .ok (.goto 4, 3) := dk_167 0 4 (dk_at dksX3_isRefusedTicks_0 17 rfl rfl)
theorem dX3_isRefusedTicks_20 : decode cX3_isRefusedTicks 20 = .ok (.iconst 0, 1) := dk_3 (dk_at dksX3_isRefusedTicks_0 20 rfl rfl)
theorem dX3_isRefusedTicks_21 : decode cX3_isRefusedTicks 21 = .ok (.ireturn, 1) := dk_172 (dk_at dksX3_isRefusedTicks_0 21 rfl rfl)
abbrev cX3_areTicks : ByteArray := prog_20_method_42_code
def yX3_areTicks : MethodName := ⟨RX3, "areTicks", "(I)Z"⟩
def dkwX3_areTicks_0 : List UInt8 := [26, 4, 16, 40, 184, 0, 102, 172]
abbrev dktX3_areTicks_0 : List UInt8 := dkwX3_areTicks_0 ++ []
theorem dksX3_areTicks_0 : cX3_areTicks.data.toList.drop 0 = dktX3_areTicks_0 := by decide +kernel
theorem dX3_areTicks_0 : decode cX3_areTicks 0 = .ok (.iload_n 0, 1) := dk_26 (dk_at dksX3_areTicks_0 0 rfl rfl)
theorem dX3_areTicks_1 : decode cX3_areTicks 1 = .ok (.iconst 1, 1) := dk_4 (dk_at dksX3_areTicks_0 1 rfl rfl)
theorem dX3_areTicks_2 : decode cX3_areTicks 2 = .ok (.bipush 40, 2) := dk_16 40 (dk_at dksX3_areTicks_0 2 rfl rfl)
theorem dX3_areTicks_4 : decode cX3_areTicks 4 = .ok (.invokestatic 102, 3) := dk_184 0 102 (dk_at dksX3_areTicks_0 4 rfl rfl)
theorem dX3_areTicks_7 : decode cX3_areTicks 7 = .ok (.ireturn, 1) := dk_172 (dk_at dksX3_areTicks_0 7 rfl rfl)
abbrev cX3_goes : ByteArray := prog_20_method_43_code
def yX3_goes : MethodName := ⟨RX3, "goes", "(I)I"⟩
def dkwX3_goes_0 : List UInt8 := [3, 61, 3, 62, 29, 27, 162, 0, 16, 28, 42, 182, 0, 197, 96, 61, 132, 3, 1, 167, 255, 241, 28, 172]
abbrev dktX3_goes_0 : List UInt8 := dkwX3_goes_0 ++ []
theorem dksX3_goes_0 : cX3_goes.data.toList.drop 0 = dktX3_goes_0 := by decide +kernel
theorem dX3_goes_0 : decode cX3_goes 0 = .ok (.iconst 0, 1) := dk_3 (dk_at dksX3_goes_0 0 rfl rfl)
theorem dX3_goes_1 : decode cX3_goes 1 = .ok (.istore_n 2, 1) := dk_61 (dk_at dksX3_goes_0 1 rfl rfl)
theorem dX3_goes_2 : decode cX3_goes 2 = .ok (.iconst 0, 1) := dk_3 (dk_at dksX3_goes_0 2 rfl rfl)
theorem dX3_goes_3 : decode cX3_goes 3 = .ok (.istore_n 3, 1) := dk_62 (dk_at dksX3_goes_0 3 rfl rfl)
theorem dX3_goes_4 : decode cX3_goes 4 = .ok (.iload_n 3, 1) := dk_29 (dk_at dksX3_goes_0 4 rfl rfl)
theorem dX3_goes_5 : decode cX3_goes 5 = .ok (.iload_n 1, 1) := dk_27 (dk_at dksX3_goes_0 5 rfl rfl)
theorem dX3_goes_6 : decode cX3_goes 6 = .ok (.if_icmp .ge 16, 3) := dk_162 0 16 (dk_at dksX3_goes_0 6 rfl rfl)
theorem dX3_goes_9 : decode cX3_goes 9 = .ok (.iload_n 2, 1) := dk_28 (dk_at dksX3_goes_0 9 rfl rfl)
theorem dX3_goes_10 : decode cX3_goes 10 = .ok (.aload_n 0, 1) := dk_42 (dk_at dksX3_goes_0 10 rfl rfl)
theorem dX3_goes_11 : decode cX3_goes 11 = .ok (.invokevirtual 197, 3) := dk_182 0 197 (dk_at dksX3_goes_0 11 rfl rfl)
theorem dX3_goes_14 : decode cX3_goes 14 = .ok (.iadd, 1) := dk_96 (dk_at dksX3_goes_0 14 rfl rfl)
theorem dX3_goes_15 : decode cX3_goes 15 = .ok (.istore_n 2, 1) := dk_61 (dk_at dksX3_goes_0 15 rfl rfl)
theorem dX3_goes_16 : decode cX3_goes 16 = .ok (.iinc 3 1, 3) := dk_132 3 1 (dk_at dksX3_goes_0 16 rfl rfl)
theorem dX3_goes_19 : decode cX3_goes 19 = .ok (.goto (-15), 3) := dk_167 255 241 (dk_at dksX3_goes_0 19 rfl rfl)
theorem dX3_goes_22 : decode cX3_goes 22 = .ok (.iload_n 2, 1) := dk_28 (dk_at dksX3_goes_0 22 rfl rfl)
theorem dX3_goes_23 : decode cX3_goes 23 = .ok (.ireturn, 1) := dk_172 (dk_at dksX3_goes_0 23 rfl rfl)
abbrev cX3_goesTick : ByteArray := prog_20_method_41_code
def yX3_goesTick : MethodName := ⟨RX3, "goesTick", "()I"⟩
def dkwX3_goesTick_3 : List UInt8 := [28, 182, 0, 194, 60, 42, 180, 0, 7, 3, 92, 46, 4, 96, 79, 27, 172]
abbrev dktX3_goesTick_3 : List UInt8 := dkwX3_goesTick_3 ++ []
def dkwX3_goesTick_2 : List UInt8 := [182, 0, 106, 61, 42, 180, 0, 7, 16, 18, 46, 4, 160, 0, 11, 42, 28, 182, 0, 191, 167, 0, 9, 42]
abbrev dktX3_goesTick_2 : List UInt8 := dkwX3_goesTick_2 ++ dktX3_goesTick_3
def dkwX3_goesTick_1 : List UInt8 := [16, 19, 42, 42, 180, 0, 7, 16, 19, 46, 182, 0, 140, 79, 42, 42, 180, 0, 7, 16, 19, 46]
abbrev dktX3_goesTick_1 : List UInt8 := dkwX3_goesTick_1 ++ dktX3_goesTick_2
def dkwX3_goesTick_0 : List UInt8 := [3, 60, 42, 180, 0, 7, 16, 18, 46, 154, 0, 10, 42, 182, 0, 188, 167, 0, 58, 42, 180, 0, 7]
abbrev dktX3_goesTick_0 : List UInt8 := dkwX3_goesTick_0 ++ dktX3_goesTick_1
theorem dksX3_goesTick_0 : cX3_goesTick.data.toList.drop 0 = dktX3_goesTick_0 := by decide +kernel
theorem dksX3_goesTick_1 : cX3_goesTick.data.toList.drop 23 = dktX3_goesTick_1 := dk_seg dksX3_goesTick_0 23 rfl rfl
theorem dksX3_goesTick_2 : cX3_goesTick.data.toList.drop 45 = dktX3_goesTick_2 := dk_seg dksX3_goesTick_1 22 rfl rfl
theorem dksX3_goesTick_3 : cX3_goesTick.data.toList.drop 69 = dktX3_goesTick_3 := dk_seg dksX3_goesTick_2 24 rfl rfl
theorem dX3_goesTick_0 : decode cX3_goesTick 0 = .ok (.iconst 0, 1) := dk_3 (dk_at dksX3_goesTick_0 0 rfl rfl)
theorem dX3_goesTick_1 : decode cX3_goesTick 1 = .ok (.istore_n 1, 1) := dk_60 (dk_at dksX3_goesTick_0 1 rfl rfl)
theorem dX3_goesTick_2 : decode cX3_goesTick 2 = .ok (.aload_n 0, 1) := dk_42 (dk_at dksX3_goesTick_0 2 rfl rfl)
theorem dX3_goesTick_3 : decode cX3_goesTick 3 = .ok (.getfield 7, 3) := dk_180 0 7 (dk_at dksX3_goesTick_0 3 rfl rfl)
theorem dX3_goesTick_6 : decode cX3_goesTick 6 = .ok (.bipush 18, 2) := dk_16 18 (dk_at dksX3_goesTick_0 6 rfl rfl)
theorem dX3_goesTick_8 : decode cX3_goesTick 8 = .ok (.iaload, 1) := dk_46 (dk_at dksX3_goesTick_0 8 rfl rfl)
theorem dX3_goesTick_9 : decode cX3_goesTick 9 = .ok (.ifCond .ne 10, 3) := dk_154 0 10 (dk_at dksX3_goesTick_0 9 rfl rfl)
theorem dX3_goesTick_12 : decode cX3_goesTick 12 = .ok (.aload_n 0, 1) := dk_42 (dk_at dksX3_goesTick_0 12 rfl rfl)
theorem dX3_goesTick_13 : decode cX3_goesTick 13 = .ok (.invokevirtual 188, 3) := dk_182 0 188 (dk_at dksX3_goesTick_0 13 rfl rfl)
theorem dX3_goesTick_16 : decode cX3_goesTick 16 = .ok (.goto 58, 3) := dk_167 0 58 (dk_at dksX3_goesTick_0 16 rfl rfl)
theorem dX3_goesTick_19 : decode cX3_goesTick 19 = .ok (.aload_n 0, 1) := dk_42 (dk_at dksX3_goesTick_0 19 rfl rfl)
theorem dX3_goesTick_20 : decode cX3_goesTick 20 = .ok (.getfield 7, 3) := dk_180 0 7 (dk_at dksX3_goesTick_0 20 rfl rfl)
theorem dX3_goesTick_23 : decode cX3_goesTick 23 = .ok (.bipush 19, 2) := dk_16 19 (dk_at dksX3_goesTick_1 0 rfl rfl)
theorem dX3_goesTick_25 : decode cX3_goesTick 25 = .ok (.aload_n 0, 1) := dk_42 (dk_at dksX3_goesTick_1 2 rfl rfl)
theorem dX3_goesTick_26 : decode cX3_goesTick 26 = .ok (.aload_n 0, 1) := dk_42 (dk_at dksX3_goesTick_1 3 rfl rfl)
theorem dX3_goesTick_27 : decode cX3_goesTick 27 = .ok (.getfield 7, 3) := dk_180 0 7 (dk_at dksX3_goesTick_1 4 rfl rfl)
theorem dX3_goesTick_30 : decode cX3_goesTick 30 = .ok (.bipush 19, 2) := dk_16 19 (dk_at dksX3_goesTick_1 7 rfl rfl)
theorem dX3_goesTick_32 : decode cX3_goesTick 32 = .ok (.iaload, 1) := dk_46 (dk_at dksX3_goesTick_1 9 rfl rfl)
theorem dX3_goesTick_33 : decode cX3_goesTick 33 = .ok (.invokevirtual 140, 3) := dk_182 0 140 (dk_at dksX3_goesTick_1 10 rfl rfl)
theorem dX3_goesTick_36 : decode cX3_goesTick 36 = .ok (.iastore, 1) := dk_79 (dk_at dksX3_goesTick_1 13 rfl rfl)
theorem dX3_goesTick_37 : decode cX3_goesTick 37 = .ok (.aload_n 0, 1) := dk_42 (dk_at dksX3_goesTick_1 14 rfl rfl)
theorem dX3_goesTick_38 : decode cX3_goesTick 38 = .ok (.aload_n 0, 1) := dk_42 (dk_at dksX3_goesTick_1 15 rfl rfl)
theorem dX3_goesTick_39 : decode cX3_goesTick 39 = .ok (.getfield 7, 3) := dk_180 0 7 (dk_at dksX3_goesTick_1 16 rfl rfl)
theorem dX3_goesTick_42 : decode cX3_goesTick 42 = .ok (.bipush 19, 2) := dk_16 19 (dk_at dksX3_goesTick_1 19 rfl rfl)
theorem dX3_goesTick_44 : decode cX3_goesTick 44 = .ok (.iaload, 1) := dk_46 (dk_at dksX3_goesTick_1 21 rfl rfl)
theorem dX3_goesTick_45 : decode cX3_goesTick 45 = .ok (.invokevirtual 106, 3) := dk_182 0 106 (dk_at dksX3_goesTick_2 0 rfl rfl)
theorem dX3_goesTick_48 : decode cX3_goesTick 48 = .ok (.istore_n 2, 1) := dk_61 (dk_at dksX3_goesTick_2 3 rfl rfl)
theorem dX3_goesTick_49 : decode cX3_goesTick 49 = .ok (.aload_n 0, 1) := dk_42 (dk_at dksX3_goesTick_2 4 rfl rfl)
theorem dX3_goesTick_50 : decode cX3_goesTick 50 = .ok (.getfield 7, 3) := dk_180 0 7 (dk_at dksX3_goesTick_2 5 rfl rfl)
theorem dX3_goesTick_53 : decode cX3_goesTick 53 = .ok (.bipush 18, 2) := dk_16 18 (dk_at dksX3_goesTick_2 8 rfl rfl)
theorem dX3_goesTick_55 : decode cX3_goesTick 55 = .ok (.iaload, 1) := dk_46 (dk_at dksX3_goesTick_2 10 rfl rfl)
theorem dX3_goesTick_56 : decode cX3_goesTick 56 = .ok (.iconst 1, 1) := dk_4 (dk_at dksX3_goesTick_2 11 rfl rfl)
theorem dX3_goesTick_57 : decode cX3_goesTick 57 = .ok (.if_icmp .ne 11, 3) := dk_160 0 11 (dk_at dksX3_goesTick_2 12 rfl rfl)
theorem dX3_goesTick_60 : decode cX3_goesTick 60 = .ok (.aload_n 0, 1) := dk_42 (dk_at dksX3_goesTick_2 15 rfl rfl)
theorem dX3_goesTick_61 : decode cX3_goesTick 61 = .ok (.iload_n 2, 1) := dk_28 (dk_at dksX3_goesTick_2 16 rfl rfl)
theorem dX3_goesTick_62 : decode cX3_goesTick 62 = .ok (.invokevirtual 191, 3) := dk_182 0 191 (dk_at dksX3_goesTick_2 17 rfl rfl)
theorem dX3_goesTick_65 : decode cX3_goesTick 65 = .ok (.goto 9, 3) := dk_167 0 9 (dk_at dksX3_goesTick_2 20 rfl rfl)
theorem dX3_goesTick_68 : decode cX3_goesTick 68 = .ok (.aload_n 0, 1) := dk_42 (dk_at dksX3_goesTick_2 23 rfl rfl)
theorem dX3_goesTick_69 : decode cX3_goesTick 69 = .ok (.iload_n 2, 1) := dk_28 (dk_at dksX3_goesTick_3 0 rfl rfl)
theorem dX3_goesTick_70 : decode cX3_goesTick 70 = .ok (.invokevirtual 194, 3) := dk_182 0 194 (dk_at dksX3_goesTick_3 1 rfl rfl)
theorem dX3_goesTick_73 : decode cX3_goesTick 73 = .ok (.istore_n 1, 1) := dk_60 (dk_at dksX3_goesTick_3 4 rfl rfl)
theorem dX3_goesTick_74 : decode cX3_goesTick 74 = .ok (.aload_n 0, 1) := dk_42 (dk_at dksX3_goesTick_3 5 rfl rfl)
theorem dX3_goesTick_75 : decode cX3_goesTick 75 = .ok (.getfield 7, 3) := dk_180 0 7 (dk_at dksX3_goesTick_3 6 rfl rfl)
theorem dX3_goesTick_78 : decode cX3_goesTick 78 = .ok (.iconst 0, 1) := dk_3 (dk_at dksX3_goesTick_3 9 rfl rfl)
theorem dX3_goesTick_79 : decode cX3_goesTick 79 = .ok (.dup2, 1) := dk_92 (dk_at dksX3_goesTick_3 10 rfl rfl)
theorem dX3_goesTick_80 : decode cX3_goesTick 80 = .ok (.iaload, 1) := dk_46 (dk_at dksX3_goesTick_3 11 rfl rfl)
theorem dX3_goesTick_81 : decode cX3_goesTick 81 = .ok (.iconst 1, 1) := dk_4 (dk_at dksX3_goesTick_3 12 rfl rfl)
theorem dX3_goesTick_82 : decode cX3_goesTick 82 = .ok (.iadd, 1) := dk_96 (dk_at dksX3_goesTick_3 13 rfl rfl)
theorem dX3_goesTick_83 : decode cX3_goesTick 83 = .ok (.iastore, 1) := dk_79 (dk_at dksX3_goesTick_3 14 rfl rfl)
theorem dX3_goesTick_84 : decode cX3_goesTick 84 = .ok (.iload_n 1, 1) := dk_27 (dk_at dksX3_goesTick_3 15 rfl rfl)
theorem dX3_goesTick_85 : decode cX3_goesTick 85 = .ok (.ireturn, 1) := dk_172 (dk_at dksX3_goesTick_3 16 rfl rfl)
abbrev cX3_waitsOn : ByteArray := prog_20_method_36_code
def yX3_waitsOn : MethodName := ⟨RX3, "waitsOn", "()V"⟩
def dkwX3_waitsOn_5 : List UInt8 := [16, 16, 92, 46, 4, 96, 79, 177]
abbrev dktX3_waitsOn_5 : List UInt8 := dkwX3_waitsOn_5 ++ []
def dkwX3_waitsOn_4 : List UInt8 := [180, 0, 7, 4, 46, 4, 100, 3, 182, 0, 98, 79, 42, 180, 0, 7, 6, 3, 79, 42, 180, 0, 7]
abbrev dktX3_waitsOn_4 : List UInt8 := dkwX3_waitsOn_4 ++ dktX3_waitsOn_5
def dkwX3_waitsOn_3 : List UInt8 := [180, 0, 7, 5, 46, 156, 0, 49, 42, 180, 0, 7, 4, 46, 158, 0, 40, 42, 180, 0, 7, 5, 42, 42]
abbrev dktX3_waitsOn_3 : List UInt8 := dkwX3_waitsOn_3 ++ dktX3_waitsOn_4
def dkwX3_waitsOn_2 : List UInt8 := [180, 0, 7, 16, 15, 92, 46, 4, 96, 79, 42, 180, 0, 7, 6, 46, 16, 8, 161, 0, 58, 42]
abbrev dktX3_waitsOn_2 : List UInt8 := dkwX3_waitsOn_2 ++ dktX3_waitsOn_3
def dkwX3_waitsOn_1 : List UInt8 := [5, 46, 155, 0, 32, 42, 42, 180, 0, 7, 5, 46, 3, 182, 0, 167, 42, 180, 0, 7, 6, 3, 79, 42]
abbrev dktX3_waitsOn_1 : List UInt8 := dkwX3_waitsOn_1 ++ dktX3_waitsOn_2
def dkwX3_waitsOn_0 : List UInt8 := [42, 180, 0, 7, 6, 92, 46, 4, 96, 79, 42, 180, 0, 7, 6, 46, 8, 161, 0, 41, 42, 180, 0, 7]
abbrev dktX3_waitsOn_0 : List UInt8 := dkwX3_waitsOn_0 ++ dktX3_waitsOn_1
theorem dksX3_waitsOn_0 : cX3_waitsOn.data.toList.drop 0 = dktX3_waitsOn_0 := by decide +kernel
theorem dksX3_waitsOn_1 : cX3_waitsOn.data.toList.drop 24 = dktX3_waitsOn_1 := dk_seg dksX3_waitsOn_0 24 rfl rfl
theorem dksX3_waitsOn_2 : cX3_waitsOn.data.toList.drop 48 = dktX3_waitsOn_2 := dk_seg dksX3_waitsOn_1 24 rfl rfl
theorem dksX3_waitsOn_3 : cX3_waitsOn.data.toList.drop 70 = dktX3_waitsOn_3 := dk_seg dksX3_waitsOn_2 22 rfl rfl
theorem dksX3_waitsOn_4 : cX3_waitsOn.data.toList.drop 94 = dktX3_waitsOn_4 := dk_seg dksX3_waitsOn_3 24 rfl rfl
theorem dksX3_waitsOn_5 : cX3_waitsOn.data.toList.drop 117 = dktX3_waitsOn_5 := dk_seg dksX3_waitsOn_4 23 rfl rfl
theorem dX3_waitsOn_0 : decode cX3_waitsOn 0 = .ok (.aload_n 0, 1) := dk_42 (dk_at dksX3_waitsOn_0 0 rfl rfl)
theorem dX3_waitsOn_1 : decode cX3_waitsOn 1 = .ok (.getfield 7, 3) := dk_180 0 7 (dk_at dksX3_waitsOn_0 1 rfl rfl)
theorem dX3_waitsOn_4 : decode cX3_waitsOn 4 = .ok (.iconst 3, 1) := dk_6 (dk_at dksX3_waitsOn_0 4 rfl rfl)
theorem dX3_waitsOn_5 : decode cX3_waitsOn 5 = .ok (.dup2, 1) := dk_92 (dk_at dksX3_waitsOn_0 5 rfl rfl)
theorem dX3_waitsOn_6 : decode cX3_waitsOn 6 = .ok (.iaload, 1) := dk_46 (dk_at dksX3_waitsOn_0 6 rfl rfl)
theorem dX3_waitsOn_7 : decode cX3_waitsOn 7 = .ok (.iconst 1, 1) := dk_4 (dk_at dksX3_waitsOn_0 7 rfl rfl)
theorem dX3_waitsOn_8 : decode cX3_waitsOn 8 = .ok (.iadd, 1) := dk_96 (dk_at dksX3_waitsOn_0 8 rfl rfl)
theorem dX3_waitsOn_9 : decode cX3_waitsOn 9 = .ok (.iastore, 1) := dk_79 (dk_at dksX3_waitsOn_0 9 rfl rfl)
theorem dX3_waitsOn_10 : decode cX3_waitsOn 10 = .ok (.aload_n 0, 1) := dk_42 (dk_at dksX3_waitsOn_0 10 rfl rfl)
theorem dX3_waitsOn_11 : decode cX3_waitsOn 11 = .ok (.getfield 7, 3) := dk_180 0 7 (dk_at dksX3_waitsOn_0 11 rfl rfl)
theorem dX3_waitsOn_14 : decode cX3_waitsOn 14 = .ok (.iconst 3, 1) := dk_6 (dk_at dksX3_waitsOn_0 14 rfl rfl)
theorem dX3_waitsOn_15 : decode cX3_waitsOn 15 = .ok (.iaload, 1) := dk_46 (dk_at dksX3_waitsOn_0 15 rfl rfl)
theorem dX3_waitsOn_16 : decode cX3_waitsOn 16 = .ok (.iconst 5, 1) := dk_8 (dk_at dksX3_waitsOn_0 16 rfl rfl)
theorem dX3_waitsOn_17 : decode cX3_waitsOn 17 = .ok (.if_icmp .lt 41, 3) := dk_161 0 41 (dk_at dksX3_waitsOn_0 17 rfl rfl)
theorem dX3_waitsOn_20 : decode cX3_waitsOn 20 = .ok (.aload_n 0, 1) := dk_42 (dk_at dksX3_waitsOn_0 20 rfl rfl)
theorem dX3_waitsOn_21 : decode cX3_waitsOn 21 = .ok (.getfield 7, 3) := dk_180 0 7 (dk_at dksX3_waitsOn_0 21 rfl rfl)
theorem dX3_waitsOn_24 : decode cX3_waitsOn 24 = .ok (.iconst 2, 1) := dk_5 (dk_at dksX3_waitsOn_1 0 rfl rfl)
theorem dX3_waitsOn_25 : decode cX3_waitsOn 25 = .ok (.iaload, 1) := dk_46 (dk_at dksX3_waitsOn_1 1 rfl rfl)
theorem dX3_waitsOn_26 : decode cX3_waitsOn 26 = .ok (.ifCond .lt 32, 3) := dk_155 0 32 (dk_at dksX3_waitsOn_1 2 rfl rfl)
theorem dX3_waitsOn_29 : decode cX3_waitsOn 29 = .ok (.aload_n 0, 1) := dk_42 (dk_at dksX3_waitsOn_1 5 rfl rfl)
theorem dX3_waitsOn_30 : decode cX3_waitsOn 30 = .ok (.aload_n 0, 1) := dk_42 (dk_at dksX3_waitsOn_1 6 rfl rfl)
theorem dX3_waitsOn_31 : decode cX3_waitsOn 31 = .ok (.getfield 7, 3) := dk_180 0 7 (dk_at dksX3_waitsOn_1 7 rfl rfl)
theorem dX3_waitsOn_34 : decode cX3_waitsOn 34 = .ok (.iconst 2, 1) := dk_5 (dk_at dksX3_waitsOn_1 10 rfl rfl)
theorem dX3_waitsOn_35 : decode cX3_waitsOn 35 = .ok (.iaload, 1) := dk_46 (dk_at dksX3_waitsOn_1 11 rfl rfl)
theorem dX3_waitsOn_36 : decode cX3_waitsOn 36 = .ok (.iconst 0, 1) := dk_3 (dk_at dksX3_waitsOn_1 12 rfl rfl)
theorem dX3_waitsOn_37 : decode cX3_waitsOn 37 = .ok (.invokevirtual 167, 3) := dk_182 0 167 (dk_at dksX3_waitsOn_1 13 rfl rfl)
theorem dX3_waitsOn_40 : decode cX3_waitsOn 40 = .ok (.aload_n 0, 1) := dk_42 (dk_at dksX3_waitsOn_1 16 rfl rfl)
theorem dX3_waitsOn_41 : decode cX3_waitsOn 41 = .ok (.getfield 7, 3) := dk_180 0 7 (dk_at dksX3_waitsOn_1 17 rfl rfl)
theorem dX3_waitsOn_44 : decode cX3_waitsOn 44 = .ok (.iconst 3, 1) := dk_6 (dk_at dksX3_waitsOn_1 20 rfl rfl)
theorem dX3_waitsOn_45 : decode cX3_waitsOn 45 = .ok (.iconst 0, 1) := dk_3 (dk_at dksX3_waitsOn_1 21 rfl rfl)
theorem dX3_waitsOn_46 : decode cX3_waitsOn 46 = .ok (.iastore, 1) := dk_79 (dk_at dksX3_waitsOn_1 22 rfl rfl)
theorem dX3_waitsOn_47 : decode cX3_waitsOn 47 = .ok (.aload_n 0, 1) := dk_42 (dk_at dksX3_waitsOn_1 23 rfl rfl)
theorem dX3_waitsOn_48 : decode cX3_waitsOn 48 = .ok (.getfield 7, 3) := dk_180 0 7 (dk_at dksX3_waitsOn_2 0 rfl rfl)
theorem dX3_waitsOn_51 : decode cX3_waitsOn 51 = .ok (.bipush 15, 2) := dk_16 15 (dk_at dksX3_waitsOn_2 3 rfl rfl)
theorem dX3_waitsOn_53 : decode cX3_waitsOn 53 = .ok (.dup2, 1) := dk_92 (dk_at dksX3_waitsOn_2 5 rfl rfl)
theorem dX3_waitsOn_54 : decode cX3_waitsOn 54 = .ok (.iaload, 1) := dk_46 (dk_at dksX3_waitsOn_2 6 rfl rfl)
theorem dX3_waitsOn_55 : decode cX3_waitsOn 55 = .ok (.iconst 1, 1) := dk_4 (dk_at dksX3_waitsOn_2 7 rfl rfl)
theorem dX3_waitsOn_56 : decode cX3_waitsOn 56 = .ok (.iadd, 1) := dk_96 (dk_at dksX3_waitsOn_2 8 rfl rfl)
theorem dX3_waitsOn_57 : decode cX3_waitsOn 57 = .ok (.iastore, 1) := dk_79 (dk_at dksX3_waitsOn_2 9 rfl rfl)
theorem dX3_waitsOn_58 : decode cX3_waitsOn 58 = .ok (.aload_n 0, 1) := dk_42 (dk_at dksX3_waitsOn_2 10 rfl rfl)
theorem dX3_waitsOn_59 : decode cX3_waitsOn 59 = .ok (.getfield 7, 3) := dk_180 0 7 (dk_at dksX3_waitsOn_2 11 rfl rfl)
theorem dX3_waitsOn_62 : decode cX3_waitsOn 62 = .ok (.iconst 3, 1) := dk_6 (dk_at dksX3_waitsOn_2 14 rfl rfl)
theorem dX3_waitsOn_63 : decode cX3_waitsOn 63 = .ok (.iaload, 1) := dk_46 (dk_at dksX3_waitsOn_2 15 rfl rfl)
theorem dX3_waitsOn_64 : decode cX3_waitsOn 64 = .ok (.bipush 8, 2) := dk_16 8 (dk_at dksX3_waitsOn_2 16 rfl rfl)
theorem dX3_waitsOn_66 : decode cX3_waitsOn 66 = .ok (.if_icmp .lt 58, 3) := dk_161 0 58 (dk_at dksX3_waitsOn_2 18 rfl rfl)
theorem dX3_waitsOn_69 : decode cX3_waitsOn 69 = .ok (.aload_n 0, 1) := dk_42 (dk_at dksX3_waitsOn_2 21 rfl rfl)
theorem dX3_waitsOn_70 : decode cX3_waitsOn 70 = .ok (.getfield 7, 3) := dk_180 0 7 (dk_at dksX3_waitsOn_3 0 rfl rfl)
theorem dX3_waitsOn_73 : decode cX3_waitsOn 73 = .ok (.iconst 2, 1) := dk_5 (dk_at dksX3_waitsOn_3 3 rfl rfl)
theorem dX3_waitsOn_74 : decode cX3_waitsOn 74 = .ok (.iaload, 1) := dk_46 (dk_at dksX3_waitsOn_3 4 rfl rfl)
theorem dX3_waitsOn_75 : decode cX3_waitsOn 75 = .ok (.ifCond .ge 49, 3) := dk_156 0 49 (dk_at dksX3_waitsOn_3 5 rfl rfl)
theorem dX3_waitsOn_78 : decode cX3_waitsOn 78 = .ok (.aload_n 0, 1) := dk_42 (dk_at dksX3_waitsOn_3 8 rfl rfl)
theorem dX3_waitsOn_79 : decode cX3_waitsOn 79 = .ok (.getfield 7, 3) := dk_180 0 7 (dk_at dksX3_waitsOn_3 9 rfl rfl)
theorem dX3_waitsOn_82 : decode cX3_waitsOn 82 = .ok (.iconst 1, 1) := dk_4 (dk_at dksX3_waitsOn_3 12 rfl rfl)
theorem dX3_waitsOn_83 : decode cX3_waitsOn 83 = .ok (.iaload, 1) := dk_46 (dk_at dksX3_waitsOn_3 13 rfl rfl)
theorem dX3_waitsOn_84 : decode cX3_waitsOn 84 = .ok (.ifCond .le 40, 3) := dk_158 0 40 (dk_at dksX3_waitsOn_3 14 rfl rfl)
theorem dX3_waitsOn_87 : decode cX3_waitsOn 87 = .ok (.aload_n 0, 1) := dk_42 (dk_at dksX3_waitsOn_3 17 rfl rfl)
theorem dX3_waitsOn_88 : decode cX3_waitsOn 88 = .ok (.getfield 7, 3) := dk_180 0 7 (dk_at dksX3_waitsOn_3 18 rfl rfl)
theorem dX3_waitsOn_91 : decode cX3_waitsOn 91 = .ok (.iconst 2, 1) := dk_5 (dk_at dksX3_waitsOn_3 21 rfl rfl)
theorem dX3_waitsOn_92 : decode cX3_waitsOn 92 = .ok (.aload_n 0, 1) := dk_42 (dk_at dksX3_waitsOn_3 22 rfl rfl)
theorem dX3_waitsOn_93 : decode cX3_waitsOn 93 = .ok (.aload_n 0, 1) := dk_42 (dk_at dksX3_waitsOn_3 23 rfl rfl)
theorem dX3_waitsOn_94 : decode cX3_waitsOn 94 = .ok (.getfield 7, 3) := dk_180 0 7 (dk_at dksX3_waitsOn_4 0 rfl rfl)
theorem dX3_waitsOn_97 : decode cX3_waitsOn 97 = .ok (.iconst 1, 1) := dk_4 (dk_at dksX3_waitsOn_4 3 rfl rfl)
theorem dX3_waitsOn_98 : decode cX3_waitsOn 98 = .ok (.iaload, 1) := dk_46 (dk_at dksX3_waitsOn_4 4 rfl rfl)
theorem dX3_waitsOn_99 : decode cX3_waitsOn 99 = .ok (.iconst 1, 1) := dk_4 (dk_at dksX3_waitsOn_4 5 rfl rfl)
theorem dX3_waitsOn_100 : decode cX3_waitsOn 100 = .ok (.isub, 1) := dk_100 (dk_at dksX3_waitsOn_4 6 rfl rfl)
theorem dX3_waitsOn_101 : decode cX3_waitsOn 101 = .ok (.iconst 0, 1) := dk_3 (dk_at dksX3_waitsOn_4 7 rfl rfl)
theorem dX3_waitsOn_102 : decode cX3_waitsOn 102 = .ok (.invokevirtual 98, 3) := dk_182 0 98 (dk_at dksX3_waitsOn_4 8 rfl rfl)
theorem dX3_waitsOn_105 : decode cX3_waitsOn 105 = .ok (.iastore, 1) := dk_79 (dk_at dksX3_waitsOn_4 11 rfl rfl)
theorem dX3_waitsOn_106 : decode cX3_waitsOn 106 = .ok (.aload_n 0, 1) := dk_42 (dk_at dksX3_waitsOn_4 12 rfl rfl)
theorem dX3_waitsOn_107 : decode cX3_waitsOn 107 = .ok (.getfield 7, 3) := dk_180 0 7 (dk_at dksX3_waitsOn_4 13 rfl rfl)
theorem dX3_waitsOn_110 : decode cX3_waitsOn 110 = .ok (.iconst 3, 1) := dk_6 (dk_at dksX3_waitsOn_4 16 rfl rfl)
theorem dX3_waitsOn_111 : decode cX3_waitsOn 111 = .ok (.iconst 0, 1) := dk_3 (dk_at dksX3_waitsOn_4 17 rfl rfl)
theorem dX3_waitsOn_112 : decode cX3_waitsOn 112 = .ok (.iastore, 1) := dk_79 (dk_at dksX3_waitsOn_4 18 rfl rfl)
theorem dX3_waitsOn_113 : decode cX3_waitsOn 113 = .ok (.aload_n 0, 1) := dk_42 (dk_at dksX3_waitsOn_4 19 rfl rfl)
theorem dX3_waitsOn_114 : decode cX3_waitsOn 114 = .ok (.getfield 7, 3) := dk_180 0 7 (dk_at dksX3_waitsOn_4 20 rfl rfl)
theorem dX3_waitsOn_117 : decode cX3_waitsOn 117 = .ok (.bipush 16, 2) := dk_16 16 (dk_at dksX3_waitsOn_5 0 rfl rfl)
theorem dX3_waitsOn_119 : decode cX3_waitsOn 119 = .ok (.dup2, 1) := dk_92 (dk_at dksX3_waitsOn_5 2 rfl rfl)
theorem dX3_waitsOn_120 : decode cX3_waitsOn 120 = .ok (.iaload, 1) := dk_46 (dk_at dksX3_waitsOn_5 3 rfl rfl)
theorem dX3_waitsOn_121 : decode cX3_waitsOn 121 = .ok (.iconst 1, 1) := dk_4 (dk_at dksX3_waitsOn_5 4 rfl rfl)
theorem dX3_waitsOn_122 : decode cX3_waitsOn 122 = .ok (.iadd, 1) := dk_96 (dk_at dksX3_waitsOn_5 5 rfl rfl)
theorem dX3_waitsOn_123 : decode cX3_waitsOn 123 = .ok (.iastore, 1) := dk_79 (dk_at dksX3_waitsOn_5 6 rfl rfl)
theorem dX3_waitsOn_124 : decode cX3_waitsOn 124 = .ok (.return_, 1) := dk_177 (dk_at dksX3_waitsOn_5 7 rfl rfl)
abbrev cX3_tokenComes : ByteArray := prog_20_method_39_code
def yX3_tokenComes : MethodName := ⟨RX3, "tokenComes", "(I)V"⟩
def dkwX3_tokenComes_2 : List UInt8 := [46, 4, 96, 79, 42, 180, 0, 7, 16, 21, 46, 6, 160, 0, 11, 42, 180, 0, 7, 16, 20, 3, 79, 177]
abbrev dktX3_tokenComes_2 : List UInt8 := dkwX3_tokenComes_2 ++ []
def dkwX3_tokenComes_1 : List UInt8 := [42, 180, 0, 7, 16, 19, 46, 42, 180, 0, 7, 5, 46, 159, 0, 4, 177, 42, 180, 0, 7, 16, 21, 92]
abbrev dktX3_tokenComes_1 : List UInt8 := dkwX3_tokenComes_1 ++ dktX3_tokenComes_2
def dkwX3_tokenComes_0 : List UInt8 := [42, 27, 182, 0, 181, 153, 0, 9, 42, 27, 182, 0, 184, 177, 42, 180, 0, 7, 16, 20, 46, 153, 0, 19]
abbrev dktX3_tokenComes_0 : List UInt8 := dkwX3_tokenComes_0 ++ dktX3_tokenComes_1
theorem dksX3_tokenComes_0 : cX3_tokenComes.data.toList.drop 0 = dktX3_tokenComes_0 := by decide +kernel
theorem dksX3_tokenComes_1 : cX3_tokenComes.data.toList.drop 24 = dktX3_tokenComes_1 := dk_seg dksX3_tokenComes_0 24 rfl rfl
theorem dksX3_tokenComes_2 : cX3_tokenComes.data.toList.drop 48 = dktX3_tokenComes_2 := dk_seg dksX3_tokenComes_1 24 rfl rfl
theorem dX3_tokenComes_0 : decode cX3_tokenComes 0 = .ok (.aload_n 0, 1) := dk_42 (dk_at dksX3_tokenComes_0 0 rfl rfl)
theorem dX3_tokenComes_1 : decode cX3_tokenComes 1 = .ok (.iload_n 1, 1) := dk_27 (dk_at dksX3_tokenComes_0 1 rfl rfl)
theorem dX3_tokenComes_2 : decode cX3_tokenComes 2 = .ok (.invokevirtual 181, 3) := dk_182 0 181 (dk_at dksX3_tokenComes_0 2 rfl rfl)
theorem dX3_tokenComes_5 : decode cX3_tokenComes 5 = .ok (.ifCond .eq 9, 3) := dk_153 0 9 (dk_at dksX3_tokenComes_0 5 rfl rfl)
theorem dX3_tokenComes_8 : decode cX3_tokenComes 8 = .ok (.aload_n 0, 1) := dk_42 (dk_at dksX3_tokenComes_0 8 rfl rfl)
theorem dX3_tokenComes_9 : decode cX3_tokenComes 9 = .ok (.iload_n 1, 1) := dk_27 (dk_at dksX3_tokenComes_0 9 rfl rfl)
theorem dX3_tokenComes_10 : decode cX3_tokenComes 10 = .ok (.invokevirtual 184, 3) := dk_182 0 184 (dk_at dksX3_tokenComes_0 10 rfl rfl)
theorem dX3_tokenComes_13 : decode cX3_tokenComes 13 = .ok (.return_, 1) := dk_177 (dk_at dksX3_tokenComes_0 13 rfl rfl)
theorem dX3_tokenComes_14 : decode cX3_tokenComes 14 = .ok (.aload_n 0, 1) := dk_42 (dk_at dksX3_tokenComes_0 14 rfl rfl)
theorem dX3_tokenComes_15 : decode cX3_tokenComes 15 = .ok (.getfield 7, 3) := dk_180 0 7 (dk_at dksX3_tokenComes_0 15 rfl rfl)
theorem dX3_tokenComes_18 : decode cX3_tokenComes 18 = .ok (.bipush 20, 2) := dk_16 20 (dk_at dksX3_tokenComes_0 18 rfl rfl)
theorem dX3_tokenComes_20 : decode cX3_tokenComes 20 = .ok (.iaload, 1) := dk_46 (dk_at dksX3_tokenComes_0 20 rfl rfl)
theorem dX3_tokenComes_21 : decode cX3_tokenComes 21 = .ok (.ifCond .eq 19, 3) := dk_153 0 19 (dk_at dksX3_tokenComes_0 21 rfl rfl)
theorem dX3_tokenComes_24 : decode cX3_tokenComes 24 = .ok (.aload_n 0, 1) := dk_42 (dk_at dksX3_tokenComes_1 0 rfl rfl)
theorem dX3_tokenComes_25 : decode cX3_tokenComes 25 = .ok (.getfield 7, 3) := dk_180 0 7 (dk_at dksX3_tokenComes_1 1 rfl rfl)
theorem dX3_tokenComes_28 : decode cX3_tokenComes 28 = .ok (.bipush 19, 2) := dk_16 19 (dk_at dksX3_tokenComes_1 4 rfl rfl)
theorem dX3_tokenComes_30 : decode cX3_tokenComes 30 = .ok (.iaload, 1) := dk_46 (dk_at dksX3_tokenComes_1 6 rfl rfl)
theorem dX3_tokenComes_31 : decode cX3_tokenComes 31 = .ok (.aload_n 0, 1) := dk_42 (dk_at dksX3_tokenComes_1 7 rfl rfl)
theorem dX3_tokenComes_32 : decode cX3_tokenComes 32 = .ok (.getfield 7, 3) := dk_180 0 7 (dk_at dksX3_tokenComes_1 8 rfl rfl)
theorem dX3_tokenComes_35 : decode cX3_tokenComes 35 = .ok (.iconst 2, 1) := dk_5 (dk_at dksX3_tokenComes_1 11 rfl rfl)
theorem dX3_tokenComes_36 : decode cX3_tokenComes 36 = .ok (.iaload, 1) := dk_46 (dk_at dksX3_tokenComes_1 12 rfl rfl)
theorem dX3_tokenComes_37 : decode cX3_tokenComes 37 = .ok (.if_icmp .eq 4, 3) := dk_159 0 4 (dk_at dksX3_tokenComes_1 13 rfl rfl)
theorem dX3_tokenComes_40 : decode cX3_tokenComes 40 = .ok (.return_, 1) := dk_177 (dk_at dksX3_tokenComes_1 16 rfl rfl)
theorem dX3_tokenComes_41 : decode cX3_tokenComes 41 = .ok (.aload_n 0, 1) := dk_42 (dk_at dksX3_tokenComes_1 17 rfl rfl)
theorem dX3_tokenComes_42 : decode cX3_tokenComes 42 = .ok (.getfield 7, 3) := dk_180 0 7 (dk_at dksX3_tokenComes_1 18 rfl rfl)
theorem dX3_tokenComes_45 : decode cX3_tokenComes 45 = .ok (.bipush 21, 2) := dk_16 21 (dk_at dksX3_tokenComes_1 21 rfl rfl)
theorem dX3_tokenComes_47 : decode cX3_tokenComes 47 = .ok (.dup2, 1) := dk_92 (dk_at dksX3_tokenComes_1 23 rfl rfl)
theorem dX3_tokenComes_48 : decode cX3_tokenComes 48 = .ok (.iaload, 1) := dk_46 (dk_at dksX3_tokenComes_2 0 rfl rfl)
theorem dX3_tokenComes_49 : decode cX3_tokenComes 49 = .ok (.iconst 1, 1) := dk_4 (dk_at dksX3_tokenComes_2 1 rfl rfl)
theorem dX3_tokenComes_50 : decode cX3_tokenComes 50 = .ok (.iadd, 1) := dk_96 (dk_at dksX3_tokenComes_2 2 rfl rfl)
theorem dX3_tokenComes_51 : decode cX3_tokenComes 51 = .ok (.iastore, 1) := dk_79 (dk_at dksX3_tokenComes_2 3 rfl rfl)
theorem dX3_tokenComes_52 : decode cX3_tokenComes 52 = .ok (.aload_n 0, 1) := dk_42 (dk_at dksX3_tokenComes_2 4 rfl rfl)
theorem dX3_tokenComes_53 : decode cX3_tokenComes 53 = .ok (.getfield 7, 3) := dk_180 0 7 (dk_at dksX3_tokenComes_2 5 rfl rfl)
theorem dX3_tokenComes_56 : decode cX3_tokenComes 56 = .ok (.bipush 21, 2) := dk_16 21 (dk_at dksX3_tokenComes_2 8 rfl rfl)
theorem dX3_tokenComes_58 : decode cX3_tokenComes 58 = .ok (.iaload, 1) := dk_46 (dk_at dksX3_tokenComes_2 10 rfl rfl)
theorem dX3_tokenComes_59 : decode cX3_tokenComes 59 = .ok (.iconst 3, 1) := dk_6 (dk_at dksX3_tokenComes_2 11 rfl rfl)
theorem dX3_tokenComes_60 : decode cX3_tokenComes 60 = .ok (.if_icmp .ne 11, 3) := dk_160 0 11 (dk_at dksX3_tokenComes_2 12 rfl rfl)
theorem dX3_tokenComes_63 : decode cX3_tokenComes 63 = .ok (.aload_n 0, 1) := dk_42 (dk_at dksX3_tokenComes_2 15 rfl rfl)
theorem dX3_tokenComes_64 : decode cX3_tokenComes 64 = .ok (.getfield 7, 3) := dk_180 0 7 (dk_at dksX3_tokenComes_2 16 rfl rfl)
theorem dX3_tokenComes_67 : decode cX3_tokenComes 67 = .ok (.bipush 20, 2) := dk_16 20 (dk_at dksX3_tokenComes_2 19 rfl rfl)
theorem dX3_tokenComes_69 : decode cX3_tokenComes 69 = .ok (.iconst 0, 1) := dk_3 (dk_at dksX3_tokenComes_2 21 rfl rfl)
theorem dX3_tokenComes_70 : decode cX3_tokenComes 70 = .ok (.iastore, 1) := dk_79 (dk_at dksX3_tokenComes_2 22 rfl rfl)
theorem dX3_tokenComes_71 : decode cX3_tokenComes 71 = .ok (.return_, 1) := dk_177 (dk_at dksX3_tokenComes_2 23 rfl rfl)
abbrev cX3_takes : ByteArray := prog_20_method_37_code
def yX3_takes : MethodName := ⟨RX3, "takes", "(I)Z"⟩
def dkwX3_takes_1 : List UInt8 := [161, 0, 7, 4, 167, 0, 4, 3, 172]
abbrev dktX3_takes_1 : List UInt8 := dkwX3_takes_1 ++ []
def dkwX3_takes_0 : List UInt8 := [42, 27, 4, 182, 0, 98, 158, 0, 24, 42, 27, 3, 5, 182, 0, 149, 42, 180, 0, 7, 16, 20, 46]
abbrev dktX3_takes_0 : List UInt8 := dkwX3_takes_0 ++ dktX3_takes_1
theorem dksX3_takes_0 : cX3_takes.data.toList.drop 0 = dktX3_takes_0 := by decide +kernel
theorem dksX3_takes_1 : cX3_takes.data.toList.drop 23 = dktX3_takes_1 := dk_seg dksX3_takes_0 23 rfl rfl
theorem dX3_takes_0 : decode cX3_takes 0 = .ok (.aload_n 0, 1) := dk_42 (dk_at dksX3_takes_0 0 rfl rfl)
theorem dX3_takes_1 : decode cX3_takes 1 = .ok (.iload_n 1, 1) := dk_27 (dk_at dksX3_takes_0 1 rfl rfl)
theorem dX3_takes_2 : decode cX3_takes 2 = .ok (.iconst 1, 1) := dk_4 (dk_at dksX3_takes_0 2 rfl rfl)
theorem dX3_takes_3 : decode cX3_takes 3 = .ok (.invokevirtual 98, 3) := dk_182 0 98 (dk_at dksX3_takes_0 3 rfl rfl)
theorem dX3_takes_6 : decode cX3_takes 6 = .ok (.ifCond .le 24, 3) := dk_158 0 24 (dk_at dksX3_takes_0 6 rfl rfl)
theorem dX3_takes_9 : decode cX3_takes 9 = .ok (.aload_n 0, 1) := dk_42 (dk_at dksX3_takes_0 9 rfl rfl)
theorem dX3_takes_10 : decode cX3_takes 10 = .ok (.iload_n 1, 1) := dk_27 (dk_at dksX3_takes_0 10 rfl rfl)
theorem dX3_takes_11 : decode cX3_takes 11 = .ok (.iconst 0, 1) := dk_3 (dk_at dksX3_takes_0 11 rfl rfl)
theorem dX3_takes_12 : decode cX3_takes 12 = .ok (.iconst 2, 1) := dk_5 (dk_at dksX3_takes_0 12 rfl rfl)
theorem dX3_takes_13 : decode cX3_takes 13 = .ok (.invokevirtual 149, 3) := dk_182 0 149 (dk_at dksX3_takes_0 13 rfl rfl)
theorem dX3_takes_16 : decode cX3_takes 16 = .ok (.aload_n 0, 1) := dk_42 (dk_at dksX3_takes_0 16 rfl rfl)
theorem dX3_takes_17 : decode cX3_takes 17 = .ok (.getfield 7, 3) := dk_180 0 7 (dk_at dksX3_takes_0 17 rfl rfl)
theorem dX3_takes_20 : decode cX3_takes 20 = .ok (.bipush 20, 2) := dk_16 20 (dk_at dksX3_takes_0 20 rfl rfl)
theorem dX3_takes_22 : decode cX3_takes 22 = .ok (.iaload, 1) := dk_46 (dk_at dksX3_takes_0 22 rfl rfl)
theorem dX3_takes_23 : decode cX3_takes 23 = .ok (.if_icmp .lt 7, 3) := dk_161 0 7 (dk_at dksX3_takes_1 0 rfl rfl)
theorem dX3_takes_26 : decode cX3_takes 26 = .ok (.iconst 1, 1) := dk_4 (dk_at dksX3_takes_1 3 rfl rfl)
theorem dX3_takes_27 : decode cX3_takes 27 = .ok (.goto 4, 3) := dk_167 0 4 (dk_at dksX3_takes_1 4 rfl rfl)
theorem dX3_takes_30 : decode cX3_takes 30 = .ok (.iconst 0, 1) := dk_3 (dk_at dksX3_takes_1 7 rfl rfl)
theorem dX3_takes_31 : decode cX3_takes 31 = .ok (.ireturn, 1) := dk_172 (dk_at dksX3_takes_1 8 rfl rfl)
abbrev cX3_puts : ByteArray := prog_20_method_38_code
def yX3_puts : MethodName := ⟨RX3, "puts", "(I)V"⟩
def dkwX3_puts_10 : List UInt8 := [21, 4, 182, 0, 149, 182, 0, 117, 132, 4, 1, 167, 255, 224, 132, 3, 1, 167, 255, 205, 177]
abbrev dktX3_puts_10 : List UInt8 := dkwX3_puts_10 ++ []
def dkwX3_puts_9 : List UInt8 := [54, 4, 21, 4, 8, 162, 0, 32, 42, 27, 7, 8, 29, 104, 96, 21, 4, 96, 42, 27, 29, 4, 96]
abbrev dktX3_puts_9 : List UInt8 := dkwX3_puts_9 ++ dktX3_puts_10
def dkwX3_puts_8 : List UInt8 := [27, 4, 182, 0, 98, 4, 100, 182, 0, 117, 3, 62, 29, 42, 27, 4, 182, 0, 98, 162, 0, 47, 3]
abbrev dktX3_puts_8 : List UInt8 := dkwX3_puts_8 ++ dktX3_puts_9
def dkwX3_puts_7 : List UInt8 := [46, 28, 184, 0, 178, 79, 42, 27, 5, 42, 27, 5, 182, 0, 98, 4, 96, 182, 0, 117, 42, 27, 4, 42]
abbrev dktX3_puts_7 : List UInt8 := dkwX3_puts_7 ++ dktX3_puts_8
def dkwX3_puts_6 : List UInt8 := [79, 42, 180, 0, 7, 16, 13, 92, 46, 28, 96, 79, 42, 180, 0, 7, 16, 14, 42, 180, 0, 7, 16, 14]
abbrev dktX3_puts_6 : List UInt8 := dkwX3_puts_6 ++ dktX3_puts_7
def dkwX3_puts_5 : List UInt8 := [180, 0, 7, 16, 29, 3, 79, 42, 180, 0, 7, 16, 30, 3, 79, 42, 180, 0, 7, 8, 92, 46, 4, 96]
abbrev dktX3_puts_5 : List UInt8 := dkwX3_puts_5 ++ dktX3_puts_6
def dkwX3_puts_4 : List UInt8 := [180, 0, 7, 16, 27, 42, 180, 0, 7, 16, 20, 46, 79, 42, 180, 0, 7, 16, 28, 3, 79, 42]
abbrev dktX3_puts_4 : List UInt8 := dkwX3_puts_4 ++ dktX3_puts_5
def dkwX3_puts_3 : List UInt8 := [42, 27, 3, 5, 182, 0, 149, 79, 42, 180, 0, 7, 16, 26, 42, 27, 3, 6, 182, 0, 149, 79, 42]
abbrev dktX3_puts_3 : List UInt8 := dkwX3_puts_3 ++ dktX3_puts_4
def dkwX3_puts_2 : List UInt8 := [182, 0, 98, 79, 42, 180, 0, 7, 16, 24, 42, 27, 3, 4, 182, 0, 149, 79, 42, 180, 0, 7, 16, 25]
abbrev dktX3_puts_2 : List UInt8 := dkwX3_puts_2 ++ dktX3_puts_3
def dkwX3_puts_1 : List UInt8 := [180, 0, 7, 16, 22, 42, 27, 3, 3, 182, 0, 149, 79, 42, 180, 0, 7, 16, 23, 42, 27, 3]
abbrev dktX3_puts_1 : List UInt8 := dkwX3_puts_1 ++ dktX3_puts_2
def dkwX3_puts_0 : List UInt8 := [42, 180, 0, 7, 3, 46, 42, 27, 3, 7, 182, 0, 149, 100, 61, 42, 180, 0, 7, 16, 18, 5, 79, 42]
abbrev dktX3_puts_0 : List UInt8 := dkwX3_puts_0 ++ dktX3_puts_1
theorem dksX3_puts_0 : cX3_puts.data.toList.drop 0 = dktX3_puts_0 := by decide +kernel
theorem dksX3_puts_1 : cX3_puts.data.toList.drop 24 = dktX3_puts_1 := dk_seg dksX3_puts_0 24 rfl rfl
theorem dksX3_puts_2 : cX3_puts.data.toList.drop 46 = dktX3_puts_2 := dk_seg dksX3_puts_1 22 rfl rfl
theorem dksX3_puts_3 : cX3_puts.data.toList.drop 70 = dktX3_puts_3 := dk_seg dksX3_puts_2 24 rfl rfl
theorem dksX3_puts_4 : cX3_puts.data.toList.drop 93 = dktX3_puts_4 := dk_seg dksX3_puts_3 23 rfl rfl
theorem dksX3_puts_5 : cX3_puts.data.toList.drop 115 = dktX3_puts_5 := dk_seg dksX3_puts_4 22 rfl rfl
theorem dksX3_puts_6 : cX3_puts.data.toList.drop 139 = dktX3_puts_6 := dk_seg dksX3_puts_5 24 rfl rfl
theorem dksX3_puts_7 : cX3_puts.data.toList.drop 163 = dktX3_puts_7 := dk_seg dksX3_puts_6 24 rfl rfl
theorem dksX3_puts_8 : cX3_puts.data.toList.drop 187 = dktX3_puts_8 := dk_seg dksX3_puts_7 24 rfl rfl
theorem dksX3_puts_9 : cX3_puts.data.toList.drop 210 = dktX3_puts_9 := dk_seg dksX3_puts_8 23 rfl rfl
theorem dksX3_puts_10 : cX3_puts.data.toList.drop 233 = dktX3_puts_10 := dk_seg dksX3_puts_9 23 rfl rfl
theorem dX3_puts_0 : decode cX3_puts 0 = .ok (.aload_n 0, 1) := dk_42 (dk_at dksX3_puts_0 0 rfl rfl)
theorem dX3_puts_1 : decode cX3_puts 1 = .ok (.getfield 7, 3) := dk_180 0 7 (dk_at dksX3_puts_0 1 rfl rfl)
theorem dX3_puts_4 : decode cX3_puts 4 = .ok (.iconst 0, 1) := dk_3 (dk_at dksX3_puts_0 4 rfl rfl)
theorem dX3_puts_5 : decode cX3_puts 5 = .ok (.iaload, 1) := dk_46 (dk_at dksX3_puts_0 5 rfl rfl)
theorem dX3_puts_6 : decode cX3_puts 6 = .ok (.aload_n 0, 1) := dk_42 (dk_at dksX3_puts_0 6 rfl rfl)
theorem dX3_puts_7 : decode cX3_puts 7 = .ok (.iload_n 1, 1) := dk_27 (dk_at dksX3_puts_0 7 rfl rfl)
theorem dX3_puts_8 : decode cX3_puts 8 = .ok (.iconst 0, 1) := dk_3 (dk_at dksX3_puts_0 8 rfl rfl)
theorem dX3_puts_9 : decode cX3_puts 9 = .ok (.iconst 4, 1) := dk_7 (dk_at dksX3_puts_0 9 rfl rfl)
theorem dX3_puts_10 : decode cX3_puts 10 = .ok (.invokevirtual 149, 3) := dk_182 0 149 (dk_at dksX3_puts_0 10 rfl rfl)
theorem dX3_puts_13 : decode cX3_puts 13 = .ok (.isub, 1) := dk_100 (dk_at dksX3_puts_0 13 rfl rfl)
theorem dX3_puts_14 : decode cX3_puts 14 = .ok (.istore_n 2, 1) := dk_61 (dk_at dksX3_puts_0 14 rfl rfl)
theorem dX3_puts_15 : decode cX3_puts 15 = .ok (.aload_n 0, 1) := dk_42 (dk_at dksX3_puts_0 15 rfl rfl)
theorem dX3_puts_16 : decode cX3_puts 16 = .ok (.getfield 7, 3) := dk_180 0 7 (dk_at dksX3_puts_0 16 rfl rfl)
theorem dX3_puts_19 : decode cX3_puts 19 = .ok (.bipush 18, 2) := dk_16 18 (dk_at dksX3_puts_0 19 rfl rfl)
theorem dX3_puts_21 : decode cX3_puts 21 = .ok (.iconst 2, 1) := dk_5 (dk_at dksX3_puts_0 21 rfl rfl)
theorem dX3_puts_22 : decode cX3_puts 22 = .ok (.iastore, 1) := dk_79 (dk_at dksX3_puts_0 22 rfl rfl)
theorem dX3_puts_23 : decode cX3_puts 23 = .ok (.aload_n 0, 1) := dk_42 (dk_at dksX3_puts_0 23 rfl rfl)
theorem dX3_puts_24 : decode cX3_puts 24 = .ok (.getfield 7, 3) := dk_180 0 7 (dk_at dksX3_puts_1 0 rfl rfl)
theorem dX3_puts_27 : decode cX3_puts 27 = .ok (.bipush 22, 2) := dk_16 22 (dk_at dksX3_puts_1 3 rfl rfl)
theorem dX3_puts_29 : decode cX3_puts 29 = .ok (.aload_n 0, 1) := dk_42 (dk_at dksX3_puts_1 5 rfl rfl)
theorem dX3_puts_30 : decode cX3_puts 30 = .ok (.iload_n 1, 1) := dk_27 (dk_at dksX3_puts_1 6 rfl rfl)
theorem dX3_puts_31 : decode cX3_puts 31 = .ok (.iconst 0, 1) := dk_3 (dk_at dksX3_puts_1 7 rfl rfl)
theorem dX3_puts_32 : decode cX3_puts 32 = .ok (.iconst 0, 1) := dk_3 (dk_at dksX3_puts_1 8 rfl rfl)
theorem dX3_puts_33 : decode cX3_puts 33 = .ok (.invokevirtual 149, 3) := dk_182 0 149 (dk_at dksX3_puts_1 9 rfl rfl)
theorem dX3_puts_36 : decode cX3_puts 36 = .ok (.iastore, 1) := dk_79 (dk_at dksX3_puts_1 12 rfl rfl)
theorem dX3_puts_37 : decode cX3_puts 37 = .ok (.aload_n 0, 1) := dk_42 (dk_at dksX3_puts_1 13 rfl rfl)
theorem dX3_puts_38 : decode cX3_puts 38 = .ok (.getfield 7, 3) := dk_180 0 7 (dk_at dksX3_puts_1 14 rfl rfl)
theorem dX3_puts_41 : decode cX3_puts 41 = .ok (.bipush 23, 2) := dk_16 23 (dk_at dksX3_puts_1 17 rfl rfl)
theorem dX3_puts_43 : decode cX3_puts 43 = .ok (.aload_n 0, 1) := dk_42 (dk_at dksX3_puts_1 19 rfl rfl)
theorem dX3_puts_44 : decode cX3_puts 44 = .ok (.iload_n 1, 1) := dk_27 (dk_at dksX3_puts_1 20 rfl rfl)
theorem dX3_puts_45 : decode cX3_puts 45 = .ok (.iconst 0, 1) := dk_3 (dk_at dksX3_puts_1 21 rfl rfl)
theorem dX3_puts_46 : decode cX3_puts 46 = .ok (.invokevirtual 98, 3) := dk_182 0 98 (dk_at dksX3_puts_2 0 rfl rfl)
theorem dX3_puts_49 : decode cX3_puts 49 = .ok (.iastore, 1) := dk_79 (dk_at dksX3_puts_2 3 rfl rfl)
theorem dX3_puts_50 : decode cX3_puts 50 = .ok (.aload_n 0, 1) := dk_42 (dk_at dksX3_puts_2 4 rfl rfl)
theorem dX3_puts_51 : decode cX3_puts 51 = .ok (.getfield 7, 3) := dk_180 0 7 (dk_at dksX3_puts_2 5 rfl rfl)
theorem dX3_puts_54 : decode cX3_puts 54 = .ok (.bipush 24, 2) := dk_16 24 (dk_at dksX3_puts_2 8 rfl rfl)
theorem dX3_puts_56 : decode cX3_puts 56 = .ok (.aload_n 0, 1) := dk_42 (dk_at dksX3_puts_2 10 rfl rfl)
theorem dX3_puts_57 : decode cX3_puts 57 = .ok (.iload_n 1, 1) := dk_27 (dk_at dksX3_puts_2 11 rfl rfl)
theorem dX3_puts_58 : decode cX3_puts 58 = .ok (.iconst 0, 1) := dk_3 (dk_at dksX3_puts_2 12 rfl rfl)
theorem dX3_puts_59 : decode cX3_puts 59 = .ok (.iconst 1, 1) := dk_4 (dk_at dksX3_puts_2 13 rfl rfl)
theorem dX3_puts_60 : decode cX3_puts 60 = .ok (.invokevirtual 149, 3) := dk_182 0 149 (dk_at dksX3_puts_2 14 rfl rfl)
theorem dX3_puts_63 : decode cX3_puts 63 = .ok (.iastore, 1) := dk_79 (dk_at dksX3_puts_2 17 rfl rfl)
theorem dX3_puts_64 : decode cX3_puts 64 = .ok (.aload_n 0, 1) := dk_42 (dk_at dksX3_puts_2 18 rfl rfl)
theorem dX3_puts_65 : decode cX3_puts 65 = .ok (.getfield 7, 3) := dk_180 0 7 (dk_at dksX3_puts_2 19 rfl rfl)
theorem dX3_puts_68 : decode cX3_puts 68 = .ok (.bipush 25, 2) := dk_16 25 (dk_at dksX3_puts_2 22 rfl rfl)
theorem dX3_puts_70 : decode cX3_puts 70 = .ok (.aload_n 0, 1) := dk_42 (dk_at dksX3_puts_3 0 rfl rfl)
theorem dX3_puts_71 : decode cX3_puts 71 = .ok (.iload_n 1, 1) := dk_27 (dk_at dksX3_puts_3 1 rfl rfl)
theorem dX3_puts_72 : decode cX3_puts 72 = .ok (.iconst 0, 1) := dk_3 (dk_at dksX3_puts_3 2 rfl rfl)
theorem dX3_puts_73 : decode cX3_puts 73 = .ok (.iconst 2, 1) := dk_5 (dk_at dksX3_puts_3 3 rfl rfl)
theorem dX3_puts_74 : decode cX3_puts 74 = .ok (.invokevirtual 149, 3) := dk_182 0 149 (dk_at dksX3_puts_3 4 rfl rfl)
theorem dX3_puts_77 : decode cX3_puts 77 = .ok (.iastore, 1) := dk_79 (dk_at dksX3_puts_3 7 rfl rfl)
theorem dX3_puts_78 : decode cX3_puts 78 = .ok (.aload_n 0, 1) := dk_42 (dk_at dksX3_puts_3 8 rfl rfl)
theorem dX3_puts_79 : decode cX3_puts 79 = .ok (.getfield 7, 3) := dk_180 0 7 (dk_at dksX3_puts_3 9 rfl rfl)
theorem dX3_puts_82 : decode cX3_puts 82 = .ok (.bipush 26, 2) := dk_16 26 (dk_at dksX3_puts_3 12 rfl rfl)
theorem dX3_puts_84 : decode cX3_puts 84 = .ok (.aload_n 0, 1) := dk_42 (dk_at dksX3_puts_3 14 rfl rfl)
theorem dX3_puts_85 : decode cX3_puts 85 = .ok (.iload_n 1, 1) := dk_27 (dk_at dksX3_puts_3 15 rfl rfl)
theorem dX3_puts_86 : decode cX3_puts 86 = .ok (.iconst 0, 1) := dk_3 (dk_at dksX3_puts_3 16 rfl rfl)
theorem dX3_puts_87 : decode cX3_puts 87 = .ok (.iconst 3, 1) := dk_6 (dk_at dksX3_puts_3 17 rfl rfl)
theorem dX3_puts_88 : decode cX3_puts 88 = .ok (.invokevirtual 149, 3) := dk_182 0 149 (dk_at dksX3_puts_3 18 rfl rfl)
theorem dX3_puts_91 : decode cX3_puts 91 = .ok (.iastore, 1) := dk_79 (dk_at dksX3_puts_3 21 rfl rfl)
theorem dX3_puts_92 : decode cX3_puts 92 = .ok (.aload_n 0, 1) := dk_42 (dk_at dksX3_puts_3 22 rfl rfl)
theorem dX3_puts_93 : decode cX3_puts 93 = .ok (.getfield 7, 3) := dk_180 0 7 (dk_at dksX3_puts_4 0 rfl rfl)
theorem dX3_puts_96 : decode cX3_puts 96 = .ok (.bipush 27, 2) := dk_16 27 (dk_at dksX3_puts_4 3 rfl rfl)
theorem dX3_puts_98 : decode cX3_puts 98 = .ok (.aload_n 0, 1) := dk_42 (dk_at dksX3_puts_4 5 rfl rfl)
theorem dX3_puts_99 : decode cX3_puts 99 = .ok (.getfield 7, 3) := dk_180 0 7 (dk_at dksX3_puts_4 6 rfl rfl)
theorem dX3_puts_102 : decode cX3_puts 102 = .ok (.bipush 20, 2) := dk_16 20 (dk_at dksX3_puts_4 9 rfl rfl)
theorem dX3_puts_104 : decode cX3_puts 104 = .ok (.iaload, 1) := dk_46 (dk_at dksX3_puts_4 11 rfl rfl)
theorem dX3_puts_105 : decode cX3_puts 105 = .ok (.iastore, 1) := dk_79 (dk_at dksX3_puts_4 12 rfl rfl)
theorem dX3_puts_106 : decode cX3_puts 106 = .ok (.aload_n 0, 1) := dk_42 (dk_at dksX3_puts_4 13 rfl rfl)
theorem dX3_puts_107 : decode cX3_puts 107 = .ok (.getfield 7, 3) := dk_180 0 7 (dk_at dksX3_puts_4 14 rfl rfl)
theorem dX3_puts_110 : decode cX3_puts 110 = .ok (.bipush 28, 2) := dk_16 28 (dk_at dksX3_puts_4 17 rfl rfl)
theorem dX3_puts_112 : decode cX3_puts 112 = .ok (.iconst 0, 1) := dk_3 (dk_at dksX3_puts_4 19 rfl rfl)
theorem dX3_puts_113 : decode cX3_puts 113 = .ok (.iastore, 1) := dk_79 (dk_at dksX3_puts_4 20 rfl rfl)
theorem dX3_puts_114 : decode cX3_puts 114 = .ok (.aload_n 0, 1) := dk_42 (dk_at dksX3_puts_4 21 rfl rfl)
theorem dX3_puts_115 : decode cX3_puts 115 = .ok (.getfield 7, 3) := dk_180 0 7 (dk_at dksX3_puts_5 0 rfl rfl)
theorem dX3_puts_118 : decode cX3_puts 118 = .ok (.bipush 29, 2) := dk_16 29 (dk_at dksX3_puts_5 3 rfl rfl)
theorem dX3_puts_120 : decode cX3_puts 120 = .ok (.iconst 0, 1) := dk_3 (dk_at dksX3_puts_5 5 rfl rfl)
theorem dX3_puts_121 : decode cX3_puts 121 = .ok (.iastore, 1) := dk_79 (dk_at dksX3_puts_5 6 rfl rfl)
theorem dX3_puts_122 : decode cX3_puts 122 = .ok (.aload_n 0, 1) := dk_42 (dk_at dksX3_puts_5 7 rfl rfl)
theorem dX3_puts_123 : decode cX3_puts 123 = .ok (.getfield 7, 3) := dk_180 0 7 (dk_at dksX3_puts_5 8 rfl rfl)
theorem dX3_puts_126 : decode cX3_puts 126 = .ok (.bipush 30, 2) := dk_16 30 (dk_at dksX3_puts_5 11 rfl rfl)
theorem dX3_puts_128 : decode cX3_puts 128 = .ok (.iconst 0, 1) := dk_3 (dk_at dksX3_puts_5 13 rfl rfl)
theorem dX3_puts_129 : decode cX3_puts 129 = .ok (.iastore, 1) := dk_79 (dk_at dksX3_puts_5 14 rfl rfl)
theorem dX3_puts_130 : decode cX3_puts 130 = .ok (.aload_n 0, 1) := dk_42 (dk_at dksX3_puts_5 15 rfl rfl)
theorem dX3_puts_131 : decode cX3_puts 131 = .ok (.getfield 7, 3) := dk_180 0 7 (dk_at dksX3_puts_5 16 rfl rfl)
theorem dX3_puts_134 : decode cX3_puts 134 = .ok (.iconst 5, 1) := dk_8 (dk_at dksX3_puts_5 19 rfl rfl)
theorem dX3_puts_135 : decode cX3_puts 135 = .ok (.dup2, 1) := dk_92 (dk_at dksX3_puts_5 20 rfl rfl)
theorem dX3_puts_136 : decode cX3_puts 136 = .ok (.iaload, 1) := dk_46 (dk_at dksX3_puts_5 21 rfl rfl)
theorem dX3_puts_137 : decode cX3_puts 137 = .ok (.iconst 1, 1) := dk_4 (dk_at dksX3_puts_5 22 rfl rfl)
theorem dX3_puts_138 : decode cX3_puts 138 = .ok (.iadd, 1) := dk_96 (dk_at dksX3_puts_5 23 rfl rfl)
theorem dX3_puts_139 : decode cX3_puts 139 = .ok (.iastore, 1) := dk_79 (dk_at dksX3_puts_6 0 rfl rfl)
theorem dX3_puts_140 : decode cX3_puts 140 = .ok (.aload_n 0, 1) := dk_42 (dk_at dksX3_puts_6 1 rfl rfl)
theorem dX3_puts_141 : decode cX3_puts 141 = .ok (.getfield 7, 3) := dk_180 0 7 (dk_at dksX3_puts_6 2 rfl rfl)
theorem dX3_puts_144 : decode cX3_puts 144 = .ok (.bipush 13, 2) := dk_16 13 (dk_at dksX3_puts_6 5 rfl rfl)
theorem dX3_puts_146 : decode cX3_puts 146 = .ok (.dup2, 1) := dk_92 (dk_at dksX3_puts_6 7 rfl rfl)
theorem dX3_puts_147 : decode cX3_puts 147 = .ok (.iaload, 1) := dk_46 (dk_at dksX3_puts_6 8 rfl rfl)
theorem dX3_puts_148 : decode cX3_puts 148 = .ok (.iload_n 2, 1) := dk_28 (dk_at dksX3_puts_6 9 rfl rfl)
theorem dX3_puts_149 : decode cX3_puts 149 = .ok (.iadd, 1) := dk_96 (dk_at dksX3_puts_6 10 rfl rfl)
theorem dX3_puts_150 : decode cX3_puts 150 = .ok (.iastore, 1) := dk_79 (dk_at dksX3_puts_6 11 rfl rfl)
theorem dX3_puts_151 : decode cX3_puts 151 = .ok (.aload_n 0, 1) := dk_42 (dk_at dksX3_puts_6 12 rfl rfl)
theorem dX3_puts_152 : decode cX3_puts 152 = .ok (.getfield 7, 3) := dk_180 0 7 (dk_at dksX3_puts_6 13 rfl rfl)
theorem dX3_puts_155 : decode cX3_puts 155 = .ok (.bipush 14, 2) := dk_16 14 (dk_at dksX3_puts_6 16 rfl rfl)
theorem dX3_puts_157 : decode cX3_puts 157 = .ok (.aload_n 0, 1) := dk_42 (dk_at dksX3_puts_6 18 rfl rfl)
theorem dX3_puts_158 : decode cX3_puts 158 = .ok (.getfield 7, 3) := dk_180 0 7 (dk_at dksX3_puts_6 19 rfl rfl)
theorem dX3_puts_161 : decode cX3_puts 161 = .ok (.bipush 14, 2) := dk_16 14 (dk_at dksX3_puts_6 22 rfl rfl)
theorem dX3_puts_163 : decode cX3_puts 163 = .ok (.iaload, 1) := dk_46 (dk_at dksX3_puts_7 0 rfl rfl)
theorem dX3_puts_164 : decode cX3_puts 164 = .ok (.iload_n 2, 1) := dk_28 (dk_at dksX3_puts_7 1 rfl rfl)
theorem dX3_puts_165 : decode cX3_puts 165 = .ok (.invokestatic 178, 3) := dk_184 0 178 (dk_at dksX3_puts_7 2 rfl rfl)
theorem dX3_puts_168 : decode cX3_puts 168 = .ok (.iastore, 1) := dk_79 (dk_at dksX3_puts_7 5 rfl rfl)
theorem dX3_puts_169 : decode cX3_puts 169 = .ok (.aload_n 0, 1) := dk_42 (dk_at dksX3_puts_7 6 rfl rfl)
theorem dX3_puts_170 : decode cX3_puts 170 = .ok (.iload_n 1, 1) := dk_27 (dk_at dksX3_puts_7 7 rfl rfl)
theorem dX3_puts_171 : decode cX3_puts 171 = .ok (.iconst 2, 1) := dk_5 (dk_at dksX3_puts_7 8 rfl rfl)
theorem dX3_puts_172 : decode cX3_puts 172 = .ok (.aload_n 0, 1) := dk_42 (dk_at dksX3_puts_7 9 rfl rfl)
theorem dX3_puts_173 : decode cX3_puts 173 = .ok (.iload_n 1, 1) := dk_27 (dk_at dksX3_puts_7 10 rfl rfl)
theorem dX3_puts_174 : decode cX3_puts 174 = .ok (.iconst 2, 1) := dk_5 (dk_at dksX3_puts_7 11 rfl rfl)
theorem dX3_puts_175 : decode cX3_puts 175 = .ok (.invokevirtual 98, 3) := dk_182 0 98 (dk_at dksX3_puts_7 12 rfl rfl)
theorem dX3_puts_178 : decode cX3_puts 178 = .ok (.iconst 1, 1) := dk_4 (dk_at dksX3_puts_7 15 rfl rfl)
theorem dX3_puts_179 : decode cX3_puts 179 = .ok (.iadd, 1) := dk_96 (dk_at dksX3_puts_7 16 rfl rfl)
theorem dX3_puts_180 : decode cX3_puts 180 = .ok (.invokevirtual 117, 3) := dk_182 0 117 (dk_at dksX3_puts_7 17 rfl rfl)
theorem dX3_puts_183 : decode cX3_puts 183 = .ok (.aload_n 0, 1) := dk_42 (dk_at dksX3_puts_7 20 rfl rfl)
theorem dX3_puts_184 : decode cX3_puts 184 = .ok (.iload_n 1, 1) := dk_27 (dk_at dksX3_puts_7 21 rfl rfl)
theorem dX3_puts_185 : decode cX3_puts 185 = .ok (.iconst 1, 1) := dk_4 (dk_at dksX3_puts_7 22 rfl rfl)
theorem dX3_puts_186 : decode cX3_puts 186 = .ok (.aload_n 0, 1) := dk_42 (dk_at dksX3_puts_7 23 rfl rfl)
theorem dX3_puts_187 : decode cX3_puts 187 = .ok (.iload_n 1, 1) := dk_27 (dk_at dksX3_puts_8 0 rfl rfl)
theorem dX3_puts_188 : decode cX3_puts 188 = .ok (.iconst 1, 1) := dk_4 (dk_at dksX3_puts_8 1 rfl rfl)
theorem dX3_puts_189 : decode cX3_puts 189 = .ok (.invokevirtual 98, 3) := dk_182 0 98 (dk_at dksX3_puts_8 2 rfl rfl)
theorem dX3_puts_192 : decode cX3_puts 192 = .ok (.iconst 1, 1) := dk_4 (dk_at dksX3_puts_8 5 rfl rfl)
theorem dX3_puts_193 : decode cX3_puts 193 = .ok (.isub, 1) := dk_100 (dk_at dksX3_puts_8 6 rfl rfl)
theorem dX3_puts_194 : decode cX3_puts 194 = .ok (.invokevirtual 117, 3) := dk_182 0 117 (dk_at dksX3_puts_8 7 rfl rfl)
theorem dX3_puts_197 : decode cX3_puts 197 = .ok (.iconst 0, 1) := dk_3 (dk_at dksX3_puts_8 10 rfl rfl)
theorem dX3_puts_198 : decode cX3_puts 198 = .ok (.istore_n 3, 1) := dk_62 (dk_at dksX3_puts_8 11 rfl rfl)
theorem dX3_puts_199 : decode cX3_puts 199 = .ok (.iload_n 3, 1) := dk_29 (dk_at dksX3_puts_8 12 rfl rfl)
theorem dX3_puts_200 : decode cX3_puts 200 = .ok (.aload_n 0, 1) := dk_42 (dk_at dksX3_puts_8 13 rfl rfl)
theorem dX3_puts_201 : decode cX3_puts 201 = .ok (.iload_n 1, 1) := dk_27 (dk_at dksX3_puts_8 14 rfl rfl)
theorem dX3_puts_202 : decode cX3_puts 202 = .ok (.iconst 1, 1) := dk_4 (dk_at dksX3_puts_8 15 rfl rfl)
theorem dX3_puts_203 : decode cX3_puts 203 = .ok (.invokevirtual 98, 3) := dk_182 0 98 (dk_at dksX3_puts_8 16 rfl rfl)
theorem dX3_puts_206 : decode cX3_puts 206 = .ok (.if_icmp .ge 47, 3) := dk_162 0 47 (dk_at dksX3_puts_8 19 rfl rfl)
theorem dX3_puts_209 : decode cX3_puts 209 = .ok (.iconst 0, 1) := dk_3 (dk_at dksX3_puts_8 22 rfl rfl)
theorem dX3_puts_210 : decode cX3_puts 210 = .ok (.istore 4, 2) := dk_54 4 (dk_at dksX3_puts_9 0 rfl rfl)
theorem dX3_puts_212 : decode cX3_puts 212 = .ok (.iload 4, 2) := dk_21 4 (dk_at dksX3_puts_9 2 rfl rfl)
theorem dX3_puts_214 : decode cX3_puts 214 = .ok (.iconst 5, 1) := dk_8 (dk_at dksX3_puts_9 4 rfl rfl)
theorem dX3_puts_215 : decode cX3_puts 215 = .ok (.if_icmp .ge 32, 3) := dk_162 0 32 (dk_at dksX3_puts_9 5 rfl rfl)
theorem dX3_puts_218 : decode cX3_puts 218 = .ok (.aload_n 0, 1) := dk_42 (dk_at dksX3_puts_9 8 rfl rfl)
theorem dX3_puts_219 : decode cX3_puts 219 = .ok (.iload_n 1, 1) := dk_27 (dk_at dksX3_puts_9 9 rfl rfl)
theorem dX3_puts_220 : decode cX3_puts 220 = .ok (.iconst 4, 1) := dk_7 (dk_at dksX3_puts_9 10 rfl rfl)
theorem dX3_puts_221 : decode cX3_puts 221 = .ok (.iconst 5, 1) := dk_8 (dk_at dksX3_puts_9 11 rfl rfl)
theorem dX3_puts_222 : decode cX3_puts 222 = .ok (.iload_n 3, 1) := dk_29 (dk_at dksX3_puts_9 12 rfl rfl)
theorem dX3_puts_223 : decode cX3_puts 223 = .ok (.imul, 1) := dk_104 (dk_at dksX3_puts_9 13 rfl rfl)
theorem dX3_puts_224 : decode cX3_puts 224 = .ok (.iadd, 1) := dk_96 (dk_at dksX3_puts_9 14 rfl rfl)
theorem dX3_puts_225 : decode cX3_puts 225 = .ok (.iload 4, 2) := dk_21 4 (dk_at dksX3_puts_9 15 rfl rfl)
theorem dX3_puts_227 : decode cX3_puts 227 = .ok (.iadd, 1) := dk_96 (dk_at dksX3_puts_9 17 rfl rfl)
theorem dX3_puts_228 : decode cX3_puts 228 = .ok (.aload_n 0, 1) := dk_42 (dk_at dksX3_puts_9 18 rfl rfl)
theorem dX3_puts_229 : decode cX3_puts 229 = .ok (.iload_n 1, 1) := dk_27 (dk_at dksX3_puts_9 19 rfl rfl)
theorem dX3_puts_230 : decode cX3_puts 230 = .ok (.iload_n 3, 1) := dk_29 (dk_at dksX3_puts_9 20 rfl rfl)
theorem dX3_puts_231 : decode cX3_puts 231 = .ok (.iconst 1, 1) := dk_4 (dk_at dksX3_puts_9 21 rfl rfl)
theorem dX3_puts_232 : decode cX3_puts 232 = .ok (.iadd, 1) := dk_96 (dk_at dksX3_puts_9 22 rfl rfl)
theorem dX3_puts_233 : decode cX3_puts 233 = .ok (.iload 4, 2) := dk_21 4 (dk_at dksX3_puts_10 0 rfl rfl)
theorem dX3_puts_235 : decode cX3_puts 235 = .ok (.invokevirtual 149, 3) := dk_182 0 149 (dk_at dksX3_puts_10 2 rfl rfl)
theorem dX3_puts_238 : decode cX3_puts 238 = .ok (.invokevirtual 117, 3) := dk_182 0 117 (dk_at dksX3_puts_10 5 rfl rfl)
theorem dX3_puts_241 : decode cX3_puts 241 = .ok (.iinc 4 1, 3) := dk_132 4 1 (dk_at dksX3_puts_10 8 rfl rfl)
theorem dX3_puts_244 : decode cX3_puts 244 = .ok (.goto (-32), 3) := dk_167 255 224 (dk_at dksX3_puts_10 11 rfl rfl)
theorem dX3_puts_247 : decode cX3_puts 247 = .ok (.iinc 3 1, 3) := dk_132 3 1 (dk_at dksX3_puts_10 14 rfl rfl)
theorem dX3_puts_250 : decode cX3_puts 250 = .ok (.goto (-51), 3) := dk_167 255 205 (dk_at dksX3_puts_10 17 rfl rfl)
theorem dX3_puts_253 : decode cX3_puts 253 = .ok (.return_, 1) := dk_177 (dk_at dksX3_puts_10 20 rfl rfl)
abbrev cX3_most : ByteArray := prog_20_method_4_code
def yX3_most : MethodName := ⟨RX3, "most", "(II)I"⟩
def dkwX3_most_0 : List UInt8 := [26, 27, 164, 0, 7, 26, 167, 0, 4, 27, 172]
abbrev dktX3_most_0 : List UInt8 := dkwX3_most_0 ++ []
theorem dksX3_most_0 : cX3_most.data.toList.drop 0 = dktX3_most_0 := by decide +kernel
theorem dX3_most_0 : decode cX3_most 0 = .ok (.iload_n 0, 1) := dk_26 (dk_at dksX3_most_0 0 rfl rfl)
theorem dX3_most_1 : decode cX3_most 1 = .ok (.iload_n 1, 1) := dk_27 (dk_at dksX3_most_0 1 rfl rfl)
theorem dX3_most_2 : decode cX3_most 2 = .ok (.if_icmp .le 7, 3) := dk_164 0 7 (dk_at dksX3_most_0 2 rfl rfl)
theorem dX3_most_5 : decode cX3_most 5 = .ok (.iload_n 0, 1) := dk_26 (dk_at dksX3_most_0 5 rfl rfl)
theorem dX3_most_6 : decode cX3_most 6 = .ok (.goto 4, 3) := dk_167 0 4 (dk_at dksX3_most_0 6 rfl rfl)
theorem dX3_most_9 : decode cX3_most 9 = .ok (.iload_n 1, 1) := dk_27 (dk_at dksX3_most_0 9 rfl rfl)
theorem dX3_most_10 : decode cX3_most 10 = .ok (.ireturn, 1) := dk_172 (dk_at dksX3_most_0 10 rfl rfl)
abbrev cX3_frameComes : ByteArray := prog_20_method_40_code
def yX3_frameComes : MethodName := ⟨RX3, "frameComes", "(I)I"⟩
def dkwX3_frameComes_10 : List UInt8 := [172]
abbrev dktX3_frameComes_10 : List UInt8 := dkwX3_frameComes_10 ++ []
def dkwX3_frameComes_9 : List UInt8 := [180, 0, 7, 16, 28, 42, 180, 0, 7, 16, 28, 46, 42, 27, 3, 5, 182, 0, 149, 184, 0, 178, 79, 28]
abbrev dktX3_frameComes_9 : List UInt8 := dkwX3_frameComes_9 ++ dktX3_frameComes_10
def dkwX3_frameComes_8 : List UInt8 := [182, 0, 167, 28, 172, 42, 180, 0, 7, 16, 29, 4, 79, 42, 27, 4, 182, 0, 98, 158, 0, 27, 42]
abbrev dktX3_frameComes_8 : List UInt8 := dkwX3_frameComes_8 ++ dktX3_frameComes_9
def dkwX3_frameComes_7 : List UInt8 := [160, 0, 28, 42, 180, 0, 7, 16, 8, 92, 46, 4, 96, 79, 42, 42, 180, 0, 7, 16, 19, 46, 3]
abbrev dktX3_frameComes_7 : List UInt8 := dkwX3_frameComes_7 ++ dktX3_frameComes_8
def dkwX3_frameComes_6 : List UInt8 := [180, 0, 7, 16, 19, 46, 42, 180, 0, 7, 5, 46, 160, 0, 47, 42, 180, 0, 7, 16, 29, 46, 4]
abbrev dktX3_frameComes_6 : List UInt8 := dkwX3_frameComes_6 ++ dktX3_frameComes_7
def dkwX3_frameComes_5 : List UInt8 := [180, 0, 7, 16, 28, 46, 42, 180, 0, 7, 16, 27, 46, 184, 0, 178, 182, 0, 167, 28, 172, 42]
abbrev dktX3_frameComes_5 : List UInt8 := dkwX3_frameComes_5 ++ dktX3_frameComes_6
def dkwX3_frameComes_4 : List UInt8 := [160, 0, 44, 42, 180, 0, 7, 16, 7, 92, 46, 4, 96, 79, 42, 42, 180, 0, 7, 16, 19, 46, 42]
abbrev dktX3_frameComes_4 : List UInt8 := dkwX3_frameComes_4 ++ dktX3_frameComes_5
def dkwX3_frameComes_3 : List UInt8 := [182, 0, 98, 4, 96, 182, 0, 117, 4, 61, 42, 180, 0, 7, 16, 19, 46, 42, 180, 0, 7, 16, 23, 46]
abbrev dktX3_frameComes_3 : List UInt8 := dkwX3_frameComes_3 ++ dktX3_frameComes_4
def dkwX3_frameComes_2 : List UInt8 := [79, 42, 180, 0, 7, 16, 12, 92, 46, 42, 180, 0, 7, 16, 26, 46, 96, 79, 42, 27, 6, 42, 27, 6]
abbrev dktX3_frameComes_2 : List UInt8 := dkwX3_frameComes_2 ++ dktX3_frameComes_3
def dkwX3_frameComes_1 : List UInt8 := [16, 30, 46, 154, 0, 55, 42, 180, 0, 7, 16, 30, 4, 79, 42, 180, 0, 7, 16, 6, 92, 46, 4, 96]
abbrev dktX3_frameComes_1 : List UInt8 := dkwX3_frameComes_1 ++ dktX3_frameComes_2
def dkwX3_frameComes_0 : List UInt8 := [3, 61, 42, 180, 0, 7, 16, 19, 46, 42, 180, 0, 7, 16, 24, 46, 160, 0, 65, 42, 180, 0, 7]
abbrev dktX3_frameComes_0 : List UInt8 := dkwX3_frameComes_0 ++ dktX3_frameComes_1
theorem dksX3_frameComes_0 : cX3_frameComes.data.toList.drop 0 = dktX3_frameComes_0 := by decide +kernel
theorem dksX3_frameComes_1 : cX3_frameComes.data.toList.drop 23 = dktX3_frameComes_1 := dk_seg dksX3_frameComes_0 23 rfl rfl
theorem dksX3_frameComes_2 : cX3_frameComes.data.toList.drop 47 = dktX3_frameComes_2 := dk_seg dksX3_frameComes_1 24 rfl rfl
theorem dksX3_frameComes_3 : cX3_frameComes.data.toList.drop 71 = dktX3_frameComes_3 := dk_seg dksX3_frameComes_2 24 rfl rfl
theorem dksX3_frameComes_4 : cX3_frameComes.data.toList.drop 95 = dktX3_frameComes_4 := dk_seg dksX3_frameComes_3 24 rfl rfl
theorem dksX3_frameComes_5 : cX3_frameComes.data.toList.drop 118 = dktX3_frameComes_5 := dk_seg dksX3_frameComes_4 23 rfl rfl
theorem dksX3_frameComes_6 : cX3_frameComes.data.toList.drop 140 = dktX3_frameComes_6 := dk_seg dksX3_frameComes_5 22 rfl rfl
theorem dksX3_frameComes_7 : cX3_frameComes.data.toList.drop 163 = dktX3_frameComes_7 := dk_seg dksX3_frameComes_6 23 rfl rfl
theorem dksX3_frameComes_8 : cX3_frameComes.data.toList.drop 186 = dktX3_frameComes_8 := dk_seg dksX3_frameComes_7 23 rfl rfl
theorem dksX3_frameComes_9 : cX3_frameComes.data.toList.drop 209 = dktX3_frameComes_9 := dk_seg dksX3_frameComes_8 23 rfl rfl
theorem dksX3_frameComes_10 : cX3_frameComes.data.toList.drop 233 = dktX3_frameComes_10 := dk_seg dksX3_frameComes_9 24 rfl rfl
theorem dX3_frameComes_0 : decode cX3_frameComes 0 = .ok (.iconst 0, 1) := dk_3 (dk_at dksX3_frameComes_0 0 rfl rfl)
theorem dX3_frameComes_1 : decode cX3_frameComes 1 = .ok (.istore_n 2, 1) := dk_61 (dk_at dksX3_frameComes_0 1 rfl rfl)
theorem dX3_frameComes_2 : decode cX3_frameComes 2 = .ok (.aload_n 0, 1) := dk_42 (dk_at dksX3_frameComes_0 2 rfl rfl)
theorem dX3_frameComes_3 : decode cX3_frameComes 3 = .ok (.getfield 7, 3) := dk_180 0 7 (dk_at dksX3_frameComes_0 3 rfl rfl)
theorem dX3_frameComes_6 : decode cX3_frameComes 6 = .ok (.bipush 19, 2) := dk_16 19 (dk_at dksX3_frameComes_0 6 rfl rfl)
theorem dX3_frameComes_8 : decode cX3_frameComes 8 = .ok (.iaload, 1) := dk_46 (dk_at dksX3_frameComes_0 8 rfl rfl)
theorem dX3_frameComes_9 : decode cX3_frameComes 9 = .ok (.aload_n 0, 1) := dk_42 (dk_at dksX3_frameComes_0 9 rfl rfl)
theorem dX3_frameComes_10 : decode cX3_frameComes 10 = .ok (.getfield 7, 3) := dk_180 0 7 (dk_at dksX3_frameComes_0 10 rfl rfl)
theorem dX3_frameComes_13 : decode cX3_frameComes 13 = .ok (.bipush 24, 2) := dk_16 24 (dk_at dksX3_frameComes_0 13 rfl rfl)
theorem dX3_frameComes_15 : decode cX3_frameComes 15 = .ok (.iaload, 1) := dk_46 (dk_at dksX3_frameComes_0 15 rfl rfl)
theorem dX3_frameComes_16 : decode cX3_frameComes 16 = .ok (.if_icmp .ne 65, 3) := dk_160 0 65 (dk_at dksX3_frameComes_0 16 rfl rfl)
theorem dX3_frameComes_19 : decode cX3_frameComes 19 = .ok (.aload_n 0, 1) := dk_42 (dk_at dksX3_frameComes_0 19 rfl rfl)
theorem dX3_frameComes_20 : decode cX3_frameComes 20 = .ok (.getfield 7, 3) := dk_180 0 7 (dk_at dksX3_frameComes_0 20 rfl rfl)
theorem dX3_frameComes_23 : decode cX3_frameComes 23 = .ok (.bipush 30, 2) := dk_16 30 (dk_at dksX3_frameComes_1 0 rfl rfl)
theorem dX3_frameComes_25 : decode cX3_frameComes 25 = .ok (.iaload, 1) := dk_46 (dk_at dksX3_frameComes_1 2 rfl rfl)
theorem dX3_frameComes_26 : decode cX3_frameComes 26 = .ok (.ifCond .ne 55, 3) := dk_154 0 55 (dk_at dksX3_frameComes_1 3 rfl rfl)
theorem dX3_frameComes_29 : decode cX3_frameComes 29 = .ok (.aload_n 0, 1) := dk_42 (dk_at dksX3_frameComes_1 6 rfl rfl)
theorem dX3_frameComes_30 : decode cX3_frameComes 30 = .ok (.getfield 7, 3) := dk_180 0 7 (dk_at dksX3_frameComes_1 7 rfl rfl)
theorem dX3_frameComes_33 : decode cX3_frameComes 33 = .ok (.bipush 30, 2) := dk_16 30 (dk_at dksX3_frameComes_1 10 rfl rfl)
theorem dX3_frameComes_35 : decode cX3_frameComes 35 = .ok (.iconst 1, 1) := dk_4 (dk_at dksX3_frameComes_1 12 rfl rfl)
theorem dX3_frameComes_36 : decode cX3_frameComes 36 = .ok (.iastore, 1) := dk_79 (dk_at dksX3_frameComes_1 13 rfl rfl)
theorem dX3_frameComes_37 : decode cX3_frameComes 37 = .ok (.aload_n 0, 1) := dk_42 (dk_at dksX3_frameComes_1 14 rfl rfl)
theorem dX3_frameComes_38 : decode cX3_frameComes 38 = .ok (.getfield 7, 3) := dk_180 0 7 (dk_at dksX3_frameComes_1 15 rfl rfl)
theorem dX3_frameComes_41 : decode cX3_frameComes 41 = .ok (.bipush 6, 2) := dk_16 6 (dk_at dksX3_frameComes_1 18 rfl rfl)
theorem dX3_frameComes_43 : decode cX3_frameComes 43 = .ok (.dup2, 1) := dk_92 (dk_at dksX3_frameComes_1 20 rfl rfl)
theorem dX3_frameComes_44 : decode cX3_frameComes 44 = .ok (.iaload, 1) := dk_46 (dk_at dksX3_frameComes_1 21 rfl rfl)
theorem dX3_frameComes_45 : decode cX3_frameComes 45 = .ok (.iconst 1, 1) := dk_4 (dk_at dksX3_frameComes_1 22 rfl rfl)
theorem dX3_frameComes_46 : decode cX3_frameComes 46 = .ok (.iadd, 1) := dk_96 (dk_at dksX3_frameComes_1 23 rfl rfl)
theorem dX3_frameComes_47 : decode cX3_frameComes 47 = .ok (.iastore, 1) := dk_79 (dk_at dksX3_frameComes_2 0 rfl rfl)
theorem dX3_frameComes_48 : decode cX3_frameComes 48 = .ok (.aload_n 0, 1) := dk_42 (dk_at dksX3_frameComes_2 1 rfl rfl)
theorem dX3_frameComes_49 : decode cX3_frameComes 49 = .ok (.getfield 7, 3) := dk_180 0 7 (dk_at dksX3_frameComes_2 2 rfl rfl)
theorem dX3_frameComes_52 : decode cX3_frameComes 52 = .ok (.bipush 12, 2) := dk_16 12 (dk_at dksX3_frameComes_2 5 rfl rfl)
theorem dX3_frameComes_54 : decode cX3_frameComes 54 = .ok (.dup2, 1) := dk_92 (dk_at dksX3_frameComes_2 7 rfl rfl)
theorem dX3_frameComes_55 : decode cX3_frameComes 55 = .ok (.iaload, 1) := dk_46 (dk_at dksX3_frameComes_2 8 rfl rfl)
theorem dX3_frameComes_56 : decode cX3_frameComes 56 = .ok (.aload_n 0, 1) := dk_42 (dk_at dksX3_frameComes_2 9 rfl rfl)
theorem dX3_frameComes_57 : decode cX3_frameComes 57 = .ok (.getfield 7, 3) := dk_180 0 7 (dk_at dksX3_frameComes_2 10 rfl rfl)
theorem dX3_frameComes_60 : decode cX3_frameComes 60 = .ok (.bipush 26, 2) := dk_16 26 (dk_at dksX3_frameComes_2 13 rfl rfl)
theorem dX3_frameComes_62 : decode cX3_frameComes 62 = .ok (.iaload, 1) := dk_46 (dk_at dksX3_frameComes_2 15 rfl rfl)
theorem dX3_frameComes_63 : decode cX3_frameComes 63 = .ok (.iadd, 1) := dk_96 (dk_at dksX3_frameComes_2 16 rfl rfl)
theorem dX3_frameComes_64 : decode cX3_frameComes 64 = .ok (.iastore, 1) := dk_79 (dk_at dksX3_frameComes_2 17 rfl rfl)
theorem dX3_frameComes_65 : decode cX3_frameComes 65 = .ok (.aload_n 0, 1) := dk_42 (dk_at dksX3_frameComes_2 18 rfl rfl)
theorem dX3_frameComes_66 : decode cX3_frameComes 66 = .ok (.iload_n 1, 1) := dk_27 (dk_at dksX3_frameComes_2 19 rfl rfl)
theorem dX3_frameComes_67 : decode cX3_frameComes 67 = .ok (.iconst 3, 1) := dk_6 (dk_at dksX3_frameComes_2 20 rfl rfl)
theorem dX3_frameComes_68 : decode cX3_frameComes 68 = .ok (.aload_n 0, 1) := dk_42 (dk_at dksX3_frameComes_2 21 rfl rfl)
theorem dX3_frameComes_69 : decode cX3_frameComes 69 = .ok (.iload_n 1, 1) := dk_27 (dk_at dksX3_frameComes_2 22 rfl rfl)
theorem dX3_frameComes_70 : decode cX3_frameComes 70 = .ok (.iconst 3, 1) := dk_6 (dk_at dksX3_frameComes_2 23 rfl rfl)
theorem dX3_frameComes_71 : decode cX3_frameComes 71 = .ok (.invokevirtual 98, 3) := dk_182 0 98 (dk_at dksX3_frameComes_3 0 rfl rfl)
theorem dX3_frameComes_74 : decode cX3_frameComes 74 = .ok (.iconst 1, 1) := dk_4 (dk_at dksX3_frameComes_3 3 rfl rfl)
theorem dX3_frameComes_75 : decode cX3_frameComes 75 = .ok (.iadd, 1) := dk_96 (dk_at dksX3_frameComes_3 4 rfl rfl)
theorem dX3_frameComes_76 : decode cX3_frameComes 76 = .ok (.invokevirtual 117, 3) := dk_182 0 117 (dk_at dksX3_frameComes_3 5 rfl rfl)
theorem dX3_frameComes_79 : decode cX3_frameComes 79 = .ok (.iconst 1, 1) := dk_4 (dk_at dksX3_frameComes_3 8 rfl rfl)
theorem dX3_frameComes_80 : decode cX3_frameComes 80 = .ok (.istore_n 2, 1) := dk_61 (dk_at dksX3_frameComes_3 9 rfl rfl)
theorem dX3_frameComes_81 : decode cX3_frameComes 81 = .ok (.aload_n 0, 1) := dk_42 (dk_at dksX3_frameComes_3 10 rfl rfl)
theorem dX3_frameComes_82 : decode cX3_frameComes 82 = .ok (.getfield 7, 3) := dk_180 0 7 (dk_at dksX3_frameComes_3 11 rfl rfl)
theorem dX3_frameComes_85 : decode cX3_frameComes 85 = .ok (.bipush 19, 2) := dk_16 19 (dk_at dksX3_frameComes_3 14 rfl rfl)
theorem dX3_frameComes_87 : decode cX3_frameComes 87 = .ok (.iaload, 1) := dk_46 (dk_at dksX3_frameComes_3 16 rfl rfl)
theorem dX3_frameComes_88 : decode cX3_frameComes 88 = .ok (.aload_n 0, 1) := dk_42 (dk_at dksX3_frameComes_3 17 rfl rfl)
theorem dX3_frameComes_89 : decode cX3_frameComes 89 = .ok (.getfield 7, 3) := dk_180 0 7 (dk_at dksX3_frameComes_3 18 rfl rfl)
theorem dX3_frameComes_92 : decode cX3_frameComes 92 = .ok (.bipush 23, 2) := dk_16 23 (dk_at dksX3_frameComes_3 21 rfl rfl)
theorem dX3_frameComes_94 : decode cX3_frameComes 94 = .ok (.iaload, 1) := dk_46 (dk_at dksX3_frameComes_3 23 rfl rfl)
theorem dX3_frameComes_95 : decode cX3_frameComes 95 = .ok (.if_icmp .ne 44, 3) := dk_160 0 44 (dk_at dksX3_frameComes_4 0 rfl rfl)
theorem dX3_frameComes_98 : decode cX3_frameComes 98 = .ok (.aload_n 0, 1) := dk_42 (dk_at dksX3_frameComes_4 3 rfl rfl)
theorem dX3_frameComes_99 : decode cX3_frameComes 99 = .ok (.getfield 7, 3) := dk_180 0 7 (dk_at dksX3_frameComes_4 4 rfl rfl)
theorem dX3_frameComes_102 : decode cX3_frameComes 102 = .ok (.bipush 7, 2) := dk_16 7 (dk_at dksX3_frameComes_4 7 rfl rfl)
theorem dX3_frameComes_104 : decode cX3_frameComes 104 = .ok (.dup2, 1) := dk_92 (dk_at dksX3_frameComes_4 9 rfl rfl)
theorem dX3_frameComes_105 : decode cX3_frameComes 105 = .ok (.iaload, 1) := dk_46 (dk_at dksX3_frameComes_4 10 rfl rfl)
theorem dX3_frameComes_106 : decode cX3_frameComes 106 = .ok (.iconst 1, 1) := dk_4 (dk_at dksX3_frameComes_4 11 rfl rfl)
theorem dX3_frameComes_107 : decode cX3_frameComes 107 = .ok (.iadd, 1) := dk_96 (dk_at dksX3_frameComes_4 12 rfl rfl)
theorem dX3_frameComes_108 : decode cX3_frameComes 108 = .ok (.iastore, 1) := dk_79 (dk_at dksX3_frameComes_4 13 rfl rfl)
theorem dX3_frameComes_109 : decode cX3_frameComes 109 = .ok (.aload_n 0, 1) := dk_42 (dk_at dksX3_frameComes_4 14 rfl rfl)
theorem dX3_frameComes_110 : decode cX3_frameComes 110 = .ok (.aload_n 0, 1) := dk_42 (dk_at dksX3_frameComes_4 15 rfl rfl)
theorem dX3_frameComes_111 : decode cX3_frameComes 111 = .ok (.getfield 7, 3) := dk_180 0 7 (dk_at dksX3_frameComes_4 16 rfl rfl)
theorem dX3_frameComes_114 : decode cX3_frameComes 114 = .ok (.bipush 19, 2) := dk_16 19 (dk_at dksX3_frameComes_4 19 rfl rfl)
theorem dX3_frameComes_116 : decode cX3_frameComes 116 = .ok (.iaload, 1) := dk_46 (dk_at dksX3_frameComes_4 21 rfl rfl)
theorem dX3_frameComes_117 : decode cX3_frameComes 117 = .ok (.aload_n 0, 1) := dk_42 (dk_at dksX3_frameComes_4 22 rfl rfl)
theorem dX3_frameComes_118 : decode cX3_frameComes 118 = .ok (.getfield 7, 3) := dk_180 0 7 (dk_at dksX3_frameComes_5 0 rfl rfl)
theorem dX3_frameComes_121 : decode cX3_frameComes 121 = .ok (.bipush 28, 2) := dk_16 28 (dk_at dksX3_frameComes_5 3 rfl rfl)
theorem dX3_frameComes_123 : decode cX3_frameComes 123 = .ok (.iaload, 1) := dk_46 (dk_at dksX3_frameComes_5 5 rfl rfl)
theorem dX3_frameComes_124 : decode cX3_frameComes 124 = .ok (.aload_n 0, 1) := dk_42 (dk_at dksX3_frameComes_5 6 rfl rfl)
theorem dX3_frameComes_125 : decode cX3_frameComes 125 = .ok (.getfield 7, 3) := dk_180 0 7 (dk_at dksX3_frameComes_5 7 rfl rfl)
theorem dX3_frameComes_128 : decode cX3_frameComes 128 = .ok (.bipush 27, 2) := dk_16 27 (dk_at dksX3_frameComes_5 10 rfl rfl)
theorem dX3_frameComes_130 : decode cX3_frameComes 130 = .ok (.iaload, 1) := dk_46 (dk_at dksX3_frameComes_5 12 rfl rfl)
theorem dX3_frameComes_131 : decode cX3_frameComes 131 = .ok (.invokestatic 178, 3) := dk_184 0 178 (dk_at dksX3_frameComes_5 13 rfl rfl)
theorem dX3_frameComes_134 : decode cX3_frameComes 134 = .ok (.invokevirtual 167, 3) := dk_182 0 167 (dk_at dksX3_frameComes_5 16 rfl rfl)
theorem dX3_frameComes_137 : decode cX3_frameComes 137 = .ok (.iload_n 2, 1) := dk_28 (dk_at dksX3_frameComes_5 19 rfl rfl)
theorem dX3_frameComes_138 : decode cX3_frameComes 138 = .ok (.ireturn, 1) := dk_172 (dk_at dksX3_frameComes_5 20 rfl rfl)
theorem dX3_frameComes_139 : decode cX3_frameComes 139 = .ok (.aload_n 0, 1) := dk_42 (dk_at dksX3_frameComes_5 21 rfl rfl)
theorem dX3_frameComes_140 : decode cX3_frameComes 140 = .ok (.getfield 7, 3) := dk_180 0 7 (dk_at dksX3_frameComes_6 0 rfl rfl)
theorem dX3_frameComes_143 : decode cX3_frameComes 143 = .ok (.bipush 19, 2) := dk_16 19 (dk_at dksX3_frameComes_6 3 rfl rfl)
theorem dX3_frameComes_145 : decode cX3_frameComes 145 = .ok (.iaload, 1) := dk_46 (dk_at dksX3_frameComes_6 5 rfl rfl)
theorem dX3_frameComes_146 : decode cX3_frameComes 146 = .ok (.aload_n 0, 1) := dk_42 (dk_at dksX3_frameComes_6 6 rfl rfl)
theorem dX3_frameComes_147 : decode cX3_frameComes 147 = .ok (.getfield 7, 3) := dk_180 0 7 (dk_at dksX3_frameComes_6 7 rfl rfl)
theorem dX3_frameComes_150 : decode cX3_frameComes 150 = .ok (.iconst 2, 1) := dk_5 (dk_at dksX3_frameComes_6 10 rfl rfl)
theorem dX3_frameComes_151 : decode cX3_frameComes 151 = .ok (.iaload, 1) := dk_46 (dk_at dksX3_frameComes_6 11 rfl rfl)
theorem dX3_frameComes_152 : decode cX3_frameComes 152 = .ok (.if_icmp .ne 47, 3) := dk_160 0 47 (dk_at dksX3_frameComes_6 12 rfl rfl)
theorem dX3_frameComes_155 : decode cX3_frameComes 155 = .ok (.aload_n 0, 1) := dk_42 (dk_at dksX3_frameComes_6 15 rfl rfl)
theorem dX3_frameComes_156 : decode cX3_frameComes 156 = .ok (.getfield 7, 3) := dk_180 0 7 (dk_at dksX3_frameComes_6 16 rfl rfl)
theorem dX3_frameComes_159 : decode cX3_frameComes 159 = .ok (.bipush 29, 2) := dk_16 29 (dk_at dksX3_frameComes_6 19 rfl rfl)
theorem dX3_frameComes_161 : decode cX3_frameComes 161 = .ok (.iaload, 1) := dk_46 (dk_at dksX3_frameComes_6 21 rfl rfl)
theorem dX3_frameComes_162 : decode cX3_frameComes 162 = .ok (.iconst 1, 1) := dk_4 (dk_at dksX3_frameComes_6 22 rfl rfl)
theorem dX3_frameComes_163 : decode cX3_frameComes 163 = .ok (.if_icmp .ne 28, 3) := dk_160 0 28 (dk_at dksX3_frameComes_7 0 rfl rfl)
theorem dX3_frameComes_166 : decode cX3_frameComes 166 = .ok (.aload_n 0, 1) := dk_42 (dk_at dksX3_frameComes_7 3 rfl rfl)
theorem dX3_frameComes_167 : decode cX3_frameComes 167 = .ok (.getfield 7, 3) := dk_180 0 7 (dk_at dksX3_frameComes_7 4 rfl rfl)
theorem dX3_frameComes_170 : decode cX3_frameComes 170 = .ok (.bipush 8, 2) := dk_16 8 (dk_at dksX3_frameComes_7 7 rfl rfl)
theorem dX3_frameComes_172 : decode cX3_frameComes 172 = .ok (.dup2, 1) := dk_92 (dk_at dksX3_frameComes_7 9 rfl rfl)
theorem dX3_frameComes_173 : decode cX3_frameComes 173 = .ok (.iaload, 1) := dk_46 (dk_at dksX3_frameComes_7 10 rfl rfl)
theorem dX3_frameComes_174 : decode cX3_frameComes 174 = .ok (.iconst 1, 1) := dk_4 (dk_at dksX3_frameComes_7 11 rfl rfl)
theorem dX3_frameComes_175 : decode cX3_frameComes 175 = .ok (.iadd, 1) := dk_96 (dk_at dksX3_frameComes_7 12 rfl rfl)
theorem dX3_frameComes_176 : decode cX3_frameComes 176 = .ok (.iastore, 1) := dk_79 (dk_at dksX3_frameComes_7 13 rfl rfl)
theorem dX3_frameComes_177 : decode cX3_frameComes 177 = .ok (.aload_n 0, 1) := dk_42 (dk_at dksX3_frameComes_7 14 rfl rfl)
theorem dX3_frameComes_178 : decode cX3_frameComes 178 = .ok (.aload_n 0, 1) := dk_42 (dk_at dksX3_frameComes_7 15 rfl rfl)
theorem dX3_frameComes_179 : decode cX3_frameComes 179 = .ok (.getfield 7, 3) := dk_180 0 7 (dk_at dksX3_frameComes_7 16 rfl rfl)
theorem dX3_frameComes_182 : decode cX3_frameComes 182 = .ok (.bipush 19, 2) := dk_16 19 (dk_at dksX3_frameComes_7 19 rfl rfl)
theorem dX3_frameComes_184 : decode cX3_frameComes 184 = .ok (.iaload, 1) := dk_46 (dk_at dksX3_frameComes_7 21 rfl rfl)
theorem dX3_frameComes_185 : decode cX3_frameComes 185 = .ok (.iconst 0, 1) := dk_3 (dk_at dksX3_frameComes_7 22 rfl rfl)
theorem dX3_frameComes_186 : decode cX3_frameComes 186 = .ok (.invokevirtual 167, 3) := dk_182 0 167 (dk_at dksX3_frameComes_8 0 rfl rfl)
theorem dX3_frameComes_189 : decode cX3_frameComes 189 = .ok (.iload_n 2, 1) := dk_28 (dk_at dksX3_frameComes_8 3 rfl rfl)
theorem dX3_frameComes_190 : decode cX3_frameComes 190 = .ok (.ireturn, 1) := dk_172 (dk_at dksX3_frameComes_8 4 rfl rfl)
theorem dX3_frameComes_191 : decode cX3_frameComes 191 = .ok (.aload_n 0, 1) := dk_42 (dk_at dksX3_frameComes_8 5 rfl rfl)
theorem dX3_frameComes_192 : decode cX3_frameComes 192 = .ok (.getfield 7, 3) := dk_180 0 7 (dk_at dksX3_frameComes_8 6 rfl rfl)
theorem dX3_frameComes_195 : decode cX3_frameComes 195 = .ok (.bipush 29, 2) := dk_16 29 (dk_at dksX3_frameComes_8 9 rfl rfl)
theorem dX3_frameComes_197 : decode cX3_frameComes 197 = .ok (.iconst 1, 1) := dk_4 (dk_at dksX3_frameComes_8 11 rfl rfl)
theorem dX3_frameComes_198 : decode cX3_frameComes 198 = .ok (.iastore, 1) := dk_79 (dk_at dksX3_frameComes_8 12 rfl rfl)
theorem dX3_frameComes_199 : decode cX3_frameComes 199 = .ok (.aload_n 0, 1) := dk_42 (dk_at dksX3_frameComes_8 13 rfl rfl)
theorem dX3_frameComes_200 : decode cX3_frameComes 200 = .ok (.iload_n 1, 1) := dk_27 (dk_at dksX3_frameComes_8 14 rfl rfl)
theorem dX3_frameComes_201 : decode cX3_frameComes 201 = .ok (.iconst 1, 1) := dk_4 (dk_at dksX3_frameComes_8 15 rfl rfl)
theorem dX3_frameComes_202 : decode cX3_frameComes 202 = .ok (.invokevirtual 98, 3) := dk_182 0 98 (dk_at dksX3_frameComes_8 16 rfl rfl)
theorem dX3_frameComes_205 : decode cX3_frameComes 205 = .ok (.ifCond .le 27, 3) := dk_158 0 27 (dk_at dksX3_frameComes_8 19 rfl rfl)
theorem dX3_frameComes_208 : decode cX3_frameComes 208 = .ok (.aload_n 0, 1) := dk_42 (dk_at dksX3_frameComes_8 22 rfl rfl)
theorem dX3_frameComes_209 : decode cX3_frameComes 209 = .ok (.getfield 7, 3) := dk_180 0 7 (dk_at dksX3_frameComes_9 0 rfl rfl)
theorem dX3_frameComes_212 : decode cX3_frameComes 212 = .ok (.bipush 28, 2) := dk_16 28 (dk_at dksX3_frameComes_9 3 rfl rfl)
theorem dX3_frameComes_214 : decode cX3_frameComes 214 = .ok (.aload_n 0, 1) := dk_42 (dk_at dksX3_frameComes_9 5 rfl rfl)
theorem dX3_frameComes_215 : decode cX3_frameComes 215 = .ok (.getfield 7, 3) := dk_180 0 7 (dk_at dksX3_frameComes_9 6 rfl rfl)
theorem dX3_frameComes_218 : decode cX3_frameComes 218 = .ok (.bipush 28, 2) := dk_16 28 (dk_at dksX3_frameComes_9 9 rfl rfl)
theorem dX3_frameComes_220 : decode cX3_frameComes 220 = .ok (.iaload, 1) := dk_46 (dk_at dksX3_frameComes_9 11 rfl rfl)
theorem dX3_frameComes_221 : decode cX3_frameComes 221 = .ok (.aload_n 0, 1) := dk_42 (dk_at dksX3_frameComes_9 12 rfl rfl)
theorem dX3_frameComes_222 : decode cX3_frameComes 222 = .ok (.iload_n 1, 1) := dk_27 (dk_at dksX3_frameComes_9 13 rfl rfl)
theorem dX3_frameComes_223 : decode cX3_frameComes 223 = .ok (.iconst 0, 1) := dk_3 (dk_at dksX3_frameComes_9 14 rfl rfl)
theorem dX3_frameComes_224 : decode cX3_frameComes 224 = .ok (.iconst 2, 1) := dk_5 (dk_at dksX3_frameComes_9 15 rfl rfl)
theorem dX3_frameComes_225 : decode cX3_frameComes 225 = .ok (.invokevirtual 149, 3) := dk_182 0 149 (dk_at dksX3_frameComes_9 16 rfl rfl)
theorem dX3_frameComes_228 : decode cX3_frameComes 228 = .ok (.invokestatic 178, 3) := dk_184 0 178 (dk_at dksX3_frameComes_9 19 rfl rfl)
theorem dX3_frameComes_231 : decode cX3_frameComes 231 = .ok (.iastore, 1) := dk_79 (dk_at dksX3_frameComes_9 22 rfl rfl)
theorem dX3_frameComes_232 : decode cX3_frameComes 232 = .ok (.iload_n 2, 1) := dk_28 (dk_at dksX3_frameComes_9 23 rfl rfl)
theorem dX3_frameComes_233 : decode cX3_frameComes 233 = .ok (.ireturn, 1) := dk_172 (dk_at dksX3_frameComes_10 0 rfl rfl)
abbrev cX3_onRing : ByteArray := prog_20_method_46_code
def yX3_onRing : MethodName := ⟨RX3, "onRing", "(I)I"⟩
def dkwX3_onRing_6 : List UInt8 := [172, 28, 5, 162, 0, 7, 2, 167, 0, 10, 42, 180, 0, 7, 16, 22, 46, 172, 42, 4, 182, 0, 90, 172]
abbrev dktX3_onRing_6 : List UInt8 := dkwX3_onRing_6 ++ []
def dkwX3_onRing_5 : List UInt8 := [42, 180, 0, 7, 16, 27, 46, 172, 28, 5, 162, 0, 7, 2, 167, 0, 10, 42, 180, 0, 7, 16, 29, 46]
abbrev dktX3_onRing_5 : List UInt8 := dkwX3_onRing_5 ++ dktX3_onRing_6
def dkwX3_onRing_4 : List UInt8 := [162, 0, 7, 2, 167, 0, 10, 42, 180, 0, 7, 16, 28, 46, 172, 28, 5, 162, 0, 7, 2, 167, 0, 10]
abbrev dktX3_onRing_4 : List UInt8 := dkwX3_onRing_4 ++ dktX3_onRing_5
def dkwX3_onRing_3 : List UInt8 := [167, 0, 20, 42, 180, 0, 7, 28, 4, 160, 0, 8, 16, 20, 167, 0, 5, 16, 25, 46, 172, 28, 5]
abbrev dktX3_onRing_3 : List UInt8 := dkwX3_onRing_3 ++ dktX3_onRing_4
def dkwX3_onRing_2 : List UInt8 := [28, 172, 28, 154, 0, 7, 2, 167, 0, 10, 42, 180, 0, 7, 16, 19, 46, 172, 28, 154, 0, 7, 2]
abbrev dktX3_onRing_2 : List UInt8 := dkwX3_onRing_2 ++ dktX3_onRing_3
def dkwX3_onRing_1 : List UInt8 := [170, 0, 0, 0, 0, 154, 0, 0, 0, 0, 0, 0, 0, 6, 0, 0, 0, 42, 0, 0, 0, 44, 0, 0, 0, 60, 0, 0, 0, 86, 0, 0, 0, 103, 0, 0, 0, 120, 0, 0, 0, 137]
abbrev dktX3_onRing_1 : List UInt8 := dkwX3_onRing_1 ++ dktX3_onRing_2
def dkwX3_onRing_0 : List UInt8 := [42, 3, 181, 0, 25, 42, 180, 0, 7, 16, 18, 46, 61, 27]
abbrev dktX3_onRing_0 : List UInt8 := dkwX3_onRing_0 ++ dktX3_onRing_1
theorem dksX3_onRing_0 : cX3_onRing.data.toList.drop 0 = dktX3_onRing_0 := by decide +kernel
theorem dksX3_onRing_1 : cX3_onRing.data.toList.drop 14 = dktX3_onRing_1 := dk_seg dksX3_onRing_0 14 rfl rfl
theorem dksX3_onRing_2 : cX3_onRing.data.toList.drop 56 = dktX3_onRing_2 := dk_seg dksX3_onRing_1 42 rfl rfl
theorem dksX3_onRing_3 : cX3_onRing.data.toList.drop 79 = dktX3_onRing_3 := dk_seg dksX3_onRing_2 23 rfl rfl
theorem dksX3_onRing_4 : cX3_onRing.data.toList.drop 102 = dktX3_onRing_4 := dk_seg dksX3_onRing_3 23 rfl rfl
theorem dksX3_onRing_5 : cX3_onRing.data.toList.drop 126 = dktX3_onRing_5 := dk_seg dksX3_onRing_4 24 rfl rfl
theorem dksX3_onRing_6 : cX3_onRing.data.toList.drop 150 = dktX3_onRing_6 := dk_seg dksX3_onRing_5 24 rfl rfl
theorem dX3_onRing_0 : decode cX3_onRing 0 = .ok (.aload_n 0, 1) := dk_42 (dk_at dksX3_onRing_0 0 rfl rfl)
theorem dX3_onRing_1 : decode cX3_onRing 1 = .ok (.iconst 0, 1) := dk_3 (dk_at dksX3_onRing_0 1 rfl rfl)
theorem dX3_onRing_2 : decode cX3_onRing 2 = .ok (.putfield 25, 3) := dk_181 0 25 (dk_at dksX3_onRing_0 2 rfl rfl)
theorem dX3_onRing_5 : decode cX3_onRing 5 = .ok (.aload_n 0, 1) := dk_42 (dk_at dksX3_onRing_0 5 rfl rfl)
theorem dX3_onRing_6 : decode cX3_onRing 6 = .ok (.getfield 7, 3) := dk_180 0 7 (dk_at dksX3_onRing_0 6 rfl rfl)
theorem dX3_onRing_9 : decode cX3_onRing 9 = .ok (.bipush 18, 2) := dk_16 18 (dk_at dksX3_onRing_0 9 rfl rfl)
theorem dX3_onRing_11 : decode cX3_onRing 11 = .ok (.iaload, 1) := dk_46 (dk_at dksX3_onRing_0 11 rfl rfl)
theorem dX3_onRing_12 : decode cX3_onRing 12 = .ok (.istore_n 2, 1) := dk_61 (dk_at dksX3_onRing_0 12 rfl rfl)
theorem dX3_onRing_13 : decode cX3_onRing 13 = .ok (.iload_n 1, 1) := dk_27 (dk_at dksX3_onRing_0 13 rfl rfl)
theorem dX3_onRing_14 : decode cX3_onRing 14 = .ok (.tableswitch 154 0 6 #[42, 44, 60, 86, 103, 120, 137], 42) := by decide +kernel
theorem dX3_onRing_56 : decode cX3_onRing 56 = .ok (.iload_n 2, 1) := dk_28 (dk_at dksX3_onRing_2 0 rfl rfl)
theorem dX3_onRing_57 : decode cX3_onRing 57 = .ok (.ireturn, 1) := dk_172 (dk_at dksX3_onRing_2 1 rfl rfl)
theorem dX3_onRing_58 : decode cX3_onRing 58 = .ok (.iload_n 2, 1) := dk_28 (dk_at dksX3_onRing_2 2 rfl rfl)
theorem dX3_onRing_59 : decode cX3_onRing 59 = .ok (.ifCond .ne 7, 3) := dk_154 0 7 (dk_at dksX3_onRing_2 3 rfl rfl)
theorem dX3_onRing_62 : decode cX3_onRing 62 = .ok (.iconst (-1), 1) := dk_2 (dk_at dksX3_onRing_2 6 rfl rfl)
theorem dX3_onRing_63 : decode cX3_onRing 63 = .ok (.goto 10, 3) := dk_167 0 10 (dk_at dksX3_onRing_2 7 rfl rfl)
theorem dX3_onRing_66 : decode cX3_onRing 66 = .ok (.aload_n 0, 1) := dk_42 (dk_at dksX3_onRing_2 10 rfl rfl)
theorem dX3_onRing_67 : decode cX3_onRing 67 = .ok (.getfield 7, 3) := dk_180 0 7 (dk_at dksX3_onRing_2 11 rfl rfl)
theorem dX3_onRing_70 : decode cX3_onRing 70 = .ok (.bipush 19, 2) := dk_16 19 (dk_at dksX3_onRing_2 14 rfl rfl)
theorem dX3_onRing_72 : decode cX3_onRing 72 = .ok (.iaload, 1) := dk_46 (dk_at dksX3_onRing_2 16 rfl rfl)
theorem dX3_onRing_73 : decode cX3_onRing 73 = .ok (.ireturn, 1) := dk_172 (dk_at dksX3_onRing_2 17 rfl rfl)
theorem dX3_onRing_74 : decode cX3_onRing 74 = .ok (.iload_n 2, 1) := dk_28 (dk_at dksX3_onRing_2 18 rfl rfl)
theorem dX3_onRing_75 : decode cX3_onRing 75 = .ok (.ifCond .ne 7, 3) := dk_154 0 7 (dk_at dksX3_onRing_2 19 rfl rfl)
theorem dX3_onRing_78 : decode cX3_onRing 78 = .ok (.iconst (-1), 1) := dk_2 (dk_at dksX3_onRing_2 22 rfl rfl)
theorem dX3_onRing_79 : decode cX3_onRing 79 = .ok (.goto 20, 3) := dk_167 0 20 (dk_at dksX3_onRing_3 0 rfl rfl)
theorem dX3_onRing_82 : decode cX3_onRing 82 = .ok (.aload_n 0, 1) := dk_42 (dk_at dksX3_onRing_3 3 rfl rfl)
theorem dX3_onRing_83 : decode cX3_onRing 83 = .ok (.getfield 7, 3) := dk_180 0 7 (dk_at dksX3_onRing_3 4 rfl rfl)
theorem dX3_onRing_86 : decode cX3_onRing 86 = .ok (.iload_n 2, 1) := dk_28 (dk_at dksX3_onRing_3 7 rfl rfl)
theorem dX3_onRing_87 : decode cX3_onRing 87 = .ok (.iconst 1, 1) := dk_4 (dk_at dksX3_onRing_3 8 rfl rfl)
theorem dX3_onRing_88 : decode cX3_onRing 88 = .ok (.if_icmp .ne 8, 3) := dk_160 0 8 (dk_at dksX3_onRing_3 9 rfl rfl)
theorem dX3_onRing_91 : decode cX3_onRing 91 = .ok (.bipush 20, 2) := dk_16 20 (dk_at dksX3_onRing_3 12 rfl rfl)
theorem dX3_onRing_93 : decode cX3_onRing 93 = .ok (.goto 5, 3) := dk_167 0 5 (dk_at dksX3_onRing_3 14 rfl rfl)
theorem dX3_onRing_96 : decode cX3_onRing 96 = .ok (.bipush 25, 2) := dk_16 25 (dk_at dksX3_onRing_3 17 rfl rfl)
theorem dX3_onRing_98 : decode cX3_onRing 98 = .ok (.iaload, 1) := dk_46 (dk_at dksX3_onRing_3 19 rfl rfl)
theorem dX3_onRing_99 : decode cX3_onRing 99 = .ok (.ireturn, 1) := dk_172 (dk_at dksX3_onRing_3 20 rfl rfl)
theorem dX3_onRing_100 : decode cX3_onRing 100 = .ok (.iload_n 2, 1) := dk_28 (dk_at dksX3_onRing_3 21 rfl rfl)
theorem dX3_onRing_101 : decode cX3_onRing 101 = .ok (.iconst 2, 1) := dk_5 (dk_at dksX3_onRing_3 22 rfl rfl)
theorem dX3_onRing_102 : decode cX3_onRing 102 = .ok (.if_icmp .ge 7, 3) := dk_162 0 7 (dk_at dksX3_onRing_4 0 rfl rfl)
theorem dX3_onRing_105 : decode cX3_onRing 105 = .ok (.iconst (-1), 1) := dk_2 (dk_at dksX3_onRing_4 3 rfl rfl)
theorem dX3_onRing_106 : decode cX3_onRing 106 = .ok (.goto 10, 3) := dk_167 0 10 (dk_at dksX3_onRing_4 4 rfl rfl)
theorem dX3_onRing_109 : decode cX3_onRing 109 = .ok (.aload_n 0, 1) := dk_42 (dk_at dksX3_onRing_4 7 rfl rfl)
theorem dX3_onRing_110 : decode cX3_onRing 110 = .ok (.getfield 7, 3) := dk_180 0 7 (dk_at dksX3_onRing_4 8 rfl rfl)
theorem dX3_onRing_113 : decode cX3_onRing 113 = .ok (.bipush 28, 2) := dk_16 28 (dk_at dksX3_onRing_4 11 rfl rfl)
theorem dX3_onRing_115 : decode cX3_onRing 115 = .ok (.iaload, 1) := dk_46 (dk_at dksX3_onRing_4 13 rfl rfl)
theorem dX3_onRing_116 : decode cX3_onRing 116 = .ok (.ireturn, 1) := dk_172 (dk_at dksX3_onRing_4 14 rfl rfl)
theorem dX3_onRing_117 : decode cX3_onRing 117 = .ok (.iload_n 2, 1) := dk_28 (dk_at dksX3_onRing_4 15 rfl rfl)
theorem dX3_onRing_118 : decode cX3_onRing 118 = .ok (.iconst 2, 1) := dk_5 (dk_at dksX3_onRing_4 16 rfl rfl)
theorem dX3_onRing_119 : decode cX3_onRing 119 = .ok (.if_icmp .ge 7, 3) := dk_162 0 7 (dk_at dksX3_onRing_4 17 rfl rfl)
theorem dX3_onRing_122 : decode cX3_onRing 122 = .ok (.iconst (-1), 1) := dk_2 (dk_at dksX3_onRing_4 20 rfl rfl)
theorem dX3_onRing_123 : decode cX3_onRing 123 = .ok (.goto 10, 3) := dk_167 0 10 (dk_at dksX3_onRing_4 21 rfl rfl)
theorem dX3_onRing_126 : decode cX3_onRing 126 = .ok (.aload_n 0, 1) := dk_42 (dk_at dksX3_onRing_5 0 rfl rfl)
theorem dX3_onRing_127 : decode cX3_onRing 127 = .ok (.getfield 7, 3) := dk_180 0 7 (dk_at dksX3_onRing_5 1 rfl rfl)
theorem dX3_onRing_130 : decode cX3_onRing 130 = .ok (.bipush 27, 2) := dk_16 27 (dk_at dksX3_onRing_5 4 rfl rfl)
theorem dX3_onRing_132 : decode cX3_onRing 132 = .ok (.iaload, 1) := dk_46 (dk_at dksX3_onRing_5 6 rfl rfl)
theorem dX3_onRing_133 : decode cX3_onRing 133 = .ok (.ireturn, 1) := dk_172 (dk_at dksX3_onRing_5 7 rfl rfl)
theorem dX3_onRing_134 : decode cX3_onRing 134 = .ok (.iload_n 2, 1) := dk_28 (dk_at dksX3_onRing_5 8 rfl rfl)
theorem dX3_onRing_135 : decode cX3_onRing 135 = .ok (.iconst 2, 1) := dk_5 (dk_at dksX3_onRing_5 9 rfl rfl)
theorem dX3_onRing_136 : decode cX3_onRing 136 = .ok (.if_icmp .ge 7, 3) := dk_162 0 7 (dk_at dksX3_onRing_5 10 rfl rfl)
theorem dX3_onRing_139 : decode cX3_onRing 139 = .ok (.iconst (-1), 1) := dk_2 (dk_at dksX3_onRing_5 13 rfl rfl)
theorem dX3_onRing_140 : decode cX3_onRing 140 = .ok (.goto 10, 3) := dk_167 0 10 (dk_at dksX3_onRing_5 14 rfl rfl)
theorem dX3_onRing_143 : decode cX3_onRing 143 = .ok (.aload_n 0, 1) := dk_42 (dk_at dksX3_onRing_5 17 rfl rfl)
theorem dX3_onRing_144 : decode cX3_onRing 144 = .ok (.getfield 7, 3) := dk_180 0 7 (dk_at dksX3_onRing_5 18 rfl rfl)
theorem dX3_onRing_147 : decode cX3_onRing 147 = .ok (.bipush 29, 2) := dk_16 29 (dk_at dksX3_onRing_5 21 rfl rfl)
theorem dX3_onRing_149 : decode cX3_onRing 149 = .ok (.iaload, 1) := dk_46 (dk_at dksX3_onRing_5 23 rfl rfl)
theorem dX3_onRing_150 : decode cX3_onRing 150 = .ok (.ireturn, 1) := dk_172 (dk_at dksX3_onRing_6 0 rfl rfl)
theorem dX3_onRing_151 : decode cX3_onRing 151 = .ok (.iload_n 2, 1) := dk_28 (dk_at dksX3_onRing_6 1 rfl rfl)
theorem dX3_onRing_152 : decode cX3_onRing 152 = .ok (.iconst 2, 1) := dk_5 (dk_at dksX3_onRing_6 2 rfl rfl)
theorem dX3_onRing_153 : decode cX3_onRing 153 = .ok (.if_icmp .ge 7, 3) := dk_162 0 7 (dk_at dksX3_onRing_6 3 rfl rfl)
theorem dX3_onRing_156 : decode cX3_onRing 156 = .ok (.iconst (-1), 1) := dk_2 (dk_at dksX3_onRing_6 6 rfl rfl)
theorem dX3_onRing_157 : decode cX3_onRing 157 = .ok (.goto 10, 3) := dk_167 0 10 (dk_at dksX3_onRing_6 7 rfl rfl)
theorem dX3_onRing_160 : decode cX3_onRing 160 = .ok (.aload_n 0, 1) := dk_42 (dk_at dksX3_onRing_6 10 rfl rfl)
theorem dX3_onRing_161 : decode cX3_onRing 161 = .ok (.getfield 7, 3) := dk_180 0 7 (dk_at dksX3_onRing_6 11 rfl rfl)
theorem dX3_onRing_164 : decode cX3_onRing 164 = .ok (.bipush 22, 2) := dk_16 22 (dk_at dksX3_onRing_6 14 rfl rfl)
theorem dX3_onRing_166 : decode cX3_onRing 166 = .ok (.iaload, 1) := dk_46 (dk_at dksX3_onRing_6 16 rfl rfl)
theorem dX3_onRing_167 : decode cX3_onRing 167 = .ok (.ireturn, 1) := dk_172 (dk_at dksX3_onRing_6 17 rfl rfl)
theorem dX3_onRing_168 : decode cX3_onRing 168 = .ok (.aload_n 0, 1) := dk_42 (dk_at dksX3_onRing_6 18 rfl rfl)
theorem dX3_onRing_169 : decode cX3_onRing 169 = .ok (.iconst 1, 1) := dk_4 (dk_at dksX3_onRing_6 19 rfl rfl)
theorem dX3_onRing_170 : decode cX3_onRing 170 = .ok (.invokevirtual 90, 3) := dk_182 0 90 (dk_at dksX3_onRing_6 20 rfl rfl)
theorem dX3_onRing_173 : decode cX3_onRing 173 = .ok (.ireturn, 1) := dk_172 (dk_at dksX3_onRing_6 23 rfl rfl)
abbrev cX3_stationAt : ByteArray := prog_20_method_47_code
def yX3_stationAt : MethodName := ⟨RX3, "stationAt", "(I)I"⟩
def dkwX3_stationAt_1 : List UInt8 := [182, 0, 98, 167, 0, 8, 42, 4, 182, 0, 90, 172]
abbrev dktX3_stationAt_1 : List UInt8 := dkwX3_stationAt_1 ++ []
def dkwX3_stationAt_0 : List UInt8 := [42, 3, 181, 0, 25, 27, 3, 42, 180, 0, 7, 4, 46, 4, 100, 184, 0, 102, 153, 0, 12, 42, 27, 3]
abbrev dktX3_stationAt_0 : List UInt8 := dkwX3_stationAt_0 ++ dktX3_stationAt_1
theorem dksX3_stationAt_0 : cX3_stationAt.data.toList.drop 0 = dktX3_stationAt_0 := by decide +kernel
theorem dksX3_stationAt_1 : cX3_stationAt.data.toList.drop 24 = dktX3_stationAt_1 := dk_seg dksX3_stationAt_0 24 rfl rfl
theorem dX3_stationAt_0 : decode cX3_stationAt 0 = .ok (.aload_n 0, 1) := dk_42 (dk_at dksX3_stationAt_0 0 rfl rfl)
theorem dX3_stationAt_1 : decode cX3_stationAt 1 = .ok (.iconst 0, 1) := dk_3 (dk_at dksX3_stationAt_0 1 rfl rfl)
theorem dX3_stationAt_2 : decode cX3_stationAt 2 = .ok (.putfield 25, 3) := dk_181 0 25 (dk_at dksX3_stationAt_0 2 rfl rfl)
theorem dX3_stationAt_5 : decode cX3_stationAt 5 = .ok (.iload_n 1, 1) := dk_27 (dk_at dksX3_stationAt_0 5 rfl rfl)
theorem dX3_stationAt_6 : decode cX3_stationAt 6 = .ok (.iconst 0, 1) := dk_3 (dk_at dksX3_stationAt_0 6 rfl rfl)
theorem dX3_stationAt_7 : decode cX3_stationAt 7 = .ok (.aload_n 0, 1) := dk_42 (dk_at dksX3_stationAt_0 7 rfl rfl)
theorem dX3_stationAt_8 : decode cX3_stationAt 8 = .ok (.getfield 7, 3) := dk_180 0 7 (dk_at dksX3_stationAt_0 8 rfl rfl)
theorem dX3_stationAt_11 : decode cX3_stationAt 11 = .ok (.iconst 1, 1) := dk_4 (dk_at dksX3_stationAt_0 11 rfl rfl)
theorem dX3_stationAt_12 : decode cX3_stationAt 12 = .ok (.iaload, 1) := dk_46 (dk_at dksX3_stationAt_0 12 rfl rfl)
theorem dX3_stationAt_13 : decode cX3_stationAt 13 = .ok (.iconst 1, 1) := dk_4 (dk_at dksX3_stationAt_0 13 rfl rfl)
theorem dX3_stationAt_14 : decode cX3_stationAt 14 = .ok (.isub, 1) := dk_100 (dk_at dksX3_stationAt_0 14 rfl rfl)
theorem dX3_stationAt_15 : decode cX3_stationAt 15 = .ok (.invokestatic 102, 3) := dk_184 0 102 (dk_at dksX3_stationAt_0 15 rfl rfl)
theorem dX3_stationAt_18 : decode cX3_stationAt 18 = .ok (.ifCond .eq 12, 3) := dk_153 0 12 (dk_at dksX3_stationAt_0 18 rfl rfl)
theorem dX3_stationAt_21 : decode cX3_stationAt 21 = .ok (.aload_n 0, 1) := dk_42 (dk_at dksX3_stationAt_0 21 rfl rfl)
theorem dX3_stationAt_22 : decode cX3_stationAt 22 = .ok (.iload_n 1, 1) := dk_27 (dk_at dksX3_stationAt_0 22 rfl rfl)
theorem dX3_stationAt_23 : decode cX3_stationAt 23 = .ok (.iconst 0, 1) := dk_3 (dk_at dksX3_stationAt_0 23 rfl rfl)
theorem dX3_stationAt_24 : decode cX3_stationAt 24 = .ok (.invokevirtual 98, 3) := dk_182 0 98 (dk_at dksX3_stationAt_1 0 rfl rfl)
theorem dX3_stationAt_27 : decode cX3_stationAt 27 = .ok (.goto 8, 3) := dk_167 0 8 (dk_at dksX3_stationAt_1 3 rfl rfl)
theorem dX3_stationAt_30 : decode cX3_stationAt 30 = .ok (.aload_n 0, 1) := dk_42 (dk_at dksX3_stationAt_1 6 rfl rfl)
theorem dX3_stationAt_31 : decode cX3_stationAt 31 = .ok (.iconst 1, 1) := dk_4 (dk_at dksX3_stationAt_1 7 rfl rfl)
theorem dX3_stationAt_32 : decode cX3_stationAt 32 = .ok (.invokevirtual 90, 3) := dk_182 0 90 (dk_at dksX3_stationAt_1 8 rfl rfl)
theorem dX3_stationAt_35 : decode cX3_stationAt 35 = .ok (.ireturn, 1) := dk_172 (dk_at dksX3_stationAt_1 11 rfl rfl)
abbrev cX3_waits : ByteArray := prog_20_method_48_code
def yX3_waits : MethodName := ⟨RX3, "waits", "(II)I"⟩
def dkwX3_waits_2 : List UInt8 := [5, 182, 0, 90, 172]
abbrev dktX3_waits_2 : List UInt8 := dkwX3_waits_2 ++ []
def dkwX3_waits_1 : List UInt8 := [29, 4, 182, 0, 98, 4, 100, 184, 0, 102, 153, 0, 13, 42, 29, 28, 3, 182, 0, 149, 167, 0, 8, 42]
abbrev dktX3_waits_1 : List UInt8 := dkwX3_waits_1 ++ dktX3_waits_2
def dkwX3_waits_0 : List UInt8 := [42, 3, 181, 0, 25, 42, 27, 182, 0, 106, 62, 29, 156, 0, 9, 42, 4, 182, 0, 90, 172, 28, 3, 42]
abbrev dktX3_waits_0 : List UInt8 := dkwX3_waits_0 ++ dktX3_waits_1
theorem dksX3_waits_0 : cX3_waits.data.toList.drop 0 = dktX3_waits_0 := by decide +kernel
theorem dksX3_waits_1 : cX3_waits.data.toList.drop 24 = dktX3_waits_1 := dk_seg dksX3_waits_0 24 rfl rfl
theorem dksX3_waits_2 : cX3_waits.data.toList.drop 48 = dktX3_waits_2 := dk_seg dksX3_waits_1 24 rfl rfl
theorem dX3_waits_0 : decode cX3_waits 0 = .ok (.aload_n 0, 1) := dk_42 (dk_at dksX3_waits_0 0 rfl rfl)
theorem dX3_waits_1 : decode cX3_waits 1 = .ok (.iconst 0, 1) := dk_3 (dk_at dksX3_waits_0 1 rfl rfl)
theorem dX3_waits_2 : decode cX3_waits 2 = .ok (.putfield 25, 3) := dk_181 0 25 (dk_at dksX3_waits_0 2 rfl rfl)
theorem dX3_waits_5 : decode cX3_waits 5 = .ok (.aload_n 0, 1) := dk_42 (dk_at dksX3_waits_0 5 rfl rfl)
theorem dX3_waits_6 : decode cX3_waits 6 = .ok (.iload_n 1, 1) := dk_27 (dk_at dksX3_waits_0 6 rfl rfl)
theorem dX3_waits_7 : decode cX3_waits 7 = .ok (.invokevirtual 106, 3) := dk_182 0 106 (dk_at dksX3_waits_0 7 rfl rfl)
theorem dX3_waits_10 : decode cX3_waits 10 = .ok (.istore_n 3, 1) := dk_62 (dk_at dksX3_waits_0 10 rfl rfl)
theorem dX3_waits_11 : decode cX3_waits 11 = .ok (.iload_n 3, 1) := dk_29 (dk_at dksX3_waits_0 11 rfl rfl)
theorem dX3_waits_12 : decode cX3_waits 12 = .ok (.ifCond .ge 9, 3) := dk_156 0 9 (dk_at dksX3_waits_0 12 rfl rfl)
theorem dX3_waits_15 : decode cX3_waits 15 = .ok (.aload_n 0, 1) := dk_42 (dk_at dksX3_waits_0 15 rfl rfl)
theorem dX3_waits_16 : decode cX3_waits 16 = .ok (.iconst 1, 1) := dk_4 (dk_at dksX3_waits_0 16 rfl rfl)
theorem dX3_waits_17 : decode cX3_waits 17 = .ok (.invokevirtual 90, 3) := dk_182 0 90 (dk_at dksX3_waits_0 17 rfl rfl)
theorem dX3_waits_20 : decode cX3_waits 20 = .ok (.ireturn, 1) := dk_172 (dk_at dksX3_waits_0 20 rfl rfl)
theorem dX3_waits_21 : decode cX3_waits 21 = .ok (.iload_n 2, 1) := dk_28 (dk_at dksX3_waits_0 21 rfl rfl)
theorem dX3_waits_22 : decode cX3_waits 22 = .ok (.iconst 0, 1) := dk_3 (dk_at dksX3_waits_0 22 rfl rfl)
theorem dX3_waits_23 : decode cX3_waits 23 = .ok (.aload_n 0, 1) := dk_42 (dk_at dksX3_waits_0 23 rfl rfl)
theorem dX3_waits_24 : decode cX3_waits 24 = .ok (.iload_n 3, 1) := dk_29 (dk_at dksX3_waits_1 0 rfl rfl)
theorem dX3_waits_25 : decode cX3_waits 25 = .ok (.iconst 1, 1) := dk_4 (dk_at dksX3_waits_1 1 rfl rfl)
theorem dX3_waits_26 : decode cX3_waits 26 = .ok (.invokevirtual 98, 3) := dk_182 0 98 (dk_at dksX3_waits_1 2 rfl rfl)
theorem dX3_waits_29 : decode cX3_waits 29 = .ok (.iconst 1, 1) := dk_4 (dk_at dksX3_waits_1 5 rfl rfl)
theorem dX3_waits_30 : decode cX3_waits 30 = .ok (.isub, 1) := dk_100 (dk_at dksX3_waits_1 6 rfl rfl)
theorem dX3_waits_31 : decode cX3_waits 31 = .ok (.invokestatic 102, 3) := dk_184 0 102 (dk_at dksX3_waits_1 7 rfl rfl)
theorem dX3_waits_34 : decode cX3_waits 34 = .ok (.ifCond .eq 13, 3) := dk_153 0 13 (dk_at dksX3_waits_1 10 rfl rfl)
theorem dX3_waits_37 : decode cX3_waits 37 = .ok (.aload_n 0, 1) := dk_42 (dk_at dksX3_waits_1 13 rfl rfl)
theorem dX3_waits_38 : decode cX3_waits 38 = .ok (.iload_n 3, 1) := dk_29 (dk_at dksX3_waits_1 14 rfl rfl)
theorem dX3_waits_39 : decode cX3_waits 39 = .ok (.iload_n 2, 1) := dk_28 (dk_at dksX3_waits_1 15 rfl rfl)
theorem dX3_waits_40 : decode cX3_waits 40 = .ok (.iconst 0, 1) := dk_3 (dk_at dksX3_waits_1 16 rfl rfl)
theorem dX3_waits_41 : decode cX3_waits 41 = .ok (.invokevirtual 149, 3) := dk_182 0 149 (dk_at dksX3_waits_1 17 rfl rfl)
theorem dX3_waits_44 : decode cX3_waits 44 = .ok (.goto 8, 3) := dk_167 0 8 (dk_at dksX3_waits_1 20 rfl rfl)
theorem dX3_waits_47 : decode cX3_waits 47 = .ok (.aload_n 0, 1) := dk_42 (dk_at dksX3_waits_1 23 rfl rfl)
theorem dX3_waits_48 : decode cX3_waits 48 = .ok (.iconst 2, 1) := dk_5 (dk_at dksX3_waits_2 0 rfl rfl)
theorem dX3_waits_49 : decode cX3_waits 49 = .ok (.invokevirtual 90, 3) := dk_182 0 90 (dk_at dksX3_waits_2 1 rfl rfl)
theorem dX3_waits_52 : decode cX3_waits 52 = .ok (.ireturn, 1) := dk_172 (dk_at dksX3_waits_2 4 rfl rfl)
abbrev cX3_rankOf : ByteArray := prog_20_method_51_code
def yX3_rankOf : MethodName := ⟨RX3, "rankOf", "(I)I"⟩
def dkwX3_rankOf_2 : List UInt8 := [112, 5, 182, 0, 149, 172]
abbrev dktX3_rankOf_2 : List UInt8 := dkwX3_rankOf_2 ++ []
def dkwX3_rankOf_1 : List UInt8 := [182, 0, 212, 61, 28, 156, 0, 11, 42, 4, 182, 0, 90, 167, 0, 16, 42, 28, 16, 12, 108, 28, 16, 12]
abbrev dktX3_rankOf_1 : List UInt8 := dkwX3_rankOf_1 ++ dktX3_rankOf_2
def dkwX3_rankOf_0 : List UInt8 := [42, 3, 181, 0, 25, 42, 27, 182, 0, 209, 153, 0, 11, 42, 180, 0, 7, 16, 25, 46, 172, 42, 27]
abbrev dktX3_rankOf_0 : List UInt8 := dkwX3_rankOf_0 ++ dktX3_rankOf_1
theorem dksX3_rankOf_0 : cX3_rankOf.data.toList.drop 0 = dktX3_rankOf_0 := by decide +kernel
theorem dksX3_rankOf_1 : cX3_rankOf.data.toList.drop 23 = dktX3_rankOf_1 := dk_seg dksX3_rankOf_0 23 rfl rfl
theorem dksX3_rankOf_2 : cX3_rankOf.data.toList.drop 47 = dktX3_rankOf_2 := dk_seg dksX3_rankOf_1 24 rfl rfl
theorem dX3_rankOf_0 : decode cX3_rankOf 0 = .ok (.aload_n 0, 1) := dk_42 (dk_at dksX3_rankOf_0 0 rfl rfl)
theorem dX3_rankOf_1 : decode cX3_rankOf 1 = .ok (.iconst 0, 1) := dk_3 (dk_at dksX3_rankOf_0 1 rfl rfl)
theorem dX3_rankOf_2 : decode cX3_rankOf 2 = .ok (.putfield 25, 3) := dk_181 0 25 (dk_at dksX3_rankOf_0 2 rfl rfl)
theorem dX3_rankOf_5 : decode cX3_rankOf 5 = .ok (.aload_n 0, 1) := dk_42 (dk_at dksX3_rankOf_0 5 rfl rfl)
theorem dX3_rankOf_6 : decode cX3_rankOf 6 = .ok (.iload_n 1, 1) := dk_27 (dk_at dksX3_rankOf_0 6 rfl rfl)
theorem dX3_rankOf_7 : decode cX3_rankOf 7 = .ok (.invokevirtual 209, 3) := dk_182 0 209 (dk_at dksX3_rankOf_0 7 rfl rfl)
theorem dX3_rankOf_10 : decode cX3_rankOf 10 = .ok (.ifCond .eq 11, 3) := dk_153 0 11 (dk_at dksX3_rankOf_0 10 rfl rfl)
theorem dX3_rankOf_13 : decode cX3_rankOf 13 = .ok (.aload_n 0, 1) := dk_42 (dk_at dksX3_rankOf_0 13 rfl rfl)
theorem dX3_rankOf_14 : decode cX3_rankOf 14 = .ok (.getfield 7, 3) := dk_180 0 7 (dk_at dksX3_rankOf_0 14 rfl rfl)
theorem dX3_rankOf_17 : decode cX3_rankOf 17 = .ok (.bipush 25, 2) := dk_16 25 (dk_at dksX3_rankOf_0 17 rfl rfl)
theorem dX3_rankOf_19 : decode cX3_rankOf 19 = .ok (.iaload, 1) := dk_46 (dk_at dksX3_rankOf_0 19 rfl rfl)
theorem dX3_rankOf_20 : decode cX3_rankOf 20 = .ok (.ireturn, 1) := dk_172 (dk_at dksX3_rankOf_0 20 rfl rfl)
theorem dX3_rankOf_21 : decode cX3_rankOf 21 = .ok (.aload_n 0, 1) := dk_42 (dk_at dksX3_rankOf_0 21 rfl rfl)
theorem dX3_rankOf_22 : decode cX3_rankOf 22 = .ok (.iload_n 1, 1) := dk_27 (dk_at dksX3_rankOf_0 22 rfl rfl)
theorem dX3_rankOf_23 : decode cX3_rankOf 23 = .ok (.invokevirtual 212, 3) := dk_182 0 212 (dk_at dksX3_rankOf_1 0 rfl rfl)
theorem dX3_rankOf_26 : decode cX3_rankOf 26 = .ok (.istore_n 2, 1) := dk_61 (dk_at dksX3_rankOf_1 3 rfl rfl)
theorem dX3_rankOf_27 : decode cX3_rankOf 27 = .ok (.iload_n 2, 1) := dk_28 (dk_at dksX3_rankOf_1 4 rfl rfl)
theorem dX3_rankOf_28 : decode cX3_rankOf 28 = .ok (.ifCond .ge 11, 3) := dk_156 0 11 (dk_at dksX3_rankOf_1 5 rfl rfl)
theorem dX3_rankOf_31 : decode cX3_rankOf 31 = .ok (.aload_n 0, 1) := dk_42 (dk_at dksX3_rankOf_1 8 rfl rfl)
theorem dX3_rankOf_32 : decode cX3_rankOf 32 = .ok (.iconst 1, 1) := dk_4 (dk_at dksX3_rankOf_1 9 rfl rfl)
theorem dX3_rankOf_33 : decode cX3_rankOf 33 = .ok (.invokevirtual 90, 3) := dk_182 0 90 (dk_at dksX3_rankOf_1 10 rfl rfl)
theorem dX3_rankOf_36 : decode cX3_rankOf 36 = .ok (.goto 16, 3) := dk_167 0 16 (dk_at dksX3_rankOf_1 13 rfl rfl)
theorem dX3_rankOf_39 : decode cX3_rankOf 39 = .ok (.aload_n 0, 1) := dk_42 (dk_at dksX3_rankOf_1 16 rfl rfl)
theorem dX3_rankOf_40 : decode cX3_rankOf 40 = .ok (.iload_n 2, 1) := dk_28 (dk_at dksX3_rankOf_1 17 rfl rfl)
theorem dX3_rankOf_41 : decode cX3_rankOf 41 = .ok (.bipush 12, 2) := dk_16 12 (dk_at dksX3_rankOf_1 18 rfl rfl)
theorem dX3_rankOf_43 : decode cX3_rankOf 43 = .ok (.idiv, 1) := dk_108 (dk_at dksX3_rankOf_1 20 rfl rfl)
theorem dX3_rankOf_44 : decode cX3_rankOf 44 = .ok (.iload_n 2, 1) := dk_28 (dk_at dksX3_rankOf_1 21 rfl rfl)
theorem dX3_rankOf_45 : decode cX3_rankOf 45 = .ok (.bipush 12, 2) := dk_16 12 (dk_at dksX3_rankOf_1 22 rfl rfl)
theorem dX3_rankOf_47 : decode cX3_rankOf 47 = .ok (.irem, 1) := dk_112 (dk_at dksX3_rankOf_2 0 rfl rfl)
theorem dX3_rankOf_48 : decode cX3_rankOf 48 = .ok (.iconst 2, 1) := dk_5 (dk_at dksX3_rankOf_2 1 rfl rfl)
theorem dX3_rankOf_49 : decode cX3_rankOf 49 = .ok (.invokevirtual 149, 3) := dk_182 0 149 (dk_at dksX3_rankOf_2 2 rfl rfl)
theorem dX3_rankOf_52 : decode cX3_rankOf 52 = .ok (.ireturn, 1) := dk_172 (dk_at dksX3_rankOf_2 5 rfl rfl)
abbrev cX3_isRound : ByteArray := prog_20_method_50_code
def yX3_isRound : MethodName := ⟨RX3, "isRound", "(I)Z"⟩
def dkwX3_isRound_1 : List UInt8 := [167, 0, 4, 3, 172]
abbrev dktX3_isRound_1 : List UInt8 := dkwX3_isRound_1 ++ []
def dkwX3_isRound_0 : List UInt8 := [42, 180, 0, 7, 16, 18, 46, 5, 160, 0, 18, 42, 180, 0, 7, 16, 22, 46, 27, 160, 0, 7, 4]
abbrev dktX3_isRound_0 : List UInt8 := dkwX3_isRound_0 ++ dktX3_isRound_1
theorem dksX3_isRound_0 : cX3_isRound.data.toList.drop 0 = dktX3_isRound_0 := by decide +kernel
theorem dksX3_isRound_1 : cX3_isRound.data.toList.drop 23 = dktX3_isRound_1 := dk_seg dksX3_isRound_0 23 rfl rfl
theorem dX3_isRound_0 : decode cX3_isRound 0 = .ok (.aload_n 0, 1) := dk_42 (dk_at dksX3_isRound_0 0 rfl rfl)
theorem dX3_isRound_1 : decode cX3_isRound 1 = .ok (.getfield 7, 3) := dk_180 0 7 (dk_at dksX3_isRound_0 1 rfl rfl)
theorem dX3_isRound_4 : decode cX3_isRound 4 = .ok (.bipush 18, 2) := dk_16 18 (dk_at dksX3_isRound_0 4 rfl rfl)
theorem dX3_isRound_6 : decode cX3_isRound 6 = .ok (.iaload, 1) := dk_46 (dk_at dksX3_isRound_0 6 rfl rfl)
theorem dX3_isRound_7 : decode cX3_isRound 7 = .ok (.iconst 2, 1) := dk_5 (dk_at dksX3_isRound_0 7 rfl rfl)
theorem dX3_isRound_8 : decode cX3_isRound 8 = .ok (.if_icmp .ne 18, 3) := dk_160 0 18 (dk_at dksX3_isRound_0 8 rfl rfl)
theorem dX3_isRound_11 : decode cX3_isRound 11 = .ok (.aload_n 0, 1) := dk_42 (dk_at dksX3_isRound_0 11 rfl rfl)
theorem dX3_isRound_12 : decode cX3_isRound 12 = .ok (.getfield 7, 3) := dk_180 0 7 (dk_at dksX3_isRound_0 12 rfl rfl)
theorem dX3_isRound_15 : decode cX3_isRound 15 = .ok (.bipush 22, 2) := dk_16 22 (dk_at dksX3_isRound_0 15 rfl rfl)
theorem dX3_isRound_17 : decode cX3_isRound 17 = .ok (.iaload, 1) := dk_46 (dk_at dksX3_isRound_0 17 rfl rfl)
theorem dX3_isRound_18 : decode cX3_isRound 18 = .ok (.iload_n 1, 1) := dk_27 (dk_at dksX3_isRound_0 18 rfl rfl)
theorem dX3_isRound_19 : decode cX3_isRound 19 = .ok (.if_icmp .ne 7, 3) := dk_160 0 7 (dk_at dksX3_isRound_0 19 rfl rfl)
theorem dX3_isRound_22 : decode cX3_isRound 22 = .ok (.iconst 1, 1) := dk_4 (dk_at dksX3_isRound_0 22 rfl rfl)
theorem dX3_isRound_23 : decode cX3_isRound 23 = .ok (.goto 4, 3) := dk_167 0 4 (dk_at dksX3_isRound_1 0 rfl rfl)
theorem dX3_isRound_26 : decode cX3_isRound 26 = .ok (.iconst 0, 1) := dk_3 (dk_at dksX3_isRound_1 3 rfl rfl)
theorem dX3_isRound_27 : decode cX3_isRound 27 = .ok (.ireturn, 1) := dk_172 (dk_at dksX3_isRound_1 4 rfl rfl)
abbrev cX3_spot : ByteArray := prog_20_method_49_code
def yX3_spot : MethodName := ⟨RX3, "spot", "(I)I"⟩
def dkwX3_spot_2 : List UInt8 := [132, 2, 1, 167, 255, 207, 2, 172]
abbrev dktX3_spot_2 : List UInt8 := dkwX3_spot_2 ++ []
def dkwX3_spot_1 : List UInt8 := [42, 28, 29, 3, 182, 0, 149, 27, 160, 0, 10, 16, 12, 28, 104, 29, 96, 172, 132, 3, 1, 167, 255, 225]
abbrev dktX3_spot_1 : List UInt8 := dkwX3_spot_1 ++ dktX3_spot_2
def dkwX3_spot_0 : List UInt8 := [3, 61, 28, 42, 180, 0, 7, 4, 46, 162, 0, 45, 3, 62, 29, 42, 28, 4, 182, 0, 98, 162, 0, 27]
abbrev dktX3_spot_0 : List UInt8 := dkwX3_spot_0 ++ dktX3_spot_1
theorem dksX3_spot_0 : cX3_spot.data.toList.drop 0 = dktX3_spot_0 := by decide +kernel
theorem dksX3_spot_1 : cX3_spot.data.toList.drop 24 = dktX3_spot_1 := dk_seg dksX3_spot_0 24 rfl rfl
theorem dksX3_spot_2 : cX3_spot.data.toList.drop 48 = dktX3_spot_2 := dk_seg dksX3_spot_1 24 rfl rfl
theorem dX3_spot_0 : decode cX3_spot 0 = .ok (.iconst 0, 1) := dk_3 (dk_at dksX3_spot_0 0 rfl rfl)
theorem dX3_spot_1 : decode cX3_spot 1 = .ok (.istore_n 2, 1) := dk_61 (dk_at dksX3_spot_0 1 rfl rfl)
theorem dX3_spot_2 : decode cX3_spot 2 = .ok (.iload_n 2, 1) := dk_28 (dk_at dksX3_spot_0 2 rfl rfl)
theorem dX3_spot_3 : decode cX3_spot 3 = .ok (.aload_n 0, 1) := dk_42 (dk_at dksX3_spot_0 3 rfl rfl)
theorem dX3_spot_4 : decode cX3_spot 4 = .ok (.getfield 7, 3) := dk_180 0 7 (dk_at dksX3_spot_0 4 rfl rfl)
theorem dX3_spot_7 : decode cX3_spot 7 = .ok (.iconst 1, 1) := dk_4 (dk_at dksX3_spot_0 7 rfl rfl)
theorem dX3_spot_8 : decode cX3_spot 8 = .ok (.iaload, 1) := dk_46 (dk_at dksX3_spot_0 8 rfl rfl)
theorem dX3_spot_9 : decode cX3_spot 9 = .ok (.if_icmp .ge 45, 3) := dk_162 0 45 (dk_at dksX3_spot_0 9 rfl rfl)
theorem dX3_spot_12 : decode cX3_spot 12 = .ok (.iconst 0, 1) := dk_3 (dk_at dksX3_spot_0 12 rfl rfl)
theorem dX3_spot_13 : decode cX3_spot 13 = .ok (.istore_n 3, 1) := dk_62 (dk_at dksX3_spot_0 13 rfl rfl)
theorem dX3_spot_14 : decode cX3_spot 14 = .ok (.iload_n 3, 1) := dk_29 (dk_at dksX3_spot_0 14 rfl rfl)
theorem dX3_spot_15 : decode cX3_spot 15 = .ok (.aload_n 0, 1) := dk_42 (dk_at dksX3_spot_0 15 rfl rfl)
theorem dX3_spot_16 : decode cX3_spot 16 = .ok (.iload_n 2, 1) := dk_28 (dk_at dksX3_spot_0 16 rfl rfl)
theorem dX3_spot_17 : decode cX3_spot 17 = .ok (.iconst 1, 1) := dk_4 (dk_at dksX3_spot_0 17 rfl rfl)
theorem dX3_spot_18 : decode cX3_spot 18 = .ok (.invokevirtual 98, 3) := dk_182 0 98 (dk_at dksX3_spot_0 18 rfl rfl)
theorem dX3_spot_21 : decode cX3_spot 21 = .ok (.if_icmp .ge 27, 3) := dk_162 0 27 (dk_at dksX3_spot_0 21 rfl rfl)
theorem dX3_spot_24 : decode cX3_spot 24 = .ok (.aload_n 0, 1) := dk_42 (dk_at dksX3_spot_1 0 rfl rfl)
theorem dX3_spot_25 : decode cX3_spot 25 = .ok (.iload_n 2, 1) := dk_28 (dk_at dksX3_spot_1 1 rfl rfl)
theorem dX3_spot_26 : decode cX3_spot 26 = .ok (.iload_n 3, 1) := dk_29 (dk_at dksX3_spot_1 2 rfl rfl)
theorem dX3_spot_27 : decode cX3_spot 27 = .ok (.iconst 0, 1) := dk_3 (dk_at dksX3_spot_1 3 rfl rfl)
theorem dX3_spot_28 : decode cX3_spot 28 = .ok (.invokevirtual 149, 3) := dk_182 0 149 (dk_at dksX3_spot_1 4 rfl rfl)
theorem dX3_spot_31 : decode cX3_spot 31 = .ok (.iload_n 1, 1) := dk_27 (dk_at dksX3_spot_1 7 rfl rfl)
theorem dX3_spot_32 : decode cX3_spot 32 = .ok (.if_icmp .ne 10, 3) := dk_160 0 10 (dk_at dksX3_spot_1 8 rfl rfl)
theorem dX3_spot_35 : decode cX3_spot 35 = .ok (.bipush 12, 2) := dk_16 12 (dk_at dksX3_spot_1 11 rfl rfl)
theorem dX3_spot_37 : decode cX3_spot 37 = .ok (.iload_n 2, 1) := dk_28 (dk_at dksX3_spot_1 13 rfl rfl)
theorem dX3_spot_38 : decode cX3_spot 38 = .ok (.imul, 1) := dk_104 (dk_at dksX3_spot_1 14 rfl rfl)
theorem dX3_spot_39 : decode cX3_spot 39 = .ok (.iload_n 3, 1) := dk_29 (dk_at dksX3_spot_1 15 rfl rfl)
theorem dX3_spot_40 : decode cX3_spot 40 = .ok (.iadd, 1) := dk_96 (dk_at dksX3_spot_1 16 rfl rfl)
theorem dX3_spot_41 : decode cX3_spot 41 = .ok (.ireturn, 1) := dk_172 (dk_at dksX3_spot_1 17 rfl rfl)
theorem dX3_spot_42 : decode cX3_spot 42 = .ok (.iinc 3 1, 3) := dk_132 3 1 (dk_at dksX3_spot_1 18 rfl rfl)
theorem dX3_spot_45 : decode cX3_spot 45 = .ok (.goto (-31), 3) := dk_167 255 225 (dk_at dksX3_spot_1 21 rfl rfl)
theorem dX3_spot_48 : decode cX3_spot 48 = .ok (.iinc 2 1, 3) := dk_132 2 1 (dk_at dksX3_spot_2 0 rfl rfl)
theorem dX3_spot_51 : decode cX3_spot 51 = .ok (.goto (-49), 3) := dk_167 255 207 (dk_at dksX3_spot_2 3 rfl rfl)
theorem dX3_spot_54 : decode cX3_spot 54 = .ok (.iconst (-1), 1) := dk_2 (dk_at dksX3_spot_2 6 rfl rfl)
theorem dX3_spot_55 : decode cX3_spot 55 = .ok (.ireturn, 1) := dk_172 (dk_at dksX3_spot_2 7 rfl rfl)
abbrev cX3_whereIs : ByteArray := prog_20_method_52_code
def yX3_whereIs : MethodName := ⟨RX3, "whereIs", "(I)I"⟩
def dkwX3_whereIs_1 : List UInt8 := [156, 0, 11, 42, 4, 182, 0, 90, 167, 0, 12, 42, 28, 16, 12, 108, 3, 182, 0, 98, 172]
abbrev dktX3_whereIs_1 : List UInt8 := dkwX3_whereIs_1 ++ []
def dkwX3_whereIs_0 : List UInt8 := [42, 3, 181, 0, 25, 42, 27, 182, 0, 209, 153, 0, 6, 16, 100, 172, 42, 27, 182, 0, 212, 61, 28]
abbrev dktX3_whereIs_0 : List UInt8 := dkwX3_whereIs_0 ++ dktX3_whereIs_1
theorem dksX3_whereIs_0 : cX3_whereIs.data.toList.drop 0 = dktX3_whereIs_0 := by decide +kernel
theorem dksX3_whereIs_1 : cX3_whereIs.data.toList.drop 23 = dktX3_whereIs_1 := dk_seg dksX3_whereIs_0 23 rfl rfl
theorem dX3_whereIs_0 : decode cX3_whereIs 0 = .ok (.aload_n 0, 1) := dk_42 (dk_at dksX3_whereIs_0 0 rfl rfl)
theorem dX3_whereIs_1 : decode cX3_whereIs 1 = .ok (.iconst 0, 1) := dk_3 (dk_at dksX3_whereIs_0 1 rfl rfl)
theorem dX3_whereIs_2 : decode cX3_whereIs 2 = .ok (.putfield 25, 3) := dk_181 0 25 (dk_at dksX3_whereIs_0 2 rfl rfl)
theorem dX3_whereIs_5 : decode cX3_whereIs 5 = .ok (.aload_n 0, 1) := dk_42 (dk_at dksX3_whereIs_0 5 rfl rfl)
theorem dX3_whereIs_6 : decode cX3_whereIs 6 = .ok (.iload_n 1, 1) := dk_27 (dk_at dksX3_whereIs_0 6 rfl rfl)
theorem dX3_whereIs_7 : decode cX3_whereIs 7 = .ok (.invokevirtual 209, 3) := dk_182 0 209 (dk_at dksX3_whereIs_0 7 rfl rfl)
theorem dX3_whereIs_10 : decode cX3_whereIs 10 = .ok (.ifCond .eq 6, 3) := dk_153 0 6 (dk_at dksX3_whereIs_0 10 rfl rfl)
theorem dX3_whereIs_13 : decode cX3_whereIs 13 = .ok (.bipush 100, 2) := dk_16 100 (dk_at dksX3_whereIs_0 13 rfl rfl)
theorem dX3_whereIs_15 : decode cX3_whereIs 15 = .ok (.ireturn, 1) := dk_172 (dk_at dksX3_whereIs_0 15 rfl rfl)
theorem dX3_whereIs_16 : decode cX3_whereIs 16 = .ok (.aload_n 0, 1) := dk_42 (dk_at dksX3_whereIs_0 16 rfl rfl)
theorem dX3_whereIs_17 : decode cX3_whereIs 17 = .ok (.iload_n 1, 1) := dk_27 (dk_at dksX3_whereIs_0 17 rfl rfl)
theorem dX3_whereIs_18 : decode cX3_whereIs 18 = .ok (.invokevirtual 212, 3) := dk_182 0 212 (dk_at dksX3_whereIs_0 18 rfl rfl)
theorem dX3_whereIs_21 : decode cX3_whereIs 21 = .ok (.istore_n 2, 1) := dk_61 (dk_at dksX3_whereIs_0 21 rfl rfl)
theorem dX3_whereIs_22 : decode cX3_whereIs 22 = .ok (.iload_n 2, 1) := dk_28 (dk_at dksX3_whereIs_0 22 rfl rfl)
theorem dX3_whereIs_23 : decode cX3_whereIs 23 = .ok (.ifCond .ge 11, 3) := dk_156 0 11 (dk_at dksX3_whereIs_1 0 rfl rfl)
theorem dX3_whereIs_26 : decode cX3_whereIs 26 = .ok (.aload_n 0, 1) := dk_42 (dk_at dksX3_whereIs_1 3 rfl rfl)
theorem dX3_whereIs_27 : decode cX3_whereIs 27 = .ok (.iconst 1, 1) := dk_4 (dk_at dksX3_whereIs_1 4 rfl rfl)
theorem dX3_whereIs_28 : decode cX3_whereIs 28 = .ok (.invokevirtual 90, 3) := dk_182 0 90 (dk_at dksX3_whereIs_1 5 rfl rfl)
theorem dX3_whereIs_31 : decode cX3_whereIs 31 = .ok (.goto 12, 3) := dk_167 0 12 (dk_at dksX3_whereIs_1 8 rfl rfl)
theorem dX3_whereIs_34 : decode cX3_whereIs 34 = .ok (.aload_n 0, 1) := dk_42 (dk_at dksX3_whereIs_1 11 rfl rfl)
theorem dX3_whereIs_35 : decode cX3_whereIs 35 = .ok (.iload_n 2, 1) := dk_28 (dk_at dksX3_whereIs_1 12 rfl rfl)
theorem dX3_whereIs_36 : decode cX3_whereIs 36 = .ok (.bipush 12, 2) := dk_16 12 (dk_at dksX3_whereIs_1 13 rfl rfl)
theorem dX3_whereIs_38 : decode cX3_whereIs 38 = .ok (.idiv, 1) := dk_108 (dk_at dksX3_whereIs_1 15 rfl rfl)
theorem dX3_whereIs_39 : decode cX3_whereIs 39 = .ok (.iconst 0, 1) := dk_3 (dk_at dksX3_whereIs_1 16 rfl rfl)
theorem dX3_whereIs_40 : decode cX3_whereIs 40 = .ok (.invokevirtual 98, 3) := dk_182 0 98 (dk_at dksX3_whereIs_1 17 rfl rfl)
theorem dX3_whereIs_43 : decode cX3_whereIs 43 = .ok (.ireturn, 1) := dk_172 (dk_at dksX3_whereIs_1 20 rfl rfl)
abbrev cX3_queueOf : ByteArray := prog_20_method_55_code
def yX3_queueOf : MethodName := ⟨RX3, "queueOf", "(II)I"⟩
def dkwX3_queueOf_3 : List UInt8 := [182, 0, 98, 172, 42, 29, 6, 182, 0, 98, 172, 42, 5, 182, 0, 90, 172]
abbrev dktX3_queueOf_3 : List UInt8 := dkwX3_queueOf_3 ++ []
def dkwX3_queueOf_2 : List UInt8 := [42, 29, 4, 182, 0, 98, 172, 42, 29, 182, 0, 215, 172, 42, 29, 182, 0, 218, 172, 42, 29, 5]
abbrev dktX3_queueOf_2 : List UInt8 := dkwX3_queueOf_2 ++ dktX3_queueOf_3
def dkwX3_queueOf_1 : List UInt8 := [170, 0, 0, 0, 0, 67, 0, 0, 0, 0, 0, 0, 0, 4, 0, 0, 0, 34, 0, 0, 0, 41, 0, 0, 0, 47, 0, 0, 0, 53, 0, 0, 0, 60]
abbrev dktX3_queueOf_1 : List UInt8 := dkwX3_queueOf_1 ++ dktX3_queueOf_2
def dkwX3_queueOf_0 : List UInt8 := [42, 3, 181, 0, 25, 42, 27, 182, 0, 106, 62, 29, 156, 0, 9, 42, 4, 182, 0, 90, 172, 28]
abbrev dktX3_queueOf_0 : List UInt8 := dkwX3_queueOf_0 ++ dktX3_queueOf_1
theorem dksX3_queueOf_0 : cX3_queueOf.data.toList.drop 0 = dktX3_queueOf_0 := by decide +kernel
theorem dksX3_queueOf_1 : cX3_queueOf.data.toList.drop 22 = dktX3_queueOf_1 := dk_seg dksX3_queueOf_0 22 rfl rfl
theorem dksX3_queueOf_2 : cX3_queueOf.data.toList.drop 56 = dktX3_queueOf_2 := dk_seg dksX3_queueOf_1 34 rfl rfl
theorem dksX3_queueOf_3 : cX3_queueOf.data.toList.drop 78 = dktX3_queueOf_3 := dk_seg dksX3_queueOf_2 22 rfl rfl
theorem dX3_queueOf_0 : decode cX3_queueOf 0 = .ok (.aload_n 0, 1) := dk_42 (dk_at dksX3_queueOf_0 0 rfl rfl)
theorem dX3_queueOf_1 : decode cX3_queueOf 1 = .ok (.iconst 0, 1) := dk_3 (dk_at dksX3_queueOf_0 1 rfl rfl)
theorem dX3_queueOf_2 : decode cX3_queueOf 2 = .ok (.putfield 25, 3) := dk_181 0 25 (dk_at dksX3_queueOf_0 2 rfl rfl)
theorem dX3_queueOf_5 : decode cX3_queueOf 5 = .ok (.aload_n 0, 1) := dk_42 (dk_at dksX3_queueOf_0 5 rfl rfl)
theorem dX3_queueOf_6 : decode cX3_queueOf 6 = .ok (.iload_n 1, 1) := dk_27 (dk_at dksX3_queueOf_0 6 rfl rfl)
theorem dX3_queueOf_7 : decode cX3_queueOf 7 = .ok (.invokevirtual 106, 3) := dk_182 0 106 (dk_at dksX3_queueOf_0 7 rfl rfl)
theorem dX3_queueOf_10 : decode cX3_queueOf 10 = .ok (.istore_n 3, 1) := dk_62 (dk_at dksX3_queueOf_0 10 rfl rfl)
theorem dX3_queueOf_11 : decode cX3_queueOf 11 = .ok (.iload_n 3, 1) := dk_29 (dk_at dksX3_queueOf_0 11 rfl rfl)
theorem dX3_queueOf_12 : decode cX3_queueOf 12 = .ok (.ifCond .ge 9, 3) := dk_156 0 9 (dk_at dksX3_queueOf_0 12 rfl rfl)
theorem dX3_queueOf_15 : decode cX3_queueOf 15 = .ok (.aload_n 0, 1) := dk_42 (dk_at dksX3_queueOf_0 15 rfl rfl)
theorem dX3_queueOf_16 : decode cX3_queueOf 16 = .ok (.iconst 1, 1) := dk_4 (dk_at dksX3_queueOf_0 16 rfl rfl)
theorem dX3_queueOf_17 : decode cX3_queueOf 17 = .ok (.invokevirtual 90, 3) := dk_182 0 90 (dk_at dksX3_queueOf_0 17 rfl rfl)
theorem dX3_queueOf_20 : decode cX3_queueOf 20 = .ok (.ireturn, 1) := dk_172 (dk_at dksX3_queueOf_0 20 rfl rfl)
theorem dX3_queueOf_21 : decode cX3_queueOf 21 = .ok (.iload_n 2, 1) := dk_28 (dk_at dksX3_queueOf_0 21 rfl rfl)
theorem dX3_queueOf_22 : decode cX3_queueOf 22 = .ok (.tableswitch 67 0 4 #[34, 41, 47, 53, 60], 34) := by decide +kernel
theorem dX3_queueOf_56 : decode cX3_queueOf 56 = .ok (.aload_n 0, 1) := dk_42 (dk_at dksX3_queueOf_2 0 rfl rfl)
theorem dX3_queueOf_57 : decode cX3_queueOf 57 = .ok (.iload_n 3, 1) := dk_29 (dk_at dksX3_queueOf_2 1 rfl rfl)
theorem dX3_queueOf_58 : decode cX3_queueOf 58 = .ok (.iconst 1, 1) := dk_4 (dk_at dksX3_queueOf_2 2 rfl rfl)
theorem dX3_queueOf_59 : decode cX3_queueOf 59 = .ok (.invokevirtual 98, 3) := dk_182 0 98 (dk_at dksX3_queueOf_2 3 rfl rfl)
theorem dX3_queueOf_62 : decode cX3_queueOf 62 = .ok (.ireturn, 1) := dk_172 (dk_at dksX3_queueOf_2 6 rfl rfl)
theorem dX3_queueOf_63 : decode cX3_queueOf 63 = .ok (.aload_n 0, 1) := dk_42 (dk_at dksX3_queueOf_2 7 rfl rfl)
theorem dX3_queueOf_64 : decode cX3_queueOf 64 = .ok (.iload_n 3, 1) := dk_29 (dk_at dksX3_queueOf_2 8 rfl rfl)
theorem dX3_queueOf_65 : decode cX3_queueOf 65 = .ok (.invokevirtual 215, 3) := dk_182 0 215 (dk_at dksX3_queueOf_2 9 rfl rfl)
theorem dX3_queueOf_68 : decode cX3_queueOf 68 = .ok (.ireturn, 1) := dk_172 (dk_at dksX3_queueOf_2 12 rfl rfl)
theorem dX3_queueOf_69 : decode cX3_queueOf 69 = .ok (.aload_n 0, 1) := dk_42 (dk_at dksX3_queueOf_2 13 rfl rfl)
theorem dX3_queueOf_70 : decode cX3_queueOf 70 = .ok (.iload_n 3, 1) := dk_29 (dk_at dksX3_queueOf_2 14 rfl rfl)
theorem dX3_queueOf_71 : decode cX3_queueOf 71 = .ok (.invokevirtual 218, 3) := dk_182 0 218 (dk_at dksX3_queueOf_2 15 rfl rfl)
theorem dX3_queueOf_74 : decode cX3_queueOf 74 = .ok (.ireturn, 1) := dk_172 (dk_at dksX3_queueOf_2 18 rfl rfl)
theorem dX3_queueOf_75 : decode cX3_queueOf 75 = .ok (.aload_n 0, 1) := dk_42 (dk_at dksX3_queueOf_2 19 rfl rfl)
theorem dX3_queueOf_76 : decode cX3_queueOf 76 = .ok (.iload_n 3, 1) := dk_29 (dk_at dksX3_queueOf_2 20 rfl rfl)
theorem dX3_queueOf_77 : decode cX3_queueOf 77 = .ok (.iconst 2, 1) := dk_5 (dk_at dksX3_queueOf_2 21 rfl rfl)
theorem dX3_queueOf_78 : decode cX3_queueOf 78 = .ok (.invokevirtual 98, 3) := dk_182 0 98 (dk_at dksX3_queueOf_3 0 rfl rfl)
theorem dX3_queueOf_81 : decode cX3_queueOf 81 = .ok (.ireturn, 1) := dk_172 (dk_at dksX3_queueOf_3 3 rfl rfl)
theorem dX3_queueOf_82 : decode cX3_queueOf 82 = .ok (.aload_n 0, 1) := dk_42 (dk_at dksX3_queueOf_3 4 rfl rfl)
theorem dX3_queueOf_83 : decode cX3_queueOf 83 = .ok (.iload_n 3, 1) := dk_29 (dk_at dksX3_queueOf_3 5 rfl rfl)
theorem dX3_queueOf_84 : decode cX3_queueOf 84 = .ok (.iconst 3, 1) := dk_6 (dk_at dksX3_queueOf_3 6 rfl rfl)
theorem dX3_queueOf_85 : decode cX3_queueOf 85 = .ok (.invokevirtual 98, 3) := dk_182 0 98 (dk_at dksX3_queueOf_3 7 rfl rfl)
theorem dX3_queueOf_88 : decode cX3_queueOf 88 = .ok (.ireturn, 1) := dk_172 (dk_at dksX3_queueOf_3 10 rfl rfl)
theorem dX3_queueOf_89 : decode cX3_queueOf 89 = .ok (.aload_n 0, 1) := dk_42 (dk_at dksX3_queueOf_3 11 rfl rfl)
theorem dX3_queueOf_90 : decode cX3_queueOf 90 = .ok (.iconst 2, 1) := dk_5 (dk_at dksX3_queueOf_3 12 rfl rfl)
theorem dX3_queueOf_91 : decode cX3_queueOf 91 = .ok (.invokevirtual 90, 3) := dk_182 0 90 (dk_at dksX3_queueOf_3 13 rfl rfl)
theorem dX3_queueOf_94 : decode cX3_queueOf 94 = .ok (.ireturn, 1) := dk_172 (dk_at dksX3_queueOf_3 16 rfl rfl)
abbrev cX3_firstRank : ByteArray := prog_20_method_54_code
def yX3_firstRank : MethodName := ⟨RX3, "firstRank", "(I)I"⟩
def dkwX3_firstRank_0 : List UInt8 := [42, 27, 4, 182, 0, 98, 154, 0, 7, 2, 167, 0, 10, 42, 27, 3, 5, 182, 0, 149, 172]
abbrev dktX3_firstRank_0 : List UInt8 := dkwX3_firstRank_0 ++ []
theorem dksX3_firstRank_0 : cX3_firstRank.data.toList.drop 0 = dktX3_firstRank_0 := by decide +kernel
theorem dX3_firstRank_0 : decode cX3_firstRank 0 = .ok (.aload_n 0, 1) := dk_42 (dk_at dksX3_firstRank_0 0 rfl rfl)
theorem dX3_firstRank_1 : decode cX3_firstRank 1 = .ok (.iload_n 1, 1) := dk_27 (dk_at dksX3_firstRank_0 1 rfl rfl)
theorem dX3_firstRank_2 : decode cX3_firstRank 2 = .ok (.iconst 1, 1) := dk_4 (dk_at dksX3_firstRank_0 2 rfl rfl)
theorem dX3_firstRank_3 : decode cX3_firstRank 3 = .ok (.invokevirtual 98, 3) := dk_182 0 98 (dk_at dksX3_firstRank_0 3 rfl rfl)
theorem dX3_firstRank_6 : decode cX3_firstRank 6 = .ok (.ifCond .ne 7, 3) := dk_154 0 7 (dk_at dksX3_firstRank_0 6 rfl rfl)
theorem dX3_firstRank_9 : decode cX3_firstRank 9 = .ok (.iconst (-1), 1) := dk_2 (dk_at dksX3_firstRank_0 9 rfl rfl)
theorem dX3_firstRank_10 : decode cX3_firstRank 10 = .ok (.goto 10, 3) := dk_167 0 10 (dk_at dksX3_firstRank_0 10 rfl rfl)
theorem dX3_firstRank_13 : decode cX3_firstRank 13 = .ok (.aload_n 0, 1) := dk_42 (dk_at dksX3_firstRank_0 13 rfl rfl)
theorem dX3_firstRank_14 : decode cX3_firstRank 14 = .ok (.iload_n 1, 1) := dk_27 (dk_at dksX3_firstRank_0 14 rfl rfl)
theorem dX3_firstRank_15 : decode cX3_firstRank 15 = .ok (.iconst 0, 1) := dk_3 (dk_at dksX3_firstRank_0 15 rfl rfl)
theorem dX3_firstRank_16 : decode cX3_firstRank 16 = .ok (.iconst 2, 1) := dk_5 (dk_at dksX3_firstRank_0 16 rfl rfl)
theorem dX3_firstRank_17 : decode cX3_firstRank 17 = .ok (.invokevirtual 149, 3) := dk_182 0 149 (dk_at dksX3_firstRank_0 17 rfl rfl)
theorem dX3_firstRank_20 : decode cX3_firstRank 20 = .ok (.ireturn, 1) := dk_172 (dk_at dksX3_firstRank_0 20 rfl rfl)
abbrev cX3_lengths : ByteArray := prog_20_method_53_code
def yX3_lengths : MethodName := ⟨RX3, "lengths", "(I)I"⟩
def dkwX3_lengths_1 : List UInt8 := [132, 3, 1, 167, 255, 233, 28, 172]
abbrev dktX3_lengths_1 : List UInt8 := dkwX3_lengths_1 ++ []
def dkwX3_lengths_0 : List UInt8 := [3, 61, 3, 62, 29, 42, 27, 4, 182, 0, 98, 162, 0, 19, 28, 42, 27, 29, 6, 182, 0, 149, 96, 61]
abbrev dktX3_lengths_0 : List UInt8 := dkwX3_lengths_0 ++ dktX3_lengths_1
theorem dksX3_lengths_0 : cX3_lengths.data.toList.drop 0 = dktX3_lengths_0 := by decide +kernel
theorem dksX3_lengths_1 : cX3_lengths.data.toList.drop 24 = dktX3_lengths_1 := dk_seg dksX3_lengths_0 24 rfl rfl
theorem dX3_lengths_0 : decode cX3_lengths 0 = .ok (.iconst 0, 1) := dk_3 (dk_at dksX3_lengths_0 0 rfl rfl)
theorem dX3_lengths_1 : decode cX3_lengths 1 = .ok (.istore_n 2, 1) := dk_61 (dk_at dksX3_lengths_0 1 rfl rfl)
theorem dX3_lengths_2 : decode cX3_lengths 2 = .ok (.iconst 0, 1) := dk_3 (dk_at dksX3_lengths_0 2 rfl rfl)
theorem dX3_lengths_3 : decode cX3_lengths 3 = .ok (.istore_n 3, 1) := dk_62 (dk_at dksX3_lengths_0 3 rfl rfl)
theorem dX3_lengths_4 : decode cX3_lengths 4 = .ok (.iload_n 3, 1) := dk_29 (dk_at dksX3_lengths_0 4 rfl rfl)
theorem dX3_lengths_5 : decode cX3_lengths 5 = .ok (.aload_n 0, 1) := dk_42 (dk_at dksX3_lengths_0 5 rfl rfl)
theorem dX3_lengths_6 : decode cX3_lengths 6 = .ok (.iload_n 1, 1) := dk_27 (dk_at dksX3_lengths_0 6 rfl rfl)
theorem dX3_lengths_7 : decode cX3_lengths 7 = .ok (.iconst 1, 1) := dk_4 (dk_at dksX3_lengths_0 7 rfl rfl)
theorem dX3_lengths_8 : decode cX3_lengths 8 = .ok (.invokevirtual 98, 3) := dk_182 0 98 (dk_at dksX3_lengths_0 8 rfl rfl)
theorem dX3_lengths_11 : decode cX3_lengths 11 = .ok (.if_icmp .ge 19, 3) := dk_162 0 19 (dk_at dksX3_lengths_0 11 rfl rfl)
theorem dX3_lengths_14 : decode cX3_lengths 14 = .ok (.iload_n 2, 1) := dk_28 (dk_at dksX3_lengths_0 14 rfl rfl)
theorem dX3_lengths_15 : decode cX3_lengths 15 = .ok (.aload_n 0, 1) := dk_42 (dk_at dksX3_lengths_0 15 rfl rfl)
theorem dX3_lengths_16 : decode cX3_lengths 16 = .ok (.iload_n 1, 1) := dk_27 (dk_at dksX3_lengths_0 16 rfl rfl)
theorem dX3_lengths_17 : decode cX3_lengths 17 = .ok (.iload_n 3, 1) := dk_29 (dk_at dksX3_lengths_0 17 rfl rfl)
theorem dX3_lengths_18 : decode cX3_lengths 18 = .ok (.iconst 3, 1) := dk_6 (dk_at dksX3_lengths_0 18 rfl rfl)
theorem dX3_lengths_19 : decode cX3_lengths 19 = .ok (.invokevirtual 149, 3) := dk_182 0 149 (dk_at dksX3_lengths_0 19 rfl rfl)
theorem dX3_lengths_22 : decode cX3_lengths 22 = .ok (.iadd, 1) := dk_96 (dk_at dksX3_lengths_0 22 rfl rfl)
theorem dX3_lengths_23 : decode cX3_lengths 23 = .ok (.istore_n 2, 1) := dk_61 (dk_at dksX3_lengths_0 23 rfl rfl)
theorem dX3_lengths_24 : decode cX3_lengths 24 = .ok (.iinc 3 1, 3) := dk_132 3 1 (dk_at dksX3_lengths_1 0 rfl rfl)
theorem dX3_lengths_27 : decode cX3_lengths 27 = .ok (.goto (-23), 3) := dk_167 255 233 (dk_at dksX3_lengths_1 3 rfl rfl)
theorem dX3_lengths_30 : decode cX3_lengths 30 = .ok (.iload_n 2, 1) := dk_28 (dk_at dksX3_lengths_1 6 rfl rfl)
theorem dX3_lengths_31 : decode cX3_lengths 31 = .ok (.ireturn, 1) := dk_172 (dk_at dksX3_lengths_1 7 rfl rfl)
abbrev cX3_next : ByteArray := prog_20_method_56_code
def yX3_next : MethodName := ⟨RX3, "next", "(I)I"⟩
def dkwX3_next_1 : List UInt8 := [182, 0, 140, 172]
abbrev dktX3_next_1 : List UInt8 := dkwX3_next_1 ++ []
def dkwX3_next_0 : List UInt8 := [42, 3, 181, 0, 25, 42, 27, 182, 0, 106, 156, 0, 11, 42, 4, 182, 0, 90, 167, 0, 8, 42, 27]
abbrev dktX3_next_0 : List UInt8 := dkwX3_next_0 ++ dktX3_next_1
theorem dksX3_next_0 : cX3_next.data.toList.drop 0 = dktX3_next_0 := by decide +kernel
theorem dksX3_next_1 : cX3_next.data.toList.drop 23 = dktX3_next_1 := dk_seg dksX3_next_0 23 rfl rfl
theorem dX3_next_0 : decode cX3_next 0 = .ok (.aload_n 0, 1) := dk_42 (dk_at dksX3_next_0 0 rfl rfl)
theorem dX3_next_1 : decode cX3_next 1 = .ok (.iconst 0, 1) := dk_3 (dk_at dksX3_next_0 1 rfl rfl)
theorem dX3_next_2 : decode cX3_next 2 = .ok (.putfield 25, 3) := dk_181 0 25 (dk_at dksX3_next_0 2 rfl rfl)
theorem dX3_next_5 : decode cX3_next 5 = .ok (.aload_n 0, 1) := dk_42 (dk_at dksX3_next_0 5 rfl rfl)
theorem dX3_next_6 : decode cX3_next 6 = .ok (.iload_n 1, 1) := dk_27 (dk_at dksX3_next_0 6 rfl rfl)
theorem dX3_next_7 : decode cX3_next 7 = .ok (.invokevirtual 106, 3) := dk_182 0 106 (dk_at dksX3_next_0 7 rfl rfl)
theorem dX3_next_10 : decode cX3_next 10 = .ok (.ifCond .ge 11, 3) := dk_156 0 11 (dk_at dksX3_next_0 10 rfl rfl)
theorem dX3_next_13 : decode cX3_next 13 = .ok (.aload_n 0, 1) := dk_42 (dk_at dksX3_next_0 13 rfl rfl)
theorem dX3_next_14 : decode cX3_next 14 = .ok (.iconst 1, 1) := dk_4 (dk_at dksX3_next_0 14 rfl rfl)
theorem dX3_next_15 : decode cX3_next 15 = .ok (.invokevirtual 90, 3) := dk_182 0 90 (dk_at dksX3_next_0 15 rfl rfl)
theorem dX3_next_18 : decode cX3_next 18 = .ok (.goto 8, 3) := dk_167 0 8 (dk_at dksX3_next_0 18 rfl rfl)
theorem dX3_next_21 : decode cX3_next 21 = .ok (.aload_n 0, 1) := dk_42 (dk_at dksX3_next_0 21 rfl rfl)
theorem dX3_next_22 : decode cX3_next 22 = .ok (.iload_n 1, 1) := dk_27 (dk_at dksX3_next_0 22 rfl rfl)
theorem dX3_next_23 : decode cX3_next 23 = .ok (.invokevirtual 140, 3) := dk_182 0 140 (dk_at dksX3_next_1 0 rfl rfl)
theorem dX3_next_26 : decode cX3_next 26 = .ok (.ireturn, 1) := dk_172 (dk_at dksX3_next_1 3 rfl rfl)
abbrev cX3_steps : ByteArray := prog_20_method_58_code
def yX3_steps : MethodName := ⟨RX3, "steps", "(II)I"⟩
def dkwX3_steps_0 : List UInt8 := [42, 27, 28, 182, 0, 221, 172]
abbrev dktX3_steps_0 : List UInt8 := dkwX3_steps_0 ++ []
theorem dksX3_steps_0 : cX3_steps.data.toList.drop 0 = dktX3_steps_0 := by decide +kernel
theorem dX3_steps_0 : decode cX3_steps 0 = .ok (.aload_n 0, 1) := dk_42 (dk_at dksX3_steps_0 0 rfl rfl)
theorem dX3_steps_1 : decode cX3_steps 1 = .ok (.iload_n 1, 1) := dk_27 (dk_at dksX3_steps_0 1 rfl rfl)
theorem dX3_steps_2 : decode cX3_steps 2 = .ok (.iload_n 2, 1) := dk_28 (dk_at dksX3_steps_0 2 rfl rfl)
theorem dX3_steps_3 : decode cX3_steps 3 = .ok (.invokevirtual 221, 3) := dk_182 0 221 (dk_at dksX3_steps_0 3 rfl rfl)
theorem dX3_steps_6 : decode cX3_steps 6 = .ok (.ireturn, 1) := dk_172 (dk_at dksX3_steps_0 6 rfl rfl)
abbrev cX3_stepsTo : ByteArray := prog_20_method_57_code
def yX3_stepsTo : MethodName := ⟨RX3, "stepsTo", "(II)I"⟩
def dkwX3_stepsTo_2 : List UInt8 := [180, 0, 7, 4, 46, 112, 172]
abbrev dktX3_stepsTo_2 : List UInt8 := dkwX3_stepsTo_2 ++ []
def dkwX3_stepsTo_1 : List UInt8 := [182, 0, 90, 172, 42, 28, 182, 0, 106, 42, 27, 182, 0, 106, 100, 42, 180, 0, 7, 4, 46, 96, 42]
abbrev dktX3_stepsTo_1 : List UInt8 := dkwX3_stepsTo_1 ++ dktX3_stepsTo_2
def dkwX3_stepsTo_0 : List UInt8 := [42, 3, 181, 0, 25, 42, 27, 182, 0, 106, 155, 0, 11, 42, 28, 182, 0, 106, 156, 0, 9, 42, 4]
abbrev dktX3_stepsTo_0 : List UInt8 := dkwX3_stepsTo_0 ++ dktX3_stepsTo_1
theorem dksX3_stepsTo_0 : cX3_stepsTo.data.toList.drop 0 = dktX3_stepsTo_0 := by decide +kernel
theorem dksX3_stepsTo_1 : cX3_stepsTo.data.toList.drop 23 = dktX3_stepsTo_1 := dk_seg dksX3_stepsTo_0 23 rfl rfl
theorem dksX3_stepsTo_2 : cX3_stepsTo.data.toList.drop 46 = dktX3_stepsTo_2 := dk_seg dksX3_stepsTo_1 23 rfl rfl
theorem dX3_stepsTo_0 : decode cX3_stepsTo 0 = .ok (.aload_n 0, 1) := dk_42 (dk_at dksX3_stepsTo_0 0 rfl rfl)
theorem dX3_stepsTo_1 : decode cX3_stepsTo 1 = .ok (.iconst 0, 1) := dk_3 (dk_at dksX3_stepsTo_0 1 rfl rfl)
theorem dX3_stepsTo_2 : decode cX3_stepsTo 2 = .ok (.putfield 25, 3) := dk_181 0 25 (dk_at dksX3_stepsTo_0 2 rfl rfl)
theorem dX3_stepsTo_5 : decode cX3_stepsTo 5 = .ok (.aload_n 0, 1) := dk_42 (dk_at dksX3_stepsTo_0 5 rfl rfl)
theorem dX3_stepsTo_6 : decode cX3_stepsTo 6 = .ok (.iload_n 1, 1) := dk_27 (dk_at dksX3_stepsTo_0 6 rfl rfl)
theorem dX3_stepsTo_7 : decode cX3_stepsTo 7 = .ok (.invokevirtual 106, 3) := dk_182 0 106 (dk_at dksX3_stepsTo_0 7 rfl rfl)
theorem dX3_stepsTo_10 : decode cX3_stepsTo 10 = .ok (.ifCond .lt 11, 3) := dk_155 0 11 (dk_at dksX3_stepsTo_0 10 rfl rfl)
theorem dX3_stepsTo_13 : decode cX3_stepsTo 13 = .ok (.aload_n 0, 1) := dk_42 (dk_at dksX3_stepsTo_0 13 rfl rfl)
theorem dX3_stepsTo_14 : decode cX3_stepsTo 14 = .ok (.iload_n 2, 1) := dk_28 (dk_at dksX3_stepsTo_0 14 rfl rfl)
theorem dX3_stepsTo_15 : decode cX3_stepsTo 15 = .ok (.invokevirtual 106, 3) := dk_182 0 106 (dk_at dksX3_stepsTo_0 15 rfl rfl)
theorem dX3_stepsTo_18 : decode cX3_stepsTo 18 = .ok (.ifCond .ge 9, 3) := dk_156 0 9 (dk_at dksX3_stepsTo_0 18 rfl rfl)
theorem dX3_stepsTo_21 : decode cX3_stepsTo 21 = .ok (.aload_n 0, 1) := dk_42 (dk_at dksX3_stepsTo_0 21 rfl rfl)
theorem dX3_stepsTo_22 : decode cX3_stepsTo 22 = .ok (.iconst 1, 1) := dk_4 (dk_at dksX3_stepsTo_0 22 rfl rfl)
theorem dX3_stepsTo_23 : decode cX3_stepsTo 23 = .ok (.invokevirtual 90, 3) := dk_182 0 90 (dk_at dksX3_stepsTo_1 0 rfl rfl)
theorem dX3_stepsTo_26 : decode cX3_stepsTo 26 = .ok (.ireturn, 1) := dk_172 (dk_at dksX3_stepsTo_1 3 rfl rfl)
theorem dX3_stepsTo_27 : decode cX3_stepsTo 27 = .ok (.aload_n 0, 1) := dk_42 (dk_at dksX3_stepsTo_1 4 rfl rfl)
theorem dX3_stepsTo_28 : decode cX3_stepsTo 28 = .ok (.iload_n 2, 1) := dk_28 (dk_at dksX3_stepsTo_1 5 rfl rfl)
theorem dX3_stepsTo_29 : decode cX3_stepsTo 29 = .ok (.invokevirtual 106, 3) := dk_182 0 106 (dk_at dksX3_stepsTo_1 6 rfl rfl)
theorem dX3_stepsTo_32 : decode cX3_stepsTo 32 = .ok (.aload_n 0, 1) := dk_42 (dk_at dksX3_stepsTo_1 9 rfl rfl)
theorem dX3_stepsTo_33 : decode cX3_stepsTo 33 = .ok (.iload_n 1, 1) := dk_27 (dk_at dksX3_stepsTo_1 10 rfl rfl)
theorem dX3_stepsTo_34 : decode cX3_stepsTo 34 = .ok (.invokevirtual 106, 3) := dk_182 0 106 (dk_at dksX3_stepsTo_1 11 rfl rfl)
theorem dX3_stepsTo_37 : decode cX3_stepsTo 37 = .ok (.isub, 1) := dk_100 (dk_at dksX3_stepsTo_1 14 rfl rfl)
theorem dX3_stepsTo_38 : decode cX3_stepsTo 38 = .ok (.aload_n 0, 1) := dk_42 (dk_at dksX3_stepsTo_1 15 rfl rfl)
theorem dX3_stepsTo_39 : decode cX3_stepsTo 39 = .ok (.getfield 7, 3) := dk_180 0 7 (dk_at dksX3_stepsTo_1 16 rfl rfl)
theorem dX3_stepsTo_42 : decode cX3_stepsTo 42 = .ok (.iconst 1, 1) := dk_4 (dk_at dksX3_stepsTo_1 19 rfl rfl)
theorem dX3_stepsTo_43 : decode cX3_stepsTo 43 = .ok (.iaload, 1) := dk_46 (dk_at dksX3_stepsTo_1 20 rfl rfl)
theorem dX3_stepsTo_44 : decode cX3_stepsTo 44 = .ok (.iadd, 1) := dk_96 (dk_at dksX3_stepsTo_1 21 rfl rfl)
theorem dX3_stepsTo_45 : decode cX3_stepsTo 45 = .ok (.aload_n 0, 1) := dk_42 (dk_at dksX3_stepsTo_1 22 rfl rfl)
theorem dX3_stepsTo_46 : decode cX3_stepsTo 46 = .ok (.getfield 7, 3) := dk_180 0 7 (dk_at dksX3_stepsTo_2 0 rfl rfl)
theorem dX3_stepsTo_49 : decode cX3_stepsTo 49 = .ok (.iconst 1, 1) := dk_4 (dk_at dksX3_stepsTo_2 3 rfl rfl)
theorem dX3_stepsTo_50 : decode cX3_stepsTo 50 = .ok (.iaload, 1) := dk_46 (dk_at dksX3_stepsTo_2 4 rfl rfl)
theorem dX3_stepsTo_51 : decode cX3_stepsTo 51 = .ok (.irem, 1) := dk_112 (dk_at dksX3_stepsTo_2 5 rfl rfl)
theorem dX3_stepsTo_52 : decode cX3_stepsTo 52 = .ok (.ireturn, 1) := dk_172 (dk_at dksX3_stepsTo_2 6 rfl rfl)
abbrev cX3_stepsAgain : ByteArray := prog_20_method_59_code
def yX3_stepsAgain : MethodName := ⟨RX3, "stepsAgain", "(II)I"⟩
def dkwX3_stepsAgain_0 : List UInt8 := [42, 27, 28, 182, 0, 221, 172]
abbrev dktX3_stepsAgain_0 : List UInt8 := dkwX3_stepsAgain_0 ++ []
theorem dksX3_stepsAgain_0 : cX3_stepsAgain.data.toList.drop 0 = dktX3_stepsAgain_0 := by decide +kernel
theorem dX3_stepsAgain_0 : decode cX3_stepsAgain 0 = .ok (.aload_n 0, 1) := dk_42 (dk_at dksX3_stepsAgain_0 0 rfl rfl)
theorem dX3_stepsAgain_1 : decode cX3_stepsAgain 1 = .ok (.iload_n 1, 1) := dk_27 (dk_at dksX3_stepsAgain_0 1 rfl rfl)
theorem dX3_stepsAgain_2 : decode cX3_stepsAgain 2 = .ok (.iload_n 2, 1) := dk_28 (dk_at dksX3_stepsAgain_0 2 rfl rfl)
theorem dX3_stepsAgain_3 : decode cX3_stepsAgain 3 = .ok (.invokevirtual 221, 3) := dk_182 0 221 (dk_at dksX3_stepsAgain_0 3 rfl rfl)
theorem dX3_stepsAgain_6 : decode cX3_stepsAgain 6 = .ok (.ireturn, 1) := dk_172 (dk_at dksX3_stepsAgain_0 6 rfl rfl)
abbrev cX3_isInRing : ByteArray := prog_20_method_60_code
def yX3_isInRing : MethodName := ⟨RX3, "isInRing", "(I)Z"⟩
def dkwX3_isInRing_1 : List UInt8 := [27, 182, 0, 106, 155, 0, 7, 4, 167, 0, 4, 3, 172]
abbrev dktX3_isInRing_1 : List UInt8 := dkwX3_isInRing_1 ++ []
def dkwX3_isInRing_0 : List UInt8 := [42, 27, 184, 0, 113, 153, 0, 7, 3, 167, 0, 4, 4, 181, 0, 25, 42, 180, 0, 25, 154, 0, 15, 42]
abbrev dktX3_isInRing_0 : List UInt8 := dkwX3_isInRing_0 ++ dktX3_isInRing_1
theorem dksX3_isInRing_0 : cX3_isInRing.data.toList.drop 0 = dktX3_isInRing_0 := by decide +kernel
theorem dksX3_isInRing_1 : cX3_isInRing.data.toList.drop 24 = dktX3_isInRing_1 := dk_seg dksX3_isInRing_0 24 rfl rfl
theorem dX3_isInRing_0 : decode cX3_isInRing 0 = .ok (.aload_n 0, 1) := dk_42 (dk_at dksX3_isInRing_0 0 rfl rfl)
theorem dX3_isInRing_1 : decode cX3_isInRing 1 = .ok (.iload_n 1, 1) := dk_27 (dk_at dksX3_isInRing_0 1 rfl rfl)
theorem dX3_isInRing_2 : decode cX3_isInRing 2 = .ok (.invokestatic 113, 3) := dk_184 0 113 (dk_at dksX3_isInRing_0 2 rfl rfl)
theorem dX3_isInRing_5 : decode cX3_isInRing 5 = .ok (.ifCond .eq 7, 3) := dk_153 0 7 (dk_at dksX3_isInRing_0 5 rfl rfl)
theorem dX3_isInRing_8 : decode cX3_isInRing 8 = .ok (.iconst 0, 1) := dk_3 (dk_at dksX3_isInRing_0 8 rfl rfl)
theorem dX3_isInRing_9 : decode cX3_isInRing 9 = .ok (.goto 4, 3) := dk_167 0 4 (dk_at dksX3_isInRing_0 9 rfl rfl)
theorem dX3_isInRing_12 : decode cX3_isInRing 12 = .ok (.iconst 1, 1) := dk_4 (dk_at dksX3_isInRing_0 12 rfl rfl)
theorem dX3_isInRing_13 : decode cX3_isInRing 13 = .ok (.putfield 25, 3) := dk_181 0 25 (dk_at dksX3_isInRing_0 13 rfl rfl)
theorem dX3_isInRing_16 : decode cX3_isInRing 16 = .ok (.aload_n 0, 1) := dk_42 (dk_at dksX3_isInRing_0 16 rfl rfl)
theorem dX3_isInRing_17 : decode cX3_isInRing 17 = .ok (.getfield 25, 3) := dk_180 0 25 (dk_at dksX3_isInRing_0 17 rfl rfl)
theorem dX3_isInRing_20 : decode cX3_isInRing 20 = .ok (.ifCond .ne 15, 3) := dk_154 0 15 (dk_at dksX3_isInRing_0 20 rfl rfl)
theorem dX3_isInRing_23 : decode cX3_isInRing 23 = .ok (.aload_n 0, 1) := dk_42 (dk_at dksX3_isInRing_0 23 rfl rfl)
theorem dX3_isInRing_24 : decode cX3_isInRing 24 = .ok (.iload_n 1, 1) := dk_27 (dk_at dksX3_isInRing_1 0 rfl rfl)
theorem dX3_isInRing_25 : decode cX3_isInRing 25 = .ok (.invokevirtual 106, 3) := dk_182 0 106 (dk_at dksX3_isInRing_1 1 rfl rfl)
theorem dX3_isInRing_28 : decode cX3_isInRing 28 = .ok (.ifCond .lt 7, 3) := dk_155 0 7 (dk_at dksX3_isInRing_1 4 rfl rfl)
theorem dX3_isInRing_31 : decode cX3_isInRing 31 = .ok (.iconst 1, 1) := dk_4 (dk_at dksX3_isInRing_1 7 rfl rfl)
theorem dX3_isInRing_32 : decode cX3_isInRing 32 = .ok (.goto 4, 3) := dk_167 0 4 (dk_at dksX3_isInRing_1 8 rfl rfl)
theorem dX3_isInRing_35 : decode cX3_isInRing 35 = .ok (.iconst 0, 1) := dk_3 (dk_at dksX3_isInRing_1 11 rfl rfl)
theorem dX3_isInRing_36 : decode cX3_isInRing 36 = .ok (.ireturn, 1) := dk_172 (dk_at dksX3_isInRing_1 12 rfl rfl)
abbrev cX3_canTake : ByteArray := prog_20_method_61_code
def yX3_canTake : MethodName := ⟨RX3, "canTake", "(I)Z"⟩
def dkwX3_canTake_1 : List UInt8 := [180, 0, 7, 16, 18, 46, 4, 160, 0, 15, 42, 28, 182, 0, 181, 153, 0, 7, 4, 167, 0, 4, 3, 172]
abbrev dktX3_canTake_1 : List UInt8 := dkwX3_canTake_1 ++ []
def dkwX3_canTake_0 : List UInt8 := [42, 27, 182, 0, 106, 61, 42, 28, 156, 0, 7, 4, 167, 0, 4, 3, 181, 0, 25, 28, 155, 0, 26, 42]
abbrev dktX3_canTake_0 : List UInt8 := dkwX3_canTake_0 ++ dktX3_canTake_1
theorem dksX3_canTake_0 : cX3_canTake.data.toList.drop 0 = dktX3_canTake_0 := by decide +kernel
theorem dksX3_canTake_1 : cX3_canTake.data.toList.drop 24 = dktX3_canTake_1 := dk_seg dksX3_canTake_0 24 rfl rfl
theorem dX3_canTake_0 : decode cX3_canTake 0 = .ok (.aload_n 0, 1) := dk_42 (dk_at dksX3_canTake_0 0 rfl rfl)
theorem dX3_canTake_1 : decode cX3_canTake 1 = .ok (.iload_n 1, 1) := dk_27 (dk_at dksX3_canTake_0 1 rfl rfl)
theorem dX3_canTake_2 : decode cX3_canTake 2 = .ok (.invokevirtual 106, 3) := dk_182 0 106 (dk_at dksX3_canTake_0 2 rfl rfl)
theorem dX3_canTake_5 : decode cX3_canTake 5 = .ok (.istore_n 2, 1) := dk_61 (dk_at dksX3_canTake_0 5 rfl rfl)
theorem dX3_canTake_6 : decode cX3_canTake 6 = .ok (.aload_n 0, 1) := dk_42 (dk_at dksX3_canTake_0 6 rfl rfl)
theorem dX3_canTake_7 : decode cX3_canTake 7 = .ok (.iload_n 2, 1) := dk_28 (dk_at dksX3_canTake_0 7 rfl rfl)
theorem dX3_canTake_8 : decode cX3_canTake 8 = .ok (.ifCond .ge 7, 3) := dk_156 0 7 (dk_at dksX3_canTake_0 8 rfl rfl)
theorem dX3_canTake_11 : decode cX3_canTake 11 = .ok (.iconst 1, 1) := dk_4 (dk_at dksX3_canTake_0 11 rfl rfl)
theorem dX3_canTake_12 : decode cX3_canTake 12 = .ok (.goto 4, 3) := dk_167 0 4 (dk_at dksX3_canTake_0 12 rfl rfl)
theorem dX3_canTake_15 : decode cX3_canTake 15 = .ok (.iconst 0, 1) := dk_3 (dk_at dksX3_canTake_0 15 rfl rfl)
theorem dX3_canTake_16 : decode cX3_canTake 16 = .ok (.putfield 25, 3) := dk_181 0 25 (dk_at dksX3_canTake_0 16 rfl rfl)
theorem dX3_canTake_19 : decode cX3_canTake 19 = .ok (.iload_n 2, 1) := dk_28 (dk_at dksX3_canTake_0 19 rfl rfl)
theorem dX3_canTake_20 : decode cX3_canTake 20 = .ok (.ifCond .lt 26, 3) := dk_155 0 26 (dk_at dksX3_canTake_0 20 rfl rfl)
theorem dX3_canTake_23 : decode cX3_canTake 23 = .ok (.aload_n 0, 1) := dk_42 (dk_at dksX3_canTake_0 23 rfl rfl)
theorem dX3_canTake_24 : decode cX3_canTake 24 = .ok (.getfield 7, 3) := dk_180 0 7 (dk_at dksX3_canTake_1 0 rfl rfl)
theorem dX3_canTake_27 : decode cX3_canTake 27 = .ok (.bipush 18, 2) := dk_16 18 (dk_at dksX3_canTake_1 3 rfl rfl)
theorem dX3_canTake_29 : decode cX3_canTake 29 = .ok (.iaload, 1) := dk_46 (dk_at dksX3_canTake_1 5 rfl rfl)
theorem dX3_canTake_30 : decode cX3_canTake 30 = .ok (.iconst 1, 1) := dk_4 (dk_at dksX3_canTake_1 6 rfl rfl)
theorem dX3_canTake_31 : decode cX3_canTake 31 = .ok (.if_icmp .ne 15, 3) := dk_160 0 15 (dk_at dksX3_canTake_1 7 rfl rfl)
theorem dX3_canTake_34 : decode cX3_canTake 34 = .ok (.aload_n 0, 1) := dk_42 (dk_at dksX3_canTake_1 10 rfl rfl)
theorem dX3_canTake_35 : decode cX3_canTake 35 = .ok (.iload_n 2, 1) := dk_28 (dk_at dksX3_canTake_1 11 rfl rfl)
theorem dX3_canTake_36 : decode cX3_canTake 36 = .ok (.invokevirtual 181, 3) := dk_182 0 181 (dk_at dksX3_canTake_1 12 rfl rfl)
theorem dX3_canTake_39 : decode cX3_canTake 39 = .ok (.ifCond .eq 7, 3) := dk_153 0 7 (dk_at dksX3_canTake_1 15 rfl rfl)
theorem dX3_canTake_42 : decode cX3_canTake 42 = .ok (.iconst 1, 1) := dk_4 (dk_at dksX3_canTake_1 18 rfl rfl)
theorem dX3_canTake_43 : decode cX3_canTake 43 = .ok (.goto 4, 3) := dk_167 0 4 (dk_at dksX3_canTake_1 19 rfl rfl)
theorem dX3_canTake_46 : decode cX3_canTake 46 = .ok (.iconst 0, 1) := dk_3 (dk_at dksX3_canTake_1 22 rfl rfl)
theorem dX3_canTake_47 : decode cX3_canTake 47 = .ok (.ireturn, 1) := dk_172 (dk_at dksX3_canTake_1 23 rfl rfl)
abbrev cX3_whoTakes : ByteArray := prog_20_method_62_code
def yX3_whoTakes : MethodName := ⟨RX3, "whoTakes", "()I"⟩
def dkwX3_whoTakes_3 : List UInt8 := [182, 0, 98, 172, 132, 2, 1, 167, 255, 213, 42, 4, 182, 0, 90, 172]
abbrev dktX3_whoTakes_3 : List UInt8 := dkwX3_whoTakes_3 ++ []
def dkwX3_whoTakes_2 : List UInt8 := [27, 28, 96, 42, 180, 0, 7, 4, 46, 112, 62, 42, 29, 182, 0, 181, 153, 0, 10, 42, 29, 3]
abbrev dktX3_whoTakes_2 : List UInt8 := dkwX3_whoTakes_2 ++ dktX3_whoTakes_3
def dkwX3_whoTakes_1 : List UInt8 := [182, 0, 106, 167, 0, 4, 2, 60, 4, 61, 28, 42, 180, 0, 7, 4, 46, 163, 0, 39, 27, 155, 0, 35]
abbrev dktX3_whoTakes_1 : List UInt8 := dkwX3_whoTakes_1 ++ dktX3_whoTakes_2
def dkwX3_whoTakes_0 : List UInt8 := [42, 3, 181, 0, 25, 42, 180, 0, 7, 16, 18, 46, 4, 160, 0, 17, 42, 42, 180, 0, 7, 16, 19, 46]
abbrev dktX3_whoTakes_0 : List UInt8 := dkwX3_whoTakes_0 ++ dktX3_whoTakes_1
theorem dksX3_whoTakes_0 : cX3_whoTakes.data.toList.drop 0 = dktX3_whoTakes_0 := by decide +kernel
theorem dksX3_whoTakes_1 : cX3_whoTakes.data.toList.drop 24 = dktX3_whoTakes_1 := dk_seg dksX3_whoTakes_0 24 rfl rfl
theorem dksX3_whoTakes_2 : cX3_whoTakes.data.toList.drop 48 = dktX3_whoTakes_2 := dk_seg dksX3_whoTakes_1 24 rfl rfl
theorem dksX3_whoTakes_3 : cX3_whoTakes.data.toList.drop 70 = dktX3_whoTakes_3 := dk_seg dksX3_whoTakes_2 22 rfl rfl
theorem dX3_whoTakes_0 : decode cX3_whoTakes 0 = .ok (.aload_n 0, 1) := dk_42 (dk_at dksX3_whoTakes_0 0 rfl rfl)
theorem dX3_whoTakes_1 : decode cX3_whoTakes 1 = .ok (.iconst 0, 1) := dk_3 (dk_at dksX3_whoTakes_0 1 rfl rfl)
theorem dX3_whoTakes_2 : decode cX3_whoTakes 2 = .ok (.putfield 25, 3) := dk_181 0 25 (dk_at dksX3_whoTakes_0 2 rfl rfl)
theorem dX3_whoTakes_5 : decode cX3_whoTakes 5 = .ok (.aload_n 0, 1) := dk_42 (dk_at dksX3_whoTakes_0 5 rfl rfl)
theorem dX3_whoTakes_6 : decode cX3_whoTakes 6 = .ok (.getfield 7, 3) := dk_180 0 7 (dk_at dksX3_whoTakes_0 6 rfl rfl)
theorem dX3_whoTakes_9 : decode cX3_whoTakes 9 = .ok (.bipush 18, 2) := dk_16 18 (dk_at dksX3_whoTakes_0 9 rfl rfl)
theorem dX3_whoTakes_11 : decode cX3_whoTakes 11 = .ok (.iaload, 1) := dk_46 (dk_at dksX3_whoTakes_0 11 rfl rfl)
theorem dX3_whoTakes_12 : decode cX3_whoTakes 12 = .ok (.iconst 1, 1) := dk_4 (dk_at dksX3_whoTakes_0 12 rfl rfl)
theorem dX3_whoTakes_13 : decode cX3_whoTakes 13 = .ok (.if_icmp .ne 17, 3) := dk_160 0 17 (dk_at dksX3_whoTakes_0 13 rfl rfl)
theorem dX3_whoTakes_16 : decode cX3_whoTakes 16 = .ok (.aload_n 0, 1) := dk_42 (dk_at dksX3_whoTakes_0 16 rfl rfl)
theorem dX3_whoTakes_17 : decode cX3_whoTakes 17 = .ok (.aload_n 0, 1) := dk_42 (dk_at dksX3_whoTakes_0 17 rfl rfl)
theorem dX3_whoTakes_18 : decode cX3_whoTakes 18 = .ok (.getfield 7, 3) := dk_180 0 7 (dk_at dksX3_whoTakes_0 18 rfl rfl)
theorem dX3_whoTakes_21 : decode cX3_whoTakes 21 = .ok (.bipush 19, 2) := dk_16 19 (dk_at dksX3_whoTakes_0 21 rfl rfl)
theorem dX3_whoTakes_23 : decode cX3_whoTakes 23 = .ok (.iaload, 1) := dk_46 (dk_at dksX3_whoTakes_0 23 rfl rfl)
theorem dX3_whoTakes_24 : decode cX3_whoTakes 24 = .ok (.invokevirtual 106, 3) := dk_182 0 106 (dk_at dksX3_whoTakes_1 0 rfl rfl)
theorem dX3_whoTakes_27 : decode cX3_whoTakes 27 = .ok (.goto 4, 3) := dk_167 0 4 (dk_at dksX3_whoTakes_1 3 rfl rfl)
theorem dX3_whoTakes_30 : decode cX3_whoTakes 30 = .ok (.iconst (-1), 1) := dk_2 (dk_at dksX3_whoTakes_1 6 rfl rfl)
theorem dX3_whoTakes_31 : decode cX3_whoTakes 31 = .ok (.istore_n 1, 1) := dk_60 (dk_at dksX3_whoTakes_1 7 rfl rfl)
theorem dX3_whoTakes_32 : decode cX3_whoTakes 32 = .ok (.iconst 1, 1) := dk_4 (dk_at dksX3_whoTakes_1 8 rfl rfl)
theorem dX3_whoTakes_33 : decode cX3_whoTakes 33 = .ok (.istore_n 2, 1) := dk_61 (dk_at dksX3_whoTakes_1 9 rfl rfl)
theorem dX3_whoTakes_34 : decode cX3_whoTakes 34 = .ok (.iload_n 2, 1) := dk_28 (dk_at dksX3_whoTakes_1 10 rfl rfl)
theorem dX3_whoTakes_35 : decode cX3_whoTakes 35 = .ok (.aload_n 0, 1) := dk_42 (dk_at dksX3_whoTakes_1 11 rfl rfl)
theorem dX3_whoTakes_36 : decode cX3_whoTakes 36 = .ok (.getfield 7, 3) := dk_180 0 7 (dk_at dksX3_whoTakes_1 12 rfl rfl)
theorem dX3_whoTakes_39 : decode cX3_whoTakes 39 = .ok (.iconst 1, 1) := dk_4 (dk_at dksX3_whoTakes_1 15 rfl rfl)
theorem dX3_whoTakes_40 : decode cX3_whoTakes 40 = .ok (.iaload, 1) := dk_46 (dk_at dksX3_whoTakes_1 16 rfl rfl)
theorem dX3_whoTakes_41 : decode cX3_whoTakes 41 = .ok (.if_icmp .gt 39, 3) := dk_163 0 39 (dk_at dksX3_whoTakes_1 17 rfl rfl)
theorem dX3_whoTakes_44 : decode cX3_whoTakes 44 = .ok (.iload_n 1, 1) := dk_27 (dk_at dksX3_whoTakes_1 20 rfl rfl)
theorem dX3_whoTakes_45 : decode cX3_whoTakes 45 = .ok (.ifCond .lt 35, 3) := dk_155 0 35 (dk_at dksX3_whoTakes_1 21 rfl rfl)
theorem dX3_whoTakes_48 : decode cX3_whoTakes 48 = .ok (.iload_n 1, 1) := dk_27 (dk_at dksX3_whoTakes_2 0 rfl rfl)
theorem dX3_whoTakes_49 : decode cX3_whoTakes 49 = .ok (.iload_n 2, 1) := dk_28 (dk_at dksX3_whoTakes_2 1 rfl rfl)
theorem dX3_whoTakes_50 : decode cX3_whoTakes 50 = .ok (.iadd, 1) := dk_96 (dk_at dksX3_whoTakes_2 2 rfl rfl)
theorem dX3_whoTakes_51 : decode cX3_whoTakes 51 = .ok (.aload_n 0, 1) := dk_42 (dk_at dksX3_whoTakes_2 3 rfl rfl)
theorem dX3_whoTakes_52 : decode cX3_whoTakes 52 = .ok (.getfield 7, 3) := dk_180 0 7 (dk_at dksX3_whoTakes_2 4 rfl rfl)
theorem dX3_whoTakes_55 : decode cX3_whoTakes 55 = .ok (.iconst 1, 1) := dk_4 (dk_at dksX3_whoTakes_2 7 rfl rfl)
theorem dX3_whoTakes_56 : decode cX3_whoTakes 56 = .ok (.iaload, 1) := dk_46 (dk_at dksX3_whoTakes_2 8 rfl rfl)
theorem dX3_whoTakes_57 : decode cX3_whoTakes 57 = .ok (.irem, 1) := dk_112 (dk_at dksX3_whoTakes_2 9 rfl rfl)
theorem dX3_whoTakes_58 : decode cX3_whoTakes 58 = .ok (.istore_n 3, 1) := dk_62 (dk_at dksX3_whoTakes_2 10 rfl rfl)
theorem dX3_whoTakes_59 : decode cX3_whoTakes 59 = .ok (.aload_n 0, 1) := dk_42 (dk_at dksX3_whoTakes_2 11 rfl rfl)
theorem dX3_whoTakes_60 : decode cX3_whoTakes 60 = .ok (.iload_n 3, 1) := dk_29 (dk_at dksX3_whoTakes_2 12 rfl rfl)
theorem dX3_whoTakes_61 : decode cX3_whoTakes 61 = .ok (.invokevirtual 181, 3) := dk_182 0 181 (dk_at dksX3_whoTakes_2 13 rfl rfl)
theorem dX3_whoTakes_64 : decode cX3_whoTakes 64 = .ok (.ifCond .eq 10, 3) := dk_153 0 10 (dk_at dksX3_whoTakes_2 16 rfl rfl)
theorem dX3_whoTakes_67 : decode cX3_whoTakes 67 = .ok (.aload_n 0, 1) := dk_42 (dk_at dksX3_whoTakes_2 19 rfl rfl)
theorem dX3_whoTakes_68 : decode cX3_whoTakes 68 = .ok (.iload_n 3, 1) := dk_29 (dk_at dksX3_whoTakes_2 20 rfl rfl)
theorem dX3_whoTakes_69 : decode cX3_whoTakes 69 = .ok (.iconst 0, 1) := dk_3 (dk_at dksX3_whoTakes_2 21 rfl rfl)
theorem dX3_whoTakes_70 : decode cX3_whoTakes 70 = .ok (.invokevirtual 98, 3) := dk_182 0 98 (dk_at dksX3_whoTakes_3 0 rfl rfl)
theorem dX3_whoTakes_73 : decode cX3_whoTakes 73 = .ok (.ireturn, 1) := dk_172 (dk_at dksX3_whoTakes_3 3 rfl rfl)
theorem dX3_whoTakes_74 : decode cX3_whoTakes 74 = .ok (.iinc 2 1, 3) := dk_132 2 1 (dk_at dksX3_whoTakes_3 4 rfl rfl)
theorem dX3_whoTakes_77 : decode cX3_whoTakes 77 = .ok (.goto (-43), 3) := dk_167 255 213 (dk_at dksX3_whoTakes_3 7 rfl rfl)
theorem dX3_whoTakes_80 : decode cX3_whoTakes 80 = .ok (.aload_n 0, 1) := dk_42 (dk_at dksX3_whoTakes_3 10 rfl rfl)
theorem dX3_whoTakes_81 : decode cX3_whoTakes 81 = .ok (.iconst 1, 1) := dk_4 (dk_at dksX3_whoTakes_3 11 rfl rfl)
theorem dX3_whoTakes_82 : decode cX3_whoTakes 82 = .ok (.invokevirtual 90, 3) := dk_182 0 90 (dk_at dksX3_whoTakes_3 12 rfl rfl)
theorem dX3_whoTakes_85 : decode cX3_whoTakes 85 = .ok (.ireturn, 1) := dk_172 (dk_at dksX3_whoTakes_3 15 rfl rfl)
abbrev cX3_receivedIn : ByteArray := prog_20_method_64_code
def yX3_receivedIn : MethodName := ⟨RX3, "receivedIn", "(I)I"⟩
def dkwX3_receivedIn_6 : List UInt8 := [182, 0, 90, 172]
abbrev dktX3_receivedIn_6 : List UInt8 := dkwX3_receivedIn_6 ++ []
def dkwX3_receivedIn_5 : List UInt8 := [180, 0, 16, 3, 42, 180, 0, 7, 3, 184, 0, 94, 29, 153, 0, 7, 28, 167, 0, 8, 42, 4]
abbrev dktX3_receivedIn_5 : List UInt8 := dkwX3_receivedIn_5 ++ dktX3_receivedIn_6
def dkwX3_receivedIn_4 : List UInt8 := [160, 0, 13, 21, 4, 27, 160, 0, 7, 4, 167, 0, 4, 3, 62, 132, 2, 1, 167, 255, 198, 42]
abbrev dktX3_receivedIn_4 : List UInt8 := dkwX3_receivedIn_4 ++ dktX3_receivedIn_5
def dkwX3_receivedIn_3 : List UInt8 := [46, 5, 160, 0, 13, 42, 180, 0, 7, 16, 22, 46, 167, 0, 4, 2, 54, 4, 42, 182, 0, 197, 4]
abbrev dktX3_receivedIn_3 : List UInt8 := dkwX3_receivedIn_3 ++ dktX3_receivedIn_4
def dkwX3_receivedIn_2 : List UInt8 := [184, 0, 94, 3, 61, 3, 62, 28, 17, 0, 200, 162, 0, 57, 29, 154, 0, 53, 42, 180, 0, 7, 16, 18]
abbrev dktX3_receivedIn_2 : List UInt8 := dkwX3_receivedIn_2 ++ dktX3_receivedIn_3
def dkwX3_receivedIn_1 : List UInt8 := [182, 0, 212, 156, 0, 9, 42, 4, 182, 0, 90, 172, 42, 180, 0, 7, 3, 42, 180, 0, 16, 3]
abbrev dktX3_receivedIn_1 : List UInt8 := dkwX3_receivedIn_1 ++ dktX3_receivedIn_2
def dkwX3_receivedIn_0 : List UInt8 := [42, 3, 181, 0, 25, 42, 27, 182, 0, 224, 154, 0, 19, 42, 27, 182, 0, 209, 154, 0, 17, 42, 27]
abbrev dktX3_receivedIn_0 : List UInt8 := dkwX3_receivedIn_0 ++ dktX3_receivedIn_1
theorem dksX3_receivedIn_0 : cX3_receivedIn.data.toList.drop 0 = dktX3_receivedIn_0 := by decide +kernel
theorem dksX3_receivedIn_1 : cX3_receivedIn.data.toList.drop 23 = dktX3_receivedIn_1 := dk_seg dksX3_receivedIn_0 23 rfl rfl
theorem dksX3_receivedIn_2 : cX3_receivedIn.data.toList.drop 45 = dktX3_receivedIn_2 := dk_seg dksX3_receivedIn_1 22 rfl rfl
theorem dksX3_receivedIn_3 : cX3_receivedIn.data.toList.drop 69 = dktX3_receivedIn_3 := dk_seg dksX3_receivedIn_2 24 rfl rfl
theorem dksX3_receivedIn_4 : cX3_receivedIn.data.toList.drop 92 = dktX3_receivedIn_4 := dk_seg dksX3_receivedIn_3 23 rfl rfl
theorem dksX3_receivedIn_5 : cX3_receivedIn.data.toList.drop 114 = dktX3_receivedIn_5 := dk_seg dksX3_receivedIn_4 22 rfl rfl
theorem dksX3_receivedIn_6 : cX3_receivedIn.data.toList.drop 136 = dktX3_receivedIn_6 := dk_seg dksX3_receivedIn_5 22 rfl rfl
theorem dX3_receivedIn_0 : decode cX3_receivedIn 0 = .ok (.aload_n 0, 1) := dk_42 (dk_at dksX3_receivedIn_0 0 rfl rfl)
theorem dX3_receivedIn_1 : decode cX3_receivedIn 1 = .ok (.iconst 0, 1) := dk_3 (dk_at dksX3_receivedIn_0 1 rfl rfl)
theorem dX3_receivedIn_2 : decode cX3_receivedIn 2 = .ok (.putfield 25, 3) := dk_181 0 25 (dk_at dksX3_receivedIn_0 2 rfl rfl)
theorem dX3_receivedIn_5 : decode cX3_receivedIn 5 = .ok (.aload_n 0, 1) := dk_42 (dk_at dksX3_receivedIn_0 5 rfl rfl)
theorem dX3_receivedIn_6 : decode cX3_receivedIn 6 = .ok (.iload_n 1, 1) := dk_27 (dk_at dksX3_receivedIn_0 6 rfl rfl)
theorem dX3_receivedIn_7 : decode cX3_receivedIn 7 = .ok (.invokevirtual 224, 3) := dk_182 0 224 (dk_at dksX3_receivedIn_0 7 rfl rfl)
theorem dX3_receivedIn_10 : decode cX3_receivedIn 10 = .ok (.ifCond .ne 19, 3) := dk_154 0 19 (dk_at dksX3_receivedIn_0 10 rfl rfl)
theorem dX3_receivedIn_13 : decode cX3_receivedIn 13 = .ok (.aload_n 0, 1) := dk_42 (dk_at dksX3_receivedIn_0 13 rfl rfl)
theorem dX3_receivedIn_14 : decode cX3_receivedIn 14 = .ok (.iload_n 1, 1) := dk_27 (dk_at dksX3_receivedIn_0 14 rfl rfl)
theorem dX3_receivedIn_15 : decode cX3_receivedIn 15 = .ok (.invokevirtual 209, 3) := dk_182 0 209 (dk_at dksX3_receivedIn_0 15 rfl rfl)
theorem dX3_receivedIn_18 : decode cX3_receivedIn 18 = .ok (.ifCond .ne 17, 3) := dk_154 0 17 (dk_at dksX3_receivedIn_0 18 rfl rfl)
theorem dX3_receivedIn_21 : decode cX3_receivedIn 21 = .ok (.aload_n 0, 1) := dk_42 (dk_at dksX3_receivedIn_0 21 rfl rfl)
theorem dX3_receivedIn_22 : decode cX3_receivedIn 22 = .ok (.iload_n 1, 1) := dk_27 (dk_at dksX3_receivedIn_0 22 rfl rfl)
theorem dX3_receivedIn_23 : decode cX3_receivedIn 23 = .ok (.invokevirtual 212, 3) := dk_182 0 212 (dk_at dksX3_receivedIn_1 0 rfl rfl)
theorem dX3_receivedIn_26 : decode cX3_receivedIn 26 = .ok (.ifCond .ge 9, 3) := dk_156 0 9 (dk_at dksX3_receivedIn_1 3 rfl rfl)
theorem dX3_receivedIn_29 : decode cX3_receivedIn 29 = .ok (.aload_n 0, 1) := dk_42 (dk_at dksX3_receivedIn_1 6 rfl rfl)
theorem dX3_receivedIn_30 : decode cX3_receivedIn 30 = .ok (.iconst 1, 1) := dk_4 (dk_at dksX3_receivedIn_1 7 rfl rfl)
theorem dX3_receivedIn_31 : decode cX3_receivedIn 31 = .ok (.invokevirtual 90, 3) := dk_182 0 90 (dk_at dksX3_receivedIn_1 8 rfl rfl)
theorem dX3_receivedIn_34 : decode cX3_receivedIn 34 = .ok (.ireturn, 1) := dk_172 (dk_at dksX3_receivedIn_1 11 rfl rfl)
theorem dX3_receivedIn_35 : decode cX3_receivedIn 35 = .ok (.aload_n 0, 1) := dk_42 (dk_at dksX3_receivedIn_1 12 rfl rfl)
theorem dX3_receivedIn_36 : decode cX3_receivedIn 36 = .ok (.getfield 7, 3) := dk_180 0 7 (dk_at dksX3_receivedIn_1 13 rfl rfl)
theorem dX3_receivedIn_39 : decode cX3_receivedIn 39 = .ok (.iconst 0, 1) := dk_3 (dk_at dksX3_receivedIn_1 16 rfl rfl)
theorem dX3_receivedIn_40 : decode cX3_receivedIn 40 = .ok (.aload_n 0, 1) := dk_42 (dk_at dksX3_receivedIn_1 17 rfl rfl)
theorem dX3_receivedIn_41 : decode cX3_receivedIn 41 = .ok (.getfield 16, 3) := dk_180 0 16 (dk_at dksX3_receivedIn_1 18 rfl rfl)
theorem dX3_receivedIn_44 : decode cX3_receivedIn 44 = .ok (.iconst 0, 1) := dk_3 (dk_at dksX3_receivedIn_1 21 rfl rfl)
theorem dX3_receivedIn_45 : decode cX3_receivedIn 45 = .ok (.invokestatic 94, 3) := dk_184 0 94 (dk_at dksX3_receivedIn_2 0 rfl rfl)
theorem dX3_receivedIn_48 : decode cX3_receivedIn 48 = .ok (.iconst 0, 1) := dk_3 (dk_at dksX3_receivedIn_2 3 rfl rfl)
theorem dX3_receivedIn_49 : decode cX3_receivedIn 49 = .ok (.istore_n 2, 1) := dk_61 (dk_at dksX3_receivedIn_2 4 rfl rfl)
theorem dX3_receivedIn_50 : decode cX3_receivedIn 50 = .ok (.iconst 0, 1) := dk_3 (dk_at dksX3_receivedIn_2 5 rfl rfl)
theorem dX3_receivedIn_51 : decode cX3_receivedIn 51 = .ok (.istore_n 3, 1) := dk_62 (dk_at dksX3_receivedIn_2 6 rfl rfl)
theorem dX3_receivedIn_52 : decode cX3_receivedIn 52 = .ok (.iload_n 2, 1) := dk_28 (dk_at dksX3_receivedIn_2 7 rfl rfl)
theorem dX3_receivedIn_53 : decode cX3_receivedIn 53 = .ok (.sipush 200, 3) := dk_17 0 200 (dk_at dksX3_receivedIn_2 8 rfl rfl)
theorem dX3_receivedIn_56 : decode cX3_receivedIn 56 = .ok (.if_icmp .ge 57, 3) := dk_162 0 57 (dk_at dksX3_receivedIn_2 11 rfl rfl)
theorem dX3_receivedIn_59 : decode cX3_receivedIn 59 = .ok (.iload_n 3, 1) := dk_29 (dk_at dksX3_receivedIn_2 14 rfl rfl)
theorem dX3_receivedIn_60 : decode cX3_receivedIn 60 = .ok (.ifCond .ne 53, 3) := dk_154 0 53 (dk_at dksX3_receivedIn_2 15 rfl rfl)
theorem dX3_receivedIn_63 : decode cX3_receivedIn 63 = .ok (.aload_n 0, 1) := dk_42 (dk_at dksX3_receivedIn_2 18 rfl rfl)
theorem dX3_receivedIn_64 : decode cX3_receivedIn 64 = .ok (.getfield 7, 3) := dk_180 0 7 (dk_at dksX3_receivedIn_2 19 rfl rfl)
theorem dX3_receivedIn_67 : decode cX3_receivedIn 67 = .ok (.bipush 18, 2) := dk_16 18 (dk_at dksX3_receivedIn_2 22 rfl rfl)
theorem dX3_receivedIn_69 : decode cX3_receivedIn 69 = .ok (.iaload, 1) := dk_46 (dk_at dksX3_receivedIn_3 0 rfl rfl)
theorem dX3_receivedIn_70 : decode cX3_receivedIn 70 = .ok (.iconst 2, 1) := dk_5 (dk_at dksX3_receivedIn_3 1 rfl rfl)
theorem dX3_receivedIn_71 : decode cX3_receivedIn 71 = .ok (.if_icmp .ne 13, 3) := dk_160 0 13 (dk_at dksX3_receivedIn_3 2 rfl rfl)
theorem dX3_receivedIn_74 : decode cX3_receivedIn 74 = .ok (.aload_n 0, 1) := dk_42 (dk_at dksX3_receivedIn_3 5 rfl rfl)
theorem dX3_receivedIn_75 : decode cX3_receivedIn 75 = .ok (.getfield 7, 3) := dk_180 0 7 (dk_at dksX3_receivedIn_3 6 rfl rfl)
theorem dX3_receivedIn_78 : decode cX3_receivedIn 78 = .ok (.bipush 22, 2) := dk_16 22 (dk_at dksX3_receivedIn_3 9 rfl rfl)
theorem dX3_receivedIn_80 : decode cX3_receivedIn 80 = .ok (.iaload, 1) := dk_46 (dk_at dksX3_receivedIn_3 11 rfl rfl)
theorem dX3_receivedIn_81 : decode cX3_receivedIn 81 = .ok (.goto 4, 3) := dk_167 0 4 (dk_at dksX3_receivedIn_3 12 rfl rfl)
theorem dX3_receivedIn_84 : decode cX3_receivedIn 84 = .ok (.iconst (-1), 1) := dk_2 (dk_at dksX3_receivedIn_3 15 rfl rfl)
theorem dX3_receivedIn_85 : decode cX3_receivedIn 85 = .ok (.istore 4, 2) := dk_54 4 (dk_at dksX3_receivedIn_3 16 rfl rfl)
theorem dX3_receivedIn_87 : decode cX3_receivedIn 87 = .ok (.aload_n 0, 1) := dk_42 (dk_at dksX3_receivedIn_3 18 rfl rfl)
theorem dX3_receivedIn_88 : decode cX3_receivedIn 88 = .ok (.invokevirtual 197, 3) := dk_182 0 197 (dk_at dksX3_receivedIn_3 19 rfl rfl)
theorem dX3_receivedIn_91 : decode cX3_receivedIn 91 = .ok (.iconst 1, 1) := dk_4 (dk_at dksX3_receivedIn_3 22 rfl rfl)
theorem dX3_receivedIn_92 : decode cX3_receivedIn 92 = .ok (.if_icmp .ne 13, 3) := dk_160 0 13 (dk_at dksX3_receivedIn_4 0 rfl rfl)
theorem dX3_receivedIn_95 : decode cX3_receivedIn 95 = .ok (.iload 4, 2) := dk_21 4 (dk_at dksX3_receivedIn_4 3 rfl rfl)
theorem dX3_receivedIn_97 : decode cX3_receivedIn 97 = .ok (.iload_n 1, 1) := dk_27 (dk_at dksX3_receivedIn_4 5 rfl rfl)
theorem dX3_receivedIn_98 : decode cX3_receivedIn 98 = .ok (.if_icmp .ne 7, 3) := dk_160 0 7 (dk_at dksX3_receivedIn_4 6 rfl rfl)
theorem dX3_receivedIn_101 : decode cX3_receivedIn 101 = .ok (.iconst 1, 1) := dk_4 (dk_at dksX3_receivedIn_4 9 rfl rfl)
theorem dX3_receivedIn_102 : decode cX3_receivedIn 102 = .ok (.goto 4, 3) := dk_167 0 4 (dk_at dksX3_receivedIn_4 10 rfl rfl)
theorem dX3_receivedIn_105 : decode cX3_receivedIn 105 = .ok (.iconst 0, 1) := dk_3 (dk_at dksX3_receivedIn_4 13 rfl rfl)
theorem dX3_receivedIn_106 : decode cX3_receivedIn 106 = .ok (.istore_n 3, 1) := dk_62 (dk_at dksX3_receivedIn_4 14 rfl rfl)
theorem dX3_receivedIn_107 : decode cX3_receivedIn 107 = .ok (.iinc 2 1, 3) := dk_132 2 1 (dk_at dksX3_receivedIn_4 15 rfl rfl)
theorem dX3_receivedIn_110 : decode cX3_receivedIn 110 = .ok (.goto (-58), 3) := dk_167 255 198 (dk_at dksX3_receivedIn_4 18 rfl rfl)
theorem dX3_receivedIn_113 : decode cX3_receivedIn 113 = .ok (.aload_n 0, 1) := dk_42 (dk_at dksX3_receivedIn_4 21 rfl rfl)
theorem dX3_receivedIn_114 : decode cX3_receivedIn 114 = .ok (.getfield 16, 3) := dk_180 0 16 (dk_at dksX3_receivedIn_5 0 rfl rfl)
theorem dX3_receivedIn_117 : decode cX3_receivedIn 117 = .ok (.iconst 0, 1) := dk_3 (dk_at dksX3_receivedIn_5 3 rfl rfl)
theorem dX3_receivedIn_118 : decode cX3_receivedIn 118 = .ok (.aload_n 0, 1) := dk_42 (dk_at dksX3_receivedIn_5 4 rfl rfl)
theorem dX3_receivedIn_119 : decode cX3_receivedIn 119 = .ok (.getfield 7, 3) := dk_180 0 7 (dk_at dksX3_receivedIn_5 5 rfl rfl)
theorem dX3_receivedIn_122 : decode cX3_receivedIn 122 = .ok (.iconst 0, 1) := dk_3 (dk_at dksX3_receivedIn_5 8 rfl rfl)
theorem dX3_receivedIn_123 : decode cX3_receivedIn 123 = .ok (.invokestatic 94, 3) := dk_184 0 94 (dk_at dksX3_receivedIn_5 9 rfl rfl)
theorem dX3_receivedIn_126 : decode cX3_receivedIn 126 = .ok (.iload_n 3, 1) := dk_29 (dk_at dksX3_receivedIn_5 12 rfl rfl)
theorem dX3_receivedIn_127 : decode cX3_receivedIn 127 = .ok (.ifCond .eq 7, 3) := dk_153 0 7 (dk_at dksX3_receivedIn_5 13 rfl rfl)
theorem dX3_receivedIn_130 : decode cX3_receivedIn 130 = .ok (.iload_n 2, 1) := dk_28 (dk_at dksX3_receivedIn_5 16 rfl rfl)
theorem dX3_receivedIn_131 : decode cX3_receivedIn 131 = .ok (.goto 8, 3) := dk_167 0 8 (dk_at dksX3_receivedIn_5 17 rfl rfl)
theorem dX3_receivedIn_134 : decode cX3_receivedIn 134 = .ok (.aload_n 0, 1) := dk_42 (dk_at dksX3_receivedIn_5 20 rfl rfl)
theorem dX3_receivedIn_135 : decode cX3_receivedIn 135 = .ok (.iconst 1, 1) := dk_4 (dk_at dksX3_receivedIn_5 21 rfl rfl)
theorem dX3_receivedIn_136 : decode cX3_receivedIn 136 = .ok (.invokevirtual 90, 3) := dk_182 0 90 (dk_at dksX3_receivedIn_6 0 rfl rfl)
theorem dX3_receivedIn_139 : decode cX3_receivedIn 139 = .ok (.ireturn, 1) := dk_172 (dk_at dksX3_receivedIn_6 3 rfl rfl)
abbrev cX3_isGot : ByteArray := prog_20_method_63_code
def yX3_isGot : MethodName := ⟨RX3, "isGot", "(I)Z"⟩
def dkwX3_isGot_1 : List UInt8 := [172]
abbrev dktX3_isGot_1 : List UInt8 := dkwX3_isGot_1 ++ []
def dkwX3_isGot_0 : List UInt8 := [42, 27, 182, 0, 209, 153, 0, 18, 42, 180, 0, 7, 16, 30, 46, 4, 160, 0, 7, 4, 167, 0, 4, 3]
abbrev dktX3_isGot_0 : List UInt8 := dkwX3_isGot_0 ++ dktX3_isGot_1
theorem dksX3_isGot_0 : cX3_isGot.data.toList.drop 0 = dktX3_isGot_0 := by decide +kernel
theorem dksX3_isGot_1 : cX3_isGot.data.toList.drop 24 = dktX3_isGot_1 := dk_seg dksX3_isGot_0 24 rfl rfl
theorem dX3_isGot_0 : decode cX3_isGot 0 = .ok (.aload_n 0, 1) := dk_42 (dk_at dksX3_isGot_0 0 rfl rfl)
theorem dX3_isGot_1 : decode cX3_isGot 1 = .ok (.iload_n 1, 1) := dk_27 (dk_at dksX3_isGot_0 1 rfl rfl)
theorem dX3_isGot_2 : decode cX3_isGot 2 = .ok (.invokevirtual 209, 3) := dk_182 0 209 (dk_at dksX3_isGot_0 2 rfl rfl)
theorem dX3_isGot_5 : decode cX3_isGot 5 = .ok (.ifCond .eq 18, 3) := dk_153 0 18 (dk_at dksX3_isGot_0 5 rfl rfl)
theorem dX3_isGot_8 : decode cX3_isGot 8 = .ok (.aload_n 0, 1) := dk_42 (dk_at dksX3_isGot_0 8 rfl rfl)
theorem dX3_isGot_9 : decode cX3_isGot 9 = .ok (.getfield 7, 3) := dk_180 0 7 (dk_at dksX3_isGot_0 9 rfl rfl)
theorem dX3_isGot_12 : decode cX3_isGot 12 = .ok (.bipush 30, 2) := dk_16 30 (dk_at dksX3_isGot_0 12 rfl rfl)
theorem dX3_isGot_14 : decode cX3_isGot 14 = .ok (.iaload, 1) := dk_46 (dk_at dksX3_isGot_0 14 rfl rfl)
theorem dX3_isGot_15 : decode cX3_isGot 15 = .ok (.iconst 1, 1) := dk_4 (dk_at dksX3_isGot_0 15 rfl rfl)
theorem dX3_isGot_16 : decode cX3_isGot 16 = .ok (.if_icmp .ne 7, 3) := dk_160 0 7 (dk_at dksX3_isGot_0 16 rfl rfl)
theorem dX3_isGot_19 : decode cX3_isGot 19 = .ok (.iconst 1, 1) := dk_4 (dk_at dksX3_isGot_0 19 rfl rfl)
theorem dX3_isGot_20 : decode cX3_isGot 20 = .ok (.goto 4, 3) := dk_167 0 4 (dk_at dksX3_isGot_0 20 rfl rfl)
theorem dX3_isGot_23 : decode cX3_isGot 23 = .ok (.iconst 0, 1) := dk_3 (dk_at dksX3_isGot_0 23 rfl rfl)
theorem dX3_isGot_24 : decode cX3_isGot 24 = .ok (.ireturn, 1) := dk_172 (dk_at dksX3_isGot_1 0 rfl rfl)
abbrev cX3_tokenIn : ByteArray := prog_20_method_66_code
def yX3_tokenIn : MethodName := ⟨RX3, "tokenIn", "(I)I"⟩
def dkwX3_tokenIn_4 : List UInt8 := [182, 0, 90, 172]
abbrev dktX3_tokenIn_4 : List UInt8 := dkwX3_tokenIn_4 ++ []
def dkwX3_tokenIn_3 : List UInt8 := [180, 0, 16, 3, 42, 180, 0, 7, 3, 184, 0, 94, 21, 4, 153, 0, 7, 28, 167, 0, 8, 42, 5]
abbrev dktX3_tokenIn_3 : List UInt8 := dkwX3_tokenIn_3 ++ dktX3_tokenIn_4
def dkwX3_tokenIn_2 : List UInt8 := [154, 0, 14, 42, 182, 0, 197, 62, 132, 2, 1, 167, 255, 234, 42, 27, 182, 0, 227, 54, 4, 42]
abbrev dktX3_tokenIn_2 : List UInt8 := dkwX3_tokenIn_2 ++ dktX3_tokenIn_3
def dkwX3_tokenIn_1 : List UInt8 := [42, 180, 0, 16, 3, 184, 0, 94, 3, 61, 3, 62, 28, 16, 100, 162, 0, 22, 42, 27, 182, 0, 227]
abbrev dktX3_tokenIn_1 : List UInt8 := dkwX3_tokenIn_1 ++ dktX3_tokenIn_2
def dkwX3_tokenIn_0 : List UInt8 := [42, 3, 181, 0, 25, 42, 27, 182, 0, 106, 156, 0, 9, 42, 4, 182, 0, 90, 172, 42, 180, 0, 7, 3]
abbrev dktX3_tokenIn_0 : List UInt8 := dkwX3_tokenIn_0 ++ dktX3_tokenIn_1
theorem dksX3_tokenIn_0 : cX3_tokenIn.data.toList.drop 0 = dktX3_tokenIn_0 := by decide +kernel
theorem dksX3_tokenIn_1 : cX3_tokenIn.data.toList.drop 24 = dktX3_tokenIn_1 := dk_seg dksX3_tokenIn_0 24 rfl rfl
theorem dksX3_tokenIn_2 : cX3_tokenIn.data.toList.drop 47 = dktX3_tokenIn_2 := dk_seg dksX3_tokenIn_1 23 rfl rfl
theorem dksX3_tokenIn_3 : cX3_tokenIn.data.toList.drop 69 = dktX3_tokenIn_3 := dk_seg dksX3_tokenIn_2 22 rfl rfl
theorem dksX3_tokenIn_4 : cX3_tokenIn.data.toList.drop 92 = dktX3_tokenIn_4 := dk_seg dksX3_tokenIn_3 23 rfl rfl
theorem dX3_tokenIn_0 : decode cX3_tokenIn 0 = .ok (.aload_n 0, 1) := dk_42 (dk_at dksX3_tokenIn_0 0 rfl rfl)
theorem dX3_tokenIn_1 : decode cX3_tokenIn 1 = .ok (.iconst 0, 1) := dk_3 (dk_at dksX3_tokenIn_0 1 rfl rfl)
theorem dX3_tokenIn_2 : decode cX3_tokenIn 2 = .ok (.putfield 25, 3) := dk_181 0 25 (dk_at dksX3_tokenIn_0 2 rfl rfl)
theorem dX3_tokenIn_5 : decode cX3_tokenIn 5 = .ok (.aload_n 0, 1) := dk_42 (dk_at dksX3_tokenIn_0 5 rfl rfl)
theorem dX3_tokenIn_6 : decode cX3_tokenIn 6 = .ok (.iload_n 1, 1) := dk_27 (dk_at dksX3_tokenIn_0 6 rfl rfl)
theorem dX3_tokenIn_7 : decode cX3_tokenIn 7 = .ok (.invokevirtual 106, 3) := dk_182 0 106 (dk_at dksX3_tokenIn_0 7 rfl rfl)
theorem dX3_tokenIn_10 : decode cX3_tokenIn 10 = .ok (.ifCond .ge 9, 3) := dk_156 0 9 (dk_at dksX3_tokenIn_0 10 rfl rfl)
theorem dX3_tokenIn_13 : decode cX3_tokenIn 13 = .ok (.aload_n 0, 1) := dk_42 (dk_at dksX3_tokenIn_0 13 rfl rfl)
theorem dX3_tokenIn_14 : decode cX3_tokenIn 14 = .ok (.iconst 1, 1) := dk_4 (dk_at dksX3_tokenIn_0 14 rfl rfl)
theorem dX3_tokenIn_15 : decode cX3_tokenIn 15 = .ok (.invokevirtual 90, 3) := dk_182 0 90 (dk_at dksX3_tokenIn_0 15 rfl rfl)
theorem dX3_tokenIn_18 : decode cX3_tokenIn 18 = .ok (.ireturn, 1) := dk_172 (dk_at dksX3_tokenIn_0 18 rfl rfl)
theorem dX3_tokenIn_19 : decode cX3_tokenIn 19 = .ok (.aload_n 0, 1) := dk_42 (dk_at dksX3_tokenIn_0 19 rfl rfl)
theorem dX3_tokenIn_20 : decode cX3_tokenIn 20 = .ok (.getfield 7, 3) := dk_180 0 7 (dk_at dksX3_tokenIn_0 20 rfl rfl)
theorem dX3_tokenIn_23 : decode cX3_tokenIn 23 = .ok (.iconst 0, 1) := dk_3 (dk_at dksX3_tokenIn_0 23 rfl rfl)
theorem dX3_tokenIn_24 : decode cX3_tokenIn 24 = .ok (.aload_n 0, 1) := dk_42 (dk_at dksX3_tokenIn_1 0 rfl rfl)
theorem dX3_tokenIn_25 : decode cX3_tokenIn 25 = .ok (.getfield 16, 3) := dk_180 0 16 (dk_at dksX3_tokenIn_1 1 rfl rfl)
theorem dX3_tokenIn_28 : decode cX3_tokenIn 28 = .ok (.iconst 0, 1) := dk_3 (dk_at dksX3_tokenIn_1 4 rfl rfl)
theorem dX3_tokenIn_29 : decode cX3_tokenIn 29 = .ok (.invokestatic 94, 3) := dk_184 0 94 (dk_at dksX3_tokenIn_1 5 rfl rfl)
theorem dX3_tokenIn_32 : decode cX3_tokenIn 32 = .ok (.iconst 0, 1) := dk_3 (dk_at dksX3_tokenIn_1 8 rfl rfl)
theorem dX3_tokenIn_33 : decode cX3_tokenIn 33 = .ok (.istore_n 2, 1) := dk_61 (dk_at dksX3_tokenIn_1 9 rfl rfl)
theorem dX3_tokenIn_34 : decode cX3_tokenIn 34 = .ok (.iconst 0, 1) := dk_3 (dk_at dksX3_tokenIn_1 10 rfl rfl)
theorem dX3_tokenIn_35 : decode cX3_tokenIn 35 = .ok (.istore_n 3, 1) := dk_62 (dk_at dksX3_tokenIn_1 11 rfl rfl)
theorem dX3_tokenIn_36 : decode cX3_tokenIn 36 = .ok (.iload_n 2, 1) := dk_28 (dk_at dksX3_tokenIn_1 12 rfl rfl)
theorem dX3_tokenIn_37 : decode cX3_tokenIn 37 = .ok (.bipush 100, 2) := dk_16 100 (dk_at dksX3_tokenIn_1 13 rfl rfl)
theorem dX3_tokenIn_39 : decode cX3_tokenIn 39 = .ok (.if_icmp .ge 22, 3) := dk_162 0 22 (dk_at dksX3_tokenIn_1 15 rfl rfl)
theorem dX3_tokenIn_42 : decode cX3_tokenIn 42 = .ok (.aload_n 0, 1) := dk_42 (dk_at dksX3_tokenIn_1 18 rfl rfl)
theorem dX3_tokenIn_43 : decode cX3_tokenIn 43 = .ok (.iload_n 1, 1) := dk_27 (dk_at dksX3_tokenIn_1 19 rfl rfl)
theorem dX3_tokenIn_44 : decode cX3_tokenIn 44 = .ok (.invokevirtual 227, 3) := dk_182 0 227 (dk_at dksX3_tokenIn_1 20 rfl rfl)
theorem dX3_tokenIn_47 : decode cX3_tokenIn 47 = .ok (.ifCond .ne 14, 3) := dk_154 0 14 (dk_at dksX3_tokenIn_2 0 rfl rfl)
theorem dX3_tokenIn_50 : decode cX3_tokenIn 50 = .ok (.aload_n 0, 1) := dk_42 (dk_at dksX3_tokenIn_2 3 rfl rfl)
theorem dX3_tokenIn_51 : decode cX3_tokenIn 51 = .ok (.invokevirtual 197, 3) := dk_182 0 197 (dk_at dksX3_tokenIn_2 4 rfl rfl)
theorem dX3_tokenIn_54 : decode cX3_tokenIn 54 = .ok (.istore_n 3, 1) := dk_62 (dk_at dksX3_tokenIn_2 7 rfl rfl)
theorem dX3_tokenIn_55 : decode cX3_tokenIn 55 = .ok (.iinc 2 1, 3) := dk_132 2 1 (dk_at dksX3_tokenIn_2 8 rfl rfl)
theorem dX3_tokenIn_58 : decode cX3_tokenIn 58 = .ok (.goto (-22), 3) := dk_167 255 234 (dk_at dksX3_tokenIn_2 11 rfl rfl)
theorem dX3_tokenIn_61 : decode cX3_tokenIn 61 = .ok (.aload_n 0, 1) := dk_42 (dk_at dksX3_tokenIn_2 14 rfl rfl)
theorem dX3_tokenIn_62 : decode cX3_tokenIn 62 = .ok (.iload_n 1, 1) := dk_27 (dk_at dksX3_tokenIn_2 15 rfl rfl)
theorem dX3_tokenIn_63 : decode cX3_tokenIn 63 = .ok (.invokevirtual 227, 3) := dk_182 0 227 (dk_at dksX3_tokenIn_2 16 rfl rfl)
theorem dX3_tokenIn_66 : decode cX3_tokenIn 66 = .ok (.istore 4, 2) := dk_54 4 (dk_at dksX3_tokenIn_2 19 rfl rfl)
theorem dX3_tokenIn_68 : decode cX3_tokenIn 68 = .ok (.aload_n 0, 1) := dk_42 (dk_at dksX3_tokenIn_2 21 rfl rfl)
theorem dX3_tokenIn_69 : decode cX3_tokenIn 69 = .ok (.getfield 16, 3) := dk_180 0 16 (dk_at dksX3_tokenIn_3 0 rfl rfl)
theorem dX3_tokenIn_72 : decode cX3_tokenIn 72 = .ok (.iconst 0, 1) := dk_3 (dk_at dksX3_tokenIn_3 3 rfl rfl)
theorem dX3_tokenIn_73 : decode cX3_tokenIn 73 = .ok (.aload_n 0, 1) := dk_42 (dk_at dksX3_tokenIn_3 4 rfl rfl)
theorem dX3_tokenIn_74 : decode cX3_tokenIn 74 = .ok (.getfield 7, 3) := dk_180 0 7 (dk_at dksX3_tokenIn_3 5 rfl rfl)
theorem dX3_tokenIn_77 : decode cX3_tokenIn 77 = .ok (.iconst 0, 1) := dk_3 (dk_at dksX3_tokenIn_3 8 rfl rfl)
theorem dX3_tokenIn_78 : decode cX3_tokenIn 78 = .ok (.invokestatic 94, 3) := dk_184 0 94 (dk_at dksX3_tokenIn_3 9 rfl rfl)
theorem dX3_tokenIn_81 : decode cX3_tokenIn 81 = .ok (.iload 4, 2) := dk_21 4 (dk_at dksX3_tokenIn_3 12 rfl rfl)
theorem dX3_tokenIn_83 : decode cX3_tokenIn 83 = .ok (.ifCond .eq 7, 3) := dk_153 0 7 (dk_at dksX3_tokenIn_3 14 rfl rfl)
theorem dX3_tokenIn_86 : decode cX3_tokenIn 86 = .ok (.iload_n 2, 1) := dk_28 (dk_at dksX3_tokenIn_3 17 rfl rfl)
theorem dX3_tokenIn_87 : decode cX3_tokenIn 87 = .ok (.goto 8, 3) := dk_167 0 8 (dk_at dksX3_tokenIn_3 18 rfl rfl)
theorem dX3_tokenIn_90 : decode cX3_tokenIn 90 = .ok (.aload_n 0, 1) := dk_42 (dk_at dksX3_tokenIn_3 21 rfl rfl)
theorem dX3_tokenIn_91 : decode cX3_tokenIn 91 = .ok (.iconst 2, 1) := dk_5 (dk_at dksX3_tokenIn_3 22 rfl rfl)
theorem dX3_tokenIn_92 : decode cX3_tokenIn 92 = .ok (.invokevirtual 90, 3) := dk_182 0 90 (dk_at dksX3_tokenIn_4 0 rfl rfl)
theorem dX3_tokenIn_95 : decode cX3_tokenIn 95 = .ok (.ireturn, 1) := dk_172 (dk_at dksX3_tokenIn_4 3 rfl rfl)
abbrev cX3_isTokenAt : ByteArray := prog_20_method_65_code
def yX3_isTokenAt : MethodName := ⟨RX3, "isTokenAt", "(I)Z"⟩
def dkwX3_isTokenAt_1 : List UInt8 := [167, 0, 4, 3, 172]
abbrev dktX3_isTokenAt_1 : List UInt8 := dkwX3_isTokenAt_1 ++ []
def dkwX3_isTokenAt_0 : List UInt8 := [42, 180, 0, 7, 16, 18, 46, 4, 160, 0, 18, 42, 180, 0, 7, 16, 19, 46, 27, 160, 0, 7, 4]
abbrev dktX3_isTokenAt_0 : List UInt8 := dkwX3_isTokenAt_0 ++ dktX3_isTokenAt_1
theorem dksX3_isTokenAt_0 : cX3_isTokenAt.data.toList.drop 0 = dktX3_isTokenAt_0 := by decide +kernel
theorem dksX3_isTokenAt_1 : cX3_isTokenAt.data.toList.drop 23 = dktX3_isTokenAt_1 := dk_seg dksX3_isTokenAt_0 23 rfl rfl
theorem dX3_isTokenAt_0 : decode cX3_isTokenAt 0 = .ok (.aload_n 0, 1) := dk_42 (dk_at dksX3_isTokenAt_0 0 rfl rfl)
theorem dX3_isTokenAt_1 : decode cX3_isTokenAt 1 = .ok (.getfield 7, 3) := dk_180 0 7 (dk_at dksX3_isTokenAt_0 1 rfl rfl)
theorem dX3_isTokenAt_4 : decode cX3_isTokenAt 4 = .ok (.bipush 18, 2) := dk_16 18 (dk_at dksX3_isTokenAt_0 4 rfl rfl)
theorem dX3_isTokenAt_6 : decode cX3_isTokenAt 6 = .ok (.iaload, 1) := dk_46 (dk_at dksX3_isTokenAt_0 6 rfl rfl)
theorem dX3_isTokenAt_7 : decode cX3_isTokenAt 7 = .ok (.iconst 1, 1) := dk_4 (dk_at dksX3_isTokenAt_0 7 rfl rfl)
theorem dX3_isTokenAt_8 : decode cX3_isTokenAt 8 = .ok (.if_icmp .ne 18, 3) := dk_160 0 18 (dk_at dksX3_isTokenAt_0 8 rfl rfl)
theorem dX3_isTokenAt_11 : decode cX3_isTokenAt 11 = .ok (.aload_n 0, 1) := dk_42 (dk_at dksX3_isTokenAt_0 11 rfl rfl)
theorem dX3_isTokenAt_12 : decode cX3_isTokenAt 12 = .ok (.getfield 7, 3) := dk_180 0 7 (dk_at dksX3_isTokenAt_0 12 rfl rfl)
theorem dX3_isTokenAt_15 : decode cX3_isTokenAt 15 = .ok (.bipush 19, 2) := dk_16 19 (dk_at dksX3_isTokenAt_0 15 rfl rfl)
theorem dX3_isTokenAt_17 : decode cX3_isTokenAt 17 = .ok (.iaload, 1) := dk_46 (dk_at dksX3_isTokenAt_0 17 rfl rfl)
theorem dX3_isTokenAt_18 : decode cX3_isTokenAt 18 = .ok (.iload_n 1, 1) := dk_27 (dk_at dksX3_isTokenAt_0 18 rfl rfl)
theorem dX3_isTokenAt_19 : decode cX3_isTokenAt 19 = .ok (.if_icmp .ne 7, 3) := dk_160 0 7 (dk_at dksX3_isTokenAt_0 19 rfl rfl)
theorem dX3_isTokenAt_22 : decode cX3_isTokenAt 22 = .ok (.iconst 1, 1) := dk_4 (dk_at dksX3_isTokenAt_0 22 rfl rfl)
theorem dX3_isTokenAt_23 : decode cX3_isTokenAt 23 = .ok (.goto 4, 3) := dk_167 0 4 (dk_at dksX3_isTokenAt_1 0 rfl rfl)
theorem dX3_isTokenAt_26 : decode cX3_isTokenAt 26 = .ok (.iconst 0, 1) := dk_3 (dk_at dksX3_isTokenAt_1 3 rfl rfl)
theorem dX3_isTokenAt_27 : decode cX3_isTokenAt 27 = .ok (.ireturn, 1) := dk_172 (dk_at dksX3_isTokenAt_1 4 rfl rfl)
abbrev cX3_ahead : ByteArray := prog_20_method_67_code
def yX3_ahead : MethodName := ⟨RX3, "ahead", "(II)I"⟩
def dkwX3_ahead_5 : List UInt8 := [180, 0, 7, 16, 8, 46, 54, 4, 42, 180, 0, 16, 3, 42, 180, 0, 7, 3, 184, 0, 94, 21, 4, 172]
abbrev dktX3_ahead_5 : List UInt8 := dkwX3_ahead_5 ++ []
def dkwX3_ahead_4 : List UInt8 := [180, 0, 7, 5, 46, 167, 0, 24, 28, 7, 160, 0, 12, 42, 180, 0, 7, 6, 46, 167, 0, 10, 42]
abbrev dktX3_ahead_4 : List UInt8 := dkwX3_ahead_4 ++ dktX3_ahead_5
def dkwX3_ahead_3 : List UInt8 := [167, 0, 53, 28, 5, 160, 0, 13, 42, 180, 0, 7, 16, 18, 46, 167, 0, 38, 28, 6, 160, 0, 12, 42]
abbrev dktX3_ahead_3 : List UInt8 := dkwX3_ahead_3 ++ dktX3_ahead_4
def dkwX3_ahead_2 : List UInt8 := [62, 28, 154, 0, 13, 42, 180, 0, 7, 16, 6, 46, 167, 0, 65, 28, 4, 160, 0, 10, 42, 182, 0, 171]
abbrev dktX3_ahead_2 : List UInt8 := dkwX3_ahead_2 ++ dktX3_ahead_3
def dkwX3_ahead_1 : List UInt8 := [42, 4, 182, 0, 90, 172, 42, 180, 0, 7, 3, 42, 180, 0, 16, 3, 184, 0, 94, 42, 27, 182, 0, 206]
abbrev dktX3_ahead_1 : List UInt8 := dkwX3_ahead_1 ++ dktX3_ahead_2
def dkwX3_ahead_0 : List UInt8 := [42, 3, 181, 0, 25, 27, 3, 16, 60, 184, 0, 102, 153, 0, 12, 28, 3, 8, 184, 0, 102, 154, 0, 9]
abbrev dktX3_ahead_0 : List UInt8 := dkwX3_ahead_0 ++ dktX3_ahead_1
theorem dksX3_ahead_0 : cX3_ahead.data.toList.drop 0 = dktX3_ahead_0 := by decide +kernel
theorem dksX3_ahead_1 : cX3_ahead.data.toList.drop 24 = dktX3_ahead_1 := dk_seg dksX3_ahead_0 24 rfl rfl
theorem dksX3_ahead_2 : cX3_ahead.data.toList.drop 48 = dktX3_ahead_2 := dk_seg dksX3_ahead_1 24 rfl rfl
theorem dksX3_ahead_3 : cX3_ahead.data.toList.drop 72 = dktX3_ahead_3 := dk_seg dksX3_ahead_2 24 rfl rfl
theorem dksX3_ahead_4 : cX3_ahead.data.toList.drop 96 = dktX3_ahead_4 := dk_seg dksX3_ahead_3 24 rfl rfl
theorem dksX3_ahead_5 : cX3_ahead.data.toList.drop 119 = dktX3_ahead_5 := dk_seg dksX3_ahead_4 23 rfl rfl
theorem dX3_ahead_0 : decode cX3_ahead 0 = .ok (.aload_n 0, 1) := dk_42 (dk_at dksX3_ahead_0 0 rfl rfl)
theorem dX3_ahead_1 : decode cX3_ahead 1 = .ok (.iconst 0, 1) := dk_3 (dk_at dksX3_ahead_0 1 rfl rfl)
theorem dX3_ahead_2 : decode cX3_ahead 2 = .ok (.putfield 25, 3) := dk_181 0 25 (dk_at dksX3_ahead_0 2 rfl rfl)
theorem dX3_ahead_5 : decode cX3_ahead 5 = .ok (.iload_n 1, 1) := dk_27 (dk_at dksX3_ahead_0 5 rfl rfl)
theorem dX3_ahead_6 : decode cX3_ahead 6 = .ok (.iconst 0, 1) := dk_3 (dk_at dksX3_ahead_0 6 rfl rfl)
theorem dX3_ahead_7 : decode cX3_ahead 7 = .ok (.bipush 60, 2) := dk_16 60 (dk_at dksX3_ahead_0 7 rfl rfl)
theorem dX3_ahead_9 : decode cX3_ahead 9 = .ok (.invokestatic 102, 3) := dk_184 0 102 (dk_at dksX3_ahead_0 9 rfl rfl)
theorem dX3_ahead_12 : decode cX3_ahead 12 = .ok (.ifCond .eq 12, 3) := dk_153 0 12 (dk_at dksX3_ahead_0 12 rfl rfl)
theorem dX3_ahead_15 : decode cX3_ahead 15 = .ok (.iload_n 2, 1) := dk_28 (dk_at dksX3_ahead_0 15 rfl rfl)
theorem dX3_ahead_16 : decode cX3_ahead 16 = .ok (.iconst 0, 1) := dk_3 (dk_at dksX3_ahead_0 16 rfl rfl)
theorem dX3_ahead_17 : decode cX3_ahead 17 = .ok (.iconst 5, 1) := dk_8 (dk_at dksX3_ahead_0 17 rfl rfl)
theorem dX3_ahead_18 : decode cX3_ahead 18 = .ok (.invokestatic 102, 3) := dk_184 0 102 (dk_at dksX3_ahead_0 18 rfl rfl)
theorem dX3_ahead_21 : decode cX3_ahead 21 = .ok (.ifCond .ne 9, 3) := dk_154 0 9 (dk_at dksX3_ahead_0 21 rfl rfl)
theorem dX3_ahead_24 : decode cX3_ahead 24 = .ok (.aload_n 0, 1) := dk_42 (dk_at dksX3_ahead_1 0 rfl rfl)
theorem dX3_ahead_25 : decode cX3_ahead 25 = .ok (.iconst 1, 1) := dk_4 (dk_at dksX3_ahead_1 1 rfl rfl)
theorem dX3_ahead_26 : decode cX3_ahead 26 = .ok (.invokevirtual 90, 3) := dk_182 0 90 (dk_at dksX3_ahead_1 2 rfl rfl)
theorem dX3_ahead_29 : decode cX3_ahead 29 = .ok (.ireturn, 1) := dk_172 (dk_at dksX3_ahead_1 5 rfl rfl)
theorem dX3_ahead_30 : decode cX3_ahead 30 = .ok (.aload_n 0, 1) := dk_42 (dk_at dksX3_ahead_1 6 rfl rfl)
theorem dX3_ahead_31 : decode cX3_ahead 31 = .ok (.getfield 7, 3) := dk_180 0 7 (dk_at dksX3_ahead_1 7 rfl rfl)
theorem dX3_ahead_34 : decode cX3_ahead 34 = .ok (.iconst 0, 1) := dk_3 (dk_at dksX3_ahead_1 10 rfl rfl)
theorem dX3_ahead_35 : decode cX3_ahead 35 = .ok (.aload_n 0, 1) := dk_42 (dk_at dksX3_ahead_1 11 rfl rfl)
theorem dX3_ahead_36 : decode cX3_ahead 36 = .ok (.getfield 16, 3) := dk_180 0 16 (dk_at dksX3_ahead_1 12 rfl rfl)
theorem dX3_ahead_39 : decode cX3_ahead 39 = .ok (.iconst 0, 1) := dk_3 (dk_at dksX3_ahead_1 15 rfl rfl)
theorem dX3_ahead_40 : decode cX3_ahead 40 = .ok (.invokestatic 94, 3) := dk_184 0 94 (dk_at dksX3_ahead_1 16 rfl rfl)
theorem dX3_ahead_43 : decode cX3_ahead 43 = .ok (.aload_n 0, 1) := dk_42 (dk_at dksX3_ahead_1 19 rfl rfl)
theorem dX3_ahead_44 : decode cX3_ahead 44 = .ok (.iload_n 1, 1) := dk_27 (dk_at dksX3_ahead_1 20 rfl rfl)
theorem dX3_ahead_45 : decode cX3_ahead 45 = .ok (.invokevirtual 206, 3) := dk_182 0 206 (dk_at dksX3_ahead_1 21 rfl rfl)
theorem dX3_ahead_48 : decode cX3_ahead 48 = .ok (.istore_n 3, 1) := dk_62 (dk_at dksX3_ahead_2 0 rfl rfl)
theorem dX3_ahead_49 : decode cX3_ahead 49 = .ok (.iload_n 2, 1) := dk_28 (dk_at dksX3_ahead_2 1 rfl rfl)
theorem dX3_ahead_50 : decode cX3_ahead 50 = .ok (.ifCond .ne 13, 3) := dk_154 0 13 (dk_at dksX3_ahead_2 2 rfl rfl)
theorem dX3_ahead_53 : decode cX3_ahead 53 = .ok (.aload_n 0, 1) := dk_42 (dk_at dksX3_ahead_2 5 rfl rfl)
theorem dX3_ahead_54 : decode cX3_ahead 54 = .ok (.getfield 7, 3) := dk_180 0 7 (dk_at dksX3_ahead_2 6 rfl rfl)
theorem dX3_ahead_57 : decode cX3_ahead 57 = .ok (.bipush 6, 2) := dk_16 6 (dk_at dksX3_ahead_2 9 rfl rfl)
theorem dX3_ahead_59 : decode cX3_ahead 59 = .ok (.iaload, 1) := dk_46 (dk_at dksX3_ahead_2 11 rfl rfl)
theorem dX3_ahead_60 : decode cX3_ahead 60 = .ok (.goto 65, 3) := dk_167 0 65 (dk_at dksX3_ahead_2 12 rfl rfl)
theorem dX3_ahead_63 : decode cX3_ahead 63 = .ok (.iload_n 2, 1) := dk_28 (dk_at dksX3_ahead_2 15 rfl rfl)
theorem dX3_ahead_64 : decode cX3_ahead 64 = .ok (.iconst 1, 1) := dk_4 (dk_at dksX3_ahead_2 16 rfl rfl)
theorem dX3_ahead_65 : decode cX3_ahead 65 = .ok (.if_icmp .ne 10, 3) := dk_160 0 10 (dk_at dksX3_ahead_2 17 rfl rfl)
theorem dX3_ahead_68 : decode cX3_ahead 68 = .ok (.aload_n 0, 1) := dk_42 (dk_at dksX3_ahead_2 20 rfl rfl)
theorem dX3_ahead_69 : decode cX3_ahead 69 = .ok (.invokevirtual 171, 3) := dk_182 0 171 (dk_at dksX3_ahead_2 21 rfl rfl)
theorem dX3_ahead_72 : decode cX3_ahead 72 = .ok (.goto 53, 3) := dk_167 0 53 (dk_at dksX3_ahead_3 0 rfl rfl)
theorem dX3_ahead_75 : decode cX3_ahead 75 = .ok (.iload_n 2, 1) := dk_28 (dk_at dksX3_ahead_3 3 rfl rfl)
theorem dX3_ahead_76 : decode cX3_ahead 76 = .ok (.iconst 2, 1) := dk_5 (dk_at dksX3_ahead_3 4 rfl rfl)
theorem dX3_ahead_77 : decode cX3_ahead 77 = .ok (.if_icmp .ne 13, 3) := dk_160 0 13 (dk_at dksX3_ahead_3 5 rfl rfl)
theorem dX3_ahead_80 : decode cX3_ahead 80 = .ok (.aload_n 0, 1) := dk_42 (dk_at dksX3_ahead_3 8 rfl rfl)
theorem dX3_ahead_81 : decode cX3_ahead 81 = .ok (.getfield 7, 3) := dk_180 0 7 (dk_at dksX3_ahead_3 9 rfl rfl)
theorem dX3_ahead_84 : decode cX3_ahead 84 = .ok (.bipush 18, 2) := dk_16 18 (dk_at dksX3_ahead_3 12 rfl rfl)
theorem dX3_ahead_86 : decode cX3_ahead 86 = .ok (.iaload, 1) := dk_46 (dk_at dksX3_ahead_3 14 rfl rfl)
theorem dX3_ahead_87 : decode cX3_ahead 87 = .ok (.goto 38, 3) := dk_167 0 38 (dk_at dksX3_ahead_3 15 rfl rfl)
theorem dX3_ahead_90 : decode cX3_ahead 90 = .ok (.iload_n 2, 1) := dk_28 (dk_at dksX3_ahead_3 18 rfl rfl)
theorem dX3_ahead_91 : decode cX3_ahead 91 = .ok (.iconst 3, 1) := dk_6 (dk_at dksX3_ahead_3 19 rfl rfl)
theorem dX3_ahead_92 : decode cX3_ahead 92 = .ok (.if_icmp .ne 12, 3) := dk_160 0 12 (dk_at dksX3_ahead_3 20 rfl rfl)
theorem dX3_ahead_95 : decode cX3_ahead 95 = .ok (.aload_n 0, 1) := dk_42 (dk_at dksX3_ahead_3 23 rfl rfl)
theorem dX3_ahead_96 : decode cX3_ahead 96 = .ok (.getfield 7, 3) := dk_180 0 7 (dk_at dksX3_ahead_4 0 rfl rfl)
theorem dX3_ahead_99 : decode cX3_ahead 99 = .ok (.iconst 2, 1) := dk_5 (dk_at dksX3_ahead_4 3 rfl rfl)
theorem dX3_ahead_100 : decode cX3_ahead 100 = .ok (.iaload, 1) := dk_46 (dk_at dksX3_ahead_4 4 rfl rfl)
theorem dX3_ahead_101 : decode cX3_ahead 101 = .ok (.goto 24, 3) := dk_167 0 24 (dk_at dksX3_ahead_4 5 rfl rfl)
theorem dX3_ahead_104 : decode cX3_ahead 104 = .ok (.iload_n 2, 1) := dk_28 (dk_at dksX3_ahead_4 8 rfl rfl)
theorem dX3_ahead_105 : decode cX3_ahead 105 = .ok (.iconst 4, 1) := dk_7 (dk_at dksX3_ahead_4 9 rfl rfl)
theorem dX3_ahead_106 : decode cX3_ahead 106 = .ok (.if_icmp .ne 12, 3) := dk_160 0 12 (dk_at dksX3_ahead_4 10 rfl rfl)
theorem dX3_ahead_109 : decode cX3_ahead 109 = .ok (.aload_n 0, 1) := dk_42 (dk_at dksX3_ahead_4 13 rfl rfl)
theorem dX3_ahead_110 : decode cX3_ahead 110 = .ok (.getfield 7, 3) := dk_180 0 7 (dk_at dksX3_ahead_4 14 rfl rfl)
theorem dX3_ahead_113 : decode cX3_ahead 113 = .ok (.iconst 3, 1) := dk_6 (dk_at dksX3_ahead_4 17 rfl rfl)
theorem dX3_ahead_114 : decode cX3_ahead 114 = .ok (.iaload, 1) := dk_46 (dk_at dksX3_ahead_4 18 rfl rfl)
theorem dX3_ahead_115 : decode cX3_ahead 115 = .ok (.goto 10, 3) := dk_167 0 10 (dk_at dksX3_ahead_4 19 rfl rfl)
theorem dX3_ahead_118 : decode cX3_ahead 118 = .ok (.aload_n 0, 1) := dk_42 (dk_at dksX3_ahead_4 22 rfl rfl)
theorem dX3_ahead_119 : decode cX3_ahead 119 = .ok (.getfield 7, 3) := dk_180 0 7 (dk_at dksX3_ahead_5 0 rfl rfl)
theorem dX3_ahead_122 : decode cX3_ahead 122 = .ok (.bipush 8, 2) := dk_16 8 (dk_at dksX3_ahead_5 3 rfl rfl)
theorem dX3_ahead_124 : decode cX3_ahead 124 = .ok (.iaload, 1) := dk_46 (dk_at dksX3_ahead_5 5 rfl rfl)
theorem dX3_ahead_125 : decode cX3_ahead 125 = .ok (.istore 4, 2) := dk_54 4 (dk_at dksX3_ahead_5 6 rfl rfl)
theorem dX3_ahead_127 : decode cX3_ahead 127 = .ok (.aload_n 0, 1) := dk_42 (dk_at dksX3_ahead_5 8 rfl rfl)
theorem dX3_ahead_128 : decode cX3_ahead 128 = .ok (.getfield 16, 3) := dk_180 0 16 (dk_at dksX3_ahead_5 9 rfl rfl)
theorem dX3_ahead_131 : decode cX3_ahead 131 = .ok (.iconst 0, 1) := dk_3 (dk_at dksX3_ahead_5 12 rfl rfl)
theorem dX3_ahead_132 : decode cX3_ahead 132 = .ok (.aload_n 0, 1) := dk_42 (dk_at dksX3_ahead_5 13 rfl rfl)
theorem dX3_ahead_133 : decode cX3_ahead 133 = .ok (.getfield 7, 3) := dk_180 0 7 (dk_at dksX3_ahead_5 14 rfl rfl)
theorem dX3_ahead_136 : decode cX3_ahead 136 = .ok (.iconst 0, 1) := dk_3 (dk_at dksX3_ahead_5 17 rfl rfl)
theorem dX3_ahead_137 : decode cX3_ahead 137 = .ok (.invokestatic 94, 3) := dk_184 0 94 (dk_at dksX3_ahead_5 18 rfl rfl)
theorem dX3_ahead_140 : decode cX3_ahead 140 = .ok (.iload 4, 2) := dk_21 4 (dk_at dksX3_ahead_5 21 rfl rfl)
theorem dX3_ahead_142 : decode cX3_ahead 142 = .ok (.ireturn, 1) := dk_172 (dk_at dksX3_ahead_5 23 rfl rfl)
abbrev cX3_ranked : ByteArray := prog_20_method_69_code
def yX3_ranked : MethodName := ⟨RX3, "ranked", "(I)I"⟩
def dkwX3_ranked_3 : List UInt8 := [167, 255, 191, 42, 4, 182, 0, 90, 172]
abbrev dktX3_ranked_3 : List UInt8 := dkwX3_ranked_3 ++ []
def dkwX3_ranked_2 : List UInt8 := [3, 96, 62, 132, 4, 1, 167, 255, 224, 29, 27, 160, 0, 10, 42, 28, 3, 182, 0, 98, 172, 132, 2, 1]
abbrev dktX3_ranked_2 : List UInt8 := dkwX3_ranked_2 ++ dktX3_ranked_3
def dkwX3_ranked_1 : List UInt8 := [42, 180, 0, 7, 4, 46, 162, 0, 27, 29, 42, 21, 4, 28, 182, 0, 230, 153, 0, 7, 4, 167, 0, 4]
abbrev dktX3_ranked_1 : List UInt8 := dkwX3_ranked_1 ++ dktX3_ranked_2
def dkwX3_ranked_0 : List UInt8 := [42, 3, 181, 0, 25, 3, 61, 28, 42, 180, 0, 7, 4, 46, 162, 0, 61, 3, 62, 3, 54, 4, 21, 4]
abbrev dktX3_ranked_0 : List UInt8 := dkwX3_ranked_0 ++ dktX3_ranked_1
theorem dksX3_ranked_0 : cX3_ranked.data.toList.drop 0 = dktX3_ranked_0 := by decide +kernel
theorem dksX3_ranked_1 : cX3_ranked.data.toList.drop 24 = dktX3_ranked_1 := dk_seg dksX3_ranked_0 24 rfl rfl
theorem dksX3_ranked_2 : cX3_ranked.data.toList.drop 48 = dktX3_ranked_2 := dk_seg dksX3_ranked_1 24 rfl rfl
theorem dksX3_ranked_3 : cX3_ranked.data.toList.drop 72 = dktX3_ranked_3 := dk_seg dksX3_ranked_2 24 rfl rfl
theorem dX3_ranked_0 : decode cX3_ranked 0 = .ok (.aload_n 0, 1) := dk_42 (dk_at dksX3_ranked_0 0 rfl rfl)
theorem dX3_ranked_1 : decode cX3_ranked 1 = .ok (.iconst 0, 1) := dk_3 (dk_at dksX3_ranked_0 1 rfl rfl)
theorem dX3_ranked_2 : decode cX3_ranked 2 = .ok (.putfield 25, 3) := dk_181 0 25 (dk_at dksX3_ranked_0 2 rfl rfl)
theorem dX3_ranked_5 : decode cX3_ranked 5 = .ok (.iconst 0, 1) := dk_3 (dk_at dksX3_ranked_0 5 rfl rfl)
theorem dX3_ranked_6 : decode cX3_ranked 6 = .ok (.istore_n 2, 1) := dk_61 (dk_at dksX3_ranked_0 6 rfl rfl)
theorem dX3_ranked_7 : decode cX3_ranked 7 = .ok (.iload_n 2, 1) := dk_28 (dk_at dksX3_ranked_0 7 rfl rfl)
theorem dX3_ranked_8 : decode cX3_ranked 8 = .ok (.aload_n 0, 1) := dk_42 (dk_at dksX3_ranked_0 8 rfl rfl)
theorem dX3_ranked_9 : decode cX3_ranked 9 = .ok (.getfield 7, 3) := dk_180 0 7 (dk_at dksX3_ranked_0 9 rfl rfl)
theorem dX3_ranked_12 : decode cX3_ranked 12 = .ok (.iconst 1, 1) := dk_4 (dk_at dksX3_ranked_0 12 rfl rfl)
theorem dX3_ranked_13 : decode cX3_ranked 13 = .ok (.iaload, 1) := dk_46 (dk_at dksX3_ranked_0 13 rfl rfl)
theorem dX3_ranked_14 : decode cX3_ranked 14 = .ok (.if_icmp .ge 61, 3) := dk_162 0 61 (dk_at dksX3_ranked_0 14 rfl rfl)
theorem dX3_ranked_17 : decode cX3_ranked 17 = .ok (.iconst 0, 1) := dk_3 (dk_at dksX3_ranked_0 17 rfl rfl)
theorem dX3_ranked_18 : decode cX3_ranked 18 = .ok (.istore_n 3, 1) := dk_62 (dk_at dksX3_ranked_0 18 rfl rfl)
theorem dX3_ranked_19 : decode cX3_ranked 19 = .ok (.iconst 0, 1) := dk_3 (dk_at dksX3_ranked_0 19 rfl rfl)
theorem dX3_ranked_20 : decode cX3_ranked 20 = .ok (.istore 4, 2) := dk_54 4 (dk_at dksX3_ranked_0 20 rfl rfl)
theorem dX3_ranked_22 : decode cX3_ranked 22 = .ok (.iload 4, 2) := dk_21 4 (dk_at dksX3_ranked_0 22 rfl rfl)
theorem dX3_ranked_24 : decode cX3_ranked 24 = .ok (.aload_n 0, 1) := dk_42 (dk_at dksX3_ranked_1 0 rfl rfl)
theorem dX3_ranked_25 : decode cX3_ranked 25 = .ok (.getfield 7, 3) := dk_180 0 7 (dk_at dksX3_ranked_1 1 rfl rfl)
theorem dX3_ranked_28 : decode cX3_ranked 28 = .ok (.iconst 1, 1) := dk_4 (dk_at dksX3_ranked_1 4 rfl rfl)
theorem dX3_ranked_29 : decode cX3_ranked 29 = .ok (.iaload, 1) := dk_46 (dk_at dksX3_ranked_1 5 rfl rfl)
theorem dX3_ranked_30 : decode cX3_ranked 30 = .ok (.if_icmp .ge 27, 3) := dk_162 0 27 (dk_at dksX3_ranked_1 6 rfl rfl)
theorem dX3_ranked_33 : decode cX3_ranked 33 = .ok (.iload_n 3, 1) := dk_29 (dk_at dksX3_ranked_1 9 rfl rfl)
theorem dX3_ranked_34 : decode cX3_ranked 34 = .ok (.aload_n 0, 1) := dk_42 (dk_at dksX3_ranked_1 10 rfl rfl)
theorem dX3_ranked_35 : decode cX3_ranked 35 = .ok (.iload 4, 2) := dk_21 4 (dk_at dksX3_ranked_1 11 rfl rfl)
theorem dX3_ranked_37 : decode cX3_ranked 37 = .ok (.iload_n 2, 1) := dk_28 (dk_at dksX3_ranked_1 13 rfl rfl)
theorem dX3_ranked_38 : decode cX3_ranked 38 = .ok (.invokevirtual 230, 3) := dk_182 0 230 (dk_at dksX3_ranked_1 14 rfl rfl)
theorem dX3_ranked_41 : decode cX3_ranked 41 = .ok (.ifCond .eq 7, 3) := dk_153 0 7 (dk_at dksX3_ranked_1 17 rfl rfl)
theorem dX3_ranked_44 : decode cX3_ranked 44 = .ok (.iconst 1, 1) := dk_4 (dk_at dksX3_ranked_1 20 rfl rfl)
theorem dX3_ranked_45 : decode cX3_ranked 45 = .ok (.goto 4, 3) := dk_167 0 4 (dk_at dksX3_ranked_1 21 rfl rfl)
theorem dX3_ranked_48 : decode cX3_ranked 48 = .ok (.iconst 0, 1) := dk_3 (dk_at dksX3_ranked_2 0 rfl rfl)
theorem dX3_ranked_49 : decode cX3_ranked 49 = .ok (.iadd, 1) := dk_96 (dk_at dksX3_ranked_2 1 rfl rfl)
theorem dX3_ranked_50 : decode cX3_ranked 50 = .ok (.istore_n 3, 1) := dk_62 (dk_at dksX3_ranked_2 2 rfl rfl)
theorem dX3_ranked_51 : decode cX3_ranked 51 = .ok (.iinc 4 1, 3) := dk_132 4 1 (dk_at dksX3_ranked_2 3 rfl rfl)
theorem dX3_ranked_54 : decode cX3_ranked 54 = .ok (.goto (-32), 3) := dk_167 255 224 (dk_at dksX3_ranked_2 6 rfl rfl)
theorem dX3_ranked_57 : decode cX3_ranked 57 = .ok (.iload_n 3, 1) := dk_29 (dk_at dksX3_ranked_2 9 rfl rfl)
theorem dX3_ranked_58 : decode cX3_ranked 58 = .ok (.iload_n 1, 1) := dk_27 (dk_at dksX3_ranked_2 10 rfl rfl)
theorem dX3_ranked_59 : decode cX3_ranked 59 = .ok (.if_icmp .ne 10, 3) := dk_160 0 10 (dk_at dksX3_ranked_2 11 rfl rfl)
theorem dX3_ranked_62 : decode cX3_ranked 62 = .ok (.aload_n 0, 1) := dk_42 (dk_at dksX3_ranked_2 14 rfl rfl)
theorem dX3_ranked_63 : decode cX3_ranked 63 = .ok (.iload_n 2, 1) := dk_28 (dk_at dksX3_ranked_2 15 rfl rfl)
theorem dX3_ranked_64 : decode cX3_ranked 64 = .ok (.iconst 0, 1) := dk_3 (dk_at dksX3_ranked_2 16 rfl rfl)
theorem dX3_ranked_65 : decode cX3_ranked 65 = .ok (.invokevirtual 98, 3) := dk_182 0 98 (dk_at dksX3_ranked_2 17 rfl rfl)
theorem dX3_ranked_68 : decode cX3_ranked 68 = .ok (.ireturn, 1) := dk_172 (dk_at dksX3_ranked_2 20 rfl rfl)
theorem dX3_ranked_69 : decode cX3_ranked 69 = .ok (.iinc 2 1, 3) := dk_132 2 1 (dk_at dksX3_ranked_2 21 rfl rfl)
theorem dX3_ranked_72 : decode cX3_ranked 72 = .ok (.goto (-65), 3) := dk_167 255 191 (dk_at dksX3_ranked_3 0 rfl rfl)
theorem dX3_ranked_75 : decode cX3_ranked 75 = .ok (.aload_n 0, 1) := dk_42 (dk_at dksX3_ranked_3 3 rfl rfl)
theorem dX3_ranked_76 : decode cX3_ranked 76 = .ok (.iconst 1, 1) := dk_4 (dk_at dksX3_ranked_3 4 rfl rfl)
theorem dX3_ranked_77 : decode cX3_ranked 77 = .ok (.invokevirtual 90, 3) := dk_182 0 90 (dk_at dksX3_ranked_3 5 rfl rfl)
theorem dX3_ranked_80 : decode cX3_ranked 80 = .ok (.ireturn, 1) := dk_172 (dk_at dksX3_ranked_3 8 rfl rfl)
abbrev cX3_isAhead : ByteArray := prog_20_method_68_code
def yX3_isAhead : MethodName := ⟨RX3, "isAhead", "(II)Z"⟩
def dkwX3_isAhead_3 : List UInt8 := [167, 0, 4, 3, 172]
abbrev dktX3_isAhead_3 : List UInt8 := dkwX3_isAhead_3 ++ []
def dkwX3_isAhead_2 : List UInt8 := [163, 0, 21, 42, 27, 182, 0, 218, 42, 28, 182, 0, 218, 160, 0, 12, 27, 28, 162, 0, 7, 4]
abbrev dktX3_isAhead_2 : List UInt8 := dkwX3_isAhead_2 ++ dktX3_isAhead_3
def dkwX3_isAhead_1 : List UInt8 := [182, 0, 98, 164, 0, 7, 4, 167, 0, 4, 3, 172, 42, 27, 182, 0, 218, 42, 28, 182, 0, 218]
abbrev dktX3_isAhead_1 : List UInt8 := dkwX3_isAhead_1 ++ dktX3_isAhead_2
def dkwX3_isAhead_0 : List UInt8 := [42, 27, 4, 182, 0, 98, 42, 28, 4, 182, 0, 98, 159, 0, 24, 42, 27, 4, 182, 0, 98, 42, 28, 4]
abbrev dktX3_isAhead_0 : List UInt8 := dkwX3_isAhead_0 ++ dktX3_isAhead_1
theorem dksX3_isAhead_0 : cX3_isAhead.data.toList.drop 0 = dktX3_isAhead_0 := by decide +kernel
theorem dksX3_isAhead_1 : cX3_isAhead.data.toList.drop 24 = dktX3_isAhead_1 := dk_seg dksX3_isAhead_0 24 rfl rfl
theorem dksX3_isAhead_2 : cX3_isAhead.data.toList.drop 46 = dktX3_isAhead_2 := dk_seg dksX3_isAhead_1 22 rfl rfl
theorem dksX3_isAhead_3 : cX3_isAhead.data.toList.drop 68 = dktX3_isAhead_3 := dk_seg dksX3_isAhead_2 22 rfl rfl
theorem dX3_isAhead_0 : decode cX3_isAhead 0 = .ok (.aload_n 0, 1) := dk_42 (dk_at dksX3_isAhead_0 0 rfl rfl)
theorem dX3_isAhead_1 : decode cX3_isAhead 1 = .ok (.iload_n 1, 1) := dk_27 (dk_at dksX3_isAhead_0 1 rfl rfl)
theorem dX3_isAhead_2 : decode cX3_isAhead 2 = .ok (.iconst 1, 1) := dk_4 (dk_at dksX3_isAhead_0 2 rfl rfl)
theorem dX3_isAhead_3 : decode cX3_isAhead 3 = .ok (.invokevirtual 98, 3) := dk_182 0 98 (dk_at dksX3_isAhead_0 3 rfl rfl)
theorem dX3_isAhead_6 : decode cX3_isAhead 6 = .ok (.aload_n 0, 1) := dk_42 (dk_at dksX3_isAhead_0 6 rfl rfl)
theorem dX3_isAhead_7 : decode cX3_isAhead 7 = .ok (.iload_n 2, 1) := dk_28 (dk_at dksX3_isAhead_0 7 rfl rfl)
theorem dX3_isAhead_8 : decode cX3_isAhead 8 = .ok (.iconst 1, 1) := dk_4 (dk_at dksX3_isAhead_0 8 rfl rfl)
theorem dX3_isAhead_9 : decode cX3_isAhead 9 = .ok (.invokevirtual 98, 3) := dk_182 0 98 (dk_at dksX3_isAhead_0 9 rfl rfl)
theorem dX3_isAhead_12 : decode cX3_isAhead 12 = .ok (.if_icmp .eq 24, 3) := dk_159 0 24 (dk_at dksX3_isAhead_0 12 rfl rfl)
theorem dX3_isAhead_15 : decode cX3_isAhead 15 = .ok (.aload_n 0, 1) := dk_42 (dk_at dksX3_isAhead_0 15 rfl rfl)
theorem dX3_isAhead_16 : decode cX3_isAhead 16 = .ok (.iload_n 1, 1) := dk_27 (dk_at dksX3_isAhead_0 16 rfl rfl)
theorem dX3_isAhead_17 : decode cX3_isAhead 17 = .ok (.iconst 1, 1) := dk_4 (dk_at dksX3_isAhead_0 17 rfl rfl)
theorem dX3_isAhead_18 : decode cX3_isAhead 18 = .ok (.invokevirtual 98, 3) := dk_182 0 98 (dk_at dksX3_isAhead_0 18 rfl rfl)
theorem dX3_isAhead_21 : decode cX3_isAhead 21 = .ok (.aload_n 0, 1) := dk_42 (dk_at dksX3_isAhead_0 21 rfl rfl)
theorem dX3_isAhead_22 : decode cX3_isAhead 22 = .ok (.iload_n 2, 1) := dk_28 (dk_at dksX3_isAhead_0 22 rfl rfl)
theorem dX3_isAhead_23 : decode cX3_isAhead 23 = .ok (.iconst 1, 1) := dk_4 (dk_at dksX3_isAhead_0 23 rfl rfl)
theorem dX3_isAhead_24 : decode cX3_isAhead 24 = .ok (.invokevirtual 98, 3) := dk_182 0 98 (dk_at dksX3_isAhead_1 0 rfl rfl)
theorem dX3_isAhead_27 : decode cX3_isAhead 27 = .ok (.if_icmp .le 7, 3) := dk_164 0 7 (dk_at dksX3_isAhead_1 3 rfl rfl)
theorem dX3_isAhead_30 : decode cX3_isAhead 30 = .ok (.iconst 1, 1) := dk_4 (dk_at dksX3_isAhead_1 6 rfl rfl)
theorem dX3_isAhead_31 : decode cX3_isAhead 31 = .ok (.goto 4, 3) := dk_167 0 4 (dk_at dksX3_isAhead_1 7 rfl rfl)
theorem dX3_isAhead_34 : decode cX3_isAhead 34 = .ok (.iconst 0, 1) := dk_3 (dk_at dksX3_isAhead_1 10 rfl rfl)
theorem dX3_isAhead_35 : decode cX3_isAhead 35 = .ok (.ireturn, 1) := dk_172 (dk_at dksX3_isAhead_1 11 rfl rfl)
theorem dX3_isAhead_36 : decode cX3_isAhead 36 = .ok (.aload_n 0, 1) := dk_42 (dk_at dksX3_isAhead_1 12 rfl rfl)
theorem dX3_isAhead_37 : decode cX3_isAhead 37 = .ok (.iload_n 1, 1) := dk_27 (dk_at dksX3_isAhead_1 13 rfl rfl)
theorem dX3_isAhead_38 : decode cX3_isAhead 38 = .ok (.invokevirtual 218, 3) := dk_182 0 218 (dk_at dksX3_isAhead_1 14 rfl rfl)
theorem dX3_isAhead_41 : decode cX3_isAhead 41 = .ok (.aload_n 0, 1) := dk_42 (dk_at dksX3_isAhead_1 17 rfl rfl)
theorem dX3_isAhead_42 : decode cX3_isAhead 42 = .ok (.iload_n 2, 1) := dk_28 (dk_at dksX3_isAhead_1 18 rfl rfl)
theorem dX3_isAhead_43 : decode cX3_isAhead 43 = .ok (.invokevirtual 218, 3) := dk_182 0 218 (dk_at dksX3_isAhead_1 19 rfl rfl)
theorem dX3_isAhead_46 : decode cX3_isAhead 46 = .ok (.if_icmp .gt 21, 3) := dk_163 0 21 (dk_at dksX3_isAhead_2 0 rfl rfl)
theorem dX3_isAhead_49 : decode cX3_isAhead 49 = .ok (.aload_n 0, 1) := dk_42 (dk_at dksX3_isAhead_2 3 rfl rfl)
theorem dX3_isAhead_50 : decode cX3_isAhead 50 = .ok (.iload_n 1, 1) := dk_27 (dk_at dksX3_isAhead_2 4 rfl rfl)
theorem dX3_isAhead_51 : decode cX3_isAhead 51 = .ok (.invokevirtual 218, 3) := dk_182 0 218 (dk_at dksX3_isAhead_2 5 rfl rfl)
theorem dX3_isAhead_54 : decode cX3_isAhead 54 = .ok (.aload_n 0, 1) := dk_42 (dk_at dksX3_isAhead_2 8 rfl rfl)
theorem dX3_isAhead_55 : decode cX3_isAhead 55 = .ok (.iload_n 2, 1) := dk_28 (dk_at dksX3_isAhead_2 9 rfl rfl)
theorem dX3_isAhead_56 : decode cX3_isAhead 56 = .ok (.invokevirtual 218, 3) := dk_182 0 218 (dk_at dksX3_isAhead_2 10 rfl rfl)
theorem dX3_isAhead_59 : decode cX3_isAhead 59 = .ok (.if_icmp .ne 12, 3) := dk_160 0 12 (dk_at dksX3_isAhead_2 13 rfl rfl)
theorem dX3_isAhead_62 : decode cX3_isAhead 62 = .ok (.iload_n 1, 1) := dk_27 (dk_at dksX3_isAhead_2 16 rfl rfl)
theorem dX3_isAhead_63 : decode cX3_isAhead 63 = .ok (.iload_n 2, 1) := dk_28 (dk_at dksX3_isAhead_2 17 rfl rfl)
theorem dX3_isAhead_64 : decode cX3_isAhead 64 = .ok (.if_icmp .ge 7, 3) := dk_162 0 7 (dk_at dksX3_isAhead_2 18 rfl rfl)
theorem dX3_isAhead_67 : decode cX3_isAhead 67 = .ok (.iconst 1, 1) := dk_4 (dk_at dksX3_isAhead_2 21 rfl rfl)
theorem dX3_isAhead_68 : decode cX3_isAhead 68 = .ok (.goto 4, 3) := dk_167 0 4 (dk_at dksX3_isAhead_3 0 rfl rfl)
theorem dX3_isAhead_71 : decode cX3_isAhead 71 = .ok (.iconst 0, 1) := dk_3 (dk_at dksX3_isAhead_3 3 rfl rfl)
theorem dX3_isAhead_72 : decode cX3_isAhead 72 = .ok (.ireturn, 1) := dk_172 (dk_at dksX3_isAhead_3 4 rfl rfl)
abbrev cX3_longestWait : ByteArray := prog_20_method_70_code
def yX3_longestWait : MethodName := ⟨RX3, "longestWait", "()I"⟩
def dkwX3_longestWait_4 : List UInt8 := [27, 156, 0, 11, 42, 4, 182, 0, 90, 167, 0, 4, 27, 172]
abbrev dktX3_longestWait_4 : List UInt8 := dkwX3_longestWait_4 ++ []
def dkwX3_longestWait_3 : List UInt8 := [21, 6, 27, 162, 0, 9, 21, 6, 60, 21, 5, 61, 132, 4, 1, 167, 255, 194, 132, 3, 1, 167, 255, 175]
abbrev dktX3_longestWait_3 : List UInt8 := dkwX3_longestWait_3 ++ dktX3_longestWait_4
def dkwX3_longestWait_2 : List UInt8 := [21, 4, 3, 182, 0, 149, 54, 6, 27, 155, 0, 21, 21, 5, 28, 161, 0, 15, 21, 5, 28, 160, 0, 15]
abbrev dktX3_longestWait_2 : List UInt8 := dkwX3_longestWait_2 ++ dktX3_longestWait_3
def dkwX3_longestWait_1 : List UInt8 := [21, 4, 42, 29, 4, 182, 0, 98, 162, 0, 57, 42, 29, 21, 4, 7, 182, 0, 149, 54, 5, 42, 29]
abbrev dktX3_longestWait_1 : List UInt8 := dkwX3_longestWait_1 ++ dktX3_longestWait_2
def dkwX3_longestWait_0 : List UInt8 := [42, 3, 181, 0, 25, 2, 60, 3, 61, 3, 62, 29, 42, 180, 0, 7, 4, 46, 162, 0, 77, 3, 54, 4]
abbrev dktX3_longestWait_0 : List UInt8 := dkwX3_longestWait_0 ++ dktX3_longestWait_1
theorem dksX3_longestWait_0 : cX3_longestWait.data.toList.drop 0 = dktX3_longestWait_0 := by decide +kernel
theorem dksX3_longestWait_1 : cX3_longestWait.data.toList.drop 24 = dktX3_longestWait_1 := dk_seg dksX3_longestWait_0 24 rfl rfl
theorem dksX3_longestWait_2 : cX3_longestWait.data.toList.drop 47 = dktX3_longestWait_2 := dk_seg dksX3_longestWait_1 23 rfl rfl
theorem dksX3_longestWait_3 : cX3_longestWait.data.toList.drop 71 = dktX3_longestWait_3 := dk_seg dksX3_longestWait_2 24 rfl rfl
theorem dksX3_longestWait_4 : cX3_longestWait.data.toList.drop 95 = dktX3_longestWait_4 := dk_seg dksX3_longestWait_3 24 rfl rfl
theorem dX3_longestWait_0 : decode cX3_longestWait 0 = .ok (.aload_n 0, 1) := dk_42 (dk_at dksX3_longestWait_0 0 rfl rfl)
theorem dX3_longestWait_1 : decode cX3_longestWait 1 = .ok (.iconst 0, 1) := dk_3 (dk_at dksX3_longestWait_0 1 rfl rfl)
theorem dX3_longestWait_2 : decode cX3_longestWait 2 = .ok (.putfield 25, 3) := dk_181 0 25 (dk_at dksX3_longestWait_0 2 rfl rfl)
theorem dX3_longestWait_5 : decode cX3_longestWait 5 = .ok (.iconst (-1), 1) := dk_2 (dk_at dksX3_longestWait_0 5 rfl rfl)
theorem dX3_longestWait_6 : decode cX3_longestWait 6 = .ok (.istore_n 1, 1) := dk_60 (dk_at dksX3_longestWait_0 6 rfl rfl)
theorem dX3_longestWait_7 : decode cX3_longestWait 7 = .ok (.iconst 0, 1) := dk_3 (dk_at dksX3_longestWait_0 7 rfl rfl)
theorem dX3_longestWait_8 : decode cX3_longestWait 8 = .ok (.istore_n 2, 1) := dk_61 (dk_at dksX3_longestWait_0 8 rfl rfl)
theorem dX3_longestWait_9 : decode cX3_longestWait 9 = .ok (.iconst 0, 1) := dk_3 (dk_at dksX3_longestWait_0 9 rfl rfl)
theorem dX3_longestWait_10 : decode cX3_longestWait 10 = .ok (.istore_n 3, 1) := dk_62 (dk_at dksX3_longestWait_0 10 rfl rfl)
theorem dX3_longestWait_11 : decode cX3_longestWait 11 = .ok (.iload_n 3, 1) := dk_29 (dk_at dksX3_longestWait_0 11 rfl rfl)
theorem dX3_longestWait_12 : decode cX3_longestWait 12 = .ok (.aload_n 0, 1) := dk_42 (dk_at dksX3_longestWait_0 12 rfl rfl)
theorem dX3_longestWait_13 : decode cX3_longestWait 13 = .ok (.getfield 7, 3) := dk_180 0 7 (dk_at dksX3_longestWait_0 13 rfl rfl)
theorem dX3_longestWait_16 : decode cX3_longestWait 16 = .ok (.iconst 1, 1) := dk_4 (dk_at dksX3_longestWait_0 16 rfl rfl)
theorem dX3_longestWait_17 : decode cX3_longestWait 17 = .ok (.iaload, 1) := dk_46 (dk_at dksX3_longestWait_0 17 rfl rfl)
theorem dX3_longestWait_18 : decode cX3_longestWait 18 = .ok (.if_icmp .ge 77, 3) := dk_162 0 77 (dk_at dksX3_longestWait_0 18 rfl rfl)
theorem dX3_longestWait_21 : decode cX3_longestWait 21 = .ok (.iconst 0, 1) := dk_3 (dk_at dksX3_longestWait_0 21 rfl rfl)
theorem dX3_longestWait_22 : decode cX3_longestWait 22 = .ok (.istore 4, 2) := dk_54 4 (dk_at dksX3_longestWait_0 22 rfl rfl)
theorem dX3_longestWait_24 : decode cX3_longestWait 24 = .ok (.iload 4, 2) := dk_21 4 (dk_at dksX3_longestWait_1 0 rfl rfl)
theorem dX3_longestWait_26 : decode cX3_longestWait 26 = .ok (.aload_n 0, 1) := dk_42 (dk_at dksX3_longestWait_1 2 rfl rfl)
theorem dX3_longestWait_27 : decode cX3_longestWait 27 = .ok (.iload_n 3, 1) := dk_29 (dk_at dksX3_longestWait_1 3 rfl rfl)
theorem dX3_longestWait_28 : decode cX3_longestWait 28 = .ok (.iconst 1, 1) := dk_4 (dk_at dksX3_longestWait_1 4 rfl rfl)
theorem dX3_longestWait_29 : decode cX3_longestWait 29 = .ok (.invokevirtual 98, 3) := dk_182 0 98 (dk_at dksX3_longestWait_1 5 rfl rfl)
theorem dX3_longestWait_32 : decode cX3_longestWait 32 = .ok (.if_icmp .ge 57, 3) := dk_162 0 57 (dk_at dksX3_longestWait_1 8 rfl rfl)
theorem dX3_longestWait_35 : decode cX3_longestWait 35 = .ok (.aload_n 0, 1) := dk_42 (dk_at dksX3_longestWait_1 11 rfl rfl)
theorem dX3_longestWait_36 : decode cX3_longestWait 36 = .ok (.iload_n 3, 1) := dk_29 (dk_at dksX3_longestWait_1 12 rfl rfl)
theorem dX3_longestWait_37 : decode cX3_longestWait 37 = .ok (.iload 4, 2) := dk_21 4 (dk_at dksX3_longestWait_1 13 rfl rfl)
theorem dX3_longestWait_39 : decode cX3_longestWait 39 = .ok (.iconst 4, 1) := dk_7 (dk_at dksX3_longestWait_1 15 rfl rfl)
theorem dX3_longestWait_40 : decode cX3_longestWait 40 = .ok (.invokevirtual 149, 3) := dk_182 0 149 (dk_at dksX3_longestWait_1 16 rfl rfl)
theorem dX3_longestWait_43 : decode cX3_longestWait 43 = .ok (.istore 5, 2) := dk_54 5 (dk_at dksX3_longestWait_1 19 rfl rfl)
theorem dX3_longestWait_45 : decode cX3_longestWait 45 = .ok (.aload_n 0, 1) := dk_42 (dk_at dksX3_longestWait_1 21 rfl rfl)
theorem dX3_longestWait_46 : decode cX3_longestWait 46 = .ok (.iload_n 3, 1) := dk_29 (dk_at dksX3_longestWait_1 22 rfl rfl)
theorem dX3_longestWait_47 : decode cX3_longestWait 47 = .ok (.iload 4, 2) := dk_21 4 (dk_at dksX3_longestWait_2 0 rfl rfl)
theorem dX3_longestWait_49 : decode cX3_longestWait 49 = .ok (.iconst 0, 1) := dk_3 (dk_at dksX3_longestWait_2 2 rfl rfl)
theorem dX3_longestWait_50 : decode cX3_longestWait 50 = .ok (.invokevirtual 149, 3) := dk_182 0 149 (dk_at dksX3_longestWait_2 3 rfl rfl)
theorem dX3_longestWait_53 : decode cX3_longestWait 53 = .ok (.istore 6, 2) := dk_54 6 (dk_at dksX3_longestWait_2 6 rfl rfl)
theorem dX3_longestWait_55 : decode cX3_longestWait 55 = .ok (.iload_n 1, 1) := dk_27 (dk_at dksX3_longestWait_2 8 rfl rfl)
theorem dX3_longestWait_56 : decode cX3_longestWait 56 = .ok (.ifCond .lt 21, 3) := dk_155 0 21 (dk_at dksX3_longestWait_2 9 rfl rfl)
theorem dX3_longestWait_59 : decode cX3_longestWait 59 = .ok (.iload 5, 2) := dk_21 5 (dk_at dksX3_longestWait_2 12 rfl rfl)
theorem dX3_longestWait_61 : decode cX3_longestWait 61 = .ok (.iload_n 2, 1) := dk_28 (dk_at dksX3_longestWait_2 14 rfl rfl)
theorem dX3_longestWait_62 : decode cX3_longestWait 62 = .ok (.if_icmp .lt 15, 3) := dk_161 0 15 (dk_at dksX3_longestWait_2 15 rfl rfl)
theorem dX3_longestWait_65 : decode cX3_longestWait 65 = .ok (.iload 5, 2) := dk_21 5 (dk_at dksX3_longestWait_2 18 rfl rfl)
theorem dX3_longestWait_67 : decode cX3_longestWait 67 = .ok (.iload_n 2, 1) := dk_28 (dk_at dksX3_longestWait_2 20 rfl rfl)
theorem dX3_longestWait_68 : decode cX3_longestWait 68 = .ok (.if_icmp .ne 15, 3) := dk_160 0 15 (dk_at dksX3_longestWait_2 21 rfl rfl)
theorem dX3_longestWait_71 : decode cX3_longestWait 71 = .ok (.iload 6, 2) := dk_21 6 (dk_at dksX3_longestWait_3 0 rfl rfl)
theorem dX3_longestWait_73 : decode cX3_longestWait 73 = .ok (.iload_n 1, 1) := dk_27 (dk_at dksX3_longestWait_3 2 rfl rfl)
theorem dX3_longestWait_74 : decode cX3_longestWait 74 = .ok (.if_icmp .ge 9, 3) := dk_162 0 9 (dk_at dksX3_longestWait_3 3 rfl rfl)
theorem dX3_longestWait_77 : decode cX3_longestWait 77 = .ok (.iload 6, 2) := dk_21 6 (dk_at dksX3_longestWait_3 6 rfl rfl)
theorem dX3_longestWait_79 : decode cX3_longestWait 79 = .ok (.istore_n 1, 1) := dk_60 (dk_at dksX3_longestWait_3 8 rfl rfl)
theorem dX3_longestWait_80 : decode cX3_longestWait 80 = .ok (.iload 5, 2) := dk_21 5 (dk_at dksX3_longestWait_3 9 rfl rfl)
theorem dX3_longestWait_82 : decode cX3_longestWait 82 = .ok (.istore_n 2, 1) := dk_61 (dk_at dksX3_longestWait_3 11 rfl rfl)
theorem dX3_longestWait_83 : decode cX3_longestWait 83 = .ok (.iinc 4 1, 3) := dk_132 4 1 (dk_at dksX3_longestWait_3 12 rfl rfl)
theorem dX3_longestWait_86 : decode cX3_longestWait 86 = .ok (.goto (-62), 3) := dk_167 255 194 (dk_at dksX3_longestWait_3 15 rfl rfl)
theorem dX3_longestWait_89 : decode cX3_longestWait 89 = .ok (.iinc 3 1, 3) := dk_132 3 1 (dk_at dksX3_longestWait_3 18 rfl rfl)
theorem dX3_longestWait_92 : decode cX3_longestWait 92 = .ok (.goto (-81), 3) := dk_167 255 175 (dk_at dksX3_longestWait_3 21 rfl rfl)
theorem dX3_longestWait_95 : decode cX3_longestWait 95 = .ok (.iload_n 1, 1) := dk_27 (dk_at dksX3_longestWait_4 0 rfl rfl)
theorem dX3_longestWait_96 : decode cX3_longestWait 96 = .ok (.ifCond .ge 11, 3) := dk_156 0 11 (dk_at dksX3_longestWait_4 1 rfl rfl)
theorem dX3_longestWait_99 : decode cX3_longestWait 99 = .ok (.aload_n 0, 1) := dk_42 (dk_at dksX3_longestWait_4 4 rfl rfl)
theorem dX3_longestWait_100 : decode cX3_longestWait 100 = .ok (.iconst 1, 1) := dk_4 (dk_at dksX3_longestWait_4 5 rfl rfl)
theorem dX3_longestWait_101 : decode cX3_longestWait 101 = .ok (.invokevirtual 90, 3) := dk_182 0 90 (dk_at dksX3_longestWait_4 6 rfl rfl)
theorem dX3_longestWait_104 : decode cX3_longestWait 104 = .ok (.goto 4, 3) := dk_167 0 4 (dk_at dksX3_longestWait_4 9 rfl rfl)
theorem dX3_longestWait_107 : decode cX3_longestWait 107 = .ok (.iload_n 1, 1) := dk_27 (dk_at dksX3_longestWait_4 12 rfl rfl)
theorem dX3_longestWait_108 : decode cX3_longestWait 108 = .ok (.ireturn, 1) := dk_172 (dk_at dksX3_longestWait_4 13 rfl rfl)
abbrev cX3_greatest : ByteArray := prog_20_method_71_code
def yX3_greatest : MethodName := ⟨RX3, "greatest", "()I"⟩
def dkwX3_greatest_3 : List UInt8 := [172]
abbrev dktX3_greatest_3 : List UInt8 := dkwX3_greatest_3 ++ []
def dkwX3_greatest_2 : List UInt8 := [132, 2, 1, 167, 255, 216, 27, 156, 0, 11, 42, 4, 182, 0, 90, 167, 0, 9, 42, 27, 3, 182, 0, 98]
abbrev dktX3_greatest_2 : List UInt8 := dkwX3_greatest_2 ++ dktX3_greatest_3
def dkwX3_greatest_1 : List UInt8 := [155, 0, 22, 27, 155, 0, 16, 42, 28, 182, 0, 215, 42, 27, 182, 0, 215, 164, 0, 5, 28, 60]
abbrev dktX3_greatest_1 : List UInt8 := dkwX3_greatest_1 ++ dktX3_greatest_2
def dkwX3_greatest_0 : List UInt8 := [42, 3, 181, 0, 25, 2, 60, 3, 61, 28, 42, 180, 0, 7, 4, 46, 162, 0, 36, 42, 28, 182, 0, 215]
abbrev dktX3_greatest_0 : List UInt8 := dkwX3_greatest_0 ++ dktX3_greatest_1
theorem dksX3_greatest_0 : cX3_greatest.data.toList.drop 0 = dktX3_greatest_0 := by decide +kernel
theorem dksX3_greatest_1 : cX3_greatest.data.toList.drop 24 = dktX3_greatest_1 := dk_seg dksX3_greatest_0 24 rfl rfl
theorem dksX3_greatest_2 : cX3_greatest.data.toList.drop 46 = dktX3_greatest_2 := dk_seg dksX3_greatest_1 22 rfl rfl
theorem dksX3_greatest_3 : cX3_greatest.data.toList.drop 70 = dktX3_greatest_3 := dk_seg dksX3_greatest_2 24 rfl rfl
theorem dX3_greatest_0 : decode cX3_greatest 0 = .ok (.aload_n 0, 1) := dk_42 (dk_at dksX3_greatest_0 0 rfl rfl)
theorem dX3_greatest_1 : decode cX3_greatest 1 = .ok (.iconst 0, 1) := dk_3 (dk_at dksX3_greatest_0 1 rfl rfl)
theorem dX3_greatest_2 : decode cX3_greatest 2 = .ok (.putfield 25, 3) := dk_181 0 25 (dk_at dksX3_greatest_0 2 rfl rfl)
theorem dX3_greatest_5 : decode cX3_greatest 5 = .ok (.iconst (-1), 1) := dk_2 (dk_at dksX3_greatest_0 5 rfl rfl)
theorem dX3_greatest_6 : decode cX3_greatest 6 = .ok (.istore_n 1, 1) := dk_60 (dk_at dksX3_greatest_0 6 rfl rfl)
theorem dX3_greatest_7 : decode cX3_greatest 7 = .ok (.iconst 0, 1) := dk_3 (dk_at dksX3_greatest_0 7 rfl rfl)
theorem dX3_greatest_8 : decode cX3_greatest 8 = .ok (.istore_n 2, 1) := dk_61 (dk_at dksX3_greatest_0 8 rfl rfl)
theorem dX3_greatest_9 : decode cX3_greatest 9 = .ok (.iload_n 2, 1) := dk_28 (dk_at dksX3_greatest_0 9 rfl rfl)
theorem dX3_greatest_10 : decode cX3_greatest 10 = .ok (.aload_n 0, 1) := dk_42 (dk_at dksX3_greatest_0 10 rfl rfl)
theorem dX3_greatest_11 : decode cX3_greatest 11 = .ok (.getfield 7, 3) := dk_180 0 7 (dk_at dksX3_greatest_0 11 rfl rfl)
theorem dX3_greatest_14 : decode cX3_greatest 14 = .ok (.iconst 1, 1) := dk_4 (dk_at dksX3_greatest_0 14 rfl rfl)
theorem dX3_greatest_15 : decode cX3_greatest 15 = .ok (.iaload, 1) := dk_46 (dk_at dksX3_greatest_0 15 rfl rfl)
theorem dX3_greatest_16 : decode cX3_greatest 16 = .ok (.if_icmp .ge 36, 3) := dk_162 0 36 (dk_at dksX3_greatest_0 16 rfl rfl)
theorem dX3_greatest_19 : decode cX3_greatest 19 = .ok (.aload_n 0, 1) := dk_42 (dk_at dksX3_greatest_0 19 rfl rfl)
theorem dX3_greatest_20 : decode cX3_greatest 20 = .ok (.iload_n 2, 1) := dk_28 (dk_at dksX3_greatest_0 20 rfl rfl)
theorem dX3_greatest_21 : decode cX3_greatest 21 = .ok (.invokevirtual 215, 3) := dk_182 0 215 (dk_at dksX3_greatest_0 21 rfl rfl)
theorem dX3_greatest_24 : decode cX3_greatest 24 = .ok (.ifCond .lt 22, 3) := dk_155 0 22 (dk_at dksX3_greatest_1 0 rfl rfl)
theorem dX3_greatest_27 : decode cX3_greatest 27 = .ok (.iload_n 1, 1) := dk_27 (dk_at dksX3_greatest_1 3 rfl rfl)
theorem dX3_greatest_28 : decode cX3_greatest 28 = .ok (.ifCond .lt 16, 3) := dk_155 0 16 (dk_at dksX3_greatest_1 4 rfl rfl)
theorem dX3_greatest_31 : decode cX3_greatest 31 = .ok (.aload_n 0, 1) := dk_42 (dk_at dksX3_greatest_1 7 rfl rfl)
theorem dX3_greatest_32 : decode cX3_greatest 32 = .ok (.iload_n 2, 1) := dk_28 (dk_at dksX3_greatest_1 8 rfl rfl)
theorem dX3_greatest_33 : decode cX3_greatest 33 = .ok (.invokevirtual 215, 3) := dk_182 0 215 (dk_at dksX3_greatest_1 9 rfl rfl)
theorem dX3_greatest_36 : decode cX3_greatest 36 = .ok (.aload_n 0, 1) := dk_42 (dk_at dksX3_greatest_1 12 rfl rfl)
theorem dX3_greatest_37 : decode cX3_greatest 37 = .ok (.iload_n 1, 1) := dk_27 (dk_at dksX3_greatest_1 13 rfl rfl)
theorem dX3_greatest_38 : decode cX3_greatest 38 = .ok (.invokevirtual 215, 3) := dk_182 0 215 (dk_at dksX3_greatest_1 14 rfl rfl)
theorem dX3_greatest_41 : decode cX3_greatest 41 = .ok (.if_icmp .le 5, 3) := dk_164 0 5 (dk_at dksX3_greatest_1 17 rfl rfl)
theorem dX3_greatest_44 : decode cX3_greatest 44 = .ok (.iload_n 2, 1) := dk_28 (dk_at dksX3_greatest_1 20 rfl rfl)
theorem dX3_greatest_45 : decode cX3_greatest 45 = .ok (.istore_n 1, 1) := dk_60 (dk_at dksX3_greatest_1 21 rfl rfl)
theorem dX3_greatest_46 : decode cX3_greatest 46 = .ok (.iinc 2 1, 3) := dk_132 2 1 (dk_at dksX3_greatest_2 0 rfl rfl)
theorem dX3_greatest_49 : decode cX3_greatest 49 = .ok (.goto (-40), 3) := dk_167 255 216 (dk_at dksX3_greatest_2 3 rfl rfl)
theorem dX3_greatest_52 : decode cX3_greatest 52 = .ok (.iload_n 1, 1) := dk_27 (dk_at dksX3_greatest_2 6 rfl rfl)
theorem dX3_greatest_53 : decode cX3_greatest 53 = .ok (.ifCond .ge 11, 3) := dk_156 0 11 (dk_at dksX3_greatest_2 7 rfl rfl)
theorem dX3_greatest_56 : decode cX3_greatest 56 = .ok (.aload_n 0, 1) := dk_42 (dk_at dksX3_greatest_2 10 rfl rfl)
theorem dX3_greatest_57 : decode cX3_greatest 57 = .ok (.iconst 1, 1) := dk_4 (dk_at dksX3_greatest_2 11 rfl rfl)
theorem dX3_greatest_58 : decode cX3_greatest 58 = .ok (.invokevirtual 90, 3) := dk_182 0 90 (dk_at dksX3_greatest_2 12 rfl rfl)
theorem dX3_greatest_61 : decode cX3_greatest 61 = .ok (.goto 9, 3) := dk_167 0 9 (dk_at dksX3_greatest_2 15 rfl rfl)
theorem dX3_greatest_64 : decode cX3_greatest 64 = .ok (.aload_n 0, 1) := dk_42 (dk_at dksX3_greatest_2 18 rfl rfl)
theorem dX3_greatest_65 : decode cX3_greatest 65 = .ok (.iload_n 1, 1) := dk_27 (dk_at dksX3_greatest_2 19 rfl rfl)
theorem dX3_greatest_66 : decode cX3_greatest 66 = .ok (.iconst 0, 1) := dk_3 (dk_at dksX3_greatest_2 20 rfl rfl)
theorem dX3_greatest_67 : decode cX3_greatest 67 = .ok (.invokevirtual 98, 3) := dk_182 0 98 (dk_at dksX3_greatest_2 21 rfl rfl)
theorem dX3_greatest_70 : decode cX3_greatest 70 = .ok (.ireturn, 1) := dk_172 (dk_at dksX3_greatest_3 0 rfl rfl)
abbrev cX3_waiting : ByteArray := prog_20_method_72_code
def yX3_waiting : MethodName := ⟨RX3, "waiting", "()I"⟩
def dkwX3_waiting_0 : List UInt8 := [42, 3, 181, 0, 25, 42, 182, 0, 171, 172]
abbrev dktX3_waiting_0 : List UInt8 := dkwX3_waiting_0 ++ []
theorem dksX3_waiting_0 : cX3_waiting.data.toList.drop 0 = dktX3_waiting_0 := by decide +kernel
theorem dX3_waiting_0 : decode cX3_waiting 0 = .ok (.aload_n 0, 1) := dk_42 (dk_at dksX3_waiting_0 0 rfl rfl)
theorem dX3_waiting_1 : decode cX3_waiting 1 = .ok (.iconst 0, 1) := dk_3 (dk_at dksX3_waiting_0 1 rfl rfl)
theorem dX3_waiting_2 : decode cX3_waiting 2 = .ok (.putfield 25, 3) := dk_181 0 25 (dk_at dksX3_waiting_0 2 rfl rfl)
theorem dX3_waiting_5 : decode cX3_waiting 5 = .ok (.aload_n 0, 1) := dk_42 (dk_at dksX3_waiting_0 5 rfl rfl)
theorem dX3_waiting_6 : decode cX3_waiting 6 = .ok (.invokevirtual 171, 3) := dk_182 0 171 (dk_at dksX3_waiting_0 6 rfl rfl)
theorem dX3_waiting_9 : decode cX3_waiting 9 = .ok (.ireturn, 1) := dk_172 (dk_at dksX3_waiting_0 9 rfl rfl)
abbrev cX3_waitingAgain : ByteArray := prog_20_method_73_code
def yX3_waitingAgain : MethodName := ⟨RX3, "waitingAgain", "()I"⟩
def dkwX3_waitingAgain_0 : List UInt8 := [42, 3, 181, 0, 25, 42, 182, 0, 171, 172]
abbrev dktX3_waitingAgain_0 : List UInt8 := dkwX3_waitingAgain_0 ++ []
theorem dksX3_waitingAgain_0 : cX3_waitingAgain.data.toList.drop 0 = dktX3_waitingAgain_0 := by decide +kernel
theorem dX3_waitingAgain_0 : decode cX3_waitingAgain 0 = .ok (.aload_n 0, 1) := dk_42 (dk_at dksX3_waitingAgain_0 0 rfl rfl)
theorem dX3_waitingAgain_1 : decode cX3_waitingAgain 1 = .ok (.iconst 0, 1) := dk_3 (dk_at dksX3_waitingAgain_0 1 rfl rfl)
theorem dX3_waitingAgain_2 : decode cX3_waitingAgain 2 = .ok (.putfield 25, 3) := dk_181 0 25 (dk_at dksX3_waitingAgain_0 2 rfl rfl)
theorem dX3_waitingAgain_5 : decode cX3_waitingAgain 5 = .ok (.aload_n 0, 1) := dk_42 (dk_at dksX3_waitingAgain_0 5 rfl rfl)
theorem dX3_waitingAgain_6 : decode cX3_waitingAgain 6 = .ok (.invokevirtual 171, 3) := dk_182 0 171 (dk_at dksX3_waitingAgain_0 6 rfl rfl)
theorem dX3_waitingAgain_9 : decode cX3_waitingAgain 9 = .ok (.ireturn, 1) := dk_172 (dk_at dksX3_waitingAgain_0 9 rfl rfl)
abbrev cX3_append : ByteArray := prog_20_method_74_code
def yX3_append : MethodName := ⟨RX3, "append", "(C)I"⟩
def dkwX3_append_2 : List UInt8 := [42, 89, 180, 0, 72, 4, 96, 181, 0, 72, 42, 180, 0, 72, 172]
abbrev dktX3_append_2 : List UInt8 := dkwX3_append_2 ++ []
def dkwX3_append_1 : List UInt8 := [180, 0, 72, 16, 60, 160, 0, 9, 42, 5, 182, 0, 90, 172, 42, 180, 0, 57, 42, 180, 0, 72, 27, 79]
abbrev dktX3_append_1 : List UInt8 := dkwX3_append_1 ++ dktX3_append_2
def dkwX3_append_0 : List UInt8 := [42, 3, 181, 0, 25, 27, 16, 33, 16, 126, 184, 0, 102, 154, 0, 9, 42, 4, 182, 0, 90, 172, 42]
abbrev dktX3_append_0 : List UInt8 := dkwX3_append_0 ++ dktX3_append_1
theorem dksX3_append_0 : cX3_append.data.toList.drop 0 = dktX3_append_0 := by decide +kernel
theorem dksX3_append_1 : cX3_append.data.toList.drop 23 = dktX3_append_1 := dk_seg dksX3_append_0 23 rfl rfl
theorem dksX3_append_2 : cX3_append.data.toList.drop 47 = dktX3_append_2 := dk_seg dksX3_append_1 24 rfl rfl
theorem dX3_append_0 : decode cX3_append 0 = .ok (.aload_n 0, 1) := dk_42 (dk_at dksX3_append_0 0 rfl rfl)
theorem dX3_append_1 : decode cX3_append 1 = .ok (.iconst 0, 1) := dk_3 (dk_at dksX3_append_0 1 rfl rfl)
theorem dX3_append_2 : decode cX3_append 2 = .ok (.putfield 25, 3) := dk_181 0 25 (dk_at dksX3_append_0 2 rfl rfl)
theorem dX3_append_5 : decode cX3_append 5 = .ok (.iload_n 1, 1) := dk_27 (dk_at dksX3_append_0 5 rfl rfl)
theorem dX3_append_6 : decode cX3_append 6 = .ok (.bipush 33, 2) := dk_16 33 (dk_at dksX3_append_0 6 rfl rfl)
theorem dX3_append_8 : decode cX3_append 8 = .ok (.bipush 126, 2) := dk_16 126 (dk_at dksX3_append_0 8 rfl rfl)
theorem dX3_append_10 : decode cX3_append 10 = .ok (.invokestatic 102, 3) := dk_184 0 102 (dk_at dksX3_append_0 10 rfl rfl)
theorem dX3_append_13 : decode cX3_append 13 = .ok (.ifCond .ne 9, 3) := dk_154 0 9 (dk_at dksX3_append_0 13 rfl rfl)
theorem dX3_append_16 : decode cX3_append 16 = .ok (.aload_n 0, 1) := dk_42 (dk_at dksX3_append_0 16 rfl rfl)
theorem dX3_append_17 : decode cX3_append 17 = .ok (.iconst 1, 1) := dk_4 (dk_at dksX3_append_0 17 rfl rfl)
theorem dX3_append_18 : decode cX3_append 18 = .ok (.invokevirtual 90, 3) := dk_182 0 90 (dk_at dksX3_append_0 18 rfl rfl)
theorem dX3_append_21 : decode cX3_append 21 = .ok (.ireturn, 1) := dk_172 (dk_at dksX3_append_0 21 rfl rfl)
theorem dX3_append_22 : decode cX3_append 22 = .ok (.aload_n 0, 1) := dk_42 (dk_at dksX3_append_0 22 rfl rfl)
theorem dX3_append_23 : decode cX3_append 23 = .ok (.getfield 72, 3) := dk_180 0 72 (dk_at dksX3_append_1 0 rfl rfl)
theorem dX3_append_26 : decode cX3_append 26 = .ok (.bipush 60, 2) := dk_16 60 (dk_at dksX3_append_1 3 rfl rfl)
theorem dX3_append_28 : decode cX3_append 28 = .ok (.if_icmp .ne 9, 3) := dk_160 0 9 (dk_at dksX3_append_1 5 rfl rfl)
theorem dX3_append_31 : decode cX3_append 31 = .ok (.aload_n 0, 1) := dk_42 (dk_at dksX3_append_1 8 rfl rfl)
theorem dX3_append_32 : decode cX3_append 32 = .ok (.iconst 2, 1) := dk_5 (dk_at dksX3_append_1 9 rfl rfl)
theorem dX3_append_33 : decode cX3_append 33 = .ok (.invokevirtual 90, 3) := dk_182 0 90 (dk_at dksX3_append_1 10 rfl rfl)
theorem dX3_append_36 : decode cX3_append 36 = .ok (.ireturn, 1) := dk_172 (dk_at dksX3_append_1 13 rfl rfl)
theorem dX3_append_37 : decode cX3_append 37 = .ok (.aload_n 0, 1) := dk_42 (dk_at dksX3_append_1 14 rfl rfl)
theorem dX3_append_38 : decode cX3_append 38 = .ok (.getfield 57, 3) := dk_180 0 57 (dk_at dksX3_append_1 15 rfl rfl)
theorem dX3_append_41 : decode cX3_append 41 = .ok (.aload_n 0, 1) := dk_42 (dk_at dksX3_append_1 18 rfl rfl)
theorem dX3_append_42 : decode cX3_append 42 = .ok (.getfield 72, 3) := dk_180 0 72 (dk_at dksX3_append_1 19 rfl rfl)
theorem dX3_append_45 : decode cX3_append 45 = .ok (.iload_n 1, 1) := dk_27 (dk_at dksX3_append_1 22 rfl rfl)
theorem dX3_append_46 : decode cX3_append 46 = .ok (.iastore, 1) := dk_79 (dk_at dksX3_append_1 23 rfl rfl)
theorem dX3_append_47 : decode cX3_append 47 = .ok (.aload_n 0, 1) := dk_42 (dk_at dksX3_append_2 0 rfl rfl)
theorem dX3_append_48 : decode cX3_append 48 = .ok (.dup, 1) := dk_89 (dk_at dksX3_append_2 1 rfl rfl)
theorem dX3_append_49 : decode cX3_append 49 = .ok (.getfield 72, 3) := dk_180 0 72 (dk_at dksX3_append_2 2 rfl rfl)
theorem dX3_append_52 : decode cX3_append 52 = .ok (.iconst 1, 1) := dk_4 (dk_at dksX3_append_2 5 rfl rfl)
theorem dX3_append_53 : decode cX3_append 53 = .ok (.iadd, 1) := dk_96 (dk_at dksX3_append_2 6 rfl rfl)
theorem dX3_append_54 : decode cX3_append 54 = .ok (.putfield 72, 3) := dk_181 0 72 (dk_at dksX3_append_2 7 rfl rfl)
theorem dX3_append_57 : decode cX3_append 57 = .ok (.aload_n 0, 1) := dk_42 (dk_at dksX3_append_2 10 rfl rfl)
theorem dX3_append_58 : decode cX3_append 58 = .ok (.getfield 72, 3) := dk_180 0 72 (dk_at dksX3_append_2 11 rfl rfl)
theorem dX3_append_61 : decode cX3_append 61 = .ok (.ireturn, 1) := dk_172 (dk_at dksX3_append_2 14 rfl rfl)
abbrev cX3_run : ByteArray := prog_20_method_82_code
def yX3_run : MethodName := ⟨RX3, "run", "()I"⟩
def dkwX3_run_5 : List UInt8 := [182, 0, 134, 172]
abbrev dktX3_run_5 : List UInt8 := dkwX3_run_5 ++ []
def dkwX3_run_4 : List UInt8 := [180, 0, 35, 181, 0, 47, 42, 5, 182, 0, 90, 172, 132, 1, 1, 167, 255, 188, 42, 42, 180, 0, 78]
abbrev dktX3_run_4 : List UInt8 := dkwX3_run_4 ++ dktX3_run_5
def dkwX3_run_3 : List UInt8 := [184, 0, 94, 42, 16, 10, 181, 0, 38, 42, 27, 181, 0, 41, 42, 42, 180, 0, 32, 181, 0, 44, 42, 42]
abbrev dktX3_run_3 : List UInt8 := dkwX3_run_3 ++ dktX3_run_4
def dkwX3_run_2 : List UInt8 := [162, 0, 66, 42, 27, 182, 0, 251, 154, 0, 6, 167, 0, 49, 42, 180, 0, 13, 3, 42, 180, 0, 7, 3]
abbrev dktX3_run_2 : List UInt8 := dkwX3_run_2 ++ dktX3_run_3
def dkwX3_run_1 : List UInt8 := [181, 0, 50, 42, 180, 0, 81, 153, 0, 9, 42, 4, 182, 0, 90, 172, 3, 60, 27, 42, 180, 0, 78]
abbrev dktX3_run_1 : List UInt8 := dkwX3_run_1 ++ dktX3_run_2
def dkwX3_run_0 : List UInt8 := [42, 182, 0, 121, 42, 182, 0, 248, 42, 42, 180, 0, 81, 153, 0, 10, 42, 180, 0, 75, 167, 0, 4, 2]
abbrev dktX3_run_0 : List UInt8 := dkwX3_run_0 ++ dktX3_run_1
theorem dksX3_run_0 : cX3_run.data.toList.drop 0 = dktX3_run_0 := by decide +kernel
theorem dksX3_run_1 : cX3_run.data.toList.drop 24 = dktX3_run_1 := dk_seg dksX3_run_0 24 rfl rfl
theorem dksX3_run_2 : cX3_run.data.toList.drop 47 = dktX3_run_2 := dk_seg dksX3_run_1 23 rfl rfl
theorem dksX3_run_3 : cX3_run.data.toList.drop 71 = dktX3_run_3 := dk_seg dksX3_run_2 24 rfl rfl
theorem dksX3_run_4 : cX3_run.data.toList.drop 95 = dktX3_run_4 := dk_seg dksX3_run_3 24 rfl rfl
theorem dksX3_run_5 : cX3_run.data.toList.drop 118 = dktX3_run_5 := dk_seg dksX3_run_4 23 rfl rfl
theorem dX3_run_0 : decode cX3_run 0 = .ok (.aload_n 0, 1) := dk_42 (dk_at dksX3_run_0 0 rfl rfl)
theorem dX3_run_1 : decode cX3_run 1 = .ok (.invokevirtual 121, 3) := dk_182 0 121 (dk_at dksX3_run_0 1 rfl rfl)
theorem dX3_run_4 : decode cX3_run 4 = .ok (.aload_n 0, 1) := dk_42 (dk_at dksX3_run_0 4 rfl rfl)
theorem dX3_run_5 : decode cX3_run 5 = .ok (.invokevirtual 248, 3) := dk_182 0 248 (dk_at dksX3_run_0 5 rfl rfl)
theorem dX3_run_8 : decode cX3_run 8 = .ok (.aload_n 0, 1) := dk_42 (dk_at dksX3_run_0 8 rfl rfl)
theorem dX3_run_9 : decode cX3_run 9 = .ok (.aload_n 0, 1) := dk_42 (dk_at dksX3_run_0 9 rfl rfl)
theorem dX3_run_10 : decode cX3_run 10 = .ok (.getfield 81, 3) := dk_180 0 81 (dk_at dksX3_run_0 10 rfl rfl)
theorem dX3_run_13 : decode cX3_run 13 = .ok (.ifCond .eq 10, 3) := dk_153 0 10 (dk_at dksX3_run_0 13 rfl rfl)
theorem dX3_run_16 : decode cX3_run 16 = .ok (.aload_n 0, 1) := dk_42 (dk_at dksX3_run_0 16 rfl rfl)
theorem dX3_run_17 : decode cX3_run 17 = .ok (.getfield 75, 3) := dk_180 0 75 (dk_at dksX3_run_0 17 rfl rfl)
theorem dX3_run_20 : decode cX3_run 20 = .ok (.goto 4, 3) := dk_167 0 4 (dk_at dksX3_run_0 20 rfl rfl)
theorem dX3_run_23 : decode cX3_run 23 = .ok (.iconst (-1), 1) := dk_2 (dk_at dksX3_run_0 23 rfl rfl)
theorem dX3_run_24 : decode cX3_run 24 = .ok (.putfield 50, 3) := dk_181 0 50 (dk_at dksX3_run_1 0 rfl rfl)
theorem dX3_run_27 : decode cX3_run 27 = .ok (.aload_n 0, 1) := dk_42 (dk_at dksX3_run_1 3 rfl rfl)
theorem dX3_run_28 : decode cX3_run 28 = .ok (.getfield 81, 3) := dk_180 0 81 (dk_at dksX3_run_1 4 rfl rfl)
theorem dX3_run_31 : decode cX3_run 31 = .ok (.ifCond .eq 9, 3) := dk_153 0 9 (dk_at dksX3_run_1 7 rfl rfl)
theorem dX3_run_34 : decode cX3_run 34 = .ok (.aload_n 0, 1) := dk_42 (dk_at dksX3_run_1 10 rfl rfl)
theorem dX3_run_35 : decode cX3_run 35 = .ok (.iconst 1, 1) := dk_4 (dk_at dksX3_run_1 11 rfl rfl)
theorem dX3_run_36 : decode cX3_run 36 = .ok (.invokevirtual 90, 3) := dk_182 0 90 (dk_at dksX3_run_1 12 rfl rfl)
theorem dX3_run_39 : decode cX3_run 39 = .ok (.ireturn, 1) := dk_172 (dk_at dksX3_run_1 15 rfl rfl)
theorem dX3_run_40 : decode cX3_run 40 = .ok (.iconst 0, 1) := dk_3 (dk_at dksX3_run_1 16 rfl rfl)
theorem dX3_run_41 : decode cX3_run 41 = .ok (.istore_n 1, 1) := dk_60 (dk_at dksX3_run_1 17 rfl rfl)
theorem dX3_run_42 : decode cX3_run 42 = .ok (.iload_n 1, 1) := dk_27 (dk_at dksX3_run_1 18 rfl rfl)
theorem dX3_run_43 : decode cX3_run 43 = .ok (.aload_n 0, 1) := dk_42 (dk_at dksX3_run_1 19 rfl rfl)
theorem dX3_run_44 : decode cX3_run 44 = .ok (.getfield 78, 3) := dk_180 0 78 (dk_at dksX3_run_1 20 rfl rfl)
theorem dX3_run_47 : decode cX3_run 47 = .ok (.if_icmp .ge 66, 3) := dk_162 0 66 (dk_at dksX3_run_2 0 rfl rfl)
theorem dX3_run_50 : decode cX3_run 50 = .ok (.aload_n 0, 1) := dk_42 (dk_at dksX3_run_2 3 rfl rfl)
theorem dX3_run_51 : decode cX3_run 51 = .ok (.iload_n 1, 1) := dk_27 (dk_at dksX3_run_2 4 rfl rfl)
theorem dX3_run_52 : decode cX3_run 52 = .ok (.invokevirtual 251, 3) := dk_182 0 251 (dk_at dksX3_run_2 5 rfl rfl)
theorem dX3_run_55 : decode cX3_run 55 = .ok (.ifCond .ne 6, 3) := dk_154 0 6 (dk_at dksX3_run_2 8 rfl rfl)
theorem dX3_run_58 : decode cX3_run 58 = .ok (.goto 49, 3) := dk_167 0 49 (dk_at dksX3_run_2 11 rfl rfl)
theorem dX3_run_61 : decode cX3_run 61 = .ok (.aload_n 0, 1) := dk_42 (dk_at dksX3_run_2 14 rfl rfl)
theorem dX3_run_62 : decode cX3_run 62 = .ok (.getfield 13, 3) := dk_180 0 13 (dk_at dksX3_run_2 15 rfl rfl)
theorem dX3_run_65 : decode cX3_run 65 = .ok (.iconst 0, 1) := dk_3 (dk_at dksX3_run_2 18 rfl rfl)
theorem dX3_run_66 : decode cX3_run 66 = .ok (.aload_n 0, 1) := dk_42 (dk_at dksX3_run_2 19 rfl rfl)
theorem dX3_run_67 : decode cX3_run 67 = .ok (.getfield 7, 3) := dk_180 0 7 (dk_at dksX3_run_2 20 rfl rfl)
theorem dX3_run_70 : decode cX3_run 70 = .ok (.iconst 0, 1) := dk_3 (dk_at dksX3_run_2 23 rfl rfl)
theorem dX3_run_71 : decode cX3_run 71 = .ok (.invokestatic 94, 3) := dk_184 0 94 (dk_at dksX3_run_3 0 rfl rfl)
theorem dX3_run_74 : decode cX3_run 74 = .ok (.aload_n 0, 1) := dk_42 (dk_at dksX3_run_3 3 rfl rfl)
theorem dX3_run_75 : decode cX3_run 75 = .ok (.bipush 10, 2) := dk_16 10 (dk_at dksX3_run_3 4 rfl rfl)
theorem dX3_run_77 : decode cX3_run 77 = .ok (.putfield 38, 3) := dk_181 0 38 (dk_at dksX3_run_3 6 rfl rfl)
theorem dX3_run_80 : decode cX3_run 80 = .ok (.aload_n 0, 1) := dk_42 (dk_at dksX3_run_3 9 rfl rfl)
theorem dX3_run_81 : decode cX3_run 81 = .ok (.iload_n 1, 1) := dk_27 (dk_at dksX3_run_3 10 rfl rfl)
theorem dX3_run_82 : decode cX3_run 82 = .ok (.putfield 41, 3) := dk_181 0 41 (dk_at dksX3_run_3 11 rfl rfl)
theorem dX3_run_85 : decode cX3_run 85 = .ok (.aload_n 0, 1) := dk_42 (dk_at dksX3_run_3 14 rfl rfl)
theorem dX3_run_86 : decode cX3_run 86 = .ok (.aload_n 0, 1) := dk_42 (dk_at dksX3_run_3 15 rfl rfl)
theorem dX3_run_87 : decode cX3_run 87 = .ok (.getfield 32, 3) := dk_180 0 32 (dk_at dksX3_run_3 16 rfl rfl)
theorem dX3_run_90 : decode cX3_run 90 = .ok (.putfield 44, 3) := dk_181 0 44 (dk_at dksX3_run_3 19 rfl rfl)
theorem dX3_run_93 : decode cX3_run 93 = .ok (.aload_n 0, 1) := dk_42 (dk_at dksX3_run_3 22 rfl rfl)
theorem dX3_run_94 : decode cX3_run 94 = .ok (.aload_n 0, 1) := dk_42 (dk_at dksX3_run_3 23 rfl rfl)
theorem dX3_run_95 : decode cX3_run 95 = .ok (.getfield 35, 3) := dk_180 0 35 (dk_at dksX3_run_4 0 rfl rfl)
theorem dX3_run_98 : decode cX3_run 98 = .ok (.putfield 47, 3) := dk_181 0 47 (dk_at dksX3_run_4 3 rfl rfl)
theorem dX3_run_101 : decode cX3_run 101 = .ok (.aload_n 0, 1) := dk_42 (dk_at dksX3_run_4 6 rfl rfl)
theorem dX3_run_102 : decode cX3_run 102 = .ok (.iconst 2, 1) := dk_5 (dk_at dksX3_run_4 7 rfl rfl)
theorem dX3_run_103 : decode cX3_run 103 = .ok (.invokevirtual 90, 3) := dk_182 0 90 (dk_at dksX3_run_4 8 rfl rfl)
theorem dX3_run_106 : decode cX3_run 106 = .ok (.ireturn, 1) := dk_172 (dk_at dksX3_run_4 11 rfl rfl)
theorem dX3_run_107 : decode cX3_run 107 = .ok (.iinc 1 1, 3) := dk_132 1 1 (dk_at dksX3_run_4 12 rfl rfl)
theorem dX3_run_110 : decode cX3_run 110 = .ok (.goto (-68), 3) := dk_167 255 188 (dk_at dksX3_run_4 15 rfl rfl)
theorem dX3_run_113 : decode cX3_run 113 = .ok (.aload_n 0, 1) := dk_42 (dk_at dksX3_run_4 18 rfl rfl)
theorem dX3_run_114 : decode cX3_run 114 = .ok (.aload_n 0, 1) := dk_42 (dk_at dksX3_run_4 19 rfl rfl)
theorem dX3_run_115 : decode cX3_run 115 = .ok (.getfield 78, 3) := dk_180 0 78 (dk_at dksX3_run_4 20 rfl rfl)
theorem dX3_run_118 : decode cX3_run 118 = .ok (.invokevirtual 134, 3) := dk_182 0 134 (dk_at dksX3_run_5 0 rfl rfl)
theorem dX3_run_121 : decode cX3_run 121 = .ok (.ireturn, 1) := dk_172 (dk_at dksX3_run_5 3 rfl rfl)
abbrev cX3_reads : ByteArray := prog_20_method_80_code
def yX3_reads : MethodName := ⟨RX3, "reads", "()V"⟩
def dkwX3_reads_3 : List UInt8 := [3, 181, 0, 72, 177]
abbrev dktX3_reads_3 : List UInt8 := dkwX3_reads_3 ++ []
def dkwX3_reads_2 : List UInt8 := [180, 0, 81, 42, 180, 0, 75, 42, 180, 0, 72, 162, 0, 7, 4, 167, 0, 4, 3, 128, 181, 0, 81, 42]
abbrev dktX3_reads_2 : List UInt8 := dkwX3_reads_2 ++ dktX3_reads_3
def dkwX3_reads_1 : List UInt8 := [16, 59, 160, 0, 20, 42, 89, 180, 0, 75, 4, 96, 181, 0, 75, 42, 182, 0, 245, 167, 255, 233, 42, 89]
abbrev dktX3_reads_1 : List UInt8 := dkwX3_reads_1 ++ dktX3_reads_2
def dkwX3_reads_0 : List UInt8 := [42, 3, 181, 0, 75, 42, 3, 181, 0, 78, 42, 3, 181, 0, 81, 42, 182, 0, 245, 42, 182, 0, 233]
abbrev dktX3_reads_0 : List UInt8 := dkwX3_reads_0 ++ dktX3_reads_1
theorem dksX3_reads_0 : cX3_reads.data.toList.drop 0 = dktX3_reads_0 := by decide +kernel
theorem dksX3_reads_1 : cX3_reads.data.toList.drop 23 = dktX3_reads_1 := dk_seg dksX3_reads_0 23 rfl rfl
theorem dksX3_reads_2 : cX3_reads.data.toList.drop 47 = dktX3_reads_2 := dk_seg dksX3_reads_1 24 rfl rfl
theorem dksX3_reads_3 : cX3_reads.data.toList.drop 71 = dktX3_reads_3 := dk_seg dksX3_reads_2 24 rfl rfl
theorem dX3_reads_0 : decode cX3_reads 0 = .ok (.aload_n 0, 1) := dk_42 (dk_at dksX3_reads_0 0 rfl rfl)
theorem dX3_reads_1 : decode cX3_reads 1 = .ok (.iconst 0, 1) := dk_3 (dk_at dksX3_reads_0 1 rfl rfl)
theorem dX3_reads_2 : decode cX3_reads 2 = .ok (.putfield 75, 3) := dk_181 0 75 (dk_at dksX3_reads_0 2 rfl rfl)
theorem dX3_reads_5 : decode cX3_reads 5 = .ok (.aload_n 0, 1) := dk_42 (dk_at dksX3_reads_0 5 rfl rfl)
theorem dX3_reads_6 : decode cX3_reads 6 = .ok (.iconst 0, 1) := dk_3 (dk_at dksX3_reads_0 6 rfl rfl)
theorem dX3_reads_7 : decode cX3_reads 7 = .ok (.putfield 78, 3) := dk_181 0 78 (dk_at dksX3_reads_0 7 rfl rfl)
theorem dX3_reads_10 : decode cX3_reads 10 = .ok (.aload_n 0, 1) := dk_42 (dk_at dksX3_reads_0 10 rfl rfl)
theorem dX3_reads_11 : decode cX3_reads 11 = .ok (.iconst 0, 1) := dk_3 (dk_at dksX3_reads_0 11 rfl rfl)
theorem dX3_reads_12 : decode cX3_reads 12 = .ok (.putfield 81, 3) := dk_181 0 81 (dk_at dksX3_reads_0 12 rfl rfl)
theorem dX3_reads_15 : decode cX3_reads 15 = .ok (.aload_n 0, 1) := dk_42 (dk_at dksX3_reads_0 15 rfl rfl)
theorem dX3_reads_16 : decode cX3_reads 16 = .ok (.invokevirtual 245, 3) := dk_182 0 245 (dk_at dksX3_reads_0 16 rfl rfl)
theorem dX3_reads_19 : decode cX3_reads 19 = .ok (.aload_n 0, 1) := dk_42 (dk_at dksX3_reads_0 19 rfl rfl)
theorem dX3_reads_20 : decode cX3_reads 20 = .ok (.invokevirtual 233, 3) := dk_182 0 233 (dk_at dksX3_reads_0 20 rfl rfl)
theorem dX3_reads_23 : decode cX3_reads 23 = .ok (.bipush 59, 2) := dk_16 59 (dk_at dksX3_reads_1 0 rfl rfl)
theorem dX3_reads_25 : decode cX3_reads 25 = .ok (.if_icmp .ne 20, 3) := dk_160 0 20 (dk_at dksX3_reads_1 2 rfl rfl)
theorem dX3_reads_28 : decode cX3_reads 28 = .ok (.aload_n 0, 1) := dk_42 (dk_at dksX3_reads_1 5 rfl rfl)
theorem dX3_reads_29 : decode cX3_reads 29 = .ok (.dup, 1) := dk_89 (dk_at dksX3_reads_1 6 rfl rfl)
theorem dX3_reads_30 : decode cX3_reads 30 = .ok (.getfield 75, 3) := dk_180 0 75 (dk_at dksX3_reads_1 7 rfl rfl)
theorem dX3_reads_33 : decode cX3_reads 33 = .ok (.iconst 1, 1) := dk_4 (dk_at dksX3_reads_1 10 rfl rfl)
theorem dX3_reads_34 : decode cX3_reads 34 = .ok (.iadd, 1) := dk_96 (dk_at dksX3_reads_1 11 rfl rfl)
theorem dX3_reads_35 : decode cX3_reads 35 = .ok (.putfield 75, 3) := dk_181 0 75 (dk_at dksX3_reads_1 12 rfl rfl)
theorem dX3_reads_38 : decode cX3_reads 38 = .ok (.aload_n 0, 1) := dk_42 (dk_at dksX3_reads_1 15 rfl rfl)
theorem dX3_reads_39 : decode cX3_reads 39 = .ok (.invokevirtual 245, 3) := dk_182 0 245 (dk_at dksX3_reads_1 16 rfl rfl)
theorem dX3_reads_42 : decode cX3_reads 42 = .ok (.goto (-23), 3) := dk_167 255 233 (dk_at dksX3_reads_1 19 rfl rfl)
theorem dX3_reads_45 : decode cX3_reads 45 = .ok (.aload_n 0, 1) := dk_42 (dk_at dksX3_reads_1 22 rfl rfl)
theorem dX3_reads_46 : decode cX3_reads 46 = .ok (.dup, 1) := dk_89 (dk_at dksX3_reads_1 23 rfl rfl)
theorem dX3_reads_47 : decode cX3_reads 47 = .ok (.getfield 81, 3) := dk_180 0 81 (dk_at dksX3_reads_2 0 rfl rfl)
theorem dX3_reads_50 : decode cX3_reads 50 = .ok (.aload_n 0, 1) := dk_42 (dk_at dksX3_reads_2 3 rfl rfl)
theorem dX3_reads_51 : decode cX3_reads 51 = .ok (.getfield 75, 3) := dk_180 0 75 (dk_at dksX3_reads_2 4 rfl rfl)
theorem dX3_reads_54 : decode cX3_reads 54 = .ok (.aload_n 0, 1) := dk_42 (dk_at dksX3_reads_2 7 rfl rfl)
theorem dX3_reads_55 : decode cX3_reads 55 = .ok (.getfield 72, 3) := dk_180 0 72 (dk_at dksX3_reads_2 8 rfl rfl)
theorem dX3_reads_58 : decode cX3_reads 58 = .ok (.if_icmp .ge 7, 3) := dk_162 0 7 (dk_at dksX3_reads_2 11 rfl rfl)
theorem dX3_reads_61 : decode cX3_reads 61 = .ok (.iconst 1, 1) := dk_4 (dk_at dksX3_reads_2 14 rfl rfl)
theorem dX3_reads_62 : decode cX3_reads 62 = .ok (.goto 4, 3) := dk_167 0 4 (dk_at dksX3_reads_2 15 rfl rfl)
theorem dX3_reads_65 : decode cX3_reads 65 = .ok (.iconst 0, 1) := dk_3 (dk_at dksX3_reads_2 18 rfl rfl)
theorem dX3_reads_66 : decode cX3_reads 66 = .ok (.ior, 1) := dk_128 (dk_at dksX3_reads_2 19 rfl rfl)
theorem dX3_reads_67 : decode cX3_reads 67 = .ok (.putfield 81, 3) := dk_181 0 81 (dk_at dksX3_reads_2 20 rfl rfl)
theorem dX3_reads_70 : decode cX3_reads 70 = .ok (.aload_n 0, 1) := dk_42 (dk_at dksX3_reads_2 23 rfl rfl)
theorem dX3_reads_71 : decode cX3_reads 71 = .ok (.iconst 0, 1) := dk_3 (dk_at dksX3_reads_3 0 rfl rfl)
theorem dX3_reads_72 : decode cX3_reads 72 = .ok (.putfield 72, 3) := dk_181 0 72 (dk_at dksX3_reads_3 1 rfl rfl)
theorem dX3_reads_75 : decode cX3_reads 75 = .ok (.return_, 1) := dk_177 (dk_at dksX3_reads_3 4 rfl rfl)
abbrev cX3_order : ByteArray := prog_20_method_79_code
def yX3_order : MethodName := ⟨RX3, "order", "()V"⟩
def dkwX3_order_7 : List UInt8 := [180, 0, 60, 27, 28, 79, 42, 89, 180, 0, 78, 4, 96, 181, 0, 78, 177]
abbrev dktX3_order_7 : List UInt8 := dkwX3_order_7 ++ []
def dkwX3_order_6 : List UInt8 := [182, 0, 242, 42, 180, 0, 69, 27, 42, 182, 0, 236, 79, 42, 180, 0, 81, 153, 0, 4, 177, 42]
abbrev dktX3_order_6 : List UInt8 := dkwX3_order_6 ++ dktX3_order_7
def dkwX3_order_5 : List UInt8 := [160, 0, 35, 42, 16, 62, 182, 0, 242, 42, 180, 0, 66, 27, 42, 182, 0, 239, 79, 42, 16, 42]
abbrev dktX3_order_5 : List UInt8 := dkwX3_order_5 ++ dktX3_order_6
def dkwX3_order_4 : List UInt8 := [16, 48, 16, 57, 184, 0, 102, 154, 0, 7, 4, 167, 0, 7, 42, 182, 0, 239, 79, 28, 16, 113]
abbrev dktX3_order_4 : List UInt8 := dkwX3_order_4 ++ dktX3_order_5
def dkwX3_order_3 : List UInt8 := [181, 0, 75, 42, 180, 0, 63, 27, 28, 16, 120, 159, 0, 23, 28, 16, 116, 160, 0, 21, 42, 182, 0, 233]
abbrev dktX3_order_3 : List UInt8 := dkwX3_order_3 ++ dktX3_order_4
def dkwX3_order_2 : List UInt8 := [167, 0, 4, 3, 62, 29, 154, 0, 9, 42, 4, 181, 0, 81, 177, 42, 89, 180, 0, 75, 4, 96]
abbrev dktX3_order_2 : List UInt8 := dkwX3_order_2 ++ dktX3_order_3
def dkwX3_order_1 : List UInt8 := [16, 113, 159, 0, 21, 28, 16, 109, 159, 0, 15, 28, 16, 116, 159, 0, 9, 28, 16, 120, 160, 0, 7, 4]
abbrev dktX3_order_1 : List UInt8 := dkwX3_order_1 ++ dktX3_order_2
def dkwX3_order_0 : List UInt8 := [42, 180, 0, 78, 60, 42, 182, 0, 233, 61, 28, 16, 43, 159, 0, 33, 28, 16, 45, 159, 0, 27, 28]
abbrev dktX3_order_0 : List UInt8 := dkwX3_order_0 ++ dktX3_order_1
theorem dksX3_order_0 : cX3_order.data.toList.drop 0 = dktX3_order_0 := by decide +kernel
theorem dksX3_order_1 : cX3_order.data.toList.drop 23 = dktX3_order_1 := dk_seg dksX3_order_0 23 rfl rfl
theorem dksX3_order_2 : cX3_order.data.toList.drop 47 = dktX3_order_2 := dk_seg dksX3_order_1 24 rfl rfl
theorem dksX3_order_3 : cX3_order.data.toList.drop 69 = dktX3_order_3 := dk_seg dksX3_order_2 22 rfl rfl
theorem dksX3_order_4 : cX3_order.data.toList.drop 93 = dktX3_order_4 := dk_seg dksX3_order_3 24 rfl rfl
theorem dksX3_order_5 : cX3_order.data.toList.drop 115 = dktX3_order_5 := dk_seg dksX3_order_4 22 rfl rfl
theorem dksX3_order_6 : cX3_order.data.toList.drop 137 = dktX3_order_6 := dk_seg dksX3_order_5 22 rfl rfl
theorem dksX3_order_7 : cX3_order.data.toList.drop 159 = dktX3_order_7 := dk_seg dksX3_order_6 22 rfl rfl
theorem dX3_order_0 : decode cX3_order 0 = .ok (.aload_n 0, 1) := dk_42 (dk_at dksX3_order_0 0 rfl rfl)
theorem dX3_order_1 : decode cX3_order 1 = .ok (.getfield 78, 3) := dk_180 0 78 (dk_at dksX3_order_0 1 rfl rfl)
theorem dX3_order_4 : decode cX3_order 4 = .ok (.istore_n 1, 1) := dk_60 (dk_at dksX3_order_0 4 rfl rfl)
theorem dX3_order_5 : decode cX3_order 5 = .ok (.aload_n 0, 1) := dk_42 (dk_at dksX3_order_0 5 rfl rfl)
theorem dX3_order_6 : decode cX3_order 6 = .ok (.invokevirtual 233, 3) := dk_182 0 233 (dk_at dksX3_order_0 6 rfl rfl)
theorem dX3_order_9 : decode cX3_order 9 = .ok (.istore_n 2, 1) := dk_61 (dk_at dksX3_order_0 9 rfl rfl)
theorem dX3_order_10 : decode cX3_order 10 = .ok (.iload_n 2, 1) := dk_28 (dk_at dksX3_order_0 10 rfl rfl)
theorem dX3_order_11 : decode cX3_order 11 = .ok (.bipush 43, 2) := dk_16 43 (dk_at dksX3_order_0 11 rfl rfl)
theorem dX3_order_13 : decode cX3_order 13 = .ok (.if_icmp .eq 33, 3) := dk_159 0 33 (dk_at dksX3_order_0 13 rfl rfl)
theorem dX3_order_16 : decode cX3_order 16 = .ok (.iload_n 2, 1) := dk_28 (dk_at dksX3_order_0 16 rfl rfl)
theorem dX3_order_17 : decode cX3_order 17 = .ok (.bipush 45, 2) := dk_16 45 (dk_at dksX3_order_0 17 rfl rfl)
theorem dX3_order_19 : decode cX3_order 19 = .ok (.if_icmp .eq 27, 3) := dk_159 0 27 (dk_at dksX3_order_0 19 rfl rfl)
theorem dX3_order_22 : decode cX3_order 22 = .ok (.iload_n 2, 1) := dk_28 (dk_at dksX3_order_0 22 rfl rfl)
theorem dX3_order_23 : decode cX3_order 23 = .ok (.bipush 113, 2) := dk_16 113 (dk_at dksX3_order_1 0 rfl rfl)
theorem dX3_order_25 : decode cX3_order 25 = .ok (.if_icmp .eq 21, 3) := dk_159 0 21 (dk_at dksX3_order_1 2 rfl rfl)
theorem dX3_order_28 : decode cX3_order 28 = .ok (.iload_n 2, 1) := dk_28 (dk_at dksX3_order_1 5 rfl rfl)
theorem dX3_order_29 : decode cX3_order 29 = .ok (.bipush 109, 2) := dk_16 109 (dk_at dksX3_order_1 6 rfl rfl)
theorem dX3_order_31 : decode cX3_order 31 = .ok (.if_icmp .eq 15, 3) := dk_159 0 15 (dk_at dksX3_order_1 8 rfl rfl)
theorem dX3_order_34 : decode cX3_order 34 = .ok (.iload_n 2, 1) := dk_28 (dk_at dksX3_order_1 11 rfl rfl)
theorem dX3_order_35 : decode cX3_order 35 = .ok (.bipush 116, 2) := dk_16 116 (dk_at dksX3_order_1 12 rfl rfl)
theorem dX3_order_37 : decode cX3_order 37 = .ok (.if_icmp .eq 9, 3) := dk_159 0 9 (dk_at dksX3_order_1 14 rfl rfl)
theorem dX3_order_40 : decode cX3_order 40 = .ok (.iload_n 2, 1) := dk_28 (dk_at dksX3_order_1 17 rfl rfl)
theorem dX3_order_41 : decode cX3_order 41 = .ok (.bipush 120, 2) := dk_16 120 (dk_at dksX3_order_1 18 rfl rfl)
theorem dX3_order_43 : decode cX3_order 43 = .ok (.if_icmp .ne 7, 3) := dk_160 0 7 (dk_at dksX3_order_1 20 rfl rfl)
theorem dX3_order_46 : decode cX3_order 46 = .ok (.iconst 1, 1) := dk_4 (dk_at dksX3_order_1 23 rfl rfl)
theorem dX3_order_47 : decode cX3_order 47 = .ok (.goto 4, 3) := dk_167 0 4 (dk_at dksX3_order_2 0 rfl rfl)
theorem dX3_order_50 : decode cX3_order 50 = .ok (.iconst 0, 1) := dk_3 (dk_at dksX3_order_2 3 rfl rfl)
theorem dX3_order_51 : decode cX3_order 51 = .ok (.istore_n 3, 1) := dk_62 (dk_at dksX3_order_2 4 rfl rfl)
theorem dX3_order_52 : decode cX3_order 52 = .ok (.iload_n 3, 1) := dk_29 (dk_at dksX3_order_2 5 rfl rfl)
theorem dX3_order_53 : decode cX3_order 53 = .ok (.ifCond .ne 9, 3) := dk_154 0 9 (dk_at dksX3_order_2 6 rfl rfl)
theorem dX3_order_56 : decode cX3_order 56 = .ok (.aload_n 0, 1) := dk_42 (dk_at dksX3_order_2 9 rfl rfl)
theorem dX3_order_57 : decode cX3_order 57 = .ok (.iconst 1, 1) := dk_4 (dk_at dksX3_order_2 10 rfl rfl)
theorem dX3_order_58 : decode cX3_order 58 = .ok (.putfield 81, 3) := dk_181 0 81 (dk_at dksX3_order_2 11 rfl rfl)
theorem dX3_order_61 : decode cX3_order 61 = .ok (.return_, 1) := dk_177 (dk_at dksX3_order_2 14 rfl rfl)
theorem dX3_order_62 : decode cX3_order 62 = .ok (.aload_n 0, 1) := dk_42 (dk_at dksX3_order_2 15 rfl rfl)
theorem dX3_order_63 : decode cX3_order 63 = .ok (.dup, 1) := dk_89 (dk_at dksX3_order_2 16 rfl rfl)
theorem dX3_order_64 : decode cX3_order 64 = .ok (.getfield 75, 3) := dk_180 0 75 (dk_at dksX3_order_2 17 rfl rfl)
theorem dX3_order_67 : decode cX3_order 67 = .ok (.iconst 1, 1) := dk_4 (dk_at dksX3_order_2 20 rfl rfl)
theorem dX3_order_68 : decode cX3_order 68 = .ok (.iadd, 1) := dk_96 (dk_at dksX3_order_2 21 rfl rfl)
theorem dX3_order_69 : decode cX3_order 69 = .ok (.putfield 75, 3) := dk_181 0 75 (dk_at dksX3_order_3 0 rfl rfl)
theorem dX3_order_72 : decode cX3_order 72 = .ok (.aload_n 0, 1) := dk_42 (dk_at dksX3_order_3 3 rfl rfl)
theorem dX3_order_73 : decode cX3_order 73 = .ok (.getfield 63, 3) := dk_180 0 63 (dk_at dksX3_order_3 4 rfl rfl)
theorem dX3_order_76 : decode cX3_order 76 = .ok (.iload_n 1, 1) := dk_27 (dk_at dksX3_order_3 7 rfl rfl)
theorem dX3_order_77 : decode cX3_order 77 = .ok (.iload_n 2, 1) := dk_28 (dk_at dksX3_order_3 8 rfl rfl)
theorem dX3_order_78 : decode cX3_order 78 = .ok (.bipush 120, 2) := dk_16 120 (dk_at dksX3_order_3 9 rfl rfl)
theorem dX3_order_80 : decode cX3_order 80 = .ok (.if_icmp .eq 23, 3) := dk_159 0 23 (dk_at dksX3_order_3 11 rfl rfl)
theorem dX3_order_83 : decode cX3_order 83 = .ok (.iload_n 2, 1) := dk_28 (dk_at dksX3_order_3 14 rfl rfl)
theorem dX3_order_84 : decode cX3_order 84 = .ok (.bipush 116, 2) := dk_16 116 (dk_at dksX3_order_3 15 rfl rfl)
theorem dX3_order_86 : decode cX3_order 86 = .ok (.if_icmp .ne 21, 3) := dk_160 0 21 (dk_at dksX3_order_3 17 rfl rfl)
theorem dX3_order_89 : decode cX3_order 89 = .ok (.aload_n 0, 1) := dk_42 (dk_at dksX3_order_3 20 rfl rfl)
theorem dX3_order_90 : decode cX3_order 90 = .ok (.invokevirtual 233, 3) := dk_182 0 233 (dk_at dksX3_order_3 21 rfl rfl)
theorem dX3_order_93 : decode cX3_order 93 = .ok (.bipush 48, 2) := dk_16 48 (dk_at dksX3_order_4 0 rfl rfl)
theorem dX3_order_95 : decode cX3_order 95 = .ok (.bipush 57, 2) := dk_16 57 (dk_at dksX3_order_4 2 rfl rfl)
theorem dX3_order_97 : decode cX3_order 97 = .ok (.invokestatic 102, 3) := dk_184 0 102 (dk_at dksX3_order_4 4 rfl rfl)
theorem dX3_order_100 : decode cX3_order 100 = .ok (.ifCond .ne 7, 3) := dk_154 0 7 (dk_at dksX3_order_4 7 rfl rfl)
theorem dX3_order_103 : decode cX3_order 103 = .ok (.iconst 1, 1) := dk_4 (dk_at dksX3_order_4 10 rfl rfl)
theorem dX3_order_104 : decode cX3_order 104 = .ok (.goto 7, 3) := dk_167 0 7 (dk_at dksX3_order_4 11 rfl rfl)
theorem dX3_order_107 : decode cX3_order 107 = .ok (.aload_n 0, 1) := dk_42 (dk_at dksX3_order_4 14 rfl rfl)
theorem dX3_order_108 : decode cX3_order 108 = .ok (.invokevirtual 239, 3) := dk_182 0 239 (dk_at dksX3_order_4 15 rfl rfl)
theorem dX3_order_111 : decode cX3_order 111 = .ok (.iastore, 1) := dk_79 (dk_at dksX3_order_4 18 rfl rfl)
theorem dX3_order_112 : decode cX3_order 112 = .ok (.iload_n 2, 1) := dk_28 (dk_at dksX3_order_4 19 rfl rfl)
theorem dX3_order_113 : decode cX3_order 113 = .ok (.bipush 113, 2) := dk_16 113 (dk_at dksX3_order_4 20 rfl rfl)
theorem dX3_order_115 : decode cX3_order 115 = .ok (.if_icmp .ne 35, 3) := dk_160 0 35 (dk_at dksX3_order_5 0 rfl rfl)
theorem dX3_order_118 : decode cX3_order 118 = .ok (.aload_n 0, 1) := dk_42 (dk_at dksX3_order_5 3 rfl rfl)
theorem dX3_order_119 : decode cX3_order 119 = .ok (.bipush 62, 2) := dk_16 62 (dk_at dksX3_order_5 4 rfl rfl)
theorem dX3_order_121 : decode cX3_order 121 = .ok (.invokevirtual 242, 3) := dk_182 0 242 (dk_at dksX3_order_5 6 rfl rfl)
theorem dX3_order_124 : decode cX3_order 124 = .ok (.aload_n 0, 1) := dk_42 (dk_at dksX3_order_5 9 rfl rfl)
theorem dX3_order_125 : decode cX3_order 125 = .ok (.getfield 66, 3) := dk_180 0 66 (dk_at dksX3_order_5 10 rfl rfl)
theorem dX3_order_128 : decode cX3_order 128 = .ok (.iload_n 1, 1) := dk_27 (dk_at dksX3_order_5 13 rfl rfl)
theorem dX3_order_129 : decode cX3_order 129 = .ok (.aload_n 0, 1) := dk_42 (dk_at dksX3_order_5 14 rfl rfl)
theorem dX3_order_130 : decode cX3_order 130 = .ok (.invokevirtual 239, 3) := dk_182 0 239 (dk_at dksX3_order_5 15 rfl rfl)
theorem dX3_order_133 : decode cX3_order 133 = .ok (.iastore, 1) := dk_79 (dk_at dksX3_order_5 18 rfl rfl)
theorem dX3_order_134 : decode cX3_order 134 = .ok (.aload_n 0, 1) := dk_42 (dk_at dksX3_order_5 19 rfl rfl)
theorem dX3_order_135 : decode cX3_order 135 = .ok (.bipush 42, 2) := dk_16 42 (dk_at dksX3_order_5 20 rfl rfl)
theorem dX3_order_137 : decode cX3_order 137 = .ok (.invokevirtual 242, 3) := dk_182 0 242 (dk_at dksX3_order_6 0 rfl rfl)
theorem dX3_order_140 : decode cX3_order 140 = .ok (.aload_n 0, 1) := dk_42 (dk_at dksX3_order_6 3 rfl rfl)
theorem dX3_order_141 : decode cX3_order 141 = .ok (.getfield 69, 3) := dk_180 0 69 (dk_at dksX3_order_6 4 rfl rfl)
theorem dX3_order_144 : decode cX3_order 144 = .ok (.iload_n 1, 1) := dk_27 (dk_at dksX3_order_6 7 rfl rfl)
theorem dX3_order_145 : decode cX3_order 145 = .ok (.aload_n 0, 1) := dk_42 (dk_at dksX3_order_6 8 rfl rfl)
theorem dX3_order_146 : decode cX3_order 146 = .ok (.invokevirtual 236, 3) := dk_182 0 236 (dk_at dksX3_order_6 9 rfl rfl)
theorem dX3_order_149 : decode cX3_order 149 = .ok (.iastore, 1) := dk_79 (dk_at dksX3_order_6 12 rfl rfl)
theorem dX3_order_150 : decode cX3_order 150 = .ok (.aload_n 0, 1) := dk_42 (dk_at dksX3_order_6 13 rfl rfl)
theorem dX3_order_151 : decode cX3_order 151 = .ok (.getfield 81, 3) := dk_180 0 81 (dk_at dksX3_order_6 14 rfl rfl)
theorem dX3_order_154 : decode cX3_order 154 = .ok (.ifCond .eq 4, 3) := dk_153 0 4 (dk_at dksX3_order_6 17 rfl rfl)
theorem dX3_order_157 : decode cX3_order 157 = .ok (.return_, 1) := dk_177 (dk_at dksX3_order_6 20 rfl rfl)
theorem dX3_order_158 : decode cX3_order 158 = .ok (.aload_n 0, 1) := dk_42 (dk_at dksX3_order_6 21 rfl rfl)
theorem dX3_order_159 : decode cX3_order 159 = .ok (.getfield 60, 3) := dk_180 0 60 (dk_at dksX3_order_7 0 rfl rfl)
theorem dX3_order_162 : decode cX3_order 162 = .ok (.iload_n 1, 1) := dk_27 (dk_at dksX3_order_7 3 rfl rfl)
theorem dX3_order_163 : decode cX3_order 163 = .ok (.iload_n 2, 1) := dk_28 (dk_at dksX3_order_7 4 rfl rfl)
theorem dX3_order_164 : decode cX3_order 164 = .ok (.iastore, 1) := dk_79 (dk_at dksX3_order_7 5 rfl rfl)
theorem dX3_order_165 : decode cX3_order 165 = .ok (.aload_n 0, 1) := dk_42 (dk_at dksX3_order_7 6 rfl rfl)
theorem dX3_order_166 : decode cX3_order 166 = .ok (.dup, 1) := dk_89 (dk_at dksX3_order_7 7 rfl rfl)
theorem dX3_order_167 : decode cX3_order 167 = .ok (.getfield 78, 3) := dk_180 0 78 (dk_at dksX3_order_7 8 rfl rfl)
theorem dX3_order_170 : decode cX3_order 170 = .ok (.iconst 1, 1) := dk_4 (dk_at dksX3_order_7 11 rfl rfl)
theorem dX3_order_171 : decode cX3_order 171 = .ok (.iadd, 1) := dk_96 (dk_at dksX3_order_7 12 rfl rfl)
theorem dX3_order_172 : decode cX3_order 172 = .ok (.putfield 78, 3) := dk_181 0 78 (dk_at dksX3_order_7 13 rfl rfl)
theorem dX3_order_175 : decode cX3_order 175 = .ok (.return_, 1) := dk_177 (dk_at dksX3_order_7 16 rfl rfl)
abbrev cX3_sign : ByteArray := prog_20_method_75_code
def yX3_sign : MethodName := ⟨RX3, "sign", "()I"⟩
def dkwX3_sign_1 : List UInt8 := [180, 0, 75, 46, 167, 0, 4, 2, 172]
abbrev dktX3_sign_1 : List UInt8 := dkwX3_sign_1 ++ []
def dkwX3_sign_0 : List UInt8 := [42, 180, 0, 81, 154, 0, 26, 42, 180, 0, 75, 42, 180, 0, 72, 162, 0, 15, 42, 180, 0, 57, 42]
abbrev dktX3_sign_0 : List UInt8 := dkwX3_sign_0 ++ dktX3_sign_1
theorem dksX3_sign_0 : cX3_sign.data.toList.drop 0 = dktX3_sign_0 := by decide +kernel
theorem dksX3_sign_1 : cX3_sign.data.toList.drop 23 = dktX3_sign_1 := dk_seg dksX3_sign_0 23 rfl rfl
theorem dX3_sign_0 : decode cX3_sign 0 = .ok (.aload_n 0, 1) := dk_42 (dk_at dksX3_sign_0 0 rfl rfl)
theorem dX3_sign_1 : decode cX3_sign 1 = .ok (.getfield 81, 3) := dk_180 0 81 (dk_at dksX3_sign_0 1 rfl rfl)
theorem dX3_sign_4 : decode cX3_sign 4 = .ok (.ifCond .ne 26, 3) := dk_154 0 26 (dk_at dksX3_sign_0 4 rfl rfl)
theorem dX3_sign_7 : decode cX3_sign 7 = .ok (.aload_n 0, 1) := dk_42 (dk_at dksX3_sign_0 7 rfl rfl)
theorem dX3_sign_8 : decode cX3_sign 8 = .ok (.getfield 75, 3) := dk_180 0 75 (dk_at dksX3_sign_0 8 rfl rfl)
theorem dX3_sign_11 : decode cX3_sign 11 = .ok (.aload_n 0, 1) := dk_42 (dk_at dksX3_sign_0 11 rfl rfl)
theorem dX3_sign_12 : decode cX3_sign 12 = .ok (.getfield 72, 3) := dk_180 0 72 (dk_at dksX3_sign_0 12 rfl rfl)
theorem dX3_sign_15 : decode cX3_sign 15 = .ok (.if_icmp .ge 15, 3) := dk_162 0 15 (dk_at dksX3_sign_0 15 rfl rfl)
theorem dX3_sign_18 : decode cX3_sign 18 = .ok (.aload_n 0, 1) := dk_42 (dk_at dksX3_sign_0 18 rfl rfl)
theorem dX3_sign_19 : decode cX3_sign 19 = .ok (.getfield 57, 3) := dk_180 0 57 (dk_at dksX3_sign_0 19 rfl rfl)
theorem dX3_sign_22 : decode cX3_sign 22 = .ok (.aload_n 0, 1) := dk_42 (dk_at dksX3_sign_0 22 rfl rfl)
theorem dX3_sign_23 : decode cX3_sign 23 = .ok (.getfield 75, 3) := dk_180 0 75 (dk_at dksX3_sign_1 0 rfl rfl)
theorem dX3_sign_26 : decode cX3_sign 26 = .ok (.iaload, 1) := dk_46 (dk_at dksX3_sign_1 3 rfl rfl)
theorem dX3_sign_27 : decode cX3_sign 27 = .ok (.goto 4, 3) := dk_167 0 4 (dk_at dksX3_sign_1 4 rfl rfl)
theorem dX3_sign_30 : decode cX3_sign 30 = .ok (.iconst (-1), 1) := dk_2 (dk_at dksX3_sign_1 7 rfl rfl)
theorem dX3_sign_31 : decode cX3_sign 31 = .ok (.ireturn, 1) := dk_172 (dk_at dksX3_sign_1 8 rfl rfl)
abbrev cX3_figures : ByteArray := prog_20_method_77_code
def yX3_figures : MethodName := ⟨RX3, "figures", "()I"⟩
def dkwX3_figures_1 : List UInt8 := [182, 0, 236, 96, 167, 0, 4, 27, 172]
abbrev dktX3_figures_1 : List UInt8 := dkwX3_figures_1 ++ []
def dkwX3_figures_0 : List UInt8 := [42, 182, 0, 236, 60, 42, 182, 0, 233, 16, 48, 16, 57, 184, 0, 102, 153, 0, 15, 16, 10, 27, 104, 42]
abbrev dktX3_figures_0 : List UInt8 := dkwX3_figures_0 ++ dktX3_figures_1
theorem dksX3_figures_0 : cX3_figures.data.toList.drop 0 = dktX3_figures_0 := by decide +kernel
theorem dksX3_figures_1 : cX3_figures.data.toList.drop 24 = dktX3_figures_1 := dk_seg dksX3_figures_0 24 rfl rfl
theorem dX3_figures_0 : decode cX3_figures 0 = .ok (.aload_n 0, 1) := dk_42 (dk_at dksX3_figures_0 0 rfl rfl)
theorem dX3_figures_1 : decode cX3_figures 1 = .ok (.invokevirtual 236, 3) := dk_182 0 236 (dk_at dksX3_figures_0 1 rfl rfl)
theorem dX3_figures_4 : decode cX3_figures 4 = .ok (.istore_n 1, 1) := dk_60 (dk_at dksX3_figures_0 4 rfl rfl)
theorem dX3_figures_5 : decode cX3_figures 5 = .ok (.aload_n 0, 1) := dk_42 (dk_at dksX3_figures_0 5 rfl rfl)
theorem dX3_figures_6 : decode cX3_figures 6 = .ok (.invokevirtual 233, 3) := dk_182 0 233 (dk_at dksX3_figures_0 6 rfl rfl)
theorem dX3_figures_9 : decode cX3_figures 9 = .ok (.bipush 48, 2) := dk_16 48 (dk_at dksX3_figures_0 9 rfl rfl)
theorem dX3_figures_11 : decode cX3_figures 11 = .ok (.bipush 57, 2) := dk_16 57 (dk_at dksX3_figures_0 11 rfl rfl)
theorem dX3_figures_13 : decode cX3_figures 13 = .ok (.invokestatic 102, 3) := dk_184 0 102 (dk_at dksX3_figures_0 13 rfl rfl)
theorem dX3_figures_16 : decode cX3_figures 16 = .ok (.ifCond .eq 15, 3) := dk_153 0 15 (dk_at dksX3_figures_0 16 rfl rfl)
theorem dX3_figures_19 : decode cX3_figures 19 = .ok (.bipush 10, 2) := dk_16 10 (dk_at dksX3_figures_0 19 rfl rfl)
theorem dX3_figures_21 : decode cX3_figures 21 = .ok (.iload_n 1, 1) := dk_27 (dk_at dksX3_figures_0 21 rfl rfl)
theorem dX3_figures_22 : decode cX3_figures 22 = .ok (.imul, 1) := dk_104 (dk_at dksX3_figures_0 22 rfl rfl)
theorem dX3_figures_23 : decode cX3_figures 23 = .ok (.aload_n 0, 1) := dk_42 (dk_at dksX3_figures_0 23 rfl rfl)
theorem dX3_figures_24 : decode cX3_figures 24 = .ok (.invokevirtual 236, 3) := dk_182 0 236 (dk_at dksX3_figures_1 0 rfl rfl)
theorem dX3_figures_27 : decode cX3_figures 27 = .ok (.iadd, 1) := dk_96 (dk_at dksX3_figures_1 3 rfl rfl)
theorem dX3_figures_28 : decode cX3_figures 28 = .ok (.goto 4, 3) := dk_167 0 4 (dk_at dksX3_figures_1 4 rfl rfl)
theorem dX3_figures_31 : decode cX3_figures 31 = .ok (.iload_n 1, 1) := dk_27 (dk_at dksX3_figures_1 7 rfl rfl)
theorem dX3_figures_32 : decode cX3_figures 32 = .ok (.ireturn, 1) := dk_172 (dk_at dksX3_figures_1 8 rfl rfl)
abbrev cX3_digit : ByteArray := prog_20_method_76_code
def yX3_digit : MethodName := ⟨RX3, "digit", "()I"⟩
def dkwX3_digit_1 : List UInt8 := [89, 180, 0, 75, 4, 96, 181, 0, 75, 27, 16, 48, 100, 172]
abbrev dktX3_digit_1 : List UInt8 := dkwX3_digit_1 ++ []
def dkwX3_digit_0 : List UInt8 := [42, 182, 0, 233, 60, 27, 16, 48, 16, 57, 184, 0, 102, 154, 0, 10, 42, 4, 181, 0, 81, 3, 172, 42]
abbrev dktX3_digit_0 : List UInt8 := dkwX3_digit_0 ++ dktX3_digit_1
theorem dksX3_digit_0 : cX3_digit.data.toList.drop 0 = dktX3_digit_0 := by decide +kernel
theorem dksX3_digit_1 : cX3_digit.data.toList.drop 24 = dktX3_digit_1 := dk_seg dksX3_digit_0 24 rfl rfl
theorem dX3_digit_0 : decode cX3_digit 0 = .ok (.aload_n 0, 1) := dk_42 (dk_at dksX3_digit_0 0 rfl rfl)
theorem dX3_digit_1 : decode cX3_digit 1 = .ok (.invokevirtual 233, 3) := dk_182 0 233 (dk_at dksX3_digit_0 1 rfl rfl)
theorem dX3_digit_4 : decode cX3_digit 4 = .ok (.istore_n 1, 1) := dk_60 (dk_at dksX3_digit_0 4 rfl rfl)
theorem dX3_digit_5 : decode cX3_digit 5 = .ok (.iload_n 1, 1) := dk_27 (dk_at dksX3_digit_0 5 rfl rfl)
theorem dX3_digit_6 : decode cX3_digit 6 = .ok (.bipush 48, 2) := dk_16 48 (dk_at dksX3_digit_0 6 rfl rfl)
theorem dX3_digit_8 : decode cX3_digit 8 = .ok (.bipush 57, 2) := dk_16 57 (dk_at dksX3_digit_0 8 rfl rfl)
theorem dX3_digit_10 : decode cX3_digit 10 = .ok (.invokestatic 102, 3) := dk_184 0 102 (dk_at dksX3_digit_0 10 rfl rfl)
theorem dX3_digit_13 : decode cX3_digit 13 = .ok (.ifCond .ne 10, 3) := dk_154 0 10 (dk_at dksX3_digit_0 13 rfl rfl)
theorem dX3_digit_16 : decode cX3_digit 16 = .ok (.aload_n 0, 1) := dk_42 (dk_at dksX3_digit_0 16 rfl rfl)
theorem dX3_digit_17 : decode cX3_digit 17 = .ok (.iconst 1, 1) := dk_4 (dk_at dksX3_digit_0 17 rfl rfl)
theorem dX3_digit_18 : decode cX3_digit 18 = .ok (.putfield 81, 3) := dk_181 0 81 (dk_at dksX3_digit_0 18 rfl rfl)
theorem dX3_digit_21 : decode cX3_digit 21 = .ok (.iconst 0, 1) := dk_3 (dk_at dksX3_digit_0 21 rfl rfl)
theorem dX3_digit_22 : decode cX3_digit 22 = .ok (.ireturn, 1) := dk_172 (dk_at dksX3_digit_0 22 rfl rfl)
theorem dX3_digit_23 : decode cX3_digit 23 = .ok (.aload_n 0, 1) := dk_42 (dk_at dksX3_digit_0 23 rfl rfl)
theorem dX3_digit_24 : decode cX3_digit 24 = .ok (.dup, 1) := dk_89 (dk_at dksX3_digit_1 0 rfl rfl)
theorem dX3_digit_25 : decode cX3_digit 25 = .ok (.getfield 75, 3) := dk_180 0 75 (dk_at dksX3_digit_1 1 rfl rfl)
theorem dX3_digit_28 : decode cX3_digit 28 = .ok (.iconst 1, 1) := dk_4 (dk_at dksX3_digit_1 4 rfl rfl)
theorem dX3_digit_29 : decode cX3_digit 29 = .ok (.iadd, 1) := dk_96 (dk_at dksX3_digit_1 5 rfl rfl)
theorem dX3_digit_30 : decode cX3_digit 30 = .ok (.putfield 75, 3) := dk_181 0 75 (dk_at dksX3_digit_1 6 rfl rfl)
theorem dX3_digit_33 : decode cX3_digit 33 = .ok (.iload_n 1, 1) := dk_27 (dk_at dksX3_digit_1 9 rfl rfl)
theorem dX3_digit_34 : decode cX3_digit 34 = .ok (.bipush 48, 2) := dk_16 48 (dk_at dksX3_digit_1 10 rfl rfl)
theorem dX3_digit_36 : decode cX3_digit 36 = .ok (.isub, 1) := dk_100 (dk_at dksX3_digit_1 12 rfl rfl)
theorem dX3_digit_37 : decode cX3_digit 37 = .ok (.ireturn, 1) := dk_172 (dk_at dksX3_digit_1 13 rfl rfl)
abbrev cX3_takesSign : ByteArray := prog_20_method_78_code
def yX3_takesSign : MethodName := ⟨RX3, "takesSign", "(I)V"⟩
def dkwX3_takesSign_1 : List UInt8 := [181, 0, 81, 177]
abbrev dktX3_takesSign_1 : List UInt8 := dkwX3_takesSign_1 ++ []
def dkwX3_takesSign_0 : List UInt8 := [42, 182, 0, 233, 27, 160, 0, 16, 42, 89, 180, 0, 75, 4, 96, 181, 0, 75, 167, 0, 8, 42, 4]
abbrev dktX3_takesSign_0 : List UInt8 := dkwX3_takesSign_0 ++ dktX3_takesSign_1
theorem dksX3_takesSign_0 : cX3_takesSign.data.toList.drop 0 = dktX3_takesSign_0 := by decide +kernel
theorem dksX3_takesSign_1 : cX3_takesSign.data.toList.drop 23 = dktX3_takesSign_1 := dk_seg dksX3_takesSign_0 23 rfl rfl
theorem dX3_takesSign_0 : decode cX3_takesSign 0 = .ok (.aload_n 0, 1) := dk_42 (dk_at dksX3_takesSign_0 0 rfl rfl)
theorem dX3_takesSign_1 : decode cX3_takesSign 1 = .ok (.invokevirtual 233, 3) := dk_182 0 233 (dk_at dksX3_takesSign_0 1 rfl rfl)
theorem dX3_takesSign_4 : decode cX3_takesSign 4 = .ok (.iload_n 1, 1) := dk_27 (dk_at dksX3_takesSign_0 4 rfl rfl)
theorem dX3_takesSign_5 : decode cX3_takesSign 5 = .ok (.if_icmp .ne 16, 3) := dk_160 0 16 (dk_at dksX3_takesSign_0 5 rfl rfl)
theorem dX3_takesSign_8 : decode cX3_takesSign 8 = .ok (.aload_n 0, 1) := dk_42 (dk_at dksX3_takesSign_0 8 rfl rfl)
theorem dX3_takesSign_9 : decode cX3_takesSign 9 = .ok (.dup, 1) := dk_89 (dk_at dksX3_takesSign_0 9 rfl rfl)
theorem dX3_takesSign_10 : decode cX3_takesSign 10 = .ok (.getfield 75, 3) := dk_180 0 75 (dk_at dksX3_takesSign_0 10 rfl rfl)
theorem dX3_takesSign_13 : decode cX3_takesSign 13 = .ok (.iconst 1, 1) := dk_4 (dk_at dksX3_takesSign_0 13 rfl rfl)
theorem dX3_takesSign_14 : decode cX3_takesSign 14 = .ok (.iadd, 1) := dk_96 (dk_at dksX3_takesSign_0 14 rfl rfl)
theorem dX3_takesSign_15 : decode cX3_takesSign 15 = .ok (.putfield 75, 3) := dk_181 0 75 (dk_at dksX3_takesSign_0 15 rfl rfl)
theorem dX3_takesSign_18 : decode cX3_takesSign 18 = .ok (.goto 8, 3) := dk_167 0 8 (dk_at dksX3_takesSign_0 18 rfl rfl)
theorem dX3_takesSign_21 : decode cX3_takesSign 21 = .ok (.aload_n 0, 1) := dk_42 (dk_at dksX3_takesSign_0 21 rfl rfl)
theorem dX3_takesSign_22 : decode cX3_takesSign 22 = .ok (.iconst 1, 1) := dk_4 (dk_at dksX3_takesSign_0 22 rfl rfl)
theorem dX3_takesSign_23 : decode cX3_takesSign 23 = .ok (.putfield 81, 3) := dk_181 0 81 (dk_at dksX3_takesSign_1 0 rfl rfl)
theorem dX3_takesSign_26 : decode cX3_takesSign 26 = .ok (.return_, 1) := dk_177 (dk_at dksX3_takesSign_1 3 rfl rfl)
abbrev cX3_cannot : ByteArray := prog_20_method_81_code
def yX3_cannot : MethodName := ⟨RX3, "cannot", "(I)Z"⟩
def dkwX3_cannot_9 : List UInt8 := [3, 172, 42, 182, 0, 174, 153, 0, 5, 4, 172, 42, 182, 0, 137, 61, 3, 172]
abbrev dktX3_cannot_9 : List UInt8 := dkwX3_cannot_9 ++ []
def dkwX3_cannot_8 : List UInt8 := [180, 0, 63, 27, 46, 182, 0, 203, 153, 0, 5, 4, 172, 42, 42, 180, 0, 63, 27, 46, 182, 0, 206, 61]
abbrev dktX3_cannot_8 : List UInt8 := dkwX3_cannot_8 ++ dktX3_cannot_9
def dkwX3_cannot_7 : List UInt8 := [46, 182, 0, 161, 153, 0, 5, 4, 172, 42, 42, 180, 0, 63, 27, 46, 182, 0, 164, 61, 3, 172, 42, 42]
abbrev dktX3_cannot_7 : List UInt8 := dkwX3_cannot_7 ++ dktX3_cannot_8
def dkwX3_cannot_6 : List UInt8 := [180, 0, 66, 27, 46, 42, 180, 0, 69, 27, 46, 4, 182, 0, 157, 61, 3, 172, 42, 42, 180, 0, 63, 27]
abbrev dktX3_cannot_6 : List UInt8 := dkwX3_cannot_6 ++ dktX3_cannot_7
def dkwX3_cannot_5 : List UInt8 := [42, 180, 0, 69, 27, 46, 4, 182, 0, 153, 153, 0, 5, 4, 172, 42, 42, 180, 0, 63, 27, 46, 42]
abbrev dktX3_cannot_5 : List UInt8 := dkwX3_cannot_5 ++ dktX3_cannot_6
def dkwX3_cannot_4 : List UInt8 := [180, 0, 63, 27, 46, 182, 0, 146, 61, 3, 172, 42, 42, 180, 0, 63, 27, 46, 42, 180, 0, 66, 27, 46]
abbrev dktX3_cannot_4 : List UInt8 := dkwX3_cannot_4 ++ dktX3_cannot_5
def dkwX3_cannot_3 : List UInt8 := [182, 0, 131, 61, 3, 172, 42, 42, 180, 0, 63, 27, 46, 182, 0, 143, 153, 0, 5, 4, 172, 42, 42]
abbrev dktX3_cannot_3 : List UInt8 := dkwX3_cannot_3 ++ dktX3_cannot_4
def dkwX3_cannot_2 : List UInt8 := [42, 42, 180, 0, 63, 27, 46, 182, 0, 124, 153, 0, 5, 4, 172, 42, 42, 180, 0, 63, 27, 46]
abbrev dktX3_cannot_2 : List UInt8 := dkwX3_cannot_2 ++ dktX3_cannot_3
def dkwX3_cannot_1 : List UInt8 := [171, 0, 0, 0, 0, 0, 0, 218, 0, 0, 0, 5, 0, 0, 0, 43, 0, 0, 0, 52, 0, 0, 0, 45, 0, 0, 0, 80, 0, 0, 0, 109, 0, 0, 0, 162, 0, 0, 0, 113, 0, 0, 0, 108, 0, 0, 0, 116, 0, 0, 0, 190]
abbrev dktX3_cannot_1 : List UInt8 := dkwX3_cannot_1 ++ dktX3_cannot_2
def dkwX3_cannot_0 : List UInt8 := [3, 61, 42, 180, 0, 60, 27, 46]
abbrev dktX3_cannot_0 : List UInt8 := dkwX3_cannot_0 ++ dktX3_cannot_1
theorem dksX3_cannot_0 : cX3_cannot.data.toList.drop 0 = dktX3_cannot_0 := by decide +kernel
theorem dksX3_cannot_1 : cX3_cannot.data.toList.drop 8 = dktX3_cannot_1 := dk_seg dksX3_cannot_0 8 rfl rfl
theorem dksX3_cannot_2 : cX3_cannot.data.toList.drop 60 = dktX3_cannot_2 := dk_seg dksX3_cannot_1 52 rfl rfl
theorem dksX3_cannot_3 : cX3_cannot.data.toList.drop 82 = dktX3_cannot_3 := dk_seg dksX3_cannot_2 22 rfl rfl
theorem dksX3_cannot_4 : cX3_cannot.data.toList.drop 105 = dktX3_cannot_4 := dk_seg dksX3_cannot_3 23 rfl rfl
theorem dksX3_cannot_5 : cX3_cannot.data.toList.drop 129 = dktX3_cannot_5 := dk_seg dksX3_cannot_4 24 rfl rfl
theorem dksX3_cannot_6 : cX3_cannot.data.toList.drop 152 = dktX3_cannot_6 := dk_seg dksX3_cannot_5 23 rfl rfl
theorem dksX3_cannot_7 : cX3_cannot.data.toList.drop 176 = dktX3_cannot_7 := dk_seg dksX3_cannot_6 24 rfl rfl
theorem dksX3_cannot_8 : cX3_cannot.data.toList.drop 200 = dktX3_cannot_8 := dk_seg dksX3_cannot_7 24 rfl rfl
theorem dksX3_cannot_9 : cX3_cannot.data.toList.drop 224 = dktX3_cannot_9 := dk_seg dksX3_cannot_8 24 rfl rfl
theorem dX3_cannot_0 : decode cX3_cannot 0 = .ok (.iconst 0, 1) := dk_3 (dk_at dksX3_cannot_0 0 rfl rfl)
theorem dX3_cannot_1 : decode cX3_cannot 1 = .ok (.istore_n 2, 1) := dk_61 (dk_at dksX3_cannot_0 1 rfl rfl)
theorem dX3_cannot_2 : decode cX3_cannot 2 = .ok (.aload_n 0, 1) := dk_42 (dk_at dksX3_cannot_0 2 rfl rfl)
theorem dX3_cannot_3 : decode cX3_cannot 3 = .ok (.getfield 60, 3) := dk_180 0 60 (dk_at dksX3_cannot_0 3 rfl rfl)
theorem dX3_cannot_6 : decode cX3_cannot 6 = .ok (.iload_n 1, 1) := dk_27 (dk_at dksX3_cannot_0 6 rfl rfl)
theorem dX3_cannot_7 : decode cX3_cannot 7 = .ok (.iaload, 1) := dk_46 (dk_at dksX3_cannot_0 7 rfl rfl)
theorem dX3_cannot_8 : decode cX3_cannot 8 = .ok (.lookupswitch 218 #[(43, 52), (45, 80), (109, 162), (113, 108), (116, 190)], 52) := by decide +kernel
theorem dX3_cannot_60 : decode cX3_cannot 60 = .ok (.aload_n 0, 1) := dk_42 (dk_at dksX3_cannot_2 0 rfl rfl)
theorem dX3_cannot_61 : decode cX3_cannot 61 = .ok (.aload_n 0, 1) := dk_42 (dk_at dksX3_cannot_2 1 rfl rfl)
theorem dX3_cannot_62 : decode cX3_cannot 62 = .ok (.getfield 63, 3) := dk_180 0 63 (dk_at dksX3_cannot_2 2 rfl rfl)
theorem dX3_cannot_65 : decode cX3_cannot 65 = .ok (.iload_n 1, 1) := dk_27 (dk_at dksX3_cannot_2 5 rfl rfl)
theorem dX3_cannot_66 : decode cX3_cannot 66 = .ok (.iaload, 1) := dk_46 (dk_at dksX3_cannot_2 6 rfl rfl)
theorem dX3_cannot_67 : decode cX3_cannot 67 = .ok (.invokevirtual 124, 3) := dk_182 0 124 (dk_at dksX3_cannot_2 7 rfl rfl)
theorem dX3_cannot_70 : decode cX3_cannot 70 = .ok (.ifCond .eq 5, 3) := dk_153 0 5 (dk_at dksX3_cannot_2 10 rfl rfl)
theorem dX3_cannot_73 : decode cX3_cannot 73 = .ok (.iconst 1, 1) := dk_4 (dk_at dksX3_cannot_2 13 rfl rfl)
theorem dX3_cannot_74 : decode cX3_cannot 74 = .ok (.ireturn, 1) := dk_172 (dk_at dksX3_cannot_2 14 rfl rfl)
theorem dX3_cannot_75 : decode cX3_cannot 75 = .ok (.aload_n 0, 1) := dk_42 (dk_at dksX3_cannot_2 15 rfl rfl)
theorem dX3_cannot_76 : decode cX3_cannot 76 = .ok (.aload_n 0, 1) := dk_42 (dk_at dksX3_cannot_2 16 rfl rfl)
theorem dX3_cannot_77 : decode cX3_cannot 77 = .ok (.getfield 63, 3) := dk_180 0 63 (dk_at dksX3_cannot_2 17 rfl rfl)
theorem dX3_cannot_80 : decode cX3_cannot 80 = .ok (.iload_n 1, 1) := dk_27 (dk_at dksX3_cannot_2 20 rfl rfl)
theorem dX3_cannot_81 : decode cX3_cannot 81 = .ok (.iaload, 1) := dk_46 (dk_at dksX3_cannot_2 21 rfl rfl)
theorem dX3_cannot_82 : decode cX3_cannot 82 = .ok (.invokevirtual 131, 3) := dk_182 0 131 (dk_at dksX3_cannot_3 0 rfl rfl)
theorem dX3_cannot_85 : decode cX3_cannot 85 = .ok (.istore_n 2, 1) := dk_61 (dk_at dksX3_cannot_3 3 rfl rfl)
theorem dX3_cannot_86 : decode cX3_cannot 86 = .ok (.iconst 0, 1) := dk_3 (dk_at dksX3_cannot_3 4 rfl rfl)
theorem dX3_cannot_87 : decode cX3_cannot 87 = .ok (.ireturn, 1) := dk_172 (dk_at dksX3_cannot_3 5 rfl rfl)
theorem dX3_cannot_88 : decode cX3_cannot 88 = .ok (.aload_n 0, 1) := dk_42 (dk_at dksX3_cannot_3 6 rfl rfl)
theorem dX3_cannot_89 : decode cX3_cannot 89 = .ok (.aload_n 0, 1) := dk_42 (dk_at dksX3_cannot_3 7 rfl rfl)
theorem dX3_cannot_90 : decode cX3_cannot 90 = .ok (.getfield 63, 3) := dk_180 0 63 (dk_at dksX3_cannot_3 8 rfl rfl)
theorem dX3_cannot_93 : decode cX3_cannot 93 = .ok (.iload_n 1, 1) := dk_27 (dk_at dksX3_cannot_3 11 rfl rfl)
theorem dX3_cannot_94 : decode cX3_cannot 94 = .ok (.iaload, 1) := dk_46 (dk_at dksX3_cannot_3 12 rfl rfl)
theorem dX3_cannot_95 : decode cX3_cannot 95 = .ok (.invokevirtual 143, 3) := dk_182 0 143 (dk_at dksX3_cannot_3 13 rfl rfl)
theorem dX3_cannot_98 : decode cX3_cannot 98 = .ok (.ifCond .eq 5, 3) := dk_153 0 5 (dk_at dksX3_cannot_3 16 rfl rfl)
theorem dX3_cannot_101 : decode cX3_cannot 101 = .ok (.iconst 1, 1) := dk_4 (dk_at dksX3_cannot_3 19 rfl rfl)
theorem dX3_cannot_102 : decode cX3_cannot 102 = .ok (.ireturn, 1) := dk_172 (dk_at dksX3_cannot_3 20 rfl rfl)
theorem dX3_cannot_103 : decode cX3_cannot 103 = .ok (.aload_n 0, 1) := dk_42 (dk_at dksX3_cannot_3 21 rfl rfl)
theorem dX3_cannot_104 : decode cX3_cannot 104 = .ok (.aload_n 0, 1) := dk_42 (dk_at dksX3_cannot_3 22 rfl rfl)
theorem dX3_cannot_105 : decode cX3_cannot 105 = .ok (.getfield 63, 3) := dk_180 0 63 (dk_at dksX3_cannot_4 0 rfl rfl)
theorem dX3_cannot_108 : decode cX3_cannot 108 = .ok (.iload_n 1, 1) := dk_27 (dk_at dksX3_cannot_4 3 rfl rfl)
theorem dX3_cannot_109 : decode cX3_cannot 109 = .ok (.iaload, 1) := dk_46 (dk_at dksX3_cannot_4 4 rfl rfl)
theorem dX3_cannot_110 : decode cX3_cannot 110 = .ok (.invokevirtual 146, 3) := dk_182 0 146 (dk_at dksX3_cannot_4 5 rfl rfl)
theorem dX3_cannot_113 : decode cX3_cannot 113 = .ok (.istore_n 2, 1) := dk_61 (dk_at dksX3_cannot_4 8 rfl rfl)
theorem dX3_cannot_114 : decode cX3_cannot 114 = .ok (.iconst 0, 1) := dk_3 (dk_at dksX3_cannot_4 9 rfl rfl)
theorem dX3_cannot_115 : decode cX3_cannot 115 = .ok (.ireturn, 1) := dk_172 (dk_at dksX3_cannot_4 10 rfl rfl)
theorem dX3_cannot_116 : decode cX3_cannot 116 = .ok (.aload_n 0, 1) := dk_42 (dk_at dksX3_cannot_4 11 rfl rfl)
theorem dX3_cannot_117 : decode cX3_cannot 117 = .ok (.aload_n 0, 1) := dk_42 (dk_at dksX3_cannot_4 12 rfl rfl)
theorem dX3_cannot_118 : decode cX3_cannot 118 = .ok (.getfield 63, 3) := dk_180 0 63 (dk_at dksX3_cannot_4 13 rfl rfl)
theorem dX3_cannot_121 : decode cX3_cannot 121 = .ok (.iload_n 1, 1) := dk_27 (dk_at dksX3_cannot_4 16 rfl rfl)
theorem dX3_cannot_122 : decode cX3_cannot 122 = .ok (.iaload, 1) := dk_46 (dk_at dksX3_cannot_4 17 rfl rfl)
theorem dX3_cannot_123 : decode cX3_cannot 123 = .ok (.aload_n 0, 1) := dk_42 (dk_at dksX3_cannot_4 18 rfl rfl)
theorem dX3_cannot_124 : decode cX3_cannot 124 = .ok (.getfield 66, 3) := dk_180 0 66 (dk_at dksX3_cannot_4 19 rfl rfl)
theorem dX3_cannot_127 : decode cX3_cannot 127 = .ok (.iload_n 1, 1) := dk_27 (dk_at dksX3_cannot_4 22 rfl rfl)
theorem dX3_cannot_128 : decode cX3_cannot 128 = .ok (.iaload, 1) := dk_46 (dk_at dksX3_cannot_4 23 rfl rfl)
theorem dX3_cannot_129 : decode cX3_cannot 129 = .ok (.aload_n 0, 1) := dk_42 (dk_at dksX3_cannot_5 0 rfl rfl)
theorem dX3_cannot_130 : decode cX3_cannot 130 = .ok (.getfield 69, 3) := dk_180 0 69 (dk_at dksX3_cannot_5 1 rfl rfl)
theorem dX3_cannot_133 : decode cX3_cannot 133 = .ok (.iload_n 1, 1) := dk_27 (dk_at dksX3_cannot_5 4 rfl rfl)
theorem dX3_cannot_134 : decode cX3_cannot 134 = .ok (.iaload, 1) := dk_46 (dk_at dksX3_cannot_5 5 rfl rfl)
theorem dX3_cannot_135 : decode cX3_cannot 135 = .ok (.iconst 1, 1) := dk_4 (dk_at dksX3_cannot_5 6 rfl rfl)
theorem dX3_cannot_136 : decode cX3_cannot 136 = .ok (.invokevirtual 153, 3) := dk_182 0 153 (dk_at dksX3_cannot_5 7 rfl rfl)
theorem dX3_cannot_139 : decode cX3_cannot 139 = .ok (.ifCond .eq 5, 3) := dk_153 0 5 (dk_at dksX3_cannot_5 10 rfl rfl)
theorem dX3_cannot_142 : decode cX3_cannot 142 = .ok (.iconst 1, 1) := dk_4 (dk_at dksX3_cannot_5 13 rfl rfl)
theorem dX3_cannot_143 : decode cX3_cannot 143 = .ok (.ireturn, 1) := dk_172 (dk_at dksX3_cannot_5 14 rfl rfl)
theorem dX3_cannot_144 : decode cX3_cannot 144 = .ok (.aload_n 0, 1) := dk_42 (dk_at dksX3_cannot_5 15 rfl rfl)
theorem dX3_cannot_145 : decode cX3_cannot 145 = .ok (.aload_n 0, 1) := dk_42 (dk_at dksX3_cannot_5 16 rfl rfl)
theorem dX3_cannot_146 : decode cX3_cannot 146 = .ok (.getfield 63, 3) := dk_180 0 63 (dk_at dksX3_cannot_5 17 rfl rfl)
theorem dX3_cannot_149 : decode cX3_cannot 149 = .ok (.iload_n 1, 1) := dk_27 (dk_at dksX3_cannot_5 20 rfl rfl)
theorem dX3_cannot_150 : decode cX3_cannot 150 = .ok (.iaload, 1) := dk_46 (dk_at dksX3_cannot_5 21 rfl rfl)
theorem dX3_cannot_151 : decode cX3_cannot 151 = .ok (.aload_n 0, 1) := dk_42 (dk_at dksX3_cannot_5 22 rfl rfl)
theorem dX3_cannot_152 : decode cX3_cannot 152 = .ok (.getfield 66, 3) := dk_180 0 66 (dk_at dksX3_cannot_6 0 rfl rfl)
theorem dX3_cannot_155 : decode cX3_cannot 155 = .ok (.iload_n 1, 1) := dk_27 (dk_at dksX3_cannot_6 3 rfl rfl)
theorem dX3_cannot_156 : decode cX3_cannot 156 = .ok (.iaload, 1) := dk_46 (dk_at dksX3_cannot_6 4 rfl rfl)
theorem dX3_cannot_157 : decode cX3_cannot 157 = .ok (.aload_n 0, 1) := dk_42 (dk_at dksX3_cannot_6 5 rfl rfl)
theorem dX3_cannot_158 : decode cX3_cannot 158 = .ok (.getfield 69, 3) := dk_180 0 69 (dk_at dksX3_cannot_6 6 rfl rfl)
theorem dX3_cannot_161 : decode cX3_cannot 161 = .ok (.iload_n 1, 1) := dk_27 (dk_at dksX3_cannot_6 9 rfl rfl)
theorem dX3_cannot_162 : decode cX3_cannot 162 = .ok (.iaload, 1) := dk_46 (dk_at dksX3_cannot_6 10 rfl rfl)
theorem dX3_cannot_163 : decode cX3_cannot 163 = .ok (.iconst 1, 1) := dk_4 (dk_at dksX3_cannot_6 11 rfl rfl)
theorem dX3_cannot_164 : decode cX3_cannot 164 = .ok (.invokevirtual 157, 3) := dk_182 0 157 (dk_at dksX3_cannot_6 12 rfl rfl)
theorem dX3_cannot_167 : decode cX3_cannot 167 = .ok (.istore_n 2, 1) := dk_61 (dk_at dksX3_cannot_6 15 rfl rfl)
theorem dX3_cannot_168 : decode cX3_cannot 168 = .ok (.iconst 0, 1) := dk_3 (dk_at dksX3_cannot_6 16 rfl rfl)
theorem dX3_cannot_169 : decode cX3_cannot 169 = .ok (.ireturn, 1) := dk_172 (dk_at dksX3_cannot_6 17 rfl rfl)
theorem dX3_cannot_170 : decode cX3_cannot 170 = .ok (.aload_n 0, 1) := dk_42 (dk_at dksX3_cannot_6 18 rfl rfl)
theorem dX3_cannot_171 : decode cX3_cannot 171 = .ok (.aload_n 0, 1) := dk_42 (dk_at dksX3_cannot_6 19 rfl rfl)
theorem dX3_cannot_172 : decode cX3_cannot 172 = .ok (.getfield 63, 3) := dk_180 0 63 (dk_at dksX3_cannot_6 20 rfl rfl)
theorem dX3_cannot_175 : decode cX3_cannot 175 = .ok (.iload_n 1, 1) := dk_27 (dk_at dksX3_cannot_6 23 rfl rfl)
theorem dX3_cannot_176 : decode cX3_cannot 176 = .ok (.iaload, 1) := dk_46 (dk_at dksX3_cannot_7 0 rfl rfl)
theorem dX3_cannot_177 : decode cX3_cannot 177 = .ok (.invokevirtual 161, 3) := dk_182 0 161 (dk_at dksX3_cannot_7 1 rfl rfl)
theorem dX3_cannot_180 : decode cX3_cannot 180 = .ok (.ifCond .eq 5, 3) := dk_153 0 5 (dk_at dksX3_cannot_7 4 rfl rfl)
theorem dX3_cannot_183 : decode cX3_cannot 183 = .ok (.iconst 1, 1) := dk_4 (dk_at dksX3_cannot_7 7 rfl rfl)
theorem dX3_cannot_184 : decode cX3_cannot 184 = .ok (.ireturn, 1) := dk_172 (dk_at dksX3_cannot_7 8 rfl rfl)
theorem dX3_cannot_185 : decode cX3_cannot 185 = .ok (.aload_n 0, 1) := dk_42 (dk_at dksX3_cannot_7 9 rfl rfl)
theorem dX3_cannot_186 : decode cX3_cannot 186 = .ok (.aload_n 0, 1) := dk_42 (dk_at dksX3_cannot_7 10 rfl rfl)
theorem dX3_cannot_187 : decode cX3_cannot 187 = .ok (.getfield 63, 3) := dk_180 0 63 (dk_at dksX3_cannot_7 11 rfl rfl)
theorem dX3_cannot_190 : decode cX3_cannot 190 = .ok (.iload_n 1, 1) := dk_27 (dk_at dksX3_cannot_7 14 rfl rfl)
theorem dX3_cannot_191 : decode cX3_cannot 191 = .ok (.iaload, 1) := dk_46 (dk_at dksX3_cannot_7 15 rfl rfl)
theorem dX3_cannot_192 : decode cX3_cannot 192 = .ok (.invokevirtual 164, 3) := dk_182 0 164 (dk_at dksX3_cannot_7 16 rfl rfl)
theorem dX3_cannot_195 : decode cX3_cannot 195 = .ok (.istore_n 2, 1) := dk_61 (dk_at dksX3_cannot_7 19 rfl rfl)
theorem dX3_cannot_196 : decode cX3_cannot 196 = .ok (.iconst 0, 1) := dk_3 (dk_at dksX3_cannot_7 20 rfl rfl)
theorem dX3_cannot_197 : decode cX3_cannot 197 = .ok (.ireturn, 1) := dk_172 (dk_at dksX3_cannot_7 21 rfl rfl)
theorem dX3_cannot_198 : decode cX3_cannot 198 = .ok (.aload_n 0, 1) := dk_42 (dk_at dksX3_cannot_7 22 rfl rfl)
theorem dX3_cannot_199 : decode cX3_cannot 199 = .ok (.aload_n 0, 1) := dk_42 (dk_at dksX3_cannot_7 23 rfl rfl)
theorem dX3_cannot_200 : decode cX3_cannot 200 = .ok (.getfield 63, 3) := dk_180 0 63 (dk_at dksX3_cannot_8 0 rfl rfl)
theorem dX3_cannot_203 : decode cX3_cannot 203 = .ok (.iload_n 1, 1) := dk_27 (dk_at dksX3_cannot_8 3 rfl rfl)
theorem dX3_cannot_204 : decode cX3_cannot 204 = .ok (.iaload, 1) := dk_46 (dk_at dksX3_cannot_8 4 rfl rfl)
theorem dX3_cannot_205 : decode cX3_cannot 205 = .ok (.invokevirtual 203, 3) := dk_182 0 203 (dk_at dksX3_cannot_8 5 rfl rfl)
theorem dX3_cannot_208 : decode cX3_cannot 208 = .ok (.ifCond .eq 5, 3) := dk_153 0 5 (dk_at dksX3_cannot_8 8 rfl rfl)
theorem dX3_cannot_211 : decode cX3_cannot 211 = .ok (.iconst 1, 1) := dk_4 (dk_at dksX3_cannot_8 11 rfl rfl)
theorem dX3_cannot_212 : decode cX3_cannot 212 = .ok (.ireturn, 1) := dk_172 (dk_at dksX3_cannot_8 12 rfl rfl)
theorem dX3_cannot_213 : decode cX3_cannot 213 = .ok (.aload_n 0, 1) := dk_42 (dk_at dksX3_cannot_8 13 rfl rfl)
theorem dX3_cannot_214 : decode cX3_cannot 214 = .ok (.aload_n 0, 1) := dk_42 (dk_at dksX3_cannot_8 14 rfl rfl)
theorem dX3_cannot_215 : decode cX3_cannot 215 = .ok (.getfield 63, 3) := dk_180 0 63 (dk_at dksX3_cannot_8 15 rfl rfl)
theorem dX3_cannot_218 : decode cX3_cannot 218 = .ok (.iload_n 1, 1) := dk_27 (dk_at dksX3_cannot_8 18 rfl rfl)
theorem dX3_cannot_219 : decode cX3_cannot 219 = .ok (.iaload, 1) := dk_46 (dk_at dksX3_cannot_8 19 rfl rfl)
theorem dX3_cannot_220 : decode cX3_cannot 220 = .ok (.invokevirtual 206, 3) := dk_182 0 206 (dk_at dksX3_cannot_8 20 rfl rfl)
theorem dX3_cannot_223 : decode cX3_cannot 223 = .ok (.istore_n 2, 1) := dk_61 (dk_at dksX3_cannot_8 23 rfl rfl)
theorem dX3_cannot_224 : decode cX3_cannot 224 = .ok (.iconst 0, 1) := dk_3 (dk_at dksX3_cannot_9 0 rfl rfl)
theorem dX3_cannot_225 : decode cX3_cannot 225 = .ok (.ireturn, 1) := dk_172 (dk_at dksX3_cannot_9 1 rfl rfl)
theorem dX3_cannot_226 : decode cX3_cannot 226 = .ok (.aload_n 0, 1) := dk_42 (dk_at dksX3_cannot_9 2 rfl rfl)
theorem dX3_cannot_227 : decode cX3_cannot 227 = .ok (.invokevirtual 174, 3) := dk_182 0 174 (dk_at dksX3_cannot_9 3 rfl rfl)
theorem dX3_cannot_230 : decode cX3_cannot 230 = .ok (.ifCond .eq 5, 3) := dk_153 0 5 (dk_at dksX3_cannot_9 6 rfl rfl)
theorem dX3_cannot_233 : decode cX3_cannot 233 = .ok (.iconst 1, 1) := dk_4 (dk_at dksX3_cannot_9 9 rfl rfl)
theorem dX3_cannot_234 : decode cX3_cannot 234 = .ok (.ireturn, 1) := dk_172 (dk_at dksX3_cannot_9 10 rfl rfl)
theorem dX3_cannot_235 : decode cX3_cannot 235 = .ok (.aload_n 0, 1) := dk_42 (dk_at dksX3_cannot_9 11 rfl rfl)
theorem dX3_cannot_236 : decode cX3_cannot 236 = .ok (.invokevirtual 137, 3) := dk_182 0 137 (dk_at dksX3_cannot_9 12 rfl rfl)
theorem dX3_cannot_239 : decode cX3_cannot 239 = .ok (.istore_n 2, 1) := dk_61 (dk_at dksX3_cannot_9 15 rfl rfl)
theorem dX3_cannot_240 : decode cX3_cannot 240 = .ok (.iconst 0, 1) := dk_3 (dk_at dksX3_cannot_9 16 rfl rfl)
theorem dX3_cannot_241 : decode cX3_cannot 241 = .ok (.ireturn, 1) := dk_172 (dk_at dksX3_cannot_9 17 rfl rfl)
abbrev cX3_faultPosition : ByteArray := prog_20_method_83_code
def yX3_faultPosition : MethodName := ⟨RX3, "faultPosition", "()I"⟩
def dkwX3_faultPosition_0 : List UInt8 := [42, 3, 181, 0, 25, 42, 180, 0, 50, 172]
abbrev dktX3_faultPosition_0 : List UInt8 := dkwX3_faultPosition_0 ++ []
theorem dksX3_faultPosition_0 : cX3_faultPosition.data.toList.drop 0 = dktX3_faultPosition_0 := by decide +kernel
theorem dX3_faultPosition_0 : decode cX3_faultPosition 0 = .ok (.aload_n 0, 1) := dk_42 (dk_at dksX3_faultPosition_0 0 rfl rfl)
theorem dX3_faultPosition_1 : decode cX3_faultPosition 1 = .ok (.iconst 0, 1) := dk_3 (dk_at dksX3_faultPosition_0 1 rfl rfl)
theorem dX3_faultPosition_2 : decode cX3_faultPosition 2 = .ok (.putfield 25, 3) := dk_181 0 25 (dk_at dksX3_faultPosition_0 2 rfl rfl)
theorem dX3_faultPosition_5 : decode cX3_faultPosition 5 = .ok (.aload_n 0, 1) := dk_42 (dk_at dksX3_faultPosition_0 5 rfl rfl)
theorem dX3_faultPosition_6 : decode cX3_faultPosition 6 = .ok (.getfield 50, 3) := dk_180 0 50 (dk_at dksX3_faultPosition_0 6 rfl rfl)
theorem dX3_faultPosition_9 : decode cX3_faultPosition 9 = .ok (.ireturn, 1) := dk_172 (dk_at dksX3_faultPosition_0 9 rfl rfl)
abbrev cX3_reason : ByteArray := prog_20_method_84_code
def yX3_reason : MethodName := ⟨RX3, "reason", "(IZ)I"⟩
def dkwX3_reason_3 : List UInt8 := [180, 0, 41, 167, 0, 7, 42, 180, 0, 38, 172]
abbrev dktX3_reason_3 : List UInt8 := dkwX3_reason_3 ++ []
def dkwX3_reason_2 : List UInt8 := [160, 0, 19, 28, 153, 0, 10, 42, 180, 0, 47, 167, 0, 7, 42, 180, 0, 44, 172, 28, 153, 0, 10, 42]
abbrev dktX3_reason_2 : List UInt8 := dkwX3_reason_2 ++ dktX3_reason_3
def dkwX3_reason_1 : List UInt8 := [153, 0, 15, 27, 4, 160, 0, 16, 42, 180, 0, 44, 154, 0, 9, 42, 5, 182, 0, 90, 172, 27, 4]
abbrev dktX3_reason_1 : List UInt8 := dkwX3_reason_1 ++ dktX3_reason_2
def dkwX3_reason_0 : List UInt8 := [42, 3, 181, 0, 25, 27, 3, 4, 184, 0, 102, 154, 0, 9, 42, 4, 182, 0, 90, 172, 42, 180, 0, 38]
abbrev dktX3_reason_0 : List UInt8 := dkwX3_reason_0 ++ dktX3_reason_1
theorem dksX3_reason_0 : cX3_reason.data.toList.drop 0 = dktX3_reason_0 := by decide +kernel
theorem dksX3_reason_1 : cX3_reason.data.toList.drop 24 = dktX3_reason_1 := dk_seg dksX3_reason_0 24 rfl rfl
theorem dksX3_reason_2 : cX3_reason.data.toList.drop 47 = dktX3_reason_2 := dk_seg dksX3_reason_1 23 rfl rfl
theorem dksX3_reason_3 : cX3_reason.data.toList.drop 71 = dktX3_reason_3 := dk_seg dksX3_reason_2 24 rfl rfl
theorem dX3_reason_0 : decode cX3_reason 0 = .ok (.aload_n 0, 1) := dk_42 (dk_at dksX3_reason_0 0 rfl rfl)
theorem dX3_reason_1 : decode cX3_reason 1 = .ok (.iconst 0, 1) := dk_3 (dk_at dksX3_reason_0 1 rfl rfl)
theorem dX3_reason_2 : decode cX3_reason 2 = .ok (.putfield 25, 3) := dk_181 0 25 (dk_at dksX3_reason_0 2 rfl rfl)
theorem dX3_reason_5 : decode cX3_reason 5 = .ok (.iload_n 1, 1) := dk_27 (dk_at dksX3_reason_0 5 rfl rfl)
theorem dX3_reason_6 : decode cX3_reason 6 = .ok (.iconst 0, 1) := dk_3 (dk_at dksX3_reason_0 6 rfl rfl)
theorem dX3_reason_7 : decode cX3_reason 7 = .ok (.iconst 1, 1) := dk_4 (dk_at dksX3_reason_0 7 rfl rfl)
theorem dX3_reason_8 : decode cX3_reason 8 = .ok (.invokestatic 102, 3) := dk_184 0 102 (dk_at dksX3_reason_0 8 rfl rfl)
theorem dX3_reason_11 : decode cX3_reason 11 = .ok (.ifCond .ne 9, 3) := dk_154 0 9 (dk_at dksX3_reason_0 11 rfl rfl)
theorem dX3_reason_14 : decode cX3_reason 14 = .ok (.aload_n 0, 1) := dk_42 (dk_at dksX3_reason_0 14 rfl rfl)
theorem dX3_reason_15 : decode cX3_reason 15 = .ok (.iconst 1, 1) := dk_4 (dk_at dksX3_reason_0 15 rfl rfl)
theorem dX3_reason_16 : decode cX3_reason 16 = .ok (.invokevirtual 90, 3) := dk_182 0 90 (dk_at dksX3_reason_0 16 rfl rfl)
theorem dX3_reason_19 : decode cX3_reason 19 = .ok (.ireturn, 1) := dk_172 (dk_at dksX3_reason_0 19 rfl rfl)
theorem dX3_reason_20 : decode cX3_reason 20 = .ok (.aload_n 0, 1) := dk_42 (dk_at dksX3_reason_0 20 rfl rfl)
theorem dX3_reason_21 : decode cX3_reason 21 = .ok (.getfield 38, 3) := dk_180 0 38 (dk_at dksX3_reason_0 21 rfl rfl)
theorem dX3_reason_24 : decode cX3_reason 24 = .ok (.ifCond .eq 15, 3) := dk_153 0 15 (dk_at dksX3_reason_1 0 rfl rfl)
theorem dX3_reason_27 : decode cX3_reason 27 = .ok (.iload_n 1, 1) := dk_27 (dk_at dksX3_reason_1 3 rfl rfl)
theorem dX3_reason_28 : decode cX3_reason 28 = .ok (.iconst 1, 1) := dk_4 (dk_at dksX3_reason_1 4 rfl rfl)
theorem dX3_reason_29 : decode cX3_reason 29 = .ok (.if_icmp .ne 16, 3) := dk_160 0 16 (dk_at dksX3_reason_1 5 rfl rfl)
theorem dX3_reason_32 : decode cX3_reason 32 = .ok (.aload_n 0, 1) := dk_42 (dk_at dksX3_reason_1 8 rfl rfl)
theorem dX3_reason_33 : decode cX3_reason 33 = .ok (.getfield 44, 3) := dk_180 0 44 (dk_at dksX3_reason_1 9 rfl rfl)
theorem dX3_reason_36 : decode cX3_reason 36 = .ok (.ifCond .ne 9, 3) := dk_154 0 9 (dk_at dksX3_reason_1 12 rfl rfl)
theorem dX3_reason_39 : decode cX3_reason 39 = .ok (.aload_n 0, 1) := dk_42 (dk_at dksX3_reason_1 15 rfl rfl)
theorem dX3_reason_40 : decode cX3_reason 40 = .ok (.iconst 2, 1) := dk_5 (dk_at dksX3_reason_1 16 rfl rfl)
theorem dX3_reason_41 : decode cX3_reason 41 = .ok (.invokevirtual 90, 3) := dk_182 0 90 (dk_at dksX3_reason_1 17 rfl rfl)
theorem dX3_reason_44 : decode cX3_reason 44 = .ok (.ireturn, 1) := dk_172 (dk_at dksX3_reason_1 20 rfl rfl)
theorem dX3_reason_45 : decode cX3_reason 45 = .ok (.iload_n 1, 1) := dk_27 (dk_at dksX3_reason_1 21 rfl rfl)
theorem dX3_reason_46 : decode cX3_reason 46 = .ok (.iconst 1, 1) := dk_4 (dk_at dksX3_reason_1 22 rfl rfl)
theorem dX3_reason_47 : decode cX3_reason 47 = .ok (.if_icmp .ne 19, 3) := dk_160 0 19 (dk_at dksX3_reason_2 0 rfl rfl)
theorem dX3_reason_50 : decode cX3_reason 50 = .ok (.iload_n 2, 1) := dk_28 (dk_at dksX3_reason_2 3 rfl rfl)
theorem dX3_reason_51 : decode cX3_reason 51 = .ok (.ifCond .eq 10, 3) := dk_153 0 10 (dk_at dksX3_reason_2 4 rfl rfl)
theorem dX3_reason_54 : decode cX3_reason 54 = .ok (.aload_n 0, 1) := dk_42 (dk_at dksX3_reason_2 7 rfl rfl)
theorem dX3_reason_55 : decode cX3_reason 55 = .ok (.getfield 47, 3) := dk_180 0 47 (dk_at dksX3_reason_2 8 rfl rfl)
theorem dX3_reason_58 : decode cX3_reason 58 = .ok (.goto 7, 3) := dk_167 0 7 (dk_at dksX3_reason_2 11 rfl rfl)
theorem dX3_reason_61 : decode cX3_reason 61 = .ok (.aload_n 0, 1) := dk_42 (dk_at dksX3_reason_2 14 rfl rfl)
theorem dX3_reason_62 : decode cX3_reason 62 = .ok (.getfield 44, 3) := dk_180 0 44 (dk_at dksX3_reason_2 15 rfl rfl)
theorem dX3_reason_65 : decode cX3_reason 65 = .ok (.ireturn, 1) := dk_172 (dk_at dksX3_reason_2 18 rfl rfl)
theorem dX3_reason_66 : decode cX3_reason 66 = .ok (.iload_n 2, 1) := dk_28 (dk_at dksX3_reason_2 19 rfl rfl)
theorem dX3_reason_67 : decode cX3_reason 67 = .ok (.ifCond .eq 10, 3) := dk_153 0 10 (dk_at dksX3_reason_2 20 rfl rfl)
theorem dX3_reason_70 : decode cX3_reason 70 = .ok (.aload_n 0, 1) := dk_42 (dk_at dksX3_reason_2 23 rfl rfl)
theorem dX3_reason_71 : decode cX3_reason 71 = .ok (.getfield 41, 3) := dk_180 0 41 (dk_at dksX3_reason_3 0 rfl rfl)
theorem dX3_reason_74 : decode cX3_reason 74 = .ok (.goto 7, 3) := dk_167 0 7 (dk_at dksX3_reason_3 3 rfl rfl)
theorem dX3_reason_77 : decode cX3_reason 77 = .ok (.aload_n 0, 1) := dk_42 (dk_at dksX3_reason_3 6 rfl rfl)
theorem dX3_reason_78 : decode cX3_reason 78 = .ok (.getfield 38, 3) := dk_180 0 38 (dk_at dksX3_reason_3 7 rfl rfl)
theorem dX3_reason_81 : decode cX3_reason 81 = .ok (.ireturn, 1) := dk_172 (dk_at dksX3_reason_3 10 rfl rfl)
abbrev cX3_tellRing : ByteArray := prog_20_method_88_code
def yX3_tellRing : MethodName := ⟨RX3, "tellRing", "()I"⟩
def dkwX3_tellRing_6 : List UInt8 := [167, 0, 5, 16, 25, 46, 96, 182, 0, 254, 132, 1, 1, 167, 255, 129, 42, 180, 0, 87, 172]
abbrev dktX3_tellRing_6 : List UInt8 := dkwX3_tellRing_6 ++ []
def dkwX3_tellRing_5 : List UInt8 := [182, 0, 254, 42, 16, 48, 42, 180, 0, 7, 42, 180, 0, 7, 16, 18, 46, 4, 160, 0, 8, 16, 20]
abbrev dktX3_tellRing_5 : List UInt8 := dkwX3_tellRing_5 ++ dktX3_tellRing_6
def dkwX3_tellRing_4 : List UInt8 := [167, 0, 55, 42, 42, 180, 0, 7, 16, 18, 46, 4, 160, 0, 8, 16, 84, 167, 0, 5, 16, 70]
abbrev dktX3_tellRing_4 : List UInt8 := dkwX3_tellRing_4 ++ dktX3_tellRing_5
def dkwX3_tellRing_3 : List UInt8 := [182, 0, 254, 42, 180, 0, 7, 16, 18, 46, 153, 0, 69, 42, 180, 0, 7, 16, 19, 46, 28, 159, 0, 6]
abbrev dktX3_tellRing_3 : List UInt8 := dkwX3_tellRing_3 ++ dktX3_tellRing_4
def dkwX3_tellRing_2 : List UInt8 := [16, 32, 182, 0, 254, 42, 28, 182, 1, 4, 28, 42, 180, 0, 7, 5, 46, 160, 0, 9, 42, 16, 42]
abbrev dktX3_tellRing_2 : List UInt8 := dkwX3_tellRing_2 ++ dktX3_tellRing_3
def dkwX3_tellRing_1 : List UInt8 := [60, 27, 42, 180, 0, 7, 4, 46, 162, 0, 123, 42, 27, 3, 182, 0, 98, 61, 27, 158, 0, 9, 42]
abbrev dktX3_tellRing_1 : List UInt8 := dkwX3_tellRing_1 ++ dktX3_tellRing_2
def dkwX3_tellRing_0 : List UInt8 := [42, 3, 181, 0, 25, 42, 3, 181, 0, 87, 42, 180, 0, 7, 4, 46, 154, 0, 7, 42, 182, 1, 1, 3]
abbrev dktX3_tellRing_0 : List UInt8 := dkwX3_tellRing_0 ++ dktX3_tellRing_1
theorem dksX3_tellRing_0 : cX3_tellRing.data.toList.drop 0 = dktX3_tellRing_0 := by decide +kernel
theorem dksX3_tellRing_1 : cX3_tellRing.data.toList.drop 24 = dktX3_tellRing_1 := dk_seg dksX3_tellRing_0 24 rfl rfl
theorem dksX3_tellRing_2 : cX3_tellRing.data.toList.drop 47 = dktX3_tellRing_2 := dk_seg dksX3_tellRing_1 23 rfl rfl
theorem dksX3_tellRing_3 : cX3_tellRing.data.toList.drop 70 = dktX3_tellRing_3 := dk_seg dksX3_tellRing_2 23 rfl rfl
theorem dksX3_tellRing_4 : cX3_tellRing.data.toList.drop 94 = dktX3_tellRing_4 := dk_seg dksX3_tellRing_3 24 rfl rfl
theorem dksX3_tellRing_5 : cX3_tellRing.data.toList.drop 116 = dktX3_tellRing_5 := dk_seg dksX3_tellRing_4 22 rfl rfl
theorem dksX3_tellRing_6 : cX3_tellRing.data.toList.drop 139 = dktX3_tellRing_6 := dk_seg dksX3_tellRing_5 23 rfl rfl
theorem dX3_tellRing_0 : decode cX3_tellRing 0 = .ok (.aload_n 0, 1) := dk_42 (dk_at dksX3_tellRing_0 0 rfl rfl)
theorem dX3_tellRing_1 : decode cX3_tellRing 1 = .ok (.iconst 0, 1) := dk_3 (dk_at dksX3_tellRing_0 1 rfl rfl)
theorem dX3_tellRing_2 : decode cX3_tellRing 2 = .ok (.putfield 25, 3) := dk_181 0 25 (dk_at dksX3_tellRing_0 2 rfl rfl)
theorem dX3_tellRing_5 : decode cX3_tellRing 5 = .ok (.aload_n 0, 1) := dk_42 (dk_at dksX3_tellRing_0 5 rfl rfl)
theorem dX3_tellRing_6 : decode cX3_tellRing 6 = .ok (.iconst 0, 1) := dk_3 (dk_at dksX3_tellRing_0 6 rfl rfl)
theorem dX3_tellRing_7 : decode cX3_tellRing 7 = .ok (.putfield 87, 3) := dk_181 0 87 (dk_at dksX3_tellRing_0 7 rfl rfl)
theorem dX3_tellRing_10 : decode cX3_tellRing 10 = .ok (.aload_n 0, 1) := dk_42 (dk_at dksX3_tellRing_0 10 rfl rfl)
theorem dX3_tellRing_11 : decode cX3_tellRing 11 = .ok (.getfield 7, 3) := dk_180 0 7 (dk_at dksX3_tellRing_0 11 rfl rfl)
theorem dX3_tellRing_14 : decode cX3_tellRing 14 = .ok (.iconst 1, 1) := dk_4 (dk_at dksX3_tellRing_0 14 rfl rfl)
theorem dX3_tellRing_15 : decode cX3_tellRing 15 = .ok (.iaload, 1) := dk_46 (dk_at dksX3_tellRing_0 15 rfl rfl)
theorem dX3_tellRing_16 : decode cX3_tellRing 16 = .ok (.ifCond .ne 7, 3) := dk_154 0 7 (dk_at dksX3_tellRing_0 16 rfl rfl)
theorem dX3_tellRing_19 : decode cX3_tellRing 19 = .ok (.aload_n 0, 1) := dk_42 (dk_at dksX3_tellRing_0 19 rfl rfl)
theorem dX3_tellRing_20 : decode cX3_tellRing 20 = .ok (.invokevirtual 257, 3) := dk_182 1 1 (dk_at dksX3_tellRing_0 20 rfl rfl)
theorem dX3_tellRing_23 : decode cX3_tellRing 23 = .ok (.iconst 0, 1) := dk_3 (dk_at dksX3_tellRing_0 23 rfl rfl)
theorem dX3_tellRing_24 : decode cX3_tellRing 24 = .ok (.istore_n 1, 1) := dk_60 (dk_at dksX3_tellRing_1 0 rfl rfl)
theorem dX3_tellRing_25 : decode cX3_tellRing 25 = .ok (.iload_n 1, 1) := dk_27 (dk_at dksX3_tellRing_1 1 rfl rfl)
theorem dX3_tellRing_26 : decode cX3_tellRing 26 = .ok (.aload_n 0, 1) := dk_42 (dk_at dksX3_tellRing_1 2 rfl rfl)
theorem dX3_tellRing_27 : decode cX3_tellRing 27 = .ok (.getfield 7, 3) := dk_180 0 7 (dk_at dksX3_tellRing_1 3 rfl rfl)
theorem dX3_tellRing_30 : decode cX3_tellRing 30 = .ok (.iconst 1, 1) := dk_4 (dk_at dksX3_tellRing_1 6 rfl rfl)
theorem dX3_tellRing_31 : decode cX3_tellRing 31 = .ok (.iaload, 1) := dk_46 (dk_at dksX3_tellRing_1 7 rfl rfl)
theorem dX3_tellRing_32 : decode cX3_tellRing 32 = .ok (.if_icmp .ge 123, 3) := dk_162 0 123 (dk_at dksX3_tellRing_1 8 rfl rfl)
theorem dX3_tellRing_35 : decode cX3_tellRing 35 = .ok (.aload_n 0, 1) := dk_42 (dk_at dksX3_tellRing_1 11 rfl rfl)
theorem dX3_tellRing_36 : decode cX3_tellRing 36 = .ok (.iload_n 1, 1) := dk_27 (dk_at dksX3_tellRing_1 12 rfl rfl)
theorem dX3_tellRing_37 : decode cX3_tellRing 37 = .ok (.iconst 0, 1) := dk_3 (dk_at dksX3_tellRing_1 13 rfl rfl)
theorem dX3_tellRing_38 : decode cX3_tellRing 38 = .ok (.invokevirtual 98, 3) := dk_182 0 98 (dk_at dksX3_tellRing_1 14 rfl rfl)
theorem dX3_tellRing_41 : decode cX3_tellRing 41 = .ok (.istore_n 2, 1) := dk_61 (dk_at dksX3_tellRing_1 17 rfl rfl)
theorem dX3_tellRing_42 : decode cX3_tellRing 42 = .ok (.iload_n 1, 1) := dk_27 (dk_at dksX3_tellRing_1 18 rfl rfl)
theorem dX3_tellRing_43 : decode cX3_tellRing 43 = .ok (.ifCond .le 9, 3) := dk_158 0 9 (dk_at dksX3_tellRing_1 19 rfl rfl)
theorem dX3_tellRing_46 : decode cX3_tellRing 46 = .ok (.aload_n 0, 1) := dk_42 (dk_at dksX3_tellRing_1 22 rfl rfl)
theorem dX3_tellRing_47 : decode cX3_tellRing 47 = .ok (.bipush 32, 2) := dk_16 32 (dk_at dksX3_tellRing_2 0 rfl rfl)
theorem dX3_tellRing_49 : decode cX3_tellRing 49 = .ok (.invokevirtual 254, 3) := dk_182 0 254 (dk_at dksX3_tellRing_2 2 rfl rfl)
theorem dX3_tellRing_52 : decode cX3_tellRing 52 = .ok (.aload_n 0, 1) := dk_42 (dk_at dksX3_tellRing_2 5 rfl rfl)
theorem dX3_tellRing_53 : decode cX3_tellRing 53 = .ok (.iload_n 2, 1) := dk_28 (dk_at dksX3_tellRing_2 6 rfl rfl)
theorem dX3_tellRing_54 : decode cX3_tellRing 54 = .ok (.invokevirtual 260, 3) := dk_182 1 4 (dk_at dksX3_tellRing_2 7 rfl rfl)
theorem dX3_tellRing_57 : decode cX3_tellRing 57 = .ok (.iload_n 2, 1) := dk_28 (dk_at dksX3_tellRing_2 10 rfl rfl)
theorem dX3_tellRing_58 : decode cX3_tellRing 58 = .ok (.aload_n 0, 1) := dk_42 (dk_at dksX3_tellRing_2 11 rfl rfl)
theorem dX3_tellRing_59 : decode cX3_tellRing 59 = .ok (.getfield 7, 3) := dk_180 0 7 (dk_at dksX3_tellRing_2 12 rfl rfl)
theorem dX3_tellRing_62 : decode cX3_tellRing 62 = .ok (.iconst 2, 1) := dk_5 (dk_at dksX3_tellRing_2 15 rfl rfl)
theorem dX3_tellRing_63 : decode cX3_tellRing 63 = .ok (.iaload, 1) := dk_46 (dk_at dksX3_tellRing_2 16 rfl rfl)
theorem dX3_tellRing_64 : decode cX3_tellRing 64 = .ok (.if_icmp .ne 9, 3) := dk_160 0 9 (dk_at dksX3_tellRing_2 17 rfl rfl)
theorem dX3_tellRing_67 : decode cX3_tellRing 67 = .ok (.aload_n 0, 1) := dk_42 (dk_at dksX3_tellRing_2 20 rfl rfl)
theorem dX3_tellRing_68 : decode cX3_tellRing 68 = .ok (.bipush 42, 2) := dk_16 42 (dk_at dksX3_tellRing_2 21 rfl rfl)
theorem dX3_tellRing_70 : decode cX3_tellRing 70 = .ok (.invokevirtual 254, 3) := dk_182 0 254 (dk_at dksX3_tellRing_3 0 rfl rfl)
theorem dX3_tellRing_73 : decode cX3_tellRing 73 = .ok (.aload_n 0, 1) := dk_42 (dk_at dksX3_tellRing_3 3 rfl rfl)
theorem dX3_tellRing_74 : decode cX3_tellRing 74 = .ok (.getfield 7, 3) := dk_180 0 7 (dk_at dksX3_tellRing_3 4 rfl rfl)
theorem dX3_tellRing_77 : decode cX3_tellRing 77 = .ok (.bipush 18, 2) := dk_16 18 (dk_at dksX3_tellRing_3 7 rfl rfl)
theorem dX3_tellRing_79 : decode cX3_tellRing 79 = .ok (.iaload, 1) := dk_46 (dk_at dksX3_tellRing_3 9 rfl rfl)
theorem dX3_tellRing_80 : decode cX3_tellRing 80 = .ok (.ifCond .eq 69, 3) := dk_153 0 69 (dk_at dksX3_tellRing_3 10 rfl rfl)
theorem dX3_tellRing_83 : decode cX3_tellRing 83 = .ok (.aload_n 0, 1) := dk_42 (dk_at dksX3_tellRing_3 13 rfl rfl)
theorem dX3_tellRing_84 : decode cX3_tellRing 84 = .ok (.getfield 7, 3) := dk_180 0 7 (dk_at dksX3_tellRing_3 14 rfl rfl)
theorem dX3_tellRing_87 : decode cX3_tellRing 87 = .ok (.bipush 19, 2) := dk_16 19 (dk_at dksX3_tellRing_3 17 rfl rfl)
theorem dX3_tellRing_89 : decode cX3_tellRing 89 = .ok (.iaload, 1) := dk_46 (dk_at dksX3_tellRing_3 19 rfl rfl)
theorem dX3_tellRing_90 : decode cX3_tellRing 90 = .ok (.iload_n 2, 1) := dk_28 (dk_at dksX3_tellRing_3 20 rfl rfl)
theorem dX3_tellRing_91 : decode cX3_tellRing 91 = .ok (.if_icmp .eq 6, 3) := dk_159 0 6 (dk_at dksX3_tellRing_3 21 rfl rfl)
theorem dX3_tellRing_94 : decode cX3_tellRing 94 = .ok (.goto 55, 3) := dk_167 0 55 (dk_at dksX3_tellRing_4 0 rfl rfl)
theorem dX3_tellRing_97 : decode cX3_tellRing 97 = .ok (.aload_n 0, 1) := dk_42 (dk_at dksX3_tellRing_4 3 rfl rfl)
theorem dX3_tellRing_98 : decode cX3_tellRing 98 = .ok (.aload_n 0, 1) := dk_42 (dk_at dksX3_tellRing_4 4 rfl rfl)
theorem dX3_tellRing_99 : decode cX3_tellRing 99 = .ok (.getfield 7, 3) := dk_180 0 7 (dk_at dksX3_tellRing_4 5 rfl rfl)
theorem dX3_tellRing_102 : decode cX3_tellRing 102 = .ok (.bipush 18, 2) := dk_16 18 (dk_at dksX3_tellRing_4 8 rfl rfl)
theorem dX3_tellRing_104 : decode cX3_tellRing 104 = .ok (.iaload, 1) := dk_46 (dk_at dksX3_tellRing_4 10 rfl rfl)
theorem dX3_tellRing_105 : decode cX3_tellRing 105 = .ok (.iconst 1, 1) := dk_4 (dk_at dksX3_tellRing_4 11 rfl rfl)
theorem dX3_tellRing_106 : decode cX3_tellRing 106 = .ok (.if_icmp .ne 8, 3) := dk_160 0 8 (dk_at dksX3_tellRing_4 12 rfl rfl)
theorem dX3_tellRing_109 : decode cX3_tellRing 109 = .ok (.bipush 84, 2) := dk_16 84 (dk_at dksX3_tellRing_4 15 rfl rfl)
theorem dX3_tellRing_111 : decode cX3_tellRing 111 = .ok (.goto 5, 3) := dk_167 0 5 (dk_at dksX3_tellRing_4 17 rfl rfl)
theorem dX3_tellRing_114 : decode cX3_tellRing 114 = .ok (.bipush 70, 2) := dk_16 70 (dk_at dksX3_tellRing_4 20 rfl rfl)
theorem dX3_tellRing_116 : decode cX3_tellRing 116 = .ok (.invokevirtual 254, 3) := dk_182 0 254 (dk_at dksX3_tellRing_5 0 rfl rfl)
theorem dX3_tellRing_119 : decode cX3_tellRing 119 = .ok (.aload_n 0, 1) := dk_42 (dk_at dksX3_tellRing_5 3 rfl rfl)
theorem dX3_tellRing_120 : decode cX3_tellRing 120 = .ok (.bipush 48, 2) := dk_16 48 (dk_at dksX3_tellRing_5 4 rfl rfl)
theorem dX3_tellRing_122 : decode cX3_tellRing 122 = .ok (.aload_n 0, 1) := dk_42 (dk_at dksX3_tellRing_5 6 rfl rfl)
theorem dX3_tellRing_123 : decode cX3_tellRing 123 = .ok (.getfield 7, 3) := dk_180 0 7 (dk_at dksX3_tellRing_5 7 rfl rfl)
theorem dX3_tellRing_126 : decode cX3_tellRing 126 = .ok (.aload_n 0, 1) := dk_42 (dk_at dksX3_tellRing_5 10 rfl rfl)
theorem dX3_tellRing_127 : decode cX3_tellRing 127 = .ok (.getfield 7, 3) := dk_180 0 7 (dk_at dksX3_tellRing_5 11 rfl rfl)
theorem dX3_tellRing_130 : decode cX3_tellRing 130 = .ok (.bipush 18, 2) := dk_16 18 (dk_at dksX3_tellRing_5 14 rfl rfl)
theorem dX3_tellRing_132 : decode cX3_tellRing 132 = .ok (.iaload, 1) := dk_46 (dk_at dksX3_tellRing_5 16 rfl rfl)
theorem dX3_tellRing_133 : decode cX3_tellRing 133 = .ok (.iconst 1, 1) := dk_4 (dk_at dksX3_tellRing_5 17 rfl rfl)
theorem dX3_tellRing_134 : decode cX3_tellRing 134 = .ok (.if_icmp .ne 8, 3) := dk_160 0 8 (dk_at dksX3_tellRing_5 18 rfl rfl)
theorem dX3_tellRing_137 : decode cX3_tellRing 137 = .ok (.bipush 20, 2) := dk_16 20 (dk_at dksX3_tellRing_5 21 rfl rfl)
theorem dX3_tellRing_139 : decode cX3_tellRing 139 = .ok (.goto 5, 3) := dk_167 0 5 (dk_at dksX3_tellRing_6 0 rfl rfl)
theorem dX3_tellRing_142 : decode cX3_tellRing 142 = .ok (.bipush 25, 2) := dk_16 25 (dk_at dksX3_tellRing_6 3 rfl rfl)
theorem dX3_tellRing_144 : decode cX3_tellRing 144 = .ok (.iaload, 1) := dk_46 (dk_at dksX3_tellRing_6 5 rfl rfl)
theorem dX3_tellRing_145 : decode cX3_tellRing 145 = .ok (.iadd, 1) := dk_96 (dk_at dksX3_tellRing_6 6 rfl rfl)
theorem dX3_tellRing_146 : decode cX3_tellRing 146 = .ok (.invokevirtual 254, 3) := dk_182 0 254 (dk_at dksX3_tellRing_6 7 rfl rfl)
theorem dX3_tellRing_149 : decode cX3_tellRing 149 = .ok (.iinc 1 1, 3) := dk_132 1 1 (dk_at dksX3_tellRing_6 10 rfl rfl)
theorem dX3_tellRing_152 : decode cX3_tellRing 152 = .ok (.goto (-127), 3) := dk_167 255 129 (dk_at dksX3_tellRing_6 13 rfl rfl)
theorem dX3_tellRing_155 : decode cX3_tellRing 155 = .ok (.aload_n 0, 1) := dk_42 (dk_at dksX3_tellRing_6 16 rfl rfl)
theorem dX3_tellRing_156 : decode cX3_tellRing 156 = .ok (.getfield 87, 3) := dk_180 0 87 (dk_at dksX3_tellRing_6 17 rfl rfl)
theorem dX3_tellRing_159 : decode cX3_tellRing 159 = .ok (.ireturn, 1) := dk_172 (dk_at dksX3_tellRing_6 20 rfl rfl)
abbrev cX3_writesNobody : ByteArray := prog_20_method_87_code
def yX3_writesNobody : MethodName := ⟨RX3, "writesNobody", "()V"⟩
def dkwX3_writesNobody_1 : List UInt8 := [42, 16, 100, 182, 0, 254, 42, 16, 121, 182, 0, 254, 177]
abbrev dktX3_writesNobody_1 : List UInt8 := dkwX3_writesNobody_1 ++ []
def dkwX3_writesNobody_0 : List UInt8 := [42, 16, 110, 182, 0, 254, 42, 16, 111, 182, 0, 254, 42, 16, 98, 182, 0, 254, 42, 16, 111, 182, 0, 254]
abbrev dktX3_writesNobody_0 : List UInt8 := dkwX3_writesNobody_0 ++ dktX3_writesNobody_1
theorem dksX3_writesNobody_0 : cX3_writesNobody.data.toList.drop 0 = dktX3_writesNobody_0 := by decide +kernel
theorem dksX3_writesNobody_1 : cX3_writesNobody.data.toList.drop 24 = dktX3_writesNobody_1 := dk_seg dksX3_writesNobody_0 24 rfl rfl
theorem dX3_writesNobody_0 : decode cX3_writesNobody 0 = .ok (.aload_n 0, 1) := dk_42 (dk_at dksX3_writesNobody_0 0 rfl rfl)
theorem dX3_writesNobody_1 : decode cX3_writesNobody 1 = .ok (.bipush 110, 2) := dk_16 110 (dk_at dksX3_writesNobody_0 1 rfl rfl)
theorem dX3_writesNobody_3 : decode cX3_writesNobody 3 = .ok (.invokevirtual 254, 3) := dk_182 0 254 (dk_at dksX3_writesNobody_0 3 rfl rfl)
theorem dX3_writesNobody_6 : decode cX3_writesNobody 6 = .ok (.aload_n 0, 1) := dk_42 (dk_at dksX3_writesNobody_0 6 rfl rfl)
theorem dX3_writesNobody_7 : decode cX3_writesNobody 7 = .ok (.bipush 111, 2) := dk_16 111 (dk_at dksX3_writesNobody_0 7 rfl rfl)
theorem dX3_writesNobody_9 : decode cX3_writesNobody 9 = .ok (.invokevirtual 254, 3) := dk_182 0 254 (dk_at dksX3_writesNobody_0 9 rfl rfl)
theorem dX3_writesNobody_12 : decode cX3_writesNobody 12 = .ok (.aload_n 0, 1) := dk_42 (dk_at dksX3_writesNobody_0 12 rfl rfl)
theorem dX3_writesNobody_13 : decode cX3_writesNobody 13 = .ok (.bipush 98, 2) := dk_16 98 (dk_at dksX3_writesNobody_0 13 rfl rfl)
theorem dX3_writesNobody_15 : decode cX3_writesNobody 15 = .ok (.invokevirtual 254, 3) := dk_182 0 254 (dk_at dksX3_writesNobody_0 15 rfl rfl)
theorem dX3_writesNobody_18 : decode cX3_writesNobody 18 = .ok (.aload_n 0, 1) := dk_42 (dk_at dksX3_writesNobody_0 18 rfl rfl)
theorem dX3_writesNobody_19 : decode cX3_writesNobody 19 = .ok (.bipush 111, 2) := dk_16 111 (dk_at dksX3_writesNobody_0 19 rfl rfl)
theorem dX3_writesNobody_21 : decode cX3_writesNobody 21 = .ok (.invokevirtual 254, 3) := dk_182 0 254 (dk_at dksX3_writesNobody_0 21 rfl rfl)
theorem dX3_writesNobody_24 : decode cX3_writesNobody 24 = .ok (.aload_n 0, 1) := dk_42 (dk_at dksX3_writesNobody_1 0 rfl rfl)
theorem dX3_writesNobody_25 : decode cX3_writesNobody 25 = .ok (.bipush 100, 2) := dk_16 100 (dk_at dksX3_writesNobody_1 1 rfl rfl)
theorem dX3_writesNobody_27 : decode cX3_writesNobody 27 = .ok (.invokevirtual 254, 3) := dk_182 0 254 (dk_at dksX3_writesNobody_1 3 rfl rfl)
theorem dX3_writesNobody_30 : decode cX3_writesNobody 30 = .ok (.aload_n 0, 1) := dk_42 (dk_at dksX3_writesNobody_1 6 rfl rfl)
theorem dX3_writesNobody_31 : decode cX3_writesNobody 31 = .ok (.bipush 121, 2) := dk_16 121 (dk_at dksX3_writesNobody_1 7 rfl rfl)
theorem dX3_writesNobody_33 : decode cX3_writesNobody 33 = .ok (.invokevirtual 254, 3) := dk_182 0 254 (dk_at dksX3_writesNobody_1 9 rfl rfl)
theorem dX3_writesNobody_36 : decode cX3_writesNobody 36 = .ok (.return_, 1) := dk_177 (dk_at dksX3_writesNobody_1 12 rfl rfl)
abbrev cX3_writes : ByteArray := prog_20_method_85_code
def yX3_writes : MethodName := ⟨RX3, "writes", "(I)V"⟩
def dkwX3_writes_0 : List UInt8 := [42, 180, 0, 84, 42, 180, 0, 87, 27, 79, 42, 89, 180, 0, 87, 4, 96, 181, 0, 87, 177]
abbrev dktX3_writes_0 : List UInt8 := dkwX3_writes_0 ++ []
theorem dksX3_writes_0 : cX3_writes.data.toList.drop 0 = dktX3_writes_0 := by decide +kernel
theorem dX3_writes_0 : decode cX3_writes 0 = .ok (.aload_n 0, 1) := dk_42 (dk_at dksX3_writes_0 0 rfl rfl)
theorem dX3_writes_1 : decode cX3_writes 1 = .ok (.getfield 84, 3) := dk_180 0 84 (dk_at dksX3_writes_0 1 rfl rfl)
theorem dX3_writes_4 : decode cX3_writes 4 = .ok (.aload_n 0, 1) := dk_42 (dk_at dksX3_writes_0 4 rfl rfl)
theorem dX3_writes_5 : decode cX3_writes 5 = .ok (.getfield 87, 3) := dk_180 0 87 (dk_at dksX3_writes_0 5 rfl rfl)
theorem dX3_writes_8 : decode cX3_writes 8 = .ok (.iload_n 1, 1) := dk_27 (dk_at dksX3_writes_0 8 rfl rfl)
theorem dX3_writes_9 : decode cX3_writes 9 = .ok (.iastore, 1) := dk_79 (dk_at dksX3_writes_0 9 rfl rfl)
theorem dX3_writes_10 : decode cX3_writes 10 = .ok (.aload_n 0, 1) := dk_42 (dk_at dksX3_writes_0 10 rfl rfl)
theorem dX3_writes_11 : decode cX3_writes 11 = .ok (.dup, 1) := dk_89 (dk_at dksX3_writes_0 11 rfl rfl)
theorem dX3_writes_12 : decode cX3_writes 12 = .ok (.getfield 87, 3) := dk_180 0 87 (dk_at dksX3_writes_0 12 rfl rfl)
theorem dX3_writes_15 : decode cX3_writes 15 = .ok (.iconst 1, 1) := dk_4 (dk_at dksX3_writes_0 15 rfl rfl)
theorem dX3_writes_16 : decode cX3_writes 16 = .ok (.iadd, 1) := dk_96 (dk_at dksX3_writes_0 16 rfl rfl)
theorem dX3_writes_17 : decode cX3_writes 17 = .ok (.putfield 87, 3) := dk_181 0 87 (dk_at dksX3_writes_0 17 rfl rfl)
theorem dX3_writes_20 : decode cX3_writes 20 = .ok (.return_, 1) := dk_177 (dk_at dksX3_writes_0 20 rfl rfl)
abbrev cX3_writesNumber : ByteArray := prog_20_method_86_code
def yX3_writesNumber : MethodName := ⟨RX3, "writesNumber", "(I)V"⟩
def dkwX3_writesNumber_1 : List UInt8 := [42, 16, 48, 27, 29, 108, 16, 10, 112, 96, 182, 0, 254, 29, 16, 10, 108, 62, 167, 255, 234, 177]
abbrev dktX3_writesNumber_1 : List UInt8 := dkwX3_writesNumber_1 ++ []
def dkwX3_writesNumber_0 : List UInt8 := [4, 61, 27, 28, 108, 16, 10, 161, 0, 11, 28, 16, 10, 104, 61, 167, 255, 243, 28, 62, 29, 158, 0, 24]
abbrev dktX3_writesNumber_0 : List UInt8 := dkwX3_writesNumber_0 ++ dktX3_writesNumber_1
theorem dksX3_writesNumber_0 : cX3_writesNumber.data.toList.drop 0 = dktX3_writesNumber_0 := by decide +kernel
theorem dksX3_writesNumber_1 : cX3_writesNumber.data.toList.drop 24 = dktX3_writesNumber_1 := dk_seg dksX3_writesNumber_0 24 rfl rfl
theorem dX3_writesNumber_0 : decode cX3_writesNumber 0 = .ok (.iconst 1, 1) := dk_4 (dk_at dksX3_writesNumber_0 0 rfl rfl)
theorem dX3_writesNumber_1 : decode cX3_writesNumber 1 = .ok (.istore_n 2, 1) := dk_61 (dk_at dksX3_writesNumber_0 1 rfl rfl)
theorem dX3_writesNumber_2 : decode cX3_writesNumber 2 = .ok (.iload_n 1, 1) := dk_27 (dk_at dksX3_writesNumber_0 2 rfl rfl)
theorem dX3_writesNumber_3 : decode cX3_writesNumber 3 = .ok (.iload_n 2, 1) := dk_28 (dk_at dksX3_writesNumber_0 3 rfl rfl)
theorem dX3_writesNumber_4 : decode cX3_writesNumber 4 = .ok (.idiv, 1) := dk_108 (dk_at dksX3_writesNumber_0 4 rfl rfl)
theorem dX3_writesNumber_5 : decode cX3_writesNumber 5 = .ok (.bipush 10, 2) := dk_16 10 (dk_at dksX3_writesNumber_0 5 rfl rfl)
theorem dX3_writesNumber_7 : decode cX3_writesNumber 7 = .ok (.if_icmp .lt 11, 3) := dk_161 0 11 (dk_at dksX3_writesNumber_0 7 rfl rfl)
theorem dX3_writesNumber_10 : decode cX3_writesNumber 10 = .ok (.iload_n 2, 1) := dk_28 (dk_at dksX3_writesNumber_0 10 rfl rfl)
theorem dX3_writesNumber_11 : decode cX3_writesNumber 11 = .ok (.bipush 10, 2) := dk_16 10 (dk_at dksX3_writesNumber_0 11 rfl rfl)
theorem dX3_writesNumber_13 : decode cX3_writesNumber 13 = .ok (.imul, 1) := dk_104 (dk_at dksX3_writesNumber_0 13 rfl rfl)
theorem dX3_writesNumber_14 : decode cX3_writesNumber 14 = .ok (.istore_n 2, 1) := dk_61 (dk_at dksX3_writesNumber_0 14 rfl rfl)
theorem dX3_writesNumber_15 : decode cX3_writesNumber 15 = .ok (.goto (-13), 3) := dk_167 255 243 (dk_at dksX3_writesNumber_0 15 rfl rfl)
theorem dX3_writesNumber_18 : decode cX3_writesNumber 18 = .ok (.iload_n 2, 1) := dk_28 (dk_at dksX3_writesNumber_0 18 rfl rfl)
theorem dX3_writesNumber_19 : decode cX3_writesNumber 19 = .ok (.istore_n 3, 1) := dk_62 (dk_at dksX3_writesNumber_0 19 rfl rfl)
theorem dX3_writesNumber_20 : decode cX3_writesNumber 20 = .ok (.iload_n 3, 1) := dk_29 (dk_at dksX3_writesNumber_0 20 rfl rfl)
theorem dX3_writesNumber_21 : decode cX3_writesNumber 21 = .ok (.ifCond .le 24, 3) := dk_158 0 24 (dk_at dksX3_writesNumber_0 21 rfl rfl)
theorem dX3_writesNumber_24 : decode cX3_writesNumber 24 = .ok (.aload_n 0, 1) := dk_42 (dk_at dksX3_writesNumber_1 0 rfl rfl)
theorem dX3_writesNumber_25 : decode cX3_writesNumber 25 = .ok (.bipush 48, 2) := dk_16 48 (dk_at dksX3_writesNumber_1 1 rfl rfl)
theorem dX3_writesNumber_27 : decode cX3_writesNumber 27 = .ok (.iload_n 1, 1) := dk_27 (dk_at dksX3_writesNumber_1 3 rfl rfl)
theorem dX3_writesNumber_28 : decode cX3_writesNumber 28 = .ok (.iload_n 3, 1) := dk_29 (dk_at dksX3_writesNumber_1 4 rfl rfl)
theorem dX3_writesNumber_29 : decode cX3_writesNumber 29 = .ok (.idiv, 1) := dk_108 (dk_at dksX3_writesNumber_1 5 rfl rfl)
theorem dX3_writesNumber_30 : decode cX3_writesNumber 30 = .ok (.bipush 10, 2) := dk_16 10 (dk_at dksX3_writesNumber_1 6 rfl rfl)
theorem dX3_writesNumber_32 : decode cX3_writesNumber 32 = .ok (.irem, 1) := dk_112 (dk_at dksX3_writesNumber_1 8 rfl rfl)
theorem dX3_writesNumber_33 : decode cX3_writesNumber 33 = .ok (.iadd, 1) := dk_96 (dk_at dksX3_writesNumber_1 9 rfl rfl)
theorem dX3_writesNumber_34 : decode cX3_writesNumber 34 = .ok (.invokevirtual 254, 3) := dk_182 0 254 (dk_at dksX3_writesNumber_1 10 rfl rfl)
theorem dX3_writesNumber_37 : decode cX3_writesNumber 37 = .ok (.iload_n 3, 1) := dk_29 (dk_at dksX3_writesNumber_1 13 rfl rfl)
theorem dX3_writesNumber_38 : decode cX3_writesNumber 38 = .ok (.bipush 10, 2) := dk_16 10 (dk_at dksX3_writesNumber_1 14 rfl rfl)
theorem dX3_writesNumber_40 : decode cX3_writesNumber 40 = .ok (.idiv, 1) := dk_108 (dk_at dksX3_writesNumber_1 16 rfl rfl)
theorem dX3_writesNumber_41 : decode cX3_writesNumber 41 = .ok (.istore_n 3, 1) := dk_62 (dk_at dksX3_writesNumber_1 17 rfl rfl)
theorem dX3_writesNumber_42 : decode cX3_writesNumber 42 = .ok (.goto (-22), 3) := dk_167 255 234 (dk_at dksX3_writesNumber_1 18 rfl rfl)
theorem dX3_writesNumber_45 : decode cX3_writesNumber 45 = .ok (.return_, 1) := dk_177 (dk_at dksX3_writesNumber_1 21 rfl rfl)
abbrev cX3_tellQueue : ByteArray := prog_20_method_89_code
def yX3_tellQueue : MethodName := ⟨RX3, "tellQueue", "(I)I"⟩
def dkwX3_tellQueue_4 : List UInt8 := [182, 0, 149, 96, 182, 0, 254, 132, 3, 1, 167, 255, 196, 42, 180, 0, 87, 172]
abbrev dktX3_tellQueue_4 : List UInt8 := dkwX3_tellQueue_4 ++ []
def dkwX3_tellQueue_3 : List UInt8 := [28, 29, 3, 182, 0, 149, 182, 1, 4, 42, 16, 47, 182, 0, 254, 42, 16, 48, 42, 28, 29, 5]
abbrev dktX3_tellQueue_3 : List UInt8 := dkwX3_tellQueue_3 ++ dktX3_tellQueue_4
def dkwX3_tellQueue_2 : List UInt8 := [182, 0, 98, 162, 0, 56, 29, 158, 0, 9, 42, 16, 32, 182, 0, 254, 42, 16, 35, 182, 0, 254, 42, 42]
abbrev dktX3_tellQueue_2 : List UInt8 := dkwX3_tellQueue_2 ++ dktX3_tellQueue_3
def dkwX3_tellQueue_1 : List UInt8 := [181, 0, 87, 42, 28, 4, 182, 0, 98, 154, 0, 9, 42, 16, 45, 182, 0, 254, 3, 62, 29, 42, 28, 4]
abbrev dktX3_tellQueue_1 : List UInt8 := dkwX3_tellQueue_1 ++ dktX3_tellQueue_2
def dkwX3_tellQueue_0 : List UInt8 := [42, 3, 181, 0, 25, 42, 27, 182, 0, 106, 61, 28, 156, 0, 9, 42, 4, 182, 0, 90, 172, 42, 3]
abbrev dktX3_tellQueue_0 : List UInt8 := dkwX3_tellQueue_0 ++ dktX3_tellQueue_1
theorem dksX3_tellQueue_0 : cX3_tellQueue.data.toList.drop 0 = dktX3_tellQueue_0 := by decide +kernel
theorem dksX3_tellQueue_1 : cX3_tellQueue.data.toList.drop 23 = dktX3_tellQueue_1 := dk_seg dksX3_tellQueue_0 23 rfl rfl
theorem dksX3_tellQueue_2 : cX3_tellQueue.data.toList.drop 47 = dktX3_tellQueue_2 := dk_seg dksX3_tellQueue_1 24 rfl rfl
theorem dksX3_tellQueue_3 : cX3_tellQueue.data.toList.drop 71 = dktX3_tellQueue_3 := dk_seg dksX3_tellQueue_2 24 rfl rfl
theorem dksX3_tellQueue_4 : cX3_tellQueue.data.toList.drop 93 = dktX3_tellQueue_4 := dk_seg dksX3_tellQueue_3 22 rfl rfl
theorem dX3_tellQueue_0 : decode cX3_tellQueue 0 = .ok (.aload_n 0, 1) := dk_42 (dk_at dksX3_tellQueue_0 0 rfl rfl)
theorem dX3_tellQueue_1 : decode cX3_tellQueue 1 = .ok (.iconst 0, 1) := dk_3 (dk_at dksX3_tellQueue_0 1 rfl rfl)
theorem dX3_tellQueue_2 : decode cX3_tellQueue 2 = .ok (.putfield 25, 3) := dk_181 0 25 (dk_at dksX3_tellQueue_0 2 rfl rfl)
theorem dX3_tellQueue_5 : decode cX3_tellQueue 5 = .ok (.aload_n 0, 1) := dk_42 (dk_at dksX3_tellQueue_0 5 rfl rfl)
theorem dX3_tellQueue_6 : decode cX3_tellQueue 6 = .ok (.iload_n 1, 1) := dk_27 (dk_at dksX3_tellQueue_0 6 rfl rfl)
theorem dX3_tellQueue_7 : decode cX3_tellQueue 7 = .ok (.invokevirtual 106, 3) := dk_182 0 106 (dk_at dksX3_tellQueue_0 7 rfl rfl)
theorem dX3_tellQueue_10 : decode cX3_tellQueue 10 = .ok (.istore_n 2, 1) := dk_61 (dk_at dksX3_tellQueue_0 10 rfl rfl)
theorem dX3_tellQueue_11 : decode cX3_tellQueue 11 = .ok (.iload_n 2, 1) := dk_28 (dk_at dksX3_tellQueue_0 11 rfl rfl)
theorem dX3_tellQueue_12 : decode cX3_tellQueue 12 = .ok (.ifCond .ge 9, 3) := dk_156 0 9 (dk_at dksX3_tellQueue_0 12 rfl rfl)
theorem dX3_tellQueue_15 : decode cX3_tellQueue 15 = .ok (.aload_n 0, 1) := dk_42 (dk_at dksX3_tellQueue_0 15 rfl rfl)
theorem dX3_tellQueue_16 : decode cX3_tellQueue 16 = .ok (.iconst 1, 1) := dk_4 (dk_at dksX3_tellQueue_0 16 rfl rfl)
theorem dX3_tellQueue_17 : decode cX3_tellQueue 17 = .ok (.invokevirtual 90, 3) := dk_182 0 90 (dk_at dksX3_tellQueue_0 17 rfl rfl)
theorem dX3_tellQueue_20 : decode cX3_tellQueue 20 = .ok (.ireturn, 1) := dk_172 (dk_at dksX3_tellQueue_0 20 rfl rfl)
theorem dX3_tellQueue_21 : decode cX3_tellQueue 21 = .ok (.aload_n 0, 1) := dk_42 (dk_at dksX3_tellQueue_0 21 rfl rfl)
theorem dX3_tellQueue_22 : decode cX3_tellQueue 22 = .ok (.iconst 0, 1) := dk_3 (dk_at dksX3_tellQueue_0 22 rfl rfl)
theorem dX3_tellQueue_23 : decode cX3_tellQueue 23 = .ok (.putfield 87, 3) := dk_181 0 87 (dk_at dksX3_tellQueue_1 0 rfl rfl)
theorem dX3_tellQueue_26 : decode cX3_tellQueue 26 = .ok (.aload_n 0, 1) := dk_42 (dk_at dksX3_tellQueue_1 3 rfl rfl)
theorem dX3_tellQueue_27 : decode cX3_tellQueue 27 = .ok (.iload_n 2, 1) := dk_28 (dk_at dksX3_tellQueue_1 4 rfl rfl)
theorem dX3_tellQueue_28 : decode cX3_tellQueue 28 = .ok (.iconst 1, 1) := dk_4 (dk_at dksX3_tellQueue_1 5 rfl rfl)
theorem dX3_tellQueue_29 : decode cX3_tellQueue 29 = .ok (.invokevirtual 98, 3) := dk_182 0 98 (dk_at dksX3_tellQueue_1 6 rfl rfl)
theorem dX3_tellQueue_32 : decode cX3_tellQueue 32 = .ok (.ifCond .ne 9, 3) := dk_154 0 9 (dk_at dksX3_tellQueue_1 9 rfl rfl)
theorem dX3_tellQueue_35 : decode cX3_tellQueue 35 = .ok (.aload_n 0, 1) := dk_42 (dk_at dksX3_tellQueue_1 12 rfl rfl)
theorem dX3_tellQueue_36 : decode cX3_tellQueue 36 = .ok (.bipush 45, 2) := dk_16 45 (dk_at dksX3_tellQueue_1 13 rfl rfl)
theorem dX3_tellQueue_38 : decode cX3_tellQueue 38 = .ok (.invokevirtual 254, 3) := dk_182 0 254 (dk_at dksX3_tellQueue_1 15 rfl rfl)
theorem dX3_tellQueue_41 : decode cX3_tellQueue 41 = .ok (.iconst 0, 1) := dk_3 (dk_at dksX3_tellQueue_1 18 rfl rfl)
theorem dX3_tellQueue_42 : decode cX3_tellQueue 42 = .ok (.istore_n 3, 1) := dk_62 (dk_at dksX3_tellQueue_1 19 rfl rfl)
theorem dX3_tellQueue_43 : decode cX3_tellQueue 43 = .ok (.iload_n 3, 1) := dk_29 (dk_at dksX3_tellQueue_1 20 rfl rfl)
theorem dX3_tellQueue_44 : decode cX3_tellQueue 44 = .ok (.aload_n 0, 1) := dk_42 (dk_at dksX3_tellQueue_1 21 rfl rfl)
theorem dX3_tellQueue_45 : decode cX3_tellQueue 45 = .ok (.iload_n 2, 1) := dk_28 (dk_at dksX3_tellQueue_1 22 rfl rfl)
theorem dX3_tellQueue_46 : decode cX3_tellQueue 46 = .ok (.iconst 1, 1) := dk_4 (dk_at dksX3_tellQueue_1 23 rfl rfl)
theorem dX3_tellQueue_47 : decode cX3_tellQueue 47 = .ok (.invokevirtual 98, 3) := dk_182 0 98 (dk_at dksX3_tellQueue_2 0 rfl rfl)
theorem dX3_tellQueue_50 : decode cX3_tellQueue 50 = .ok (.if_icmp .ge 56, 3) := dk_162 0 56 (dk_at dksX3_tellQueue_2 3 rfl rfl)
theorem dX3_tellQueue_53 : decode cX3_tellQueue 53 = .ok (.iload_n 3, 1) := dk_29 (dk_at dksX3_tellQueue_2 6 rfl rfl)
theorem dX3_tellQueue_54 : decode cX3_tellQueue 54 = .ok (.ifCond .le 9, 3) := dk_158 0 9 (dk_at dksX3_tellQueue_2 7 rfl rfl)
theorem dX3_tellQueue_57 : decode cX3_tellQueue 57 = .ok (.aload_n 0, 1) := dk_42 (dk_at dksX3_tellQueue_2 10 rfl rfl)
theorem dX3_tellQueue_58 : decode cX3_tellQueue 58 = .ok (.bipush 32, 2) := dk_16 32 (dk_at dksX3_tellQueue_2 11 rfl rfl)
theorem dX3_tellQueue_60 : decode cX3_tellQueue 60 = .ok (.invokevirtual 254, 3) := dk_182 0 254 (dk_at dksX3_tellQueue_2 13 rfl rfl)
theorem dX3_tellQueue_63 : decode cX3_tellQueue 63 = .ok (.aload_n 0, 1) := dk_42 (dk_at dksX3_tellQueue_2 16 rfl rfl)
theorem dX3_tellQueue_64 : decode cX3_tellQueue 64 = .ok (.bipush 35, 2) := dk_16 35 (dk_at dksX3_tellQueue_2 17 rfl rfl)
theorem dX3_tellQueue_66 : decode cX3_tellQueue 66 = .ok (.invokevirtual 254, 3) := dk_182 0 254 (dk_at dksX3_tellQueue_2 19 rfl rfl)
theorem dX3_tellQueue_69 : decode cX3_tellQueue 69 = .ok (.aload_n 0, 1) := dk_42 (dk_at dksX3_tellQueue_2 22 rfl rfl)
theorem dX3_tellQueue_70 : decode cX3_tellQueue 70 = .ok (.aload_n 0, 1) := dk_42 (dk_at dksX3_tellQueue_2 23 rfl rfl)
theorem dX3_tellQueue_71 : decode cX3_tellQueue 71 = .ok (.iload_n 2, 1) := dk_28 (dk_at dksX3_tellQueue_3 0 rfl rfl)
theorem dX3_tellQueue_72 : decode cX3_tellQueue 72 = .ok (.iload_n 3, 1) := dk_29 (dk_at dksX3_tellQueue_3 1 rfl rfl)
theorem dX3_tellQueue_73 : decode cX3_tellQueue 73 = .ok (.iconst 0, 1) := dk_3 (dk_at dksX3_tellQueue_3 2 rfl rfl)
theorem dX3_tellQueue_74 : decode cX3_tellQueue 74 = .ok (.invokevirtual 149, 3) := dk_182 0 149 (dk_at dksX3_tellQueue_3 3 rfl rfl)
theorem dX3_tellQueue_77 : decode cX3_tellQueue 77 = .ok (.invokevirtual 260, 3) := dk_182 1 4 (dk_at dksX3_tellQueue_3 6 rfl rfl)
theorem dX3_tellQueue_80 : decode cX3_tellQueue 80 = .ok (.aload_n 0, 1) := dk_42 (dk_at dksX3_tellQueue_3 9 rfl rfl)
theorem dX3_tellQueue_81 : decode cX3_tellQueue 81 = .ok (.bipush 47, 2) := dk_16 47 (dk_at dksX3_tellQueue_3 10 rfl rfl)
theorem dX3_tellQueue_83 : decode cX3_tellQueue 83 = .ok (.invokevirtual 254, 3) := dk_182 0 254 (dk_at dksX3_tellQueue_3 12 rfl rfl)
theorem dX3_tellQueue_86 : decode cX3_tellQueue 86 = .ok (.aload_n 0, 1) := dk_42 (dk_at dksX3_tellQueue_3 15 rfl rfl)
theorem dX3_tellQueue_87 : decode cX3_tellQueue 87 = .ok (.bipush 48, 2) := dk_16 48 (dk_at dksX3_tellQueue_3 16 rfl rfl)
theorem dX3_tellQueue_89 : decode cX3_tellQueue 89 = .ok (.aload_n 0, 1) := dk_42 (dk_at dksX3_tellQueue_3 18 rfl rfl)
theorem dX3_tellQueue_90 : decode cX3_tellQueue 90 = .ok (.iload_n 2, 1) := dk_28 (dk_at dksX3_tellQueue_3 19 rfl rfl)
theorem dX3_tellQueue_91 : decode cX3_tellQueue 91 = .ok (.iload_n 3, 1) := dk_29 (dk_at dksX3_tellQueue_3 20 rfl rfl)
theorem dX3_tellQueue_92 : decode cX3_tellQueue 92 = .ok (.iconst 2, 1) := dk_5 (dk_at dksX3_tellQueue_3 21 rfl rfl)
theorem dX3_tellQueue_93 : decode cX3_tellQueue 93 = .ok (.invokevirtual 149, 3) := dk_182 0 149 (dk_at dksX3_tellQueue_4 0 rfl rfl)
theorem dX3_tellQueue_96 : decode cX3_tellQueue 96 = .ok (.iadd, 1) := dk_96 (dk_at dksX3_tellQueue_4 3 rfl rfl)
theorem dX3_tellQueue_97 : decode cX3_tellQueue 97 = .ok (.invokevirtual 254, 3) := dk_182 0 254 (dk_at dksX3_tellQueue_4 4 rfl rfl)
theorem dX3_tellQueue_100 : decode cX3_tellQueue 100 = .ok (.iinc 3 1, 3) := dk_132 3 1 (dk_at dksX3_tellQueue_4 7 rfl rfl)
theorem dX3_tellQueue_103 : decode cX3_tellQueue 103 = .ok (.goto (-60), 3) := dk_167 255 196 (dk_at dksX3_tellQueue_4 10 rfl rfl)
theorem dX3_tellQueue_106 : decode cX3_tellQueue 106 = .ok (.aload_n 0, 1) := dk_42 (dk_at dksX3_tellQueue_4 13 rfl rfl)
theorem dX3_tellQueue_107 : decode cX3_tellQueue 107 = .ok (.getfield 87, 3) := dk_180 0 87 (dk_at dksX3_tellQueue_4 14 rfl rfl)
theorem dX3_tellQueue_110 : decode cX3_tellQueue 110 = .ok (.ireturn, 1) := dk_172 (dk_at dksX3_tellQueue_4 17 rfl rfl)
abbrev cX3_character : ByteArray := prog_20_method_90_code
def yX3_character : MethodName := ⟨RX3, "character", "(I)C"⟩
def dkwX3_character_1 : List UInt8 := [180, 0, 25, 158, 0, 8, 16, 32, 167, 0, 10, 42, 180, 0, 84, 27, 46, 146, 172]
abbrev dktX3_character_1 : List UInt8 := dkwX3_character_1 ++ []
def dkwX3_character_0 : List UInt8 := [42, 27, 3, 42, 180, 0, 87, 4, 100, 184, 0, 102, 153, 0, 7, 3, 167, 0, 4, 4, 181, 0, 25, 42]
abbrev dktX3_character_0 : List UInt8 := dkwX3_character_0 ++ dktX3_character_1
theorem dksX3_character_0 : cX3_character.data.toList.drop 0 = dktX3_character_0 := by decide +kernel
theorem dksX3_character_1 : cX3_character.data.toList.drop 24 = dktX3_character_1 := dk_seg dksX3_character_0 24 rfl rfl
theorem dX3_character_0 : decode cX3_character 0 = .ok (.aload_n 0, 1) := dk_42 (dk_at dksX3_character_0 0 rfl rfl)
theorem dX3_character_1 : decode cX3_character 1 = .ok (.iload_n 1, 1) := dk_27 (dk_at dksX3_character_0 1 rfl rfl)
theorem dX3_character_2 : decode cX3_character 2 = .ok (.iconst 0, 1) := dk_3 (dk_at dksX3_character_0 2 rfl rfl)
theorem dX3_character_3 : decode cX3_character 3 = .ok (.aload_n 0, 1) := dk_42 (dk_at dksX3_character_0 3 rfl rfl)
theorem dX3_character_4 : decode cX3_character 4 = .ok (.getfield 87, 3) := dk_180 0 87 (dk_at dksX3_character_0 4 rfl rfl)
theorem dX3_character_7 : decode cX3_character 7 = .ok (.iconst 1, 1) := dk_4 (dk_at dksX3_character_0 7 rfl rfl)
theorem dX3_character_8 : decode cX3_character 8 = .ok (.isub, 1) := dk_100 (dk_at dksX3_character_0 8 rfl rfl)
theorem dX3_character_9 : decode cX3_character 9 = .ok (.invokestatic 102, 3) := dk_184 0 102 (dk_at dksX3_character_0 9 rfl rfl)
theorem dX3_character_12 : decode cX3_character 12 = .ok (.ifCond .eq 7, 3) := dk_153 0 7 (dk_at dksX3_character_0 12 rfl rfl)
theorem dX3_character_15 : decode cX3_character 15 = .ok (.iconst 0, 1) := dk_3 (dk_at dksX3_character_0 15 rfl rfl)
theorem dX3_character_16 : decode cX3_character 16 = .ok (.goto 4, 3) := dk_167 0 4 (dk_at dksX3_character_0 16 rfl rfl)
theorem dX3_character_19 : decode cX3_character 19 = .ok (.iconst 1, 1) := dk_4 (dk_at dksX3_character_0 19 rfl rfl)
theorem dX3_character_20 : decode cX3_character 20 = .ok (.putfield 25, 3) := dk_181 0 25 (dk_at dksX3_character_0 20 rfl rfl)
theorem dX3_character_23 : decode cX3_character 23 = .ok (.aload_n 0, 1) := dk_42 (dk_at dksX3_character_0 23 rfl rfl)
theorem dX3_character_24 : decode cX3_character 24 = .ok (.getfield 25, 3) := dk_180 0 25 (dk_at dksX3_character_1 0 rfl rfl)
theorem dX3_character_27 : decode cX3_character 27 = .ok (.ifCond .le 8, 3) := dk_158 0 8 (dk_at dksX3_character_1 3 rfl rfl)
theorem dX3_character_30 : decode cX3_character 30 = .ok (.bipush 32, 2) := dk_16 32 (dk_at dksX3_character_1 6 rfl rfl)
theorem dX3_character_32 : decode cX3_character 32 = .ok (.goto 10, 3) := dk_167 0 10 (dk_at dksX3_character_1 8 rfl rfl)
theorem dX3_character_35 : decode cX3_character 35 = .ok (.aload_n 0, 1) := dk_42 (dk_at dksX3_character_1 11 rfl rfl)
theorem dX3_character_36 : decode cX3_character 36 = .ok (.getfield 84, 3) := dk_180 0 84 (dk_at dksX3_character_1 12 rfl rfl)
theorem dX3_character_39 : decode cX3_character 39 = .ok (.iload_n 1, 1) := dk_27 (dk_at dksX3_character_1 15 rfl rfl)
theorem dX3_character_40 : decode cX3_character 40 = .ok (.iaload, 1) := dk_46 (dk_at dksX3_character_1 16 rfl rfl)
theorem dX3_character_41 : decode cX3_character 41 = .ok (.i2c, 1) := dk_146 (dk_at dksX3_character_1 17 rfl rfl)
theorem dX3_character_42 : decode cX3_character 42 = .ok (.ireturn, 1) := dk_172 (dk_at dksX3_character_1 18 rfl rfl)
abbrev cX3_account : ByteArray := prog_20_method_91_code
def yX3_account : MethodName := ⟨RX3, "account", "(I)I"⟩
def dkwX3_account_2 : List UInt8 := [4, 182, 0, 90, 172]
abbrev dktX3_account_2 : List UInt8 := dkwX3_account_2 ++ []
def dkwX3_account_1 : List UInt8 := [16, 18, 160, 0, 8, 42, 180, 0, 72, 172, 27, 16, 19, 160, 0, 10, 42, 180, 0, 29, 167, 0, 8, 42]
abbrev dktX3_account_1 : List UInt8 := dkwX3_account_1 ++ dktX3_account_2
def dkwX3_account_0 : List UInt8 := [42, 3, 181, 0, 25, 27, 3, 16, 17, 184, 0, 102, 153, 0, 10, 42, 180, 0, 7, 27, 46, 172, 27]
abbrev dktX3_account_0 : List UInt8 := dkwX3_account_0 ++ dktX3_account_1
theorem dksX3_account_0 : cX3_account.data.toList.drop 0 = dktX3_account_0 := by decide +kernel
theorem dksX3_account_1 : cX3_account.data.toList.drop 23 = dktX3_account_1 := dk_seg dksX3_account_0 23 rfl rfl
theorem dksX3_account_2 : cX3_account.data.toList.drop 47 = dktX3_account_2 := dk_seg dksX3_account_1 24 rfl rfl
theorem dX3_account_0 : decode cX3_account 0 = .ok (.aload_n 0, 1) := dk_42 (dk_at dksX3_account_0 0 rfl rfl)
theorem dX3_account_1 : decode cX3_account 1 = .ok (.iconst 0, 1) := dk_3 (dk_at dksX3_account_0 1 rfl rfl)
theorem dX3_account_2 : decode cX3_account 2 = .ok (.putfield 25, 3) := dk_181 0 25 (dk_at dksX3_account_0 2 rfl rfl)
theorem dX3_account_5 : decode cX3_account 5 = .ok (.iload_n 1, 1) := dk_27 (dk_at dksX3_account_0 5 rfl rfl)
theorem dX3_account_6 : decode cX3_account 6 = .ok (.iconst 0, 1) := dk_3 (dk_at dksX3_account_0 6 rfl rfl)
theorem dX3_account_7 : decode cX3_account 7 = .ok (.bipush 17, 2) := dk_16 17 (dk_at dksX3_account_0 7 rfl rfl)
theorem dX3_account_9 : decode cX3_account 9 = .ok (.invokestatic 102, 3) := dk_184 0 102 (dk_at dksX3_account_0 9 rfl rfl)
theorem dX3_account_12 : decode cX3_account 12 = .ok (.ifCond .eq 10, 3) := dk_153 0 10 (dk_at dksX3_account_0 12 rfl rfl)
theorem dX3_account_15 : decode cX3_account 15 = .ok (.aload_n 0, 1) := dk_42 (dk_at dksX3_account_0 15 rfl rfl)
theorem dX3_account_16 : decode cX3_account 16 = .ok (.getfield 7, 3) := dk_180 0 7 (dk_at dksX3_account_0 16 rfl rfl)
theorem dX3_account_19 : decode cX3_account 19 = .ok (.iload_n 1, 1) := dk_27 (dk_at dksX3_account_0 19 rfl rfl)
theorem dX3_account_20 : decode cX3_account 20 = .ok (.iaload, 1) := dk_46 (dk_at dksX3_account_0 20 rfl rfl)
theorem dX3_account_21 : decode cX3_account 21 = .ok (.ireturn, 1) := dk_172 (dk_at dksX3_account_0 21 rfl rfl)
theorem dX3_account_22 : decode cX3_account 22 = .ok (.iload_n 1, 1) := dk_27 (dk_at dksX3_account_0 22 rfl rfl)
theorem dX3_account_23 : decode cX3_account 23 = .ok (.bipush 18, 2) := dk_16 18 (dk_at dksX3_account_1 0 rfl rfl)
theorem dX3_account_25 : decode cX3_account 25 = .ok (.if_icmp .ne 8, 3) := dk_160 0 8 (dk_at dksX3_account_1 2 rfl rfl)
theorem dX3_account_28 : decode cX3_account 28 = .ok (.aload_n 0, 1) := dk_42 (dk_at dksX3_account_1 5 rfl rfl)
theorem dX3_account_29 : decode cX3_account 29 = .ok (.getfield 72, 3) := dk_180 0 72 (dk_at dksX3_account_1 6 rfl rfl)
theorem dX3_account_32 : decode cX3_account 32 = .ok (.ireturn, 1) := dk_172 (dk_at dksX3_account_1 9 rfl rfl)
theorem dX3_account_33 : decode cX3_account 33 = .ok (.iload_n 1, 1) := dk_27 (dk_at dksX3_account_1 10 rfl rfl)
theorem dX3_account_34 : decode cX3_account 34 = .ok (.bipush 19, 2) := dk_16 19 (dk_at dksX3_account_1 11 rfl rfl)
theorem dX3_account_36 : decode cX3_account 36 = .ok (.if_icmp .ne 10, 3) := dk_160 0 10 (dk_at dksX3_account_1 13 rfl rfl)
theorem dX3_account_39 : decode cX3_account 39 = .ok (.aload_n 0, 1) := dk_42 (dk_at dksX3_account_1 16 rfl rfl)
theorem dX3_account_40 : decode cX3_account 40 = .ok (.getfield 29, 3) := dk_180 0 29 (dk_at dksX3_account_1 17 rfl rfl)
theorem dX3_account_43 : decode cX3_account 43 = .ok (.goto 8, 3) := dk_167 0 8 (dk_at dksX3_account_1 20 rfl rfl)
theorem dX3_account_46 : decode cX3_account 46 = .ok (.aload_n 0, 1) := dk_42 (dk_at dksX3_account_1 23 rfl rfl)
theorem dX3_account_47 : decode cX3_account 47 = .ok (.iconst 1, 1) := dk_4 (dk_at dksX3_account_2 0 rfl rfl)
theorem dX3_account_48 : decode cX3_account 48 = .ok (.invokevirtual 90, 3) := dk_182 0 90 (dk_at dksX3_account_2 1 rfl rfl)
theorem dX3_account_51 : decode cX3_account 51 = .ok (.ireturn, 1) := dk_172 (dk_at dksX3_account_2 4 rfl rfl)
abbrev cX3_meanDelay : ByteArray := prog_20_method_92_code
def yX3_meanDelay : MethodName := ⟨RX3, "meanDelay", "()D"⟩
def dkwX3_meanDelay_1 : List UInt8 := [158, 0, 7, 14, 167, 0, 19, 42, 180, 0, 7, 16, 13, 46, 135, 42, 180, 0, 7, 8, 46, 135, 111, 175]
abbrev dktX3_meanDelay_1 : List UInt8 := dkwX3_meanDelay_1 ++ []
def dkwX3_meanDelay_0 : List UInt8 := [42, 42, 180, 0, 7, 8, 46, 154, 0, 7, 4, 167, 0, 4, 3, 181, 0, 25, 42, 180, 0, 25]
abbrev dktX3_meanDelay_0 : List UInt8 := dkwX3_meanDelay_0 ++ dktX3_meanDelay_1
theorem dksX3_meanDelay_0 : cX3_meanDelay.data.toList.drop 0 = dktX3_meanDelay_0 := by decide +kernel
theorem dksX3_meanDelay_1 : cX3_meanDelay.data.toList.drop 22 = dktX3_meanDelay_1 := dk_seg dksX3_meanDelay_0 22 rfl rfl
theorem dX3_meanDelay_0 : decode cX3_meanDelay 0 = .ok (.aload_n 0, 1) := dk_42 (dk_at dksX3_meanDelay_0 0 rfl rfl)
theorem dX3_meanDelay_1 : decode cX3_meanDelay 1 = .ok (.aload_n 0, 1) := dk_42 (dk_at dksX3_meanDelay_0 1 rfl rfl)
theorem dX3_meanDelay_2 : decode cX3_meanDelay 2 = .ok (.getfield 7, 3) := dk_180 0 7 (dk_at dksX3_meanDelay_0 2 rfl rfl)
theorem dX3_meanDelay_5 : decode cX3_meanDelay 5 = .ok (.iconst 5, 1) := dk_8 (dk_at dksX3_meanDelay_0 5 rfl rfl)
theorem dX3_meanDelay_6 : decode cX3_meanDelay 6 = .ok (.iaload, 1) := dk_46 (dk_at dksX3_meanDelay_0 6 rfl rfl)
theorem dX3_meanDelay_7 : decode cX3_meanDelay 7 = .ok (.ifCond .ne 7, 3) := dk_154 0 7 (dk_at dksX3_meanDelay_0 7 rfl rfl)
theorem dX3_meanDelay_10 : decode cX3_meanDelay 10 = .ok (.iconst 1, 1) := dk_4 (dk_at dksX3_meanDelay_0 10 rfl rfl)
theorem dX3_meanDelay_11 : decode cX3_meanDelay 11 = .ok (.goto 4, 3) := dk_167 0 4 (dk_at dksX3_meanDelay_0 11 rfl rfl)
theorem dX3_meanDelay_14 : decode cX3_meanDelay 14 = .ok (.iconst 0, 1) := dk_3 (dk_at dksX3_meanDelay_0 14 rfl rfl)
theorem dX3_meanDelay_15 : decode cX3_meanDelay 15 = .ok (.putfield 25, 3) := dk_181 0 25 (dk_at dksX3_meanDelay_0 15 rfl rfl)
theorem dX3_meanDelay_18 : decode cX3_meanDelay 18 = .ok (.aload_n 0, 1) := dk_42 (dk_at dksX3_meanDelay_0 18 rfl rfl)
theorem dX3_meanDelay_19 : decode cX3_meanDelay 19 = .ok (.getfield 25, 3) := dk_180 0 25 (dk_at dksX3_meanDelay_0 19 rfl rfl)
theorem dX3_meanDelay_22 : decode cX3_meanDelay 22 = .ok (.ifCond .le 7, 3) := dk_158 0 7 (dk_at dksX3_meanDelay_1 0 rfl rfl)
theorem dX3_meanDelay_25 : decode cX3_meanDelay 25 = .ok (.dconst 0, 1) := dk_14 (dk_at dksX3_meanDelay_1 3 rfl rfl)
theorem dX3_meanDelay_26 : decode cX3_meanDelay 26 = .ok (.goto 19, 3) := dk_167 0 19 (dk_at dksX3_meanDelay_1 4 rfl rfl)
theorem dX3_meanDelay_29 : decode cX3_meanDelay 29 = .ok (.aload_n 0, 1) := dk_42 (dk_at dksX3_meanDelay_1 7 rfl rfl)
theorem dX3_meanDelay_30 : decode cX3_meanDelay 30 = .ok (.getfield 7, 3) := dk_180 0 7 (dk_at dksX3_meanDelay_1 8 rfl rfl)
theorem dX3_meanDelay_33 : decode cX3_meanDelay 33 = .ok (.bipush 13, 2) := dk_16 13 (dk_at dksX3_meanDelay_1 11 rfl rfl)
theorem dX3_meanDelay_35 : decode cX3_meanDelay 35 = .ok (.iaload, 1) := dk_46 (dk_at dksX3_meanDelay_1 13 rfl rfl)
theorem dX3_meanDelay_36 : decode cX3_meanDelay 36 = .ok (.i2d, 1) := dk_135 (dk_at dksX3_meanDelay_1 14 rfl rfl)
theorem dX3_meanDelay_37 : decode cX3_meanDelay 37 = .ok (.aload_n 0, 1) := dk_42 (dk_at dksX3_meanDelay_1 15 rfl rfl)
theorem dX3_meanDelay_38 : decode cX3_meanDelay 38 = .ok (.getfield 7, 3) := dk_180 0 7 (dk_at dksX3_meanDelay_1 16 rfl rfl)
theorem dX3_meanDelay_41 : decode cX3_meanDelay 41 = .ok (.iconst 5, 1) := dk_8 (dk_at dksX3_meanDelay_1 19 rfl rfl)
theorem dX3_meanDelay_42 : decode cX3_meanDelay 42 = .ok (.iaload, 1) := dk_46 (dk_at dksX3_meanDelay_1 20 rfl rfl)
theorem dX3_meanDelay_43 : decode cX3_meanDelay 43 = .ok (.i2d, 1) := dk_135 (dk_at dksX3_meanDelay_1 21 rfl rfl)
theorem dX3_meanDelay_44 : decode cX3_meanDelay 44 = .ok (.ddiv, 1) := dk_111 (dk_at dksX3_meanDelay_1 22 rfl rfl)
theorem dX3_meanDelay_45 : decode cX3_meanDelay 45 = .ok (.dreturn, 1) := dk_175 (dk_at dksX3_meanDelay_1 23 rfl rfl)
abbrev cX3_receivedShare : ByteArray := prog_20_method_93_code
def yX3_receivedShare : MethodName := ⟨RX3, "receivedShare", "()F"⟩
def dkwX3_receivedShare_1 : List UInt8 := [158, 0, 7, 11, 167, 0, 19, 42, 180, 0, 7, 16, 6, 46, 134, 42, 180, 0, 7, 8, 46, 134, 110, 174]
abbrev dktX3_receivedShare_1 : List UInt8 := dkwX3_receivedShare_1 ++ []
def dkwX3_receivedShare_0 : List UInt8 := [42, 42, 180, 0, 7, 8, 46, 154, 0, 7, 4, 167, 0, 4, 3, 181, 0, 25, 42, 180, 0, 25]
abbrev dktX3_receivedShare_0 : List UInt8 := dkwX3_receivedShare_0 ++ dktX3_receivedShare_1
theorem dksX3_receivedShare_0 : cX3_receivedShare.data.toList.drop 0 = dktX3_receivedShare_0 := by decide +kernel
theorem dksX3_receivedShare_1 : cX3_receivedShare.data.toList.drop 22 = dktX3_receivedShare_1 := dk_seg dksX3_receivedShare_0 22 rfl rfl
theorem dX3_receivedShare_0 : decode cX3_receivedShare 0 = .ok (.aload_n 0, 1) := dk_42 (dk_at dksX3_receivedShare_0 0 rfl rfl)
theorem dX3_receivedShare_1 : decode cX3_receivedShare 1 = .ok (.aload_n 0, 1) := dk_42 (dk_at dksX3_receivedShare_0 1 rfl rfl)
theorem dX3_receivedShare_2 : decode cX3_receivedShare 2 = .ok (.getfield 7, 3) := dk_180 0 7 (dk_at dksX3_receivedShare_0 2 rfl rfl)
theorem dX3_receivedShare_5 : decode cX3_receivedShare 5 = .ok (.iconst 5, 1) := dk_8 (dk_at dksX3_receivedShare_0 5 rfl rfl)
theorem dX3_receivedShare_6 : decode cX3_receivedShare 6 = .ok (.iaload, 1) := dk_46 (dk_at dksX3_receivedShare_0 6 rfl rfl)
theorem dX3_receivedShare_7 : decode cX3_receivedShare 7 = .ok (.ifCond .ne 7, 3) := dk_154 0 7 (dk_at dksX3_receivedShare_0 7 rfl rfl)
theorem dX3_receivedShare_10 : decode cX3_receivedShare 10 = .ok (.iconst 1, 1) := dk_4 (dk_at dksX3_receivedShare_0 10 rfl rfl)
theorem dX3_receivedShare_11 : decode cX3_receivedShare 11 = .ok (.goto 4, 3) := dk_167 0 4 (dk_at dksX3_receivedShare_0 11 rfl rfl)
theorem dX3_receivedShare_14 : decode cX3_receivedShare 14 = .ok (.iconst 0, 1) := dk_3 (dk_at dksX3_receivedShare_0 14 rfl rfl)
theorem dX3_receivedShare_15 : decode cX3_receivedShare 15 = .ok (.putfield 25, 3) := dk_181 0 25 (dk_at dksX3_receivedShare_0 15 rfl rfl)
theorem dX3_receivedShare_18 : decode cX3_receivedShare 18 = .ok (.aload_n 0, 1) := dk_42 (dk_at dksX3_receivedShare_0 18 rfl rfl)
theorem dX3_receivedShare_19 : decode cX3_receivedShare 19 = .ok (.getfield 25, 3) := dk_180 0 25 (dk_at dksX3_receivedShare_0 19 rfl rfl)
theorem dX3_receivedShare_22 : decode cX3_receivedShare 22 = .ok (.ifCond .le 7, 3) := dk_158 0 7 (dk_at dksX3_receivedShare_1 0 rfl rfl)
theorem dX3_receivedShare_25 : decode cX3_receivedShare 25 = .ok (.fconst 0, 1) := dk_11 (dk_at dksX3_receivedShare_1 3 rfl rfl)
theorem dX3_receivedShare_26 : decode cX3_receivedShare 26 = .ok (.goto 19, 3) := dk_167 0 19 (dk_at dksX3_receivedShare_1 4 rfl rfl)
theorem dX3_receivedShare_29 : decode cX3_receivedShare 29 = .ok (.aload_n 0, 1) := dk_42 (dk_at dksX3_receivedShare_1 7 rfl rfl)
theorem dX3_receivedShare_30 : decode cX3_receivedShare 30 = .ok (.getfield 7, 3) := dk_180 0 7 (dk_at dksX3_receivedShare_1 8 rfl rfl)
theorem dX3_receivedShare_33 : decode cX3_receivedShare 33 = .ok (.bipush 6, 2) := dk_16 6 (dk_at dksX3_receivedShare_1 11 rfl rfl)
theorem dX3_receivedShare_35 : decode cX3_receivedShare 35 = .ok (.iaload, 1) := dk_46 (dk_at dksX3_receivedShare_1 13 rfl rfl)
theorem dX3_receivedShare_36 : decode cX3_receivedShare 36 = .ok (.i2f, 1) := dk_134 (dk_at dksX3_receivedShare_1 14 rfl rfl)
theorem dX3_receivedShare_37 : decode cX3_receivedShare 37 = .ok (.aload_n 0, 1) := dk_42 (dk_at dksX3_receivedShare_1 15 rfl rfl)
theorem dX3_receivedShare_38 : decode cX3_receivedShare 38 = .ok (.getfield 7, 3) := dk_180 0 7 (dk_at dksX3_receivedShare_1 16 rfl rfl)
theorem dX3_receivedShare_41 : decode cX3_receivedShare 41 = .ok (.iconst 5, 1) := dk_8 (dk_at dksX3_receivedShare_1 19 rfl rfl)
theorem dX3_receivedShare_42 : decode cX3_receivedShare 42 = .ok (.iaload, 1) := dk_46 (dk_at dksX3_receivedShare_1 20 rfl rfl)
theorem dX3_receivedShare_43 : decode cX3_receivedShare 43 = .ok (.i2f, 1) := dk_134 (dk_at dksX3_receivedShare_1 21 rfl rfl)
theorem dX3_receivedShare_44 : decode cX3_receivedShare 44 = .ok (.fdiv, 1) := dk_110 (dk_at dksX3_receivedShare_1 22 rfl rfl)
theorem dX3_receivedShare_45 : decode cX3_receivedShare 45 = .ok (.freturn, 1) := dk_174 (dk_at dksX3_receivedShare_1 23 rfl rfl)
abbrev cX3_undo : ByteArray := prog_20_method_94_code
def yX3_undo : MethodName := ⟨RX3, "undo", "()I"⟩
def dkwX3_undo_2 : List UInt8 := [42, 180, 0, 29, 172]
abbrev dktX3_undo_2 : List UInt8 := dkwX3_undo_2 ++ []
def dkwX3_undo_1 : List UInt8 := [100, 181, 0, 29, 42, 180, 0, 22, 17, 2, 159, 42, 180, 0, 29, 104, 42, 180, 0, 7, 3, 184, 0, 94]
abbrev dktX3_undo_1 : List UInt8 := dkwX3_undo_1 ++ dktX3_undo_2
def dkwX3_undo_0 : List UInt8 := [42, 3, 181, 0, 25, 42, 180, 0, 29, 154, 0, 9, 42, 4, 182, 0, 90, 172, 42, 89, 180, 0, 29, 4]
abbrev dktX3_undo_0 : List UInt8 := dkwX3_undo_0 ++ dktX3_undo_1
theorem dksX3_undo_0 : cX3_undo.data.toList.drop 0 = dktX3_undo_0 := by decide +kernel
theorem dksX3_undo_1 : cX3_undo.data.toList.drop 24 = dktX3_undo_1 := dk_seg dksX3_undo_0 24 rfl rfl
theorem dksX3_undo_2 : cX3_undo.data.toList.drop 48 = dktX3_undo_2 := dk_seg dksX3_undo_1 24 rfl rfl
theorem dX3_undo_0 : decode cX3_undo 0 = .ok (.aload_n 0, 1) := dk_42 (dk_at dksX3_undo_0 0 rfl rfl)
theorem dX3_undo_1 : decode cX3_undo 1 = .ok (.iconst 0, 1) := dk_3 (dk_at dksX3_undo_0 1 rfl rfl)
theorem dX3_undo_2 : decode cX3_undo 2 = .ok (.putfield 25, 3) := dk_181 0 25 (dk_at dksX3_undo_0 2 rfl rfl)
theorem dX3_undo_5 : decode cX3_undo 5 = .ok (.aload_n 0, 1) := dk_42 (dk_at dksX3_undo_0 5 rfl rfl)
theorem dX3_undo_6 : decode cX3_undo 6 = .ok (.getfield 29, 3) := dk_180 0 29 (dk_at dksX3_undo_0 6 rfl rfl)
theorem dX3_undo_9 : decode cX3_undo 9 = .ok (.ifCond .ne 9, 3) := dk_154 0 9 (dk_at dksX3_undo_0 9 rfl rfl)
theorem dX3_undo_12 : decode cX3_undo 12 = .ok (.aload_n 0, 1) := dk_42 (dk_at dksX3_undo_0 12 rfl rfl)
theorem dX3_undo_13 : decode cX3_undo 13 = .ok (.iconst 1, 1) := dk_4 (dk_at dksX3_undo_0 13 rfl rfl)
theorem dX3_undo_14 : decode cX3_undo 14 = .ok (.invokevirtual 90, 3) := dk_182 0 90 (dk_at dksX3_undo_0 14 rfl rfl)
theorem dX3_undo_17 : decode cX3_undo 17 = .ok (.ireturn, 1) := dk_172 (dk_at dksX3_undo_0 17 rfl rfl)
theorem dX3_undo_18 : decode cX3_undo 18 = .ok (.aload_n 0, 1) := dk_42 (dk_at dksX3_undo_0 18 rfl rfl)
theorem dX3_undo_19 : decode cX3_undo 19 = .ok (.dup, 1) := dk_89 (dk_at dksX3_undo_0 19 rfl rfl)
theorem dX3_undo_20 : decode cX3_undo 20 = .ok (.getfield 29, 3) := dk_180 0 29 (dk_at dksX3_undo_0 20 rfl rfl)
theorem dX3_undo_23 : decode cX3_undo 23 = .ok (.iconst 1, 1) := dk_4 (dk_at dksX3_undo_0 23 rfl rfl)
theorem dX3_undo_24 : decode cX3_undo 24 = .ok (.isub, 1) := dk_100 (dk_at dksX3_undo_1 0 rfl rfl)
theorem dX3_undo_25 : decode cX3_undo 25 = .ok (.putfield 29, 3) := dk_181 0 29 (dk_at dksX3_undo_1 1 rfl rfl)
theorem dX3_undo_28 : decode cX3_undo 28 = .ok (.aload_n 0, 1) := dk_42 (dk_at dksX3_undo_1 4 rfl rfl)
theorem dX3_undo_29 : decode cX3_undo 29 = .ok (.getfield 22, 3) := dk_180 0 22 (dk_at dksX3_undo_1 5 rfl rfl)
theorem dX3_undo_32 : decode cX3_undo 32 = .ok (.sipush 671, 3) := dk_17 2 159 (dk_at dksX3_undo_1 8 rfl rfl)
theorem dX3_undo_35 : decode cX3_undo 35 = .ok (.aload_n 0, 1) := dk_42 (dk_at dksX3_undo_1 11 rfl rfl)
theorem dX3_undo_36 : decode cX3_undo 36 = .ok (.getfield 29, 3) := dk_180 0 29 (dk_at dksX3_undo_1 12 rfl rfl)
theorem dX3_undo_39 : decode cX3_undo 39 = .ok (.imul, 1) := dk_104 (dk_at dksX3_undo_1 15 rfl rfl)
theorem dX3_undo_40 : decode cX3_undo 40 = .ok (.aload_n 0, 1) := dk_42 (dk_at dksX3_undo_1 16 rfl rfl)
theorem dX3_undo_41 : decode cX3_undo 41 = .ok (.getfield 7, 3) := dk_180 0 7 (dk_at dksX3_undo_1 17 rfl rfl)
theorem dX3_undo_44 : decode cX3_undo 44 = .ok (.iconst 0, 1) := dk_3 (dk_at dksX3_undo_1 20 rfl rfl)
theorem dX3_undo_45 : decode cX3_undo 45 = .ok (.invokestatic 94, 3) := dk_184 0 94 (dk_at dksX3_undo_1 21 rfl rfl)
theorem dX3_undo_48 : decode cX3_undo 48 = .ok (.aload_n 0, 1) := dk_42 (dk_at dksX3_undo_2 0 rfl rfl)
theorem dX3_undo_49 : decode cX3_undo 49 = .ok (.getfield 29, 3) := dk_180 0 29 (dk_at dksX3_undo_2 1 rfl rfl)
theorem dX3_undo_52 : decode cX3_undo 52 = .ok (.ireturn, 1) := dk_172 (dk_at dksX3_undo_2 4 rfl rfl)
abbrev cX3_save : ByteArray := prog_20_method_95_code
def yX3_save : MethodName := ⟨RX3, "save", "()I"⟩
def dkwX3_save_1 : List UInt8 := [180, 0, 7, 3, 46, 172]
abbrev dktX3_save_1 : List UInt8 := dkwX3_save_1 ++ []
def dkwX3_save_0 : List UInt8 := [42, 3, 181, 0, 25, 42, 180, 0, 7, 3, 42, 180, 0, 19, 3, 184, 0, 94, 42, 4, 181, 0, 53, 42]
abbrev dktX3_save_0 : List UInt8 := dkwX3_save_0 ++ dktX3_save_1
theorem dksX3_save_0 : cX3_save.data.toList.drop 0 = dktX3_save_0 := by decide +kernel
theorem dksX3_save_1 : cX3_save.data.toList.drop 24 = dktX3_save_1 := dk_seg dksX3_save_0 24 rfl rfl
theorem dX3_save_0 : decode cX3_save 0 = .ok (.aload_n 0, 1) := dk_42 (dk_at dksX3_save_0 0 rfl rfl)
theorem dX3_save_1 : decode cX3_save 1 = .ok (.iconst 0, 1) := dk_3 (dk_at dksX3_save_0 1 rfl rfl)
theorem dX3_save_2 : decode cX3_save 2 = .ok (.putfield 25, 3) := dk_181 0 25 (dk_at dksX3_save_0 2 rfl rfl)
theorem dX3_save_5 : decode cX3_save 5 = .ok (.aload_n 0, 1) := dk_42 (dk_at dksX3_save_0 5 rfl rfl)
theorem dX3_save_6 : decode cX3_save 6 = .ok (.getfield 7, 3) := dk_180 0 7 (dk_at dksX3_save_0 6 rfl rfl)
theorem dX3_save_9 : decode cX3_save 9 = .ok (.iconst 0, 1) := dk_3 (dk_at dksX3_save_0 9 rfl rfl)
theorem dX3_save_10 : decode cX3_save 10 = .ok (.aload_n 0, 1) := dk_42 (dk_at dksX3_save_0 10 rfl rfl)
theorem dX3_save_11 : decode cX3_save 11 = .ok (.getfield 19, 3) := dk_180 0 19 (dk_at dksX3_save_0 11 rfl rfl)
theorem dX3_save_14 : decode cX3_save 14 = .ok (.iconst 0, 1) := dk_3 (dk_at dksX3_save_0 14 rfl rfl)
theorem dX3_save_15 : decode cX3_save 15 = .ok (.invokestatic 94, 3) := dk_184 0 94 (dk_at dksX3_save_0 15 rfl rfl)
theorem dX3_save_18 : decode cX3_save 18 = .ok (.aload_n 0, 1) := dk_42 (dk_at dksX3_save_0 18 rfl rfl)
theorem dX3_save_19 : decode cX3_save 19 = .ok (.iconst 1, 1) := dk_4 (dk_at dksX3_save_0 19 rfl rfl)
theorem dX3_save_20 : decode cX3_save 20 = .ok (.putfield 53, 3) := dk_181 0 53 (dk_at dksX3_save_0 20 rfl rfl)
theorem dX3_save_23 : decode cX3_save 23 = .ok (.aload_n 0, 1) := dk_42 (dk_at dksX3_save_0 23 rfl rfl)
theorem dX3_save_24 : decode cX3_save 24 = .ok (.getfield 7, 3) := dk_180 0 7 (dk_at dksX3_save_1 0 rfl rfl)
theorem dX3_save_27 : decode cX3_save 27 = .ok (.iconst 0, 1) := dk_3 (dk_at dksX3_save_1 3 rfl rfl)
theorem dX3_save_28 : decode cX3_save 28 = .ok (.iaload, 1) := dk_46 (dk_at dksX3_save_1 4 rfl rfl)
theorem dX3_save_29 : decode cX3_save 29 = .ok (.ireturn, 1) := dk_172 (dk_at dksX3_save_1 5 rfl rfl)
abbrev cX3_restore : ByteArray := prog_20_method_96_code
def yX3_restore : MethodName := ⟨RX3, "restore", "()I"⟩
def dkwX3_restore_1 : List UInt8 := [180, 0, 7, 3, 184, 0, 94, 42, 3, 181, 0, 29, 42, 180, 0, 7, 3, 46, 172]
abbrev dktX3_restore_1 : List UInt8 := dkwX3_restore_1 ++ []
def dkwX3_restore_0 : List UInt8 := [42, 3, 181, 0, 25, 42, 180, 0, 53, 154, 0, 9, 42, 4, 182, 0, 90, 172, 42, 180, 0, 19, 3, 42]
abbrev dktX3_restore_0 : List UInt8 := dkwX3_restore_0 ++ dktX3_restore_1
theorem dksX3_restore_0 : cX3_restore.data.toList.drop 0 = dktX3_restore_0 := by decide +kernel
theorem dksX3_restore_1 : cX3_restore.data.toList.drop 24 = dktX3_restore_1 := dk_seg dksX3_restore_0 24 rfl rfl
theorem dX3_restore_0 : decode cX3_restore 0 = .ok (.aload_n 0, 1) := dk_42 (dk_at dksX3_restore_0 0 rfl rfl)
theorem dX3_restore_1 : decode cX3_restore 1 = .ok (.iconst 0, 1) := dk_3 (dk_at dksX3_restore_0 1 rfl rfl)
theorem dX3_restore_2 : decode cX3_restore 2 = .ok (.putfield 25, 3) := dk_181 0 25 (dk_at dksX3_restore_0 2 rfl rfl)
theorem dX3_restore_5 : decode cX3_restore 5 = .ok (.aload_n 0, 1) := dk_42 (dk_at dksX3_restore_0 5 rfl rfl)
theorem dX3_restore_6 : decode cX3_restore 6 = .ok (.getfield 53, 3) := dk_180 0 53 (dk_at dksX3_restore_0 6 rfl rfl)
theorem dX3_restore_9 : decode cX3_restore 9 = .ok (.ifCond .ne 9, 3) := dk_154 0 9 (dk_at dksX3_restore_0 9 rfl rfl)
theorem dX3_restore_12 : decode cX3_restore 12 = .ok (.aload_n 0, 1) := dk_42 (dk_at dksX3_restore_0 12 rfl rfl)
theorem dX3_restore_13 : decode cX3_restore 13 = .ok (.iconst 1, 1) := dk_4 (dk_at dksX3_restore_0 13 rfl rfl)
theorem dX3_restore_14 : decode cX3_restore 14 = .ok (.invokevirtual 90, 3) := dk_182 0 90 (dk_at dksX3_restore_0 14 rfl rfl)
theorem dX3_restore_17 : decode cX3_restore 17 = .ok (.ireturn, 1) := dk_172 (dk_at dksX3_restore_0 17 rfl rfl)
theorem dX3_restore_18 : decode cX3_restore 18 = .ok (.aload_n 0, 1) := dk_42 (dk_at dksX3_restore_0 18 rfl rfl)
theorem dX3_restore_19 : decode cX3_restore 19 = .ok (.getfield 19, 3) := dk_180 0 19 (dk_at dksX3_restore_0 19 rfl rfl)
theorem dX3_restore_22 : decode cX3_restore 22 = .ok (.iconst 0, 1) := dk_3 (dk_at dksX3_restore_0 22 rfl rfl)
theorem dX3_restore_23 : decode cX3_restore 23 = .ok (.aload_n 0, 1) := dk_42 (dk_at dksX3_restore_0 23 rfl rfl)
theorem dX3_restore_24 : decode cX3_restore 24 = .ok (.getfield 7, 3) := dk_180 0 7 (dk_at dksX3_restore_1 0 rfl rfl)
theorem dX3_restore_27 : decode cX3_restore 27 = .ok (.iconst 0, 1) := dk_3 (dk_at dksX3_restore_1 3 rfl rfl)
theorem dX3_restore_28 : decode cX3_restore 28 = .ok (.invokestatic 94, 3) := dk_184 0 94 (dk_at dksX3_restore_1 4 rfl rfl)
theorem dX3_restore_31 : decode cX3_restore 31 = .ok (.aload_n 0, 1) := dk_42 (dk_at dksX3_restore_1 7 rfl rfl)
theorem dX3_restore_32 : decode cX3_restore 32 = .ok (.iconst 0, 1) := dk_3 (dk_at dksX3_restore_1 8 rfl rfl)
theorem dX3_restore_33 : decode cX3_restore 33 = .ok (.putfield 29, 3) := dk_181 0 29 (dk_at dksX3_restore_1 9 rfl rfl)
theorem dX3_restore_36 : decode cX3_restore 36 = .ok (.aload_n 0, 1) := dk_42 (dk_at dksX3_restore_1 12 rfl rfl)
theorem dX3_restore_37 : decode cX3_restore 37 = .ok (.getfield 7, 3) := dk_180 0 7 (dk_at dksX3_restore_1 13 rfl rfl)
theorem dX3_restore_40 : decode cX3_restore 40 = .ok (.iconst 0, 1) := dk_3 (dk_at dksX3_restore_1 16 rfl rfl)
theorem dX3_restore_41 : decode cX3_restore 41 = .ok (.iaload, 1) := dk_46 (dk_at dksX3_restore_1 17 rfl rfl)
theorem dX3_restore_42 : decode cX3_restore 42 = .ok (.ireturn, 1) := dk_172 (dk_at dksX3_restore_1 18 rfl rfl)
theorem q105 : (Jvm.Cond.initialized "TokenRingModel") ∈ lw_all := lw_g (lw_at lw_m1 11 rfl) rfl
theorem q1617 : (Jvm.Cond.selects "TokenRingModel" ({ cls := "java/lang/Object", name := "getClass", desc := "()Ljava/lang/Class;" } : Jvm.MethodName) ({ cls := "java/lang/Object", name := "getClass", desc := "()Ljava/lang/Class;" } : Jvm.MethodName)) ∈ lw_all := lw_g (lw_at lw_m7 83 rfl) rfl
theorem q2824 : (Jvm.Cond.instantiable "TokenRingModel" (26 : Nat)) ∈ lw_all := lw_g (lw_at lw_m12 90 rfl) rfl
theorem q2826 : (Jvm.Cond.instanceMethod ({ cls := "TokenRingModel", name := "<init>", desc := "()V" } : Jvm.MethodName)) ∈ lw_all := lw_g (lw_at lw_m12 92 rfl) rfl
theorem q2827 : (Jvm.Cond.code ({ cls := "TokenRingModel", name := "<init>", desc := "()V" } : Jvm.MethodName) prog_20_method_1_code (1 : Nat) (Option.none : Option Jvm.ClassFile.FieldType)) ∈ lw_all := lw_g (lw_at lw_m12 93 rfl) rfl
theorem q2828 : (Jvm.Cond.methodLink "TokenRingModel" (1 : Nat) ({ cls := "java/lang/Object", name := "<init>", desc := "()V" } : Jvm.MethodName)) ∈ lw_all := lw_g (lw_at lw_m12 94 rfl) rfl
theorem q2829 : (Jvm.Cond.fieldLink "TokenRingModel" (7 : Nat) "TokenRingModel" "now" "[I") ∈ lw_all := lw_g (lw_at lw_m12 95 rfl) rfl
theorem q2830 : (Jvm.Cond.fieldLink "TokenRingModel" (13 : Nat) "TokenRingModel" "before" "[I") ∈ lw_all := lw_g (lw_at lw_m12 96 rfl) rfl
theorem q2831 : (Jvm.Cond.fieldLink "TokenRingModel" (16 : Nat) "TokenRingModel" "aside" "[I") ∈ lw_all := lw_g (lw_at lw_m12 97 rfl) rfl
theorem q2832 : (Jvm.Cond.fieldLink "TokenRingModel" (19 : Nat) "TokenRingModel" "saved" "[I") ∈ lw_all := lw_g (lw_at lw_m12 98 rfl) rfl
theorem q2833 : (Jvm.Cond.fieldLink "TokenRingModel" (22 : Nat) "TokenRingModel" "changes" "[I") ∈ lw_all := lw_g (lw_at lw_m12 99 rfl) rfl
theorem q2834 : (Jvm.Cond.fieldLink "TokenRingModel" (25 : Nat) "TokenRingModel" "thrown" "I") ∈ lw_all := lw_g (lw_at lw_m12 100 rfl) rfl
theorem q2835 : (Jvm.Cond.fieldLink "TokenRingModel" (29 : Nat) "TokenRingModel" "changed" "I") ∈ lw_all := lw_g (lw_at lw_m12 101 rfl) rfl
theorem q2836 : (Jvm.Cond.fieldLink "TokenRingModel" (32 : Nat) "TokenRingModel" "why" "I") ∈ lw_all := lw_g (lw_at lw_m12 102 rfl) rfl
theorem q2837 : (Jvm.Cond.fieldLink "TokenRingModel" (35 : Nat) "TokenRingModel" "number" "I") ∈ lw_all := lw_g (lw_at lw_m12 103 rfl) rfl
theorem q2838 : (Jvm.Cond.fieldLink "TokenRingModel" (38 : Nat) "TokenRingModel" "reason" "I") ∈ lw_all := lw_g (lw_at lw_m12 104 rfl) rfl
theorem q2839 : (Jvm.Cond.fieldLink "TokenRingModel" (41 : Nat) "TokenRingModel" "detail" "I") ∈ lw_all := lw_g (lw_at lw_m12 105 rfl) rfl
theorem q2840 : (Jvm.Cond.fieldLink "TokenRingModel" (44 : Nat) "TokenRingModel" "causeWhy" "I") ∈ lw_all := lw_g (lw_at lw_m12 106 rfl) rfl
theorem q2841 : (Jvm.Cond.fieldLink "TokenRingModel" (47 : Nat) "TokenRingModel" "causeNumber" "I") ∈ lw_all := lw_g (lw_at lw_m12 107 rfl) rfl
theorem q2842 : (Jvm.Cond.fieldLink "TokenRingModel" (50 : Nat) "TokenRingModel" "faultAt" "I") ∈ lw_all := lw_g (lw_at lw_m12 108 rfl) rfl
theorem q2843 : (Jvm.Cond.fieldLink "TokenRingModel" (53 : Nat) "TokenRingModel" "isSaved" "Z") ∈ lw_all := lw_g (lw_at lw_m12 109 rfl) rfl
theorem q2844 : (Jvm.Cond.fieldLink "TokenRingModel" (57 : Nat) "TokenRingModel" "text" "[I") ∈ lw_all := lw_g (lw_at lw_m12 110 rfl) rfl
theorem q2845 : (Jvm.Cond.fieldLink "TokenRingModel" (60 : Nat) "TokenRingModel" "signs" "[I") ∈ lw_all := lw_g (lw_at lw_m12 111 rfl) rfl
theorem q2846 : (Jvm.Cond.fieldLink "TokenRingModel" (63 : Nat) "TokenRingModel" "a" "[I") ∈ lw_all := lw_g (lw_at lw_m12 112 rfl) rfl
theorem q2847 : (Jvm.Cond.fieldLink "TokenRingModel" (66 : Nat) "TokenRingModel" "b2" "[I") ∈ lw_all := lw_g (lw_at lw_m12 113 rfl) rfl
theorem q2848 : (Jvm.Cond.fieldLink "TokenRingModel" (69 : Nat) "TokenRingModel" "c3" "[I") ∈ lw_all := lw_g (lw_at lw_m12 114 rfl) rfl
theorem q2849 : (Jvm.Cond.fieldLink "TokenRingModel" (72 : Nat) "TokenRingModel" "fed" "I") ∈ lw_all := lw_g (lw_at lw_m12 115 rfl) rfl
theorem q2850 : (Jvm.Cond.fieldLink "TokenRingModel" (75 : Nat) "TokenRingModel" "at" "I") ∈ lw_all := lw_g (lw_at lw_m12 116 rfl) rfl
theorem q2851 : (Jvm.Cond.fieldLink "TokenRingModel" (78 : Nat) "TokenRingModel" "orders" "I") ∈ lw_all := lw_g (lw_at lw_m12 117 rfl) rfl
theorem q2852 : (Jvm.Cond.fieldLink "TokenRingModel" (81 : Nat) "TokenRingModel" "isWrong" "Z") ∈ lw_all := lw_g (lw_at lw_m12 118 rfl) rfl
theorem q2853 : (Jvm.Cond.fieldLink "TokenRingModel" (84 : Nat) "TokenRingModel" "line" "[I") ∈ lw_all := lw_g (lw_at lw_m12 119 rfl) rfl
theorem q2854 : (Jvm.Cond.fieldLink "TokenRingModel" (87 : Nat) "TokenRingModel" "lineLong" "I") ∈ lw_all := lw_g (lw_at lw_m12 120 rfl) rfl
theorem q2855 : (Jvm.Cond.laysFinal "TokenRingModel" "TokenRingModel" "now" "[I") ∈ lw_all := lw_g (lw_at lw_m12 121 rfl) rfl
theorem q2856 : (Jvm.Cond.soleField "TokenRingModel" "now") ∈ lw_all := lw_g (lw_at lw_m12 122 rfl) rfl
theorem q2857 : (Jvm.Cond.laysFinal "TokenRingModel" "TokenRingModel" "before" "[I") ∈ lw_all := lw_g (lw_at lw_m12 123 rfl) rfl
theorem q2858 : (Jvm.Cond.soleField "TokenRingModel" "before") ∈ lw_all := lw_g (lw_at lw_m12 124 rfl) rfl
theorem q2859 : (Jvm.Cond.laysFinal "TokenRingModel" "TokenRingModel" "aside" "[I") ∈ lw_all := lw_g (lw_at lw_m12 125 rfl) rfl
theorem q2860 : (Jvm.Cond.soleField "TokenRingModel" "aside") ∈ lw_all := lw_g (lw_at lw_m12 126 rfl) rfl
theorem q2861 : (Jvm.Cond.laysFinal "TokenRingModel" "TokenRingModel" "saved" "[I") ∈ lw_all := lw_g (lw_at lw_m12 127 rfl) rfl
theorem q2862 : (Jvm.Cond.soleField "TokenRingModel" "saved") ∈ lw_all := lw_g (lw_at lw_m12 128 rfl) rfl
theorem q2863 : (Jvm.Cond.laysFinal "TokenRingModel" "TokenRingModel" "changes" "[I") ∈ lw_all := lw_g (lw_at lw_m12 129 rfl) rfl
theorem q2864 : (Jvm.Cond.soleField "TokenRingModel" "changes") ∈ lw_all := lw_g (lw_at lw_m12 130 rfl) rfl
theorem q2865 : (Jvm.Cond.lays "TokenRingModel" "TokenRingModel" "thrown" "I") ∈ lw_all := lw_g (lw_at lw_m12 131 rfl) rfl
theorem q2866 : (Jvm.Cond.soleField "TokenRingModel" "thrown") ∈ lw_all := lw_g (lw_at lw_m12 132 rfl) rfl
theorem q2867 : (Jvm.Cond.lays "TokenRingModel" "TokenRingModel" "changed" "I") ∈ lw_all := lw_g (lw_at lw_m12 133 rfl) rfl
theorem q2868 : (Jvm.Cond.soleField "TokenRingModel" "changed") ∈ lw_all := lw_g (lw_at lw_m12 134 rfl) rfl
theorem q2869 : (Jvm.Cond.lays "TokenRingModel" "TokenRingModel" "why" "I") ∈ lw_all := lw_g (lw_at lw_m12 135 rfl) rfl
theorem q2870 : (Jvm.Cond.soleField "TokenRingModel" "why") ∈ lw_all := lw_g (lw_at lw_m12 136 rfl) rfl
theorem q2871 : (Jvm.Cond.lays "TokenRingModel" "TokenRingModel" "number" "I") ∈ lw_all := lw_g (lw_at lw_m12 137 rfl) rfl
theorem q2872 : (Jvm.Cond.soleField "TokenRingModel" "number") ∈ lw_all := lw_g (lw_at lw_m12 138 rfl) rfl
theorem q2873 : (Jvm.Cond.lays "TokenRingModel" "TokenRingModel" "reason" "I") ∈ lw_all := lw_g (lw_at lw_m12 139 rfl) rfl
theorem q2874 : (Jvm.Cond.soleField "TokenRingModel" "reason") ∈ lw_all := lw_g (lw_at lw_m12 140 rfl) rfl
theorem q2875 : (Jvm.Cond.lays "TokenRingModel" "TokenRingModel" "detail" "I") ∈ lw_all := lw_g (lw_at lw_m12 141 rfl) rfl
theorem q2876 : (Jvm.Cond.soleField "TokenRingModel" "detail") ∈ lw_all := lw_g (lw_at lw_m12 142 rfl) rfl
theorem q2877 : (Jvm.Cond.lays "TokenRingModel" "TokenRingModel" "causeWhy" "I") ∈ lw_all := lw_g (lw_at lw_m12 143 rfl) rfl
theorem q2878 : (Jvm.Cond.soleField "TokenRingModel" "causeWhy") ∈ lw_all := lw_g (lw_at lw_m12 144 rfl) rfl
theorem q2879 : (Jvm.Cond.lays "TokenRingModel" "TokenRingModel" "causeNumber" "I") ∈ lw_all := lw_g (lw_at lw_m12 145 rfl) rfl
theorem q2880 : (Jvm.Cond.soleField "TokenRingModel" "causeNumber") ∈ lw_all := lw_g (lw_at lw_m12 146 rfl) rfl
theorem q2881 : (Jvm.Cond.lays "TokenRingModel" "TokenRingModel" "faultAt" "I") ∈ lw_all := lw_g (lw_at lw_m12 147 rfl) rfl
theorem q2882 : (Jvm.Cond.soleField "TokenRingModel" "faultAt") ∈ lw_all := lw_g (lw_at lw_m12 148 rfl) rfl
theorem q2883 : (Jvm.Cond.lays "TokenRingModel" "TokenRingModel" "isSaved" "Z") ∈ lw_all := lw_g (lw_at lw_m12 149 rfl) rfl
theorem q2884 : (Jvm.Cond.soleField "TokenRingModel" "isSaved") ∈ lw_all := lw_g (lw_at lw_m12 150 rfl) rfl
theorem q2885 : (Jvm.Cond.laysFinal "TokenRingModel" "TokenRingModel" "text" "[I") ∈ lw_all := lw_g (lw_at lw_m12 151 rfl) rfl
theorem q2886 : (Jvm.Cond.soleField "TokenRingModel" "text") ∈ lw_all := lw_g (lw_at lw_m12 152 rfl) rfl
theorem q2887 : (Jvm.Cond.laysFinal "TokenRingModel" "TokenRingModel" "signs" "[I") ∈ lw_all := lw_g (lw_at lw_m12 153 rfl) rfl
theorem q2888 : (Jvm.Cond.soleField "TokenRingModel" "signs") ∈ lw_all := lw_g (lw_at lw_m12 154 rfl) rfl
theorem q2889 : (Jvm.Cond.laysFinal "TokenRingModel" "TokenRingModel" "a" "[I") ∈ lw_all := lw_g (lw_at lw_m12 155 rfl) rfl
theorem q2890 : (Jvm.Cond.soleField "TokenRingModel" "a") ∈ lw_all := lw_g (lw_at lw_m12 156 rfl) rfl
theorem q2891 : (Jvm.Cond.laysFinal "TokenRingModel" "TokenRingModel" "b2" "[I") ∈ lw_all := lw_g (lw_at lw_m12 157 rfl) rfl
theorem q2892 : (Jvm.Cond.soleField "TokenRingModel" "b2") ∈ lw_all := lw_g (lw_at lw_m12 158 rfl) rfl
theorem q2893 : (Jvm.Cond.laysFinal "TokenRingModel" "TokenRingModel" "c3" "[I") ∈ lw_all := lw_g (lw_at lw_m12 159 rfl) rfl
theorem q2894 : (Jvm.Cond.soleField "TokenRingModel" "c3") ∈ lw_all := lw_g (lw_at lw_m12 160 rfl) rfl
theorem q2895 : (Jvm.Cond.lays "TokenRingModel" "TokenRingModel" "fed" "I") ∈ lw_all := lw_g (lw_at lw_m12 161 rfl) rfl
theorem q2896 : (Jvm.Cond.soleField "TokenRingModel" "fed") ∈ lw_all := lw_g (lw_at lw_m12 162 rfl) rfl
theorem q2897 : (Jvm.Cond.lays "TokenRingModel" "TokenRingModel" "at" "I") ∈ lw_all := lw_g (lw_at lw_m12 163 rfl) rfl
theorem q2898 : (Jvm.Cond.soleField "TokenRingModel" "at") ∈ lw_all := lw_g (lw_at lw_m12 164 rfl) rfl
theorem q2899 : (Jvm.Cond.lays "TokenRingModel" "TokenRingModel" "orders" "I") ∈ lw_all := lw_g (lw_at lw_m12 165 rfl) rfl
theorem q2900 : (Jvm.Cond.soleField "TokenRingModel" "orders") ∈ lw_all := lw_g (lw_at lw_m12 166 rfl) rfl
theorem q2901 : (Jvm.Cond.lays "TokenRingModel" "TokenRingModel" "isWrong" "Z") ∈ lw_all := lw_g (lw_at lw_m12 167 rfl) rfl
theorem q2902 : (Jvm.Cond.soleField "TokenRingModel" "isWrong") ∈ lw_all := lw_g (lw_at lw_m12 168 rfl) rfl
theorem q2903 : (Jvm.Cond.laysFinal "TokenRingModel" "TokenRingModel" "line" "[I") ∈ lw_all := lw_g (lw_at lw_m12 169 rfl) rfl
theorem q2904 : (Jvm.Cond.soleField "TokenRingModel" "line") ∈ lw_all := lw_g (lw_at lw_m12 170 rfl) rfl
theorem q2905 : (Jvm.Cond.lays "TokenRingModel" "TokenRingModel" "lineLong" "I") ∈ lw_all := lw_g (lw_at lw_m12 171 rfl) rfl
theorem q2906 : (Jvm.Cond.soleField "TokenRingModel" "lineLong") ∈ lw_all := lw_g (lw_at lw_m12 172 rfl) rfl
theorem q2907 : (Jvm.Cond.superclass "TokenRingModel" "java/lang/Object") ∈ lw_all := lw_g (lw_at lw_m12 173 rfl) rfl
theorem q2910 : (Jvm.Cond.instanceMethod ({ cls := "TokenRingModel", name := "thrown", desc := "()I" } : Jvm.MethodName)) ∈ lw_all := lw_g (lw_at lw_m12 176 rfl) rfl
theorem q2911 : (Jvm.Cond.selects "TokenRingModel" ({ cls := "TokenRingModel", name := "thrown", desc := "()I" } : Jvm.MethodName) ({ cls := "TokenRingModel", name := "thrown", desc := "()I" } : Jvm.MethodName)) ∈ lw_all := lw_g (lw_at lw_m12 177 rfl) rfl
theorem q2912 : (Jvm.Cond.code ({ cls := "TokenRingModel", name := "thrown", desc := "()I" } : Jvm.MethodName) prog_20_method_2_code (1 : Nat) (Option.some Jvm.ClassFile.FieldType.int)) ∈ lw_all := lw_g (lw_at lw_m12 178 rfl) rfl
theorem q2914 : (Jvm.Cond.instanceMethod ({ cls := "TokenRingModel", name := "join", desc := "(I)I" } : Jvm.MethodName)) ∈ lw_all := lw_g (lw_at lw_m12 180 rfl) rfl
theorem q2915 : (Jvm.Cond.selects "TokenRingModel" ({ cls := "TokenRingModel", name := "join", desc := "(I)I" } : Jvm.MethodName) ({ cls := "TokenRingModel", name := "join", desc := "(I)I" } : Jvm.MethodName)) ∈ lw_all := lw_g (lw_at lw_m12 181 rfl) rfl
theorem q2916 : (Jvm.Cond.code ({ cls := "TokenRingModel", name := "join", desc := "(I)I" } : Jvm.MethodName) prog_20_method_19_code (2 : Nat) (Option.some Jvm.ClassFile.FieldType.int)) ∈ lw_all := lw_g (lw_at lw_m12 182 rfl) rfl
theorem q2917 : (Jvm.Cond.methodLink "TokenRingModel" (121 : Nat) ({ cls := "TokenRingModel", name := "begins", desc := "()V" } : Jvm.MethodName)) ∈ lw_all := lw_g (lw_at lw_m12 183 rfl) rfl
theorem q2918 : (Jvm.Cond.privateMethod ({ cls := "TokenRingModel", name := "begins", desc := "()V" } : Jvm.MethodName)) ∈ lw_tbl := lw_at lw_m12 184 rfl
theorem q2919 : (Jvm.Cond.instanceMethod ({ cls := "TokenRingModel", name := "begins", desc := "()V" } : Jvm.MethodName)) ∈ lw_all := lw_g (lw_at lw_m12 185 rfl) rfl
theorem q2920 : (Jvm.Cond.code ({ cls := "TokenRingModel", name := "begins", desc := "()V" } : Jvm.MethodName) prog_20_method_9_code (1 : Nat) (Option.none : Option Jvm.ClassFile.FieldType)) ∈ lw_all := lw_g (lw_at lw_m12 186 rfl) rfl
theorem q2921 : (Jvm.Cond.methodLink "TokenRingModel" (94 : Nat) ({ cls := "TokenRingModel", name := "copies", desc := "([II[II)V" } : Jvm.MethodName)) ∈ lw_all := lw_g (lw_at lw_m12 187 rfl) rfl
theorem q2922 : (Jvm.Cond.static ({ cls := "TokenRingModel", name := "copies", desc := "([II[II)V" } : Jvm.MethodName)) ∈ lw_all := lw_g (lw_at lw_m12 188 rfl) rfl
theorem q2923 : (Jvm.Cond.code ({ cls := "TokenRingModel", name := "copies", desc := "([II[II)V" } : Jvm.MethodName) prog_20_method_5_code (5 : Nat) (Option.none : Option Jvm.ClassFile.FieldType)) ∈ lw_all := lw_g (lw_at lw_m12 189 rfl) rfl
theorem q2924 : (Jvm.Cond.methodLink "TokenRingModel" (124 : Nat) ({ cls := "TokenRingModel", name := "isRefusedJoin", desc := "(I)Z" } : Jvm.MethodName)) ∈ lw_all := lw_g (lw_at lw_m12 190 rfl) rfl
theorem q2925 : (Jvm.Cond.privateMethod ({ cls := "TokenRingModel", name := "isRefusedJoin", desc := "(I)Z" } : Jvm.MethodName)) ∈ lw_tbl := lw_at lw_m12 191 rfl
theorem q2926 : (Jvm.Cond.instanceMethod ({ cls := "TokenRingModel", name := "isRefusedJoin", desc := "(I)Z" } : Jvm.MethodName)) ∈ lw_all := lw_g (lw_at lw_m12 192 rfl) rfl
theorem q2927 : (Jvm.Cond.code ({ cls := "TokenRingModel", name := "isRefusedJoin", desc := "(I)Z" } : Jvm.MethodName) prog_20_method_17_code (2 : Nat) (Option.some Jvm.ClassFile.FieldType.boolean)) ∈ lw_all := lw_g (lw_at lw_m12 193 rfl) rfl
theorem q2928 : (Jvm.Cond.methodLink "TokenRingModel" (113 : Nat) ({ cls := "TokenRingModel", name := "isAddress", desc := "(I)Z" } : Jvm.MethodName)) ∈ lw_all := lw_g (lw_at lw_m12 194 rfl) rfl
theorem q2929 : (Jvm.Cond.static ({ cls := "TokenRingModel", name := "isAddress", desc := "(I)Z" } : Jvm.MethodName)) ∈ lw_all := lw_g (lw_at lw_m12 195 rfl) rfl
theorem q2930 : (Jvm.Cond.code ({ cls := "TokenRingModel", name := "isAddress", desc := "(I)Z" } : Jvm.MethodName) prog_20_method_15_code (1 : Nat) (Option.some Jvm.ClassFile.FieldType.boolean)) ∈ lw_all := lw_g (lw_at lw_m12 196 rfl) rfl
theorem q2931 : (Jvm.Cond.methodLink "TokenRingModel" (102 : Nat) ({ cls := "TokenRingModel", name := "in", desc := "(III)Z" } : Jvm.MethodName)) ∈ lw_all := lw_g (lw_at lw_m12 197 rfl) rfl
theorem q2932 : (Jvm.Cond.static ({ cls := "TokenRingModel", name := "in", desc := "(III)Z" } : Jvm.MethodName)) ∈ lw_all := lw_g (lw_at lw_m12 198 rfl) rfl
theorem q2933 : (Jvm.Cond.code ({ cls := "TokenRingModel", name := "in", desc := "(III)Z" } : Jvm.MethodName) prog_20_method_3_code (3 : Nat) (Option.some Jvm.ClassFile.FieldType.boolean)) ∈ lw_all := lw_g (lw_at lw_m12 199 rfl) rfl
theorem q2934 : (Jvm.Cond.methodLink "TokenRingModel" (109 : Nat) ({ cls := "TokenRingModel", name := "isBad", desc := "(II)Z" } : Jvm.MethodName)) ∈ lw_all := lw_g (lw_at lw_m12 200 rfl) rfl
theorem q2935 : (Jvm.Cond.privateMethod ({ cls := "TokenRingModel", name := "isBad", desc := "(II)Z" } : Jvm.MethodName)) ∈ lw_tbl := lw_at lw_m12 201 rfl
theorem q2936 : (Jvm.Cond.instanceMethod ({ cls := "TokenRingModel", name := "isBad", desc := "(II)Z" } : Jvm.MethodName)) ∈ lw_all := lw_g (lw_at lw_m12 202 rfl) rfl
theorem q2937 : (Jvm.Cond.code ({ cls := "TokenRingModel", name := "isBad", desc := "(II)Z" } : Jvm.MethodName) prog_20_method_7_code (3 : Nat) (Option.some Jvm.ClassFile.FieldType.boolean)) ∈ lw_all := lw_g (lw_at lw_m12 203 rfl) rfl
theorem q2938 : (Jvm.Cond.methodLink "TokenRingModel" (106 : Nat) ({ cls := "TokenRingModel", name := "placeOf", desc := "(I)I" } : Jvm.MethodName)) ∈ lw_all := lw_g (lw_at lw_m12 204 rfl) rfl
theorem q2939 : (Jvm.Cond.privateMethod ({ cls := "TokenRingModel", name := "placeOf", desc := "(I)I" } : Jvm.MethodName)) ∈ lw_tbl := lw_at lw_m12 205 rfl
theorem q2940 : (Jvm.Cond.instanceMethod ({ cls := "TokenRingModel", name := "placeOf", desc := "(I)I" } : Jvm.MethodName)) ∈ lw_all := lw_g (lw_at lw_m12 206 rfl) rfl
theorem q2941 : (Jvm.Cond.code ({ cls := "TokenRingModel", name := "placeOf", desc := "(I)I" } : Jvm.MethodName) prog_20_method_14_code (3 : Nat) (Option.some Jvm.ClassFile.FieldType.int)) ∈ lw_all := lw_g (lw_at lw_m12 207 rfl) rfl
theorem q2942 : (Jvm.Cond.methodLink "TokenRingModel" (98 : Nat) ({ cls := "TokenRingModel", name := "sv", desc := "(II)I" } : Jvm.MethodName)) ∈ lw_all := lw_g (lw_at lw_m12 208 rfl) rfl
theorem q2943 : (Jvm.Cond.privateMethod ({ cls := "TokenRingModel", name := "sv", desc := "(II)I" } : Jvm.MethodName)) ∈ lw_tbl := lw_at lw_m12 209 rfl
theorem q2944 : (Jvm.Cond.instanceMethod ({ cls := "TokenRingModel", name := "sv", desc := "(II)I" } : Jvm.MethodName)) ∈ lw_all := lw_g (lw_at lw_m12 210 rfl) rfl
theorem q2945 : (Jvm.Cond.code ({ cls := "TokenRingModel", name := "sv", desc := "(II)I" } : Jvm.MethodName) prog_20_method_11_code (3 : Nat) (Option.some Jvm.ClassFile.FieldType.int)) ∈ lw_all := lw_g (lw_at lw_m12 211 rfl) rfl
theorem q2946 : (Jvm.Cond.methodLink "TokenRingModel" (127 : Nat) ({ cls := "TokenRingModel", name := "refused", desc := "()I" } : Jvm.MethodName)) ∈ lw_all := lw_g (lw_at lw_m12 212 rfl) rfl
theorem q2947 : (Jvm.Cond.privateMethod ({ cls := "TokenRingModel", name := "refused", desc := "()I" } : Jvm.MethodName)) ∈ lw_tbl := lw_at lw_m12 213 rfl
theorem q2948 : (Jvm.Cond.instanceMethod ({ cls := "TokenRingModel", name := "refused", desc := "()I" } : Jvm.MethodName)) ∈ lw_all := lw_g (lw_at lw_m12 214 rfl) rfl
theorem q2949 : (Jvm.Cond.code ({ cls := "TokenRingModel", name := "refused", desc := "()I" } : Jvm.MethodName) prog_20_method_8_code (1 : Nat) (Option.some Jvm.ClassFile.FieldType.int)) ∈ lw_all := lw_g (lw_at lw_m12 215 rfl) rfl
theorem q2950 : (Jvm.Cond.methodLink "TokenRingModel" (90 : Nat) ({ cls := "TokenRingModel", name := "no", desc := "(I)I" } : Jvm.MethodName)) ∈ lw_all := lw_g (lw_at lw_m12 216 rfl) rfl
theorem q2951 : (Jvm.Cond.privateMethod ({ cls := "TokenRingModel", name := "no", desc := "(I)I" } : Jvm.MethodName)) ∈ lw_tbl := lw_at lw_m12 217 rfl
theorem q2952 : (Jvm.Cond.instanceMethod ({ cls := "TokenRingModel", name := "no", desc := "(I)I" } : Jvm.MethodName)) ∈ lw_all := lw_g (lw_at lw_m12 218 rfl) rfl
theorem q2953 : (Jvm.Cond.code ({ cls := "TokenRingModel", name := "no", desc := "(I)I" } : Jvm.MethodName) prog_20_method_6_code (2 : Nat) (Option.some Jvm.ClassFile.FieldType.int)) ∈ lw_all := lw_g (lw_at lw_m12 219 rfl) rfl
theorem q2954 : (Jvm.Cond.methodLink "TokenRingModel" (131 : Nat) ({ cls := "TokenRingModel", name := "joins", desc := "(I)I" } : Jvm.MethodName)) ∈ lw_all := lw_g (lw_at lw_m12 220 rfl) rfl
theorem q2955 : (Jvm.Cond.privateMethod ({ cls := "TokenRingModel", name := "joins", desc := "(I)I" } : Jvm.MethodName)) ∈ lw_tbl := lw_at lw_m12 221 rfl
theorem q2956 : (Jvm.Cond.instanceMethod ({ cls := "TokenRingModel", name := "joins", desc := "(I)I" } : Jvm.MethodName)) ∈ lw_all := lw_g (lw_at lw_m12 222 rfl) rfl
theorem q2957 : (Jvm.Cond.code ({ cls := "TokenRingModel", name := "joins", desc := "(I)I" } : Jvm.MethodName) prog_20_method_18_code (4 : Nat) (Option.some Jvm.ClassFile.FieldType.int)) ∈ lw_all := lw_g (lw_at lw_m12 223 rfl) rfl
theorem q2958 : (Jvm.Cond.methodLink "TokenRingModel" (117 : Nat) ({ cls := "TokenRingModel", name := "ls", desc := "(III)V" } : Jvm.MethodName)) ∈ lw_all := lw_g (lw_at lw_m12 224 rfl) rfl
theorem q2959 : (Jvm.Cond.privateMethod ({ cls := "TokenRingModel", name := "ls", desc := "(III)V" } : Jvm.MethodName)) ∈ lw_tbl := lw_at lw_m12 225 rfl
theorem q2960 : (Jvm.Cond.instanceMethod ({ cls := "TokenRingModel", name := "ls", desc := "(III)V" } : Jvm.MethodName)) ∈ lw_all := lw_g (lw_at lw_m12 226 rfl) rfl
theorem q2961 : (Jvm.Cond.code ({ cls := "TokenRingModel", name := "ls", desc := "(III)V" } : Jvm.MethodName) prog_20_method_12_code (4 : Nat) (Option.none : Option Jvm.ClassFile.FieldType)) ∈ lw_all := lw_g (lw_at lw_m12 227 rfl) rfl
theorem q2962 : (Jvm.Cond.methodLink "TokenRingModel" (134 : Nat) ({ cls := "TokenRingModel", name := "keeps", desc := "(I)I" } : Jvm.MethodName)) ∈ lw_all := lw_g (lw_at lw_m12 228 rfl) rfl
theorem q2963 : (Jvm.Cond.privateMethod ({ cls := "TokenRingModel", name := "keeps", desc := "(I)I" } : Jvm.MethodName)) ∈ lw_tbl := lw_at lw_m12 229 rfl
theorem q2964 : (Jvm.Cond.instanceMethod ({ cls := "TokenRingModel", name := "keeps", desc := "(I)I" } : Jvm.MethodName)) ∈ lw_all := lw_g (lw_at lw_m12 230 rfl) rfl
theorem q2965 : (Jvm.Cond.code ({ cls := "TokenRingModel", name := "keeps", desc := "(I)I" } : Jvm.MethodName) prog_20_method_10_code (3 : Nat) (Option.some Jvm.ClassFile.FieldType.int)) ∈ lw_all := lw_g (lw_at lw_m12 231 rfl) rfl
theorem q2967 : (Jvm.Cond.instanceMethod ({ cls := "TokenRingModel", name := "leave", desc := "(I)I" } : Jvm.MethodName)) ∈ lw_all := lw_g (lw_at lw_m12 233 rfl) rfl
theorem q2968 : (Jvm.Cond.selects "TokenRingModel" ({ cls := "TokenRingModel", name := "leave", desc := "(I)I" } : Jvm.MethodName) ({ cls := "TokenRingModel", name := "leave", desc := "(I)I" } : Jvm.MethodName)) ∈ lw_all := lw_g (lw_at lw_m12 234 rfl) rfl
theorem q2969 : (Jvm.Cond.code ({ cls := "TokenRingModel", name := "leave", desc := "(I)I" } : Jvm.MethodName) prog_20_method_23_code (2 : Nat) (Option.some Jvm.ClassFile.FieldType.int)) ∈ lw_all := lw_g (lw_at lw_m12 235 rfl) rfl
theorem q2970 : (Jvm.Cond.methodLink "TokenRingModel" (143 : Nat) ({ cls := "TokenRingModel", name := "isOut", desc := "(I)Z" } : Jvm.MethodName)) ∈ lw_all := lw_g (lw_at lw_m12 236 rfl) rfl
theorem q2971 : (Jvm.Cond.privateMethod ({ cls := "TokenRingModel", name := "isOut", desc := "(I)Z" } : Jvm.MethodName)) ∈ lw_tbl := lw_at lw_m12 237 rfl
theorem q2972 : (Jvm.Cond.instanceMethod ({ cls := "TokenRingModel", name := "isOut", desc := "(I)Z" } : Jvm.MethodName)) ∈ lw_all := lw_g (lw_at lw_m12 238 rfl) rfl
theorem q2973 : (Jvm.Cond.code ({ cls := "TokenRingModel", name := "isOut", desc := "(I)Z" } : Jvm.MethodName) prog_20_method_16_code (2 : Nat) (Option.some Jvm.ClassFile.FieldType.boolean)) ∈ lw_all := lw_g (lw_at lw_m12 239 rfl) rfl
theorem q2974 : (Jvm.Cond.methodLink "TokenRingModel" (146 : Nat) ({ cls := "TokenRingModel", name := "leaves", desc := "(I)I" } : Jvm.MethodName)) ∈ lw_all := lw_g (lw_at lw_m13 0 rfl) rfl
theorem q2975 : (Jvm.Cond.privateMethod ({ cls := "TokenRingModel", name := "leaves", desc := "(I)I" } : Jvm.MethodName)) ∈ lw_tbl := lw_at lw_m13 1 rfl
theorem q2976 : (Jvm.Cond.instanceMethod ({ cls := "TokenRingModel", name := "leaves", desc := "(I)I" } : Jvm.MethodName)) ∈ lw_all := lw_g (lw_at lw_m13 2 rfl) rfl
theorem q2977 : (Jvm.Cond.code ({ cls := "TokenRingModel", name := "leaves", desc := "(I)I" } : Jvm.MethodName) prog_20_method_22_code (6 : Nat) (Option.some Jvm.ClassFile.FieldType.int)) ∈ lw_all := lw_g (lw_at lw_m13 3 rfl) rfl
theorem q2978 : (Jvm.Cond.methodLink "TokenRingModel" (137 : Nat) ({ cls := "TokenRingModel", name := "losesIt", desc := "()I" } : Jvm.MethodName)) ∈ lw_all := lw_g (lw_at lw_m13 4 rfl) rfl
theorem q2979 : (Jvm.Cond.privateMethod ({ cls := "TokenRingModel", name := "losesIt", desc := "()I" } : Jvm.MethodName)) ∈ lw_tbl := lw_at lw_m13 5 rfl
theorem q2980 : (Jvm.Cond.instanceMethod ({ cls := "TokenRingModel", name := "losesIt", desc := "()I" } : Jvm.MethodName)) ∈ lw_all := lw_g (lw_at lw_m13 6 rfl) rfl
theorem q2981 : (Jvm.Cond.code ({ cls := "TokenRingModel", name := "losesIt", desc := "()I" } : Jvm.MethodName) prog_20_method_20_code (2 : Nat) (Option.some Jvm.ClassFile.FieldType.int)) ∈ lw_all := lw_g (lw_at lw_m13 7 rfl) rfl
theorem q2982 : (Jvm.Cond.methodLink "TokenRingModel" (140 : Nat) ({ cls := "TokenRingModel", name := "nextOf", desc := "(I)I" } : Jvm.MethodName)) ∈ lw_all := lw_g (lw_at lw_m13 8 rfl) rfl
theorem q2983 : (Jvm.Cond.privateMethod ({ cls := "TokenRingModel", name := "nextOf", desc := "(I)I" } : Jvm.MethodName)) ∈ lw_tbl := lw_at lw_m13 9 rfl
theorem q2984 : (Jvm.Cond.instanceMethod ({ cls := "TokenRingModel", name := "nextOf", desc := "(I)I" } : Jvm.MethodName)) ∈ lw_all := lw_g (lw_at lw_m13 10 rfl) rfl
theorem q2985 : (Jvm.Cond.code ({ cls := "TokenRingModel", name := "nextOf", desc := "(I)I" } : Jvm.MethodName) prog_20_method_21_code (2 : Nat) (Option.some Jvm.ClassFile.FieldType.int)) ∈ lw_all := lw_g (lw_at lw_m13 11 rfl) rfl
theorem q2987 : (Jvm.Cond.instanceMethod ({ cls := "TokenRingModel", name := "queue", desc := "(IIII)I" } : Jvm.MethodName)) ∈ lw_all := lw_g (lw_at lw_m13 13 rfl) rfl
theorem q2988 : (Jvm.Cond.selects "TokenRingModel" ({ cls := "TokenRingModel", name := "queue", desc := "(IIII)I" } : Jvm.MethodName) ({ cls := "TokenRingModel", name := "queue", desc := "(IIII)I" } : Jvm.MethodName)) ∈ lw_all := lw_g (lw_at lw_m13 14 rfl) rfl
theorem q2989 : (Jvm.Cond.code ({ cls := "TokenRingModel", name := "queue", desc := "(IIII)I" } : Jvm.MethodName) prog_20_method_26_code (5 : Nat) (Option.some Jvm.ClassFile.FieldType.int)) ∈ lw_all := lw_g (lw_at lw_m13 15 rfl) rfl
theorem q2990 : (Jvm.Cond.methodLink "TokenRingModel" (153 : Nat) ({ cls := "TokenRingModel", name := "isRefusedQueue", desc := "(IIII)Z" } : Jvm.MethodName)) ∈ lw_all := lw_g (lw_at lw_m13 16 rfl) rfl
theorem q2991 : (Jvm.Cond.privateMethod ({ cls := "TokenRingModel", name := "isRefusedQueue", desc := "(IIII)Z" } : Jvm.MethodName)) ∈ lw_tbl := lw_at lw_m13 17 rfl
theorem q2992 : (Jvm.Cond.instanceMethod ({ cls := "TokenRingModel", name := "isRefusedQueue", desc := "(IIII)Z" } : Jvm.MethodName)) ∈ lw_all := lw_g (lw_at lw_m13 18 rfl) rfl
theorem q2993 : (Jvm.Cond.code ({ cls := "TokenRingModel", name := "isRefusedQueue", desc := "(IIII)Z" } : Jvm.MethodName) prog_20_method_24_code (5 : Nat) (Option.some Jvm.ClassFile.FieldType.boolean)) ∈ lw_all := lw_g (lw_at lw_m13 19 rfl) rfl
theorem q2994 : (Jvm.Cond.methodLink "TokenRingModel" (157 : Nat) ({ cls := "TokenRingModel", name := "queues", desc := "(IIII)I" } : Jvm.MethodName)) ∈ lw_all := lw_g (lw_at lw_m13 20 rfl) rfl
theorem q2995 : (Jvm.Cond.privateMethod ({ cls := "TokenRingModel", name := "queues", desc := "(IIII)I" } : Jvm.MethodName)) ∈ lw_tbl := lw_at lw_m13 21 rfl
theorem q2996 : (Jvm.Cond.instanceMethod ({ cls := "TokenRingModel", name := "queues", desc := "(IIII)I" } : Jvm.MethodName)) ∈ lw_all := lw_g (lw_at lw_m13 22 rfl) rfl
theorem q2997 : (Jvm.Cond.code ({ cls := "TokenRingModel", name := "queues", desc := "(IIII)I" } : Jvm.MethodName) prog_20_method_25_code (8 : Nat) (Option.some Jvm.ClassFile.FieldType.int)) ∈ lw_all := lw_g (lw_at lw_m13 23 rfl) rfl
theorem q2998 : (Jvm.Cond.methodLink "TokenRingModel" (149 : Nat) ({ cls := "TokenRingModel", name := "qv", desc := "(III)I" } : Jvm.MethodName)) ∈ lw_all := lw_g (lw_at lw_m13 24 rfl) rfl
theorem q2999 : (Jvm.Cond.privateMethod ({ cls := "TokenRingModel", name := "qv", desc := "(III)I" } : Jvm.MethodName)) ∈ lw_tbl := lw_at lw_m13 25 rfl
theorem q3000 : (Jvm.Cond.instanceMethod ({ cls := "TokenRingModel", name := "qv", desc := "(III)I" } : Jvm.MethodName)) ∈ lw_all := lw_g (lw_at lw_m13 26 rfl) rfl
theorem q3001 : (Jvm.Cond.code ({ cls := "TokenRingModel", name := "qv", desc := "(III)I" } : Jvm.MethodName) prog_20_method_13_code (4 : Nat) (Option.some Jvm.ClassFile.FieldType.int)) ∈ lw_all := lw_g (lw_at lw_m13 27 rfl) rfl
theorem q3003 : (Jvm.Cond.instanceMethod ({ cls := "TokenRingModel", name := "drop", desc := "(I)I" } : Jvm.MethodName)) ∈ lw_all := lw_g (lw_at lw_m13 29 rfl) rfl
theorem q3004 : (Jvm.Cond.selects "TokenRingModel" ({ cls := "TokenRingModel", name := "drop", desc := "(I)I" } : Jvm.MethodName) ({ cls := "TokenRingModel", name := "drop", desc := "(I)I" } : Jvm.MethodName)) ∈ lw_all := lw_g (lw_at lw_m13 30 rfl) rfl
theorem q3005 : (Jvm.Cond.code ({ cls := "TokenRingModel", name := "drop", desc := "(I)I" } : Jvm.MethodName) prog_20_method_27_code (4 : Nat) (Option.some Jvm.ClassFile.FieldType.int)) ∈ lw_all := lw_g (lw_at lw_m13 31 rfl) rfl
theorem q3007 : (Jvm.Cond.instanceMethod ({ cls := "TokenRingModel", name := "monitor", desc := "(I)I" } : Jvm.MethodName)) ∈ lw_all := lw_g (lw_at lw_m13 33 rfl) rfl
theorem q3008 : (Jvm.Cond.selects "TokenRingModel" ({ cls := "TokenRingModel", name := "monitor", desc := "(I)I" } : Jvm.MethodName) ({ cls := "TokenRingModel", name := "monitor", desc := "(I)I" } : Jvm.MethodName)) ∈ lw_all := lw_g (lw_at lw_m13 34 rfl) rfl
theorem q3009 : (Jvm.Cond.code ({ cls := "TokenRingModel", name := "monitor", desc := "(I)I" } : Jvm.MethodName) prog_20_method_30_code (2 : Nat) (Option.some Jvm.ClassFile.FieldType.int)) ∈ lw_all := lw_g (lw_at lw_m13 35 rfl) rfl
theorem q3010 : (Jvm.Cond.methodLink "TokenRingModel" (161 : Nat) ({ cls := "TokenRingModel", name := "isRefusedMonitor", desc := "(I)Z" } : Jvm.MethodName)) ∈ lw_all := lw_g (lw_at lw_m13 36 rfl) rfl
theorem q3011 : (Jvm.Cond.privateMethod ({ cls := "TokenRingModel", name := "isRefusedMonitor", desc := "(I)Z" } : Jvm.MethodName)) ∈ lw_tbl := lw_at lw_m13 37 rfl
theorem q3012 : (Jvm.Cond.instanceMethod ({ cls := "TokenRingModel", name := "isRefusedMonitor", desc := "(I)Z" } : Jvm.MethodName)) ∈ lw_all := lw_g (lw_at lw_m13 38 rfl) rfl
theorem q3013 : (Jvm.Cond.code ({ cls := "TokenRingModel", name := "isRefusedMonitor", desc := "(I)Z" } : Jvm.MethodName) prog_20_method_28_code (2 : Nat) (Option.some Jvm.ClassFile.FieldType.boolean)) ∈ lw_all := lw_g (lw_at lw_m13 39 rfl) rfl
theorem q3014 : (Jvm.Cond.methodLink "TokenRingModel" (164 : Nat) ({ cls := "TokenRingModel", name := "monitors", desc := "(I)I" } : Jvm.MethodName)) ∈ lw_all := lw_g (lw_at lw_m13 40 rfl) rfl
theorem q3015 : (Jvm.Cond.privateMethod ({ cls := "TokenRingModel", name := "monitors", desc := "(I)I" } : Jvm.MethodName)) ∈ lw_tbl := lw_at lw_m13 41 rfl
theorem q3016 : (Jvm.Cond.instanceMethod ({ cls := "TokenRingModel", name := "monitors", desc := "(I)I" } : Jvm.MethodName)) ∈ lw_all := lw_g (lw_at lw_m13 42 rfl) rfl
theorem q3017 : (Jvm.Cond.code ({ cls := "TokenRingModel", name := "monitors", desc := "(I)I" } : Jvm.MethodName) prog_20_method_29_code (3 : Nat) (Option.some Jvm.ClassFile.FieldType.int)) ∈ lw_all := lw_g (lw_at lw_m13 43 rfl) rfl
theorem q3019 : (Jvm.Cond.instanceMethod ({ cls := "TokenRingModel", name := "token", desc := "(I)I" } : Jvm.MethodName)) ∈ lw_all := lw_g (lw_at lw_m13 45 rfl) rfl
theorem q3020 : (Jvm.Cond.selects "TokenRingModel" ({ cls := "TokenRingModel", name := "token", desc := "(I)I" } : Jvm.MethodName) ({ cls := "TokenRingModel", name := "token", desc := "(I)I" } : Jvm.MethodName)) ∈ lw_all := lw_g (lw_at lw_m13 46 rfl) rfl
theorem q3021 : (Jvm.Cond.code ({ cls := "TokenRingModel", name := "token", desc := "(I)I" } : Jvm.MethodName) prog_20_method_33_code (2 : Nat) (Option.some Jvm.ClassFile.FieldType.int)) ∈ lw_all := lw_g (lw_at lw_m13 47 rfl) rfl
theorem q3022 : (Jvm.Cond.methodLink "TokenRingModel" (167 : Nat) ({ cls := "TokenRingModel", name := "comesToken", desc := "(II)V" } : Jvm.MethodName)) ∈ lw_all := lw_g (lw_at lw_m13 48 rfl) rfl
theorem q3023 : (Jvm.Cond.privateMethod ({ cls := "TokenRingModel", name := "comesToken", desc := "(II)V" } : Jvm.MethodName)) ∈ lw_tbl := lw_at lw_m13 49 rfl
theorem q3024 : (Jvm.Cond.instanceMethod ({ cls := "TokenRingModel", name := "comesToken", desc := "(II)V" } : Jvm.MethodName)) ∈ lw_all := lw_g (lw_at lw_m13 50 rfl) rfl
theorem q3025 : (Jvm.Cond.code ({ cls := "TokenRingModel", name := "comesToken", desc := "(II)V" } : Jvm.MethodName) prog_20_method_31_code (3 : Nat) (Option.none : Option Jvm.ClassFile.FieldType)) ∈ lw_all := lw_g (lw_at lw_m13 51 rfl) rfl
theorem q3026 : (Jvm.Cond.methodLink "TokenRingModel" (171 : Nat) ({ cls := "TokenRingModel", name := "allWaiting", desc := "()I" } : Jvm.MethodName)) ∈ lw_all := lw_g (lw_at lw_m13 52 rfl) rfl
theorem q3027 : (Jvm.Cond.privateMethod ({ cls := "TokenRingModel", name := "allWaiting", desc := "()I" } : Jvm.MethodName)) ∈ lw_tbl := lw_at lw_m13 53 rfl
theorem q3028 : (Jvm.Cond.instanceMethod ({ cls := "TokenRingModel", name := "allWaiting", desc := "()I" } : Jvm.MethodName)) ∈ lw_all := lw_g (lw_at lw_m13 54 rfl) rfl
theorem q3029 : (Jvm.Cond.code ({ cls := "TokenRingModel", name := "allWaiting", desc := "()I" } : Jvm.MethodName) prog_20_method_32_code (3 : Nat) (Option.some Jvm.ClassFile.FieldType.int)) ∈ lw_all := lw_g (lw_at lw_m13 55 rfl) rfl
theorem q3031 : (Jvm.Cond.instanceMethod ({ cls := "TokenRingModel", name := "lose", desc := "()I" } : Jvm.MethodName)) ∈ lw_all := lw_g (lw_at lw_m13 57 rfl) rfl
theorem q3032 : (Jvm.Cond.selects "TokenRingModel" ({ cls := "TokenRingModel", name := "lose", desc := "()I" } : Jvm.MethodName) ({ cls := "TokenRingModel", name := "lose", desc := "()I" } : Jvm.MethodName)) ∈ lw_all := lw_g (lw_at lw_m13 58 rfl) rfl
theorem q3033 : (Jvm.Cond.code ({ cls := "TokenRingModel", name := "lose", desc := "()I" } : Jvm.MethodName) prog_20_method_35_code (1 : Nat) (Option.some Jvm.ClassFile.FieldType.int)) ∈ lw_all := lw_g (lw_at lw_m13 59 rfl) rfl
theorem q3034 : (Jvm.Cond.methodLink "TokenRingModel" (174 : Nat) ({ cls := "TokenRingModel", name := "isSilent", desc := "()Z" } : Jvm.MethodName)) ∈ lw_all := lw_g (lw_at lw_m13 60 rfl) rfl
theorem q3035 : (Jvm.Cond.privateMethod ({ cls := "TokenRingModel", name := "isSilent", desc := "()Z" } : Jvm.MethodName)) ∈ lw_tbl := lw_at lw_m13 61 rfl
theorem q3036 : (Jvm.Cond.instanceMethod ({ cls := "TokenRingModel", name := "isSilent", desc := "()Z" } : Jvm.MethodName)) ∈ lw_all := lw_g (lw_at lw_m13 62 rfl) rfl
theorem q3037 : (Jvm.Cond.code ({ cls := "TokenRingModel", name := "isSilent", desc := "()Z" } : Jvm.MethodName) prog_20_method_34_code (1 : Nat) (Option.some Jvm.ClassFile.FieldType.boolean)) ∈ lw_all := lw_g (lw_at lw_m13 63 rfl) rfl
theorem q3039 : (Jvm.Cond.instanceMethod ({ cls := "TokenRingModel", name := "tick", desc := "(I)I" } : Jvm.MethodName)) ∈ lw_all := lw_g (lw_at lw_m13 65 rfl) rfl
theorem q3040 : (Jvm.Cond.selects "TokenRingModel" ({ cls := "TokenRingModel", name := "tick", desc := "(I)I" } : Jvm.MethodName) ({ cls := "TokenRingModel", name := "tick", desc := "(I)I" } : Jvm.MethodName)) ∈ lw_all := lw_g (lw_at lw_m13 66 rfl) rfl
theorem q3041 : (Jvm.Cond.code ({ cls := "TokenRingModel", name := "tick", desc := "(I)I" } : Jvm.MethodName) prog_20_method_45_code (2 : Nat) (Option.some Jvm.ClassFile.FieldType.int)) ∈ lw_all := lw_g (lw_at lw_m13 67 rfl) rfl
theorem q3042 : (Jvm.Cond.methodLink "TokenRingModel" (203 : Nat) ({ cls := "TokenRingModel", name := "isRefusedTicks", desc := "(I)Z" } : Jvm.MethodName)) ∈ lw_all := lw_g (lw_at lw_m13 68 rfl) rfl
theorem q3043 : (Jvm.Cond.privateMethod ({ cls := "TokenRingModel", name := "isRefusedTicks", desc := "(I)Z" } : Jvm.MethodName)) ∈ lw_tbl := lw_at lw_m13 69 rfl
theorem q3044 : (Jvm.Cond.instanceMethod ({ cls := "TokenRingModel", name := "isRefusedTicks", desc := "(I)Z" } : Jvm.MethodName)) ∈ lw_all := lw_g (lw_at lw_m13 70 rfl) rfl
theorem q3045 : (Jvm.Cond.code ({ cls := "TokenRingModel", name := "isRefusedTicks", desc := "(I)Z" } : Jvm.MethodName) prog_20_method_44_code (2 : Nat) (Option.some Jvm.ClassFile.FieldType.boolean)) ∈ lw_all := lw_g (lw_at lw_m13 71 rfl) rfl
theorem q3046 : (Jvm.Cond.methodLink "TokenRingModel" (200 : Nat) ({ cls := "TokenRingModel", name := "areTicks", desc := "(I)Z" } : Jvm.MethodName)) ∈ lw_all := lw_g (lw_at lw_m13 72 rfl) rfl
theorem q3047 : (Jvm.Cond.static ({ cls := "TokenRingModel", name := "areTicks", desc := "(I)Z" } : Jvm.MethodName)) ∈ lw_all := lw_g (lw_at lw_m13 73 rfl) rfl
theorem q3048 : (Jvm.Cond.code ({ cls := "TokenRingModel", name := "areTicks", desc := "(I)Z" } : Jvm.MethodName) prog_20_method_42_code (1 : Nat) (Option.some Jvm.ClassFile.FieldType.boolean)) ∈ lw_all := lw_g (lw_at lw_m13 74 rfl) rfl
theorem q3049 : (Jvm.Cond.methodLink "TokenRingModel" (206 : Nat) ({ cls := "TokenRingModel", name := "goes", desc := "(I)I" } : Jvm.MethodName)) ∈ lw_all := lw_g (lw_at lw_m13 75 rfl) rfl
theorem q3050 : (Jvm.Cond.privateMethod ({ cls := "TokenRingModel", name := "goes", desc := "(I)I" } : Jvm.MethodName)) ∈ lw_tbl := lw_at lw_m13 76 rfl
theorem q3051 : (Jvm.Cond.instanceMethod ({ cls := "TokenRingModel", name := "goes", desc := "(I)I" } : Jvm.MethodName)) ∈ lw_all := lw_g (lw_at lw_m13 77 rfl) rfl
theorem q3052 : (Jvm.Cond.code ({ cls := "TokenRingModel", name := "goes", desc := "(I)I" } : Jvm.MethodName) prog_20_method_43_code (4 : Nat) (Option.some Jvm.ClassFile.FieldType.int)) ∈ lw_all := lw_g (lw_at lw_m13 78 rfl) rfl
theorem q3053 : (Jvm.Cond.methodLink "TokenRingModel" (197 : Nat) ({ cls := "TokenRingModel", name := "goesTick", desc := "()I" } : Jvm.MethodName)) ∈ lw_all := lw_g (lw_at lw_m13 79 rfl) rfl
theorem q3054 : (Jvm.Cond.privateMethod ({ cls := "TokenRingModel", name := "goesTick", desc := "()I" } : Jvm.MethodName)) ∈ lw_tbl := lw_at lw_m13 80 rfl
theorem q3055 : (Jvm.Cond.instanceMethod ({ cls := "TokenRingModel", name := "goesTick", desc := "()I" } : Jvm.MethodName)) ∈ lw_all := lw_g (lw_at lw_m13 81 rfl) rfl
theorem q3056 : (Jvm.Cond.code ({ cls := "TokenRingModel", name := "goesTick", desc := "()I" } : Jvm.MethodName) prog_20_method_41_code (3 : Nat) (Option.some Jvm.ClassFile.FieldType.int)) ∈ lw_all := lw_g (lw_at lw_m13 82 rfl) rfl
theorem q3057 : (Jvm.Cond.methodLink "TokenRingModel" (188 : Nat) ({ cls := "TokenRingModel", name := "waitsOn", desc := "()V" } : Jvm.MethodName)) ∈ lw_all := lw_g (lw_at lw_m13 83 rfl) rfl
theorem q3058 : (Jvm.Cond.privateMethod ({ cls := "TokenRingModel", name := "waitsOn", desc := "()V" } : Jvm.MethodName)) ∈ lw_tbl := lw_at lw_m13 84 rfl
theorem q3059 : (Jvm.Cond.instanceMethod ({ cls := "TokenRingModel", name := "waitsOn", desc := "()V" } : Jvm.MethodName)) ∈ lw_all := lw_g (lw_at lw_m13 85 rfl) rfl
theorem q3060 : (Jvm.Cond.code ({ cls := "TokenRingModel", name := "waitsOn", desc := "()V" } : Jvm.MethodName) prog_20_method_36_code (1 : Nat) (Option.none : Option Jvm.ClassFile.FieldType)) ∈ lw_all := lw_g (lw_at lw_m13 86 rfl) rfl
theorem q3061 : (Jvm.Cond.methodLink "TokenRingModel" (191 : Nat) ({ cls := "TokenRingModel", name := "tokenComes", desc := "(I)V" } : Jvm.MethodName)) ∈ lw_all := lw_g (lw_at lw_m13 87 rfl) rfl
theorem q3062 : (Jvm.Cond.privateMethod ({ cls := "TokenRingModel", name := "tokenComes", desc := "(I)V" } : Jvm.MethodName)) ∈ lw_tbl := lw_at lw_m13 88 rfl
theorem q3063 : (Jvm.Cond.instanceMethod ({ cls := "TokenRingModel", name := "tokenComes", desc := "(I)V" } : Jvm.MethodName)) ∈ lw_all := lw_g (lw_at lw_m13 89 rfl) rfl
theorem q3064 : (Jvm.Cond.code ({ cls := "TokenRingModel", name := "tokenComes", desc := "(I)V" } : Jvm.MethodName) prog_20_method_39_code (2 : Nat) (Option.none : Option Jvm.ClassFile.FieldType)) ∈ lw_all := lw_g (lw_at lw_m13 90 rfl) rfl
theorem q3065 : (Jvm.Cond.methodLink "TokenRingModel" (181 : Nat) ({ cls := "TokenRingModel", name := "takes", desc := "(I)Z" } : Jvm.MethodName)) ∈ lw_all := lw_g (lw_at lw_m13 91 rfl) rfl
theorem q3066 : (Jvm.Cond.privateMethod ({ cls := "TokenRingModel", name := "takes", desc := "(I)Z" } : Jvm.MethodName)) ∈ lw_tbl := lw_at lw_m13 92 rfl
theorem q3067 : (Jvm.Cond.instanceMethod ({ cls := "TokenRingModel", name := "takes", desc := "(I)Z" } : Jvm.MethodName)) ∈ lw_all := lw_g (lw_at lw_m13 93 rfl) rfl
theorem q3068 : (Jvm.Cond.code ({ cls := "TokenRingModel", name := "takes", desc := "(I)Z" } : Jvm.MethodName) prog_20_method_37_code (2 : Nat) (Option.some Jvm.ClassFile.FieldType.boolean)) ∈ lw_all := lw_g (lw_at lw_m13 94 rfl) rfl
theorem q3069 : (Jvm.Cond.methodLink "TokenRingModel" (184 : Nat) ({ cls := "TokenRingModel", name := "puts", desc := "(I)V" } : Jvm.MethodName)) ∈ lw_all := lw_g (lw_at lw_m13 95 rfl) rfl
theorem q3070 : (Jvm.Cond.privateMethod ({ cls := "TokenRingModel", name := "puts", desc := "(I)V" } : Jvm.MethodName)) ∈ lw_tbl := lw_at lw_m13 96 rfl
theorem q3071 : (Jvm.Cond.instanceMethod ({ cls := "TokenRingModel", name := "puts", desc := "(I)V" } : Jvm.MethodName)) ∈ lw_all := lw_g (lw_at lw_m13 97 rfl) rfl
theorem q3072 : (Jvm.Cond.code ({ cls := "TokenRingModel", name := "puts", desc := "(I)V" } : Jvm.MethodName) prog_20_method_38_code (5 : Nat) (Option.none : Option Jvm.ClassFile.FieldType)) ∈ lw_all := lw_g (lw_at lw_m13 98 rfl) rfl
theorem q3073 : (Jvm.Cond.methodLink "TokenRingModel" (178 : Nat) ({ cls := "TokenRingModel", name := "most", desc := "(II)I" } : Jvm.MethodName)) ∈ lw_all := lw_g (lw_at lw_m13 99 rfl) rfl
theorem q3074 : (Jvm.Cond.static ({ cls := "TokenRingModel", name := "most", desc := "(II)I" } : Jvm.MethodName)) ∈ lw_all := lw_g (lw_at lw_m13 100 rfl) rfl
theorem q3075 : (Jvm.Cond.code ({ cls := "TokenRingModel", name := "most", desc := "(II)I" } : Jvm.MethodName) prog_20_method_4_code (2 : Nat) (Option.some Jvm.ClassFile.FieldType.int)) ∈ lw_all := lw_g (lw_at lw_m13 101 rfl) rfl
theorem q3076 : (Jvm.Cond.methodLink "TokenRingModel" (194 : Nat) ({ cls := "TokenRingModel", name := "frameComes", desc := "(I)I" } : Jvm.MethodName)) ∈ lw_all := lw_g (lw_at lw_m13 102 rfl) rfl
theorem q3077 : (Jvm.Cond.privateMethod ({ cls := "TokenRingModel", name := "frameComes", desc := "(I)I" } : Jvm.MethodName)) ∈ lw_tbl := lw_at lw_m13 103 rfl
theorem q3078 : (Jvm.Cond.instanceMethod ({ cls := "TokenRingModel", name := "frameComes", desc := "(I)I" } : Jvm.MethodName)) ∈ lw_all := lw_g (lw_at lw_m13 104 rfl) rfl
theorem q3079 : (Jvm.Cond.code ({ cls := "TokenRingModel", name := "frameComes", desc := "(I)I" } : Jvm.MethodName) prog_20_method_40_code (3 : Nat) (Option.some Jvm.ClassFile.FieldType.int)) ∈ lw_all := lw_g (lw_at lw_m13 105 rfl) rfl
theorem q3081 : (Jvm.Cond.instanceMethod ({ cls := "TokenRingModel", name := "onRing", desc := "(I)I" } : Jvm.MethodName)) ∈ lw_all := lw_g (lw_at lw_m13 107 rfl) rfl
theorem q3082 : (Jvm.Cond.selects "TokenRingModel" ({ cls := "TokenRingModel", name := "onRing", desc := "(I)I" } : Jvm.MethodName) ({ cls := "TokenRingModel", name := "onRing", desc := "(I)I" } : Jvm.MethodName)) ∈ lw_all := lw_g (lw_at lw_m13 108 rfl) rfl
theorem q3083 : (Jvm.Cond.code ({ cls := "TokenRingModel", name := "onRing", desc := "(I)I" } : Jvm.MethodName) prog_20_method_46_code (3 : Nat) (Option.some Jvm.ClassFile.FieldType.int)) ∈ lw_all := lw_g (lw_at lw_m13 109 rfl) rfl
theorem q3085 : (Jvm.Cond.instanceMethod ({ cls := "TokenRingModel", name := "stationAt", desc := "(I)I" } : Jvm.MethodName)) ∈ lw_all := lw_g (lw_at lw_m13 111 rfl) rfl
theorem q3086 : (Jvm.Cond.selects "TokenRingModel" ({ cls := "TokenRingModel", name := "stationAt", desc := "(I)I" } : Jvm.MethodName) ({ cls := "TokenRingModel", name := "stationAt", desc := "(I)I" } : Jvm.MethodName)) ∈ lw_all := lw_g (lw_at lw_m13 112 rfl) rfl
theorem q3087 : (Jvm.Cond.code ({ cls := "TokenRingModel", name := "stationAt", desc := "(I)I" } : Jvm.MethodName) prog_20_method_47_code (2 : Nat) (Option.some Jvm.ClassFile.FieldType.int)) ∈ lw_all := lw_g (lw_at lw_m13 113 rfl) rfl
theorem q3089 : (Jvm.Cond.instanceMethod ({ cls := "TokenRingModel", name := "waits", desc := "(II)I" } : Jvm.MethodName)) ∈ lw_all := lw_g (lw_at lw_m13 115 rfl) rfl
theorem q3090 : (Jvm.Cond.selects "TokenRingModel" ({ cls := "TokenRingModel", name := "waits", desc := "(II)I" } : Jvm.MethodName) ({ cls := "TokenRingModel", name := "waits", desc := "(II)I" } : Jvm.MethodName)) ∈ lw_all := lw_g (lw_at lw_m13 116 rfl) rfl
theorem q3091 : (Jvm.Cond.code ({ cls := "TokenRingModel", name := "waits", desc := "(II)I" } : Jvm.MethodName) prog_20_method_48_code (4 : Nat) (Option.some Jvm.ClassFile.FieldType.int)) ∈ lw_all := lw_g (lw_at lw_m13 117 rfl) rfl
theorem q3093 : (Jvm.Cond.instanceMethod ({ cls := "TokenRingModel", name := "rankOf", desc := "(I)I" } : Jvm.MethodName)) ∈ lw_all := lw_g (lw_at lw_m13 119 rfl) rfl
theorem q3094 : (Jvm.Cond.selects "TokenRingModel" ({ cls := "TokenRingModel", name := "rankOf", desc := "(I)I" } : Jvm.MethodName) ({ cls := "TokenRingModel", name := "rankOf", desc := "(I)I" } : Jvm.MethodName)) ∈ lw_all := lw_g (lw_at lw_m13 120 rfl) rfl
theorem q3095 : (Jvm.Cond.code ({ cls := "TokenRingModel", name := "rankOf", desc := "(I)I" } : Jvm.MethodName) prog_20_method_51_code (3 : Nat) (Option.some Jvm.ClassFile.FieldType.int)) ∈ lw_all := lw_g (lw_at lw_m13 121 rfl) rfl
theorem q3096 : (Jvm.Cond.methodLink "TokenRingModel" (209 : Nat) ({ cls := "TokenRingModel", name := "isRound", desc := "(I)Z" } : Jvm.MethodName)) ∈ lw_all := lw_g (lw_at lw_m13 122 rfl) rfl
theorem q3097 : (Jvm.Cond.privateMethod ({ cls := "TokenRingModel", name := "isRound", desc := "(I)Z" } : Jvm.MethodName)) ∈ lw_tbl := lw_at lw_m13 123 rfl
theorem q3098 : (Jvm.Cond.instanceMethod ({ cls := "TokenRingModel", name := "isRound", desc := "(I)Z" } : Jvm.MethodName)) ∈ lw_all := lw_g (lw_at lw_m13 124 rfl) rfl
theorem q3099 : (Jvm.Cond.code ({ cls := "TokenRingModel", name := "isRound", desc := "(I)Z" } : Jvm.MethodName) prog_20_method_50_code (2 : Nat) (Option.some Jvm.ClassFile.FieldType.boolean)) ∈ lw_all := lw_g (lw_at lw_m13 125 rfl) rfl
theorem q3100 : (Jvm.Cond.methodLink "TokenRingModel" (212 : Nat) ({ cls := "TokenRingModel", name := "spot", desc := "(I)I" } : Jvm.MethodName)) ∈ lw_all := lw_g (lw_at lw_m13 126 rfl) rfl
theorem q3101 : (Jvm.Cond.privateMethod ({ cls := "TokenRingModel", name := "spot", desc := "(I)I" } : Jvm.MethodName)) ∈ lw_tbl := lw_at lw_m13 127 rfl
theorem q3102 : (Jvm.Cond.instanceMethod ({ cls := "TokenRingModel", name := "spot", desc := "(I)I" } : Jvm.MethodName)) ∈ lw_all := lw_g (lw_at lw_m13 128 rfl) rfl
theorem q3103 : (Jvm.Cond.code ({ cls := "TokenRingModel", name := "spot", desc := "(I)I" } : Jvm.MethodName) prog_20_method_49_code (4 : Nat) (Option.some Jvm.ClassFile.FieldType.int)) ∈ lw_all := lw_g (lw_at lw_m13 129 rfl) rfl
theorem q3105 : (Jvm.Cond.instanceMethod ({ cls := "TokenRingModel", name := "whereIs", desc := "(I)I" } : Jvm.MethodName)) ∈ lw_all := lw_g (lw_at lw_m13 131 rfl) rfl
theorem q3106 : (Jvm.Cond.selects "TokenRingModel" ({ cls := "TokenRingModel", name := "whereIs", desc := "(I)I" } : Jvm.MethodName) ({ cls := "TokenRingModel", name := "whereIs", desc := "(I)I" } : Jvm.MethodName)) ∈ lw_all := lw_g (lw_at lw_m13 132 rfl) rfl
theorem q3107 : (Jvm.Cond.code ({ cls := "TokenRingModel", name := "whereIs", desc := "(I)I" } : Jvm.MethodName) prog_20_method_52_code (3 : Nat) (Option.some Jvm.ClassFile.FieldType.int)) ∈ lw_all := lw_g (lw_at lw_m13 133 rfl) rfl
theorem q3109 : (Jvm.Cond.instanceMethod ({ cls := "TokenRingModel", name := "queueOf", desc := "(II)I" } : Jvm.MethodName)) ∈ lw_all := lw_g (lw_at lw_m13 135 rfl) rfl
theorem q3110 : (Jvm.Cond.selects "TokenRingModel" ({ cls := "TokenRingModel", name := "queueOf", desc := "(II)I" } : Jvm.MethodName) ({ cls := "TokenRingModel", name := "queueOf", desc := "(II)I" } : Jvm.MethodName)) ∈ lw_all := lw_g (lw_at lw_m13 136 rfl) rfl
theorem q3111 : (Jvm.Cond.code ({ cls := "TokenRingModel", name := "queueOf", desc := "(II)I" } : Jvm.MethodName) prog_20_method_55_code (4 : Nat) (Option.some Jvm.ClassFile.FieldType.int)) ∈ lw_all := lw_g (lw_at lw_m13 137 rfl) rfl
theorem q3112 : (Jvm.Cond.methodLink "TokenRingModel" (215 : Nat) ({ cls := "TokenRingModel", name := "firstRank", desc := "(I)I" } : Jvm.MethodName)) ∈ lw_all := lw_g (lw_at lw_m13 138 rfl) rfl
theorem q3113 : (Jvm.Cond.privateMethod ({ cls := "TokenRingModel", name := "firstRank", desc := "(I)I" } : Jvm.MethodName)) ∈ lw_tbl := lw_at lw_m13 139 rfl
theorem q3114 : (Jvm.Cond.instanceMethod ({ cls := "TokenRingModel", name := "firstRank", desc := "(I)I" } : Jvm.MethodName)) ∈ lw_all := lw_g (lw_at lw_m13 140 rfl) rfl
theorem q3115 : (Jvm.Cond.code ({ cls := "TokenRingModel", name := "firstRank", desc := "(I)I" } : Jvm.MethodName) prog_20_method_54_code (2 : Nat) (Option.some Jvm.ClassFile.FieldType.int)) ∈ lw_all := lw_g (lw_at lw_m13 141 rfl) rfl
theorem q3116 : (Jvm.Cond.methodLink "TokenRingModel" (218 : Nat) ({ cls := "TokenRingModel", name := "lengths", desc := "(I)I" } : Jvm.MethodName)) ∈ lw_all := lw_g (lw_at lw_m13 142 rfl) rfl
theorem q3117 : (Jvm.Cond.privateMethod ({ cls := "TokenRingModel", name := "lengths", desc := "(I)I" } : Jvm.MethodName)) ∈ lw_tbl := lw_at lw_m13 143 rfl
theorem q3118 : (Jvm.Cond.instanceMethod ({ cls := "TokenRingModel", name := "lengths", desc := "(I)I" } : Jvm.MethodName)) ∈ lw_all := lw_g (lw_at lw_m13 144 rfl) rfl
theorem q3119 : (Jvm.Cond.code ({ cls := "TokenRingModel", name := "lengths", desc := "(I)I" } : Jvm.MethodName) prog_20_method_53_code (4 : Nat) (Option.some Jvm.ClassFile.FieldType.int)) ∈ lw_all := lw_g (lw_at lw_m13 145 rfl) rfl
theorem q3121 : (Jvm.Cond.instanceMethod ({ cls := "TokenRingModel", name := "next", desc := "(I)I" } : Jvm.MethodName)) ∈ lw_all := lw_g (lw_at lw_m13 147 rfl) rfl
theorem q3122 : (Jvm.Cond.selects "TokenRingModel" ({ cls := "TokenRingModel", name := "next", desc := "(I)I" } : Jvm.MethodName) ({ cls := "TokenRingModel", name := "next", desc := "(I)I" } : Jvm.MethodName)) ∈ lw_all := lw_g (lw_at lw_m13 148 rfl) rfl
theorem q3123 : (Jvm.Cond.code ({ cls := "TokenRingModel", name := "next", desc := "(I)I" } : Jvm.MethodName) prog_20_method_56_code (2 : Nat) (Option.some Jvm.ClassFile.FieldType.int)) ∈ lw_all := lw_g (lw_at lw_m13 149 rfl) rfl
theorem q3125 : (Jvm.Cond.instanceMethod ({ cls := "TokenRingModel", name := "steps", desc := "(II)I" } : Jvm.MethodName)) ∈ lw_all := lw_g (lw_at lw_m13 151 rfl) rfl
theorem q3126 : (Jvm.Cond.selects "TokenRingModel" ({ cls := "TokenRingModel", name := "steps", desc := "(II)I" } : Jvm.MethodName) ({ cls := "TokenRingModel", name := "steps", desc := "(II)I" } : Jvm.MethodName)) ∈ lw_all := lw_g (lw_at lw_m13 152 rfl) rfl
theorem q3127 : (Jvm.Cond.code ({ cls := "TokenRingModel", name := "steps", desc := "(II)I" } : Jvm.MethodName) prog_20_method_58_code (3 : Nat) (Option.some Jvm.ClassFile.FieldType.int)) ∈ lw_all := lw_g (lw_at lw_m13 153 rfl) rfl
theorem q3128 : (Jvm.Cond.methodLink "TokenRingModel" (221 : Nat) ({ cls := "TokenRingModel", name := "stepsTo", desc := "(II)I" } : Jvm.MethodName)) ∈ lw_all := lw_g (lw_at lw_m13 154 rfl) rfl
theorem q3129 : (Jvm.Cond.privateMethod ({ cls := "TokenRingModel", name := "stepsTo", desc := "(II)I" } : Jvm.MethodName)) ∈ lw_tbl := lw_at lw_m13 155 rfl
theorem q3130 : (Jvm.Cond.instanceMethod ({ cls := "TokenRingModel", name := "stepsTo", desc := "(II)I" } : Jvm.MethodName)) ∈ lw_all := lw_g (lw_at lw_m13 156 rfl) rfl
theorem q3131 : (Jvm.Cond.code ({ cls := "TokenRingModel", name := "stepsTo", desc := "(II)I" } : Jvm.MethodName) prog_20_method_57_code (3 : Nat) (Option.some Jvm.ClassFile.FieldType.int)) ∈ lw_all := lw_g (lw_at lw_m13 157 rfl) rfl
theorem q3133 : (Jvm.Cond.instanceMethod ({ cls := "TokenRingModel", name := "stepsAgain", desc := "(II)I" } : Jvm.MethodName)) ∈ lw_all := lw_g (lw_at lw_m13 159 rfl) rfl
theorem q3134 : (Jvm.Cond.selects "TokenRingModel" ({ cls := "TokenRingModel", name := "stepsAgain", desc := "(II)I" } : Jvm.MethodName) ({ cls := "TokenRingModel", name := "stepsAgain", desc := "(II)I" } : Jvm.MethodName)) ∈ lw_all := lw_g (lw_at lw_m13 160 rfl) rfl
theorem q3135 : (Jvm.Cond.code ({ cls := "TokenRingModel", name := "stepsAgain", desc := "(II)I" } : Jvm.MethodName) prog_20_method_59_code (3 : Nat) (Option.some Jvm.ClassFile.FieldType.int)) ∈ lw_all := lw_g (lw_at lw_m13 161 rfl) rfl
theorem q3137 : (Jvm.Cond.instanceMethod ({ cls := "TokenRingModel", name := "isInRing", desc := "(I)Z" } : Jvm.MethodName)) ∈ lw_all := lw_g (lw_at lw_m13 163 rfl) rfl
theorem q3138 : (Jvm.Cond.selects "TokenRingModel" ({ cls := "TokenRingModel", name := "isInRing", desc := "(I)Z" } : Jvm.MethodName) ({ cls := "TokenRingModel", name := "isInRing", desc := "(I)Z" } : Jvm.MethodName)) ∈ lw_all := lw_g (lw_at lw_m13 164 rfl) rfl
theorem q3139 : (Jvm.Cond.code ({ cls := "TokenRingModel", name := "isInRing", desc := "(I)Z" } : Jvm.MethodName) prog_20_method_60_code (2 : Nat) (Option.some Jvm.ClassFile.FieldType.boolean)) ∈ lw_all := lw_g (lw_at lw_m13 165 rfl) rfl
theorem q3141 : (Jvm.Cond.instanceMethod ({ cls := "TokenRingModel", name := "canTake", desc := "(I)Z" } : Jvm.MethodName)) ∈ lw_all := lw_g (lw_at lw_m13 167 rfl) rfl
theorem q3142 : (Jvm.Cond.selects "TokenRingModel" ({ cls := "TokenRingModel", name := "canTake", desc := "(I)Z" } : Jvm.MethodName) ({ cls := "TokenRingModel", name := "canTake", desc := "(I)Z" } : Jvm.MethodName)) ∈ lw_all := lw_g (lw_at lw_m13 168 rfl) rfl
theorem q3143 : (Jvm.Cond.code ({ cls := "TokenRingModel", name := "canTake", desc := "(I)Z" } : Jvm.MethodName) prog_20_method_61_code (3 : Nat) (Option.some Jvm.ClassFile.FieldType.boolean)) ∈ lw_all := lw_g (lw_at lw_m13 169 rfl) rfl
theorem q3145 : (Jvm.Cond.instanceMethod ({ cls := "TokenRingModel", name := "whoTakes", desc := "()I" } : Jvm.MethodName)) ∈ lw_all := lw_g (lw_at lw_m13 171 rfl) rfl
theorem q3146 : (Jvm.Cond.selects "TokenRingModel" ({ cls := "TokenRingModel", name := "whoTakes", desc := "()I" } : Jvm.MethodName) ({ cls := "TokenRingModel", name := "whoTakes", desc := "()I" } : Jvm.MethodName)) ∈ lw_all := lw_g (lw_at lw_m13 172 rfl) rfl
theorem q3147 : (Jvm.Cond.code ({ cls := "TokenRingModel", name := "whoTakes", desc := "()I" } : Jvm.MethodName) prog_20_method_62_code (4 : Nat) (Option.some Jvm.ClassFile.FieldType.int)) ∈ lw_all := lw_g (lw_at lw_m13 173 rfl) rfl
theorem q3149 : (Jvm.Cond.instanceMethod ({ cls := "TokenRingModel", name := "receivedIn", desc := "(I)I" } : Jvm.MethodName)) ∈ lw_all := lw_g (lw_at lw_m13 175 rfl) rfl
theorem q3150 : (Jvm.Cond.selects "TokenRingModel" ({ cls := "TokenRingModel", name := "receivedIn", desc := "(I)I" } : Jvm.MethodName) ({ cls := "TokenRingModel", name := "receivedIn", desc := "(I)I" } : Jvm.MethodName)) ∈ lw_all := lw_g (lw_at lw_m13 176 rfl) rfl
theorem q3151 : (Jvm.Cond.code ({ cls := "TokenRingModel", name := "receivedIn", desc := "(I)I" } : Jvm.MethodName) prog_20_method_64_code (5 : Nat) (Option.some Jvm.ClassFile.FieldType.int)) ∈ lw_all := lw_g (lw_at lw_m13 177 rfl) rfl
theorem q3152 : (Jvm.Cond.methodLink "TokenRingModel" (224 : Nat) ({ cls := "TokenRingModel", name := "isGot", desc := "(I)Z" } : Jvm.MethodName)) ∈ lw_all := lw_g (lw_at lw_m13 178 rfl) rfl
theorem q3153 : (Jvm.Cond.privateMethod ({ cls := "TokenRingModel", name := "isGot", desc := "(I)Z" } : Jvm.MethodName)) ∈ lw_tbl := lw_at lw_m13 179 rfl
theorem q3154 : (Jvm.Cond.instanceMethod ({ cls := "TokenRingModel", name := "isGot", desc := "(I)Z" } : Jvm.MethodName)) ∈ lw_all := lw_g (lw_at lw_m13 180 rfl) rfl
theorem q3155 : (Jvm.Cond.code ({ cls := "TokenRingModel", name := "isGot", desc := "(I)Z" } : Jvm.MethodName) prog_20_method_63_code (2 : Nat) (Option.some Jvm.ClassFile.FieldType.boolean)) ∈ lw_all := lw_g (lw_at lw_m13 181 rfl) rfl
theorem q3157 : (Jvm.Cond.instanceMethod ({ cls := "TokenRingModel", name := "tokenIn", desc := "(I)I" } : Jvm.MethodName)) ∈ lw_all := lw_g (lw_at lw_m13 183 rfl) rfl
theorem q3158 : (Jvm.Cond.selects "TokenRingModel" ({ cls := "TokenRingModel", name := "tokenIn", desc := "(I)I" } : Jvm.MethodName) ({ cls := "TokenRingModel", name := "tokenIn", desc := "(I)I" } : Jvm.MethodName)) ∈ lw_all := lw_g (lw_at lw_m13 184 rfl) rfl
theorem q3159 : (Jvm.Cond.code ({ cls := "TokenRingModel", name := "tokenIn", desc := "(I)I" } : Jvm.MethodName) prog_20_method_66_code (5 : Nat) (Option.some Jvm.ClassFile.FieldType.int)) ∈ lw_all := lw_g (lw_at lw_m13 185 rfl) rfl
theorem q3160 : (Jvm.Cond.methodLink "TokenRingModel" (227 : Nat) ({ cls := "TokenRingModel", name := "isTokenAt", desc := "(I)Z" } : Jvm.MethodName)) ∈ lw_all := lw_g (lw_at lw_m13 186 rfl) rfl
theorem q3161 : (Jvm.Cond.privateMethod ({ cls := "TokenRingModel", name := "isTokenAt", desc := "(I)Z" } : Jvm.MethodName)) ∈ lw_tbl := lw_at lw_m13 187 rfl
theorem q3162 : (Jvm.Cond.instanceMethod ({ cls := "TokenRingModel", name := "isTokenAt", desc := "(I)Z" } : Jvm.MethodName)) ∈ lw_all := lw_g (lw_at lw_m13 188 rfl) rfl
theorem q3163 : (Jvm.Cond.code ({ cls := "TokenRingModel", name := "isTokenAt", desc := "(I)Z" } : Jvm.MethodName) prog_20_method_65_code (2 : Nat) (Option.some Jvm.ClassFile.FieldType.boolean)) ∈ lw_all := lw_g (lw_at lw_m13 189 rfl) rfl
theorem q3165 : (Jvm.Cond.instanceMethod ({ cls := "TokenRingModel", name := "ahead", desc := "(II)I" } : Jvm.MethodName)) ∈ lw_all := lw_g (lw_at lw_m13 191 rfl) rfl
theorem q3166 : (Jvm.Cond.selects "TokenRingModel" ({ cls := "TokenRingModel", name := "ahead", desc := "(II)I" } : Jvm.MethodName) ({ cls := "TokenRingModel", name := "ahead", desc := "(II)I" } : Jvm.MethodName)) ∈ lw_all := lw_g (lw_at lw_m13 192 rfl) rfl
theorem q3167 : (Jvm.Cond.code ({ cls := "TokenRingModel", name := "ahead", desc := "(II)I" } : Jvm.MethodName) prog_20_method_67_code (5 : Nat) (Option.some Jvm.ClassFile.FieldType.int)) ∈ lw_all := lw_g (lw_at lw_m13 193 rfl) rfl
theorem q3169 : (Jvm.Cond.instanceMethod ({ cls := "TokenRingModel", name := "ranked", desc := "(I)I" } : Jvm.MethodName)) ∈ lw_all := lw_g (lw_at lw_m13 195 rfl) rfl
theorem q3170 : (Jvm.Cond.selects "TokenRingModel" ({ cls := "TokenRingModel", name := "ranked", desc := "(I)I" } : Jvm.MethodName) ({ cls := "TokenRingModel", name := "ranked", desc := "(I)I" } : Jvm.MethodName)) ∈ lw_all := lw_g (lw_at lw_m13 196 rfl) rfl
theorem q3171 : (Jvm.Cond.code ({ cls := "TokenRingModel", name := "ranked", desc := "(I)I" } : Jvm.MethodName) prog_20_method_69_code (5 : Nat) (Option.some Jvm.ClassFile.FieldType.int)) ∈ lw_all := lw_g (lw_at lw_m13 197 rfl) rfl
theorem q3172 : (Jvm.Cond.methodLink "TokenRingModel" (230 : Nat) ({ cls := "TokenRingModel", name := "isAhead", desc := "(II)Z" } : Jvm.MethodName)) ∈ lw_all := lw_g (lw_at lw_m13 198 rfl) rfl
theorem q3173 : (Jvm.Cond.privateMethod ({ cls := "TokenRingModel", name := "isAhead", desc := "(II)Z" } : Jvm.MethodName)) ∈ lw_tbl := lw_at lw_m13 199 rfl
theorem q3174 : (Jvm.Cond.instanceMethod ({ cls := "TokenRingModel", name := "isAhead", desc := "(II)Z" } : Jvm.MethodName)) ∈ lw_all := lw_g (lw_at lw_m13 200 rfl) rfl
theorem q3175 : (Jvm.Cond.code ({ cls := "TokenRingModel", name := "isAhead", desc := "(II)Z" } : Jvm.MethodName) prog_20_method_68_code (3 : Nat) (Option.some Jvm.ClassFile.FieldType.boolean)) ∈ lw_all := lw_g (lw_at lw_m13 201 rfl) rfl
theorem q3177 : (Jvm.Cond.instanceMethod ({ cls := "TokenRingModel", name := "longestWait", desc := "()I" } : Jvm.MethodName)) ∈ lw_all := lw_g (lw_at lw_m13 203 rfl) rfl
theorem q3178 : (Jvm.Cond.selects "TokenRingModel" ({ cls := "TokenRingModel", name := "longestWait", desc := "()I" } : Jvm.MethodName) ({ cls := "TokenRingModel", name := "longestWait", desc := "()I" } : Jvm.MethodName)) ∈ lw_all := lw_g (lw_at lw_m13 204 rfl) rfl
theorem q3179 : (Jvm.Cond.code ({ cls := "TokenRingModel", name := "longestWait", desc := "()I" } : Jvm.MethodName) prog_20_method_70_code (7 : Nat) (Option.some Jvm.ClassFile.FieldType.int)) ∈ lw_all := lw_g (lw_at lw_m13 205 rfl) rfl
theorem q3181 : (Jvm.Cond.instanceMethod ({ cls := "TokenRingModel", name := "greatest", desc := "()I" } : Jvm.MethodName)) ∈ lw_all := lw_g (lw_at lw_m13 207 rfl) rfl
theorem q3182 : (Jvm.Cond.selects "TokenRingModel" ({ cls := "TokenRingModel", name := "greatest", desc := "()I" } : Jvm.MethodName) ({ cls := "TokenRingModel", name := "greatest", desc := "()I" } : Jvm.MethodName)) ∈ lw_all := lw_g (lw_at lw_m13 208 rfl) rfl
theorem q3183 : (Jvm.Cond.code ({ cls := "TokenRingModel", name := "greatest", desc := "()I" } : Jvm.MethodName) prog_20_method_71_code (3 : Nat) (Option.some Jvm.ClassFile.FieldType.int)) ∈ lw_all := lw_g (lw_at lw_m13 209 rfl) rfl
theorem q3185 : (Jvm.Cond.instanceMethod ({ cls := "TokenRingModel", name := "waiting", desc := "()I" } : Jvm.MethodName)) ∈ lw_all := lw_g (lw_at lw_m13 211 rfl) rfl
theorem q3186 : (Jvm.Cond.selects "TokenRingModel" ({ cls := "TokenRingModel", name := "waiting", desc := "()I" } : Jvm.MethodName) ({ cls := "TokenRingModel", name := "waiting", desc := "()I" } : Jvm.MethodName)) ∈ lw_all := lw_g (lw_at lw_m13 212 rfl) rfl
theorem q3187 : (Jvm.Cond.code ({ cls := "TokenRingModel", name := "waiting", desc := "()I" } : Jvm.MethodName) prog_20_method_72_code (1 : Nat) (Option.some Jvm.ClassFile.FieldType.int)) ∈ lw_all := lw_g (lw_at lw_m13 213 rfl) rfl
theorem q3189 : (Jvm.Cond.instanceMethod ({ cls := "TokenRingModel", name := "waitingAgain", desc := "()I" } : Jvm.MethodName)) ∈ lw_all := lw_g (lw_at lw_m13 215 rfl) rfl
theorem q3190 : (Jvm.Cond.selects "TokenRingModel" ({ cls := "TokenRingModel", name := "waitingAgain", desc := "()I" } : Jvm.MethodName) ({ cls := "TokenRingModel", name := "waitingAgain", desc := "()I" } : Jvm.MethodName)) ∈ lw_all := lw_g (lw_at lw_m13 216 rfl) rfl
theorem q3191 : (Jvm.Cond.code ({ cls := "TokenRingModel", name := "waitingAgain", desc := "()I" } : Jvm.MethodName) prog_20_method_73_code (1 : Nat) (Option.some Jvm.ClassFile.FieldType.int)) ∈ lw_all := lw_g (lw_at lw_m13 217 rfl) rfl
theorem q3193 : (Jvm.Cond.instanceMethod ({ cls := "TokenRingModel", name := "append", desc := "(C)I" } : Jvm.MethodName)) ∈ lw_all := lw_g (lw_at lw_m13 219 rfl) rfl
theorem q3194 : (Jvm.Cond.selects "TokenRingModel" ({ cls := "TokenRingModel", name := "append", desc := "(C)I" } : Jvm.MethodName) ({ cls := "TokenRingModel", name := "append", desc := "(C)I" } : Jvm.MethodName)) ∈ lw_all := lw_g (lw_at lw_m13 220 rfl) rfl
theorem q3195 : (Jvm.Cond.code ({ cls := "TokenRingModel", name := "append", desc := "(C)I" } : Jvm.MethodName) prog_20_method_74_code (2 : Nat) (Option.some Jvm.ClassFile.FieldType.int)) ∈ lw_all := lw_g (lw_at lw_m13 221 rfl) rfl
theorem q3197 : (Jvm.Cond.instanceMethod ({ cls := "TokenRingModel", name := "run", desc := "()I" } : Jvm.MethodName)) ∈ lw_all := lw_g (lw_at lw_m13 223 rfl) rfl
theorem q3198 : (Jvm.Cond.selects "TokenRingModel" ({ cls := "TokenRingModel", name := "run", desc := "()I" } : Jvm.MethodName) ({ cls := "TokenRingModel", name := "run", desc := "()I" } : Jvm.MethodName)) ∈ lw_all := lw_g (lw_at lw_m13 224 rfl) rfl
theorem q3199 : (Jvm.Cond.code ({ cls := "TokenRingModel", name := "run", desc := "()I" } : Jvm.MethodName) prog_20_method_82_code (2 : Nat) (Option.some Jvm.ClassFile.FieldType.int)) ∈ lw_all := lw_g (lw_at lw_m13 225 rfl) rfl
theorem q3200 : (Jvm.Cond.methodLink "TokenRingModel" (248 : Nat) ({ cls := "TokenRingModel", name := "reads", desc := "()V" } : Jvm.MethodName)) ∈ lw_all := lw_g (lw_at lw_m13 226 rfl) rfl
theorem q3201 : (Jvm.Cond.privateMethod ({ cls := "TokenRingModel", name := "reads", desc := "()V" } : Jvm.MethodName)) ∈ lw_tbl := lw_at lw_m13 227 rfl
theorem q3202 : (Jvm.Cond.instanceMethod ({ cls := "TokenRingModel", name := "reads", desc := "()V" } : Jvm.MethodName)) ∈ lw_all := lw_g (lw_at lw_m13 228 rfl) rfl
theorem q3203 : (Jvm.Cond.code ({ cls := "TokenRingModel", name := "reads", desc := "()V" } : Jvm.MethodName) prog_20_method_80_code (1 : Nat) (Option.none : Option Jvm.ClassFile.FieldType)) ∈ lw_all := lw_g (lw_at lw_m13 229 rfl) rfl
theorem q3204 : (Jvm.Cond.methodLink "TokenRingModel" (245 : Nat) ({ cls := "TokenRingModel", name := "order", desc := "()V" } : Jvm.MethodName)) ∈ lw_all := lw_g (lw_at lw_m13 230 rfl) rfl
theorem q3205 : (Jvm.Cond.privateMethod ({ cls := "TokenRingModel", name := "order", desc := "()V" } : Jvm.MethodName)) ∈ lw_tbl := lw_at lw_m13 231 rfl
theorem q3206 : (Jvm.Cond.instanceMethod ({ cls := "TokenRingModel", name := "order", desc := "()V" } : Jvm.MethodName)) ∈ lw_all := lw_g (lw_at lw_m13 232 rfl) rfl
theorem q3207 : (Jvm.Cond.code ({ cls := "TokenRingModel", name := "order", desc := "()V" } : Jvm.MethodName) prog_20_method_79_code (4 : Nat) (Option.none : Option Jvm.ClassFile.FieldType)) ∈ lw_all := lw_g (lw_at lw_m13 233 rfl) rfl
theorem q3208 : (Jvm.Cond.methodLink "TokenRingModel" (233 : Nat) ({ cls := "TokenRingModel", name := "sign", desc := "()I" } : Jvm.MethodName)) ∈ lw_all := lw_g (lw_at lw_m13 234 rfl) rfl
theorem q3209 : (Jvm.Cond.privateMethod ({ cls := "TokenRingModel", name := "sign", desc := "()I" } : Jvm.MethodName)) ∈ lw_tbl := lw_at lw_m13 235 rfl
theorem q3210 : (Jvm.Cond.instanceMethod ({ cls := "TokenRingModel", name := "sign", desc := "()I" } : Jvm.MethodName)) ∈ lw_all := lw_g (lw_at lw_m13 236 rfl) rfl
theorem q3211 : (Jvm.Cond.code ({ cls := "TokenRingModel", name := "sign", desc := "()I" } : Jvm.MethodName) prog_20_method_75_code (1 : Nat) (Option.some Jvm.ClassFile.FieldType.int)) ∈ lw_all := lw_g (lw_at lw_m13 237 rfl) rfl
theorem q3212 : (Jvm.Cond.methodLink "TokenRingModel" (239 : Nat) ({ cls := "TokenRingModel", name := "figures", desc := "()I" } : Jvm.MethodName)) ∈ lw_all := lw_g (lw_at lw_m13 238 rfl) rfl
theorem q3213 : (Jvm.Cond.privateMethod ({ cls := "TokenRingModel", name := "figures", desc := "()I" } : Jvm.MethodName)) ∈ lw_tbl := lw_at lw_m13 239 rfl
theorem q3214 : (Jvm.Cond.instanceMethod ({ cls := "TokenRingModel", name := "figures", desc := "()I" } : Jvm.MethodName)) ∈ lw_all := lw_g (lw_at lw_m14 0 rfl) rfl
theorem q3215 : (Jvm.Cond.code ({ cls := "TokenRingModel", name := "figures", desc := "()I" } : Jvm.MethodName) prog_20_method_77_code (2 : Nat) (Option.some Jvm.ClassFile.FieldType.int)) ∈ lw_all := lw_g (lw_at lw_m14 1 rfl) rfl
theorem q3216 : (Jvm.Cond.methodLink "TokenRingModel" (236 : Nat) ({ cls := "TokenRingModel", name := "digit", desc := "()I" } : Jvm.MethodName)) ∈ lw_all := lw_g (lw_at lw_m14 2 rfl) rfl
theorem q3217 : (Jvm.Cond.privateMethod ({ cls := "TokenRingModel", name := "digit", desc := "()I" } : Jvm.MethodName)) ∈ lw_tbl := lw_at lw_m14 3 rfl
theorem q3218 : (Jvm.Cond.instanceMethod ({ cls := "TokenRingModel", name := "digit", desc := "()I" } : Jvm.MethodName)) ∈ lw_all := lw_g (lw_at lw_m14 4 rfl) rfl
theorem q3219 : (Jvm.Cond.code ({ cls := "TokenRingModel", name := "digit", desc := "()I" } : Jvm.MethodName) prog_20_method_76_code (2 : Nat) (Option.some Jvm.ClassFile.FieldType.int)) ∈ lw_all := lw_g (lw_at lw_m14 5 rfl) rfl
theorem q3220 : (Jvm.Cond.methodLink "TokenRingModel" (242 : Nat) ({ cls := "TokenRingModel", name := "takesSign", desc := "(I)V" } : Jvm.MethodName)) ∈ lw_all := lw_g (lw_at lw_m14 6 rfl) rfl
theorem q3221 : (Jvm.Cond.privateMethod ({ cls := "TokenRingModel", name := "takesSign", desc := "(I)V" } : Jvm.MethodName)) ∈ lw_tbl := lw_at lw_m14 7 rfl
theorem q3222 : (Jvm.Cond.instanceMethod ({ cls := "TokenRingModel", name := "takesSign", desc := "(I)V" } : Jvm.MethodName)) ∈ lw_all := lw_g (lw_at lw_m14 8 rfl) rfl
theorem q3223 : (Jvm.Cond.code ({ cls := "TokenRingModel", name := "takesSign", desc := "(I)V" } : Jvm.MethodName) prog_20_method_78_code (2 : Nat) (Option.none : Option Jvm.ClassFile.FieldType)) ∈ lw_all := lw_g (lw_at lw_m14 9 rfl) rfl
theorem q3224 : (Jvm.Cond.methodLink "TokenRingModel" (251 : Nat) ({ cls := "TokenRingModel", name := "cannot", desc := "(I)Z" } : Jvm.MethodName)) ∈ lw_all := lw_g (lw_at lw_m14 10 rfl) rfl
theorem q3225 : (Jvm.Cond.privateMethod ({ cls := "TokenRingModel", name := "cannot", desc := "(I)Z" } : Jvm.MethodName)) ∈ lw_tbl := lw_at lw_m14 11 rfl
theorem q3226 : (Jvm.Cond.instanceMethod ({ cls := "TokenRingModel", name := "cannot", desc := "(I)Z" } : Jvm.MethodName)) ∈ lw_all := lw_g (lw_at lw_m14 12 rfl) rfl
theorem q3227 : (Jvm.Cond.code ({ cls := "TokenRingModel", name := "cannot", desc := "(I)Z" } : Jvm.MethodName) prog_20_method_81_code (3 : Nat) (Option.some Jvm.ClassFile.FieldType.boolean)) ∈ lw_all := lw_g (lw_at lw_m14 13 rfl) rfl
theorem q3229 : (Jvm.Cond.instanceMethod ({ cls := "TokenRingModel", name := "faultPosition", desc := "()I" } : Jvm.MethodName)) ∈ lw_all := lw_g (lw_at lw_m14 15 rfl) rfl
theorem q3230 : (Jvm.Cond.selects "TokenRingModel" ({ cls := "TokenRingModel", name := "faultPosition", desc := "()I" } : Jvm.MethodName) ({ cls := "TokenRingModel", name := "faultPosition", desc := "()I" } : Jvm.MethodName)) ∈ lw_all := lw_g (lw_at lw_m14 16 rfl) rfl
theorem q3231 : (Jvm.Cond.code ({ cls := "TokenRingModel", name := "faultPosition", desc := "()I" } : Jvm.MethodName) prog_20_method_83_code (1 : Nat) (Option.some Jvm.ClassFile.FieldType.int)) ∈ lw_all := lw_g (lw_at lw_m14 17 rfl) rfl
theorem q3233 : (Jvm.Cond.instanceMethod ({ cls := "TokenRingModel", name := "reason", desc := "(IZ)I" } : Jvm.MethodName)) ∈ lw_all := lw_g (lw_at lw_m14 19 rfl) rfl
theorem q3234 : (Jvm.Cond.selects "TokenRingModel" ({ cls := "TokenRingModel", name := "reason", desc := "(IZ)I" } : Jvm.MethodName) ({ cls := "TokenRingModel", name := "reason", desc := "(IZ)I" } : Jvm.MethodName)) ∈ lw_all := lw_g (lw_at lw_m14 20 rfl) rfl
theorem q3235 : (Jvm.Cond.code ({ cls := "TokenRingModel", name := "reason", desc := "(IZ)I" } : Jvm.MethodName) prog_20_method_84_code (3 : Nat) (Option.some Jvm.ClassFile.FieldType.int)) ∈ lw_all := lw_g (lw_at lw_m14 21 rfl) rfl
theorem q3237 : (Jvm.Cond.instanceMethod ({ cls := "TokenRingModel", name := "tellRing", desc := "()I" } : Jvm.MethodName)) ∈ lw_all := lw_g (lw_at lw_m14 23 rfl) rfl
theorem q3238 : (Jvm.Cond.selects "TokenRingModel" ({ cls := "TokenRingModel", name := "tellRing", desc := "()I" } : Jvm.MethodName) ({ cls := "TokenRingModel", name := "tellRing", desc := "()I" } : Jvm.MethodName)) ∈ lw_all := lw_g (lw_at lw_m14 24 rfl) rfl
theorem q3239 : (Jvm.Cond.code ({ cls := "TokenRingModel", name := "tellRing", desc := "()I" } : Jvm.MethodName) prog_20_method_88_code (3 : Nat) (Option.some Jvm.ClassFile.FieldType.int)) ∈ lw_all := lw_g (lw_at lw_m14 25 rfl) rfl
theorem q3240 : (Jvm.Cond.methodLink "TokenRingModel" (257 : Nat) ({ cls := "TokenRingModel", name := "writesNobody", desc := "()V" } : Jvm.MethodName)) ∈ lw_all := lw_g (lw_at lw_m14 26 rfl) rfl
theorem q3241 : (Jvm.Cond.privateMethod ({ cls := "TokenRingModel", name := "writesNobody", desc := "()V" } : Jvm.MethodName)) ∈ lw_tbl := lw_at lw_m14 27 rfl
theorem q3242 : (Jvm.Cond.instanceMethod ({ cls := "TokenRingModel", name := "writesNobody", desc := "()V" } : Jvm.MethodName)) ∈ lw_all := lw_g (lw_at lw_m14 28 rfl) rfl
theorem q3243 : (Jvm.Cond.code ({ cls := "TokenRingModel", name := "writesNobody", desc := "()V" } : Jvm.MethodName) prog_20_method_87_code (1 : Nat) (Option.none : Option Jvm.ClassFile.FieldType)) ∈ lw_all := lw_g (lw_at lw_m14 29 rfl) rfl
theorem q3244 : (Jvm.Cond.methodLink "TokenRingModel" (254 : Nat) ({ cls := "TokenRingModel", name := "writes", desc := "(I)V" } : Jvm.MethodName)) ∈ lw_all := lw_g (lw_at lw_m14 30 rfl) rfl
theorem q3245 : (Jvm.Cond.privateMethod ({ cls := "TokenRingModel", name := "writes", desc := "(I)V" } : Jvm.MethodName)) ∈ lw_tbl := lw_at lw_m14 31 rfl
theorem q3246 : (Jvm.Cond.instanceMethod ({ cls := "TokenRingModel", name := "writes", desc := "(I)V" } : Jvm.MethodName)) ∈ lw_all := lw_g (lw_at lw_m14 32 rfl) rfl
theorem q3247 : (Jvm.Cond.code ({ cls := "TokenRingModel", name := "writes", desc := "(I)V" } : Jvm.MethodName) prog_20_method_85_code (2 : Nat) (Option.none : Option Jvm.ClassFile.FieldType)) ∈ lw_all := lw_g (lw_at lw_m14 33 rfl) rfl
theorem q3248 : (Jvm.Cond.methodLink "TokenRingModel" (260 : Nat) ({ cls := "TokenRingModel", name := "writesNumber", desc := "(I)V" } : Jvm.MethodName)) ∈ lw_all := lw_g (lw_at lw_m14 34 rfl) rfl
theorem q3249 : (Jvm.Cond.privateMethod ({ cls := "TokenRingModel", name := "writesNumber", desc := "(I)V" } : Jvm.MethodName)) ∈ lw_tbl := lw_at lw_m14 35 rfl
theorem q3250 : (Jvm.Cond.instanceMethod ({ cls := "TokenRingModel", name := "writesNumber", desc := "(I)V" } : Jvm.MethodName)) ∈ lw_all := lw_g (lw_at lw_m14 36 rfl) rfl
theorem q3251 : (Jvm.Cond.code ({ cls := "TokenRingModel", name := "writesNumber", desc := "(I)V" } : Jvm.MethodName) prog_20_method_86_code (4 : Nat) (Option.none : Option Jvm.ClassFile.FieldType)) ∈ lw_all := lw_g (lw_at lw_m14 37 rfl) rfl
theorem q3253 : (Jvm.Cond.instanceMethod ({ cls := "TokenRingModel", name := "tellQueue", desc := "(I)I" } : Jvm.MethodName)) ∈ lw_all := lw_g (lw_at lw_m14 39 rfl) rfl
theorem q3254 : (Jvm.Cond.selects "TokenRingModel" ({ cls := "TokenRingModel", name := "tellQueue", desc := "(I)I" } : Jvm.MethodName) ({ cls := "TokenRingModel", name := "tellQueue", desc := "(I)I" } : Jvm.MethodName)) ∈ lw_all := lw_g (lw_at lw_m14 40 rfl) rfl
theorem q3255 : (Jvm.Cond.code ({ cls := "TokenRingModel", name := "tellQueue", desc := "(I)I" } : Jvm.MethodName) prog_20_method_89_code (4 : Nat) (Option.some Jvm.ClassFile.FieldType.int)) ∈ lw_all := lw_g (lw_at lw_m14 41 rfl) rfl
theorem q3257 : (Jvm.Cond.instanceMethod ({ cls := "TokenRingModel", name := "character", desc := "(I)C" } : Jvm.MethodName)) ∈ lw_all := lw_g (lw_at lw_m14 43 rfl) rfl
theorem q3258 : (Jvm.Cond.selects "TokenRingModel" ({ cls := "TokenRingModel", name := "character", desc := "(I)C" } : Jvm.MethodName) ({ cls := "TokenRingModel", name := "character", desc := "(I)C" } : Jvm.MethodName)) ∈ lw_all := lw_g (lw_at lw_m14 44 rfl) rfl
theorem q3259 : (Jvm.Cond.code ({ cls := "TokenRingModel", name := "character", desc := "(I)C" } : Jvm.MethodName) prog_20_method_90_code (2 : Nat) (Option.some Jvm.ClassFile.FieldType.char)) ∈ lw_all := lw_g (lw_at lw_m14 45 rfl) rfl
theorem q3261 : (Jvm.Cond.instanceMethod ({ cls := "TokenRingModel", name := "account", desc := "(I)I" } : Jvm.MethodName)) ∈ lw_all := lw_g (lw_at lw_m14 47 rfl) rfl
theorem q3262 : (Jvm.Cond.selects "TokenRingModel" ({ cls := "TokenRingModel", name := "account", desc := "(I)I" } : Jvm.MethodName) ({ cls := "TokenRingModel", name := "account", desc := "(I)I" } : Jvm.MethodName)) ∈ lw_all := lw_g (lw_at lw_m14 48 rfl) rfl
theorem q3263 : (Jvm.Cond.code ({ cls := "TokenRingModel", name := "account", desc := "(I)I" } : Jvm.MethodName) prog_20_method_91_code (2 : Nat) (Option.some Jvm.ClassFile.FieldType.int)) ∈ lw_all := lw_g (lw_at lw_m14 49 rfl) rfl
theorem q3265 : (Jvm.Cond.instanceMethod ({ cls := "TokenRingModel", name := "meanDelay", desc := "()D" } : Jvm.MethodName)) ∈ lw_all := lw_g (lw_at lw_m14 51 rfl) rfl
theorem q3266 : (Jvm.Cond.selects "TokenRingModel" ({ cls := "TokenRingModel", name := "meanDelay", desc := "()D" } : Jvm.MethodName) ({ cls := "TokenRingModel", name := "meanDelay", desc := "()D" } : Jvm.MethodName)) ∈ lw_all := lw_g (lw_at lw_m14 52 rfl) rfl
theorem q3267 : (Jvm.Cond.code ({ cls := "TokenRingModel", name := "meanDelay", desc := "()D" } : Jvm.MethodName) prog_20_method_92_code (1 : Nat) (Option.some Jvm.ClassFile.FieldType.double)) ∈ lw_all := lw_g (lw_at lw_m14 53 rfl) rfl
theorem q3269 : (Jvm.Cond.instanceMethod ({ cls := "TokenRingModel", name := "receivedShare", desc := "()F" } : Jvm.MethodName)) ∈ lw_all := lw_g (lw_at lw_m14 55 rfl) rfl
theorem q3270 : (Jvm.Cond.selects "TokenRingModel" ({ cls := "TokenRingModel", name := "receivedShare", desc := "()F" } : Jvm.MethodName) ({ cls := "TokenRingModel", name := "receivedShare", desc := "()F" } : Jvm.MethodName)) ∈ lw_all := lw_g (lw_at lw_m14 56 rfl) rfl
theorem q3271 : (Jvm.Cond.code ({ cls := "TokenRingModel", name := "receivedShare", desc := "()F" } : Jvm.MethodName) prog_20_method_93_code (1 : Nat) (Option.some Jvm.ClassFile.FieldType.float)) ∈ lw_all := lw_g (lw_at lw_m14 57 rfl) rfl
theorem q3273 : (Jvm.Cond.instanceMethod ({ cls := "TokenRingModel", name := "undo", desc := "()I" } : Jvm.MethodName)) ∈ lw_all := lw_g (lw_at lw_m14 59 rfl) rfl
theorem q3274 : (Jvm.Cond.selects "TokenRingModel" ({ cls := "TokenRingModel", name := "undo", desc := "()I" } : Jvm.MethodName) ({ cls := "TokenRingModel", name := "undo", desc := "()I" } : Jvm.MethodName)) ∈ lw_all := lw_g (lw_at lw_m14 60 rfl) rfl
theorem q3275 : (Jvm.Cond.code ({ cls := "TokenRingModel", name := "undo", desc := "()I" } : Jvm.MethodName) prog_20_method_94_code (1 : Nat) (Option.some Jvm.ClassFile.FieldType.int)) ∈ lw_all := lw_g (lw_at lw_m14 61 rfl) rfl
theorem q3277 : (Jvm.Cond.instanceMethod ({ cls := "TokenRingModel", name := "save", desc := "()I" } : Jvm.MethodName)) ∈ lw_all := lw_g (lw_at lw_m14 63 rfl) rfl
theorem q3278 : (Jvm.Cond.selects "TokenRingModel" ({ cls := "TokenRingModel", name := "save", desc := "()I" } : Jvm.MethodName) ({ cls := "TokenRingModel", name := "save", desc := "()I" } : Jvm.MethodName)) ∈ lw_all := lw_g (lw_at lw_m14 64 rfl) rfl
theorem q3279 : (Jvm.Cond.code ({ cls := "TokenRingModel", name := "save", desc := "()I" } : Jvm.MethodName) prog_20_method_95_code (1 : Nat) (Option.some Jvm.ClassFile.FieldType.int)) ∈ lw_all := lw_g (lw_at lw_m14 65 rfl) rfl
theorem q3281 : (Jvm.Cond.instanceMethod ({ cls := "TokenRingModel", name := "restore", desc := "()I" } : Jvm.MethodName)) ∈ lw_all := lw_g (lw_at lw_m14 67 rfl) rfl
theorem q3282 : (Jvm.Cond.selects "TokenRingModel" ({ cls := "TokenRingModel", name := "restore", desc := "()I" } : Jvm.MethodName) ({ cls := "TokenRingModel", name := "restore", desc := "()I" } : Jvm.MethodName)) ∈ lw_all := lw_g (lw_at lw_m14 68 rfl) rfl
theorem q3283 : (Jvm.Cond.code ({ cls := "TokenRingModel", name := "restore", desc := "()I" } : Jvm.MethodName) prog_20_method_96_code (1 : Nat) (Option.some Jvm.ClassFile.FieldType.int)) ∈ lw_all := lw_g (lw_at lw_m14 69 rfl) rfl
theorem q3316 : (Jvm.Cond.castable "TokenRingModel" "java/lang/Object") ∈ lw_tbl := lw_at lw_m14 102 rfl
theorem in_X3 : ∀ w ∈ wsX30, w ∈ lw_all := lw_in wsX30 [2855, 2857, 2859, 2861, 2863, 2865, 2867, 2869, 2871, 2873, 2875, 2877, 2879, 2881, 2883, 2885, 2887, 2889, 2891, 2893, 2895, 2897, 2899, 2901, 2903, 2905] (by decide +kernel) (by decide +kernel)
/-! the law's own entry -/
set_option maxRecDepth 100000
abbrev cL_law : ByteArray := code
def dkwL_law_95 : List UInt8 := [167, 246, 205, 4, 172]
abbrev dktL_law_95 : List UInt8 := dkwL_law_95 ++ []
def dkwL_law_94 : List UInt8 := [172, 21, 6, 154, 0, 15, 45, 3, 47, 21, 7, 133, 148, 153, 0, 5, 3, 172, 167, 0, 3, 132, 5, 5]
abbrev dktL_law_94 : List UInt8 := dkwL_law_94 ++ dktL_law_95
def dkwL_law_93 : List UInt8 := [172, 43, 45, 184, 1, 24, 54, 6, 44, 182, 1, 26, 54, 7, 44, 182, 0, 149, 21, 6, 159, 0, 5, 3]
abbrev dktL_law_93 : List UInt8 := dkwL_law_93 ++ dktL_law_94
def dkwL_law_92 : List UInt8 := [21, 7, 133, 148, 153, 0, 5, 3, 172, 167, 0, 60, 43, 182, 1, 20, 44, 182, 1, 23, 159, 0, 49, 3]
abbrev dktL_law_92 : List UInt8 := dkwL_law_92 ++ dktL_law_93
def dkwL_law_91 : List UInt8 := [182, 1, 19, 54, 7, 44, 182, 0, 149, 21, 6, 159, 0, 5, 3, 172, 21, 6, 154, 0, 15, 45, 3, 47]
abbrev dktL_law_91 : List UInt8 := dkwL_law_91 ++ dktL_law_92
def dkwL_law_90 : List UInt8 := [153, 0, 11, 23, 7, 23, 7, 149, 154, 0, 5, 3, 172, 167, 0, 104, 43, 45, 184, 1, 17, 54, 6, 44]
abbrev dktL_law_90 : List UInt8 := dkwL_law_90 ++ dktL_law_91
def dkwL_law_89 : List UInt8 := [154, 0, 36, 25, 4, 3, 49, 23, 7, 141, 151, 153, 0, 25, 25, 4, 3, 49, 25, 4, 3, 49, 151]
abbrev dktL_law_89 : List UInt8 := dkwL_law_89 ++ dktL_law_90
def dkwL_law_88 : List UInt8 := [184, 1, 14, 54, 6, 44, 182, 1, 16, 56, 7, 44, 182, 0, 149, 21, 6, 159, 0, 5, 3, 172, 21, 6]
abbrev dktL_law_88 : List UInt8 := dkwL_law_88 ++ dktL_law_89
def dkwL_law_87 : List UInt8 := [25, 4, 3, 49, 151, 153, 0, 11, 24, 7, 24, 7, 151, 154, 0, 5, 3, 172, 167, 0, 170, 43, 25, 4]
abbrev dktL_law_87 : List UInt8 := dkwL_law_87 ++ dktL_law_88
def dkwL_law_86 : List UInt8 := [159, 0, 5, 3, 172, 21, 6, 154, 0, 35, 25, 4, 3, 49, 24, 7, 151, 153, 0, 25, 25, 4, 3, 49]
abbrev dktL_law_86 : List UInt8 := dkwL_law_86 ++ dktL_law_87
def dkwL_law_85 : List UInt8 := [167, 0, 235, 43, 25, 4, 184, 1, 10, 54, 6, 44, 182, 1, 13, 57, 7, 44, 182, 0, 149, 21, 6]
abbrev dktL_law_85 : List UInt8 := dkwL_law_85 ++ dktL_law_86
def dkwL_law_84 : List UInt8 := [21, 6, 159, 0, 5, 3, 172, 21, 6, 154, 0, 15, 45, 3, 47, 21, 7, 133, 148, 153, 0, 5, 3, 172]
abbrev dktL_law_84 : List UInt8 := dkwL_law_84 ++ dktL_law_85
def dkwL_law_83 : List UInt8 := [46, 45, 184, 1, 7, 54, 6, 44, 42, 21, 5, 4, 96, 46, 182, 1, 9, 54, 7, 44, 182, 0, 149]
abbrev dktL_law_83 : List UInt8 := dkwL_law_83 ++ dktL_law_84
def dkwL_law_82 : List UInt8 := [154, 0, 15, 45, 3, 47, 21, 7, 133, 148, 153, 0, 5, 3, 172, 167, 1, 35, 43, 42, 21, 5, 4, 96]
abbrev dktL_law_82 : List UInt8 := dkwL_law_82 ++ dktL_law_83
def dkwL_law_81 : List UInt8 := [21, 5, 4, 96, 46, 182, 1, 6, 54, 7, 44, 182, 0, 149, 21, 6, 159, 0, 5, 3, 172, 21, 6]
abbrev dktL_law_81 : List UInt8 := dkwL_law_81 ++ dktL_law_82
def dkwL_law_80 : List UInt8 := [153, 0, 5, 3, 172, 167, 1, 91, 43, 42, 21, 5, 4, 96, 46, 45, 184, 1, 4, 54, 6, 44, 42]
abbrev dktL_law_80 : List UInt8 := dkwL_law_80 ++ dktL_law_81
def dkwL_law_79 : List UInt8 := [182, 0, 149, 21, 6, 159, 0, 5, 3, 172, 21, 6, 154, 0, 15, 45, 3, 47, 21, 7, 133, 148]
abbrev dktL_law_79 : List UInt8 := dkwL_law_79 ++ dktL_law_80
def dkwL_law_78 : List UInt8 := [21, 5, 4, 96, 46, 45, 184, 1, 1, 54, 6, 44, 42, 21, 5, 4, 96, 46, 182, 1, 3, 54, 7, 44]
abbrev dktL_law_78 : List UInt8 := dkwL_law_78 ++ dktL_law_79
def dkwL_law_77 : List UInt8 := [153, 0, 5, 3, 172, 167, 1, 160, 43, 182, 0, 253, 44, 182, 1, 0, 159, 1, 149, 3, 172, 43, 42]
abbrev dktL_law_77 : List UInt8 := dkwL_law_77 ++ dktL_law_78
def dkwL_law_76 : List UInt8 := [182, 0, 149, 21, 6, 159, 0, 5, 3, 172, 21, 6, 154, 0, 15, 45, 3, 47, 21, 7, 133, 148]
abbrev dktL_law_76 : List UInt8 := dkwL_law_76 ++ dktL_law_77
def dkwL_law_75 : List UInt8 := [96, 46, 42, 21, 5, 5, 96, 46, 153, 0, 7, 4, 167, 0, 4, 3, 182, 0, 252, 54, 7, 44]
abbrev dktL_law_75 : List UInt8 := dkwL_law_75 ++ dktL_law_76
def dkwL_law_74 : List UInt8 := [21, 5, 5, 96, 46, 153, 0, 7, 4, 167, 0, 4, 3, 45, 184, 0, 249, 54, 6, 44, 42, 21, 5, 4]
abbrev dktL_law_74 : List UInt8 := dkwL_law_74 ++ dktL_law_75
def dkwL_law_73 : List UInt8 := [167, 2, 1, 43, 182, 0, 245, 44, 182, 0, 248, 159, 1, 246, 3, 172, 43, 42, 21, 5, 4, 96, 46, 42]
abbrev dktL_law_73 : List UInt8 := dkwL_law_73 ++ dktL_law_74
def dkwL_law_72 : List UInt8 := [159, 0, 5, 3, 172, 21, 6, 154, 0, 15, 45, 3, 47, 21, 7, 133, 148, 153, 0, 5, 3, 172]
abbrev dktL_law_72 : List UInt8 := dkwL_law_72 ++ dktL_law_73
def dkwL_law_71 : List UInt8 := [167, 2, 45, 43, 45, 184, 0, 242, 54, 6, 44, 182, 0, 244, 54, 7, 44, 182, 0, 149, 21, 6]
abbrev dktL_law_71 : List UInt8 := dkwL_law_71 ++ dktL_law_72
def dkwL_law_70 : List UInt8 := [159, 0, 5, 3, 172, 21, 6, 154, 0, 15, 45, 3, 47, 21, 7, 133, 148, 153, 0, 5, 3, 172]
abbrev dktL_law_70 : List UInt8 := dkwL_law_70 ++ dktL_law_71
def dkwL_law_69 : List UInt8 := [184, 0, 238, 54, 6, 44, 42, 21, 5, 4, 96, 46, 146, 182, 0, 241, 54, 7, 44, 182, 0, 149, 21, 6]
abbrev dktL_law_69 : List UInt8 := dkwL_law_69 ++ dktL_law_70
def dkwL_law_68 : List UInt8 := [172, 43, 182, 0, 234, 44, 182, 0, 237, 159, 2, 105, 3, 172, 43, 42, 21, 5, 4, 96, 46, 146, 45]
abbrev dktL_law_68 : List UInt8 := dkwL_law_68 ++ dktL_law_69
def dkwL_law_67 : List UInt8 := [21, 7, 133, 148, 153, 0, 5, 3, 172, 167, 2, 129, 43, 182, 0, 230, 44, 182, 0, 233, 159, 2, 118, 3]
abbrev dktL_law_67 : List UInt8 := dkwL_law_67 ++ dktL_law_68
def dkwL_law_66 : List UInt8 := [182, 0, 229, 54, 7, 44, 182, 0, 149, 21, 6, 159, 0, 5, 3, 172, 21, 6, 154, 0, 15, 45, 3, 47]
abbrev dktL_law_66 : List UInt8 := dkwL_law_66 ++ dktL_law_67
def dkwL_law_65 : List UInt8 := [45, 3, 47, 21, 7, 133, 148, 153, 0, 5, 3, 172, 167, 2, 173, 43, 45, 184, 0, 227, 54, 6, 44]
abbrev dktL_law_65 : List UInt8 := dkwL_law_65 ++ dktL_law_66
def dkwL_law_64 : List UInt8 := [54, 6, 44, 182, 0, 226, 54, 7, 44, 182, 0, 149, 21, 6, 159, 0, 5, 3, 172, 21, 6, 154, 0, 15]
abbrev dktL_law_64 : List UInt8 := dkwL_law_64 ++ dktL_law_65
def dkwL_law_63 : List UInt8 := [154, 0, 15, 45, 3, 47, 21, 7, 133, 148, 153, 0, 5, 3, 172, 167, 2, 217, 43, 45, 184, 0, 224]
abbrev dktL_law_63 : List UInt8 := dkwL_law_63 ++ dktL_law_64
def dkwL_law_62 : List UInt8 := [21, 5, 4, 96, 46, 182, 0, 223, 54, 7, 44, 182, 0, 149, 21, 6, 159, 0, 5, 3, 172, 21, 6]
abbrev dktL_law_62 : List UInt8 := dkwL_law_62 ++ dktL_law_63
def dkwL_law_61 : List UInt8 := [148, 153, 0, 5, 3, 172, 167, 3, 17, 43, 42, 21, 5, 4, 96, 46, 45, 184, 0, 221, 54, 6, 44, 42]
abbrev dktL_law_61 : List UInt8 := dkwL_law_61 ++ dktL_law_62
def dkwL_law_60 : List UInt8 := [54, 7, 44, 182, 0, 149, 21, 6, 159, 0, 5, 3, 172, 21, 6, 154, 0, 15, 45, 3, 47, 21, 7, 133]
abbrev dktL_law_60 : List UInt8 := dkwL_law_60 ++ dktL_law_61
def dkwL_law_59 : List UInt8 := [46, 45, 184, 0, 218, 54, 6, 44, 42, 21, 5, 4, 96, 46, 42, 21, 5, 5, 96, 46, 182, 0, 220]
abbrev dktL_law_59 : List UInt8 := dkwL_law_59 ++ dktL_law_60
def dkwL_law_58 : List UInt8 := [21, 7, 133, 148, 153, 0, 5, 3, 172, 167, 3, 85, 43, 42, 21, 5, 4, 96, 46, 42, 21, 5, 5, 96]
abbrev dktL_law_58 : List UInt8 := dkwL_law_58 ++ dktL_law_59
def dkwL_law_57 : List UInt8 := [182, 0, 217, 54, 7, 44, 182, 0, 149, 21, 6, 159, 0, 5, 3, 172, 21, 6, 154, 0, 15, 45, 3, 47]
abbrev dktL_law_57 : List UInt8 := dkwL_law_57 ++ dktL_law_58
def dkwL_law_56 : List UInt8 := [167, 3, 141, 43, 42, 21, 5, 4, 96, 46, 45, 184, 0, 215, 54, 6, 44, 42, 21, 5, 4, 96, 46]
abbrev dktL_law_56 : List UInt8 := dkwL_law_56 ++ dktL_law_57
def dkwL_law_55 : List UInt8 := [159, 0, 5, 3, 172, 21, 6, 154, 0, 15, 45, 3, 47, 21, 7, 133, 148, 153, 0, 5, 3, 172]
abbrev dktL_law_55 : List UInt8 := dkwL_law_55 ++ dktL_law_56
def dkwL_law_54 : List UInt8 := [184, 0, 212, 54, 6, 44, 42, 21, 5, 4, 96, 46, 182, 0, 214, 54, 7, 44, 182, 0, 149, 21, 6]
abbrev dktL_law_54 : List UInt8 := dkwL_law_54 ++ dktL_law_55
def dkwL_law_53 : List UInt8 := [45, 3, 47, 21, 7, 133, 148, 153, 0, 5, 3, 172, 167, 3, 197, 43, 42, 21, 5, 4, 96, 46, 45]
abbrev dktL_law_53 : List UInt8 := dkwL_law_53 ++ dktL_law_54
def dkwL_law_52 : List UInt8 := [54, 6, 44, 182, 0, 211, 54, 7, 44, 182, 0, 149, 21, 6, 159, 0, 5, 3, 172, 21, 6, 154, 0, 15]
abbrev dktL_law_52 : List UInt8 := dkwL_law_52 ++ dktL_law_53
def dkwL_law_51 : List UInt8 := [21, 7, 153, 0, 7, 10, 167, 0, 4, 9, 148, 153, 0, 5, 3, 172, 167, 3, 241, 43, 45, 184, 0, 209]
abbrev dktL_law_51 : List UInt8 := dkwL_law_51 ++ dktL_law_52
def dkwL_law_50 : List UInt8 := [182, 0, 208, 54, 7, 44, 182, 0, 149, 21, 6, 159, 0, 5, 3, 172, 21, 6, 154, 0, 22, 45, 3, 47]
abbrev dktL_law_50 : List UInt8 := dkwL_law_50 ++ dktL_law_51
def dkwL_law_49 : List UInt8 := [172, 167, 4, 48, 43, 42, 21, 5, 4, 96, 46, 45, 184, 0, 206, 54, 6, 44, 42, 21, 5, 4, 96, 46]
abbrev dktL_law_49 : List UInt8 := dkwL_law_49 ++ dktL_law_50
def dkwL_law_48 : List UInt8 := [172, 21, 6, 154, 0, 22, 45, 3, 47, 21, 7, 153, 0, 7, 10, 167, 0, 4, 9, 148, 153, 0, 5, 3]
abbrev dktL_law_48 : List UInt8 := dkwL_law_48 ++ dktL_law_49
def dkwL_law_47 : List UInt8 := [54, 6, 44, 42, 21, 5, 4, 96, 46, 182, 0, 205, 54, 7, 44, 182, 0, 149, 21, 6, 159, 0, 5, 3]
abbrev dktL_law_47 : List UInt8 := dkwL_law_47 ++ dktL_law_48
def dkwL_law_46 : List UInt8 := [21, 7, 133, 148, 153, 0, 5, 3, 172, 167, 4, 111, 43, 42, 21, 5, 4, 96, 46, 45, 184, 0, 203]
abbrev dktL_law_46 : List UInt8 := dkwL_law_46 ++ dktL_law_47
def dkwL_law_45 : List UInt8 := [182, 0, 202, 54, 7, 44, 182, 0, 149, 21, 6, 159, 0, 5, 3, 172, 21, 6, 154, 0, 15, 45, 3, 47]
abbrev dktL_law_45 : List UInt8 := dkwL_law_45 ++ dktL_law_46
def dkwL_law_44 : List UInt8 := [5, 96, 46, 45, 184, 0, 200, 54, 6, 44, 42, 21, 5, 4, 96, 46, 42, 21, 5, 5, 96, 46]
abbrev dktL_law_44 : List UInt8 := dkwL_law_44 ++ dktL_law_45
def dkwL_law_43 : List UInt8 := [3, 47, 21, 7, 133, 148, 153, 0, 5, 3, 172, 167, 4, 179, 43, 42, 21, 5, 4, 96, 46, 42, 21, 5]
abbrev dktL_law_43 : List UInt8 := dkwL_law_43 ++ dktL_law_44
def dkwL_law_42 : List UInt8 := [96, 46, 182, 0, 199, 54, 7, 44, 182, 0, 149, 21, 6, 159, 0, 5, 3, 172, 21, 6, 154, 0, 15, 45]
abbrev dktL_law_42 : List UInt8 := dkwL_law_42 ++ dktL_law_43
def dkwL_law_41 : List UInt8 := [46, 42, 21, 5, 5, 96, 46, 45, 184, 0, 197, 54, 6, 44, 42, 21, 5, 4, 96, 46, 42, 21, 5, 5]
abbrev dktL_law_41 : List UInt8 := dkwL_law_41 ++ dktL_law_42
def dkwL_law_40 : List UInt8 := [154, 0, 15, 45, 3, 47, 21, 7, 133, 148, 153, 0, 5, 3, 172, 167, 4, 247, 43, 42, 21, 5, 4, 96]
abbrev dktL_law_40 : List UInt8 := dkwL_law_40 ++ dktL_law_41
def dkwL_law_39 : List UInt8 := [21, 5, 4, 96, 46, 182, 0, 196, 54, 7, 44, 182, 0, 149, 21, 6, 159, 0, 5, 3, 172, 21, 6]
abbrev dktL_law_39 : List UInt8 := dkwL_law_39 ++ dktL_law_40
def dkwL_law_38 : List UInt8 := [148, 153, 0, 5, 3, 172, 167, 5, 47, 43, 42, 21, 5, 4, 96, 46, 45, 184, 0, 194, 54, 6, 44, 42]
abbrev dktL_law_38 : List UInt8 := dkwL_law_38 ++ dktL_law_39
def dkwL_law_37 : List UInt8 := [54, 7, 44, 182, 0, 149, 21, 6, 159, 0, 5, 3, 172, 21, 6, 154, 0, 15, 45, 3, 47, 21, 7, 133]
abbrev dktL_law_37 : List UInt8 := dkwL_law_37 ++ dktL_law_38
def dkwL_law_36 : List UInt8 := [46, 45, 184, 0, 191, 54, 6, 44, 42, 21, 5, 4, 96, 46, 42, 21, 5, 5, 96, 46, 182, 0, 193]
abbrev dktL_law_36 : List UInt8 := dkwL_law_36 ++ dktL_law_37
def dkwL_law_35 : List UInt8 := [21, 7, 133, 148, 153, 0, 5, 3, 172, 167, 5, 115, 43, 42, 21, 5, 4, 96, 46, 42, 21, 5, 5, 96]
abbrev dktL_law_35 : List UInt8 := dkwL_law_35 ++ dktL_law_36
def dkwL_law_34 : List UInt8 := [182, 0, 190, 54, 7, 44, 182, 0, 149, 21, 6, 159, 0, 5, 3, 172, 21, 6, 154, 0, 15, 45, 3, 47]
abbrev dktL_law_34 : List UInt8 := dkwL_law_34 ++ dktL_law_35
def dkwL_law_33 : List UInt8 := [167, 5, 171, 43, 42, 21, 5, 4, 96, 46, 45, 184, 0, 188, 54, 6, 44, 42, 21, 5, 4, 96, 46]
abbrev dktL_law_33 : List UInt8 := dkwL_law_33 ++ dktL_law_34
def dkwL_law_32 : List UInt8 := [21, 6, 159, 0, 5, 3, 172, 21, 6, 154, 0, 15, 45, 3, 47, 21, 7, 133, 148, 153, 0, 5, 3, 172]
abbrev dktL_law_32 : List UInt8 := dkwL_law_32 ++ dktL_law_33
def dkwL_law_31 : List UInt8 := [46, 45, 184, 0, 185, 54, 6, 44, 42, 21, 5, 4, 96, 46, 182, 0, 187, 54, 7, 44, 182, 0, 149]
abbrev dktL_law_31 : List UInt8 := dkwL_law_31 ++ dktL_law_32
def dkwL_law_30 : List UInt8 := [154, 0, 15, 45, 3, 47, 21, 7, 133, 148, 153, 0, 5, 3, 172, 167, 5, 227, 43, 42, 21, 5, 4, 96]
abbrev dktL_law_30 : List UInt8 := dkwL_law_30 ++ dktL_law_31
def dkwL_law_29 : List UInt8 := [42, 21, 5, 5, 96, 46, 182, 0, 184, 54, 7, 44, 182, 0, 149, 21, 6, 159, 0, 5, 3, 172, 21, 6]
abbrev dktL_law_29 : List UInt8 := dkwL_law_29 ++ dktL_law_30
def dkwL_law_28 : List UInt8 := [21, 5, 4, 96, 46, 42, 21, 5, 5, 96, 46, 45, 184, 0, 181, 54, 6, 44, 42, 21, 5, 4, 96, 46]
abbrev dktL_law_28 : List UInt8 := dkwL_law_28 ++ dktL_law_29
def dkwL_law_27 : List UInt8 := [172, 21, 6, 154, 0, 15, 45, 3, 47, 21, 7, 133, 148, 153, 0, 5, 3, 172, 167, 6, 39, 43, 42]
abbrev dktL_law_27 : List UInt8 := dkwL_law_27 ++ dktL_law_28
def dkwL_law_26 : List UInt8 := [54, 6, 44, 42, 21, 5, 4, 96, 46, 182, 0, 180, 54, 7, 44, 182, 0, 149, 21, 6, 159, 0, 5, 3]
abbrev dktL_law_26 : List UInt8 := dkwL_law_26 ++ dktL_law_27
def dkwL_law_25 : List UInt8 := [21, 7, 133, 148, 153, 0, 5, 3, 172, 167, 6, 95, 43, 42, 21, 5, 4, 96, 46, 45, 184, 0, 178]
abbrev dktL_law_25 : List UInt8 := dkwL_law_25 ++ dktL_law_26
def dkwL_law_24 : List UInt8 := [182, 0, 177, 54, 7, 44, 182, 0, 149, 21, 6, 159, 0, 5, 3, 172, 21, 6, 154, 0, 15, 45, 3, 47]
abbrev dktL_law_24 : List UInt8 := dkwL_law_24 ++ dktL_law_25
def dkwL_law_23 : List UInt8 := [167, 6, 151, 43, 42, 21, 5, 4, 96, 46, 45, 184, 0, 175, 54, 6, 44, 42, 21, 5, 4, 96, 46]
abbrev dktL_law_23 : List UInt8 := dkwL_law_23 ++ dktL_law_24
def dkwL_law_22 : List UInt8 := [21, 6, 159, 0, 5, 3, 172, 21, 6, 154, 0, 15, 45, 3, 47, 21, 7, 133, 148, 153, 0, 5, 3, 172]
abbrev dktL_law_22 : List UInt8 := dkwL_law_22 ++ dktL_law_23
def dkwL_law_21 : List UInt8 := [46, 45, 184, 0, 172, 54, 6, 44, 42, 21, 5, 4, 96, 46, 182, 0, 174, 54, 7, 44, 182, 0, 149]
abbrev dktL_law_21 : List UInt8 := dkwL_law_21 ++ dktL_law_22
def dkwL_law_20 : List UInt8 := [154, 0, 15, 45, 3, 47, 21, 7, 133, 148, 153, 0, 5, 3, 172, 167, 6, 207, 43, 42, 21, 5, 4, 96]
abbrev dktL_law_20 : List UInt8 := dkwL_law_20 ++ dktL_law_21
def dkwL_law_19 : List UInt8 := [184, 0, 168, 54, 6, 44, 182, 0, 171, 54, 7, 44, 182, 0, 149, 21, 6, 159, 0, 5, 3, 172, 21, 6]
abbrev dktL_law_19 : List UInt8 := dkwL_law_19 ++ dktL_law_20
def dkwL_law_18 : List UInt8 := [172, 21, 6, 154, 0, 15, 45, 3, 47, 21, 7, 133, 148, 153, 0, 5, 3, 172, 167, 6, 251, 43, 45]
abbrev dktL_law_18 : List UInt8 := dkwL_law_18 ++ dktL_law_19
def dkwL_law_17 : List UInt8 := [54, 6, 44, 42, 21, 5, 4, 96, 46, 182, 0, 167, 54, 7, 44, 182, 0, 149, 21, 6, 159, 0, 5, 3]
abbrev dktL_law_17 : List UInt8 := dkwL_law_17 ++ dktL_law_18
def dkwL_law_16 : List UInt8 := [21, 7, 133, 148, 153, 0, 5, 3, 172, 167, 7, 51, 43, 42, 21, 5, 4, 96, 46, 45, 184, 0, 165]
abbrev dktL_law_16 : List UInt8 := dkwL_law_16 ++ dktL_law_17
def dkwL_law_15 : List UInt8 := [182, 0, 164, 54, 7, 44, 182, 0, 149, 21, 6, 159, 0, 5, 3, 172, 21, 6, 154, 0, 15, 45, 3, 47]
abbrev dktL_law_15 : List UInt8 := dkwL_law_15 ++ dktL_law_16
def dkwL_law_14 : List UInt8 := [167, 7, 107, 43, 42, 21, 5, 4, 96, 46, 45, 184, 0, 162, 54, 6, 44, 42, 21, 5, 4, 96, 46]
abbrev dktL_law_14 : List UInt8 := dkwL_law_14 ++ dktL_law_15
def dkwL_law_13 : List UInt8 := [159, 0, 5, 3, 172, 21, 6, 154, 0, 15, 45, 3, 47, 21, 7, 133, 148, 153, 0, 5, 3, 172]
abbrev dktL_law_13 : List UInt8 := dkwL_law_13 ++ dktL_law_14
def dkwL_law_12 : List UInt8 := [184, 0, 159, 54, 6, 44, 42, 21, 5, 4, 96, 46, 182, 0, 161, 54, 7, 44, 182, 0, 149, 21, 6]
abbrev dktL_law_12 : List UInt8 := dkwL_law_12 ++ dktL_law_13
def dkwL_law_11 : List UInt8 := [45, 3, 47, 21, 7, 133, 148, 153, 0, 5, 3, 172, 167, 7, 163, 43, 42, 21, 5, 4, 96, 46, 45]
abbrev dktL_law_11 : List UInt8 := dkwL_law_11 ++ dktL_law_12
def dkwL_law_10 : List UInt8 := [7, 96, 46, 182, 0, 158, 54, 7, 44, 182, 0, 149, 21, 6, 159, 0, 5, 3, 172, 21, 6, 154, 0, 15]
abbrev dktL_law_10 : List UInt8 := dkwL_law_10 ++ dktL_law_11
def dkwL_law_9 : List UInt8 := [54, 6, 44, 42, 21, 5, 4, 96, 46, 42, 21, 5, 5, 96, 46, 42, 21, 5, 6, 96, 46, 42, 21, 5]
abbrev dktL_law_9 : List UInt8 := dkwL_law_9 ++ dktL_law_10
def dkwL_law_8 : List UInt8 := [46, 42, 21, 5, 5, 96, 46, 42, 21, 5, 6, 96, 46, 42, 21, 5, 7, 96, 46, 45, 184, 0, 155]
abbrev dktL_law_8 : List UInt8 := dkwL_law_8 ++ dktL_law_9
def dkwL_law_7 : List UInt8 := [154, 0, 15, 45, 3, 47, 21, 7, 133, 148, 153, 0, 5, 3, 172, 167, 7, 255, 43, 42, 21, 5, 4, 96]
abbrev dktL_law_7 : List UInt8 := dkwL_law_7 ++ dktL_law_8
def dkwL_law_6 : List UInt8 := [21, 5, 4, 96, 46, 182, 0, 154, 54, 7, 44, 182, 0, 149, 21, 6, 159, 0, 5, 3, 172, 21, 6]
abbrev dktL_law_6 : List UInt8 := dkwL_law_6 ++ dktL_law_7
def dkwL_law_5 : List UInt8 := [148, 153, 0, 5, 3, 172, 167, 8, 55, 43, 42, 21, 5, 4, 96, 46, 45, 184, 0, 152, 54, 6, 44, 42]
abbrev dktL_law_5 : List UInt8 := dkwL_law_5 ++ dktL_law_6
def dkwL_law_4 : List UInt8 := [54, 7, 44, 182, 0, 149, 21, 6, 159, 0, 5, 3, 172, 21, 6, 154, 0, 15, 45, 3, 47, 21, 7, 133]
abbrev dktL_law_4 : List UInt8 := dkwL_law_4 ++ dktL_law_5
def dkwL_law_3 : List UInt8 := [43, 42, 21, 5, 4, 96, 46, 45, 184, 0, 143, 54, 6, 44, 42, 21, 5, 4, 96, 46, 182, 0, 148]
abbrev dktL_law_3 : List UInt8 := dkwL_law_3 ++ dktL_law_4
def dkwL_law_2 : List UInt8 := [170, 0, 0, 0, 0, 0, 9, 32, 0, 0, 0, 0, 0, 0, 0, 40, 0, 0, 0, 180, 0, 0, 0, 236, 0, 0, 1, 36, 0, 0, 1, 128, 0, 0, 1, 184, 0, 0, 1, 240, 0, 0, 2, 40, 0, 0, 2, 84, 0, 0, 2, 140, 0, 0, 2, 196, 0, 0, 2, 252, 0, 0, 3, 64, 0, 0, 3, 120, 0, 0, 3, 176, 0, 0, 3, 244, 0, 0, 4, 44, 0, 0, 4, 112, 0, 0, 4, 180, 0, 0, 4, 243, 0, 0, 5, 50, 0, 0, 5, 94, 0, 0, 5, 150, 0, 0, 5, 206, 0, 0, 6, 18, 0, 0, 6, 74, 0, 0, 6, 118, 0, 0, 6, 162, 0, 0, 6, 175, 0, 0, 6, 188, 0, 0, 6, 246, 0, 0, 7, 34, 0, 0, 7, 47, 0, 0, 7, 131, 0, 0, 7, 144, 0, 0, 7, 200, 0, 0, 8, 0, 0, 0, 8, 56, 0, 0, 8, 121, 0, 0, 8, 187, 0, 0, 8, 231, 0, 0, 8, 244]
abbrev dktL_law_2 : List UInt8 := dkwL_law_2 ++ dktL_law_3
def dkwL_law_1 : List UInt8 := [58, 4, 3, 54, 5, 21, 5, 42, 190, 8, 100, 163, 9, 48, 42, 21, 5, 46, 16, 63, 126]
abbrev dktL_law_1 : List UInt8 := dkwL_law_1 ++ dktL_law_2
def dkwL_law_0 : List UInt8 := [187, 0, 8, 89, 183, 0, 139, 76, 187, 0, 140, 89, 183, 0, 142, 77, 4, 188, 11, 78, 4, 188, 7]
abbrev dktL_law_0 : List UInt8 := dkwL_law_0 ++ dktL_law_1
theorem dksL_law_0 : cL_law.data.toList.drop 0 = dktL_law_0 := by decide +kernel
theorem dksL_law_1 : cL_law.data.toList.drop 23 = dktL_law_1 := dk_seg dksL_law_0 23 rfl rfl
theorem dksL_law_2 : cL_law.data.toList.drop 44 = dktL_law_2 := dk_seg dksL_law_1 21 rfl rfl
theorem dksL_law_3 : cL_law.data.toList.drop 224 = dktL_law_3 := dk_seg dksL_law_2 180 rfl rfl
theorem dksL_law_4 : cL_law.data.toList.drop 247 = dktL_law_4 := dk_seg dksL_law_3 23 rfl rfl
theorem dksL_law_5 : cL_law.data.toList.drop 271 = dktL_law_5 := dk_seg dksL_law_4 24 rfl rfl
theorem dksL_law_6 : cL_law.data.toList.drop 295 = dktL_law_6 := dk_seg dksL_law_5 24 rfl rfl
theorem dksL_law_7 : cL_law.data.toList.drop 318 = dktL_law_7 := dk_seg dksL_law_6 23 rfl rfl
theorem dksL_law_8 : cL_law.data.toList.drop 342 = dktL_law_8 := dk_seg dksL_law_7 24 rfl rfl
theorem dksL_law_9 : cL_law.data.toList.drop 365 = dktL_law_9 := dk_seg dksL_law_8 23 rfl rfl
theorem dksL_law_10 : cL_law.data.toList.drop 389 = dktL_law_10 := dk_seg dksL_law_9 24 rfl rfl
theorem dksL_law_11 : cL_law.data.toList.drop 413 = dktL_law_11 := dk_seg dksL_law_10 24 rfl rfl
theorem dksL_law_12 : cL_law.data.toList.drop 436 = dktL_law_12 := dk_seg dksL_law_11 23 rfl rfl
theorem dksL_law_13 : cL_law.data.toList.drop 459 = dktL_law_13 := dk_seg dksL_law_12 23 rfl rfl
theorem dksL_law_14 : cL_law.data.toList.drop 481 = dktL_law_14 := dk_seg dksL_law_13 22 rfl rfl
theorem dksL_law_15 : cL_law.data.toList.drop 504 = dktL_law_15 := dk_seg dksL_law_14 23 rfl rfl
theorem dksL_law_16 : cL_law.data.toList.drop 528 = dktL_law_16 := dk_seg dksL_law_15 24 rfl rfl
theorem dksL_law_17 : cL_law.data.toList.drop 551 = dktL_law_17 := dk_seg dksL_law_16 23 rfl rfl
theorem dksL_law_18 : cL_law.data.toList.drop 575 = dktL_law_18 := dk_seg dksL_law_17 24 rfl rfl
theorem dksL_law_19 : cL_law.data.toList.drop 598 = dktL_law_19 := dk_seg dksL_law_18 23 rfl rfl
theorem dksL_law_20 : cL_law.data.toList.drop 622 = dktL_law_20 := dk_seg dksL_law_19 24 rfl rfl
theorem dksL_law_21 : cL_law.data.toList.drop 646 = dktL_law_21 := dk_seg dksL_law_20 24 rfl rfl
theorem dksL_law_22 : cL_law.data.toList.drop 669 = dktL_law_22 := dk_seg dksL_law_21 23 rfl rfl
theorem dksL_law_23 : cL_law.data.toList.drop 693 = dktL_law_23 := dk_seg dksL_law_22 24 rfl rfl
theorem dksL_law_24 : cL_law.data.toList.drop 716 = dktL_law_24 := dk_seg dksL_law_23 23 rfl rfl
theorem dksL_law_25 : cL_law.data.toList.drop 740 = dktL_law_25 := dk_seg dksL_law_24 24 rfl rfl
theorem dksL_law_26 : cL_law.data.toList.drop 763 = dktL_law_26 := dk_seg dksL_law_25 23 rfl rfl
theorem dksL_law_27 : cL_law.data.toList.drop 787 = dktL_law_27 := dk_seg dksL_law_26 24 rfl rfl
theorem dksL_law_28 : cL_law.data.toList.drop 810 = dktL_law_28 := dk_seg dksL_law_27 23 rfl rfl
theorem dksL_law_29 : cL_law.data.toList.drop 834 = dktL_law_29 := dk_seg dksL_law_28 24 rfl rfl
theorem dksL_law_30 : cL_law.data.toList.drop 858 = dktL_law_30 := dk_seg dksL_law_29 24 rfl rfl
theorem dksL_law_31 : cL_law.data.toList.drop 882 = dktL_law_31 := dk_seg dksL_law_30 24 rfl rfl
theorem dksL_law_32 : cL_law.data.toList.drop 905 = dktL_law_32 := dk_seg dksL_law_31 23 rfl rfl
theorem dksL_law_33 : cL_law.data.toList.drop 929 = dktL_law_33 := dk_seg dksL_law_32 24 rfl rfl
theorem dksL_law_34 : cL_law.data.toList.drop 952 = dktL_law_34 := dk_seg dksL_law_33 23 rfl rfl
theorem dksL_law_35 : cL_law.data.toList.drop 976 = dktL_law_35 := dk_seg dksL_law_34 24 rfl rfl
theorem dksL_law_36 : cL_law.data.toList.drop 1000 = dktL_law_36 := dk_seg dksL_law_35 24 rfl rfl
theorem dksL_law_37 : cL_law.data.toList.drop 1023 = dktL_law_37 := dk_seg dksL_law_36 23 rfl rfl
theorem dksL_law_38 : cL_law.data.toList.drop 1047 = dktL_law_38 := dk_seg dksL_law_37 24 rfl rfl
theorem dksL_law_39 : cL_law.data.toList.drop 1071 = dktL_law_39 := dk_seg dksL_law_38 24 rfl rfl
theorem dksL_law_40 : cL_law.data.toList.drop 1094 = dktL_law_40 := dk_seg dksL_law_39 23 rfl rfl
theorem dksL_law_41 : cL_law.data.toList.drop 1118 = dktL_law_41 := dk_seg dksL_law_40 24 rfl rfl
theorem dksL_law_42 : cL_law.data.toList.drop 1142 = dktL_law_42 := dk_seg dksL_law_41 24 rfl rfl
theorem dksL_law_43 : cL_law.data.toList.drop 1166 = dktL_law_43 := dk_seg dksL_law_42 24 rfl rfl
theorem dksL_law_44 : cL_law.data.toList.drop 1190 = dktL_law_44 := dk_seg dksL_law_43 24 rfl rfl
theorem dksL_law_45 : cL_law.data.toList.drop 1212 = dktL_law_45 := dk_seg dksL_law_44 22 rfl rfl
theorem dksL_law_46 : cL_law.data.toList.drop 1236 = dktL_law_46 := dk_seg dksL_law_45 24 rfl rfl
theorem dksL_law_47 : cL_law.data.toList.drop 1259 = dktL_law_47 := dk_seg dksL_law_46 23 rfl rfl
theorem dksL_law_48 : cL_law.data.toList.drop 1283 = dktL_law_48 := dk_seg dksL_law_47 24 rfl rfl
theorem dksL_law_49 : cL_law.data.toList.drop 1307 = dktL_law_49 := dk_seg dksL_law_48 24 rfl rfl
theorem dksL_law_50 : cL_law.data.toList.drop 1331 = dktL_law_50 := dk_seg dksL_law_49 24 rfl rfl
theorem dksL_law_51 : cL_law.data.toList.drop 1355 = dktL_law_51 := dk_seg dksL_law_50 24 rfl rfl
theorem dksL_law_52 : cL_law.data.toList.drop 1379 = dktL_law_52 := dk_seg dksL_law_51 24 rfl rfl
theorem dksL_law_53 : cL_law.data.toList.drop 1403 = dktL_law_53 := dk_seg dksL_law_52 24 rfl rfl
theorem dksL_law_54 : cL_law.data.toList.drop 1426 = dktL_law_54 := dk_seg dksL_law_53 23 rfl rfl
theorem dksL_law_55 : cL_law.data.toList.drop 1449 = dktL_law_55 := dk_seg dksL_law_54 23 rfl rfl
theorem dksL_law_56 : cL_law.data.toList.drop 1471 = dktL_law_56 := dk_seg dksL_law_55 22 rfl rfl
theorem dksL_law_57 : cL_law.data.toList.drop 1494 = dktL_law_57 := dk_seg dksL_law_56 23 rfl rfl
theorem dksL_law_58 : cL_law.data.toList.drop 1518 = dktL_law_58 := dk_seg dksL_law_57 24 rfl rfl
theorem dksL_law_59 : cL_law.data.toList.drop 1542 = dktL_law_59 := dk_seg dksL_law_58 24 rfl rfl
theorem dksL_law_60 : cL_law.data.toList.drop 1565 = dktL_law_60 := dk_seg dksL_law_59 23 rfl rfl
theorem dksL_law_61 : cL_law.data.toList.drop 1589 = dktL_law_61 := dk_seg dksL_law_60 24 rfl rfl
theorem dksL_law_62 : cL_law.data.toList.drop 1613 = dktL_law_62 := dk_seg dksL_law_61 24 rfl rfl
theorem dksL_law_63 : cL_law.data.toList.drop 1636 = dktL_law_63 := dk_seg dksL_law_62 23 rfl rfl
theorem dksL_law_64 : cL_law.data.toList.drop 1659 = dktL_law_64 := dk_seg dksL_law_63 23 rfl rfl
theorem dksL_law_65 : cL_law.data.toList.drop 1683 = dktL_law_65 := dk_seg dksL_law_64 24 rfl rfl
theorem dksL_law_66 : cL_law.data.toList.drop 1706 = dktL_law_66 := dk_seg dksL_law_65 23 rfl rfl
theorem dksL_law_67 : cL_law.data.toList.drop 1730 = dktL_law_67 := dk_seg dksL_law_66 24 rfl rfl
theorem dksL_law_68 : cL_law.data.toList.drop 1754 = dktL_law_68 := dk_seg dksL_law_67 24 rfl rfl
theorem dksL_law_69 : cL_law.data.toList.drop 1777 = dktL_law_69 := dk_seg dksL_law_68 23 rfl rfl
theorem dksL_law_70 : cL_law.data.toList.drop 1801 = dktL_law_70 := dk_seg dksL_law_69 24 rfl rfl
theorem dksL_law_71 : cL_law.data.toList.drop 1823 = dktL_law_71 := dk_seg dksL_law_70 22 rfl rfl
theorem dksL_law_72 : cL_law.data.toList.drop 1845 = dktL_law_72 := dk_seg dksL_law_71 22 rfl rfl
theorem dksL_law_73 : cL_law.data.toList.drop 1867 = dktL_law_73 := dk_seg dksL_law_72 22 rfl rfl
theorem dksL_law_74 : cL_law.data.toList.drop 1891 = dktL_law_74 := dk_seg dksL_law_73 24 rfl rfl
theorem dksL_law_75 : cL_law.data.toList.drop 1915 = dktL_law_75 := dk_seg dksL_law_74 24 rfl rfl
theorem dksL_law_76 : cL_law.data.toList.drop 1937 = dktL_law_76 := dk_seg dksL_law_75 22 rfl rfl
theorem dksL_law_77 : cL_law.data.toList.drop 1959 = dktL_law_77 := dk_seg dksL_law_76 22 rfl rfl
theorem dksL_law_78 : cL_law.data.toList.drop 1982 = dktL_law_78 := dk_seg dksL_law_77 23 rfl rfl
theorem dksL_law_79 : cL_law.data.toList.drop 2006 = dktL_law_79 := dk_seg dksL_law_78 24 rfl rfl
theorem dksL_law_80 : cL_law.data.toList.drop 2028 = dktL_law_80 := dk_seg dksL_law_79 22 rfl rfl
theorem dksL_law_81 : cL_law.data.toList.drop 2051 = dktL_law_81 := dk_seg dksL_law_80 23 rfl rfl
theorem dksL_law_82 : cL_law.data.toList.drop 2074 = dktL_law_82 := dk_seg dksL_law_81 23 rfl rfl
theorem dksL_law_83 : cL_law.data.toList.drop 2098 = dktL_law_83 := dk_seg dksL_law_82 24 rfl rfl
theorem dksL_law_84 : cL_law.data.toList.drop 2121 = dktL_law_84 := dk_seg dksL_law_83 23 rfl rfl
theorem dksL_law_85 : cL_law.data.toList.drop 2145 = dktL_law_85 := dk_seg dksL_law_84 24 rfl rfl
theorem dksL_law_86 : cL_law.data.toList.drop 2168 = dktL_law_86 := dk_seg dksL_law_85 23 rfl rfl
theorem dksL_law_87 : cL_law.data.toList.drop 2192 = dktL_law_87 := dk_seg dksL_law_86 24 rfl rfl
theorem dksL_law_88 : cL_law.data.toList.drop 2216 = dktL_law_88 := dk_seg dksL_law_87 24 rfl rfl
theorem dksL_law_89 : cL_law.data.toList.drop 2240 = dktL_law_89 := dk_seg dksL_law_88 24 rfl rfl
theorem dksL_law_90 : cL_law.data.toList.drop 2263 = dktL_law_90 := dk_seg dksL_law_89 23 rfl rfl
theorem dksL_law_91 : cL_law.data.toList.drop 2287 = dktL_law_91 := dk_seg dksL_law_90 24 rfl rfl
theorem dksL_law_92 : cL_law.data.toList.drop 2311 = dktL_law_92 := dk_seg dksL_law_91 24 rfl rfl
theorem dksL_law_93 : cL_law.data.toList.drop 2335 = dktL_law_93 := dk_seg dksL_law_92 24 rfl rfl
theorem dksL_law_94 : cL_law.data.toList.drop 2359 = dktL_law_94 := dk_seg dksL_law_93 24 rfl rfl
theorem dksL_law_95 : cL_law.data.toList.drop 2383 = dktL_law_95 := dk_seg dksL_law_94 24 rfl rfl
theorem dL_law_0 : decode cL_law 0 = .ok (.new 8, 3) := dk_187 0 8 (dk_at dksL_law_0 0 rfl rfl)
theorem dL_law_3 : decode cL_law 3 = .ok (.dup, 1) := dk_89 (dk_at dksL_law_0 3 rfl rfl)
theorem dL_law_4 : decode cL_law 4 = .ok (.invokespecial 139, 3) := dk_183 0 139 (dk_at dksL_law_0 4 rfl rfl)
theorem dL_law_7 : decode cL_law 7 = .ok (.astore_n 1, 1) := dk_76 (dk_at dksL_law_0 7 rfl rfl)
theorem dL_law_8 : decode cL_law 8 = .ok (.new 140, 3) := dk_187 0 140 (dk_at dksL_law_0 8 rfl rfl)
theorem dL_law_11 : decode cL_law 11 = .ok (.dup, 1) := dk_89 (dk_at dksL_law_0 11 rfl rfl)
theorem dL_law_12 : decode cL_law 12 = .ok (.invokespecial 142, 3) := dk_183 0 142 (dk_at dksL_law_0 12 rfl rfl)
theorem dL_law_15 : decode cL_law 15 = .ok (.astore_n 2, 1) := dk_77 (dk_at dksL_law_0 15 rfl rfl)
theorem dL_law_16 : decode cL_law 16 = .ok (.iconst 1, 1) := dk_4 (dk_at dksL_law_0 16 rfl rfl)
theorem dL_law_17 : decode cL_law 17 = .ok (.newarray .long, 2) := dk_188_11 (dk_at dksL_law_0 17 rfl rfl)
theorem dL_law_19 : decode cL_law 19 = .ok (.astore_n 3, 1) := dk_78 (dk_at dksL_law_0 19 rfl rfl)
theorem dL_law_20 : decode cL_law 20 = .ok (.iconst 1, 1) := dk_4 (dk_at dksL_law_0 20 rfl rfl)
theorem dL_law_21 : decode cL_law 21 = .ok (.newarray .double, 2) := dk_188_7 (dk_at dksL_law_0 21 rfl rfl)
theorem dL_law_23 : decode cL_law 23 = .ok (.astore 4, 2) := dk_58 4 (dk_at dksL_law_1 0 rfl rfl)
theorem dL_law_25 : decode cL_law 25 = .ok (.iconst 0, 1) := dk_3 (dk_at dksL_law_1 2 rfl rfl)
theorem dL_law_26 : decode cL_law 26 = .ok (.istore 5, 2) := dk_54 5 (dk_at dksL_law_1 3 rfl rfl)
theorem dL_law_28 : decode cL_law 28 = .ok (.iload 5, 2) := dk_21 5 (dk_at dksL_law_1 5 rfl rfl)
theorem dL_law_30 : decode cL_law 30 = .ok (.aload_n 0, 1) := dk_42 (dk_at dksL_law_1 7 rfl rfl)
theorem dL_law_31 : decode cL_law 31 = .ok (.arraylength, 1) := dk_190 (dk_at dksL_law_1 8 rfl rfl)
theorem dL_law_32 : decode cL_law 32 = .ok (.iconst 5, 1) := dk_8 (dk_at dksL_law_1 9 rfl rfl)
theorem dL_law_33 : decode cL_law 33 = .ok (.isub, 1) := dk_100 (dk_at dksL_law_1 10 rfl rfl)
theorem dL_law_34 : decode cL_law 34 = .ok (.if_icmp .gt 2352, 3) := dk_163 9 48 (dk_at dksL_law_1 11 rfl rfl)
theorem dL_law_37 : decode cL_law 37 = .ok (.aload_n 0, 1) := dk_42 (dk_at dksL_law_1 14 rfl rfl)
theorem dL_law_38 : decode cL_law 38 = .ok (.iload 5, 2) := dk_21 5 (dk_at dksL_law_1 15 rfl rfl)
theorem dL_law_40 : decode cL_law 40 = .ok (.iaload, 1) := dk_46 (dk_at dksL_law_1 17 rfl rfl)
theorem dL_law_41 : decode cL_law 41 = .ok (.bipush 63, 2) := dk_16 63 (dk_at dksL_law_1 18 rfl rfl)
theorem dL_law_43 : decode cL_law 43 = .ok (.iand, 1) := dk_126 (dk_at dksL_law_1 20 rfl rfl)
theorem dL_law_44 : decode cL_law 44 = .ok (.tableswitch 2336 0 40 #[180, 236, 292, 384, 440, 496, 552, 596, 652, 708, 764, 832, 888, 944, 1012, 1068, 1136, 1204, 1267, 1330, 1374, 1430, 1486, 1554, 1610, 1654, 1698, 1711, 1724, 1782, 1826, 1839, 1923, 1936, 1992, 2048, 2104, 2169, 2235, 2279, 2292], 180) := by decide +kernel
theorem dL_law_224 : decode cL_law 224 = .ok (.aload_n 1, 1) := dk_43 (dk_at dksL_law_3 0 rfl rfl)
theorem dL_law_225 : decode cL_law 225 = .ok (.aload_n 0, 1) := dk_42 (dk_at dksL_law_3 1 rfl rfl)
theorem dL_law_226 : decode cL_law 226 = .ok (.iload 5, 2) := dk_21 5 (dk_at dksL_law_3 2 rfl rfl)
theorem dL_law_228 : decode cL_law 228 = .ok (.iconst 1, 1) := dk_4 (dk_at dksL_law_3 4 rfl rfl)
theorem dL_law_229 : decode cL_law 229 = .ok (.iadd, 1) := dk_96 (dk_at dksL_law_3 5 rfl rfl)
theorem dL_law_230 : decode cL_law 230 = .ok (.iaload, 1) := dk_46 (dk_at dksL_law_3 6 rfl rfl)
theorem dL_law_231 : decode cL_law 231 = .ok (.aload_n 3, 1) := dk_45 (dk_at dksL_law_3 7 rfl rfl)
theorem dL_law_232 : decode cL_law 232 = .ok (.invokestatic 143, 3) := dk_184 0 143 (dk_at dksL_law_3 8 rfl rfl)
theorem dL_law_235 : decode cL_law 235 = .ok (.istore 6, 2) := dk_54 6 (dk_at dksL_law_3 11 rfl rfl)
theorem dL_law_237 : decode cL_law 237 = .ok (.aload_n 2, 1) := dk_44 (dk_at dksL_law_3 13 rfl rfl)
theorem dL_law_238 : decode cL_law 238 = .ok (.aload_n 0, 1) := dk_42 (dk_at dksL_law_3 14 rfl rfl)
theorem dL_law_239 : decode cL_law 239 = .ok (.iload 5, 2) := dk_21 5 (dk_at dksL_law_3 15 rfl rfl)
theorem dL_law_241 : decode cL_law 241 = .ok (.iconst 1, 1) := dk_4 (dk_at dksL_law_3 17 rfl rfl)
theorem dL_law_242 : decode cL_law 242 = .ok (.iadd, 1) := dk_96 (dk_at dksL_law_3 18 rfl rfl)
theorem dL_law_243 : decode cL_law 243 = .ok (.iaload, 1) := dk_46 (dk_at dksL_law_3 19 rfl rfl)
theorem dL_law_244 : decode cL_law 244 = .ok (.invokevirtual 148, 3) := dk_182 0 148 (dk_at dksL_law_3 20 rfl rfl)
theorem dL_law_247 : decode cL_law 247 = .ok (.istore 7, 2) := dk_54 7 (dk_at dksL_law_4 0 rfl rfl)
theorem dL_law_249 : decode cL_law 249 = .ok (.aload_n 2, 1) := dk_44 (dk_at dksL_law_4 2 rfl rfl)
theorem dL_law_250 : decode cL_law 250 = .ok (.invokevirtual 149, 3) := dk_182 0 149 (dk_at dksL_law_4 3 rfl rfl)
theorem dL_law_253 : decode cL_law 253 = .ok (.iload 6, 2) := dk_21 6 (dk_at dksL_law_4 6 rfl rfl)
theorem dL_law_255 : decode cL_law 255 = .ok (.if_icmp .eq 5, 3) := dk_159 0 5 (dk_at dksL_law_4 8 rfl rfl)
theorem dL_law_258 : decode cL_law 258 = .ok (.iconst 0, 1) := dk_3 (dk_at dksL_law_4 11 rfl rfl)
theorem dL_law_259 : decode cL_law 259 = .ok (.ireturn, 1) := dk_172 (dk_at dksL_law_4 12 rfl rfl)
theorem dL_law_260 : decode cL_law 260 = .ok (.iload 6, 2) := dk_21 6 (dk_at dksL_law_4 13 rfl rfl)
theorem dL_law_262 : decode cL_law 262 = .ok (.ifCond .ne 15, 3) := dk_154 0 15 (dk_at dksL_law_4 15 rfl rfl)
theorem dL_law_265 : decode cL_law 265 = .ok (.aload_n 3, 1) := dk_45 (dk_at dksL_law_4 18 rfl rfl)
theorem dL_law_266 : decode cL_law 266 = .ok (.iconst 0, 1) := dk_3 (dk_at dksL_law_4 19 rfl rfl)
theorem dL_law_267 : decode cL_law 267 = .ok (.laload, 1) := dk_47 (dk_at dksL_law_4 20 rfl rfl)
theorem dL_law_268 : decode cL_law 268 = .ok (.iload 7, 2) := dk_21 7 (dk_at dksL_law_4 21 rfl rfl)
theorem dL_law_270 : decode cL_law 270 = .ok (.i2l, 1) := dk_133 (dk_at dksL_law_4 23 rfl rfl)
theorem dL_law_271 : decode cL_law 271 = .ok (.lcmp, 1) := dk_148 (dk_at dksL_law_5 0 rfl rfl)
theorem dL_law_272 : decode cL_law 272 = .ok (.ifCond .eq 5, 3) := dk_153 0 5 (dk_at dksL_law_5 1 rfl rfl)
theorem dL_law_275 : decode cL_law 275 = .ok (.iconst 0, 1) := dk_3 (dk_at dksL_law_5 4 rfl rfl)
theorem dL_law_276 : decode cL_law 276 = .ok (.ireturn, 1) := dk_172 (dk_at dksL_law_5 5 rfl rfl)
theorem dL_law_277 : decode cL_law 277 = .ok (.goto 2103, 3) := dk_167 8 55 (dk_at dksL_law_5 6 rfl rfl)
theorem dL_law_280 : decode cL_law 280 = .ok (.aload_n 1, 1) := dk_43 (dk_at dksL_law_5 9 rfl rfl)
theorem dL_law_281 : decode cL_law 281 = .ok (.aload_n 0, 1) := dk_42 (dk_at dksL_law_5 10 rfl rfl)
theorem dL_law_282 : decode cL_law 282 = .ok (.iload 5, 2) := dk_21 5 (dk_at dksL_law_5 11 rfl rfl)
theorem dL_law_284 : decode cL_law 284 = .ok (.iconst 1, 1) := dk_4 (dk_at dksL_law_5 13 rfl rfl)
theorem dL_law_285 : decode cL_law 285 = .ok (.iadd, 1) := dk_96 (dk_at dksL_law_5 14 rfl rfl)
theorem dL_law_286 : decode cL_law 286 = .ok (.iaload, 1) := dk_46 (dk_at dksL_law_5 15 rfl rfl)
theorem dL_law_287 : decode cL_law 287 = .ok (.aload_n 3, 1) := dk_45 (dk_at dksL_law_5 16 rfl rfl)
theorem dL_law_288 : decode cL_law 288 = .ok (.invokestatic 152, 3) := dk_184 0 152 (dk_at dksL_law_5 17 rfl rfl)
theorem dL_law_291 : decode cL_law 291 = .ok (.istore 6, 2) := dk_54 6 (dk_at dksL_law_5 20 rfl rfl)
theorem dL_law_293 : decode cL_law 293 = .ok (.aload_n 2, 1) := dk_44 (dk_at dksL_law_5 22 rfl rfl)
theorem dL_law_294 : decode cL_law 294 = .ok (.aload_n 0, 1) := dk_42 (dk_at dksL_law_5 23 rfl rfl)
theorem dL_law_295 : decode cL_law 295 = .ok (.iload 5, 2) := dk_21 5 (dk_at dksL_law_6 0 rfl rfl)
theorem dL_law_297 : decode cL_law 297 = .ok (.iconst 1, 1) := dk_4 (dk_at dksL_law_6 2 rfl rfl)
theorem dL_law_298 : decode cL_law 298 = .ok (.iadd, 1) := dk_96 (dk_at dksL_law_6 3 rfl rfl)
theorem dL_law_299 : decode cL_law 299 = .ok (.iaload, 1) := dk_46 (dk_at dksL_law_6 4 rfl rfl)
theorem dL_law_300 : decode cL_law 300 = .ok (.invokevirtual 154, 3) := dk_182 0 154 (dk_at dksL_law_6 5 rfl rfl)
theorem dL_law_303 : decode cL_law 303 = .ok (.istore 7, 2) := dk_54 7 (dk_at dksL_law_6 8 rfl rfl)
theorem dL_law_305 : decode cL_law 305 = .ok (.aload_n 2, 1) := dk_44 (dk_at dksL_law_6 10 rfl rfl)
theorem dL_law_306 : decode cL_law 306 = .ok (.invokevirtual 149, 3) := dk_182 0 149 (dk_at dksL_law_6 11 rfl rfl)
theorem dL_law_309 : decode cL_law 309 = .ok (.iload 6, 2) := dk_21 6 (dk_at dksL_law_6 14 rfl rfl)
theorem dL_law_311 : decode cL_law 311 = .ok (.if_icmp .eq 5, 3) := dk_159 0 5 (dk_at dksL_law_6 16 rfl rfl)
theorem dL_law_314 : decode cL_law 314 = .ok (.iconst 0, 1) := dk_3 (dk_at dksL_law_6 19 rfl rfl)
theorem dL_law_315 : decode cL_law 315 = .ok (.ireturn, 1) := dk_172 (dk_at dksL_law_6 20 rfl rfl)
theorem dL_law_316 : decode cL_law 316 = .ok (.iload 6, 2) := dk_21 6 (dk_at dksL_law_6 21 rfl rfl)
theorem dL_law_318 : decode cL_law 318 = .ok (.ifCond .ne 15, 3) := dk_154 0 15 (dk_at dksL_law_7 0 rfl rfl)
theorem dL_law_321 : decode cL_law 321 = .ok (.aload_n 3, 1) := dk_45 (dk_at dksL_law_7 3 rfl rfl)
theorem dL_law_322 : decode cL_law 322 = .ok (.iconst 0, 1) := dk_3 (dk_at dksL_law_7 4 rfl rfl)
theorem dL_law_323 : decode cL_law 323 = .ok (.laload, 1) := dk_47 (dk_at dksL_law_7 5 rfl rfl)
theorem dL_law_324 : decode cL_law 324 = .ok (.iload 7, 2) := dk_21 7 (dk_at dksL_law_7 6 rfl rfl)
theorem dL_law_326 : decode cL_law 326 = .ok (.i2l, 1) := dk_133 (dk_at dksL_law_7 8 rfl rfl)
theorem dL_law_327 : decode cL_law 327 = .ok (.lcmp, 1) := dk_148 (dk_at dksL_law_7 9 rfl rfl)
theorem dL_law_328 : decode cL_law 328 = .ok (.ifCond .eq 5, 3) := dk_153 0 5 (dk_at dksL_law_7 10 rfl rfl)
theorem dL_law_331 : decode cL_law 331 = .ok (.iconst 0, 1) := dk_3 (dk_at dksL_law_7 13 rfl rfl)
theorem dL_law_332 : decode cL_law 332 = .ok (.ireturn, 1) := dk_172 (dk_at dksL_law_7 14 rfl rfl)
theorem dL_law_333 : decode cL_law 333 = .ok (.goto 2047, 3) := dk_167 7 255 (dk_at dksL_law_7 15 rfl rfl)
theorem dL_law_336 : decode cL_law 336 = .ok (.aload_n 1, 1) := dk_43 (dk_at dksL_law_7 18 rfl rfl)
theorem dL_law_337 : decode cL_law 337 = .ok (.aload_n 0, 1) := dk_42 (dk_at dksL_law_7 19 rfl rfl)
theorem dL_law_338 : decode cL_law 338 = .ok (.iload 5, 2) := dk_21 5 (dk_at dksL_law_7 20 rfl rfl)
theorem dL_law_340 : decode cL_law 340 = .ok (.iconst 1, 1) := dk_4 (dk_at dksL_law_7 22 rfl rfl)
theorem dL_law_341 : decode cL_law 341 = .ok (.iadd, 1) := dk_96 (dk_at dksL_law_7 23 rfl rfl)
theorem dL_law_342 : decode cL_law 342 = .ok (.iaload, 1) := dk_46 (dk_at dksL_law_8 0 rfl rfl)
theorem dL_law_343 : decode cL_law 343 = .ok (.aload_n 0, 1) := dk_42 (dk_at dksL_law_8 1 rfl rfl)
theorem dL_law_344 : decode cL_law 344 = .ok (.iload 5, 2) := dk_21 5 (dk_at dksL_law_8 2 rfl rfl)
theorem dL_law_346 : decode cL_law 346 = .ok (.iconst 2, 1) := dk_5 (dk_at dksL_law_8 4 rfl rfl)
theorem dL_law_347 : decode cL_law 347 = .ok (.iadd, 1) := dk_96 (dk_at dksL_law_8 5 rfl rfl)
theorem dL_law_348 : decode cL_law 348 = .ok (.iaload, 1) := dk_46 (dk_at dksL_law_8 6 rfl rfl)
theorem dL_law_349 : decode cL_law 349 = .ok (.aload_n 0, 1) := dk_42 (dk_at dksL_law_8 7 rfl rfl)
theorem dL_law_350 : decode cL_law 350 = .ok (.iload 5, 2) := dk_21 5 (dk_at dksL_law_8 8 rfl rfl)
theorem dL_law_352 : decode cL_law 352 = .ok (.iconst 3, 1) := dk_6 (dk_at dksL_law_8 10 rfl rfl)
theorem dL_law_353 : decode cL_law 353 = .ok (.iadd, 1) := dk_96 (dk_at dksL_law_8 11 rfl rfl)
theorem dL_law_354 : decode cL_law 354 = .ok (.iaload, 1) := dk_46 (dk_at dksL_law_8 12 rfl rfl)
theorem dL_law_355 : decode cL_law 355 = .ok (.aload_n 0, 1) := dk_42 (dk_at dksL_law_8 13 rfl rfl)
theorem dL_law_356 : decode cL_law 356 = .ok (.iload 5, 2) := dk_21 5 (dk_at dksL_law_8 14 rfl rfl)
theorem dL_law_358 : decode cL_law 358 = .ok (.iconst 4, 1) := dk_7 (dk_at dksL_law_8 16 rfl rfl)
theorem dL_law_359 : decode cL_law 359 = .ok (.iadd, 1) := dk_96 (dk_at dksL_law_8 17 rfl rfl)
theorem dL_law_360 : decode cL_law 360 = .ok (.iaload, 1) := dk_46 (dk_at dksL_law_8 18 rfl rfl)
theorem dL_law_361 : decode cL_law 361 = .ok (.aload_n 3, 1) := dk_45 (dk_at dksL_law_8 19 rfl rfl)
theorem dL_law_362 : decode cL_law 362 = .ok (.invokestatic 155, 3) := dk_184 0 155 (dk_at dksL_law_8 20 rfl rfl)
theorem dL_law_365 : decode cL_law 365 = .ok (.istore 6, 2) := dk_54 6 (dk_at dksL_law_9 0 rfl rfl)
theorem dL_law_367 : decode cL_law 367 = .ok (.aload_n 2, 1) := dk_44 (dk_at dksL_law_9 2 rfl rfl)
theorem dL_law_368 : decode cL_law 368 = .ok (.aload_n 0, 1) := dk_42 (dk_at dksL_law_9 3 rfl rfl)
theorem dL_law_369 : decode cL_law 369 = .ok (.iload 5, 2) := dk_21 5 (dk_at dksL_law_9 4 rfl rfl)
theorem dL_law_371 : decode cL_law 371 = .ok (.iconst 1, 1) := dk_4 (dk_at dksL_law_9 6 rfl rfl)
theorem dL_law_372 : decode cL_law 372 = .ok (.iadd, 1) := dk_96 (dk_at dksL_law_9 7 rfl rfl)
theorem dL_law_373 : decode cL_law 373 = .ok (.iaload, 1) := dk_46 (dk_at dksL_law_9 8 rfl rfl)
theorem dL_law_374 : decode cL_law 374 = .ok (.aload_n 0, 1) := dk_42 (dk_at dksL_law_9 9 rfl rfl)
theorem dL_law_375 : decode cL_law 375 = .ok (.iload 5, 2) := dk_21 5 (dk_at dksL_law_9 10 rfl rfl)
theorem dL_law_377 : decode cL_law 377 = .ok (.iconst 2, 1) := dk_5 (dk_at dksL_law_9 12 rfl rfl)
theorem dL_law_378 : decode cL_law 378 = .ok (.iadd, 1) := dk_96 (dk_at dksL_law_9 13 rfl rfl)
theorem dL_law_379 : decode cL_law 379 = .ok (.iaload, 1) := dk_46 (dk_at dksL_law_9 14 rfl rfl)
theorem dL_law_380 : decode cL_law 380 = .ok (.aload_n 0, 1) := dk_42 (dk_at dksL_law_9 15 rfl rfl)
theorem dL_law_381 : decode cL_law 381 = .ok (.iload 5, 2) := dk_21 5 (dk_at dksL_law_9 16 rfl rfl)
theorem dL_law_383 : decode cL_law 383 = .ok (.iconst 3, 1) := dk_6 (dk_at dksL_law_9 18 rfl rfl)
theorem dL_law_384 : decode cL_law 384 = .ok (.iadd, 1) := dk_96 (dk_at dksL_law_9 19 rfl rfl)
theorem dL_law_385 : decode cL_law 385 = .ok (.iaload, 1) := dk_46 (dk_at dksL_law_9 20 rfl rfl)
theorem dL_law_386 : decode cL_law 386 = .ok (.aload_n 0, 1) := dk_42 (dk_at dksL_law_9 21 rfl rfl)
theorem dL_law_387 : decode cL_law 387 = .ok (.iload 5, 2) := dk_21 5 (dk_at dksL_law_9 22 rfl rfl)
theorem dL_law_389 : decode cL_law 389 = .ok (.iconst 4, 1) := dk_7 (dk_at dksL_law_10 0 rfl rfl)
theorem dL_law_390 : decode cL_law 390 = .ok (.iadd, 1) := dk_96 (dk_at dksL_law_10 1 rfl rfl)
theorem dL_law_391 : decode cL_law 391 = .ok (.iaload, 1) := dk_46 (dk_at dksL_law_10 2 rfl rfl)
theorem dL_law_392 : decode cL_law 392 = .ok (.invokevirtual 158, 3) := dk_182 0 158 (dk_at dksL_law_10 3 rfl rfl)
theorem dL_law_395 : decode cL_law 395 = .ok (.istore 7, 2) := dk_54 7 (dk_at dksL_law_10 6 rfl rfl)
theorem dL_law_397 : decode cL_law 397 = .ok (.aload_n 2, 1) := dk_44 (dk_at dksL_law_10 8 rfl rfl)
theorem dL_law_398 : decode cL_law 398 = .ok (.invokevirtual 149, 3) := dk_182 0 149 (dk_at dksL_law_10 9 rfl rfl)
theorem dL_law_401 : decode cL_law 401 = .ok (.iload 6, 2) := dk_21 6 (dk_at dksL_law_10 12 rfl rfl)
theorem dL_law_403 : decode cL_law 403 = .ok (.if_icmp .eq 5, 3) := dk_159 0 5 (dk_at dksL_law_10 14 rfl rfl)
theorem dL_law_406 : decode cL_law 406 = .ok (.iconst 0, 1) := dk_3 (dk_at dksL_law_10 17 rfl rfl)
theorem dL_law_407 : decode cL_law 407 = .ok (.ireturn, 1) := dk_172 (dk_at dksL_law_10 18 rfl rfl)
theorem dL_law_408 : decode cL_law 408 = .ok (.iload 6, 2) := dk_21 6 (dk_at dksL_law_10 19 rfl rfl)
theorem dL_law_410 : decode cL_law 410 = .ok (.ifCond .ne 15, 3) := dk_154 0 15 (dk_at dksL_law_10 21 rfl rfl)
theorem dL_law_413 : decode cL_law 413 = .ok (.aload_n 3, 1) := dk_45 (dk_at dksL_law_11 0 rfl rfl)
theorem dL_law_414 : decode cL_law 414 = .ok (.iconst 0, 1) := dk_3 (dk_at dksL_law_11 1 rfl rfl)
theorem dL_law_415 : decode cL_law 415 = .ok (.laload, 1) := dk_47 (dk_at dksL_law_11 2 rfl rfl)
theorem dL_law_416 : decode cL_law 416 = .ok (.iload 7, 2) := dk_21 7 (dk_at dksL_law_11 3 rfl rfl)
theorem dL_law_418 : decode cL_law 418 = .ok (.i2l, 1) := dk_133 (dk_at dksL_law_11 5 rfl rfl)
theorem dL_law_419 : decode cL_law 419 = .ok (.lcmp, 1) := dk_148 (dk_at dksL_law_11 6 rfl rfl)
theorem dL_law_420 : decode cL_law 420 = .ok (.ifCond .eq 5, 3) := dk_153 0 5 (dk_at dksL_law_11 7 rfl rfl)
theorem dL_law_423 : decode cL_law 423 = .ok (.iconst 0, 1) := dk_3 (dk_at dksL_law_11 10 rfl rfl)
theorem dL_law_424 : decode cL_law 424 = .ok (.ireturn, 1) := dk_172 (dk_at dksL_law_11 11 rfl rfl)
theorem dL_law_425 : decode cL_law 425 = .ok (.goto 1955, 3) := dk_167 7 163 (dk_at dksL_law_11 12 rfl rfl)
theorem dL_law_428 : decode cL_law 428 = .ok (.aload_n 1, 1) := dk_43 (dk_at dksL_law_11 15 rfl rfl)
theorem dL_law_429 : decode cL_law 429 = .ok (.aload_n 0, 1) := dk_42 (dk_at dksL_law_11 16 rfl rfl)
theorem dL_law_430 : decode cL_law 430 = .ok (.iload 5, 2) := dk_21 5 (dk_at dksL_law_11 17 rfl rfl)
theorem dL_law_432 : decode cL_law 432 = .ok (.iconst 1, 1) := dk_4 (dk_at dksL_law_11 19 rfl rfl)
theorem dL_law_433 : decode cL_law 433 = .ok (.iadd, 1) := dk_96 (dk_at dksL_law_11 20 rfl rfl)
theorem dL_law_434 : decode cL_law 434 = .ok (.iaload, 1) := dk_46 (dk_at dksL_law_11 21 rfl rfl)
theorem dL_law_435 : decode cL_law 435 = .ok (.aload_n 3, 1) := dk_45 (dk_at dksL_law_11 22 rfl rfl)
theorem dL_law_436 : decode cL_law 436 = .ok (.invokestatic 159, 3) := dk_184 0 159 (dk_at dksL_law_12 0 rfl rfl)
theorem dL_law_439 : decode cL_law 439 = .ok (.istore 6, 2) := dk_54 6 (dk_at dksL_law_12 3 rfl rfl)
theorem dL_law_441 : decode cL_law 441 = .ok (.aload_n 2, 1) := dk_44 (dk_at dksL_law_12 5 rfl rfl)
theorem dL_law_442 : decode cL_law 442 = .ok (.aload_n 0, 1) := dk_42 (dk_at dksL_law_12 6 rfl rfl)
theorem dL_law_443 : decode cL_law 443 = .ok (.iload 5, 2) := dk_21 5 (dk_at dksL_law_12 7 rfl rfl)
theorem dL_law_445 : decode cL_law 445 = .ok (.iconst 1, 1) := dk_4 (dk_at dksL_law_12 9 rfl rfl)
theorem dL_law_446 : decode cL_law 446 = .ok (.iadd, 1) := dk_96 (dk_at dksL_law_12 10 rfl rfl)
theorem dL_law_447 : decode cL_law 447 = .ok (.iaload, 1) := dk_46 (dk_at dksL_law_12 11 rfl rfl)
theorem dL_law_448 : decode cL_law 448 = .ok (.invokevirtual 161, 3) := dk_182 0 161 (dk_at dksL_law_12 12 rfl rfl)
theorem dL_law_451 : decode cL_law 451 = .ok (.istore 7, 2) := dk_54 7 (dk_at dksL_law_12 15 rfl rfl)
theorem dL_law_453 : decode cL_law 453 = .ok (.aload_n 2, 1) := dk_44 (dk_at dksL_law_12 17 rfl rfl)
theorem dL_law_454 : decode cL_law 454 = .ok (.invokevirtual 149, 3) := dk_182 0 149 (dk_at dksL_law_12 18 rfl rfl)
theorem dL_law_457 : decode cL_law 457 = .ok (.iload 6, 2) := dk_21 6 (dk_at dksL_law_12 21 rfl rfl)
theorem dL_law_459 : decode cL_law 459 = .ok (.if_icmp .eq 5, 3) := dk_159 0 5 (dk_at dksL_law_13 0 rfl rfl)
theorem dL_law_462 : decode cL_law 462 = .ok (.iconst 0, 1) := dk_3 (dk_at dksL_law_13 3 rfl rfl)
theorem dL_law_463 : decode cL_law 463 = .ok (.ireturn, 1) := dk_172 (dk_at dksL_law_13 4 rfl rfl)
theorem dL_law_464 : decode cL_law 464 = .ok (.iload 6, 2) := dk_21 6 (dk_at dksL_law_13 5 rfl rfl)
theorem dL_law_466 : decode cL_law 466 = .ok (.ifCond .ne 15, 3) := dk_154 0 15 (dk_at dksL_law_13 7 rfl rfl)
theorem dL_law_469 : decode cL_law 469 = .ok (.aload_n 3, 1) := dk_45 (dk_at dksL_law_13 10 rfl rfl)
theorem dL_law_470 : decode cL_law 470 = .ok (.iconst 0, 1) := dk_3 (dk_at dksL_law_13 11 rfl rfl)
theorem dL_law_471 : decode cL_law 471 = .ok (.laload, 1) := dk_47 (dk_at dksL_law_13 12 rfl rfl)
theorem dL_law_472 : decode cL_law 472 = .ok (.iload 7, 2) := dk_21 7 (dk_at dksL_law_13 13 rfl rfl)
theorem dL_law_474 : decode cL_law 474 = .ok (.i2l, 1) := dk_133 (dk_at dksL_law_13 15 rfl rfl)
theorem dL_law_475 : decode cL_law 475 = .ok (.lcmp, 1) := dk_148 (dk_at dksL_law_13 16 rfl rfl)
theorem dL_law_476 : decode cL_law 476 = .ok (.ifCond .eq 5, 3) := dk_153 0 5 (dk_at dksL_law_13 17 rfl rfl)
theorem dL_law_479 : decode cL_law 479 = .ok (.iconst 0, 1) := dk_3 (dk_at dksL_law_13 20 rfl rfl)
theorem dL_law_480 : decode cL_law 480 = .ok (.ireturn, 1) := dk_172 (dk_at dksL_law_13 21 rfl rfl)
theorem dL_law_481 : decode cL_law 481 = .ok (.goto 1899, 3) := dk_167 7 107 (dk_at dksL_law_14 0 rfl rfl)
theorem dL_law_484 : decode cL_law 484 = .ok (.aload_n 1, 1) := dk_43 (dk_at dksL_law_14 3 rfl rfl)
theorem dL_law_485 : decode cL_law 485 = .ok (.aload_n 0, 1) := dk_42 (dk_at dksL_law_14 4 rfl rfl)
theorem dL_law_486 : decode cL_law 486 = .ok (.iload 5, 2) := dk_21 5 (dk_at dksL_law_14 5 rfl rfl)
theorem dL_law_488 : decode cL_law 488 = .ok (.iconst 1, 1) := dk_4 (dk_at dksL_law_14 7 rfl rfl)
theorem dL_law_489 : decode cL_law 489 = .ok (.iadd, 1) := dk_96 (dk_at dksL_law_14 8 rfl rfl)
theorem dL_law_490 : decode cL_law 490 = .ok (.iaload, 1) := dk_46 (dk_at dksL_law_14 9 rfl rfl)
theorem dL_law_491 : decode cL_law 491 = .ok (.aload_n 3, 1) := dk_45 (dk_at dksL_law_14 10 rfl rfl)
theorem dL_law_492 : decode cL_law 492 = .ok (.invokestatic 162, 3) := dk_184 0 162 (dk_at dksL_law_14 11 rfl rfl)
theorem dL_law_495 : decode cL_law 495 = .ok (.istore 6, 2) := dk_54 6 (dk_at dksL_law_14 14 rfl rfl)
theorem dL_law_497 : decode cL_law 497 = .ok (.aload_n 2, 1) := dk_44 (dk_at dksL_law_14 16 rfl rfl)
theorem dL_law_498 : decode cL_law 498 = .ok (.aload_n 0, 1) := dk_42 (dk_at dksL_law_14 17 rfl rfl)
theorem dL_law_499 : decode cL_law 499 = .ok (.iload 5, 2) := dk_21 5 (dk_at dksL_law_14 18 rfl rfl)
theorem dL_law_501 : decode cL_law 501 = .ok (.iconst 1, 1) := dk_4 (dk_at dksL_law_14 20 rfl rfl)
theorem dL_law_502 : decode cL_law 502 = .ok (.iadd, 1) := dk_96 (dk_at dksL_law_14 21 rfl rfl)
theorem dL_law_503 : decode cL_law 503 = .ok (.iaload, 1) := dk_46 (dk_at dksL_law_14 22 rfl rfl)
theorem dL_law_504 : decode cL_law 504 = .ok (.invokevirtual 164, 3) := dk_182 0 164 (dk_at dksL_law_15 0 rfl rfl)
theorem dL_law_507 : decode cL_law 507 = .ok (.istore 7, 2) := dk_54 7 (dk_at dksL_law_15 3 rfl rfl)
theorem dL_law_509 : decode cL_law 509 = .ok (.aload_n 2, 1) := dk_44 (dk_at dksL_law_15 5 rfl rfl)
theorem dL_law_510 : decode cL_law 510 = .ok (.invokevirtual 149, 3) := dk_182 0 149 (dk_at dksL_law_15 6 rfl rfl)
theorem dL_law_513 : decode cL_law 513 = .ok (.iload 6, 2) := dk_21 6 (dk_at dksL_law_15 9 rfl rfl)
theorem dL_law_515 : decode cL_law 515 = .ok (.if_icmp .eq 5, 3) := dk_159 0 5 (dk_at dksL_law_15 11 rfl rfl)
theorem dL_law_518 : decode cL_law 518 = .ok (.iconst 0, 1) := dk_3 (dk_at dksL_law_15 14 rfl rfl)
theorem dL_law_519 : decode cL_law 519 = .ok (.ireturn, 1) := dk_172 (dk_at dksL_law_15 15 rfl rfl)
theorem dL_law_520 : decode cL_law 520 = .ok (.iload 6, 2) := dk_21 6 (dk_at dksL_law_15 16 rfl rfl)
theorem dL_law_522 : decode cL_law 522 = .ok (.ifCond .ne 15, 3) := dk_154 0 15 (dk_at dksL_law_15 18 rfl rfl)
theorem dL_law_525 : decode cL_law 525 = .ok (.aload_n 3, 1) := dk_45 (dk_at dksL_law_15 21 rfl rfl)
theorem dL_law_526 : decode cL_law 526 = .ok (.iconst 0, 1) := dk_3 (dk_at dksL_law_15 22 rfl rfl)
theorem dL_law_527 : decode cL_law 527 = .ok (.laload, 1) := dk_47 (dk_at dksL_law_15 23 rfl rfl)
theorem dL_law_528 : decode cL_law 528 = .ok (.iload 7, 2) := dk_21 7 (dk_at dksL_law_16 0 rfl rfl)
theorem dL_law_530 : decode cL_law 530 = .ok (.i2l, 1) := dk_133 (dk_at dksL_law_16 2 rfl rfl)
theorem dL_law_531 : decode cL_law 531 = .ok (.lcmp, 1) := dk_148 (dk_at dksL_law_16 3 rfl rfl)
theorem dL_law_532 : decode cL_law 532 = .ok (.ifCond .eq 5, 3) := dk_153 0 5 (dk_at dksL_law_16 4 rfl rfl)
theorem dL_law_535 : decode cL_law 535 = .ok (.iconst 0, 1) := dk_3 (dk_at dksL_law_16 7 rfl rfl)
theorem dL_law_536 : decode cL_law 536 = .ok (.ireturn, 1) := dk_172 (dk_at dksL_law_16 8 rfl rfl)
theorem dL_law_537 : decode cL_law 537 = .ok (.goto 1843, 3) := dk_167 7 51 (dk_at dksL_law_16 9 rfl rfl)
theorem dL_law_540 : decode cL_law 540 = .ok (.aload_n 1, 1) := dk_43 (dk_at dksL_law_16 12 rfl rfl)
theorem dL_law_541 : decode cL_law 541 = .ok (.aload_n 0, 1) := dk_42 (dk_at dksL_law_16 13 rfl rfl)
theorem dL_law_542 : decode cL_law 542 = .ok (.iload 5, 2) := dk_21 5 (dk_at dksL_law_16 14 rfl rfl)
theorem dL_law_544 : decode cL_law 544 = .ok (.iconst 1, 1) := dk_4 (dk_at dksL_law_16 16 rfl rfl)
theorem dL_law_545 : decode cL_law 545 = .ok (.iadd, 1) := dk_96 (dk_at dksL_law_16 17 rfl rfl)
theorem dL_law_546 : decode cL_law 546 = .ok (.iaload, 1) := dk_46 (dk_at dksL_law_16 18 rfl rfl)
theorem dL_law_547 : decode cL_law 547 = .ok (.aload_n 3, 1) := dk_45 (dk_at dksL_law_16 19 rfl rfl)
theorem dL_law_548 : decode cL_law 548 = .ok (.invokestatic 165, 3) := dk_184 0 165 (dk_at dksL_law_16 20 rfl rfl)
theorem dL_law_551 : decode cL_law 551 = .ok (.istore 6, 2) := dk_54 6 (dk_at dksL_law_17 0 rfl rfl)
theorem dL_law_553 : decode cL_law 553 = .ok (.aload_n 2, 1) := dk_44 (dk_at dksL_law_17 2 rfl rfl)
theorem dL_law_554 : decode cL_law 554 = .ok (.aload_n 0, 1) := dk_42 (dk_at dksL_law_17 3 rfl rfl)
theorem dL_law_555 : decode cL_law 555 = .ok (.iload 5, 2) := dk_21 5 (dk_at dksL_law_17 4 rfl rfl)
theorem dL_law_557 : decode cL_law 557 = .ok (.iconst 1, 1) := dk_4 (dk_at dksL_law_17 6 rfl rfl)
theorem dL_law_558 : decode cL_law 558 = .ok (.iadd, 1) := dk_96 (dk_at dksL_law_17 7 rfl rfl)
theorem dL_law_559 : decode cL_law 559 = .ok (.iaload, 1) := dk_46 (dk_at dksL_law_17 8 rfl rfl)
theorem dL_law_560 : decode cL_law 560 = .ok (.invokevirtual 167, 3) := dk_182 0 167 (dk_at dksL_law_17 9 rfl rfl)
theorem dL_law_563 : decode cL_law 563 = .ok (.istore 7, 2) := dk_54 7 (dk_at dksL_law_17 12 rfl rfl)
theorem dL_law_565 : decode cL_law 565 = .ok (.aload_n 2, 1) := dk_44 (dk_at dksL_law_17 14 rfl rfl)
theorem dL_law_566 : decode cL_law 566 = .ok (.invokevirtual 149, 3) := dk_182 0 149 (dk_at dksL_law_17 15 rfl rfl)
theorem dL_law_569 : decode cL_law 569 = .ok (.iload 6, 2) := dk_21 6 (dk_at dksL_law_17 18 rfl rfl)
theorem dL_law_571 : decode cL_law 571 = .ok (.if_icmp .eq 5, 3) := dk_159 0 5 (dk_at dksL_law_17 20 rfl rfl)
theorem dL_law_574 : decode cL_law 574 = .ok (.iconst 0, 1) := dk_3 (dk_at dksL_law_17 23 rfl rfl)
theorem dL_law_575 : decode cL_law 575 = .ok (.ireturn, 1) := dk_172 (dk_at dksL_law_18 0 rfl rfl)
theorem dL_law_576 : decode cL_law 576 = .ok (.iload 6, 2) := dk_21 6 (dk_at dksL_law_18 1 rfl rfl)
theorem dL_law_578 : decode cL_law 578 = .ok (.ifCond .ne 15, 3) := dk_154 0 15 (dk_at dksL_law_18 3 rfl rfl)
theorem dL_law_581 : decode cL_law 581 = .ok (.aload_n 3, 1) := dk_45 (dk_at dksL_law_18 6 rfl rfl)
theorem dL_law_582 : decode cL_law 582 = .ok (.iconst 0, 1) := dk_3 (dk_at dksL_law_18 7 rfl rfl)
theorem dL_law_583 : decode cL_law 583 = .ok (.laload, 1) := dk_47 (dk_at dksL_law_18 8 rfl rfl)
theorem dL_law_584 : decode cL_law 584 = .ok (.iload 7, 2) := dk_21 7 (dk_at dksL_law_18 9 rfl rfl)
theorem dL_law_586 : decode cL_law 586 = .ok (.i2l, 1) := dk_133 (dk_at dksL_law_18 11 rfl rfl)
theorem dL_law_587 : decode cL_law 587 = .ok (.lcmp, 1) := dk_148 (dk_at dksL_law_18 12 rfl rfl)
theorem dL_law_588 : decode cL_law 588 = .ok (.ifCond .eq 5, 3) := dk_153 0 5 (dk_at dksL_law_18 13 rfl rfl)
theorem dL_law_591 : decode cL_law 591 = .ok (.iconst 0, 1) := dk_3 (dk_at dksL_law_18 16 rfl rfl)
theorem dL_law_592 : decode cL_law 592 = .ok (.ireturn, 1) := dk_172 (dk_at dksL_law_18 17 rfl rfl)
theorem dL_law_593 : decode cL_law 593 = .ok (.goto 1787, 3) := dk_167 6 251 (dk_at dksL_law_18 18 rfl rfl)
theorem dL_law_596 : decode cL_law 596 = .ok (.aload_n 1, 1) := dk_43 (dk_at dksL_law_18 21 rfl rfl)
theorem dL_law_597 : decode cL_law 597 = .ok (.aload_n 3, 1) := dk_45 (dk_at dksL_law_18 22 rfl rfl)
theorem dL_law_598 : decode cL_law 598 = .ok (.invokestatic 168, 3) := dk_184 0 168 (dk_at dksL_law_19 0 rfl rfl)
theorem dL_law_601 : decode cL_law 601 = .ok (.istore 6, 2) := dk_54 6 (dk_at dksL_law_19 3 rfl rfl)
theorem dL_law_603 : decode cL_law 603 = .ok (.aload_n 2, 1) := dk_44 (dk_at dksL_law_19 5 rfl rfl)
theorem dL_law_604 : decode cL_law 604 = .ok (.invokevirtual 171, 3) := dk_182 0 171 (dk_at dksL_law_19 6 rfl rfl)
theorem dL_law_607 : decode cL_law 607 = .ok (.istore 7, 2) := dk_54 7 (dk_at dksL_law_19 9 rfl rfl)
theorem dL_law_609 : decode cL_law 609 = .ok (.aload_n 2, 1) := dk_44 (dk_at dksL_law_19 11 rfl rfl)
theorem dL_law_610 : decode cL_law 610 = .ok (.invokevirtual 149, 3) := dk_182 0 149 (dk_at dksL_law_19 12 rfl rfl)
theorem dL_law_613 : decode cL_law 613 = .ok (.iload 6, 2) := dk_21 6 (dk_at dksL_law_19 15 rfl rfl)
theorem dL_law_615 : decode cL_law 615 = .ok (.if_icmp .eq 5, 3) := dk_159 0 5 (dk_at dksL_law_19 17 rfl rfl)
theorem dL_law_618 : decode cL_law 618 = .ok (.iconst 0, 1) := dk_3 (dk_at dksL_law_19 20 rfl rfl)
theorem dL_law_619 : decode cL_law 619 = .ok (.ireturn, 1) := dk_172 (dk_at dksL_law_19 21 rfl rfl)
theorem dL_law_620 : decode cL_law 620 = .ok (.iload 6, 2) := dk_21 6 (dk_at dksL_law_19 22 rfl rfl)
theorem dL_law_622 : decode cL_law 622 = .ok (.ifCond .ne 15, 3) := dk_154 0 15 (dk_at dksL_law_20 0 rfl rfl)
theorem dL_law_625 : decode cL_law 625 = .ok (.aload_n 3, 1) := dk_45 (dk_at dksL_law_20 3 rfl rfl)
theorem dL_law_626 : decode cL_law 626 = .ok (.iconst 0, 1) := dk_3 (dk_at dksL_law_20 4 rfl rfl)
theorem dL_law_627 : decode cL_law 627 = .ok (.laload, 1) := dk_47 (dk_at dksL_law_20 5 rfl rfl)
theorem dL_law_628 : decode cL_law 628 = .ok (.iload 7, 2) := dk_21 7 (dk_at dksL_law_20 6 rfl rfl)
theorem dL_law_630 : decode cL_law 630 = .ok (.i2l, 1) := dk_133 (dk_at dksL_law_20 8 rfl rfl)
theorem dL_law_631 : decode cL_law 631 = .ok (.lcmp, 1) := dk_148 (dk_at dksL_law_20 9 rfl rfl)
theorem dL_law_632 : decode cL_law 632 = .ok (.ifCond .eq 5, 3) := dk_153 0 5 (dk_at dksL_law_20 10 rfl rfl)
theorem dL_law_635 : decode cL_law 635 = .ok (.iconst 0, 1) := dk_3 (dk_at dksL_law_20 13 rfl rfl)
theorem dL_law_636 : decode cL_law 636 = .ok (.ireturn, 1) := dk_172 (dk_at dksL_law_20 14 rfl rfl)
theorem dL_law_637 : decode cL_law 637 = .ok (.goto 1743, 3) := dk_167 6 207 (dk_at dksL_law_20 15 rfl rfl)
theorem dL_law_640 : decode cL_law 640 = .ok (.aload_n 1, 1) := dk_43 (dk_at dksL_law_20 18 rfl rfl)
theorem dL_law_641 : decode cL_law 641 = .ok (.aload_n 0, 1) := dk_42 (dk_at dksL_law_20 19 rfl rfl)
theorem dL_law_642 : decode cL_law 642 = .ok (.iload 5, 2) := dk_21 5 (dk_at dksL_law_20 20 rfl rfl)
theorem dL_law_644 : decode cL_law 644 = .ok (.iconst 1, 1) := dk_4 (dk_at dksL_law_20 22 rfl rfl)
theorem dL_law_645 : decode cL_law 645 = .ok (.iadd, 1) := dk_96 (dk_at dksL_law_20 23 rfl rfl)
theorem dL_law_646 : decode cL_law 646 = .ok (.iaload, 1) := dk_46 (dk_at dksL_law_21 0 rfl rfl)
theorem dL_law_647 : decode cL_law 647 = .ok (.aload_n 3, 1) := dk_45 (dk_at dksL_law_21 1 rfl rfl)
theorem dL_law_648 : decode cL_law 648 = .ok (.invokestatic 172, 3) := dk_184 0 172 (dk_at dksL_law_21 2 rfl rfl)
theorem dL_law_651 : decode cL_law 651 = .ok (.istore 6, 2) := dk_54 6 (dk_at dksL_law_21 5 rfl rfl)
theorem dL_law_653 : decode cL_law 653 = .ok (.aload_n 2, 1) := dk_44 (dk_at dksL_law_21 7 rfl rfl)
theorem dL_law_654 : decode cL_law 654 = .ok (.aload_n 0, 1) := dk_42 (dk_at dksL_law_21 8 rfl rfl)
theorem dL_law_655 : decode cL_law 655 = .ok (.iload 5, 2) := dk_21 5 (dk_at dksL_law_21 9 rfl rfl)
theorem dL_law_657 : decode cL_law 657 = .ok (.iconst 1, 1) := dk_4 (dk_at dksL_law_21 11 rfl rfl)
theorem dL_law_658 : decode cL_law 658 = .ok (.iadd, 1) := dk_96 (dk_at dksL_law_21 12 rfl rfl)
theorem dL_law_659 : decode cL_law 659 = .ok (.iaload, 1) := dk_46 (dk_at dksL_law_21 13 rfl rfl)
theorem dL_law_660 : decode cL_law 660 = .ok (.invokevirtual 174, 3) := dk_182 0 174 (dk_at dksL_law_21 14 rfl rfl)
theorem dL_law_663 : decode cL_law 663 = .ok (.istore 7, 2) := dk_54 7 (dk_at dksL_law_21 17 rfl rfl)
theorem dL_law_665 : decode cL_law 665 = .ok (.aload_n 2, 1) := dk_44 (dk_at dksL_law_21 19 rfl rfl)
theorem dL_law_666 : decode cL_law 666 = .ok (.invokevirtual 149, 3) := dk_182 0 149 (dk_at dksL_law_21 20 rfl rfl)
theorem dL_law_669 : decode cL_law 669 = .ok (.iload 6, 2) := dk_21 6 (dk_at dksL_law_22 0 rfl rfl)
theorem dL_law_671 : decode cL_law 671 = .ok (.if_icmp .eq 5, 3) := dk_159 0 5 (dk_at dksL_law_22 2 rfl rfl)
theorem dL_law_674 : decode cL_law 674 = .ok (.iconst 0, 1) := dk_3 (dk_at dksL_law_22 5 rfl rfl)
theorem dL_law_675 : decode cL_law 675 = .ok (.ireturn, 1) := dk_172 (dk_at dksL_law_22 6 rfl rfl)
theorem dL_law_676 : decode cL_law 676 = .ok (.iload 6, 2) := dk_21 6 (dk_at dksL_law_22 7 rfl rfl)
theorem dL_law_678 : decode cL_law 678 = .ok (.ifCond .ne 15, 3) := dk_154 0 15 (dk_at dksL_law_22 9 rfl rfl)
theorem dL_law_681 : decode cL_law 681 = .ok (.aload_n 3, 1) := dk_45 (dk_at dksL_law_22 12 rfl rfl)
theorem dL_law_682 : decode cL_law 682 = .ok (.iconst 0, 1) := dk_3 (dk_at dksL_law_22 13 rfl rfl)
theorem dL_law_683 : decode cL_law 683 = .ok (.laload, 1) := dk_47 (dk_at dksL_law_22 14 rfl rfl)
theorem dL_law_684 : decode cL_law 684 = .ok (.iload 7, 2) := dk_21 7 (dk_at dksL_law_22 15 rfl rfl)
theorem dL_law_686 : decode cL_law 686 = .ok (.i2l, 1) := dk_133 (dk_at dksL_law_22 17 rfl rfl)
theorem dL_law_687 : decode cL_law 687 = .ok (.lcmp, 1) := dk_148 (dk_at dksL_law_22 18 rfl rfl)
theorem dL_law_688 : decode cL_law 688 = .ok (.ifCond .eq 5, 3) := dk_153 0 5 (dk_at dksL_law_22 19 rfl rfl)
theorem dL_law_691 : decode cL_law 691 = .ok (.iconst 0, 1) := dk_3 (dk_at dksL_law_22 22 rfl rfl)
theorem dL_law_692 : decode cL_law 692 = .ok (.ireturn, 1) := dk_172 (dk_at dksL_law_22 23 rfl rfl)
theorem dL_law_693 : decode cL_law 693 = .ok (.goto 1687, 3) := dk_167 6 151 (dk_at dksL_law_23 0 rfl rfl)
theorem dL_law_696 : decode cL_law 696 = .ok (.aload_n 1, 1) := dk_43 (dk_at dksL_law_23 3 rfl rfl)
theorem dL_law_697 : decode cL_law 697 = .ok (.aload_n 0, 1) := dk_42 (dk_at dksL_law_23 4 rfl rfl)
theorem dL_law_698 : decode cL_law 698 = .ok (.iload 5, 2) := dk_21 5 (dk_at dksL_law_23 5 rfl rfl)
theorem dL_law_700 : decode cL_law 700 = .ok (.iconst 1, 1) := dk_4 (dk_at dksL_law_23 7 rfl rfl)
theorem dL_law_701 : decode cL_law 701 = .ok (.iadd, 1) := dk_96 (dk_at dksL_law_23 8 rfl rfl)
theorem dL_law_702 : decode cL_law 702 = .ok (.iaload, 1) := dk_46 (dk_at dksL_law_23 9 rfl rfl)
theorem dL_law_703 : decode cL_law 703 = .ok (.aload_n 3, 1) := dk_45 (dk_at dksL_law_23 10 rfl rfl)
theorem dL_law_704 : decode cL_law 704 = .ok (.invokestatic 175, 3) := dk_184 0 175 (dk_at dksL_law_23 11 rfl rfl)
theorem dL_law_707 : decode cL_law 707 = .ok (.istore 6, 2) := dk_54 6 (dk_at dksL_law_23 14 rfl rfl)
theorem dL_law_709 : decode cL_law 709 = .ok (.aload_n 2, 1) := dk_44 (dk_at dksL_law_23 16 rfl rfl)
theorem dL_law_710 : decode cL_law 710 = .ok (.aload_n 0, 1) := dk_42 (dk_at dksL_law_23 17 rfl rfl)
theorem dL_law_711 : decode cL_law 711 = .ok (.iload 5, 2) := dk_21 5 (dk_at dksL_law_23 18 rfl rfl)
theorem dL_law_713 : decode cL_law 713 = .ok (.iconst 1, 1) := dk_4 (dk_at dksL_law_23 20 rfl rfl)
theorem dL_law_714 : decode cL_law 714 = .ok (.iadd, 1) := dk_96 (dk_at dksL_law_23 21 rfl rfl)
theorem dL_law_715 : decode cL_law 715 = .ok (.iaload, 1) := dk_46 (dk_at dksL_law_23 22 rfl rfl)
theorem dL_law_716 : decode cL_law 716 = .ok (.invokevirtual 177, 3) := dk_182 0 177 (dk_at dksL_law_24 0 rfl rfl)
theorem dL_law_719 : decode cL_law 719 = .ok (.istore 7, 2) := dk_54 7 (dk_at dksL_law_24 3 rfl rfl)
theorem dL_law_721 : decode cL_law 721 = .ok (.aload_n 2, 1) := dk_44 (dk_at dksL_law_24 5 rfl rfl)
theorem dL_law_722 : decode cL_law 722 = .ok (.invokevirtual 149, 3) := dk_182 0 149 (dk_at dksL_law_24 6 rfl rfl)
theorem dL_law_725 : decode cL_law 725 = .ok (.iload 6, 2) := dk_21 6 (dk_at dksL_law_24 9 rfl rfl)
theorem dL_law_727 : decode cL_law 727 = .ok (.if_icmp .eq 5, 3) := dk_159 0 5 (dk_at dksL_law_24 11 rfl rfl)
theorem dL_law_730 : decode cL_law 730 = .ok (.iconst 0, 1) := dk_3 (dk_at dksL_law_24 14 rfl rfl)
theorem dL_law_731 : decode cL_law 731 = .ok (.ireturn, 1) := dk_172 (dk_at dksL_law_24 15 rfl rfl)
theorem dL_law_732 : decode cL_law 732 = .ok (.iload 6, 2) := dk_21 6 (dk_at dksL_law_24 16 rfl rfl)
theorem dL_law_734 : decode cL_law 734 = .ok (.ifCond .ne 15, 3) := dk_154 0 15 (dk_at dksL_law_24 18 rfl rfl)
theorem dL_law_737 : decode cL_law 737 = .ok (.aload_n 3, 1) := dk_45 (dk_at dksL_law_24 21 rfl rfl)
theorem dL_law_738 : decode cL_law 738 = .ok (.iconst 0, 1) := dk_3 (dk_at dksL_law_24 22 rfl rfl)
theorem dL_law_739 : decode cL_law 739 = .ok (.laload, 1) := dk_47 (dk_at dksL_law_24 23 rfl rfl)
theorem dL_law_740 : decode cL_law 740 = .ok (.iload 7, 2) := dk_21 7 (dk_at dksL_law_25 0 rfl rfl)
theorem dL_law_742 : decode cL_law 742 = .ok (.i2l, 1) := dk_133 (dk_at dksL_law_25 2 rfl rfl)
theorem dL_law_743 : decode cL_law 743 = .ok (.lcmp, 1) := dk_148 (dk_at dksL_law_25 3 rfl rfl)
theorem dL_law_744 : decode cL_law 744 = .ok (.ifCond .eq 5, 3) := dk_153 0 5 (dk_at dksL_law_25 4 rfl rfl)
theorem dL_law_747 : decode cL_law 747 = .ok (.iconst 0, 1) := dk_3 (dk_at dksL_law_25 7 rfl rfl)
theorem dL_law_748 : decode cL_law 748 = .ok (.ireturn, 1) := dk_172 (dk_at dksL_law_25 8 rfl rfl)
theorem dL_law_749 : decode cL_law 749 = .ok (.goto 1631, 3) := dk_167 6 95 (dk_at dksL_law_25 9 rfl rfl)
theorem dL_law_752 : decode cL_law 752 = .ok (.aload_n 1, 1) := dk_43 (dk_at dksL_law_25 12 rfl rfl)
theorem dL_law_753 : decode cL_law 753 = .ok (.aload_n 0, 1) := dk_42 (dk_at dksL_law_25 13 rfl rfl)
theorem dL_law_754 : decode cL_law 754 = .ok (.iload 5, 2) := dk_21 5 (dk_at dksL_law_25 14 rfl rfl)
theorem dL_law_756 : decode cL_law 756 = .ok (.iconst 1, 1) := dk_4 (dk_at dksL_law_25 16 rfl rfl)
theorem dL_law_757 : decode cL_law 757 = .ok (.iadd, 1) := dk_96 (dk_at dksL_law_25 17 rfl rfl)
theorem dL_law_758 : decode cL_law 758 = .ok (.iaload, 1) := dk_46 (dk_at dksL_law_25 18 rfl rfl)
theorem dL_law_759 : decode cL_law 759 = .ok (.aload_n 3, 1) := dk_45 (dk_at dksL_law_25 19 rfl rfl)
theorem dL_law_760 : decode cL_law 760 = .ok (.invokestatic 178, 3) := dk_184 0 178 (dk_at dksL_law_25 20 rfl rfl)
theorem dL_law_763 : decode cL_law 763 = .ok (.istore 6, 2) := dk_54 6 (dk_at dksL_law_26 0 rfl rfl)
theorem dL_law_765 : decode cL_law 765 = .ok (.aload_n 2, 1) := dk_44 (dk_at dksL_law_26 2 rfl rfl)
theorem dL_law_766 : decode cL_law 766 = .ok (.aload_n 0, 1) := dk_42 (dk_at dksL_law_26 3 rfl rfl)
theorem dL_law_767 : decode cL_law 767 = .ok (.iload 5, 2) := dk_21 5 (dk_at dksL_law_26 4 rfl rfl)
theorem dL_law_769 : decode cL_law 769 = .ok (.iconst 1, 1) := dk_4 (dk_at dksL_law_26 6 rfl rfl)
theorem dL_law_770 : decode cL_law 770 = .ok (.iadd, 1) := dk_96 (dk_at dksL_law_26 7 rfl rfl)
theorem dL_law_771 : decode cL_law 771 = .ok (.iaload, 1) := dk_46 (dk_at dksL_law_26 8 rfl rfl)
theorem dL_law_772 : decode cL_law 772 = .ok (.invokevirtual 180, 3) := dk_182 0 180 (dk_at dksL_law_26 9 rfl rfl)
theorem dL_law_775 : decode cL_law 775 = .ok (.istore 7, 2) := dk_54 7 (dk_at dksL_law_26 12 rfl rfl)
theorem dL_law_777 : decode cL_law 777 = .ok (.aload_n 2, 1) := dk_44 (dk_at dksL_law_26 14 rfl rfl)
theorem dL_law_778 : decode cL_law 778 = .ok (.invokevirtual 149, 3) := dk_182 0 149 (dk_at dksL_law_26 15 rfl rfl)
theorem dL_law_781 : decode cL_law 781 = .ok (.iload 6, 2) := dk_21 6 (dk_at dksL_law_26 18 rfl rfl)
theorem dL_law_783 : decode cL_law 783 = .ok (.if_icmp .eq 5, 3) := dk_159 0 5 (dk_at dksL_law_26 20 rfl rfl)
theorem dL_law_786 : decode cL_law 786 = .ok (.iconst 0, 1) := dk_3 (dk_at dksL_law_26 23 rfl rfl)
theorem dL_law_787 : decode cL_law 787 = .ok (.ireturn, 1) := dk_172 (dk_at dksL_law_27 0 rfl rfl)
theorem dL_law_788 : decode cL_law 788 = .ok (.iload 6, 2) := dk_21 6 (dk_at dksL_law_27 1 rfl rfl)
theorem dL_law_790 : decode cL_law 790 = .ok (.ifCond .ne 15, 3) := dk_154 0 15 (dk_at dksL_law_27 3 rfl rfl)
theorem dL_law_793 : decode cL_law 793 = .ok (.aload_n 3, 1) := dk_45 (dk_at dksL_law_27 6 rfl rfl)
theorem dL_law_794 : decode cL_law 794 = .ok (.iconst 0, 1) := dk_3 (dk_at dksL_law_27 7 rfl rfl)
theorem dL_law_795 : decode cL_law 795 = .ok (.laload, 1) := dk_47 (dk_at dksL_law_27 8 rfl rfl)
theorem dL_law_796 : decode cL_law 796 = .ok (.iload 7, 2) := dk_21 7 (dk_at dksL_law_27 9 rfl rfl)
theorem dL_law_798 : decode cL_law 798 = .ok (.i2l, 1) := dk_133 (dk_at dksL_law_27 11 rfl rfl)
theorem dL_law_799 : decode cL_law 799 = .ok (.lcmp, 1) := dk_148 (dk_at dksL_law_27 12 rfl rfl)
theorem dL_law_800 : decode cL_law 800 = .ok (.ifCond .eq 5, 3) := dk_153 0 5 (dk_at dksL_law_27 13 rfl rfl)
theorem dL_law_803 : decode cL_law 803 = .ok (.iconst 0, 1) := dk_3 (dk_at dksL_law_27 16 rfl rfl)
theorem dL_law_804 : decode cL_law 804 = .ok (.ireturn, 1) := dk_172 (dk_at dksL_law_27 17 rfl rfl)
theorem dL_law_805 : decode cL_law 805 = .ok (.goto 1575, 3) := dk_167 6 39 (dk_at dksL_law_27 18 rfl rfl)
theorem dL_law_808 : decode cL_law 808 = .ok (.aload_n 1, 1) := dk_43 (dk_at dksL_law_27 21 rfl rfl)
theorem dL_law_809 : decode cL_law 809 = .ok (.aload_n 0, 1) := dk_42 (dk_at dksL_law_27 22 rfl rfl)
theorem dL_law_810 : decode cL_law 810 = .ok (.iload 5, 2) := dk_21 5 (dk_at dksL_law_28 0 rfl rfl)
theorem dL_law_812 : decode cL_law 812 = .ok (.iconst 1, 1) := dk_4 (dk_at dksL_law_28 2 rfl rfl)
theorem dL_law_813 : decode cL_law 813 = .ok (.iadd, 1) := dk_96 (dk_at dksL_law_28 3 rfl rfl)
theorem dL_law_814 : decode cL_law 814 = .ok (.iaload, 1) := dk_46 (dk_at dksL_law_28 4 rfl rfl)
theorem dL_law_815 : decode cL_law 815 = .ok (.aload_n 0, 1) := dk_42 (dk_at dksL_law_28 5 rfl rfl)
theorem dL_law_816 : decode cL_law 816 = .ok (.iload 5, 2) := dk_21 5 (dk_at dksL_law_28 6 rfl rfl)
theorem dL_law_818 : decode cL_law 818 = .ok (.iconst 2, 1) := dk_5 (dk_at dksL_law_28 8 rfl rfl)
theorem dL_law_819 : decode cL_law 819 = .ok (.iadd, 1) := dk_96 (dk_at dksL_law_28 9 rfl rfl)
theorem dL_law_820 : decode cL_law 820 = .ok (.iaload, 1) := dk_46 (dk_at dksL_law_28 10 rfl rfl)
theorem dL_law_821 : decode cL_law 821 = .ok (.aload_n 3, 1) := dk_45 (dk_at dksL_law_28 11 rfl rfl)
theorem dL_law_822 : decode cL_law 822 = .ok (.invokestatic 181, 3) := dk_184 0 181 (dk_at dksL_law_28 12 rfl rfl)
theorem dL_law_825 : decode cL_law 825 = .ok (.istore 6, 2) := dk_54 6 (dk_at dksL_law_28 15 rfl rfl)
theorem dL_law_827 : decode cL_law 827 = .ok (.aload_n 2, 1) := dk_44 (dk_at dksL_law_28 17 rfl rfl)
theorem dL_law_828 : decode cL_law 828 = .ok (.aload_n 0, 1) := dk_42 (dk_at dksL_law_28 18 rfl rfl)
theorem dL_law_829 : decode cL_law 829 = .ok (.iload 5, 2) := dk_21 5 (dk_at dksL_law_28 19 rfl rfl)
theorem dL_law_831 : decode cL_law 831 = .ok (.iconst 1, 1) := dk_4 (dk_at dksL_law_28 21 rfl rfl)
theorem dL_law_832 : decode cL_law 832 = .ok (.iadd, 1) := dk_96 (dk_at dksL_law_28 22 rfl rfl)
theorem dL_law_833 : decode cL_law 833 = .ok (.iaload, 1) := dk_46 (dk_at dksL_law_28 23 rfl rfl)
theorem dL_law_834 : decode cL_law 834 = .ok (.aload_n 0, 1) := dk_42 (dk_at dksL_law_29 0 rfl rfl)
theorem dL_law_835 : decode cL_law 835 = .ok (.iload 5, 2) := dk_21 5 (dk_at dksL_law_29 1 rfl rfl)
theorem dL_law_837 : decode cL_law 837 = .ok (.iconst 2, 1) := dk_5 (dk_at dksL_law_29 3 rfl rfl)
theorem dL_law_838 : decode cL_law 838 = .ok (.iadd, 1) := dk_96 (dk_at dksL_law_29 4 rfl rfl)
theorem dL_law_839 : decode cL_law 839 = .ok (.iaload, 1) := dk_46 (dk_at dksL_law_29 5 rfl rfl)
theorem dL_law_840 : decode cL_law 840 = .ok (.invokevirtual 184, 3) := dk_182 0 184 (dk_at dksL_law_29 6 rfl rfl)
theorem dL_law_843 : decode cL_law 843 = .ok (.istore 7, 2) := dk_54 7 (dk_at dksL_law_29 9 rfl rfl)
theorem dL_law_845 : decode cL_law 845 = .ok (.aload_n 2, 1) := dk_44 (dk_at dksL_law_29 11 rfl rfl)
theorem dL_law_846 : decode cL_law 846 = .ok (.invokevirtual 149, 3) := dk_182 0 149 (dk_at dksL_law_29 12 rfl rfl)
theorem dL_law_849 : decode cL_law 849 = .ok (.iload 6, 2) := dk_21 6 (dk_at dksL_law_29 15 rfl rfl)
theorem dL_law_851 : decode cL_law 851 = .ok (.if_icmp .eq 5, 3) := dk_159 0 5 (dk_at dksL_law_29 17 rfl rfl)
theorem dL_law_854 : decode cL_law 854 = .ok (.iconst 0, 1) := dk_3 (dk_at dksL_law_29 20 rfl rfl)
theorem dL_law_855 : decode cL_law 855 = .ok (.ireturn, 1) := dk_172 (dk_at dksL_law_29 21 rfl rfl)
theorem dL_law_856 : decode cL_law 856 = .ok (.iload 6, 2) := dk_21 6 (dk_at dksL_law_29 22 rfl rfl)
theorem dL_law_858 : decode cL_law 858 = .ok (.ifCond .ne 15, 3) := dk_154 0 15 (dk_at dksL_law_30 0 rfl rfl)
theorem dL_law_861 : decode cL_law 861 = .ok (.aload_n 3, 1) := dk_45 (dk_at dksL_law_30 3 rfl rfl)
theorem dL_law_862 : decode cL_law 862 = .ok (.iconst 0, 1) := dk_3 (dk_at dksL_law_30 4 rfl rfl)
theorem dL_law_863 : decode cL_law 863 = .ok (.laload, 1) := dk_47 (dk_at dksL_law_30 5 rfl rfl)
theorem dL_law_864 : decode cL_law 864 = .ok (.iload 7, 2) := dk_21 7 (dk_at dksL_law_30 6 rfl rfl)
theorem dL_law_866 : decode cL_law 866 = .ok (.i2l, 1) := dk_133 (dk_at dksL_law_30 8 rfl rfl)
theorem dL_law_867 : decode cL_law 867 = .ok (.lcmp, 1) := dk_148 (dk_at dksL_law_30 9 rfl rfl)
theorem dL_law_868 : decode cL_law 868 = .ok (.ifCond .eq 5, 3) := dk_153 0 5 (dk_at dksL_law_30 10 rfl rfl)
theorem dL_law_871 : decode cL_law 871 = .ok (.iconst 0, 1) := dk_3 (dk_at dksL_law_30 13 rfl rfl)
theorem dL_law_872 : decode cL_law 872 = .ok (.ireturn, 1) := dk_172 (dk_at dksL_law_30 14 rfl rfl)
theorem dL_law_873 : decode cL_law 873 = .ok (.goto 1507, 3) := dk_167 5 227 (dk_at dksL_law_30 15 rfl rfl)
theorem dL_law_876 : decode cL_law 876 = .ok (.aload_n 1, 1) := dk_43 (dk_at dksL_law_30 18 rfl rfl)
theorem dL_law_877 : decode cL_law 877 = .ok (.aload_n 0, 1) := dk_42 (dk_at dksL_law_30 19 rfl rfl)
theorem dL_law_878 : decode cL_law 878 = .ok (.iload 5, 2) := dk_21 5 (dk_at dksL_law_30 20 rfl rfl)
theorem dL_law_880 : decode cL_law 880 = .ok (.iconst 1, 1) := dk_4 (dk_at dksL_law_30 22 rfl rfl)
theorem dL_law_881 : decode cL_law 881 = .ok (.iadd, 1) := dk_96 (dk_at dksL_law_30 23 rfl rfl)
theorem dL_law_882 : decode cL_law 882 = .ok (.iaload, 1) := dk_46 (dk_at dksL_law_31 0 rfl rfl)
theorem dL_law_883 : decode cL_law 883 = .ok (.aload_n 3, 1) := dk_45 (dk_at dksL_law_31 1 rfl rfl)
theorem dL_law_884 : decode cL_law 884 = .ok (.invokestatic 185, 3) := dk_184 0 185 (dk_at dksL_law_31 2 rfl rfl)
theorem dL_law_887 : decode cL_law 887 = .ok (.istore 6, 2) := dk_54 6 (dk_at dksL_law_31 5 rfl rfl)
theorem dL_law_889 : decode cL_law 889 = .ok (.aload_n 2, 1) := dk_44 (dk_at dksL_law_31 7 rfl rfl)
theorem dL_law_890 : decode cL_law 890 = .ok (.aload_n 0, 1) := dk_42 (dk_at dksL_law_31 8 rfl rfl)
theorem dL_law_891 : decode cL_law 891 = .ok (.iload 5, 2) := dk_21 5 (dk_at dksL_law_31 9 rfl rfl)
theorem dL_law_893 : decode cL_law 893 = .ok (.iconst 1, 1) := dk_4 (dk_at dksL_law_31 11 rfl rfl)
theorem dL_law_894 : decode cL_law 894 = .ok (.iadd, 1) := dk_96 (dk_at dksL_law_31 12 rfl rfl)
theorem dL_law_895 : decode cL_law 895 = .ok (.iaload, 1) := dk_46 (dk_at dksL_law_31 13 rfl rfl)
theorem dL_law_896 : decode cL_law 896 = .ok (.invokevirtual 187, 3) := dk_182 0 187 (dk_at dksL_law_31 14 rfl rfl)
theorem dL_law_899 : decode cL_law 899 = .ok (.istore 7, 2) := dk_54 7 (dk_at dksL_law_31 17 rfl rfl)
theorem dL_law_901 : decode cL_law 901 = .ok (.aload_n 2, 1) := dk_44 (dk_at dksL_law_31 19 rfl rfl)
theorem dL_law_902 : decode cL_law 902 = .ok (.invokevirtual 149, 3) := dk_182 0 149 (dk_at dksL_law_31 20 rfl rfl)
theorem dL_law_905 : decode cL_law 905 = .ok (.iload 6, 2) := dk_21 6 (dk_at dksL_law_32 0 rfl rfl)
theorem dL_law_907 : decode cL_law 907 = .ok (.if_icmp .eq 5, 3) := dk_159 0 5 (dk_at dksL_law_32 2 rfl rfl)
theorem dL_law_910 : decode cL_law 910 = .ok (.iconst 0, 1) := dk_3 (dk_at dksL_law_32 5 rfl rfl)
theorem dL_law_911 : decode cL_law 911 = .ok (.ireturn, 1) := dk_172 (dk_at dksL_law_32 6 rfl rfl)
theorem dL_law_912 : decode cL_law 912 = .ok (.iload 6, 2) := dk_21 6 (dk_at dksL_law_32 7 rfl rfl)
theorem dL_law_914 : decode cL_law 914 = .ok (.ifCond .ne 15, 3) := dk_154 0 15 (dk_at dksL_law_32 9 rfl rfl)
theorem dL_law_917 : decode cL_law 917 = .ok (.aload_n 3, 1) := dk_45 (dk_at dksL_law_32 12 rfl rfl)
theorem dL_law_918 : decode cL_law 918 = .ok (.iconst 0, 1) := dk_3 (dk_at dksL_law_32 13 rfl rfl)
theorem dL_law_919 : decode cL_law 919 = .ok (.laload, 1) := dk_47 (dk_at dksL_law_32 14 rfl rfl)
theorem dL_law_920 : decode cL_law 920 = .ok (.iload 7, 2) := dk_21 7 (dk_at dksL_law_32 15 rfl rfl)
theorem dL_law_922 : decode cL_law 922 = .ok (.i2l, 1) := dk_133 (dk_at dksL_law_32 17 rfl rfl)
theorem dL_law_923 : decode cL_law 923 = .ok (.lcmp, 1) := dk_148 (dk_at dksL_law_32 18 rfl rfl)
theorem dL_law_924 : decode cL_law 924 = .ok (.ifCond .eq 5, 3) := dk_153 0 5 (dk_at dksL_law_32 19 rfl rfl)
theorem dL_law_927 : decode cL_law 927 = .ok (.iconst 0, 1) := dk_3 (dk_at dksL_law_32 22 rfl rfl)
theorem dL_law_928 : decode cL_law 928 = .ok (.ireturn, 1) := dk_172 (dk_at dksL_law_32 23 rfl rfl)
theorem dL_law_929 : decode cL_law 929 = .ok (.goto 1451, 3) := dk_167 5 171 (dk_at dksL_law_33 0 rfl rfl)
theorem dL_law_932 : decode cL_law 932 = .ok (.aload_n 1, 1) := dk_43 (dk_at dksL_law_33 3 rfl rfl)
theorem dL_law_933 : decode cL_law 933 = .ok (.aload_n 0, 1) := dk_42 (dk_at dksL_law_33 4 rfl rfl)
theorem dL_law_934 : decode cL_law 934 = .ok (.iload 5, 2) := dk_21 5 (dk_at dksL_law_33 5 rfl rfl)
theorem dL_law_936 : decode cL_law 936 = .ok (.iconst 1, 1) := dk_4 (dk_at dksL_law_33 7 rfl rfl)
theorem dL_law_937 : decode cL_law 937 = .ok (.iadd, 1) := dk_96 (dk_at dksL_law_33 8 rfl rfl)
theorem dL_law_938 : decode cL_law 938 = .ok (.iaload, 1) := dk_46 (dk_at dksL_law_33 9 rfl rfl)
theorem dL_law_939 : decode cL_law 939 = .ok (.aload_n 3, 1) := dk_45 (dk_at dksL_law_33 10 rfl rfl)
theorem dL_law_940 : decode cL_law 940 = .ok (.invokestatic 188, 3) := dk_184 0 188 (dk_at dksL_law_33 11 rfl rfl)
theorem dL_law_943 : decode cL_law 943 = .ok (.istore 6, 2) := dk_54 6 (dk_at dksL_law_33 14 rfl rfl)
theorem dL_law_945 : decode cL_law 945 = .ok (.aload_n 2, 1) := dk_44 (dk_at dksL_law_33 16 rfl rfl)
theorem dL_law_946 : decode cL_law 946 = .ok (.aload_n 0, 1) := dk_42 (dk_at dksL_law_33 17 rfl rfl)
theorem dL_law_947 : decode cL_law 947 = .ok (.iload 5, 2) := dk_21 5 (dk_at dksL_law_33 18 rfl rfl)
theorem dL_law_949 : decode cL_law 949 = .ok (.iconst 1, 1) := dk_4 (dk_at dksL_law_33 20 rfl rfl)
theorem dL_law_950 : decode cL_law 950 = .ok (.iadd, 1) := dk_96 (dk_at dksL_law_33 21 rfl rfl)
theorem dL_law_951 : decode cL_law 951 = .ok (.iaload, 1) := dk_46 (dk_at dksL_law_33 22 rfl rfl)
theorem dL_law_952 : decode cL_law 952 = .ok (.invokevirtual 190, 3) := dk_182 0 190 (dk_at dksL_law_34 0 rfl rfl)
theorem dL_law_955 : decode cL_law 955 = .ok (.istore 7, 2) := dk_54 7 (dk_at dksL_law_34 3 rfl rfl)
theorem dL_law_957 : decode cL_law 957 = .ok (.aload_n 2, 1) := dk_44 (dk_at dksL_law_34 5 rfl rfl)
theorem dL_law_958 : decode cL_law 958 = .ok (.invokevirtual 149, 3) := dk_182 0 149 (dk_at dksL_law_34 6 rfl rfl)
theorem dL_law_961 : decode cL_law 961 = .ok (.iload 6, 2) := dk_21 6 (dk_at dksL_law_34 9 rfl rfl)
theorem dL_law_963 : decode cL_law 963 = .ok (.if_icmp .eq 5, 3) := dk_159 0 5 (dk_at dksL_law_34 11 rfl rfl)
theorem dL_law_966 : decode cL_law 966 = .ok (.iconst 0, 1) := dk_3 (dk_at dksL_law_34 14 rfl rfl)
theorem dL_law_967 : decode cL_law 967 = .ok (.ireturn, 1) := dk_172 (dk_at dksL_law_34 15 rfl rfl)
theorem dL_law_968 : decode cL_law 968 = .ok (.iload 6, 2) := dk_21 6 (dk_at dksL_law_34 16 rfl rfl)
theorem dL_law_970 : decode cL_law 970 = .ok (.ifCond .ne 15, 3) := dk_154 0 15 (dk_at dksL_law_34 18 rfl rfl)
theorem dL_law_973 : decode cL_law 973 = .ok (.aload_n 3, 1) := dk_45 (dk_at dksL_law_34 21 rfl rfl)
theorem dL_law_974 : decode cL_law 974 = .ok (.iconst 0, 1) := dk_3 (dk_at dksL_law_34 22 rfl rfl)
theorem dL_law_975 : decode cL_law 975 = .ok (.laload, 1) := dk_47 (dk_at dksL_law_34 23 rfl rfl)
theorem dL_law_976 : decode cL_law 976 = .ok (.iload 7, 2) := dk_21 7 (dk_at dksL_law_35 0 rfl rfl)
theorem dL_law_978 : decode cL_law 978 = .ok (.i2l, 1) := dk_133 (dk_at dksL_law_35 2 rfl rfl)
theorem dL_law_979 : decode cL_law 979 = .ok (.lcmp, 1) := dk_148 (dk_at dksL_law_35 3 rfl rfl)
theorem dL_law_980 : decode cL_law 980 = .ok (.ifCond .eq 5, 3) := dk_153 0 5 (dk_at dksL_law_35 4 rfl rfl)
theorem dL_law_983 : decode cL_law 983 = .ok (.iconst 0, 1) := dk_3 (dk_at dksL_law_35 7 rfl rfl)
theorem dL_law_984 : decode cL_law 984 = .ok (.ireturn, 1) := dk_172 (dk_at dksL_law_35 8 rfl rfl)
theorem dL_law_985 : decode cL_law 985 = .ok (.goto 1395, 3) := dk_167 5 115 (dk_at dksL_law_35 9 rfl rfl)
theorem dL_law_988 : decode cL_law 988 = .ok (.aload_n 1, 1) := dk_43 (dk_at dksL_law_35 12 rfl rfl)
theorem dL_law_989 : decode cL_law 989 = .ok (.aload_n 0, 1) := dk_42 (dk_at dksL_law_35 13 rfl rfl)
theorem dL_law_990 : decode cL_law 990 = .ok (.iload 5, 2) := dk_21 5 (dk_at dksL_law_35 14 rfl rfl)
theorem dL_law_992 : decode cL_law 992 = .ok (.iconst 1, 1) := dk_4 (dk_at dksL_law_35 16 rfl rfl)
theorem dL_law_993 : decode cL_law 993 = .ok (.iadd, 1) := dk_96 (dk_at dksL_law_35 17 rfl rfl)
theorem dL_law_994 : decode cL_law 994 = .ok (.iaload, 1) := dk_46 (dk_at dksL_law_35 18 rfl rfl)
theorem dL_law_995 : decode cL_law 995 = .ok (.aload_n 0, 1) := dk_42 (dk_at dksL_law_35 19 rfl rfl)
theorem dL_law_996 : decode cL_law 996 = .ok (.iload 5, 2) := dk_21 5 (dk_at dksL_law_35 20 rfl rfl)
theorem dL_law_998 : decode cL_law 998 = .ok (.iconst 2, 1) := dk_5 (dk_at dksL_law_35 22 rfl rfl)
theorem dL_law_999 : decode cL_law 999 = .ok (.iadd, 1) := dk_96 (dk_at dksL_law_35 23 rfl rfl)
theorem dL_law_1000 : decode cL_law 1000 = .ok (.iaload, 1) := dk_46 (dk_at dksL_law_36 0 rfl rfl)
theorem dL_law_1001 : decode cL_law 1001 = .ok (.aload_n 3, 1) := dk_45 (dk_at dksL_law_36 1 rfl rfl)
theorem dL_law_1002 : decode cL_law 1002 = .ok (.invokestatic 191, 3) := dk_184 0 191 (dk_at dksL_law_36 2 rfl rfl)
theorem dL_law_1005 : decode cL_law 1005 = .ok (.istore 6, 2) := dk_54 6 (dk_at dksL_law_36 5 rfl rfl)
theorem dL_law_1007 : decode cL_law 1007 = .ok (.aload_n 2, 1) := dk_44 (dk_at dksL_law_36 7 rfl rfl)
theorem dL_law_1008 : decode cL_law 1008 = .ok (.aload_n 0, 1) := dk_42 (dk_at dksL_law_36 8 rfl rfl)
theorem dL_law_1009 : decode cL_law 1009 = .ok (.iload 5, 2) := dk_21 5 (dk_at dksL_law_36 9 rfl rfl)
theorem dL_law_1011 : decode cL_law 1011 = .ok (.iconst 1, 1) := dk_4 (dk_at dksL_law_36 11 rfl rfl)
theorem dL_law_1012 : decode cL_law 1012 = .ok (.iadd, 1) := dk_96 (dk_at dksL_law_36 12 rfl rfl)
theorem dL_law_1013 : decode cL_law 1013 = .ok (.iaload, 1) := dk_46 (dk_at dksL_law_36 13 rfl rfl)
theorem dL_law_1014 : decode cL_law 1014 = .ok (.aload_n 0, 1) := dk_42 (dk_at dksL_law_36 14 rfl rfl)
theorem dL_law_1015 : decode cL_law 1015 = .ok (.iload 5, 2) := dk_21 5 (dk_at dksL_law_36 15 rfl rfl)
theorem dL_law_1017 : decode cL_law 1017 = .ok (.iconst 2, 1) := dk_5 (dk_at dksL_law_36 17 rfl rfl)
theorem dL_law_1018 : decode cL_law 1018 = .ok (.iadd, 1) := dk_96 (dk_at dksL_law_36 18 rfl rfl)
theorem dL_law_1019 : decode cL_law 1019 = .ok (.iaload, 1) := dk_46 (dk_at dksL_law_36 19 rfl rfl)
theorem dL_law_1020 : decode cL_law 1020 = .ok (.invokevirtual 193, 3) := dk_182 0 193 (dk_at dksL_law_36 20 rfl rfl)
theorem dL_law_1023 : decode cL_law 1023 = .ok (.istore 7, 2) := dk_54 7 (dk_at dksL_law_37 0 rfl rfl)
theorem dL_law_1025 : decode cL_law 1025 = .ok (.aload_n 2, 1) := dk_44 (dk_at dksL_law_37 2 rfl rfl)
theorem dL_law_1026 : decode cL_law 1026 = .ok (.invokevirtual 149, 3) := dk_182 0 149 (dk_at dksL_law_37 3 rfl rfl)
theorem dL_law_1029 : decode cL_law 1029 = .ok (.iload 6, 2) := dk_21 6 (dk_at dksL_law_37 6 rfl rfl)
theorem dL_law_1031 : decode cL_law 1031 = .ok (.if_icmp .eq 5, 3) := dk_159 0 5 (dk_at dksL_law_37 8 rfl rfl)
theorem dL_law_1034 : decode cL_law 1034 = .ok (.iconst 0, 1) := dk_3 (dk_at dksL_law_37 11 rfl rfl)
theorem dL_law_1035 : decode cL_law 1035 = .ok (.ireturn, 1) := dk_172 (dk_at dksL_law_37 12 rfl rfl)
theorem dL_law_1036 : decode cL_law 1036 = .ok (.iload 6, 2) := dk_21 6 (dk_at dksL_law_37 13 rfl rfl)
theorem dL_law_1038 : decode cL_law 1038 = .ok (.ifCond .ne 15, 3) := dk_154 0 15 (dk_at dksL_law_37 15 rfl rfl)
theorem dL_law_1041 : decode cL_law 1041 = .ok (.aload_n 3, 1) := dk_45 (dk_at dksL_law_37 18 rfl rfl)
theorem dL_law_1042 : decode cL_law 1042 = .ok (.iconst 0, 1) := dk_3 (dk_at dksL_law_37 19 rfl rfl)
theorem dL_law_1043 : decode cL_law 1043 = .ok (.laload, 1) := dk_47 (dk_at dksL_law_37 20 rfl rfl)
theorem dL_law_1044 : decode cL_law 1044 = .ok (.iload 7, 2) := dk_21 7 (dk_at dksL_law_37 21 rfl rfl)
theorem dL_law_1046 : decode cL_law 1046 = .ok (.i2l, 1) := dk_133 (dk_at dksL_law_37 23 rfl rfl)
theorem dL_law_1047 : decode cL_law 1047 = .ok (.lcmp, 1) := dk_148 (dk_at dksL_law_38 0 rfl rfl)
theorem dL_law_1048 : decode cL_law 1048 = .ok (.ifCond .eq 5, 3) := dk_153 0 5 (dk_at dksL_law_38 1 rfl rfl)
theorem dL_law_1051 : decode cL_law 1051 = .ok (.iconst 0, 1) := dk_3 (dk_at dksL_law_38 4 rfl rfl)
theorem dL_law_1052 : decode cL_law 1052 = .ok (.ireturn, 1) := dk_172 (dk_at dksL_law_38 5 rfl rfl)
theorem dL_law_1053 : decode cL_law 1053 = .ok (.goto 1327, 3) := dk_167 5 47 (dk_at dksL_law_38 6 rfl rfl)
theorem dL_law_1056 : decode cL_law 1056 = .ok (.aload_n 1, 1) := dk_43 (dk_at dksL_law_38 9 rfl rfl)
theorem dL_law_1057 : decode cL_law 1057 = .ok (.aload_n 0, 1) := dk_42 (dk_at dksL_law_38 10 rfl rfl)
theorem dL_law_1058 : decode cL_law 1058 = .ok (.iload 5, 2) := dk_21 5 (dk_at dksL_law_38 11 rfl rfl)
theorem dL_law_1060 : decode cL_law 1060 = .ok (.iconst 1, 1) := dk_4 (dk_at dksL_law_38 13 rfl rfl)
theorem dL_law_1061 : decode cL_law 1061 = .ok (.iadd, 1) := dk_96 (dk_at dksL_law_38 14 rfl rfl)
theorem dL_law_1062 : decode cL_law 1062 = .ok (.iaload, 1) := dk_46 (dk_at dksL_law_38 15 rfl rfl)
theorem dL_law_1063 : decode cL_law 1063 = .ok (.aload_n 3, 1) := dk_45 (dk_at dksL_law_38 16 rfl rfl)
theorem dL_law_1064 : decode cL_law 1064 = .ok (.invokestatic 194, 3) := dk_184 0 194 (dk_at dksL_law_38 17 rfl rfl)
theorem dL_law_1067 : decode cL_law 1067 = .ok (.istore 6, 2) := dk_54 6 (dk_at dksL_law_38 20 rfl rfl)
theorem dL_law_1069 : decode cL_law 1069 = .ok (.aload_n 2, 1) := dk_44 (dk_at dksL_law_38 22 rfl rfl)
theorem dL_law_1070 : decode cL_law 1070 = .ok (.aload_n 0, 1) := dk_42 (dk_at dksL_law_38 23 rfl rfl)
theorem dL_law_1071 : decode cL_law 1071 = .ok (.iload 5, 2) := dk_21 5 (dk_at dksL_law_39 0 rfl rfl)
theorem dL_law_1073 : decode cL_law 1073 = .ok (.iconst 1, 1) := dk_4 (dk_at dksL_law_39 2 rfl rfl)
theorem dL_law_1074 : decode cL_law 1074 = .ok (.iadd, 1) := dk_96 (dk_at dksL_law_39 3 rfl rfl)
theorem dL_law_1075 : decode cL_law 1075 = .ok (.iaload, 1) := dk_46 (dk_at dksL_law_39 4 rfl rfl)
theorem dL_law_1076 : decode cL_law 1076 = .ok (.invokevirtual 196, 3) := dk_182 0 196 (dk_at dksL_law_39 5 rfl rfl)
theorem dL_law_1079 : decode cL_law 1079 = .ok (.istore 7, 2) := dk_54 7 (dk_at dksL_law_39 8 rfl rfl)
theorem dL_law_1081 : decode cL_law 1081 = .ok (.aload_n 2, 1) := dk_44 (dk_at dksL_law_39 10 rfl rfl)
theorem dL_law_1082 : decode cL_law 1082 = .ok (.invokevirtual 149, 3) := dk_182 0 149 (dk_at dksL_law_39 11 rfl rfl)
theorem dL_law_1085 : decode cL_law 1085 = .ok (.iload 6, 2) := dk_21 6 (dk_at dksL_law_39 14 rfl rfl)
theorem dL_law_1087 : decode cL_law 1087 = .ok (.if_icmp .eq 5, 3) := dk_159 0 5 (dk_at dksL_law_39 16 rfl rfl)
theorem dL_law_1090 : decode cL_law 1090 = .ok (.iconst 0, 1) := dk_3 (dk_at dksL_law_39 19 rfl rfl)
theorem dL_law_1091 : decode cL_law 1091 = .ok (.ireturn, 1) := dk_172 (dk_at dksL_law_39 20 rfl rfl)
theorem dL_law_1092 : decode cL_law 1092 = .ok (.iload 6, 2) := dk_21 6 (dk_at dksL_law_39 21 rfl rfl)
theorem dL_law_1094 : decode cL_law 1094 = .ok (.ifCond .ne 15, 3) := dk_154 0 15 (dk_at dksL_law_40 0 rfl rfl)
theorem dL_law_1097 : decode cL_law 1097 = .ok (.aload_n 3, 1) := dk_45 (dk_at dksL_law_40 3 rfl rfl)
theorem dL_law_1098 : decode cL_law 1098 = .ok (.iconst 0, 1) := dk_3 (dk_at dksL_law_40 4 rfl rfl)
theorem dL_law_1099 : decode cL_law 1099 = .ok (.laload, 1) := dk_47 (dk_at dksL_law_40 5 rfl rfl)
theorem dL_law_1100 : decode cL_law 1100 = .ok (.iload 7, 2) := dk_21 7 (dk_at dksL_law_40 6 rfl rfl)
theorem dL_law_1102 : decode cL_law 1102 = .ok (.i2l, 1) := dk_133 (dk_at dksL_law_40 8 rfl rfl)
theorem dL_law_1103 : decode cL_law 1103 = .ok (.lcmp, 1) := dk_148 (dk_at dksL_law_40 9 rfl rfl)
theorem dL_law_1104 : decode cL_law 1104 = .ok (.ifCond .eq 5, 3) := dk_153 0 5 (dk_at dksL_law_40 10 rfl rfl)
theorem dL_law_1107 : decode cL_law 1107 = .ok (.iconst 0, 1) := dk_3 (dk_at dksL_law_40 13 rfl rfl)
theorem dL_law_1108 : decode cL_law 1108 = .ok (.ireturn, 1) := dk_172 (dk_at dksL_law_40 14 rfl rfl)
theorem dL_law_1109 : decode cL_law 1109 = .ok (.goto 1271, 3) := dk_167 4 247 (dk_at dksL_law_40 15 rfl rfl)
theorem dL_law_1112 : decode cL_law 1112 = .ok (.aload_n 1, 1) := dk_43 (dk_at dksL_law_40 18 rfl rfl)
theorem dL_law_1113 : decode cL_law 1113 = .ok (.aload_n 0, 1) := dk_42 (dk_at dksL_law_40 19 rfl rfl)
theorem dL_law_1114 : decode cL_law 1114 = .ok (.iload 5, 2) := dk_21 5 (dk_at dksL_law_40 20 rfl rfl)
theorem dL_law_1116 : decode cL_law 1116 = .ok (.iconst 1, 1) := dk_4 (dk_at dksL_law_40 22 rfl rfl)
theorem dL_law_1117 : decode cL_law 1117 = .ok (.iadd, 1) := dk_96 (dk_at dksL_law_40 23 rfl rfl)
theorem dL_law_1118 : decode cL_law 1118 = .ok (.iaload, 1) := dk_46 (dk_at dksL_law_41 0 rfl rfl)
theorem dL_law_1119 : decode cL_law 1119 = .ok (.aload_n 0, 1) := dk_42 (dk_at dksL_law_41 1 rfl rfl)
theorem dL_law_1120 : decode cL_law 1120 = .ok (.iload 5, 2) := dk_21 5 (dk_at dksL_law_41 2 rfl rfl)
theorem dL_law_1122 : decode cL_law 1122 = .ok (.iconst 2, 1) := dk_5 (dk_at dksL_law_41 4 rfl rfl)
theorem dL_law_1123 : decode cL_law 1123 = .ok (.iadd, 1) := dk_96 (dk_at dksL_law_41 5 rfl rfl)
theorem dL_law_1124 : decode cL_law 1124 = .ok (.iaload, 1) := dk_46 (dk_at dksL_law_41 6 rfl rfl)
theorem dL_law_1125 : decode cL_law 1125 = .ok (.aload_n 3, 1) := dk_45 (dk_at dksL_law_41 7 rfl rfl)
theorem dL_law_1126 : decode cL_law 1126 = .ok (.invokestatic 197, 3) := dk_184 0 197 (dk_at dksL_law_41 8 rfl rfl)
theorem dL_law_1129 : decode cL_law 1129 = .ok (.istore 6, 2) := dk_54 6 (dk_at dksL_law_41 11 rfl rfl)
theorem dL_law_1131 : decode cL_law 1131 = .ok (.aload_n 2, 1) := dk_44 (dk_at dksL_law_41 13 rfl rfl)
theorem dL_law_1132 : decode cL_law 1132 = .ok (.aload_n 0, 1) := dk_42 (dk_at dksL_law_41 14 rfl rfl)
theorem dL_law_1133 : decode cL_law 1133 = .ok (.iload 5, 2) := dk_21 5 (dk_at dksL_law_41 15 rfl rfl)
theorem dL_law_1135 : decode cL_law 1135 = .ok (.iconst 1, 1) := dk_4 (dk_at dksL_law_41 17 rfl rfl)
theorem dL_law_1136 : decode cL_law 1136 = .ok (.iadd, 1) := dk_96 (dk_at dksL_law_41 18 rfl rfl)
theorem dL_law_1137 : decode cL_law 1137 = .ok (.iaload, 1) := dk_46 (dk_at dksL_law_41 19 rfl rfl)
theorem dL_law_1138 : decode cL_law 1138 = .ok (.aload_n 0, 1) := dk_42 (dk_at dksL_law_41 20 rfl rfl)
theorem dL_law_1139 : decode cL_law 1139 = .ok (.iload 5, 2) := dk_21 5 (dk_at dksL_law_41 21 rfl rfl)
theorem dL_law_1141 : decode cL_law 1141 = .ok (.iconst 2, 1) := dk_5 (dk_at dksL_law_41 23 rfl rfl)
theorem dL_law_1142 : decode cL_law 1142 = .ok (.iadd, 1) := dk_96 (dk_at dksL_law_42 0 rfl rfl)
theorem dL_law_1143 : decode cL_law 1143 = .ok (.iaload, 1) := dk_46 (dk_at dksL_law_42 1 rfl rfl)
theorem dL_law_1144 : decode cL_law 1144 = .ok (.invokevirtual 199, 3) := dk_182 0 199 (dk_at dksL_law_42 2 rfl rfl)
theorem dL_law_1147 : decode cL_law 1147 = .ok (.istore 7, 2) := dk_54 7 (dk_at dksL_law_42 5 rfl rfl)
theorem dL_law_1149 : decode cL_law 1149 = .ok (.aload_n 2, 1) := dk_44 (dk_at dksL_law_42 7 rfl rfl)
theorem dL_law_1150 : decode cL_law 1150 = .ok (.invokevirtual 149, 3) := dk_182 0 149 (dk_at dksL_law_42 8 rfl rfl)
theorem dL_law_1153 : decode cL_law 1153 = .ok (.iload 6, 2) := dk_21 6 (dk_at dksL_law_42 11 rfl rfl)
theorem dL_law_1155 : decode cL_law 1155 = .ok (.if_icmp .eq 5, 3) := dk_159 0 5 (dk_at dksL_law_42 13 rfl rfl)
theorem dL_law_1158 : decode cL_law 1158 = .ok (.iconst 0, 1) := dk_3 (dk_at dksL_law_42 16 rfl rfl)
theorem dL_law_1159 : decode cL_law 1159 = .ok (.ireturn, 1) := dk_172 (dk_at dksL_law_42 17 rfl rfl)
theorem dL_law_1160 : decode cL_law 1160 = .ok (.iload 6, 2) := dk_21 6 (dk_at dksL_law_42 18 rfl rfl)
theorem dL_law_1162 : decode cL_law 1162 = .ok (.ifCond .ne 15, 3) := dk_154 0 15 (dk_at dksL_law_42 20 rfl rfl)
theorem dL_law_1165 : decode cL_law 1165 = .ok (.aload_n 3, 1) := dk_45 (dk_at dksL_law_42 23 rfl rfl)
theorem dL_law_1166 : decode cL_law 1166 = .ok (.iconst 0, 1) := dk_3 (dk_at dksL_law_43 0 rfl rfl)
theorem dL_law_1167 : decode cL_law 1167 = .ok (.laload, 1) := dk_47 (dk_at dksL_law_43 1 rfl rfl)
theorem dL_law_1168 : decode cL_law 1168 = .ok (.iload 7, 2) := dk_21 7 (dk_at dksL_law_43 2 rfl rfl)
theorem dL_law_1170 : decode cL_law 1170 = .ok (.i2l, 1) := dk_133 (dk_at dksL_law_43 4 rfl rfl)
theorem dL_law_1171 : decode cL_law 1171 = .ok (.lcmp, 1) := dk_148 (dk_at dksL_law_43 5 rfl rfl)
theorem dL_law_1172 : decode cL_law 1172 = .ok (.ifCond .eq 5, 3) := dk_153 0 5 (dk_at dksL_law_43 6 rfl rfl)
theorem dL_law_1175 : decode cL_law 1175 = .ok (.iconst 0, 1) := dk_3 (dk_at dksL_law_43 9 rfl rfl)
theorem dL_law_1176 : decode cL_law 1176 = .ok (.ireturn, 1) := dk_172 (dk_at dksL_law_43 10 rfl rfl)
theorem dL_law_1177 : decode cL_law 1177 = .ok (.goto 1203, 3) := dk_167 4 179 (dk_at dksL_law_43 11 rfl rfl)
theorem dL_law_1180 : decode cL_law 1180 = .ok (.aload_n 1, 1) := dk_43 (dk_at dksL_law_43 14 rfl rfl)
theorem dL_law_1181 : decode cL_law 1181 = .ok (.aload_n 0, 1) := dk_42 (dk_at dksL_law_43 15 rfl rfl)
theorem dL_law_1182 : decode cL_law 1182 = .ok (.iload 5, 2) := dk_21 5 (dk_at dksL_law_43 16 rfl rfl)
theorem dL_law_1184 : decode cL_law 1184 = .ok (.iconst 1, 1) := dk_4 (dk_at dksL_law_43 18 rfl rfl)
theorem dL_law_1185 : decode cL_law 1185 = .ok (.iadd, 1) := dk_96 (dk_at dksL_law_43 19 rfl rfl)
theorem dL_law_1186 : decode cL_law 1186 = .ok (.iaload, 1) := dk_46 (dk_at dksL_law_43 20 rfl rfl)
theorem dL_law_1187 : decode cL_law 1187 = .ok (.aload_n 0, 1) := dk_42 (dk_at dksL_law_43 21 rfl rfl)
theorem dL_law_1188 : decode cL_law 1188 = .ok (.iload 5, 2) := dk_21 5 (dk_at dksL_law_43 22 rfl rfl)
theorem dL_law_1190 : decode cL_law 1190 = .ok (.iconst 2, 1) := dk_5 (dk_at dksL_law_44 0 rfl rfl)
theorem dL_law_1191 : decode cL_law 1191 = .ok (.iadd, 1) := dk_96 (dk_at dksL_law_44 1 rfl rfl)
theorem dL_law_1192 : decode cL_law 1192 = .ok (.iaload, 1) := dk_46 (dk_at dksL_law_44 2 rfl rfl)
theorem dL_law_1193 : decode cL_law 1193 = .ok (.aload_n 3, 1) := dk_45 (dk_at dksL_law_44 3 rfl rfl)
theorem dL_law_1194 : decode cL_law 1194 = .ok (.invokestatic 200, 3) := dk_184 0 200 (dk_at dksL_law_44 4 rfl rfl)
theorem dL_law_1197 : decode cL_law 1197 = .ok (.istore 6, 2) := dk_54 6 (dk_at dksL_law_44 7 rfl rfl)
theorem dL_law_1199 : decode cL_law 1199 = .ok (.aload_n 2, 1) := dk_44 (dk_at dksL_law_44 9 rfl rfl)
theorem dL_law_1200 : decode cL_law 1200 = .ok (.aload_n 0, 1) := dk_42 (dk_at dksL_law_44 10 rfl rfl)
theorem dL_law_1201 : decode cL_law 1201 = .ok (.iload 5, 2) := dk_21 5 (dk_at dksL_law_44 11 rfl rfl)
theorem dL_law_1203 : decode cL_law 1203 = .ok (.iconst 1, 1) := dk_4 (dk_at dksL_law_44 13 rfl rfl)
theorem dL_law_1204 : decode cL_law 1204 = .ok (.iadd, 1) := dk_96 (dk_at dksL_law_44 14 rfl rfl)
theorem dL_law_1205 : decode cL_law 1205 = .ok (.iaload, 1) := dk_46 (dk_at dksL_law_44 15 rfl rfl)
theorem dL_law_1206 : decode cL_law 1206 = .ok (.aload_n 0, 1) := dk_42 (dk_at dksL_law_44 16 rfl rfl)
theorem dL_law_1207 : decode cL_law 1207 = .ok (.iload 5, 2) := dk_21 5 (dk_at dksL_law_44 17 rfl rfl)
theorem dL_law_1209 : decode cL_law 1209 = .ok (.iconst 2, 1) := dk_5 (dk_at dksL_law_44 19 rfl rfl)
theorem dL_law_1210 : decode cL_law 1210 = .ok (.iadd, 1) := dk_96 (dk_at dksL_law_44 20 rfl rfl)
theorem dL_law_1211 : decode cL_law 1211 = .ok (.iaload, 1) := dk_46 (dk_at dksL_law_44 21 rfl rfl)
theorem dL_law_1212 : decode cL_law 1212 = .ok (.invokevirtual 202, 3) := dk_182 0 202 (dk_at dksL_law_45 0 rfl rfl)
theorem dL_law_1215 : decode cL_law 1215 = .ok (.istore 7, 2) := dk_54 7 (dk_at dksL_law_45 3 rfl rfl)
theorem dL_law_1217 : decode cL_law 1217 = .ok (.aload_n 2, 1) := dk_44 (dk_at dksL_law_45 5 rfl rfl)
theorem dL_law_1218 : decode cL_law 1218 = .ok (.invokevirtual 149, 3) := dk_182 0 149 (dk_at dksL_law_45 6 rfl rfl)
theorem dL_law_1221 : decode cL_law 1221 = .ok (.iload 6, 2) := dk_21 6 (dk_at dksL_law_45 9 rfl rfl)
theorem dL_law_1223 : decode cL_law 1223 = .ok (.if_icmp .eq 5, 3) := dk_159 0 5 (dk_at dksL_law_45 11 rfl rfl)
theorem dL_law_1226 : decode cL_law 1226 = .ok (.iconst 0, 1) := dk_3 (dk_at dksL_law_45 14 rfl rfl)
theorem dL_law_1227 : decode cL_law 1227 = .ok (.ireturn, 1) := dk_172 (dk_at dksL_law_45 15 rfl rfl)
theorem dL_law_1228 : decode cL_law 1228 = .ok (.iload 6, 2) := dk_21 6 (dk_at dksL_law_45 16 rfl rfl)
theorem dL_law_1230 : decode cL_law 1230 = .ok (.ifCond .ne 15, 3) := dk_154 0 15 (dk_at dksL_law_45 18 rfl rfl)
theorem dL_law_1233 : decode cL_law 1233 = .ok (.aload_n 3, 1) := dk_45 (dk_at dksL_law_45 21 rfl rfl)
theorem dL_law_1234 : decode cL_law 1234 = .ok (.iconst 0, 1) := dk_3 (dk_at dksL_law_45 22 rfl rfl)
theorem dL_law_1235 : decode cL_law 1235 = .ok (.laload, 1) := dk_47 (dk_at dksL_law_45 23 rfl rfl)
theorem dL_law_1236 : decode cL_law 1236 = .ok (.iload 7, 2) := dk_21 7 (dk_at dksL_law_46 0 rfl rfl)
theorem dL_law_1238 : decode cL_law 1238 = .ok (.i2l, 1) := dk_133 (dk_at dksL_law_46 2 rfl rfl)
theorem dL_law_1239 : decode cL_law 1239 = .ok (.lcmp, 1) := dk_148 (dk_at dksL_law_46 3 rfl rfl)
theorem dL_law_1240 : decode cL_law 1240 = .ok (.ifCond .eq 5, 3) := dk_153 0 5 (dk_at dksL_law_46 4 rfl rfl)
theorem dL_law_1243 : decode cL_law 1243 = .ok (.iconst 0, 1) := dk_3 (dk_at dksL_law_46 7 rfl rfl)
theorem dL_law_1244 : decode cL_law 1244 = .ok (.ireturn, 1) := dk_172 (dk_at dksL_law_46 8 rfl rfl)
theorem dL_law_1245 : decode cL_law 1245 = .ok (.goto 1135, 3) := dk_167 4 111 (dk_at dksL_law_46 9 rfl rfl)
theorem dL_law_1248 : decode cL_law 1248 = .ok (.aload_n 1, 1) := dk_43 (dk_at dksL_law_46 12 rfl rfl)
theorem dL_law_1249 : decode cL_law 1249 = .ok (.aload_n 0, 1) := dk_42 (dk_at dksL_law_46 13 rfl rfl)
theorem dL_law_1250 : decode cL_law 1250 = .ok (.iload 5, 2) := dk_21 5 (dk_at dksL_law_46 14 rfl rfl)
theorem dL_law_1252 : decode cL_law 1252 = .ok (.iconst 1, 1) := dk_4 (dk_at dksL_law_46 16 rfl rfl)
theorem dL_law_1253 : decode cL_law 1253 = .ok (.iadd, 1) := dk_96 (dk_at dksL_law_46 17 rfl rfl)
theorem dL_law_1254 : decode cL_law 1254 = .ok (.iaload, 1) := dk_46 (dk_at dksL_law_46 18 rfl rfl)
theorem dL_law_1255 : decode cL_law 1255 = .ok (.aload_n 3, 1) := dk_45 (dk_at dksL_law_46 19 rfl rfl)
theorem dL_law_1256 : decode cL_law 1256 = .ok (.invokestatic 203, 3) := dk_184 0 203 (dk_at dksL_law_46 20 rfl rfl)
theorem dL_law_1259 : decode cL_law 1259 = .ok (.istore 6, 2) := dk_54 6 (dk_at dksL_law_47 0 rfl rfl)
theorem dL_law_1261 : decode cL_law 1261 = .ok (.aload_n 2, 1) := dk_44 (dk_at dksL_law_47 2 rfl rfl)
theorem dL_law_1262 : decode cL_law 1262 = .ok (.aload_n 0, 1) := dk_42 (dk_at dksL_law_47 3 rfl rfl)
theorem dL_law_1263 : decode cL_law 1263 = .ok (.iload 5, 2) := dk_21 5 (dk_at dksL_law_47 4 rfl rfl)
theorem dL_law_1265 : decode cL_law 1265 = .ok (.iconst 1, 1) := dk_4 (dk_at dksL_law_47 6 rfl rfl)
theorem dL_law_1266 : decode cL_law 1266 = .ok (.iadd, 1) := dk_96 (dk_at dksL_law_47 7 rfl rfl)
theorem dL_law_1267 : decode cL_law 1267 = .ok (.iaload, 1) := dk_46 (dk_at dksL_law_47 8 rfl rfl)
theorem dL_law_1268 : decode cL_law 1268 = .ok (.invokevirtual 205, 3) := dk_182 0 205 (dk_at dksL_law_47 9 rfl rfl)
theorem dL_law_1271 : decode cL_law 1271 = .ok (.istore 7, 2) := dk_54 7 (dk_at dksL_law_47 12 rfl rfl)
theorem dL_law_1273 : decode cL_law 1273 = .ok (.aload_n 2, 1) := dk_44 (dk_at dksL_law_47 14 rfl rfl)
theorem dL_law_1274 : decode cL_law 1274 = .ok (.invokevirtual 149, 3) := dk_182 0 149 (dk_at dksL_law_47 15 rfl rfl)
theorem dL_law_1277 : decode cL_law 1277 = .ok (.iload 6, 2) := dk_21 6 (dk_at dksL_law_47 18 rfl rfl)
theorem dL_law_1279 : decode cL_law 1279 = .ok (.if_icmp .eq 5, 3) := dk_159 0 5 (dk_at dksL_law_47 20 rfl rfl)
theorem dL_law_1282 : decode cL_law 1282 = .ok (.iconst 0, 1) := dk_3 (dk_at dksL_law_47 23 rfl rfl)
theorem dL_law_1283 : decode cL_law 1283 = .ok (.ireturn, 1) := dk_172 (dk_at dksL_law_48 0 rfl rfl)
theorem dL_law_1284 : decode cL_law 1284 = .ok (.iload 6, 2) := dk_21 6 (dk_at dksL_law_48 1 rfl rfl)
theorem dL_law_1286 : decode cL_law 1286 = .ok (.ifCond .ne 22, 3) := dk_154 0 22 (dk_at dksL_law_48 3 rfl rfl)
theorem dL_law_1289 : decode cL_law 1289 = .ok (.aload_n 3, 1) := dk_45 (dk_at dksL_law_48 6 rfl rfl)
theorem dL_law_1290 : decode cL_law 1290 = .ok (.iconst 0, 1) := dk_3 (dk_at dksL_law_48 7 rfl rfl)
theorem dL_law_1291 : decode cL_law 1291 = .ok (.laload, 1) := dk_47 (dk_at dksL_law_48 8 rfl rfl)
theorem dL_law_1292 : decode cL_law 1292 = .ok (.iload 7, 2) := dk_21 7 (dk_at dksL_law_48 9 rfl rfl)
theorem dL_law_1294 : decode cL_law 1294 = .ok (.ifCond .eq 7, 3) := dk_153 0 7 (dk_at dksL_law_48 11 rfl rfl)
theorem dL_law_1297 : decode cL_law 1297 = .ok (.lconst 1, 1) := dk_10 (dk_at dksL_law_48 14 rfl rfl)
theorem dL_law_1298 : decode cL_law 1298 = .ok (.goto 4, 3) := dk_167 0 4 (dk_at dksL_law_48 15 rfl rfl)
theorem dL_law_1301 : decode cL_law 1301 = .ok (.lconst 0, 1) := dk_9 (dk_at dksL_law_48 18 rfl rfl)
theorem dL_law_1302 : decode cL_law 1302 = .ok (.lcmp, 1) := dk_148 (dk_at dksL_law_48 19 rfl rfl)
theorem dL_law_1303 : decode cL_law 1303 = .ok (.ifCond .eq 5, 3) := dk_153 0 5 (dk_at dksL_law_48 20 rfl rfl)
theorem dL_law_1306 : decode cL_law 1306 = .ok (.iconst 0, 1) := dk_3 (dk_at dksL_law_48 23 rfl rfl)
theorem dL_law_1307 : decode cL_law 1307 = .ok (.ireturn, 1) := dk_172 (dk_at dksL_law_49 0 rfl rfl)
theorem dL_law_1308 : decode cL_law 1308 = .ok (.goto 1072, 3) := dk_167 4 48 (dk_at dksL_law_49 1 rfl rfl)
theorem dL_law_1311 : decode cL_law 1311 = .ok (.aload_n 1, 1) := dk_43 (dk_at dksL_law_49 4 rfl rfl)
theorem dL_law_1312 : decode cL_law 1312 = .ok (.aload_n 0, 1) := dk_42 (dk_at dksL_law_49 5 rfl rfl)
theorem dL_law_1313 : decode cL_law 1313 = .ok (.iload 5, 2) := dk_21 5 (dk_at dksL_law_49 6 rfl rfl)
theorem dL_law_1315 : decode cL_law 1315 = .ok (.iconst 1, 1) := dk_4 (dk_at dksL_law_49 8 rfl rfl)
theorem dL_law_1316 : decode cL_law 1316 = .ok (.iadd, 1) := dk_96 (dk_at dksL_law_49 9 rfl rfl)
theorem dL_law_1317 : decode cL_law 1317 = .ok (.iaload, 1) := dk_46 (dk_at dksL_law_49 10 rfl rfl)
theorem dL_law_1318 : decode cL_law 1318 = .ok (.aload_n 3, 1) := dk_45 (dk_at dksL_law_49 11 rfl rfl)
theorem dL_law_1319 : decode cL_law 1319 = .ok (.invokestatic 206, 3) := dk_184 0 206 (dk_at dksL_law_49 12 rfl rfl)
theorem dL_law_1322 : decode cL_law 1322 = .ok (.istore 6, 2) := dk_54 6 (dk_at dksL_law_49 15 rfl rfl)
theorem dL_law_1324 : decode cL_law 1324 = .ok (.aload_n 2, 1) := dk_44 (dk_at dksL_law_49 17 rfl rfl)
theorem dL_law_1325 : decode cL_law 1325 = .ok (.aload_n 0, 1) := dk_42 (dk_at dksL_law_49 18 rfl rfl)
theorem dL_law_1326 : decode cL_law 1326 = .ok (.iload 5, 2) := dk_21 5 (dk_at dksL_law_49 19 rfl rfl)
theorem dL_law_1328 : decode cL_law 1328 = .ok (.iconst 1, 1) := dk_4 (dk_at dksL_law_49 21 rfl rfl)
theorem dL_law_1329 : decode cL_law 1329 = .ok (.iadd, 1) := dk_96 (dk_at dksL_law_49 22 rfl rfl)
theorem dL_law_1330 : decode cL_law 1330 = .ok (.iaload, 1) := dk_46 (dk_at dksL_law_49 23 rfl rfl)
theorem dL_law_1331 : decode cL_law 1331 = .ok (.invokevirtual 208, 3) := dk_182 0 208 (dk_at dksL_law_50 0 rfl rfl)
theorem dL_law_1334 : decode cL_law 1334 = .ok (.istore 7, 2) := dk_54 7 (dk_at dksL_law_50 3 rfl rfl)
theorem dL_law_1336 : decode cL_law 1336 = .ok (.aload_n 2, 1) := dk_44 (dk_at dksL_law_50 5 rfl rfl)
theorem dL_law_1337 : decode cL_law 1337 = .ok (.invokevirtual 149, 3) := dk_182 0 149 (dk_at dksL_law_50 6 rfl rfl)
theorem dL_law_1340 : decode cL_law 1340 = .ok (.iload 6, 2) := dk_21 6 (dk_at dksL_law_50 9 rfl rfl)
theorem dL_law_1342 : decode cL_law 1342 = .ok (.if_icmp .eq 5, 3) := dk_159 0 5 (dk_at dksL_law_50 11 rfl rfl)
theorem dL_law_1345 : decode cL_law 1345 = .ok (.iconst 0, 1) := dk_3 (dk_at dksL_law_50 14 rfl rfl)
theorem dL_law_1346 : decode cL_law 1346 = .ok (.ireturn, 1) := dk_172 (dk_at dksL_law_50 15 rfl rfl)
theorem dL_law_1347 : decode cL_law 1347 = .ok (.iload 6, 2) := dk_21 6 (dk_at dksL_law_50 16 rfl rfl)
theorem dL_law_1349 : decode cL_law 1349 = .ok (.ifCond .ne 22, 3) := dk_154 0 22 (dk_at dksL_law_50 18 rfl rfl)
theorem dL_law_1352 : decode cL_law 1352 = .ok (.aload_n 3, 1) := dk_45 (dk_at dksL_law_50 21 rfl rfl)
theorem dL_law_1353 : decode cL_law 1353 = .ok (.iconst 0, 1) := dk_3 (dk_at dksL_law_50 22 rfl rfl)
theorem dL_law_1354 : decode cL_law 1354 = .ok (.laload, 1) := dk_47 (dk_at dksL_law_50 23 rfl rfl)
theorem dL_law_1355 : decode cL_law 1355 = .ok (.iload 7, 2) := dk_21 7 (dk_at dksL_law_51 0 rfl rfl)
theorem dL_law_1357 : decode cL_law 1357 = .ok (.ifCond .eq 7, 3) := dk_153 0 7 (dk_at dksL_law_51 2 rfl rfl)
theorem dL_law_1360 : decode cL_law 1360 = .ok (.lconst 1, 1) := dk_10 (dk_at dksL_law_51 5 rfl rfl)
theorem dL_law_1361 : decode cL_law 1361 = .ok (.goto 4, 3) := dk_167 0 4 (dk_at dksL_law_51 6 rfl rfl)
theorem dL_law_1364 : decode cL_law 1364 = .ok (.lconst 0, 1) := dk_9 (dk_at dksL_law_51 9 rfl rfl)
theorem dL_law_1365 : decode cL_law 1365 = .ok (.lcmp, 1) := dk_148 (dk_at dksL_law_51 10 rfl rfl)
theorem dL_law_1366 : decode cL_law 1366 = .ok (.ifCond .eq 5, 3) := dk_153 0 5 (dk_at dksL_law_51 11 rfl rfl)
theorem dL_law_1369 : decode cL_law 1369 = .ok (.iconst 0, 1) := dk_3 (dk_at dksL_law_51 14 rfl rfl)
theorem dL_law_1370 : decode cL_law 1370 = .ok (.ireturn, 1) := dk_172 (dk_at dksL_law_51 15 rfl rfl)
theorem dL_law_1371 : decode cL_law 1371 = .ok (.goto 1009, 3) := dk_167 3 241 (dk_at dksL_law_51 16 rfl rfl)
theorem dL_law_1374 : decode cL_law 1374 = .ok (.aload_n 1, 1) := dk_43 (dk_at dksL_law_51 19 rfl rfl)
theorem dL_law_1375 : decode cL_law 1375 = .ok (.aload_n 3, 1) := dk_45 (dk_at dksL_law_51 20 rfl rfl)
theorem dL_law_1376 : decode cL_law 1376 = .ok (.invokestatic 209, 3) := dk_184 0 209 (dk_at dksL_law_51 21 rfl rfl)
theorem dL_law_1379 : decode cL_law 1379 = .ok (.istore 6, 2) := dk_54 6 (dk_at dksL_law_52 0 rfl rfl)
theorem dL_law_1381 : decode cL_law 1381 = .ok (.aload_n 2, 1) := dk_44 (dk_at dksL_law_52 2 rfl rfl)
theorem dL_law_1382 : decode cL_law 1382 = .ok (.invokevirtual 211, 3) := dk_182 0 211 (dk_at dksL_law_52 3 rfl rfl)
theorem dL_law_1385 : decode cL_law 1385 = .ok (.istore 7, 2) := dk_54 7 (dk_at dksL_law_52 6 rfl rfl)
theorem dL_law_1387 : decode cL_law 1387 = .ok (.aload_n 2, 1) := dk_44 (dk_at dksL_law_52 8 rfl rfl)
theorem dL_law_1388 : decode cL_law 1388 = .ok (.invokevirtual 149, 3) := dk_182 0 149 (dk_at dksL_law_52 9 rfl rfl)
theorem dL_law_1391 : decode cL_law 1391 = .ok (.iload 6, 2) := dk_21 6 (dk_at dksL_law_52 12 rfl rfl)
theorem dL_law_1393 : decode cL_law 1393 = .ok (.if_icmp .eq 5, 3) := dk_159 0 5 (dk_at dksL_law_52 14 rfl rfl)
theorem dL_law_1396 : decode cL_law 1396 = .ok (.iconst 0, 1) := dk_3 (dk_at dksL_law_52 17 rfl rfl)
theorem dL_law_1397 : decode cL_law 1397 = .ok (.ireturn, 1) := dk_172 (dk_at dksL_law_52 18 rfl rfl)
theorem dL_law_1398 : decode cL_law 1398 = .ok (.iload 6, 2) := dk_21 6 (dk_at dksL_law_52 19 rfl rfl)
theorem dL_law_1400 : decode cL_law 1400 = .ok (.ifCond .ne 15, 3) := dk_154 0 15 (dk_at dksL_law_52 21 rfl rfl)
theorem dL_law_1403 : decode cL_law 1403 = .ok (.aload_n 3, 1) := dk_45 (dk_at dksL_law_53 0 rfl rfl)
theorem dL_law_1404 : decode cL_law 1404 = .ok (.iconst 0, 1) := dk_3 (dk_at dksL_law_53 1 rfl rfl)
theorem dL_law_1405 : decode cL_law 1405 = .ok (.laload, 1) := dk_47 (dk_at dksL_law_53 2 rfl rfl)
theorem dL_law_1406 : decode cL_law 1406 = .ok (.iload 7, 2) := dk_21 7 (dk_at dksL_law_53 3 rfl rfl)
theorem dL_law_1408 : decode cL_law 1408 = .ok (.i2l, 1) := dk_133 (dk_at dksL_law_53 5 rfl rfl)
theorem dL_law_1409 : decode cL_law 1409 = .ok (.lcmp, 1) := dk_148 (dk_at dksL_law_53 6 rfl rfl)
theorem dL_law_1410 : decode cL_law 1410 = .ok (.ifCond .eq 5, 3) := dk_153 0 5 (dk_at dksL_law_53 7 rfl rfl)
theorem dL_law_1413 : decode cL_law 1413 = .ok (.iconst 0, 1) := dk_3 (dk_at dksL_law_53 10 rfl rfl)
theorem dL_law_1414 : decode cL_law 1414 = .ok (.ireturn, 1) := dk_172 (dk_at dksL_law_53 11 rfl rfl)
theorem dL_law_1415 : decode cL_law 1415 = .ok (.goto 965, 3) := dk_167 3 197 (dk_at dksL_law_53 12 rfl rfl)
theorem dL_law_1418 : decode cL_law 1418 = .ok (.aload_n 1, 1) := dk_43 (dk_at dksL_law_53 15 rfl rfl)
theorem dL_law_1419 : decode cL_law 1419 = .ok (.aload_n 0, 1) := dk_42 (dk_at dksL_law_53 16 rfl rfl)
theorem dL_law_1420 : decode cL_law 1420 = .ok (.iload 5, 2) := dk_21 5 (dk_at dksL_law_53 17 rfl rfl)
theorem dL_law_1422 : decode cL_law 1422 = .ok (.iconst 1, 1) := dk_4 (dk_at dksL_law_53 19 rfl rfl)
theorem dL_law_1423 : decode cL_law 1423 = .ok (.iadd, 1) := dk_96 (dk_at dksL_law_53 20 rfl rfl)
theorem dL_law_1424 : decode cL_law 1424 = .ok (.iaload, 1) := dk_46 (dk_at dksL_law_53 21 rfl rfl)
theorem dL_law_1425 : decode cL_law 1425 = .ok (.aload_n 3, 1) := dk_45 (dk_at dksL_law_53 22 rfl rfl)
theorem dL_law_1426 : decode cL_law 1426 = .ok (.invokestatic 212, 3) := dk_184 0 212 (dk_at dksL_law_54 0 rfl rfl)
theorem dL_law_1429 : decode cL_law 1429 = .ok (.istore 6, 2) := dk_54 6 (dk_at dksL_law_54 3 rfl rfl)
theorem dL_law_1431 : decode cL_law 1431 = .ok (.aload_n 2, 1) := dk_44 (dk_at dksL_law_54 5 rfl rfl)
theorem dL_law_1432 : decode cL_law 1432 = .ok (.aload_n 0, 1) := dk_42 (dk_at dksL_law_54 6 rfl rfl)
theorem dL_law_1433 : decode cL_law 1433 = .ok (.iload 5, 2) := dk_21 5 (dk_at dksL_law_54 7 rfl rfl)
theorem dL_law_1435 : decode cL_law 1435 = .ok (.iconst 1, 1) := dk_4 (dk_at dksL_law_54 9 rfl rfl)
theorem dL_law_1436 : decode cL_law 1436 = .ok (.iadd, 1) := dk_96 (dk_at dksL_law_54 10 rfl rfl)
theorem dL_law_1437 : decode cL_law 1437 = .ok (.iaload, 1) := dk_46 (dk_at dksL_law_54 11 rfl rfl)
theorem dL_law_1438 : decode cL_law 1438 = .ok (.invokevirtual 214, 3) := dk_182 0 214 (dk_at dksL_law_54 12 rfl rfl)
theorem dL_law_1441 : decode cL_law 1441 = .ok (.istore 7, 2) := dk_54 7 (dk_at dksL_law_54 15 rfl rfl)
theorem dL_law_1443 : decode cL_law 1443 = .ok (.aload_n 2, 1) := dk_44 (dk_at dksL_law_54 17 rfl rfl)
theorem dL_law_1444 : decode cL_law 1444 = .ok (.invokevirtual 149, 3) := dk_182 0 149 (dk_at dksL_law_54 18 rfl rfl)
theorem dL_law_1447 : decode cL_law 1447 = .ok (.iload 6, 2) := dk_21 6 (dk_at dksL_law_54 21 rfl rfl)
theorem dL_law_1449 : decode cL_law 1449 = .ok (.if_icmp .eq 5, 3) := dk_159 0 5 (dk_at dksL_law_55 0 rfl rfl)
theorem dL_law_1452 : decode cL_law 1452 = .ok (.iconst 0, 1) := dk_3 (dk_at dksL_law_55 3 rfl rfl)
theorem dL_law_1453 : decode cL_law 1453 = .ok (.ireturn, 1) := dk_172 (dk_at dksL_law_55 4 rfl rfl)
theorem dL_law_1454 : decode cL_law 1454 = .ok (.iload 6, 2) := dk_21 6 (dk_at dksL_law_55 5 rfl rfl)
theorem dL_law_1456 : decode cL_law 1456 = .ok (.ifCond .ne 15, 3) := dk_154 0 15 (dk_at dksL_law_55 7 rfl rfl)
theorem dL_law_1459 : decode cL_law 1459 = .ok (.aload_n 3, 1) := dk_45 (dk_at dksL_law_55 10 rfl rfl)
theorem dL_law_1460 : decode cL_law 1460 = .ok (.iconst 0, 1) := dk_3 (dk_at dksL_law_55 11 rfl rfl)
theorem dL_law_1461 : decode cL_law 1461 = .ok (.laload, 1) := dk_47 (dk_at dksL_law_55 12 rfl rfl)
theorem dL_law_1462 : decode cL_law 1462 = .ok (.iload 7, 2) := dk_21 7 (dk_at dksL_law_55 13 rfl rfl)
theorem dL_law_1464 : decode cL_law 1464 = .ok (.i2l, 1) := dk_133 (dk_at dksL_law_55 15 rfl rfl)
theorem dL_law_1465 : decode cL_law 1465 = .ok (.lcmp, 1) := dk_148 (dk_at dksL_law_55 16 rfl rfl)
theorem dL_law_1466 : decode cL_law 1466 = .ok (.ifCond .eq 5, 3) := dk_153 0 5 (dk_at dksL_law_55 17 rfl rfl)
theorem dL_law_1469 : decode cL_law 1469 = .ok (.iconst 0, 1) := dk_3 (dk_at dksL_law_55 20 rfl rfl)
theorem dL_law_1470 : decode cL_law 1470 = .ok (.ireturn, 1) := dk_172 (dk_at dksL_law_55 21 rfl rfl)
theorem dL_law_1471 : decode cL_law 1471 = .ok (.goto 909, 3) := dk_167 3 141 (dk_at dksL_law_56 0 rfl rfl)
theorem dL_law_1474 : decode cL_law 1474 = .ok (.aload_n 1, 1) := dk_43 (dk_at dksL_law_56 3 rfl rfl)
theorem dL_law_1475 : decode cL_law 1475 = .ok (.aload_n 0, 1) := dk_42 (dk_at dksL_law_56 4 rfl rfl)
theorem dL_law_1476 : decode cL_law 1476 = .ok (.iload 5, 2) := dk_21 5 (dk_at dksL_law_56 5 rfl rfl)
theorem dL_law_1478 : decode cL_law 1478 = .ok (.iconst 1, 1) := dk_4 (dk_at dksL_law_56 7 rfl rfl)
theorem dL_law_1479 : decode cL_law 1479 = .ok (.iadd, 1) := dk_96 (dk_at dksL_law_56 8 rfl rfl)
theorem dL_law_1480 : decode cL_law 1480 = .ok (.iaload, 1) := dk_46 (dk_at dksL_law_56 9 rfl rfl)
theorem dL_law_1481 : decode cL_law 1481 = .ok (.aload_n 3, 1) := dk_45 (dk_at dksL_law_56 10 rfl rfl)
theorem dL_law_1482 : decode cL_law 1482 = .ok (.invokestatic 215, 3) := dk_184 0 215 (dk_at dksL_law_56 11 rfl rfl)
theorem dL_law_1485 : decode cL_law 1485 = .ok (.istore 6, 2) := dk_54 6 (dk_at dksL_law_56 14 rfl rfl)
theorem dL_law_1487 : decode cL_law 1487 = .ok (.aload_n 2, 1) := dk_44 (dk_at dksL_law_56 16 rfl rfl)
theorem dL_law_1488 : decode cL_law 1488 = .ok (.aload_n 0, 1) := dk_42 (dk_at dksL_law_56 17 rfl rfl)
theorem dL_law_1489 : decode cL_law 1489 = .ok (.iload 5, 2) := dk_21 5 (dk_at dksL_law_56 18 rfl rfl)
theorem dL_law_1491 : decode cL_law 1491 = .ok (.iconst 1, 1) := dk_4 (dk_at dksL_law_56 20 rfl rfl)
theorem dL_law_1492 : decode cL_law 1492 = .ok (.iadd, 1) := dk_96 (dk_at dksL_law_56 21 rfl rfl)
theorem dL_law_1493 : decode cL_law 1493 = .ok (.iaload, 1) := dk_46 (dk_at dksL_law_56 22 rfl rfl)
theorem dL_law_1494 : decode cL_law 1494 = .ok (.invokevirtual 217, 3) := dk_182 0 217 (dk_at dksL_law_57 0 rfl rfl)
theorem dL_law_1497 : decode cL_law 1497 = .ok (.istore 7, 2) := dk_54 7 (dk_at dksL_law_57 3 rfl rfl)
theorem dL_law_1499 : decode cL_law 1499 = .ok (.aload_n 2, 1) := dk_44 (dk_at dksL_law_57 5 rfl rfl)
theorem dL_law_1500 : decode cL_law 1500 = .ok (.invokevirtual 149, 3) := dk_182 0 149 (dk_at dksL_law_57 6 rfl rfl)
theorem dL_law_1503 : decode cL_law 1503 = .ok (.iload 6, 2) := dk_21 6 (dk_at dksL_law_57 9 rfl rfl)
theorem dL_law_1505 : decode cL_law 1505 = .ok (.if_icmp .eq 5, 3) := dk_159 0 5 (dk_at dksL_law_57 11 rfl rfl)
theorem dL_law_1508 : decode cL_law 1508 = .ok (.iconst 0, 1) := dk_3 (dk_at dksL_law_57 14 rfl rfl)
theorem dL_law_1509 : decode cL_law 1509 = .ok (.ireturn, 1) := dk_172 (dk_at dksL_law_57 15 rfl rfl)
theorem dL_law_1510 : decode cL_law 1510 = .ok (.iload 6, 2) := dk_21 6 (dk_at dksL_law_57 16 rfl rfl)
theorem dL_law_1512 : decode cL_law 1512 = .ok (.ifCond .ne 15, 3) := dk_154 0 15 (dk_at dksL_law_57 18 rfl rfl)
theorem dL_law_1515 : decode cL_law 1515 = .ok (.aload_n 3, 1) := dk_45 (dk_at dksL_law_57 21 rfl rfl)
theorem dL_law_1516 : decode cL_law 1516 = .ok (.iconst 0, 1) := dk_3 (dk_at dksL_law_57 22 rfl rfl)
theorem dL_law_1517 : decode cL_law 1517 = .ok (.laload, 1) := dk_47 (dk_at dksL_law_57 23 rfl rfl)
theorem dL_law_1518 : decode cL_law 1518 = .ok (.iload 7, 2) := dk_21 7 (dk_at dksL_law_58 0 rfl rfl)
theorem dL_law_1520 : decode cL_law 1520 = .ok (.i2l, 1) := dk_133 (dk_at dksL_law_58 2 rfl rfl)
theorem dL_law_1521 : decode cL_law 1521 = .ok (.lcmp, 1) := dk_148 (dk_at dksL_law_58 3 rfl rfl)
theorem dL_law_1522 : decode cL_law 1522 = .ok (.ifCond .eq 5, 3) := dk_153 0 5 (dk_at dksL_law_58 4 rfl rfl)
theorem dL_law_1525 : decode cL_law 1525 = .ok (.iconst 0, 1) := dk_3 (dk_at dksL_law_58 7 rfl rfl)
theorem dL_law_1526 : decode cL_law 1526 = .ok (.ireturn, 1) := dk_172 (dk_at dksL_law_58 8 rfl rfl)
theorem dL_law_1527 : decode cL_law 1527 = .ok (.goto 853, 3) := dk_167 3 85 (dk_at dksL_law_58 9 rfl rfl)
theorem dL_law_1530 : decode cL_law 1530 = .ok (.aload_n 1, 1) := dk_43 (dk_at dksL_law_58 12 rfl rfl)
theorem dL_law_1531 : decode cL_law 1531 = .ok (.aload_n 0, 1) := dk_42 (dk_at dksL_law_58 13 rfl rfl)
theorem dL_law_1532 : decode cL_law 1532 = .ok (.iload 5, 2) := dk_21 5 (dk_at dksL_law_58 14 rfl rfl)
theorem dL_law_1534 : decode cL_law 1534 = .ok (.iconst 1, 1) := dk_4 (dk_at dksL_law_58 16 rfl rfl)
theorem dL_law_1535 : decode cL_law 1535 = .ok (.iadd, 1) := dk_96 (dk_at dksL_law_58 17 rfl rfl)
theorem dL_law_1536 : decode cL_law 1536 = .ok (.iaload, 1) := dk_46 (dk_at dksL_law_58 18 rfl rfl)
theorem dL_law_1537 : decode cL_law 1537 = .ok (.aload_n 0, 1) := dk_42 (dk_at dksL_law_58 19 rfl rfl)
theorem dL_law_1538 : decode cL_law 1538 = .ok (.iload 5, 2) := dk_21 5 (dk_at dksL_law_58 20 rfl rfl)
theorem dL_law_1540 : decode cL_law 1540 = .ok (.iconst 2, 1) := dk_5 (dk_at dksL_law_58 22 rfl rfl)
theorem dL_law_1541 : decode cL_law 1541 = .ok (.iadd, 1) := dk_96 (dk_at dksL_law_58 23 rfl rfl)
theorem dL_law_1542 : decode cL_law 1542 = .ok (.iaload, 1) := dk_46 (dk_at dksL_law_59 0 rfl rfl)
theorem dL_law_1543 : decode cL_law 1543 = .ok (.aload_n 3, 1) := dk_45 (dk_at dksL_law_59 1 rfl rfl)
theorem dL_law_1544 : decode cL_law 1544 = .ok (.invokestatic 218, 3) := dk_184 0 218 (dk_at dksL_law_59 2 rfl rfl)
theorem dL_law_1547 : decode cL_law 1547 = .ok (.istore 6, 2) := dk_54 6 (dk_at dksL_law_59 5 rfl rfl)
theorem dL_law_1549 : decode cL_law 1549 = .ok (.aload_n 2, 1) := dk_44 (dk_at dksL_law_59 7 rfl rfl)
theorem dL_law_1550 : decode cL_law 1550 = .ok (.aload_n 0, 1) := dk_42 (dk_at dksL_law_59 8 rfl rfl)
theorem dL_law_1551 : decode cL_law 1551 = .ok (.iload 5, 2) := dk_21 5 (dk_at dksL_law_59 9 rfl rfl)
theorem dL_law_1553 : decode cL_law 1553 = .ok (.iconst 1, 1) := dk_4 (dk_at dksL_law_59 11 rfl rfl)
theorem dL_law_1554 : decode cL_law 1554 = .ok (.iadd, 1) := dk_96 (dk_at dksL_law_59 12 rfl rfl)
theorem dL_law_1555 : decode cL_law 1555 = .ok (.iaload, 1) := dk_46 (dk_at dksL_law_59 13 rfl rfl)
theorem dL_law_1556 : decode cL_law 1556 = .ok (.aload_n 0, 1) := dk_42 (dk_at dksL_law_59 14 rfl rfl)
theorem dL_law_1557 : decode cL_law 1557 = .ok (.iload 5, 2) := dk_21 5 (dk_at dksL_law_59 15 rfl rfl)
theorem dL_law_1559 : decode cL_law 1559 = .ok (.iconst 2, 1) := dk_5 (dk_at dksL_law_59 17 rfl rfl)
theorem dL_law_1560 : decode cL_law 1560 = .ok (.iadd, 1) := dk_96 (dk_at dksL_law_59 18 rfl rfl)
theorem dL_law_1561 : decode cL_law 1561 = .ok (.iaload, 1) := dk_46 (dk_at dksL_law_59 19 rfl rfl)
theorem dL_law_1562 : decode cL_law 1562 = .ok (.invokevirtual 220, 3) := dk_182 0 220 (dk_at dksL_law_59 20 rfl rfl)
theorem dL_law_1565 : decode cL_law 1565 = .ok (.istore 7, 2) := dk_54 7 (dk_at dksL_law_60 0 rfl rfl)
theorem dL_law_1567 : decode cL_law 1567 = .ok (.aload_n 2, 1) := dk_44 (dk_at dksL_law_60 2 rfl rfl)
theorem dL_law_1568 : decode cL_law 1568 = .ok (.invokevirtual 149, 3) := dk_182 0 149 (dk_at dksL_law_60 3 rfl rfl)
theorem dL_law_1571 : decode cL_law 1571 = .ok (.iload 6, 2) := dk_21 6 (dk_at dksL_law_60 6 rfl rfl)
theorem dL_law_1573 : decode cL_law 1573 = .ok (.if_icmp .eq 5, 3) := dk_159 0 5 (dk_at dksL_law_60 8 rfl rfl)
theorem dL_law_1576 : decode cL_law 1576 = .ok (.iconst 0, 1) := dk_3 (dk_at dksL_law_60 11 rfl rfl)
theorem dL_law_1577 : decode cL_law 1577 = .ok (.ireturn, 1) := dk_172 (dk_at dksL_law_60 12 rfl rfl)
theorem dL_law_1578 : decode cL_law 1578 = .ok (.iload 6, 2) := dk_21 6 (dk_at dksL_law_60 13 rfl rfl)
theorem dL_law_1580 : decode cL_law 1580 = .ok (.ifCond .ne 15, 3) := dk_154 0 15 (dk_at dksL_law_60 15 rfl rfl)
theorem dL_law_1583 : decode cL_law 1583 = .ok (.aload_n 3, 1) := dk_45 (dk_at dksL_law_60 18 rfl rfl)
theorem dL_law_1584 : decode cL_law 1584 = .ok (.iconst 0, 1) := dk_3 (dk_at dksL_law_60 19 rfl rfl)
theorem dL_law_1585 : decode cL_law 1585 = .ok (.laload, 1) := dk_47 (dk_at dksL_law_60 20 rfl rfl)
theorem dL_law_1586 : decode cL_law 1586 = .ok (.iload 7, 2) := dk_21 7 (dk_at dksL_law_60 21 rfl rfl)
theorem dL_law_1588 : decode cL_law 1588 = .ok (.i2l, 1) := dk_133 (dk_at dksL_law_60 23 rfl rfl)
theorem dL_law_1589 : decode cL_law 1589 = .ok (.lcmp, 1) := dk_148 (dk_at dksL_law_61 0 rfl rfl)
theorem dL_law_1590 : decode cL_law 1590 = .ok (.ifCond .eq 5, 3) := dk_153 0 5 (dk_at dksL_law_61 1 rfl rfl)
theorem dL_law_1593 : decode cL_law 1593 = .ok (.iconst 0, 1) := dk_3 (dk_at dksL_law_61 4 rfl rfl)
theorem dL_law_1594 : decode cL_law 1594 = .ok (.ireturn, 1) := dk_172 (dk_at dksL_law_61 5 rfl rfl)
theorem dL_law_1595 : decode cL_law 1595 = .ok (.goto 785, 3) := dk_167 3 17 (dk_at dksL_law_61 6 rfl rfl)
theorem dL_law_1598 : decode cL_law 1598 = .ok (.aload_n 1, 1) := dk_43 (dk_at dksL_law_61 9 rfl rfl)
theorem dL_law_1599 : decode cL_law 1599 = .ok (.aload_n 0, 1) := dk_42 (dk_at dksL_law_61 10 rfl rfl)
theorem dL_law_1600 : decode cL_law 1600 = .ok (.iload 5, 2) := dk_21 5 (dk_at dksL_law_61 11 rfl rfl)
theorem dL_law_1602 : decode cL_law 1602 = .ok (.iconst 1, 1) := dk_4 (dk_at dksL_law_61 13 rfl rfl)
theorem dL_law_1603 : decode cL_law 1603 = .ok (.iadd, 1) := dk_96 (dk_at dksL_law_61 14 rfl rfl)
theorem dL_law_1604 : decode cL_law 1604 = .ok (.iaload, 1) := dk_46 (dk_at dksL_law_61 15 rfl rfl)
theorem dL_law_1605 : decode cL_law 1605 = .ok (.aload_n 3, 1) := dk_45 (dk_at dksL_law_61 16 rfl rfl)
theorem dL_law_1606 : decode cL_law 1606 = .ok (.invokestatic 221, 3) := dk_184 0 221 (dk_at dksL_law_61 17 rfl rfl)
theorem dL_law_1609 : decode cL_law 1609 = .ok (.istore 6, 2) := dk_54 6 (dk_at dksL_law_61 20 rfl rfl)
theorem dL_law_1611 : decode cL_law 1611 = .ok (.aload_n 2, 1) := dk_44 (dk_at dksL_law_61 22 rfl rfl)
theorem dL_law_1612 : decode cL_law 1612 = .ok (.aload_n 0, 1) := dk_42 (dk_at dksL_law_61 23 rfl rfl)
theorem dL_law_1613 : decode cL_law 1613 = .ok (.iload 5, 2) := dk_21 5 (dk_at dksL_law_62 0 rfl rfl)
theorem dL_law_1615 : decode cL_law 1615 = .ok (.iconst 1, 1) := dk_4 (dk_at dksL_law_62 2 rfl rfl)
theorem dL_law_1616 : decode cL_law 1616 = .ok (.iadd, 1) := dk_96 (dk_at dksL_law_62 3 rfl rfl)
theorem dL_law_1617 : decode cL_law 1617 = .ok (.iaload, 1) := dk_46 (dk_at dksL_law_62 4 rfl rfl)
theorem dL_law_1618 : decode cL_law 1618 = .ok (.invokevirtual 223, 3) := dk_182 0 223 (dk_at dksL_law_62 5 rfl rfl)
theorem dL_law_1621 : decode cL_law 1621 = .ok (.istore 7, 2) := dk_54 7 (dk_at dksL_law_62 8 rfl rfl)
theorem dL_law_1623 : decode cL_law 1623 = .ok (.aload_n 2, 1) := dk_44 (dk_at dksL_law_62 10 rfl rfl)
theorem dL_law_1624 : decode cL_law 1624 = .ok (.invokevirtual 149, 3) := dk_182 0 149 (dk_at dksL_law_62 11 rfl rfl)
theorem dL_law_1627 : decode cL_law 1627 = .ok (.iload 6, 2) := dk_21 6 (dk_at dksL_law_62 14 rfl rfl)
theorem dL_law_1629 : decode cL_law 1629 = .ok (.if_icmp .eq 5, 3) := dk_159 0 5 (dk_at dksL_law_62 16 rfl rfl)
theorem dL_law_1632 : decode cL_law 1632 = .ok (.iconst 0, 1) := dk_3 (dk_at dksL_law_62 19 rfl rfl)
theorem dL_law_1633 : decode cL_law 1633 = .ok (.ireturn, 1) := dk_172 (dk_at dksL_law_62 20 rfl rfl)
theorem dL_law_1634 : decode cL_law 1634 = .ok (.iload 6, 2) := dk_21 6 (dk_at dksL_law_62 21 rfl rfl)
theorem dL_law_1636 : decode cL_law 1636 = .ok (.ifCond .ne 15, 3) := dk_154 0 15 (dk_at dksL_law_63 0 rfl rfl)
theorem dL_law_1639 : decode cL_law 1639 = .ok (.aload_n 3, 1) := dk_45 (dk_at dksL_law_63 3 rfl rfl)
theorem dL_law_1640 : decode cL_law 1640 = .ok (.iconst 0, 1) := dk_3 (dk_at dksL_law_63 4 rfl rfl)
theorem dL_law_1641 : decode cL_law 1641 = .ok (.laload, 1) := dk_47 (dk_at dksL_law_63 5 rfl rfl)
theorem dL_law_1642 : decode cL_law 1642 = .ok (.iload 7, 2) := dk_21 7 (dk_at dksL_law_63 6 rfl rfl)
theorem dL_law_1644 : decode cL_law 1644 = .ok (.i2l, 1) := dk_133 (dk_at dksL_law_63 8 rfl rfl)
theorem dL_law_1645 : decode cL_law 1645 = .ok (.lcmp, 1) := dk_148 (dk_at dksL_law_63 9 rfl rfl)
theorem dL_law_1646 : decode cL_law 1646 = .ok (.ifCond .eq 5, 3) := dk_153 0 5 (dk_at dksL_law_63 10 rfl rfl)
theorem dL_law_1649 : decode cL_law 1649 = .ok (.iconst 0, 1) := dk_3 (dk_at dksL_law_63 13 rfl rfl)
theorem dL_law_1650 : decode cL_law 1650 = .ok (.ireturn, 1) := dk_172 (dk_at dksL_law_63 14 rfl rfl)
theorem dL_law_1651 : decode cL_law 1651 = .ok (.goto 729, 3) := dk_167 2 217 (dk_at dksL_law_63 15 rfl rfl)
theorem dL_law_1654 : decode cL_law 1654 = .ok (.aload_n 1, 1) := dk_43 (dk_at dksL_law_63 18 rfl rfl)
theorem dL_law_1655 : decode cL_law 1655 = .ok (.aload_n 3, 1) := dk_45 (dk_at dksL_law_63 19 rfl rfl)
theorem dL_law_1656 : decode cL_law 1656 = .ok (.invokestatic 224, 3) := dk_184 0 224 (dk_at dksL_law_63 20 rfl rfl)
theorem dL_law_1659 : decode cL_law 1659 = .ok (.istore 6, 2) := dk_54 6 (dk_at dksL_law_64 0 rfl rfl)
theorem dL_law_1661 : decode cL_law 1661 = .ok (.aload_n 2, 1) := dk_44 (dk_at dksL_law_64 2 rfl rfl)
theorem dL_law_1662 : decode cL_law 1662 = .ok (.invokevirtual 226, 3) := dk_182 0 226 (dk_at dksL_law_64 3 rfl rfl)
theorem dL_law_1665 : decode cL_law 1665 = .ok (.istore 7, 2) := dk_54 7 (dk_at dksL_law_64 6 rfl rfl)
theorem dL_law_1667 : decode cL_law 1667 = .ok (.aload_n 2, 1) := dk_44 (dk_at dksL_law_64 8 rfl rfl)
theorem dL_law_1668 : decode cL_law 1668 = .ok (.invokevirtual 149, 3) := dk_182 0 149 (dk_at dksL_law_64 9 rfl rfl)
theorem dL_law_1671 : decode cL_law 1671 = .ok (.iload 6, 2) := dk_21 6 (dk_at dksL_law_64 12 rfl rfl)
theorem dL_law_1673 : decode cL_law 1673 = .ok (.if_icmp .eq 5, 3) := dk_159 0 5 (dk_at dksL_law_64 14 rfl rfl)
theorem dL_law_1676 : decode cL_law 1676 = .ok (.iconst 0, 1) := dk_3 (dk_at dksL_law_64 17 rfl rfl)
theorem dL_law_1677 : decode cL_law 1677 = .ok (.ireturn, 1) := dk_172 (dk_at dksL_law_64 18 rfl rfl)
theorem dL_law_1678 : decode cL_law 1678 = .ok (.iload 6, 2) := dk_21 6 (dk_at dksL_law_64 19 rfl rfl)
theorem dL_law_1680 : decode cL_law 1680 = .ok (.ifCond .ne 15, 3) := dk_154 0 15 (dk_at dksL_law_64 21 rfl rfl)
theorem dL_law_1683 : decode cL_law 1683 = .ok (.aload_n 3, 1) := dk_45 (dk_at dksL_law_65 0 rfl rfl)
theorem dL_law_1684 : decode cL_law 1684 = .ok (.iconst 0, 1) := dk_3 (dk_at dksL_law_65 1 rfl rfl)
theorem dL_law_1685 : decode cL_law 1685 = .ok (.laload, 1) := dk_47 (dk_at dksL_law_65 2 rfl rfl)
theorem dL_law_1686 : decode cL_law 1686 = .ok (.iload 7, 2) := dk_21 7 (dk_at dksL_law_65 3 rfl rfl)
theorem dL_law_1688 : decode cL_law 1688 = .ok (.i2l, 1) := dk_133 (dk_at dksL_law_65 5 rfl rfl)
theorem dL_law_1689 : decode cL_law 1689 = .ok (.lcmp, 1) := dk_148 (dk_at dksL_law_65 6 rfl rfl)
theorem dL_law_1690 : decode cL_law 1690 = .ok (.ifCond .eq 5, 3) := dk_153 0 5 (dk_at dksL_law_65 7 rfl rfl)
theorem dL_law_1693 : decode cL_law 1693 = .ok (.iconst 0, 1) := dk_3 (dk_at dksL_law_65 10 rfl rfl)
theorem dL_law_1694 : decode cL_law 1694 = .ok (.ireturn, 1) := dk_172 (dk_at dksL_law_65 11 rfl rfl)
theorem dL_law_1695 : decode cL_law 1695 = .ok (.goto 685, 3) := dk_167 2 173 (dk_at dksL_law_65 12 rfl rfl)
theorem dL_law_1698 : decode cL_law 1698 = .ok (.aload_n 1, 1) := dk_43 (dk_at dksL_law_65 15 rfl rfl)
theorem dL_law_1699 : decode cL_law 1699 = .ok (.aload_n 3, 1) := dk_45 (dk_at dksL_law_65 16 rfl rfl)
theorem dL_law_1700 : decode cL_law 1700 = .ok (.invokestatic 227, 3) := dk_184 0 227 (dk_at dksL_law_65 17 rfl rfl)
theorem dL_law_1703 : decode cL_law 1703 = .ok (.istore 6, 2) := dk_54 6 (dk_at dksL_law_65 20 rfl rfl)
theorem dL_law_1705 : decode cL_law 1705 = .ok (.aload_n 2, 1) := dk_44 (dk_at dksL_law_65 22 rfl rfl)
theorem dL_law_1706 : decode cL_law 1706 = .ok (.invokevirtual 229, 3) := dk_182 0 229 (dk_at dksL_law_66 0 rfl rfl)
theorem dL_law_1709 : decode cL_law 1709 = .ok (.istore 7, 2) := dk_54 7 (dk_at dksL_law_66 3 rfl rfl)
theorem dL_law_1711 : decode cL_law 1711 = .ok (.aload_n 2, 1) := dk_44 (dk_at dksL_law_66 5 rfl rfl)
theorem dL_law_1712 : decode cL_law 1712 = .ok (.invokevirtual 149, 3) := dk_182 0 149 (dk_at dksL_law_66 6 rfl rfl)
theorem dL_law_1715 : decode cL_law 1715 = .ok (.iload 6, 2) := dk_21 6 (dk_at dksL_law_66 9 rfl rfl)
theorem dL_law_1717 : decode cL_law 1717 = .ok (.if_icmp .eq 5, 3) := dk_159 0 5 (dk_at dksL_law_66 11 rfl rfl)
theorem dL_law_1720 : decode cL_law 1720 = .ok (.iconst 0, 1) := dk_3 (dk_at dksL_law_66 14 rfl rfl)
theorem dL_law_1721 : decode cL_law 1721 = .ok (.ireturn, 1) := dk_172 (dk_at dksL_law_66 15 rfl rfl)
theorem dL_law_1722 : decode cL_law 1722 = .ok (.iload 6, 2) := dk_21 6 (dk_at dksL_law_66 16 rfl rfl)
theorem dL_law_1724 : decode cL_law 1724 = .ok (.ifCond .ne 15, 3) := dk_154 0 15 (dk_at dksL_law_66 18 rfl rfl)
theorem dL_law_1727 : decode cL_law 1727 = .ok (.aload_n 3, 1) := dk_45 (dk_at dksL_law_66 21 rfl rfl)
theorem dL_law_1728 : decode cL_law 1728 = .ok (.iconst 0, 1) := dk_3 (dk_at dksL_law_66 22 rfl rfl)
theorem dL_law_1729 : decode cL_law 1729 = .ok (.laload, 1) := dk_47 (dk_at dksL_law_66 23 rfl rfl)
theorem dL_law_1730 : decode cL_law 1730 = .ok (.iload 7, 2) := dk_21 7 (dk_at dksL_law_67 0 rfl rfl)
theorem dL_law_1732 : decode cL_law 1732 = .ok (.i2l, 1) := dk_133 (dk_at dksL_law_67 2 rfl rfl)
theorem dL_law_1733 : decode cL_law 1733 = .ok (.lcmp, 1) := dk_148 (dk_at dksL_law_67 3 rfl rfl)
theorem dL_law_1734 : decode cL_law 1734 = .ok (.ifCond .eq 5, 3) := dk_153 0 5 (dk_at dksL_law_67 4 rfl rfl)
theorem dL_law_1737 : decode cL_law 1737 = .ok (.iconst 0, 1) := dk_3 (dk_at dksL_law_67 7 rfl rfl)
theorem dL_law_1738 : decode cL_law 1738 = .ok (.ireturn, 1) := dk_172 (dk_at dksL_law_67 8 rfl rfl)
theorem dL_law_1739 : decode cL_law 1739 = .ok (.goto 641, 3) := dk_167 2 129 (dk_at dksL_law_67 9 rfl rfl)
theorem dL_law_1742 : decode cL_law 1742 = .ok (.aload_n 1, 1) := dk_43 (dk_at dksL_law_67 12 rfl rfl)
theorem dL_law_1743 : decode cL_law 1743 = .ok (.invokevirtual 230, 3) := dk_182 0 230 (dk_at dksL_law_67 13 rfl rfl)
theorem dL_law_1746 : decode cL_law 1746 = .ok (.aload_n 2, 1) := dk_44 (dk_at dksL_law_67 16 rfl rfl)
theorem dL_law_1747 : decode cL_law 1747 = .ok (.invokevirtual 233, 3) := dk_182 0 233 (dk_at dksL_law_67 17 rfl rfl)
theorem dL_law_1750 : decode cL_law 1750 = .ok (.if_icmp .eq 630, 3) := dk_159 2 118 (dk_at dksL_law_67 20 rfl rfl)
theorem dL_law_1753 : decode cL_law 1753 = .ok (.iconst 0, 1) := dk_3 (dk_at dksL_law_67 23 rfl rfl)
theorem dL_law_1754 : decode cL_law 1754 = .ok (.ireturn, 1) := dk_172 (dk_at dksL_law_68 0 rfl rfl)
theorem dL_law_1755 : decode cL_law 1755 = .ok (.aload_n 1, 1) := dk_43 (dk_at dksL_law_68 1 rfl rfl)
theorem dL_law_1756 : decode cL_law 1756 = .ok (.invokevirtual 234, 3) := dk_182 0 234 (dk_at dksL_law_68 2 rfl rfl)
theorem dL_law_1759 : decode cL_law 1759 = .ok (.aload_n 2, 1) := dk_44 (dk_at dksL_law_68 5 rfl rfl)
theorem dL_law_1760 : decode cL_law 1760 = .ok (.invokevirtual 237, 3) := dk_182 0 237 (dk_at dksL_law_68 6 rfl rfl)
theorem dL_law_1763 : decode cL_law 1763 = .ok (.if_icmp .eq 617, 3) := dk_159 2 105 (dk_at dksL_law_68 9 rfl rfl)
theorem dL_law_1766 : decode cL_law 1766 = .ok (.iconst 0, 1) := dk_3 (dk_at dksL_law_68 12 rfl rfl)
theorem dL_law_1767 : decode cL_law 1767 = .ok (.ireturn, 1) := dk_172 (dk_at dksL_law_68 13 rfl rfl)
theorem dL_law_1768 : decode cL_law 1768 = .ok (.aload_n 1, 1) := dk_43 (dk_at dksL_law_68 14 rfl rfl)
theorem dL_law_1769 : decode cL_law 1769 = .ok (.aload_n 0, 1) := dk_42 (dk_at dksL_law_68 15 rfl rfl)
theorem dL_law_1770 : decode cL_law 1770 = .ok (.iload 5, 2) := dk_21 5 (dk_at dksL_law_68 16 rfl rfl)
theorem dL_law_1772 : decode cL_law 1772 = .ok (.iconst 1, 1) := dk_4 (dk_at dksL_law_68 18 rfl rfl)
theorem dL_law_1773 : decode cL_law 1773 = .ok (.iadd, 1) := dk_96 (dk_at dksL_law_68 19 rfl rfl)
theorem dL_law_1774 : decode cL_law 1774 = .ok (.iaload, 1) := dk_46 (dk_at dksL_law_68 20 rfl rfl)
theorem dL_law_1775 : decode cL_law 1775 = .ok (.i2c, 1) := dk_146 (dk_at dksL_law_68 21 rfl rfl)
theorem dL_law_1776 : decode cL_law 1776 = .ok (.aload_n 3, 1) := dk_45 (dk_at dksL_law_68 22 rfl rfl)
theorem dL_law_1777 : decode cL_law 1777 = .ok (.invokestatic 238, 3) := dk_184 0 238 (dk_at dksL_law_69 0 rfl rfl)
theorem dL_law_1780 : decode cL_law 1780 = .ok (.istore 6, 2) := dk_54 6 (dk_at dksL_law_69 3 rfl rfl)
theorem dL_law_1782 : decode cL_law 1782 = .ok (.aload_n 2, 1) := dk_44 (dk_at dksL_law_69 5 rfl rfl)
theorem dL_law_1783 : decode cL_law 1783 = .ok (.aload_n 0, 1) := dk_42 (dk_at dksL_law_69 6 rfl rfl)
theorem dL_law_1784 : decode cL_law 1784 = .ok (.iload 5, 2) := dk_21 5 (dk_at dksL_law_69 7 rfl rfl)
theorem dL_law_1786 : decode cL_law 1786 = .ok (.iconst 1, 1) := dk_4 (dk_at dksL_law_69 9 rfl rfl)
theorem dL_law_1787 : decode cL_law 1787 = .ok (.iadd, 1) := dk_96 (dk_at dksL_law_69 10 rfl rfl)
theorem dL_law_1788 : decode cL_law 1788 = .ok (.iaload, 1) := dk_46 (dk_at dksL_law_69 11 rfl rfl)
theorem dL_law_1789 : decode cL_law 1789 = .ok (.i2c, 1) := dk_146 (dk_at dksL_law_69 12 rfl rfl)
theorem dL_law_1790 : decode cL_law 1790 = .ok (.invokevirtual 241, 3) := dk_182 0 241 (dk_at dksL_law_69 13 rfl rfl)
theorem dL_law_1793 : decode cL_law 1793 = .ok (.istore 7, 2) := dk_54 7 (dk_at dksL_law_69 16 rfl rfl)
theorem dL_law_1795 : decode cL_law 1795 = .ok (.aload_n 2, 1) := dk_44 (dk_at dksL_law_69 18 rfl rfl)
theorem dL_law_1796 : decode cL_law 1796 = .ok (.invokevirtual 149, 3) := dk_182 0 149 (dk_at dksL_law_69 19 rfl rfl)
theorem dL_law_1799 : decode cL_law 1799 = .ok (.iload 6, 2) := dk_21 6 (dk_at dksL_law_69 22 rfl rfl)
theorem dL_law_1801 : decode cL_law 1801 = .ok (.if_icmp .eq 5, 3) := dk_159 0 5 (dk_at dksL_law_70 0 rfl rfl)
theorem dL_law_1804 : decode cL_law 1804 = .ok (.iconst 0, 1) := dk_3 (dk_at dksL_law_70 3 rfl rfl)
theorem dL_law_1805 : decode cL_law 1805 = .ok (.ireturn, 1) := dk_172 (dk_at dksL_law_70 4 rfl rfl)
theorem dL_law_1806 : decode cL_law 1806 = .ok (.iload 6, 2) := dk_21 6 (dk_at dksL_law_70 5 rfl rfl)
theorem dL_law_1808 : decode cL_law 1808 = .ok (.ifCond .ne 15, 3) := dk_154 0 15 (dk_at dksL_law_70 7 rfl rfl)
theorem dL_law_1811 : decode cL_law 1811 = .ok (.aload_n 3, 1) := dk_45 (dk_at dksL_law_70 10 rfl rfl)
theorem dL_law_1812 : decode cL_law 1812 = .ok (.iconst 0, 1) := dk_3 (dk_at dksL_law_70 11 rfl rfl)
theorem dL_law_1813 : decode cL_law 1813 = .ok (.laload, 1) := dk_47 (dk_at dksL_law_70 12 rfl rfl)
theorem dL_law_1814 : decode cL_law 1814 = .ok (.iload 7, 2) := dk_21 7 (dk_at dksL_law_70 13 rfl rfl)
theorem dL_law_1816 : decode cL_law 1816 = .ok (.i2l, 1) := dk_133 (dk_at dksL_law_70 15 rfl rfl)
theorem dL_law_1817 : decode cL_law 1817 = .ok (.lcmp, 1) := dk_148 (dk_at dksL_law_70 16 rfl rfl)
theorem dL_law_1818 : decode cL_law 1818 = .ok (.ifCond .eq 5, 3) := dk_153 0 5 (dk_at dksL_law_70 17 rfl rfl)
theorem dL_law_1821 : decode cL_law 1821 = .ok (.iconst 0, 1) := dk_3 (dk_at dksL_law_70 20 rfl rfl)
theorem dL_law_1822 : decode cL_law 1822 = .ok (.ireturn, 1) := dk_172 (dk_at dksL_law_70 21 rfl rfl)
theorem dL_law_1823 : decode cL_law 1823 = .ok (.goto 557, 3) := dk_167 2 45 (dk_at dksL_law_71 0 rfl rfl)
theorem dL_law_1826 : decode cL_law 1826 = .ok (.aload_n 1, 1) := dk_43 (dk_at dksL_law_71 3 rfl rfl)
theorem dL_law_1827 : decode cL_law 1827 = .ok (.aload_n 3, 1) := dk_45 (dk_at dksL_law_71 4 rfl rfl)
theorem dL_law_1828 : decode cL_law 1828 = .ok (.invokestatic 242, 3) := dk_184 0 242 (dk_at dksL_law_71 5 rfl rfl)
theorem dL_law_1831 : decode cL_law 1831 = .ok (.istore 6, 2) := dk_54 6 (dk_at dksL_law_71 8 rfl rfl)
theorem dL_law_1833 : decode cL_law 1833 = .ok (.aload_n 2, 1) := dk_44 (dk_at dksL_law_71 10 rfl rfl)
theorem dL_law_1834 : decode cL_law 1834 = .ok (.invokevirtual 244, 3) := dk_182 0 244 (dk_at dksL_law_71 11 rfl rfl)
theorem dL_law_1837 : decode cL_law 1837 = .ok (.istore 7, 2) := dk_54 7 (dk_at dksL_law_71 14 rfl rfl)
theorem dL_law_1839 : decode cL_law 1839 = .ok (.aload_n 2, 1) := dk_44 (dk_at dksL_law_71 16 rfl rfl)
theorem dL_law_1840 : decode cL_law 1840 = .ok (.invokevirtual 149, 3) := dk_182 0 149 (dk_at dksL_law_71 17 rfl rfl)
theorem dL_law_1843 : decode cL_law 1843 = .ok (.iload 6, 2) := dk_21 6 (dk_at dksL_law_71 20 rfl rfl)
theorem dL_law_1845 : decode cL_law 1845 = .ok (.if_icmp .eq 5, 3) := dk_159 0 5 (dk_at dksL_law_72 0 rfl rfl)
theorem dL_law_1848 : decode cL_law 1848 = .ok (.iconst 0, 1) := dk_3 (dk_at dksL_law_72 3 rfl rfl)
theorem dL_law_1849 : decode cL_law 1849 = .ok (.ireturn, 1) := dk_172 (dk_at dksL_law_72 4 rfl rfl)
theorem dL_law_1850 : decode cL_law 1850 = .ok (.iload 6, 2) := dk_21 6 (dk_at dksL_law_72 5 rfl rfl)
theorem dL_law_1852 : decode cL_law 1852 = .ok (.ifCond .ne 15, 3) := dk_154 0 15 (dk_at dksL_law_72 7 rfl rfl)
theorem dL_law_1855 : decode cL_law 1855 = .ok (.aload_n 3, 1) := dk_45 (dk_at dksL_law_72 10 rfl rfl)
theorem dL_law_1856 : decode cL_law 1856 = .ok (.iconst 0, 1) := dk_3 (dk_at dksL_law_72 11 rfl rfl)
theorem dL_law_1857 : decode cL_law 1857 = .ok (.laload, 1) := dk_47 (dk_at dksL_law_72 12 rfl rfl)
theorem dL_law_1858 : decode cL_law 1858 = .ok (.iload 7, 2) := dk_21 7 (dk_at dksL_law_72 13 rfl rfl)
theorem dL_law_1860 : decode cL_law 1860 = .ok (.i2l, 1) := dk_133 (dk_at dksL_law_72 15 rfl rfl)
theorem dL_law_1861 : decode cL_law 1861 = .ok (.lcmp, 1) := dk_148 (dk_at dksL_law_72 16 rfl rfl)
theorem dL_law_1862 : decode cL_law 1862 = .ok (.ifCond .eq 5, 3) := dk_153 0 5 (dk_at dksL_law_72 17 rfl rfl)
theorem dL_law_1865 : decode cL_law 1865 = .ok (.iconst 0, 1) := dk_3 (dk_at dksL_law_72 20 rfl rfl)
theorem dL_law_1866 : decode cL_law 1866 = .ok (.ireturn, 1) := dk_172 (dk_at dksL_law_72 21 rfl rfl)
theorem dL_law_1867 : decode cL_law 1867 = .ok (.goto 513, 3) := dk_167 2 1 (dk_at dksL_law_73 0 rfl rfl)
theorem dL_law_1870 : decode cL_law 1870 = .ok (.aload_n 1, 1) := dk_43 (dk_at dksL_law_73 3 rfl rfl)
theorem dL_law_1871 : decode cL_law 1871 = .ok (.invokevirtual 245, 3) := dk_182 0 245 (dk_at dksL_law_73 4 rfl rfl)
theorem dL_law_1874 : decode cL_law 1874 = .ok (.aload_n 2, 1) := dk_44 (dk_at dksL_law_73 7 rfl rfl)
theorem dL_law_1875 : decode cL_law 1875 = .ok (.invokevirtual 248, 3) := dk_182 0 248 (dk_at dksL_law_73 8 rfl rfl)
theorem dL_law_1878 : decode cL_law 1878 = .ok (.if_icmp .eq 502, 3) := dk_159 1 246 (dk_at dksL_law_73 11 rfl rfl)
theorem dL_law_1881 : decode cL_law 1881 = .ok (.iconst 0, 1) := dk_3 (dk_at dksL_law_73 14 rfl rfl)
theorem dL_law_1882 : decode cL_law 1882 = .ok (.ireturn, 1) := dk_172 (dk_at dksL_law_73 15 rfl rfl)
theorem dL_law_1883 : decode cL_law 1883 = .ok (.aload_n 1, 1) := dk_43 (dk_at dksL_law_73 16 rfl rfl)
theorem dL_law_1884 : decode cL_law 1884 = .ok (.aload_n 0, 1) := dk_42 (dk_at dksL_law_73 17 rfl rfl)
theorem dL_law_1885 : decode cL_law 1885 = .ok (.iload 5, 2) := dk_21 5 (dk_at dksL_law_73 18 rfl rfl)
theorem dL_law_1887 : decode cL_law 1887 = .ok (.iconst 1, 1) := dk_4 (dk_at dksL_law_73 20 rfl rfl)
theorem dL_law_1888 : decode cL_law 1888 = .ok (.iadd, 1) := dk_96 (dk_at dksL_law_73 21 rfl rfl)
theorem dL_law_1889 : decode cL_law 1889 = .ok (.iaload, 1) := dk_46 (dk_at dksL_law_73 22 rfl rfl)
theorem dL_law_1890 : decode cL_law 1890 = .ok (.aload_n 0, 1) := dk_42 (dk_at dksL_law_73 23 rfl rfl)
theorem dL_law_1891 : decode cL_law 1891 = .ok (.iload 5, 2) := dk_21 5 (dk_at dksL_law_74 0 rfl rfl)
theorem dL_law_1893 : decode cL_law 1893 = .ok (.iconst 2, 1) := dk_5 (dk_at dksL_law_74 2 rfl rfl)
theorem dL_law_1894 : decode cL_law 1894 = .ok (.iadd, 1) := dk_96 (dk_at dksL_law_74 3 rfl rfl)
theorem dL_law_1895 : decode cL_law 1895 = .ok (.iaload, 1) := dk_46 (dk_at dksL_law_74 4 rfl rfl)
theorem dL_law_1896 : decode cL_law 1896 = .ok (.ifCond .eq 7, 3) := dk_153 0 7 (dk_at dksL_law_74 5 rfl rfl)
theorem dL_law_1899 : decode cL_law 1899 = .ok (.iconst 1, 1) := dk_4 (dk_at dksL_law_74 8 rfl rfl)
theorem dL_law_1900 : decode cL_law 1900 = .ok (.goto 4, 3) := dk_167 0 4 (dk_at dksL_law_74 9 rfl rfl)
theorem dL_law_1903 : decode cL_law 1903 = .ok (.iconst 0, 1) := dk_3 (dk_at dksL_law_74 12 rfl rfl)
theorem dL_law_1904 : decode cL_law 1904 = .ok (.aload_n 3, 1) := dk_45 (dk_at dksL_law_74 13 rfl rfl)
theorem dL_law_1905 : decode cL_law 1905 = .ok (.invokestatic 249, 3) := dk_184 0 249 (dk_at dksL_law_74 14 rfl rfl)
theorem dL_law_1908 : decode cL_law 1908 = .ok (.istore 6, 2) := dk_54 6 (dk_at dksL_law_74 17 rfl rfl)
theorem dL_law_1910 : decode cL_law 1910 = .ok (.aload_n 2, 1) := dk_44 (dk_at dksL_law_74 19 rfl rfl)
theorem dL_law_1911 : decode cL_law 1911 = .ok (.aload_n 0, 1) := dk_42 (dk_at dksL_law_74 20 rfl rfl)
theorem dL_law_1912 : decode cL_law 1912 = .ok (.iload 5, 2) := dk_21 5 (dk_at dksL_law_74 21 rfl rfl)
theorem dL_law_1914 : decode cL_law 1914 = .ok (.iconst 1, 1) := dk_4 (dk_at dksL_law_74 23 rfl rfl)
theorem dL_law_1915 : decode cL_law 1915 = .ok (.iadd, 1) := dk_96 (dk_at dksL_law_75 0 rfl rfl)
theorem dL_law_1916 : decode cL_law 1916 = .ok (.iaload, 1) := dk_46 (dk_at dksL_law_75 1 rfl rfl)
theorem dL_law_1917 : decode cL_law 1917 = .ok (.aload_n 0, 1) := dk_42 (dk_at dksL_law_75 2 rfl rfl)
theorem dL_law_1918 : decode cL_law 1918 = .ok (.iload 5, 2) := dk_21 5 (dk_at dksL_law_75 3 rfl rfl)
theorem dL_law_1920 : decode cL_law 1920 = .ok (.iconst 2, 1) := dk_5 (dk_at dksL_law_75 5 rfl rfl)
theorem dL_law_1921 : decode cL_law 1921 = .ok (.iadd, 1) := dk_96 (dk_at dksL_law_75 6 rfl rfl)
theorem dL_law_1922 : decode cL_law 1922 = .ok (.iaload, 1) := dk_46 (dk_at dksL_law_75 7 rfl rfl)
theorem dL_law_1923 : decode cL_law 1923 = .ok (.ifCond .eq 7, 3) := dk_153 0 7 (dk_at dksL_law_75 8 rfl rfl)
theorem dL_law_1926 : decode cL_law 1926 = .ok (.iconst 1, 1) := dk_4 (dk_at dksL_law_75 11 rfl rfl)
theorem dL_law_1927 : decode cL_law 1927 = .ok (.goto 4, 3) := dk_167 0 4 (dk_at dksL_law_75 12 rfl rfl)
theorem dL_law_1930 : decode cL_law 1930 = .ok (.iconst 0, 1) := dk_3 (dk_at dksL_law_75 15 rfl rfl)
theorem dL_law_1931 : decode cL_law 1931 = .ok (.invokevirtual 252, 3) := dk_182 0 252 (dk_at dksL_law_75 16 rfl rfl)
theorem dL_law_1934 : decode cL_law 1934 = .ok (.istore 7, 2) := dk_54 7 (dk_at dksL_law_75 19 rfl rfl)
theorem dL_law_1936 : decode cL_law 1936 = .ok (.aload_n 2, 1) := dk_44 (dk_at dksL_law_75 21 rfl rfl)
theorem dL_law_1937 : decode cL_law 1937 = .ok (.invokevirtual 149, 3) := dk_182 0 149 (dk_at dksL_law_76 0 rfl rfl)
theorem dL_law_1940 : decode cL_law 1940 = .ok (.iload 6, 2) := dk_21 6 (dk_at dksL_law_76 3 rfl rfl)
theorem dL_law_1942 : decode cL_law 1942 = .ok (.if_icmp .eq 5, 3) := dk_159 0 5 (dk_at dksL_law_76 5 rfl rfl)
theorem dL_law_1945 : decode cL_law 1945 = .ok (.iconst 0, 1) := dk_3 (dk_at dksL_law_76 8 rfl rfl)
theorem dL_law_1946 : decode cL_law 1946 = .ok (.ireturn, 1) := dk_172 (dk_at dksL_law_76 9 rfl rfl)
theorem dL_law_1947 : decode cL_law 1947 = .ok (.iload 6, 2) := dk_21 6 (dk_at dksL_law_76 10 rfl rfl)
theorem dL_law_1949 : decode cL_law 1949 = .ok (.ifCond .ne 15, 3) := dk_154 0 15 (dk_at dksL_law_76 12 rfl rfl)
theorem dL_law_1952 : decode cL_law 1952 = .ok (.aload_n 3, 1) := dk_45 (dk_at dksL_law_76 15 rfl rfl)
theorem dL_law_1953 : decode cL_law 1953 = .ok (.iconst 0, 1) := dk_3 (dk_at dksL_law_76 16 rfl rfl)
theorem dL_law_1954 : decode cL_law 1954 = .ok (.laload, 1) := dk_47 (dk_at dksL_law_76 17 rfl rfl)
theorem dL_law_1955 : decode cL_law 1955 = .ok (.iload 7, 2) := dk_21 7 (dk_at dksL_law_76 18 rfl rfl)
theorem dL_law_1957 : decode cL_law 1957 = .ok (.i2l, 1) := dk_133 (dk_at dksL_law_76 20 rfl rfl)
theorem dL_law_1958 : decode cL_law 1958 = .ok (.lcmp, 1) := dk_148 (dk_at dksL_law_76 21 rfl rfl)
theorem dL_law_1959 : decode cL_law 1959 = .ok (.ifCond .eq 5, 3) := dk_153 0 5 (dk_at dksL_law_77 0 rfl rfl)
theorem dL_law_1962 : decode cL_law 1962 = .ok (.iconst 0, 1) := dk_3 (dk_at dksL_law_77 3 rfl rfl)
theorem dL_law_1963 : decode cL_law 1963 = .ok (.ireturn, 1) := dk_172 (dk_at dksL_law_77 4 rfl rfl)
theorem dL_law_1964 : decode cL_law 1964 = .ok (.goto 416, 3) := dk_167 1 160 (dk_at dksL_law_77 5 rfl rfl)
theorem dL_law_1967 : decode cL_law 1967 = .ok (.aload_n 1, 1) := dk_43 (dk_at dksL_law_77 8 rfl rfl)
theorem dL_law_1968 : decode cL_law 1968 = .ok (.invokevirtual 253, 3) := dk_182 0 253 (dk_at dksL_law_77 9 rfl rfl)
theorem dL_law_1971 : decode cL_law 1971 = .ok (.aload_n 2, 1) := dk_44 (dk_at dksL_law_77 12 rfl rfl)
theorem dL_law_1972 : decode cL_law 1972 = .ok (.invokevirtual 256, 3) := dk_182 1 0 (dk_at dksL_law_77 13 rfl rfl)
theorem dL_law_1975 : decode cL_law 1975 = .ok (.if_icmp .eq 405, 3) := dk_159 1 149 (dk_at dksL_law_77 16 rfl rfl)
theorem dL_law_1978 : decode cL_law 1978 = .ok (.iconst 0, 1) := dk_3 (dk_at dksL_law_77 19 rfl rfl)
theorem dL_law_1979 : decode cL_law 1979 = .ok (.ireturn, 1) := dk_172 (dk_at dksL_law_77 20 rfl rfl)
theorem dL_law_1980 : decode cL_law 1980 = .ok (.aload_n 1, 1) := dk_43 (dk_at dksL_law_77 21 rfl rfl)
theorem dL_law_1981 : decode cL_law 1981 = .ok (.aload_n 0, 1) := dk_42 (dk_at dksL_law_77 22 rfl rfl)
theorem dL_law_1982 : decode cL_law 1982 = .ok (.iload 5, 2) := dk_21 5 (dk_at dksL_law_78 0 rfl rfl)
theorem dL_law_1984 : decode cL_law 1984 = .ok (.iconst 1, 1) := dk_4 (dk_at dksL_law_78 2 rfl rfl)
theorem dL_law_1985 : decode cL_law 1985 = .ok (.iadd, 1) := dk_96 (dk_at dksL_law_78 3 rfl rfl)
theorem dL_law_1986 : decode cL_law 1986 = .ok (.iaload, 1) := dk_46 (dk_at dksL_law_78 4 rfl rfl)
theorem dL_law_1987 : decode cL_law 1987 = .ok (.aload_n 3, 1) := dk_45 (dk_at dksL_law_78 5 rfl rfl)
theorem dL_law_1988 : decode cL_law 1988 = .ok (.invokestatic 257, 3) := dk_184 1 1 (dk_at dksL_law_78 6 rfl rfl)
theorem dL_law_1991 : decode cL_law 1991 = .ok (.istore 6, 2) := dk_54 6 (dk_at dksL_law_78 9 rfl rfl)
theorem dL_law_1993 : decode cL_law 1993 = .ok (.aload_n 2, 1) := dk_44 (dk_at dksL_law_78 11 rfl rfl)
theorem dL_law_1994 : decode cL_law 1994 = .ok (.aload_n 0, 1) := dk_42 (dk_at dksL_law_78 12 rfl rfl)
theorem dL_law_1995 : decode cL_law 1995 = .ok (.iload 5, 2) := dk_21 5 (dk_at dksL_law_78 13 rfl rfl)
theorem dL_law_1997 : decode cL_law 1997 = .ok (.iconst 1, 1) := dk_4 (dk_at dksL_law_78 15 rfl rfl)
theorem dL_law_1998 : decode cL_law 1998 = .ok (.iadd, 1) := dk_96 (dk_at dksL_law_78 16 rfl rfl)
theorem dL_law_1999 : decode cL_law 1999 = .ok (.iaload, 1) := dk_46 (dk_at dksL_law_78 17 rfl rfl)
theorem dL_law_2000 : decode cL_law 2000 = .ok (.invokevirtual 259, 3) := dk_182 1 3 (dk_at dksL_law_78 18 rfl rfl)
theorem dL_law_2003 : decode cL_law 2003 = .ok (.istore 7, 2) := dk_54 7 (dk_at dksL_law_78 21 rfl rfl)
theorem dL_law_2005 : decode cL_law 2005 = .ok (.aload_n 2, 1) := dk_44 (dk_at dksL_law_78 23 rfl rfl)
theorem dL_law_2006 : decode cL_law 2006 = .ok (.invokevirtual 149, 3) := dk_182 0 149 (dk_at dksL_law_79 0 rfl rfl)
theorem dL_law_2009 : decode cL_law 2009 = .ok (.iload 6, 2) := dk_21 6 (dk_at dksL_law_79 3 rfl rfl)
theorem dL_law_2011 : decode cL_law 2011 = .ok (.if_icmp .eq 5, 3) := dk_159 0 5 (dk_at dksL_law_79 5 rfl rfl)
theorem dL_law_2014 : decode cL_law 2014 = .ok (.iconst 0, 1) := dk_3 (dk_at dksL_law_79 8 rfl rfl)
theorem dL_law_2015 : decode cL_law 2015 = .ok (.ireturn, 1) := dk_172 (dk_at dksL_law_79 9 rfl rfl)
theorem dL_law_2016 : decode cL_law 2016 = .ok (.iload 6, 2) := dk_21 6 (dk_at dksL_law_79 10 rfl rfl)
theorem dL_law_2018 : decode cL_law 2018 = .ok (.ifCond .ne 15, 3) := dk_154 0 15 (dk_at dksL_law_79 12 rfl rfl)
theorem dL_law_2021 : decode cL_law 2021 = .ok (.aload_n 3, 1) := dk_45 (dk_at dksL_law_79 15 rfl rfl)
theorem dL_law_2022 : decode cL_law 2022 = .ok (.iconst 0, 1) := dk_3 (dk_at dksL_law_79 16 rfl rfl)
theorem dL_law_2023 : decode cL_law 2023 = .ok (.laload, 1) := dk_47 (dk_at dksL_law_79 17 rfl rfl)
theorem dL_law_2024 : decode cL_law 2024 = .ok (.iload 7, 2) := dk_21 7 (dk_at dksL_law_79 18 rfl rfl)
theorem dL_law_2026 : decode cL_law 2026 = .ok (.i2l, 1) := dk_133 (dk_at dksL_law_79 20 rfl rfl)
theorem dL_law_2027 : decode cL_law 2027 = .ok (.lcmp, 1) := dk_148 (dk_at dksL_law_79 21 rfl rfl)
theorem dL_law_2028 : decode cL_law 2028 = .ok (.ifCond .eq 5, 3) := dk_153 0 5 (dk_at dksL_law_80 0 rfl rfl)
theorem dL_law_2031 : decode cL_law 2031 = .ok (.iconst 0, 1) := dk_3 (dk_at dksL_law_80 3 rfl rfl)
theorem dL_law_2032 : decode cL_law 2032 = .ok (.ireturn, 1) := dk_172 (dk_at dksL_law_80 4 rfl rfl)
theorem dL_law_2033 : decode cL_law 2033 = .ok (.goto 347, 3) := dk_167 1 91 (dk_at dksL_law_80 5 rfl rfl)
theorem dL_law_2036 : decode cL_law 2036 = .ok (.aload_n 1, 1) := dk_43 (dk_at dksL_law_80 8 rfl rfl)
theorem dL_law_2037 : decode cL_law 2037 = .ok (.aload_n 0, 1) := dk_42 (dk_at dksL_law_80 9 rfl rfl)
theorem dL_law_2038 : decode cL_law 2038 = .ok (.iload 5, 2) := dk_21 5 (dk_at dksL_law_80 10 rfl rfl)
theorem dL_law_2040 : decode cL_law 2040 = .ok (.iconst 1, 1) := dk_4 (dk_at dksL_law_80 12 rfl rfl)
theorem dL_law_2041 : decode cL_law 2041 = .ok (.iadd, 1) := dk_96 (dk_at dksL_law_80 13 rfl rfl)
theorem dL_law_2042 : decode cL_law 2042 = .ok (.iaload, 1) := dk_46 (dk_at dksL_law_80 14 rfl rfl)
theorem dL_law_2043 : decode cL_law 2043 = .ok (.aload_n 3, 1) := dk_45 (dk_at dksL_law_80 15 rfl rfl)
theorem dL_law_2044 : decode cL_law 2044 = .ok (.invokestatic 260, 3) := dk_184 1 4 (dk_at dksL_law_80 16 rfl rfl)
theorem dL_law_2047 : decode cL_law 2047 = .ok (.istore 6, 2) := dk_54 6 (dk_at dksL_law_80 19 rfl rfl)
theorem dL_law_2049 : decode cL_law 2049 = .ok (.aload_n 2, 1) := dk_44 (dk_at dksL_law_80 21 rfl rfl)
theorem dL_law_2050 : decode cL_law 2050 = .ok (.aload_n 0, 1) := dk_42 (dk_at dksL_law_80 22 rfl rfl)
theorem dL_law_2051 : decode cL_law 2051 = .ok (.iload 5, 2) := dk_21 5 (dk_at dksL_law_81 0 rfl rfl)
theorem dL_law_2053 : decode cL_law 2053 = .ok (.iconst 1, 1) := dk_4 (dk_at dksL_law_81 2 rfl rfl)
theorem dL_law_2054 : decode cL_law 2054 = .ok (.iadd, 1) := dk_96 (dk_at dksL_law_81 3 rfl rfl)
theorem dL_law_2055 : decode cL_law 2055 = .ok (.iaload, 1) := dk_46 (dk_at dksL_law_81 4 rfl rfl)
theorem dL_law_2056 : decode cL_law 2056 = .ok (.invokevirtual 262, 3) := dk_182 1 6 (dk_at dksL_law_81 5 rfl rfl)
theorem dL_law_2059 : decode cL_law 2059 = .ok (.istore 7, 2) := dk_54 7 (dk_at dksL_law_81 8 rfl rfl)
theorem dL_law_2061 : decode cL_law 2061 = .ok (.aload_n 2, 1) := dk_44 (dk_at dksL_law_81 10 rfl rfl)
theorem dL_law_2062 : decode cL_law 2062 = .ok (.invokevirtual 149, 3) := dk_182 0 149 (dk_at dksL_law_81 11 rfl rfl)
theorem dL_law_2065 : decode cL_law 2065 = .ok (.iload 6, 2) := dk_21 6 (dk_at dksL_law_81 14 rfl rfl)
theorem dL_law_2067 : decode cL_law 2067 = .ok (.if_icmp .eq 5, 3) := dk_159 0 5 (dk_at dksL_law_81 16 rfl rfl)
theorem dL_law_2070 : decode cL_law 2070 = .ok (.iconst 0, 1) := dk_3 (dk_at dksL_law_81 19 rfl rfl)
theorem dL_law_2071 : decode cL_law 2071 = .ok (.ireturn, 1) := dk_172 (dk_at dksL_law_81 20 rfl rfl)
theorem dL_law_2072 : decode cL_law 2072 = .ok (.iload 6, 2) := dk_21 6 (dk_at dksL_law_81 21 rfl rfl)
theorem dL_law_2074 : decode cL_law 2074 = .ok (.ifCond .ne 15, 3) := dk_154 0 15 (dk_at dksL_law_82 0 rfl rfl)
theorem dL_law_2077 : decode cL_law 2077 = .ok (.aload_n 3, 1) := dk_45 (dk_at dksL_law_82 3 rfl rfl)
theorem dL_law_2078 : decode cL_law 2078 = .ok (.iconst 0, 1) := dk_3 (dk_at dksL_law_82 4 rfl rfl)
theorem dL_law_2079 : decode cL_law 2079 = .ok (.laload, 1) := dk_47 (dk_at dksL_law_82 5 rfl rfl)
theorem dL_law_2080 : decode cL_law 2080 = .ok (.iload 7, 2) := dk_21 7 (dk_at dksL_law_82 6 rfl rfl)
theorem dL_law_2082 : decode cL_law 2082 = .ok (.i2l, 1) := dk_133 (dk_at dksL_law_82 8 rfl rfl)
theorem dL_law_2083 : decode cL_law 2083 = .ok (.lcmp, 1) := dk_148 (dk_at dksL_law_82 9 rfl rfl)
theorem dL_law_2084 : decode cL_law 2084 = .ok (.ifCond .eq 5, 3) := dk_153 0 5 (dk_at dksL_law_82 10 rfl rfl)
theorem dL_law_2087 : decode cL_law 2087 = .ok (.iconst 0, 1) := dk_3 (dk_at dksL_law_82 13 rfl rfl)
theorem dL_law_2088 : decode cL_law 2088 = .ok (.ireturn, 1) := dk_172 (dk_at dksL_law_82 14 rfl rfl)
theorem dL_law_2089 : decode cL_law 2089 = .ok (.goto 291, 3) := dk_167 1 35 (dk_at dksL_law_82 15 rfl rfl)
theorem dL_law_2092 : decode cL_law 2092 = .ok (.aload_n 1, 1) := dk_43 (dk_at dksL_law_82 18 rfl rfl)
theorem dL_law_2093 : decode cL_law 2093 = .ok (.aload_n 0, 1) := dk_42 (dk_at dksL_law_82 19 rfl rfl)
theorem dL_law_2094 : decode cL_law 2094 = .ok (.iload 5, 2) := dk_21 5 (dk_at dksL_law_82 20 rfl rfl)
theorem dL_law_2096 : decode cL_law 2096 = .ok (.iconst 1, 1) := dk_4 (dk_at dksL_law_82 22 rfl rfl)
theorem dL_law_2097 : decode cL_law 2097 = .ok (.iadd, 1) := dk_96 (dk_at dksL_law_82 23 rfl rfl)
theorem dL_law_2098 : decode cL_law 2098 = .ok (.iaload, 1) := dk_46 (dk_at dksL_law_83 0 rfl rfl)
theorem dL_law_2099 : decode cL_law 2099 = .ok (.aload_n 3, 1) := dk_45 (dk_at dksL_law_83 1 rfl rfl)
theorem dL_law_2100 : decode cL_law 2100 = .ok (.invokestatic 263, 3) := dk_184 1 7 (dk_at dksL_law_83 2 rfl rfl)
theorem dL_law_2103 : decode cL_law 2103 = .ok (.istore 6, 2) := dk_54 6 (dk_at dksL_law_83 5 rfl rfl)
theorem dL_law_2105 : decode cL_law 2105 = .ok (.aload_n 2, 1) := dk_44 (dk_at dksL_law_83 7 rfl rfl)
theorem dL_law_2106 : decode cL_law 2106 = .ok (.aload_n 0, 1) := dk_42 (dk_at dksL_law_83 8 rfl rfl)
theorem dL_law_2107 : decode cL_law 2107 = .ok (.iload 5, 2) := dk_21 5 (dk_at dksL_law_83 9 rfl rfl)
theorem dL_law_2109 : decode cL_law 2109 = .ok (.iconst 1, 1) := dk_4 (dk_at dksL_law_83 11 rfl rfl)
theorem dL_law_2110 : decode cL_law 2110 = .ok (.iadd, 1) := dk_96 (dk_at dksL_law_83 12 rfl rfl)
theorem dL_law_2111 : decode cL_law 2111 = .ok (.iaload, 1) := dk_46 (dk_at dksL_law_83 13 rfl rfl)
theorem dL_law_2112 : decode cL_law 2112 = .ok (.invokevirtual 265, 3) := dk_182 1 9 (dk_at dksL_law_83 14 rfl rfl)
theorem dL_law_2115 : decode cL_law 2115 = .ok (.istore 7, 2) := dk_54 7 (dk_at dksL_law_83 17 rfl rfl)
theorem dL_law_2117 : decode cL_law 2117 = .ok (.aload_n 2, 1) := dk_44 (dk_at dksL_law_83 19 rfl rfl)
theorem dL_law_2118 : decode cL_law 2118 = .ok (.invokevirtual 149, 3) := dk_182 0 149 (dk_at dksL_law_83 20 rfl rfl)
theorem dL_law_2121 : decode cL_law 2121 = .ok (.iload 6, 2) := dk_21 6 (dk_at dksL_law_84 0 rfl rfl)
theorem dL_law_2123 : decode cL_law 2123 = .ok (.if_icmp .eq 5, 3) := dk_159 0 5 (dk_at dksL_law_84 2 rfl rfl)
theorem dL_law_2126 : decode cL_law 2126 = .ok (.iconst 0, 1) := dk_3 (dk_at dksL_law_84 5 rfl rfl)
theorem dL_law_2127 : decode cL_law 2127 = .ok (.ireturn, 1) := dk_172 (dk_at dksL_law_84 6 rfl rfl)
theorem dL_law_2128 : decode cL_law 2128 = .ok (.iload 6, 2) := dk_21 6 (dk_at dksL_law_84 7 rfl rfl)
theorem dL_law_2130 : decode cL_law 2130 = .ok (.ifCond .ne 15, 3) := dk_154 0 15 (dk_at dksL_law_84 9 rfl rfl)
theorem dL_law_2133 : decode cL_law 2133 = .ok (.aload_n 3, 1) := dk_45 (dk_at dksL_law_84 12 rfl rfl)
theorem dL_law_2134 : decode cL_law 2134 = .ok (.iconst 0, 1) := dk_3 (dk_at dksL_law_84 13 rfl rfl)
theorem dL_law_2135 : decode cL_law 2135 = .ok (.laload, 1) := dk_47 (dk_at dksL_law_84 14 rfl rfl)
theorem dL_law_2136 : decode cL_law 2136 = .ok (.iload 7, 2) := dk_21 7 (dk_at dksL_law_84 15 rfl rfl)
theorem dL_law_2138 : decode cL_law 2138 = .ok (.i2l, 1) := dk_133 (dk_at dksL_law_84 17 rfl rfl)
theorem dL_law_2139 : decode cL_law 2139 = .ok (.lcmp, 1) := dk_148 (dk_at dksL_law_84 18 rfl rfl)
theorem dL_law_2140 : decode cL_law 2140 = .ok (.ifCond .eq 5, 3) := dk_153 0 5 (dk_at dksL_law_84 19 rfl rfl)
theorem dL_law_2143 : decode cL_law 2143 = .ok (.iconst 0, 1) := dk_3 (dk_at dksL_law_84 22 rfl rfl)
theorem dL_law_2144 : decode cL_law 2144 = .ok (.ireturn, 1) := dk_172 (dk_at dksL_law_84 23 rfl rfl)
theorem dL_law_2145 : decode cL_law 2145 = .ok (.goto 235, 3) := dk_167 0 235 (dk_at dksL_law_85 0 rfl rfl)
theorem dL_law_2148 : decode cL_law 2148 = .ok (.aload_n 1, 1) := dk_43 (dk_at dksL_law_85 3 rfl rfl)
theorem dL_law_2149 : decode cL_law 2149 = .ok (.aload 4, 2) := dk_25 4 (dk_at dksL_law_85 4 rfl rfl)
theorem dL_law_2151 : decode cL_law 2151 = .ok (.invokestatic 266, 3) := dk_184 1 10 (dk_at dksL_law_85 6 rfl rfl)
theorem dL_law_2154 : decode cL_law 2154 = .ok (.istore 6, 2) := dk_54 6 (dk_at dksL_law_85 9 rfl rfl)
theorem dL_law_2156 : decode cL_law 2156 = .ok (.aload_n 2, 1) := dk_44 (dk_at dksL_law_85 11 rfl rfl)
theorem dL_law_2157 : decode cL_law 2157 = .ok (.invokevirtual 269, 3) := dk_182 1 13 (dk_at dksL_law_85 12 rfl rfl)
theorem dL_law_2160 : decode cL_law 2160 = .ok (.dstore 7, 2) := dk_57 7 (dk_at dksL_law_85 15 rfl rfl)
theorem dL_law_2162 : decode cL_law 2162 = .ok (.aload_n 2, 1) := dk_44 (dk_at dksL_law_85 17 rfl rfl)
theorem dL_law_2163 : decode cL_law 2163 = .ok (.invokevirtual 149, 3) := dk_182 0 149 (dk_at dksL_law_85 18 rfl rfl)
theorem dL_law_2166 : decode cL_law 2166 = .ok (.iload 6, 2) := dk_21 6 (dk_at dksL_law_85 21 rfl rfl)
theorem dL_law_2168 : decode cL_law 2168 = .ok (.if_icmp .eq 5, 3) := dk_159 0 5 (dk_at dksL_law_86 0 rfl rfl)
theorem dL_law_2171 : decode cL_law 2171 = .ok (.iconst 0, 1) := dk_3 (dk_at dksL_law_86 3 rfl rfl)
theorem dL_law_2172 : decode cL_law 2172 = .ok (.ireturn, 1) := dk_172 (dk_at dksL_law_86 4 rfl rfl)
theorem dL_law_2173 : decode cL_law 2173 = .ok (.iload 6, 2) := dk_21 6 (dk_at dksL_law_86 5 rfl rfl)
theorem dL_law_2175 : decode cL_law 2175 = .ok (.ifCond .ne 35, 3) := dk_154 0 35 (dk_at dksL_law_86 7 rfl rfl)
theorem dL_law_2178 : decode cL_law 2178 = .ok (.aload 4, 2) := dk_25 4 (dk_at dksL_law_86 10 rfl rfl)
theorem dL_law_2180 : decode cL_law 2180 = .ok (.iconst 0, 1) := dk_3 (dk_at dksL_law_86 12 rfl rfl)
theorem dL_law_2181 : decode cL_law 2181 = .ok (.daload, 1) := dk_49 (dk_at dksL_law_86 13 rfl rfl)
theorem dL_law_2182 : decode cL_law 2182 = .ok (.dload 7, 2) := dk_24 7 (dk_at dksL_law_86 14 rfl rfl)
theorem dL_law_2184 : decode cL_law 2184 = .ok (.dcmp .l, 1) := dk_151 (dk_at dksL_law_86 16 rfl rfl)
theorem dL_law_2185 : decode cL_law 2185 = .ok (.ifCond .eq 25, 3) := dk_153 0 25 (dk_at dksL_law_86 17 rfl rfl)
theorem dL_law_2188 : decode cL_law 2188 = .ok (.aload 4, 2) := dk_25 4 (dk_at dksL_law_86 20 rfl rfl)
theorem dL_law_2190 : decode cL_law 2190 = .ok (.iconst 0, 1) := dk_3 (dk_at dksL_law_86 22 rfl rfl)
theorem dL_law_2191 : decode cL_law 2191 = .ok (.daload, 1) := dk_49 (dk_at dksL_law_86 23 rfl rfl)
theorem dL_law_2192 : decode cL_law 2192 = .ok (.aload 4, 2) := dk_25 4 (dk_at dksL_law_87 0 rfl rfl)
theorem dL_law_2194 : decode cL_law 2194 = .ok (.iconst 0, 1) := dk_3 (dk_at dksL_law_87 2 rfl rfl)
theorem dL_law_2195 : decode cL_law 2195 = .ok (.daload, 1) := dk_49 (dk_at dksL_law_87 3 rfl rfl)
theorem dL_law_2196 : decode cL_law 2196 = .ok (.dcmp .l, 1) := dk_151 (dk_at dksL_law_87 4 rfl rfl)
theorem dL_law_2197 : decode cL_law 2197 = .ok (.ifCond .eq 11, 3) := dk_153 0 11 (dk_at dksL_law_87 5 rfl rfl)
theorem dL_law_2200 : decode cL_law 2200 = .ok (.dload 7, 2) := dk_24 7 (dk_at dksL_law_87 8 rfl rfl)
theorem dL_law_2202 : decode cL_law 2202 = .ok (.dload 7, 2) := dk_24 7 (dk_at dksL_law_87 10 rfl rfl)
theorem dL_law_2204 : decode cL_law 2204 = .ok (.dcmp .l, 1) := dk_151 (dk_at dksL_law_87 12 rfl rfl)
theorem dL_law_2205 : decode cL_law 2205 = .ok (.ifCond .ne 5, 3) := dk_154 0 5 (dk_at dksL_law_87 13 rfl rfl)
theorem dL_law_2208 : decode cL_law 2208 = .ok (.iconst 0, 1) := dk_3 (dk_at dksL_law_87 16 rfl rfl)
theorem dL_law_2209 : decode cL_law 2209 = .ok (.ireturn, 1) := dk_172 (dk_at dksL_law_87 17 rfl rfl)
theorem dL_law_2210 : decode cL_law 2210 = .ok (.goto 170, 3) := dk_167 0 170 (dk_at dksL_law_87 18 rfl rfl)
theorem dL_law_2213 : decode cL_law 2213 = .ok (.aload_n 1, 1) := dk_43 (dk_at dksL_law_87 21 rfl rfl)
theorem dL_law_2214 : decode cL_law 2214 = .ok (.aload 4, 2) := dk_25 4 (dk_at dksL_law_87 22 rfl rfl)
theorem dL_law_2216 : decode cL_law 2216 = .ok (.invokestatic 270, 3) := dk_184 1 14 (dk_at dksL_law_88 0 rfl rfl)
theorem dL_law_2219 : decode cL_law 2219 = .ok (.istore 6, 2) := dk_54 6 (dk_at dksL_law_88 3 rfl rfl)
theorem dL_law_2221 : decode cL_law 2221 = .ok (.aload_n 2, 1) := dk_44 (dk_at dksL_law_88 5 rfl rfl)
theorem dL_law_2222 : decode cL_law 2222 = .ok (.invokevirtual 272, 3) := dk_182 1 16 (dk_at dksL_law_88 6 rfl rfl)
theorem dL_law_2225 : decode cL_law 2225 = .ok (.fstore 7, 2) := dk_56 7 (dk_at dksL_law_88 9 rfl rfl)
theorem dL_law_2227 : decode cL_law 2227 = .ok (.aload_n 2, 1) := dk_44 (dk_at dksL_law_88 11 rfl rfl)
theorem dL_law_2228 : decode cL_law 2228 = .ok (.invokevirtual 149, 3) := dk_182 0 149 (dk_at dksL_law_88 12 rfl rfl)
theorem dL_law_2231 : decode cL_law 2231 = .ok (.iload 6, 2) := dk_21 6 (dk_at dksL_law_88 15 rfl rfl)
theorem dL_law_2233 : decode cL_law 2233 = .ok (.if_icmp .eq 5, 3) := dk_159 0 5 (dk_at dksL_law_88 17 rfl rfl)
theorem dL_law_2236 : decode cL_law 2236 = .ok (.iconst 0, 1) := dk_3 (dk_at dksL_law_88 20 rfl rfl)
theorem dL_law_2237 : decode cL_law 2237 = .ok (.ireturn, 1) := dk_172 (dk_at dksL_law_88 21 rfl rfl)
theorem dL_law_2238 : decode cL_law 2238 = .ok (.iload 6, 2) := dk_21 6 (dk_at dksL_law_88 22 rfl rfl)
theorem dL_law_2240 : decode cL_law 2240 = .ok (.ifCond .ne 36, 3) := dk_154 0 36 (dk_at dksL_law_89 0 rfl rfl)
theorem dL_law_2243 : decode cL_law 2243 = .ok (.aload 4, 2) := dk_25 4 (dk_at dksL_law_89 3 rfl rfl)
theorem dL_law_2245 : decode cL_law 2245 = .ok (.iconst 0, 1) := dk_3 (dk_at dksL_law_89 5 rfl rfl)
theorem dL_law_2246 : decode cL_law 2246 = .ok (.daload, 1) := dk_49 (dk_at dksL_law_89 6 rfl rfl)
theorem dL_law_2247 : decode cL_law 2247 = .ok (.fload 7, 2) := dk_23 7 (dk_at dksL_law_89 7 rfl rfl)
theorem dL_law_2249 : decode cL_law 2249 = .ok (.f2d, 1) := dk_141 (dk_at dksL_law_89 9 rfl rfl)
theorem dL_law_2250 : decode cL_law 2250 = .ok (.dcmp .l, 1) := dk_151 (dk_at dksL_law_89 10 rfl rfl)
theorem dL_law_2251 : decode cL_law 2251 = .ok (.ifCond .eq 25, 3) := dk_153 0 25 (dk_at dksL_law_89 11 rfl rfl)
theorem dL_law_2254 : decode cL_law 2254 = .ok (.aload 4, 2) := dk_25 4 (dk_at dksL_law_89 14 rfl rfl)
theorem dL_law_2256 : decode cL_law 2256 = .ok (.iconst 0, 1) := dk_3 (dk_at dksL_law_89 16 rfl rfl)
theorem dL_law_2257 : decode cL_law 2257 = .ok (.daload, 1) := dk_49 (dk_at dksL_law_89 17 rfl rfl)
theorem dL_law_2258 : decode cL_law 2258 = .ok (.aload 4, 2) := dk_25 4 (dk_at dksL_law_89 18 rfl rfl)
theorem dL_law_2260 : decode cL_law 2260 = .ok (.iconst 0, 1) := dk_3 (dk_at dksL_law_89 20 rfl rfl)
theorem dL_law_2261 : decode cL_law 2261 = .ok (.daload, 1) := dk_49 (dk_at dksL_law_89 21 rfl rfl)
theorem dL_law_2262 : decode cL_law 2262 = .ok (.dcmp .l, 1) := dk_151 (dk_at dksL_law_89 22 rfl rfl)
theorem dL_law_2263 : decode cL_law 2263 = .ok (.ifCond .eq 11, 3) := dk_153 0 11 (dk_at dksL_law_90 0 rfl rfl)
theorem dL_law_2266 : decode cL_law 2266 = .ok (.fload 7, 2) := dk_23 7 (dk_at dksL_law_90 3 rfl rfl)
theorem dL_law_2268 : decode cL_law 2268 = .ok (.fload 7, 2) := dk_23 7 (dk_at dksL_law_90 5 rfl rfl)
theorem dL_law_2270 : decode cL_law 2270 = .ok (.fcmp .l, 1) := dk_149 (dk_at dksL_law_90 7 rfl rfl)
theorem dL_law_2271 : decode cL_law 2271 = .ok (.ifCond .ne 5, 3) := dk_154 0 5 (dk_at dksL_law_90 8 rfl rfl)
theorem dL_law_2274 : decode cL_law 2274 = .ok (.iconst 0, 1) := dk_3 (dk_at dksL_law_90 11 rfl rfl)
theorem dL_law_2275 : decode cL_law 2275 = .ok (.ireturn, 1) := dk_172 (dk_at dksL_law_90 12 rfl rfl)
theorem dL_law_2276 : decode cL_law 2276 = .ok (.goto 104, 3) := dk_167 0 104 (dk_at dksL_law_90 13 rfl rfl)
theorem dL_law_2279 : decode cL_law 2279 = .ok (.aload_n 1, 1) := dk_43 (dk_at dksL_law_90 16 rfl rfl)
theorem dL_law_2280 : decode cL_law 2280 = .ok (.aload_n 3, 1) := dk_45 (dk_at dksL_law_90 17 rfl rfl)
theorem dL_law_2281 : decode cL_law 2281 = .ok (.invokestatic 273, 3) := dk_184 1 17 (dk_at dksL_law_90 18 rfl rfl)
theorem dL_law_2284 : decode cL_law 2284 = .ok (.istore 6, 2) := dk_54 6 (dk_at dksL_law_90 21 rfl rfl)
theorem dL_law_2286 : decode cL_law 2286 = .ok (.aload_n 2, 1) := dk_44 (dk_at dksL_law_90 23 rfl rfl)
theorem dL_law_2287 : decode cL_law 2287 = .ok (.invokevirtual 275, 3) := dk_182 1 19 (dk_at dksL_law_91 0 rfl rfl)
theorem dL_law_2290 : decode cL_law 2290 = .ok (.istore 7, 2) := dk_54 7 (dk_at dksL_law_91 3 rfl rfl)
theorem dL_law_2292 : decode cL_law 2292 = .ok (.aload_n 2, 1) := dk_44 (dk_at dksL_law_91 5 rfl rfl)
theorem dL_law_2293 : decode cL_law 2293 = .ok (.invokevirtual 149, 3) := dk_182 0 149 (dk_at dksL_law_91 6 rfl rfl)
theorem dL_law_2296 : decode cL_law 2296 = .ok (.iload 6, 2) := dk_21 6 (dk_at dksL_law_91 9 rfl rfl)
theorem dL_law_2298 : decode cL_law 2298 = .ok (.if_icmp .eq 5, 3) := dk_159 0 5 (dk_at dksL_law_91 11 rfl rfl)
theorem dL_law_2301 : decode cL_law 2301 = .ok (.iconst 0, 1) := dk_3 (dk_at dksL_law_91 14 rfl rfl)
theorem dL_law_2302 : decode cL_law 2302 = .ok (.ireturn, 1) := dk_172 (dk_at dksL_law_91 15 rfl rfl)
theorem dL_law_2303 : decode cL_law 2303 = .ok (.iload 6, 2) := dk_21 6 (dk_at dksL_law_91 16 rfl rfl)
theorem dL_law_2305 : decode cL_law 2305 = .ok (.ifCond .ne 15, 3) := dk_154 0 15 (dk_at dksL_law_91 18 rfl rfl)
theorem dL_law_2308 : decode cL_law 2308 = .ok (.aload_n 3, 1) := dk_45 (dk_at dksL_law_91 21 rfl rfl)
theorem dL_law_2309 : decode cL_law 2309 = .ok (.iconst 0, 1) := dk_3 (dk_at dksL_law_91 22 rfl rfl)
theorem dL_law_2310 : decode cL_law 2310 = .ok (.laload, 1) := dk_47 (dk_at dksL_law_91 23 rfl rfl)
theorem dL_law_2311 : decode cL_law 2311 = .ok (.iload 7, 2) := dk_21 7 (dk_at dksL_law_92 0 rfl rfl)
theorem dL_law_2313 : decode cL_law 2313 = .ok (.i2l, 1) := dk_133 (dk_at dksL_law_92 2 rfl rfl)
theorem dL_law_2314 : decode cL_law 2314 = .ok (.lcmp, 1) := dk_148 (dk_at dksL_law_92 3 rfl rfl)
theorem dL_law_2315 : decode cL_law 2315 = .ok (.ifCond .eq 5, 3) := dk_153 0 5 (dk_at dksL_law_92 4 rfl rfl)
theorem dL_law_2318 : decode cL_law 2318 = .ok (.iconst 0, 1) := dk_3 (dk_at dksL_law_92 7 rfl rfl)
theorem dL_law_2319 : decode cL_law 2319 = .ok (.ireturn, 1) := dk_172 (dk_at dksL_law_92 8 rfl rfl)
theorem dL_law_2320 : decode cL_law 2320 = .ok (.goto 60, 3) := dk_167 0 60 (dk_at dksL_law_92 9 rfl rfl)
theorem dL_law_2323 : decode cL_law 2323 = .ok (.aload_n 1, 1) := dk_43 (dk_at dksL_law_92 12 rfl rfl)
theorem dL_law_2324 : decode cL_law 2324 = .ok (.invokevirtual 276, 3) := dk_182 1 20 (dk_at dksL_law_92 13 rfl rfl)
theorem dL_law_2327 : decode cL_law 2327 = .ok (.aload_n 2, 1) := dk_44 (dk_at dksL_law_92 16 rfl rfl)
theorem dL_law_2328 : decode cL_law 2328 = .ok (.invokevirtual 279, 3) := dk_182 1 23 (dk_at dksL_law_92 17 rfl rfl)
theorem dL_law_2331 : decode cL_law 2331 = .ok (.if_icmp .eq 49, 3) := dk_159 0 49 (dk_at dksL_law_92 20 rfl rfl)
theorem dL_law_2334 : decode cL_law 2334 = .ok (.iconst 0, 1) := dk_3 (dk_at dksL_law_92 23 rfl rfl)
theorem dL_law_2335 : decode cL_law 2335 = .ok (.ireturn, 1) := dk_172 (dk_at dksL_law_93 0 rfl rfl)
theorem dL_law_2336 : decode cL_law 2336 = .ok (.aload_n 1, 1) := dk_43 (dk_at dksL_law_93 1 rfl rfl)
theorem dL_law_2337 : decode cL_law 2337 = .ok (.aload_n 3, 1) := dk_45 (dk_at dksL_law_93 2 rfl rfl)
theorem dL_law_2338 : decode cL_law 2338 = .ok (.invokestatic 280, 3) := dk_184 1 24 (dk_at dksL_law_93 3 rfl rfl)
theorem dL_law_2341 : decode cL_law 2341 = .ok (.istore 6, 2) := dk_54 6 (dk_at dksL_law_93 6 rfl rfl)
theorem dL_law_2343 : decode cL_law 2343 = .ok (.aload_n 2, 1) := dk_44 (dk_at dksL_law_93 8 rfl rfl)
theorem dL_law_2344 : decode cL_law 2344 = .ok (.invokevirtual 282, 3) := dk_182 1 26 (dk_at dksL_law_93 9 rfl rfl)
theorem dL_law_2347 : decode cL_law 2347 = .ok (.istore 7, 2) := dk_54 7 (dk_at dksL_law_93 12 rfl rfl)
theorem dL_law_2349 : decode cL_law 2349 = .ok (.aload_n 2, 1) := dk_44 (dk_at dksL_law_93 14 rfl rfl)
theorem dL_law_2350 : decode cL_law 2350 = .ok (.invokevirtual 149, 3) := dk_182 0 149 (dk_at dksL_law_93 15 rfl rfl)
theorem dL_law_2353 : decode cL_law 2353 = .ok (.iload 6, 2) := dk_21 6 (dk_at dksL_law_93 18 rfl rfl)
theorem dL_law_2355 : decode cL_law 2355 = .ok (.if_icmp .eq 5, 3) := dk_159 0 5 (dk_at dksL_law_93 20 rfl rfl)
theorem dL_law_2358 : decode cL_law 2358 = .ok (.iconst 0, 1) := dk_3 (dk_at dksL_law_93 23 rfl rfl)
theorem dL_law_2359 : decode cL_law 2359 = .ok (.ireturn, 1) := dk_172 (dk_at dksL_law_94 0 rfl rfl)
theorem dL_law_2360 : decode cL_law 2360 = .ok (.iload 6, 2) := dk_21 6 (dk_at dksL_law_94 1 rfl rfl)
theorem dL_law_2362 : decode cL_law 2362 = .ok (.ifCond .ne 15, 3) := dk_154 0 15 (dk_at dksL_law_94 3 rfl rfl)
theorem dL_law_2365 : decode cL_law 2365 = .ok (.aload_n 3, 1) := dk_45 (dk_at dksL_law_94 6 rfl rfl)
theorem dL_law_2366 : decode cL_law 2366 = .ok (.iconst 0, 1) := dk_3 (dk_at dksL_law_94 7 rfl rfl)
theorem dL_law_2367 : decode cL_law 2367 = .ok (.laload, 1) := dk_47 (dk_at dksL_law_94 8 rfl rfl)
theorem dL_law_2368 : decode cL_law 2368 = .ok (.iload 7, 2) := dk_21 7 (dk_at dksL_law_94 9 rfl rfl)
theorem dL_law_2370 : decode cL_law 2370 = .ok (.i2l, 1) := dk_133 (dk_at dksL_law_94 11 rfl rfl)
theorem dL_law_2371 : decode cL_law 2371 = .ok (.lcmp, 1) := dk_148 (dk_at dksL_law_94 12 rfl rfl)
theorem dL_law_2372 : decode cL_law 2372 = .ok (.ifCond .eq 5, 3) := dk_153 0 5 (dk_at dksL_law_94 13 rfl rfl)
theorem dL_law_2375 : decode cL_law 2375 = .ok (.iconst 0, 1) := dk_3 (dk_at dksL_law_94 16 rfl rfl)
theorem dL_law_2376 : decode cL_law 2376 = .ok (.ireturn, 1) := dk_172 (dk_at dksL_law_94 17 rfl rfl)
theorem dL_law_2377 : decode cL_law 2377 = .ok (.goto 3, 3) := dk_167 0 3 (dk_at dksL_law_94 18 rfl rfl)
theorem dL_law_2380 : decode cL_law 2380 = .ok (.iinc 5 5, 3) := dk_132 5 5 (dk_at dksL_law_94 21 rfl rfl)
theorem dL_law_2383 : decode cL_law 2383 = .ok (.goto (-2355), 3) := dk_167 246 205 (dk_at dksL_law_95 0 rfl rfl)
theorem dL_law_2386 : decode cL_law 2386 = .ok (.iconst 1, 1) := dk_4 (dk_at dksL_law_95 3 rfl rfl)
theorem dL_law_2387 : decode cL_law 2387 = .ok (.ireturn, 1) := dk_172 (dk_at dksL_law_95 4 rfl rfl)
