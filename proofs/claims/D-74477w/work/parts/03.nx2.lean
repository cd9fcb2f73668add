set_option maxRecDepth 100000
/-! FilingChainsModel -/
set_option maxRecDepth 100000
def RX2 : String := "FilingChainsModel"
def TX2 : u_T := fun k => match k with
  | 0 => ("FilingChainsModel", "fresh", "[I", true)
  | 1 => ("FilingChainsModel", "now", "[I", true)
  | 2 => ("FilingChainsModel", "kept", "[I", true)
  | 3 => ("FilingChainsModel", "freshFix", "[I", true)
  | 4 => ("FilingChainsModel", "fix", "[I", true)
  | 5 => ("FilingChainsModel", "freshName", "[J", true)
  | 6 => ("FilingChainsModel", "nameOf", "[J", true)
  | 7 => ("FilingChainsModel", "tape", "[I", true)
  | 8 => ("FilingChainsModel", "taped", "I", false)
  | 9 => ("FilingChainsModel", "size", "I", false)
  | 10 => ("FilingChainsModel", "at", "I", false)
  | 11 => ("FilingChainsModel", "place", "I", false)
  | 12 => ("FilingChainsModel", "token", "I", false)
  | 13 => ("FilingChainsModel", "value", "I", false)
  | 14 => ("FilingChainsModel", "bad", "I", false)
  | 15 => ("FilingChainsModel", "badPlace", "I", false)
  | 16 => ("FilingChainsModel", "gotPlace", "I", false)
  | 17 => ("FilingChainsModel", "onces", "I", false)
  | 18 => ("FilingChainsModel", "lastFault", "I", false)
  | 19 => ("FilingChainsModel", "lastPlace", "I", false)
  | 20 => ("FilingChainsModel", "word", "J", false)
  | 21 => ("FilingChainsModel", "counts", "[Z", true)
  | 22 => ("FilingChainsModel", "far", "[I", true)
  | 23 => ("FilingChainsModel", "queue", "[I", true)
  | 24 => ("FilingChainsModel", "wayLink", "[I", true)
  | 25 => ("FilingChainsModel", "left", "[I", true)
  | 26 => ("FilingChainsModel", "wayMany", "I", false)
  | 27 => ("FilingChainsModel", "dates", "[I", true)
  | 28 => ("FilingChainsModel", "openDate", "[I", true)
  | 29 => ("FilingChainsModel", "barSort", "I", false)
  | 30 => ("FilingChainsModel", "barFirst", "I", false)
  | 31 => ("FilingChainsModel", "barSecond", "I", false)
  | 32 => ("FilingChainsModel", "barsWith", "[I", true)
  | 33 => ("FilingChainsModel", "stepsTo", "[I", true)
  | 34 => ("FilingChainsModel", "row", "[I", true)
  | 35 => ("FilingChainsModel", "tried", "[I", true)
  | 36 => ("FilingChainsModel", "written", "[I", true)
  | 37 => ("FilingChainsModel", "writtenMany", "I", false)
  | _ => ("FilingChainsModel", "acts", "I", false)
def tyX2 : Nat → FieldType := fun k => match k with
  | 0 => .array .int
  | 1 => .array .int
  | 2 => .array .int
  | 3 => .array .int
  | 4 => .array .int
  | 5 => .array .long
  | 6 => .array .long
  | 7 => .array .int
  | 8 => .int
  | 9 => .int
  | 10 => .int
  | 11 => .int
  | 12 => .int
  | 13 => .int
  | 14 => .int
  | 15 => .int
  | 16 => .int
  | 17 => .int
  | 18 => .int
  | 19 => .int
  | 20 => .long
  | 21 => .array .boolean
  | 22 => .array .int
  | 23 => .array .int
  | 24 => .array .int
  | 25 => .array .int
  | 26 => .int
  | 27 => .array .int
  | 28 => .array .int
  | 29 => .int
  | 30 => .int
  | 31 => .int
  | 32 => .array .int
  | 33 => .array .int
  | 34 => .array .int
  | 35 => .array .int
  | 36 => .array .int
  | 37 => .int
  | _ => .int
abbrev wsX20 : List Cond := u_ws RX2 TX2 39
set_option maxRecDepth 100000 in
theorem nmX2 : ∀ a, a < 39 → ∀ b, b < 39 → a ≠ b → (TX2 a).2.1 ≠ (TX2 b).2.1 := by decide +kernel
set_option maxRecDepth 100000 in
theorem tyX2_ok : ∀ k, k < 39 → parseFieldDescriptor (TX2 k).2.2.1 = some (tyX2 k) := by decide +kernel
abbrev cX2_init : ByteArray := prog_12_method_1_code
def yX2_init : MethodName := ⟨RX2, "<init>", "()V"⟩
def dkwX2_init_7 : List UInt8 := [42, 17, 0, 200, 188, 10, 181, 0, 73, 42, 182, 0, 76, 42, 182, 0, 79, 177]
abbrev dktX2_init_7 : List UInt8 := dkwX2_init_7 ++ []
def dkwX2_init_6 : List UInt8 := [42, 16, 14, 188, 10, 181, 0, 64, 42, 16, 15, 188, 10, 181, 0, 67, 42, 16, 15, 188, 10, 181, 0, 70]
abbrev dktX2_init_6 : List UInt8 := dkwX2_init_6 ++ dktX2_init_7
def dkwX2_init_5 : List UInt8 := [42, 16, 16, 188, 10, 181, 0, 55, 42, 16, 14, 188, 10, 181, 0, 58, 42, 16, 14, 188, 10, 181, 0, 61]
abbrev dktX2_init_5 : List UInt8 := dkwX2_init_5 ++ dktX2_init_6
def dkwX2_init_4 : List UInt8 := [42, 16, 14, 188, 10, 181, 0, 46, 42, 16, 20, 188, 10, 181, 0, 49, 42, 16, 14, 188, 10, 181, 0, 52]
abbrev dktX2_init_4 : List UInt8 := dkwX2_init_4 ++ dktX2_init_5
def dkwX2_init_3 : List UInt8 := [181, 0, 32, 42, 2, 181, 0, 35, 42, 16, 20, 188, 4, 181, 0, 39, 42, 16, 14, 188, 10, 181, 0, 43]
abbrev dktX2_init_3 : List UInt8 := dkwX2_init_3 ++ dktX2_init_4
def dkwX2_init_2 : List UInt8 := [42, 16, 36, 188, 11, 181, 0, 25, 42, 16, 36, 188, 11, 181, 0, 29, 42, 17, 4, 176, 188, 10]
abbrev dktX2_init_2 : List UInt8 := dkwX2_init_2 ++ dktX2_init_3
def dkwX2_init_1 : List UInt8 := [17, 16, 224, 188, 10, 181, 0, 16, 42, 16, 51, 188, 10, 181, 0, 19, 42, 16, 51, 188, 10, 181, 0, 22]
abbrev dktX2_init_1 : List UInt8 := dkwX2_init_1 ++ dktX2_init_2
def dkwX2_init_0 : List UInt8 := [42, 183, 0, 1, 42, 17, 1, 104, 188, 10, 181, 0, 7, 42, 17, 1, 104, 188, 10, 181, 0, 13, 42]
abbrev dktX2_init_0 : List UInt8 := dkwX2_init_0 ++ dktX2_init_1
theorem dksX2_init_0 : cX2_init.data.toList.drop 0 = dktX2_init_0 := by decide +kernel
theorem dksX2_init_1 : cX2_init.data.toList.drop 23 = dktX2_init_1 := dk_seg dksX2_init_0 23 rfl rfl
theorem dksX2_init_2 : cX2_init.data.toList.drop 47 = dktX2_init_2 := dk_seg dksX2_init_1 24 rfl rfl
theorem dksX2_init_3 : cX2_init.data.toList.drop 69 = dktX2_init_3 := dk_seg dksX2_init_2 22 rfl rfl
theorem dksX2_init_4 : cX2_init.data.toList.drop 93 = dktX2_init_4 := dk_seg dksX2_init_3 24 rfl rfl
theorem dksX2_init_5 : cX2_init.data.toList.drop 117 = dktX2_init_5 := dk_seg dksX2_init_4 24 rfl rfl
theorem dksX2_init_6 : cX2_init.data.toList.drop 141 = dktX2_init_6 := dk_seg dksX2_init_5 24 rfl rfl
theorem dksX2_init_7 : cX2_init.data.toList.drop 165 = dktX2_init_7 := dk_seg dksX2_init_6 24 rfl rfl
theorem dX2_init_0 : decode cX2_init 0 = .ok (.aload_n 0, 1) := dk_42 (dk_at dksX2_init_0 0 rfl rfl)
theorem dX2_init_1 : decode cX2_init 1 = .ok (.invokespecial 1, 3) := dk_183 0 1 (dk_at dksX2_init_0 1 rfl rfl)
theorem dX2_init_4 : decode cX2_init 4 = .ok (.aload_n 0, 1) := dk_42 (dk_at dksX2_init_0 4 rfl rfl)
theorem dX2_init_5 : decode cX2_init 5 = .ok (.sipush 360, 3) := dk_17 1 104 (dk_at dksX2_init_0 5 rfl rfl)
theorem dX2_init_8 : decode cX2_init 8 = .ok (.newarray .int, 2) := dk_188_10 (dk_at dksX2_init_0 8 rfl rfl)
theorem dX2_init_10 : decode cX2_init 10 = .ok (.putfield 7, 3) := dk_181 0 7 (dk_at dksX2_init_0 10 rfl rfl)
theorem dX2_init_13 : decode cX2_init 13 = .ok (.aload_n 0, 1) := dk_42 (dk_at dksX2_init_0 13 rfl rfl)
theorem dX2_init_14 : decode cX2_init 14 = .ok (.sipush 360, 3) := dk_17 1 104 (dk_at dksX2_init_0 14 rfl rfl)
theorem dX2_init_17 : decode cX2_init 17 = .ok (.newarray .int, 2) := dk_188_10 (dk_at dksX2_init_0 17 rfl rfl)
theorem dX2_init_19 : decode cX2_init 19 = .ok (.putfield 13, 3) := dk_181 0 13 (dk_at dksX2_init_0 19 rfl rfl)
theorem dX2_init_22 : decode cX2_init 22 = .ok (.aload_n 0, 1) := dk_42 (dk_at dksX2_init_0 22 rfl rfl)
theorem dX2_init_23 : decode cX2_init 23 = .ok (.sipush 4320, 3) := dk_17 16 224 (dk_at dksX2_init_1 0 rfl rfl)
theorem dX2_init_26 : decode cX2_init 26 = .ok (.newarray .int, 2) := dk_188_10 (dk_at dksX2_init_1 3 rfl rfl)
theorem dX2_init_28 : decode cX2_init 28 = .ok (.putfield 16, 3) := dk_181 0 16 (dk_at dksX2_init_1 5 rfl rfl)
theorem dX2_init_31 : decode cX2_init 31 = .ok (.aload_n 0, 1) := dk_42 (dk_at dksX2_init_1 8 rfl rfl)
theorem dX2_init_32 : decode cX2_init 32 = .ok (.bipush 51, 2) := dk_16 51 (dk_at dksX2_init_1 9 rfl rfl)
theorem dX2_init_34 : decode cX2_init 34 = .ok (.newarray .int, 2) := dk_188_10 (dk_at dksX2_init_1 11 rfl rfl)
theorem dX2_init_36 : decode cX2_init 36 = .ok (.putfield 19, 3) := dk_181 0 19 (dk_at dksX2_init_1 13 rfl rfl)
theorem dX2_init_39 : decode cX2_init 39 = .ok (.aload_n 0, 1) := dk_42 (dk_at dksX2_init_1 16 rfl rfl)
theorem dX2_init_40 : decode cX2_init 40 = .ok (.bipush 51, 2) := dk_16 51 (dk_at dksX2_init_1 17 rfl rfl)
theorem dX2_init_42 : decode cX2_init 42 = .ok (.newarray .int, 2) := dk_188_10 (dk_at dksX2_init_1 19 rfl rfl)
theorem dX2_init_44 : decode cX2_init 44 = .ok (.putfield 22, 3) := dk_181 0 22 (dk_at dksX2_init_1 21 rfl rfl)
theorem dX2_init_47 : decode cX2_init 47 = .ok (.aload_n 0, 1) := dk_42 (dk_at dksX2_init_2 0 rfl rfl)
theorem dX2_init_48 : decode cX2_init 48 = .ok (.bipush 36, 2) := dk_16 36 (dk_at dksX2_init_2 1 rfl rfl)
theorem dX2_init_50 : decode cX2_init 50 = .ok (.newarray .long, 2) := dk_188_11 (dk_at dksX2_init_2 3 rfl rfl)
theorem dX2_init_52 : decode cX2_init 52 = .ok (.putfield 25, 3) := dk_181 0 25 (dk_at dksX2_init_2 5 rfl rfl)
theorem dX2_init_55 : decode cX2_init 55 = .ok (.aload_n 0, 1) := dk_42 (dk_at dksX2_init_2 8 rfl rfl)
theorem dX2_init_56 : decode cX2_init 56 = .ok (.bipush 36, 2) := dk_16 36 (dk_at dksX2_init_2 9 rfl rfl)
theorem dX2_init_58 : decode cX2_init 58 = .ok (.newarray .long, 2) := dk_188_11 (dk_at dksX2_init_2 11 rfl rfl)
theorem dX2_init_60 : decode cX2_init 60 = .ok (.putfield 29, 3) := dk_181 0 29 (dk_at dksX2_init_2 13 rfl rfl)
theorem dX2_init_63 : decode cX2_init 63 = .ok (.aload_n 0, 1) := dk_42 (dk_at dksX2_init_2 16 rfl rfl)
theorem dX2_init_64 : decode cX2_init 64 = .ok (.sipush 1200, 3) := dk_17 4 176 (dk_at dksX2_init_2 17 rfl rfl)
theorem dX2_init_67 : decode cX2_init 67 = .ok (.newarray .int, 2) := dk_188_10 (dk_at dksX2_init_2 20 rfl rfl)
theorem dX2_init_69 : decode cX2_init 69 = .ok (.putfield 32, 3) := dk_181 0 32 (dk_at dksX2_init_3 0 rfl rfl)
theorem dX2_init_72 : decode cX2_init 72 = .ok (.aload_n 0, 1) := dk_42 (dk_at dksX2_init_3 3 rfl rfl)
theorem dX2_init_73 : decode cX2_init 73 = .ok (.iconst (-1), 1) := dk_2 (dk_at dksX2_init_3 4 rfl rfl)
theorem dX2_init_74 : decode cX2_init 74 = .ok (.putfield 35, 3) := dk_181 0 35 (dk_at dksX2_init_3 5 rfl rfl)
theorem dX2_init_77 : decode cX2_init 77 = .ok (.aload_n 0, 1) := dk_42 (dk_at dksX2_init_3 8 rfl rfl)
theorem dX2_init_78 : decode cX2_init 78 = .ok (.bipush 20, 2) := dk_16 20 (dk_at dksX2_init_3 9 rfl rfl)
theorem dX2_init_80 : decode cX2_init 80 = .ok (.newarray .boolean, 2) := dk_188_4 (dk_at dksX2_init_3 11 rfl rfl)
theorem dX2_init_82 : decode cX2_init 82 = .ok (.putfield 39, 3) := dk_181 0 39 (dk_at dksX2_init_3 13 rfl rfl)
theorem dX2_init_85 : decode cX2_init 85 = .ok (.aload_n 0, 1) := dk_42 (dk_at dksX2_init_3 16 rfl rfl)
theorem dX2_init_86 : decode cX2_init 86 = .ok (.bipush 14, 2) := dk_16 14 (dk_at dksX2_init_3 17 rfl rfl)
theorem dX2_init_88 : decode cX2_init 88 = .ok (.newarray .int, 2) := dk_188_10 (dk_at dksX2_init_3 19 rfl rfl)
theorem dX2_init_90 : decode cX2_init 90 = .ok (.putfield 43, 3) := dk_181 0 43 (dk_at dksX2_init_3 21 rfl rfl)
theorem dX2_init_93 : decode cX2_init 93 = .ok (.aload_n 0, 1) := dk_42 (dk_at dksX2_init_4 0 rfl rfl)
theorem dX2_init_94 : decode cX2_init 94 = .ok (.bipush 14, 2) := dk_16 14 (dk_at dksX2_init_4 1 rfl rfl)
theorem dX2_init_96 : decode cX2_init 96 = .ok (.newarray .int, 2) := dk_188_10 (dk_at dksX2_init_4 3 rfl rfl)
theorem dX2_init_98 : decode cX2_init 98 = .ok (.putfield 46, 3) := dk_181 0 46 (dk_at dksX2_init_4 5 rfl rfl)
theorem dX2_init_101 : decode cX2_init 101 = .ok (.aload_n 0, 1) := dk_42 (dk_at dksX2_init_4 8 rfl rfl)
theorem dX2_init_102 : decode cX2_init 102 = .ok (.bipush 20, 2) := dk_16 20 (dk_at dksX2_init_4 9 rfl rfl)
theorem dX2_init_104 : decode cX2_init 104 = .ok (.newarray .int, 2) := dk_188_10 (dk_at dksX2_init_4 11 rfl rfl)
theorem dX2_init_106 : decode cX2_init 106 = .ok (.putfield 49, 3) := dk_181 0 49 (dk_at dksX2_init_4 13 rfl rfl)
theorem dX2_init_109 : decode cX2_init 109 = .ok (.aload_n 0, 1) := dk_42 (dk_at dksX2_init_4 16 rfl rfl)
theorem dX2_init_110 : decode cX2_init 110 = .ok (.bipush 14, 2) := dk_16 14 (dk_at dksX2_init_4 17 rfl rfl)
theorem dX2_init_112 : decode cX2_init 112 = .ok (.newarray .int, 2) := dk_188_10 (dk_at dksX2_init_4 19 rfl rfl)
theorem dX2_init_114 : decode cX2_init 114 = .ok (.putfield 52, 3) := dk_181 0 52 (dk_at dksX2_init_4 21 rfl rfl)
theorem dX2_init_117 : decode cX2_init 117 = .ok (.aload_n 0, 1) := dk_42 (dk_at dksX2_init_5 0 rfl rfl)
theorem dX2_init_118 : decode cX2_init 118 = .ok (.bipush 16, 2) := dk_16 16 (dk_at dksX2_init_5 1 rfl rfl)
theorem dX2_init_120 : decode cX2_init 120 = .ok (.newarray .int, 2) := dk_188_10 (dk_at dksX2_init_5 3 rfl rfl)
theorem dX2_init_122 : decode cX2_init 122 = .ok (.putfield 55, 3) := dk_181 0 55 (dk_at dksX2_init_5 5 rfl rfl)
theorem dX2_init_125 : decode cX2_init 125 = .ok (.aload_n 0, 1) := dk_42 (dk_at dksX2_init_5 8 rfl rfl)
theorem dX2_init_126 : decode cX2_init 126 = .ok (.bipush 14, 2) := dk_16 14 (dk_at dksX2_init_5 9 rfl rfl)
theorem dX2_init_128 : decode cX2_init 128 = .ok (.newarray .int, 2) := dk_188_10 (dk_at dksX2_init_5 11 rfl rfl)
theorem dX2_init_130 : decode cX2_init 130 = .ok (.putfield 58, 3) := dk_181 0 58 (dk_at dksX2_init_5 13 rfl rfl)
theorem dX2_init_133 : decode cX2_init 133 = .ok (.aload_n 0, 1) := dk_42 (dk_at dksX2_init_5 16 rfl rfl)
theorem dX2_init_134 : decode cX2_init 134 = .ok (.bipush 14, 2) := dk_16 14 (dk_at dksX2_init_5 17 rfl rfl)
theorem dX2_init_136 : decode cX2_init 136 = .ok (.newarray .int, 2) := dk_188_10 (dk_at dksX2_init_5 19 rfl rfl)
theorem dX2_init_138 : decode cX2_init 138 = .ok (.putfield 61, 3) := dk_181 0 61 (dk_at dksX2_init_5 21 rfl rfl)
theorem dX2_init_141 : decode cX2_init 141 = .ok (.aload_n 0, 1) := dk_42 (dk_at dksX2_init_6 0 rfl rfl)
theorem dX2_init_142 : decode cX2_init 142 = .ok (.bipush 14, 2) := dk_16 14 (dk_at dksX2_init_6 1 rfl rfl)
theorem dX2_init_144 : decode cX2_init 144 = .ok (.newarray .int, 2) := dk_188_10 (dk_at dksX2_init_6 3 rfl rfl)
theorem dX2_init_146 : decode cX2_init 146 = .ok (.putfield 64, 3) := dk_181 0 64 (dk_at dksX2_init_6 5 rfl rfl)
theorem dX2_init_149 : decode cX2_init 149 = .ok (.aload_n 0, 1) := dk_42 (dk_at dksX2_init_6 8 rfl rfl)
theorem dX2_init_150 : decode cX2_init 150 = .ok (.bipush 15, 2) := dk_16 15 (dk_at dksX2_init_6 9 rfl rfl)
theorem dX2_init_152 : decode cX2_init 152 = .ok (.newarray .int, 2) := dk_188_10 (dk_at dksX2_init_6 11 rfl rfl)
theorem dX2_init_154 : decode cX2_init 154 = .ok (.putfield 67, 3) := dk_181 0 67 (dk_at dksX2_init_6 13 rfl rfl)
theorem dX2_init_157 : decode cX2_init 157 = .ok (.aload_n 0, 1) := dk_42 (dk_at dksX2_init_6 16 rfl rfl)
theorem dX2_init_158 : decode cX2_init 158 = .ok (.bipush 15, 2) := dk_16 15 (dk_at dksX2_init_6 17 rfl rfl)
theorem dX2_init_160 : decode cX2_init 160 = .ok (.newarray .int, 2) := dk_188_10 (dk_at dksX2_init_6 19 rfl rfl)
theorem dX2_init_162 : decode cX2_init 162 = .ok (.putfield 70, 3) := dk_181 0 70 (dk_at dksX2_init_6 21 rfl rfl)
theorem dX2_init_165 : decode cX2_init 165 = .ok (.aload_n 0, 1) := dk_42 (dk_at dksX2_init_7 0 rfl rfl)
theorem dX2_init_166 : decode cX2_init 166 = .ok (.sipush 200, 3) := dk_17 0 200 (dk_at dksX2_init_7 1 rfl rfl)
theorem dX2_init_169 : decode cX2_init 169 = .ok (.newarray .int, 2) := dk_188_10 (dk_at dksX2_init_7 4 rfl rfl)
theorem dX2_init_171 : decode cX2_init 171 = .ok (.putfield 73, 3) := dk_181 0 73 (dk_at dksX2_init_7 6 rfl rfl)
theorem dX2_init_174 : decode cX2_init 174 = .ok (.aload_n 0, 1) := dk_42 (dk_at dksX2_init_7 9 rfl rfl)
theorem dX2_init_175 : decode cX2_init 175 = .ok (.invokevirtual 76, 3) := dk_182 0 76 (dk_at dksX2_init_7 10 rfl rfl)
theorem dX2_init_178 : decode cX2_init 178 = .ok (.aload_n 0, 1) := dk_42 (dk_at dksX2_init_7 13 rfl rfl)
theorem dX2_init_179 : decode cX2_init 179 = .ok (.invokevirtual 79, 3) := dk_182 0 79 (dk_at dksX2_init_7 14 rfl rfl)
theorem dX2_init_182 : decode cX2_init 182 = .ok (.return_, 1) := dk_177 (dk_at dksX2_init_7 17 rfl rfl)
abbrev cX2_blank : ByteArray := prog_12_method_20_code
def yX2_blank : MethodName := ⟨RX2, "blank", "()V"⟩
def dkwX2_blank_5 : List UInt8 := [17, 2, 28, 79, 42, 180, 0, 7, 6, 17, 28, 132, 79, 42, 3, 181, 0, 190, 177]
abbrev dktX2_blank_5 : List UInt8 := dkwX2_blank_5 ++ []
def dkwX2_blank_4 : List UInt8 := [180, 0, 7, 3, 17, 1, 109, 79, 42, 180, 0, 7, 4, 17, 1, 109, 79, 42, 180, 0, 7, 5]
abbrev dktX2_blank_4 : List UInt8 := dkwX2_blank_4 ++ dktX2_blank_5
def dkwX2_blank_3 : List UInt8 := [17, 0, 224, 162, 0, 19, 42, 180, 0, 7, 16, 32, 27, 96, 2, 79, 132, 1, 1, 167, 255, 236, 42]
abbrev dktX2_blank_3 : List UInt8 := dkwX2_blank_3 ++ dktX2_blank_4
def dkwX2_blank_2 : List UInt8 := [162, 0, 20, 42, 180, 0, 7, 16, 18, 27, 96, 16, 254, 79, 132, 1, 1, 167, 255, 236, 3, 60, 27]
abbrev dktX2_blank_2 : List UInt8 := dkwX2_blank_2 ++ dktX2_blank_3
def dkwX2_blank_1 : List UInt8 := [27, 16, 51, 162, 0, 16, 42, 180, 0, 19, 27, 3, 79, 132, 1, 1, 167, 255, 240, 3, 60, 27, 16, 14]
abbrev dktX2_blank_1 : List UInt8 := dkwX2_blank_1 ++ dktX2_blank_2
def dkwX2_blank_0 : List UInt8 := [3, 60, 27, 17, 1, 104, 162, 0, 16, 42, 180, 0, 7, 27, 3, 79, 132, 1, 1, 167, 255, 239, 3, 60]
abbrev dktX2_blank_0 : List UInt8 := dkwX2_blank_0 ++ dktX2_blank_1
theorem dksX2_blank_0 : cX2_blank.data.toList.drop 0 = dktX2_blank_0 := by decide +kernel
theorem dksX2_blank_1 : cX2_blank.data.toList.drop 24 = dktX2_blank_1 := dk_seg dksX2_blank_0 24 rfl rfl
theorem dksX2_blank_2 : cX2_blank.data.toList.drop 48 = dktX2_blank_2 := dk_seg dksX2_blank_1 24 rfl rfl
theorem dksX2_blank_3 : cX2_blank.data.toList.drop 71 = dktX2_blank_3 := dk_seg dksX2_blank_2 23 rfl rfl
theorem dksX2_blank_4 : cX2_blank.data.toList.drop 94 = dktX2_blank_4 := dk_seg dksX2_blank_3 23 rfl rfl
theorem dksX2_blank_5 : cX2_blank.data.toList.drop 116 = dktX2_blank_5 := dk_seg dksX2_blank_4 22 rfl rfl
theorem dX2_blank_0 : decode cX2_blank 0 = .ok (.iconst 0, 1) := dk_3 (dk_at dksX2_blank_0 0 rfl rfl)
theorem dX2_blank_1 : decode cX2_blank 1 = .ok (.istore_n 1, 1) := dk_60 (dk_at dksX2_blank_0 1 rfl rfl)
theorem dX2_blank_2 : decode cX2_blank 2 = .ok (.iload_n 1, 1) := dk_27 (dk_at dksX2_blank_0 2 rfl rfl)
theorem dX2_blank_3 : decode cX2_blank 3 = .ok (.sipush 360, 3) := dk_17 1 104 (dk_at dksX2_blank_0 3 rfl rfl)
theorem dX2_blank_6 : decode cX2_blank 6 = .ok (.if_icmp .ge 16, 3) := dk_162 0 16 (dk_at dksX2_blank_0 6 rfl rfl)
theorem dX2_blank_9 : decode cX2_blank 9 = .ok (.aload_n 0, 1) := dk_42 (dk_at dksX2_blank_0 9 rfl rfl)
theorem dX2_blank_10 : decode cX2_blank 10 = .ok (.getfield 7, 3) := dk_180 0 7 (dk_at dksX2_blank_0 10 rfl rfl)
theorem dX2_blank_13 : decode cX2_blank 13 = .ok (.iload_n 1, 1) := dk_27 (dk_at dksX2_blank_0 13 rfl rfl)
theorem dX2_blank_14 : decode cX2_blank 14 = .ok (.iconst 0, 1) := dk_3 (dk_at dksX2_blank_0 14 rfl rfl)
theorem dX2_blank_15 : decode cX2_blank 15 = .ok (.iastore, 1) := dk_79 (dk_at dksX2_blank_0 15 rfl rfl)
theorem dX2_blank_16 : decode cX2_blank 16 = .ok (.iinc 1 1, 3) := dk_132 1 1 (dk_at dksX2_blank_0 16 rfl rfl)
theorem dX2_blank_19 : decode cX2_blank 19 = .ok (.goto (-17), 3) := dk_167 255 239 (dk_at dksX2_blank_0 19 rfl rfl)
theorem dX2_blank_22 : decode cX2_blank 22 = .ok (.iconst 0, 1) := dk_3 (dk_at dksX2_blank_0 22 rfl rfl)
theorem dX2_blank_23 : decode cX2_blank 23 = .ok (.istore_n 1, 1) := dk_60 (dk_at dksX2_blank_0 23 rfl rfl)
theorem dX2_blank_24 : decode cX2_blank 24 = .ok (.iload_n 1, 1) := dk_27 (dk_at dksX2_blank_1 0 rfl rfl)
theorem dX2_blank_25 : decode cX2_blank 25 = .ok (.bipush 51, 2) := dk_16 51 (dk_at dksX2_blank_1 1 rfl rfl)
theorem dX2_blank_27 : decode cX2_blank 27 = .ok (.if_icmp .ge 16, 3) := dk_162 0 16 (dk_at dksX2_blank_1 3 rfl rfl)
theorem dX2_blank_30 : decode cX2_blank 30 = .ok (.aload_n 0, 1) := dk_42 (dk_at dksX2_blank_1 6 rfl rfl)
theorem dX2_blank_31 : decode cX2_blank 31 = .ok (.getfield 19, 3) := dk_180 0 19 (dk_at dksX2_blank_1 7 rfl rfl)
theorem dX2_blank_34 : decode cX2_blank 34 = .ok (.iload_n 1, 1) := dk_27 (dk_at dksX2_blank_1 10 rfl rfl)
theorem dX2_blank_35 : decode cX2_blank 35 = .ok (.iconst 0, 1) := dk_3 (dk_at dksX2_blank_1 11 rfl rfl)
theorem dX2_blank_36 : decode cX2_blank 36 = .ok (.iastore, 1) := dk_79 (dk_at dksX2_blank_1 12 rfl rfl)
theorem dX2_blank_37 : decode cX2_blank 37 = .ok (.iinc 1 1, 3) := dk_132 1 1 (dk_at dksX2_blank_1 13 rfl rfl)
theorem dX2_blank_40 : decode cX2_blank 40 = .ok (.goto (-16), 3) := dk_167 255 240 (dk_at dksX2_blank_1 16 rfl rfl)
theorem dX2_blank_43 : decode cX2_blank 43 = .ok (.iconst 0, 1) := dk_3 (dk_at dksX2_blank_1 19 rfl rfl)
theorem dX2_blank_44 : decode cX2_blank 44 = .ok (.istore_n 1, 1) := dk_60 (dk_at dksX2_blank_1 20 rfl rfl)
theorem dX2_blank_45 : decode cX2_blank 45 = .ok (.iload_n 1, 1) := dk_27 (dk_at dksX2_blank_1 21 rfl rfl)
theorem dX2_blank_46 : decode cX2_blank 46 = .ok (.bipush 14, 2) := dk_16 14 (dk_at dksX2_blank_1 22 rfl rfl)
theorem dX2_blank_48 : decode cX2_blank 48 = .ok (.if_icmp .ge 20, 3) := dk_162 0 20 (dk_at dksX2_blank_2 0 rfl rfl)
theorem dX2_blank_51 : decode cX2_blank 51 = .ok (.aload_n 0, 1) := dk_42 (dk_at dksX2_blank_2 3 rfl rfl)
theorem dX2_blank_52 : decode cX2_blank 52 = .ok (.getfield 7, 3) := dk_180 0 7 (dk_at dksX2_blank_2 4 rfl rfl)
theorem dX2_blank_55 : decode cX2_blank 55 = .ok (.bipush 18, 2) := dk_16 18 (dk_at dksX2_blank_2 7 rfl rfl)
theorem dX2_blank_57 : decode cX2_blank 57 = .ok (.iload_n 1, 1) := dk_27 (dk_at dksX2_blank_2 9 rfl rfl)
theorem dX2_blank_58 : decode cX2_blank 58 = .ok (.iadd, 1) := dk_96 (dk_at dksX2_blank_2 10 rfl rfl)
theorem dX2_blank_59 : decode cX2_blank 59 = .ok (.bipush (-2), 2) := dk_16 254 (dk_at dksX2_blank_2 11 rfl rfl)
theorem dX2_blank_61 : decode cX2_blank 61 = .ok (.iastore, 1) := dk_79 (dk_at dksX2_blank_2 13 rfl rfl)
theorem dX2_blank_62 : decode cX2_blank 62 = .ok (.iinc 1 1, 3) := dk_132 1 1 (dk_at dksX2_blank_2 14 rfl rfl)
theorem dX2_blank_65 : decode cX2_blank 65 = .ok (.goto (-20), 3) := dk_167 255 236 (dk_at dksX2_blank_2 17 rfl rfl)
theorem dX2_blank_68 : decode cX2_blank 68 = .ok (.iconst 0, 1) := dk_3 (dk_at dksX2_blank_2 20 rfl rfl)
theorem dX2_blank_69 : decode cX2_blank 69 = .ok (.istore_n 1, 1) := dk_60 (dk_at dksX2_blank_2 21 rfl rfl)
theorem dX2_blank_70 : decode cX2_blank 70 = .ok (.iload_n 1, 1) := dk_27 (dk_at dksX2_blank_2 22 rfl rfl)
theorem dX2_blank_71 : decode cX2_blank 71 = .ok (.sipush 224, 3) := dk_17 0 224 (dk_at dksX2_blank_3 0 rfl rfl)
theorem dX2_blank_74 : decode cX2_blank 74 = .ok (.if_icmp .ge 19, 3) := dk_162 0 19 (dk_at dksX2_blank_3 3 rfl rfl)
theorem dX2_blank_77 : decode cX2_blank 77 = .ok (.aload_n 0, 1) := dk_42 (dk_at dksX2_blank_3 6 rfl rfl)
theorem dX2_blank_78 : decode cX2_blank 78 = .ok (.getfield 7, 3) := dk_180 0 7 (dk_at dksX2_blank_3 7 rfl rfl)
theorem dX2_blank_81 : decode cX2_blank 81 = .ok (.bipush 32, 2) := dk_16 32 (dk_at dksX2_blank_3 10 rfl rfl)
theorem dX2_blank_83 : decode cX2_blank 83 = .ok (.iload_n 1, 1) := dk_27 (dk_at dksX2_blank_3 12 rfl rfl)
theorem dX2_blank_84 : decode cX2_blank 84 = .ok (.iadd, 1) := dk_96 (dk_at dksX2_blank_3 13 rfl rfl)
theorem dX2_blank_85 : decode cX2_blank 85 = .ok (.iconst (-1), 1) := dk_2 (dk_at dksX2_blank_3 14 rfl rfl)
theorem dX2_blank_86 : decode cX2_blank 86 = .ok (.iastore, 1) := dk_79 (dk_at dksX2_blank_3 15 rfl rfl)
theorem dX2_blank_87 : decode cX2_blank 87 = .ok (.iinc 1 1, 3) := dk_132 1 1 (dk_at dksX2_blank_3 16 rfl rfl)
theorem dX2_blank_90 : decode cX2_blank 90 = .ok (.goto (-20), 3) := dk_167 255 236 (dk_at dksX2_blank_3 19 rfl rfl)
theorem dX2_blank_93 : decode cX2_blank 93 = .ok (.aload_n 0, 1) := dk_42 (dk_at dksX2_blank_3 22 rfl rfl)
theorem dX2_blank_94 : decode cX2_blank 94 = .ok (.getfield 7, 3) := dk_180 0 7 (dk_at dksX2_blank_4 0 rfl rfl)
theorem dX2_blank_97 : decode cX2_blank 97 = .ok (.iconst 0, 1) := dk_3 (dk_at dksX2_blank_4 3 rfl rfl)
theorem dX2_blank_98 : decode cX2_blank 98 = .ok (.sipush 365, 3) := dk_17 1 109 (dk_at dksX2_blank_4 4 rfl rfl)
theorem dX2_blank_101 : decode cX2_blank 101 = .ok (.iastore, 1) := dk_79 (dk_at dksX2_blank_4 7 rfl rfl)
theorem dX2_blank_102 : decode cX2_blank 102 = .ok (.aload_n 0, 1) := dk_42 (dk_at dksX2_blank_4 8 rfl rfl)
theorem dX2_blank_103 : decode cX2_blank 103 = .ok (.getfield 7, 3) := dk_180 0 7 (dk_at dksX2_blank_4 9 rfl rfl)
theorem dX2_blank_106 : decode cX2_blank 106 = .ok (.iconst 1, 1) := dk_4 (dk_at dksX2_blank_4 12 rfl rfl)
theorem dX2_blank_107 : decode cX2_blank 107 = .ok (.sipush 365, 3) := dk_17 1 109 (dk_at dksX2_blank_4 13 rfl rfl)
theorem dX2_blank_110 : decode cX2_blank 110 = .ok (.iastore, 1) := dk_79 (dk_at dksX2_blank_4 16 rfl rfl)
theorem dX2_blank_111 : decode cX2_blank 111 = .ok (.aload_n 0, 1) := dk_42 (dk_at dksX2_blank_4 17 rfl rfl)
theorem dX2_blank_112 : decode cX2_blank 112 = .ok (.getfield 7, 3) := dk_180 0 7 (dk_at dksX2_blank_4 18 rfl rfl)
theorem dX2_blank_115 : decode cX2_blank 115 = .ok (.iconst 2, 1) := dk_5 (dk_at dksX2_blank_4 21 rfl rfl)
theorem dX2_blank_116 : decode cX2_blank 116 = .ok (.sipush 540, 3) := dk_17 2 28 (dk_at dksX2_blank_5 0 rfl rfl)
theorem dX2_blank_119 : decode cX2_blank 119 = .ok (.iastore, 1) := dk_79 (dk_at dksX2_blank_5 3 rfl rfl)
theorem dX2_blank_120 : decode cX2_blank 120 = .ok (.aload_n 0, 1) := dk_42 (dk_at dksX2_blank_5 4 rfl rfl)
theorem dX2_blank_121 : decode cX2_blank 121 = .ok (.getfield 7, 3) := dk_180 0 7 (dk_at dksX2_blank_5 5 rfl rfl)
theorem dX2_blank_124 : decode cX2_blank 124 = .ok (.iconst 3, 1) := dk_6 (dk_at dksX2_blank_5 8 rfl rfl)
theorem dX2_blank_125 : decode cX2_blank 125 = .ok (.sipush 7300, 3) := dk_17 28 132 (dk_at dksX2_blank_5 9 rfl rfl)
theorem dX2_blank_128 : decode cX2_blank 128 = .ok (.iastore, 1) := dk_79 (dk_at dksX2_blank_5 12 rfl rfl)
theorem dX2_blank_129 : decode cX2_blank 129 = .ok (.aload_n 0, 1) := dk_42 (dk_at dksX2_blank_5 13 rfl rfl)
theorem dX2_blank_130 : decode cX2_blank 130 = .ok (.iconst 0, 1) := dk_3 (dk_at dksX2_blank_5 14 rfl rfl)
theorem dX2_blank_131 : decode cX2_blank 131 = .ok (.putfield 190, 3) := dk_181 0 190 (dk_at dksX2_blank_5 15 rfl rfl)
theorem dX2_blank_134 : decode cX2_blank 134 = .ok (.return_, 1) := dk_177 (dk_at dksX2_blank_5 18 rfl rfl)
abbrev cX2_stands : ByteArray := prog_12_method_37_code
def yX2_stands : MethodName := ⟨RX2, "stands", "()V"⟩
def dkwX2_stands_3 : List UInt8 := [47, 80, 132, 1, 1, 167, 255, 235, 42, 3, 181, 0, 253, 177]
abbrev dktX2_stands_3 : List UInt8 := dkwX2_stands_3 ++ []
def dkwX2_stands_2 : List UInt8 := [132, 1, 1, 167, 255, 235, 3, 60, 27, 16, 36, 162, 0, 21, 42, 180, 0, 29, 27, 42, 180, 0, 25, 27]
abbrev dktX2_stands_2 : List UInt8 := dkwX2_stands_2 ++ dktX2_stands_3
def dkwX2_stands_1 : List UInt8 := [167, 255, 234, 3, 60, 27, 16, 51, 162, 0, 21, 42, 180, 0, 22, 27, 42, 180, 0, 19, 27, 46, 79]
abbrev dktX2_stands_1 : List UInt8 := dkwX2_stands_1 ++ dktX2_stands_2
def dkwX2_stands_0 : List UInt8 := [3, 60, 27, 17, 1, 104, 162, 0, 21, 42, 180, 0, 13, 27, 42, 180, 0, 7, 27, 46, 79, 132, 1, 1]
abbrev dktX2_stands_0 : List UInt8 := dkwX2_stands_0 ++ dktX2_stands_1
theorem dksX2_stands_0 : cX2_stands.data.toList.drop 0 = dktX2_stands_0 := by decide +kernel
theorem dksX2_stands_1 : cX2_stands.data.toList.drop 24 = dktX2_stands_1 := dk_seg dksX2_stands_0 24 rfl rfl
theorem dksX2_stands_2 : cX2_stands.data.toList.drop 47 = dktX2_stands_2 := dk_seg dksX2_stands_1 23 rfl rfl
theorem dksX2_stands_3 : cX2_stands.data.toList.drop 71 = dktX2_stands_3 := dk_seg dksX2_stands_2 24 rfl rfl
theorem dX2_stands_0 : decode cX2_stands 0 = .ok (.iconst 0, 1) := dk_3 (dk_at dksX2_stands_0 0 rfl rfl)
theorem dX2_stands_1 : decode cX2_stands 1 = .ok (.istore_n 1, 1) := dk_60 (dk_at dksX2_stands_0 1 rfl rfl)
theorem dX2_stands_2 : decode cX2_stands 2 = .ok (.iload_n 1, 1) := dk_27 (dk_at dksX2_stands_0 2 rfl rfl)
theorem dX2_stands_3 : decode cX2_stands 3 = .ok (.sipush 360, 3) := dk_17 1 104 (dk_at dksX2_stands_0 3 rfl rfl)
theorem dX2_stands_6 : decode cX2_stands 6 = .ok (.if_icmp .ge 21, 3) := dk_162 0 21 (dk_at dksX2_stands_0 6 rfl rfl)
theorem dX2_stands_9 : decode cX2_stands 9 = .ok (.aload_n 0, 1) := dk_42 (dk_at dksX2_stands_0 9 rfl rfl)
theorem dX2_stands_10 : decode cX2_stands 10 = .ok (.getfield 13, 3) := dk_180 0 13 (dk_at dksX2_stands_0 10 rfl rfl)
theorem dX2_stands_13 : decode cX2_stands 13 = .ok (.iload_n 1, 1) := dk_27 (dk_at dksX2_stands_0 13 rfl rfl)
theorem dX2_stands_14 : decode cX2_stands 14 = .ok (.aload_n 0, 1) := dk_42 (dk_at dksX2_stands_0 14 rfl rfl)
theorem dX2_stands_15 : decode cX2_stands 15 = .ok (.getfield 7, 3) := dk_180 0 7 (dk_at dksX2_stands_0 15 rfl rfl)
theorem dX2_stands_18 : decode cX2_stands 18 = .ok (.iload_n 1, 1) := dk_27 (dk_at dksX2_stands_0 18 rfl rfl)
theorem dX2_stands_19 : decode cX2_stands 19 = .ok (.iaload, 1) := dk_46 (dk_at dksX2_stands_0 19 rfl rfl)
theorem dX2_stands_20 : decode cX2_stands 20 = .ok (.iastore, 1) := dk_79 (dk_at dksX2_stands_0 20 rfl rfl)
theorem dX2_stands_21 : decode cX2_stands 21 = .ok (.iinc 1 1, 3) := dk_132 1 1 (dk_at dksX2_stands_0 21 rfl rfl)
theorem dX2_stands_24 : decode cX2_stands 24 = .ok (.goto (-22), 3) := dk_167 255 234 (dk_at dksX2_stands_1 0 rfl rfl)
theorem dX2_stands_27 : decode cX2_stands 27 = .ok (.iconst 0, 1) := dk_3 (dk_at dksX2_stands_1 3 rfl rfl)
theorem dX2_stands_28 : decode cX2_stands 28 = .ok (.istore_n 1, 1) := dk_60 (dk_at dksX2_stands_1 4 rfl rfl)
theorem dX2_stands_29 : decode cX2_stands 29 = .ok (.iload_n 1, 1) := dk_27 (dk_at dksX2_stands_1 5 rfl rfl)
theorem dX2_stands_30 : decode cX2_stands 30 = .ok (.bipush 51, 2) := dk_16 51 (dk_at dksX2_stands_1 6 rfl rfl)
theorem dX2_stands_32 : decode cX2_stands 32 = .ok (.if_icmp .ge 21, 3) := dk_162 0 21 (dk_at dksX2_stands_1 8 rfl rfl)
theorem dX2_stands_35 : decode cX2_stands 35 = .ok (.aload_n 0, 1) := dk_42 (dk_at dksX2_stands_1 11 rfl rfl)
theorem dX2_stands_36 : decode cX2_stands 36 = .ok (.getfield 22, 3) := dk_180 0 22 (dk_at dksX2_stands_1 12 rfl rfl)
theorem dX2_stands_39 : decode cX2_stands 39 = .ok (.iload_n 1, 1) := dk_27 (dk_at dksX2_stands_1 15 rfl rfl)
theorem dX2_stands_40 : decode cX2_stands 40 = .ok (.aload_n 0, 1) := dk_42 (dk_at dksX2_stands_1 16 rfl rfl)
theorem dX2_stands_41 : decode cX2_stands 41 = .ok (.getfield 19, 3) := dk_180 0 19 (dk_at dksX2_stands_1 17 rfl rfl)
theorem dX2_stands_44 : decode cX2_stands 44 = .ok (.iload_n 1, 1) := dk_27 (dk_at dksX2_stands_1 20 rfl rfl)
theorem dX2_stands_45 : decode cX2_stands 45 = .ok (.iaload, 1) := dk_46 (dk_at dksX2_stands_1 21 rfl rfl)
theorem dX2_stands_46 : decode cX2_stands 46 = .ok (.iastore, 1) := dk_79 (dk_at dksX2_stands_1 22 rfl rfl)
theorem dX2_stands_47 : decode cX2_stands 47 = .ok (.iinc 1 1, 3) := dk_132 1 1 (dk_at dksX2_stands_2 0 rfl rfl)
theorem dX2_stands_50 : decode cX2_stands 50 = .ok (.goto (-21), 3) := dk_167 255 235 (dk_at dksX2_stands_2 3 rfl rfl)
theorem dX2_stands_53 : decode cX2_stands 53 = .ok (.iconst 0, 1) := dk_3 (dk_at dksX2_stands_2 6 rfl rfl)
theorem dX2_stands_54 : decode cX2_stands 54 = .ok (.istore_n 1, 1) := dk_60 (dk_at dksX2_stands_2 7 rfl rfl)
theorem dX2_stands_55 : decode cX2_stands 55 = .ok (.iload_n 1, 1) := dk_27 (dk_at dksX2_stands_2 8 rfl rfl)
theorem dX2_stands_56 : decode cX2_stands 56 = .ok (.bipush 36, 2) := dk_16 36 (dk_at dksX2_stands_2 9 rfl rfl)
theorem dX2_stands_58 : decode cX2_stands 58 = .ok (.if_icmp .ge 21, 3) := dk_162 0 21 (dk_at dksX2_stands_2 11 rfl rfl)
theorem dX2_stands_61 : decode cX2_stands 61 = .ok (.aload_n 0, 1) := dk_42 (dk_at dksX2_stands_2 14 rfl rfl)
theorem dX2_stands_62 : decode cX2_stands 62 = .ok (.getfield 29, 3) := dk_180 0 29 (dk_at dksX2_stands_2 15 rfl rfl)
theorem dX2_stands_65 : decode cX2_stands 65 = .ok (.iload_n 1, 1) := dk_27 (dk_at dksX2_stands_2 18 rfl rfl)
theorem dX2_stands_66 : decode cX2_stands 66 = .ok (.aload_n 0, 1) := dk_42 (dk_at dksX2_stands_2 19 rfl rfl)
theorem dX2_stands_67 : decode cX2_stands 67 = .ok (.getfield 25, 3) := dk_180 0 25 (dk_at dksX2_stands_2 20 rfl rfl)
theorem dX2_stands_70 : decode cX2_stands 70 = .ok (.iload_n 1, 1) := dk_27 (dk_at dksX2_stands_2 23 rfl rfl)
theorem dX2_stands_71 : decode cX2_stands 71 = .ok (.laload, 1) := dk_47 (dk_at dksX2_stands_3 0 rfl rfl)
theorem dX2_stands_72 : decode cX2_stands 72 = .ok (.lastore, 1) := dk_80 (dk_at dksX2_stands_3 1 rfl rfl)
theorem dX2_stands_73 : decode cX2_stands 73 = .ok (.iinc 1 1, 3) := dk_132 1 1 (dk_at dksX2_stands_3 2 rfl rfl)
theorem dX2_stands_76 : decode cX2_stands 76 = .ok (.goto (-21), 3) := dk_167 255 235 (dk_at dksX2_stands_3 5 rfl rfl)
theorem dX2_stands_79 : decode cX2_stands 79 = .ok (.aload_n 0, 1) := dk_42 (dk_at dksX2_stands_3 8 rfl rfl)
theorem dX2_stands_80 : decode cX2_stands 80 = .ok (.iconst 0, 1) := dk_3 (dk_at dksX2_stands_3 9 rfl rfl)
theorem dX2_stands_81 : decode cX2_stands 81 = .ok (.putfield 253, 3) := dk_181 0 253 (dk_at dksX2_stands_3 10 rfl rfl)
theorem dX2_stands_84 : decode cX2_stands 84 = .ok (.return_, 1) := dk_177 (dk_at dksX2_stands_3 13 rfl rfl)
abbrev cX2_feed : ByteArray := prog_12_method_5_code
def yX2_feed : MethodName := ⟨RX2, "feed", "(IIIII)I"⟩
def dkwX2_feed_2 : List UInt8 := [172]
abbrev dktX2_feed_2 : List UInt8 := dkwX2_feed_2 ++ []
def dkwX2_feed_1 : List UInt8 := [182, 0, 89, 42, 29, 182, 0, 89, 42, 21, 4, 182, 0, 89, 42, 21, 5, 182, 0, 89, 42, 180, 0, 86]
abbrev dktX2_feed_1 : List UInt8 := dkwX2_feed_1 ++ dktX2_feed_2
def dkwX2_feed_0 : List UInt8 := [42, 180, 0, 86, 16, 20, 96, 17, 4, 176, 164, 0, 5, 2, 172, 42, 27, 182, 0, 89, 42, 28]
abbrev dktX2_feed_0 : List UInt8 := dkwX2_feed_0 ++ dktX2_feed_1
theorem dksX2_feed_0 : cX2_feed.data.toList.drop 0 = dktX2_feed_0 := by decide +kernel
theorem dksX2_feed_1 : cX2_feed.data.toList.drop 22 = dktX2_feed_1 := dk_seg dksX2_feed_0 22 rfl rfl
theorem dksX2_feed_2 : cX2_feed.data.toList.drop 46 = dktX2_feed_2 := dk_seg dksX2_feed_1 24 rfl rfl
theorem dX2_feed_0 : decode cX2_feed 0 = .ok (.aload_n 0, 1) := dk_42 (dk_at dksX2_feed_0 0 rfl rfl)
theorem dX2_feed_1 : decode cX2_feed 1 = .ok (.getfield 86, 3) := dk_180 0 86 (dk_at dksX2_feed_0 1 rfl rfl)
theorem dX2_feed_4 : decode cX2_feed 4 = .ok (.bipush 20, 2) := dk_16 20 (dk_at dksX2_feed_0 4 rfl rfl)
theorem dX2_feed_6 : decode cX2_feed 6 = .ok (.iadd, 1) := dk_96 (dk_at dksX2_feed_0 6 rfl rfl)
theorem dX2_feed_7 : decode cX2_feed 7 = .ok (.sipush 1200, 3) := dk_17 4 176 (dk_at dksX2_feed_0 7 rfl rfl)
theorem dX2_feed_10 : decode cX2_feed 10 = .ok (.if_icmp .le 5, 3) := dk_164 0 5 (dk_at dksX2_feed_0 10 rfl rfl)
theorem dX2_feed_13 : decode cX2_feed 13 = .ok (.iconst (-1), 1) := dk_2 (dk_at dksX2_feed_0 13 rfl rfl)
theorem dX2_feed_14 : decode cX2_feed 14 = .ok (.ireturn, 1) := dk_172 (dk_at dksX2_feed_0 14 rfl rfl)
theorem dX2_feed_15 : decode cX2_feed 15 = .ok (.aload_n 0, 1) := dk_42 (dk_at dksX2_feed_0 15 rfl rfl)
theorem dX2_feed_16 : decode cX2_feed 16 = .ok (.iload_n 1, 1) := dk_27 (dk_at dksX2_feed_0 16 rfl rfl)
theorem dX2_feed_17 : decode cX2_feed 17 = .ok (.invokevirtual 89, 3) := dk_182 0 89 (dk_at dksX2_feed_0 17 rfl rfl)
theorem dX2_feed_20 : decode cX2_feed 20 = .ok (.aload_n 0, 1) := dk_42 (dk_at dksX2_feed_0 20 rfl rfl)
theorem dX2_feed_21 : decode cX2_feed 21 = .ok (.iload_n 2, 1) := dk_28 (dk_at dksX2_feed_0 21 rfl rfl)
theorem dX2_feed_22 : decode cX2_feed 22 = .ok (.invokevirtual 89, 3) := dk_182 0 89 (dk_at dksX2_feed_1 0 rfl rfl)
theorem dX2_feed_25 : decode cX2_feed 25 = .ok (.aload_n 0, 1) := dk_42 (dk_at dksX2_feed_1 3 rfl rfl)
theorem dX2_feed_26 : decode cX2_feed 26 = .ok (.iload_n 3, 1) := dk_29 (dk_at dksX2_feed_1 4 rfl rfl)
theorem dX2_feed_27 : decode cX2_feed 27 = .ok (.invokevirtual 89, 3) := dk_182 0 89 (dk_at dksX2_feed_1 5 rfl rfl)
theorem dX2_feed_30 : decode cX2_feed 30 = .ok (.aload_n 0, 1) := dk_42 (dk_at dksX2_feed_1 8 rfl rfl)
theorem dX2_feed_31 : decode cX2_feed 31 = .ok (.iload 4, 2) := dk_21 4 (dk_at dksX2_feed_1 9 rfl rfl)
theorem dX2_feed_33 : decode cX2_feed 33 = .ok (.invokevirtual 89, 3) := dk_182 0 89 (dk_at dksX2_feed_1 11 rfl rfl)
theorem dX2_feed_36 : decode cX2_feed 36 = .ok (.aload_n 0, 1) := dk_42 (dk_at dksX2_feed_1 14 rfl rfl)
theorem dX2_feed_37 : decode cX2_feed 37 = .ok (.iload 5, 2) := dk_21 5 (dk_at dksX2_feed_1 15 rfl rfl)
theorem dX2_feed_39 : decode cX2_feed 39 = .ok (.invokevirtual 89, 3) := dk_182 0 89 (dk_at dksX2_feed_1 17 rfl rfl)
theorem dX2_feed_42 : decode cX2_feed 42 = .ok (.aload_n 0, 1) := dk_42 (dk_at dksX2_feed_1 20 rfl rfl)
theorem dX2_feed_43 : decode cX2_feed 43 = .ok (.getfield 86, 3) := dk_180 0 86 (dk_at dksX2_feed_1 21 rfl rfl)
theorem dX2_feed_46 : decode cX2_feed 46 = .ok (.ireturn, 1) := dk_172 (dk_at dksX2_feed_2 0 rfl rfl)
abbrev cX2_four : ByteArray := prog_12_method_6_code
def yX2_four : MethodName := ⟨RX2, "four", "(I)V"⟩
def dkwX2_four_1 : List UInt8 := [79, 42, 42, 180, 0, 86, 4, 96, 181, 0, 86, 132, 2, 255, 167, 255, 220, 177]
abbrev dktX2_four_1 : List UInt8 := dkwX2_four_1 ++ []
def dkwX2_four_0 : List UInt8 := [6, 61, 28, 155, 0, 38, 42, 180, 0, 32, 42, 180, 0, 86, 27, 16, 8, 28, 104, 122, 17, 0, 255, 126]
abbrev dktX2_four_0 : List UInt8 := dkwX2_four_0 ++ dktX2_four_1
theorem dksX2_four_0 : cX2_four.data.toList.drop 0 = dktX2_four_0 := by decide +kernel
theorem dksX2_four_1 : cX2_four.data.toList.drop 24 = dktX2_four_1 := dk_seg dksX2_four_0 24 rfl rfl
theorem dX2_four_0 : decode cX2_four 0 = .ok (.iconst 3, 1) := dk_6 (dk_at dksX2_four_0 0 rfl rfl)
theorem dX2_four_1 : decode cX2_four 1 = .ok (.istore_n 2, 1) := dk_61 (dk_at dksX2_four_0 1 rfl rfl)
theorem dX2_four_2 : decode cX2_four 2 = .ok (.iload_n 2, 1) := dk_28 (dk_at dksX2_four_0 2 rfl rfl)
theorem dX2_four_3 : decode cX2_four 3 = .ok (.ifCond .lt 38, 3) := dk_155 0 38 (dk_at dksX2_four_0 3 rfl rfl)
theorem dX2_four_6 : decode cX2_four 6 = .ok (.aload_n 0, 1) := dk_42 (dk_at dksX2_four_0 6 rfl rfl)
theorem dX2_four_7 : decode cX2_four 7 = .ok (.getfield 32, 3) := dk_180 0 32 (dk_at dksX2_four_0 7 rfl rfl)
theorem dX2_four_10 : decode cX2_four 10 = .ok (.aload_n 0, 1) := dk_42 (dk_at dksX2_four_0 10 rfl rfl)
theorem dX2_four_11 : decode cX2_four 11 = .ok (.getfield 86, 3) := dk_180 0 86 (dk_at dksX2_four_0 11 rfl rfl)
theorem dX2_four_14 : decode cX2_four 14 = .ok (.iload_n 1, 1) := dk_27 (dk_at dksX2_four_0 14 rfl rfl)
theorem dX2_four_15 : decode cX2_four 15 = .ok (.bipush 8, 2) := dk_16 8 (dk_at dksX2_four_0 15 rfl rfl)
theorem dX2_four_17 : decode cX2_four 17 = .ok (.iload_n 2, 1) := dk_28 (dk_at dksX2_four_0 17 rfl rfl)
theorem dX2_four_18 : decode cX2_four 18 = .ok (.imul, 1) := dk_104 (dk_at dksX2_four_0 18 rfl rfl)
theorem dX2_four_19 : decode cX2_four 19 = .ok (.ishr, 1) := dk_122 (dk_at dksX2_four_0 19 rfl rfl)
theorem dX2_four_20 : decode cX2_four 20 = .ok (.sipush 255, 3) := dk_17 0 255 (dk_at dksX2_four_0 20 rfl rfl)
theorem dX2_four_23 : decode cX2_four 23 = .ok (.iand, 1) := dk_126 (dk_at dksX2_four_0 23 rfl rfl)
theorem dX2_four_24 : decode cX2_four 24 = .ok (.iastore, 1) := dk_79 (dk_at dksX2_four_1 0 rfl rfl)
theorem dX2_four_25 : decode cX2_four 25 = .ok (.aload_n 0, 1) := dk_42 (dk_at dksX2_four_1 1 rfl rfl)
theorem dX2_four_26 : decode cX2_four 26 = .ok (.aload_n 0, 1) := dk_42 (dk_at dksX2_four_1 2 rfl rfl)
theorem dX2_four_27 : decode cX2_four 27 = .ok (.getfield 86, 3) := dk_180 0 86 (dk_at dksX2_four_1 3 rfl rfl)
theorem dX2_four_30 : decode cX2_four 30 = .ok (.iconst 1, 1) := dk_4 (dk_at dksX2_four_1 6 rfl rfl)
theorem dX2_four_31 : decode cX2_four 31 = .ok (.iadd, 1) := dk_96 (dk_at dksX2_four_1 7 rfl rfl)
theorem dX2_four_32 : decode cX2_four 32 = .ok (.putfield 86, 3) := dk_181 0 86 (dk_at dksX2_four_1 8 rfl rfl)
theorem dX2_four_35 : decode cX2_four 35 = .ok (.iinc 2 (-1), 3) := dk_132 2 255 (dk_at dksX2_four_1 11 rfl rfl)
theorem dX2_four_38 : decode cX2_four 38 = .ok (.goto (-36), 3) := dk_167 255 220 (dk_at dksX2_four_1 14 rfl rfl)
theorem dX2_four_41 : decode cX2_four 41 = .ok (.return_, 1) := dk_177 (dk_at dksX2_four_1 17 rfl rfl)
abbrev cX2_text : ByteArray := prog_12_method_36_code
def yX2_text : MethodName := ⟨RX2, "text", "(I)I"⟩
def dkwX2_text_4 : List UInt8 := [158, 0, 5, 2, 172, 42, 182, 0, 79, 42, 180, 0, 22, 7, 46, 172]
abbrev dktX2_text_4 : List UInt8 := dkwX2_text_4 ++ []
def dkwX2_text_3 : List UInt8 := [167, 255, 237, 42, 42, 180, 0, 137, 181, 0, 250, 42, 42, 180, 0, 140, 181, 0, 35, 42, 180, 0, 137]
abbrev dktX2_text_3 : List UInt8 := dkwX2_text_3 ++ dktX2_text_4
def dkwX2_text_2 : List UInt8 := [182, 0, 150, 42, 180, 0, 137, 154, 0, 18, 42, 180, 0, 110, 7, 159, 0, 10, 42, 182, 0, 247]
abbrev dktX2_text_2 : List UInt8 := dkwX2_text_2 ++ dktX2_text_3
def dkwX2_text_1 : List UInt8 := [181, 0, 86, 42, 3, 181, 0, 100, 42, 3, 181, 0, 137, 42, 2, 181, 0, 140, 42, 182, 0, 76, 42]
abbrev dktX2_text_1 : List UInt8 := dkwX2_text_1 ++ dktX2_text_2
def dkwX2_text_0 : List UInt8 := [27, 155, 0, 11, 27, 42, 180, 0, 86, 164, 0, 6, 16, 254, 172, 42, 27, 181, 0, 97, 42, 3]
abbrev dktX2_text_0 : List UInt8 := dkwX2_text_0 ++ dktX2_text_1
theorem dksX2_text_0 : cX2_text.data.toList.drop 0 = dktX2_text_0 := by decide +kernel
theorem dksX2_text_1 : cX2_text.data.toList.drop 22 = dktX2_text_1 := dk_seg dksX2_text_0 22 rfl rfl
theorem dksX2_text_2 : cX2_text.data.toList.drop 45 = dktX2_text_2 := dk_seg dksX2_text_1 23 rfl rfl
theorem dksX2_text_3 : cX2_text.data.toList.drop 67 = dktX2_text_3 := dk_seg dksX2_text_2 22 rfl rfl
theorem dksX2_text_4 : cX2_text.data.toList.drop 90 = dktX2_text_4 := dk_seg dksX2_text_3 23 rfl rfl
theorem dX2_text_0 : decode cX2_text 0 = .ok (.iload_n 1, 1) := dk_27 (dk_at dksX2_text_0 0 rfl rfl)
theorem dX2_text_1 : decode cX2_text 1 = .ok (.ifCond .lt 11, 3) := dk_155 0 11 (dk_at dksX2_text_0 1 rfl rfl)
theorem dX2_text_4 : decode cX2_text 4 = .ok (.iload_n 1, 1) := dk_27 (dk_at dksX2_text_0 4 rfl rfl)
theorem dX2_text_5 : decode cX2_text 5 = .ok (.aload_n 0, 1) := dk_42 (dk_at dksX2_text_0 5 rfl rfl)
theorem dX2_text_6 : decode cX2_text 6 = .ok (.getfield 86, 3) := dk_180 0 86 (dk_at dksX2_text_0 6 rfl rfl)
theorem dX2_text_9 : decode cX2_text 9 = .ok (.if_icmp .le 6, 3) := dk_164 0 6 (dk_at dksX2_text_0 9 rfl rfl)
theorem dX2_text_12 : decode cX2_text 12 = .ok (.bipush (-2), 2) := dk_16 254 (dk_at dksX2_text_0 12 rfl rfl)
theorem dX2_text_14 : decode cX2_text 14 = .ok (.ireturn, 1) := dk_172 (dk_at dksX2_text_0 14 rfl rfl)
theorem dX2_text_15 : decode cX2_text 15 = .ok (.aload_n 0, 1) := dk_42 (dk_at dksX2_text_0 15 rfl rfl)
theorem dX2_text_16 : decode cX2_text 16 = .ok (.iload_n 1, 1) := dk_27 (dk_at dksX2_text_0 16 rfl rfl)
theorem dX2_text_17 : decode cX2_text 17 = .ok (.putfield 97, 3) := dk_181 0 97 (dk_at dksX2_text_0 17 rfl rfl)
theorem dX2_text_20 : decode cX2_text 20 = .ok (.aload_n 0, 1) := dk_42 (dk_at dksX2_text_0 20 rfl rfl)
theorem dX2_text_21 : decode cX2_text 21 = .ok (.iconst 0, 1) := dk_3 (dk_at dksX2_text_0 21 rfl rfl)
theorem dX2_text_22 : decode cX2_text 22 = .ok (.putfield 86, 3) := dk_181 0 86 (dk_at dksX2_text_1 0 rfl rfl)
theorem dX2_text_25 : decode cX2_text 25 = .ok (.aload_n 0, 1) := dk_42 (dk_at dksX2_text_1 3 rfl rfl)
theorem dX2_text_26 : decode cX2_text 26 = .ok (.iconst 0, 1) := dk_3 (dk_at dksX2_text_1 4 rfl rfl)
theorem dX2_text_27 : decode cX2_text 27 = .ok (.putfield 100, 3) := dk_181 0 100 (dk_at dksX2_text_1 5 rfl rfl)
theorem dX2_text_30 : decode cX2_text 30 = .ok (.aload_n 0, 1) := dk_42 (dk_at dksX2_text_1 8 rfl rfl)
theorem dX2_text_31 : decode cX2_text 31 = .ok (.iconst 0, 1) := dk_3 (dk_at dksX2_text_1 9 rfl rfl)
theorem dX2_text_32 : decode cX2_text 32 = .ok (.putfield 137, 3) := dk_181 0 137 (dk_at dksX2_text_1 10 rfl rfl)
theorem dX2_text_35 : decode cX2_text 35 = .ok (.aload_n 0, 1) := dk_42 (dk_at dksX2_text_1 13 rfl rfl)
theorem dX2_text_36 : decode cX2_text 36 = .ok (.iconst (-1), 1) := dk_2 (dk_at dksX2_text_1 14 rfl rfl)
theorem dX2_text_37 : decode cX2_text 37 = .ok (.putfield 140, 3) := dk_181 0 140 (dk_at dksX2_text_1 15 rfl rfl)
theorem dX2_text_40 : decode cX2_text 40 = .ok (.aload_n 0, 1) := dk_42 (dk_at dksX2_text_1 18 rfl rfl)
theorem dX2_text_41 : decode cX2_text 41 = .ok (.invokevirtual 76, 3) := dk_182 0 76 (dk_at dksX2_text_1 19 rfl rfl)
theorem dX2_text_44 : decode cX2_text 44 = .ok (.aload_n 0, 1) := dk_42 (dk_at dksX2_text_1 22 rfl rfl)
theorem dX2_text_45 : decode cX2_text 45 = .ok (.invokevirtual 150, 3) := dk_182 0 150 (dk_at dksX2_text_2 0 rfl rfl)
theorem dX2_text_48 : decode cX2_text 48 = .ok (.aload_n 0, 1) := dk_42 (dk_at dksX2_text_2 3 rfl rfl)
theorem dX2_text_49 : decode cX2_text 49 = .ok (.getfield 137, 3) := dk_180 0 137 (dk_at dksX2_text_2 4 rfl rfl)
theorem dX2_text_52 : decode cX2_text 52 = .ok (.ifCond .ne 18, 3) := dk_154 0 18 (dk_at dksX2_text_2 7 rfl rfl)
theorem dX2_text_55 : decode cX2_text 55 = .ok (.aload_n 0, 1) := dk_42 (dk_at dksX2_text_2 10 rfl rfl)
theorem dX2_text_56 : decode cX2_text 56 = .ok (.getfield 110, 3) := dk_180 0 110 (dk_at dksX2_text_2 11 rfl rfl)
theorem dX2_text_59 : decode cX2_text 59 = .ok (.iconst 4, 1) := dk_7 (dk_at dksX2_text_2 14 rfl rfl)
theorem dX2_text_60 : decode cX2_text 60 = .ok (.if_icmp .eq 10, 3) := dk_159 0 10 (dk_at dksX2_text_2 15 rfl rfl)
theorem dX2_text_63 : decode cX2_text 63 = .ok (.aload_n 0, 1) := dk_42 (dk_at dksX2_text_2 18 rfl rfl)
theorem dX2_text_64 : decode cX2_text 64 = .ok (.invokevirtual 247, 3) := dk_182 0 247 (dk_at dksX2_text_2 19 rfl rfl)
theorem dX2_text_67 : decode cX2_text 67 = .ok (.goto (-19), 3) := dk_167 255 237 (dk_at dksX2_text_3 0 rfl rfl)
theorem dX2_text_70 : decode cX2_text 70 = .ok (.aload_n 0, 1) := dk_42 (dk_at dksX2_text_3 3 rfl rfl)
theorem dX2_text_71 : decode cX2_text 71 = .ok (.aload_n 0, 1) := dk_42 (dk_at dksX2_text_3 4 rfl rfl)
theorem dX2_text_72 : decode cX2_text 72 = .ok (.getfield 137, 3) := dk_180 0 137 (dk_at dksX2_text_3 5 rfl rfl)
theorem dX2_text_75 : decode cX2_text 75 = .ok (.putfield 250, 3) := dk_181 0 250 (dk_at dksX2_text_3 8 rfl rfl)
theorem dX2_text_78 : decode cX2_text 78 = .ok (.aload_n 0, 1) := dk_42 (dk_at dksX2_text_3 11 rfl rfl)
theorem dX2_text_79 : decode cX2_text 79 = .ok (.aload_n 0, 1) := dk_42 (dk_at dksX2_text_3 12 rfl rfl)
theorem dX2_text_80 : decode cX2_text 80 = .ok (.getfield 140, 3) := dk_180 0 140 (dk_at dksX2_text_3 13 rfl rfl)
theorem dX2_text_83 : decode cX2_text 83 = .ok (.putfield 35, 3) := dk_181 0 35 (dk_at dksX2_text_3 16 rfl rfl)
theorem dX2_text_86 : decode cX2_text 86 = .ok (.aload_n 0, 1) := dk_42 (dk_at dksX2_text_3 19 rfl rfl)
theorem dX2_text_87 : decode cX2_text 87 = .ok (.getfield 137, 3) := dk_180 0 137 (dk_at dksX2_text_3 20 rfl rfl)
theorem dX2_text_90 : decode cX2_text 90 = .ok (.ifCond .le 5, 3) := dk_158 0 5 (dk_at dksX2_text_4 0 rfl rfl)
theorem dX2_text_93 : decode cX2_text 93 = .ok (.iconst (-1), 1) := dk_2 (dk_at dksX2_text_4 3 rfl rfl)
theorem dX2_text_94 : decode cX2_text 94 = .ok (.ireturn, 1) := dk_172 (dk_at dksX2_text_4 4 rfl rfl)
theorem dX2_text_95 : decode cX2_text 95 = .ok (.aload_n 0, 1) := dk_42 (dk_at dksX2_text_4 5 rfl rfl)
theorem dX2_text_96 : decode cX2_text 96 = .ok (.invokevirtual 79, 3) := dk_182 0 79 (dk_at dksX2_text_4 6 rfl rfl)
theorem dX2_text_99 : decode cX2_text 99 = .ok (.aload_n 0, 1) := dk_42 (dk_at dksX2_text_4 9 rfl rfl)
theorem dX2_text_100 : decode cX2_text 100 = .ok (.getfield 22, 3) := dk_180 0 22 (dk_at dksX2_text_4 10 rfl rfl)
theorem dX2_text_103 : decode cX2_text 103 = .ok (.iconst 4, 1) := dk_7 (dk_at dksX2_text_4 13 rfl rfl)
theorem dX2_text_104 : decode cX2_text 104 = .ok (.iaload, 1) := dk_46 (dk_at dksX2_text_4 14 rfl rfl)
theorem dX2_text_105 : decode cX2_text 105 = .ok (.ireturn, 1) := dk_172 (dk_at dksX2_text_4 15 rfl rfl)
abbrev cX2_goOn : ByteArray := prog_12_method_10_code
def yX2_goOn : MethodName := ⟨RX2, "goOn", "()V"⟩
def dkwX2_goOn_5 : List UInt8 := [8, 181, 0, 110, 177]
abbrev dktX2_goOn_5 : List UInt8 := dkwX2_goOn_5 ++ []
def dkwX2_goOn_4 : List UInt8 := [167, 0, 28, 42, 42, 180, 0, 100, 4, 96, 181, 0, 100, 42, 27, 16, 59, 160, 0, 7, 6, 167, 0, 4]
abbrev dktX2_goOn_4 : List UInt8 := dkwX2_goOn_4 ++ dktX2_goOn_5
def dkwX2_goOn_3 : List UInt8 := [184, 0, 113, 153, 0, 10, 42, 182, 0, 117, 167, 0, 42, 27, 184, 0, 120, 153, 0, 10, 42, 182, 0, 123]
abbrev dktX2_goOn_3 : List UInt8 := dkwX2_goOn_3 ++ dktX2_goOn_4
def dkwX2_goOn_2 : List UInt8 := [42, 42, 180, 0, 100, 182, 0, 103, 60, 27, 2, 160, 0, 11, 42, 7, 181, 0, 110, 167, 0, 56, 27]
abbrev dktX2_goOn_2 : List UInt8 := dkwX2_goOn_2 ++ dktX2_goOn_3
def dkwX2_goOn_1 : List UInt8 := [160, 0, 16, 42, 42, 180, 0, 100, 4, 96, 181, 0, 100, 167, 255, 220, 42, 42, 180, 0, 100, 181, 0, 107]
abbrev dktX2_goOn_1 : List UInt8 := dkwX2_goOn_1 ++ dktX2_goOn_2
def dkwX2_goOn_0 : List UInt8 := [42, 42, 180, 0, 100, 182, 0, 103, 16, 32, 159, 0, 16, 42, 42, 180, 0, 100, 182, 0, 103, 16, 10]
abbrev dktX2_goOn_0 : List UInt8 := dkwX2_goOn_0 ++ dktX2_goOn_1
theorem dksX2_goOn_0 : cX2_goOn.data.toList.drop 0 = dktX2_goOn_0 := by decide +kernel
theorem dksX2_goOn_1 : cX2_goOn.data.toList.drop 23 = dktX2_goOn_1 := dk_seg dksX2_goOn_0 23 rfl rfl
theorem dksX2_goOn_2 : cX2_goOn.data.toList.drop 47 = dktX2_goOn_2 := dk_seg dksX2_goOn_1 24 rfl rfl
theorem dksX2_goOn_3 : cX2_goOn.data.toList.drop 70 = dktX2_goOn_3 := dk_seg dksX2_goOn_2 23 rfl rfl
theorem dksX2_goOn_4 : cX2_goOn.data.toList.drop 94 = dktX2_goOn_4 := dk_seg dksX2_goOn_3 24 rfl rfl
theorem dksX2_goOn_5 : cX2_goOn.data.toList.drop 118 = dktX2_goOn_5 := dk_seg dksX2_goOn_4 24 rfl rfl
theorem dX2_goOn_0 : decode cX2_goOn 0 = .ok (.aload_n 0, 1) := dk_42 (dk_at dksX2_goOn_0 0 rfl rfl)
theorem dX2_goOn_1 : decode cX2_goOn 1 = .ok (.aload_n 0, 1) := dk_42 (dk_at dksX2_goOn_0 1 rfl rfl)
theorem dX2_goOn_2 : decode cX2_goOn 2 = .ok (.getfield 100, 3) := dk_180 0 100 (dk_at dksX2_goOn_0 2 rfl rfl)
theorem dX2_goOn_5 : decode cX2_goOn 5 = .ok (.invokevirtual 103, 3) := dk_182 0 103 (dk_at dksX2_goOn_0 5 rfl rfl)
theorem dX2_goOn_8 : decode cX2_goOn 8 = .ok (.bipush 32, 2) := dk_16 32 (dk_at dksX2_goOn_0 8 rfl rfl)
theorem dX2_goOn_10 : decode cX2_goOn 10 = .ok (.if_icmp .eq 16, 3) := dk_159 0 16 (dk_at dksX2_goOn_0 10 rfl rfl)
theorem dX2_goOn_13 : decode cX2_goOn 13 = .ok (.aload_n 0, 1) := dk_42 (dk_at dksX2_goOn_0 13 rfl rfl)
theorem dX2_goOn_14 : decode cX2_goOn 14 = .ok (.aload_n 0, 1) := dk_42 (dk_at dksX2_goOn_0 14 rfl rfl)
theorem dX2_goOn_15 : decode cX2_goOn 15 = .ok (.getfield 100, 3) := dk_180 0 100 (dk_at dksX2_goOn_0 15 rfl rfl)
theorem dX2_goOn_18 : decode cX2_goOn 18 = .ok (.invokevirtual 103, 3) := dk_182 0 103 (dk_at dksX2_goOn_0 18 rfl rfl)
theorem dX2_goOn_21 : decode cX2_goOn 21 = .ok (.bipush 10, 2) := dk_16 10 (dk_at dksX2_goOn_0 21 rfl rfl)
theorem dX2_goOn_23 : decode cX2_goOn 23 = .ok (.if_icmp .ne 16, 3) := dk_160 0 16 (dk_at dksX2_goOn_1 0 rfl rfl)
theorem dX2_goOn_26 : decode cX2_goOn 26 = .ok (.aload_n 0, 1) := dk_42 (dk_at dksX2_goOn_1 3 rfl rfl)
theorem dX2_goOn_27 : decode cX2_goOn 27 = .ok (.aload_n 0, 1) := dk_42 (dk_at dksX2_goOn_1 4 rfl rfl)
theorem dX2_goOn_28 : decode cX2_goOn 28 = .ok (.getfield 100, 3) := dk_180 0 100 (dk_at dksX2_goOn_1 5 rfl rfl)
theorem dX2_goOn_31 : decode cX2_goOn 31 = .ok (.iconst 1, 1) := dk_4 (dk_at dksX2_goOn_1 8 rfl rfl)
theorem dX2_goOn_32 : decode cX2_goOn 32 = .ok (.iadd, 1) := dk_96 (dk_at dksX2_goOn_1 9 rfl rfl)
theorem dX2_goOn_33 : decode cX2_goOn 33 = .ok (.putfield 100, 3) := dk_181 0 100 (dk_at dksX2_goOn_1 10 rfl rfl)
theorem dX2_goOn_36 : decode cX2_goOn 36 = .ok (.goto (-36), 3) := dk_167 255 220 (dk_at dksX2_goOn_1 13 rfl rfl)
theorem dX2_goOn_39 : decode cX2_goOn 39 = .ok (.aload_n 0, 1) := dk_42 (dk_at dksX2_goOn_1 16 rfl rfl)
theorem dX2_goOn_40 : decode cX2_goOn 40 = .ok (.aload_n 0, 1) := dk_42 (dk_at dksX2_goOn_1 17 rfl rfl)
theorem dX2_goOn_41 : decode cX2_goOn 41 = .ok (.getfield 100, 3) := dk_180 0 100 (dk_at dksX2_goOn_1 18 rfl rfl)
theorem dX2_goOn_44 : decode cX2_goOn 44 = .ok (.putfield 107, 3) := dk_181 0 107 (dk_at dksX2_goOn_1 21 rfl rfl)
theorem dX2_goOn_47 : decode cX2_goOn 47 = .ok (.aload_n 0, 1) := dk_42 (dk_at dksX2_goOn_2 0 rfl rfl)
theorem dX2_goOn_48 : decode cX2_goOn 48 = .ok (.aload_n 0, 1) := dk_42 (dk_at dksX2_goOn_2 1 rfl rfl)
theorem dX2_goOn_49 : decode cX2_goOn 49 = .ok (.getfield 100, 3) := dk_180 0 100 (dk_at dksX2_goOn_2 2 rfl rfl)
theorem dX2_goOn_52 : decode cX2_goOn 52 = .ok (.invokevirtual 103, 3) := dk_182 0 103 (dk_at dksX2_goOn_2 5 rfl rfl)
theorem dX2_goOn_55 : decode cX2_goOn 55 = .ok (.istore_n 1, 1) := dk_60 (dk_at dksX2_goOn_2 8 rfl rfl)
theorem dX2_goOn_56 : decode cX2_goOn 56 = .ok (.iload_n 1, 1) := dk_27 (dk_at dksX2_goOn_2 9 rfl rfl)
theorem dX2_goOn_57 : decode cX2_goOn 57 = .ok (.iconst (-1), 1) := dk_2 (dk_at dksX2_goOn_2 10 rfl rfl)
theorem dX2_goOn_58 : decode cX2_goOn 58 = .ok (.if_icmp .ne 11, 3) := dk_160 0 11 (dk_at dksX2_goOn_2 11 rfl rfl)
theorem dX2_goOn_61 : decode cX2_goOn 61 = .ok (.aload_n 0, 1) := dk_42 (dk_at dksX2_goOn_2 14 rfl rfl)
theorem dX2_goOn_62 : decode cX2_goOn 62 = .ok (.iconst 4, 1) := dk_7 (dk_at dksX2_goOn_2 15 rfl rfl)
theorem dX2_goOn_63 : decode cX2_goOn 63 = .ok (.putfield 110, 3) := dk_181 0 110 (dk_at dksX2_goOn_2 16 rfl rfl)
theorem dX2_goOn_66 : decode cX2_goOn 66 = .ok (.goto 56, 3) := dk_167 0 56 (dk_at dksX2_goOn_2 19 rfl rfl)
theorem dX2_goOn_69 : decode cX2_goOn 69 = .ok (.iload_n 1, 1) := dk_27 (dk_at dksX2_goOn_2 22 rfl rfl)
theorem dX2_goOn_70 : decode cX2_goOn 70 = .ok (.invokestatic 113, 3) := dk_184 0 113 (dk_at dksX2_goOn_3 0 rfl rfl)
theorem dX2_goOn_73 : decode cX2_goOn 73 = .ok (.ifCond .eq 10, 3) := dk_153 0 10 (dk_at dksX2_goOn_3 3 rfl rfl)
theorem dX2_goOn_76 : decode cX2_goOn 76 = .ok (.aload_n 0, 1) := dk_42 (dk_at dksX2_goOn_3 6 rfl rfl)
theorem dX2_goOn_77 : decode cX2_goOn 77 = .ok (.invokevirtual 117, 3) := dk_182 0 117 (dk_at dksX2_goOn_3 7 rfl rfl)
theorem dX2_goOn_80 : decode cX2_goOn 80 = .ok (.goto 42, 3) := dk_167 0 42 (dk_at dksX2_goOn_3 10 rfl rfl)
theorem dX2_goOn_83 : decode cX2_goOn 83 = .ok (.iload_n 1, 1) := dk_27 (dk_at dksX2_goOn_3 13 rfl rfl)
theorem dX2_goOn_84 : decode cX2_goOn 84 = .ok (.invokestatic 120, 3) := dk_184 0 120 (dk_at dksX2_goOn_3 14 rfl rfl)
theorem dX2_goOn_87 : decode cX2_goOn 87 = .ok (.ifCond .eq 10, 3) := dk_153 0 10 (dk_at dksX2_goOn_3 17 rfl rfl)
theorem dX2_goOn_90 : decode cX2_goOn 90 = .ok (.aload_n 0, 1) := dk_42 (dk_at dksX2_goOn_3 20 rfl rfl)
theorem dX2_goOn_91 : decode cX2_goOn 91 = .ok (.invokevirtual 123, 3) := dk_182 0 123 (dk_at dksX2_goOn_3 21 rfl rfl)
theorem dX2_goOn_94 : decode cX2_goOn 94 = .ok (.goto 28, 3) := dk_167 0 28 (dk_at dksX2_goOn_4 0 rfl rfl)
theorem dX2_goOn_97 : decode cX2_goOn 97 = .ok (.aload_n 0, 1) := dk_42 (dk_at dksX2_goOn_4 3 rfl rfl)
theorem dX2_goOn_98 : decode cX2_goOn 98 = .ok (.aload_n 0, 1) := dk_42 (dk_at dksX2_goOn_4 4 rfl rfl)
theorem dX2_goOn_99 : decode cX2_goOn 99 = .ok (.getfield 100, 3) := dk_180 0 100 (dk_at dksX2_goOn_4 5 rfl rfl)
theorem dX2_goOn_102 : decode cX2_goOn 102 = .ok (.iconst 1, 1) := dk_4 (dk_at dksX2_goOn_4 8 rfl rfl)
theorem dX2_goOn_103 : decode cX2_goOn 103 = .ok (.iadd, 1) := dk_96 (dk_at dksX2_goOn_4 9 rfl rfl)
theorem dX2_goOn_104 : decode cX2_goOn 104 = .ok (.putfield 100, 3) := dk_181 0 100 (dk_at dksX2_goOn_4 10 rfl rfl)
theorem dX2_goOn_107 : decode cX2_goOn 107 = .ok (.aload_n 0, 1) := dk_42 (dk_at dksX2_goOn_4 13 rfl rfl)
theorem dX2_goOn_108 : decode cX2_goOn 108 = .ok (.iload_n 1, 1) := dk_27 (dk_at dksX2_goOn_4 14 rfl rfl)
theorem dX2_goOn_109 : decode cX2_goOn 109 = .ok (.bipush 59, 2) := dk_16 59 (dk_at dksX2_goOn_4 15 rfl rfl)
theorem dX2_goOn_111 : decode cX2_goOn 111 = .ok (.if_icmp .ne 7, 3) := dk_160 0 7 (dk_at dksX2_goOn_4 17 rfl rfl)
theorem dX2_goOn_114 : decode cX2_goOn 114 = .ok (.iconst 3, 1) := dk_6 (dk_at dksX2_goOn_4 20 rfl rfl)
theorem dX2_goOn_115 : decode cX2_goOn 115 = .ok (.goto 4, 3) := dk_167 0 4 (dk_at dksX2_goOn_4 21 rfl rfl)
theorem dX2_goOn_118 : decode cX2_goOn 118 = .ok (.iconst 5, 1) := dk_8 (dk_at dksX2_goOn_5 0 rfl rfl)
theorem dX2_goOn_119 : decode cX2_goOn 119 = .ok (.putfield 110, 3) := dk_181 0 110 (dk_at dksX2_goOn_5 1 rfl rfl)
theorem dX2_goOn_122 : decode cX2_goOn 122 = .ok (.return_, 1) := dk_177 (dk_at dksX2_goOn_5 4 rfl rfl)
abbrev cX2_byteAt : ByteArray := prog_12_method_9_code
def yX2_byteAt : MethodName := ⟨RX2, "byteAt", "(I)I"⟩
def dkwX2_byteAt_0 : List UInt8 := [27, 155, 0, 20, 27, 42, 180, 0, 97, 162, 0, 12, 42, 180, 0, 32, 27, 46, 167, 0, 4, 2, 172]
abbrev dktX2_byteAt_0 : List UInt8 := dkwX2_byteAt_0 ++ []
theorem dksX2_byteAt_0 : cX2_byteAt.data.toList.drop 0 = dktX2_byteAt_0 := by decide +kernel
theorem dX2_byteAt_0 : decode cX2_byteAt 0 = .ok (.iload_n 1, 1) := dk_27 (dk_at dksX2_byteAt_0 0 rfl rfl)
theorem dX2_byteAt_1 : decode cX2_byteAt 1 = .ok (.ifCond .lt 20, 3) := dk_155 0 20 (dk_at dksX2_byteAt_0 1 rfl rfl)
theorem dX2_byteAt_4 : decode cX2_byteAt 4 = .ok (.iload_n 1, 1) := dk_27 (dk_at dksX2_byteAt_0 4 rfl rfl)
theorem dX2_byteAt_5 : decode cX2_byteAt 5 = .ok (.aload_n 0, 1) := dk_42 (dk_at dksX2_byteAt_0 5 rfl rfl)
theorem dX2_byteAt_6 : decode cX2_byteAt 6 = .ok (.getfield 97, 3) := dk_180 0 97 (dk_at dksX2_byteAt_0 6 rfl rfl)
theorem dX2_byteAt_9 : decode cX2_byteAt 9 = .ok (.if_icmp .ge 12, 3) := dk_162 0 12 (dk_at dksX2_byteAt_0 9 rfl rfl)
theorem dX2_byteAt_12 : decode cX2_byteAt 12 = .ok (.aload_n 0, 1) := dk_42 (dk_at dksX2_byteAt_0 12 rfl rfl)
theorem dX2_byteAt_13 : decode cX2_byteAt 13 = .ok (.getfield 32, 3) := dk_180 0 32 (dk_at dksX2_byteAt_0 13 rfl rfl)
theorem dX2_byteAt_16 : decode cX2_byteAt 16 = .ok (.iload_n 1, 1) := dk_27 (dk_at dksX2_byteAt_0 16 rfl rfl)
theorem dX2_byteAt_17 : decode cX2_byteAt 17 = .ok (.iaload, 1) := dk_46 (dk_at dksX2_byteAt_0 17 rfl rfl)
theorem dX2_byteAt_18 : decode cX2_byteAt 18 = .ok (.goto 4, 3) := dk_167 0 4 (dk_at dksX2_byteAt_0 18 rfl rfl)
theorem dX2_byteAt_21 : decode cX2_byteAt 21 = .ok (.iconst (-1), 1) := dk_2 (dk_at dksX2_byteAt_0 21 rfl rfl)
theorem dX2_byteAt_22 : decode cX2_byteAt 22 = .ok (.ireturn, 1) := dk_172 (dk_at dksX2_byteAt_0 22 rfl rfl)
abbrev cX2_isLetter : ByteArray := prog_12_method_7_code
def yX2_isLetter : MethodName := ⟨RX2, "isLetter", "(I)Z"⟩
def dkwX2_isLetter_0 : List UInt8 := [26, 16, 97, 16, 122, 184, 0, 93, 172]
abbrev dktX2_isLetter_0 : List UInt8 := dkwX2_isLetter_0 ++ []
theorem dksX2_isLetter_0 : cX2_isLetter.data.toList.drop 0 = dktX2_isLetter_0 := by decide +kernel
theorem dX2_isLetter_0 : decode cX2_isLetter 0 = .ok (.iload_n 0, 1) := dk_26 (dk_at dksX2_isLetter_0 0 rfl rfl)
theorem dX2_isLetter_1 : decode cX2_isLetter 1 = .ok (.bipush 97, 2) := dk_16 97 (dk_at dksX2_isLetter_0 1 rfl rfl)
theorem dX2_isLetter_3 : decode cX2_isLetter 3 = .ok (.bipush 122, 2) := dk_16 122 (dk_at dksX2_isLetter_0 3 rfl rfl)
theorem dX2_isLetter_5 : decode cX2_isLetter 5 = .ok (.invokestatic 93, 3) := dk_184 0 93 (dk_at dksX2_isLetter_0 5 rfl rfl)
theorem dX2_isLetter_8 : decode cX2_isLetter 8 = .ok (.ireturn, 1) := dk_172 (dk_at dksX2_isLetter_0 8 rfl rfl)
abbrev cX2_in : ByteArray := prog_12_method_2_code
def yX2_in : MethodName := ⟨RX2, "in", "(III)Z"⟩
def dkwX2_in_0 : List UInt8 := [26, 27, 161, 0, 12, 26, 28, 163, 0, 7, 4, 167, 0, 4, 3, 172]
abbrev dktX2_in_0 : List UInt8 := dkwX2_in_0 ++ []
theorem dksX2_in_0 : cX2_in.data.toList.drop 0 = dktX2_in_0 := by decide +kernel
theorem dX2_in_0 : decode cX2_in 0 = .ok (.iload_n 0, 1) := dk_26 (dk_at dksX2_in_0 0 rfl rfl)
theorem dX2_in_1 : decode cX2_in 1 = .ok (.iload_n 1, 1) := dk_27 (dk_at dksX2_in_0 1 rfl rfl)
theorem dX2_in_2 : decode cX2_in 2 = .ok (.if_icmp .lt 12, 3) := dk_161 0 12 (dk_at dksX2_in_0 2 rfl rfl)
theorem dX2_in_5 : decode cX2_in 5 = .ok (.iload_n 0, 1) := dk_26 (dk_at dksX2_in_0 5 rfl rfl)
theorem dX2_in_6 : decode cX2_in 6 = .ok (.iload_n 2, 1) := dk_28 (dk_at dksX2_in_0 6 rfl rfl)
theorem dX2_in_7 : decode cX2_in 7 = .ok (.if_icmp .gt 7, 3) := dk_163 0 7 (dk_at dksX2_in_0 7 rfl rfl)
theorem dX2_in_10 : decode cX2_in 10 = .ok (.iconst 1, 1) := dk_4 (dk_at dksX2_in_0 10 rfl rfl)
theorem dX2_in_11 : decode cX2_in 11 = .ok (.goto 4, 3) := dk_167 0 4 (dk_at dksX2_in_0 11 rfl rfl)
theorem dX2_in_14 : decode cX2_in 14 = .ok (.iconst 0, 1) := dk_3 (dk_at dksX2_in_0 14 rfl rfl)
theorem dX2_in_15 : decode cX2_in 15 = .ok (.ireturn, 1) := dk_172 (dk_at dksX2_in_0 15 rfl rfl)
abbrev cX2_letters : ByteArray := prog_12_method_11_code
def yX2_letters : MethodName := ⟨RX2, "letters", "()V"⟩
def dkwX2_letters_4 : List UInt8 := [164, 0, 7, 8, 167, 0, 4, 4, 181, 0, 110, 177]
abbrev dktX2_letters_4 : List UInt8 := dkwX2_letters_4 ++ []
def dkwX2_letters_3 : List UInt8 := [61, 42, 42, 180, 0, 100, 4, 96, 181, 0, 100, 167, 255, 196, 42, 27, 154, 0, 9, 28, 16, 6]
abbrev dktX2_letters_3 : List UInt8 := dkwX2_letters_3 ++ dktX2_letters_4
def dkwX2_letters_2 : List UInt8 := [180, 0, 126, 105, 42, 42, 180, 0, 100, 182, 0, 103, 133, 97, 20, 0, 132, 101, 181, 0, 126, 28, 4, 96]
abbrev dktX2_letters_2 : List UInt8 := dkwX2_letters_2 ++ dktX2_letters_3
def dkwX2_letters_1 : List UInt8 := [180, 0, 100, 182, 0, 103, 184, 0, 113, 153, 0, 52, 28, 16, 6, 162, 0, 29, 42, 20, 0, 130, 42]
abbrev dktX2_letters_1 : List UInt8 := dkwX2_letters_1 ++ dktX2_letters_2
def dkwX2_letters_0 : List UInt8 := [42, 42, 180, 0, 100, 4, 100, 182, 0, 103, 184, 0, 120, 60, 3, 61, 42, 9, 181, 0, 126, 42, 42]
abbrev dktX2_letters_0 : List UInt8 := dkwX2_letters_0 ++ dktX2_letters_1
theorem dksX2_letters_0 : cX2_letters.data.toList.drop 0 = dktX2_letters_0 := by decide +kernel
theorem dksX2_letters_1 : cX2_letters.data.toList.drop 23 = dktX2_letters_1 := dk_seg dksX2_letters_0 23 rfl rfl
theorem dksX2_letters_2 : cX2_letters.data.toList.drop 46 = dktX2_letters_2 := dk_seg dksX2_letters_1 23 rfl rfl
theorem dksX2_letters_3 : cX2_letters.data.toList.drop 70 = dktX2_letters_3 := dk_seg dksX2_letters_2 24 rfl rfl
theorem dksX2_letters_4 : cX2_letters.data.toList.drop 92 = dktX2_letters_4 := dk_seg dksX2_letters_3 22 rfl rfl
theorem dX2_letters_0 : decode cX2_letters 0 = .ok (.aload_n 0, 1) := dk_42 (dk_at dksX2_letters_0 0 rfl rfl)
theorem dX2_letters_1 : decode cX2_letters 1 = .ok (.aload_n 0, 1) := dk_42 (dk_at dksX2_letters_0 1 rfl rfl)
theorem dX2_letters_2 : decode cX2_letters 2 = .ok (.getfield 100, 3) := dk_180 0 100 (dk_at dksX2_letters_0 2 rfl rfl)
theorem dX2_letters_5 : decode cX2_letters 5 = .ok (.iconst 1, 1) := dk_4 (dk_at dksX2_letters_0 5 rfl rfl)
theorem dX2_letters_6 : decode cX2_letters 6 = .ok (.isub, 1) := dk_100 (dk_at dksX2_letters_0 6 rfl rfl)
theorem dX2_letters_7 : decode cX2_letters 7 = .ok (.invokevirtual 103, 3) := dk_182 0 103 (dk_at dksX2_letters_0 7 rfl rfl)
theorem dX2_letters_10 : decode cX2_letters 10 = .ok (.invokestatic 120, 3) := dk_184 0 120 (dk_at dksX2_letters_0 10 rfl rfl)
theorem dX2_letters_13 : decode cX2_letters 13 = .ok (.istore_n 1, 1) := dk_60 (dk_at dksX2_letters_0 13 rfl rfl)
theorem dX2_letters_14 : decode cX2_letters 14 = .ok (.iconst 0, 1) := dk_3 (dk_at dksX2_letters_0 14 rfl rfl)
theorem dX2_letters_15 : decode cX2_letters 15 = .ok (.istore_n 2, 1) := dk_61 (dk_at dksX2_letters_0 15 rfl rfl)
theorem dX2_letters_16 : decode cX2_letters 16 = .ok (.aload_n 0, 1) := dk_42 (dk_at dksX2_letters_0 16 rfl rfl)
theorem dX2_letters_17 : decode cX2_letters 17 = .ok (.lconst 0, 1) := dk_9 (dk_at dksX2_letters_0 17 rfl rfl)
theorem dX2_letters_18 : decode cX2_letters 18 = .ok (.putfield 126, 3) := dk_181 0 126 (dk_at dksX2_letters_0 18 rfl rfl)
theorem dX2_letters_21 : decode cX2_letters 21 = .ok (.aload_n 0, 1) := dk_42 (dk_at dksX2_letters_0 21 rfl rfl)
theorem dX2_letters_22 : decode cX2_letters 22 = .ok (.aload_n 0, 1) := dk_42 (dk_at dksX2_letters_0 22 rfl rfl)
theorem dX2_letters_23 : decode cX2_letters 23 = .ok (.getfield 100, 3) := dk_180 0 100 (dk_at dksX2_letters_1 0 rfl rfl)
theorem dX2_letters_26 : decode cX2_letters 26 = .ok (.invokevirtual 103, 3) := dk_182 0 103 (dk_at dksX2_letters_1 3 rfl rfl)
theorem dX2_letters_29 : decode cX2_letters 29 = .ok (.invokestatic 113, 3) := dk_184 0 113 (dk_at dksX2_letters_1 6 rfl rfl)
theorem dX2_letters_32 : decode cX2_letters 32 = .ok (.ifCond .eq 52, 3) := dk_153 0 52 (dk_at dksX2_letters_1 9 rfl rfl)
theorem dX2_letters_35 : decode cX2_letters 35 = .ok (.iload_n 2, 1) := dk_28 (dk_at dksX2_letters_1 12 rfl rfl)
theorem dX2_letters_36 : decode cX2_letters 36 = .ok (.bipush 6, 2) := dk_16 6 (dk_at dksX2_letters_1 13 rfl rfl)
theorem dX2_letters_38 : decode cX2_letters 38 = .ok (.if_icmp .ge 29, 3) := dk_162 0 29 (dk_at dksX2_letters_1 15 rfl rfl)
theorem dX2_letters_41 : decode cX2_letters 41 = .ok (.aload_n 0, 1) := dk_42 (dk_at dksX2_letters_1 18 rfl rfl)
theorem dX2_letters_42 : decode cX2_letters 42 = .ok (.ldc2_w 130, 3) := dk_20 0 130 (dk_at dksX2_letters_1 19 rfl rfl)
theorem dX2_letters_45 : decode cX2_letters 45 = .ok (.aload_n 0, 1) := dk_42 (dk_at dksX2_letters_1 22 rfl rfl)
theorem dX2_letters_46 : decode cX2_letters 46 = .ok (.getfield 126, 3) := dk_180 0 126 (dk_at dksX2_letters_2 0 rfl rfl)
theorem dX2_letters_49 : decode cX2_letters 49 = .ok (.lmul, 1) := dk_105 (dk_at dksX2_letters_2 3 rfl rfl)
theorem dX2_letters_50 : decode cX2_letters 50 = .ok (.aload_n 0, 1) := dk_42 (dk_at dksX2_letters_2 4 rfl rfl)
theorem dX2_letters_51 : decode cX2_letters 51 = .ok (.aload_n 0, 1) := dk_42 (dk_at dksX2_letters_2 5 rfl rfl)
theorem dX2_letters_52 : decode cX2_letters 52 = .ok (.getfield 100, 3) := dk_180 0 100 (dk_at dksX2_letters_2 6 rfl rfl)
theorem dX2_letters_55 : decode cX2_letters 55 = .ok (.invokevirtual 103, 3) := dk_182 0 103 (dk_at dksX2_letters_2 9 rfl rfl)
theorem dX2_letters_58 : decode cX2_letters 58 = .ok (.i2l, 1) := dk_133 (dk_at dksX2_letters_2 12 rfl rfl)
theorem dX2_letters_59 : decode cX2_letters 59 = .ok (.ladd, 1) := dk_97 (dk_at dksX2_letters_2 13 rfl rfl)
theorem dX2_letters_60 : decode cX2_letters 60 = .ok (.ldc2_w 132, 3) := dk_20 0 132 (dk_at dksX2_letters_2 14 rfl rfl)
theorem dX2_letters_63 : decode cX2_letters 63 = .ok (.lsub, 1) := dk_101 (dk_at dksX2_letters_2 17 rfl rfl)
theorem dX2_letters_64 : decode cX2_letters 64 = .ok (.putfield 126, 3) := dk_181 0 126 (dk_at dksX2_letters_2 18 rfl rfl)
theorem dX2_letters_67 : decode cX2_letters 67 = .ok (.iload_n 2, 1) := dk_28 (dk_at dksX2_letters_2 21 rfl rfl)
theorem dX2_letters_68 : decode cX2_letters 68 = .ok (.iconst 1, 1) := dk_4 (dk_at dksX2_letters_2 22 rfl rfl)
theorem dX2_letters_69 : decode cX2_letters 69 = .ok (.iadd, 1) := dk_96 (dk_at dksX2_letters_2 23 rfl rfl)
theorem dX2_letters_70 : decode cX2_letters 70 = .ok (.istore_n 2, 1) := dk_61 (dk_at dksX2_letters_3 0 rfl rfl)
theorem dX2_letters_71 : decode cX2_letters 71 = .ok (.aload_n 0, 1) := dk_42 (dk_at dksX2_letters_3 1 rfl rfl)
theorem dX2_letters_72 : decode cX2_letters 72 = .ok (.aload_n 0, 1) := dk_42 (dk_at dksX2_letters_3 2 rfl rfl)
theorem dX2_letters_73 : decode cX2_letters 73 = .ok (.getfield 100, 3) := dk_180 0 100 (dk_at dksX2_letters_3 3 rfl rfl)
theorem dX2_letters_76 : decode cX2_letters 76 = .ok (.iconst 1, 1) := dk_4 (dk_at dksX2_letters_3 6 rfl rfl)
theorem dX2_letters_77 : decode cX2_letters 77 = .ok (.iadd, 1) := dk_96 (dk_at dksX2_letters_3 7 rfl rfl)
theorem dX2_letters_78 : decode cX2_letters 78 = .ok (.putfield 100, 3) := dk_181 0 100 (dk_at dksX2_letters_3 8 rfl rfl)
theorem dX2_letters_81 : decode cX2_letters 81 = .ok (.goto (-60), 3) := dk_167 255 196 (dk_at dksX2_letters_3 11 rfl rfl)
theorem dX2_letters_84 : decode cX2_letters 84 = .ok (.aload_n 0, 1) := dk_42 (dk_at dksX2_letters_3 14 rfl rfl)
theorem dX2_letters_85 : decode cX2_letters 85 = .ok (.iload_n 1, 1) := dk_27 (dk_at dksX2_letters_3 15 rfl rfl)
theorem dX2_letters_86 : decode cX2_letters 86 = .ok (.ifCond .ne 9, 3) := dk_154 0 9 (dk_at dksX2_letters_3 16 rfl rfl)
theorem dX2_letters_89 : decode cX2_letters 89 = .ok (.iload_n 2, 1) := dk_28 (dk_at dksX2_letters_3 19 rfl rfl)
theorem dX2_letters_90 : decode cX2_letters 90 = .ok (.bipush 6, 2) := dk_16 6 (dk_at dksX2_letters_3 20 rfl rfl)
theorem dX2_letters_92 : decode cX2_letters 92 = .ok (.if_icmp .le 7, 3) := dk_164 0 7 (dk_at dksX2_letters_4 0 rfl rfl)
theorem dX2_letters_95 : decode cX2_letters 95 = .ok (.iconst 5, 1) := dk_8 (dk_at dksX2_letters_4 3 rfl rfl)
theorem dX2_letters_96 : decode cX2_letters 96 = .ok (.goto 4, 3) := dk_167 0 4 (dk_at dksX2_letters_4 4 rfl rfl)
theorem dX2_letters_99 : decode cX2_letters 99 = .ok (.iconst 1, 1) := dk_4 (dk_at dksX2_letters_4 7 rfl rfl)
theorem dX2_letters_100 : decode cX2_letters 100 = .ok (.putfield 110, 3) := dk_181 0 110 (dk_at dksX2_letters_4 8 rfl rfl)
theorem dX2_letters_103 : decode cX2_letters 103 = .ok (.return_, 1) := dk_177 (dk_at dksX2_letters_4 11 rfl rfl)
abbrev cX2_isDigit : ByteArray := prog_12_method_8_code
def yX2_isDigit : MethodName := ⟨RX2, "isDigit", "(I)Z"⟩
def dkwX2_isDigit_0 : List UInt8 := [26, 16, 48, 16, 57, 184, 0, 93, 172]
abbrev dktX2_isDigit_0 : List UInt8 := dkwX2_isDigit_0 ++ []
theorem dksX2_isDigit_0 : cX2_isDigit.data.toList.drop 0 = dktX2_isDigit_0 := by decide +kernel
theorem dX2_isDigit_0 : decode cX2_isDigit 0 = .ok (.iload_n 0, 1) := dk_26 (dk_at dksX2_isDigit_0 0 rfl rfl)
theorem dX2_isDigit_1 : decode cX2_isDigit 1 = .ok (.bipush 48, 2) := dk_16 48 (dk_at dksX2_isDigit_0 1 rfl rfl)
theorem dX2_isDigit_3 : decode cX2_isDigit 3 = .ok (.bipush 57, 2) := dk_16 57 (dk_at dksX2_isDigit_0 3 rfl rfl)
theorem dX2_isDigit_5 : decode cX2_isDigit 5 = .ok (.invokestatic 93, 3) := dk_184 0 93 (dk_at dksX2_isDigit_0 5 rfl rfl)
theorem dX2_isDigit_8 : decode cX2_isDigit 8 = .ok (.ireturn, 1) := dk_172 (dk_at dksX2_isDigit_0 8 rfl rfl)
abbrev cX2_digits : ByteArray := prog_12_method_12_code
def yX2_digits : MethodName := ⟨RX2, "digits", "()V"⟩
def dkwX2_digits_4 : List UInt8 := [167, 0, 4, 5, 181, 0, 110, 177]
abbrev dktX2_digits_4 : List UInt8 := dkwX2_digits_4 ++ []
def dkwX2_digits_3 : List UInt8 := [180, 0, 100, 4, 96, 181, 0, 100, 167, 255, 200, 42, 27, 154, 0, 8, 28, 7, 164, 0, 7, 8]
abbrev dktX2_digits_3 : List UInt8 := dkwX2_digits_3 ++ dktX2_digits_4
def dkwX2_digits_2 : List UInt8 := [104, 42, 42, 180, 0, 100, 182, 0, 103, 96, 16, 48, 100, 181, 0, 134, 28, 4, 96, 61, 42, 42]
abbrev dktX2_digits_2 : List UInt8 := dkwX2_digits_2 ++ dktX2_digits_3
def dkwX2_digits_1 : List UInt8 := [180, 0, 100, 182, 0, 103, 184, 0, 120, 153, 0, 48, 28, 7, 162, 0, 26, 42, 16, 10, 42, 180, 0, 134]
abbrev dktX2_digits_1 : List UInt8 := dkwX2_digits_1 ++ dktX2_digits_2
def dkwX2_digits_0 : List UInt8 := [42, 42, 180, 0, 100, 4, 100, 182, 0, 103, 184, 0, 113, 60, 3, 61, 42, 3, 181, 0, 134, 42, 42]
abbrev dktX2_digits_0 : List UInt8 := dkwX2_digits_0 ++ dktX2_digits_1
theorem dksX2_digits_0 : cX2_digits.data.toList.drop 0 = dktX2_digits_0 := by decide +kernel
theorem dksX2_digits_1 : cX2_digits.data.toList.drop 23 = dktX2_digits_1 := dk_seg dksX2_digits_0 23 rfl rfl
theorem dksX2_digits_2 : cX2_digits.data.toList.drop 47 = dktX2_digits_2 := dk_seg dksX2_digits_1 24 rfl rfl
theorem dksX2_digits_3 : cX2_digits.data.toList.drop 69 = dktX2_digits_3 := dk_seg dksX2_digits_2 22 rfl rfl
theorem dksX2_digits_4 : cX2_digits.data.toList.drop 91 = dktX2_digits_4 := dk_seg dksX2_digits_3 22 rfl rfl
theorem dX2_digits_0 : decode cX2_digits 0 = .ok (.aload_n 0, 1) := dk_42 (dk_at dksX2_digits_0 0 rfl rfl)
theorem dX2_digits_1 : decode cX2_digits 1 = .ok (.aload_n 0, 1) := dk_42 (dk_at dksX2_digits_0 1 rfl rfl)
theorem dX2_digits_2 : decode cX2_digits 2 = .ok (.getfield 100, 3) := dk_180 0 100 (dk_at dksX2_digits_0 2 rfl rfl)
theorem dX2_digits_5 : decode cX2_digits 5 = .ok (.iconst 1, 1) := dk_4 (dk_at dksX2_digits_0 5 rfl rfl)
theorem dX2_digits_6 : decode cX2_digits 6 = .ok (.isub, 1) := dk_100 (dk_at dksX2_digits_0 6 rfl rfl)
theorem dX2_digits_7 : decode cX2_digits 7 = .ok (.invokevirtual 103, 3) := dk_182 0 103 (dk_at dksX2_digits_0 7 rfl rfl)
theorem dX2_digits_10 : decode cX2_digits 10 = .ok (.invokestatic 113, 3) := dk_184 0 113 (dk_at dksX2_digits_0 10 rfl rfl)
theorem dX2_digits_13 : decode cX2_digits 13 = .ok (.istore_n 1, 1) := dk_60 (dk_at dksX2_digits_0 13 rfl rfl)
theorem dX2_digits_14 : decode cX2_digits 14 = .ok (.iconst 0, 1) := dk_3 (dk_at dksX2_digits_0 14 rfl rfl)
theorem dX2_digits_15 : decode cX2_digits 15 = .ok (.istore_n 2, 1) := dk_61 (dk_at dksX2_digits_0 15 rfl rfl)
theorem dX2_digits_16 : decode cX2_digits 16 = .ok (.aload_n 0, 1) := dk_42 (dk_at dksX2_digits_0 16 rfl rfl)
theorem dX2_digits_17 : decode cX2_digits 17 = .ok (.iconst 0, 1) := dk_3 (dk_at dksX2_digits_0 17 rfl rfl)
theorem dX2_digits_18 : decode cX2_digits 18 = .ok (.putfield 134, 3) := dk_181 0 134 (dk_at dksX2_digits_0 18 rfl rfl)
theorem dX2_digits_21 : decode cX2_digits 21 = .ok (.aload_n 0, 1) := dk_42 (dk_at dksX2_digits_0 21 rfl rfl)
theorem dX2_digits_22 : decode cX2_digits 22 = .ok (.aload_n 0, 1) := dk_42 (dk_at dksX2_digits_0 22 rfl rfl)
theorem dX2_digits_23 : decode cX2_digits 23 = .ok (.getfield 100, 3) := dk_180 0 100 (dk_at dksX2_digits_1 0 rfl rfl)
theorem dX2_digits_26 : decode cX2_digits 26 = .ok (.invokevirtual 103, 3) := dk_182 0 103 (dk_at dksX2_digits_1 3 rfl rfl)
theorem dX2_digits_29 : decode cX2_digits 29 = .ok (.invokestatic 120, 3) := dk_184 0 120 (dk_at dksX2_digits_1 6 rfl rfl)
theorem dX2_digits_32 : decode cX2_digits 32 = .ok (.ifCond .eq 48, 3) := dk_153 0 48 (dk_at dksX2_digits_1 9 rfl rfl)
theorem dX2_digits_35 : decode cX2_digits 35 = .ok (.iload_n 2, 1) := dk_28 (dk_at dksX2_digits_1 12 rfl rfl)
theorem dX2_digits_36 : decode cX2_digits 36 = .ok (.iconst 4, 1) := dk_7 (dk_at dksX2_digits_1 13 rfl rfl)
theorem dX2_digits_37 : decode cX2_digits 37 = .ok (.if_icmp .ge 26, 3) := dk_162 0 26 (dk_at dksX2_digits_1 14 rfl rfl)
theorem dX2_digits_40 : decode cX2_digits 40 = .ok (.aload_n 0, 1) := dk_42 (dk_at dksX2_digits_1 17 rfl rfl)
theorem dX2_digits_41 : decode cX2_digits 41 = .ok (.bipush 10, 2) := dk_16 10 (dk_at dksX2_digits_1 18 rfl rfl)
theorem dX2_digits_43 : decode cX2_digits 43 = .ok (.aload_n 0, 1) := dk_42 (dk_at dksX2_digits_1 20 rfl rfl)
theorem dX2_digits_44 : decode cX2_digits 44 = .ok (.getfield 134, 3) := dk_180 0 134 (dk_at dksX2_digits_1 21 rfl rfl)
theorem dX2_digits_47 : decode cX2_digits 47 = .ok (.imul, 1) := dk_104 (dk_at dksX2_digits_2 0 rfl rfl)
theorem dX2_digits_48 : decode cX2_digits 48 = .ok (.aload_n 0, 1) := dk_42 (dk_at dksX2_digits_2 1 rfl rfl)
theorem dX2_digits_49 : decode cX2_digits 49 = .ok (.aload_n 0, 1) := dk_42 (dk_at dksX2_digits_2 2 rfl rfl)
theorem dX2_digits_50 : decode cX2_digits 50 = .ok (.getfield 100, 3) := dk_180 0 100 (dk_at dksX2_digits_2 3 rfl rfl)
theorem dX2_digits_53 : decode cX2_digits 53 = .ok (.invokevirtual 103, 3) := dk_182 0 103 (dk_at dksX2_digits_2 6 rfl rfl)
theorem dX2_digits_56 : decode cX2_digits 56 = .ok (.iadd, 1) := dk_96 (dk_at dksX2_digits_2 9 rfl rfl)
theorem dX2_digits_57 : decode cX2_digits 57 = .ok (.bipush 48, 2) := dk_16 48 (dk_at dksX2_digits_2 10 rfl rfl)
theorem dX2_digits_59 : decode cX2_digits 59 = .ok (.isub, 1) := dk_100 (dk_at dksX2_digits_2 12 rfl rfl)
theorem dX2_digits_60 : decode cX2_digits 60 = .ok (.putfield 134, 3) := dk_181 0 134 (dk_at dksX2_digits_2 13 rfl rfl)
theorem dX2_digits_63 : decode cX2_digits 63 = .ok (.iload_n 2, 1) := dk_28 (dk_at dksX2_digits_2 16 rfl rfl)
theorem dX2_digits_64 : decode cX2_digits 64 = .ok (.iconst 1, 1) := dk_4 (dk_at dksX2_digits_2 17 rfl rfl)
theorem dX2_digits_65 : decode cX2_digits 65 = .ok (.iadd, 1) := dk_96 (dk_at dksX2_digits_2 18 rfl rfl)
theorem dX2_digits_66 : decode cX2_digits 66 = .ok (.istore_n 2, 1) := dk_61 (dk_at dksX2_digits_2 19 rfl rfl)
theorem dX2_digits_67 : decode cX2_digits 67 = .ok (.aload_n 0, 1) := dk_42 (dk_at dksX2_digits_2 20 rfl rfl)
theorem dX2_digits_68 : decode cX2_digits 68 = .ok (.aload_n 0, 1) := dk_42 (dk_at dksX2_digits_2 21 rfl rfl)
theorem dX2_digits_69 : decode cX2_digits 69 = .ok (.getfield 100, 3) := dk_180 0 100 (dk_at dksX2_digits_3 0 rfl rfl)
theorem dX2_digits_72 : decode cX2_digits 72 = .ok (.iconst 1, 1) := dk_4 (dk_at dksX2_digits_3 3 rfl rfl)
theorem dX2_digits_73 : decode cX2_digits 73 = .ok (.iadd, 1) := dk_96 (dk_at dksX2_digits_3 4 rfl rfl)
theorem dX2_digits_74 : decode cX2_digits 74 = .ok (.putfield 100, 3) := dk_181 0 100 (dk_at dksX2_digits_3 5 rfl rfl)
theorem dX2_digits_77 : decode cX2_digits 77 = .ok (.goto (-56), 3) := dk_167 255 200 (dk_at dksX2_digits_3 8 rfl rfl)
theorem dX2_digits_80 : decode cX2_digits 80 = .ok (.aload_n 0, 1) := dk_42 (dk_at dksX2_digits_3 11 rfl rfl)
theorem dX2_digits_81 : decode cX2_digits 81 = .ok (.iload_n 1, 1) := dk_27 (dk_at dksX2_digits_3 12 rfl rfl)
theorem dX2_digits_82 : decode cX2_digits 82 = .ok (.ifCond .ne 8, 3) := dk_154 0 8 (dk_at dksX2_digits_3 13 rfl rfl)
theorem dX2_digits_85 : decode cX2_digits 85 = .ok (.iload_n 2, 1) := dk_28 (dk_at dksX2_digits_3 16 rfl rfl)
theorem dX2_digits_86 : decode cX2_digits 86 = .ok (.iconst 4, 1) := dk_7 (dk_at dksX2_digits_3 17 rfl rfl)
theorem dX2_digits_87 : decode cX2_digits 87 = .ok (.if_icmp .le 7, 3) := dk_164 0 7 (dk_at dksX2_digits_3 18 rfl rfl)
theorem dX2_digits_90 : decode cX2_digits 90 = .ok (.iconst 5, 1) := dk_8 (dk_at dksX2_digits_3 21 rfl rfl)
theorem dX2_digits_91 : decode cX2_digits 91 = .ok (.goto 4, 3) := dk_167 0 4 (dk_at dksX2_digits_4 0 rfl rfl)
theorem dX2_digits_94 : decode cX2_digits 94 = .ok (.iconst 2, 1) := dk_5 (dk_at dksX2_digits_4 3 rfl rfl)
theorem dX2_digits_95 : decode cX2_digits 95 = .ok (.putfield 110, 3) := dk_181 0 110 (dk_at dksX2_digits_4 4 rfl rfl)
theorem dX2_digits_98 : decode cX2_digits 98 = .ok (.return_, 1) := dk_177 (dk_at dksX2_digits_4 7 rfl rfl)
abbrev cX2_line : ByteArray := prog_12_method_35_code
def yX2_line : MethodName := ⟨RX2, "line", "()V"⟩
def dkwX2_line_7 : List UInt8 := [42, 182, 0, 150, 42, 180, 0, 19, 7, 42, 180, 0, 19, 7, 46, 4, 96, 79, 177]
abbrev dktX2_line_7 : List UInt8 := dkwX2_line_7 ++ []
def dkwX2_line_6 : List UInt8 := [158, 0, 4, 177, 42, 180, 0, 110, 6, 159, 0, 15, 42, 4, 42, 180, 0, 107, 182, 0, 143, 167, 0, 7]
abbrev dktX2_line_6 : List UInt8 := dkwX2_line_6 ++ dktX2_line_7
def dkwX2_line_5 : List UInt8 := [167, 0, 20, 42, 4, 42, 180, 0, 107, 182, 0, 143, 167, 0, 8, 42, 27, 182, 0, 244, 42, 180, 0, 137]
abbrev dktX2_line_5 : List UInt8 := dkwX2_line_5 ++ dktX2_line_6
def dkwX2_line_4 : List UInt8 := [182, 0, 232, 167, 0, 41, 42, 182, 0, 235, 167, 0, 34, 42, 182, 0, 238, 167, 0, 27, 42, 182, 0, 241]
abbrev dktX2_line_4 : List UInt8 := dkwX2_line_4 ++ dktX2_line_5
def dkwX2_line_3 : List UInt8 := [182, 0, 226, 167, 0, 64, 42, 182, 0, 229, 167, 0, 57, 42, 3, 182, 0, 232, 167, 0, 49, 42, 4]
abbrev dktX2_line_3 : List UInt8 := dkwX2_line_3 ++ dktX2_line_4
def dkwX2_line_2 : List UInt8 := [42, 3, 3, 16, 16, 182, 0, 222, 167, 0, 83, 42, 4, 16, 16, 16, 6, 182, 0, 222, 167, 0, 71, 42]
abbrev dktX2_line_2 : List UInt8 := dkwX2_line_2 ++ dktX2_line_3
def dkwX2_line_1 : List UInt8 := [170, 0, 0, 0, 0, 156, 255, 255, 255, 255, 0, 0, 0, 12, 0, 0, 0, 144, 0, 0, 0, 156, 0, 0, 0, 156, 0, 0, 0, 156, 0, 0, 0, 156, 0, 0, 0, 70, 0, 0, 0, 81, 0, 0, 0, 93, 0, 0, 0, 100, 0, 0, 0, 107, 0, 0, 0, 115, 0, 0, 0, 123, 0, 0, 0, 130, 0, 0, 0, 137]
abbrev dktX2_line_1 : List UInt8 := dkwX2_line_1 ++ dktX2_line_2
def dkwX2_line_0 : List UInt8 := [42, 182, 0, 183, 60, 27]
abbrev dktX2_line_0 : List UInt8 := dkwX2_line_0 ++ dktX2_line_1
theorem dksX2_line_0 : cX2_line.data.toList.drop 0 = dktX2_line_0 := by decide +kernel
theorem dksX2_line_1 : cX2_line.data.toList.drop 6 = dktX2_line_1 := dk_seg dksX2_line_0 6 rfl rfl
theorem dksX2_line_2 : cX2_line.data.toList.drop 76 = dktX2_line_2 := dk_seg dksX2_line_1 70 rfl rfl
theorem dksX2_line_3 : cX2_line.data.toList.drop 100 = dktX2_line_3 := dk_seg dksX2_line_2 24 rfl rfl
theorem dksX2_line_4 : cX2_line.data.toList.drop 123 = dktX2_line_4 := dk_seg dksX2_line_3 23 rfl rfl
theorem dksX2_line_5 : cX2_line.data.toList.drop 147 = dktX2_line_5 := dk_seg dksX2_line_4 24 rfl rfl
theorem dksX2_line_6 : cX2_line.data.toList.drop 171 = dktX2_line_6 := dk_seg dksX2_line_5 24 rfl rfl
theorem dksX2_line_7 : cX2_line.data.toList.drop 195 = dktX2_line_7 := dk_seg dksX2_line_6 24 rfl rfl
theorem dX2_line_0 : decode cX2_line 0 = .ok (.aload_n 0, 1) := dk_42 (dk_at dksX2_line_0 0 rfl rfl)
theorem dX2_line_1 : decode cX2_line 1 = .ok (.invokevirtual 183, 3) := dk_182 0 183 (dk_at dksX2_line_0 1 rfl rfl)
theorem dX2_line_4 : decode cX2_line 4 = .ok (.istore_n 1, 1) := dk_60 (dk_at dksX2_line_0 4 rfl rfl)
theorem dX2_line_5 : decode cX2_line 5 = .ok (.iload_n 1, 1) := dk_27 (dk_at dksX2_line_0 5 rfl rfl)
theorem dX2_line_6 : decode cX2_line 6 = .ok (.tableswitch 156 (-1) 12 #[144, 156, 156, 156, 156, 70, 81, 93, 100, 107, 115, 123, 130, 137], 70) := by decide +kernel
theorem dX2_line_76 : decode cX2_line 76 = .ok (.aload_n 0, 1) := dk_42 (dk_at dksX2_line_2 0 rfl rfl)
theorem dX2_line_77 : decode cX2_line 77 = .ok (.iconst 0, 1) := dk_3 (dk_at dksX2_line_2 1 rfl rfl)
theorem dX2_line_78 : decode cX2_line 78 = .ok (.iconst 0, 1) := dk_3 (dk_at dksX2_line_2 2 rfl rfl)
theorem dX2_line_79 : decode cX2_line 79 = .ok (.bipush 16, 2) := dk_16 16 (dk_at dksX2_line_2 3 rfl rfl)
theorem dX2_line_81 : decode cX2_line 81 = .ok (.invokevirtual 222, 3) := dk_182 0 222 (dk_at dksX2_line_2 5 rfl rfl)
theorem dX2_line_84 : decode cX2_line 84 = .ok (.goto 83, 3) := dk_167 0 83 (dk_at dksX2_line_2 8 rfl rfl)
theorem dX2_line_87 : decode cX2_line 87 = .ok (.aload_n 0, 1) := dk_42 (dk_at dksX2_line_2 11 rfl rfl)
theorem dX2_line_88 : decode cX2_line 88 = .ok (.iconst 1, 1) := dk_4 (dk_at dksX2_line_2 12 rfl rfl)
theorem dX2_line_89 : decode cX2_line 89 = .ok (.bipush 16, 2) := dk_16 16 (dk_at dksX2_line_2 13 rfl rfl)
theorem dX2_line_91 : decode cX2_line 91 = .ok (.bipush 6, 2) := dk_16 6 (dk_at dksX2_line_2 15 rfl rfl)
theorem dX2_line_93 : decode cX2_line 93 = .ok (.invokevirtual 222, 3) := dk_182 0 222 (dk_at dksX2_line_2 17 rfl rfl)
theorem dX2_line_96 : decode cX2_line 96 = .ok (.goto 71, 3) := dk_167 0 71 (dk_at dksX2_line_2 20 rfl rfl)
theorem dX2_line_99 : decode cX2_line 99 = .ok (.aload_n 0, 1) := dk_42 (dk_at dksX2_line_2 23 rfl rfl)
theorem dX2_line_100 : decode cX2_line 100 = .ok (.invokevirtual 226, 3) := dk_182 0 226 (dk_at dksX2_line_3 0 rfl rfl)
theorem dX2_line_103 : decode cX2_line 103 = .ok (.goto 64, 3) := dk_167 0 64 (dk_at dksX2_line_3 3 rfl rfl)
theorem dX2_line_106 : decode cX2_line 106 = .ok (.aload_n 0, 1) := dk_42 (dk_at dksX2_line_3 6 rfl rfl)
theorem dX2_line_107 : decode cX2_line 107 = .ok (.invokevirtual 229, 3) := dk_182 0 229 (dk_at dksX2_line_3 7 rfl rfl)
theorem dX2_line_110 : decode cX2_line 110 = .ok (.goto 57, 3) := dk_167 0 57 (dk_at dksX2_line_3 10 rfl rfl)
theorem dX2_line_113 : decode cX2_line 113 = .ok (.aload_n 0, 1) := dk_42 (dk_at dksX2_line_3 13 rfl rfl)
theorem dX2_line_114 : decode cX2_line 114 = .ok (.iconst 0, 1) := dk_3 (dk_at dksX2_line_3 14 rfl rfl)
theorem dX2_line_115 : decode cX2_line 115 = .ok (.invokevirtual 232, 3) := dk_182 0 232 (dk_at dksX2_line_3 15 rfl rfl)
theorem dX2_line_118 : decode cX2_line 118 = .ok (.goto 49, 3) := dk_167 0 49 (dk_at dksX2_line_3 18 rfl rfl)
theorem dX2_line_121 : decode cX2_line 121 = .ok (.aload_n 0, 1) := dk_42 (dk_at dksX2_line_3 21 rfl rfl)
theorem dX2_line_122 : decode cX2_line 122 = .ok (.iconst 1, 1) := dk_4 (dk_at dksX2_line_3 22 rfl rfl)
theorem dX2_line_123 : decode cX2_line 123 = .ok (.invokevirtual 232, 3) := dk_182 0 232 (dk_at dksX2_line_4 0 rfl rfl)
theorem dX2_line_126 : decode cX2_line 126 = .ok (.goto 41, 3) := dk_167 0 41 (dk_at dksX2_line_4 3 rfl rfl)
theorem dX2_line_129 : decode cX2_line 129 = .ok (.aload_n 0, 1) := dk_42 (dk_at dksX2_line_4 6 rfl rfl)
theorem dX2_line_130 : decode cX2_line 130 = .ok (.invokevirtual 235, 3) := dk_182 0 235 (dk_at dksX2_line_4 7 rfl rfl)
theorem dX2_line_133 : decode cX2_line 133 = .ok (.goto 34, 3) := dk_167 0 34 (dk_at dksX2_line_4 10 rfl rfl)
theorem dX2_line_136 : decode cX2_line 136 = .ok (.aload_n 0, 1) := dk_42 (dk_at dksX2_line_4 13 rfl rfl)
theorem dX2_line_137 : decode cX2_line 137 = .ok (.invokevirtual 238, 3) := dk_182 0 238 (dk_at dksX2_line_4 14 rfl rfl)
theorem dX2_line_140 : decode cX2_line 140 = .ok (.goto 27, 3) := dk_167 0 27 (dk_at dksX2_line_4 17 rfl rfl)
theorem dX2_line_143 : decode cX2_line 143 = .ok (.aload_n 0, 1) := dk_42 (dk_at dksX2_line_4 20 rfl rfl)
theorem dX2_line_144 : decode cX2_line 144 = .ok (.invokevirtual 241, 3) := dk_182 0 241 (dk_at dksX2_line_4 21 rfl rfl)
theorem dX2_line_147 : decode cX2_line 147 = .ok (.goto 20, 3) := dk_167 0 20 (dk_at dksX2_line_5 0 rfl rfl)
theorem dX2_line_150 : decode cX2_line 150 = .ok (.aload_n 0, 1) := dk_42 (dk_at dksX2_line_5 3 rfl rfl)
theorem dX2_line_151 : decode cX2_line 151 = .ok (.iconst 1, 1) := dk_4 (dk_at dksX2_line_5 4 rfl rfl)
theorem dX2_line_152 : decode cX2_line 152 = .ok (.aload_n 0, 1) := dk_42 (dk_at dksX2_line_5 5 rfl rfl)
theorem dX2_line_153 : decode cX2_line 153 = .ok (.getfield 107, 3) := dk_180 0 107 (dk_at dksX2_line_5 6 rfl rfl)
theorem dX2_line_156 : decode cX2_line 156 = .ok (.invokevirtual 143, 3) := dk_182 0 143 (dk_at dksX2_line_5 9 rfl rfl)
theorem dX2_line_159 : decode cX2_line 159 = .ok (.goto 8, 3) := dk_167 0 8 (dk_at dksX2_line_5 12 rfl rfl)
theorem dX2_line_162 : decode cX2_line 162 = .ok (.aload_n 0, 1) := dk_42 (dk_at dksX2_line_5 15 rfl rfl)
theorem dX2_line_163 : decode cX2_line 163 = .ok (.iload_n 1, 1) := dk_27 (dk_at dksX2_line_5 16 rfl rfl)
theorem dX2_line_164 : decode cX2_line 164 = .ok (.invokevirtual 244, 3) := dk_182 0 244 (dk_at dksX2_line_5 17 rfl rfl)
theorem dX2_line_167 : decode cX2_line 167 = .ok (.aload_n 0, 1) := dk_42 (dk_at dksX2_line_5 20 rfl rfl)
theorem dX2_line_168 : decode cX2_line 168 = .ok (.getfield 137, 3) := dk_180 0 137 (dk_at dksX2_line_5 21 rfl rfl)
theorem dX2_line_171 : decode cX2_line 171 = .ok (.ifCond .le 4, 3) := dk_158 0 4 (dk_at dksX2_line_6 0 rfl rfl)
theorem dX2_line_174 : decode cX2_line 174 = .ok (.return_, 1) := dk_177 (dk_at dksX2_line_6 3 rfl rfl)
theorem dX2_line_175 : decode cX2_line 175 = .ok (.aload_n 0, 1) := dk_42 (dk_at dksX2_line_6 4 rfl rfl)
theorem dX2_line_176 : decode cX2_line 176 = .ok (.getfield 110, 3) := dk_180 0 110 (dk_at dksX2_line_6 5 rfl rfl)
theorem dX2_line_179 : decode cX2_line 179 = .ok (.iconst 3, 1) := dk_6 (dk_at dksX2_line_6 8 rfl rfl)
theorem dX2_line_180 : decode cX2_line 180 = .ok (.if_icmp .eq 15, 3) := dk_159 0 15 (dk_at dksX2_line_6 9 rfl rfl)
theorem dX2_line_183 : decode cX2_line 183 = .ok (.aload_n 0, 1) := dk_42 (dk_at dksX2_line_6 12 rfl rfl)
theorem dX2_line_184 : decode cX2_line 184 = .ok (.iconst 1, 1) := dk_4 (dk_at dksX2_line_6 13 rfl rfl)
theorem dX2_line_185 : decode cX2_line 185 = .ok (.aload_n 0, 1) := dk_42 (dk_at dksX2_line_6 14 rfl rfl)
theorem dX2_line_186 : decode cX2_line 186 = .ok (.getfield 107, 3) := dk_180 0 107 (dk_at dksX2_line_6 15 rfl rfl)
theorem dX2_line_189 : decode cX2_line 189 = .ok (.invokevirtual 143, 3) := dk_182 0 143 (dk_at dksX2_line_6 18 rfl rfl)
theorem dX2_line_192 : decode cX2_line 192 = .ok (.goto 7, 3) := dk_167 0 7 (dk_at dksX2_line_6 21 rfl rfl)
theorem dX2_line_195 : decode cX2_line 195 = .ok (.aload_n 0, 1) := dk_42 (dk_at dksX2_line_7 0 rfl rfl)
theorem dX2_line_196 : decode cX2_line 196 = .ok (.invokevirtual 150, 3) := dk_182 0 150 (dk_at dksX2_line_7 1 rfl rfl)
theorem dX2_line_199 : decode cX2_line 199 = .ok (.aload_n 0, 1) := dk_42 (dk_at dksX2_line_7 4 rfl rfl)
theorem dX2_line_200 : decode cX2_line 200 = .ok (.getfield 19, 3) := dk_180 0 19 (dk_at dksX2_line_7 5 rfl rfl)
theorem dX2_line_203 : decode cX2_line 203 = .ok (.iconst 4, 1) := dk_7 (dk_at dksX2_line_7 8 rfl rfl)
theorem dX2_line_204 : decode cX2_line 204 = .ok (.aload_n 0, 1) := dk_42 (dk_at dksX2_line_7 9 rfl rfl)
theorem dX2_line_205 : decode cX2_line 205 = .ok (.getfield 19, 3) := dk_180 0 19 (dk_at dksX2_line_7 10 rfl rfl)
theorem dX2_line_208 : decode cX2_line 208 = .ok (.iconst 4, 1) := dk_7 (dk_at dksX2_line_7 13 rfl rfl)
theorem dX2_line_209 : decode cX2_line 209 = .ok (.iaload, 1) := dk_46 (dk_at dksX2_line_7 14 rfl rfl)
theorem dX2_line_210 : decode cX2_line 210 = .ok (.iconst 1, 1) := dk_4 (dk_at dksX2_line_7 15 rfl rfl)
theorem dX2_line_211 : decode cX2_line 211 = .ok (.iadd, 1) := dk_96 (dk_at dksX2_line_7 16 rfl rfl)
theorem dX2_line_212 : decode cX2_line 212 = .ok (.iastore, 1) := dk_79 (dk_at dksX2_line_7 17 rfl rfl)
theorem dX2_line_213 : decode cX2_line 213 = .ok (.return_, 1) := dk_177 (dk_at dksX2_line_7 18 rfl rfl)
abbrev cX2_key : ByteArray := prog_12_method_15_code
def yX2_key : MethodName := ⟨RX2, "key", "()I"⟩
def dkwX2_key_8 : List UInt8 := [167, 0, 4, 2, 172]
abbrev dktX2_key_8 : List UInt8 := dkwX2_key_8 ++ []
def dkwX2_key_7 : List UInt8 := [20, 0, 175, 148, 154, 0, 6, 16, 11, 172, 42, 180, 0, 126, 20, 0, 177, 148, 154, 0, 8, 16, 12]
abbrev dktX2_key_7 : List UInt8 := dkwX2_key_7 ++ dktX2_key_8
def dkwX2_key_6 : List UInt8 := [154, 0, 6, 16, 9, 172, 42, 180, 0, 126, 20, 0, 173, 148, 154, 0, 6, 16, 10, 172, 42, 180, 0, 126]
abbrev dktX2_key_6 : List UInt8 := dkwX2_key_6 ++ dktX2_key_7
def dkwX2_key_5 : List UInt8 := [42, 180, 0, 126, 20, 0, 169, 148, 154, 0, 6, 16, 8, 172, 42, 180, 0, 126, 20, 0, 171, 148]
abbrev dktX2_key_5 : List UInt8 := dkwX2_key_5 ++ dktX2_key_6
def dkwX2_key_4 : List UInt8 := [20, 0, 165, 148, 154, 0, 6, 16, 6, 172, 42, 180, 0, 126, 20, 0, 167, 148, 154, 0, 6, 16, 7, 172]
abbrev dktX2_key_4 : List UInt8 := dkwX2_key_4 ++ dktX2_key_5
def dkwX2_key_3 : List UInt8 := [154, 0, 5, 7, 172, 42, 180, 0, 126, 20, 0, 163, 148, 154, 0, 5, 8, 172, 42, 180, 0, 126]
abbrev dktX2_key_3 : List UInt8 := dkwX2_key_3 ++ dktX2_key_4
def dkwX2_key_2 : List UInt8 := [172, 42, 180, 0, 126, 20, 0, 159, 148, 154, 0, 5, 6, 172, 42, 180, 0, 126, 20, 0, 161, 148]
abbrev dktX2_key_2 : List UInt8 := dkwX2_key_2 ++ dktX2_key_3
def dkwX2_key_1 : List UInt8 := [180, 0, 126, 20, 0, 155, 148, 154, 0, 5, 4, 172, 42, 180, 0, 126, 20, 0, 157, 148, 154, 0, 5, 5]
abbrev dktX2_key_1 : List UInt8 := dkwX2_key_1 ++ dktX2_key_2
def dkwX2_key_0 : List UInt8 := [42, 180, 0, 110, 4, 159, 0, 5, 2, 172, 42, 180, 0, 126, 20, 0, 153, 148, 154, 0, 5, 3, 172, 42]
abbrev dktX2_key_0 : List UInt8 := dkwX2_key_0 ++ dktX2_key_1
theorem dksX2_key_0 : cX2_key.data.toList.drop 0 = dktX2_key_0 := by decide +kernel
theorem dksX2_key_1 : cX2_key.data.toList.drop 24 = dktX2_key_1 := dk_seg dksX2_key_0 24 rfl rfl
theorem dksX2_key_2 : cX2_key.data.toList.drop 48 = dktX2_key_2 := dk_seg dksX2_key_1 24 rfl rfl
theorem dksX2_key_3 : cX2_key.data.toList.drop 70 = dktX2_key_3 := dk_seg dksX2_key_2 22 rfl rfl
theorem dksX2_key_4 : cX2_key.data.toList.drop 92 = dktX2_key_4 := dk_seg dksX2_key_3 22 rfl rfl
theorem dksX2_key_5 : cX2_key.data.toList.drop 116 = dktX2_key_5 := dk_seg dksX2_key_4 24 rfl rfl
theorem dksX2_key_6 : cX2_key.data.toList.drop 138 = dktX2_key_6 := dk_seg dksX2_key_5 22 rfl rfl
theorem dksX2_key_7 : cX2_key.data.toList.drop 162 = dktX2_key_7 := dk_seg dksX2_key_6 24 rfl rfl
theorem dksX2_key_8 : cX2_key.data.toList.drop 185 = dktX2_key_8 := dk_seg dksX2_key_7 23 rfl rfl
theorem dX2_key_0 : decode cX2_key 0 = .ok (.aload_n 0, 1) := dk_42 (dk_at dksX2_key_0 0 rfl rfl)
theorem dX2_key_1 : decode cX2_key 1 = .ok (.getfield 110, 3) := dk_180 0 110 (dk_at dksX2_key_0 1 rfl rfl)
theorem dX2_key_4 : decode cX2_key 4 = .ok (.iconst 1, 1) := dk_4 (dk_at dksX2_key_0 4 rfl rfl)
theorem dX2_key_5 : decode cX2_key 5 = .ok (.if_icmp .eq 5, 3) := dk_159 0 5 (dk_at dksX2_key_0 5 rfl rfl)
theorem dX2_key_8 : decode cX2_key 8 = .ok (.iconst (-1), 1) := dk_2 (dk_at dksX2_key_0 8 rfl rfl)
theorem dX2_key_9 : decode cX2_key 9 = .ok (.ireturn, 1) := dk_172 (dk_at dksX2_key_0 9 rfl rfl)
theorem dX2_key_10 : decode cX2_key 10 = .ok (.aload_n 0, 1) := dk_42 (dk_at dksX2_key_0 10 rfl rfl)
theorem dX2_key_11 : decode cX2_key 11 = .ok (.getfield 126, 3) := dk_180 0 126 (dk_at dksX2_key_0 11 rfl rfl)
theorem dX2_key_14 : decode cX2_key 14 = .ok (.ldc2_w 153, 3) := dk_20 0 153 (dk_at dksX2_key_0 14 rfl rfl)
theorem dX2_key_17 : decode cX2_key 17 = .ok (.lcmp, 1) := dk_148 (dk_at dksX2_key_0 17 rfl rfl)
theorem dX2_key_18 : decode cX2_key 18 = .ok (.ifCond .ne 5, 3) := dk_154 0 5 (dk_at dksX2_key_0 18 rfl rfl)
theorem dX2_key_21 : decode cX2_key 21 = .ok (.iconst 0, 1) := dk_3 (dk_at dksX2_key_0 21 rfl rfl)
theorem dX2_key_22 : decode cX2_key 22 = .ok (.ireturn, 1) := dk_172 (dk_at dksX2_key_0 22 rfl rfl)
theorem dX2_key_23 : decode cX2_key 23 = .ok (.aload_n 0, 1) := dk_42 (dk_at dksX2_key_0 23 rfl rfl)
theorem dX2_key_24 : decode cX2_key 24 = .ok (.getfield 126, 3) := dk_180 0 126 (dk_at dksX2_key_1 0 rfl rfl)
theorem dX2_key_27 : decode cX2_key 27 = .ok (.ldc2_w 155, 3) := dk_20 0 155 (dk_at dksX2_key_1 3 rfl rfl)
theorem dX2_key_30 : decode cX2_key 30 = .ok (.lcmp, 1) := dk_148 (dk_at dksX2_key_1 6 rfl rfl)
theorem dX2_key_31 : decode cX2_key 31 = .ok (.ifCond .ne 5, 3) := dk_154 0 5 (dk_at dksX2_key_1 7 rfl rfl)
theorem dX2_key_34 : decode cX2_key 34 = .ok (.iconst 1, 1) := dk_4 (dk_at dksX2_key_1 10 rfl rfl)
theorem dX2_key_35 : decode cX2_key 35 = .ok (.ireturn, 1) := dk_172 (dk_at dksX2_key_1 11 rfl rfl)
theorem dX2_key_36 : decode cX2_key 36 = .ok (.aload_n 0, 1) := dk_42 (dk_at dksX2_key_1 12 rfl rfl)
theorem dX2_key_37 : decode cX2_key 37 = .ok (.getfield 126, 3) := dk_180 0 126 (dk_at dksX2_key_1 13 rfl rfl)
theorem dX2_key_40 : decode cX2_key 40 = .ok (.ldc2_w 157, 3) := dk_20 0 157 (dk_at dksX2_key_1 16 rfl rfl)
theorem dX2_key_43 : decode cX2_key 43 = .ok (.lcmp, 1) := dk_148 (dk_at dksX2_key_1 19 rfl rfl)
theorem dX2_key_44 : decode cX2_key 44 = .ok (.ifCond .ne 5, 3) := dk_154 0 5 (dk_at dksX2_key_1 20 rfl rfl)
theorem dX2_key_47 : decode cX2_key 47 = .ok (.iconst 2, 1) := dk_5 (dk_at dksX2_key_1 23 rfl rfl)
theorem dX2_key_48 : decode cX2_key 48 = .ok (.ireturn, 1) := dk_172 (dk_at dksX2_key_2 0 rfl rfl)
theorem dX2_key_49 : decode cX2_key 49 = .ok (.aload_n 0, 1) := dk_42 (dk_at dksX2_key_2 1 rfl rfl)
theorem dX2_key_50 : decode cX2_key 50 = .ok (.getfield 126, 3) := dk_180 0 126 (dk_at dksX2_key_2 2 rfl rfl)
theorem dX2_key_53 : decode cX2_key 53 = .ok (.ldc2_w 159, 3) := dk_20 0 159 (dk_at dksX2_key_2 5 rfl rfl)
theorem dX2_key_56 : decode cX2_key 56 = .ok (.lcmp, 1) := dk_148 (dk_at dksX2_key_2 8 rfl rfl)
theorem dX2_key_57 : decode cX2_key 57 = .ok (.ifCond .ne 5, 3) := dk_154 0 5 (dk_at dksX2_key_2 9 rfl rfl)
theorem dX2_key_60 : decode cX2_key 60 = .ok (.iconst 3, 1) := dk_6 (dk_at dksX2_key_2 12 rfl rfl)
theorem dX2_key_61 : decode cX2_key 61 = .ok (.ireturn, 1) := dk_172 (dk_at dksX2_key_2 13 rfl rfl)
theorem dX2_key_62 : decode cX2_key 62 = .ok (.aload_n 0, 1) := dk_42 (dk_at dksX2_key_2 14 rfl rfl)
theorem dX2_key_63 : decode cX2_key 63 = .ok (.getfield 126, 3) := dk_180 0 126 (dk_at dksX2_key_2 15 rfl rfl)
theorem dX2_key_66 : decode cX2_key 66 = .ok (.ldc2_w 161, 3) := dk_20 0 161 (dk_at dksX2_key_2 18 rfl rfl)
theorem dX2_key_69 : decode cX2_key 69 = .ok (.lcmp, 1) := dk_148 (dk_at dksX2_key_2 21 rfl rfl)
theorem dX2_key_70 : decode cX2_key 70 = .ok (.ifCond .ne 5, 3) := dk_154 0 5 (dk_at dksX2_key_3 0 rfl rfl)
theorem dX2_key_73 : decode cX2_key 73 = .ok (.iconst 4, 1) := dk_7 (dk_at dksX2_key_3 3 rfl rfl)
theorem dX2_key_74 : decode cX2_key 74 = .ok (.ireturn, 1) := dk_172 (dk_at dksX2_key_3 4 rfl rfl)
theorem dX2_key_75 : decode cX2_key 75 = .ok (.aload_n 0, 1) := dk_42 (dk_at dksX2_key_3 5 rfl rfl)
theorem dX2_key_76 : decode cX2_key 76 = .ok (.getfield 126, 3) := dk_180 0 126 (dk_at dksX2_key_3 6 rfl rfl)
theorem dX2_key_79 : decode cX2_key 79 = .ok (.ldc2_w 163, 3) := dk_20 0 163 (dk_at dksX2_key_3 9 rfl rfl)
theorem dX2_key_82 : decode cX2_key 82 = .ok (.lcmp, 1) := dk_148 (dk_at dksX2_key_3 12 rfl rfl)
theorem dX2_key_83 : decode cX2_key 83 = .ok (.ifCond .ne 5, 3) := dk_154 0 5 (dk_at dksX2_key_3 13 rfl rfl)
theorem dX2_key_86 : decode cX2_key 86 = .ok (.iconst 5, 1) := dk_8 (dk_at dksX2_key_3 16 rfl rfl)
theorem dX2_key_87 : decode cX2_key 87 = .ok (.ireturn, 1) := dk_172 (dk_at dksX2_key_3 17 rfl rfl)
theorem dX2_key_88 : decode cX2_key 88 = .ok (.aload_n 0, 1) := dk_42 (dk_at dksX2_key_3 18 rfl rfl)
theorem dX2_key_89 : decode cX2_key 89 = .ok (.getfield 126, 3) := dk_180 0 126 (dk_at dksX2_key_3 19 rfl rfl)
theorem dX2_key_92 : decode cX2_key 92 = .ok (.ldc2_w 165, 3) := dk_20 0 165 (dk_at dksX2_key_4 0 rfl rfl)
theorem dX2_key_95 : decode cX2_key 95 = .ok (.lcmp, 1) := dk_148 (dk_at dksX2_key_4 3 rfl rfl)
theorem dX2_key_96 : decode cX2_key 96 = .ok (.ifCond .ne 6, 3) := dk_154 0 6 (dk_at dksX2_key_4 4 rfl rfl)
theorem dX2_key_99 : decode cX2_key 99 = .ok (.bipush 6, 2) := dk_16 6 (dk_at dksX2_key_4 7 rfl rfl)
theorem dX2_key_101 : decode cX2_key 101 = .ok (.ireturn, 1) := dk_172 (dk_at dksX2_key_4 9 rfl rfl)
theorem dX2_key_102 : decode cX2_key 102 = .ok (.aload_n 0, 1) := dk_42 (dk_at dksX2_key_4 10 rfl rfl)
theorem dX2_key_103 : decode cX2_key 103 = .ok (.getfield 126, 3) := dk_180 0 126 (dk_at dksX2_key_4 11 rfl rfl)
theorem dX2_key_106 : decode cX2_key 106 = .ok (.ldc2_w 167, 3) := dk_20 0 167 (dk_at dksX2_key_4 14 rfl rfl)
theorem dX2_key_109 : decode cX2_key 109 = .ok (.lcmp, 1) := dk_148 (dk_at dksX2_key_4 17 rfl rfl)
theorem dX2_key_110 : decode cX2_key 110 = .ok (.ifCond .ne 6, 3) := dk_154 0 6 (dk_at dksX2_key_4 18 rfl rfl)
theorem dX2_key_113 : decode cX2_key 113 = .ok (.bipush 7, 2) := dk_16 7 (dk_at dksX2_key_4 21 rfl rfl)
theorem dX2_key_115 : decode cX2_key 115 = .ok (.ireturn, 1) := dk_172 (dk_at dksX2_key_4 23 rfl rfl)
theorem dX2_key_116 : decode cX2_key 116 = .ok (.aload_n 0, 1) := dk_42 (dk_at dksX2_key_5 0 rfl rfl)
theorem dX2_key_117 : decode cX2_key 117 = .ok (.getfield 126, 3) := dk_180 0 126 (dk_at dksX2_key_5 1 rfl rfl)
theorem dX2_key_120 : decode cX2_key 120 = .ok (.ldc2_w 169, 3) := dk_20 0 169 (dk_at dksX2_key_5 4 rfl rfl)
theorem dX2_key_123 : decode cX2_key 123 = .ok (.lcmp, 1) := dk_148 (dk_at dksX2_key_5 7 rfl rfl)
theorem dX2_key_124 : decode cX2_key 124 = .ok (.ifCond .ne 6, 3) := dk_154 0 6 (dk_at dksX2_key_5 8 rfl rfl)
theorem dX2_key_127 : decode cX2_key 127 = .ok (.bipush 8, 2) := dk_16 8 (dk_at dksX2_key_5 11 rfl rfl)
theorem dX2_key_129 : decode cX2_key 129 = .ok (.ireturn, 1) := dk_172 (dk_at dksX2_key_5 13 rfl rfl)
theorem dX2_key_130 : decode cX2_key 130 = .ok (.aload_n 0, 1) := dk_42 (dk_at dksX2_key_5 14 rfl rfl)
theorem dX2_key_131 : decode cX2_key 131 = .ok (.getfield 126, 3) := dk_180 0 126 (dk_at dksX2_key_5 15 rfl rfl)
theorem dX2_key_134 : decode cX2_key 134 = .ok (.ldc2_w 171, 3) := dk_20 0 171 (dk_at dksX2_key_5 18 rfl rfl)
theorem dX2_key_137 : decode cX2_key 137 = .ok (.lcmp, 1) := dk_148 (dk_at dksX2_key_5 21 rfl rfl)
theorem dX2_key_138 : decode cX2_key 138 = .ok (.ifCond .ne 6, 3) := dk_154 0 6 (dk_at dksX2_key_6 0 rfl rfl)
theorem dX2_key_141 : decode cX2_key 141 = .ok (.bipush 9, 2) := dk_16 9 (dk_at dksX2_key_6 3 rfl rfl)
theorem dX2_key_143 : decode cX2_key 143 = .ok (.ireturn, 1) := dk_172 (dk_at dksX2_key_6 5 rfl rfl)
theorem dX2_key_144 : decode cX2_key 144 = .ok (.aload_n 0, 1) := dk_42 (dk_at dksX2_key_6 6 rfl rfl)
theorem dX2_key_145 : decode cX2_key 145 = .ok (.getfield 126, 3) := dk_180 0 126 (dk_at dksX2_key_6 7 rfl rfl)
theorem dX2_key_148 : decode cX2_key 148 = .ok (.ldc2_w 173, 3) := dk_20 0 173 (dk_at dksX2_key_6 10 rfl rfl)
theorem dX2_key_151 : decode cX2_key 151 = .ok (.lcmp, 1) := dk_148 (dk_at dksX2_key_6 13 rfl rfl)
theorem dX2_key_152 : decode cX2_key 152 = .ok (.ifCond .ne 6, 3) := dk_154 0 6 (dk_at dksX2_key_6 14 rfl rfl)
theorem dX2_key_155 : decode cX2_key 155 = .ok (.bipush 10, 2) := dk_16 10 (dk_at dksX2_key_6 17 rfl rfl)
theorem dX2_key_157 : decode cX2_key 157 = .ok (.ireturn, 1) := dk_172 (dk_at dksX2_key_6 19 rfl rfl)
theorem dX2_key_158 : decode cX2_key 158 = .ok (.aload_n 0, 1) := dk_42 (dk_at dksX2_key_6 20 rfl rfl)
theorem dX2_key_159 : decode cX2_key 159 = .ok (.getfield 126, 3) := dk_180 0 126 (dk_at dksX2_key_6 21 rfl rfl)
theorem dX2_key_162 : decode cX2_key 162 = .ok (.ldc2_w 175, 3) := dk_20 0 175 (dk_at dksX2_key_7 0 rfl rfl)
theorem dX2_key_165 : decode cX2_key 165 = .ok (.lcmp, 1) := dk_148 (dk_at dksX2_key_7 3 rfl rfl)
theorem dX2_key_166 : decode cX2_key 166 = .ok (.ifCond .ne 6, 3) := dk_154 0 6 (dk_at dksX2_key_7 4 rfl rfl)
theorem dX2_key_169 : decode cX2_key 169 = .ok (.bipush 11, 2) := dk_16 11 (dk_at dksX2_key_7 7 rfl rfl)
theorem dX2_key_171 : decode cX2_key 171 = .ok (.ireturn, 1) := dk_172 (dk_at dksX2_key_7 9 rfl rfl)
theorem dX2_key_172 : decode cX2_key 172 = .ok (.aload_n 0, 1) := dk_42 (dk_at dksX2_key_7 10 rfl rfl)
theorem dX2_key_173 : decode cX2_key 173 = .ok (.getfield 126, 3) := dk_180 0 126 (dk_at dksX2_key_7 11 rfl rfl)
theorem dX2_key_176 : decode cX2_key 176 = .ok (.ldc2_w 177, 3) := dk_20 0 177 (dk_at dksX2_key_7 14 rfl rfl)
theorem dX2_key_179 : decode cX2_key 179 = .ok (.lcmp, 1) := dk_148 (dk_at dksX2_key_7 17 rfl rfl)
theorem dX2_key_180 : decode cX2_key 180 = .ok (.ifCond .ne 8, 3) := dk_154 0 8 (dk_at dksX2_key_7 18 rfl rfl)
theorem dX2_key_183 : decode cX2_key 183 = .ok (.bipush 12, 2) := dk_16 12 (dk_at dksX2_key_7 21 rfl rfl)
theorem dX2_key_185 : decode cX2_key 185 = .ok (.goto 4, 3) := dk_167 0 4 (dk_at dksX2_key_8 0 rfl rfl)
theorem dX2_key_188 : decode cX2_key 188 = .ok (.iconst (-1), 1) := dk_2 (dk_at dksX2_key_8 3 rfl rfl)
theorem dX2_key_189 : decode cX2_key 189 = .ok (.ireturn, 1) := dk_172 (dk_at dksX2_key_8 4 rfl rfl)
abbrev cX2_nameLine : ByteArray := prog_12_method_23_code
def yX2_nameLine : MethodName := ⟨RX2, "nameLine", "(III)V"⟩
def dkwX2_nameLine_1 : List UInt8 := [182, 0, 199, 42, 180, 0, 19, 27, 21, 4, 4, 96, 79, 177]
abbrev dktX2_nameLine_1 : List UInt8 := dkwX2_nameLine_1 ++ []
def dkwX2_nameLine_0 : List UInt8 := [42, 180, 0, 19, 27, 46, 54, 4, 42, 21, 4, 29, 182, 0, 196, 154, 0, 4, 177, 42, 28, 21, 4, 96]
abbrev dktX2_nameLine_0 : List UInt8 := dkwX2_nameLine_0 ++ dktX2_nameLine_1
theorem dksX2_nameLine_0 : cX2_nameLine.data.toList.drop 0 = dktX2_nameLine_0 := by decide +kernel
theorem dksX2_nameLine_1 : cX2_nameLine.data.toList.drop 24 = dktX2_nameLine_1 := dk_seg dksX2_nameLine_0 24 rfl rfl
theorem dX2_nameLine_0 : decode cX2_nameLine 0 = .ok (.aload_n 0, 1) := dk_42 (dk_at dksX2_nameLine_0 0 rfl rfl)
theorem dX2_nameLine_1 : decode cX2_nameLine 1 = .ok (.getfield 19, 3) := dk_180 0 19 (dk_at dksX2_nameLine_0 1 rfl rfl)
theorem dX2_nameLine_4 : decode cX2_nameLine 4 = .ok (.iload_n 1, 1) := dk_27 (dk_at dksX2_nameLine_0 4 rfl rfl)
theorem dX2_nameLine_5 : decode cX2_nameLine 5 = .ok (.iaload, 1) := dk_46 (dk_at dksX2_nameLine_0 5 rfl rfl)
theorem dX2_nameLine_6 : decode cX2_nameLine 6 = .ok (.istore 4, 2) := dk_54 4 (dk_at dksX2_nameLine_0 6 rfl rfl)
theorem dX2_nameLine_8 : decode cX2_nameLine 8 = .ok (.aload_n 0, 1) := dk_42 (dk_at dksX2_nameLine_0 8 rfl rfl)
theorem dX2_nameLine_9 : decode cX2_nameLine 9 = .ok (.iload 4, 2) := dk_21 4 (dk_at dksX2_nameLine_0 9 rfl rfl)
theorem dX2_nameLine_11 : decode cX2_nameLine 11 = .ok (.iload_n 3, 1) := dk_29 (dk_at dksX2_nameLine_0 11 rfl rfl)
theorem dX2_nameLine_12 : decode cX2_nameLine 12 = .ok (.invokevirtual 196, 3) := dk_182 0 196 (dk_at dksX2_nameLine_0 12 rfl rfl)
theorem dX2_nameLine_15 : decode cX2_nameLine 15 = .ok (.ifCond .ne 4, 3) := dk_154 0 4 (dk_at dksX2_nameLine_0 15 rfl rfl)
theorem dX2_nameLine_18 : decode cX2_nameLine 18 = .ok (.return_, 1) := dk_177 (dk_at dksX2_nameLine_0 18 rfl rfl)
theorem dX2_nameLine_19 : decode cX2_nameLine 19 = .ok (.aload_n 0, 1) := dk_42 (dk_at dksX2_nameLine_0 19 rfl rfl)
theorem dX2_nameLine_20 : decode cX2_nameLine 20 = .ok (.iload_n 2, 1) := dk_28 (dk_at dksX2_nameLine_0 20 rfl rfl)
theorem dX2_nameLine_21 : decode cX2_nameLine 21 = .ok (.iload 4, 2) := dk_21 4 (dk_at dksX2_nameLine_0 21 rfl rfl)
theorem dX2_nameLine_23 : decode cX2_nameLine 23 = .ok (.iadd, 1) := dk_96 (dk_at dksX2_nameLine_0 23 rfl rfl)
theorem dX2_nameLine_24 : decode cX2_nameLine 24 = .ok (.invokevirtual 199, 3) := dk_182 0 199 (dk_at dksX2_nameLine_1 0 rfl rfl)
theorem dX2_nameLine_27 : decode cX2_nameLine 27 = .ok (.aload_n 0, 1) := dk_42 (dk_at dksX2_nameLine_1 3 rfl rfl)
theorem dX2_nameLine_28 : decode cX2_nameLine 28 = .ok (.getfield 19, 3) := dk_180 0 19 (dk_at dksX2_nameLine_1 4 rfl rfl)
theorem dX2_nameLine_31 : decode cX2_nameLine 31 = .ok (.iload_n 1, 1) := dk_27 (dk_at dksX2_nameLine_1 7 rfl rfl)
theorem dX2_nameLine_32 : decode cX2_nameLine 32 = .ok (.iload 4, 2) := dk_21 4 (dk_at dksX2_nameLine_1 8 rfl rfl)
theorem dX2_nameLine_34 : decode cX2_nameLine 34 = .ok (.iconst 1, 1) := dk_4 (dk_at dksX2_nameLine_1 10 rfl rfl)
theorem dX2_nameLine_35 : decode cX2_nameLine 35 = .ok (.iadd, 1) := dk_96 (dk_at dksX2_nameLine_1 11 rfl rfl)
theorem dX2_nameLine_36 : decode cX2_nameLine 36 = .ok (.iastore, 1) := dk_79 (dk_at dksX2_nameLine_1 12 rfl rfl)
theorem dX2_nameLine_37 : decode cX2_nameLine 37 = .ok (.return_, 1) := dk_177 (dk_at dksX2_nameLine_1 13 rfl rfl)
abbrev cX2_hasRoom : ByteArray := prog_12_method_21_code
def yX2_hasRoom : MethodName := ⟨RX2, "hasRoom", "(II)Z"⟩
def dkwX2_hasRoom_1 : List UInt8 := [182, 0, 150, 42, 180, 0, 137, 154, 0, 7, 4, 167, 0, 4, 3, 172]
abbrev dktX2_hasRoom_1 : List UInt8 := dkwX2_hasRoom_1 ++ []
def dkwX2_hasRoom_0 : List UInt8 := [27, 28, 160, 0, 12, 42, 7, 42, 180, 0, 107, 182, 0, 143, 42, 180, 0, 137, 154, 0, 7, 42]
abbrev dktX2_hasRoom_0 : List UInt8 := dkwX2_hasRoom_0 ++ dktX2_hasRoom_1
theorem dksX2_hasRoom_0 : cX2_hasRoom.data.toList.drop 0 = dktX2_hasRoom_0 := by decide +kernel
theorem dksX2_hasRoom_1 : cX2_hasRoom.data.toList.drop 22 = dktX2_hasRoom_1 := dk_seg dksX2_hasRoom_0 22 rfl rfl
theorem dX2_hasRoom_0 : decode cX2_hasRoom 0 = .ok (.iload_n 1, 1) := dk_27 (dk_at dksX2_hasRoom_0 0 rfl rfl)
theorem dX2_hasRoom_1 : decode cX2_hasRoom 1 = .ok (.iload_n 2, 1) := dk_28 (dk_at dksX2_hasRoom_0 1 rfl rfl)
theorem dX2_hasRoom_2 : decode cX2_hasRoom 2 = .ok (.if_icmp .ne 12, 3) := dk_160 0 12 (dk_at dksX2_hasRoom_0 2 rfl rfl)
theorem dX2_hasRoom_5 : decode cX2_hasRoom 5 = .ok (.aload_n 0, 1) := dk_42 (dk_at dksX2_hasRoom_0 5 rfl rfl)
theorem dX2_hasRoom_6 : decode cX2_hasRoom 6 = .ok (.iconst 4, 1) := dk_7 (dk_at dksX2_hasRoom_0 6 rfl rfl)
theorem dX2_hasRoom_7 : decode cX2_hasRoom 7 = .ok (.aload_n 0, 1) := dk_42 (dk_at dksX2_hasRoom_0 7 rfl rfl)
theorem dX2_hasRoom_8 : decode cX2_hasRoom 8 = .ok (.getfield 107, 3) := dk_180 0 107 (dk_at dksX2_hasRoom_0 8 rfl rfl)
theorem dX2_hasRoom_11 : decode cX2_hasRoom 11 = .ok (.invokevirtual 143, 3) := dk_182 0 143 (dk_at dksX2_hasRoom_0 11 rfl rfl)
theorem dX2_hasRoom_14 : decode cX2_hasRoom 14 = .ok (.aload_n 0, 1) := dk_42 (dk_at dksX2_hasRoom_0 14 rfl rfl)
theorem dX2_hasRoom_15 : decode cX2_hasRoom 15 = .ok (.getfield 137, 3) := dk_180 0 137 (dk_at dksX2_hasRoom_0 15 rfl rfl)
theorem dX2_hasRoom_18 : decode cX2_hasRoom 18 = .ok (.ifCond .ne 7, 3) := dk_154 0 7 (dk_at dksX2_hasRoom_0 18 rfl rfl)
theorem dX2_hasRoom_21 : decode cX2_hasRoom 21 = .ok (.aload_n 0, 1) := dk_42 (dk_at dksX2_hasRoom_0 21 rfl rfl)
theorem dX2_hasRoom_22 : decode cX2_hasRoom 22 = .ok (.invokevirtual 150, 3) := dk_182 0 150 (dk_at dksX2_hasRoom_1 0 rfl rfl)
theorem dX2_hasRoom_25 : decode cX2_hasRoom 25 = .ok (.aload_n 0, 1) := dk_42 (dk_at dksX2_hasRoom_1 3 rfl rfl)
theorem dX2_hasRoom_26 : decode cX2_hasRoom 26 = .ok (.getfield 137, 3) := dk_180 0 137 (dk_at dksX2_hasRoom_1 4 rfl rfl)
theorem dX2_hasRoom_29 : decode cX2_hasRoom 29 = .ok (.ifCond .ne 7, 3) := dk_154 0 7 (dk_at dksX2_hasRoom_1 7 rfl rfl)
theorem dX2_hasRoom_32 : decode cX2_hasRoom 32 = .ok (.iconst 1, 1) := dk_4 (dk_at dksX2_hasRoom_1 10 rfl rfl)
theorem dX2_hasRoom_33 : decode cX2_hasRoom 33 = .ok (.goto 4, 3) := dk_167 0 4 (dk_at dksX2_hasRoom_1 11 rfl rfl)
theorem dX2_hasRoom_36 : decode cX2_hasRoom 36 = .ok (.iconst 0, 1) := dk_3 (dk_at dksX2_hasRoom_1 14 rfl rfl)
theorem dX2_hasRoom_37 : decode cX2_hasRoom 37 = .ok (.ireturn, 1) := dk_172 (dk_at dksX2_hasRoom_1 15 rfl rfl)
abbrev cX2_fail : ByteArray := prog_12_method_13_code
def yX2_fail : MethodName := ⟨RX2, "fail", "(II)V"⟩
def dkwX2_fail_0 : List UInt8 := [42, 180, 0, 137, 158, 0, 4, 177, 42, 27, 181, 0, 137, 42, 28, 181, 0, 140, 177]
abbrev dktX2_fail_0 : List UInt8 := dkwX2_fail_0 ++ []
theorem dksX2_fail_0 : cX2_fail.data.toList.drop 0 = dktX2_fail_0 := by decide +kernel
theorem dX2_fail_0 : decode cX2_fail 0 = .ok (.aload_n 0, 1) := dk_42 (dk_at dksX2_fail_0 0 rfl rfl)
theorem dX2_fail_1 : decode cX2_fail 1 = .ok (.getfield 137, 3) := dk_180 0 137 (dk_at dksX2_fail_0 1 rfl rfl)
theorem dX2_fail_4 : decode cX2_fail 4 = .ok (.ifCond .le 4, 3) := dk_158 0 4 (dk_at dksX2_fail_0 4 rfl rfl)
theorem dX2_fail_7 : decode cX2_fail 7 = .ok (.return_, 1) := dk_177 (dk_at dksX2_fail_0 7 rfl rfl)
theorem dX2_fail_8 : decode cX2_fail 8 = .ok (.aload_n 0, 1) := dk_42 (dk_at dksX2_fail_0 8 rfl rfl)
theorem dX2_fail_9 : decode cX2_fail 9 = .ok (.iload_n 1, 1) := dk_27 (dk_at dksX2_fail_0 9 rfl rfl)
theorem dX2_fail_10 : decode cX2_fail 10 = .ok (.putfield 137, 3) := dk_181 0 137 (dk_at dksX2_fail_0 10 rfl rfl)
theorem dX2_fail_13 : decode cX2_fail 13 = .ok (.aload_n 0, 1) := dk_42 (dk_at dksX2_fail_0 13 rfl rfl)
theorem dX2_fail_14 : decode cX2_fail 14 = .ok (.iload_n 2, 1) := dk_28 (dk_at dksX2_fail_0 14 rfl rfl)
theorem dX2_fail_15 : decode cX2_fail 15 = .ok (.putfield 140, 3) := dk_181 0 140 (dk_at dksX2_fail_0 15 rfl rfl)
theorem dX2_fail_18 : decode cX2_fail 18 = .ok (.return_, 1) := dk_177 (dk_at dksX2_fail_0 18 rfl rfl)
abbrev cX2_given : ByteArray := prog_12_method_18_code
def yX2_given : MethodName := ⟨RX2, "given", "(I)V"⟩
def dkwX2_given_4 : List UInt8 := [182, 0, 150, 177]
abbrev dktX2_given_4 : List UInt8 := dkwX2_given_4 ++ []
def dkwX2_given_3 : List UInt8 := [182, 0, 143, 42, 180, 0, 137, 158, 0, 4, 177, 42, 180, 0, 25, 27, 42, 180, 0, 126, 80, 42]
abbrev dktX2_given_3 : List UInt8 := dkwX2_given_3 ++ dktX2_given_4
def dkwX2_given_2 : List UInt8 := [182, 0, 187, 2, 160, 0, 12, 42, 5, 182, 0, 187, 2, 159, 0, 12, 42, 5, 42, 180, 0, 107]
abbrev dktX2_given_2 : List UInt8 := dkwX2_given_2 ++ dktX2_given_3
def dkwX2_given_1 : List UInt8 := [42, 4, 42, 180, 0, 107, 182, 0, 143, 167, 0, 39, 42, 3, 182, 0, 187, 2, 160, 0, 21, 42, 4]
abbrev dktX2_given_1 : List UInt8 := dkwX2_given_1 ++ dktX2_given_2
def dkwX2_given_0 : List UInt8 := [42, 180, 0, 137, 158, 0, 4, 177, 42, 180, 0, 110, 4, 160, 0, 11, 42, 182, 0, 183, 2, 159, 0, 15]
abbrev dktX2_given_0 : List UInt8 := dkwX2_given_0 ++ dktX2_given_1
theorem dksX2_given_0 : cX2_given.data.toList.drop 0 = dktX2_given_0 := by decide +kernel
theorem dksX2_given_1 : cX2_given.data.toList.drop 24 = dktX2_given_1 := dk_seg dksX2_given_0 24 rfl rfl
theorem dksX2_given_2 : cX2_given.data.toList.drop 47 = dktX2_given_2 := dk_seg dksX2_given_1 23 rfl rfl
theorem dksX2_given_3 : cX2_given.data.toList.drop 69 = dktX2_given_3 := dk_seg dksX2_given_2 22 rfl rfl
theorem dksX2_given_4 : cX2_given.data.toList.drop 91 = dktX2_given_4 := dk_seg dksX2_given_3 22 rfl rfl
theorem dX2_given_0 : decode cX2_given 0 = .ok (.aload_n 0, 1) := dk_42 (dk_at dksX2_given_0 0 rfl rfl)
theorem dX2_given_1 : decode cX2_given 1 = .ok (.getfield 137, 3) := dk_180 0 137 (dk_at dksX2_given_0 1 rfl rfl)
theorem dX2_given_4 : decode cX2_given 4 = .ok (.ifCond .le 4, 3) := dk_158 0 4 (dk_at dksX2_given_0 4 rfl rfl)
theorem dX2_given_7 : decode cX2_given 7 = .ok (.return_, 1) := dk_177 (dk_at dksX2_given_0 7 rfl rfl)
theorem dX2_given_8 : decode cX2_given 8 = .ok (.aload_n 0, 1) := dk_42 (dk_at dksX2_given_0 8 rfl rfl)
theorem dX2_given_9 : decode cX2_given 9 = .ok (.getfield 110, 3) := dk_180 0 110 (dk_at dksX2_given_0 9 rfl rfl)
theorem dX2_given_12 : decode cX2_given 12 = .ok (.iconst 1, 1) := dk_4 (dk_at dksX2_given_0 12 rfl rfl)
theorem dX2_given_13 : decode cX2_given 13 = .ok (.if_icmp .ne 11, 3) := dk_160 0 11 (dk_at dksX2_given_0 13 rfl rfl)
theorem dX2_given_16 : decode cX2_given 16 = .ok (.aload_n 0, 1) := dk_42 (dk_at dksX2_given_0 16 rfl rfl)
theorem dX2_given_17 : decode cX2_given 17 = .ok (.invokevirtual 183, 3) := dk_182 0 183 (dk_at dksX2_given_0 17 rfl rfl)
theorem dX2_given_20 : decode cX2_given 20 = .ok (.iconst (-1), 1) := dk_2 (dk_at dksX2_given_0 20 rfl rfl)
theorem dX2_given_21 : decode cX2_given 21 = .ok (.if_icmp .eq 15, 3) := dk_159 0 15 (dk_at dksX2_given_0 21 rfl rfl)
theorem dX2_given_24 : decode cX2_given 24 = .ok (.aload_n 0, 1) := dk_42 (dk_at dksX2_given_1 0 rfl rfl)
theorem dX2_given_25 : decode cX2_given 25 = .ok (.iconst 1, 1) := dk_4 (dk_at dksX2_given_1 1 rfl rfl)
theorem dX2_given_26 : decode cX2_given 26 = .ok (.aload_n 0, 1) := dk_42 (dk_at dksX2_given_1 2 rfl rfl)
theorem dX2_given_27 : decode cX2_given 27 = .ok (.getfield 107, 3) := dk_180 0 107 (dk_at dksX2_given_1 3 rfl rfl)
theorem dX2_given_30 : decode cX2_given 30 = .ok (.invokevirtual 143, 3) := dk_182 0 143 (dk_at dksX2_given_1 6 rfl rfl)
theorem dX2_given_33 : decode cX2_given 33 = .ok (.goto 39, 3) := dk_167 0 39 (dk_at dksX2_given_1 9 rfl rfl)
theorem dX2_given_36 : decode cX2_given 36 = .ok (.aload_n 0, 1) := dk_42 (dk_at dksX2_given_1 12 rfl rfl)
theorem dX2_given_37 : decode cX2_given 37 = .ok (.iconst 0, 1) := dk_3 (dk_at dksX2_given_1 13 rfl rfl)
theorem dX2_given_38 : decode cX2_given 38 = .ok (.invokevirtual 187, 3) := dk_182 0 187 (dk_at dksX2_given_1 14 rfl rfl)
theorem dX2_given_41 : decode cX2_given 41 = .ok (.iconst (-1), 1) := dk_2 (dk_at dksX2_given_1 17 rfl rfl)
theorem dX2_given_42 : decode cX2_given 42 = .ok (.if_icmp .ne 21, 3) := dk_160 0 21 (dk_at dksX2_given_1 18 rfl rfl)
theorem dX2_given_45 : decode cX2_given 45 = .ok (.aload_n 0, 1) := dk_42 (dk_at dksX2_given_1 21 rfl rfl)
theorem dX2_given_46 : decode cX2_given 46 = .ok (.iconst 1, 1) := dk_4 (dk_at dksX2_given_1 22 rfl rfl)
theorem dX2_given_47 : decode cX2_given 47 = .ok (.invokevirtual 187, 3) := dk_182 0 187 (dk_at dksX2_given_2 0 rfl rfl)
theorem dX2_given_50 : decode cX2_given 50 = .ok (.iconst (-1), 1) := dk_2 (dk_at dksX2_given_2 3 rfl rfl)
theorem dX2_given_51 : decode cX2_given 51 = .ok (.if_icmp .ne 12, 3) := dk_160 0 12 (dk_at dksX2_given_2 4 rfl rfl)
theorem dX2_given_54 : decode cX2_given 54 = .ok (.aload_n 0, 1) := dk_42 (dk_at dksX2_given_2 7 rfl rfl)
theorem dX2_given_55 : decode cX2_given 55 = .ok (.iconst 2, 1) := dk_5 (dk_at dksX2_given_2 8 rfl rfl)
theorem dX2_given_56 : decode cX2_given 56 = .ok (.invokevirtual 187, 3) := dk_182 0 187 (dk_at dksX2_given_2 9 rfl rfl)
theorem dX2_given_59 : decode cX2_given 59 = .ok (.iconst (-1), 1) := dk_2 (dk_at dksX2_given_2 12 rfl rfl)
theorem dX2_given_60 : decode cX2_given 60 = .ok (.if_icmp .eq 12, 3) := dk_159 0 12 (dk_at dksX2_given_2 13 rfl rfl)
theorem dX2_given_63 : decode cX2_given 63 = .ok (.aload_n 0, 1) := dk_42 (dk_at dksX2_given_2 16 rfl rfl)
theorem dX2_given_64 : decode cX2_given 64 = .ok (.iconst 2, 1) := dk_5 (dk_at dksX2_given_2 17 rfl rfl)
theorem dX2_given_65 : decode cX2_given 65 = .ok (.aload_n 0, 1) := dk_42 (dk_at dksX2_given_2 18 rfl rfl)
theorem dX2_given_66 : decode cX2_given 66 = .ok (.getfield 107, 3) := dk_180 0 107 (dk_at dksX2_given_2 19 rfl rfl)
theorem dX2_given_69 : decode cX2_given 69 = .ok (.invokevirtual 143, 3) := dk_182 0 143 (dk_at dksX2_given_3 0 rfl rfl)
theorem dX2_given_72 : decode cX2_given 72 = .ok (.aload_n 0, 1) := dk_42 (dk_at dksX2_given_3 3 rfl rfl)
theorem dX2_given_73 : decode cX2_given 73 = .ok (.getfield 137, 3) := dk_180 0 137 (dk_at dksX2_given_3 4 rfl rfl)
theorem dX2_given_76 : decode cX2_given 76 = .ok (.ifCond .le 4, 3) := dk_158 0 4 (dk_at dksX2_given_3 7 rfl rfl)
theorem dX2_given_79 : decode cX2_given 79 = .ok (.return_, 1) := dk_177 (dk_at dksX2_given_3 10 rfl rfl)
theorem dX2_given_80 : decode cX2_given 80 = .ok (.aload_n 0, 1) := dk_42 (dk_at dksX2_given_3 11 rfl rfl)
theorem dX2_given_81 : decode cX2_given 81 = .ok (.getfield 25, 3) := dk_180 0 25 (dk_at dksX2_given_3 12 rfl rfl)
theorem dX2_given_84 : decode cX2_given 84 = .ok (.iload_n 1, 1) := dk_27 (dk_at dksX2_given_3 15 rfl rfl)
theorem dX2_given_85 : decode cX2_given 85 = .ok (.aload_n 0, 1) := dk_42 (dk_at dksX2_given_3 16 rfl rfl)
theorem dX2_given_86 : decode cX2_given 86 = .ok (.getfield 126, 3) := dk_180 0 126 (dk_at dksX2_given_3 17 rfl rfl)
theorem dX2_given_89 : decode cX2_given 89 = .ok (.lastore, 1) := dk_80 (dk_at dksX2_given_3 20 rfl rfl)
theorem dX2_given_90 : decode cX2_given 90 = .ok (.aload_n 0, 1) := dk_42 (dk_at dksX2_given_3 21 rfl rfl)
theorem dX2_given_91 : decode cX2_given 91 = .ok (.invokevirtual 150, 3) := dk_182 0 150 (dk_at dksX2_given_4 0 rfl rfl)
theorem dX2_given_94 : decode cX2_given 94 = .ok (.return_, 1) := dk_177 (dk_at dksX2_given_4 3 rfl rfl)
abbrev cX2_foundOf : ByteArray := prog_12_method_17_code
def yX2_foundOf : MethodName := ⟨RX2, "foundOf", "(I)I"⟩
def dkwX2_foundOf_1 : List UInt8 := [42, 180, 0, 19, 4, 46, 182, 0, 179, 172, 42, 16, 22, 42, 180, 0, 19, 5, 46, 182, 0, 179, 172]
abbrev dktX2_foundOf_1 : List UInt8 := dkwX2_foundOf_1 ++ []
def dkwX2_foundOf_0 : List UInt8 := [27, 154, 0, 15, 42, 3, 42, 180, 0, 19, 3, 46, 182, 0, 179, 172, 27, 4, 160, 0, 16, 42, 16, 16]
abbrev dktX2_foundOf_0 : List UInt8 := dkwX2_foundOf_0 ++ dktX2_foundOf_1
theorem dksX2_foundOf_0 : cX2_foundOf.data.toList.drop 0 = dktX2_foundOf_0 := by decide +kernel
theorem dksX2_foundOf_1 : cX2_foundOf.data.toList.drop 24 = dktX2_foundOf_1 := dk_seg dksX2_foundOf_0 24 rfl rfl
theorem dX2_foundOf_0 : decode cX2_foundOf 0 = .ok (.iload_n 1, 1) := dk_27 (dk_at dksX2_foundOf_0 0 rfl rfl)
theorem dX2_foundOf_1 : decode cX2_foundOf 1 = .ok (.ifCond .ne 15, 3) := dk_154 0 15 (dk_at dksX2_foundOf_0 1 rfl rfl)
theorem dX2_foundOf_4 : decode cX2_foundOf 4 = .ok (.aload_n 0, 1) := dk_42 (dk_at dksX2_foundOf_0 4 rfl rfl)
theorem dX2_foundOf_5 : decode cX2_foundOf 5 = .ok (.iconst 0, 1) := dk_3 (dk_at dksX2_foundOf_0 5 rfl rfl)
theorem dX2_foundOf_6 : decode cX2_foundOf 6 = .ok (.aload_n 0, 1) := dk_42 (dk_at dksX2_foundOf_0 6 rfl rfl)
theorem dX2_foundOf_7 : decode cX2_foundOf 7 = .ok (.getfield 19, 3) := dk_180 0 19 (dk_at dksX2_foundOf_0 7 rfl rfl)
theorem dX2_foundOf_10 : decode cX2_foundOf 10 = .ok (.iconst 0, 1) := dk_3 (dk_at dksX2_foundOf_0 10 rfl rfl)
theorem dX2_foundOf_11 : decode cX2_foundOf 11 = .ok (.iaload, 1) := dk_46 (dk_at dksX2_foundOf_0 11 rfl rfl)
theorem dX2_foundOf_12 : decode cX2_foundOf 12 = .ok (.invokevirtual 179, 3) := dk_182 0 179 (dk_at dksX2_foundOf_0 12 rfl rfl)
theorem dX2_foundOf_15 : decode cX2_foundOf 15 = .ok (.ireturn, 1) := dk_172 (dk_at dksX2_foundOf_0 15 rfl rfl)
theorem dX2_foundOf_16 : decode cX2_foundOf 16 = .ok (.iload_n 1, 1) := dk_27 (dk_at dksX2_foundOf_0 16 rfl rfl)
theorem dX2_foundOf_17 : decode cX2_foundOf 17 = .ok (.iconst 1, 1) := dk_4 (dk_at dksX2_foundOf_0 17 rfl rfl)
theorem dX2_foundOf_18 : decode cX2_foundOf 18 = .ok (.if_icmp .ne 16, 3) := dk_160 0 16 (dk_at dksX2_foundOf_0 18 rfl rfl)
theorem dX2_foundOf_21 : decode cX2_foundOf 21 = .ok (.aload_n 0, 1) := dk_42 (dk_at dksX2_foundOf_0 21 rfl rfl)
theorem dX2_foundOf_22 : decode cX2_foundOf 22 = .ok (.bipush 16, 2) := dk_16 16 (dk_at dksX2_foundOf_0 22 rfl rfl)
theorem dX2_foundOf_24 : decode cX2_foundOf 24 = .ok (.aload_n 0, 1) := dk_42 (dk_at dksX2_foundOf_1 0 rfl rfl)
theorem dX2_foundOf_25 : decode cX2_foundOf 25 = .ok (.getfield 19, 3) := dk_180 0 19 (dk_at dksX2_foundOf_1 1 rfl rfl)
theorem dX2_foundOf_28 : decode cX2_foundOf 28 = .ok (.iconst 1, 1) := dk_4 (dk_at dksX2_foundOf_1 4 rfl rfl)
theorem dX2_foundOf_29 : decode cX2_foundOf 29 = .ok (.iaload, 1) := dk_46 (dk_at dksX2_foundOf_1 5 rfl rfl)
theorem dX2_foundOf_30 : decode cX2_foundOf 30 = .ok (.invokevirtual 179, 3) := dk_182 0 179 (dk_at dksX2_foundOf_1 6 rfl rfl)
theorem dX2_foundOf_33 : decode cX2_foundOf 33 = .ok (.ireturn, 1) := dk_172 (dk_at dksX2_foundOf_1 9 rfl rfl)
theorem dX2_foundOf_34 : decode cX2_foundOf 34 = .ok (.aload_n 0, 1) := dk_42 (dk_at dksX2_foundOf_1 10 rfl rfl)
theorem dX2_foundOf_35 : decode cX2_foundOf 35 = .ok (.bipush 22, 2) := dk_16 22 (dk_at dksX2_foundOf_1 11 rfl rfl)
theorem dX2_foundOf_37 : decode cX2_foundOf 37 = .ok (.aload_n 0, 1) := dk_42 (dk_at dksX2_foundOf_1 13 rfl rfl)
theorem dX2_foundOf_38 : decode cX2_foundOf 38 = .ok (.getfield 19, 3) := dk_180 0 19 (dk_at dksX2_foundOf_1 14 rfl rfl)
theorem dX2_foundOf_41 : decode cX2_foundOf 41 = .ok (.iconst 2, 1) := dk_5 (dk_at dksX2_foundOf_1 17 rfl rfl)
theorem dX2_foundOf_42 : decode cX2_foundOf 42 = .ok (.iaload, 1) := dk_46 (dk_at dksX2_foundOf_1 18 rfl rfl)
theorem dX2_foundOf_43 : decode cX2_foundOf 43 = .ok (.invokevirtual 179, 3) := dk_182 0 179 (dk_at dksX2_foundOf_1 19 rfl rfl)
theorem dX2_foundOf_46 : decode cX2_foundOf 46 = .ok (.ireturn, 1) := dk_172 (dk_at dksX2_foundOf_1 22 rfl rfl)
abbrev cX2_found : ByteArray := prog_12_method_16_code
def yX2_found : MethodName := ⟨RX2, "found", "(II)I"⟩
def dkwX2_found_1 : List UInt8 := [172, 132, 3, 1, 167, 255, 230, 2, 172]
abbrev dktX2_found_1 : List UInt8 := dkwX2_found_1 ++ []
def dkwX2_found_0 : List UInt8 := [3, 62, 29, 28, 162, 0, 27, 42, 180, 0, 25, 27, 29, 96, 47, 42, 180, 0, 126, 148, 154, 0, 5, 29]
abbrev dktX2_found_0 : List UInt8 := dkwX2_found_0 ++ dktX2_found_1
theorem dksX2_found_0 : cX2_found.data.toList.drop 0 = dktX2_found_0 := by decide +kernel
theorem dksX2_found_1 : cX2_found.data.toList.drop 24 = dktX2_found_1 := dk_seg dksX2_found_0 24 rfl rfl
theorem dX2_found_0 : decode cX2_found 0 = .ok (.iconst 0, 1) := dk_3 (dk_at dksX2_found_0 0 rfl rfl)
theorem dX2_found_1 : decode cX2_found 1 = .ok (.istore_n 3, 1) := dk_62 (dk_at dksX2_found_0 1 rfl rfl)
theorem dX2_found_2 : decode cX2_found 2 = .ok (.iload_n 3, 1) := dk_29 (dk_at dksX2_found_0 2 rfl rfl)
theorem dX2_found_3 : decode cX2_found 3 = .ok (.iload_n 2, 1) := dk_28 (dk_at dksX2_found_0 3 rfl rfl)
theorem dX2_found_4 : decode cX2_found 4 = .ok (.if_icmp .ge 27, 3) := dk_162 0 27 (dk_at dksX2_found_0 4 rfl rfl)
theorem dX2_found_7 : decode cX2_found 7 = .ok (.aload_n 0, 1) := dk_42 (dk_at dksX2_found_0 7 rfl rfl)
theorem dX2_found_8 : decode cX2_found 8 = .ok (.getfield 25, 3) := dk_180 0 25 (dk_at dksX2_found_0 8 rfl rfl)
theorem dX2_found_11 : decode cX2_found 11 = .ok (.iload_n 1, 1) := dk_27 (dk_at dksX2_found_0 11 rfl rfl)
theorem dX2_found_12 : decode cX2_found 12 = .ok (.iload_n 3, 1) := dk_29 (dk_at dksX2_found_0 12 rfl rfl)
theorem dX2_found_13 : decode cX2_found 13 = .ok (.iadd, 1) := dk_96 (dk_at dksX2_found_0 13 rfl rfl)
theorem dX2_found_14 : decode cX2_found 14 = .ok (.laload, 1) := dk_47 (dk_at dksX2_found_0 14 rfl rfl)
theorem dX2_found_15 : decode cX2_found 15 = .ok (.aload_n 0, 1) := dk_42 (dk_at dksX2_found_0 15 rfl rfl)
theorem dX2_found_16 : decode cX2_found 16 = .ok (.getfield 126, 3) := dk_180 0 126 (dk_at dksX2_found_0 16 rfl rfl)
theorem dX2_found_19 : decode cX2_found 19 = .ok (.lcmp, 1) := dk_148 (dk_at dksX2_found_0 19 rfl rfl)
theorem dX2_found_20 : decode cX2_found 20 = .ok (.ifCond .ne 5, 3) := dk_154 0 5 (dk_at dksX2_found_0 20 rfl rfl)
theorem dX2_found_23 : decode cX2_found 23 = .ok (.iload_n 3, 1) := dk_29 (dk_at dksX2_found_0 23 rfl rfl)
theorem dX2_found_24 : decode cX2_found 24 = .ok (.ireturn, 1) := dk_172 (dk_at dksX2_found_1 0 rfl rfl)
theorem dX2_found_25 : decode cX2_found 25 = .ok (.iinc 3 1, 3) := dk_132 3 1 (dk_at dksX2_found_1 1 rfl rfl)
theorem dX2_found_28 : decode cX2_found 28 = .ok (.goto (-26), 3) := dk_167 255 230 (dk_at dksX2_found_1 4 rfl rfl)
theorem dX2_found_31 : decode cX2_found 31 = .ok (.iconst (-1), 1) := dk_2 (dk_at dksX2_found_1 7 rfl rfl)
theorem dX2_found_32 : decode cX2_found 32 = .ok (.ireturn, 1) := dk_172 (dk_at dksX2_found_1 8 rfl rfl)
abbrev cX2_filingLine : ByteArray := prog_12_method_26_code
def yX2_filingLine : MethodName := ⟨RX2, "filingLine", "()V"⟩
def dkwX2_filingLine_4 : List UInt8 := [132, 3, 1, 167, 255, 220, 42, 180, 0, 19, 5, 27, 4, 96, 79, 177]
abbrev dktX2_filingLine_4 : List UInt8 := dkwX2_filingLine_4 ++ []
def dkwX2_filingLine_3 : List UInt8 := [16, 32, 16, 16, 27, 104, 96, 29, 96, 28, 29, 184, 0, 82, 153, 0, 7, 3, 167, 0, 4, 2, 79]
abbrev dktX2_filingLine_3 : List UInt8 := dkwX2_filingLine_3 ++ dktX2_filingLine_4
def dkwX2_filingLine_2 : List UInt8 := [182, 0, 193, 79, 42, 3, 27, 182, 0, 205, 61, 3, 62, 29, 16, 16, 162, 0, 36, 42, 180, 0, 7]
abbrev dktX2_filingLine_2 : List UInt8 := dkwX2_filingLine_2 ++ dktX2_filingLine_3
def dkwX2_filingLine_1 : List UInt8 := [182, 0, 199, 42, 180, 0, 19, 8, 27, 96, 42, 4, 182, 0, 202, 79, 42, 180, 0, 7, 7, 27, 96, 42]
abbrev dktX2_filingLine_1 : List UInt8 := dkwX2_filingLine_1 ++ dktX2_filingLine_2
def dkwX2_filingLine_0 : List UInt8 := [42, 180, 0, 19, 5, 46, 60, 42, 27, 16, 14, 182, 0, 196, 154, 0, 4, 177, 42, 16, 22, 27, 96]
abbrev dktX2_filingLine_0 : List UInt8 := dkwX2_filingLine_0 ++ dktX2_filingLine_1
theorem dksX2_filingLine_0 : cX2_filingLine.data.toList.drop 0 = dktX2_filingLine_0 := by decide +kernel
theorem dksX2_filingLine_1 : cX2_filingLine.data.toList.drop 23 = dktX2_filingLine_1 := dk_seg dksX2_filingLine_0 23 rfl rfl
theorem dksX2_filingLine_2 : cX2_filingLine.data.toList.drop 47 = dktX2_filingLine_2 := dk_seg dksX2_filingLine_1 24 rfl rfl
theorem dksX2_filingLine_3 : cX2_filingLine.data.toList.drop 70 = dktX2_filingLine_3 := dk_seg dksX2_filingLine_2 23 rfl rfl
theorem dksX2_filingLine_4 : cX2_filingLine.data.toList.drop 93 = dktX2_filingLine_4 := dk_seg dksX2_filingLine_3 23 rfl rfl
theorem dX2_filingLine_0 : decode cX2_filingLine 0 = .ok (.aload_n 0, 1) := dk_42 (dk_at dksX2_filingLine_0 0 rfl rfl)
theorem dX2_filingLine_1 : decode cX2_filingLine 1 = .ok (.getfield 19, 3) := dk_180 0 19 (dk_at dksX2_filingLine_0 1 rfl rfl)
theorem dX2_filingLine_4 : decode cX2_filingLine 4 = .ok (.iconst 2, 1) := dk_5 (dk_at dksX2_filingLine_0 4 rfl rfl)
theorem dX2_filingLine_5 : decode cX2_filingLine 5 = .ok (.iaload, 1) := dk_46 (dk_at dksX2_filingLine_0 5 rfl rfl)
theorem dX2_filingLine_6 : decode cX2_filingLine 6 = .ok (.istore_n 1, 1) := dk_60 (dk_at dksX2_filingLine_0 6 rfl rfl)
theorem dX2_filingLine_7 : decode cX2_filingLine 7 = .ok (.aload_n 0, 1) := dk_42 (dk_at dksX2_filingLine_0 7 rfl rfl)
theorem dX2_filingLine_8 : decode cX2_filingLine 8 = .ok (.iload_n 1, 1) := dk_27 (dk_at dksX2_filingLine_0 8 rfl rfl)
theorem dX2_filingLine_9 : decode cX2_filingLine 9 = .ok (.bipush 14, 2) := dk_16 14 (dk_at dksX2_filingLine_0 9 rfl rfl)
theorem dX2_filingLine_11 : decode cX2_filingLine 11 = .ok (.invokevirtual 196, 3) := dk_182 0 196 (dk_at dksX2_filingLine_0 11 rfl rfl)
theorem dX2_filingLine_14 : decode cX2_filingLine 14 = .ok (.ifCond .ne 4, 3) := dk_154 0 4 (dk_at dksX2_filingLine_0 14 rfl rfl)
theorem dX2_filingLine_17 : decode cX2_filingLine 17 = .ok (.return_, 1) := dk_177 (dk_at dksX2_filingLine_0 17 rfl rfl)
theorem dX2_filingLine_18 : decode cX2_filingLine 18 = .ok (.aload_n 0, 1) := dk_42 (dk_at dksX2_filingLine_0 18 rfl rfl)
theorem dX2_filingLine_19 : decode cX2_filingLine 19 = .ok (.bipush 22, 2) := dk_16 22 (dk_at dksX2_filingLine_0 19 rfl rfl)
theorem dX2_filingLine_21 : decode cX2_filingLine 21 = .ok (.iload_n 1, 1) := dk_27 (dk_at dksX2_filingLine_0 21 rfl rfl)
theorem dX2_filingLine_22 : decode cX2_filingLine 22 = .ok (.iadd, 1) := dk_96 (dk_at dksX2_filingLine_0 22 rfl rfl)
theorem dX2_filingLine_23 : decode cX2_filingLine 23 = .ok (.invokevirtual 199, 3) := dk_182 0 199 (dk_at dksX2_filingLine_1 0 rfl rfl)
theorem dX2_filingLine_26 : decode cX2_filingLine 26 = .ok (.aload_n 0, 1) := dk_42 (dk_at dksX2_filingLine_1 3 rfl rfl)
theorem dX2_filingLine_27 : decode cX2_filingLine 27 = .ok (.getfield 19, 3) := dk_180 0 19 (dk_at dksX2_filingLine_1 4 rfl rfl)
theorem dX2_filingLine_30 : decode cX2_filingLine 30 = .ok (.iconst 5, 1) := dk_8 (dk_at dksX2_filingLine_1 7 rfl rfl)
theorem dX2_filingLine_31 : decode cX2_filingLine 31 = .ok (.iload_n 1, 1) := dk_27 (dk_at dksX2_filingLine_1 8 rfl rfl)
theorem dX2_filingLine_32 : decode cX2_filingLine 32 = .ok (.iadd, 1) := dk_96 (dk_at dksX2_filingLine_1 9 rfl rfl)
theorem dX2_filingLine_33 : decode cX2_filingLine 33 = .ok (.aload_n 0, 1) := dk_42 (dk_at dksX2_filingLine_1 10 rfl rfl)
theorem dX2_filingLine_34 : decode cX2_filingLine 34 = .ok (.iconst 1, 1) := dk_4 (dk_at dksX2_filingLine_1 11 rfl rfl)
theorem dX2_filingLine_35 : decode cX2_filingLine 35 = .ok (.invokevirtual 202, 3) := dk_182 0 202 (dk_at dksX2_filingLine_1 12 rfl rfl)
theorem dX2_filingLine_38 : decode cX2_filingLine 38 = .ok (.iastore, 1) := dk_79 (dk_at dksX2_filingLine_1 15 rfl rfl)
theorem dX2_filingLine_39 : decode cX2_filingLine 39 = .ok (.aload_n 0, 1) := dk_42 (dk_at dksX2_filingLine_1 16 rfl rfl)
theorem dX2_filingLine_40 : decode cX2_filingLine 40 = .ok (.getfield 7, 3) := dk_180 0 7 (dk_at dksX2_filingLine_1 17 rfl rfl)
theorem dX2_filingLine_43 : decode cX2_filingLine 43 = .ok (.iconst 4, 1) := dk_7 (dk_at dksX2_filingLine_1 20 rfl rfl)
theorem dX2_filingLine_44 : decode cX2_filingLine 44 = .ok (.iload_n 1, 1) := dk_27 (dk_at dksX2_filingLine_1 21 rfl rfl)
theorem dX2_filingLine_45 : decode cX2_filingLine 45 = .ok (.iadd, 1) := dk_96 (dk_at dksX2_filingLine_1 22 rfl rfl)
theorem dX2_filingLine_46 : decode cX2_filingLine 46 = .ok (.aload_n 0, 1) := dk_42 (dk_at dksX2_filingLine_1 23 rfl rfl)
theorem dX2_filingLine_47 : decode cX2_filingLine 47 = .ok (.invokevirtual 193, 3) := dk_182 0 193 (dk_at dksX2_filingLine_2 0 rfl rfl)
theorem dX2_filingLine_50 : decode cX2_filingLine 50 = .ok (.iastore, 1) := dk_79 (dk_at dksX2_filingLine_2 3 rfl rfl)
theorem dX2_filingLine_51 : decode cX2_filingLine 51 = .ok (.aload_n 0, 1) := dk_42 (dk_at dksX2_filingLine_2 4 rfl rfl)
theorem dX2_filingLine_52 : decode cX2_filingLine 52 = .ok (.iconst 0, 1) := dk_3 (dk_at dksX2_filingLine_2 5 rfl rfl)
theorem dX2_filingLine_53 : decode cX2_filingLine 53 = .ok (.iload_n 1, 1) := dk_27 (dk_at dksX2_filingLine_2 6 rfl rfl)
theorem dX2_filingLine_54 : decode cX2_filingLine 54 = .ok (.invokevirtual 205, 3) := dk_182 0 205 (dk_at dksX2_filingLine_2 7 rfl rfl)
theorem dX2_filingLine_57 : decode cX2_filingLine 57 = .ok (.istore_n 2, 1) := dk_61 (dk_at dksX2_filingLine_2 10 rfl rfl)
theorem dX2_filingLine_58 : decode cX2_filingLine 58 = .ok (.iconst 0, 1) := dk_3 (dk_at dksX2_filingLine_2 11 rfl rfl)
theorem dX2_filingLine_59 : decode cX2_filingLine 59 = .ok (.istore_n 3, 1) := dk_62 (dk_at dksX2_filingLine_2 12 rfl rfl)
theorem dX2_filingLine_60 : decode cX2_filingLine 60 = .ok (.iload_n 3, 1) := dk_29 (dk_at dksX2_filingLine_2 13 rfl rfl)
theorem dX2_filingLine_61 : decode cX2_filingLine 61 = .ok (.bipush 16, 2) := dk_16 16 (dk_at dksX2_filingLine_2 14 rfl rfl)
theorem dX2_filingLine_63 : decode cX2_filingLine 63 = .ok (.if_icmp .ge 36, 3) := dk_162 0 36 (dk_at dksX2_filingLine_2 16 rfl rfl)
theorem dX2_filingLine_66 : decode cX2_filingLine 66 = .ok (.aload_n 0, 1) := dk_42 (dk_at dksX2_filingLine_2 19 rfl rfl)
theorem dX2_filingLine_67 : decode cX2_filingLine 67 = .ok (.getfield 7, 3) := dk_180 0 7 (dk_at dksX2_filingLine_2 20 rfl rfl)
theorem dX2_filingLine_70 : decode cX2_filingLine 70 = .ok (.bipush 32, 2) := dk_16 32 (dk_at dksX2_filingLine_3 0 rfl rfl)
theorem dX2_filingLine_72 : decode cX2_filingLine 72 = .ok (.bipush 16, 2) := dk_16 16 (dk_at dksX2_filingLine_3 2 rfl rfl)
theorem dX2_filingLine_74 : decode cX2_filingLine 74 = .ok (.iload_n 1, 1) := dk_27 (dk_at dksX2_filingLine_3 4 rfl rfl)
theorem dX2_filingLine_75 : decode cX2_filingLine 75 = .ok (.imul, 1) := dk_104 (dk_at dksX2_filingLine_3 5 rfl rfl)
theorem dX2_filingLine_76 : decode cX2_filingLine 76 = .ok (.iadd, 1) := dk_96 (dk_at dksX2_filingLine_3 6 rfl rfl)
theorem dX2_filingLine_77 : decode cX2_filingLine 77 = .ok (.iload_n 3, 1) := dk_29 (dk_at dksX2_filingLine_3 7 rfl rfl)
theorem dX2_filingLine_78 : decode cX2_filingLine 78 = .ok (.iadd, 1) := dk_96 (dk_at dksX2_filingLine_3 8 rfl rfl)
theorem dX2_filingLine_79 : decode cX2_filingLine 79 = .ok (.iload_n 2, 1) := dk_28 (dk_at dksX2_filingLine_3 9 rfl rfl)
theorem dX2_filingLine_80 : decode cX2_filingLine 80 = .ok (.iload_n 3, 1) := dk_29 (dk_at dksX2_filingLine_3 10 rfl rfl)
theorem dX2_filingLine_81 : decode cX2_filingLine 81 = .ok (.invokestatic 82, 3) := dk_184 0 82 (dk_at dksX2_filingLine_3 11 rfl rfl)
theorem dX2_filingLine_84 : decode cX2_filingLine 84 = .ok (.ifCond .eq 7, 3) := dk_153 0 7 (dk_at dksX2_filingLine_3 14 rfl rfl)
theorem dX2_filingLine_87 : decode cX2_filingLine 87 = .ok (.iconst 0, 1) := dk_3 (dk_at dksX2_filingLine_3 17 rfl rfl)
theorem dX2_filingLine_88 : decode cX2_filingLine 88 = .ok (.goto 4, 3) := dk_167 0 4 (dk_at dksX2_filingLine_3 18 rfl rfl)
theorem dX2_filingLine_91 : decode cX2_filingLine 91 = .ok (.iconst (-1), 1) := dk_2 (dk_at dksX2_filingLine_3 21 rfl rfl)
theorem dX2_filingLine_92 : decode cX2_filingLine 92 = .ok (.iastore, 1) := dk_79 (dk_at dksX2_filingLine_3 22 rfl rfl)
theorem dX2_filingLine_93 : decode cX2_filingLine 93 = .ok (.iinc 3 1, 3) := dk_132 3 1 (dk_at dksX2_filingLine_4 0 rfl rfl)
theorem dX2_filingLine_96 : decode cX2_filingLine 96 = .ok (.goto (-36), 3) := dk_167 255 220 (dk_at dksX2_filingLine_4 3 rfl rfl)
theorem dX2_filingLine_99 : decode cX2_filingLine 99 = .ok (.aload_n 0, 1) := dk_42 (dk_at dksX2_filingLine_4 6 rfl rfl)
theorem dX2_filingLine_100 : decode cX2_filingLine 100 = .ok (.getfield 19, 3) := dk_180 0 19 (dk_at dksX2_filingLine_4 7 rfl rfl)
theorem dX2_filingLine_103 : decode cX2_filingLine 103 = .ok (.iconst 2, 1) := dk_5 (dk_at dksX2_filingLine_4 10 rfl rfl)
theorem dX2_filingLine_104 : decode cX2_filingLine 104 = .ok (.iload_n 1, 1) := dk_27 (dk_at dksX2_filingLine_4 11 rfl rfl)
theorem dX2_filingLine_105 : decode cX2_filingLine 105 = .ok (.iconst 1, 1) := dk_4 (dk_at dksX2_filingLine_4 12 rfl rfl)
theorem dX2_filingLine_106 : decode cX2_filingLine 106 = .ok (.iadd, 1) := dk_96 (dk_at dksX2_filingLine_4 13 rfl rfl)
theorem dX2_filingLine_107 : decode cX2_filingLine 107 = .ok (.iastore, 1) := dk_79 (dk_at dksX2_filingLine_4 14 rfl rfl)
theorem dX2_filingLine_108 : decode cX2_filingLine 108 = .ok (.return_, 1) := dk_177 (dk_at dksX2_filingLine_4 15 rfl rfl)
abbrev cX2_asked : ByteArray := prog_12_method_19_code
def yX2_asked : MethodName := ⟨RX2, "asked", "(I)I"⟩
def dkwX2_asked_3 : List UInt8 := [42, 42, 180, 0, 107, 181, 0, 147, 42, 182, 0, 150, 28, 172]
abbrev dktX2_asked_3 : List UInt8 := dkwX2_asked_3 ++ []
def dkwX2_asked_2 : List UInt8 := [42, 6, 42, 180, 0, 107, 182, 0, 143, 42, 180, 0, 137, 158, 0, 5, 3, 172, 42, 27, 182, 0, 187, 61]
abbrev dktX2_asked_2 : List UInt8 := dkwX2_asked_2 ++ dktX2_asked_3
def dkwX2_asked_1 : List UInt8 := [159, 0, 15, 42, 4, 42, 180, 0, 107, 182, 0, 143, 167, 0, 21, 42, 27, 182, 0, 187, 2, 160, 0, 12]
abbrev dktX2_asked_1 : List UInt8 := dkwX2_asked_1 ++ dktX2_asked_2
def dkwX2_asked_0 : List UInt8 := [42, 180, 0, 137, 158, 0, 5, 3, 172, 42, 180, 0, 110, 4, 160, 0, 11, 42, 182, 0, 183, 2]
abbrev dktX2_asked_0 : List UInt8 := dkwX2_asked_0 ++ dktX2_asked_1
theorem dksX2_asked_0 : cX2_asked.data.toList.drop 0 = dktX2_asked_0 := by decide +kernel
theorem dksX2_asked_1 : cX2_asked.data.toList.drop 22 = dktX2_asked_1 := dk_seg dksX2_asked_0 22 rfl rfl
theorem dksX2_asked_2 : cX2_asked.data.toList.drop 46 = dktX2_asked_2 := dk_seg dksX2_asked_1 24 rfl rfl
theorem dksX2_asked_3 : cX2_asked.data.toList.drop 70 = dktX2_asked_3 := dk_seg dksX2_asked_2 24 rfl rfl
theorem dX2_asked_0 : decode cX2_asked 0 = .ok (.aload_n 0, 1) := dk_42 (dk_at dksX2_asked_0 0 rfl rfl)
theorem dX2_asked_1 : decode cX2_asked 1 = .ok (.getfield 137, 3) := dk_180 0 137 (dk_at dksX2_asked_0 1 rfl rfl)
theorem dX2_asked_4 : decode cX2_asked 4 = .ok (.ifCond .le 5, 3) := dk_158 0 5 (dk_at dksX2_asked_0 4 rfl rfl)
theorem dX2_asked_7 : decode cX2_asked 7 = .ok (.iconst 0, 1) := dk_3 (dk_at dksX2_asked_0 7 rfl rfl)
theorem dX2_asked_8 : decode cX2_asked 8 = .ok (.ireturn, 1) := dk_172 (dk_at dksX2_asked_0 8 rfl rfl)
theorem dX2_asked_9 : decode cX2_asked 9 = .ok (.aload_n 0, 1) := dk_42 (dk_at dksX2_asked_0 9 rfl rfl)
theorem dX2_asked_10 : decode cX2_asked 10 = .ok (.getfield 110, 3) := dk_180 0 110 (dk_at dksX2_asked_0 10 rfl rfl)
theorem dX2_asked_13 : decode cX2_asked 13 = .ok (.iconst 1, 1) := dk_4 (dk_at dksX2_asked_0 13 rfl rfl)
theorem dX2_asked_14 : decode cX2_asked 14 = .ok (.if_icmp .ne 11, 3) := dk_160 0 11 (dk_at dksX2_asked_0 14 rfl rfl)
theorem dX2_asked_17 : decode cX2_asked 17 = .ok (.aload_n 0, 1) := dk_42 (dk_at dksX2_asked_0 17 rfl rfl)
theorem dX2_asked_18 : decode cX2_asked 18 = .ok (.invokevirtual 183, 3) := dk_182 0 183 (dk_at dksX2_asked_0 18 rfl rfl)
theorem dX2_asked_21 : decode cX2_asked 21 = .ok (.iconst (-1), 1) := dk_2 (dk_at dksX2_asked_0 21 rfl rfl)
theorem dX2_asked_22 : decode cX2_asked 22 = .ok (.if_icmp .eq 15, 3) := dk_159 0 15 (dk_at dksX2_asked_1 0 rfl rfl)
theorem dX2_asked_25 : decode cX2_asked 25 = .ok (.aload_n 0, 1) := dk_42 (dk_at dksX2_asked_1 3 rfl rfl)
theorem dX2_asked_26 : decode cX2_asked 26 = .ok (.iconst 1, 1) := dk_4 (dk_at dksX2_asked_1 4 rfl rfl)
theorem dX2_asked_27 : decode cX2_asked 27 = .ok (.aload_n 0, 1) := dk_42 (dk_at dksX2_asked_1 5 rfl rfl)
theorem dX2_asked_28 : decode cX2_asked 28 = .ok (.getfield 107, 3) := dk_180 0 107 (dk_at dksX2_asked_1 6 rfl rfl)
theorem dX2_asked_31 : decode cX2_asked 31 = .ok (.invokevirtual 143, 3) := dk_182 0 143 (dk_at dksX2_asked_1 9 rfl rfl)
theorem dX2_asked_34 : decode cX2_asked 34 = .ok (.goto 21, 3) := dk_167 0 21 (dk_at dksX2_asked_1 12 rfl rfl)
theorem dX2_asked_37 : decode cX2_asked 37 = .ok (.aload_n 0, 1) := dk_42 (dk_at dksX2_asked_1 15 rfl rfl)
theorem dX2_asked_38 : decode cX2_asked 38 = .ok (.iload_n 1, 1) := dk_27 (dk_at dksX2_asked_1 16 rfl rfl)
theorem dX2_asked_39 : decode cX2_asked 39 = .ok (.invokevirtual 187, 3) := dk_182 0 187 (dk_at dksX2_asked_1 17 rfl rfl)
theorem dX2_asked_42 : decode cX2_asked 42 = .ok (.iconst (-1), 1) := dk_2 (dk_at dksX2_asked_1 20 rfl rfl)
theorem dX2_asked_43 : decode cX2_asked 43 = .ok (.if_icmp .ne 12, 3) := dk_160 0 12 (dk_at dksX2_asked_1 21 rfl rfl)
theorem dX2_asked_46 : decode cX2_asked 46 = .ok (.aload_n 0, 1) := dk_42 (dk_at dksX2_asked_2 0 rfl rfl)
theorem dX2_asked_47 : decode cX2_asked 47 = .ok (.iconst 3, 1) := dk_6 (dk_at dksX2_asked_2 1 rfl rfl)
theorem dX2_asked_48 : decode cX2_asked 48 = .ok (.aload_n 0, 1) := dk_42 (dk_at dksX2_asked_2 2 rfl rfl)
theorem dX2_asked_49 : decode cX2_asked 49 = .ok (.getfield 107, 3) := dk_180 0 107 (dk_at dksX2_asked_2 3 rfl rfl)
theorem dX2_asked_52 : decode cX2_asked 52 = .ok (.invokevirtual 143, 3) := dk_182 0 143 (dk_at dksX2_asked_2 6 rfl rfl)
theorem dX2_asked_55 : decode cX2_asked 55 = .ok (.aload_n 0, 1) := dk_42 (dk_at dksX2_asked_2 9 rfl rfl)
theorem dX2_asked_56 : decode cX2_asked 56 = .ok (.getfield 137, 3) := dk_180 0 137 (dk_at dksX2_asked_2 10 rfl rfl)
theorem dX2_asked_59 : decode cX2_asked 59 = .ok (.ifCond .le 5, 3) := dk_158 0 5 (dk_at dksX2_asked_2 13 rfl rfl)
theorem dX2_asked_62 : decode cX2_asked 62 = .ok (.iconst 0, 1) := dk_3 (dk_at dksX2_asked_2 16 rfl rfl)
theorem dX2_asked_63 : decode cX2_asked 63 = .ok (.ireturn, 1) := dk_172 (dk_at dksX2_asked_2 17 rfl rfl)
theorem dX2_asked_64 : decode cX2_asked 64 = .ok (.aload_n 0, 1) := dk_42 (dk_at dksX2_asked_2 18 rfl rfl)
theorem dX2_asked_65 : decode cX2_asked 65 = .ok (.iload_n 1, 1) := dk_27 (dk_at dksX2_asked_2 19 rfl rfl)
theorem dX2_asked_66 : decode cX2_asked 66 = .ok (.invokevirtual 187, 3) := dk_182 0 187 (dk_at dksX2_asked_2 20 rfl rfl)
theorem dX2_asked_69 : decode cX2_asked 69 = .ok (.istore_n 2, 1) := dk_61 (dk_at dksX2_asked_2 23 rfl rfl)
theorem dX2_asked_70 : decode cX2_asked 70 = .ok (.aload_n 0, 1) := dk_42 (dk_at dksX2_asked_3 0 rfl rfl)
theorem dX2_asked_71 : decode cX2_asked 71 = .ok (.aload_n 0, 1) := dk_42 (dk_at dksX2_asked_3 1 rfl rfl)
theorem dX2_asked_72 : decode cX2_asked 72 = .ok (.getfield 107, 3) := dk_180 0 107 (dk_at dksX2_asked_3 2 rfl rfl)
theorem dX2_asked_75 : decode cX2_asked 75 = .ok (.putfield 147, 3) := dk_181 0 147 (dk_at dksX2_asked_3 5 rfl rfl)
theorem dX2_asked_78 : decode cX2_asked 78 = .ok (.aload_n 0, 1) := dk_42 (dk_at dksX2_asked_3 8 rfl rfl)
theorem dX2_asked_79 : decode cX2_asked 79 = .ok (.invokevirtual 150, 3) := dk_182 0 150 (dk_at dksX2_asked_3 9 rfl rfl)
theorem dX2_asked_82 : decode cX2_asked 82 = .ok (.iload_n 2, 1) := dk_28 (dk_at dksX2_asked_3 12 rfl rfl)
theorem dX2_asked_83 : decode cX2_asked 83 = .ok (.ireturn, 1) := dk_172 (dk_at dksX2_asked_3 13 rfl rfl)
abbrev cX2_number : ByteArray := prog_12_method_14_code
def yX2_number : MethodName := ⟨RX2, "number", "()I"⟩
def dkwX2_number_2 : List UInt8 := [182, 0, 150, 27, 172]
abbrev dktX2_number_2 : List UInt8 := dkwX2_number_2 ++ []
def dkwX2_number_1 : List UInt8 := [182, 0, 143, 42, 42, 180, 0, 107, 181, 0, 147, 42, 180, 0, 134, 60, 42, 180, 0, 137, 154, 0, 7, 42]
abbrev dktX2_number_1 : List UInt8 := dkwX2_number_1 ++ dktX2_number_2
def dkwX2_number_0 : List UInt8 := [42, 180, 0, 137, 158, 0, 5, 3, 172, 42, 180, 0, 110, 5, 159, 0, 12, 42, 4, 42, 180, 0, 107]
abbrev dktX2_number_0 : List UInt8 := dkwX2_number_0 ++ dktX2_number_1
theorem dksX2_number_0 : cX2_number.data.toList.drop 0 = dktX2_number_0 := by decide +kernel
theorem dksX2_number_1 : cX2_number.data.toList.drop 23 = dktX2_number_1 := dk_seg dksX2_number_0 23 rfl rfl
theorem dksX2_number_2 : cX2_number.data.toList.drop 47 = dktX2_number_2 := dk_seg dksX2_number_1 24 rfl rfl
theorem dX2_number_0 : decode cX2_number 0 = .ok (.aload_n 0, 1) := dk_42 (dk_at dksX2_number_0 0 rfl rfl)
theorem dX2_number_1 : decode cX2_number 1 = .ok (.getfield 137, 3) := dk_180 0 137 (dk_at dksX2_number_0 1 rfl rfl)
theorem dX2_number_4 : decode cX2_number 4 = .ok (.ifCond .le 5, 3) := dk_158 0 5 (dk_at dksX2_number_0 4 rfl rfl)
theorem dX2_number_7 : decode cX2_number 7 = .ok (.iconst 0, 1) := dk_3 (dk_at dksX2_number_0 7 rfl rfl)
theorem dX2_number_8 : decode cX2_number 8 = .ok (.ireturn, 1) := dk_172 (dk_at dksX2_number_0 8 rfl rfl)
theorem dX2_number_9 : decode cX2_number 9 = .ok (.aload_n 0, 1) := dk_42 (dk_at dksX2_number_0 9 rfl rfl)
theorem dX2_number_10 : decode cX2_number 10 = .ok (.getfield 110, 3) := dk_180 0 110 (dk_at dksX2_number_0 10 rfl rfl)
theorem dX2_number_13 : decode cX2_number 13 = .ok (.iconst 2, 1) := dk_5 (dk_at dksX2_number_0 13 rfl rfl)
theorem dX2_number_14 : decode cX2_number 14 = .ok (.if_icmp .eq 12, 3) := dk_159 0 12 (dk_at dksX2_number_0 14 rfl rfl)
theorem dX2_number_17 : decode cX2_number 17 = .ok (.aload_n 0, 1) := dk_42 (dk_at dksX2_number_0 17 rfl rfl)
theorem dX2_number_18 : decode cX2_number 18 = .ok (.iconst 1, 1) := dk_4 (dk_at dksX2_number_0 18 rfl rfl)
theorem dX2_number_19 : decode cX2_number 19 = .ok (.aload_n 0, 1) := dk_42 (dk_at dksX2_number_0 19 rfl rfl)
theorem dX2_number_20 : decode cX2_number 20 = .ok (.getfield 107, 3) := dk_180 0 107 (dk_at dksX2_number_0 20 rfl rfl)
theorem dX2_number_23 : decode cX2_number 23 = .ok (.invokevirtual 143, 3) := dk_182 0 143 (dk_at dksX2_number_1 0 rfl rfl)
theorem dX2_number_26 : decode cX2_number 26 = .ok (.aload_n 0, 1) := dk_42 (dk_at dksX2_number_1 3 rfl rfl)
theorem dX2_number_27 : decode cX2_number 27 = .ok (.aload_n 0, 1) := dk_42 (dk_at dksX2_number_1 4 rfl rfl)
theorem dX2_number_28 : decode cX2_number 28 = .ok (.getfield 107, 3) := dk_180 0 107 (dk_at dksX2_number_1 5 rfl rfl)
theorem dX2_number_31 : decode cX2_number 31 = .ok (.putfield 147, 3) := dk_181 0 147 (dk_at dksX2_number_1 8 rfl rfl)
theorem dX2_number_34 : decode cX2_number 34 = .ok (.aload_n 0, 1) := dk_42 (dk_at dksX2_number_1 11 rfl rfl)
theorem dX2_number_35 : decode cX2_number 35 = .ok (.getfield 134, 3) := dk_180 0 134 (dk_at dksX2_number_1 12 rfl rfl)
theorem dX2_number_38 : decode cX2_number 38 = .ok (.istore_n 1, 1) := dk_60 (dk_at dksX2_number_1 15 rfl rfl)
theorem dX2_number_39 : decode cX2_number 39 = .ok (.aload_n 0, 1) := dk_42 (dk_at dksX2_number_1 16 rfl rfl)
theorem dX2_number_40 : decode cX2_number 40 = .ok (.getfield 137, 3) := dk_180 0 137 (dk_at dksX2_number_1 17 rfl rfl)
theorem dX2_number_43 : decode cX2_number 43 = .ok (.ifCond .ne 7, 3) := dk_154 0 7 (dk_at dksX2_number_1 20 rfl rfl)
theorem dX2_number_46 : decode cX2_number 46 = .ok (.aload_n 0, 1) := dk_42 (dk_at dksX2_number_1 23 rfl rfl)
theorem dX2_number_47 : decode cX2_number 47 = .ok (.invokevirtual 150, 3) := dk_182 0 150 (dk_at dksX2_number_2 0 rfl rfl)
theorem dX2_number_50 : decode cX2_number 50 = .ok (.iload_n 1, 1) := dk_27 (dk_at dksX2_number_2 3 rfl rfl)
theorem dX2_number_51 : decode cX2_number 51 = .ok (.ireturn, 1) := dk_172 (dk_at dksX2_number_2 4 rfl rfl)
abbrev cX2_partsTold : ByteArray := prog_12_method_24_code
def yX2_partsTold : MethodName := ⟨RX2, "partsTold", "(II)I"⟩
def dkwX2_partsTold_5 : List UInt8 := [29, 172]
abbrev dktX2_partsTold_5 : List UInt8 := dkwX2_partsTold_5 ++ []
def dkwX2_partsTold_4 : List UInt8 := [21, 5, 154, 0, 12, 42, 8, 42, 180, 0, 147, 182, 0, 143, 29, 4, 21, 4, 120, 128, 62, 167, 255, 142]
abbrev dktX2_partsTold_4 : List UInt8 := dkwX2_partsTold_4 ++ dktX2_partsTold_5
def dkwX2_partsTold_3 : List UInt8 := [180, 0, 147, 182, 0, 143, 167, 0, 32, 27, 4, 160, 0, 8, 21, 5, 154, 0, 13, 27, 5, 160, 0, 17]
abbrev dktX2_partsTold_3 : List UInt8 := dkwX2_partsTold_3 ++ dktX2_partsTold_4
def dkwX2_partsTold_2 : List UInt8 := [2, 159, 0, 7, 4, 167, 0, 4, 3, 54, 5, 29, 21, 4, 184, 0, 82, 153, 0, 15, 42, 5, 42]
abbrev dktX2_partsTold_2 : List UInt8 := dkwX2_partsTold_2 ++ dktX2_partsTold_3
def dkwX2_partsTold_1 : List UInt8 := [42, 180, 0, 137, 158, 0, 5, 29, 172, 42, 180, 0, 7, 16, 32, 16, 16, 28, 104, 96, 21, 4, 96, 46]
abbrev dktX2_partsTold_1 : List UInt8 := dkwX2_partsTold_1 ++ dktX2_partsTold_2
def dkwX2_partsTold_0 : List UInt8 := [3, 62, 42, 180, 0, 137, 154, 0, 113, 42, 180, 0, 110, 4, 160, 0, 105, 42, 3, 182, 0, 202, 54, 4]
abbrev dktX2_partsTold_0 : List UInt8 := dkwX2_partsTold_0 ++ dktX2_partsTold_1
theorem dksX2_partsTold_0 : cX2_partsTold.data.toList.drop 0 = dktX2_partsTold_0 := by decide +kernel
theorem dksX2_partsTold_1 : cX2_partsTold.data.toList.drop 24 = dktX2_partsTold_1 := dk_seg dksX2_partsTold_0 24 rfl rfl
theorem dksX2_partsTold_2 : cX2_partsTold.data.toList.drop 48 = dktX2_partsTold_2 := dk_seg dksX2_partsTold_1 24 rfl rfl
theorem dksX2_partsTold_3 : cX2_partsTold.data.toList.drop 71 = dktX2_partsTold_3 := dk_seg dksX2_partsTold_2 23 rfl rfl
theorem dksX2_partsTold_4 : cX2_partsTold.data.toList.drop 95 = dktX2_partsTold_4 := dk_seg dksX2_partsTold_3 24 rfl rfl
theorem dksX2_partsTold_5 : cX2_partsTold.data.toList.drop 119 = dktX2_partsTold_5 := dk_seg dksX2_partsTold_4 24 rfl rfl
theorem dX2_partsTold_0 : decode cX2_partsTold 0 = .ok (.iconst 0, 1) := dk_3 (dk_at dksX2_partsTold_0 0 rfl rfl)
theorem dX2_partsTold_1 : decode cX2_partsTold 1 = .ok (.istore_n 3, 1) := dk_62 (dk_at dksX2_partsTold_0 1 rfl rfl)
theorem dX2_partsTold_2 : decode cX2_partsTold 2 = .ok (.aload_n 0, 1) := dk_42 (dk_at dksX2_partsTold_0 2 rfl rfl)
theorem dX2_partsTold_3 : decode cX2_partsTold 3 = .ok (.getfield 137, 3) := dk_180 0 137 (dk_at dksX2_partsTold_0 3 rfl rfl)
theorem dX2_partsTold_6 : decode cX2_partsTold 6 = .ok (.ifCond .ne 113, 3) := dk_154 0 113 (dk_at dksX2_partsTold_0 6 rfl rfl)
theorem dX2_partsTold_9 : decode cX2_partsTold 9 = .ok (.aload_n 0, 1) := dk_42 (dk_at dksX2_partsTold_0 9 rfl rfl)
theorem dX2_partsTold_10 : decode cX2_partsTold 10 = .ok (.getfield 110, 3) := dk_180 0 110 (dk_at dksX2_partsTold_0 10 rfl rfl)
theorem dX2_partsTold_13 : decode cX2_partsTold 13 = .ok (.iconst 1, 1) := dk_4 (dk_at dksX2_partsTold_0 13 rfl rfl)
theorem dX2_partsTold_14 : decode cX2_partsTold 14 = .ok (.if_icmp .ne 105, 3) := dk_160 0 105 (dk_at dksX2_partsTold_0 14 rfl rfl)
theorem dX2_partsTold_17 : decode cX2_partsTold 17 = .ok (.aload_n 0, 1) := dk_42 (dk_at dksX2_partsTold_0 17 rfl rfl)
theorem dX2_partsTold_18 : decode cX2_partsTold 18 = .ok (.iconst 0, 1) := dk_3 (dk_at dksX2_partsTold_0 18 rfl rfl)
theorem dX2_partsTold_19 : decode cX2_partsTold 19 = .ok (.invokevirtual 202, 3) := dk_182 0 202 (dk_at dksX2_partsTold_0 19 rfl rfl)
theorem dX2_partsTold_22 : decode cX2_partsTold 22 = .ok (.istore 4, 2) := dk_54 4 (dk_at dksX2_partsTold_0 22 rfl rfl)
theorem dX2_partsTold_24 : decode cX2_partsTold 24 = .ok (.aload_n 0, 1) := dk_42 (dk_at dksX2_partsTold_1 0 rfl rfl)
theorem dX2_partsTold_25 : decode cX2_partsTold 25 = .ok (.getfield 137, 3) := dk_180 0 137 (dk_at dksX2_partsTold_1 1 rfl rfl)
theorem dX2_partsTold_28 : decode cX2_partsTold 28 = .ok (.ifCond .le 5, 3) := dk_158 0 5 (dk_at dksX2_partsTold_1 4 rfl rfl)
theorem dX2_partsTold_31 : decode cX2_partsTold 31 = .ok (.iload_n 3, 1) := dk_29 (dk_at dksX2_partsTold_1 7 rfl rfl)
theorem dX2_partsTold_32 : decode cX2_partsTold 32 = .ok (.ireturn, 1) := dk_172 (dk_at dksX2_partsTold_1 8 rfl rfl)
theorem dX2_partsTold_33 : decode cX2_partsTold 33 = .ok (.aload_n 0, 1) := dk_42 (dk_at dksX2_partsTold_1 9 rfl rfl)
theorem dX2_partsTold_34 : decode cX2_partsTold 34 = .ok (.getfield 7, 3) := dk_180 0 7 (dk_at dksX2_partsTold_1 10 rfl rfl)
theorem dX2_partsTold_37 : decode cX2_partsTold 37 = .ok (.bipush 32, 2) := dk_16 32 (dk_at dksX2_partsTold_1 13 rfl rfl)
theorem dX2_partsTold_39 : decode cX2_partsTold 39 = .ok (.bipush 16, 2) := dk_16 16 (dk_at dksX2_partsTold_1 15 rfl rfl)
theorem dX2_partsTold_41 : decode cX2_partsTold 41 = .ok (.iload_n 2, 1) := dk_28 (dk_at dksX2_partsTold_1 17 rfl rfl)
theorem dX2_partsTold_42 : decode cX2_partsTold 42 = .ok (.imul, 1) := dk_104 (dk_at dksX2_partsTold_1 18 rfl rfl)
theorem dX2_partsTold_43 : decode cX2_partsTold 43 = .ok (.iadd, 1) := dk_96 (dk_at dksX2_partsTold_1 19 rfl rfl)
theorem dX2_partsTold_44 : decode cX2_partsTold 44 = .ok (.iload 4, 2) := dk_21 4 (dk_at dksX2_partsTold_1 20 rfl rfl)
theorem dX2_partsTold_46 : decode cX2_partsTold 46 = .ok (.iadd, 1) := dk_96 (dk_at dksX2_partsTold_1 22 rfl rfl)
theorem dX2_partsTold_47 : decode cX2_partsTold 47 = .ok (.iaload, 1) := dk_46 (dk_at dksX2_partsTold_1 23 rfl rfl)
theorem dX2_partsTold_48 : decode cX2_partsTold 48 = .ok (.iconst (-1), 1) := dk_2 (dk_at dksX2_partsTold_2 0 rfl rfl)
theorem dX2_partsTold_49 : decode cX2_partsTold 49 = .ok (.if_icmp .eq 7, 3) := dk_159 0 7 (dk_at dksX2_partsTold_2 1 rfl rfl)
theorem dX2_partsTold_52 : decode cX2_partsTold 52 = .ok (.iconst 1, 1) := dk_4 (dk_at dksX2_partsTold_2 4 rfl rfl)
theorem dX2_partsTold_53 : decode cX2_partsTold 53 = .ok (.goto 4, 3) := dk_167 0 4 (dk_at dksX2_partsTold_2 5 rfl rfl)
theorem dX2_partsTold_56 : decode cX2_partsTold 56 = .ok (.iconst 0, 1) := dk_3 (dk_at dksX2_partsTold_2 8 rfl rfl)
theorem dX2_partsTold_57 : decode cX2_partsTold 57 = .ok (.istore 5, 2) := dk_54 5 (dk_at dksX2_partsTold_2 9 rfl rfl)
theorem dX2_partsTold_59 : decode cX2_partsTold 59 = .ok (.iload_n 3, 1) := dk_29 (dk_at dksX2_partsTold_2 11 rfl rfl)
theorem dX2_partsTold_60 : decode cX2_partsTold 60 = .ok (.iload 4, 2) := dk_21 4 (dk_at dksX2_partsTold_2 12 rfl rfl)
theorem dX2_partsTold_62 : decode cX2_partsTold 62 = .ok (.invokestatic 82, 3) := dk_184 0 82 (dk_at dksX2_partsTold_2 14 rfl rfl)
theorem dX2_partsTold_65 : decode cX2_partsTold 65 = .ok (.ifCond .eq 15, 3) := dk_153 0 15 (dk_at dksX2_partsTold_2 17 rfl rfl)
theorem dX2_partsTold_68 : decode cX2_partsTold 68 = .ok (.aload_n 0, 1) := dk_42 (dk_at dksX2_partsTold_2 20 rfl rfl)
theorem dX2_partsTold_69 : decode cX2_partsTold 69 = .ok (.iconst 2, 1) := dk_5 (dk_at dksX2_partsTold_2 21 rfl rfl)
theorem dX2_partsTold_70 : decode cX2_partsTold 70 = .ok (.aload_n 0, 1) := dk_42 (dk_at dksX2_partsTold_2 22 rfl rfl)
theorem dX2_partsTold_71 : decode cX2_partsTold 71 = .ok (.getfield 147, 3) := dk_180 0 147 (dk_at dksX2_partsTold_3 0 rfl rfl)
theorem dX2_partsTold_74 : decode cX2_partsTold 74 = .ok (.invokevirtual 143, 3) := dk_182 0 143 (dk_at dksX2_partsTold_3 3 rfl rfl)
theorem dX2_partsTold_77 : decode cX2_partsTold 77 = .ok (.goto 32, 3) := dk_167 0 32 (dk_at dksX2_partsTold_3 6 rfl rfl)
theorem dX2_partsTold_80 : decode cX2_partsTold 80 = .ok (.iload_n 1, 1) := dk_27 (dk_at dksX2_partsTold_3 9 rfl rfl)
theorem dX2_partsTold_81 : decode cX2_partsTold 81 = .ok (.iconst 1, 1) := dk_4 (dk_at dksX2_partsTold_3 10 rfl rfl)
theorem dX2_partsTold_82 : decode cX2_partsTold 82 = .ok (.if_icmp .ne 8, 3) := dk_160 0 8 (dk_at dksX2_partsTold_3 11 rfl rfl)
theorem dX2_partsTold_85 : decode cX2_partsTold 85 = .ok (.iload 5, 2) := dk_21 5 (dk_at dksX2_partsTold_3 14 rfl rfl)
theorem dX2_partsTold_87 : decode cX2_partsTold 87 = .ok (.ifCond .ne 13, 3) := dk_154 0 13 (dk_at dksX2_partsTold_3 16 rfl rfl)
theorem dX2_partsTold_90 : decode cX2_partsTold 90 = .ok (.iload_n 1, 1) := dk_27 (dk_at dksX2_partsTold_3 19 rfl rfl)
theorem dX2_partsTold_91 : decode cX2_partsTold 91 = .ok (.iconst 2, 1) := dk_5 (dk_at dksX2_partsTold_3 20 rfl rfl)
theorem dX2_partsTold_92 : decode cX2_partsTold 92 = .ok (.if_icmp .ne 17, 3) := dk_160 0 17 (dk_at dksX2_partsTold_3 21 rfl rfl)
theorem dX2_partsTold_95 : decode cX2_partsTold 95 = .ok (.iload 5, 2) := dk_21 5 (dk_at dksX2_partsTold_4 0 rfl rfl)
theorem dX2_partsTold_97 : decode cX2_partsTold 97 = .ok (.ifCond .ne 12, 3) := dk_154 0 12 (dk_at dksX2_partsTold_4 2 rfl rfl)
theorem dX2_partsTold_100 : decode cX2_partsTold 100 = .ok (.aload_n 0, 1) := dk_42 (dk_at dksX2_partsTold_4 5 rfl rfl)
theorem dX2_partsTold_101 : decode cX2_partsTold 101 = .ok (.iconst 5, 1) := dk_8 (dk_at dksX2_partsTold_4 6 rfl rfl)
theorem dX2_partsTold_102 : decode cX2_partsTold 102 = .ok (.aload_n 0, 1) := dk_42 (dk_at dksX2_partsTold_4 7 rfl rfl)
theorem dX2_partsTold_103 : decode cX2_partsTold 103 = .ok (.getfield 147, 3) := dk_180 0 147 (dk_at dksX2_partsTold_4 8 rfl rfl)
theorem dX2_partsTold_106 : decode cX2_partsTold 106 = .ok (.invokevirtual 143, 3) := dk_182 0 143 (dk_at dksX2_partsTold_4 11 rfl rfl)
theorem dX2_partsTold_109 : decode cX2_partsTold 109 = .ok (.iload_n 3, 1) := dk_29 (dk_at dksX2_partsTold_4 14 rfl rfl)
theorem dX2_partsTold_110 : decode cX2_partsTold 110 = .ok (.iconst 1, 1) := dk_4 (dk_at dksX2_partsTold_4 15 rfl rfl)
theorem dX2_partsTold_111 : decode cX2_partsTold 111 = .ok (.iload 4, 2) := dk_21 4 (dk_at dksX2_partsTold_4 16 rfl rfl)
theorem dX2_partsTold_113 : decode cX2_partsTold 113 = .ok (.ishl, 1) := dk_120 (dk_at dksX2_partsTold_4 18 rfl rfl)
theorem dX2_partsTold_114 : decode cX2_partsTold 114 = .ok (.ior, 1) := dk_128 (dk_at dksX2_partsTold_4 19 rfl rfl)
theorem dX2_partsTold_115 : decode cX2_partsTold 115 = .ok (.istore_n 3, 1) := dk_62 (dk_at dksX2_partsTold_4 20 rfl rfl)
theorem dX2_partsTold_116 : decode cX2_partsTold 116 = .ok (.goto (-114), 3) := dk_167 255 142 (dk_at dksX2_partsTold_4 21 rfl rfl)
theorem dX2_partsTold_119 : decode cX2_partsTold 119 = .ok (.iload_n 3, 1) := dk_29 (dk_at dksX2_partsTold_5 0 rfl rfl)
theorem dX2_partsTold_120 : decode cX2_partsTold 120 = .ok (.ireturn, 1) := dk_172 (dk_at dksX2_partsTold_5 1 rfl rfl)
abbrev cX2_has : ByteArray := prog_12_method_3_code
def yX2_has : MethodName := ⟨RX2, "has", "(II)Z"⟩
def dkwX2_has_0 : List UInt8 := [26, 27, 122, 4, 126, 4, 160, 0, 7, 4, 167, 0, 4, 3, 172]
abbrev dktX2_has_0 : List UInt8 := dkwX2_has_0 ++ []
theorem dksX2_has_0 : cX2_has.data.toList.drop 0 = dktX2_has_0 := by decide +kernel
theorem dX2_has_0 : decode cX2_has 0 = .ok (.iload_n 0, 1) := dk_26 (dk_at dksX2_has_0 0 rfl rfl)
theorem dX2_has_1 : decode cX2_has 1 = .ok (.iload_n 1, 1) := dk_27 (dk_at dksX2_has_0 1 rfl rfl)
theorem dX2_has_2 : decode cX2_has 2 = .ok (.ishr, 1) := dk_122 (dk_at dksX2_has_0 2 rfl rfl)
theorem dX2_has_3 : decode cX2_has 3 = .ok (.iconst 1, 1) := dk_4 (dk_at dksX2_has_0 3 rfl rfl)
theorem dX2_has_4 : decode cX2_has 4 = .ok (.iand, 1) := dk_126 (dk_at dksX2_has_0 4 rfl rfl)
theorem dX2_has_5 : decode cX2_has 5 = .ok (.iconst 1, 1) := dk_4 (dk_at dksX2_has_0 5 rfl rfl)
theorem dX2_has_6 : decode cX2_has 6 = .ok (.if_icmp .ne 7, 3) := dk_160 0 7 (dk_at dksX2_has_0 6 rfl rfl)
theorem dX2_has_9 : decode cX2_has 9 = .ok (.iconst 1, 1) := dk_4 (dk_at dksX2_has_0 9 rfl rfl)
theorem dX2_has_10 : decode cX2_has 10 = .ok (.goto 4, 3) := dk_167 0 4 (dk_at dksX2_has_0 10 rfl rfl)
theorem dX2_has_13 : decode cX2_has 13 = .ok (.iconst 0, 1) := dk_3 (dk_at dksX2_has_0 13 rfl rfl)
theorem dX2_has_14 : decode cX2_has 14 = .ok (.ireturn, 1) := dk_172 (dk_at dksX2_has_0 14 rfl rfl)
abbrev cX2_addsLine : ByteArray := prog_12_method_27_code
def yX2_addsLine : MethodName := ⟨RX2, "addsLine", "()V"⟩
def dkwX2_addsLine_4 : List UInt8 := [21, 4, 96, 28, 79, 132, 4, 1, 167, 255, 221, 177]
abbrev dktX2_addsLine_4 : List UInt8 := dkwX2_addsLine_4 ++ []
def dkwX2_addsLine_3 : List UInt8 := [162, 0, 34, 29, 21, 4, 184, 0, 82, 153, 0, 19, 42, 180, 0, 7, 16, 32, 16, 16, 27, 104, 96]
abbrev dktX2_addsLine_3 : List UInt8 := dkwX2_addsLine_3 ++ dktX2_addsLine_4
def dkwX2_addsLine_2 : List UInt8 := [182, 0, 205, 62, 42, 29, 182, 0, 208, 42, 180, 0, 137, 158, 0, 4, 177, 3, 54, 4, 21, 4, 16, 16]
abbrev dktX2_addsLine_2 : List UInt8 := dkwX2_addsLine_2 ++ dktX2_addsLine_3
def dkwX2_addsLine_1 : List UInt8 := [180, 0, 7, 7, 27, 96, 46, 163, 0, 12, 42, 8, 42, 180, 0, 147, 182, 0, 143, 42, 4, 27]
abbrev dktX2_addsLine_1 : List UInt8 := dkwX2_addsLine_1 ++ dktX2_addsLine_2
def dkwX2_addsLine_0 : List UInt8 := [42, 182, 0, 150, 42, 5, 182, 0, 202, 60, 42, 182, 0, 193, 61, 42, 180, 0, 137, 154, 0, 24, 28, 42]
abbrev dktX2_addsLine_0 : List UInt8 := dkwX2_addsLine_0 ++ dktX2_addsLine_1
theorem dksX2_addsLine_0 : cX2_addsLine.data.toList.drop 0 = dktX2_addsLine_0 := by decide +kernel
theorem dksX2_addsLine_1 : cX2_addsLine.data.toList.drop 24 = dktX2_addsLine_1 := dk_seg dksX2_addsLine_0 24 rfl rfl
theorem dksX2_addsLine_2 : cX2_addsLine.data.toList.drop 46 = dktX2_addsLine_2 := dk_seg dksX2_addsLine_1 22 rfl rfl
theorem dksX2_addsLine_3 : cX2_addsLine.data.toList.drop 70 = dktX2_addsLine_3 := dk_seg dksX2_addsLine_2 24 rfl rfl
theorem dksX2_addsLine_4 : cX2_addsLine.data.toList.drop 93 = dktX2_addsLine_4 := dk_seg dksX2_addsLine_3 23 rfl rfl
theorem dX2_addsLine_0 : decode cX2_addsLine 0 = .ok (.aload_n 0, 1) := dk_42 (dk_at dksX2_addsLine_0 0 rfl rfl)
theorem dX2_addsLine_1 : decode cX2_addsLine 1 = .ok (.invokevirtual 150, 3) := dk_182 0 150 (dk_at dksX2_addsLine_0 1 rfl rfl)
theorem dX2_addsLine_4 : decode cX2_addsLine 4 = .ok (.aload_n 0, 1) := dk_42 (dk_at dksX2_addsLine_0 4 rfl rfl)
theorem dX2_addsLine_5 : decode cX2_addsLine 5 = .ok (.iconst 2, 1) := dk_5 (dk_at dksX2_addsLine_0 5 rfl rfl)
theorem dX2_addsLine_6 : decode cX2_addsLine 6 = .ok (.invokevirtual 202, 3) := dk_182 0 202 (dk_at dksX2_addsLine_0 6 rfl rfl)
theorem dX2_addsLine_9 : decode cX2_addsLine 9 = .ok (.istore_n 1, 1) := dk_60 (dk_at dksX2_addsLine_0 9 rfl rfl)
theorem dX2_addsLine_10 : decode cX2_addsLine 10 = .ok (.aload_n 0, 1) := dk_42 (dk_at dksX2_addsLine_0 10 rfl rfl)
theorem dX2_addsLine_11 : decode cX2_addsLine 11 = .ok (.invokevirtual 193, 3) := dk_182 0 193 (dk_at dksX2_addsLine_0 11 rfl rfl)
theorem dX2_addsLine_14 : decode cX2_addsLine 14 = .ok (.istore_n 2, 1) := dk_61 (dk_at dksX2_addsLine_0 14 rfl rfl)
theorem dX2_addsLine_15 : decode cX2_addsLine 15 = .ok (.aload_n 0, 1) := dk_42 (dk_at dksX2_addsLine_0 15 rfl rfl)
theorem dX2_addsLine_16 : decode cX2_addsLine 16 = .ok (.getfield 137, 3) := dk_180 0 137 (dk_at dksX2_addsLine_0 16 rfl rfl)
theorem dX2_addsLine_19 : decode cX2_addsLine 19 = .ok (.ifCond .ne 24, 3) := dk_154 0 24 (dk_at dksX2_addsLine_0 19 rfl rfl)
theorem dX2_addsLine_22 : decode cX2_addsLine 22 = .ok (.iload_n 2, 1) := dk_28 (dk_at dksX2_addsLine_0 22 rfl rfl)
theorem dX2_addsLine_23 : decode cX2_addsLine 23 = .ok (.aload_n 0, 1) := dk_42 (dk_at dksX2_addsLine_0 23 rfl rfl)
theorem dX2_addsLine_24 : decode cX2_addsLine 24 = .ok (.getfield 7, 3) := dk_180 0 7 (dk_at dksX2_addsLine_1 0 rfl rfl)
theorem dX2_addsLine_27 : decode cX2_addsLine 27 = .ok (.iconst 4, 1) := dk_7 (dk_at dksX2_addsLine_1 3 rfl rfl)
theorem dX2_addsLine_28 : decode cX2_addsLine 28 = .ok (.iload_n 1, 1) := dk_27 (dk_at dksX2_addsLine_1 4 rfl rfl)
theorem dX2_addsLine_29 : decode cX2_addsLine 29 = .ok (.iadd, 1) := dk_96 (dk_at dksX2_addsLine_1 5 rfl rfl)
theorem dX2_addsLine_30 : decode cX2_addsLine 30 = .ok (.iaload, 1) := dk_46 (dk_at dksX2_addsLine_1 6 rfl rfl)
theorem dX2_addsLine_31 : decode cX2_addsLine 31 = .ok (.if_icmp .gt 12, 3) := dk_163 0 12 (dk_at dksX2_addsLine_1 7 rfl rfl)
theorem dX2_addsLine_34 : decode cX2_addsLine 34 = .ok (.aload_n 0, 1) := dk_42 (dk_at dksX2_addsLine_1 10 rfl rfl)
theorem dX2_addsLine_35 : decode cX2_addsLine 35 = .ok (.iconst 5, 1) := dk_8 (dk_at dksX2_addsLine_1 11 rfl rfl)
theorem dX2_addsLine_36 : decode cX2_addsLine 36 = .ok (.aload_n 0, 1) := dk_42 (dk_at dksX2_addsLine_1 12 rfl rfl)
theorem dX2_addsLine_37 : decode cX2_addsLine 37 = .ok (.getfield 147, 3) := dk_180 0 147 (dk_at dksX2_addsLine_1 13 rfl rfl)
theorem dX2_addsLine_40 : decode cX2_addsLine 40 = .ok (.invokevirtual 143, 3) := dk_182 0 143 (dk_at dksX2_addsLine_1 16 rfl rfl)
theorem dX2_addsLine_43 : decode cX2_addsLine 43 = .ok (.aload_n 0, 1) := dk_42 (dk_at dksX2_addsLine_1 19 rfl rfl)
theorem dX2_addsLine_44 : decode cX2_addsLine 44 = .ok (.iconst 1, 1) := dk_4 (dk_at dksX2_addsLine_1 20 rfl rfl)
theorem dX2_addsLine_45 : decode cX2_addsLine 45 = .ok (.iload_n 1, 1) := dk_27 (dk_at dksX2_addsLine_1 21 rfl rfl)
theorem dX2_addsLine_46 : decode cX2_addsLine 46 = .ok (.invokevirtual 205, 3) := dk_182 0 205 (dk_at dksX2_addsLine_2 0 rfl rfl)
theorem dX2_addsLine_49 : decode cX2_addsLine 49 = .ok (.istore_n 3, 1) := dk_62 (dk_at dksX2_addsLine_2 3 rfl rfl)
theorem dX2_addsLine_50 : decode cX2_addsLine 50 = .ok (.aload_n 0, 1) := dk_42 (dk_at dksX2_addsLine_2 4 rfl rfl)
theorem dX2_addsLine_51 : decode cX2_addsLine 51 = .ok (.iload_n 3, 1) := dk_29 (dk_at dksX2_addsLine_2 5 rfl rfl)
theorem dX2_addsLine_52 : decode cX2_addsLine 52 = .ok (.invokevirtual 208, 3) := dk_182 0 208 (dk_at dksX2_addsLine_2 6 rfl rfl)
theorem dX2_addsLine_55 : decode cX2_addsLine 55 = .ok (.aload_n 0, 1) := dk_42 (dk_at dksX2_addsLine_2 9 rfl rfl)
theorem dX2_addsLine_56 : decode cX2_addsLine 56 = .ok (.getfield 137, 3) := dk_180 0 137 (dk_at dksX2_addsLine_2 10 rfl rfl)
theorem dX2_addsLine_59 : decode cX2_addsLine 59 = .ok (.ifCond .le 4, 3) := dk_158 0 4 (dk_at dksX2_addsLine_2 13 rfl rfl)
theorem dX2_addsLine_62 : decode cX2_addsLine 62 = .ok (.return_, 1) := dk_177 (dk_at dksX2_addsLine_2 16 rfl rfl)
theorem dX2_addsLine_63 : decode cX2_addsLine 63 = .ok (.iconst 0, 1) := dk_3 (dk_at dksX2_addsLine_2 17 rfl rfl)
theorem dX2_addsLine_64 : decode cX2_addsLine 64 = .ok (.istore 4, 2) := dk_54 4 (dk_at dksX2_addsLine_2 18 rfl rfl)
theorem dX2_addsLine_66 : decode cX2_addsLine 66 = .ok (.iload 4, 2) := dk_21 4 (dk_at dksX2_addsLine_2 20 rfl rfl)
theorem dX2_addsLine_68 : decode cX2_addsLine 68 = .ok (.bipush 16, 2) := dk_16 16 (dk_at dksX2_addsLine_2 22 rfl rfl)
theorem dX2_addsLine_70 : decode cX2_addsLine 70 = .ok (.if_icmp .ge 34, 3) := dk_162 0 34 (dk_at dksX2_addsLine_3 0 rfl rfl)
theorem dX2_addsLine_73 : decode cX2_addsLine 73 = .ok (.iload_n 3, 1) := dk_29 (dk_at dksX2_addsLine_3 3 rfl rfl)
theorem dX2_addsLine_74 : decode cX2_addsLine 74 = .ok (.iload 4, 2) := dk_21 4 (dk_at dksX2_addsLine_3 4 rfl rfl)
theorem dX2_addsLine_76 : decode cX2_addsLine 76 = .ok (.invokestatic 82, 3) := dk_184 0 82 (dk_at dksX2_addsLine_3 6 rfl rfl)
theorem dX2_addsLine_79 : decode cX2_addsLine 79 = .ok (.ifCond .eq 19, 3) := dk_153 0 19 (dk_at dksX2_addsLine_3 9 rfl rfl)
theorem dX2_addsLine_82 : decode cX2_addsLine 82 = .ok (.aload_n 0, 1) := dk_42 (dk_at dksX2_addsLine_3 12 rfl rfl)
theorem dX2_addsLine_83 : decode cX2_addsLine 83 = .ok (.getfield 7, 3) := dk_180 0 7 (dk_at dksX2_addsLine_3 13 rfl rfl)
theorem dX2_addsLine_86 : decode cX2_addsLine 86 = .ok (.bipush 32, 2) := dk_16 32 (dk_at dksX2_addsLine_3 16 rfl rfl)
theorem dX2_addsLine_88 : decode cX2_addsLine 88 = .ok (.bipush 16, 2) := dk_16 16 (dk_at dksX2_addsLine_3 18 rfl rfl)
theorem dX2_addsLine_90 : decode cX2_addsLine 90 = .ok (.iload_n 1, 1) := dk_27 (dk_at dksX2_addsLine_3 20 rfl rfl)
theorem dX2_addsLine_91 : decode cX2_addsLine 91 = .ok (.imul, 1) := dk_104 (dk_at dksX2_addsLine_3 21 rfl rfl)
theorem dX2_addsLine_92 : decode cX2_addsLine 92 = .ok (.iadd, 1) := dk_96 (dk_at dksX2_addsLine_3 22 rfl rfl)
theorem dX2_addsLine_93 : decode cX2_addsLine 93 = .ok (.iload 4, 2) := dk_21 4 (dk_at dksX2_addsLine_4 0 rfl rfl)
theorem dX2_addsLine_95 : decode cX2_addsLine 95 = .ok (.iadd, 1) := dk_96 (dk_at dksX2_addsLine_4 2 rfl rfl)
theorem dX2_addsLine_96 : decode cX2_addsLine 96 = .ok (.iload_n 2, 1) := dk_28 (dk_at dksX2_addsLine_4 3 rfl rfl)
theorem dX2_addsLine_97 : decode cX2_addsLine 97 = .ok (.iastore, 1) := dk_79 (dk_at dksX2_addsLine_4 4 rfl rfl)
theorem dX2_addsLine_98 : decode cX2_addsLine 98 = .ok (.iinc 4 1, 3) := dk_132 4 1 (dk_at dksX2_addsLine_4 5 rfl rfl)
theorem dX2_addsLine_101 : decode cX2_addsLine 101 = .ok (.goto (-35), 3) := dk_167 255 221 (dk_at dksX2_addsLine_4 8 rfl rfl)
theorem dX2_addsLine_104 : decode cX2_addsLine 104 = .ok (.return_, 1) := dk_177 (dk_at dksX2_addsLine_4 11 rfl rfl)
abbrev cX2_needsPart : ByteArray := prog_12_method_25_code
def yX2_needsPart : MethodName := ⟨RX2, "needsPart", "(I)V"⟩
def dkwX2_needsPart_1 : List UInt8 := [180, 0, 107, 182, 0, 143, 177]
abbrev dktX2_needsPart_1 : List UInt8 := dkwX2_needsPart_1 ++ []
def dkwX2_needsPart_0 : List UInt8 := [42, 180, 0, 137, 154, 0, 24, 27, 154, 0, 20, 42, 180, 0, 110, 6, 160, 0, 12, 42, 8, 42]
abbrev dktX2_needsPart_0 : List UInt8 := dkwX2_needsPart_0 ++ dktX2_needsPart_1
theorem dksX2_needsPart_0 : cX2_needsPart.data.toList.drop 0 = dktX2_needsPart_0 := by decide +kernel
theorem dksX2_needsPart_1 : cX2_needsPart.data.toList.drop 22 = dktX2_needsPart_1 := dk_seg dksX2_needsPart_0 22 rfl rfl
theorem dX2_needsPart_0 : decode cX2_needsPart 0 = .ok (.aload_n 0, 1) := dk_42 (dk_at dksX2_needsPart_0 0 rfl rfl)
theorem dX2_needsPart_1 : decode cX2_needsPart 1 = .ok (.getfield 137, 3) := dk_180 0 137 (dk_at dksX2_needsPart_0 1 rfl rfl)
theorem dX2_needsPart_4 : decode cX2_needsPart 4 = .ok (.ifCond .ne 24, 3) := dk_154 0 24 (dk_at dksX2_needsPart_0 4 rfl rfl)
theorem dX2_needsPart_7 : decode cX2_needsPart 7 = .ok (.iload_n 1, 1) := dk_27 (dk_at dksX2_needsPart_0 7 rfl rfl)
theorem dX2_needsPart_8 : decode cX2_needsPart 8 = .ok (.ifCond .ne 20, 3) := dk_154 0 20 (dk_at dksX2_needsPart_0 8 rfl rfl)
theorem dX2_needsPart_11 : decode cX2_needsPart 11 = .ok (.aload_n 0, 1) := dk_42 (dk_at dksX2_needsPart_0 11 rfl rfl)
theorem dX2_needsPart_12 : decode cX2_needsPart 12 = .ok (.getfield 110, 3) := dk_180 0 110 (dk_at dksX2_needsPart_0 12 rfl rfl)
theorem dX2_needsPart_15 : decode cX2_needsPart 15 = .ok (.iconst 3, 1) := dk_6 (dk_at dksX2_needsPart_0 15 rfl rfl)
theorem dX2_needsPart_16 : decode cX2_needsPart 16 = .ok (.if_icmp .ne 12, 3) := dk_160 0 12 (dk_at dksX2_needsPart_0 16 rfl rfl)
theorem dX2_needsPart_19 : decode cX2_needsPart 19 = .ok (.aload_n 0, 1) := dk_42 (dk_at dksX2_needsPart_0 19 rfl rfl)
theorem dX2_needsPart_20 : decode cX2_needsPart 20 = .ok (.iconst 5, 1) := dk_8 (dk_at dksX2_needsPart_0 20 rfl rfl)
theorem dX2_needsPart_21 : decode cX2_needsPart 21 = .ok (.aload_n 0, 1) := dk_42 (dk_at dksX2_needsPart_0 21 rfl rfl)
theorem dX2_needsPart_22 : decode cX2_needsPart 22 = .ok (.getfield 107, 3) := dk_180 0 107 (dk_at dksX2_needsPart_1 0 rfl rfl)
theorem dX2_needsPart_25 : decode cX2_needsPart 25 = .ok (.invokevirtual 143, 3) := dk_182 0 143 (dk_at dksX2_needsPart_1 3 rfl rfl)
theorem dX2_needsPart_28 : decode cX2_needsPart 28 = .ok (.return_, 1) := dk_177 (dk_at dksX2_needsPart_1 6 rfl rfl)
abbrev cX2_linkLine : ByteArray := prog_12_method_30_code
def yX2_linkLine : MethodName := ⟨RX2, "linkLine", "(I)V"⟩
def dkwX2_linkLine_4 : List UInt8 := [182, 0, 143, 167, 0, 13, 42, 180, 0, 7, 27, 28, 29, 184, 0, 215, 177]
abbrev dktX2_linkLine_4 : List UInt8 := dkwX2_linkLine_4 ++ []
def dkwX2_linkLine_3 : List UInt8 := [180, 0, 7, 7, 29, 96, 46, 42, 180, 0, 7, 7, 28, 96, 46, 164, 0, 15, 42, 8, 42, 180, 0, 147]
abbrev dktX2_linkLine_3 : List UInt8 := dkwX2_linkLine_3 ++ dktX2_linkLine_4
def dkwX2_linkLine_2 : List UInt8 := [2, 159, 0, 15, 42, 5, 42, 180, 0, 147, 182, 0, 143, 167, 0, 49, 28, 29, 159, 0, 22, 42]
abbrev dktX2_linkLine_2 : List UInt8 := dkwX2_linkLine_2 ++ dktX2_linkLine_3
def dkwX2_linkLine_1 : List UInt8 := [42, 5, 182, 0, 202, 62, 42, 180, 0, 137, 158, 0, 4, 177, 42, 180, 0, 7, 27, 28, 29, 184, 0, 211]
abbrev dktX2_linkLine_1 : List UInt8 := dkwX2_linkLine_1 ++ dktX2_linkLine_2
def dkwX2_linkLine_0 : List UInt8 := [42, 42, 180, 0, 7, 17, 1, 0, 46, 16, 20, 182, 0, 196, 154, 0, 4, 177, 42, 5, 182, 0, 202, 61]
abbrev dktX2_linkLine_0 : List UInt8 := dkwX2_linkLine_0 ++ dktX2_linkLine_1
theorem dksX2_linkLine_0 : cX2_linkLine.data.toList.drop 0 = dktX2_linkLine_0 := by decide +kernel
theorem dksX2_linkLine_1 : cX2_linkLine.data.toList.drop 24 = dktX2_linkLine_1 := dk_seg dksX2_linkLine_0 24 rfl rfl
theorem dksX2_linkLine_2 : cX2_linkLine.data.toList.drop 48 = dktX2_linkLine_2 := dk_seg dksX2_linkLine_1 24 rfl rfl
theorem dksX2_linkLine_3 : cX2_linkLine.data.toList.drop 70 = dktX2_linkLine_3 := dk_seg dksX2_linkLine_2 22 rfl rfl
theorem dksX2_linkLine_4 : cX2_linkLine.data.toList.drop 94 = dktX2_linkLine_4 := dk_seg dksX2_linkLine_3 24 rfl rfl
theorem dX2_linkLine_0 : decode cX2_linkLine 0 = .ok (.aload_n 0, 1) := dk_42 (dk_at dksX2_linkLine_0 0 rfl rfl)
theorem dX2_linkLine_1 : decode cX2_linkLine 1 = .ok (.aload_n 0, 1) := dk_42 (dk_at dksX2_linkLine_0 1 rfl rfl)
theorem dX2_linkLine_2 : decode cX2_linkLine 2 = .ok (.getfield 7, 3) := dk_180 0 7 (dk_at dksX2_linkLine_0 2 rfl rfl)
theorem dX2_linkLine_5 : decode cX2_linkLine 5 = .ok (.sipush 256, 3) := dk_17 1 0 (dk_at dksX2_linkLine_0 5 rfl rfl)
theorem dX2_linkLine_8 : decode cX2_linkLine 8 = .ok (.iaload, 1) := dk_46 (dk_at dksX2_linkLine_0 8 rfl rfl)
theorem dX2_linkLine_9 : decode cX2_linkLine 9 = .ok (.bipush 20, 2) := dk_16 20 (dk_at dksX2_linkLine_0 9 rfl rfl)
theorem dX2_linkLine_11 : decode cX2_linkLine 11 = .ok (.invokevirtual 196, 3) := dk_182 0 196 (dk_at dksX2_linkLine_0 11 rfl rfl)
theorem dX2_linkLine_14 : decode cX2_linkLine 14 = .ok (.ifCond .ne 4, 3) := dk_154 0 4 (dk_at dksX2_linkLine_0 14 rfl rfl)
theorem dX2_linkLine_17 : decode cX2_linkLine 17 = .ok (.return_, 1) := dk_177 (dk_at dksX2_linkLine_0 17 rfl rfl)
theorem dX2_linkLine_18 : decode cX2_linkLine 18 = .ok (.aload_n 0, 1) := dk_42 (dk_at dksX2_linkLine_0 18 rfl rfl)
theorem dX2_linkLine_19 : decode cX2_linkLine 19 = .ok (.iconst 2, 1) := dk_5 (dk_at dksX2_linkLine_0 19 rfl rfl)
theorem dX2_linkLine_20 : decode cX2_linkLine 20 = .ok (.invokevirtual 202, 3) := dk_182 0 202 (dk_at dksX2_linkLine_0 20 rfl rfl)
theorem dX2_linkLine_23 : decode cX2_linkLine 23 = .ok (.istore_n 2, 1) := dk_61 (dk_at dksX2_linkLine_0 23 rfl rfl)
theorem dX2_linkLine_24 : decode cX2_linkLine 24 = .ok (.aload_n 0, 1) := dk_42 (dk_at dksX2_linkLine_1 0 rfl rfl)
theorem dX2_linkLine_25 : decode cX2_linkLine 25 = .ok (.iconst 2, 1) := dk_5 (dk_at dksX2_linkLine_1 1 rfl rfl)
theorem dX2_linkLine_26 : decode cX2_linkLine 26 = .ok (.invokevirtual 202, 3) := dk_182 0 202 (dk_at dksX2_linkLine_1 2 rfl rfl)
theorem dX2_linkLine_29 : decode cX2_linkLine 29 = .ok (.istore_n 3, 1) := dk_62 (dk_at dksX2_linkLine_1 5 rfl rfl)
theorem dX2_linkLine_30 : decode cX2_linkLine 30 = .ok (.aload_n 0, 1) := dk_42 (dk_at dksX2_linkLine_1 6 rfl rfl)
theorem dX2_linkLine_31 : decode cX2_linkLine 31 = .ok (.getfield 137, 3) := dk_180 0 137 (dk_at dksX2_linkLine_1 7 rfl rfl)
theorem dX2_linkLine_34 : decode cX2_linkLine 34 = .ok (.ifCond .le 4, 3) := dk_158 0 4 (dk_at dksX2_linkLine_1 10 rfl rfl)
theorem dX2_linkLine_37 : decode cX2_linkLine 37 = .ok (.return_, 1) := dk_177 (dk_at dksX2_linkLine_1 13 rfl rfl)
theorem dX2_linkLine_38 : decode cX2_linkLine 38 = .ok (.aload_n 0, 1) := dk_42 (dk_at dksX2_linkLine_1 14 rfl rfl)
theorem dX2_linkLine_39 : decode cX2_linkLine 39 = .ok (.getfield 7, 3) := dk_180 0 7 (dk_at dksX2_linkLine_1 15 rfl rfl)
theorem dX2_linkLine_42 : decode cX2_linkLine 42 = .ok (.iload_n 1, 1) := dk_27 (dk_at dksX2_linkLine_1 18 rfl rfl)
theorem dX2_linkLine_43 : decode cX2_linkLine 43 = .ok (.iload_n 2, 1) := dk_28 (dk_at dksX2_linkLine_1 19 rfl rfl)
theorem dX2_linkLine_44 : decode cX2_linkLine 44 = .ok (.iload_n 3, 1) := dk_29 (dk_at dksX2_linkLine_1 20 rfl rfl)
theorem dX2_linkLine_45 : decode cX2_linkLine 45 = .ok (.invokestatic 211, 3) := dk_184 0 211 (dk_at dksX2_linkLine_1 21 rfl rfl)
theorem dX2_linkLine_48 : decode cX2_linkLine 48 = .ok (.iconst (-1), 1) := dk_2 (dk_at dksX2_linkLine_2 0 rfl rfl)
theorem dX2_linkLine_49 : decode cX2_linkLine 49 = .ok (.if_icmp .eq 15, 3) := dk_159 0 15 (dk_at dksX2_linkLine_2 1 rfl rfl)
theorem dX2_linkLine_52 : decode cX2_linkLine 52 = .ok (.aload_n 0, 1) := dk_42 (dk_at dksX2_linkLine_2 4 rfl rfl)
theorem dX2_linkLine_53 : decode cX2_linkLine 53 = .ok (.iconst 2, 1) := dk_5 (dk_at dksX2_linkLine_2 5 rfl rfl)
theorem dX2_linkLine_54 : decode cX2_linkLine 54 = .ok (.aload_n 0, 1) := dk_42 (dk_at dksX2_linkLine_2 6 rfl rfl)
theorem dX2_linkLine_55 : decode cX2_linkLine 55 = .ok (.getfield 147, 3) := dk_180 0 147 (dk_at dksX2_linkLine_2 7 rfl rfl)
theorem dX2_linkLine_58 : decode cX2_linkLine 58 = .ok (.invokevirtual 143, 3) := dk_182 0 143 (dk_at dksX2_linkLine_2 10 rfl rfl)
theorem dX2_linkLine_61 : decode cX2_linkLine 61 = .ok (.goto 49, 3) := dk_167 0 49 (dk_at dksX2_linkLine_2 13 rfl rfl)
theorem dX2_linkLine_64 : decode cX2_linkLine 64 = .ok (.iload_n 2, 1) := dk_28 (dk_at dksX2_linkLine_2 16 rfl rfl)
theorem dX2_linkLine_65 : decode cX2_linkLine 65 = .ok (.iload_n 3, 1) := dk_29 (dk_at dksX2_linkLine_2 17 rfl rfl)
theorem dX2_linkLine_66 : decode cX2_linkLine 66 = .ok (.if_icmp .eq 22, 3) := dk_159 0 22 (dk_at dksX2_linkLine_2 18 rfl rfl)
theorem dX2_linkLine_69 : decode cX2_linkLine 69 = .ok (.aload_n 0, 1) := dk_42 (dk_at dksX2_linkLine_2 21 rfl rfl)
theorem dX2_linkLine_70 : decode cX2_linkLine 70 = .ok (.getfield 7, 3) := dk_180 0 7 (dk_at dksX2_linkLine_3 0 rfl rfl)
theorem dX2_linkLine_73 : decode cX2_linkLine 73 = .ok (.iconst 4, 1) := dk_7 (dk_at dksX2_linkLine_3 3 rfl rfl)
theorem dX2_linkLine_74 : decode cX2_linkLine 74 = .ok (.iload_n 3, 1) := dk_29 (dk_at dksX2_linkLine_3 4 rfl rfl)
theorem dX2_linkLine_75 : decode cX2_linkLine 75 = .ok (.iadd, 1) := dk_96 (dk_at dksX2_linkLine_3 5 rfl rfl)
theorem dX2_linkLine_76 : decode cX2_linkLine 76 = .ok (.iaload, 1) := dk_46 (dk_at dksX2_linkLine_3 6 rfl rfl)
theorem dX2_linkLine_77 : decode cX2_linkLine 77 = .ok (.aload_n 0, 1) := dk_42 (dk_at dksX2_linkLine_3 7 rfl rfl)
theorem dX2_linkLine_78 : decode cX2_linkLine 78 = .ok (.getfield 7, 3) := dk_180 0 7 (dk_at dksX2_linkLine_3 8 rfl rfl)
theorem dX2_linkLine_81 : decode cX2_linkLine 81 = .ok (.iconst 4, 1) := dk_7 (dk_at dksX2_linkLine_3 11 rfl rfl)
theorem dX2_linkLine_82 : decode cX2_linkLine 82 = .ok (.iload_n 2, 1) := dk_28 (dk_at dksX2_linkLine_3 12 rfl rfl)
theorem dX2_linkLine_83 : decode cX2_linkLine 83 = .ok (.iadd, 1) := dk_96 (dk_at dksX2_linkLine_3 13 rfl rfl)
theorem dX2_linkLine_84 : decode cX2_linkLine 84 = .ok (.iaload, 1) := dk_46 (dk_at dksX2_linkLine_3 14 rfl rfl)
theorem dX2_linkLine_85 : decode cX2_linkLine 85 = .ok (.if_icmp .le 15, 3) := dk_164 0 15 (dk_at dksX2_linkLine_3 15 rfl rfl)
theorem dX2_linkLine_88 : decode cX2_linkLine 88 = .ok (.aload_n 0, 1) := dk_42 (dk_at dksX2_linkLine_3 18 rfl rfl)
theorem dX2_linkLine_89 : decode cX2_linkLine 89 = .ok (.iconst 5, 1) := dk_8 (dk_at dksX2_linkLine_3 19 rfl rfl)
theorem dX2_linkLine_90 : decode cX2_linkLine 90 = .ok (.aload_n 0, 1) := dk_42 (dk_at dksX2_linkLine_3 20 rfl rfl)
theorem dX2_linkLine_91 : decode cX2_linkLine 91 = .ok (.getfield 147, 3) := dk_180 0 147 (dk_at dksX2_linkLine_3 21 rfl rfl)
theorem dX2_linkLine_94 : decode cX2_linkLine 94 = .ok (.invokevirtual 143, 3) := dk_182 0 143 (dk_at dksX2_linkLine_4 0 rfl rfl)
theorem dX2_linkLine_97 : decode cX2_linkLine 97 = .ok (.goto 13, 3) := dk_167 0 13 (dk_at dksX2_linkLine_4 3 rfl rfl)
theorem dX2_linkLine_100 : decode cX2_linkLine 100 = .ok (.aload_n 0, 1) := dk_42 (dk_at dksX2_linkLine_4 6 rfl rfl)
theorem dX2_linkLine_101 : decode cX2_linkLine 101 = .ok (.getfield 7, 3) := dk_180 0 7 (dk_at dksX2_linkLine_4 7 rfl rfl)
theorem dX2_linkLine_104 : decode cX2_linkLine 104 = .ok (.iload_n 1, 1) := dk_27 (dk_at dksX2_linkLine_4 10 rfl rfl)
theorem dX2_linkLine_105 : decode cX2_linkLine 105 = .ok (.iload_n 2, 1) := dk_28 (dk_at dksX2_linkLine_4 11 rfl rfl)
theorem dX2_linkLine_106 : decode cX2_linkLine 106 = .ok (.iload_n 3, 1) := dk_29 (dk_at dksX2_linkLine_4 12 rfl rfl)
theorem dX2_linkLine_107 : decode cX2_linkLine 107 = .ok (.invokestatic 215, 3) := dk_184 0 215 (dk_at dksX2_linkLine_4 13 rfl rfl)
theorem dX2_linkLine_110 : decode cX2_linkLine 110 = .ok (.return_, 1) := dk_177 (dk_at dksX2_linkLine_4 16 rfl rfl)
abbrev cX2_linkIn : ByteArray := prog_12_method_28_code
def yX2_linkIn : MethodName := ⟨RX2, "linkIn", "([IIII)I"⟩
def dkwX2_linkIn_2 : List UInt8 := [160, 0, 6, 21, 4, 172, 132, 4, 1, 167, 255, 202, 2, 172]
abbrev dktX2_linkIn_2 : List UInt8 := dkwX2_linkIn_2 ++ []
def dkwX2_linkIn_1 : List UInt8 := [21, 5, 46, 27, 160, 0, 26, 42, 21, 5, 4, 96, 46, 28, 160, 0, 16, 42, 21, 5, 5, 96, 46, 29]
abbrev dktX2_linkIn_1 : List UInt8 := dkwX2_linkIn_1 ++ dktX2_linkIn_2
def dkwX2_linkIn_0 : List UInt8 := [3, 54, 4, 21, 4, 42, 17, 1, 0, 46, 162, 0, 50, 17, 1, 1, 6, 21, 4, 104, 96, 54, 5, 42]
abbrev dktX2_linkIn_0 : List UInt8 := dkwX2_linkIn_0 ++ dktX2_linkIn_1
theorem dksX2_linkIn_0 : cX2_linkIn.data.toList.drop 0 = dktX2_linkIn_0 := by decide +kernel
theorem dksX2_linkIn_1 : cX2_linkIn.data.toList.drop 24 = dktX2_linkIn_1 := dk_seg dksX2_linkIn_0 24 rfl rfl
theorem dksX2_linkIn_2 : cX2_linkIn.data.toList.drop 48 = dktX2_linkIn_2 := dk_seg dksX2_linkIn_1 24 rfl rfl
theorem dX2_linkIn_0 : decode cX2_linkIn 0 = .ok (.iconst 0, 1) := dk_3 (dk_at dksX2_linkIn_0 0 rfl rfl)
theorem dX2_linkIn_1 : decode cX2_linkIn 1 = .ok (.istore 4, 2) := dk_54 4 (dk_at dksX2_linkIn_0 1 rfl rfl)
theorem dX2_linkIn_3 : decode cX2_linkIn 3 = .ok (.iload 4, 2) := dk_21 4 (dk_at dksX2_linkIn_0 3 rfl rfl)
theorem dX2_linkIn_5 : decode cX2_linkIn 5 = .ok (.aload_n 0, 1) := dk_42 (dk_at dksX2_linkIn_0 5 rfl rfl)
theorem dX2_linkIn_6 : decode cX2_linkIn 6 = .ok (.sipush 256, 3) := dk_17 1 0 (dk_at dksX2_linkIn_0 6 rfl rfl)
theorem dX2_linkIn_9 : decode cX2_linkIn 9 = .ok (.iaload, 1) := dk_46 (dk_at dksX2_linkIn_0 9 rfl rfl)
theorem dX2_linkIn_10 : decode cX2_linkIn 10 = .ok (.if_icmp .ge 50, 3) := dk_162 0 50 (dk_at dksX2_linkIn_0 10 rfl rfl)
theorem dX2_linkIn_13 : decode cX2_linkIn 13 = .ok (.sipush 257, 3) := dk_17 1 1 (dk_at dksX2_linkIn_0 13 rfl rfl)
theorem dX2_linkIn_16 : decode cX2_linkIn 16 = .ok (.iconst 3, 1) := dk_6 (dk_at dksX2_linkIn_0 16 rfl rfl)
theorem dX2_linkIn_17 : decode cX2_linkIn 17 = .ok (.iload 4, 2) := dk_21 4 (dk_at dksX2_linkIn_0 17 rfl rfl)
theorem dX2_linkIn_19 : decode cX2_linkIn 19 = .ok (.imul, 1) := dk_104 (dk_at dksX2_linkIn_0 19 rfl rfl)
theorem dX2_linkIn_20 : decode cX2_linkIn 20 = .ok (.iadd, 1) := dk_96 (dk_at dksX2_linkIn_0 20 rfl rfl)
theorem dX2_linkIn_21 : decode cX2_linkIn 21 = .ok (.istore 5, 2) := dk_54 5 (dk_at dksX2_linkIn_0 21 rfl rfl)
theorem dX2_linkIn_23 : decode cX2_linkIn 23 = .ok (.aload_n 0, 1) := dk_42 (dk_at dksX2_linkIn_0 23 rfl rfl)
theorem dX2_linkIn_24 : decode cX2_linkIn 24 = .ok (.iload 5, 2) := dk_21 5 (dk_at dksX2_linkIn_1 0 rfl rfl)
theorem dX2_linkIn_26 : decode cX2_linkIn 26 = .ok (.iaload, 1) := dk_46 (dk_at dksX2_linkIn_1 2 rfl rfl)
theorem dX2_linkIn_27 : decode cX2_linkIn 27 = .ok (.iload_n 1, 1) := dk_27 (dk_at dksX2_linkIn_1 3 rfl rfl)
theorem dX2_linkIn_28 : decode cX2_linkIn 28 = .ok (.if_icmp .ne 26, 3) := dk_160 0 26 (dk_at dksX2_linkIn_1 4 rfl rfl)
theorem dX2_linkIn_31 : decode cX2_linkIn 31 = .ok (.aload_n 0, 1) := dk_42 (dk_at dksX2_linkIn_1 7 rfl rfl)
theorem dX2_linkIn_32 : decode cX2_linkIn 32 = .ok (.iload 5, 2) := dk_21 5 (dk_at dksX2_linkIn_1 8 rfl rfl)
theorem dX2_linkIn_34 : decode cX2_linkIn 34 = .ok (.iconst 1, 1) := dk_4 (dk_at dksX2_linkIn_1 10 rfl rfl)
theorem dX2_linkIn_35 : decode cX2_linkIn 35 = .ok (.iadd, 1) := dk_96 (dk_at dksX2_linkIn_1 11 rfl rfl)
theorem dX2_linkIn_36 : decode cX2_linkIn 36 = .ok (.iaload, 1) := dk_46 (dk_at dksX2_linkIn_1 12 rfl rfl)
theorem dX2_linkIn_37 : decode cX2_linkIn 37 = .ok (.iload_n 2, 1) := dk_28 (dk_at dksX2_linkIn_1 13 rfl rfl)
theorem dX2_linkIn_38 : decode cX2_linkIn 38 = .ok (.if_icmp .ne 16, 3) := dk_160 0 16 (dk_at dksX2_linkIn_1 14 rfl rfl)
theorem dX2_linkIn_41 : decode cX2_linkIn 41 = .ok (.aload_n 0, 1) := dk_42 (dk_at dksX2_linkIn_1 17 rfl rfl)
theorem dX2_linkIn_42 : decode cX2_linkIn 42 = .ok (.iload 5, 2) := dk_21 5 (dk_at dksX2_linkIn_1 18 rfl rfl)
theorem dX2_linkIn_44 : decode cX2_linkIn 44 = .ok (.iconst 2, 1) := dk_5 (dk_at dksX2_linkIn_1 20 rfl rfl)
theorem dX2_linkIn_45 : decode cX2_linkIn 45 = .ok (.iadd, 1) := dk_96 (dk_at dksX2_linkIn_1 21 rfl rfl)
theorem dX2_linkIn_46 : decode cX2_linkIn 46 = .ok (.iaload, 1) := dk_46 (dk_at dksX2_linkIn_1 22 rfl rfl)
theorem dX2_linkIn_47 : decode cX2_linkIn 47 = .ok (.iload_n 3, 1) := dk_29 (dk_at dksX2_linkIn_1 23 rfl rfl)
theorem dX2_linkIn_48 : decode cX2_linkIn 48 = .ok (.if_icmp .ne 6, 3) := dk_160 0 6 (dk_at dksX2_linkIn_2 0 rfl rfl)
theorem dX2_linkIn_51 : decode cX2_linkIn 51 = .ok (.iload 4, 2) := dk_21 4 (dk_at dksX2_linkIn_2 3 rfl rfl)
theorem dX2_linkIn_53 : decode cX2_linkIn 53 = .ok (.ireturn, 1) := dk_172 (dk_at dksX2_linkIn_2 5 rfl rfl)
theorem dX2_linkIn_54 : decode cX2_linkIn 54 = .ok (.iinc 4 1, 3) := dk_132 4 1 (dk_at dksX2_linkIn_2 6 rfl rfl)
theorem dX2_linkIn_57 : decode cX2_linkIn 57 = .ok (.goto (-54), 3) := dk_167 255 202 (dk_at dksX2_linkIn_2 9 rfl rfl)
theorem dX2_linkIn_60 : decode cX2_linkIn 60 = .ok (.iconst (-1), 1) := dk_2 (dk_at dksX2_linkIn_2 12 rfl rfl)
theorem dX2_linkIn_61 : decode cX2_linkIn 61 = .ok (.ireturn, 1) := dk_172 (dk_at dksX2_linkIn_2 13 rfl rfl)
abbrev cX2_linksIn : ByteArray := prog_12_method_29_code
def yX2_linksIn : MethodName := ⟨RX2, "linksIn", "([IIII)V"⟩
def dkwX2_linksIn_1 : List UInt8 := [79, 42, 21, 4, 5, 96, 29, 79, 42, 17, 1, 0, 42, 17, 1, 0, 46, 4, 96, 79, 177]
abbrev dktX2_linksIn_1 : List UInt8 := dkwX2_linksIn_1 ++ []
def dkwX2_linksIn_0 : List UInt8 := [17, 1, 1, 6, 42, 17, 1, 0, 46, 104, 96, 54, 4, 42, 21, 4, 27, 79, 42, 21, 4, 4, 96, 28]
abbrev dktX2_linksIn_0 : List UInt8 := dkwX2_linksIn_0 ++ dktX2_linksIn_1
theorem dksX2_linksIn_0 : cX2_linksIn.data.toList.drop 0 = dktX2_linksIn_0 := by decide +kernel
theorem dksX2_linksIn_1 : cX2_linksIn.data.toList.drop 24 = dktX2_linksIn_1 := dk_seg dksX2_linksIn_0 24 rfl rfl
theorem dX2_linksIn_0 : decode cX2_linksIn 0 = .ok (.sipush 257, 3) := dk_17 1 1 (dk_at dksX2_linksIn_0 0 rfl rfl)
theorem dX2_linksIn_3 : decode cX2_linksIn 3 = .ok (.iconst 3, 1) := dk_6 (dk_at dksX2_linksIn_0 3 rfl rfl)
theorem dX2_linksIn_4 : decode cX2_linksIn 4 = .ok (.aload_n 0, 1) := dk_42 (dk_at dksX2_linksIn_0 4 rfl rfl)
theorem dX2_linksIn_5 : decode cX2_linksIn 5 = .ok (.sipush 256, 3) := dk_17 1 0 (dk_at dksX2_linksIn_0 5 rfl rfl)
theorem dX2_linksIn_8 : decode cX2_linksIn 8 = .ok (.iaload, 1) := dk_46 (dk_at dksX2_linksIn_0 8 rfl rfl)
theorem dX2_linksIn_9 : decode cX2_linksIn 9 = .ok (.imul, 1) := dk_104 (dk_at dksX2_linksIn_0 9 rfl rfl)
theorem dX2_linksIn_10 : decode cX2_linksIn 10 = .ok (.iadd, 1) := dk_96 (dk_at dksX2_linksIn_0 10 rfl rfl)
theorem dX2_linksIn_11 : decode cX2_linksIn 11 = .ok (.istore 4, 2) := dk_54 4 (dk_at dksX2_linksIn_0 11 rfl rfl)
theorem dX2_linksIn_13 : decode cX2_linksIn 13 = .ok (.aload_n 0, 1) := dk_42 (dk_at dksX2_linksIn_0 13 rfl rfl)
theorem dX2_linksIn_14 : decode cX2_linksIn 14 = .ok (.iload 4, 2) := dk_21 4 (dk_at dksX2_linksIn_0 14 rfl rfl)
theorem dX2_linksIn_16 : decode cX2_linksIn 16 = .ok (.iload_n 1, 1) := dk_27 (dk_at dksX2_linksIn_0 16 rfl rfl)
theorem dX2_linksIn_17 : decode cX2_linksIn 17 = .ok (.iastore, 1) := dk_79 (dk_at dksX2_linksIn_0 17 rfl rfl)
theorem dX2_linksIn_18 : decode cX2_linksIn 18 = .ok (.aload_n 0, 1) := dk_42 (dk_at dksX2_linksIn_0 18 rfl rfl)
theorem dX2_linksIn_19 : decode cX2_linksIn 19 = .ok (.iload 4, 2) := dk_21 4 (dk_at dksX2_linksIn_0 19 rfl rfl)
theorem dX2_linksIn_21 : decode cX2_linksIn 21 = .ok (.iconst 1, 1) := dk_4 (dk_at dksX2_linksIn_0 21 rfl rfl)
theorem dX2_linksIn_22 : decode cX2_linksIn 22 = .ok (.iadd, 1) := dk_96 (dk_at dksX2_linksIn_0 22 rfl rfl)
theorem dX2_linksIn_23 : decode cX2_linksIn 23 = .ok (.iload_n 2, 1) := dk_28 (dk_at dksX2_linksIn_0 23 rfl rfl)
theorem dX2_linksIn_24 : decode cX2_linksIn 24 = .ok (.iastore, 1) := dk_79 (dk_at dksX2_linksIn_1 0 rfl rfl)
theorem dX2_linksIn_25 : decode cX2_linksIn 25 = .ok (.aload_n 0, 1) := dk_42 (dk_at dksX2_linksIn_1 1 rfl rfl)
theorem dX2_linksIn_26 : decode cX2_linksIn 26 = .ok (.iload 4, 2) := dk_21 4 (dk_at dksX2_linksIn_1 2 rfl rfl)
theorem dX2_linksIn_28 : decode cX2_linksIn 28 = .ok (.iconst 2, 1) := dk_5 (dk_at dksX2_linksIn_1 4 rfl rfl)
theorem dX2_linksIn_29 : decode cX2_linksIn 29 = .ok (.iadd, 1) := dk_96 (dk_at dksX2_linksIn_1 5 rfl rfl)
theorem dX2_linksIn_30 : decode cX2_linksIn 30 = .ok (.iload_n 3, 1) := dk_29 (dk_at dksX2_linksIn_1 6 rfl rfl)
theorem dX2_linksIn_31 : decode cX2_linksIn 31 = .ok (.iastore, 1) := dk_79 (dk_at dksX2_linksIn_1 7 rfl rfl)
theorem dX2_linksIn_32 : decode cX2_linksIn 32 = .ok (.aload_n 0, 1) := dk_42 (dk_at dksX2_linksIn_1 8 rfl rfl)
theorem dX2_linksIn_33 : decode cX2_linksIn 33 = .ok (.sipush 256, 3) := dk_17 1 0 (dk_at dksX2_linksIn_1 9 rfl rfl)
theorem dX2_linksIn_36 : decode cX2_linksIn 36 = .ok (.aload_n 0, 1) := dk_42 (dk_at dksX2_linksIn_1 12 rfl rfl)
theorem dX2_linksIn_37 : decode cX2_linksIn 37 = .ok (.sipush 256, 3) := dk_17 1 0 (dk_at dksX2_linksIn_1 13 rfl rfl)
theorem dX2_linksIn_40 : decode cX2_linksIn 40 = .ok (.iaload, 1) := dk_46 (dk_at dksX2_linksIn_1 16 rfl rfl)
theorem dX2_linksIn_41 : decode cX2_linksIn 41 = .ok (.iconst 1, 1) := dk_4 (dk_at dksX2_linksIn_1 17 rfl rfl)
theorem dX2_linksIn_42 : decode cX2_linksIn 42 = .ok (.iadd, 1) := dk_96 (dk_at dksX2_linksIn_1 18 rfl rfl)
theorem dX2_linksIn_43 : decode cX2_linksIn 43 = .ok (.iastore, 1) := dk_79 (dk_at dksX2_linksIn_1 19 rfl rfl)
theorem dX2_linksIn_44 : decode cX2_linksIn 44 = .ok (.return_, 1) := dk_177 (dk_at dksX2_linksIn_1 20 rfl rfl)
abbrev cX2_endsLine : ByteArray := prog_12_method_31_code
def yX2_endsLine : MethodName := ⟨RX2, "endsLine", "()V"⟩
def dkwX2_endsLine_3 : List UInt8 := [182, 0, 143, 42, 180, 0, 137, 154, 0, 13, 42, 180, 0, 7, 16, 18, 27, 96, 28, 79, 177]
abbrev dktX2_endsLine_3 : List UInt8 := dkwX2_endsLine_3 ++ []
def dkwX2_endsLine_2 : List UInt8 := [180, 0, 137, 154, 0, 24, 28, 42, 180, 0, 7, 7, 27, 96, 46, 162, 0, 12, 42, 8, 42, 180, 0, 147]
abbrev dktX2_endsLine_2 : List UInt8 := dkwX2_endsLine_2 ++ dktX2_endsLine_3
def dkwX2_endsLine_1 : List UInt8 := [96, 46, 16, 254, 159, 0, 12, 42, 5, 42, 180, 0, 147, 182, 0, 143, 42, 182, 0, 193, 61, 42]
abbrev dktX2_endsLine_1 : List UInt8 := dkwX2_endsLine_1 ++ dktX2_endsLine_2
def dkwX2_endsLine_0 : List UInt8 := [42, 182, 0, 150, 42, 5, 182, 0, 202, 60, 42, 180, 0, 137, 154, 0, 26, 42, 180, 0, 7, 16, 18, 27]
abbrev dktX2_endsLine_0 : List UInt8 := dkwX2_endsLine_0 ++ dktX2_endsLine_1
theorem dksX2_endsLine_0 : cX2_endsLine.data.toList.drop 0 = dktX2_endsLine_0 := by decide +kernel
theorem dksX2_endsLine_1 : cX2_endsLine.data.toList.drop 24 = dktX2_endsLine_1 := dk_seg dksX2_endsLine_0 24 rfl rfl
theorem dksX2_endsLine_2 : cX2_endsLine.data.toList.drop 46 = dktX2_endsLine_2 := dk_seg dksX2_endsLine_1 22 rfl rfl
theorem dksX2_endsLine_3 : cX2_endsLine.data.toList.drop 70 = dktX2_endsLine_3 := dk_seg dksX2_endsLine_2 24 rfl rfl
theorem dX2_endsLine_0 : decode cX2_endsLine 0 = .ok (.aload_n 0, 1) := dk_42 (dk_at dksX2_endsLine_0 0 rfl rfl)
theorem dX2_endsLine_1 : decode cX2_endsLine 1 = .ok (.invokevirtual 150, 3) := dk_182 0 150 (dk_at dksX2_endsLine_0 1 rfl rfl)
theorem dX2_endsLine_4 : decode cX2_endsLine 4 = .ok (.aload_n 0, 1) := dk_42 (dk_at dksX2_endsLine_0 4 rfl rfl)
theorem dX2_endsLine_5 : decode cX2_endsLine 5 = .ok (.iconst 2, 1) := dk_5 (dk_at dksX2_endsLine_0 5 rfl rfl)
theorem dX2_endsLine_6 : decode cX2_endsLine 6 = .ok (.invokevirtual 202, 3) := dk_182 0 202 (dk_at dksX2_endsLine_0 6 rfl rfl)
theorem dX2_endsLine_9 : decode cX2_endsLine 9 = .ok (.istore_n 1, 1) := dk_60 (dk_at dksX2_endsLine_0 9 rfl rfl)
theorem dX2_endsLine_10 : decode cX2_endsLine 10 = .ok (.aload_n 0, 1) := dk_42 (dk_at dksX2_endsLine_0 10 rfl rfl)
theorem dX2_endsLine_11 : decode cX2_endsLine 11 = .ok (.getfield 137, 3) := dk_180 0 137 (dk_at dksX2_endsLine_0 11 rfl rfl)
theorem dX2_endsLine_14 : decode cX2_endsLine 14 = .ok (.ifCond .ne 26, 3) := dk_154 0 26 (dk_at dksX2_endsLine_0 14 rfl rfl)
theorem dX2_endsLine_17 : decode cX2_endsLine 17 = .ok (.aload_n 0, 1) := dk_42 (dk_at dksX2_endsLine_0 17 rfl rfl)
theorem dX2_endsLine_18 : decode cX2_endsLine 18 = .ok (.getfield 7, 3) := dk_180 0 7 (dk_at dksX2_endsLine_0 18 rfl rfl)
theorem dX2_endsLine_21 : decode cX2_endsLine 21 = .ok (.bipush 18, 2) := dk_16 18 (dk_at dksX2_endsLine_0 21 rfl rfl)
theorem dX2_endsLine_23 : decode cX2_endsLine 23 = .ok (.iload_n 1, 1) := dk_27 (dk_at dksX2_endsLine_0 23 rfl rfl)
theorem dX2_endsLine_24 : decode cX2_endsLine 24 = .ok (.iadd, 1) := dk_96 (dk_at dksX2_endsLine_1 0 rfl rfl)
theorem dX2_endsLine_25 : decode cX2_endsLine 25 = .ok (.iaload, 1) := dk_46 (dk_at dksX2_endsLine_1 1 rfl rfl)
theorem dX2_endsLine_26 : decode cX2_endsLine 26 = .ok (.bipush (-2), 2) := dk_16 254 (dk_at dksX2_endsLine_1 2 rfl rfl)
theorem dX2_endsLine_28 : decode cX2_endsLine 28 = .ok (.if_icmp .eq 12, 3) := dk_159 0 12 (dk_at dksX2_endsLine_1 4 rfl rfl)
theorem dX2_endsLine_31 : decode cX2_endsLine 31 = .ok (.aload_n 0, 1) := dk_42 (dk_at dksX2_endsLine_1 7 rfl rfl)
theorem dX2_endsLine_32 : decode cX2_endsLine 32 = .ok (.iconst 2, 1) := dk_5 (dk_at dksX2_endsLine_1 8 rfl rfl)
theorem dX2_endsLine_33 : decode cX2_endsLine 33 = .ok (.aload_n 0, 1) := dk_42 (dk_at dksX2_endsLine_1 9 rfl rfl)
theorem dX2_endsLine_34 : decode cX2_endsLine 34 = .ok (.getfield 147, 3) := dk_180 0 147 (dk_at dksX2_endsLine_1 10 rfl rfl)
theorem dX2_endsLine_37 : decode cX2_endsLine 37 = .ok (.invokevirtual 143, 3) := dk_182 0 143 (dk_at dksX2_endsLine_1 13 rfl rfl)
theorem dX2_endsLine_40 : decode cX2_endsLine 40 = .ok (.aload_n 0, 1) := dk_42 (dk_at dksX2_endsLine_1 16 rfl rfl)
theorem dX2_endsLine_41 : decode cX2_endsLine 41 = .ok (.invokevirtual 193, 3) := dk_182 0 193 (dk_at dksX2_endsLine_1 17 rfl rfl)
theorem dX2_endsLine_44 : decode cX2_endsLine 44 = .ok (.istore_n 2, 1) := dk_61 (dk_at dksX2_endsLine_1 20 rfl rfl)
theorem dX2_endsLine_45 : decode cX2_endsLine 45 = .ok (.aload_n 0, 1) := dk_42 (dk_at dksX2_endsLine_1 21 rfl rfl)
theorem dX2_endsLine_46 : decode cX2_endsLine 46 = .ok (.getfield 137, 3) := dk_180 0 137 (dk_at dksX2_endsLine_2 0 rfl rfl)
theorem dX2_endsLine_49 : decode cX2_endsLine 49 = .ok (.ifCond .ne 24, 3) := dk_154 0 24 (dk_at dksX2_endsLine_2 3 rfl rfl)
theorem dX2_endsLine_52 : decode cX2_endsLine 52 = .ok (.iload_n 2, 1) := dk_28 (dk_at dksX2_endsLine_2 6 rfl rfl)
theorem dX2_endsLine_53 : decode cX2_endsLine 53 = .ok (.aload_n 0, 1) := dk_42 (dk_at dksX2_endsLine_2 7 rfl rfl)
theorem dX2_endsLine_54 : decode cX2_endsLine 54 = .ok (.getfield 7, 3) := dk_180 0 7 (dk_at dksX2_endsLine_2 8 rfl rfl)
theorem dX2_endsLine_57 : decode cX2_endsLine 57 = .ok (.iconst 4, 1) := dk_7 (dk_at dksX2_endsLine_2 11 rfl rfl)
theorem dX2_endsLine_58 : decode cX2_endsLine 58 = .ok (.iload_n 1, 1) := dk_27 (dk_at dksX2_endsLine_2 12 rfl rfl)
theorem dX2_endsLine_59 : decode cX2_endsLine 59 = .ok (.iadd, 1) := dk_96 (dk_at dksX2_endsLine_2 13 rfl rfl)
theorem dX2_endsLine_60 : decode cX2_endsLine 60 = .ok (.iaload, 1) := dk_46 (dk_at dksX2_endsLine_2 14 rfl rfl)
theorem dX2_endsLine_61 : decode cX2_endsLine 61 = .ok (.if_icmp .ge 12, 3) := dk_162 0 12 (dk_at dksX2_endsLine_2 15 rfl rfl)
theorem dX2_endsLine_64 : decode cX2_endsLine 64 = .ok (.aload_n 0, 1) := dk_42 (dk_at dksX2_endsLine_2 18 rfl rfl)
theorem dX2_endsLine_65 : decode cX2_endsLine 65 = .ok (.iconst 5, 1) := dk_8 (dk_at dksX2_endsLine_2 19 rfl rfl)
theorem dX2_endsLine_66 : decode cX2_endsLine 66 = .ok (.aload_n 0, 1) := dk_42 (dk_at dksX2_endsLine_2 20 rfl rfl)
theorem dX2_endsLine_67 : decode cX2_endsLine 67 = .ok (.getfield 147, 3) := dk_180 0 147 (dk_at dksX2_endsLine_2 21 rfl rfl)
theorem dX2_endsLine_70 : decode cX2_endsLine 70 = .ok (.invokevirtual 143, 3) := dk_182 0 143 (dk_at dksX2_endsLine_3 0 rfl rfl)
theorem dX2_endsLine_73 : decode cX2_endsLine 73 = .ok (.aload_n 0, 1) := dk_42 (dk_at dksX2_endsLine_3 3 rfl rfl)
theorem dX2_endsLine_74 : decode cX2_endsLine 74 = .ok (.getfield 137, 3) := dk_180 0 137 (dk_at dksX2_endsLine_3 4 rfl rfl)
theorem dX2_endsLine_77 : decode cX2_endsLine 77 = .ok (.ifCond .ne 13, 3) := dk_154 0 13 (dk_at dksX2_endsLine_3 7 rfl rfl)
theorem dX2_endsLine_80 : decode cX2_endsLine 80 = .ok (.aload_n 0, 1) := dk_42 (dk_at dksX2_endsLine_3 10 rfl rfl)
theorem dX2_endsLine_81 : decode cX2_endsLine 81 = .ok (.getfield 7, 3) := dk_180 0 7 (dk_at dksX2_endsLine_3 11 rfl rfl)
theorem dX2_endsLine_84 : decode cX2_endsLine 84 = .ok (.bipush 18, 2) := dk_16 18 (dk_at dksX2_endsLine_3 14 rfl rfl)
theorem dX2_endsLine_86 : decode cX2_endsLine 86 = .ok (.iload_n 1, 1) := dk_27 (dk_at dksX2_endsLine_3 16 rfl rfl)
theorem dX2_endsLine_87 : decode cX2_endsLine 87 = .ok (.iadd, 1) := dk_96 (dk_at dksX2_endsLine_3 17 rfl rfl)
theorem dX2_endsLine_88 : decode cX2_endsLine 88 = .ok (.iload_n 2, 1) := dk_28 (dk_at dksX2_endsLine_3 18 rfl rfl)
theorem dX2_endsLine_89 : decode cX2_endsLine 89 = .ok (.iastore, 1) := dk_79 (dk_at dksX2_endsLine_3 19 rfl rfl)
theorem dX2_endsLine_90 : decode cX2_endsLine 90 = .ok (.return_, 1) := dk_177 (dk_at dksX2_endsLine_3 20 rfl rfl)
abbrev cX2_claimLine : ByteArray := prog_12_method_32_code
def yX2_claimLine : MethodName := ⟨RX2, "claimLine", "()V"⟩
def dkwX2_claimLine_2 : List UInt8 := [180, 0, 19, 16, 35, 27, 96, 29, 79, 42, 180, 0, 19, 6, 27, 4, 96, 79, 177]
abbrev dktX2_claimLine_2 : List UInt8 := dkwX2_claimLine_2 ++ []
def dkwX2_claimLine_1 : List UInt8 := [42, 5, 28, 182, 0, 205, 62, 42, 29, 182, 0, 208, 42, 180, 0, 19, 16, 19, 27, 96, 28, 79, 42]
abbrev dktX2_claimLine_1 : List UInt8 := dkwX2_claimLine_1 ++ dktX2_claimLine_2
def dkwX2_claimLine_0 : List UInt8 := [42, 180, 0, 19, 6, 46, 60, 42, 27, 16, 16, 182, 0, 196, 154, 0, 4, 177, 42, 5, 182, 0, 202, 61]
abbrev dktX2_claimLine_0 : List UInt8 := dkwX2_claimLine_0 ++ dktX2_claimLine_1
theorem dksX2_claimLine_0 : cX2_claimLine.data.toList.drop 0 = dktX2_claimLine_0 := by decide +kernel
theorem dksX2_claimLine_1 : cX2_claimLine.data.toList.drop 24 = dktX2_claimLine_1 := dk_seg dksX2_claimLine_0 24 rfl rfl
theorem dksX2_claimLine_2 : cX2_claimLine.data.toList.drop 47 = dktX2_claimLine_2 := dk_seg dksX2_claimLine_1 23 rfl rfl
theorem dX2_claimLine_0 : decode cX2_claimLine 0 = .ok (.aload_n 0, 1) := dk_42 (dk_at dksX2_claimLine_0 0 rfl rfl)
theorem dX2_claimLine_1 : decode cX2_claimLine 1 = .ok (.getfield 19, 3) := dk_180 0 19 (dk_at dksX2_claimLine_0 1 rfl rfl)
theorem dX2_claimLine_4 : decode cX2_claimLine 4 = .ok (.iconst 3, 1) := dk_6 (dk_at dksX2_claimLine_0 4 rfl rfl)
theorem dX2_claimLine_5 : decode cX2_claimLine 5 = .ok (.iaload, 1) := dk_46 (dk_at dksX2_claimLine_0 5 rfl rfl)
theorem dX2_claimLine_6 : decode cX2_claimLine 6 = .ok (.istore_n 1, 1) := dk_60 (dk_at dksX2_claimLine_0 6 rfl rfl)
theorem dX2_claimLine_7 : decode cX2_claimLine 7 = .ok (.aload_n 0, 1) := dk_42 (dk_at dksX2_claimLine_0 7 rfl rfl)
theorem dX2_claimLine_8 : decode cX2_claimLine 8 = .ok (.iload_n 1, 1) := dk_27 (dk_at dksX2_claimLine_0 8 rfl rfl)
theorem dX2_claimLine_9 : decode cX2_claimLine 9 = .ok (.bipush 16, 2) := dk_16 16 (dk_at dksX2_claimLine_0 9 rfl rfl)
theorem dX2_claimLine_11 : decode cX2_claimLine 11 = .ok (.invokevirtual 196, 3) := dk_182 0 196 (dk_at dksX2_claimLine_0 11 rfl rfl)
theorem dX2_claimLine_14 : decode cX2_claimLine 14 = .ok (.ifCond .ne 4, 3) := dk_154 0 4 (dk_at dksX2_claimLine_0 14 rfl rfl)
theorem dX2_claimLine_17 : decode cX2_claimLine 17 = .ok (.return_, 1) := dk_177 (dk_at dksX2_claimLine_0 17 rfl rfl)
theorem dX2_claimLine_18 : decode cX2_claimLine 18 = .ok (.aload_n 0, 1) := dk_42 (dk_at dksX2_claimLine_0 18 rfl rfl)
theorem dX2_claimLine_19 : decode cX2_claimLine 19 = .ok (.iconst 2, 1) := dk_5 (dk_at dksX2_claimLine_0 19 rfl rfl)
theorem dX2_claimLine_20 : decode cX2_claimLine 20 = .ok (.invokevirtual 202, 3) := dk_182 0 202 (dk_at dksX2_claimLine_0 20 rfl rfl)
theorem dX2_claimLine_23 : decode cX2_claimLine 23 = .ok (.istore_n 2, 1) := dk_61 (dk_at dksX2_claimLine_0 23 rfl rfl)
theorem dX2_claimLine_24 : decode cX2_claimLine 24 = .ok (.aload_n 0, 1) := dk_42 (dk_at dksX2_claimLine_1 0 rfl rfl)
theorem dX2_claimLine_25 : decode cX2_claimLine 25 = .ok (.iconst 2, 1) := dk_5 (dk_at dksX2_claimLine_1 1 rfl rfl)
theorem dX2_claimLine_26 : decode cX2_claimLine 26 = .ok (.iload_n 2, 1) := dk_28 (dk_at dksX2_claimLine_1 2 rfl rfl)
theorem dX2_claimLine_27 : decode cX2_claimLine 27 = .ok (.invokevirtual 205, 3) := dk_182 0 205 (dk_at dksX2_claimLine_1 3 rfl rfl)
theorem dX2_claimLine_30 : decode cX2_claimLine 30 = .ok (.istore_n 3, 1) := dk_62 (dk_at dksX2_claimLine_1 6 rfl rfl)
theorem dX2_claimLine_31 : decode cX2_claimLine 31 = .ok (.aload_n 0, 1) := dk_42 (dk_at dksX2_claimLine_1 7 rfl rfl)
theorem dX2_claimLine_32 : decode cX2_claimLine 32 = .ok (.iload_n 3, 1) := dk_29 (dk_at dksX2_claimLine_1 8 rfl rfl)
theorem dX2_claimLine_33 : decode cX2_claimLine 33 = .ok (.invokevirtual 208, 3) := dk_182 0 208 (dk_at dksX2_claimLine_1 9 rfl rfl)
theorem dX2_claimLine_36 : decode cX2_claimLine 36 = .ok (.aload_n 0, 1) := dk_42 (dk_at dksX2_claimLine_1 12 rfl rfl)
theorem dX2_claimLine_37 : decode cX2_claimLine 37 = .ok (.getfield 19, 3) := dk_180 0 19 (dk_at dksX2_claimLine_1 13 rfl rfl)
theorem dX2_claimLine_40 : decode cX2_claimLine 40 = .ok (.bipush 19, 2) := dk_16 19 (dk_at dksX2_claimLine_1 16 rfl rfl)
theorem dX2_claimLine_42 : decode cX2_claimLine 42 = .ok (.iload_n 1, 1) := dk_27 (dk_at dksX2_claimLine_1 18 rfl rfl)
theorem dX2_claimLine_43 : decode cX2_claimLine 43 = .ok (.iadd, 1) := dk_96 (dk_at dksX2_claimLine_1 19 rfl rfl)
theorem dX2_claimLine_44 : decode cX2_claimLine 44 = .ok (.iload_n 2, 1) := dk_28 (dk_at dksX2_claimLine_1 20 rfl rfl)
theorem dX2_claimLine_45 : decode cX2_claimLine 45 = .ok (.iastore, 1) := dk_79 (dk_at dksX2_claimLine_1 21 rfl rfl)
theorem dX2_claimLine_46 : decode cX2_claimLine 46 = .ok (.aload_n 0, 1) := dk_42 (dk_at dksX2_claimLine_1 22 rfl rfl)
theorem dX2_claimLine_47 : decode cX2_claimLine 47 = .ok (.getfield 19, 3) := dk_180 0 19 (dk_at dksX2_claimLine_2 0 rfl rfl)
theorem dX2_claimLine_50 : decode cX2_claimLine 50 = .ok (.bipush 35, 2) := dk_16 35 (dk_at dksX2_claimLine_2 3 rfl rfl)
theorem dX2_claimLine_52 : decode cX2_claimLine 52 = .ok (.iload_n 1, 1) := dk_27 (dk_at dksX2_claimLine_2 5 rfl rfl)
theorem dX2_claimLine_53 : decode cX2_claimLine 53 = .ok (.iadd, 1) := dk_96 (dk_at dksX2_claimLine_2 6 rfl rfl)
theorem dX2_claimLine_54 : decode cX2_claimLine 54 = .ok (.iload_n 3, 1) := dk_29 (dk_at dksX2_claimLine_2 7 rfl rfl)
theorem dX2_claimLine_55 : decode cX2_claimLine 55 = .ok (.iastore, 1) := dk_79 (dk_at dksX2_claimLine_2 8 rfl rfl)
theorem dX2_claimLine_56 : decode cX2_claimLine 56 = .ok (.aload_n 0, 1) := dk_42 (dk_at dksX2_claimLine_2 9 rfl rfl)
theorem dX2_claimLine_57 : decode cX2_claimLine 57 = .ok (.getfield 19, 3) := dk_180 0 19 (dk_at dksX2_claimLine_2 10 rfl rfl)
theorem dX2_claimLine_60 : decode cX2_claimLine 60 = .ok (.iconst 3, 1) := dk_6 (dk_at dksX2_claimLine_2 13 rfl rfl)
theorem dX2_claimLine_61 : decode cX2_claimLine 61 = .ok (.iload_n 1, 1) := dk_27 (dk_at dksX2_claimLine_2 14 rfl rfl)
theorem dX2_claimLine_62 : decode cX2_claimLine 62 = .ok (.iconst 1, 1) := dk_4 (dk_at dksX2_claimLine_2 15 rfl rfl)
theorem dX2_claimLine_63 : decode cX2_claimLine 63 = .ok (.iadd, 1) := dk_96 (dk_at dksX2_claimLine_2 16 rfl rfl)
theorem dX2_claimLine_64 : decode cX2_claimLine 64 = .ok (.iastore, 1) := dk_79 (dk_at dksX2_claimLine_2 17 rfl rfl)
theorem dX2_claimLine_65 : decode cX2_claimLine 65 = .ok (.return_, 1) := dk_177 (dk_at dksX2_claimLine_2 18 rfl rfl)
abbrev cX2_shownLine : ByteArray := prog_12_method_34_code
def yX2_shownLine : MethodName := ⟨RX2, "shownLine", "()V"⟩
def dkwX2_shownLine_2 : List UInt8 := [42, 180, 0, 7, 27, 28, 29, 184, 0, 219, 177]
abbrev dktX2_shownLine_2 : List UInt8 := dkwX2_shownLine_2 ++ []
def dkwX2_shownLine_1 : List UInt8 := [42, 182, 0, 193, 61, 42, 3, 3, 182, 0, 205, 62, 42, 29, 182, 0, 208, 42, 180, 0, 137, 154, 0, 13]
abbrev dktX2_shownLine_1 : List UInt8 := dkwX2_shownLine_1 ++ dktX2_shownLine_2
def dkwX2_shownLine_0 : List UInt8 := [42, 42, 180, 0, 7, 17, 1, 61, 46, 16, 14, 182, 0, 196, 154, 0, 4, 177, 42, 4, 182, 0, 202, 60]
abbrev dktX2_shownLine_0 : List UInt8 := dkwX2_shownLine_0 ++ dktX2_shownLine_1
theorem dksX2_shownLine_0 : cX2_shownLine.data.toList.drop 0 = dktX2_shownLine_0 := by decide +kernel
theorem dksX2_shownLine_1 : cX2_shownLine.data.toList.drop 24 = dktX2_shownLine_1 := dk_seg dksX2_shownLine_0 24 rfl rfl
theorem dksX2_shownLine_2 : cX2_shownLine.data.toList.drop 48 = dktX2_shownLine_2 := dk_seg dksX2_shownLine_1 24 rfl rfl
theorem dX2_shownLine_0 : decode cX2_shownLine 0 = .ok (.aload_n 0, 1) := dk_42 (dk_at dksX2_shownLine_0 0 rfl rfl)
theorem dX2_shownLine_1 : decode cX2_shownLine 1 = .ok (.aload_n 0, 1) := dk_42 (dk_at dksX2_shownLine_0 1 rfl rfl)
theorem dX2_shownLine_2 : decode cX2_shownLine 2 = .ok (.getfield 7, 3) := dk_180 0 7 (dk_at dksX2_shownLine_0 2 rfl rfl)
theorem dX2_shownLine_5 : decode cX2_shownLine 5 = .ok (.sipush 317, 3) := dk_17 1 61 (dk_at dksX2_shownLine_0 5 rfl rfl)
theorem dX2_shownLine_8 : decode cX2_shownLine 8 = .ok (.iaload, 1) := dk_46 (dk_at dksX2_shownLine_0 8 rfl rfl)
theorem dX2_shownLine_9 : decode cX2_shownLine 9 = .ok (.bipush 14, 2) := dk_16 14 (dk_at dksX2_shownLine_0 9 rfl rfl)
theorem dX2_shownLine_11 : decode cX2_shownLine 11 = .ok (.invokevirtual 196, 3) := dk_182 0 196 (dk_at dksX2_shownLine_0 11 rfl rfl)
theorem dX2_shownLine_14 : decode cX2_shownLine 14 = .ok (.ifCond .ne 4, 3) := dk_154 0 4 (dk_at dksX2_shownLine_0 14 rfl rfl)
theorem dX2_shownLine_17 : decode cX2_shownLine 17 = .ok (.return_, 1) := dk_177 (dk_at dksX2_shownLine_0 17 rfl rfl)
theorem dX2_shownLine_18 : decode cX2_shownLine 18 = .ok (.aload_n 0, 1) := dk_42 (dk_at dksX2_shownLine_0 18 rfl rfl)
theorem dX2_shownLine_19 : decode cX2_shownLine 19 = .ok (.iconst 1, 1) := dk_4 (dk_at dksX2_shownLine_0 19 rfl rfl)
theorem dX2_shownLine_20 : decode cX2_shownLine 20 = .ok (.invokevirtual 202, 3) := dk_182 0 202 (dk_at dksX2_shownLine_0 20 rfl rfl)
theorem dX2_shownLine_23 : decode cX2_shownLine 23 = .ok (.istore_n 1, 1) := dk_60 (dk_at dksX2_shownLine_0 23 rfl rfl)
theorem dX2_shownLine_24 : decode cX2_shownLine 24 = .ok (.aload_n 0, 1) := dk_42 (dk_at dksX2_shownLine_1 0 rfl rfl)
theorem dX2_shownLine_25 : decode cX2_shownLine 25 = .ok (.invokevirtual 193, 3) := dk_182 0 193 (dk_at dksX2_shownLine_1 1 rfl rfl)
theorem dX2_shownLine_28 : decode cX2_shownLine 28 = .ok (.istore_n 2, 1) := dk_61 (dk_at dksX2_shownLine_1 4 rfl rfl)
theorem dX2_shownLine_29 : decode cX2_shownLine 29 = .ok (.aload_n 0, 1) := dk_42 (dk_at dksX2_shownLine_1 5 rfl rfl)
theorem dX2_shownLine_30 : decode cX2_shownLine 30 = .ok (.iconst 0, 1) := dk_3 (dk_at dksX2_shownLine_1 6 rfl rfl)
theorem dX2_shownLine_31 : decode cX2_shownLine 31 = .ok (.iconst 0, 1) := dk_3 (dk_at dksX2_shownLine_1 7 rfl rfl)
theorem dX2_shownLine_32 : decode cX2_shownLine 32 = .ok (.invokevirtual 205, 3) := dk_182 0 205 (dk_at dksX2_shownLine_1 8 rfl rfl)
theorem dX2_shownLine_35 : decode cX2_shownLine 35 = .ok (.istore_n 3, 1) := dk_62 (dk_at dksX2_shownLine_1 11 rfl rfl)
theorem dX2_shownLine_36 : decode cX2_shownLine 36 = .ok (.aload_n 0, 1) := dk_42 (dk_at dksX2_shownLine_1 12 rfl rfl)
theorem dX2_shownLine_37 : decode cX2_shownLine 37 = .ok (.iload_n 3, 1) := dk_29 (dk_at dksX2_shownLine_1 13 rfl rfl)
theorem dX2_shownLine_38 : decode cX2_shownLine 38 = .ok (.invokevirtual 208, 3) := dk_182 0 208 (dk_at dksX2_shownLine_1 14 rfl rfl)
theorem dX2_shownLine_41 : decode cX2_shownLine 41 = .ok (.aload_n 0, 1) := dk_42 (dk_at dksX2_shownLine_1 17 rfl rfl)
theorem dX2_shownLine_42 : decode cX2_shownLine 42 = .ok (.getfield 137, 3) := dk_180 0 137 (dk_at dksX2_shownLine_1 18 rfl rfl)
theorem dX2_shownLine_45 : decode cX2_shownLine 45 = .ok (.ifCond .ne 13, 3) := dk_154 0 13 (dk_at dksX2_shownLine_1 21 rfl rfl)
theorem dX2_shownLine_48 : decode cX2_shownLine 48 = .ok (.aload_n 0, 1) := dk_42 (dk_at dksX2_shownLine_2 0 rfl rfl)
theorem dX2_shownLine_49 : decode cX2_shownLine 49 = .ok (.getfield 7, 3) := dk_180 0 7 (dk_at dksX2_shownLine_2 1 rfl rfl)
theorem dX2_shownLine_52 : decode cX2_shownLine 52 = .ok (.iload_n 1, 1) := dk_27 (dk_at dksX2_shownLine_2 4 rfl rfl)
theorem dX2_shownLine_53 : decode cX2_shownLine 53 = .ok (.iload_n 2, 1) := dk_28 (dk_at dksX2_shownLine_2 5 rfl rfl)
theorem dX2_shownLine_54 : decode cX2_shownLine 54 = .ok (.iload_n 3, 1) := dk_29 (dk_at dksX2_shownLine_2 6 rfl rfl)
theorem dX2_shownLine_55 : decode cX2_shownLine 55 = .ok (.invokestatic 219, 3) := dk_184 0 219 (dk_at dksX2_shownLine_2 7 rfl rfl)
theorem dX2_shownLine_58 : decode cX2_shownLine 58 = .ok (.return_, 1) := dk_177 (dk_at dksX2_shownLine_2 10 rfl rfl)
abbrev cX2_showsIn : ByteArray := prog_12_method_33_code
def yX2_showsIn : MethodName := ⟨RX2, "showsIn", "([IIII)V"⟩
def dkwX2_showsIn_1 : List UInt8 := [79, 42, 21, 4, 5, 96, 29, 79, 42, 17, 1, 61, 42, 17, 1, 61, 46, 4, 96, 79, 177]
abbrev dktX2_showsIn_1 : List UInt8 := dkwX2_showsIn_1 ++ []
def dkwX2_showsIn_0 : List UInt8 := [17, 1, 62, 6, 42, 17, 1, 61, 46, 104, 96, 54, 4, 42, 21, 4, 27, 79, 42, 21, 4, 4, 96, 28]
abbrev dktX2_showsIn_0 : List UInt8 := dkwX2_showsIn_0 ++ dktX2_showsIn_1
theorem dksX2_showsIn_0 : cX2_showsIn.data.toList.drop 0 = dktX2_showsIn_0 := by decide +kernel
theorem dksX2_showsIn_1 : cX2_showsIn.data.toList.drop 24 = dktX2_showsIn_1 := dk_seg dksX2_showsIn_0 24 rfl rfl
theorem dX2_showsIn_0 : decode cX2_showsIn 0 = .ok (.sipush 318, 3) := dk_17 1 62 (dk_at dksX2_showsIn_0 0 rfl rfl)
theorem dX2_showsIn_3 : decode cX2_showsIn 3 = .ok (.iconst 3, 1) := dk_6 (dk_at dksX2_showsIn_0 3 rfl rfl)
theorem dX2_showsIn_4 : decode cX2_showsIn 4 = .ok (.aload_n 0, 1) := dk_42 (dk_at dksX2_showsIn_0 4 rfl rfl)
theorem dX2_showsIn_5 : decode cX2_showsIn 5 = .ok (.sipush 317, 3) := dk_17 1 61 (dk_at dksX2_showsIn_0 5 rfl rfl)
theorem dX2_showsIn_8 : decode cX2_showsIn 8 = .ok (.iaload, 1) := dk_46 (dk_at dksX2_showsIn_0 8 rfl rfl)
theorem dX2_showsIn_9 : decode cX2_showsIn 9 = .ok (.imul, 1) := dk_104 (dk_at dksX2_showsIn_0 9 rfl rfl)
theorem dX2_showsIn_10 : decode cX2_showsIn 10 = .ok (.iadd, 1) := dk_96 (dk_at dksX2_showsIn_0 10 rfl rfl)
theorem dX2_showsIn_11 : decode cX2_showsIn 11 = .ok (.istore 4, 2) := dk_54 4 (dk_at dksX2_showsIn_0 11 rfl rfl)
theorem dX2_showsIn_13 : decode cX2_showsIn 13 = .ok (.aload_n 0, 1) := dk_42 (dk_at dksX2_showsIn_0 13 rfl rfl)
theorem dX2_showsIn_14 : decode cX2_showsIn 14 = .ok (.iload 4, 2) := dk_21 4 (dk_at dksX2_showsIn_0 14 rfl rfl)
theorem dX2_showsIn_16 : decode cX2_showsIn 16 = .ok (.iload_n 1, 1) := dk_27 (dk_at dksX2_showsIn_0 16 rfl rfl)
theorem dX2_showsIn_17 : decode cX2_showsIn 17 = .ok (.iastore, 1) := dk_79 (dk_at dksX2_showsIn_0 17 rfl rfl)
theorem dX2_showsIn_18 : decode cX2_showsIn 18 = .ok (.aload_n 0, 1) := dk_42 (dk_at dksX2_showsIn_0 18 rfl rfl)
theorem dX2_showsIn_19 : decode cX2_showsIn 19 = .ok (.iload 4, 2) := dk_21 4 (dk_at dksX2_showsIn_0 19 rfl rfl)
theorem dX2_showsIn_21 : decode cX2_showsIn 21 = .ok (.iconst 1, 1) := dk_4 (dk_at dksX2_showsIn_0 21 rfl rfl)
theorem dX2_showsIn_22 : decode cX2_showsIn 22 = .ok (.iadd, 1) := dk_96 (dk_at dksX2_showsIn_0 22 rfl rfl)
theorem dX2_showsIn_23 : decode cX2_showsIn 23 = .ok (.iload_n 2, 1) := dk_28 (dk_at dksX2_showsIn_0 23 rfl rfl)
theorem dX2_showsIn_24 : decode cX2_showsIn 24 = .ok (.iastore, 1) := dk_79 (dk_at dksX2_showsIn_1 0 rfl rfl)
theorem dX2_showsIn_25 : decode cX2_showsIn 25 = .ok (.aload_n 0, 1) := dk_42 (dk_at dksX2_showsIn_1 1 rfl rfl)
theorem dX2_showsIn_26 : decode cX2_showsIn 26 = .ok (.iload 4, 2) := dk_21 4 (dk_at dksX2_showsIn_1 2 rfl rfl)
theorem dX2_showsIn_28 : decode cX2_showsIn 28 = .ok (.iconst 2, 1) := dk_5 (dk_at dksX2_showsIn_1 4 rfl rfl)
theorem dX2_showsIn_29 : decode cX2_showsIn 29 = .ok (.iadd, 1) := dk_96 (dk_at dksX2_showsIn_1 5 rfl rfl)
theorem dX2_showsIn_30 : decode cX2_showsIn 30 = .ok (.iload_n 3, 1) := dk_29 (dk_at dksX2_showsIn_1 6 rfl rfl)
theorem dX2_showsIn_31 : decode cX2_showsIn 31 = .ok (.iastore, 1) := dk_79 (dk_at dksX2_showsIn_1 7 rfl rfl)
theorem dX2_showsIn_32 : decode cX2_showsIn 32 = .ok (.aload_n 0, 1) := dk_42 (dk_at dksX2_showsIn_1 8 rfl rfl)
theorem dX2_showsIn_33 : decode cX2_showsIn 33 = .ok (.sipush 317, 3) := dk_17 1 61 (dk_at dksX2_showsIn_1 9 rfl rfl)
theorem dX2_showsIn_36 : decode cX2_showsIn 36 = .ok (.aload_n 0, 1) := dk_42 (dk_at dksX2_showsIn_1 12 rfl rfl)
theorem dX2_showsIn_37 : decode cX2_showsIn 37 = .ok (.sipush 317, 3) := dk_17 1 61 (dk_at dksX2_showsIn_1 13 rfl rfl)
theorem dX2_showsIn_40 : decode cX2_showsIn 40 = .ok (.iaload, 1) := dk_46 (dk_at dksX2_showsIn_1 16 rfl rfl)
theorem dX2_showsIn_41 : decode cX2_showsIn 41 = .ok (.iconst 1, 1) := dk_4 (dk_at dksX2_showsIn_1 17 rfl rfl)
theorem dX2_showsIn_42 : decode cX2_showsIn 42 = .ok (.iadd, 1) := dk_96 (dk_at dksX2_showsIn_1 18 rfl rfl)
theorem dX2_showsIn_43 : decode cX2_showsIn 43 = .ok (.iastore, 1) := dk_79 (dk_at dksX2_showsIn_1 19 rfl rfl)
theorem dX2_showsIn_44 : decode cX2_showsIn 44 = .ok (.return_, 1) := dk_177 (dk_at dksX2_showsIn_1 20 rfl rfl)
abbrev cX2_ruleLine : ByteArray := prog_12_method_22_code
def yX2_ruleLine : MethodName := ⟨RX2, "ruleLine", "(I)V"⟩
def dkwX2_ruleLine_2 : List UInt8 := [180, 0, 7, 27, 42, 182, 0, 193, 79, 177]
abbrev dktX2_ruleLine_2 : List UInt8 := dkwX2_ruleLine_2 ++ []
def dkwX2_ruleLine_1 : List UInt8 := [180, 0, 190, 4, 27, 120, 128, 181, 0, 190, 42, 180, 0, 137, 154, 0, 7, 42, 182, 0, 150, 42]
abbrev dktX2_ruleLine_1 : List UInt8 := dkwX2_ruleLine_1 ++ dktX2_ruleLine_2
def dkwX2_ruleLine_0 : List UInt8 := [42, 180, 0, 190, 27, 184, 0, 82, 153, 0, 12, 42, 5, 42, 180, 0, 107, 182, 0, 143, 42, 42]
abbrev dktX2_ruleLine_0 : List UInt8 := dkwX2_ruleLine_0 ++ dktX2_ruleLine_1
theorem dksX2_ruleLine_0 : cX2_ruleLine.data.toList.drop 0 = dktX2_ruleLine_0 := by decide +kernel
theorem dksX2_ruleLine_1 : cX2_ruleLine.data.toList.drop 22 = dktX2_ruleLine_1 := dk_seg dksX2_ruleLine_0 22 rfl rfl
theorem dksX2_ruleLine_2 : cX2_ruleLine.data.toList.drop 44 = dktX2_ruleLine_2 := dk_seg dksX2_ruleLine_1 22 rfl rfl
theorem dX2_ruleLine_0 : decode cX2_ruleLine 0 = .ok (.aload_n 0, 1) := dk_42 (dk_at dksX2_ruleLine_0 0 rfl rfl)
theorem dX2_ruleLine_1 : decode cX2_ruleLine 1 = .ok (.getfield 190, 3) := dk_180 0 190 (dk_at dksX2_ruleLine_0 1 rfl rfl)
theorem dX2_ruleLine_4 : decode cX2_ruleLine 4 = .ok (.iload_n 1, 1) := dk_27 (dk_at dksX2_ruleLine_0 4 rfl rfl)
theorem dX2_ruleLine_5 : decode cX2_ruleLine 5 = .ok (.invokestatic 82, 3) := dk_184 0 82 (dk_at dksX2_ruleLine_0 5 rfl rfl)
theorem dX2_ruleLine_8 : decode cX2_ruleLine 8 = .ok (.ifCond .eq 12, 3) := dk_153 0 12 (dk_at dksX2_ruleLine_0 8 rfl rfl)
theorem dX2_ruleLine_11 : decode cX2_ruleLine 11 = .ok (.aload_n 0, 1) := dk_42 (dk_at dksX2_ruleLine_0 11 rfl rfl)
theorem dX2_ruleLine_12 : decode cX2_ruleLine 12 = .ok (.iconst 2, 1) := dk_5 (dk_at dksX2_ruleLine_0 12 rfl rfl)
theorem dX2_ruleLine_13 : decode cX2_ruleLine 13 = .ok (.aload_n 0, 1) := dk_42 (dk_at dksX2_ruleLine_0 13 rfl rfl)
theorem dX2_ruleLine_14 : decode cX2_ruleLine 14 = .ok (.getfield 107, 3) := dk_180 0 107 (dk_at dksX2_ruleLine_0 14 rfl rfl)
theorem dX2_ruleLine_17 : decode cX2_ruleLine 17 = .ok (.invokevirtual 143, 3) := dk_182 0 143 (dk_at dksX2_ruleLine_0 17 rfl rfl)
theorem dX2_ruleLine_20 : decode cX2_ruleLine 20 = .ok (.aload_n 0, 1) := dk_42 (dk_at dksX2_ruleLine_0 20 rfl rfl)
theorem dX2_ruleLine_21 : decode cX2_ruleLine 21 = .ok (.aload_n 0, 1) := dk_42 (dk_at dksX2_ruleLine_0 21 rfl rfl)
theorem dX2_ruleLine_22 : decode cX2_ruleLine 22 = .ok (.getfield 190, 3) := dk_180 0 190 (dk_at dksX2_ruleLine_1 0 rfl rfl)
theorem dX2_ruleLine_25 : decode cX2_ruleLine 25 = .ok (.iconst 1, 1) := dk_4 (dk_at dksX2_ruleLine_1 3 rfl rfl)
theorem dX2_ruleLine_26 : decode cX2_ruleLine 26 = .ok (.iload_n 1, 1) := dk_27 (dk_at dksX2_ruleLine_1 4 rfl rfl)
theorem dX2_ruleLine_27 : decode cX2_ruleLine 27 = .ok (.ishl, 1) := dk_120 (dk_at dksX2_ruleLine_1 5 rfl rfl)
theorem dX2_ruleLine_28 : decode cX2_ruleLine 28 = .ok (.ior, 1) := dk_128 (dk_at dksX2_ruleLine_1 6 rfl rfl)
theorem dX2_ruleLine_29 : decode cX2_ruleLine 29 = .ok (.putfield 190, 3) := dk_181 0 190 (dk_at dksX2_ruleLine_1 7 rfl rfl)
theorem dX2_ruleLine_32 : decode cX2_ruleLine 32 = .ok (.aload_n 0, 1) := dk_42 (dk_at dksX2_ruleLine_1 10 rfl rfl)
theorem dX2_ruleLine_33 : decode cX2_ruleLine 33 = .ok (.getfield 137, 3) := dk_180 0 137 (dk_at dksX2_ruleLine_1 11 rfl rfl)
theorem dX2_ruleLine_36 : decode cX2_ruleLine 36 = .ok (.ifCond .ne 7, 3) := dk_154 0 7 (dk_at dksX2_ruleLine_1 14 rfl rfl)
theorem dX2_ruleLine_39 : decode cX2_ruleLine 39 = .ok (.aload_n 0, 1) := dk_42 (dk_at dksX2_ruleLine_1 17 rfl rfl)
theorem dX2_ruleLine_40 : decode cX2_ruleLine 40 = .ok (.invokevirtual 150, 3) := dk_182 0 150 (dk_at dksX2_ruleLine_1 18 rfl rfl)
theorem dX2_ruleLine_43 : decode cX2_ruleLine 43 = .ok (.aload_n 0, 1) := dk_42 (dk_at dksX2_ruleLine_1 21 rfl rfl)
theorem dX2_ruleLine_44 : decode cX2_ruleLine 44 = .ok (.getfield 7, 3) := dk_180 0 7 (dk_at dksX2_ruleLine_2 0 rfl rfl)
theorem dX2_ruleLine_47 : decode cX2_ruleLine 47 = .ok (.iload_n 1, 1) := dk_27 (dk_at dksX2_ruleLine_2 3 rfl rfl)
theorem dX2_ruleLine_48 : decode cX2_ruleLine 48 = .ok (.aload_n 0, 1) := dk_42 (dk_at dksX2_ruleLine_2 4 rfl rfl)
theorem dX2_ruleLine_49 : decode cX2_ruleLine 49 = .ok (.invokevirtual 193, 3) := dk_182 0 193 (dk_at dksX2_ruleLine_2 5 rfl rfl)
theorem dX2_ruleLine_52 : decode cX2_ruleLine 52 = .ok (.iastore, 1) := dk_79 (dk_at dksX2_ruleLine_2 8 rfl rfl)
theorem dX2_ruleLine_53 : decode cX2_ruleLine 53 = .ok (.return_, 1) := dk_177 (dk_at dksX2_ruleLine_2 9 rfl rfl)
abbrev cX2_fault : ByteArray := prog_12_method_38_code
def yX2_fault : MethodName := ⟨RX2, "fault", "(I)I"⟩
def dkwX2_fault_1 : List UInt8 := [172]
abbrev dktX2_fault_1 : List UInt8 := dkwX2_fault_1 ++ []
def dkwX2_fault_0 : List UInt8 := [27, 154, 0, 10, 42, 180, 0, 250, 167, 0, 16, 27, 4, 160, 0, 10, 42, 180, 0, 35, 167, 0, 4, 2]
abbrev dktX2_fault_0 : List UInt8 := dkwX2_fault_0 ++ dktX2_fault_1
theorem dksX2_fault_0 : cX2_fault.data.toList.drop 0 = dktX2_fault_0 := by decide +kernel
theorem dksX2_fault_1 : cX2_fault.data.toList.drop 24 = dktX2_fault_1 := dk_seg dksX2_fault_0 24 rfl rfl
theorem dX2_fault_0 : decode cX2_fault 0 = .ok (.iload_n 1, 1) := dk_27 (dk_at dksX2_fault_0 0 rfl rfl)
theorem dX2_fault_1 : decode cX2_fault 1 = .ok (.ifCond .ne 10, 3) := dk_154 0 10 (dk_at dksX2_fault_0 1 rfl rfl)
theorem dX2_fault_4 : decode cX2_fault 4 = .ok (.aload_n 0, 1) := dk_42 (dk_at dksX2_fault_0 4 rfl rfl)
theorem dX2_fault_5 : decode cX2_fault 5 = .ok (.getfield 250, 3) := dk_180 0 250 (dk_at dksX2_fault_0 5 rfl rfl)
theorem dX2_fault_8 : decode cX2_fault 8 = .ok (.goto 16, 3) := dk_167 0 16 (dk_at dksX2_fault_0 8 rfl rfl)
theorem dX2_fault_11 : decode cX2_fault 11 = .ok (.iload_n 1, 1) := dk_27 (dk_at dksX2_fault_0 11 rfl rfl)
theorem dX2_fault_12 : decode cX2_fault 12 = .ok (.iconst 1, 1) := dk_4 (dk_at dksX2_fault_0 12 rfl rfl)
theorem dX2_fault_13 : decode cX2_fault 13 = .ok (.if_icmp .ne 10, 3) := dk_160 0 10 (dk_at dksX2_fault_0 13 rfl rfl)
theorem dX2_fault_16 : decode cX2_fault 16 = .ok (.aload_n 0, 1) := dk_42 (dk_at dksX2_fault_0 16 rfl rfl)
theorem dX2_fault_17 : decode cX2_fault 17 = .ok (.getfield 35, 3) := dk_180 0 35 (dk_at dksX2_fault_0 17 rfl rfl)
theorem dX2_fault_20 : decode cX2_fault 20 = .ok (.goto 4, 3) := dk_167 0 4 (dk_at dksX2_fault_0 20 rfl rfl)
theorem dX2_fault_23 : decode cX2_fault 23 = .ok (.iconst (-1), 1) := dk_2 (dk_at dksX2_fault_0 23 rfl rfl)
theorem dX2_fault_24 : decode cX2_fault 24 = .ok (.ireturn, 1) := dk_172 (dk_at dksX2_fault_1 0 rfl rfl)
abbrev cX2_count : ByteArray := prog_12_method_54_code
def yX2_count : MethodName := ⟨RX2, "count", "(I)I"⟩
def dkwX2_count_6 : List UInt8 := [167, 0, 4, 2, 172]
abbrev dktX2_count_6 : List UInt8 := dkwX2_count_6 ++ []
def dkwX2_count_5 : List UInt8 := [180, 0, 253, 172, 42, 180, 0, 86, 172, 27, 3, 6, 184, 0, 93, 153, 0, 12, 42, 180, 0, 13, 27, 46]
abbrev dktX2_count_5 : List UInt8 := dkwX2_count_5 ++ dktX2_count_6
def dkwX2_count_4 : List UInt8 := [42, 180, 0, 13, 17, 1, 0, 46, 42, 182, 1, 1, 184, 1, 4, 100, 172, 42, 182, 1, 7, 172, 42]
abbrev dktX2_count_4 : List UInt8 := dkwX2_count_4 ++ dktX2_count_5
def dkwX2_count_3 : List UInt8 := [180, 0, 13, 17, 1, 0, 46, 172, 42, 180, 0, 22, 6, 46, 172, 42, 180, 0, 13, 17, 1, 61, 46, 172]
abbrev dktX2_count_3 : List UInt8 := dkwX2_count_3 ++ dktX2_count_4
def dkwX2_count_2 : List UInt8 := [42, 180, 0, 22, 3, 46, 172, 42, 180, 0, 22, 4, 46, 172, 42, 180, 0, 22, 5, 46, 172, 42]
abbrev dktX2_count_2 : List UInt8 := dkwX2_count_2 ++ dktX2_count_3
def dkwX2_count_1 : List UInt8 := [170, 0, 0, 0, 0, 0, 133, 0, 0, 0, 4, 0, 0, 0, 13, 0, 0, 0, 55, 0, 0, 0, 62, 0, 0, 0, 69, 0, 0, 0, 76, 0, 0, 0, 85, 0, 0, 0, 92, 0, 0, 0, 101, 0, 0, 0, 118, 0, 0, 0, 123, 0, 0, 0, 128]
abbrev dktX2_count_1 : List UInt8 := dkwX2_count_1 ++ dktX2_count_2
def dkwX2_count_0 : List UInt8 := [27]
abbrev dktX2_count_0 : List UInt8 := dkwX2_count_0 ++ dktX2_count_1
theorem dksX2_count_0 : cX2_count.data.toList.drop 0 = dktX2_count_0 := by decide +kernel
theorem dksX2_count_1 : cX2_count.data.toList.drop 1 = dktX2_count_1 := dk_seg dksX2_count_0 1 rfl rfl
theorem dksX2_count_2 : cX2_count.data.toList.drop 56 = dktX2_count_2 := dk_seg dksX2_count_1 55 rfl rfl
theorem dksX2_count_3 : cX2_count.data.toList.drop 78 = dktX2_count_3 := dk_seg dksX2_count_2 22 rfl rfl
theorem dksX2_count_4 : cX2_count.data.toList.drop 102 = dktX2_count_4 := dk_seg dksX2_count_3 24 rfl rfl
theorem dksX2_count_5 : cX2_count.data.toList.drop 125 = dktX2_count_5 := dk_seg dksX2_count_4 23 rfl rfl
theorem dksX2_count_6 : cX2_count.data.toList.drop 149 = dktX2_count_6 := dk_seg dksX2_count_5 24 rfl rfl
theorem dX2_count_0 : decode cX2_count 0 = .ok (.iload_n 1, 1) := dk_27 (dk_at dksX2_count_0 0 rfl rfl)
theorem dX2_count_1 : decode cX2_count 1 = .ok (.tableswitch 133 4 13 #[55, 62, 69, 76, 85, 92, 101, 118, 123, 128], 55) := by decide +kernel
theorem dX2_count_56 : decode cX2_count 56 = .ok (.aload_n 0, 1) := dk_42 (dk_at dksX2_count_2 0 rfl rfl)
theorem dX2_count_57 : decode cX2_count 57 = .ok (.getfield 22, 3) := dk_180 0 22 (dk_at dksX2_count_2 1 rfl rfl)
theorem dX2_count_60 : decode cX2_count 60 = .ok (.iconst 0, 1) := dk_3 (dk_at dksX2_count_2 4 rfl rfl)
theorem dX2_count_61 : decode cX2_count 61 = .ok (.iaload, 1) := dk_46 (dk_at dksX2_count_2 5 rfl rfl)
theorem dX2_count_62 : decode cX2_count 62 = .ok (.ireturn, 1) := dk_172 (dk_at dksX2_count_2 6 rfl rfl)
theorem dX2_count_63 : decode cX2_count 63 = .ok (.aload_n 0, 1) := dk_42 (dk_at dksX2_count_2 7 rfl rfl)
theorem dX2_count_64 : decode cX2_count 64 = .ok (.getfield 22, 3) := dk_180 0 22 (dk_at dksX2_count_2 8 rfl rfl)
theorem dX2_count_67 : decode cX2_count 67 = .ok (.iconst 1, 1) := dk_4 (dk_at dksX2_count_2 11 rfl rfl)
theorem dX2_count_68 : decode cX2_count 68 = .ok (.iaload, 1) := dk_46 (dk_at dksX2_count_2 12 rfl rfl)
theorem dX2_count_69 : decode cX2_count 69 = .ok (.ireturn, 1) := dk_172 (dk_at dksX2_count_2 13 rfl rfl)
theorem dX2_count_70 : decode cX2_count 70 = .ok (.aload_n 0, 1) := dk_42 (dk_at dksX2_count_2 14 rfl rfl)
theorem dX2_count_71 : decode cX2_count 71 = .ok (.getfield 22, 3) := dk_180 0 22 (dk_at dksX2_count_2 15 rfl rfl)
theorem dX2_count_74 : decode cX2_count 74 = .ok (.iconst 2, 1) := dk_5 (dk_at dksX2_count_2 18 rfl rfl)
theorem dX2_count_75 : decode cX2_count 75 = .ok (.iaload, 1) := dk_46 (dk_at dksX2_count_2 19 rfl rfl)
theorem dX2_count_76 : decode cX2_count 76 = .ok (.ireturn, 1) := dk_172 (dk_at dksX2_count_2 20 rfl rfl)
theorem dX2_count_77 : decode cX2_count 77 = .ok (.aload_n 0, 1) := dk_42 (dk_at dksX2_count_2 21 rfl rfl)
theorem dX2_count_78 : decode cX2_count 78 = .ok (.getfield 13, 3) := dk_180 0 13 (dk_at dksX2_count_3 0 rfl rfl)
theorem dX2_count_81 : decode cX2_count 81 = .ok (.sipush 256, 3) := dk_17 1 0 (dk_at dksX2_count_3 3 rfl rfl)
theorem dX2_count_84 : decode cX2_count 84 = .ok (.iaload, 1) := dk_46 (dk_at dksX2_count_3 6 rfl rfl)
theorem dX2_count_85 : decode cX2_count 85 = .ok (.ireturn, 1) := dk_172 (dk_at dksX2_count_3 7 rfl rfl)
theorem dX2_count_86 : decode cX2_count 86 = .ok (.aload_n 0, 1) := dk_42 (dk_at dksX2_count_3 8 rfl rfl)
theorem dX2_count_87 : decode cX2_count 87 = .ok (.getfield 22, 3) := dk_180 0 22 (dk_at dksX2_count_3 9 rfl rfl)
theorem dX2_count_90 : decode cX2_count 90 = .ok (.iconst 3, 1) := dk_6 (dk_at dksX2_count_3 12 rfl rfl)
theorem dX2_count_91 : decode cX2_count 91 = .ok (.iaload, 1) := dk_46 (dk_at dksX2_count_3 13 rfl rfl)
theorem dX2_count_92 : decode cX2_count 92 = .ok (.ireturn, 1) := dk_172 (dk_at dksX2_count_3 14 rfl rfl)
theorem dX2_count_93 : decode cX2_count 93 = .ok (.aload_n 0, 1) := dk_42 (dk_at dksX2_count_3 15 rfl rfl)
theorem dX2_count_94 : decode cX2_count 94 = .ok (.getfield 13, 3) := dk_180 0 13 (dk_at dksX2_count_3 16 rfl rfl)
theorem dX2_count_97 : decode cX2_count 97 = .ok (.sipush 317, 3) := dk_17 1 61 (dk_at dksX2_count_3 19 rfl rfl)
theorem dX2_count_100 : decode cX2_count 100 = .ok (.iaload, 1) := dk_46 (dk_at dksX2_count_3 22 rfl rfl)
theorem dX2_count_101 : decode cX2_count 101 = .ok (.ireturn, 1) := dk_172 (dk_at dksX2_count_3 23 rfl rfl)
theorem dX2_count_102 : decode cX2_count 102 = .ok (.aload_n 0, 1) := dk_42 (dk_at dksX2_count_4 0 rfl rfl)
theorem dX2_count_103 : decode cX2_count 103 = .ok (.getfield 13, 3) := dk_180 0 13 (dk_at dksX2_count_4 1 rfl rfl)
theorem dX2_count_106 : decode cX2_count 106 = .ok (.sipush 256, 3) := dk_17 1 0 (dk_at dksX2_count_4 4 rfl rfl)
theorem dX2_count_109 : decode cX2_count 109 = .ok (.iaload, 1) := dk_46 (dk_at dksX2_count_4 7 rfl rfl)
theorem dX2_count_110 : decode cX2_count 110 = .ok (.aload_n 0, 1) := dk_42 (dk_at dksX2_count_4 8 rfl rfl)
theorem dX2_count_111 : decode cX2_count 111 = .ok (.invokevirtual 257, 3) := dk_182 1 1 (dk_at dksX2_count_4 9 rfl rfl)
theorem dX2_count_114 : decode cX2_count 114 = .ok (.invokestatic 260, 3) := dk_184 1 4 (dk_at dksX2_count_4 12 rfl rfl)
theorem dX2_count_117 : decode cX2_count 117 = .ok (.isub, 1) := dk_100 (dk_at dksX2_count_4 15 rfl rfl)
theorem dX2_count_118 : decode cX2_count 118 = .ok (.ireturn, 1) := dk_172 (dk_at dksX2_count_4 16 rfl rfl)
theorem dX2_count_119 : decode cX2_count 119 = .ok (.aload_n 0, 1) := dk_42 (dk_at dksX2_count_4 17 rfl rfl)
theorem dX2_count_120 : decode cX2_count 120 = .ok (.invokevirtual 263, 3) := dk_182 1 7 (dk_at dksX2_count_4 18 rfl rfl)
theorem dX2_count_123 : decode cX2_count 123 = .ok (.ireturn, 1) := dk_172 (dk_at dksX2_count_4 21 rfl rfl)
theorem dX2_count_124 : decode cX2_count 124 = .ok (.aload_n 0, 1) := dk_42 (dk_at dksX2_count_4 22 rfl rfl)
theorem dX2_count_125 : decode cX2_count 125 = .ok (.getfield 253, 3) := dk_180 0 253 (dk_at dksX2_count_5 0 rfl rfl)
theorem dX2_count_128 : decode cX2_count 128 = .ok (.ireturn, 1) := dk_172 (dk_at dksX2_count_5 3 rfl rfl)
theorem dX2_count_129 : decode cX2_count 129 = .ok (.aload_n 0, 1) := dk_42 (dk_at dksX2_count_5 4 rfl rfl)
theorem dX2_count_130 : decode cX2_count 130 = .ok (.getfield 86, 3) := dk_180 0 86 (dk_at dksX2_count_5 5 rfl rfl)
theorem dX2_count_133 : decode cX2_count 133 = .ok (.ireturn, 1) := dk_172 (dk_at dksX2_count_5 8 rfl rfl)
theorem dX2_count_134 : decode cX2_count 134 = .ok (.iload_n 1, 1) := dk_27 (dk_at dksX2_count_5 9 rfl rfl)
theorem dX2_count_135 : decode cX2_count 135 = .ok (.iconst 0, 1) := dk_3 (dk_at dksX2_count_5 10 rfl rfl)
theorem dX2_count_136 : decode cX2_count 136 = .ok (.iconst 3, 1) := dk_6 (dk_at dksX2_count_5 11 rfl rfl)
theorem dX2_count_137 : decode cX2_count 137 = .ok (.invokestatic 93, 3) := dk_184 0 93 (dk_at dksX2_count_5 12 rfl rfl)
theorem dX2_count_140 : decode cX2_count 140 = .ok (.ifCond .eq 12, 3) := dk_153 0 12 (dk_at dksX2_count_5 15 rfl rfl)
theorem dX2_count_143 : decode cX2_count 143 = .ok (.aload_n 0, 1) := dk_42 (dk_at dksX2_count_5 18 rfl rfl)
theorem dX2_count_144 : decode cX2_count 144 = .ok (.getfield 13, 3) := dk_180 0 13 (dk_at dksX2_count_5 19 rfl rfl)
theorem dX2_count_147 : decode cX2_count 147 = .ok (.iload_n 1, 1) := dk_27 (dk_at dksX2_count_5 22 rfl rfl)
theorem dX2_count_148 : decode cX2_count 148 = .ok (.iaload, 1) := dk_46 (dk_at dksX2_count_5 23 rfl rfl)
theorem dX2_count_149 : decode cX2_count 149 = .ok (.goto 4, 3) := dk_167 0 4 (dk_at dksX2_count_6 0 rfl rfl)
theorem dX2_count_152 : decode cX2_count 152 = .ok (.iconst (-1), 1) := dk_2 (dk_at dksX2_count_6 3 rfl rfl)
theorem dX2_count_153 : decode cX2_count 153 = .ok (.ireturn, 1) := dk_172 (dk_at dksX2_count_6 4 rfl rfl)
abbrev cX2_broken : ByteArray := prog_12_method_71_code
def yX2_broken : MethodName := ⟨RX2, "broken", "()I"⟩
def dkwX2_broken_1 : List UInt8 := [27, 167, 0, 8, 27, 4, 28, 120, 128, 60, 132, 2, 1, 167, 255, 223, 27, 172]
abbrev dktX2_broken_1 : List UInt8 := dkwX2_broken_1 ++ []
def dkwX2_broken_0 : List UInt8 := [3, 60, 3, 61, 28, 42, 180, 0, 13, 17, 1, 0, 46, 162, 0, 27, 42, 28, 182, 1, 62, 153, 0, 7]
abbrev dktX2_broken_0 : List UInt8 := dkwX2_broken_0 ++ dktX2_broken_1
theorem dksX2_broken_0 : cX2_broken.data.toList.drop 0 = dktX2_broken_0 := by decide +kernel
theorem dksX2_broken_1 : cX2_broken.data.toList.drop 24 = dktX2_broken_1 := dk_seg dksX2_broken_0 24 rfl rfl
theorem dX2_broken_0 : decode cX2_broken 0 = .ok (.iconst 0, 1) := dk_3 (dk_at dksX2_broken_0 0 rfl rfl)
theorem dX2_broken_1 : decode cX2_broken 1 = .ok (.istore_n 1, 1) := dk_60 (dk_at dksX2_broken_0 1 rfl rfl)
theorem dX2_broken_2 : decode cX2_broken 2 = .ok (.iconst 0, 1) := dk_3 (dk_at dksX2_broken_0 2 rfl rfl)
theorem dX2_broken_3 : decode cX2_broken 3 = .ok (.istore_n 2, 1) := dk_61 (dk_at dksX2_broken_0 3 rfl rfl)
theorem dX2_broken_4 : decode cX2_broken 4 = .ok (.iload_n 2, 1) := dk_28 (dk_at dksX2_broken_0 4 rfl rfl)
theorem dX2_broken_5 : decode cX2_broken 5 = .ok (.aload_n 0, 1) := dk_42 (dk_at dksX2_broken_0 5 rfl rfl)
theorem dX2_broken_6 : decode cX2_broken 6 = .ok (.getfield 13, 3) := dk_180 0 13 (dk_at dksX2_broken_0 6 rfl rfl)
theorem dX2_broken_9 : decode cX2_broken 9 = .ok (.sipush 256, 3) := dk_17 1 0 (dk_at dksX2_broken_0 9 rfl rfl)
theorem dX2_broken_12 : decode cX2_broken 12 = .ok (.iaload, 1) := dk_46 (dk_at dksX2_broken_0 12 rfl rfl)
theorem dX2_broken_13 : decode cX2_broken 13 = .ok (.if_icmp .ge 27, 3) := dk_162 0 27 (dk_at dksX2_broken_0 13 rfl rfl)
theorem dX2_broken_16 : decode cX2_broken 16 = .ok (.aload_n 0, 1) := dk_42 (dk_at dksX2_broken_0 16 rfl rfl)
theorem dX2_broken_17 : decode cX2_broken 17 = .ok (.iload_n 2, 1) := dk_28 (dk_at dksX2_broken_0 17 rfl rfl)
theorem dX2_broken_18 : decode cX2_broken 18 = .ok (.invokevirtual 318, 3) := dk_182 1 62 (dk_at dksX2_broken_0 18 rfl rfl)
theorem dX2_broken_21 : decode cX2_broken 21 = .ok (.ifCond .eq 7, 3) := dk_153 0 7 (dk_at dksX2_broken_0 21 rfl rfl)
theorem dX2_broken_24 : decode cX2_broken 24 = .ok (.iload_n 1, 1) := dk_27 (dk_at dksX2_broken_1 0 rfl rfl)
theorem dX2_broken_25 : decode cX2_broken 25 = .ok (.goto 8, 3) := dk_167 0 8 (dk_at dksX2_broken_1 1 rfl rfl)
theorem dX2_broken_28 : decode cX2_broken 28 = .ok (.iload_n 1, 1) := dk_27 (dk_at dksX2_broken_1 4 rfl rfl)
theorem dX2_broken_29 : decode cX2_broken 29 = .ok (.iconst 1, 1) := dk_4 (dk_at dksX2_broken_1 5 rfl rfl)
theorem dX2_broken_30 : decode cX2_broken 30 = .ok (.iload_n 2, 1) := dk_28 (dk_at dksX2_broken_1 6 rfl rfl)
theorem dX2_broken_31 : decode cX2_broken 31 = .ok (.ishl, 1) := dk_120 (dk_at dksX2_broken_1 7 rfl rfl)
theorem dX2_broken_32 : decode cX2_broken 32 = .ok (.ior, 1) := dk_128 (dk_at dksX2_broken_1 8 rfl rfl)
theorem dX2_broken_33 : decode cX2_broken 33 = .ok (.istore_n 1, 1) := dk_60 (dk_at dksX2_broken_1 9 rfl rfl)
theorem dX2_broken_34 : decode cX2_broken 34 = .ok (.iinc 2 1, 3) := dk_132 2 1 (dk_at dksX2_broken_1 10 rfl rfl)
theorem dX2_broken_37 : decode cX2_broken 37 = .ok (.goto (-33), 3) := dk_167 255 223 (dk_at dksX2_broken_1 13 rfl rfl)
theorem dX2_broken_40 : decode cX2_broken 40 = .ok (.iload_n 1, 1) := dk_27 (dk_at dksX2_broken_1 16 rfl rfl)
theorem dX2_broken_41 : decode cX2_broken 41 = .ok (.ireturn, 1) := dk_172 (dk_at dksX2_broken_1 17 rfl rfl)
abbrev cX2_doesHold : ByteArray := prog_12_method_64_code
def yX2_doesHold : MethodName := ⟨RX2, "doesHold", "(I)Z"⟩
def dkwX2_doesHold_4 : List UInt8 := [182, 1, 21, 161, 0, 7, 4, 167, 0, 4, 3, 172]
abbrev dktX2_doesHold_4 : List UInt8 := dkwX2_doesHold_4 ++ []
def dkwX2_doesHold_3 : List UInt8 := [167, 0, 4, 3, 172, 42, 29, 182, 1, 24, 16, 254, 159, 0, 16, 42, 29, 182, 1, 24, 42, 28]
abbrev dktX2_doesHold_3 : List UInt8 := dkwX2_doesHold_3 ++ dktX2_doesHold_4
def dkwX2_doesHold_2 : List UInt8 := [154, 0, 29, 42, 28, 182, 1, 21, 42, 29, 182, 1, 21, 100, 42, 180, 0, 13, 3, 46, 163, 0, 7, 4]
abbrev dktX2_doesHold_2 : List UInt8 := dkwX2_doesHold_2 ++ dktX2_doesHold_3
def dkwX2_doesHold_1 : List UInt8 := [160, 0, 16, 42, 29, 182, 1, 21, 42, 28, 182, 1, 21, 164, 0, 5, 3, 172, 42, 27, 182, 1, 58]
abbrev dktX2_doesHold_1 : List UInt8 := dkwX2_doesHold_1 ++ dktX2_doesHold_2
def dkwX2_doesHold_0 : List UInt8 := [42, 27, 182, 1, 52, 61, 42, 27, 182, 1, 55, 62, 42, 28, 182, 1, 30, 42, 29, 182, 1, 30]
abbrev dktX2_doesHold_0 : List UInt8 := dkwX2_doesHold_0 ++ dktX2_doesHold_1
theorem dksX2_doesHold_0 : cX2_doesHold.data.toList.drop 0 = dktX2_doesHold_0 := by decide +kernel
theorem dksX2_doesHold_1 : cX2_doesHold.data.toList.drop 22 = dktX2_doesHold_1 := dk_seg dksX2_doesHold_0 22 rfl rfl
theorem dksX2_doesHold_2 : cX2_doesHold.data.toList.drop 45 = dktX2_doesHold_2 := dk_seg dksX2_doesHold_1 23 rfl rfl
theorem dksX2_doesHold_3 : cX2_doesHold.data.toList.drop 69 = dktX2_doesHold_3 := dk_seg dksX2_doesHold_2 24 rfl rfl
theorem dksX2_doesHold_4 : cX2_doesHold.data.toList.drop 91 = dktX2_doesHold_4 := dk_seg dksX2_doesHold_3 22 rfl rfl
theorem dX2_doesHold_0 : decode cX2_doesHold 0 = .ok (.aload_n 0, 1) := dk_42 (dk_at dksX2_doesHold_0 0 rfl rfl)
theorem dX2_doesHold_1 : decode cX2_doesHold 1 = .ok (.iload_n 1, 1) := dk_27 (dk_at dksX2_doesHold_0 1 rfl rfl)
theorem dX2_doesHold_2 : decode cX2_doesHold 2 = .ok (.invokevirtual 308, 3) := dk_182 1 52 (dk_at dksX2_doesHold_0 2 rfl rfl)
theorem dX2_doesHold_5 : decode cX2_doesHold 5 = .ok (.istore_n 2, 1) := dk_61 (dk_at dksX2_doesHold_0 5 rfl rfl)
theorem dX2_doesHold_6 : decode cX2_doesHold 6 = .ok (.aload_n 0, 1) := dk_42 (dk_at dksX2_doesHold_0 6 rfl rfl)
theorem dX2_doesHold_7 : decode cX2_doesHold 7 = .ok (.iload_n 1, 1) := dk_27 (dk_at dksX2_doesHold_0 7 rfl rfl)
theorem dX2_doesHold_8 : decode cX2_doesHold 8 = .ok (.invokevirtual 311, 3) := dk_182 1 55 (dk_at dksX2_doesHold_0 8 rfl rfl)
theorem dX2_doesHold_11 : decode cX2_doesHold 11 = .ok (.istore_n 3, 1) := dk_62 (dk_at dksX2_doesHold_0 11 rfl rfl)
theorem dX2_doesHold_12 : decode cX2_doesHold 12 = .ok (.aload_n 0, 1) := dk_42 (dk_at dksX2_doesHold_0 12 rfl rfl)
theorem dX2_doesHold_13 : decode cX2_doesHold 13 = .ok (.iload_n 2, 1) := dk_28 (dk_at dksX2_doesHold_0 13 rfl rfl)
theorem dX2_doesHold_14 : decode cX2_doesHold 14 = .ok (.invokevirtual 286, 3) := dk_182 1 30 (dk_at dksX2_doesHold_0 14 rfl rfl)
theorem dX2_doesHold_17 : decode cX2_doesHold 17 = .ok (.aload_n 0, 1) := dk_42 (dk_at dksX2_doesHold_0 17 rfl rfl)
theorem dX2_doesHold_18 : decode cX2_doesHold 18 = .ok (.iload_n 3, 1) := dk_29 (dk_at dksX2_doesHold_0 18 rfl rfl)
theorem dX2_doesHold_19 : decode cX2_doesHold 19 = .ok (.invokevirtual 286, 3) := dk_182 1 30 (dk_at dksX2_doesHold_0 19 rfl rfl)
theorem dX2_doesHold_22 : decode cX2_doesHold 22 = .ok (.if_icmp .ne 16, 3) := dk_160 0 16 (dk_at dksX2_doesHold_1 0 rfl rfl)
theorem dX2_doesHold_25 : decode cX2_doesHold 25 = .ok (.aload_n 0, 1) := dk_42 (dk_at dksX2_doesHold_1 3 rfl rfl)
theorem dX2_doesHold_26 : decode cX2_doesHold 26 = .ok (.iload_n 3, 1) := dk_29 (dk_at dksX2_doesHold_1 4 rfl rfl)
theorem dX2_doesHold_27 : decode cX2_doesHold 27 = .ok (.invokevirtual 277, 3) := dk_182 1 21 (dk_at dksX2_doesHold_1 5 rfl rfl)
theorem dX2_doesHold_30 : decode cX2_doesHold 30 = .ok (.aload_n 0, 1) := dk_42 (dk_at dksX2_doesHold_1 8 rfl rfl)
theorem dX2_doesHold_31 : decode cX2_doesHold 31 = .ok (.iload_n 2, 1) := dk_28 (dk_at dksX2_doesHold_1 9 rfl rfl)
theorem dX2_doesHold_32 : decode cX2_doesHold 32 = .ok (.invokevirtual 277, 3) := dk_182 1 21 (dk_at dksX2_doesHold_1 10 rfl rfl)
theorem dX2_doesHold_35 : decode cX2_doesHold 35 = .ok (.if_icmp .le 5, 3) := dk_164 0 5 (dk_at dksX2_doesHold_1 13 rfl rfl)
theorem dX2_doesHold_38 : decode cX2_doesHold 38 = .ok (.iconst 0, 1) := dk_3 (dk_at dksX2_doesHold_1 16 rfl rfl)
theorem dX2_doesHold_39 : decode cX2_doesHold 39 = .ok (.ireturn, 1) := dk_172 (dk_at dksX2_doesHold_1 17 rfl rfl)
theorem dX2_doesHold_40 : decode cX2_doesHold 40 = .ok (.aload_n 0, 1) := dk_42 (dk_at dksX2_doesHold_1 18 rfl rfl)
theorem dX2_doesHold_41 : decode cX2_doesHold 41 = .ok (.iload_n 1, 1) := dk_27 (dk_at dksX2_doesHold_1 19 rfl rfl)
theorem dX2_doesHold_42 : decode cX2_doesHold 42 = .ok (.invokevirtual 314, 3) := dk_182 1 58 (dk_at dksX2_doesHold_1 20 rfl rfl)
theorem dX2_doesHold_45 : decode cX2_doesHold 45 = .ok (.ifCond .ne 29, 3) := dk_154 0 29 (dk_at dksX2_doesHold_2 0 rfl rfl)
theorem dX2_doesHold_48 : decode cX2_doesHold 48 = .ok (.aload_n 0, 1) := dk_42 (dk_at dksX2_doesHold_2 3 rfl rfl)
theorem dX2_doesHold_49 : decode cX2_doesHold 49 = .ok (.iload_n 2, 1) := dk_28 (dk_at dksX2_doesHold_2 4 rfl rfl)
theorem dX2_doesHold_50 : decode cX2_doesHold 50 = .ok (.invokevirtual 277, 3) := dk_182 1 21 (dk_at dksX2_doesHold_2 5 rfl rfl)
theorem dX2_doesHold_53 : decode cX2_doesHold 53 = .ok (.aload_n 0, 1) := dk_42 (dk_at dksX2_doesHold_2 8 rfl rfl)
theorem dX2_doesHold_54 : decode cX2_doesHold 54 = .ok (.iload_n 3, 1) := dk_29 (dk_at dksX2_doesHold_2 9 rfl rfl)
theorem dX2_doesHold_55 : decode cX2_doesHold 55 = .ok (.invokevirtual 277, 3) := dk_182 1 21 (dk_at dksX2_doesHold_2 10 rfl rfl)
theorem dX2_doesHold_58 : decode cX2_doesHold 58 = .ok (.isub, 1) := dk_100 (dk_at dksX2_doesHold_2 13 rfl rfl)
theorem dX2_doesHold_59 : decode cX2_doesHold 59 = .ok (.aload_n 0, 1) := dk_42 (dk_at dksX2_doesHold_2 14 rfl rfl)
theorem dX2_doesHold_60 : decode cX2_doesHold 60 = .ok (.getfield 13, 3) := dk_180 0 13 (dk_at dksX2_doesHold_2 15 rfl rfl)
theorem dX2_doesHold_63 : decode cX2_doesHold 63 = .ok (.iconst 0, 1) := dk_3 (dk_at dksX2_doesHold_2 18 rfl rfl)
theorem dX2_doesHold_64 : decode cX2_doesHold 64 = .ok (.iaload, 1) := dk_46 (dk_at dksX2_doesHold_2 19 rfl rfl)
theorem dX2_doesHold_65 : decode cX2_doesHold 65 = .ok (.if_icmp .gt 7, 3) := dk_163 0 7 (dk_at dksX2_doesHold_2 20 rfl rfl)
theorem dX2_doesHold_68 : decode cX2_doesHold 68 = .ok (.iconst 1, 1) := dk_4 (dk_at dksX2_doesHold_2 23 rfl rfl)
theorem dX2_doesHold_69 : decode cX2_doesHold 69 = .ok (.goto 4, 3) := dk_167 0 4 (dk_at dksX2_doesHold_3 0 rfl rfl)
theorem dX2_doesHold_72 : decode cX2_doesHold 72 = .ok (.iconst 0, 1) := dk_3 (dk_at dksX2_doesHold_3 3 rfl rfl)
theorem dX2_doesHold_73 : decode cX2_doesHold 73 = .ok (.ireturn, 1) := dk_172 (dk_at dksX2_doesHold_3 4 rfl rfl)
theorem dX2_doesHold_74 : decode cX2_doesHold 74 = .ok (.aload_n 0, 1) := dk_42 (dk_at dksX2_doesHold_3 5 rfl rfl)
theorem dX2_doesHold_75 : decode cX2_doesHold 75 = .ok (.iload_n 3, 1) := dk_29 (dk_at dksX2_doesHold_3 6 rfl rfl)
theorem dX2_doesHold_76 : decode cX2_doesHold 76 = .ok (.invokevirtual 280, 3) := dk_182 1 24 (dk_at dksX2_doesHold_3 7 rfl rfl)
theorem dX2_doesHold_79 : decode cX2_doesHold 79 = .ok (.bipush (-2), 2) := dk_16 254 (dk_at dksX2_doesHold_3 10 rfl rfl)
theorem dX2_doesHold_81 : decode cX2_doesHold 81 = .ok (.if_icmp .eq 16, 3) := dk_159 0 16 (dk_at dksX2_doesHold_3 12 rfl rfl)
theorem dX2_doesHold_84 : decode cX2_doesHold 84 = .ok (.aload_n 0, 1) := dk_42 (dk_at dksX2_doesHold_3 15 rfl rfl)
theorem dX2_doesHold_85 : decode cX2_doesHold 85 = .ok (.iload_n 3, 1) := dk_29 (dk_at dksX2_doesHold_3 16 rfl rfl)
theorem dX2_doesHold_86 : decode cX2_doesHold 86 = .ok (.invokevirtual 280, 3) := dk_182 1 24 (dk_at dksX2_doesHold_3 17 rfl rfl)
theorem dX2_doesHold_89 : decode cX2_doesHold 89 = .ok (.aload_n 0, 1) := dk_42 (dk_at dksX2_doesHold_3 20 rfl rfl)
theorem dX2_doesHold_90 : decode cX2_doesHold 90 = .ok (.iload_n 2, 1) := dk_28 (dk_at dksX2_doesHold_3 21 rfl rfl)
theorem dX2_doesHold_91 : decode cX2_doesHold 91 = .ok (.invokevirtual 277, 3) := dk_182 1 21 (dk_at dksX2_doesHold_4 0 rfl rfl)
theorem dX2_doesHold_94 : decode cX2_doesHold 94 = .ok (.if_icmp .lt 7, 3) := dk_161 0 7 (dk_at dksX2_doesHold_4 3 rfl rfl)
theorem dX2_doesHold_97 : decode cX2_doesHold 97 = .ok (.iconst 1, 1) := dk_4 (dk_at dksX2_doesHold_4 6 rfl rfl)
theorem dX2_doesHold_98 : decode cX2_doesHold 98 = .ok (.goto 4, 3) := dk_167 0 4 (dk_at dksX2_doesHold_4 7 rfl rfl)
theorem dX2_doesHold_101 : decode cX2_doesHold 101 = .ok (.iconst 0, 1) := dk_3 (dk_at dksX2_doesHold_4 10 rfl rfl)
theorem dX2_doesHold_102 : decode cX2_doesHold 102 = .ok (.ireturn, 1) := dk_172 (dk_at dksX2_doesHold_4 11 rfl rfl)
abbrev cX2_childOf : ByteArray := prog_12_method_50_code
def yX2_childOf : MethodName := ⟨RX2, "childOf", "(I)I"⟩
def dkwX2_childOf_0 : List UInt8 := [42, 180, 0, 13, 17, 1, 1, 6, 27, 104, 96, 4, 96, 46, 172]
abbrev dktX2_childOf_0 : List UInt8 := dkwX2_childOf_0 ++ []
theorem dksX2_childOf_0 : cX2_childOf.data.toList.drop 0 = dktX2_childOf_0 := by decide +kernel
theorem dX2_childOf_0 : decode cX2_childOf 0 = .ok (.aload_n 0, 1) := dk_42 (dk_at dksX2_childOf_0 0 rfl rfl)
theorem dX2_childOf_1 : decode cX2_childOf 1 = .ok (.getfield 13, 3) := dk_180 0 13 (dk_at dksX2_childOf_0 1 rfl rfl)
theorem dX2_childOf_4 : decode cX2_childOf 4 = .ok (.sipush 257, 3) := dk_17 1 1 (dk_at dksX2_childOf_0 4 rfl rfl)
theorem dX2_childOf_7 : decode cX2_childOf 7 = .ok (.iconst 3, 1) := dk_6 (dk_at dksX2_childOf_0 7 rfl rfl)
theorem dX2_childOf_8 : decode cX2_childOf 8 = .ok (.iload_n 1, 1) := dk_27 (dk_at dksX2_childOf_0 8 rfl rfl)
theorem dX2_childOf_9 : decode cX2_childOf 9 = .ok (.imul, 1) := dk_104 (dk_at dksX2_childOf_0 9 rfl rfl)
theorem dX2_childOf_10 : decode cX2_childOf 10 = .ok (.iadd, 1) := dk_96 (dk_at dksX2_childOf_0 10 rfl rfl)
theorem dX2_childOf_11 : decode cX2_childOf 11 = .ok (.iconst 1, 1) := dk_4 (dk_at dksX2_childOf_0 11 rfl rfl)
theorem dX2_childOf_12 : decode cX2_childOf 12 = .ok (.iadd, 1) := dk_96 (dk_at dksX2_childOf_0 12 rfl rfl)
theorem dX2_childOf_13 : decode cX2_childOf 13 = .ok (.iaload, 1) := dk_46 (dk_at dksX2_childOf_0 13 rfl rfl)
theorem dX2_childOf_14 : decode cX2_childOf 14 = .ok (.ireturn, 1) := dk_172 (dk_at dksX2_childOf_0 14 rfl rfl)
abbrev cX2_parentOf : ByteArray := prog_12_method_51_code
def yX2_parentOf : MethodName := ⟨RX2, "parentOf", "(I)I"⟩
def dkwX2_parentOf_0 : List UInt8 := [42, 180, 0, 13, 17, 1, 1, 6, 27, 104, 96, 5, 96, 46, 172]
abbrev dktX2_parentOf_0 : List UInt8 := dkwX2_parentOf_0 ++ []
theorem dksX2_parentOf_0 : cX2_parentOf.data.toList.drop 0 = dktX2_parentOf_0 := by decide +kernel
theorem dX2_parentOf_0 : decode cX2_parentOf 0 = .ok (.aload_n 0, 1) := dk_42 (dk_at dksX2_parentOf_0 0 rfl rfl)
theorem dX2_parentOf_1 : decode cX2_parentOf 1 = .ok (.getfield 13, 3) := dk_180 0 13 (dk_at dksX2_parentOf_0 1 rfl rfl)
theorem dX2_parentOf_4 : decode cX2_parentOf 4 = .ok (.sipush 257, 3) := dk_17 1 1 (dk_at dksX2_parentOf_0 4 rfl rfl)
theorem dX2_parentOf_7 : decode cX2_parentOf 7 = .ok (.iconst 3, 1) := dk_6 (dk_at dksX2_parentOf_0 7 rfl rfl)
theorem dX2_parentOf_8 : decode cX2_parentOf 8 = .ok (.iload_n 1, 1) := dk_27 (dk_at dksX2_parentOf_0 8 rfl rfl)
theorem dX2_parentOf_9 : decode cX2_parentOf 9 = .ok (.imul, 1) := dk_104 (dk_at dksX2_parentOf_0 9 rfl rfl)
theorem dX2_parentOf_10 : decode cX2_parentOf 10 = .ok (.iadd, 1) := dk_96 (dk_at dksX2_parentOf_0 10 rfl rfl)
theorem dX2_parentOf_11 : decode cX2_parentOf 11 = .ok (.iconst 2, 1) := dk_5 (dk_at dksX2_parentOf_0 11 rfl rfl)
theorem dX2_parentOf_12 : decode cX2_parentOf 12 = .ok (.iadd, 1) := dk_96 (dk_at dksX2_parentOf_0 12 rfl rfl)
theorem dX2_parentOf_13 : decode cX2_parentOf 13 = .ok (.iaload, 1) := dk_46 (dk_at dksX2_parentOf_0 13 rfl rfl)
theorem dX2_parentOf_14 : decode cX2_parentOf 14 = .ok (.ireturn, 1) := dk_172 (dk_at dksX2_parentOf_0 14 rfl rfl)
abbrev cX2_filerOf : ByteArray := prog_12_method_46_code
def yX2_filerOf : MethodName := ⟨RX2, "filerOf", "(I)I"⟩
def dkwX2_filerOf_0 : List UInt8 := [42, 180, 0, 22, 8, 27, 96, 46, 172]
abbrev dktX2_filerOf_0 : List UInt8 := dkwX2_filerOf_0 ++ []
theorem dksX2_filerOf_0 : cX2_filerOf.data.toList.drop 0 = dktX2_filerOf_0 := by decide +kernel
theorem dX2_filerOf_0 : decode cX2_filerOf 0 = .ok (.aload_n 0, 1) := dk_42 (dk_at dksX2_filerOf_0 0 rfl rfl)
theorem dX2_filerOf_1 : decode cX2_filerOf 1 = .ok (.getfield 22, 3) := dk_180 0 22 (dk_at dksX2_filerOf_0 1 rfl rfl)
theorem dX2_filerOf_4 : decode cX2_filerOf 4 = .ok (.iconst 5, 1) := dk_8 (dk_at dksX2_filerOf_0 4 rfl rfl)
theorem dX2_filerOf_5 : decode cX2_filerOf 5 = .ok (.iload_n 1, 1) := dk_27 (dk_at dksX2_filerOf_0 5 rfl rfl)
theorem dX2_filerOf_6 : decode cX2_filerOf 6 = .ok (.iadd, 1) := dk_96 (dk_at dksX2_filerOf_0 6 rfl rfl)
theorem dX2_filerOf_7 : decode cX2_filerOf 7 = .ok (.iaload, 1) := dk_46 (dk_at dksX2_filerOf_0 7 rfl rfl)
theorem dX2_filerOf_8 : decode cX2_filerOf 8 = .ok (.ireturn, 1) := dk_172 (dk_at dksX2_filerOf_0 8 rfl rfl)
abbrev cX2_dayOf : ByteArray := prog_12_method_47_code
def yX2_dayOf : MethodName := ⟨RX2, "dayOf", "(I)I"⟩
def dkwX2_dayOf_0 : List UInt8 := [42, 180, 0, 13, 7, 27, 96, 46, 172]
abbrev dktX2_dayOf_0 : List UInt8 := dkwX2_dayOf_0 ++ []
theorem dksX2_dayOf_0 : cX2_dayOf.data.toList.drop 0 = dktX2_dayOf_0 := by decide +kernel
theorem dX2_dayOf_0 : decode cX2_dayOf 0 = .ok (.aload_n 0, 1) := dk_42 (dk_at dksX2_dayOf_0 0 rfl rfl)
theorem dX2_dayOf_1 : decode cX2_dayOf 1 = .ok (.getfield 13, 3) := dk_180 0 13 (dk_at dksX2_dayOf_0 1 rfl rfl)
theorem dX2_dayOf_4 : decode cX2_dayOf 4 = .ok (.iconst 4, 1) := dk_7 (dk_at dksX2_dayOf_0 4 rfl rfl)
theorem dX2_dayOf_5 : decode cX2_dayOf 5 = .ok (.iload_n 1, 1) := dk_27 (dk_at dksX2_dayOf_0 5 rfl rfl)
theorem dX2_dayOf_6 : decode cX2_dayOf 6 = .ok (.iadd, 1) := dk_96 (dk_at dksX2_dayOf_0 6 rfl rfl)
theorem dX2_dayOf_7 : decode cX2_dayOf 7 = .ok (.iaload, 1) := dk_46 (dk_at dksX2_dayOf_0 7 rfl rfl)
theorem dX2_dayOf_8 : decode cX2_dayOf 8 = .ok (.ireturn, 1) := dk_172 (dk_at dksX2_dayOf_0 8 rfl rfl)
abbrev cX2_sortOf : ByteArray := prog_12_method_49_code
def yX2_sortOf : MethodName := ⟨RX2, "sortOf", "(I)I"⟩
def dkwX2_sortOf_0 : List UInt8 := [42, 180, 0, 13, 17, 1, 1, 6, 27, 104, 96, 46, 172]
abbrev dktX2_sortOf_0 : List UInt8 := dkwX2_sortOf_0 ++ []
theorem dksX2_sortOf_0 : cX2_sortOf.data.toList.drop 0 = dktX2_sortOf_0 := by decide +kernel
theorem dX2_sortOf_0 : decode cX2_sortOf 0 = .ok (.aload_n 0, 1) := dk_42 (dk_at dksX2_sortOf_0 0 rfl rfl)
theorem dX2_sortOf_1 : decode cX2_sortOf 1 = .ok (.getfield 13, 3) := dk_180 0 13 (dk_at dksX2_sortOf_0 1 rfl rfl)
theorem dX2_sortOf_4 : decode cX2_sortOf 4 = .ok (.sipush 257, 3) := dk_17 1 1 (dk_at dksX2_sortOf_0 4 rfl rfl)
theorem dX2_sortOf_7 : decode cX2_sortOf 7 = .ok (.iconst 3, 1) := dk_6 (dk_at dksX2_sortOf_0 7 rfl rfl)
theorem dX2_sortOf_8 : decode cX2_sortOf 8 = .ok (.iload_n 1, 1) := dk_27 (dk_at dksX2_sortOf_0 8 rfl rfl)
theorem dX2_sortOf_9 : decode cX2_sortOf 9 = .ok (.imul, 1) := dk_104 (dk_at dksX2_sortOf_0 9 rfl rfl)
theorem dX2_sortOf_10 : decode cX2_sortOf 10 = .ok (.iadd, 1) := dk_96 (dk_at dksX2_sortOf_0 10 rfl rfl)
theorem dX2_sortOf_11 : decode cX2_sortOf 11 = .ok (.iaload, 1) := dk_46 (dk_at dksX2_sortOf_0 11 rfl rfl)
theorem dX2_sortOf_12 : decode cX2_sortOf 12 = .ok (.ireturn, 1) := dk_172 (dk_at dksX2_sortOf_0 12 rfl rfl)
abbrev cX2_endsOf : ByteArray := prog_12_method_48_code
def yX2_endsOf : MethodName := ⟨RX2, "endsOf", "(I)I"⟩
def dkwX2_endsOf_0 : List UInt8 := [42, 180, 0, 13, 16, 18, 27, 96, 46, 172]
abbrev dktX2_endsOf_0 : List UInt8 := dkwX2_endsOf_0 ++ []
theorem dksX2_endsOf_0 : cX2_endsOf.data.toList.drop 0 = dktX2_endsOf_0 := by decide +kernel
theorem dX2_endsOf_0 : decode cX2_endsOf 0 = .ok (.aload_n 0, 1) := dk_42 (dk_at dksX2_endsOf_0 0 rfl rfl)
theorem dX2_endsOf_1 : decode cX2_endsOf 1 = .ok (.getfield 13, 3) := dk_180 0 13 (dk_at dksX2_endsOf_0 1 rfl rfl)
theorem dX2_endsOf_4 : decode cX2_endsOf 4 = .ok (.bipush 18, 2) := dk_16 18 (dk_at dksX2_endsOf_0 4 rfl rfl)
theorem dX2_endsOf_6 : decode cX2_endsOf 6 = .ok (.iload_n 1, 1) := dk_27 (dk_at dksX2_endsOf_0 6 rfl rfl)
theorem dX2_endsOf_7 : decode cX2_endsOf 7 = .ok (.iadd, 1) := dk_96 (dk_at dksX2_endsOf_0 7 rfl rfl)
theorem dX2_endsOf_8 : decode cX2_endsOf 8 = .ok (.iaload, 1) := dk_46 (dk_at dksX2_endsOf_0 8 rfl rfl)
theorem dX2_endsOf_9 : decode cX2_endsOf 9 = .ok (.ireturn, 1) := dk_172 (dk_at dksX2_endsOf_0 9 rfl rfl)
abbrev cX2_bitsOf : ByteArray := prog_12_method_4_code
def yX2_bitsOf : MethodName := ⟨RX2, "bitsOf", "(I)I"⟩
def dkwX2_bitsOf_1 : List UInt8 := [27, 60, 132, 2, 1, 167, 255, 231, 27, 172]
abbrev dktX2_bitsOf_1 : List UInt8 := dkwX2_bitsOf_1 ++ []
def dkwX2_bitsOf_0 : List UInt8 := [3, 60, 3, 61, 28, 16, 20, 162, 0, 25, 26, 28, 184, 0, 82, 153, 0, 9, 27, 4, 96, 167, 0, 4]
abbrev dktX2_bitsOf_0 : List UInt8 := dkwX2_bitsOf_0 ++ dktX2_bitsOf_1
theorem dksX2_bitsOf_0 : cX2_bitsOf.data.toList.drop 0 = dktX2_bitsOf_0 := by decide +kernel
theorem dksX2_bitsOf_1 : cX2_bitsOf.data.toList.drop 24 = dktX2_bitsOf_1 := dk_seg dksX2_bitsOf_0 24 rfl rfl
theorem dX2_bitsOf_0 : decode cX2_bitsOf 0 = .ok (.iconst 0, 1) := dk_3 (dk_at dksX2_bitsOf_0 0 rfl rfl)
theorem dX2_bitsOf_1 : decode cX2_bitsOf 1 = .ok (.istore_n 1, 1) := dk_60 (dk_at dksX2_bitsOf_0 1 rfl rfl)
theorem dX2_bitsOf_2 : decode cX2_bitsOf 2 = .ok (.iconst 0, 1) := dk_3 (dk_at dksX2_bitsOf_0 2 rfl rfl)
theorem dX2_bitsOf_3 : decode cX2_bitsOf 3 = .ok (.istore_n 2, 1) := dk_61 (dk_at dksX2_bitsOf_0 3 rfl rfl)
theorem dX2_bitsOf_4 : decode cX2_bitsOf 4 = .ok (.iload_n 2, 1) := dk_28 (dk_at dksX2_bitsOf_0 4 rfl rfl)
theorem dX2_bitsOf_5 : decode cX2_bitsOf 5 = .ok (.bipush 20, 2) := dk_16 20 (dk_at dksX2_bitsOf_0 5 rfl rfl)
theorem dX2_bitsOf_7 : decode cX2_bitsOf 7 = .ok (.if_icmp .ge 25, 3) := dk_162 0 25 (dk_at dksX2_bitsOf_0 7 rfl rfl)
theorem dX2_bitsOf_10 : decode cX2_bitsOf 10 = .ok (.iload_n 0, 1) := dk_26 (dk_at dksX2_bitsOf_0 10 rfl rfl)
theorem dX2_bitsOf_11 : decode cX2_bitsOf 11 = .ok (.iload_n 2, 1) := dk_28 (dk_at dksX2_bitsOf_0 11 rfl rfl)
theorem dX2_bitsOf_12 : decode cX2_bitsOf 12 = .ok (.invokestatic 82, 3) := dk_184 0 82 (dk_at dksX2_bitsOf_0 12 rfl rfl)
theorem dX2_bitsOf_15 : decode cX2_bitsOf 15 = .ok (.ifCond .eq 9, 3) := dk_153 0 9 (dk_at dksX2_bitsOf_0 15 rfl rfl)
theorem dX2_bitsOf_18 : decode cX2_bitsOf 18 = .ok (.iload_n 1, 1) := dk_27 (dk_at dksX2_bitsOf_0 18 rfl rfl)
theorem dX2_bitsOf_19 : decode cX2_bitsOf 19 = .ok (.iconst 1, 1) := dk_4 (dk_at dksX2_bitsOf_0 19 rfl rfl)
theorem dX2_bitsOf_20 : decode cX2_bitsOf 20 = .ok (.iadd, 1) := dk_96 (dk_at dksX2_bitsOf_0 20 rfl rfl)
theorem dX2_bitsOf_21 : decode cX2_bitsOf 21 = .ok (.goto 4, 3) := dk_167 0 4 (dk_at dksX2_bitsOf_0 21 rfl rfl)
theorem dX2_bitsOf_24 : decode cX2_bitsOf 24 = .ok (.iload_n 1, 1) := dk_27 (dk_at dksX2_bitsOf_1 0 rfl rfl)
theorem dX2_bitsOf_25 : decode cX2_bitsOf 25 = .ok (.istore_n 1, 1) := dk_60 (dk_at dksX2_bitsOf_1 1 rfl rfl)
theorem dX2_bitsOf_26 : decode cX2_bitsOf 26 = .ok (.iinc 2 1, 3) := dk_132 2 1 (dk_at dksX2_bitsOf_1 2 rfl rfl)
theorem dX2_bitsOf_29 : decode cX2_bitsOf 29 = .ok (.goto (-25), 3) := dk_167 255 231 (dk_at dksX2_bitsOf_1 5 rfl rfl)
theorem dX2_bitsOf_32 : decode cX2_bitsOf 32 = .ok (.iload_n 1, 1) := dk_27 (dk_at dksX2_bitsOf_1 8 rfl rfl)
theorem dX2_bitsOf_33 : decode cX2_bitsOf 33 = .ok (.ireturn, 1) := dk_172 (dk_at dksX2_bitsOf_1 9 rfl rfl)
abbrev cX2_barredMany : ByteArray := prog_12_method_108_code
def yX2_barredMany : MethodName := ⟨RX2, "barredMany", "()I"⟩
def dkwX2_barredMany_1 : List UInt8 := [154, 0, 7, 27, 167, 0, 6, 27, 4, 96, 60, 132, 2, 1, 167, 255, 223, 27, 172]
abbrev dktX2_barredMany_1 : List UInt8 := dkwX2_barredMany_1 ++ []
def dkwX2_barredMany_0 : List UInt8 := [3, 60, 3, 61, 28, 42, 180, 0, 22, 6, 46, 162, 0, 29, 42, 28, 182, 1, 168, 42, 180, 1, 139]
abbrev dktX2_barredMany_0 : List UInt8 := dkwX2_barredMany_0 ++ dktX2_barredMany_1
theorem dksX2_barredMany_0 : cX2_barredMany.data.toList.drop 0 = dktX2_barredMany_0 := by decide +kernel
theorem dksX2_barredMany_1 : cX2_barredMany.data.toList.drop 23 = dktX2_barredMany_1 := dk_seg dksX2_barredMany_0 23 rfl rfl
theorem dX2_barredMany_0 : decode cX2_barredMany 0 = .ok (.iconst 0, 1) := dk_3 (dk_at dksX2_barredMany_0 0 rfl rfl)
theorem dX2_barredMany_1 : decode cX2_barredMany 1 = .ok (.istore_n 1, 1) := dk_60 (dk_at dksX2_barredMany_0 1 rfl rfl)
theorem dX2_barredMany_2 : decode cX2_barredMany 2 = .ok (.iconst 0, 1) := dk_3 (dk_at dksX2_barredMany_0 2 rfl rfl)
theorem dX2_barredMany_3 : decode cX2_barredMany 3 = .ok (.istore_n 2, 1) := dk_61 (dk_at dksX2_barredMany_0 3 rfl rfl)
theorem dX2_barredMany_4 : decode cX2_barredMany 4 = .ok (.iload_n 2, 1) := dk_28 (dk_at dksX2_barredMany_0 4 rfl rfl)
theorem dX2_barredMany_5 : decode cX2_barredMany 5 = .ok (.aload_n 0, 1) := dk_42 (dk_at dksX2_barredMany_0 5 rfl rfl)
theorem dX2_barredMany_6 : decode cX2_barredMany 6 = .ok (.getfield 22, 3) := dk_180 0 22 (dk_at dksX2_barredMany_0 6 rfl rfl)
theorem dX2_barredMany_9 : decode cX2_barredMany 9 = .ok (.iconst 3, 1) := dk_6 (dk_at dksX2_barredMany_0 9 rfl rfl)
theorem dX2_barredMany_10 : decode cX2_barredMany 10 = .ok (.iaload, 1) := dk_46 (dk_at dksX2_barredMany_0 10 rfl rfl)
theorem dX2_barredMany_11 : decode cX2_barredMany 11 = .ok (.if_icmp .ge 29, 3) := dk_162 0 29 (dk_at dksX2_barredMany_0 11 rfl rfl)
theorem dX2_barredMany_14 : decode cX2_barredMany 14 = .ok (.aload_n 0, 1) := dk_42 (dk_at dksX2_barredMany_0 14 rfl rfl)
theorem dX2_barredMany_15 : decode cX2_barredMany 15 = .ok (.iload_n 2, 1) := dk_28 (dk_at dksX2_barredMany_0 15 rfl rfl)
theorem dX2_barredMany_16 : decode cX2_barredMany 16 = .ok (.invokevirtual 424, 3) := dk_182 1 168 (dk_at dksX2_barredMany_0 16 rfl rfl)
theorem dX2_barredMany_19 : decode cX2_barredMany 19 = .ok (.aload_n 0, 1) := dk_42 (dk_at dksX2_barredMany_0 19 rfl rfl)
theorem dX2_barredMany_20 : decode cX2_barredMany 20 = .ok (.getfield 395, 3) := dk_180 1 139 (dk_at dksX2_barredMany_0 20 rfl rfl)
theorem dX2_barredMany_23 : decode cX2_barredMany 23 = .ok (.ifCond .ne 7, 3) := dk_154 0 7 (dk_at dksX2_barredMany_1 0 rfl rfl)
theorem dX2_barredMany_26 : decode cX2_barredMany 26 = .ok (.iload_n 1, 1) := dk_27 (dk_at dksX2_barredMany_1 3 rfl rfl)
theorem dX2_barredMany_27 : decode cX2_barredMany 27 = .ok (.goto 6, 3) := dk_167 0 6 (dk_at dksX2_barredMany_1 4 rfl rfl)
theorem dX2_barredMany_30 : decode cX2_barredMany 30 = .ok (.iload_n 1, 1) := dk_27 (dk_at dksX2_barredMany_1 7 rfl rfl)
theorem dX2_barredMany_31 : decode cX2_barredMany 31 = .ok (.iconst 1, 1) := dk_4 (dk_at dksX2_barredMany_1 8 rfl rfl)
theorem dX2_barredMany_32 : decode cX2_barredMany 32 = .ok (.iadd, 1) := dk_96 (dk_at dksX2_barredMany_1 9 rfl rfl)
theorem dX2_barredMany_33 : decode cX2_barredMany 33 = .ok (.istore_n 1, 1) := dk_60 (dk_at dksX2_barredMany_1 10 rfl rfl)
theorem dX2_barredMany_34 : decode cX2_barredMany 34 = .ok (.iinc 2 1, 3) := dk_132 2 1 (dk_at dksX2_barredMany_1 11 rfl rfl)
theorem dX2_barredMany_37 : decode cX2_barredMany 37 = .ok (.goto (-33), 3) := dk_167 255 223 (dk_at dksX2_barredMany_1 14 rfl rfl)
theorem dX2_barredMany_40 : decode cX2_barredMany 40 = .ok (.iload_n 1, 1) := dk_27 (dk_at dksX2_barredMany_1 17 rfl rfl)
theorem dX2_barredMany_41 : decode cX2_barredMany 41 = .ok (.ireturn, 1) := dk_172 (dk_at dksX2_barredMany_1 18 rfl rfl)
abbrev cX2_laysClaimBar : ByteArray := prog_12_method_107_code
def yX2_laysClaimBar : MethodName := ⟨RX2, "laysClaimBar", "(I)V"⟩
def dkwX2_laysClaimBar_1 : List UInt8 := [16, 35, 27, 96, 46, 42, 27, 3, 182, 1, 112, 182, 1, 165, 177]
abbrev dktX2_laysClaimBar_1 : List UInt8 := dkwX2_laysClaimBar_1 ++ []
def dkwX2_laysClaimBar_0 : List UInt8 := [42, 42, 180, 0, 22, 16, 35, 27, 96, 46, 182, 1, 159, 42, 42, 27, 182, 1, 162, 42, 180, 0, 22]
abbrev dktX2_laysClaimBar_0 : List UInt8 := dkwX2_laysClaimBar_0 ++ dktX2_laysClaimBar_1
theorem dksX2_laysClaimBar_0 : cX2_laysClaimBar.data.toList.drop 0 = dktX2_laysClaimBar_0 := by decide +kernel
theorem dksX2_laysClaimBar_1 : cX2_laysClaimBar.data.toList.drop 23 = dktX2_laysClaimBar_1 := dk_seg dksX2_laysClaimBar_0 23 rfl rfl
theorem dX2_laysClaimBar_0 : decode cX2_laysClaimBar 0 = .ok (.aload_n 0, 1) := dk_42 (dk_at dksX2_laysClaimBar_0 0 rfl rfl)
theorem dX2_laysClaimBar_1 : decode cX2_laysClaimBar 1 = .ok (.aload_n 0, 1) := dk_42 (dk_at dksX2_laysClaimBar_0 1 rfl rfl)
theorem dX2_laysClaimBar_2 : decode cX2_laysClaimBar 2 = .ok (.getfield 22, 3) := dk_180 0 22 (dk_at dksX2_laysClaimBar_0 2 rfl rfl)
theorem dX2_laysClaimBar_5 : decode cX2_laysClaimBar 5 = .ok (.bipush 35, 2) := dk_16 35 (dk_at dksX2_laysClaimBar_0 5 rfl rfl)
theorem dX2_laysClaimBar_7 : decode cX2_laysClaimBar 7 = .ok (.iload_n 1, 1) := dk_27 (dk_at dksX2_laysClaimBar_0 7 rfl rfl)
theorem dX2_laysClaimBar_8 : decode cX2_laysClaimBar 8 = .ok (.iadd, 1) := dk_96 (dk_at dksX2_laysClaimBar_0 8 rfl rfl)
theorem dX2_laysClaimBar_9 : decode cX2_laysClaimBar 9 = .ok (.iaload, 1) := dk_46 (dk_at dksX2_laysClaimBar_0 9 rfl rfl)
theorem dX2_laysClaimBar_10 : decode cX2_laysClaimBar 10 = .ok (.invokevirtual 415, 3) := dk_182 1 159 (dk_at dksX2_laysClaimBar_0 10 rfl rfl)
theorem dX2_laysClaimBar_13 : decode cX2_laysClaimBar 13 = .ok (.aload_n 0, 1) := dk_42 (dk_at dksX2_laysClaimBar_0 13 rfl rfl)
theorem dX2_laysClaimBar_14 : decode cX2_laysClaimBar 14 = .ok (.aload_n 0, 1) := dk_42 (dk_at dksX2_laysClaimBar_0 14 rfl rfl)
theorem dX2_laysClaimBar_15 : decode cX2_laysClaimBar 15 = .ok (.iload_n 1, 1) := dk_27 (dk_at dksX2_laysClaimBar_0 15 rfl rfl)
theorem dX2_laysClaimBar_16 : decode cX2_laysClaimBar 16 = .ok (.invokevirtual 418, 3) := dk_182 1 162 (dk_at dksX2_laysClaimBar_0 16 rfl rfl)
theorem dX2_laysClaimBar_19 : decode cX2_laysClaimBar 19 = .ok (.aload_n 0, 1) := dk_42 (dk_at dksX2_laysClaimBar_0 19 rfl rfl)
theorem dX2_laysClaimBar_20 : decode cX2_laysClaimBar 20 = .ok (.getfield 22, 3) := dk_180 0 22 (dk_at dksX2_laysClaimBar_0 20 rfl rfl)
theorem dX2_laysClaimBar_23 : decode cX2_laysClaimBar 23 = .ok (.bipush 35, 2) := dk_16 35 (dk_at dksX2_laysClaimBar_1 0 rfl rfl)
theorem dX2_laysClaimBar_25 : decode cX2_laysClaimBar 25 = .ok (.iload_n 1, 1) := dk_27 (dk_at dksX2_laysClaimBar_1 2 rfl rfl)
theorem dX2_laysClaimBar_26 : decode cX2_laysClaimBar 26 = .ok (.iadd, 1) := dk_96 (dk_at dksX2_laysClaimBar_1 3 rfl rfl)
theorem dX2_laysClaimBar_27 : decode cX2_laysClaimBar 27 = .ok (.iaload, 1) := dk_46 (dk_at dksX2_laysClaimBar_1 4 rfl rfl)
theorem dX2_laysClaimBar_28 : decode cX2_laysClaimBar 28 = .ok (.aload_n 0, 1) := dk_42 (dk_at dksX2_laysClaimBar_1 5 rfl rfl)
theorem dX2_laysClaimBar_29 : decode cX2_laysClaimBar 29 = .ok (.iload_n 1, 1) := dk_27 (dk_at dksX2_laysClaimBar_1 6 rfl rfl)
theorem dX2_laysClaimBar_30 : decode cX2_laysClaimBar 30 = .ok (.iconst 0, 1) := dk_3 (dk_at dksX2_laysClaimBar_1 7 rfl rfl)
theorem dX2_laysClaimBar_31 : decode cX2_laysClaimBar 31 = .ok (.invokevirtual 368, 3) := dk_182 1 112 (dk_at dksX2_laysClaimBar_1 8 rfl rfl)
theorem dX2_laysClaimBar_34 : decode cX2_laysClaimBar 34 = .ok (.invokevirtual 421, 3) := dk_182 1 165 (dk_at dksX2_laysClaimBar_1 11 rfl rfl)
theorem dX2_laysClaimBar_37 : decode cX2_laysClaimBar 37 = .ok (.return_, 1) := dk_177 (dk_at dksX2_laysClaimBar_1 14 rfl rfl)
abbrev cX2_laysOpen : ByteArray := prog_12_method_104_code
def yX2_laysOpen : MethodName := ⟨RX2, "laysOpen", "(I)V"⟩
def dkwX2_laysOpen_2 : List UInt8 := [19, 1, 61, 167, 0, 4, 29, 79, 132, 2, 1, 167, 255, 201, 177]
abbrev dktX2_laysOpen_2 : List UInt8 := dkwX2_laysOpen_2 ++ []
def dkwX2_laysOpen_1 : List UInt8 := [167, 0, 10, 42, 28, 27, 3, 182, 1, 91, 62, 42, 180, 0, 58, 28, 29, 16, 254, 160, 0, 9]
abbrev dktX2_laysOpen_1 : List UInt8 := dkwX2_laysOpen_1 ++ dktX2_laysOpen_2
def dkwX2_laysOpen_0 : List UInt8 := [3, 61, 28, 42, 180, 0, 22, 5, 46, 162, 0, 51, 42, 28, 182, 1, 40, 16, 254, 160, 0, 8, 16, 254]
abbrev dktX2_laysOpen_0 : List UInt8 := dkwX2_laysOpen_0 ++ dktX2_laysOpen_1
theorem dksX2_laysOpen_0 : cX2_laysOpen.data.toList.drop 0 = dktX2_laysOpen_0 := by decide +kernel
theorem dksX2_laysOpen_1 : cX2_laysOpen.data.toList.drop 24 = dktX2_laysOpen_1 := dk_seg dksX2_laysOpen_0 24 rfl rfl
theorem dksX2_laysOpen_2 : cX2_laysOpen.data.toList.drop 46 = dktX2_laysOpen_2 := dk_seg dksX2_laysOpen_1 22 rfl rfl
theorem dX2_laysOpen_0 : decode cX2_laysOpen 0 = .ok (.iconst 0, 1) := dk_3 (dk_at dksX2_laysOpen_0 0 rfl rfl)
theorem dX2_laysOpen_1 : decode cX2_laysOpen 1 = .ok (.istore_n 2, 1) := dk_61 (dk_at dksX2_laysOpen_0 1 rfl rfl)
theorem dX2_laysOpen_2 : decode cX2_laysOpen 2 = .ok (.iload_n 2, 1) := dk_28 (dk_at dksX2_laysOpen_0 2 rfl rfl)
theorem dX2_laysOpen_3 : decode cX2_laysOpen 3 = .ok (.aload_n 0, 1) := dk_42 (dk_at dksX2_laysOpen_0 3 rfl rfl)
theorem dX2_laysOpen_4 : decode cX2_laysOpen 4 = .ok (.getfield 22, 3) := dk_180 0 22 (dk_at dksX2_laysOpen_0 4 rfl rfl)
theorem dX2_laysOpen_7 : decode cX2_laysOpen 7 = .ok (.iconst 2, 1) := dk_5 (dk_at dksX2_laysOpen_0 7 rfl rfl)
theorem dX2_laysOpen_8 : decode cX2_laysOpen 8 = .ok (.iaload, 1) := dk_46 (dk_at dksX2_laysOpen_0 8 rfl rfl)
theorem dX2_laysOpen_9 : decode cX2_laysOpen 9 = .ok (.if_icmp .ge 51, 3) := dk_162 0 51 (dk_at dksX2_laysOpen_0 9 rfl rfl)
theorem dX2_laysOpen_12 : decode cX2_laysOpen 12 = .ok (.aload_n 0, 1) := dk_42 (dk_at dksX2_laysOpen_0 12 rfl rfl)
theorem dX2_laysOpen_13 : decode cX2_laysOpen 13 = .ok (.iload_n 2, 1) := dk_28 (dk_at dksX2_laysOpen_0 13 rfl rfl)
theorem dX2_laysOpen_14 : decode cX2_laysOpen 14 = .ok (.invokevirtual 296, 3) := dk_182 1 40 (dk_at dksX2_laysOpen_0 14 rfl rfl)
theorem dX2_laysOpen_17 : decode cX2_laysOpen 17 = .ok (.bipush (-2), 2) := dk_16 254 (dk_at dksX2_laysOpen_0 17 rfl rfl)
theorem dX2_laysOpen_19 : decode cX2_laysOpen 19 = .ok (.if_icmp .ne 8, 3) := dk_160 0 8 (dk_at dksX2_laysOpen_0 19 rfl rfl)
theorem dX2_laysOpen_22 : decode cX2_laysOpen 22 = .ok (.bipush (-2), 2) := dk_16 254 (dk_at dksX2_laysOpen_0 22 rfl rfl)
theorem dX2_laysOpen_24 : decode cX2_laysOpen 24 = .ok (.goto 10, 3) := dk_167 0 10 (dk_at dksX2_laysOpen_1 0 rfl rfl)
theorem dX2_laysOpen_27 : decode cX2_laysOpen 27 = .ok (.aload_n 0, 1) := dk_42 (dk_at dksX2_laysOpen_1 3 rfl rfl)
theorem dX2_laysOpen_28 : decode cX2_laysOpen 28 = .ok (.iload_n 2, 1) := dk_28 (dk_at dksX2_laysOpen_1 4 rfl rfl)
theorem dX2_laysOpen_29 : decode cX2_laysOpen 29 = .ok (.iload_n 1, 1) := dk_27 (dk_at dksX2_laysOpen_1 5 rfl rfl)
theorem dX2_laysOpen_30 : decode cX2_laysOpen 30 = .ok (.iconst 0, 1) := dk_3 (dk_at dksX2_laysOpen_1 6 rfl rfl)
theorem dX2_laysOpen_31 : decode cX2_laysOpen 31 = .ok (.invokevirtual 347, 3) := dk_182 1 91 (dk_at dksX2_laysOpen_1 7 rfl rfl)
theorem dX2_laysOpen_34 : decode cX2_laysOpen 34 = .ok (.istore_n 3, 1) := dk_62 (dk_at dksX2_laysOpen_1 10 rfl rfl)
theorem dX2_laysOpen_35 : decode cX2_laysOpen 35 = .ok (.aload_n 0, 1) := dk_42 (dk_at dksX2_laysOpen_1 11 rfl rfl)
theorem dX2_laysOpen_36 : decode cX2_laysOpen 36 = .ok (.getfield 58, 3) := dk_180 0 58 (dk_at dksX2_laysOpen_1 12 rfl rfl)
theorem dX2_laysOpen_39 : decode cX2_laysOpen 39 = .ok (.iload_n 2, 1) := dk_28 (dk_at dksX2_laysOpen_1 15 rfl rfl)
theorem dX2_laysOpen_40 : decode cX2_laysOpen 40 = .ok (.iload_n 3, 1) := dk_29 (dk_at dksX2_laysOpen_1 16 rfl rfl)
theorem dX2_laysOpen_41 : decode cX2_laysOpen 41 = .ok (.bipush (-2), 2) := dk_16 254 (dk_at dksX2_laysOpen_1 17 rfl rfl)
theorem dX2_laysOpen_43 : decode cX2_laysOpen 43 = .ok (.if_icmp .ne 9, 3) := dk_160 0 9 (dk_at dksX2_laysOpen_1 19 rfl rfl)
theorem dX2_laysOpen_46 : decode cX2_laysOpen 46 = .ok (.ldc_w 317, 3) := dk_19 1 61 (dk_at dksX2_laysOpen_2 0 rfl rfl)
theorem dX2_laysOpen_49 : decode cX2_laysOpen 49 = .ok (.goto 4, 3) := dk_167 0 4 (dk_at dksX2_laysOpen_2 3 rfl rfl)
theorem dX2_laysOpen_52 : decode cX2_laysOpen 52 = .ok (.iload_n 3, 1) := dk_29 (dk_at dksX2_laysOpen_2 6 rfl rfl)
theorem dX2_laysOpen_53 : decode cX2_laysOpen 53 = .ok (.iastore, 1) := dk_79 (dk_at dksX2_laysOpen_2 7 rfl rfl)
theorem dX2_laysOpen_54 : decode cX2_laysOpen 54 = .ok (.iinc 2 1, 3) := dk_132 2 1 (dk_at dksX2_laysOpen_2 8 rfl rfl)
theorem dX2_laysOpen_57 : decode cX2_laysOpen 57 = .ok (.goto (-55), 3) := dk_167 255 201 (dk_at dksX2_laysOpen_2 11 rfl rfl)
theorem dX2_laysOpen_60 : decode cX2_laysOpen 60 = .ok (.return_, 1) := dk_177 (dk_at dksX2_laysOpen_2 14 rfl rfl)
abbrev cX2_openOf : ByteArray := prog_12_method_60_code
def yX2_openOf : MethodName := ⟨RX2, "openOf", "(I)I"⟩
def dkwX2_openOf_1 : List UInt8 := [27, 182, 1, 24, 28, 162, 0, 8, 16, 254, 167, 0, 4, 28, 172]
abbrev dktX2_openOf_1 : List UInt8 := dkwX2_openOf_1 ++ []
def dkwX2_openOf_0 : List UInt8 := [42, 27, 182, 1, 21, 42, 180, 0, 13, 5, 46, 96, 61, 42, 27, 182, 1, 24, 16, 254, 159, 0, 17, 42]
abbrev dktX2_openOf_0 : List UInt8 := dkwX2_openOf_0 ++ dktX2_openOf_1
theorem dksX2_openOf_0 : cX2_openOf.data.toList.drop 0 = dktX2_openOf_0 := by decide +kernel
theorem dksX2_openOf_1 : cX2_openOf.data.toList.drop 24 = dktX2_openOf_1 := dk_seg dksX2_openOf_0 24 rfl rfl
theorem dX2_openOf_0 : decode cX2_openOf 0 = .ok (.aload_n 0, 1) := dk_42 (dk_at dksX2_openOf_0 0 rfl rfl)
theorem dX2_openOf_1 : decode cX2_openOf 1 = .ok (.iload_n 1, 1) := dk_27 (dk_at dksX2_openOf_0 1 rfl rfl)
theorem dX2_openOf_2 : decode cX2_openOf 2 = .ok (.invokevirtual 277, 3) := dk_182 1 21 (dk_at dksX2_openOf_0 2 rfl rfl)
theorem dX2_openOf_5 : decode cX2_openOf 5 = .ok (.aload_n 0, 1) := dk_42 (dk_at dksX2_openOf_0 5 rfl rfl)
theorem dX2_openOf_6 : decode cX2_openOf 6 = .ok (.getfield 13, 3) := dk_180 0 13 (dk_at dksX2_openOf_0 6 rfl rfl)
theorem dX2_openOf_9 : decode cX2_openOf 9 = .ok (.iconst 2, 1) := dk_5 (dk_at dksX2_openOf_0 9 rfl rfl)
theorem dX2_openOf_10 : decode cX2_openOf 10 = .ok (.iaload, 1) := dk_46 (dk_at dksX2_openOf_0 10 rfl rfl)
theorem dX2_openOf_11 : decode cX2_openOf 11 = .ok (.iadd, 1) := dk_96 (dk_at dksX2_openOf_0 11 rfl rfl)
theorem dX2_openOf_12 : decode cX2_openOf 12 = .ok (.istore_n 2, 1) := dk_61 (dk_at dksX2_openOf_0 12 rfl rfl)
theorem dX2_openOf_13 : decode cX2_openOf 13 = .ok (.aload_n 0, 1) := dk_42 (dk_at dksX2_openOf_0 13 rfl rfl)
theorem dX2_openOf_14 : decode cX2_openOf 14 = .ok (.iload_n 1, 1) := dk_27 (dk_at dksX2_openOf_0 14 rfl rfl)
theorem dX2_openOf_15 : decode cX2_openOf 15 = .ok (.invokevirtual 280, 3) := dk_182 1 24 (dk_at dksX2_openOf_0 15 rfl rfl)
theorem dX2_openOf_18 : decode cX2_openOf 18 = .ok (.bipush (-2), 2) := dk_16 254 (dk_at dksX2_openOf_0 18 rfl rfl)
theorem dX2_openOf_20 : decode cX2_openOf 20 = .ok (.if_icmp .eq 17, 3) := dk_159 0 17 (dk_at dksX2_openOf_0 20 rfl rfl)
theorem dX2_openOf_23 : decode cX2_openOf 23 = .ok (.aload_n 0, 1) := dk_42 (dk_at dksX2_openOf_0 23 rfl rfl)
theorem dX2_openOf_24 : decode cX2_openOf 24 = .ok (.iload_n 1, 1) := dk_27 (dk_at dksX2_openOf_1 0 rfl rfl)
theorem dX2_openOf_25 : decode cX2_openOf 25 = .ok (.invokevirtual 280, 3) := dk_182 1 24 (dk_at dksX2_openOf_1 1 rfl rfl)
theorem dX2_openOf_28 : decode cX2_openOf 28 = .ok (.iload_n 2, 1) := dk_28 (dk_at dksX2_openOf_1 4 rfl rfl)
theorem dX2_openOf_29 : decode cX2_openOf 29 = .ok (.if_icmp .ge 8, 3) := dk_162 0 8 (dk_at dksX2_openOf_1 5 rfl rfl)
theorem dX2_openOf_32 : decode cX2_openOf 32 = .ok (.bipush (-2), 2) := dk_16 254 (dk_at dksX2_openOf_1 8 rfl rfl)
theorem dX2_openOf_34 : decode cX2_openOf 34 = .ok (.goto 4, 3) := dk_167 0 4 (dk_at dksX2_openOf_1 10 rfl rfl)
theorem dX2_openOf_37 : decode cX2_openOf 37 = .ok (.iload_n 2, 1) := dk_28 (dk_at dksX2_openOf_1 13 rfl rfl)
theorem dX2_openOf_38 : decode cX2_openOf 38 = .ok (.ireturn, 1) := dk_172 (dk_at dksX2_openOf_1 14 rfl rfl)
abbrev cX2_dateOf : ByteArray := prog_12_method_78_code
def yX2_dateOf : MethodName := ⟨RX2, "dateOf", "(III)I"⟩
def dkwX2_dateOf_1 : List UInt8 := [28, 182, 1, 49, 172]
abbrev dktX2_dateOf_1 : List UInt8 := dkwX2_dateOf_1 ++ []
def dkwX2_dateOf_0 : List UInt8 := [42, 27, 28, 29, 182, 1, 87, 54, 4, 21, 4, 16, 254, 160, 0, 8, 16, 254, 167, 0, 10, 42, 21, 4]
abbrev dktX2_dateOf_0 : List UInt8 := dkwX2_dateOf_0 ++ dktX2_dateOf_1
theorem dksX2_dateOf_0 : cX2_dateOf.data.toList.drop 0 = dktX2_dateOf_0 := by decide +kernel
theorem dksX2_dateOf_1 : cX2_dateOf.data.toList.drop 24 = dktX2_dateOf_1 := dk_seg dksX2_dateOf_0 24 rfl rfl
theorem dX2_dateOf_0 : decode cX2_dateOf 0 = .ok (.aload_n 0, 1) := dk_42 (dk_at dksX2_dateOf_0 0 rfl rfl)
theorem dX2_dateOf_1 : decode cX2_dateOf 1 = .ok (.iload_n 1, 1) := dk_27 (dk_at dksX2_dateOf_0 1 rfl rfl)
theorem dX2_dateOf_2 : decode cX2_dateOf 2 = .ok (.iload_n 2, 1) := dk_28 (dk_at dksX2_dateOf_0 2 rfl rfl)
theorem dX2_dateOf_3 : decode cX2_dateOf 3 = .ok (.iload_n 3, 1) := dk_29 (dk_at dksX2_dateOf_0 3 rfl rfl)
theorem dX2_dateOf_4 : decode cX2_dateOf 4 = .ok (.invokevirtual 343, 3) := dk_182 1 87 (dk_at dksX2_dateOf_0 4 rfl rfl)
theorem dX2_dateOf_7 : decode cX2_dateOf 7 = .ok (.istore 4, 2) := dk_54 4 (dk_at dksX2_dateOf_0 7 rfl rfl)
theorem dX2_dateOf_9 : decode cX2_dateOf 9 = .ok (.iload 4, 2) := dk_21 4 (dk_at dksX2_dateOf_0 9 rfl rfl)
theorem dX2_dateOf_11 : decode cX2_dateOf 11 = .ok (.bipush (-2), 2) := dk_16 254 (dk_at dksX2_dateOf_0 11 rfl rfl)
theorem dX2_dateOf_13 : decode cX2_dateOf 13 = .ok (.if_icmp .ne 8, 3) := dk_160 0 8 (dk_at dksX2_dateOf_0 13 rfl rfl)
theorem dX2_dateOf_16 : decode cX2_dateOf 16 = .ok (.bipush (-2), 2) := dk_16 254 (dk_at dksX2_dateOf_0 16 rfl rfl)
theorem dX2_dateOf_18 : decode cX2_dateOf 18 = .ok (.goto 10, 3) := dk_167 0 10 (dk_at dksX2_dateOf_0 18 rfl rfl)
theorem dX2_dateOf_21 : decode cX2_dateOf 21 = .ok (.aload_n 0, 1) := dk_42 (dk_at dksX2_dateOf_0 21 rfl rfl)
theorem dX2_dateOf_22 : decode cX2_dateOf 22 = .ok (.iload 4, 2) := dk_21 4 (dk_at dksX2_dateOf_0 22 rfl rfl)
theorem dX2_dateOf_24 : decode cX2_dateOf 24 = .ok (.iload_n 2, 1) := dk_28 (dk_at dksX2_dateOf_1 0 rfl rfl)
theorem dX2_dateOf_25 : decode cX2_dateOf 25 = .ok (.invokevirtual 305, 3) := dk_182 1 49 (dk_at dksX2_dateOf_1 1 rfl rfl)
theorem dX2_dateOf_28 : decode cX2_dateOf 28 = .ok (.ireturn, 1) := dk_172 (dk_at dksX2_dateOf_1 4 rfl rfl)
abbrev cX2_daterOf : ByteArray := prog_12_method_77_code
def yX2_daterOf : MethodName := ⟨RX2, "daterOf", "(III)I"⟩
def dkwX2_daterOf_1 : List UInt8 := [182, 1, 81, 42, 28, 182, 1, 84, 172]
abbrev dktX2_daterOf_1 : List UInt8 := dkwX2_daterOf_1 ++ []
def dkwX2_daterOf_0 : List UInt8 := [42, 27, 28, 182, 1, 49, 16, 254, 160, 0, 6, 16, 254, 172, 42, 28, 29, 182, 1, 78, 42, 27]
abbrev dktX2_daterOf_0 : List UInt8 := dkwX2_daterOf_0 ++ dktX2_daterOf_1
theorem dksX2_daterOf_0 : cX2_daterOf.data.toList.drop 0 = dktX2_daterOf_0 := by decide +kernel
theorem dksX2_daterOf_1 : cX2_daterOf.data.toList.drop 22 = dktX2_daterOf_1 := dk_seg dksX2_daterOf_0 22 rfl rfl
theorem dX2_daterOf_0 : decode cX2_daterOf 0 = .ok (.aload_n 0, 1) := dk_42 (dk_at dksX2_daterOf_0 0 rfl rfl)
theorem dX2_daterOf_1 : decode cX2_daterOf 1 = .ok (.iload_n 1, 1) := dk_27 (dk_at dksX2_daterOf_0 1 rfl rfl)
theorem dX2_daterOf_2 : decode cX2_daterOf 2 = .ok (.iload_n 2, 1) := dk_28 (dk_at dksX2_daterOf_0 2 rfl rfl)
theorem dX2_daterOf_3 : decode cX2_daterOf 3 = .ok (.invokevirtual 305, 3) := dk_182 1 49 (dk_at dksX2_daterOf_0 3 rfl rfl)
theorem dX2_daterOf_6 : decode cX2_daterOf 6 = .ok (.bipush (-2), 2) := dk_16 254 (dk_at dksX2_daterOf_0 6 rfl rfl)
theorem dX2_daterOf_8 : decode cX2_daterOf 8 = .ok (.if_icmp .ne 6, 3) := dk_160 0 6 (dk_at dksX2_daterOf_0 8 rfl rfl)
theorem dX2_daterOf_11 : decode cX2_daterOf 11 = .ok (.bipush (-2), 2) := dk_16 254 (dk_at dksX2_daterOf_0 11 rfl rfl)
theorem dX2_daterOf_13 : decode cX2_daterOf 13 = .ok (.ireturn, 1) := dk_172 (dk_at dksX2_daterOf_0 13 rfl rfl)
theorem dX2_daterOf_14 : decode cX2_daterOf 14 = .ok (.aload_n 0, 1) := dk_42 (dk_at dksX2_daterOf_0 14 rfl rfl)
theorem dX2_daterOf_15 : decode cX2_daterOf 15 = .ok (.iload_n 2, 1) := dk_28 (dk_at dksX2_daterOf_0 15 rfl rfl)
theorem dX2_daterOf_16 : decode cX2_daterOf 16 = .ok (.iload_n 3, 1) := dk_29 (dk_at dksX2_daterOf_0 16 rfl rfl)
theorem dX2_daterOf_17 : decode cX2_daterOf 17 = .ok (.invokevirtual 334, 3) := dk_182 1 78 (dk_at dksX2_daterOf_0 17 rfl rfl)
theorem dX2_daterOf_20 : decode cX2_daterOf 20 = .ok (.aload_n 0, 1) := dk_42 (dk_at dksX2_daterOf_0 20 rfl rfl)
theorem dX2_daterOf_21 : decode cX2_daterOf 21 = .ok (.iload_n 1, 1) := dk_27 (dk_at dksX2_daterOf_0 21 rfl rfl)
theorem dX2_daterOf_22 : decode cX2_daterOf 22 = .ok (.invokevirtual 337, 3) := dk_182 1 81 (dk_at dksX2_daterOf_1 0 rfl rfl)
theorem dX2_daterOf_25 : decode cX2_daterOf 25 = .ok (.aload_n 0, 1) := dk_42 (dk_at dksX2_daterOf_1 3 rfl rfl)
theorem dX2_daterOf_26 : decode cX2_daterOf 26 = .ok (.iload_n 2, 1) := dk_28 (dk_at dksX2_daterOf_1 4 rfl rfl)
theorem dX2_daterOf_27 : decode cX2_daterOf 27 = .ok (.invokevirtual 340, 3) := dk_182 1 84 (dk_at dksX2_daterOf_1 5 rfl rfl)
theorem dX2_daterOf_30 : decode cX2_daterOf 30 = .ok (.ireturn, 1) := dk_172 (dk_at dksX2_daterOf_1 8 rfl rfl)
abbrev cX2_bearsFrom : ByteArray := prog_12_method_62_code
def yX2_bearsFrom : MethodName := ⟨RX2, "bearsFrom", "(II)I"⟩
def dkwX2_bearsFrom_2 : List UInt8 := [21, 5, 29, 164, 0, 8, 21, 5, 167, 0, 4, 29, 62, 132, 4, 1, 167, 255, 203, 29, 172]
abbrev dktX2_bearsFrom_2 : List UInt8 := dkwX2_bearsFrom_2 ++ []
def dkwX2_bearsFrom_1 : List UInt8 := [154, 0, 6, 167, 0, 34, 42, 27, 21, 4, 182, 1, 18, 54, 5, 21, 5, 2, 160, 0, 6, 16, 254, 172]
abbrev dktX2_bearsFrom_1 : List UInt8 := dkwX2_bearsFrom_1 ++ dktX2_bearsFrom_2
def dkwX2_bearsFrom_0 : List UInt8 := [42, 27, 182, 1, 21, 62, 3, 54, 4, 21, 4, 16, 16, 162, 0, 52, 28, 21, 4, 184, 0, 82]
abbrev dktX2_bearsFrom_0 : List UInt8 := dkwX2_bearsFrom_0 ++ dktX2_bearsFrom_1
theorem dksX2_bearsFrom_0 : cX2_bearsFrom.data.toList.drop 0 = dktX2_bearsFrom_0 := by decide +kernel
theorem dksX2_bearsFrom_1 : cX2_bearsFrom.data.toList.drop 22 = dktX2_bearsFrom_1 := dk_seg dksX2_bearsFrom_0 22 rfl rfl
theorem dksX2_bearsFrom_2 : cX2_bearsFrom.data.toList.drop 46 = dktX2_bearsFrom_2 := dk_seg dksX2_bearsFrom_1 24 rfl rfl
theorem dX2_bearsFrom_0 : decode cX2_bearsFrom 0 = .ok (.aload_n 0, 1) := dk_42 (dk_at dksX2_bearsFrom_0 0 rfl rfl)
theorem dX2_bearsFrom_1 : decode cX2_bearsFrom 1 = .ok (.iload_n 1, 1) := dk_27 (dk_at dksX2_bearsFrom_0 1 rfl rfl)
theorem dX2_bearsFrom_2 : decode cX2_bearsFrom 2 = .ok (.invokevirtual 277, 3) := dk_182 1 21 (dk_at dksX2_bearsFrom_0 2 rfl rfl)
theorem dX2_bearsFrom_5 : decode cX2_bearsFrom 5 = .ok (.istore_n 3, 1) := dk_62 (dk_at dksX2_bearsFrom_0 5 rfl rfl)
theorem dX2_bearsFrom_6 : decode cX2_bearsFrom 6 = .ok (.iconst 0, 1) := dk_3 (dk_at dksX2_bearsFrom_0 6 rfl rfl)
theorem dX2_bearsFrom_7 : decode cX2_bearsFrom 7 = .ok (.istore 4, 2) := dk_54 4 (dk_at dksX2_bearsFrom_0 7 rfl rfl)
theorem dX2_bearsFrom_9 : decode cX2_bearsFrom 9 = .ok (.iload 4, 2) := dk_21 4 (dk_at dksX2_bearsFrom_0 9 rfl rfl)
theorem dX2_bearsFrom_11 : decode cX2_bearsFrom 11 = .ok (.bipush 16, 2) := dk_16 16 (dk_at dksX2_bearsFrom_0 11 rfl rfl)
theorem dX2_bearsFrom_13 : decode cX2_bearsFrom 13 = .ok (.if_icmp .ge 52, 3) := dk_162 0 52 (dk_at dksX2_bearsFrom_0 13 rfl rfl)
theorem dX2_bearsFrom_16 : decode cX2_bearsFrom 16 = .ok (.iload_n 2, 1) := dk_28 (dk_at dksX2_bearsFrom_0 16 rfl rfl)
theorem dX2_bearsFrom_17 : decode cX2_bearsFrom 17 = .ok (.iload 4, 2) := dk_21 4 (dk_at dksX2_bearsFrom_0 17 rfl rfl)
theorem dX2_bearsFrom_19 : decode cX2_bearsFrom 19 = .ok (.invokestatic 82, 3) := dk_184 0 82 (dk_at dksX2_bearsFrom_0 19 rfl rfl)
theorem dX2_bearsFrom_22 : decode cX2_bearsFrom 22 = .ok (.ifCond .ne 6, 3) := dk_154 0 6 (dk_at dksX2_bearsFrom_1 0 rfl rfl)
theorem dX2_bearsFrom_25 : decode cX2_bearsFrom 25 = .ok (.goto 34, 3) := dk_167 0 34 (dk_at dksX2_bearsFrom_1 3 rfl rfl)
theorem dX2_bearsFrom_28 : decode cX2_bearsFrom 28 = .ok (.aload_n 0, 1) := dk_42 (dk_at dksX2_bearsFrom_1 6 rfl rfl)
theorem dX2_bearsFrom_29 : decode cX2_bearsFrom 29 = .ok (.iload_n 1, 1) := dk_27 (dk_at dksX2_bearsFrom_1 7 rfl rfl)
theorem dX2_bearsFrom_30 : decode cX2_bearsFrom 30 = .ok (.iload 4, 2) := dk_21 4 (dk_at dksX2_bearsFrom_1 8 rfl rfl)
theorem dX2_bearsFrom_32 : decode cX2_bearsFrom 32 = .ok (.invokevirtual 274, 3) := dk_182 1 18 (dk_at dksX2_bearsFrom_1 10 rfl rfl)
theorem dX2_bearsFrom_35 : decode cX2_bearsFrom 35 = .ok (.istore 5, 2) := dk_54 5 (dk_at dksX2_bearsFrom_1 13 rfl rfl)
theorem dX2_bearsFrom_37 : decode cX2_bearsFrom 37 = .ok (.iload 5, 2) := dk_21 5 (dk_at dksX2_bearsFrom_1 15 rfl rfl)
theorem dX2_bearsFrom_39 : decode cX2_bearsFrom 39 = .ok (.iconst (-1), 1) := dk_2 (dk_at dksX2_bearsFrom_1 17 rfl rfl)
theorem dX2_bearsFrom_40 : decode cX2_bearsFrom 40 = .ok (.if_icmp .ne 6, 3) := dk_160 0 6 (dk_at dksX2_bearsFrom_1 18 rfl rfl)
theorem dX2_bearsFrom_43 : decode cX2_bearsFrom 43 = .ok (.bipush (-2), 2) := dk_16 254 (dk_at dksX2_bearsFrom_1 21 rfl rfl)
theorem dX2_bearsFrom_45 : decode cX2_bearsFrom 45 = .ok (.ireturn, 1) := dk_172 (dk_at dksX2_bearsFrom_1 23 rfl rfl)
theorem dX2_bearsFrom_46 : decode cX2_bearsFrom 46 = .ok (.iload 5, 2) := dk_21 5 (dk_at dksX2_bearsFrom_2 0 rfl rfl)
theorem dX2_bearsFrom_48 : decode cX2_bearsFrom 48 = .ok (.iload_n 3, 1) := dk_29 (dk_at dksX2_bearsFrom_2 2 rfl rfl)
theorem dX2_bearsFrom_49 : decode cX2_bearsFrom 49 = .ok (.if_icmp .le 8, 3) := dk_164 0 8 (dk_at dksX2_bearsFrom_2 3 rfl rfl)
theorem dX2_bearsFrom_52 : decode cX2_bearsFrom 52 = .ok (.iload 5, 2) := dk_21 5 (dk_at dksX2_bearsFrom_2 6 rfl rfl)
theorem dX2_bearsFrom_54 : decode cX2_bearsFrom 54 = .ok (.goto 4, 3) := dk_167 0 4 (dk_at dksX2_bearsFrom_2 8 rfl rfl)
theorem dX2_bearsFrom_57 : decode cX2_bearsFrom 57 = .ok (.iload_n 3, 1) := dk_29 (dk_at dksX2_bearsFrom_2 11 rfl rfl)
theorem dX2_bearsFrom_58 : decode cX2_bearsFrom 58 = .ok (.istore_n 3, 1) := dk_62 (dk_at dksX2_bearsFrom_2 12 rfl rfl)
theorem dX2_bearsFrom_59 : decode cX2_bearsFrom 59 = .ok (.iinc 4 1, 3) := dk_132 4 1 (dk_at dksX2_bearsFrom_2 13 rfl rfl)
theorem dX2_bearsFrom_62 : decode cX2_bearsFrom 62 = .ok (.goto (-53), 3) := dk_167 255 203 (dk_at dksX2_bearsFrom_2 16 rfl rfl)
theorem dX2_bearsFrom_65 : decode cX2_bearsFrom 65 = .ok (.iload_n 3, 1) := dk_29 (dk_at dksX2_bearsFrom_2 19 rfl rfl)
theorem dX2_bearsFrom_66 : decode cX2_bearsFrom 66 = .ok (.ireturn, 1) := dk_172 (dk_at dksX2_bearsFrom_2 20 rfl rfl)
abbrev cX2_partDayOf : ByteArray := prog_12_method_53_code
def yX2_partDayOf : MethodName := ⟨RX2, "partDayOf", "(II)I"⟩
def dkwX2_partDayOf_0 : List UInt8 := [42, 180, 0, 13, 16, 32, 16, 16, 27, 104, 96, 28, 96, 46, 172]
abbrev dktX2_partDayOf_0 : List UInt8 := dkwX2_partDayOf_0 ++ []
theorem dksX2_partDayOf_0 : cX2_partDayOf.data.toList.drop 0 = dktX2_partDayOf_0 := by decide +kernel
theorem dX2_partDayOf_0 : decode cX2_partDayOf 0 = .ok (.aload_n 0, 1) := dk_42 (dk_at dksX2_partDayOf_0 0 rfl rfl)
theorem dX2_partDayOf_1 : decode cX2_partDayOf 1 = .ok (.getfield 13, 3) := dk_180 0 13 (dk_at dksX2_partDayOf_0 1 rfl rfl)
theorem dX2_partDayOf_4 : decode cX2_partDayOf 4 = .ok (.bipush 32, 2) := dk_16 32 (dk_at dksX2_partDayOf_0 4 rfl rfl)
theorem dX2_partDayOf_6 : decode cX2_partDayOf 6 = .ok (.bipush 16, 2) := dk_16 16 (dk_at dksX2_partDayOf_0 6 rfl rfl)
theorem dX2_partDayOf_8 : decode cX2_partDayOf 8 = .ok (.iload_n 1, 1) := dk_27 (dk_at dksX2_partDayOf_0 8 rfl rfl)
theorem dX2_partDayOf_9 : decode cX2_partDayOf 9 = .ok (.imul, 1) := dk_104 (dk_at dksX2_partDayOf_0 9 rfl rfl)
theorem dX2_partDayOf_10 : decode cX2_partDayOf 10 = .ok (.iadd, 1) := dk_96 (dk_at dksX2_partDayOf_0 10 rfl rfl)
theorem dX2_partDayOf_11 : decode cX2_partDayOf 11 = .ok (.iload_n 2, 1) := dk_28 (dk_at dksX2_partDayOf_0 11 rfl rfl)
theorem dX2_partDayOf_12 : decode cX2_partDayOf 12 = .ok (.iadd, 1) := dk_96 (dk_at dksX2_partDayOf_0 12 rfl rfl)
theorem dX2_partDayOf_13 : decode cX2_partDayOf 13 = .ok (.iaload, 1) := dk_46 (dk_at dksX2_partDayOf_0 13 rfl rfl)
theorem dX2_partDayOf_14 : decode cX2_partDayOf 14 = .ok (.ireturn, 1) := dk_172 (dk_at dksX2_partDayOf_0 14 rfl rfl)
abbrev cX2_laysLinks : ByteArray := prog_12_method_74_code
def yX2_laysLinks : MethodName := ⟨RX2, "laysLinks", "(II)V"⟩
def dkwX2_laysLinks_2 : List UInt8 := [177]
abbrev dktX2_laysLinks_2 : List UInt8 := dkwX2_laysLinks_2 ++ []
def dkwX2_laysLinks_1 : List UInt8 := [154, 0, 16, 42, 29, 27, 182, 1, 75, 153, 0, 7, 4, 167, 0, 4, 3, 84, 132, 3, 1, 167, 255, 213]
abbrev dktX2_laysLinks_1 : List UInt8 := dkwX2_laysLinks_1 ++ dktX2_laysLinks_2
def dkwX2_laysLinks_0 : List UInt8 := [3, 62, 29, 42, 180, 0, 13, 17, 1, 0, 46, 162, 0, 37, 42, 180, 0, 39, 29, 28, 29, 184, 0, 82]
abbrev dktX2_laysLinks_0 : List UInt8 := dkwX2_laysLinks_0 ++ dktX2_laysLinks_1
theorem dksX2_laysLinks_0 : cX2_laysLinks.data.toList.drop 0 = dktX2_laysLinks_0 := by decide +kernel
theorem dksX2_laysLinks_1 : cX2_laysLinks.data.toList.drop 24 = dktX2_laysLinks_1 := dk_seg dksX2_laysLinks_0 24 rfl rfl
theorem dksX2_laysLinks_2 : cX2_laysLinks.data.toList.drop 48 = dktX2_laysLinks_2 := dk_seg dksX2_laysLinks_1 24 rfl rfl
theorem dX2_laysLinks_0 : decode cX2_laysLinks 0 = .ok (.iconst 0, 1) := dk_3 (dk_at dksX2_laysLinks_0 0 rfl rfl)
theorem dX2_laysLinks_1 : decode cX2_laysLinks 1 = .ok (.istore_n 3, 1) := dk_62 (dk_at dksX2_laysLinks_0 1 rfl rfl)
theorem dX2_laysLinks_2 : decode cX2_laysLinks 2 = .ok (.iload_n 3, 1) := dk_29 (dk_at dksX2_laysLinks_0 2 rfl rfl)
theorem dX2_laysLinks_3 : decode cX2_laysLinks 3 = .ok (.aload_n 0, 1) := dk_42 (dk_at dksX2_laysLinks_0 3 rfl rfl)
theorem dX2_laysLinks_4 : decode cX2_laysLinks 4 = .ok (.getfield 13, 3) := dk_180 0 13 (dk_at dksX2_laysLinks_0 4 rfl rfl)
theorem dX2_laysLinks_7 : decode cX2_laysLinks 7 = .ok (.sipush 256, 3) := dk_17 1 0 (dk_at dksX2_laysLinks_0 7 rfl rfl)
theorem dX2_laysLinks_10 : decode cX2_laysLinks 10 = .ok (.iaload, 1) := dk_46 (dk_at dksX2_laysLinks_0 10 rfl rfl)
theorem dX2_laysLinks_11 : decode cX2_laysLinks 11 = .ok (.if_icmp .ge 37, 3) := dk_162 0 37 (dk_at dksX2_laysLinks_0 11 rfl rfl)
theorem dX2_laysLinks_14 : decode cX2_laysLinks 14 = .ok (.aload_n 0, 1) := dk_42 (dk_at dksX2_laysLinks_0 14 rfl rfl)
theorem dX2_laysLinks_15 : decode cX2_laysLinks 15 = .ok (.getfield 39, 3) := dk_180 0 39 (dk_at dksX2_laysLinks_0 15 rfl rfl)
theorem dX2_laysLinks_18 : decode cX2_laysLinks 18 = .ok (.iload_n 3, 1) := dk_29 (dk_at dksX2_laysLinks_0 18 rfl rfl)
theorem dX2_laysLinks_19 : decode cX2_laysLinks 19 = .ok (.iload_n 2, 1) := dk_28 (dk_at dksX2_laysLinks_0 19 rfl rfl)
theorem dX2_laysLinks_20 : decode cX2_laysLinks 20 = .ok (.iload_n 3, 1) := dk_29 (dk_at dksX2_laysLinks_0 20 rfl rfl)
theorem dX2_laysLinks_21 : decode cX2_laysLinks 21 = .ok (.invokestatic 82, 3) := dk_184 0 82 (dk_at dksX2_laysLinks_0 21 rfl rfl)
theorem dX2_laysLinks_24 : decode cX2_laysLinks 24 = .ok (.ifCond .ne 16, 3) := dk_154 0 16 (dk_at dksX2_laysLinks_1 0 rfl rfl)
theorem dX2_laysLinks_27 : decode cX2_laysLinks 27 = .ok (.aload_n 0, 1) := dk_42 (dk_at dksX2_laysLinks_1 3 rfl rfl)
theorem dX2_laysLinks_28 : decode cX2_laysLinks 28 = .ok (.iload_n 3, 1) := dk_29 (dk_at dksX2_laysLinks_1 4 rfl rfl)
theorem dX2_laysLinks_29 : decode cX2_laysLinks 29 = .ok (.iload_n 1, 1) := dk_27 (dk_at dksX2_laysLinks_1 5 rfl rfl)
theorem dX2_laysLinks_30 : decode cX2_laysLinks 30 = .ok (.invokevirtual 331, 3) := dk_182 1 75 (dk_at dksX2_laysLinks_1 6 rfl rfl)
theorem dX2_laysLinks_33 : decode cX2_laysLinks 33 = .ok (.ifCond .eq 7, 3) := dk_153 0 7 (dk_at dksX2_laysLinks_1 9 rfl rfl)
theorem dX2_laysLinks_36 : decode cX2_laysLinks 36 = .ok (.iconst 1, 1) := dk_4 (dk_at dksX2_laysLinks_1 12 rfl rfl)
theorem dX2_laysLinks_37 : decode cX2_laysLinks 37 = .ok (.goto 4, 3) := dk_167 0 4 (dk_at dksX2_laysLinks_1 13 rfl rfl)
theorem dX2_laysLinks_40 : decode cX2_laysLinks 40 = .ok (.iconst 0, 1) := dk_3 (dk_at dksX2_laysLinks_1 16 rfl rfl)
theorem dX2_laysLinks_41 : decode cX2_laysLinks 41 = .ok (.bastore, 1) := dk_84 (dk_at dksX2_laysLinks_1 17 rfl rfl)
theorem dX2_laysLinks_42 : decode cX2_laysLinks 42 = .ok (.iinc 3 1, 3) := dk_132 3 1 (dk_at dksX2_laysLinks_1 18 rfl rfl)
theorem dX2_laysLinks_45 : decode cX2_laysLinks 45 = .ok (.goto (-43), 3) := dk_167 255 213 (dk_at dksX2_laysLinks_1 21 rfl rfl)
theorem dX2_laysLinks_48 : decode cX2_laysLinks 48 = .ok (.return_, 1) := dk_177 (dk_at dksX2_laysLinks_2 0 rfl rfl)
abbrev cX2_holdsFor : ByteArray := prog_12_method_66_code
def yX2_holdsFor : MethodName := ⟨RX2, "holdsFor", "(II)Z"⟩
def dkwX2_holdsFor_3 : List UInt8 := [160, 0, 7, 4, 167, 0, 4, 3, 172]
abbrev dktX2_holdsFor_3 : List UInt8 := dkwX2_holdsFor_3 ++ []
def dkwX2_holdsFor_2 : List UInt8 := [182, 1, 58, 4, 159, 0, 21, 29, 42, 42, 42, 27, 182, 1, 55, 182, 1, 30, 28, 182, 1, 65]
abbrev dktX2_holdsFor_2 : List UInt8 := dkwX2_holdsFor_2 ++ dktX2_holdsFor_3
def dkwX2_holdsFor_1 : List UInt8 := [172, 42, 42, 27, 182, 1, 55, 28, 182, 1, 49, 62, 29, 16, 254, 160, 0, 5, 3, 172, 42, 27]
abbrev dktX2_holdsFor_1 : List UInt8 := dkwX2_holdsFor_1 ++ dktX2_holdsFor_2
def dkwX2_holdsFor_0 : List UInt8 := [42, 27, 182, 1, 62, 153, 0, 18, 42, 42, 27, 182, 1, 52, 28, 182, 1, 49, 16, 254, 160, 0, 5, 3]
abbrev dktX2_holdsFor_0 : List UInt8 := dkwX2_holdsFor_0 ++ dktX2_holdsFor_1
theorem dksX2_holdsFor_0 : cX2_holdsFor.data.toList.drop 0 = dktX2_holdsFor_0 := by decide +kernel
theorem dksX2_holdsFor_1 : cX2_holdsFor.data.toList.drop 24 = dktX2_holdsFor_1 := dk_seg dksX2_holdsFor_0 24 rfl rfl
theorem dksX2_holdsFor_2 : cX2_holdsFor.data.toList.drop 46 = dktX2_holdsFor_2 := dk_seg dksX2_holdsFor_1 22 rfl rfl
theorem dksX2_holdsFor_3 : cX2_holdsFor.data.toList.drop 68 = dktX2_holdsFor_3 := dk_seg dksX2_holdsFor_2 22 rfl rfl
theorem dX2_holdsFor_0 : decode cX2_holdsFor 0 = .ok (.aload_n 0, 1) := dk_42 (dk_at dksX2_holdsFor_0 0 rfl rfl)
theorem dX2_holdsFor_1 : decode cX2_holdsFor 1 = .ok (.iload_n 1, 1) := dk_27 (dk_at dksX2_holdsFor_0 1 rfl rfl)
theorem dX2_holdsFor_2 : decode cX2_holdsFor 2 = .ok (.invokevirtual 318, 3) := dk_182 1 62 (dk_at dksX2_holdsFor_0 2 rfl rfl)
theorem dX2_holdsFor_5 : decode cX2_holdsFor 5 = .ok (.ifCond .eq 18, 3) := dk_153 0 18 (dk_at dksX2_holdsFor_0 5 rfl rfl)
theorem dX2_holdsFor_8 : decode cX2_holdsFor 8 = .ok (.aload_n 0, 1) := dk_42 (dk_at dksX2_holdsFor_0 8 rfl rfl)
theorem dX2_holdsFor_9 : decode cX2_holdsFor 9 = .ok (.aload_n 0, 1) := dk_42 (dk_at dksX2_holdsFor_0 9 rfl rfl)
theorem dX2_holdsFor_10 : decode cX2_holdsFor 10 = .ok (.iload_n 1, 1) := dk_27 (dk_at dksX2_holdsFor_0 10 rfl rfl)
theorem dX2_holdsFor_11 : decode cX2_holdsFor 11 = .ok (.invokevirtual 308, 3) := dk_182 1 52 (dk_at dksX2_holdsFor_0 11 rfl rfl)
theorem dX2_holdsFor_14 : decode cX2_holdsFor 14 = .ok (.iload_n 2, 1) := dk_28 (dk_at dksX2_holdsFor_0 14 rfl rfl)
theorem dX2_holdsFor_15 : decode cX2_holdsFor 15 = .ok (.invokevirtual 305, 3) := dk_182 1 49 (dk_at dksX2_holdsFor_0 15 rfl rfl)
theorem dX2_holdsFor_18 : decode cX2_holdsFor 18 = .ok (.bipush (-2), 2) := dk_16 254 (dk_at dksX2_holdsFor_0 18 rfl rfl)
theorem dX2_holdsFor_20 : decode cX2_holdsFor 20 = .ok (.if_icmp .ne 5, 3) := dk_160 0 5 (dk_at dksX2_holdsFor_0 20 rfl rfl)
theorem dX2_holdsFor_23 : decode cX2_holdsFor 23 = .ok (.iconst 0, 1) := dk_3 (dk_at dksX2_holdsFor_0 23 rfl rfl)
theorem dX2_holdsFor_24 : decode cX2_holdsFor 24 = .ok (.ireturn, 1) := dk_172 (dk_at dksX2_holdsFor_1 0 rfl rfl)
theorem dX2_holdsFor_25 : decode cX2_holdsFor 25 = .ok (.aload_n 0, 1) := dk_42 (dk_at dksX2_holdsFor_1 1 rfl rfl)
theorem dX2_holdsFor_26 : decode cX2_holdsFor 26 = .ok (.aload_n 0, 1) := dk_42 (dk_at dksX2_holdsFor_1 2 rfl rfl)
theorem dX2_holdsFor_27 : decode cX2_holdsFor 27 = .ok (.iload_n 1, 1) := dk_27 (dk_at dksX2_holdsFor_1 3 rfl rfl)
theorem dX2_holdsFor_28 : decode cX2_holdsFor 28 = .ok (.invokevirtual 311, 3) := dk_182 1 55 (dk_at dksX2_holdsFor_1 4 rfl rfl)
theorem dX2_holdsFor_31 : decode cX2_holdsFor 31 = .ok (.iload_n 2, 1) := dk_28 (dk_at dksX2_holdsFor_1 7 rfl rfl)
theorem dX2_holdsFor_32 : decode cX2_holdsFor 32 = .ok (.invokevirtual 305, 3) := dk_182 1 49 (dk_at dksX2_holdsFor_1 8 rfl rfl)
theorem dX2_holdsFor_35 : decode cX2_holdsFor 35 = .ok (.istore_n 3, 1) := dk_62 (dk_at dksX2_holdsFor_1 11 rfl rfl)
theorem dX2_holdsFor_36 : decode cX2_holdsFor 36 = .ok (.iload_n 3, 1) := dk_29 (dk_at dksX2_holdsFor_1 12 rfl rfl)
theorem dX2_holdsFor_37 : decode cX2_holdsFor 37 = .ok (.bipush (-2), 2) := dk_16 254 (dk_at dksX2_holdsFor_1 13 rfl rfl)
theorem dX2_holdsFor_39 : decode cX2_holdsFor 39 = .ok (.if_icmp .ne 5, 3) := dk_160 0 5 (dk_at dksX2_holdsFor_1 15 rfl rfl)
theorem dX2_holdsFor_42 : decode cX2_holdsFor 42 = .ok (.iconst 0, 1) := dk_3 (dk_at dksX2_holdsFor_1 18 rfl rfl)
theorem dX2_holdsFor_43 : decode cX2_holdsFor 43 = .ok (.ireturn, 1) := dk_172 (dk_at dksX2_holdsFor_1 19 rfl rfl)
theorem dX2_holdsFor_44 : decode cX2_holdsFor 44 = .ok (.aload_n 0, 1) := dk_42 (dk_at dksX2_holdsFor_1 20 rfl rfl)
theorem dX2_holdsFor_45 : decode cX2_holdsFor 45 = .ok (.iload_n 1, 1) := dk_27 (dk_at dksX2_holdsFor_1 21 rfl rfl)
theorem dX2_holdsFor_46 : decode cX2_holdsFor 46 = .ok (.invokevirtual 314, 3) := dk_182 1 58 (dk_at dksX2_holdsFor_2 0 rfl rfl)
theorem dX2_holdsFor_49 : decode cX2_holdsFor 49 = .ok (.iconst 1, 1) := dk_4 (dk_at dksX2_holdsFor_2 3 rfl rfl)
theorem dX2_holdsFor_50 : decode cX2_holdsFor 50 = .ok (.if_icmp .eq 21, 3) := dk_159 0 21 (dk_at dksX2_holdsFor_2 4 rfl rfl)
theorem dX2_holdsFor_53 : decode cX2_holdsFor 53 = .ok (.iload_n 3, 1) := dk_29 (dk_at dksX2_holdsFor_2 7 rfl rfl)
theorem dX2_holdsFor_54 : decode cX2_holdsFor 54 = .ok (.aload_n 0, 1) := dk_42 (dk_at dksX2_holdsFor_2 8 rfl rfl)
theorem dX2_holdsFor_55 : decode cX2_holdsFor 55 = .ok (.aload_n 0, 1) := dk_42 (dk_at dksX2_holdsFor_2 9 rfl rfl)
theorem dX2_holdsFor_56 : decode cX2_holdsFor 56 = .ok (.aload_n 0, 1) := dk_42 (dk_at dksX2_holdsFor_2 10 rfl rfl)
theorem dX2_holdsFor_57 : decode cX2_holdsFor 57 = .ok (.iload_n 1, 1) := dk_27 (dk_at dksX2_holdsFor_2 11 rfl rfl)
theorem dX2_holdsFor_58 : decode cX2_holdsFor 58 = .ok (.invokevirtual 311, 3) := dk_182 1 55 (dk_at dksX2_holdsFor_2 12 rfl rfl)
theorem dX2_holdsFor_61 : decode cX2_holdsFor 61 = .ok (.invokevirtual 286, 3) := dk_182 1 30 (dk_at dksX2_holdsFor_2 15 rfl rfl)
theorem dX2_holdsFor_64 : decode cX2_holdsFor 64 = .ok (.iload_n 2, 1) := dk_28 (dk_at dksX2_holdsFor_2 18 rfl rfl)
theorem dX2_holdsFor_65 : decode cX2_holdsFor 65 = .ok (.invokevirtual 321, 3) := dk_182 1 65 (dk_at dksX2_holdsFor_2 19 rfl rfl)
theorem dX2_holdsFor_68 : decode cX2_holdsFor 68 = .ok (.if_icmp .ne 7, 3) := dk_160 0 7 (dk_at dksX2_holdsFor_3 0 rfl rfl)
theorem dX2_holdsFor_71 : decode cX2_holdsFor 71 = .ok (.iconst 1, 1) := dk_4 (dk_at dksX2_holdsFor_3 3 rfl rfl)
theorem dX2_holdsFor_72 : decode cX2_holdsFor 72 = .ok (.goto 4, 3) := dk_167 0 4 (dk_at dksX2_holdsFor_3 4 rfl rfl)
theorem dX2_holdsFor_75 : decode cX2_holdsFor 75 = .ok (.iconst 0, 1) := dk_3 (dk_at dksX2_holdsFor_3 7 rfl rfl)
theorem dX2_holdsFor_76 : decode cX2_holdsFor 76 = .ok (.ireturn, 1) := dk_172 (dk_at dksX2_holdsFor_3 8 rfl rfl)
abbrev cX2_earliestBy : ByteArray := prog_12_method_65_code
def yX2_earliestBy : MethodName := ⟨RX2, "earliestBy", "(II)I"⟩
def dkwX2_earliestBy_2 : List UInt8 := [159, 0, 14, 21, 5, 29, 162, 0, 8, 21, 5, 167, 0, 4, 29, 62, 132, 4, 1, 167, 255, 198, 29, 172]
abbrev dktX2_earliestBy_2 : List UInt8 := dkwX2_earliestBy_2 ++ []
def dkwX2_earliestBy_1 : List UInt8 := [27, 160, 0, 13, 42, 21, 4, 28, 182, 1, 49, 167, 0, 5, 16, 254, 54, 5, 21, 5, 16, 254]
abbrev dktX2_earliestBy_1 : List UInt8 := dkwX2_earliestBy_1 ++ dktX2_earliestBy_2
def dkwX2_earliestBy_0 : List UInt8 := [19, 1, 61, 62, 3, 54, 4, 21, 4, 42, 180, 0, 22, 5, 46, 162, 0, 53, 42, 21, 4, 182, 1, 30]
abbrev dktX2_earliestBy_0 : List UInt8 := dkwX2_earliestBy_0 ++ dktX2_earliestBy_1
theorem dksX2_earliestBy_0 : cX2_earliestBy.data.toList.drop 0 = dktX2_earliestBy_0 := by decide +kernel
theorem dksX2_earliestBy_1 : cX2_earliestBy.data.toList.drop 24 = dktX2_earliestBy_1 := dk_seg dksX2_earliestBy_0 24 rfl rfl
theorem dksX2_earliestBy_2 : cX2_earliestBy.data.toList.drop 46 = dktX2_earliestBy_2 := dk_seg dksX2_earliestBy_1 22 rfl rfl
theorem dX2_earliestBy_0 : decode cX2_earliestBy 0 = .ok (.ldc_w 317, 3) := dk_19 1 61 (dk_at dksX2_earliestBy_0 0 rfl rfl)
theorem dX2_earliestBy_3 : decode cX2_earliestBy 3 = .ok (.istore_n 3, 1) := dk_62 (dk_at dksX2_earliestBy_0 3 rfl rfl)
theorem dX2_earliestBy_4 : decode cX2_earliestBy 4 = .ok (.iconst 0, 1) := dk_3 (dk_at dksX2_earliestBy_0 4 rfl rfl)
theorem dX2_earliestBy_5 : decode cX2_earliestBy 5 = .ok (.istore 4, 2) := dk_54 4 (dk_at dksX2_earliestBy_0 5 rfl rfl)
theorem dX2_earliestBy_7 : decode cX2_earliestBy 7 = .ok (.iload 4, 2) := dk_21 4 (dk_at dksX2_earliestBy_0 7 rfl rfl)
theorem dX2_earliestBy_9 : decode cX2_earliestBy 9 = .ok (.aload_n 0, 1) := dk_42 (dk_at dksX2_earliestBy_0 9 rfl rfl)
theorem dX2_earliestBy_10 : decode cX2_earliestBy 10 = .ok (.getfield 22, 3) := dk_180 0 22 (dk_at dksX2_earliestBy_0 10 rfl rfl)
theorem dX2_earliestBy_13 : decode cX2_earliestBy 13 = .ok (.iconst 2, 1) := dk_5 (dk_at dksX2_earliestBy_0 13 rfl rfl)
theorem dX2_earliestBy_14 : decode cX2_earliestBy 14 = .ok (.iaload, 1) := dk_46 (dk_at dksX2_earliestBy_0 14 rfl rfl)
theorem dX2_earliestBy_15 : decode cX2_earliestBy 15 = .ok (.if_icmp .ge 53, 3) := dk_162 0 53 (dk_at dksX2_earliestBy_0 15 rfl rfl)
theorem dX2_earliestBy_18 : decode cX2_earliestBy 18 = .ok (.aload_n 0, 1) := dk_42 (dk_at dksX2_earliestBy_0 18 rfl rfl)
theorem dX2_earliestBy_19 : decode cX2_earliestBy 19 = .ok (.iload 4, 2) := dk_21 4 (dk_at dksX2_earliestBy_0 19 rfl rfl)
theorem dX2_earliestBy_21 : decode cX2_earliestBy 21 = .ok (.invokevirtual 286, 3) := dk_182 1 30 (dk_at dksX2_earliestBy_0 21 rfl rfl)
theorem dX2_earliestBy_24 : decode cX2_earliestBy 24 = .ok (.iload_n 1, 1) := dk_27 (dk_at dksX2_earliestBy_1 0 rfl rfl)
theorem dX2_earliestBy_25 : decode cX2_earliestBy 25 = .ok (.if_icmp .ne 13, 3) := dk_160 0 13 (dk_at dksX2_earliestBy_1 1 rfl rfl)
theorem dX2_earliestBy_28 : decode cX2_earliestBy 28 = .ok (.aload_n 0, 1) := dk_42 (dk_at dksX2_earliestBy_1 4 rfl rfl)
theorem dX2_earliestBy_29 : decode cX2_earliestBy 29 = .ok (.iload 4, 2) := dk_21 4 (dk_at dksX2_earliestBy_1 5 rfl rfl)
theorem dX2_earliestBy_31 : decode cX2_earliestBy 31 = .ok (.iload_n 2, 1) := dk_28 (dk_at dksX2_earliestBy_1 7 rfl rfl)
theorem dX2_earliestBy_32 : decode cX2_earliestBy 32 = .ok (.invokevirtual 305, 3) := dk_182 1 49 (dk_at dksX2_earliestBy_1 8 rfl rfl)
theorem dX2_earliestBy_35 : decode cX2_earliestBy 35 = .ok (.goto 5, 3) := dk_167 0 5 (dk_at dksX2_earliestBy_1 11 rfl rfl)
theorem dX2_earliestBy_38 : decode cX2_earliestBy 38 = .ok (.bipush (-2), 2) := dk_16 254 (dk_at dksX2_earliestBy_1 14 rfl rfl)
theorem dX2_earliestBy_40 : decode cX2_earliestBy 40 = .ok (.istore 5, 2) := dk_54 5 (dk_at dksX2_earliestBy_1 16 rfl rfl)
theorem dX2_earliestBy_42 : decode cX2_earliestBy 42 = .ok (.iload 5, 2) := dk_21 5 (dk_at dksX2_earliestBy_1 18 rfl rfl)
theorem dX2_earliestBy_44 : decode cX2_earliestBy 44 = .ok (.bipush (-2), 2) := dk_16 254 (dk_at dksX2_earliestBy_1 20 rfl rfl)
theorem dX2_earliestBy_46 : decode cX2_earliestBy 46 = .ok (.if_icmp .eq 14, 3) := dk_159 0 14 (dk_at dksX2_earliestBy_2 0 rfl rfl)
theorem dX2_earliestBy_49 : decode cX2_earliestBy 49 = .ok (.iload 5, 2) := dk_21 5 (dk_at dksX2_earliestBy_2 3 rfl rfl)
theorem dX2_earliestBy_51 : decode cX2_earliestBy 51 = .ok (.iload_n 3, 1) := dk_29 (dk_at dksX2_earliestBy_2 5 rfl rfl)
theorem dX2_earliestBy_52 : decode cX2_earliestBy 52 = .ok (.if_icmp .ge 8, 3) := dk_162 0 8 (dk_at dksX2_earliestBy_2 6 rfl rfl)
theorem dX2_earliestBy_55 : decode cX2_earliestBy 55 = .ok (.iload 5, 2) := dk_21 5 (dk_at dksX2_earliestBy_2 9 rfl rfl)
theorem dX2_earliestBy_57 : decode cX2_earliestBy 57 = .ok (.goto 4, 3) := dk_167 0 4 (dk_at dksX2_earliestBy_2 11 rfl rfl)
theorem dX2_earliestBy_60 : decode cX2_earliestBy 60 = .ok (.iload_n 3, 1) := dk_29 (dk_at dksX2_earliestBy_2 14 rfl rfl)
theorem dX2_earliestBy_61 : decode cX2_earliestBy 61 = .ok (.istore_n 3, 1) := dk_62 (dk_at dksX2_earliestBy_2 15 rfl rfl)
theorem dX2_earliestBy_62 : decode cX2_earliestBy 62 = .ok (.iinc 4 1, 3) := dk_132 4 1 (dk_at dksX2_earliestBy_2 16 rfl rfl)
theorem dX2_earliestBy_65 : decode cX2_earliestBy 65 = .ok (.goto (-58), 3) := dk_167 255 198 (dk_at dksX2_earliestBy_2 19 rfl rfl)
theorem dX2_earliestBy_68 : decode cX2_earliestBy 68 = .ok (.iload_n 3, 1) := dk_29 (dk_at dksX2_earliestBy_2 22 rfl rfl)
theorem dX2_earliestBy_69 : decode cX2_earliestBy 69 = .ok (.ireturn, 1) := dk_172 (dk_at dksX2_earliestBy_2 23 rfl rfl)
abbrev cX2_reaches : ByteArray := prog_12_method_75_code
def yX2_reaches : MethodName := ⟨RX2, "reaches", "(I)V"⟩
def dkwX2_reaches_6 : List UInt8 := [132, 4, 1, 167, 255, 161, 132, 3, 1, 167, 255, 147, 177]
abbrev dktX2_reaches_6 : List UInt8 := dkwX2_reaches_6 ++ []
def dkwX2_reaches_5 : List UInt8 := [42, 180, 0, 46, 29, 46, 46, 4, 96, 79, 42, 180, 0, 46, 28, 21, 5, 79, 28, 4, 96, 61]
abbrev dktX2_reaches_5 : List UInt8 := dkwX2_reaches_5 ++ dktX2_reaches_6
def dkwX2_reaches_4 : List UInt8 := [42, 180, 0, 43, 21, 5, 46, 2, 159, 0, 6, 167, 0, 35, 42, 180, 0, 43, 21, 5, 42, 180, 0, 43]
abbrev dktX2_reaches_4 : List UInt8 := dkwX2_reaches_4 ++ dktX2_reaches_5
def dkwX2_reaches_3 : List UInt8 := [180, 0, 39, 21, 4, 51, 153, 0, 64, 42, 21, 4, 182, 1, 52, 42, 180, 0, 46, 29, 46, 160, 0, 49]
abbrev dktX2_reaches_3 : List UInt8 := dkwX2_reaches_3 ++ dktX2_reaches_4
def dkwX2_reaches_2 : List UInt8 := [54, 4, 21, 4, 42, 180, 0, 13, 17, 1, 0, 46, 162, 0, 88, 42, 21, 4, 182, 1, 55, 54, 5, 42]
abbrev dktX2_reaches_2 : List UInt8 := dkwX2_reaches_2 ++ dktX2_reaches_3
def dkwX2_reaches_1 : List UInt8 := [180, 0, 43, 27, 3, 79, 42, 180, 0, 46, 3, 27, 79, 4, 61, 3, 62, 29, 28, 162, 0, 110, 3]
abbrev dktX2_reaches_1 : List UInt8 := dkwX2_reaches_1 ++ dktX2_reaches_2
def dkwX2_reaches_0 : List UInt8 := [3, 61, 28, 16, 14, 162, 0, 16, 42, 180, 0, 43, 28, 2, 79, 132, 2, 1, 167, 255, 240, 42]
abbrev dktX2_reaches_0 : List UInt8 := dkwX2_reaches_0 ++ dktX2_reaches_1
theorem dksX2_reaches_0 : cX2_reaches.data.toList.drop 0 = dktX2_reaches_0 := by decide +kernel
theorem dksX2_reaches_1 : cX2_reaches.data.toList.drop 22 = dktX2_reaches_1 := dk_seg dksX2_reaches_0 22 rfl rfl
theorem dksX2_reaches_2 : cX2_reaches.data.toList.drop 45 = dktX2_reaches_2 := dk_seg dksX2_reaches_1 23 rfl rfl
theorem dksX2_reaches_3 : cX2_reaches.data.toList.drop 69 = dktX2_reaches_3 := dk_seg dksX2_reaches_2 24 rfl rfl
theorem dksX2_reaches_4 : cX2_reaches.data.toList.drop 93 = dktX2_reaches_4 := dk_seg dksX2_reaches_3 24 rfl rfl
theorem dksX2_reaches_5 : cX2_reaches.data.toList.drop 117 = dktX2_reaches_5 := dk_seg dksX2_reaches_4 24 rfl rfl
theorem dksX2_reaches_6 : cX2_reaches.data.toList.drop 139 = dktX2_reaches_6 := dk_seg dksX2_reaches_5 22 rfl rfl
theorem dX2_reaches_0 : decode cX2_reaches 0 = .ok (.iconst 0, 1) := dk_3 (dk_at dksX2_reaches_0 0 rfl rfl)
theorem dX2_reaches_1 : decode cX2_reaches 1 = .ok (.istore_n 2, 1) := dk_61 (dk_at dksX2_reaches_0 1 rfl rfl)
theorem dX2_reaches_2 : decode cX2_reaches 2 = .ok (.iload_n 2, 1) := dk_28 (dk_at dksX2_reaches_0 2 rfl rfl)
theorem dX2_reaches_3 : decode cX2_reaches 3 = .ok (.bipush 14, 2) := dk_16 14 (dk_at dksX2_reaches_0 3 rfl rfl)
theorem dX2_reaches_5 : decode cX2_reaches 5 = .ok (.if_icmp .ge 16, 3) := dk_162 0 16 (dk_at dksX2_reaches_0 5 rfl rfl)
theorem dX2_reaches_8 : decode cX2_reaches 8 = .ok (.aload_n 0, 1) := dk_42 (dk_at dksX2_reaches_0 8 rfl rfl)
theorem dX2_reaches_9 : decode cX2_reaches 9 = .ok (.getfield 43, 3) := dk_180 0 43 (dk_at dksX2_reaches_0 9 rfl rfl)
theorem dX2_reaches_12 : decode cX2_reaches 12 = .ok (.iload_n 2, 1) := dk_28 (dk_at dksX2_reaches_0 12 rfl rfl)
theorem dX2_reaches_13 : decode cX2_reaches 13 = .ok (.iconst (-1), 1) := dk_2 (dk_at dksX2_reaches_0 13 rfl rfl)
theorem dX2_reaches_14 : decode cX2_reaches 14 = .ok (.iastore, 1) := dk_79 (dk_at dksX2_reaches_0 14 rfl rfl)
theorem dX2_reaches_15 : decode cX2_reaches 15 = .ok (.iinc 2 1, 3) := dk_132 2 1 (dk_at dksX2_reaches_0 15 rfl rfl)
theorem dX2_reaches_18 : decode cX2_reaches 18 = .ok (.goto (-16), 3) := dk_167 255 240 (dk_at dksX2_reaches_0 18 rfl rfl)
theorem dX2_reaches_21 : decode cX2_reaches 21 = .ok (.aload_n 0, 1) := dk_42 (dk_at dksX2_reaches_0 21 rfl rfl)
theorem dX2_reaches_22 : decode cX2_reaches 22 = .ok (.getfield 43, 3) := dk_180 0 43 (dk_at dksX2_reaches_1 0 rfl rfl)
theorem dX2_reaches_25 : decode cX2_reaches 25 = .ok (.iload_n 1, 1) := dk_27 (dk_at dksX2_reaches_1 3 rfl rfl)
theorem dX2_reaches_26 : decode cX2_reaches 26 = .ok (.iconst 0, 1) := dk_3 (dk_at dksX2_reaches_1 4 rfl rfl)
theorem dX2_reaches_27 : decode cX2_reaches 27 = .ok (.iastore, 1) := dk_79 (dk_at dksX2_reaches_1 5 rfl rfl)
theorem dX2_reaches_28 : decode cX2_reaches 28 = .ok (.aload_n 0, 1) := dk_42 (dk_at dksX2_reaches_1 6 rfl rfl)
theorem dX2_reaches_29 : decode cX2_reaches 29 = .ok (.getfield 46, 3) := dk_180 0 46 (dk_at dksX2_reaches_1 7 rfl rfl)
theorem dX2_reaches_32 : decode cX2_reaches 32 = .ok (.iconst 0, 1) := dk_3 (dk_at dksX2_reaches_1 10 rfl rfl)
theorem dX2_reaches_33 : decode cX2_reaches 33 = .ok (.iload_n 1, 1) := dk_27 (dk_at dksX2_reaches_1 11 rfl rfl)
theorem dX2_reaches_34 : decode cX2_reaches 34 = .ok (.iastore, 1) := dk_79 (dk_at dksX2_reaches_1 12 rfl rfl)
theorem dX2_reaches_35 : decode cX2_reaches 35 = .ok (.iconst 1, 1) := dk_4 (dk_at dksX2_reaches_1 13 rfl rfl)
theorem dX2_reaches_36 : decode cX2_reaches 36 = .ok (.istore_n 2, 1) := dk_61 (dk_at dksX2_reaches_1 14 rfl rfl)
theorem dX2_reaches_37 : decode cX2_reaches 37 = .ok (.iconst 0, 1) := dk_3 (dk_at dksX2_reaches_1 15 rfl rfl)
theorem dX2_reaches_38 : decode cX2_reaches 38 = .ok (.istore_n 3, 1) := dk_62 (dk_at dksX2_reaches_1 16 rfl rfl)
theorem dX2_reaches_39 : decode cX2_reaches 39 = .ok (.iload_n 3, 1) := dk_29 (dk_at dksX2_reaches_1 17 rfl rfl)
theorem dX2_reaches_40 : decode cX2_reaches 40 = .ok (.iload_n 2, 1) := dk_28 (dk_at dksX2_reaches_1 18 rfl rfl)
theorem dX2_reaches_41 : decode cX2_reaches 41 = .ok (.if_icmp .ge 110, 3) := dk_162 0 110 (dk_at dksX2_reaches_1 19 rfl rfl)
theorem dX2_reaches_44 : decode cX2_reaches 44 = .ok (.iconst 0, 1) := dk_3 (dk_at dksX2_reaches_1 22 rfl rfl)
theorem dX2_reaches_45 : decode cX2_reaches 45 = .ok (.istore 4, 2) := dk_54 4 (dk_at dksX2_reaches_2 0 rfl rfl)
theorem dX2_reaches_47 : decode cX2_reaches 47 = .ok (.iload 4, 2) := dk_21 4 (dk_at dksX2_reaches_2 2 rfl rfl)
theorem dX2_reaches_49 : decode cX2_reaches 49 = .ok (.aload_n 0, 1) := dk_42 (dk_at dksX2_reaches_2 4 rfl rfl)
theorem dX2_reaches_50 : decode cX2_reaches 50 = .ok (.getfield 13, 3) := dk_180 0 13 (dk_at dksX2_reaches_2 5 rfl rfl)
theorem dX2_reaches_53 : decode cX2_reaches 53 = .ok (.sipush 256, 3) := dk_17 1 0 (dk_at dksX2_reaches_2 8 rfl rfl)
theorem dX2_reaches_56 : decode cX2_reaches 56 = .ok (.iaload, 1) := dk_46 (dk_at dksX2_reaches_2 11 rfl rfl)
theorem dX2_reaches_57 : decode cX2_reaches 57 = .ok (.if_icmp .ge 88, 3) := dk_162 0 88 (dk_at dksX2_reaches_2 12 rfl rfl)
theorem dX2_reaches_60 : decode cX2_reaches 60 = .ok (.aload_n 0, 1) := dk_42 (dk_at dksX2_reaches_2 15 rfl rfl)
theorem dX2_reaches_61 : decode cX2_reaches 61 = .ok (.iload 4, 2) := dk_21 4 (dk_at dksX2_reaches_2 16 rfl rfl)
theorem dX2_reaches_63 : decode cX2_reaches 63 = .ok (.invokevirtual 311, 3) := dk_182 1 55 (dk_at dksX2_reaches_2 18 rfl rfl)
theorem dX2_reaches_66 : decode cX2_reaches 66 = .ok (.istore 5, 2) := dk_54 5 (dk_at dksX2_reaches_2 21 rfl rfl)
theorem dX2_reaches_68 : decode cX2_reaches 68 = .ok (.aload_n 0, 1) := dk_42 (dk_at dksX2_reaches_2 23 rfl rfl)
theorem dX2_reaches_69 : decode cX2_reaches 69 = .ok (.getfield 39, 3) := dk_180 0 39 (dk_at dksX2_reaches_3 0 rfl rfl)
theorem dX2_reaches_72 : decode cX2_reaches 72 = .ok (.iload 4, 2) := dk_21 4 (dk_at dksX2_reaches_3 3 rfl rfl)
theorem dX2_reaches_74 : decode cX2_reaches 74 = .ok (.baload, 1) := dk_51 (dk_at dksX2_reaches_3 5 rfl rfl)
theorem dX2_reaches_75 : decode cX2_reaches 75 = .ok (.ifCond .eq 64, 3) := dk_153 0 64 (dk_at dksX2_reaches_3 6 rfl rfl)
theorem dX2_reaches_78 : decode cX2_reaches 78 = .ok (.aload_n 0, 1) := dk_42 (dk_at dksX2_reaches_3 9 rfl rfl)
theorem dX2_reaches_79 : decode cX2_reaches 79 = .ok (.iload 4, 2) := dk_21 4 (dk_at dksX2_reaches_3 10 rfl rfl)
theorem dX2_reaches_81 : decode cX2_reaches 81 = .ok (.invokevirtual 308, 3) := dk_182 1 52 (dk_at dksX2_reaches_3 12 rfl rfl)
theorem dX2_reaches_84 : decode cX2_reaches 84 = .ok (.aload_n 0, 1) := dk_42 (dk_at dksX2_reaches_3 15 rfl rfl)
theorem dX2_reaches_85 : decode cX2_reaches 85 = .ok (.getfield 46, 3) := dk_180 0 46 (dk_at dksX2_reaches_3 16 rfl rfl)
theorem dX2_reaches_88 : decode cX2_reaches 88 = .ok (.iload_n 3, 1) := dk_29 (dk_at dksX2_reaches_3 19 rfl rfl)
theorem dX2_reaches_89 : decode cX2_reaches 89 = .ok (.iaload, 1) := dk_46 (dk_at dksX2_reaches_3 20 rfl rfl)
theorem dX2_reaches_90 : decode cX2_reaches 90 = .ok (.if_icmp .ne 49, 3) := dk_160 0 49 (dk_at dksX2_reaches_3 21 rfl rfl)
theorem dX2_reaches_93 : decode cX2_reaches 93 = .ok (.aload_n 0, 1) := dk_42 (dk_at dksX2_reaches_4 0 rfl rfl)
theorem dX2_reaches_94 : decode cX2_reaches 94 = .ok (.getfield 43, 3) := dk_180 0 43 (dk_at dksX2_reaches_4 1 rfl rfl)
theorem dX2_reaches_97 : decode cX2_reaches 97 = .ok (.iload 5, 2) := dk_21 5 (dk_at dksX2_reaches_4 4 rfl rfl)
theorem dX2_reaches_99 : decode cX2_reaches 99 = .ok (.iaload, 1) := dk_46 (dk_at dksX2_reaches_4 6 rfl rfl)
theorem dX2_reaches_100 : decode cX2_reaches 100 = .ok (.iconst (-1), 1) := dk_2 (dk_at dksX2_reaches_4 7 rfl rfl)
theorem dX2_reaches_101 : decode cX2_reaches 101 = .ok (.if_icmp .eq 6, 3) := dk_159 0 6 (dk_at dksX2_reaches_4 8 rfl rfl)
theorem dX2_reaches_104 : decode cX2_reaches 104 = .ok (.goto 35, 3) := dk_167 0 35 (dk_at dksX2_reaches_4 11 rfl rfl)
theorem dX2_reaches_107 : decode cX2_reaches 107 = .ok (.aload_n 0, 1) := dk_42 (dk_at dksX2_reaches_4 14 rfl rfl)
theorem dX2_reaches_108 : decode cX2_reaches 108 = .ok (.getfield 43, 3) := dk_180 0 43 (dk_at dksX2_reaches_4 15 rfl rfl)
theorem dX2_reaches_111 : decode cX2_reaches 111 = .ok (.iload 5, 2) := dk_21 5 (dk_at dksX2_reaches_4 18 rfl rfl)
theorem dX2_reaches_113 : decode cX2_reaches 113 = .ok (.aload_n 0, 1) := dk_42 (dk_at dksX2_reaches_4 20 rfl rfl)
theorem dX2_reaches_114 : decode cX2_reaches 114 = .ok (.getfield 43, 3) := dk_180 0 43 (dk_at dksX2_reaches_4 21 rfl rfl)
theorem dX2_reaches_117 : decode cX2_reaches 117 = .ok (.aload_n 0, 1) := dk_42 (dk_at dksX2_reaches_5 0 rfl rfl)
theorem dX2_reaches_118 : decode cX2_reaches 118 = .ok (.getfield 46, 3) := dk_180 0 46 (dk_at dksX2_reaches_5 1 rfl rfl)
theorem dX2_reaches_121 : decode cX2_reaches 121 = .ok (.iload_n 3, 1) := dk_29 (dk_at dksX2_reaches_5 4 rfl rfl)
theorem dX2_reaches_122 : decode cX2_reaches 122 = .ok (.iaload, 1) := dk_46 (dk_at dksX2_reaches_5 5 rfl rfl)
theorem dX2_reaches_123 : decode cX2_reaches 123 = .ok (.iaload, 1) := dk_46 (dk_at dksX2_reaches_5 6 rfl rfl)
theorem dX2_reaches_124 : decode cX2_reaches 124 = .ok (.iconst 1, 1) := dk_4 (dk_at dksX2_reaches_5 7 rfl rfl)
theorem dX2_reaches_125 : decode cX2_reaches 125 = .ok (.iadd, 1) := dk_96 (dk_at dksX2_reaches_5 8 rfl rfl)
theorem dX2_reaches_126 : decode cX2_reaches 126 = .ok (.iastore, 1) := dk_79 (dk_at dksX2_reaches_5 9 rfl rfl)
theorem dX2_reaches_127 : decode cX2_reaches 127 = .ok (.aload_n 0, 1) := dk_42 (dk_at dksX2_reaches_5 10 rfl rfl)
theorem dX2_reaches_128 : decode cX2_reaches 128 = .ok (.getfield 46, 3) := dk_180 0 46 (dk_at dksX2_reaches_5 11 rfl rfl)
theorem dX2_reaches_131 : decode cX2_reaches 131 = .ok (.iload_n 2, 1) := dk_28 (dk_at dksX2_reaches_5 14 rfl rfl)
theorem dX2_reaches_132 : decode cX2_reaches 132 = .ok (.iload 5, 2) := dk_21 5 (dk_at dksX2_reaches_5 15 rfl rfl)
theorem dX2_reaches_134 : decode cX2_reaches 134 = .ok (.iastore, 1) := dk_79 (dk_at dksX2_reaches_5 17 rfl rfl)
theorem dX2_reaches_135 : decode cX2_reaches 135 = .ok (.iload_n 2, 1) := dk_28 (dk_at dksX2_reaches_5 18 rfl rfl)
theorem dX2_reaches_136 : decode cX2_reaches 136 = .ok (.iconst 1, 1) := dk_4 (dk_at dksX2_reaches_5 19 rfl rfl)
theorem dX2_reaches_137 : decode cX2_reaches 137 = .ok (.iadd, 1) := dk_96 (dk_at dksX2_reaches_5 20 rfl rfl)
theorem dX2_reaches_138 : decode cX2_reaches 138 = .ok (.istore_n 2, 1) := dk_61 (dk_at dksX2_reaches_5 21 rfl rfl)
theorem dX2_reaches_139 : decode cX2_reaches 139 = .ok (.iinc 4 1, 3) := dk_132 4 1 (dk_at dksX2_reaches_6 0 rfl rfl)
theorem dX2_reaches_142 : decode cX2_reaches 142 = .ok (.goto (-95), 3) := dk_167 255 161 (dk_at dksX2_reaches_6 3 rfl rfl)
theorem dX2_reaches_145 : decode cX2_reaches 145 = .ok (.iinc 3 1, 3) := dk_132 3 1 (dk_at dksX2_reaches_6 6 rfl rfl)
theorem dX2_reaches_148 : decode cX2_reaches 148 = .ok (.goto (-109), 3) := dk_167 255 147 (dk_at dksX2_reaches_6 9 rfl rfl)
theorem dX2_reaches_151 : decode cX2_reaches 151 = .ok (.return_, 1) := dk_177 (dk_at dksX2_reaches_6 12 rfl rfl)
abbrev cX2_daterNow : ByteArray := prog_12_method_76_code
def yX2_daterNow : MethodName := ⟨RX2, "daterNow", "(I)I"⟩
def dkwX2_daterNow_3 : List UInt8 := [46, 162, 0, 7, 29, 167, 0, 4, 28, 61, 132, 3, 1, 167, 255, 175, 28, 172]
abbrev dktX2_daterNow_3 : List UInt8 := dkwX2_daterNow_3 ++ []
def dkwX2_daterNow_2 : List UInt8 := [100, 54, 4, 21, 4, 155, 0, 23, 21, 4, 154, 0, 22, 42, 180, 0, 43, 29, 46, 42, 180, 0, 43, 28]
abbrev dktX2_daterNow_2 : List UInt8 := dkwX2_daterNow_2 ++ dktX2_daterNow_3
def dkwX2_daterNow_1 : List UInt8 := [167, 0, 58, 28, 2, 160, 0, 7, 2, 167, 0, 16, 42, 29, 27, 182, 1, 49, 42, 28, 27, 182, 1, 49]
abbrev dktX2_daterNow_1 : List UInt8 := dkwX2_daterNow_1 ++ dktX2_daterNow_2
def dkwX2_daterNow_0 : List UInt8 := [2, 61, 3, 62, 29, 42, 180, 0, 22, 5, 46, 162, 0, 77, 42, 180, 0, 43, 29, 46, 2, 160, 0, 6]
abbrev dktX2_daterNow_0 : List UInt8 := dkwX2_daterNow_0 ++ dktX2_daterNow_1
theorem dksX2_daterNow_0 : cX2_daterNow.data.toList.drop 0 = dktX2_daterNow_0 := by decide +kernel
theorem dksX2_daterNow_1 : cX2_daterNow.data.toList.drop 24 = dktX2_daterNow_1 := dk_seg dksX2_daterNow_0 24 rfl rfl
theorem dksX2_daterNow_2 : cX2_daterNow.data.toList.drop 48 = dktX2_daterNow_2 := dk_seg dksX2_daterNow_1 24 rfl rfl
theorem dksX2_daterNow_3 : cX2_daterNow.data.toList.drop 72 = dktX2_daterNow_3 := dk_seg dksX2_daterNow_2 24 rfl rfl
theorem dX2_daterNow_0 : decode cX2_daterNow 0 = .ok (.iconst (-1), 1) := dk_2 (dk_at dksX2_daterNow_0 0 rfl rfl)
theorem dX2_daterNow_1 : decode cX2_daterNow 1 = .ok (.istore_n 2, 1) := dk_61 (dk_at dksX2_daterNow_0 1 rfl rfl)
theorem dX2_daterNow_2 : decode cX2_daterNow 2 = .ok (.iconst 0, 1) := dk_3 (dk_at dksX2_daterNow_0 2 rfl rfl)
theorem dX2_daterNow_3 : decode cX2_daterNow 3 = .ok (.istore_n 3, 1) := dk_62 (dk_at dksX2_daterNow_0 3 rfl rfl)
theorem dX2_daterNow_4 : decode cX2_daterNow 4 = .ok (.iload_n 3, 1) := dk_29 (dk_at dksX2_daterNow_0 4 rfl rfl)
theorem dX2_daterNow_5 : decode cX2_daterNow 5 = .ok (.aload_n 0, 1) := dk_42 (dk_at dksX2_daterNow_0 5 rfl rfl)
theorem dX2_daterNow_6 : decode cX2_daterNow 6 = .ok (.getfield 22, 3) := dk_180 0 22 (dk_at dksX2_daterNow_0 6 rfl rfl)
theorem dX2_daterNow_9 : decode cX2_daterNow 9 = .ok (.iconst 2, 1) := dk_5 (dk_at dksX2_daterNow_0 9 rfl rfl)
theorem dX2_daterNow_10 : decode cX2_daterNow 10 = .ok (.iaload, 1) := dk_46 (dk_at dksX2_daterNow_0 10 rfl rfl)
theorem dX2_daterNow_11 : decode cX2_daterNow 11 = .ok (.if_icmp .ge 77, 3) := dk_162 0 77 (dk_at dksX2_daterNow_0 11 rfl rfl)
theorem dX2_daterNow_14 : decode cX2_daterNow 14 = .ok (.aload_n 0, 1) := dk_42 (dk_at dksX2_daterNow_0 14 rfl rfl)
theorem dX2_daterNow_15 : decode cX2_daterNow 15 = .ok (.getfield 43, 3) := dk_180 0 43 (dk_at dksX2_daterNow_0 15 rfl rfl)
theorem dX2_daterNow_18 : decode cX2_daterNow 18 = .ok (.iload_n 3, 1) := dk_29 (dk_at dksX2_daterNow_0 18 rfl rfl)
theorem dX2_daterNow_19 : decode cX2_daterNow 19 = .ok (.iaload, 1) := dk_46 (dk_at dksX2_daterNow_0 19 rfl rfl)
theorem dX2_daterNow_20 : decode cX2_daterNow 20 = .ok (.iconst (-1), 1) := dk_2 (dk_at dksX2_daterNow_0 20 rfl rfl)
theorem dX2_daterNow_21 : decode cX2_daterNow 21 = .ok (.if_icmp .ne 6, 3) := dk_160 0 6 (dk_at dksX2_daterNow_0 21 rfl rfl)
theorem dX2_daterNow_24 : decode cX2_daterNow 24 = .ok (.goto 58, 3) := dk_167 0 58 (dk_at dksX2_daterNow_1 0 rfl rfl)
theorem dX2_daterNow_27 : decode cX2_daterNow 27 = .ok (.iload_n 2, 1) := dk_28 (dk_at dksX2_daterNow_1 3 rfl rfl)
theorem dX2_daterNow_28 : decode cX2_daterNow 28 = .ok (.iconst (-1), 1) := dk_2 (dk_at dksX2_daterNow_1 4 rfl rfl)
theorem dX2_daterNow_29 : decode cX2_daterNow 29 = .ok (.if_icmp .ne 7, 3) := dk_160 0 7 (dk_at dksX2_daterNow_1 5 rfl rfl)
theorem dX2_daterNow_32 : decode cX2_daterNow 32 = .ok (.iconst (-1), 1) := dk_2 (dk_at dksX2_daterNow_1 8 rfl rfl)
theorem dX2_daterNow_33 : decode cX2_daterNow 33 = .ok (.goto 16, 3) := dk_167 0 16 (dk_at dksX2_daterNow_1 9 rfl rfl)
theorem dX2_daterNow_36 : decode cX2_daterNow 36 = .ok (.aload_n 0, 1) := dk_42 (dk_at dksX2_daterNow_1 12 rfl rfl)
theorem dX2_daterNow_37 : decode cX2_daterNow 37 = .ok (.iload_n 3, 1) := dk_29 (dk_at dksX2_daterNow_1 13 rfl rfl)
theorem dX2_daterNow_38 : decode cX2_daterNow 38 = .ok (.iload_n 1, 1) := dk_27 (dk_at dksX2_daterNow_1 14 rfl rfl)
theorem dX2_daterNow_39 : decode cX2_daterNow 39 = .ok (.invokevirtual 305, 3) := dk_182 1 49 (dk_at dksX2_daterNow_1 15 rfl rfl)
theorem dX2_daterNow_42 : decode cX2_daterNow 42 = .ok (.aload_n 0, 1) := dk_42 (dk_at dksX2_daterNow_1 18 rfl rfl)
theorem dX2_daterNow_43 : decode cX2_daterNow 43 = .ok (.iload_n 2, 1) := dk_28 (dk_at dksX2_daterNow_1 19 rfl rfl)
theorem dX2_daterNow_44 : decode cX2_daterNow 44 = .ok (.iload_n 1, 1) := dk_27 (dk_at dksX2_daterNow_1 20 rfl rfl)
theorem dX2_daterNow_45 : decode cX2_daterNow 45 = .ok (.invokevirtual 305, 3) := dk_182 1 49 (dk_at dksX2_daterNow_1 21 rfl rfl)
theorem dX2_daterNow_48 : decode cX2_daterNow 48 = .ok (.isub, 1) := dk_100 (dk_at dksX2_daterNow_2 0 rfl rfl)
theorem dX2_daterNow_49 : decode cX2_daterNow 49 = .ok (.istore 4, 2) := dk_54 4 (dk_at dksX2_daterNow_2 1 rfl rfl)
theorem dX2_daterNow_51 : decode cX2_daterNow 51 = .ok (.iload 4, 2) := dk_21 4 (dk_at dksX2_daterNow_2 3 rfl rfl)
theorem dX2_daterNow_53 : decode cX2_daterNow 53 = .ok (.ifCond .lt 23, 3) := dk_155 0 23 (dk_at dksX2_daterNow_2 5 rfl rfl)
theorem dX2_daterNow_56 : decode cX2_daterNow 56 = .ok (.iload 4, 2) := dk_21 4 (dk_at dksX2_daterNow_2 8 rfl rfl)
theorem dX2_daterNow_58 : decode cX2_daterNow 58 = .ok (.ifCond .ne 22, 3) := dk_154 0 22 (dk_at dksX2_daterNow_2 10 rfl rfl)
theorem dX2_daterNow_61 : decode cX2_daterNow 61 = .ok (.aload_n 0, 1) := dk_42 (dk_at dksX2_daterNow_2 13 rfl rfl)
theorem dX2_daterNow_62 : decode cX2_daterNow 62 = .ok (.getfield 43, 3) := dk_180 0 43 (dk_at dksX2_daterNow_2 14 rfl rfl)
theorem dX2_daterNow_65 : decode cX2_daterNow 65 = .ok (.iload_n 3, 1) := dk_29 (dk_at dksX2_daterNow_2 17 rfl rfl)
theorem dX2_daterNow_66 : decode cX2_daterNow 66 = .ok (.iaload, 1) := dk_46 (dk_at dksX2_daterNow_2 18 rfl rfl)
theorem dX2_daterNow_67 : decode cX2_daterNow 67 = .ok (.aload_n 0, 1) := dk_42 (dk_at dksX2_daterNow_2 19 rfl rfl)
theorem dX2_daterNow_68 : decode cX2_daterNow 68 = .ok (.getfield 43, 3) := dk_180 0 43 (dk_at dksX2_daterNow_2 20 rfl rfl)
theorem dX2_daterNow_71 : decode cX2_daterNow 71 = .ok (.iload_n 2, 1) := dk_28 (dk_at dksX2_daterNow_2 23 rfl rfl)
theorem dX2_daterNow_72 : decode cX2_daterNow 72 = .ok (.iaload, 1) := dk_46 (dk_at dksX2_daterNow_3 0 rfl rfl)
theorem dX2_daterNow_73 : decode cX2_daterNow 73 = .ok (.if_icmp .ge 7, 3) := dk_162 0 7 (dk_at dksX2_daterNow_3 1 rfl rfl)
theorem dX2_daterNow_76 : decode cX2_daterNow 76 = .ok (.iload_n 3, 1) := dk_29 (dk_at dksX2_daterNow_3 4 rfl rfl)
theorem dX2_daterNow_77 : decode cX2_daterNow 77 = .ok (.goto 4, 3) := dk_167 0 4 (dk_at dksX2_daterNow_3 5 rfl rfl)
theorem dX2_daterNow_80 : decode cX2_daterNow 80 = .ok (.iload_n 2, 1) := dk_28 (dk_at dksX2_daterNow_3 8 rfl rfl)
theorem dX2_daterNow_81 : decode cX2_daterNow 81 = .ok (.istore_n 2, 1) := dk_61 (dk_at dksX2_daterNow_3 9 rfl rfl)
theorem dX2_daterNow_82 : decode cX2_daterNow 82 = .ok (.iinc 3 1, 3) := dk_132 3 1 (dk_at dksX2_daterNow_3 10 rfl rfl)
theorem dX2_daterNow_85 : decode cX2_daterNow 85 = .ok (.goto (-81), 3) := dk_167 255 175 (dk_at dksX2_daterNow_3 13 rfl rfl)
theorem dX2_daterNow_88 : decode cX2_daterNow 88 = .ok (.iload_n 2, 1) := dk_28 (dk_at dksX2_daterNow_3 16 rfl rfl)
theorem dX2_daterNow_89 : decode cX2_daterNow 89 = .ok (.ireturn, 1) := dk_172 (dk_at dksX2_daterNow_3 17 rfl rfl)
abbrev cX2_claimFiler : ByteArray := prog_12_method_92_code
def yX2_claimFiler : MethodName := ⟨RX2, "claimFiler", "(I)I"⟩
def dkwX2_claimFiler_0 : List UInt8 := [42, 42, 180, 0, 22, 16, 19, 27, 96, 46, 182, 1, 30, 172]
abbrev dktX2_claimFiler_0 : List UInt8 := dkwX2_claimFiler_0 ++ []
theorem dksX2_claimFiler_0 : cX2_claimFiler.data.toList.drop 0 = dktX2_claimFiler_0 := by decide +kernel
theorem dX2_claimFiler_0 : decode cX2_claimFiler 0 = .ok (.aload_n 0, 1) := dk_42 (dk_at dksX2_claimFiler_0 0 rfl rfl)
theorem dX2_claimFiler_1 : decode cX2_claimFiler 1 = .ok (.aload_n 0, 1) := dk_42 (dk_at dksX2_claimFiler_0 1 rfl rfl)
theorem dX2_claimFiler_2 : decode cX2_claimFiler 2 = .ok (.getfield 22, 3) := dk_180 0 22 (dk_at dksX2_claimFiler_0 2 rfl rfl)
theorem dX2_claimFiler_5 : decode cX2_claimFiler 5 = .ok (.bipush 19, 2) := dk_16 19 (dk_at dksX2_claimFiler_0 5 rfl rfl)
theorem dX2_claimFiler_7 : decode cX2_claimFiler 7 = .ok (.iload_n 1, 1) := dk_27 (dk_at dksX2_claimFiler_0 7 rfl rfl)
theorem dX2_claimFiler_8 : decode cX2_claimFiler 8 = .ok (.iadd, 1) := dk_96 (dk_at dksX2_claimFiler_0 8 rfl rfl)
theorem dX2_claimFiler_9 : decode cX2_claimFiler 9 = .ok (.iaload, 1) := dk_46 (dk_at dksX2_claimFiler_0 9 rfl rfl)
theorem dX2_claimFiler_10 : decode cX2_claimFiler 10 = .ok (.invokevirtual 286, 3) := dk_182 1 30 (dk_at dksX2_claimFiler_0 10 rfl rfl)
theorem dX2_claimFiler_13 : decode cX2_claimFiler 13 = .ok (.ireturn, 1) := dk_172 (dk_at dksX2_claimFiler_0 13 rfl rfl)
abbrev cX2_claimDate : ByteArray := prog_12_method_91_code
def yX2_claimDate : MethodName := ⟨RX2, "claimDate", "(II)I"⟩
def dkwX2_claimDate_0 : List UInt8 := [42, 42, 180, 0, 22, 16, 19, 27, 96, 46, 42, 180, 0, 22, 16, 35, 27, 96, 46, 28, 182, 1, 91, 172]
abbrev dktX2_claimDate_0 : List UInt8 := dkwX2_claimDate_0 ++ []
theorem dksX2_claimDate_0 : cX2_claimDate.data.toList.drop 0 = dktX2_claimDate_0 := by decide +kernel
theorem dX2_claimDate_0 : decode cX2_claimDate 0 = .ok (.aload_n 0, 1) := dk_42 (dk_at dksX2_claimDate_0 0 rfl rfl)
theorem dX2_claimDate_1 : decode cX2_claimDate 1 = .ok (.aload_n 0, 1) := dk_42 (dk_at dksX2_claimDate_0 1 rfl rfl)
theorem dX2_claimDate_2 : decode cX2_claimDate 2 = .ok (.getfield 22, 3) := dk_180 0 22 (dk_at dksX2_claimDate_0 2 rfl rfl)
theorem dX2_claimDate_5 : decode cX2_claimDate 5 = .ok (.bipush 19, 2) := dk_16 19 (dk_at dksX2_claimDate_0 5 rfl rfl)
theorem dX2_claimDate_7 : decode cX2_claimDate 7 = .ok (.iload_n 1, 1) := dk_27 (dk_at dksX2_claimDate_0 7 rfl rfl)
theorem dX2_claimDate_8 : decode cX2_claimDate 8 = .ok (.iadd, 1) := dk_96 (dk_at dksX2_claimDate_0 8 rfl rfl)
theorem dX2_claimDate_9 : decode cX2_claimDate 9 = .ok (.iaload, 1) := dk_46 (dk_at dksX2_claimDate_0 9 rfl rfl)
theorem dX2_claimDate_10 : decode cX2_claimDate 10 = .ok (.aload_n 0, 1) := dk_42 (dk_at dksX2_claimDate_0 10 rfl rfl)
theorem dX2_claimDate_11 : decode cX2_claimDate 11 = .ok (.getfield 22, 3) := dk_180 0 22 (dk_at dksX2_claimDate_0 11 rfl rfl)
theorem dX2_claimDate_14 : decode cX2_claimDate 14 = .ok (.bipush 35, 2) := dk_16 35 (dk_at dksX2_claimDate_0 14 rfl rfl)
theorem dX2_claimDate_16 : decode cX2_claimDate 16 = .ok (.iload_n 1, 1) := dk_27 (dk_at dksX2_claimDate_0 16 rfl rfl)
theorem dX2_claimDate_17 : decode cX2_claimDate 17 = .ok (.iadd, 1) := dk_96 (dk_at dksX2_claimDate_0 17 rfl rfl)
theorem dX2_claimDate_18 : decode cX2_claimDate 18 = .ok (.iaload, 1) := dk_46 (dk_at dksX2_claimDate_0 18 rfl rfl)
theorem dX2_claimDate_19 : decode cX2_claimDate 19 = .ok (.iload_n 2, 1) := dk_28 (dk_at dksX2_claimDate_0 19 rfl rfl)
theorem dX2_claimDate_20 : decode cX2_claimDate 20 = .ok (.invokevirtual 347, 3) := dk_182 1 91 (dk_at dksX2_claimDate_0 20 rfl rfl)
theorem dX2_claimDate_23 : decode cX2_claimDate 23 = .ok (.ireturn, 1) := dk_172 (dk_at dksX2_claimDate_0 23 rfl rfl)
abbrev cX2_laysBar : ByteArray := prog_12_method_106_code
def yX2_laysBar : MethodName := ⟨RX2, "laysBar", "(III)V"⟩
def dkwX2_laysBar_8 : List UInt8 := [132, 5, 1, 167, 255, 205, 177]
abbrev dktX2_laysBar_8 : List UInt8 := dkwX2_laysBar_8 ++ []
def dkwX2_laysBar_7 : List UInt8 := [159, 0, 23, 42, 180, 0, 58, 21, 5, 46, 29, 162, 0, 12, 42, 6, 21, 5, 16, 254, 182, 1, 148]
abbrev dktX2_laysBar_7 : List UInt8 := dkwX2_laysBar_7 ++ dktX2_laysBar_8
def dkwX2_laysBar_6 : List UInt8 := [180, 0, 22, 5, 46, 162, 0, 46, 42, 180, 1, 139, 154, 0, 39, 42, 21, 5, 182, 1, 30, 27]
abbrev dktX2_laysBar_6 : List UInt8 := dkwX2_laysBar_6 ++ dktX2_laysBar_7
def dkwX2_laysBar_5 : List UInt8 := [21, 6, 182, 1, 148, 132, 6, 1, 167, 255, 216, 132, 5, 1, 167, 255, 190, 3, 54, 5, 21, 5, 42]
abbrev dktX2_laysBar_5 : List UInt8 := dkwX2_laysBar_5 ++ dktX2_laysBar_6
def dkwX2_laysBar_4 : List UInt8 := [180, 1, 139, 154, 0, 32, 42, 27, 28, 29, 21, 5, 21, 6, 182, 1, 155, 153, 0, 12, 42, 5, 21, 5]
abbrev dktX2_laysBar_4 : List UInt8 := dkwX2_laysBar_4 ++ dktX2_laysBar_5
def dkwX2_laysBar_3 : List UInt8 := [162, 0, 65, 42, 180, 1, 139, 154, 0, 58, 21, 5, 4, 96, 54, 6, 21, 6, 21, 4, 162, 0, 39, 42]
abbrev dktX2_laysBar_3 : List UInt8 := dkwX2_laysBar_3 ++ dktX2_laysBar_4
def dkwX2_laysBar_2 : List UInt8 := [42, 4, 21, 5, 16, 254, 182, 1, 148, 132, 5, 1, 167, 255, 218, 3, 54, 5, 21, 5, 21, 4]
abbrev dktX2_laysBar_2 : List UInt8 := dkwX2_laysBar_2 ++ dktX2_laysBar_3
def dkwX2_laysBar_1 : List UInt8 := [21, 4, 162, 0, 37, 42, 180, 1, 139, 154, 0, 30, 42, 27, 28, 29, 21, 5, 182, 1, 151, 153, 0, 12]
abbrev dktX2_laysBar_1 : List UInt8 := dkwX2_laysBar_1 ++ dktX2_laysBar_2
def dkwX2_laysBar_0 : List UInt8 := [42, 3, 16, 254, 16, 254, 182, 1, 148, 42, 180, 0, 13, 17, 1, 61, 46, 54, 4, 3, 54, 5, 21, 5]
abbrev dktX2_laysBar_0 : List UInt8 := dkwX2_laysBar_0 ++ dktX2_laysBar_1
theorem dksX2_laysBar_0 : cX2_laysBar.data.toList.drop 0 = dktX2_laysBar_0 := by decide +kernel
theorem dksX2_laysBar_1 : cX2_laysBar.data.toList.drop 24 = dktX2_laysBar_1 := dk_seg dksX2_laysBar_0 24 rfl rfl
theorem dksX2_laysBar_2 : cX2_laysBar.data.toList.drop 48 = dktX2_laysBar_2 := dk_seg dksX2_laysBar_1 24 rfl rfl
theorem dksX2_laysBar_3 : cX2_laysBar.data.toList.drop 70 = dktX2_laysBar_3 := dk_seg dksX2_laysBar_2 22 rfl rfl
theorem dksX2_laysBar_4 : cX2_laysBar.data.toList.drop 94 = dktX2_laysBar_4 := dk_seg dksX2_laysBar_3 24 rfl rfl
theorem dksX2_laysBar_5 : cX2_laysBar.data.toList.drop 118 = dktX2_laysBar_5 := dk_seg dksX2_laysBar_4 24 rfl rfl
theorem dksX2_laysBar_6 : cX2_laysBar.data.toList.drop 141 = dktX2_laysBar_6 := dk_seg dksX2_laysBar_5 23 rfl rfl
theorem dksX2_laysBar_7 : cX2_laysBar.data.toList.drop 163 = dktX2_laysBar_7 := dk_seg dksX2_laysBar_6 22 rfl rfl
theorem dksX2_laysBar_8 : cX2_laysBar.data.toList.drop 186 = dktX2_laysBar_8 := dk_seg dksX2_laysBar_7 23 rfl rfl
theorem dX2_laysBar_0 : decode cX2_laysBar 0 = .ok (.aload_n 0, 1) := dk_42 (dk_at dksX2_laysBar_0 0 rfl rfl)
theorem dX2_laysBar_1 : decode cX2_laysBar 1 = .ok (.iconst 0, 1) := dk_3 (dk_at dksX2_laysBar_0 1 rfl rfl)
theorem dX2_laysBar_2 : decode cX2_laysBar 2 = .ok (.bipush (-2), 2) := dk_16 254 (dk_at dksX2_laysBar_0 2 rfl rfl)
theorem dX2_laysBar_4 : decode cX2_laysBar 4 = .ok (.bipush (-2), 2) := dk_16 254 (dk_at dksX2_laysBar_0 4 rfl rfl)
theorem dX2_laysBar_6 : decode cX2_laysBar 6 = .ok (.invokevirtual 404, 3) := dk_182 1 148 (dk_at dksX2_laysBar_0 6 rfl rfl)
theorem dX2_laysBar_9 : decode cX2_laysBar 9 = .ok (.aload_n 0, 1) := dk_42 (dk_at dksX2_laysBar_0 9 rfl rfl)
theorem dX2_laysBar_10 : decode cX2_laysBar 10 = .ok (.getfield 13, 3) := dk_180 0 13 (dk_at dksX2_laysBar_0 10 rfl rfl)
theorem dX2_laysBar_13 : decode cX2_laysBar 13 = .ok (.sipush 317, 3) := dk_17 1 61 (dk_at dksX2_laysBar_0 13 rfl rfl)
theorem dX2_laysBar_16 : decode cX2_laysBar 16 = .ok (.iaload, 1) := dk_46 (dk_at dksX2_laysBar_0 16 rfl rfl)
theorem dX2_laysBar_17 : decode cX2_laysBar 17 = .ok (.istore 4, 2) := dk_54 4 (dk_at dksX2_laysBar_0 17 rfl rfl)
theorem dX2_laysBar_19 : decode cX2_laysBar 19 = .ok (.iconst 0, 1) := dk_3 (dk_at dksX2_laysBar_0 19 rfl rfl)
theorem dX2_laysBar_20 : decode cX2_laysBar 20 = .ok (.istore 5, 2) := dk_54 5 (dk_at dksX2_laysBar_0 20 rfl rfl)
theorem dX2_laysBar_22 : decode cX2_laysBar 22 = .ok (.iload 5, 2) := dk_21 5 (dk_at dksX2_laysBar_0 22 rfl rfl)
theorem dX2_laysBar_24 : decode cX2_laysBar 24 = .ok (.iload 4, 2) := dk_21 4 (dk_at dksX2_laysBar_1 0 rfl rfl)
theorem dX2_laysBar_26 : decode cX2_laysBar 26 = .ok (.if_icmp .ge 37, 3) := dk_162 0 37 (dk_at dksX2_laysBar_1 2 rfl rfl)
theorem dX2_laysBar_29 : decode cX2_laysBar 29 = .ok (.aload_n 0, 1) := dk_42 (dk_at dksX2_laysBar_1 5 rfl rfl)
theorem dX2_laysBar_30 : decode cX2_laysBar 30 = .ok (.getfield 395, 3) := dk_180 1 139 (dk_at dksX2_laysBar_1 6 rfl rfl)
theorem dX2_laysBar_33 : decode cX2_laysBar 33 = .ok (.ifCond .ne 30, 3) := dk_154 0 30 (dk_at dksX2_laysBar_1 9 rfl rfl)
theorem dX2_laysBar_36 : decode cX2_laysBar 36 = .ok (.aload_n 0, 1) := dk_42 (dk_at dksX2_laysBar_1 12 rfl rfl)
theorem dX2_laysBar_37 : decode cX2_laysBar 37 = .ok (.iload_n 1, 1) := dk_27 (dk_at dksX2_laysBar_1 13 rfl rfl)
theorem dX2_laysBar_38 : decode cX2_laysBar 38 = .ok (.iload_n 2, 1) := dk_28 (dk_at dksX2_laysBar_1 14 rfl rfl)
theorem dX2_laysBar_39 : decode cX2_laysBar 39 = .ok (.iload_n 3, 1) := dk_29 (dk_at dksX2_laysBar_1 15 rfl rfl)
theorem dX2_laysBar_40 : decode cX2_laysBar 40 = .ok (.iload 5, 2) := dk_21 5 (dk_at dksX2_laysBar_1 16 rfl rfl)
theorem dX2_laysBar_42 : decode cX2_laysBar 42 = .ok (.invokevirtual 407, 3) := dk_182 1 151 (dk_at dksX2_laysBar_1 18 rfl rfl)
theorem dX2_laysBar_45 : decode cX2_laysBar 45 = .ok (.ifCond .eq 12, 3) := dk_153 0 12 (dk_at dksX2_laysBar_1 21 rfl rfl)
theorem dX2_laysBar_48 : decode cX2_laysBar 48 = .ok (.aload_n 0, 1) := dk_42 (dk_at dksX2_laysBar_2 0 rfl rfl)
theorem dX2_laysBar_49 : decode cX2_laysBar 49 = .ok (.iconst 1, 1) := dk_4 (dk_at dksX2_laysBar_2 1 rfl rfl)
theorem dX2_laysBar_50 : decode cX2_laysBar 50 = .ok (.iload 5, 2) := dk_21 5 (dk_at dksX2_laysBar_2 2 rfl rfl)
theorem dX2_laysBar_52 : decode cX2_laysBar 52 = .ok (.bipush (-2), 2) := dk_16 254 (dk_at dksX2_laysBar_2 4 rfl rfl)
theorem dX2_laysBar_54 : decode cX2_laysBar 54 = .ok (.invokevirtual 404, 3) := dk_182 1 148 (dk_at dksX2_laysBar_2 6 rfl rfl)
theorem dX2_laysBar_57 : decode cX2_laysBar 57 = .ok (.iinc 5 1, 3) := dk_132 5 1 (dk_at dksX2_laysBar_2 9 rfl rfl)
theorem dX2_laysBar_60 : decode cX2_laysBar 60 = .ok (.goto (-38), 3) := dk_167 255 218 (dk_at dksX2_laysBar_2 12 rfl rfl)
theorem dX2_laysBar_63 : decode cX2_laysBar 63 = .ok (.iconst 0, 1) := dk_3 (dk_at dksX2_laysBar_2 15 rfl rfl)
theorem dX2_laysBar_64 : decode cX2_laysBar 64 = .ok (.istore 5, 2) := dk_54 5 (dk_at dksX2_laysBar_2 16 rfl rfl)
theorem dX2_laysBar_66 : decode cX2_laysBar 66 = .ok (.iload 5, 2) := dk_21 5 (dk_at dksX2_laysBar_2 18 rfl rfl)
theorem dX2_laysBar_68 : decode cX2_laysBar 68 = .ok (.iload 4, 2) := dk_21 4 (dk_at dksX2_laysBar_2 20 rfl rfl)
theorem dX2_laysBar_70 : decode cX2_laysBar 70 = .ok (.if_icmp .ge 65, 3) := dk_162 0 65 (dk_at dksX2_laysBar_3 0 rfl rfl)
theorem dX2_laysBar_73 : decode cX2_laysBar 73 = .ok (.aload_n 0, 1) := dk_42 (dk_at dksX2_laysBar_3 3 rfl rfl)
theorem dX2_laysBar_74 : decode cX2_laysBar 74 = .ok (.getfield 395, 3) := dk_180 1 139 (dk_at dksX2_laysBar_3 4 rfl rfl)
theorem dX2_laysBar_77 : decode cX2_laysBar 77 = .ok (.ifCond .ne 58, 3) := dk_154 0 58 (dk_at dksX2_laysBar_3 7 rfl rfl)
theorem dX2_laysBar_80 : decode cX2_laysBar 80 = .ok (.iload 5, 2) := dk_21 5 (dk_at dksX2_laysBar_3 10 rfl rfl)
theorem dX2_laysBar_82 : decode cX2_laysBar 82 = .ok (.iconst 1, 1) := dk_4 (dk_at dksX2_laysBar_3 12 rfl rfl)
theorem dX2_laysBar_83 : decode cX2_laysBar 83 = .ok (.iadd, 1) := dk_96 (dk_at dksX2_laysBar_3 13 rfl rfl)
theorem dX2_laysBar_84 : decode cX2_laysBar 84 = .ok (.istore 6, 2) := dk_54 6 (dk_at dksX2_laysBar_3 14 rfl rfl)
theorem dX2_laysBar_86 : decode cX2_laysBar 86 = .ok (.iload 6, 2) := dk_21 6 (dk_at dksX2_laysBar_3 16 rfl rfl)
theorem dX2_laysBar_88 : decode cX2_laysBar 88 = .ok (.iload 4, 2) := dk_21 4 (dk_at dksX2_laysBar_3 18 rfl rfl)
theorem dX2_laysBar_90 : decode cX2_laysBar 90 = .ok (.if_icmp .ge 39, 3) := dk_162 0 39 (dk_at dksX2_laysBar_3 20 rfl rfl)
theorem dX2_laysBar_93 : decode cX2_laysBar 93 = .ok (.aload_n 0, 1) := dk_42 (dk_at dksX2_laysBar_3 23 rfl rfl)
theorem dX2_laysBar_94 : decode cX2_laysBar 94 = .ok (.getfield 395, 3) := dk_180 1 139 (dk_at dksX2_laysBar_4 0 rfl rfl)
theorem dX2_laysBar_97 : decode cX2_laysBar 97 = .ok (.ifCond .ne 32, 3) := dk_154 0 32 (dk_at dksX2_laysBar_4 3 rfl rfl)
theorem dX2_laysBar_100 : decode cX2_laysBar 100 = .ok (.aload_n 0, 1) := dk_42 (dk_at dksX2_laysBar_4 6 rfl rfl)
theorem dX2_laysBar_101 : decode cX2_laysBar 101 = .ok (.iload_n 1, 1) := dk_27 (dk_at dksX2_laysBar_4 7 rfl rfl)
theorem dX2_laysBar_102 : decode cX2_laysBar 102 = .ok (.iload_n 2, 1) := dk_28 (dk_at dksX2_laysBar_4 8 rfl rfl)
theorem dX2_laysBar_103 : decode cX2_laysBar 103 = .ok (.iload_n 3, 1) := dk_29 (dk_at dksX2_laysBar_4 9 rfl rfl)
theorem dX2_laysBar_104 : decode cX2_laysBar 104 = .ok (.iload 5, 2) := dk_21 5 (dk_at dksX2_laysBar_4 10 rfl rfl)
theorem dX2_laysBar_106 : decode cX2_laysBar 106 = .ok (.iload 6, 2) := dk_21 6 (dk_at dksX2_laysBar_4 12 rfl rfl)
theorem dX2_laysBar_108 : decode cX2_laysBar 108 = .ok (.invokevirtual 411, 3) := dk_182 1 155 (dk_at dksX2_laysBar_4 14 rfl rfl)
theorem dX2_laysBar_111 : decode cX2_laysBar 111 = .ok (.ifCond .eq 12, 3) := dk_153 0 12 (dk_at dksX2_laysBar_4 17 rfl rfl)
theorem dX2_laysBar_114 : decode cX2_laysBar 114 = .ok (.aload_n 0, 1) := dk_42 (dk_at dksX2_laysBar_4 20 rfl rfl)
theorem dX2_laysBar_115 : decode cX2_laysBar 115 = .ok (.iconst 2, 1) := dk_5 (dk_at dksX2_laysBar_4 21 rfl rfl)
theorem dX2_laysBar_116 : decode cX2_laysBar 116 = .ok (.iload 5, 2) := dk_21 5 (dk_at dksX2_laysBar_4 22 rfl rfl)
theorem dX2_laysBar_118 : decode cX2_laysBar 118 = .ok (.iload 6, 2) := dk_21 6 (dk_at dksX2_laysBar_5 0 rfl rfl)
theorem dX2_laysBar_120 : decode cX2_laysBar 120 = .ok (.invokevirtual 404, 3) := dk_182 1 148 (dk_at dksX2_laysBar_5 2 rfl rfl)
theorem dX2_laysBar_123 : decode cX2_laysBar 123 = .ok (.iinc 6 1, 3) := dk_132 6 1 (dk_at dksX2_laysBar_5 5 rfl rfl)
theorem dX2_laysBar_126 : decode cX2_laysBar 126 = .ok (.goto (-40), 3) := dk_167 255 216 (dk_at dksX2_laysBar_5 8 rfl rfl)
theorem dX2_laysBar_129 : decode cX2_laysBar 129 = .ok (.iinc 5 1, 3) := dk_132 5 1 (dk_at dksX2_laysBar_5 11 rfl rfl)
theorem dX2_laysBar_132 : decode cX2_laysBar 132 = .ok (.goto (-66), 3) := dk_167 255 190 (dk_at dksX2_laysBar_5 14 rfl rfl)
theorem dX2_laysBar_135 : decode cX2_laysBar 135 = .ok (.iconst 0, 1) := dk_3 (dk_at dksX2_laysBar_5 17 rfl rfl)
theorem dX2_laysBar_136 : decode cX2_laysBar 136 = .ok (.istore 5, 2) := dk_54 5 (dk_at dksX2_laysBar_5 18 rfl rfl)
theorem dX2_laysBar_138 : decode cX2_laysBar 138 = .ok (.iload 5, 2) := dk_21 5 (dk_at dksX2_laysBar_5 20 rfl rfl)
theorem dX2_laysBar_140 : decode cX2_laysBar 140 = .ok (.aload_n 0, 1) := dk_42 (dk_at dksX2_laysBar_5 22 rfl rfl)
theorem dX2_laysBar_141 : decode cX2_laysBar 141 = .ok (.getfield 22, 3) := dk_180 0 22 (dk_at dksX2_laysBar_6 0 rfl rfl)
theorem dX2_laysBar_144 : decode cX2_laysBar 144 = .ok (.iconst 2, 1) := dk_5 (dk_at dksX2_laysBar_6 3 rfl rfl)
theorem dX2_laysBar_145 : decode cX2_laysBar 145 = .ok (.iaload, 1) := dk_46 (dk_at dksX2_laysBar_6 4 rfl rfl)
theorem dX2_laysBar_146 : decode cX2_laysBar 146 = .ok (.if_icmp .ge 46, 3) := dk_162 0 46 (dk_at dksX2_laysBar_6 5 rfl rfl)
theorem dX2_laysBar_149 : decode cX2_laysBar 149 = .ok (.aload_n 0, 1) := dk_42 (dk_at dksX2_laysBar_6 8 rfl rfl)
theorem dX2_laysBar_150 : decode cX2_laysBar 150 = .ok (.getfield 395, 3) := dk_180 1 139 (dk_at dksX2_laysBar_6 9 rfl rfl)
theorem dX2_laysBar_153 : decode cX2_laysBar 153 = .ok (.ifCond .ne 39, 3) := dk_154 0 39 (dk_at dksX2_laysBar_6 12 rfl rfl)
theorem dX2_laysBar_156 : decode cX2_laysBar 156 = .ok (.aload_n 0, 1) := dk_42 (dk_at dksX2_laysBar_6 15 rfl rfl)
theorem dX2_laysBar_157 : decode cX2_laysBar 157 = .ok (.iload 5, 2) := dk_21 5 (dk_at dksX2_laysBar_6 16 rfl rfl)
theorem dX2_laysBar_159 : decode cX2_laysBar 159 = .ok (.invokevirtual 286, 3) := dk_182 1 30 (dk_at dksX2_laysBar_6 18 rfl rfl)
theorem dX2_laysBar_162 : decode cX2_laysBar 162 = .ok (.iload_n 1, 1) := dk_27 (dk_at dksX2_laysBar_6 21 rfl rfl)
theorem dX2_laysBar_163 : decode cX2_laysBar 163 = .ok (.if_icmp .eq 23, 3) := dk_159 0 23 (dk_at dksX2_laysBar_7 0 rfl rfl)
theorem dX2_laysBar_166 : decode cX2_laysBar 166 = .ok (.aload_n 0, 1) := dk_42 (dk_at dksX2_laysBar_7 3 rfl rfl)
theorem dX2_laysBar_167 : decode cX2_laysBar 167 = .ok (.getfield 58, 3) := dk_180 0 58 (dk_at dksX2_laysBar_7 4 rfl rfl)
theorem dX2_laysBar_170 : decode cX2_laysBar 170 = .ok (.iload 5, 2) := dk_21 5 (dk_at dksX2_laysBar_7 7 rfl rfl)
theorem dX2_laysBar_172 : decode cX2_laysBar 172 = .ok (.iaload, 1) := dk_46 (dk_at dksX2_laysBar_7 9 rfl rfl)
theorem dX2_laysBar_173 : decode cX2_laysBar 173 = .ok (.iload_n 3, 1) := dk_29 (dk_at dksX2_laysBar_7 10 rfl rfl)
theorem dX2_laysBar_174 : decode cX2_laysBar 174 = .ok (.if_icmp .ge 12, 3) := dk_162 0 12 (dk_at dksX2_laysBar_7 11 rfl rfl)
theorem dX2_laysBar_177 : decode cX2_laysBar 177 = .ok (.aload_n 0, 1) := dk_42 (dk_at dksX2_laysBar_7 14 rfl rfl)
theorem dX2_laysBar_178 : decode cX2_laysBar 178 = .ok (.iconst 3, 1) := dk_6 (dk_at dksX2_laysBar_7 15 rfl rfl)
theorem dX2_laysBar_179 : decode cX2_laysBar 179 = .ok (.iload 5, 2) := dk_21 5 (dk_at dksX2_laysBar_7 16 rfl rfl)
theorem dX2_laysBar_181 : decode cX2_laysBar 181 = .ok (.bipush (-2), 2) := dk_16 254 (dk_at dksX2_laysBar_7 18 rfl rfl)
theorem dX2_laysBar_183 : decode cX2_laysBar 183 = .ok (.invokevirtual 404, 3) := dk_182 1 148 (dk_at dksX2_laysBar_7 20 rfl rfl)
theorem dX2_laysBar_186 : decode cX2_laysBar 186 = .ok (.iinc 5 1, 3) := dk_132 5 1 (dk_at dksX2_laysBar_8 0 rfl rfl)
theorem dX2_laysBar_189 : decode cX2_laysBar 189 = .ok (.goto (-51), 3) := dk_167 255 205 (dk_at dksX2_laysBar_8 3 rfl rfl)
theorem dX2_laysBar_192 : decode cX2_laysBar 192 = .ok (.return_, 1) := dk_177 (dk_at dksX2_laysBar_8 6 rfl rfl)
abbrev cX2_setsBar : ByteArray := prog_12_method_105_code
def yX2_setsBar : MethodName := ⟨RX2, "setsBar", "(III)V"⟩
def dkwX2_setsBar_0 : List UInt8 := [42, 27, 181, 1, 139, 42, 28, 181, 1, 142, 42, 29, 181, 1, 145, 177]
abbrev dktX2_setsBar_0 : List UInt8 := dkwX2_setsBar_0 ++ []
theorem dksX2_setsBar_0 : cX2_setsBar.data.toList.drop 0 = dktX2_setsBar_0 := by decide +kernel
theorem dX2_setsBar_0 : decode cX2_setsBar 0 = .ok (.aload_n 0, 1) := dk_42 (dk_at dksX2_setsBar_0 0 rfl rfl)
theorem dX2_setsBar_1 : decode cX2_setsBar 1 = .ok (.iload_n 1, 1) := dk_27 (dk_at dksX2_setsBar_0 1 rfl rfl)
theorem dX2_setsBar_2 : decode cX2_setsBar 2 = .ok (.putfield 395, 3) := dk_181 1 139 (dk_at dksX2_setsBar_0 2 rfl rfl)
theorem dX2_setsBar_5 : decode cX2_setsBar 5 = .ok (.aload_n 0, 1) := dk_42 (dk_at dksX2_setsBar_0 5 rfl rfl)
theorem dX2_setsBar_6 : decode cX2_setsBar 6 = .ok (.iload_n 2, 1) := dk_28 (dk_at dksX2_setsBar_0 6 rfl rfl)
theorem dX2_setsBar_7 : decode cX2_setsBar 7 = .ok (.putfield 398, 3) := dk_181 1 142 (dk_at dksX2_setsBar_0 7 rfl rfl)
theorem dX2_setsBar_10 : decode cX2_setsBar 10 = .ok (.aload_n 0, 1) := dk_42 (dk_at dksX2_setsBar_0 10 rfl rfl)
theorem dX2_setsBar_11 : decode cX2_setsBar 11 = .ok (.iload_n 3, 1) := dk_29 (dk_at dksX2_setsBar_0 11 rfl rfl)
theorem dX2_setsBar_12 : decode cX2_setsBar 12 = .ok (.putfield 401, 3) := dk_181 1 145 (dk_at dksX2_setsBar_0 12 rfl rfl)
theorem dX2_setsBar_15 : decode cX2_setsBar 15 = .ok (.return_, 1) := dk_177 (dk_at dksX2_setsBar_0 15 rfl rfl)
abbrev cX2_barsAlone : ByteArray := prog_12_method_102_code
def yX2_barsAlone : MethodName := ⟨RX2, "barsAlone", "(IIII)Z"⟩
def dkwX2_barsAlone_1 : List UInt8 := [153, 0, 7, 4, 167, 0, 4, 3, 172]
abbrev dktX2_barsAlone_1 : List UInt8 := dkwX2_barsAlone_1 ++ []
def dkwX2_barsAlone_0 : List UInt8 := [42, 27, 29, 21, 4, 182, 1, 133, 153, 0, 21, 42, 21, 4, 5, 182, 1, 124, 28, 184, 1, 136]
abbrev dktX2_barsAlone_0 : List UInt8 := dkwX2_barsAlone_0 ++ dktX2_barsAlone_1
theorem dksX2_barsAlone_0 : cX2_barsAlone.data.toList.drop 0 = dktX2_barsAlone_0 := by decide +kernel
theorem dksX2_barsAlone_1 : cX2_barsAlone.data.toList.drop 22 = dktX2_barsAlone_1 := dk_seg dksX2_barsAlone_0 22 rfl rfl
theorem dX2_barsAlone_0 : decode cX2_barsAlone 0 = .ok (.aload_n 0, 1) := dk_42 (dk_at dksX2_barsAlone_0 0 rfl rfl)
theorem dX2_barsAlone_1 : decode cX2_barsAlone 1 = .ok (.iload_n 1, 1) := dk_27 (dk_at dksX2_barsAlone_0 1 rfl rfl)
theorem dX2_barsAlone_2 : decode cX2_barsAlone 2 = .ok (.iload_n 3, 1) := dk_29 (dk_at dksX2_barsAlone_0 2 rfl rfl)
theorem dX2_barsAlone_3 : decode cX2_barsAlone 3 = .ok (.iload 4, 2) := dk_21 4 (dk_at dksX2_barsAlone_0 3 rfl rfl)
theorem dX2_barsAlone_5 : decode cX2_barsAlone 5 = .ok (.invokevirtual 389, 3) := dk_182 1 133 (dk_at dksX2_barsAlone_0 5 rfl rfl)
theorem dX2_barsAlone_8 : decode cX2_barsAlone 8 = .ok (.ifCond .eq 21, 3) := dk_153 0 21 (dk_at dksX2_barsAlone_0 8 rfl rfl)
theorem dX2_barsAlone_11 : decode cX2_barsAlone 11 = .ok (.aload_n 0, 1) := dk_42 (dk_at dksX2_barsAlone_0 11 rfl rfl)
theorem dX2_barsAlone_12 : decode cX2_barsAlone 12 = .ok (.iload 4, 2) := dk_21 4 (dk_at dksX2_barsAlone_0 12 rfl rfl)
theorem dX2_barsAlone_14 : decode cX2_barsAlone 14 = .ok (.iconst 2, 1) := dk_5 (dk_at dksX2_barsAlone_0 14 rfl rfl)
theorem dX2_barsAlone_15 : decode cX2_barsAlone 15 = .ok (.invokevirtual 380, 3) := dk_182 1 124 (dk_at dksX2_barsAlone_0 15 rfl rfl)
theorem dX2_barsAlone_18 : decode cX2_barsAlone 18 = .ok (.iload_n 2, 1) := dk_28 (dk_at dksX2_barsAlone_0 18 rfl rfl)
theorem dX2_barsAlone_19 : decode cX2_barsAlone 19 = .ok (.invokestatic 392, 3) := dk_184 1 136 (dk_at dksX2_barsAlone_0 19 rfl rfl)
theorem dX2_barsAlone_22 : decode cX2_barsAlone 22 = .ok (.ifCond .eq 7, 3) := dk_153 0 7 (dk_at dksX2_barsAlone_1 0 rfl rfl)
theorem dX2_barsAlone_25 : decode cX2_barsAlone 25 = .ok (.iconst 1, 1) := dk_4 (dk_at dksX2_barsAlone_1 3 rfl rfl)
theorem dX2_barsAlone_26 : decode cX2_barsAlone 26 = .ok (.goto 4, 3) := dk_167 0 4 (dk_at dksX2_barsAlone_1 4 rfl rfl)
theorem dX2_barsAlone_29 : decode cX2_barsAlone 29 = .ok (.iconst 0, 1) := dk_3 (dk_at dksX2_barsAlone_1 7 rfl rfl)
theorem dX2_barsAlone_30 : decode cX2_barsAlone 30 = .ok (.ireturn, 1) := dk_172 (dk_at dksX2_barsAlone_1 8 rfl rfl)
abbrev cX2_weighs : ByteArray := prog_12_method_101_code
def yX2_weighs : MethodName := ⟨RX2, "weighs", "(III)Z"⟩
def dkwX2_weighs_1 : List UInt8 := [172]
abbrev dktX2_weighs_1 : List UInt8 := dkwX2_weighs_1 ++ []
def dkwX2_weighs_0 : List UInt8 := [42, 28, 29, 182, 1, 127, 153, 0, 17, 42, 27, 28, 29, 182, 1, 130, 154, 0, 7, 4, 167, 0, 4, 3]
abbrev dktX2_weighs_0 : List UInt8 := dkwX2_weighs_0 ++ dktX2_weighs_1
theorem dksX2_weighs_0 : cX2_weighs.data.toList.drop 0 = dktX2_weighs_0 := by decide +kernel
theorem dksX2_weighs_1 : cX2_weighs.data.toList.drop 24 = dktX2_weighs_1 := dk_seg dksX2_weighs_0 24 rfl rfl
theorem dX2_weighs_0 : decode cX2_weighs 0 = .ok (.aload_n 0, 1) := dk_42 (dk_at dksX2_weighs_0 0 rfl rfl)
theorem dX2_weighs_1 : decode cX2_weighs 1 = .ok (.iload_n 2, 1) := dk_28 (dk_at dksX2_weighs_0 1 rfl rfl)
theorem dX2_weighs_2 : decode cX2_weighs 2 = .ok (.iload_n 3, 1) := dk_29 (dk_at dksX2_weighs_0 2 rfl rfl)
theorem dX2_weighs_3 : decode cX2_weighs 3 = .ok (.invokevirtual 383, 3) := dk_182 1 127 (dk_at dksX2_weighs_0 3 rfl rfl)
theorem dX2_weighs_6 : decode cX2_weighs 6 = .ok (.ifCond .eq 17, 3) := dk_153 0 17 (dk_at dksX2_weighs_0 6 rfl rfl)
theorem dX2_weighs_9 : decode cX2_weighs 9 = .ok (.aload_n 0, 1) := dk_42 (dk_at dksX2_weighs_0 9 rfl rfl)
theorem dX2_weighs_10 : decode cX2_weighs 10 = .ok (.iload_n 1, 1) := dk_27 (dk_at dksX2_weighs_0 10 rfl rfl)
theorem dX2_weighs_11 : decode cX2_weighs 11 = .ok (.iload_n 2, 1) := dk_28 (dk_at dksX2_weighs_0 11 rfl rfl)
theorem dX2_weighs_12 : decode cX2_weighs 12 = .ok (.iload_n 3, 1) := dk_29 (dk_at dksX2_weighs_0 12 rfl rfl)
theorem dX2_weighs_13 : decode cX2_weighs 13 = .ok (.invokevirtual 386, 3) := dk_182 1 130 (dk_at dksX2_weighs_0 13 rfl rfl)
theorem dX2_weighs_16 : decode cX2_weighs 16 = .ok (.ifCond .ne 7, 3) := dk_154 0 7 (dk_at dksX2_weighs_0 16 rfl rfl)
theorem dX2_weighs_19 : decode cX2_weighs 19 = .ok (.iconst 1, 1) := dk_4 (dk_at dksX2_weighs_0 19 rfl rfl)
theorem dX2_weighs_20 : decode cX2_weighs 20 = .ok (.goto 4, 3) := dk_167 0 4 (dk_at dksX2_weighs_0 20 rfl rfl)
theorem dX2_weighs_23 : decode cX2_weighs 23 = .ok (.iconst 0, 1) := dk_3 (dk_at dksX2_weighs_0 23 rfl rfl)
theorem dX2_weighs_24 : decode cX2_weighs 24 = .ok (.ireturn, 1) := dk_172 (dk_at dksX2_weighs_1 0 rfl rfl)
abbrev cX2_isAhead : ByteArray := prog_12_method_100_code
def yX2_isAhead : MethodName := ⟨RX2, "isAhead", "(II)Z"⟩
def dkwX2_isAhead_0 : List UInt8 := [42, 28, 4, 182, 1, 124, 27, 162, 0, 7, 4, 167, 0, 4, 3, 172]
abbrev dktX2_isAhead_0 : List UInt8 := dkwX2_isAhead_0 ++ []
theorem dksX2_isAhead_0 : cX2_isAhead.data.toList.drop 0 = dktX2_isAhead_0 := by decide +kernel
theorem dX2_isAhead_0 : decode cX2_isAhead 0 = .ok (.aload_n 0, 1) := dk_42 (dk_at dksX2_isAhead_0 0 rfl rfl)
theorem dX2_isAhead_1 : decode cX2_isAhead 1 = .ok (.iload_n 2, 1) := dk_28 (dk_at dksX2_isAhead_0 1 rfl rfl)
theorem dX2_isAhead_2 : decode cX2_isAhead 2 = .ok (.iconst 1, 1) := dk_4 (dk_at dksX2_isAhead_0 2 rfl rfl)
theorem dX2_isAhead_3 : decode cX2_isAhead 3 = .ok (.invokevirtual 380, 3) := dk_182 1 124 (dk_at dksX2_isAhead_0 3 rfl rfl)
theorem dX2_isAhead_6 : decode cX2_isAhead 6 = .ok (.iload_n 1, 1) := dk_27 (dk_at dksX2_isAhead_0 6 rfl rfl)
theorem dX2_isAhead_7 : decode cX2_isAhead 7 = .ok (.if_icmp .ge 7, 3) := dk_162 0 7 (dk_at dksX2_isAhead_0 7 rfl rfl)
theorem dX2_isAhead_10 : decode cX2_isAhead 10 = .ok (.iconst 1, 1) := dk_4 (dk_at dksX2_isAhead_0 10 rfl rfl)
theorem dX2_isAhead_11 : decode cX2_isAhead 11 = .ok (.goto 4, 3) := dk_167 0 4 (dk_at dksX2_isAhead_0 11 rfl rfl)
theorem dX2_isAhead_14 : decode cX2_isAhead 14 = .ok (.iconst 0, 1) := dk_3 (dk_at dksX2_isAhead_0 14 rfl rfl)
theorem dX2_isAhead_15 : decode cX2_isAhead 15 = .ok (.ireturn, 1) := dk_172 (dk_at dksX2_isAhead_0 15 rfl rfl)
abbrev cX2_thingOf : ByteArray := prog_12_method_52_code
def yX2_thingOf : MethodName := ⟨RX2, "thingOf", "(II)I"⟩
def dkwX2_thingOf_0 : List UInt8 := [42, 180, 0, 13, 17, 1, 62, 6, 27, 104, 96, 28, 96, 46, 172]
abbrev dktX2_thingOf_0 : List UInt8 := dkwX2_thingOf_0 ++ []
theorem dksX2_thingOf_0 : cX2_thingOf.data.toList.drop 0 = dktX2_thingOf_0 := by decide +kernel
theorem dX2_thingOf_0 : decode cX2_thingOf 0 = .ok (.aload_n 0, 1) := dk_42 (dk_at dksX2_thingOf_0 0 rfl rfl)
theorem dX2_thingOf_1 : decode cX2_thingOf 1 = .ok (.getfield 13, 3) := dk_180 0 13 (dk_at dksX2_thingOf_0 1 rfl rfl)
theorem dX2_thingOf_4 : decode cX2_thingOf 4 = .ok (.sipush 318, 3) := dk_17 1 62 (dk_at dksX2_thingOf_0 4 rfl rfl)
theorem dX2_thingOf_7 : decode cX2_thingOf 7 = .ok (.iconst 3, 1) := dk_6 (dk_at dksX2_thingOf_0 7 rfl rfl)
theorem dX2_thingOf_8 : decode cX2_thingOf 8 = .ok (.iload_n 1, 1) := dk_27 (dk_at dksX2_thingOf_0 8 rfl rfl)
theorem dX2_thingOf_9 : decode cX2_thingOf 9 = .ok (.imul, 1) := dk_104 (dk_at dksX2_thingOf_0 9 rfl rfl)
theorem dX2_thingOf_10 : decode cX2_thingOf 10 = .ok (.iadd, 1) := dk_96 (dk_at dksX2_thingOf_0 10 rfl rfl)
theorem dX2_thingOf_11 : decode cX2_thingOf 11 = .ok (.iload_n 2, 1) := dk_28 (dk_at dksX2_thingOf_0 11 rfl rfl)
theorem dX2_thingOf_12 : decode cX2_thingOf 12 = .ok (.iadd, 1) := dk_96 (dk_at dksX2_thingOf_0 12 rfl rfl)
theorem dX2_thingOf_13 : decode cX2_thingOf 13 = .ok (.iaload, 1) := dk_46 (dk_at dksX2_thingOf_0 13 rfl rfl)
theorem dX2_thingOf_14 : decode cX2_thingOf 14 = .ok (.ireturn, 1) := dk_172 (dk_at dksX2_thingOf_0 14 rfl rfl)
abbrev cX2_isGraced : ByteArray := prog_12_method_99_code
def yX2_isGraced : MethodName := ⟨RX2, "isGraced", "(III)Z"⟩
def dkwX2_isGraced_1 : List UInt8 := [163, 0, 7, 4, 167, 0, 4, 3, 172]
abbrev dktX2_isGraced_1 : List UInt8 := dkwX2_isGraced_1 ++ []
def dkwX2_isGraced_0 : List UInt8 := [42, 29, 3, 182, 1, 124, 27, 160, 0, 24, 28, 42, 29, 4, 182, 1, 124, 100, 42, 180, 0, 13, 4, 46]
abbrev dktX2_isGraced_0 : List UInt8 := dkwX2_isGraced_0 ++ dktX2_isGraced_1
theorem dksX2_isGraced_0 : cX2_isGraced.data.toList.drop 0 = dktX2_isGraced_0 := by decide +kernel
theorem dksX2_isGraced_1 : cX2_isGraced.data.toList.drop 24 = dktX2_isGraced_1 := dk_seg dksX2_isGraced_0 24 rfl rfl
theorem dX2_isGraced_0 : decode cX2_isGraced 0 = .ok (.aload_n 0, 1) := dk_42 (dk_at dksX2_isGraced_0 0 rfl rfl)
theorem dX2_isGraced_1 : decode cX2_isGraced 1 = .ok (.iload_n 3, 1) := dk_29 (dk_at dksX2_isGraced_0 1 rfl rfl)
theorem dX2_isGraced_2 : decode cX2_isGraced 2 = .ok (.iconst 0, 1) := dk_3 (dk_at dksX2_isGraced_0 2 rfl rfl)
theorem dX2_isGraced_3 : decode cX2_isGraced 3 = .ok (.invokevirtual 380, 3) := dk_182 1 124 (dk_at dksX2_isGraced_0 3 rfl rfl)
theorem dX2_isGraced_6 : decode cX2_isGraced 6 = .ok (.iload_n 1, 1) := dk_27 (dk_at dksX2_isGraced_0 6 rfl rfl)
theorem dX2_isGraced_7 : decode cX2_isGraced 7 = .ok (.if_icmp .ne 24, 3) := dk_160 0 24 (dk_at dksX2_isGraced_0 7 rfl rfl)
theorem dX2_isGraced_10 : decode cX2_isGraced 10 = .ok (.iload_n 2, 1) := dk_28 (dk_at dksX2_isGraced_0 10 rfl rfl)
theorem dX2_isGraced_11 : decode cX2_isGraced 11 = .ok (.aload_n 0, 1) := dk_42 (dk_at dksX2_isGraced_0 11 rfl rfl)
theorem dX2_isGraced_12 : decode cX2_isGraced 12 = .ok (.iload_n 3, 1) := dk_29 (dk_at dksX2_isGraced_0 12 rfl rfl)
theorem dX2_isGraced_13 : decode cX2_isGraced 13 = .ok (.iconst 1, 1) := dk_4 (dk_at dksX2_isGraced_0 13 rfl rfl)
theorem dX2_isGraced_14 : decode cX2_isGraced 14 = .ok (.invokevirtual 380, 3) := dk_182 1 124 (dk_at dksX2_isGraced_0 14 rfl rfl)
theorem dX2_isGraced_17 : decode cX2_isGraced 17 = .ok (.isub, 1) := dk_100 (dk_at dksX2_isGraced_0 17 rfl rfl)
theorem dX2_isGraced_18 : decode cX2_isGraced 18 = .ok (.aload_n 0, 1) := dk_42 (dk_at dksX2_isGraced_0 18 rfl rfl)
theorem dX2_isGraced_19 : decode cX2_isGraced 19 = .ok (.getfield 13, 3) := dk_180 0 13 (dk_at dksX2_isGraced_0 19 rfl rfl)
theorem dX2_isGraced_22 : decode cX2_isGraced 22 = .ok (.iconst 1, 1) := dk_4 (dk_at dksX2_isGraced_0 22 rfl rfl)
theorem dX2_isGraced_23 : decode cX2_isGraced 23 = .ok (.iaload, 1) := dk_46 (dk_at dksX2_isGraced_0 23 rfl rfl)
theorem dX2_isGraced_24 : decode cX2_isGraced 24 = .ok (.if_icmp .gt 7, 3) := dk_163 0 7 (dk_at dksX2_isGraced_1 0 rfl rfl)
theorem dX2_isGraced_27 : decode cX2_isGraced 27 = .ok (.iconst 1, 1) := dk_4 (dk_at dksX2_isGraced_1 3 rfl rfl)
theorem dX2_isGraced_28 : decode cX2_isGraced 28 = .ok (.goto 4, 3) := dk_167 0 4 (dk_at dksX2_isGraced_1 4 rfl rfl)
theorem dX2_isGraced_31 : decode cX2_isGraced 31 = .ok (.iconst 0, 1) := dk_3 (dk_at dksX2_isGraced_1 7 rfl rfl)
theorem dX2_isGraced_32 : decode cX2_isGraced 32 = .ok (.ireturn, 1) := dk_172 (dk_at dksX2_isGraced_1 8 rfl rfl)
abbrev cX2_hasAll : ByteArray := prog_12_method_98_code
def yX2_hasAll : MethodName := ⟨RX2, "hasAll", "(II)Z"⟩
def dkwX2_hasAll_0 : List UInt8 := [27, 26, 2, 130, 126, 154, 0, 7, 4, 167, 0, 4, 3, 172]
abbrev dktX2_hasAll_0 : List UInt8 := dkwX2_hasAll_0 ++ []
theorem dksX2_hasAll_0 : cX2_hasAll.data.toList.drop 0 = dktX2_hasAll_0 := by decide +kernel
theorem dX2_hasAll_0 : decode cX2_hasAll 0 = .ok (.iload_n 1, 1) := dk_27 (dk_at dksX2_hasAll_0 0 rfl rfl)
theorem dX2_hasAll_1 : decode cX2_hasAll 1 = .ok (.iload_n 0, 1) := dk_26 (dk_at dksX2_hasAll_0 1 rfl rfl)
theorem dX2_hasAll_2 : decode cX2_hasAll 2 = .ok (.iconst (-1), 1) := dk_2 (dk_at dksX2_hasAll_0 2 rfl rfl)
theorem dX2_hasAll_3 : decode cX2_hasAll 3 = .ok (.ixor, 1) := dk_130 (dk_at dksX2_hasAll_0 3 rfl rfl)
theorem dX2_hasAll_4 : decode cX2_hasAll 4 = .ok (.iand, 1) := dk_126 (dk_at dksX2_hasAll_0 4 rfl rfl)
theorem dX2_hasAll_5 : decode cX2_hasAll 5 = .ok (.ifCond .ne 7, 3) := dk_154 0 7 (dk_at dksX2_hasAll_0 5 rfl rfl)
theorem dX2_hasAll_8 : decode cX2_hasAll 8 = .ok (.iconst 1, 1) := dk_4 (dk_at dksX2_hasAll_0 8 rfl rfl)
theorem dX2_hasAll_9 : decode cX2_hasAll 9 = .ok (.goto 4, 3) := dk_167 0 4 (dk_at dksX2_hasAll_0 9 rfl rfl)
theorem dX2_hasAll_12 : decode cX2_hasAll 12 = .ok (.iconst 0, 1) := dk_3 (dk_at dksX2_hasAll_0 12 rfl rfl)
theorem dX2_hasAll_13 : decode cX2_hasAll 13 = .ok (.ireturn, 1) := dk_172 (dk_at dksX2_hasAll_0 13 rfl rfl)
abbrev cX2_barsTogether : ByteArray := prog_12_method_103_code
def yX2_barsTogether : MethodName := ⟨RX2, "barsTogether", "(IIIII)Z"⟩
def dkwX2_barsTogether_2 : List UInt8 := [167, 0, 4, 3, 172]
abbrev dktX2_barsTogether_2 : List UInt8 := dkwX2_barsTogether_2 ++ []
def dkwX2_barsTogether_1 : List UInt8 := [21, 4, 5, 182, 1, 124, 42, 21, 5, 5, 182, 1, 124, 128, 28, 184, 1, 136, 153, 0, 7, 4]
abbrev dktX2_barsTogether_1 : List UInt8 := dkwX2_barsTogether_1 ++ dktX2_barsTogether_2
def dkwX2_barsTogether_0 : List UInt8 := [42, 27, 29, 21, 4, 182, 1, 133, 153, 0, 40, 42, 27, 29, 21, 5, 182, 1, 133, 153, 0, 29, 42]
abbrev dktX2_barsTogether_0 : List UInt8 := dkwX2_barsTogether_0 ++ dktX2_barsTogether_1
theorem dksX2_barsTogether_0 : cX2_barsTogether.data.toList.drop 0 = dktX2_barsTogether_0 := by decide +kernel
theorem dksX2_barsTogether_1 : cX2_barsTogether.data.toList.drop 23 = dktX2_barsTogether_1 := dk_seg dksX2_barsTogether_0 23 rfl rfl
theorem dksX2_barsTogether_2 : cX2_barsTogether.data.toList.drop 45 = dktX2_barsTogether_2 := dk_seg dksX2_barsTogether_1 22 rfl rfl
theorem dX2_barsTogether_0 : decode cX2_barsTogether 0 = .ok (.aload_n 0, 1) := dk_42 (dk_at dksX2_barsTogether_0 0 rfl rfl)
theorem dX2_barsTogether_1 : decode cX2_barsTogether 1 = .ok (.iload_n 1, 1) := dk_27 (dk_at dksX2_barsTogether_0 1 rfl rfl)
theorem dX2_barsTogether_2 : decode cX2_barsTogether 2 = .ok (.iload_n 3, 1) := dk_29 (dk_at dksX2_barsTogether_0 2 rfl rfl)
theorem dX2_barsTogether_3 : decode cX2_barsTogether 3 = .ok (.iload 4, 2) := dk_21 4 (dk_at dksX2_barsTogether_0 3 rfl rfl)
theorem dX2_barsTogether_5 : decode cX2_barsTogether 5 = .ok (.invokevirtual 389, 3) := dk_182 1 133 (dk_at dksX2_barsTogether_0 5 rfl rfl)
theorem dX2_barsTogether_8 : decode cX2_barsTogether 8 = .ok (.ifCond .eq 40, 3) := dk_153 0 40 (dk_at dksX2_barsTogether_0 8 rfl rfl)
theorem dX2_barsTogether_11 : decode cX2_barsTogether 11 = .ok (.aload_n 0, 1) := dk_42 (dk_at dksX2_barsTogether_0 11 rfl rfl)
theorem dX2_barsTogether_12 : decode cX2_barsTogether 12 = .ok (.iload_n 1, 1) := dk_27 (dk_at dksX2_barsTogether_0 12 rfl rfl)
theorem dX2_barsTogether_13 : decode cX2_barsTogether 13 = .ok (.iload_n 3, 1) := dk_29 (dk_at dksX2_barsTogether_0 13 rfl rfl)
theorem dX2_barsTogether_14 : decode cX2_barsTogether 14 = .ok (.iload 5, 2) := dk_21 5 (dk_at dksX2_barsTogether_0 14 rfl rfl)
theorem dX2_barsTogether_16 : decode cX2_barsTogether 16 = .ok (.invokevirtual 389, 3) := dk_182 1 133 (dk_at dksX2_barsTogether_0 16 rfl rfl)
theorem dX2_barsTogether_19 : decode cX2_barsTogether 19 = .ok (.ifCond .eq 29, 3) := dk_153 0 29 (dk_at dksX2_barsTogether_0 19 rfl rfl)
theorem dX2_barsTogether_22 : decode cX2_barsTogether 22 = .ok (.aload_n 0, 1) := dk_42 (dk_at dksX2_barsTogether_0 22 rfl rfl)
theorem dX2_barsTogether_23 : decode cX2_barsTogether 23 = .ok (.iload 4, 2) := dk_21 4 (dk_at dksX2_barsTogether_1 0 rfl rfl)
theorem dX2_barsTogether_25 : decode cX2_barsTogether 25 = .ok (.iconst 2, 1) := dk_5 (dk_at dksX2_barsTogether_1 2 rfl rfl)
theorem dX2_barsTogether_26 : decode cX2_barsTogether 26 = .ok (.invokevirtual 380, 3) := dk_182 1 124 (dk_at dksX2_barsTogether_1 3 rfl rfl)
theorem dX2_barsTogether_29 : decode cX2_barsTogether 29 = .ok (.aload_n 0, 1) := dk_42 (dk_at dksX2_barsTogether_1 6 rfl rfl)
theorem dX2_barsTogether_30 : decode cX2_barsTogether 30 = .ok (.iload 5, 2) := dk_21 5 (dk_at dksX2_barsTogether_1 7 rfl rfl)
theorem dX2_barsTogether_32 : decode cX2_barsTogether 32 = .ok (.iconst 2, 1) := dk_5 (dk_at dksX2_barsTogether_1 9 rfl rfl)
theorem dX2_barsTogether_33 : decode cX2_barsTogether 33 = .ok (.invokevirtual 380, 3) := dk_182 1 124 (dk_at dksX2_barsTogether_1 10 rfl rfl)
theorem dX2_barsTogether_36 : decode cX2_barsTogether 36 = .ok (.ior, 1) := dk_128 (dk_at dksX2_barsTogether_1 13 rfl rfl)
theorem dX2_barsTogether_37 : decode cX2_barsTogether 37 = .ok (.iload_n 2, 1) := dk_28 (dk_at dksX2_barsTogether_1 14 rfl rfl)
theorem dX2_barsTogether_38 : decode cX2_barsTogether 38 = .ok (.invokestatic 392, 3) := dk_184 1 136 (dk_at dksX2_barsTogether_1 15 rfl rfl)
theorem dX2_barsTogether_41 : decode cX2_barsTogether 41 = .ok (.ifCond .eq 7, 3) := dk_153 0 7 (dk_at dksX2_barsTogether_1 18 rfl rfl)
theorem dX2_barsTogether_44 : decode cX2_barsTogether 44 = .ok (.iconst 1, 1) := dk_4 (dk_at dksX2_barsTogether_1 21 rfl rfl)
theorem dX2_barsTogether_45 : decode cX2_barsTogether 45 = .ok (.goto 4, 3) := dk_167 0 4 (dk_at dksX2_barsTogether_2 0 rfl rfl)
theorem dX2_barsTogether_48 : decode cX2_barsTogether 48 = .ok (.iconst 0, 1) := dk_3 (dk_at dksX2_barsTogether_2 3 rfl rfl)
theorem dX2_barsTogether_49 : decode cX2_barsTogether 49 = .ok (.ireturn, 1) := dk_172 (dk_at dksX2_barsTogether_2 4 rfl rfl)
abbrev cX2_letter : ByteArray := prog_12_method_57_code
def yX2_letter : MethodName := ⟨RX2, "letter", "(III)I"⟩
def dkwX2_letter_4 : List UInt8 := [180, 0, 29, 21, 5, 28, 96, 47, 29, 182, 1, 14, 172]
abbrev dktX2_letter_4 : List UInt8 := dkwX2_letter_4 ++ []
def dkwX2_letter_3 : List UInt8 := [154, 0, 7, 3, 167, 0, 15, 27, 4, 160, 0, 8, 16, 16, 167, 0, 5, 16, 22, 54, 5, 42, 42]
abbrev dktX2_letter_3 : List UInt8 := dkwX2_letter_3 ++ dktX2_letter_4
def dkwX2_letter_2 : List UInt8 := [180, 0, 22, 5, 46, 54, 4, 28, 3, 21, 4, 4, 100, 184, 0, 93, 154, 0, 5, 2, 172, 27]
abbrev dktX2_letter_2 : List UInt8 := dkwX2_letter_2 ++ dktX2_letter_3
def dkwX2_letter_1 : List UInt8 := [42, 180, 0, 22, 3, 46, 167, 0, 23, 27, 4, 160, 0, 12, 42, 180, 0, 22, 4, 46, 167, 0, 9, 42]
abbrev dktX2_letter_1 : List UInt8 := dkwX2_letter_1 ++ dktX2_letter_2
def dkwX2_letter_0 : List UInt8 := [27, 3, 5, 184, 0, 93, 153, 0, 12, 29, 3, 8, 184, 0, 93, 154, 0, 5, 2, 172, 27, 154, 0, 12]
abbrev dktX2_letter_0 : List UInt8 := dkwX2_letter_0 ++ dktX2_letter_1
theorem dksX2_letter_0 : cX2_letter.data.toList.drop 0 = dktX2_letter_0 := by decide +kernel
theorem dksX2_letter_1 : cX2_letter.data.toList.drop 24 = dktX2_letter_1 := dk_seg dksX2_letter_0 24 rfl rfl
theorem dksX2_letter_2 : cX2_letter.data.toList.drop 48 = dktX2_letter_2 := dk_seg dksX2_letter_1 24 rfl rfl
theorem dksX2_letter_3 : cX2_letter.data.toList.drop 70 = dktX2_letter_3 := dk_seg dksX2_letter_2 22 rfl rfl
theorem dksX2_letter_4 : cX2_letter.data.toList.drop 93 = dktX2_letter_4 := dk_seg dksX2_letter_3 23 rfl rfl
theorem dX2_letter_0 : decode cX2_letter 0 = .ok (.iload_n 1, 1) := dk_27 (dk_at dksX2_letter_0 0 rfl rfl)
theorem dX2_letter_1 : decode cX2_letter 1 = .ok (.iconst 0, 1) := dk_3 (dk_at dksX2_letter_0 1 rfl rfl)
theorem dX2_letter_2 : decode cX2_letter 2 = .ok (.iconst 2, 1) := dk_5 (dk_at dksX2_letter_0 2 rfl rfl)
theorem dX2_letter_3 : decode cX2_letter 3 = .ok (.invokestatic 93, 3) := dk_184 0 93 (dk_at dksX2_letter_0 3 rfl rfl)
theorem dX2_letter_6 : decode cX2_letter 6 = .ok (.ifCond .eq 12, 3) := dk_153 0 12 (dk_at dksX2_letter_0 6 rfl rfl)
theorem dX2_letter_9 : decode cX2_letter 9 = .ok (.iload_n 3, 1) := dk_29 (dk_at dksX2_letter_0 9 rfl rfl)
theorem dX2_letter_10 : decode cX2_letter 10 = .ok (.iconst 0, 1) := dk_3 (dk_at dksX2_letter_0 10 rfl rfl)
theorem dX2_letter_11 : decode cX2_letter 11 = .ok (.iconst 5, 1) := dk_8 (dk_at dksX2_letter_0 11 rfl rfl)
theorem dX2_letter_12 : decode cX2_letter 12 = .ok (.invokestatic 93, 3) := dk_184 0 93 (dk_at dksX2_letter_0 12 rfl rfl)
theorem dX2_letter_15 : decode cX2_letter 15 = .ok (.ifCond .ne 5, 3) := dk_154 0 5 (dk_at dksX2_letter_0 15 rfl rfl)
theorem dX2_letter_18 : decode cX2_letter 18 = .ok (.iconst (-1), 1) := dk_2 (dk_at dksX2_letter_0 18 rfl rfl)
theorem dX2_letter_19 : decode cX2_letter 19 = .ok (.ireturn, 1) := dk_172 (dk_at dksX2_letter_0 19 rfl rfl)
theorem dX2_letter_20 : decode cX2_letter 20 = .ok (.iload_n 1, 1) := dk_27 (dk_at dksX2_letter_0 20 rfl rfl)
theorem dX2_letter_21 : decode cX2_letter 21 = .ok (.ifCond .ne 12, 3) := dk_154 0 12 (dk_at dksX2_letter_0 21 rfl rfl)
theorem dX2_letter_24 : decode cX2_letter 24 = .ok (.aload_n 0, 1) := dk_42 (dk_at dksX2_letter_1 0 rfl rfl)
theorem dX2_letter_25 : decode cX2_letter 25 = .ok (.getfield 22, 3) := dk_180 0 22 (dk_at dksX2_letter_1 1 rfl rfl)
theorem dX2_letter_28 : decode cX2_letter 28 = .ok (.iconst 0, 1) := dk_3 (dk_at dksX2_letter_1 4 rfl rfl)
theorem dX2_letter_29 : decode cX2_letter 29 = .ok (.iaload, 1) := dk_46 (dk_at dksX2_letter_1 5 rfl rfl)
theorem dX2_letter_30 : decode cX2_letter 30 = .ok (.goto 23, 3) := dk_167 0 23 (dk_at dksX2_letter_1 6 rfl rfl)
theorem dX2_letter_33 : decode cX2_letter 33 = .ok (.iload_n 1, 1) := dk_27 (dk_at dksX2_letter_1 9 rfl rfl)
theorem dX2_letter_34 : decode cX2_letter 34 = .ok (.iconst 1, 1) := dk_4 (dk_at dksX2_letter_1 10 rfl rfl)
theorem dX2_letter_35 : decode cX2_letter 35 = .ok (.if_icmp .ne 12, 3) := dk_160 0 12 (dk_at dksX2_letter_1 11 rfl rfl)
theorem dX2_letter_38 : decode cX2_letter 38 = .ok (.aload_n 0, 1) := dk_42 (dk_at dksX2_letter_1 14 rfl rfl)
theorem dX2_letter_39 : decode cX2_letter 39 = .ok (.getfield 22, 3) := dk_180 0 22 (dk_at dksX2_letter_1 15 rfl rfl)
theorem dX2_letter_42 : decode cX2_letter 42 = .ok (.iconst 1, 1) := dk_4 (dk_at dksX2_letter_1 18 rfl rfl)
theorem dX2_letter_43 : decode cX2_letter 43 = .ok (.iaload, 1) := dk_46 (dk_at dksX2_letter_1 19 rfl rfl)
theorem dX2_letter_44 : decode cX2_letter 44 = .ok (.goto 9, 3) := dk_167 0 9 (dk_at dksX2_letter_1 20 rfl rfl)
theorem dX2_letter_47 : decode cX2_letter 47 = .ok (.aload_n 0, 1) := dk_42 (dk_at dksX2_letter_1 23 rfl rfl)
theorem dX2_letter_48 : decode cX2_letter 48 = .ok (.getfield 22, 3) := dk_180 0 22 (dk_at dksX2_letter_2 0 rfl rfl)
theorem dX2_letter_51 : decode cX2_letter 51 = .ok (.iconst 2, 1) := dk_5 (dk_at dksX2_letter_2 3 rfl rfl)
theorem dX2_letter_52 : decode cX2_letter 52 = .ok (.iaload, 1) := dk_46 (dk_at dksX2_letter_2 4 rfl rfl)
theorem dX2_letter_53 : decode cX2_letter 53 = .ok (.istore 4, 2) := dk_54 4 (dk_at dksX2_letter_2 5 rfl rfl)
theorem dX2_letter_55 : decode cX2_letter 55 = .ok (.iload_n 2, 1) := dk_28 (dk_at dksX2_letter_2 7 rfl rfl)
theorem dX2_letter_56 : decode cX2_letter 56 = .ok (.iconst 0, 1) := dk_3 (dk_at dksX2_letter_2 8 rfl rfl)
theorem dX2_letter_57 : decode cX2_letter 57 = .ok (.iload 4, 2) := dk_21 4 (dk_at dksX2_letter_2 9 rfl rfl)
theorem dX2_letter_59 : decode cX2_letter 59 = .ok (.iconst 1, 1) := dk_4 (dk_at dksX2_letter_2 11 rfl rfl)
theorem dX2_letter_60 : decode cX2_letter 60 = .ok (.isub, 1) := dk_100 (dk_at dksX2_letter_2 12 rfl rfl)
theorem dX2_letter_61 : decode cX2_letter 61 = .ok (.invokestatic 93, 3) := dk_184 0 93 (dk_at dksX2_letter_2 13 rfl rfl)
theorem dX2_letter_64 : decode cX2_letter 64 = .ok (.ifCond .ne 5, 3) := dk_154 0 5 (dk_at dksX2_letter_2 16 rfl rfl)
theorem dX2_letter_67 : decode cX2_letter 67 = .ok (.iconst (-1), 1) := dk_2 (dk_at dksX2_letter_2 19 rfl rfl)
theorem dX2_letter_68 : decode cX2_letter 68 = .ok (.ireturn, 1) := dk_172 (dk_at dksX2_letter_2 20 rfl rfl)
theorem dX2_letter_69 : decode cX2_letter 69 = .ok (.iload_n 1, 1) := dk_27 (dk_at dksX2_letter_2 21 rfl rfl)
theorem dX2_letter_70 : decode cX2_letter 70 = .ok (.ifCond .ne 7, 3) := dk_154 0 7 (dk_at dksX2_letter_3 0 rfl rfl)
theorem dX2_letter_73 : decode cX2_letter 73 = .ok (.iconst 0, 1) := dk_3 (dk_at dksX2_letter_3 3 rfl rfl)
theorem dX2_letter_74 : decode cX2_letter 74 = .ok (.goto 15, 3) := dk_167 0 15 (dk_at dksX2_letter_3 4 rfl rfl)
theorem dX2_letter_77 : decode cX2_letter 77 = .ok (.iload_n 1, 1) := dk_27 (dk_at dksX2_letter_3 7 rfl rfl)
theorem dX2_letter_78 : decode cX2_letter 78 = .ok (.iconst 1, 1) := dk_4 (dk_at dksX2_letter_3 8 rfl rfl)
theorem dX2_letter_79 : decode cX2_letter 79 = .ok (.if_icmp .ne 8, 3) := dk_160 0 8 (dk_at dksX2_letter_3 9 rfl rfl)
theorem dX2_letter_82 : decode cX2_letter 82 = .ok (.bipush 16, 2) := dk_16 16 (dk_at dksX2_letter_3 12 rfl rfl)
theorem dX2_letter_84 : decode cX2_letter 84 = .ok (.goto 5, 3) := dk_167 0 5 (dk_at dksX2_letter_3 14 rfl rfl)
theorem dX2_letter_87 : decode cX2_letter 87 = .ok (.bipush 22, 2) := dk_16 22 (dk_at dksX2_letter_3 17 rfl rfl)
theorem dX2_letter_89 : decode cX2_letter 89 = .ok (.istore 5, 2) := dk_54 5 (dk_at dksX2_letter_3 19 rfl rfl)
theorem dX2_letter_91 : decode cX2_letter 91 = .ok (.aload_n 0, 1) := dk_42 (dk_at dksX2_letter_3 21 rfl rfl)
theorem dX2_letter_92 : decode cX2_letter 92 = .ok (.aload_n 0, 1) := dk_42 (dk_at dksX2_letter_3 22 rfl rfl)
theorem dX2_letter_93 : decode cX2_letter 93 = .ok (.getfield 29, 3) := dk_180 0 29 (dk_at dksX2_letter_4 0 rfl rfl)
theorem dX2_letter_96 : decode cX2_letter 96 = .ok (.iload 5, 2) := dk_21 5 (dk_at dksX2_letter_4 3 rfl rfl)
theorem dX2_letter_98 : decode cX2_letter 98 = .ok (.iload_n 2, 1) := dk_28 (dk_at dksX2_letter_4 5 rfl rfl)
theorem dX2_letter_99 : decode cX2_letter 99 = .ok (.iadd, 1) := dk_96 (dk_at dksX2_letter_4 6 rfl rfl)
theorem dX2_letter_100 : decode cX2_letter 100 = .ok (.laload, 1) := dk_47 (dk_at dksX2_letter_4 7 rfl rfl)
theorem dX2_letter_101 : decode cX2_letter 101 = .ok (.iload_n 3, 1) := dk_29 (dk_at dksX2_letter_4 8 rfl rfl)
theorem dX2_letter_102 : decode cX2_letter 102 = .ok (.invokevirtual 270, 3) := dk_182 1 14 (dk_at dksX2_letter_4 9 rfl rfl)
theorem dX2_letter_105 : decode cX2_letter 105 = .ok (.ireturn, 1) := dk_172 (dk_at dksX2_letter_4 12 rfl rfl)
abbrev cX2_letterOf : ByteArray := prog_12_method_56_code
def yX2_letterOf : MethodName := ⟨RX2, "letterOf", "(JI)I"⟩
def dkwX2_letterOf_2 : List UInt8 := [20, 0, 130, 113, 136, 172]
abbrev dktX2_letterOf_2 : List UInt8 := dkwX2_letterOf_2 ++ []
def dkwX2_letterOf_1 : List UInt8 := [21, 7, 29, 164, 0, 17, 22, 5, 20, 0, 130, 109, 55, 5, 132, 7, 255, 167, 255, 239, 22, 5]
abbrev dktX2_letterOf_1 : List UInt8 := dkwX2_letterOf_1 ++ dktX2_letterOf_2
def dkwX2_letterOf_0 : List UInt8 := [42, 31, 182, 1, 10, 54, 4, 29, 21, 4, 161, 0, 5, 3, 172, 31, 55, 5, 21, 4, 4, 100, 54, 7]
abbrev dktX2_letterOf_0 : List UInt8 := dkwX2_letterOf_0 ++ dktX2_letterOf_1
theorem dksX2_letterOf_0 : cX2_letterOf.data.toList.drop 0 = dktX2_letterOf_0 := by decide +kernel
theorem dksX2_letterOf_1 : cX2_letterOf.data.toList.drop 24 = dktX2_letterOf_1 := dk_seg dksX2_letterOf_0 24 rfl rfl
theorem dksX2_letterOf_2 : cX2_letterOf.data.toList.drop 46 = dktX2_letterOf_2 := dk_seg dksX2_letterOf_1 22 rfl rfl
theorem dX2_letterOf_0 : decode cX2_letterOf 0 = .ok (.aload_n 0, 1) := dk_42 (dk_at dksX2_letterOf_0 0 rfl rfl)
theorem dX2_letterOf_1 : decode cX2_letterOf 1 = .ok (.lload_n 1, 1) := dk_31 (dk_at dksX2_letterOf_0 1 rfl rfl)
theorem dX2_letterOf_2 : decode cX2_letterOf 2 = .ok (.invokevirtual 266, 3) := dk_182 1 10 (dk_at dksX2_letterOf_0 2 rfl rfl)
theorem dX2_letterOf_5 : decode cX2_letterOf 5 = .ok (.istore 4, 2) := dk_54 4 (dk_at dksX2_letterOf_0 5 rfl rfl)
theorem dX2_letterOf_7 : decode cX2_letterOf 7 = .ok (.iload_n 3, 1) := dk_29 (dk_at dksX2_letterOf_0 7 rfl rfl)
theorem dX2_letterOf_8 : decode cX2_letterOf 8 = .ok (.iload 4, 2) := dk_21 4 (dk_at dksX2_letterOf_0 8 rfl rfl)
theorem dX2_letterOf_10 : decode cX2_letterOf 10 = .ok (.if_icmp .lt 5, 3) := dk_161 0 5 (dk_at dksX2_letterOf_0 10 rfl rfl)
theorem dX2_letterOf_13 : decode cX2_letterOf 13 = .ok (.iconst 0, 1) := dk_3 (dk_at dksX2_letterOf_0 13 rfl rfl)
theorem dX2_letterOf_14 : decode cX2_letterOf 14 = .ok (.ireturn, 1) := dk_172 (dk_at dksX2_letterOf_0 14 rfl rfl)
theorem dX2_letterOf_15 : decode cX2_letterOf 15 = .ok (.lload_n 1, 1) := dk_31 (dk_at dksX2_letterOf_0 15 rfl rfl)
theorem dX2_letterOf_16 : decode cX2_letterOf 16 = .ok (.lstore 5, 2) := dk_55 5 (dk_at dksX2_letterOf_0 16 rfl rfl)
theorem dX2_letterOf_18 : decode cX2_letterOf 18 = .ok (.iload 4, 2) := dk_21 4 (dk_at dksX2_letterOf_0 18 rfl rfl)
theorem dX2_letterOf_20 : decode cX2_letterOf 20 = .ok (.iconst 1, 1) := dk_4 (dk_at dksX2_letterOf_0 20 rfl rfl)
theorem dX2_letterOf_21 : decode cX2_letterOf 21 = .ok (.isub, 1) := dk_100 (dk_at dksX2_letterOf_0 21 rfl rfl)
theorem dX2_letterOf_22 : decode cX2_letterOf 22 = .ok (.istore 7, 2) := dk_54 7 (dk_at dksX2_letterOf_0 22 rfl rfl)
theorem dX2_letterOf_24 : decode cX2_letterOf 24 = .ok (.iload 7, 2) := dk_21 7 (dk_at dksX2_letterOf_1 0 rfl rfl)
theorem dX2_letterOf_26 : decode cX2_letterOf 26 = .ok (.iload_n 3, 1) := dk_29 (dk_at dksX2_letterOf_1 2 rfl rfl)
theorem dX2_letterOf_27 : decode cX2_letterOf 27 = .ok (.if_icmp .le 17, 3) := dk_164 0 17 (dk_at dksX2_letterOf_1 3 rfl rfl)
theorem dX2_letterOf_30 : decode cX2_letterOf 30 = .ok (.lload 5, 2) := dk_22 5 (dk_at dksX2_letterOf_1 6 rfl rfl)
theorem dX2_letterOf_32 : decode cX2_letterOf 32 = .ok (.ldc2_w 130, 3) := dk_20 0 130 (dk_at dksX2_letterOf_1 8 rfl rfl)
theorem dX2_letterOf_35 : decode cX2_letterOf 35 = .ok (.ldiv, 1) := dk_109 (dk_at dksX2_letterOf_1 11 rfl rfl)
theorem dX2_letterOf_36 : decode cX2_letterOf 36 = .ok (.lstore 5, 2) := dk_55 5 (dk_at dksX2_letterOf_1 12 rfl rfl)
theorem dX2_letterOf_38 : decode cX2_letterOf 38 = .ok (.iinc 7 (-1), 3) := dk_132 7 255 (dk_at dksX2_letterOf_1 14 rfl rfl)
theorem dX2_letterOf_41 : decode cX2_letterOf 41 = .ok (.goto (-17), 3) := dk_167 255 239 (dk_at dksX2_letterOf_1 17 rfl rfl)
theorem dX2_letterOf_44 : decode cX2_letterOf 44 = .ok (.lload 5, 2) := dk_22 5 (dk_at dksX2_letterOf_1 20 rfl rfl)
theorem dX2_letterOf_46 : decode cX2_letterOf 46 = .ok (.ldc2_w 130, 3) := dk_20 0 130 (dk_at dksX2_letterOf_2 0 rfl rfl)
theorem dX2_letterOf_49 : decode cX2_letterOf 49 = .ok (.lrem, 1) := dk_113 (dk_at dksX2_letterOf_2 3 rfl rfl)
theorem dX2_letterOf_50 : decode cX2_letterOf 50 = .ok (.l2i, 1) := dk_136 (dk_at dksX2_letterOf_2 4 rfl rfl)
theorem dX2_letterOf_51 : decode cX2_letterOf 51 = .ok (.ireturn, 1) := dk_172 (dk_at dksX2_letterOf_2 5 rfl rfl)
abbrev cX2_lettersOf : ByteArray := prog_12_method_55_code
def yX2_lettersOf : MethodName := ⟨RX2, "lettersOf", "(J)I"⟩
def dkwX2_lettersOf_1 : List UInt8 := [167, 255, 237, 29, 172]
abbrev dktX2_lettersOf_1 : List UInt8 := dkwX2_lettersOf_1 ++ []
def dkwX2_lettersOf_0 : List UInt8 := [3, 62, 31, 55, 4, 22, 4, 9, 148, 158, 0, 18, 29, 4, 96, 62, 22, 4, 20, 0, 130, 109, 55, 4]
abbrev dktX2_lettersOf_0 : List UInt8 := dkwX2_lettersOf_0 ++ dktX2_lettersOf_1
theorem dksX2_lettersOf_0 : cX2_lettersOf.data.toList.drop 0 = dktX2_lettersOf_0 := by decide +kernel
theorem dksX2_lettersOf_1 : cX2_lettersOf.data.toList.drop 24 = dktX2_lettersOf_1 := dk_seg dksX2_lettersOf_0 24 rfl rfl
theorem dX2_lettersOf_0 : decode cX2_lettersOf 0 = .ok (.iconst 0, 1) := dk_3 (dk_at dksX2_lettersOf_0 0 rfl rfl)
theorem dX2_lettersOf_1 : decode cX2_lettersOf 1 = .ok (.istore_n 3, 1) := dk_62 (dk_at dksX2_lettersOf_0 1 rfl rfl)
theorem dX2_lettersOf_2 : decode cX2_lettersOf 2 = .ok (.lload_n 1, 1) := dk_31 (dk_at dksX2_lettersOf_0 2 rfl rfl)
theorem dX2_lettersOf_3 : decode cX2_lettersOf 3 = .ok (.lstore 4, 2) := dk_55 4 (dk_at dksX2_lettersOf_0 3 rfl rfl)
theorem dX2_lettersOf_5 : decode cX2_lettersOf 5 = .ok (.lload 4, 2) := dk_22 4 (dk_at dksX2_lettersOf_0 5 rfl rfl)
theorem dX2_lettersOf_7 : decode cX2_lettersOf 7 = .ok (.lconst 0, 1) := dk_9 (dk_at dksX2_lettersOf_0 7 rfl rfl)
theorem dX2_lettersOf_8 : decode cX2_lettersOf 8 = .ok (.lcmp, 1) := dk_148 (dk_at dksX2_lettersOf_0 8 rfl rfl)
theorem dX2_lettersOf_9 : decode cX2_lettersOf 9 = .ok (.ifCond .le 18, 3) := dk_158 0 18 (dk_at dksX2_lettersOf_0 9 rfl rfl)
theorem dX2_lettersOf_12 : decode cX2_lettersOf 12 = .ok (.iload_n 3, 1) := dk_29 (dk_at dksX2_lettersOf_0 12 rfl rfl)
theorem dX2_lettersOf_13 : decode cX2_lettersOf 13 = .ok (.iconst 1, 1) := dk_4 (dk_at dksX2_lettersOf_0 13 rfl rfl)
theorem dX2_lettersOf_14 : decode cX2_lettersOf 14 = .ok (.iadd, 1) := dk_96 (dk_at dksX2_lettersOf_0 14 rfl rfl)
theorem dX2_lettersOf_15 : decode cX2_lettersOf 15 = .ok (.istore_n 3, 1) := dk_62 (dk_at dksX2_lettersOf_0 15 rfl rfl)
theorem dX2_lettersOf_16 : decode cX2_lettersOf 16 = .ok (.lload 4, 2) := dk_22 4 (dk_at dksX2_lettersOf_0 16 rfl rfl)
theorem dX2_lettersOf_18 : decode cX2_lettersOf 18 = .ok (.ldc2_w 130, 3) := dk_20 0 130 (dk_at dksX2_lettersOf_0 18 rfl rfl)
theorem dX2_lettersOf_21 : decode cX2_lettersOf 21 = .ok (.ldiv, 1) := dk_109 (dk_at dksX2_lettersOf_0 21 rfl rfl)
theorem dX2_lettersOf_22 : decode cX2_lettersOf 22 = .ok (.lstore 4, 2) := dk_55 4 (dk_at dksX2_lettersOf_0 22 rfl rfl)
theorem dX2_lettersOf_24 : decode cX2_lettersOf 24 = .ok (.goto (-19), 3) := dk_167 255 237 (dk_at dksX2_lettersOf_1 0 rfl rfl)
theorem dX2_lettersOf_27 : decode cX2_lettersOf 27 = .ok (.iload_n 3, 1) := dk_29 (dk_at dksX2_lettersOf_1 3 rfl rfl)
theorem dX2_lettersOf_28 : decode cX2_lettersOf 28 = .ok (.ireturn, 1) := dk_172 (dk_at dksX2_lettersOf_1 4 rfl rfl)
abbrev cX2_filing : ByteArray := prog_12_method_61_code
def yX2_filing : MethodName := ⟨RX2, "filing", "(II)I"⟩
def dkwX2_filing_4 : List UInt8 := [182, 1, 43, 172, 42, 27, 182, 1, 43, 42, 180, 0, 13, 6, 46, 96, 172, 2, 172]
abbrev dktX2_filing_4 : List UInt8 := dkwX2_filing_4 ++ []
def dkwX2_filing_3 : List UInt8 := [172, 42, 27, 4, 182, 1, 33, 172, 42, 27, 182, 1, 37, 172, 42, 27, 182, 1, 40, 172, 42, 27]
abbrev dktX2_filing_3 : List UInt8 := dkwX2_filing_3 ++ dktX2_filing_4
def dkwX2_filing_2 : List UInt8 := [42, 27, 182, 1, 30, 172, 42, 27, 182, 1, 21, 172, 42, 27, 182, 1, 24, 172, 42, 27, 3, 182, 1, 33]
abbrev dktX2_filing_2 : List UInt8 := dkwX2_filing_2 ++ dktX2_filing_3
def dkwX2_filing_1 : List UInt8 := [170, 0, 0, 0, 112, 0, 0, 0, 0, 0, 0, 0, 8, 0, 0, 0, 49, 0, 0, 0, 55, 0, 0, 0, 61, 0, 0, 0, 67, 0, 0, 0, 74, 0, 0, 0, 81, 0, 0, 0, 87, 0, 0, 0, 93, 0, 0, 0, 99]
abbrev dktX2_filing_1 : List UInt8 := dkwX2_filing_1 ++ dktX2_filing_2
def dkwX2_filing_0 : List UInt8 := [42, 27, 182, 1, 27, 154, 0, 5, 2, 172, 28]
abbrev dktX2_filing_0 : List UInt8 := dkwX2_filing_0 ++ dktX2_filing_1
theorem dksX2_filing_0 : cX2_filing.data.toList.drop 0 = dktX2_filing_0 := by decide +kernel
theorem dksX2_filing_1 : cX2_filing.data.toList.drop 11 = dktX2_filing_1 := dk_seg dksX2_filing_0 11 rfl rfl
theorem dksX2_filing_2 : cX2_filing.data.toList.drop 60 = dktX2_filing_2 := dk_seg dksX2_filing_1 49 rfl rfl
theorem dksX2_filing_3 : cX2_filing.data.toList.drop 84 = dktX2_filing_3 := dk_seg dksX2_filing_2 24 rfl rfl
theorem dksX2_filing_4 : cX2_filing.data.toList.drop 106 = dktX2_filing_4 := dk_seg dksX2_filing_3 22 rfl rfl
theorem dX2_filing_0 : decode cX2_filing 0 = .ok (.aload_n 0, 1) := dk_42 (dk_at dksX2_filing_0 0 rfl rfl)
theorem dX2_filing_1 : decode cX2_filing 1 = .ok (.iload_n 1, 1) := dk_27 (dk_at dksX2_filing_0 1 rfl rfl)
theorem dX2_filing_2 : decode cX2_filing 2 = .ok (.invokevirtual 283, 3) := dk_182 1 27 (dk_at dksX2_filing_0 2 rfl rfl)
theorem dX2_filing_5 : decode cX2_filing 5 = .ok (.ifCond .ne 5, 3) := dk_154 0 5 (dk_at dksX2_filing_0 5 rfl rfl)
theorem dX2_filing_8 : decode cX2_filing 8 = .ok (.iconst (-1), 1) := dk_2 (dk_at dksX2_filing_0 8 rfl rfl)
theorem dX2_filing_9 : decode cX2_filing 9 = .ok (.ireturn, 1) := dk_172 (dk_at dksX2_filing_0 9 rfl rfl)
theorem dX2_filing_10 : decode cX2_filing 10 = .ok (.iload_n 2, 1) := dk_28 (dk_at dksX2_filing_0 10 rfl rfl)
theorem dX2_filing_11 : decode cX2_filing 11 = .ok (.tableswitch 112 0 8 #[49, 55, 61, 67, 74, 81, 87, 93, 99], 49) := by decide +kernel
theorem dX2_filing_60 : decode cX2_filing 60 = .ok (.aload_n 0, 1) := dk_42 (dk_at dksX2_filing_2 0 rfl rfl)
theorem dX2_filing_61 : decode cX2_filing 61 = .ok (.iload_n 1, 1) := dk_27 (dk_at dksX2_filing_2 1 rfl rfl)
theorem dX2_filing_62 : decode cX2_filing 62 = .ok (.invokevirtual 286, 3) := dk_182 1 30 (dk_at dksX2_filing_2 2 rfl rfl)
theorem dX2_filing_65 : decode cX2_filing 65 = .ok (.ireturn, 1) := dk_172 (dk_at dksX2_filing_2 5 rfl rfl)
theorem dX2_filing_66 : decode cX2_filing 66 = .ok (.aload_n 0, 1) := dk_42 (dk_at dksX2_filing_2 6 rfl rfl)
theorem dX2_filing_67 : decode cX2_filing 67 = .ok (.iload_n 1, 1) := dk_27 (dk_at dksX2_filing_2 7 rfl rfl)
theorem dX2_filing_68 : decode cX2_filing 68 = .ok (.invokevirtual 277, 3) := dk_182 1 21 (dk_at dksX2_filing_2 8 rfl rfl)
theorem dX2_filing_71 : decode cX2_filing 71 = .ok (.ireturn, 1) := dk_172 (dk_at dksX2_filing_2 11 rfl rfl)
theorem dX2_filing_72 : decode cX2_filing 72 = .ok (.aload_n 0, 1) := dk_42 (dk_at dksX2_filing_2 12 rfl rfl)
theorem dX2_filing_73 : decode cX2_filing 73 = .ok (.iload_n 1, 1) := dk_27 (dk_at dksX2_filing_2 13 rfl rfl)
theorem dX2_filing_74 : decode cX2_filing 74 = .ok (.invokevirtual 280, 3) := dk_182 1 24 (dk_at dksX2_filing_2 14 rfl rfl)
theorem dX2_filing_77 : decode cX2_filing 77 = .ok (.ireturn, 1) := dk_172 (dk_at dksX2_filing_2 17 rfl rfl)
theorem dX2_filing_78 : decode cX2_filing 78 = .ok (.aload_n 0, 1) := dk_42 (dk_at dksX2_filing_2 18 rfl rfl)
theorem dX2_filing_79 : decode cX2_filing 79 = .ok (.iload_n 1, 1) := dk_27 (dk_at dksX2_filing_2 19 rfl rfl)
theorem dX2_filing_80 : decode cX2_filing 80 = .ok (.iconst 0, 1) := dk_3 (dk_at dksX2_filing_2 20 rfl rfl)
theorem dX2_filing_81 : decode cX2_filing 81 = .ok (.invokevirtual 289, 3) := dk_182 1 33 (dk_at dksX2_filing_2 21 rfl rfl)
theorem dX2_filing_84 : decode cX2_filing 84 = .ok (.ireturn, 1) := dk_172 (dk_at dksX2_filing_3 0 rfl rfl)
theorem dX2_filing_85 : decode cX2_filing 85 = .ok (.aload_n 0, 1) := dk_42 (dk_at dksX2_filing_3 1 rfl rfl)
theorem dX2_filing_86 : decode cX2_filing 86 = .ok (.iload_n 1, 1) := dk_27 (dk_at dksX2_filing_3 2 rfl rfl)
theorem dX2_filing_87 : decode cX2_filing 87 = .ok (.iconst 1, 1) := dk_4 (dk_at dksX2_filing_3 3 rfl rfl)
theorem dX2_filing_88 : decode cX2_filing 88 = .ok (.invokevirtual 289, 3) := dk_182 1 33 (dk_at dksX2_filing_3 4 rfl rfl)
theorem dX2_filing_91 : decode cX2_filing 91 = .ok (.ireturn, 1) := dk_172 (dk_at dksX2_filing_3 7 rfl rfl)
theorem dX2_filing_92 : decode cX2_filing 92 = .ok (.aload_n 0, 1) := dk_42 (dk_at dksX2_filing_3 8 rfl rfl)
theorem dX2_filing_93 : decode cX2_filing 93 = .ok (.iload_n 1, 1) := dk_27 (dk_at dksX2_filing_3 9 rfl rfl)
theorem dX2_filing_94 : decode cX2_filing 94 = .ok (.invokevirtual 293, 3) := dk_182 1 37 (dk_at dksX2_filing_3 10 rfl rfl)
theorem dX2_filing_97 : decode cX2_filing 97 = .ok (.ireturn, 1) := dk_172 (dk_at dksX2_filing_3 13 rfl rfl)
theorem dX2_filing_98 : decode cX2_filing 98 = .ok (.aload_n 0, 1) := dk_42 (dk_at dksX2_filing_3 14 rfl rfl)
theorem dX2_filing_99 : decode cX2_filing 99 = .ok (.iload_n 1, 1) := dk_27 (dk_at dksX2_filing_3 15 rfl rfl)
theorem dX2_filing_100 : decode cX2_filing 100 = .ok (.invokevirtual 296, 3) := dk_182 1 40 (dk_at dksX2_filing_3 16 rfl rfl)
theorem dX2_filing_103 : decode cX2_filing 103 = .ok (.ireturn, 1) := dk_172 (dk_at dksX2_filing_3 19 rfl rfl)
theorem dX2_filing_104 : decode cX2_filing 104 = .ok (.aload_n 0, 1) := dk_42 (dk_at dksX2_filing_3 20 rfl rfl)
theorem dX2_filing_105 : decode cX2_filing 105 = .ok (.iload_n 1, 1) := dk_27 (dk_at dksX2_filing_3 21 rfl rfl)
theorem dX2_filing_106 : decode cX2_filing 106 = .ok (.invokevirtual 299, 3) := dk_182 1 43 (dk_at dksX2_filing_4 0 rfl rfl)
theorem dX2_filing_109 : decode cX2_filing 109 = .ok (.ireturn, 1) := dk_172 (dk_at dksX2_filing_4 3 rfl rfl)
theorem dX2_filing_110 : decode cX2_filing 110 = .ok (.aload_n 0, 1) := dk_42 (dk_at dksX2_filing_4 4 rfl rfl)
theorem dX2_filing_111 : decode cX2_filing 111 = .ok (.iload_n 1, 1) := dk_27 (dk_at dksX2_filing_4 5 rfl rfl)
theorem dX2_filing_112 : decode cX2_filing 112 = .ok (.invokevirtual 299, 3) := dk_182 1 43 (dk_at dksX2_filing_4 6 rfl rfl)
theorem dX2_filing_115 : decode cX2_filing 115 = .ok (.aload_n 0, 1) := dk_42 (dk_at dksX2_filing_4 9 rfl rfl)
theorem dX2_filing_116 : decode cX2_filing 116 = .ok (.getfield 13, 3) := dk_180 0 13 (dk_at dksX2_filing_4 10 rfl rfl)
theorem dX2_filing_119 : decode cX2_filing 119 = .ok (.iconst 3, 1) := dk_6 (dk_at dksX2_filing_4 13 rfl rfl)
theorem dX2_filing_120 : decode cX2_filing 120 = .ok (.iaload, 1) := dk_46 (dk_at dksX2_filing_4 14 rfl rfl)
theorem dX2_filing_121 : decode cX2_filing 121 = .ok (.iadd, 1) := dk_96 (dk_at dksX2_filing_4 15 rfl rfl)
theorem dX2_filing_122 : decode cX2_filing 122 = .ok (.ireturn, 1) := dk_172 (dk_at dksX2_filing_4 16 rfl rfl)
theorem dX2_filing_123 : decode cX2_filing 123 = .ok (.iconst (-1), 1) := dk_2 (dk_at dksX2_filing_4 17 rfl rfl)
theorem dX2_filing_124 : decode cX2_filing 124 = .ok (.ireturn, 1) := dk_172 (dk_at dksX2_filing_4 18 rfl rfl)
abbrev cX2_isFiling : ByteArray := prog_12_method_39_code
def yX2_isFiling : MethodName := ⟨RX2, "isFiling", "(I)Z"⟩
def dkwX2_isFiling_0 : List UInt8 := [27, 3, 42, 180, 0, 22, 5, 46, 4, 100, 184, 0, 93, 172]
abbrev dktX2_isFiling_0 : List UInt8 := dkwX2_isFiling_0 ++ []
theorem dksX2_isFiling_0 : cX2_isFiling.data.toList.drop 0 = dktX2_isFiling_0 := by decide +kernel
theorem dX2_isFiling_0 : decode cX2_isFiling 0 = .ok (.iload_n 1, 1) := dk_27 (dk_at dksX2_isFiling_0 0 rfl rfl)
theorem dX2_isFiling_1 : decode cX2_isFiling 1 = .ok (.iconst 0, 1) := dk_3 (dk_at dksX2_isFiling_0 1 rfl rfl)
theorem dX2_isFiling_2 : decode cX2_isFiling 2 = .ok (.aload_n 0, 1) := dk_42 (dk_at dksX2_isFiling_0 2 rfl rfl)
theorem dX2_isFiling_3 : decode cX2_isFiling 3 = .ok (.getfield 22, 3) := dk_180 0 22 (dk_at dksX2_isFiling_0 3 rfl rfl)
theorem dX2_isFiling_6 : decode cX2_isFiling 6 = .ok (.iconst 2, 1) := dk_5 (dk_at dksX2_isFiling_0 6 rfl rfl)
theorem dX2_isFiling_7 : decode cX2_isFiling 7 = .ok (.iaload, 1) := dk_46 (dk_at dksX2_isFiling_0 7 rfl rfl)
theorem dX2_isFiling_8 : decode cX2_isFiling 8 = .ok (.iconst 1, 1) := dk_4 (dk_at dksX2_isFiling_0 8 rfl rfl)
theorem dX2_isFiling_9 : decode cX2_isFiling 9 = .ok (.isub, 1) := dk_100 (dk_at dksX2_isFiling_0 9 rfl rfl)
theorem dX2_isFiling_10 : decode cX2_isFiling 10 = .ok (.invokestatic 93, 3) := dk_184 0 93 (dk_at dksX2_isFiling_0 10 rfl rfl)
theorem dX2_isFiling_13 : decode cX2_isFiling 13 = .ok (.ireturn, 1) := dk_172 (dk_at dksX2_isFiling_0 13 rfl rfl)
abbrev cX2_partsOf : ByteArray := prog_12_method_58_code
def yX2_partsOf : MethodName := ⟨RX2, "partsOf", "(IZ)I"⟩
def dkwX2_partsOf_3 : List UInt8 := [132, 4, 1, 167, 255, 191, 29, 172]
abbrev dktX2_partsOf_3 : List UInt8 := dkwX2_partsOf_3 ++ []
def dkwX2_partsOf_2 : List UInt8 := [167, 0, 4, 3, 54, 6, 21, 6, 153, 0, 12, 29, 4, 21, 4, 120, 128, 167, 0, 4, 29, 62]
abbrev dktX2_partsOf_2 : List UInt8 := dkwX2_partsOf_2 ++ dktX2_partsOf_3
def dkwX2_partsOf_1 : List UInt8 := [153, 0, 16, 21, 5, 154, 0, 7, 4, 167, 0, 18, 3, 167, 0, 14, 21, 5, 2, 159, 0, 7, 4]
abbrev dktX2_partsOf_1 : List UInt8 := dkwX2_partsOf_1 ++ dktX2_partsOf_2
def dkwX2_partsOf_0 : List UInt8 := [3, 62, 3, 54, 4, 21, 4, 16, 16, 162, 0, 64, 42, 27, 21, 4, 182, 1, 18, 54, 5, 28]
abbrev dktX2_partsOf_0 : List UInt8 := dkwX2_partsOf_0 ++ dktX2_partsOf_1
theorem dksX2_partsOf_0 : cX2_partsOf.data.toList.drop 0 = dktX2_partsOf_0 := by decide +kernel
theorem dksX2_partsOf_1 : cX2_partsOf.data.toList.drop 22 = dktX2_partsOf_1 := dk_seg dksX2_partsOf_0 22 rfl rfl
theorem dksX2_partsOf_2 : cX2_partsOf.data.toList.drop 45 = dktX2_partsOf_2 := dk_seg dksX2_partsOf_1 23 rfl rfl
theorem dksX2_partsOf_3 : cX2_partsOf.data.toList.drop 67 = dktX2_partsOf_3 := dk_seg dksX2_partsOf_2 22 rfl rfl
theorem dX2_partsOf_0 : decode cX2_partsOf 0 = .ok (.iconst 0, 1) := dk_3 (dk_at dksX2_partsOf_0 0 rfl rfl)
theorem dX2_partsOf_1 : decode cX2_partsOf 1 = .ok (.istore_n 3, 1) := dk_62 (dk_at dksX2_partsOf_0 1 rfl rfl)
theorem dX2_partsOf_2 : decode cX2_partsOf 2 = .ok (.iconst 0, 1) := dk_3 (dk_at dksX2_partsOf_0 2 rfl rfl)
theorem dX2_partsOf_3 : decode cX2_partsOf 3 = .ok (.istore 4, 2) := dk_54 4 (dk_at dksX2_partsOf_0 3 rfl rfl)
theorem dX2_partsOf_5 : decode cX2_partsOf 5 = .ok (.iload 4, 2) := dk_21 4 (dk_at dksX2_partsOf_0 5 rfl rfl)
theorem dX2_partsOf_7 : decode cX2_partsOf 7 = .ok (.bipush 16, 2) := dk_16 16 (dk_at dksX2_partsOf_0 7 rfl rfl)
theorem dX2_partsOf_9 : decode cX2_partsOf 9 = .ok (.if_icmp .ge 64, 3) := dk_162 0 64 (dk_at dksX2_partsOf_0 9 rfl rfl)
theorem dX2_partsOf_12 : decode cX2_partsOf 12 = .ok (.aload_n 0, 1) := dk_42 (dk_at dksX2_partsOf_0 12 rfl rfl)
theorem dX2_partsOf_13 : decode cX2_partsOf 13 = .ok (.iload_n 1, 1) := dk_27 (dk_at dksX2_partsOf_0 13 rfl rfl)
theorem dX2_partsOf_14 : decode cX2_partsOf 14 = .ok (.iload 4, 2) := dk_21 4 (dk_at dksX2_partsOf_0 14 rfl rfl)
theorem dX2_partsOf_16 : decode cX2_partsOf 16 = .ok (.invokevirtual 274, 3) := dk_182 1 18 (dk_at dksX2_partsOf_0 16 rfl rfl)
theorem dX2_partsOf_19 : decode cX2_partsOf 19 = .ok (.istore 5, 2) := dk_54 5 (dk_at dksX2_partsOf_0 19 rfl rfl)
theorem dX2_partsOf_21 : decode cX2_partsOf 21 = .ok (.iload_n 2, 1) := dk_28 (dk_at dksX2_partsOf_0 21 rfl rfl)
theorem dX2_partsOf_22 : decode cX2_partsOf 22 = .ok (.ifCond .eq 16, 3) := dk_153 0 16 (dk_at dksX2_partsOf_1 0 rfl rfl)
theorem dX2_partsOf_25 : decode cX2_partsOf 25 = .ok (.iload 5, 2) := dk_21 5 (dk_at dksX2_partsOf_1 3 rfl rfl)
theorem dX2_partsOf_27 : decode cX2_partsOf 27 = .ok (.ifCond .ne 7, 3) := dk_154 0 7 (dk_at dksX2_partsOf_1 5 rfl rfl)
theorem dX2_partsOf_30 : decode cX2_partsOf 30 = .ok (.iconst 1, 1) := dk_4 (dk_at dksX2_partsOf_1 8 rfl rfl)
theorem dX2_partsOf_31 : decode cX2_partsOf 31 = .ok (.goto 18, 3) := dk_167 0 18 (dk_at dksX2_partsOf_1 9 rfl rfl)
theorem dX2_partsOf_34 : decode cX2_partsOf 34 = .ok (.iconst 0, 1) := dk_3 (dk_at dksX2_partsOf_1 12 rfl rfl)
theorem dX2_partsOf_35 : decode cX2_partsOf 35 = .ok (.goto 14, 3) := dk_167 0 14 (dk_at dksX2_partsOf_1 13 rfl rfl)
theorem dX2_partsOf_38 : decode cX2_partsOf 38 = .ok (.iload 5, 2) := dk_21 5 (dk_at dksX2_partsOf_1 16 rfl rfl)
theorem dX2_partsOf_40 : decode cX2_partsOf 40 = .ok (.iconst (-1), 1) := dk_2 (dk_at dksX2_partsOf_1 18 rfl rfl)
theorem dX2_partsOf_41 : decode cX2_partsOf 41 = .ok (.if_icmp .eq 7, 3) := dk_159 0 7 (dk_at dksX2_partsOf_1 19 rfl rfl)
theorem dX2_partsOf_44 : decode cX2_partsOf 44 = .ok (.iconst 1, 1) := dk_4 (dk_at dksX2_partsOf_1 22 rfl rfl)
theorem dX2_partsOf_45 : decode cX2_partsOf 45 = .ok (.goto 4, 3) := dk_167 0 4 (dk_at dksX2_partsOf_2 0 rfl rfl)
theorem dX2_partsOf_48 : decode cX2_partsOf 48 = .ok (.iconst 0, 1) := dk_3 (dk_at dksX2_partsOf_2 3 rfl rfl)
theorem dX2_partsOf_49 : decode cX2_partsOf 49 = .ok (.istore 6, 2) := dk_54 6 (dk_at dksX2_partsOf_2 4 rfl rfl)
theorem dX2_partsOf_51 : decode cX2_partsOf 51 = .ok (.iload 6, 2) := dk_21 6 (dk_at dksX2_partsOf_2 6 rfl rfl)
theorem dX2_partsOf_53 : decode cX2_partsOf 53 = .ok (.ifCond .eq 12, 3) := dk_153 0 12 (dk_at dksX2_partsOf_2 8 rfl rfl)
theorem dX2_partsOf_56 : decode cX2_partsOf 56 = .ok (.iload_n 3, 1) := dk_29 (dk_at dksX2_partsOf_2 11 rfl rfl)
theorem dX2_partsOf_57 : decode cX2_partsOf 57 = .ok (.iconst 1, 1) := dk_4 (dk_at dksX2_partsOf_2 12 rfl rfl)
theorem dX2_partsOf_58 : decode cX2_partsOf 58 = .ok (.iload 4, 2) := dk_21 4 (dk_at dksX2_partsOf_2 13 rfl rfl)
theorem dX2_partsOf_60 : decode cX2_partsOf 60 = .ok (.ishl, 1) := dk_120 (dk_at dksX2_partsOf_2 15 rfl rfl)
theorem dX2_partsOf_61 : decode cX2_partsOf 61 = .ok (.ior, 1) := dk_128 (dk_at dksX2_partsOf_2 16 rfl rfl)
theorem dX2_partsOf_62 : decode cX2_partsOf 62 = .ok (.goto 4, 3) := dk_167 0 4 (dk_at dksX2_partsOf_2 17 rfl rfl)
theorem dX2_partsOf_65 : decode cX2_partsOf 65 = .ok (.iload_n 3, 1) := dk_29 (dk_at dksX2_partsOf_2 20 rfl rfl)
theorem dX2_partsOf_66 : decode cX2_partsOf 66 = .ok (.istore_n 3, 1) := dk_62 (dk_at dksX2_partsOf_2 21 rfl rfl)
theorem dX2_partsOf_67 : decode cX2_partsOf 67 = .ok (.iinc 4 1, 3) := dk_132 4 1 (dk_at dksX2_partsOf_3 0 rfl rfl)
theorem dX2_partsOf_70 : decode cX2_partsOf 70 = .ok (.goto (-65), 3) := dk_167 255 191 (dk_at dksX2_partsOf_3 3 rfl rfl)
theorem dX2_partsOf_73 : decode cX2_partsOf 73 = .ok (.iload_n 3, 1) := dk_29 (dk_at dksX2_partsOf_3 6 rfl rfl)
theorem dX2_partsOf_74 : decode cX2_partsOf 74 = .ok (.ireturn, 1) := dk_172 (dk_at dksX2_partsOf_3 7 rfl rfl)
abbrev cX2_claimsOf : ByteArray := prog_12_method_59_code
def yX2_claimsOf : MethodName := ⟨RX2, "claimsOf", "(I)I"⟩
def dkwX2_claimsOf_1 : List UInt8 := [160, 0, 9, 28, 4, 96, 167, 0, 4, 28, 61, 132, 3, 1, 167, 255, 222, 28, 172]
abbrev dktX2_claimsOf_1 : List UInt8 := dkwX2_claimsOf_1 ++ []
def dkwX2_claimsOf_0 : List UInt8 := [3, 61, 3, 62, 29, 42, 180, 0, 22, 6, 46, 162, 0, 30, 42, 180, 0, 22, 16, 19, 29, 96, 46, 27]
abbrev dktX2_claimsOf_0 : List UInt8 := dkwX2_claimsOf_0 ++ dktX2_claimsOf_1
theorem dksX2_claimsOf_0 : cX2_claimsOf.data.toList.drop 0 = dktX2_claimsOf_0 := by decide +kernel
theorem dksX2_claimsOf_1 : cX2_claimsOf.data.toList.drop 24 = dktX2_claimsOf_1 := dk_seg dksX2_claimsOf_0 24 rfl rfl
theorem dX2_claimsOf_0 : decode cX2_claimsOf 0 = .ok (.iconst 0, 1) := dk_3 (dk_at dksX2_claimsOf_0 0 rfl rfl)
theorem dX2_claimsOf_1 : decode cX2_claimsOf 1 = .ok (.istore_n 2, 1) := dk_61 (dk_at dksX2_claimsOf_0 1 rfl rfl)
theorem dX2_claimsOf_2 : decode cX2_claimsOf 2 = .ok (.iconst 0, 1) := dk_3 (dk_at dksX2_claimsOf_0 2 rfl rfl)
theorem dX2_claimsOf_3 : decode cX2_claimsOf 3 = .ok (.istore_n 3, 1) := dk_62 (dk_at dksX2_claimsOf_0 3 rfl rfl)
theorem dX2_claimsOf_4 : decode cX2_claimsOf 4 = .ok (.iload_n 3, 1) := dk_29 (dk_at dksX2_claimsOf_0 4 rfl rfl)
theorem dX2_claimsOf_5 : decode cX2_claimsOf 5 = .ok (.aload_n 0, 1) := dk_42 (dk_at dksX2_claimsOf_0 5 rfl rfl)
theorem dX2_claimsOf_6 : decode cX2_claimsOf 6 = .ok (.getfield 22, 3) := dk_180 0 22 (dk_at dksX2_claimsOf_0 6 rfl rfl)
theorem dX2_claimsOf_9 : decode cX2_claimsOf 9 = .ok (.iconst 3, 1) := dk_6 (dk_at dksX2_claimsOf_0 9 rfl rfl)
theorem dX2_claimsOf_10 : decode cX2_claimsOf 10 = .ok (.iaload, 1) := dk_46 (dk_at dksX2_claimsOf_0 10 rfl rfl)
theorem dX2_claimsOf_11 : decode cX2_claimsOf 11 = .ok (.if_icmp .ge 30, 3) := dk_162 0 30 (dk_at dksX2_claimsOf_0 11 rfl rfl)
theorem dX2_claimsOf_14 : decode cX2_claimsOf 14 = .ok (.aload_n 0, 1) := dk_42 (dk_at dksX2_claimsOf_0 14 rfl rfl)
theorem dX2_claimsOf_15 : decode cX2_claimsOf 15 = .ok (.getfield 22, 3) := dk_180 0 22 (dk_at dksX2_claimsOf_0 15 rfl rfl)
theorem dX2_claimsOf_18 : decode cX2_claimsOf 18 = .ok (.bipush 19, 2) := dk_16 19 (dk_at dksX2_claimsOf_0 18 rfl rfl)
theorem dX2_claimsOf_20 : decode cX2_claimsOf 20 = .ok (.iload_n 3, 1) := dk_29 (dk_at dksX2_claimsOf_0 20 rfl rfl)
theorem dX2_claimsOf_21 : decode cX2_claimsOf 21 = .ok (.iadd, 1) := dk_96 (dk_at dksX2_claimsOf_0 21 rfl rfl)
theorem dX2_claimsOf_22 : decode cX2_claimsOf 22 = .ok (.iaload, 1) := dk_46 (dk_at dksX2_claimsOf_0 22 rfl rfl)
theorem dX2_claimsOf_23 : decode cX2_claimsOf 23 = .ok (.iload_n 1, 1) := dk_27 (dk_at dksX2_claimsOf_0 23 rfl rfl)
theorem dX2_claimsOf_24 : decode cX2_claimsOf 24 = .ok (.if_icmp .ne 9, 3) := dk_160 0 9 (dk_at dksX2_claimsOf_1 0 rfl rfl)
theorem dX2_claimsOf_27 : decode cX2_claimsOf 27 = .ok (.iload_n 2, 1) := dk_28 (dk_at dksX2_claimsOf_1 3 rfl rfl)
theorem dX2_claimsOf_28 : decode cX2_claimsOf 28 = .ok (.iconst 1, 1) := dk_4 (dk_at dksX2_claimsOf_1 4 rfl rfl)
theorem dX2_claimsOf_29 : decode cX2_claimsOf 29 = .ok (.iadd, 1) := dk_96 (dk_at dksX2_claimsOf_1 5 rfl rfl)
theorem dX2_claimsOf_30 : decode cX2_claimsOf 30 = .ok (.goto 4, 3) := dk_167 0 4 (dk_at dksX2_claimsOf_1 6 rfl rfl)
theorem dX2_claimsOf_33 : decode cX2_claimsOf 33 = .ok (.iload_n 2, 1) := dk_28 (dk_at dksX2_claimsOf_1 9 rfl rfl)
theorem dX2_claimsOf_34 : decode cX2_claimsOf 34 = .ok (.istore_n 2, 1) := dk_61 (dk_at dksX2_claimsOf_1 10 rfl rfl)
theorem dX2_claimsOf_35 : decode cX2_claimsOf 35 = .ok (.iinc 3 1, 3) := dk_132 3 1 (dk_at dksX2_claimsOf_1 11 rfl rfl)
theorem dX2_claimsOf_38 : decode cX2_claimsOf 38 = .ok (.goto (-34), 3) := dk_167 255 222 (dk_at dksX2_claimsOf_1 14 rfl rfl)
theorem dX2_claimsOf_41 : decode cX2_claimsOf 41 = .ok (.iload_n 2, 1) := dk_28 (dk_at dksX2_claimsOf_1 17 rfl rfl)
theorem dX2_claimsOf_42 : decode cX2_claimsOf 42 = .ok (.ireturn, 1) := dk_172 (dk_at dksX2_claimsOf_1 18 rfl rfl)
abbrev cX2_oldestOf : ByteArray := prog_12_method_125_code
def yX2_oldestOf : MethodName := ⟨RX2, "oldestOf", "(I)I"⟩
def dkwX2_oldestOf_4 : List UInt8 := [167, 0, 4, 28, 61, 132, 3, 1, 167, 255, 214, 28, 172]
abbrev dktX2_oldestOf_4 : List UInt8 := dkwX2_oldestOf_4 ++ []
def dkwX2_oldestOf_3 : List UInt8 := [180, 0, 43, 29, 46, 2, 159, 0, 20, 42, 29, 182, 1, 21, 28, 162, 0, 11, 42, 29, 182, 1, 21]
abbrev dktX2_oldestOf_3 : List UInt8 := dkwX2_oldestOf_3 ++ dktX2_oldestOf_4
def dkwX2_oldestOf_2 : List UInt8 := [42, 27, 182, 1, 81, 42, 27, 182, 1, 21, 61, 3, 62, 29, 42, 180, 0, 22, 5, 46, 162, 0, 38, 42]
abbrev dktX2_oldestOf_2 : List UInt8 := dkwX2_oldestOf_2 ++ dktX2_oldestOf_3
def dkwX2_oldestOf_1 : List UInt8 := [4, 160, 0, 15, 42, 28, 182, 1, 62, 153, 0, 7, 4, 167, 0, 4, 3, 84, 132, 2, 1, 167, 255, 213]
abbrev dktX2_oldestOf_1 : List UInt8 := dkwX2_oldestOf_1 ++ dktX2_oldestOf_2
def dkwX2_oldestOf_0 : List UInt8 := [3, 61, 28, 42, 180, 0, 13, 17, 1, 0, 46, 162, 0, 37, 42, 180, 0, 39, 28, 42, 28, 182, 1, 58]
abbrev dktX2_oldestOf_0 : List UInt8 := dkwX2_oldestOf_0 ++ dktX2_oldestOf_1
theorem dksX2_oldestOf_0 : cX2_oldestOf.data.toList.drop 0 = dktX2_oldestOf_0 := by decide +kernel
theorem dksX2_oldestOf_1 : cX2_oldestOf.data.toList.drop 24 = dktX2_oldestOf_1 := dk_seg dksX2_oldestOf_0 24 rfl rfl
theorem dksX2_oldestOf_2 : cX2_oldestOf.data.toList.drop 48 = dktX2_oldestOf_2 := dk_seg dksX2_oldestOf_1 24 rfl rfl
theorem dksX2_oldestOf_3 : cX2_oldestOf.data.toList.drop 72 = dktX2_oldestOf_3 := dk_seg dksX2_oldestOf_2 24 rfl rfl
theorem dksX2_oldestOf_4 : cX2_oldestOf.data.toList.drop 95 = dktX2_oldestOf_4 := dk_seg dksX2_oldestOf_3 23 rfl rfl
theorem dX2_oldestOf_0 : decode cX2_oldestOf 0 = .ok (.iconst 0, 1) := dk_3 (dk_at dksX2_oldestOf_0 0 rfl rfl)
theorem dX2_oldestOf_1 : decode cX2_oldestOf 1 = .ok (.istore_n 2, 1) := dk_61 (dk_at dksX2_oldestOf_0 1 rfl rfl)
theorem dX2_oldestOf_2 : decode cX2_oldestOf 2 = .ok (.iload_n 2, 1) := dk_28 (dk_at dksX2_oldestOf_0 2 rfl rfl)
theorem dX2_oldestOf_3 : decode cX2_oldestOf 3 = .ok (.aload_n 0, 1) := dk_42 (dk_at dksX2_oldestOf_0 3 rfl rfl)
theorem dX2_oldestOf_4 : decode cX2_oldestOf 4 = .ok (.getfield 13, 3) := dk_180 0 13 (dk_at dksX2_oldestOf_0 4 rfl rfl)
theorem dX2_oldestOf_7 : decode cX2_oldestOf 7 = .ok (.sipush 256, 3) := dk_17 1 0 (dk_at dksX2_oldestOf_0 7 rfl rfl)
theorem dX2_oldestOf_10 : decode cX2_oldestOf 10 = .ok (.iaload, 1) := dk_46 (dk_at dksX2_oldestOf_0 10 rfl rfl)
theorem dX2_oldestOf_11 : decode cX2_oldestOf 11 = .ok (.if_icmp .ge 37, 3) := dk_162 0 37 (dk_at dksX2_oldestOf_0 11 rfl rfl)
theorem dX2_oldestOf_14 : decode cX2_oldestOf 14 = .ok (.aload_n 0, 1) := dk_42 (dk_at dksX2_oldestOf_0 14 rfl rfl)
theorem dX2_oldestOf_15 : decode cX2_oldestOf 15 = .ok (.getfield 39, 3) := dk_180 0 39 (dk_at dksX2_oldestOf_0 15 rfl rfl)
theorem dX2_oldestOf_18 : decode cX2_oldestOf 18 = .ok (.iload_n 2, 1) := dk_28 (dk_at dksX2_oldestOf_0 18 rfl rfl)
theorem dX2_oldestOf_19 : decode cX2_oldestOf 19 = .ok (.aload_n 0, 1) := dk_42 (dk_at dksX2_oldestOf_0 19 rfl rfl)
theorem dX2_oldestOf_20 : decode cX2_oldestOf 20 = .ok (.iload_n 2, 1) := dk_28 (dk_at dksX2_oldestOf_0 20 rfl rfl)
theorem dX2_oldestOf_21 : decode cX2_oldestOf 21 = .ok (.invokevirtual 314, 3) := dk_182 1 58 (dk_at dksX2_oldestOf_0 21 rfl rfl)
theorem dX2_oldestOf_24 : decode cX2_oldestOf 24 = .ok (.iconst 1, 1) := dk_4 (dk_at dksX2_oldestOf_1 0 rfl rfl)
theorem dX2_oldestOf_25 : decode cX2_oldestOf 25 = .ok (.if_icmp .ne 15, 3) := dk_160 0 15 (dk_at dksX2_oldestOf_1 1 rfl rfl)
theorem dX2_oldestOf_28 : decode cX2_oldestOf 28 = .ok (.aload_n 0, 1) := dk_42 (dk_at dksX2_oldestOf_1 4 rfl rfl)
theorem dX2_oldestOf_29 : decode cX2_oldestOf 29 = .ok (.iload_n 2, 1) := dk_28 (dk_at dksX2_oldestOf_1 5 rfl rfl)
theorem dX2_oldestOf_30 : decode cX2_oldestOf 30 = .ok (.invokevirtual 318, 3) := dk_182 1 62 (dk_at dksX2_oldestOf_1 6 rfl rfl)
theorem dX2_oldestOf_33 : decode cX2_oldestOf 33 = .ok (.ifCond .eq 7, 3) := dk_153 0 7 (dk_at dksX2_oldestOf_1 9 rfl rfl)
theorem dX2_oldestOf_36 : decode cX2_oldestOf 36 = .ok (.iconst 1, 1) := dk_4 (dk_at dksX2_oldestOf_1 12 rfl rfl)
theorem dX2_oldestOf_37 : decode cX2_oldestOf 37 = .ok (.goto 4, 3) := dk_167 0 4 (dk_at dksX2_oldestOf_1 13 rfl rfl)
theorem dX2_oldestOf_40 : decode cX2_oldestOf 40 = .ok (.iconst 0, 1) := dk_3 (dk_at dksX2_oldestOf_1 16 rfl rfl)
theorem dX2_oldestOf_41 : decode cX2_oldestOf 41 = .ok (.bastore, 1) := dk_84 (dk_at dksX2_oldestOf_1 17 rfl rfl)
theorem dX2_oldestOf_42 : decode cX2_oldestOf 42 = .ok (.iinc 2 1, 3) := dk_132 2 1 (dk_at dksX2_oldestOf_1 18 rfl rfl)
theorem dX2_oldestOf_45 : decode cX2_oldestOf 45 = .ok (.goto (-43), 3) := dk_167 255 213 (dk_at dksX2_oldestOf_1 21 rfl rfl)
theorem dX2_oldestOf_48 : decode cX2_oldestOf 48 = .ok (.aload_n 0, 1) := dk_42 (dk_at dksX2_oldestOf_2 0 rfl rfl)
theorem dX2_oldestOf_49 : decode cX2_oldestOf 49 = .ok (.iload_n 1, 1) := dk_27 (dk_at dksX2_oldestOf_2 1 rfl rfl)
theorem dX2_oldestOf_50 : decode cX2_oldestOf 50 = .ok (.invokevirtual 337, 3) := dk_182 1 81 (dk_at dksX2_oldestOf_2 2 rfl rfl)
theorem dX2_oldestOf_53 : decode cX2_oldestOf 53 = .ok (.aload_n 0, 1) := dk_42 (dk_at dksX2_oldestOf_2 5 rfl rfl)
theorem dX2_oldestOf_54 : decode cX2_oldestOf 54 = .ok (.iload_n 1, 1) := dk_27 (dk_at dksX2_oldestOf_2 6 rfl rfl)
theorem dX2_oldestOf_55 : decode cX2_oldestOf 55 = .ok (.invokevirtual 277, 3) := dk_182 1 21 (dk_at dksX2_oldestOf_2 7 rfl rfl)
theorem dX2_oldestOf_58 : decode cX2_oldestOf 58 = .ok (.istore_n 2, 1) := dk_61 (dk_at dksX2_oldestOf_2 10 rfl rfl)
theorem dX2_oldestOf_59 : decode cX2_oldestOf 59 = .ok (.iconst 0, 1) := dk_3 (dk_at dksX2_oldestOf_2 11 rfl rfl)
theorem dX2_oldestOf_60 : decode cX2_oldestOf 60 = .ok (.istore_n 3, 1) := dk_62 (dk_at dksX2_oldestOf_2 12 rfl rfl)
theorem dX2_oldestOf_61 : decode cX2_oldestOf 61 = .ok (.iload_n 3, 1) := dk_29 (dk_at dksX2_oldestOf_2 13 rfl rfl)
theorem dX2_oldestOf_62 : decode cX2_oldestOf 62 = .ok (.aload_n 0, 1) := dk_42 (dk_at dksX2_oldestOf_2 14 rfl rfl)
theorem dX2_oldestOf_63 : decode cX2_oldestOf 63 = .ok (.getfield 22, 3) := dk_180 0 22 (dk_at dksX2_oldestOf_2 15 rfl rfl)
theorem dX2_oldestOf_66 : decode cX2_oldestOf 66 = .ok (.iconst 2, 1) := dk_5 (dk_at dksX2_oldestOf_2 18 rfl rfl)
theorem dX2_oldestOf_67 : decode cX2_oldestOf 67 = .ok (.iaload, 1) := dk_46 (dk_at dksX2_oldestOf_2 19 rfl rfl)
theorem dX2_oldestOf_68 : decode cX2_oldestOf 68 = .ok (.if_icmp .ge 38, 3) := dk_162 0 38 (dk_at dksX2_oldestOf_2 20 rfl rfl)
theorem dX2_oldestOf_71 : decode cX2_oldestOf 71 = .ok (.aload_n 0, 1) := dk_42 (dk_at dksX2_oldestOf_2 23 rfl rfl)
theorem dX2_oldestOf_72 : decode cX2_oldestOf 72 = .ok (.getfield 43, 3) := dk_180 0 43 (dk_at dksX2_oldestOf_3 0 rfl rfl)
theorem dX2_oldestOf_75 : decode cX2_oldestOf 75 = .ok (.iload_n 3, 1) := dk_29 (dk_at dksX2_oldestOf_3 3 rfl rfl)
theorem dX2_oldestOf_76 : decode cX2_oldestOf 76 = .ok (.iaload, 1) := dk_46 (dk_at dksX2_oldestOf_3 4 rfl rfl)
theorem dX2_oldestOf_77 : decode cX2_oldestOf 77 = .ok (.iconst (-1), 1) := dk_2 (dk_at dksX2_oldestOf_3 5 rfl rfl)
theorem dX2_oldestOf_78 : decode cX2_oldestOf 78 = .ok (.if_icmp .eq 20, 3) := dk_159 0 20 (dk_at dksX2_oldestOf_3 6 rfl rfl)
theorem dX2_oldestOf_81 : decode cX2_oldestOf 81 = .ok (.aload_n 0, 1) := dk_42 (dk_at dksX2_oldestOf_3 9 rfl rfl)
theorem dX2_oldestOf_82 : decode cX2_oldestOf 82 = .ok (.iload_n 3, 1) := dk_29 (dk_at dksX2_oldestOf_3 10 rfl rfl)
theorem dX2_oldestOf_83 : decode cX2_oldestOf 83 = .ok (.invokevirtual 277, 3) := dk_182 1 21 (dk_at dksX2_oldestOf_3 11 rfl rfl)
theorem dX2_oldestOf_86 : decode cX2_oldestOf 86 = .ok (.iload_n 2, 1) := dk_28 (dk_at dksX2_oldestOf_3 14 rfl rfl)
theorem dX2_oldestOf_87 : decode cX2_oldestOf 87 = .ok (.if_icmp .ge 11, 3) := dk_162 0 11 (dk_at dksX2_oldestOf_3 15 rfl rfl)
theorem dX2_oldestOf_90 : decode cX2_oldestOf 90 = .ok (.aload_n 0, 1) := dk_42 (dk_at dksX2_oldestOf_3 18 rfl rfl)
theorem dX2_oldestOf_91 : decode cX2_oldestOf 91 = .ok (.iload_n 3, 1) := dk_29 (dk_at dksX2_oldestOf_3 19 rfl rfl)
theorem dX2_oldestOf_92 : decode cX2_oldestOf 92 = .ok (.invokevirtual 277, 3) := dk_182 1 21 (dk_at dksX2_oldestOf_3 20 rfl rfl)
theorem dX2_oldestOf_95 : decode cX2_oldestOf 95 = .ok (.goto 4, 3) := dk_167 0 4 (dk_at dksX2_oldestOf_4 0 rfl rfl)
theorem dX2_oldestOf_98 : decode cX2_oldestOf 98 = .ok (.iload_n 2, 1) := dk_28 (dk_at dksX2_oldestOf_4 3 rfl rfl)
theorem dX2_oldestOf_99 : decode cX2_oldestOf 99 = .ok (.istore_n 2, 1) := dk_61 (dk_at dksX2_oldestOf_4 4 rfl rfl)
theorem dX2_oldestOf_100 : decode cX2_oldestOf 100 = .ok (.iinc 3 1, 3) := dk_132 3 1 (dk_at dksX2_oldestOf_4 5 rfl rfl)
theorem dX2_oldestOf_103 : decode cX2_oldestOf 103 = .ok (.goto (-42), 3) := dk_167 255 214 (dk_at dksX2_oldestOf_4 8 rfl rfl)
theorem dX2_oldestOf_106 : decode cX2_oldestOf 106 = .ok (.iload_n 2, 1) := dk_28 (dk_at dksX2_oldestOf_4 11 rfl rfl)
theorem dX2_oldestOf_107 : decode cX2_oldestOf 107 = .ok (.ireturn, 1) := dk_172 (dk_at dksX2_oldestOf_4 12 rfl rfl)
abbrev cX2_bears : ByteArray := prog_12_method_63_code
def yX2_bears : MethodName := ⟨RX2, "bears", "(II)I"⟩
def dkwX2_bears_1 : List UInt8 := [2, 172]
abbrev dktX2_bears_1 : List UInt8 := dkwX2_bears_1 ++ []
def dkwX2_bears_0 : List UInt8 := [42, 27, 182, 1, 27, 153, 0, 19, 28, 184, 1, 46, 153, 0, 12, 42, 27, 28, 182, 1, 49, 167, 0, 4]
abbrev dktX2_bears_0 : List UInt8 := dkwX2_bears_0 ++ dktX2_bears_1
theorem dksX2_bears_0 : cX2_bears.data.toList.drop 0 = dktX2_bears_0 := by decide +kernel
theorem dksX2_bears_1 : cX2_bears.data.toList.drop 24 = dktX2_bears_1 := dk_seg dksX2_bears_0 24 rfl rfl
theorem dX2_bears_0 : decode cX2_bears 0 = .ok (.aload_n 0, 1) := dk_42 (dk_at dksX2_bears_0 0 rfl rfl)
theorem dX2_bears_1 : decode cX2_bears 1 = .ok (.iload_n 1, 1) := dk_27 (dk_at dksX2_bears_0 1 rfl rfl)
theorem dX2_bears_2 : decode cX2_bears 2 = .ok (.invokevirtual 283, 3) := dk_182 1 27 (dk_at dksX2_bears_0 2 rfl rfl)
theorem dX2_bears_5 : decode cX2_bears 5 = .ok (.ifCond .eq 19, 3) := dk_153 0 19 (dk_at dksX2_bears_0 5 rfl rfl)
theorem dX2_bears_8 : decode cX2_bears 8 = .ok (.iload_n 2, 1) := dk_28 (dk_at dksX2_bears_0 8 rfl rfl)
theorem dX2_bears_9 : decode cX2_bears 9 = .ok (.invokestatic 302, 3) := dk_184 1 46 (dk_at dksX2_bears_0 9 rfl rfl)
theorem dX2_bears_12 : decode cX2_bears 12 = .ok (.ifCond .eq 12, 3) := dk_153 0 12 (dk_at dksX2_bears_0 12 rfl rfl)
theorem dX2_bears_15 : decode cX2_bears 15 = .ok (.aload_n 0, 1) := dk_42 (dk_at dksX2_bears_0 15 rfl rfl)
theorem dX2_bears_16 : decode cX2_bears 16 = .ok (.iload_n 1, 1) := dk_27 (dk_at dksX2_bears_0 16 rfl rfl)
theorem dX2_bears_17 : decode cX2_bears 17 = .ok (.iload_n 2, 1) := dk_28 (dk_at dksX2_bears_0 17 rfl rfl)
theorem dX2_bears_18 : decode cX2_bears 18 = .ok (.invokevirtual 305, 3) := dk_182 1 49 (dk_at dksX2_bears_0 18 rfl rfl)
theorem dX2_bears_21 : decode cX2_bears 21 = .ok (.goto 4, 3) := dk_167 0 4 (dk_at dksX2_bears_0 21 rfl rfl)
theorem dX2_bears_24 : decode cX2_bears 24 = .ok (.iconst (-1), 1) := dk_2 (dk_at dksX2_bears_1 0 rfl rfl)
theorem dX2_bears_25 : decode cX2_bears 25 = .ok (.ireturn, 1) := dk_172 (dk_at dksX2_bears_1 1 rfl rfl)
abbrev cX2_isSet : ByteArray := prog_12_method_44_code
def yX2_isSet : MethodName := ⟨RX2, "isSet", "(I)Z"⟩
def dkwX2_isSet_0 : List UInt8 := [26, 3, 19, 1, 0, 184, 0, 93, 172]
abbrev dktX2_isSet_0 : List UInt8 := dkwX2_isSet_0 ++ []
theorem dksX2_isSet_0 : cX2_isSet.data.toList.drop 0 = dktX2_isSet_0 := by decide +kernel
theorem dX2_isSet_0 : decode cX2_isSet 0 = .ok (.iload_n 0, 1) := dk_26 (dk_at dksX2_isSet_0 0 rfl rfl)
theorem dX2_isSet_1 : decode cX2_isSet 1 = .ok (.iconst 0, 1) := dk_3 (dk_at dksX2_isSet_0 1 rfl rfl)
theorem dX2_isSet_2 : decode cX2_isSet 2 = .ok (.ldc_w 256, 3) := dk_19 1 0 (dk_at dksX2_isSet_0 2 rfl rfl)
theorem dX2_isSet_5 : decode cX2_isSet 5 = .ok (.invokestatic 93, 3) := dk_184 0 93 (dk_at dksX2_isSet_0 5 rfl rfl)
theorem dX2_isSet_8 : decode cX2_isSet 8 = .ok (.ireturn, 1) := dk_172 (dk_at dksX2_isSet_0 8 rfl rfl)
abbrev cX2_linked : ByteArray := prog_12_method_68_code
def yX2_linked : MethodName := ⟨RX2, "linked", "(II)I"⟩
def dkwX2_linked_2 : List UInt8 := [167, 0, 4, 3, 172]
abbrev dktX2_linked_2 : List UInt8 := dkwX2_linked_2 ++ []
def dkwX2_linked_1 : List UInt8 := [42, 180, 0, 13, 17, 1, 1, 6, 27, 104, 96, 28, 96, 46, 172, 42, 27, 182, 1, 62, 153, 0, 7, 4]
abbrev dktX2_linked_1 : List UInt8 := dkwX2_linked_1 ++ dktX2_linked_2
def dkwX2_linked_0 : List UInt8 := [42, 27, 182, 1, 68, 153, 0, 12, 28, 3, 6, 184, 0, 93, 154, 0, 5, 2, 172, 28, 6, 162, 0, 18]
abbrev dktX2_linked_0 : List UInt8 := dkwX2_linked_0 ++ dktX2_linked_1
theorem dksX2_linked_0 : cX2_linked.data.toList.drop 0 = dktX2_linked_0 := by decide +kernel
theorem dksX2_linked_1 : cX2_linked.data.toList.drop 24 = dktX2_linked_1 := dk_seg dksX2_linked_0 24 rfl rfl
theorem dksX2_linked_2 : cX2_linked.data.toList.drop 48 = dktX2_linked_2 := dk_seg dksX2_linked_1 24 rfl rfl
theorem dX2_linked_0 : decode cX2_linked 0 = .ok (.aload_n 0, 1) := dk_42 (dk_at dksX2_linked_0 0 rfl rfl)
theorem dX2_linked_1 : decode cX2_linked 1 = .ok (.iload_n 1, 1) := dk_27 (dk_at dksX2_linked_0 1 rfl rfl)
theorem dX2_linked_2 : decode cX2_linked 2 = .ok (.invokevirtual 324, 3) := dk_182 1 68 (dk_at dksX2_linked_0 2 rfl rfl)
theorem dX2_linked_5 : decode cX2_linked 5 = .ok (.ifCond .eq 12, 3) := dk_153 0 12 (dk_at dksX2_linked_0 5 rfl rfl)
theorem dX2_linked_8 : decode cX2_linked 8 = .ok (.iload_n 2, 1) := dk_28 (dk_at dksX2_linked_0 8 rfl rfl)
theorem dX2_linked_9 : decode cX2_linked 9 = .ok (.iconst 0, 1) := dk_3 (dk_at dksX2_linked_0 9 rfl rfl)
theorem dX2_linked_10 : decode cX2_linked 10 = .ok (.iconst 3, 1) := dk_6 (dk_at dksX2_linked_0 10 rfl rfl)
theorem dX2_linked_11 : decode cX2_linked 11 = .ok (.invokestatic 93, 3) := dk_184 0 93 (dk_at dksX2_linked_0 11 rfl rfl)
theorem dX2_linked_14 : decode cX2_linked 14 = .ok (.ifCond .ne 5, 3) := dk_154 0 5 (dk_at dksX2_linked_0 14 rfl rfl)
theorem dX2_linked_17 : decode cX2_linked 17 = .ok (.iconst (-1), 1) := dk_2 (dk_at dksX2_linked_0 17 rfl rfl)
theorem dX2_linked_18 : decode cX2_linked 18 = .ok (.ireturn, 1) := dk_172 (dk_at dksX2_linked_0 18 rfl rfl)
theorem dX2_linked_19 : decode cX2_linked 19 = .ok (.iload_n 2, 1) := dk_28 (dk_at dksX2_linked_0 19 rfl rfl)
theorem dX2_linked_20 : decode cX2_linked 20 = .ok (.iconst 3, 1) := dk_6 (dk_at dksX2_linked_0 20 rfl rfl)
theorem dX2_linked_21 : decode cX2_linked 21 = .ok (.if_icmp .ge 18, 3) := dk_162 0 18 (dk_at dksX2_linked_0 21 rfl rfl)
theorem dX2_linked_24 : decode cX2_linked 24 = .ok (.aload_n 0, 1) := dk_42 (dk_at dksX2_linked_1 0 rfl rfl)
theorem dX2_linked_25 : decode cX2_linked 25 = .ok (.getfield 13, 3) := dk_180 0 13 (dk_at dksX2_linked_1 1 rfl rfl)
theorem dX2_linked_28 : decode cX2_linked 28 = .ok (.sipush 257, 3) := dk_17 1 1 (dk_at dksX2_linked_1 4 rfl rfl)
theorem dX2_linked_31 : decode cX2_linked 31 = .ok (.iconst 3, 1) := dk_6 (dk_at dksX2_linked_1 7 rfl rfl)
theorem dX2_linked_32 : decode cX2_linked 32 = .ok (.iload_n 1, 1) := dk_27 (dk_at dksX2_linked_1 8 rfl rfl)
theorem dX2_linked_33 : decode cX2_linked 33 = .ok (.imul, 1) := dk_104 (dk_at dksX2_linked_1 9 rfl rfl)
theorem dX2_linked_34 : decode cX2_linked 34 = .ok (.iadd, 1) := dk_96 (dk_at dksX2_linked_1 10 rfl rfl)
theorem dX2_linked_35 : decode cX2_linked 35 = .ok (.iload_n 2, 1) := dk_28 (dk_at dksX2_linked_1 11 rfl rfl)
theorem dX2_linked_36 : decode cX2_linked 36 = .ok (.iadd, 1) := dk_96 (dk_at dksX2_linked_1 12 rfl rfl)
theorem dX2_linked_37 : decode cX2_linked 37 = .ok (.iaload, 1) := dk_46 (dk_at dksX2_linked_1 13 rfl rfl)
theorem dX2_linked_38 : decode cX2_linked 38 = .ok (.ireturn, 1) := dk_172 (dk_at dksX2_linked_1 14 rfl rfl)
theorem dX2_linked_39 : decode cX2_linked 39 = .ok (.aload_n 0, 1) := dk_42 (dk_at dksX2_linked_1 15 rfl rfl)
theorem dX2_linked_40 : decode cX2_linked 40 = .ok (.iload_n 1, 1) := dk_27 (dk_at dksX2_linked_1 16 rfl rfl)
theorem dX2_linked_41 : decode cX2_linked 41 = .ok (.invokevirtual 318, 3) := dk_182 1 62 (dk_at dksX2_linked_1 17 rfl rfl)
theorem dX2_linked_44 : decode cX2_linked 44 = .ok (.ifCond .eq 7, 3) := dk_153 0 7 (dk_at dksX2_linked_1 20 rfl rfl)
theorem dX2_linked_47 : decode cX2_linked 47 = .ok (.iconst 1, 1) := dk_4 (dk_at dksX2_linked_1 23 rfl rfl)
theorem dX2_linked_48 : decode cX2_linked 48 = .ok (.goto 4, 3) := dk_167 0 4 (dk_at dksX2_linked_2 0 rfl rfl)
theorem dX2_linked_51 : decode cX2_linked 51 = .ok (.iconst 0, 1) := dk_3 (dk_at dksX2_linked_2 3 rfl rfl)
theorem dX2_linked_52 : decode cX2_linked 52 = .ok (.ireturn, 1) := dk_172 (dk_at dksX2_linked_2 4 rfl rfl)
abbrev cX2_isLink : ByteArray := prog_12_method_42_code
def yX2_isLink : MethodName := ⟨RX2, "isLink", "(I)Z"⟩
def dkwX2_isLink_0 : List UInt8 := [27, 3, 42, 180, 0, 13, 17, 1, 0, 46, 4, 100, 184, 0, 93, 172]
abbrev dktX2_isLink_0 : List UInt8 := dkwX2_isLink_0 ++ []
theorem dksX2_isLink_0 : cX2_isLink.data.toList.drop 0 = dktX2_isLink_0 := by decide +kernel
theorem dX2_isLink_0 : decode cX2_isLink 0 = .ok (.iload_n 1, 1) := dk_27 (dk_at dksX2_isLink_0 0 rfl rfl)
theorem dX2_isLink_1 : decode cX2_isLink 1 = .ok (.iconst 0, 1) := dk_3 (dk_at dksX2_isLink_0 1 rfl rfl)
theorem dX2_isLink_2 : decode cX2_isLink 2 = .ok (.aload_n 0, 1) := dk_42 (dk_at dksX2_isLink_0 2 rfl rfl)
theorem dX2_isLink_3 : decode cX2_isLink 3 = .ok (.getfield 13, 3) := dk_180 0 13 (dk_at dksX2_isLink_0 3 rfl rfl)
theorem dX2_isLink_6 : decode cX2_isLink 6 = .ok (.sipush 256, 3) := dk_17 1 0 (dk_at dksX2_isLink_0 6 rfl rfl)
theorem dX2_isLink_9 : decode cX2_isLink 9 = .ok (.iaload, 1) := dk_46 (dk_at dksX2_isLink_0 9 rfl rfl)
theorem dX2_isLink_10 : decode cX2_isLink 10 = .ok (.iconst 1, 1) := dk_4 (dk_at dksX2_isLink_0 10 rfl rfl)
theorem dX2_isLink_11 : decode cX2_isLink 11 = .ok (.isub, 1) := dk_100 (dk_at dksX2_isLink_0 11 rfl rfl)
theorem dX2_isLink_12 : decode cX2_isLink 12 = .ok (.invokestatic 93, 3) := dk_184 0 93 (dk_at dksX2_isLink_0 12 rfl rfl)
theorem dX2_isLink_15 : decode cX2_isLink 15 = .ok (.ireturn, 1) := dk_172 (dk_at dksX2_isLink_0 15 rfl rfl)
abbrev cX2_slack : ByteArray := prog_12_method_69_code
def yX2_slack : MethodName := ⟨RX2, "slack", "(I)I"⟩
def dkwX2_slack_0 : List UInt8 := [42, 27, 182, 1, 68, 153, 0, 11, 42, 27, 182, 1, 71, 167, 0, 6, 19, 1, 74, 172]
abbrev dktX2_slack_0 : List UInt8 := dkwX2_slack_0 ++ []
theorem dksX2_slack_0 : cX2_slack.data.toList.drop 0 = dktX2_slack_0 := by decide +kernel
theorem dX2_slack_0 : decode cX2_slack 0 = .ok (.aload_n 0, 1) := dk_42 (dk_at dksX2_slack_0 0 rfl rfl)
theorem dX2_slack_1 : decode cX2_slack 1 = .ok (.iload_n 1, 1) := dk_27 (dk_at dksX2_slack_0 1 rfl rfl)
theorem dX2_slack_2 : decode cX2_slack 2 = .ok (.invokevirtual 324, 3) := dk_182 1 68 (dk_at dksX2_slack_0 2 rfl rfl)
theorem dX2_slack_5 : decode cX2_slack 5 = .ok (.ifCond .eq 11, 3) := dk_153 0 11 (dk_at dksX2_slack_0 5 rfl rfl)
theorem dX2_slack_8 : decode cX2_slack 8 = .ok (.aload_n 0, 1) := dk_42 (dk_at dksX2_slack_0 8 rfl rfl)
theorem dX2_slack_9 : decode cX2_slack 9 = .ok (.iload_n 1, 1) := dk_27 (dk_at dksX2_slack_0 9 rfl rfl)
theorem dX2_slack_10 : decode cX2_slack 10 = .ok (.invokevirtual 327, 3) := dk_182 1 71 (dk_at dksX2_slack_0 10 rfl rfl)
theorem dX2_slack_13 : decode cX2_slack 13 = .ok (.goto 6, 3) := dk_167 0 6 (dk_at dksX2_slack_0 13 rfl rfl)
theorem dX2_slack_16 : decode cX2_slack 16 = .ok (.ldc_w 330, 3) := dk_19 1 74 (dk_at dksX2_slack_0 16 rfl rfl)
theorem dX2_slack_19 : decode cX2_slack 19 = .ok (.ireturn, 1) := dk_172 (dk_at dksX2_slack_0 19 rfl rfl)
abbrev cX2_slackOf : ByteArray := prog_12_method_67_code
def yX2_slackOf : MethodName := ⟨RX2, "slackOf", "(I)I"⟩
def dkwX2_slackOf_2 : List UInt8 := [16, 254, 160, 0, 9, 17, 39, 15, 167, 0, 6, 29, 28, 100, 172]
abbrev dktX2_slackOf_2 : List UInt8 := dkwX2_slackOf_2 ++ []
def dkwX2_slackOf_1 : List UInt8 := [28, 42, 42, 27, 182, 1, 55, 182, 1, 21, 100, 100, 172, 42, 42, 27, 182, 1, 55, 182, 1, 24, 62, 29]
abbrev dktX2_slackOf_1 : List UInt8 := dkwX2_slackOf_1 ++ dktX2_slackOf_2
def dkwX2_slackOf_0 : List UInt8 := [42, 42, 27, 182, 1, 52, 182, 1, 21, 61, 42, 27, 182, 1, 58, 154, 0, 22, 42, 180, 0, 13, 3, 46]
abbrev dktX2_slackOf_0 : List UInt8 := dkwX2_slackOf_0 ++ dktX2_slackOf_1
theorem dksX2_slackOf_0 : cX2_slackOf.data.toList.drop 0 = dktX2_slackOf_0 := by decide +kernel
theorem dksX2_slackOf_1 : cX2_slackOf.data.toList.drop 24 = dktX2_slackOf_1 := dk_seg dksX2_slackOf_0 24 rfl rfl
theorem dksX2_slackOf_2 : cX2_slackOf.data.toList.drop 48 = dktX2_slackOf_2 := dk_seg dksX2_slackOf_1 24 rfl rfl
theorem dX2_slackOf_0 : decode cX2_slackOf 0 = .ok (.aload_n 0, 1) := dk_42 (dk_at dksX2_slackOf_0 0 rfl rfl)
theorem dX2_slackOf_1 : decode cX2_slackOf 1 = .ok (.aload_n 0, 1) := dk_42 (dk_at dksX2_slackOf_0 1 rfl rfl)
theorem dX2_slackOf_2 : decode cX2_slackOf 2 = .ok (.iload_n 1, 1) := dk_27 (dk_at dksX2_slackOf_0 2 rfl rfl)
theorem dX2_slackOf_3 : decode cX2_slackOf 3 = .ok (.invokevirtual 308, 3) := dk_182 1 52 (dk_at dksX2_slackOf_0 3 rfl rfl)
theorem dX2_slackOf_6 : decode cX2_slackOf 6 = .ok (.invokevirtual 277, 3) := dk_182 1 21 (dk_at dksX2_slackOf_0 6 rfl rfl)
theorem dX2_slackOf_9 : decode cX2_slackOf 9 = .ok (.istore_n 2, 1) := dk_61 (dk_at dksX2_slackOf_0 9 rfl rfl)
theorem dX2_slackOf_10 : decode cX2_slackOf 10 = .ok (.aload_n 0, 1) := dk_42 (dk_at dksX2_slackOf_0 10 rfl rfl)
theorem dX2_slackOf_11 : decode cX2_slackOf 11 = .ok (.iload_n 1, 1) := dk_27 (dk_at dksX2_slackOf_0 11 rfl rfl)
theorem dX2_slackOf_12 : decode cX2_slackOf 12 = .ok (.invokevirtual 314, 3) := dk_182 1 58 (dk_at dksX2_slackOf_0 12 rfl rfl)
theorem dX2_slackOf_15 : decode cX2_slackOf 15 = .ok (.ifCond .ne 22, 3) := dk_154 0 22 (dk_at dksX2_slackOf_0 15 rfl rfl)
theorem dX2_slackOf_18 : decode cX2_slackOf 18 = .ok (.aload_n 0, 1) := dk_42 (dk_at dksX2_slackOf_0 18 rfl rfl)
theorem dX2_slackOf_19 : decode cX2_slackOf 19 = .ok (.getfield 13, 3) := dk_180 0 13 (dk_at dksX2_slackOf_0 19 rfl rfl)
theorem dX2_slackOf_22 : decode cX2_slackOf 22 = .ok (.iconst 0, 1) := dk_3 (dk_at dksX2_slackOf_0 22 rfl rfl)
theorem dX2_slackOf_23 : decode cX2_slackOf 23 = .ok (.iaload, 1) := dk_46 (dk_at dksX2_slackOf_0 23 rfl rfl)
theorem dX2_slackOf_24 : decode cX2_slackOf 24 = .ok (.iload_n 2, 1) := dk_28 (dk_at dksX2_slackOf_1 0 rfl rfl)
theorem dX2_slackOf_25 : decode cX2_slackOf 25 = .ok (.aload_n 0, 1) := dk_42 (dk_at dksX2_slackOf_1 1 rfl rfl)
theorem dX2_slackOf_26 : decode cX2_slackOf 26 = .ok (.aload_n 0, 1) := dk_42 (dk_at dksX2_slackOf_1 2 rfl rfl)
theorem dX2_slackOf_27 : decode cX2_slackOf 27 = .ok (.iload_n 1, 1) := dk_27 (dk_at dksX2_slackOf_1 3 rfl rfl)
theorem dX2_slackOf_28 : decode cX2_slackOf 28 = .ok (.invokevirtual 311, 3) := dk_182 1 55 (dk_at dksX2_slackOf_1 4 rfl rfl)
theorem dX2_slackOf_31 : decode cX2_slackOf 31 = .ok (.invokevirtual 277, 3) := dk_182 1 21 (dk_at dksX2_slackOf_1 7 rfl rfl)
theorem dX2_slackOf_34 : decode cX2_slackOf 34 = .ok (.isub, 1) := dk_100 (dk_at dksX2_slackOf_1 10 rfl rfl)
theorem dX2_slackOf_35 : decode cX2_slackOf 35 = .ok (.isub, 1) := dk_100 (dk_at dksX2_slackOf_1 11 rfl rfl)
theorem dX2_slackOf_36 : decode cX2_slackOf 36 = .ok (.ireturn, 1) := dk_172 (dk_at dksX2_slackOf_1 12 rfl rfl)
theorem dX2_slackOf_37 : decode cX2_slackOf 37 = .ok (.aload_n 0, 1) := dk_42 (dk_at dksX2_slackOf_1 13 rfl rfl)
theorem dX2_slackOf_38 : decode cX2_slackOf 38 = .ok (.aload_n 0, 1) := dk_42 (dk_at dksX2_slackOf_1 14 rfl rfl)
theorem dX2_slackOf_39 : decode cX2_slackOf 39 = .ok (.iload_n 1, 1) := dk_27 (dk_at dksX2_slackOf_1 15 rfl rfl)
theorem dX2_slackOf_40 : decode cX2_slackOf 40 = .ok (.invokevirtual 311, 3) := dk_182 1 55 (dk_at dksX2_slackOf_1 16 rfl rfl)
theorem dX2_slackOf_43 : decode cX2_slackOf 43 = .ok (.invokevirtual 280, 3) := dk_182 1 24 (dk_at dksX2_slackOf_1 19 rfl rfl)
theorem dX2_slackOf_46 : decode cX2_slackOf 46 = .ok (.istore_n 3, 1) := dk_62 (dk_at dksX2_slackOf_1 22 rfl rfl)
theorem dX2_slackOf_47 : decode cX2_slackOf 47 = .ok (.iload_n 3, 1) := dk_29 (dk_at dksX2_slackOf_1 23 rfl rfl)
theorem dX2_slackOf_48 : decode cX2_slackOf 48 = .ok (.bipush (-2), 2) := dk_16 254 (dk_at dksX2_slackOf_2 0 rfl rfl)
theorem dX2_slackOf_50 : decode cX2_slackOf 50 = .ok (.if_icmp .ne 9, 3) := dk_160 0 9 (dk_at dksX2_slackOf_2 2 rfl rfl)
theorem dX2_slackOf_53 : decode cX2_slackOf 53 = .ok (.sipush 9999, 3) := dk_17 39 15 (dk_at dksX2_slackOf_2 5 rfl rfl)
theorem dX2_slackOf_56 : decode cX2_slackOf 56 = .ok (.goto 6, 3) := dk_167 0 6 (dk_at dksX2_slackOf_2 8 rfl rfl)
theorem dX2_slackOf_59 : decode cX2_slackOf 59 = .ok (.iload_n 3, 1) := dk_29 (dk_at dksX2_slackOf_2 11 rfl rfl)
theorem dX2_slackOf_60 : decode cX2_slackOf 60 = .ok (.iload_n 2, 1) := dk_28 (dk_at dksX2_slackOf_2 12 rfl rfl)
theorem dX2_slackOf_61 : decode cX2_slackOf 61 = .ok (.isub, 1) := dk_100 (dk_at dksX2_slackOf_2 13 rfl rfl)
theorem dX2_slackOf_62 : decode cX2_slackOf 62 = .ok (.ireturn, 1) := dk_172 (dk_at dksX2_slackOf_2 14 rfl rfl)
abbrev cX2_holds : ByteArray := prog_12_method_70_code
def yX2_holds : MethodName := ⟨RX2, "holds", "(II)I"⟩
def dkwX2_holds_1 : List UInt8 := [153, 0, 7, 4, 167, 0, 4, 3, 172]
abbrev dktX2_holds_1 : List UInt8 := dkwX2_holds_1 ++ []
def dkwX2_holds_0 : List UInt8 := [42, 27, 182, 1, 68, 153, 0, 10, 28, 184, 1, 46, 154, 0, 5, 2, 172, 42, 27, 28, 182, 1, 75]
abbrev dktX2_holds_0 : List UInt8 := dkwX2_holds_0 ++ dktX2_holds_1
theorem dksX2_holds_0 : cX2_holds.data.toList.drop 0 = dktX2_holds_0 := by decide +kernel
theorem dksX2_holds_1 : cX2_holds.data.toList.drop 23 = dktX2_holds_1 := dk_seg dksX2_holds_0 23 rfl rfl
theorem dX2_holds_0 : decode cX2_holds 0 = .ok (.aload_n 0, 1) := dk_42 (dk_at dksX2_holds_0 0 rfl rfl)
theorem dX2_holds_1 : decode cX2_holds 1 = .ok (.iload_n 1, 1) := dk_27 (dk_at dksX2_holds_0 1 rfl rfl)
theorem dX2_holds_2 : decode cX2_holds 2 = .ok (.invokevirtual 324, 3) := dk_182 1 68 (dk_at dksX2_holds_0 2 rfl rfl)
theorem dX2_holds_5 : decode cX2_holds 5 = .ok (.ifCond .eq 10, 3) := dk_153 0 10 (dk_at dksX2_holds_0 5 rfl rfl)
theorem dX2_holds_8 : decode cX2_holds 8 = .ok (.iload_n 2, 1) := dk_28 (dk_at dksX2_holds_0 8 rfl rfl)
theorem dX2_holds_9 : decode cX2_holds 9 = .ok (.invokestatic 302, 3) := dk_184 1 46 (dk_at dksX2_holds_0 9 rfl rfl)
theorem dX2_holds_12 : decode cX2_holds 12 = .ok (.ifCond .ne 5, 3) := dk_154 0 5 (dk_at dksX2_holds_0 12 rfl rfl)
theorem dX2_holds_15 : decode cX2_holds 15 = .ok (.iconst (-1), 1) := dk_2 (dk_at dksX2_holds_0 15 rfl rfl)
theorem dX2_holds_16 : decode cX2_holds 16 = .ok (.ireturn, 1) := dk_172 (dk_at dksX2_holds_0 16 rfl rfl)
theorem dX2_holds_17 : decode cX2_holds 17 = .ok (.aload_n 0, 1) := dk_42 (dk_at dksX2_holds_0 17 rfl rfl)
theorem dX2_holds_18 : decode cX2_holds 18 = .ok (.iload_n 1, 1) := dk_27 (dk_at dksX2_holds_0 18 rfl rfl)
theorem dX2_holds_19 : decode cX2_holds 19 = .ok (.iload_n 2, 1) := dk_28 (dk_at dksX2_holds_0 19 rfl rfl)
theorem dX2_holds_20 : decode cX2_holds 20 = .ok (.invokevirtual 331, 3) := dk_182 1 75 (dk_at dksX2_holds_0 20 rfl rfl)
theorem dX2_holds_23 : decode cX2_holds 23 = .ok (.ifCond .eq 7, 3) := dk_153 0 7 (dk_at dksX2_holds_1 0 rfl rfl)
theorem dX2_holds_26 : decode cX2_holds 26 = .ok (.iconst 1, 1) := dk_4 (dk_at dksX2_holds_1 3 rfl rfl)
theorem dX2_holds_27 : decode cX2_holds 27 = .ok (.goto 4, 3) := dk_167 0 4 (dk_at dksX2_holds_1 4 rfl rfl)
theorem dX2_holds_30 : decode cX2_holds 30 = .ok (.iconst 0, 1) := dk_3 (dk_at dksX2_holds_1 7 rfl rfl)
theorem dX2_holds_31 : decode cX2_holds 31 = .ok (.ireturn, 1) := dk_172 (dk_at dksX2_holds_1 8 rfl rfl)
abbrev cX2_tight : ByteArray := prog_12_method_72_code
def yX2_tight : MethodName := ⟨RX2, "tight", "(I)I"⟩
def dkwX2_tight_3 : List UInt8 := [16, 254, 159, 0, 7, 27, 154, 0, 7, 28, 167, 0, 8, 42, 28, 182, 1, 71, 172]
abbrev dktX2_tight_3 : List UInt8 := dkwX2_tight_3 ++ []
def dkwX2_tight_2 : List UInt8 := [182, 1, 71, 42, 28, 182, 1, 71, 162, 0, 7, 29, 167, 0, 4, 28, 61, 132, 3, 1, 167, 255, 205, 28]
abbrev dktX2_tight_2 : List UInt8 := dkwX2_tight_2 ++ dktX2_tight_3
def dkwX2_tight_1 : List UInt8 := [46, 162, 0, 45, 42, 29, 182, 1, 62, 154, 0, 6, 167, 0, 28, 28, 16, 254, 159, 0, 16, 42, 29]
abbrev dktX2_tight_1 : List UInt8 := dkwX2_tight_1 ++ dktX2_tight_2
def dkwX2_tight_0 : List UInt8 := [27, 3, 4, 184, 0, 93, 154, 0, 5, 2, 172, 16, 254, 61, 3, 62, 29, 42, 180, 0, 13, 17, 1, 0]
abbrev dktX2_tight_0 : List UInt8 := dkwX2_tight_0 ++ dktX2_tight_1
theorem dksX2_tight_0 : cX2_tight.data.toList.drop 0 = dktX2_tight_0 := by decide +kernel
theorem dksX2_tight_1 : cX2_tight.data.toList.drop 24 = dktX2_tight_1 := dk_seg dksX2_tight_0 24 rfl rfl
theorem dksX2_tight_2 : cX2_tight.data.toList.drop 47 = dktX2_tight_2 := dk_seg dksX2_tight_1 23 rfl rfl
theorem dksX2_tight_3 : cX2_tight.data.toList.drop 71 = dktX2_tight_3 := dk_seg dksX2_tight_2 24 rfl rfl
theorem dX2_tight_0 : decode cX2_tight 0 = .ok (.iload_n 1, 1) := dk_27 (dk_at dksX2_tight_0 0 rfl rfl)
theorem dX2_tight_1 : decode cX2_tight 1 = .ok (.iconst 0, 1) := dk_3 (dk_at dksX2_tight_0 1 rfl rfl)
theorem dX2_tight_2 : decode cX2_tight 2 = .ok (.iconst 1, 1) := dk_4 (dk_at dksX2_tight_0 2 rfl rfl)
theorem dX2_tight_3 : decode cX2_tight 3 = .ok (.invokestatic 93, 3) := dk_184 0 93 (dk_at dksX2_tight_0 3 rfl rfl)
theorem dX2_tight_6 : decode cX2_tight 6 = .ok (.ifCond .ne 5, 3) := dk_154 0 5 (dk_at dksX2_tight_0 6 rfl rfl)
theorem dX2_tight_9 : decode cX2_tight 9 = .ok (.iconst (-1), 1) := dk_2 (dk_at dksX2_tight_0 9 rfl rfl)
theorem dX2_tight_10 : decode cX2_tight 10 = .ok (.ireturn, 1) := dk_172 (dk_at dksX2_tight_0 10 rfl rfl)
theorem dX2_tight_11 : decode cX2_tight 11 = .ok (.bipush (-2), 2) := dk_16 254 (dk_at dksX2_tight_0 11 rfl rfl)
theorem dX2_tight_13 : decode cX2_tight 13 = .ok (.istore_n 2, 1) := dk_61 (dk_at dksX2_tight_0 13 rfl rfl)
theorem dX2_tight_14 : decode cX2_tight 14 = .ok (.iconst 0, 1) := dk_3 (dk_at dksX2_tight_0 14 rfl rfl)
theorem dX2_tight_15 : decode cX2_tight 15 = .ok (.istore_n 3, 1) := dk_62 (dk_at dksX2_tight_0 15 rfl rfl)
theorem dX2_tight_16 : decode cX2_tight 16 = .ok (.iload_n 3, 1) := dk_29 (dk_at dksX2_tight_0 16 rfl rfl)
theorem dX2_tight_17 : decode cX2_tight 17 = .ok (.aload_n 0, 1) := dk_42 (dk_at dksX2_tight_0 17 rfl rfl)
theorem dX2_tight_18 : decode cX2_tight 18 = .ok (.getfield 13, 3) := dk_180 0 13 (dk_at dksX2_tight_0 18 rfl rfl)
theorem dX2_tight_21 : decode cX2_tight 21 = .ok (.sipush 256, 3) := dk_17 1 0 (dk_at dksX2_tight_0 21 rfl rfl)
theorem dX2_tight_24 : decode cX2_tight 24 = .ok (.iaload, 1) := dk_46 (dk_at dksX2_tight_1 0 rfl rfl)
theorem dX2_tight_25 : decode cX2_tight 25 = .ok (.if_icmp .ge 45, 3) := dk_162 0 45 (dk_at dksX2_tight_1 1 rfl rfl)
theorem dX2_tight_28 : decode cX2_tight 28 = .ok (.aload_n 0, 1) := dk_42 (dk_at dksX2_tight_1 4 rfl rfl)
theorem dX2_tight_29 : decode cX2_tight 29 = .ok (.iload_n 3, 1) := dk_29 (dk_at dksX2_tight_1 5 rfl rfl)
theorem dX2_tight_30 : decode cX2_tight 30 = .ok (.invokevirtual 318, 3) := dk_182 1 62 (dk_at dksX2_tight_1 6 rfl rfl)
theorem dX2_tight_33 : decode cX2_tight 33 = .ok (.ifCond .ne 6, 3) := dk_154 0 6 (dk_at dksX2_tight_1 9 rfl rfl)
theorem dX2_tight_36 : decode cX2_tight 36 = .ok (.goto 28, 3) := dk_167 0 28 (dk_at dksX2_tight_1 12 rfl rfl)
theorem dX2_tight_39 : decode cX2_tight 39 = .ok (.iload_n 2, 1) := dk_28 (dk_at dksX2_tight_1 15 rfl rfl)
theorem dX2_tight_40 : decode cX2_tight 40 = .ok (.bipush (-2), 2) := dk_16 254 (dk_at dksX2_tight_1 16 rfl rfl)
theorem dX2_tight_42 : decode cX2_tight 42 = .ok (.if_icmp .eq 16, 3) := dk_159 0 16 (dk_at dksX2_tight_1 18 rfl rfl)
theorem dX2_tight_45 : decode cX2_tight 45 = .ok (.aload_n 0, 1) := dk_42 (dk_at dksX2_tight_1 21 rfl rfl)
theorem dX2_tight_46 : decode cX2_tight 46 = .ok (.iload_n 3, 1) := dk_29 (dk_at dksX2_tight_1 22 rfl rfl)
theorem dX2_tight_47 : decode cX2_tight 47 = .ok (.invokevirtual 327, 3) := dk_182 1 71 (dk_at dksX2_tight_2 0 rfl rfl)
theorem dX2_tight_50 : decode cX2_tight 50 = .ok (.aload_n 0, 1) := dk_42 (dk_at dksX2_tight_2 3 rfl rfl)
theorem dX2_tight_51 : decode cX2_tight 51 = .ok (.iload_n 2, 1) := dk_28 (dk_at dksX2_tight_2 4 rfl rfl)
theorem dX2_tight_52 : decode cX2_tight 52 = .ok (.invokevirtual 327, 3) := dk_182 1 71 (dk_at dksX2_tight_2 5 rfl rfl)
theorem dX2_tight_55 : decode cX2_tight 55 = .ok (.if_icmp .ge 7, 3) := dk_162 0 7 (dk_at dksX2_tight_2 8 rfl rfl)
theorem dX2_tight_58 : decode cX2_tight 58 = .ok (.iload_n 3, 1) := dk_29 (dk_at dksX2_tight_2 11 rfl rfl)
theorem dX2_tight_59 : decode cX2_tight 59 = .ok (.goto 4, 3) := dk_167 0 4 (dk_at dksX2_tight_2 12 rfl rfl)
theorem dX2_tight_62 : decode cX2_tight 62 = .ok (.iload_n 2, 1) := dk_28 (dk_at dksX2_tight_2 15 rfl rfl)
theorem dX2_tight_63 : decode cX2_tight 63 = .ok (.istore_n 2, 1) := dk_61 (dk_at dksX2_tight_2 16 rfl rfl)
theorem dX2_tight_64 : decode cX2_tight 64 = .ok (.iinc 3 1, 3) := dk_132 3 1 (dk_at dksX2_tight_2 17 rfl rfl)
theorem dX2_tight_67 : decode cX2_tight 67 = .ok (.goto (-51), 3) := dk_167 255 205 (dk_at dksX2_tight_2 20 rfl rfl)
theorem dX2_tight_70 : decode cX2_tight 70 = .ok (.iload_n 2, 1) := dk_28 (dk_at dksX2_tight_2 23 rfl rfl)
theorem dX2_tight_71 : decode cX2_tight 71 = .ok (.bipush (-2), 2) := dk_16 254 (dk_at dksX2_tight_3 0 rfl rfl)
theorem dX2_tight_73 : decode cX2_tight 73 = .ok (.if_icmp .eq 7, 3) := dk_159 0 7 (dk_at dksX2_tight_3 2 rfl rfl)
theorem dX2_tight_76 : decode cX2_tight 76 = .ok (.iload_n 1, 1) := dk_27 (dk_at dksX2_tight_3 5 rfl rfl)
theorem dX2_tight_77 : decode cX2_tight 77 = .ok (.ifCond .ne 7, 3) := dk_154 0 7 (dk_at dksX2_tight_3 6 rfl rfl)
theorem dX2_tight_80 : decode cX2_tight 80 = .ok (.iload_n 2, 1) := dk_28 (dk_at dksX2_tight_3 9 rfl rfl)
theorem dX2_tight_81 : decode cX2_tight 81 = .ok (.goto 8, 3) := dk_167 0 8 (dk_at dksX2_tight_3 10 rfl rfl)
theorem dX2_tight_84 : decode cX2_tight 84 = .ok (.aload_n 0, 1) := dk_42 (dk_at dksX2_tight_3 13 rfl rfl)
theorem dX2_tight_85 : decode cX2_tight 85 = .ok (.iload_n 2, 1) := dk_28 (dk_at dksX2_tight_3 14 rfl rfl)
theorem dX2_tight_86 : decode cX2_tight 86 = .ok (.invokevirtual 327, 3) := dk_182 1 71 (dk_at dksX2_tight_3 15 rfl rfl)
theorem dX2_tight_89 : decode cX2_tight 89 = .ok (.ireturn, 1) := dk_172 (dk_at dksX2_tight_3 18 rfl rfl)
abbrev cX2_window : ByteArray := prog_12_method_73_code
def yX2_window : MethodName := ⟨RX2, "window", "(II)I"⟩
def dkwX2_window_1 : List UInt8 := [27, 182, 1, 21, 42, 180, 0, 13, 3, 46, 96, 167, 0, 8, 42, 27, 182, 1, 24, 172]
abbrev dktX2_window_1 : List UInt8 := dkwX2_window_1 ++ []
def dkwX2_window_0 : List UInt8 := [42, 27, 182, 1, 27, 153, 0, 12, 28, 3, 4, 184, 0, 93, 154, 0, 5, 2, 172, 28, 154, 0, 18, 42]
abbrev dktX2_window_0 : List UInt8 := dkwX2_window_0 ++ dktX2_window_1
theorem dksX2_window_0 : cX2_window.data.toList.drop 0 = dktX2_window_0 := by decide +kernel
theorem dksX2_window_1 : cX2_window.data.toList.drop 24 = dktX2_window_1 := dk_seg dksX2_window_0 24 rfl rfl
theorem dX2_window_0 : decode cX2_window 0 = .ok (.aload_n 0, 1) := dk_42 (dk_at dksX2_window_0 0 rfl rfl)
theorem dX2_window_1 : decode cX2_window 1 = .ok (.iload_n 1, 1) := dk_27 (dk_at dksX2_window_0 1 rfl rfl)
theorem dX2_window_2 : decode cX2_window 2 = .ok (.invokevirtual 283, 3) := dk_182 1 27 (dk_at dksX2_window_0 2 rfl rfl)
theorem dX2_window_5 : decode cX2_window 5 = .ok (.ifCond .eq 12, 3) := dk_153 0 12 (dk_at dksX2_window_0 5 rfl rfl)
theorem dX2_window_8 : decode cX2_window 8 = .ok (.iload_n 2, 1) := dk_28 (dk_at dksX2_window_0 8 rfl rfl)
theorem dX2_window_9 : decode cX2_window 9 = .ok (.iconst 0, 1) := dk_3 (dk_at dksX2_window_0 9 rfl rfl)
theorem dX2_window_10 : decode cX2_window 10 = .ok (.iconst 1, 1) := dk_4 (dk_at dksX2_window_0 10 rfl rfl)
theorem dX2_window_11 : decode cX2_window 11 = .ok (.invokestatic 93, 3) := dk_184 0 93 (dk_at dksX2_window_0 11 rfl rfl)
theorem dX2_window_14 : decode cX2_window 14 = .ok (.ifCond .ne 5, 3) := dk_154 0 5 (dk_at dksX2_window_0 14 rfl rfl)
theorem dX2_window_17 : decode cX2_window 17 = .ok (.iconst (-1), 1) := dk_2 (dk_at dksX2_window_0 17 rfl rfl)
theorem dX2_window_18 : decode cX2_window 18 = .ok (.ireturn, 1) := dk_172 (dk_at dksX2_window_0 18 rfl rfl)
theorem dX2_window_19 : decode cX2_window 19 = .ok (.iload_n 2, 1) := dk_28 (dk_at dksX2_window_0 19 rfl rfl)
theorem dX2_window_20 : decode cX2_window 20 = .ok (.ifCond .ne 18, 3) := dk_154 0 18 (dk_at dksX2_window_0 20 rfl rfl)
theorem dX2_window_23 : decode cX2_window 23 = .ok (.aload_n 0, 1) := dk_42 (dk_at dksX2_window_0 23 rfl rfl)
theorem dX2_window_24 : decode cX2_window 24 = .ok (.iload_n 1, 1) := dk_27 (dk_at dksX2_window_1 0 rfl rfl)
theorem dX2_window_25 : decode cX2_window 25 = .ok (.invokevirtual 277, 3) := dk_182 1 21 (dk_at dksX2_window_1 1 rfl rfl)
theorem dX2_window_28 : decode cX2_window 28 = .ok (.aload_n 0, 1) := dk_42 (dk_at dksX2_window_1 4 rfl rfl)
theorem dX2_window_29 : decode cX2_window 29 = .ok (.getfield 13, 3) := dk_180 0 13 (dk_at dksX2_window_1 5 rfl rfl)
theorem dX2_window_32 : decode cX2_window 32 = .ok (.iconst 0, 1) := dk_3 (dk_at dksX2_window_1 8 rfl rfl)
theorem dX2_window_33 : decode cX2_window 33 = .ok (.iaload, 1) := dk_46 (dk_at dksX2_window_1 9 rfl rfl)
theorem dX2_window_34 : decode cX2_window 34 = .ok (.iadd, 1) := dk_96 (dk_at dksX2_window_1 10 rfl rfl)
theorem dX2_window_35 : decode cX2_window 35 = .ok (.goto 8, 3) := dk_167 0 8 (dk_at dksX2_window_1 11 rfl rfl)
theorem dX2_window_38 : decode cX2_window 38 = .ok (.aload_n 0, 1) := dk_42 (dk_at dksX2_window_1 14 rfl rfl)
theorem dX2_window_39 : decode cX2_window 39 = .ok (.iload_n 1, 1) := dk_27 (dk_at dksX2_window_1 15 rfl rfl)
theorem dX2_window_40 : decode cX2_window 40 = .ok (.invokevirtual 280, 3) := dk_182 1 24 (dk_at dksX2_window_1 16 rfl rfl)
theorem dX2_window_43 : decode cX2_window 43 = .ok (.ireturn, 1) := dk_172 (dk_at dksX2_window_1 19 rfl rfl)
abbrev cX2_date : ByteArray := prog_12_method_79_code
def yX2_date : MethodName := ⟨RX2, "date", "(II)I"⟩
def dkwX2_date_1 : List UInt8 := [167, 0, 4, 2, 172]
abbrev dktX2_date_1 : List UInt8 := dkwX2_date_1 ++ []
def dkwX2_date_0 : List UInt8 := [42, 27, 182, 1, 27, 153, 0, 20, 28, 184, 1, 46, 153, 0, 13, 42, 27, 28, 3, 182, 1, 91]
abbrev dktX2_date_0 : List UInt8 := dkwX2_date_0 ++ dktX2_date_1
theorem dksX2_date_0 : cX2_date.data.toList.drop 0 = dktX2_date_0 := by decide +kernel
theorem dksX2_date_1 : cX2_date.data.toList.drop 22 = dktX2_date_1 := dk_seg dksX2_date_0 22 rfl rfl
theorem dX2_date_0 : decode cX2_date 0 = .ok (.aload_n 0, 1) := dk_42 (dk_at dksX2_date_0 0 rfl rfl)
theorem dX2_date_1 : decode cX2_date 1 = .ok (.iload_n 1, 1) := dk_27 (dk_at dksX2_date_0 1 rfl rfl)
theorem dX2_date_2 : decode cX2_date 2 = .ok (.invokevirtual 283, 3) := dk_182 1 27 (dk_at dksX2_date_0 2 rfl rfl)
theorem dX2_date_5 : decode cX2_date 5 = .ok (.ifCond .eq 20, 3) := dk_153 0 20 (dk_at dksX2_date_0 5 rfl rfl)
theorem dX2_date_8 : decode cX2_date 8 = .ok (.iload_n 2, 1) := dk_28 (dk_at dksX2_date_0 8 rfl rfl)
theorem dX2_date_9 : decode cX2_date 9 = .ok (.invokestatic 302, 3) := dk_184 1 46 (dk_at dksX2_date_0 9 rfl rfl)
theorem dX2_date_12 : decode cX2_date 12 = .ok (.ifCond .eq 13, 3) := dk_153 0 13 (dk_at dksX2_date_0 12 rfl rfl)
theorem dX2_date_15 : decode cX2_date 15 = .ok (.aload_n 0, 1) := dk_42 (dk_at dksX2_date_0 15 rfl rfl)
theorem dX2_date_16 : decode cX2_date 16 = .ok (.iload_n 1, 1) := dk_27 (dk_at dksX2_date_0 16 rfl rfl)
theorem dX2_date_17 : decode cX2_date 17 = .ok (.iload_n 2, 1) := dk_28 (dk_at dksX2_date_0 17 rfl rfl)
theorem dX2_date_18 : decode cX2_date 18 = .ok (.iconst 0, 1) := dk_3 (dk_at dksX2_date_0 18 rfl rfl)
theorem dX2_date_19 : decode cX2_date 19 = .ok (.invokevirtual 347, 3) := dk_182 1 91 (dk_at dksX2_date_0 19 rfl rfl)
theorem dX2_date_22 : decode cX2_date 22 = .ok (.goto 4, 3) := dk_167 0 4 (dk_at dksX2_date_1 0 rfl rfl)
theorem dX2_date_25 : decode cX2_date 25 = .ok (.iconst (-1), 1) := dk_2 (dk_at dksX2_date_1 3 rfl rfl)
theorem dX2_date_26 : decode cX2_date 26 = .ok (.ireturn, 1) := dk_172 (dk_at dksX2_date_1 4 rfl rfl)
abbrev cX2_dater : ByteArray := prog_12_method_80_code
def yX2_dater : MethodName := ⟨RX2, "dater", "(II)I"⟩
def dkwX2_dater_1 : List UInt8 := [167, 0, 4, 2, 172]
abbrev dktX2_dater_1 : List UInt8 := dkwX2_dater_1 ++ []
def dkwX2_dater_0 : List UInt8 := [42, 27, 182, 1, 27, 153, 0, 20, 28, 184, 1, 46, 153, 0, 13, 42, 27, 28, 3, 182, 1, 87]
abbrev dktX2_dater_0 : List UInt8 := dkwX2_dater_0 ++ dktX2_dater_1
theorem dksX2_dater_0 : cX2_dater.data.toList.drop 0 = dktX2_dater_0 := by decide +kernel
theorem dksX2_dater_1 : cX2_dater.data.toList.drop 22 = dktX2_dater_1 := dk_seg dksX2_dater_0 22 rfl rfl
theorem dX2_dater_0 : decode cX2_dater 0 = .ok (.aload_n 0, 1) := dk_42 (dk_at dksX2_dater_0 0 rfl rfl)
theorem dX2_dater_1 : decode cX2_dater 1 = .ok (.iload_n 1, 1) := dk_27 (dk_at dksX2_dater_0 1 rfl rfl)
theorem dX2_dater_2 : decode cX2_dater 2 = .ok (.invokevirtual 283, 3) := dk_182 1 27 (dk_at dksX2_dater_0 2 rfl rfl)
theorem dX2_dater_5 : decode cX2_dater 5 = .ok (.ifCond .eq 20, 3) := dk_153 0 20 (dk_at dksX2_dater_0 5 rfl rfl)
theorem dX2_dater_8 : decode cX2_dater 8 = .ok (.iload_n 2, 1) := dk_28 (dk_at dksX2_dater_0 8 rfl rfl)
theorem dX2_dater_9 : decode cX2_dater 9 = .ok (.invokestatic 302, 3) := dk_184 1 46 (dk_at dksX2_dater_0 9 rfl rfl)
theorem dX2_dater_12 : decode cX2_dater 12 = .ok (.ifCond .eq 13, 3) := dk_153 0 13 (dk_at dksX2_dater_0 12 rfl rfl)
theorem dX2_dater_15 : decode cX2_dater 15 = .ok (.aload_n 0, 1) := dk_42 (dk_at dksX2_dater_0 15 rfl rfl)
theorem dX2_dater_16 : decode cX2_dater 16 = .ok (.iload_n 1, 1) := dk_27 (dk_at dksX2_dater_0 16 rfl rfl)
theorem dX2_dater_17 : decode cX2_dater 17 = .ok (.iload_n 2, 1) := dk_28 (dk_at dksX2_dater_0 17 rfl rfl)
theorem dX2_dater_18 : decode cX2_dater 18 = .ok (.iconst 0, 1) := dk_3 (dk_at dksX2_dater_0 18 rfl rfl)
theorem dX2_dater_19 : decode cX2_dater 19 = .ok (.invokevirtual 343, 3) := dk_182 1 87 (dk_at dksX2_dater_0 19 rfl rfl)
theorem dX2_dater_22 : decode cX2_dater 22 = .ok (.goto 4, 3) := dk_167 0 4 (dk_at dksX2_dater_1 0 rfl rfl)
theorem dX2_dater_25 : decode cX2_dater 25 = .ok (.iconst (-1), 1) := dk_2 (dk_at dksX2_dater_1 3 rfl rfl)
theorem dX2_dater_26 : decode cX2_dater 26 = .ok (.ireturn, 1) := dk_172 (dk_at dksX2_dater_1 4 rfl rfl)
abbrev cX2_way : ByteArray := prog_12_method_84_code
def yX2_way : MethodName := ⟨RX2, "way", "(III)I"⟩
def dkwX2_way_2 : List UInt8 := [180, 1, 97, 172, 29, 42, 180, 1, 97, 162, 0, 12, 42, 180, 0, 49, 29, 46, 167, 0, 5, 16, 253, 172]
abbrev dktX2_way_2 : List UInt8 := dkwX2_way_2 ++ []
def dkwX2_way_1 : List UInt8 := [28, 182, 1, 49, 16, 254, 160, 0, 6, 16, 254, 172, 42, 27, 28, 182, 1, 103, 29, 2, 160, 0, 8, 42]
abbrev dktX2_way_1 : List UInt8 := dkwX2_way_1 ++ dktX2_way_2
def dkwX2_way_0 : List UInt8 := [42, 27, 182, 1, 27, 153, 0, 15, 28, 184, 1, 46, 153, 0, 8, 29, 2, 162, 0, 5, 2, 172, 42, 27]
abbrev dktX2_way_0 : List UInt8 := dkwX2_way_0 ++ dktX2_way_1
theorem dksX2_way_0 : cX2_way.data.toList.drop 0 = dktX2_way_0 := by decide +kernel
theorem dksX2_way_1 : cX2_way.data.toList.drop 24 = dktX2_way_1 := dk_seg dksX2_way_0 24 rfl rfl
theorem dksX2_way_2 : cX2_way.data.toList.drop 48 = dktX2_way_2 := dk_seg dksX2_way_1 24 rfl rfl
theorem dX2_way_0 : decode cX2_way 0 = .ok (.aload_n 0, 1) := dk_42 (dk_at dksX2_way_0 0 rfl rfl)
theorem dX2_way_1 : decode cX2_way 1 = .ok (.iload_n 1, 1) := dk_27 (dk_at dksX2_way_0 1 rfl rfl)
theorem dX2_way_2 : decode cX2_way 2 = .ok (.invokevirtual 283, 3) := dk_182 1 27 (dk_at dksX2_way_0 2 rfl rfl)
theorem dX2_way_5 : decode cX2_way 5 = .ok (.ifCond .eq 15, 3) := dk_153 0 15 (dk_at dksX2_way_0 5 rfl rfl)
theorem dX2_way_8 : decode cX2_way 8 = .ok (.iload_n 2, 1) := dk_28 (dk_at dksX2_way_0 8 rfl rfl)
theorem dX2_way_9 : decode cX2_way 9 = .ok (.invokestatic 302, 3) := dk_184 1 46 (dk_at dksX2_way_0 9 rfl rfl)
theorem dX2_way_12 : decode cX2_way 12 = .ok (.ifCond .eq 8, 3) := dk_153 0 8 (dk_at dksX2_way_0 12 rfl rfl)
theorem dX2_way_15 : decode cX2_way 15 = .ok (.iload_n 3, 1) := dk_29 (dk_at dksX2_way_0 15 rfl rfl)
theorem dX2_way_16 : decode cX2_way 16 = .ok (.iconst (-1), 1) := dk_2 (dk_at dksX2_way_0 16 rfl rfl)
theorem dX2_way_17 : decode cX2_way 17 = .ok (.if_icmp .ge 5, 3) := dk_162 0 5 (dk_at dksX2_way_0 17 rfl rfl)
theorem dX2_way_20 : decode cX2_way 20 = .ok (.iconst (-1), 1) := dk_2 (dk_at dksX2_way_0 20 rfl rfl)
theorem dX2_way_21 : decode cX2_way 21 = .ok (.ireturn, 1) := dk_172 (dk_at dksX2_way_0 21 rfl rfl)
theorem dX2_way_22 : decode cX2_way 22 = .ok (.aload_n 0, 1) := dk_42 (dk_at dksX2_way_0 22 rfl rfl)
theorem dX2_way_23 : decode cX2_way 23 = .ok (.iload_n 1, 1) := dk_27 (dk_at dksX2_way_0 23 rfl rfl)
theorem dX2_way_24 : decode cX2_way 24 = .ok (.iload_n 2, 1) := dk_28 (dk_at dksX2_way_1 0 rfl rfl)
theorem dX2_way_25 : decode cX2_way 25 = .ok (.invokevirtual 305, 3) := dk_182 1 49 (dk_at dksX2_way_1 1 rfl rfl)
theorem dX2_way_28 : decode cX2_way 28 = .ok (.bipush (-2), 2) := dk_16 254 (dk_at dksX2_way_1 4 rfl rfl)
theorem dX2_way_30 : decode cX2_way 30 = .ok (.if_icmp .ne 6, 3) := dk_160 0 6 (dk_at dksX2_way_1 6 rfl rfl)
theorem dX2_way_33 : decode cX2_way 33 = .ok (.bipush (-2), 2) := dk_16 254 (dk_at dksX2_way_1 9 rfl rfl)
theorem dX2_way_35 : decode cX2_way 35 = .ok (.ireturn, 1) := dk_172 (dk_at dksX2_way_1 11 rfl rfl)
theorem dX2_way_36 : decode cX2_way 36 = .ok (.aload_n 0, 1) := dk_42 (dk_at dksX2_way_1 12 rfl rfl)
theorem dX2_way_37 : decode cX2_way 37 = .ok (.iload_n 1, 1) := dk_27 (dk_at dksX2_way_1 13 rfl rfl)
theorem dX2_way_38 : decode cX2_way 38 = .ok (.iload_n 2, 1) := dk_28 (dk_at dksX2_way_1 14 rfl rfl)
theorem dX2_way_39 : decode cX2_way 39 = .ok (.invokevirtual 359, 3) := dk_182 1 103 (dk_at dksX2_way_1 15 rfl rfl)
theorem dX2_way_42 : decode cX2_way 42 = .ok (.iload_n 3, 1) := dk_29 (dk_at dksX2_way_1 18 rfl rfl)
theorem dX2_way_43 : decode cX2_way 43 = .ok (.iconst (-1), 1) := dk_2 (dk_at dksX2_way_1 19 rfl rfl)
theorem dX2_way_44 : decode cX2_way 44 = .ok (.if_icmp .ne 8, 3) := dk_160 0 8 (dk_at dksX2_way_1 20 rfl rfl)
theorem dX2_way_47 : decode cX2_way 47 = .ok (.aload_n 0, 1) := dk_42 (dk_at dksX2_way_1 23 rfl rfl)
theorem dX2_way_48 : decode cX2_way 48 = .ok (.getfield 353, 3) := dk_180 1 97 (dk_at dksX2_way_2 0 rfl rfl)
theorem dX2_way_51 : decode cX2_way 51 = .ok (.ireturn, 1) := dk_172 (dk_at dksX2_way_2 3 rfl rfl)
theorem dX2_way_52 : decode cX2_way 52 = .ok (.iload_n 3, 1) := dk_29 (dk_at dksX2_way_2 4 rfl rfl)
theorem dX2_way_53 : decode cX2_way 53 = .ok (.aload_n 0, 1) := dk_42 (dk_at dksX2_way_2 5 rfl rfl)
theorem dX2_way_54 : decode cX2_way 54 = .ok (.getfield 353, 3) := dk_180 1 97 (dk_at dksX2_way_2 6 rfl rfl)
theorem dX2_way_57 : decode cX2_way 57 = .ok (.if_icmp .ge 12, 3) := dk_162 0 12 (dk_at dksX2_way_2 9 rfl rfl)
theorem dX2_way_60 : decode cX2_way 60 = .ok (.aload_n 0, 1) := dk_42 (dk_at dksX2_way_2 12 rfl rfl)
theorem dX2_way_61 : decode cX2_way 61 = .ok (.getfield 49, 3) := dk_180 0 49 (dk_at dksX2_way_2 13 rfl rfl)
theorem dX2_way_64 : decode cX2_way 64 = .ok (.iload_n 3, 1) := dk_29 (dk_at dksX2_way_2 16 rfl rfl)
theorem dX2_way_65 : decode cX2_way 65 = .ok (.iaload, 1) := dk_46 (dk_at dksX2_way_2 17 rfl rfl)
theorem dX2_way_66 : decode cX2_way 66 = .ok (.goto 5, 3) := dk_167 0 5 (dk_at dksX2_way_2 18 rfl rfl)
theorem dX2_way_69 : decode cX2_way 69 = .ok (.bipush (-3), 2) := dk_16 253 (dk_at dksX2_way_2 21 rfl rfl)
theorem dX2_way_71 : decode cX2_way 71 = .ok (.ireturn, 1) := dk_172 (dk_at dksX2_way_2 23 rfl rfl)
abbrev cX2_laysWay : ByteArray := prog_12_method_83_code
def yX2_laysWay : MethodName := ⟨RX2, "laysWay", "(II)V"⟩
def dkwX2_laysWay_2 : List UInt8 := [180, 1, 97, 46, 182, 1, 55, 54, 4, 42, 42, 180, 1, 97, 4, 96, 181, 1, 97, 167, 255, 210, 177]
abbrev dktX2_laysWay_2 : List UInt8 := dkwX2_laysWay_2 ++ []
def dkwX2_laysWay_1 : List UInt8 := [159, 0, 46, 42, 180, 0, 49, 42, 180, 1, 97, 42, 21, 4, 182, 1, 100, 79, 42, 42, 180, 0, 49, 42]
abbrev dktX2_laysWay_1 : List UInt8 := dkwX2_laysWay_1 ++ dktX2_laysWay_2
def dkwX2_laysWay_0 : List UInt8 := [42, 27, 28, 3, 182, 1, 87, 62, 42, 29, 182, 1, 94, 42, 3, 181, 1, 97, 27, 54, 4, 21, 4, 29]
abbrev dktX2_laysWay_0 : List UInt8 := dkwX2_laysWay_0 ++ dktX2_laysWay_1
theorem dksX2_laysWay_0 : cX2_laysWay.data.toList.drop 0 = dktX2_laysWay_0 := by decide +kernel
theorem dksX2_laysWay_1 : cX2_laysWay.data.toList.drop 24 = dktX2_laysWay_1 := dk_seg dksX2_laysWay_0 24 rfl rfl
theorem dksX2_laysWay_2 : cX2_laysWay.data.toList.drop 48 = dktX2_laysWay_2 := dk_seg dksX2_laysWay_1 24 rfl rfl
theorem dX2_laysWay_0 : decode cX2_laysWay 0 = .ok (.aload_n 0, 1) := dk_42 (dk_at dksX2_laysWay_0 0 rfl rfl)
theorem dX2_laysWay_1 : decode cX2_laysWay 1 = .ok (.iload_n 1, 1) := dk_27 (dk_at dksX2_laysWay_0 1 rfl rfl)
theorem dX2_laysWay_2 : decode cX2_laysWay 2 = .ok (.iload_n 2, 1) := dk_28 (dk_at dksX2_laysWay_0 2 rfl rfl)
theorem dX2_laysWay_3 : decode cX2_laysWay 3 = .ok (.iconst 0, 1) := dk_3 (dk_at dksX2_laysWay_0 3 rfl rfl)
theorem dX2_laysWay_4 : decode cX2_laysWay 4 = .ok (.invokevirtual 343, 3) := dk_182 1 87 (dk_at dksX2_laysWay_0 4 rfl rfl)
theorem dX2_laysWay_7 : decode cX2_laysWay 7 = .ok (.istore_n 3, 1) := dk_62 (dk_at dksX2_laysWay_0 7 rfl rfl)
theorem dX2_laysWay_8 : decode cX2_laysWay 8 = .ok (.aload_n 0, 1) := dk_42 (dk_at dksX2_laysWay_0 8 rfl rfl)
theorem dX2_laysWay_9 : decode cX2_laysWay 9 = .ok (.iload_n 3, 1) := dk_29 (dk_at dksX2_laysWay_0 9 rfl rfl)
theorem dX2_laysWay_10 : decode cX2_laysWay 10 = .ok (.invokevirtual 350, 3) := dk_182 1 94 (dk_at dksX2_laysWay_0 10 rfl rfl)
theorem dX2_laysWay_13 : decode cX2_laysWay 13 = .ok (.aload_n 0, 1) := dk_42 (dk_at dksX2_laysWay_0 13 rfl rfl)
theorem dX2_laysWay_14 : decode cX2_laysWay 14 = .ok (.iconst 0, 1) := dk_3 (dk_at dksX2_laysWay_0 14 rfl rfl)
theorem dX2_laysWay_15 : decode cX2_laysWay 15 = .ok (.putfield 353, 3) := dk_181 1 97 (dk_at dksX2_laysWay_0 15 rfl rfl)
theorem dX2_laysWay_18 : decode cX2_laysWay 18 = .ok (.iload_n 1, 1) := dk_27 (dk_at dksX2_laysWay_0 18 rfl rfl)
theorem dX2_laysWay_19 : decode cX2_laysWay 19 = .ok (.istore 4, 2) := dk_54 4 (dk_at dksX2_laysWay_0 19 rfl rfl)
theorem dX2_laysWay_21 : decode cX2_laysWay 21 = .ok (.iload 4, 2) := dk_21 4 (dk_at dksX2_laysWay_0 21 rfl rfl)
theorem dX2_laysWay_23 : decode cX2_laysWay 23 = .ok (.iload_n 3, 1) := dk_29 (dk_at dksX2_laysWay_0 23 rfl rfl)
theorem dX2_laysWay_24 : decode cX2_laysWay 24 = .ok (.if_icmp .eq 46, 3) := dk_159 0 46 (dk_at dksX2_laysWay_1 0 rfl rfl)
theorem dX2_laysWay_27 : decode cX2_laysWay 27 = .ok (.aload_n 0, 1) := dk_42 (dk_at dksX2_laysWay_1 3 rfl rfl)
theorem dX2_laysWay_28 : decode cX2_laysWay 28 = .ok (.getfield 49, 3) := dk_180 0 49 (dk_at dksX2_laysWay_1 4 rfl rfl)
theorem dX2_laysWay_31 : decode cX2_laysWay 31 = .ok (.aload_n 0, 1) := dk_42 (dk_at dksX2_laysWay_1 7 rfl rfl)
theorem dX2_laysWay_32 : decode cX2_laysWay 32 = .ok (.getfield 353, 3) := dk_180 1 97 (dk_at dksX2_laysWay_1 8 rfl rfl)
theorem dX2_laysWay_35 : decode cX2_laysWay 35 = .ok (.aload_n 0, 1) := dk_42 (dk_at dksX2_laysWay_1 11 rfl rfl)
theorem dX2_laysWay_36 : decode cX2_laysWay 36 = .ok (.iload 4, 2) := dk_21 4 (dk_at dksX2_laysWay_1 12 rfl rfl)
theorem dX2_laysWay_38 : decode cX2_laysWay 38 = .ok (.invokevirtual 356, 3) := dk_182 1 100 (dk_at dksX2_laysWay_1 14 rfl rfl)
theorem dX2_laysWay_41 : decode cX2_laysWay 41 = .ok (.iastore, 1) := dk_79 (dk_at dksX2_laysWay_1 17 rfl rfl)
theorem dX2_laysWay_42 : decode cX2_laysWay 42 = .ok (.aload_n 0, 1) := dk_42 (dk_at dksX2_laysWay_1 18 rfl rfl)
theorem dX2_laysWay_43 : decode cX2_laysWay 43 = .ok (.aload_n 0, 1) := dk_42 (dk_at dksX2_laysWay_1 19 rfl rfl)
theorem dX2_laysWay_44 : decode cX2_laysWay 44 = .ok (.getfield 49, 3) := dk_180 0 49 (dk_at dksX2_laysWay_1 20 rfl rfl)
theorem dX2_laysWay_47 : decode cX2_laysWay 47 = .ok (.aload_n 0, 1) := dk_42 (dk_at dksX2_laysWay_1 23 rfl rfl)
theorem dX2_laysWay_48 : decode cX2_laysWay 48 = .ok (.getfield 353, 3) := dk_180 1 97 (dk_at dksX2_laysWay_2 0 rfl rfl)
theorem dX2_laysWay_51 : decode cX2_laysWay 51 = .ok (.iaload, 1) := dk_46 (dk_at dksX2_laysWay_2 3 rfl rfl)
theorem dX2_laysWay_52 : decode cX2_laysWay 52 = .ok (.invokevirtual 311, 3) := dk_182 1 55 (dk_at dksX2_laysWay_2 4 rfl rfl)
theorem dX2_laysWay_55 : decode cX2_laysWay 55 = .ok (.istore 4, 2) := dk_54 4 (dk_at dksX2_laysWay_2 7 rfl rfl)
theorem dX2_laysWay_57 : decode cX2_laysWay 57 = .ok (.aload_n 0, 1) := dk_42 (dk_at dksX2_laysWay_2 9 rfl rfl)
theorem dX2_laysWay_58 : decode cX2_laysWay 58 = .ok (.aload_n 0, 1) := dk_42 (dk_at dksX2_laysWay_2 10 rfl rfl)
theorem dX2_laysWay_59 : decode cX2_laysWay 59 = .ok (.getfield 353, 3) := dk_180 1 97 (dk_at dksX2_laysWay_2 11 rfl rfl)
theorem dX2_laysWay_62 : decode cX2_laysWay 62 = .ok (.iconst 1, 1) := dk_4 (dk_at dksX2_laysWay_2 14 rfl rfl)
theorem dX2_laysWay_63 : decode cX2_laysWay 63 = .ok (.iadd, 1) := dk_96 (dk_at dksX2_laysWay_2 15 rfl rfl)
theorem dX2_laysWay_64 : decode cX2_laysWay 64 = .ok (.putfield 353, 3) := dk_181 1 97 (dk_at dksX2_laysWay_2 16 rfl rfl)
theorem dX2_laysWay_67 : decode cX2_laysWay 67 = .ok (.goto (-46), 3) := dk_167 255 210 (dk_at dksX2_laysWay_2 19 rfl rfl)
theorem dX2_laysWay_70 : decode cX2_laysWay 70 = .ok (.return_, 1) := dk_177 (dk_at dksX2_laysWay_2 22 rfl rfl)
abbrev cX2_reachedFrom : ByteArray := prog_12_method_81_code
def yX2_reachedFrom : MethodName := ⟨RX2, "reachedFrom", "(I)V"⟩
def dkwX2_reachedFrom_6 : List UInt8 := [132, 4, 1, 167, 255, 161, 132, 3, 1, 167, 255, 147, 177]
abbrev dktX2_reachedFrom_6 : List UInt8 := dkwX2_reachedFrom_6 ++ []
def dkwX2_reachedFrom_5 : List UInt8 := [42, 180, 0, 46, 29, 46, 46, 4, 96, 79, 42, 180, 0, 46, 28, 21, 5, 79, 28, 4, 96, 61]
abbrev dktX2_reachedFrom_5 : List UInt8 := dkwX2_reachedFrom_5 ++ dktX2_reachedFrom_6
def dkwX2_reachedFrom_4 : List UInt8 := [42, 180, 0, 52, 21, 5, 46, 2, 159, 0, 6, 167, 0, 35, 42, 180, 0, 52, 21, 5, 42, 180, 0, 52]
abbrev dktX2_reachedFrom_4 : List UInt8 := dkwX2_reachedFrom_4 ++ dktX2_reachedFrom_5
def dkwX2_reachedFrom_3 : List UInt8 := [180, 0, 39, 21, 4, 51, 153, 0, 64, 42, 21, 4, 182, 1, 55, 42, 180, 0, 46, 29, 46, 160, 0, 49]
abbrev dktX2_reachedFrom_3 : List UInt8 := dkwX2_reachedFrom_3 ++ dktX2_reachedFrom_4
def dkwX2_reachedFrom_2 : List UInt8 := [54, 4, 21, 4, 42, 180, 0, 13, 17, 1, 0, 46, 162, 0, 88, 42, 21, 4, 182, 1, 52, 54, 5, 42]
abbrev dktX2_reachedFrom_2 : List UInt8 := dkwX2_reachedFrom_2 ++ dktX2_reachedFrom_3
def dkwX2_reachedFrom_1 : List UInt8 := [180, 0, 52, 27, 3, 79, 42, 180, 0, 46, 3, 27, 79, 4, 61, 3, 62, 29, 28, 162, 0, 110, 3]
abbrev dktX2_reachedFrom_1 : List UInt8 := dkwX2_reachedFrom_1 ++ dktX2_reachedFrom_2
def dkwX2_reachedFrom_0 : List UInt8 := [3, 61, 28, 16, 14, 162, 0, 16, 42, 180, 0, 52, 28, 2, 79, 132, 2, 1, 167, 255, 240, 42]
abbrev dktX2_reachedFrom_0 : List UInt8 := dkwX2_reachedFrom_0 ++ dktX2_reachedFrom_1
theorem dksX2_reachedFrom_0 : cX2_reachedFrom.data.toList.drop 0 = dktX2_reachedFrom_0 := by decide +kernel
theorem dksX2_reachedFrom_1 : cX2_reachedFrom.data.toList.drop 22 = dktX2_reachedFrom_1 := dk_seg dksX2_reachedFrom_0 22 rfl rfl
theorem dksX2_reachedFrom_2 : cX2_reachedFrom.data.toList.drop 45 = dktX2_reachedFrom_2 := dk_seg dksX2_reachedFrom_1 23 rfl rfl
theorem dksX2_reachedFrom_3 : cX2_reachedFrom.data.toList.drop 69 = dktX2_reachedFrom_3 := dk_seg dksX2_reachedFrom_2 24 rfl rfl
theorem dksX2_reachedFrom_4 : cX2_reachedFrom.data.toList.drop 93 = dktX2_reachedFrom_4 := dk_seg dksX2_reachedFrom_3 24 rfl rfl
theorem dksX2_reachedFrom_5 : cX2_reachedFrom.data.toList.drop 117 = dktX2_reachedFrom_5 := dk_seg dksX2_reachedFrom_4 24 rfl rfl
theorem dksX2_reachedFrom_6 : cX2_reachedFrom.data.toList.drop 139 = dktX2_reachedFrom_6 := dk_seg dksX2_reachedFrom_5 22 rfl rfl
theorem dX2_reachedFrom_0 : decode cX2_reachedFrom 0 = .ok (.iconst 0, 1) := dk_3 (dk_at dksX2_reachedFrom_0 0 rfl rfl)
theorem dX2_reachedFrom_1 : decode cX2_reachedFrom 1 = .ok (.istore_n 2, 1) := dk_61 (dk_at dksX2_reachedFrom_0 1 rfl rfl)
theorem dX2_reachedFrom_2 : decode cX2_reachedFrom 2 = .ok (.iload_n 2, 1) := dk_28 (dk_at dksX2_reachedFrom_0 2 rfl rfl)
theorem dX2_reachedFrom_3 : decode cX2_reachedFrom 3 = .ok (.bipush 14, 2) := dk_16 14 (dk_at dksX2_reachedFrom_0 3 rfl rfl)
theorem dX2_reachedFrom_5 : decode cX2_reachedFrom 5 = .ok (.if_icmp .ge 16, 3) := dk_162 0 16 (dk_at dksX2_reachedFrom_0 5 rfl rfl)
theorem dX2_reachedFrom_8 : decode cX2_reachedFrom 8 = .ok (.aload_n 0, 1) := dk_42 (dk_at dksX2_reachedFrom_0 8 rfl rfl)
theorem dX2_reachedFrom_9 : decode cX2_reachedFrom 9 = .ok (.getfield 52, 3) := dk_180 0 52 (dk_at dksX2_reachedFrom_0 9 rfl rfl)
theorem dX2_reachedFrom_12 : decode cX2_reachedFrom 12 = .ok (.iload_n 2, 1) := dk_28 (dk_at dksX2_reachedFrom_0 12 rfl rfl)
theorem dX2_reachedFrom_13 : decode cX2_reachedFrom 13 = .ok (.iconst (-1), 1) := dk_2 (dk_at dksX2_reachedFrom_0 13 rfl rfl)
theorem dX2_reachedFrom_14 : decode cX2_reachedFrom 14 = .ok (.iastore, 1) := dk_79 (dk_at dksX2_reachedFrom_0 14 rfl rfl)
theorem dX2_reachedFrom_15 : decode cX2_reachedFrom 15 = .ok (.iinc 2 1, 3) := dk_132 2 1 (dk_at dksX2_reachedFrom_0 15 rfl rfl)
theorem dX2_reachedFrom_18 : decode cX2_reachedFrom 18 = .ok (.goto (-16), 3) := dk_167 255 240 (dk_at dksX2_reachedFrom_0 18 rfl rfl)
theorem dX2_reachedFrom_21 : decode cX2_reachedFrom 21 = .ok (.aload_n 0, 1) := dk_42 (dk_at dksX2_reachedFrom_0 21 rfl rfl)
theorem dX2_reachedFrom_22 : decode cX2_reachedFrom 22 = .ok (.getfield 52, 3) := dk_180 0 52 (dk_at dksX2_reachedFrom_1 0 rfl rfl)
theorem dX2_reachedFrom_25 : decode cX2_reachedFrom 25 = .ok (.iload_n 1, 1) := dk_27 (dk_at dksX2_reachedFrom_1 3 rfl rfl)
theorem dX2_reachedFrom_26 : decode cX2_reachedFrom 26 = .ok (.iconst 0, 1) := dk_3 (dk_at dksX2_reachedFrom_1 4 rfl rfl)
theorem dX2_reachedFrom_27 : decode cX2_reachedFrom 27 = .ok (.iastore, 1) := dk_79 (dk_at dksX2_reachedFrom_1 5 rfl rfl)
theorem dX2_reachedFrom_28 : decode cX2_reachedFrom 28 = .ok (.aload_n 0, 1) := dk_42 (dk_at dksX2_reachedFrom_1 6 rfl rfl)
theorem dX2_reachedFrom_29 : decode cX2_reachedFrom 29 = .ok (.getfield 46, 3) := dk_180 0 46 (dk_at dksX2_reachedFrom_1 7 rfl rfl)
theorem dX2_reachedFrom_32 : decode cX2_reachedFrom 32 = .ok (.iconst 0, 1) := dk_3 (dk_at dksX2_reachedFrom_1 10 rfl rfl)
theorem dX2_reachedFrom_33 : decode cX2_reachedFrom 33 = .ok (.iload_n 1, 1) := dk_27 (dk_at dksX2_reachedFrom_1 11 rfl rfl)
theorem dX2_reachedFrom_34 : decode cX2_reachedFrom 34 = .ok (.iastore, 1) := dk_79 (dk_at dksX2_reachedFrom_1 12 rfl rfl)
theorem dX2_reachedFrom_35 : decode cX2_reachedFrom 35 = .ok (.iconst 1, 1) := dk_4 (dk_at dksX2_reachedFrom_1 13 rfl rfl)
theorem dX2_reachedFrom_36 : decode cX2_reachedFrom 36 = .ok (.istore_n 2, 1) := dk_61 (dk_at dksX2_reachedFrom_1 14 rfl rfl)
theorem dX2_reachedFrom_37 : decode cX2_reachedFrom 37 = .ok (.iconst 0, 1) := dk_3 (dk_at dksX2_reachedFrom_1 15 rfl rfl)
theorem dX2_reachedFrom_38 : decode cX2_reachedFrom 38 = .ok (.istore_n 3, 1) := dk_62 (dk_at dksX2_reachedFrom_1 16 rfl rfl)
theorem dX2_reachedFrom_39 : decode cX2_reachedFrom 39 = .ok (.iload_n 3, 1) := dk_29 (dk_at dksX2_reachedFrom_1 17 rfl rfl)
theorem dX2_reachedFrom_40 : decode cX2_reachedFrom 40 = .ok (.iload_n 2, 1) := dk_28 (dk_at dksX2_reachedFrom_1 18 rfl rfl)
theorem dX2_reachedFrom_41 : decode cX2_reachedFrom 41 = .ok (.if_icmp .ge 110, 3) := dk_162 0 110 (dk_at dksX2_reachedFrom_1 19 rfl rfl)
theorem dX2_reachedFrom_44 : decode cX2_reachedFrom 44 = .ok (.iconst 0, 1) := dk_3 (dk_at dksX2_reachedFrom_1 22 rfl rfl)
theorem dX2_reachedFrom_45 : decode cX2_reachedFrom 45 = .ok (.istore 4, 2) := dk_54 4 (dk_at dksX2_reachedFrom_2 0 rfl rfl)
theorem dX2_reachedFrom_47 : decode cX2_reachedFrom 47 = .ok (.iload 4, 2) := dk_21 4 (dk_at dksX2_reachedFrom_2 2 rfl rfl)
theorem dX2_reachedFrom_49 : decode cX2_reachedFrom 49 = .ok (.aload_n 0, 1) := dk_42 (dk_at dksX2_reachedFrom_2 4 rfl rfl)
theorem dX2_reachedFrom_50 : decode cX2_reachedFrom 50 = .ok (.getfield 13, 3) := dk_180 0 13 (dk_at dksX2_reachedFrom_2 5 rfl rfl)
theorem dX2_reachedFrom_53 : decode cX2_reachedFrom 53 = .ok (.sipush 256, 3) := dk_17 1 0 (dk_at dksX2_reachedFrom_2 8 rfl rfl)
theorem dX2_reachedFrom_56 : decode cX2_reachedFrom 56 = .ok (.iaload, 1) := dk_46 (dk_at dksX2_reachedFrom_2 11 rfl rfl)
theorem dX2_reachedFrom_57 : decode cX2_reachedFrom 57 = .ok (.if_icmp .ge 88, 3) := dk_162 0 88 (dk_at dksX2_reachedFrom_2 12 rfl rfl)
theorem dX2_reachedFrom_60 : decode cX2_reachedFrom 60 = .ok (.aload_n 0, 1) := dk_42 (dk_at dksX2_reachedFrom_2 15 rfl rfl)
theorem dX2_reachedFrom_61 : decode cX2_reachedFrom 61 = .ok (.iload 4, 2) := dk_21 4 (dk_at dksX2_reachedFrom_2 16 rfl rfl)
theorem dX2_reachedFrom_63 : decode cX2_reachedFrom 63 = .ok (.invokevirtual 308, 3) := dk_182 1 52 (dk_at dksX2_reachedFrom_2 18 rfl rfl)
theorem dX2_reachedFrom_66 : decode cX2_reachedFrom 66 = .ok (.istore 5, 2) := dk_54 5 (dk_at dksX2_reachedFrom_2 21 rfl rfl)
theorem dX2_reachedFrom_68 : decode cX2_reachedFrom 68 = .ok (.aload_n 0, 1) := dk_42 (dk_at dksX2_reachedFrom_2 23 rfl rfl)
theorem dX2_reachedFrom_69 : decode cX2_reachedFrom 69 = .ok (.getfield 39, 3) := dk_180 0 39 (dk_at dksX2_reachedFrom_3 0 rfl rfl)
theorem dX2_reachedFrom_72 : decode cX2_reachedFrom 72 = .ok (.iload 4, 2) := dk_21 4 (dk_at dksX2_reachedFrom_3 3 rfl rfl)
theorem dX2_reachedFrom_74 : decode cX2_reachedFrom 74 = .ok (.baload, 1) := dk_51 (dk_at dksX2_reachedFrom_3 5 rfl rfl)
theorem dX2_reachedFrom_75 : decode cX2_reachedFrom 75 = .ok (.ifCond .eq 64, 3) := dk_153 0 64 (dk_at dksX2_reachedFrom_3 6 rfl rfl)
theorem dX2_reachedFrom_78 : decode cX2_reachedFrom 78 = .ok (.aload_n 0, 1) := dk_42 (dk_at dksX2_reachedFrom_3 9 rfl rfl)
theorem dX2_reachedFrom_79 : decode cX2_reachedFrom 79 = .ok (.iload 4, 2) := dk_21 4 (dk_at dksX2_reachedFrom_3 10 rfl rfl)
theorem dX2_reachedFrom_81 : decode cX2_reachedFrom 81 = .ok (.invokevirtual 311, 3) := dk_182 1 55 (dk_at dksX2_reachedFrom_3 12 rfl rfl)
theorem dX2_reachedFrom_84 : decode cX2_reachedFrom 84 = .ok (.aload_n 0, 1) := dk_42 (dk_at dksX2_reachedFrom_3 15 rfl rfl)
theorem dX2_reachedFrom_85 : decode cX2_reachedFrom 85 = .ok (.getfield 46, 3) := dk_180 0 46 (dk_at dksX2_reachedFrom_3 16 rfl rfl)
theorem dX2_reachedFrom_88 : decode cX2_reachedFrom 88 = .ok (.iload_n 3, 1) := dk_29 (dk_at dksX2_reachedFrom_3 19 rfl rfl)
theorem dX2_reachedFrom_89 : decode cX2_reachedFrom 89 = .ok (.iaload, 1) := dk_46 (dk_at dksX2_reachedFrom_3 20 rfl rfl)
theorem dX2_reachedFrom_90 : decode cX2_reachedFrom 90 = .ok (.if_icmp .ne 49, 3) := dk_160 0 49 (dk_at dksX2_reachedFrom_3 21 rfl rfl)
theorem dX2_reachedFrom_93 : decode cX2_reachedFrom 93 = .ok (.aload_n 0, 1) := dk_42 (dk_at dksX2_reachedFrom_4 0 rfl rfl)
theorem dX2_reachedFrom_94 : decode cX2_reachedFrom 94 = .ok (.getfield 52, 3) := dk_180 0 52 (dk_at dksX2_reachedFrom_4 1 rfl rfl)
theorem dX2_reachedFrom_97 : decode cX2_reachedFrom 97 = .ok (.iload 5, 2) := dk_21 5 (dk_at dksX2_reachedFrom_4 4 rfl rfl)
theorem dX2_reachedFrom_99 : decode cX2_reachedFrom 99 = .ok (.iaload, 1) := dk_46 (dk_at dksX2_reachedFrom_4 6 rfl rfl)
theorem dX2_reachedFrom_100 : decode cX2_reachedFrom 100 = .ok (.iconst (-1), 1) := dk_2 (dk_at dksX2_reachedFrom_4 7 rfl rfl)
theorem dX2_reachedFrom_101 : decode cX2_reachedFrom 101 = .ok (.if_icmp .eq 6, 3) := dk_159 0 6 (dk_at dksX2_reachedFrom_4 8 rfl rfl)
theorem dX2_reachedFrom_104 : decode cX2_reachedFrom 104 = .ok (.goto 35, 3) := dk_167 0 35 (dk_at dksX2_reachedFrom_4 11 rfl rfl)
theorem dX2_reachedFrom_107 : decode cX2_reachedFrom 107 = .ok (.aload_n 0, 1) := dk_42 (dk_at dksX2_reachedFrom_4 14 rfl rfl)
theorem dX2_reachedFrom_108 : decode cX2_reachedFrom 108 = .ok (.getfield 52, 3) := dk_180 0 52 (dk_at dksX2_reachedFrom_4 15 rfl rfl)
theorem dX2_reachedFrom_111 : decode cX2_reachedFrom 111 = .ok (.iload 5, 2) := dk_21 5 (dk_at dksX2_reachedFrom_4 18 rfl rfl)
theorem dX2_reachedFrom_113 : decode cX2_reachedFrom 113 = .ok (.aload_n 0, 1) := dk_42 (dk_at dksX2_reachedFrom_4 20 rfl rfl)
theorem dX2_reachedFrom_114 : decode cX2_reachedFrom 114 = .ok (.getfield 52, 3) := dk_180 0 52 (dk_at dksX2_reachedFrom_4 21 rfl rfl)
theorem dX2_reachedFrom_117 : decode cX2_reachedFrom 117 = .ok (.aload_n 0, 1) := dk_42 (dk_at dksX2_reachedFrom_5 0 rfl rfl)
theorem dX2_reachedFrom_118 : decode cX2_reachedFrom 118 = .ok (.getfield 46, 3) := dk_180 0 46 (dk_at dksX2_reachedFrom_5 1 rfl rfl)
theorem dX2_reachedFrom_121 : decode cX2_reachedFrom 121 = .ok (.iload_n 3, 1) := dk_29 (dk_at dksX2_reachedFrom_5 4 rfl rfl)
theorem dX2_reachedFrom_122 : decode cX2_reachedFrom 122 = .ok (.iaload, 1) := dk_46 (dk_at dksX2_reachedFrom_5 5 rfl rfl)
theorem dX2_reachedFrom_123 : decode cX2_reachedFrom 123 = .ok (.iaload, 1) := dk_46 (dk_at dksX2_reachedFrom_5 6 rfl rfl)
theorem dX2_reachedFrom_124 : decode cX2_reachedFrom 124 = .ok (.iconst 1, 1) := dk_4 (dk_at dksX2_reachedFrom_5 7 rfl rfl)
theorem dX2_reachedFrom_125 : decode cX2_reachedFrom 125 = .ok (.iadd, 1) := dk_96 (dk_at dksX2_reachedFrom_5 8 rfl rfl)
theorem dX2_reachedFrom_126 : decode cX2_reachedFrom 126 = .ok (.iastore, 1) := dk_79 (dk_at dksX2_reachedFrom_5 9 rfl rfl)
theorem dX2_reachedFrom_127 : decode cX2_reachedFrom 127 = .ok (.aload_n 0, 1) := dk_42 (dk_at dksX2_reachedFrom_5 10 rfl rfl)
theorem dX2_reachedFrom_128 : decode cX2_reachedFrom 128 = .ok (.getfield 46, 3) := dk_180 0 46 (dk_at dksX2_reachedFrom_5 11 rfl rfl)
theorem dX2_reachedFrom_131 : decode cX2_reachedFrom 131 = .ok (.iload_n 2, 1) := dk_28 (dk_at dksX2_reachedFrom_5 14 rfl rfl)
theorem dX2_reachedFrom_132 : decode cX2_reachedFrom 132 = .ok (.iload 5, 2) := dk_21 5 (dk_at dksX2_reachedFrom_5 15 rfl rfl)
theorem dX2_reachedFrom_134 : decode cX2_reachedFrom 134 = .ok (.iastore, 1) := dk_79 (dk_at dksX2_reachedFrom_5 17 rfl rfl)
theorem dX2_reachedFrom_135 : decode cX2_reachedFrom 135 = .ok (.iload_n 2, 1) := dk_28 (dk_at dksX2_reachedFrom_5 18 rfl rfl)
theorem dX2_reachedFrom_136 : decode cX2_reachedFrom 136 = .ok (.iconst 1, 1) := dk_4 (dk_at dksX2_reachedFrom_5 19 rfl rfl)
theorem dX2_reachedFrom_137 : decode cX2_reachedFrom 137 = .ok (.iadd, 1) := dk_96 (dk_at dksX2_reachedFrom_5 20 rfl rfl)
theorem dX2_reachedFrom_138 : decode cX2_reachedFrom 138 = .ok (.istore_n 2, 1) := dk_61 (dk_at dksX2_reachedFrom_5 21 rfl rfl)
theorem dX2_reachedFrom_139 : decode cX2_reachedFrom 139 = .ok (.iinc 4 1, 3) := dk_132 4 1 (dk_at dksX2_reachedFrom_6 0 rfl rfl)
theorem dX2_reachedFrom_142 : decode cX2_reachedFrom 142 = .ok (.goto (-95), 3) := dk_167 255 161 (dk_at dksX2_reachedFrom_6 3 rfl rfl)
theorem dX2_reachedFrom_145 : decode cX2_reachedFrom 145 = .ok (.iinc 3 1, 3) := dk_132 3 1 (dk_at dksX2_reachedFrom_6 6 rfl rfl)
theorem dX2_reachedFrom_148 : decode cX2_reachedFrom 148 = .ok (.goto (-109), 3) := dk_167 255 147 (dk_at dksX2_reachedFrom_6 9 rfl rfl)
theorem dX2_reachedFrom_151 : decode cX2_reachedFrom 151 = .ok (.return_, 1) := dk_177 (dk_at dksX2_reachedFrom_6 12 rfl rfl)
abbrev cX2_nearerLink : ByteArray := prog_12_method_82_code
def yX2_nearerLink : MethodName := ⟨RX2, "nearerLink", "(I)I"⟩
def dkwX2_nearerLink_2 : List UInt8 := [4, 100, 160, 0, 5, 28, 172, 132, 2, 1, 167, 255, 200, 2, 172]
abbrev dktX2_nearerLink_2 : List UInt8 := dkwX2_nearerLink_2 ++ []
def dkwX2_nearerLink_1 : List UInt8 := [28, 182, 1, 52, 27, 160, 0, 26, 42, 180, 0, 52, 42, 28, 182, 1, 55, 46, 42, 180, 0, 52, 27, 46]
abbrev dktX2_nearerLink_1 : List UInt8 := dkwX2_nearerLink_1 ++ dktX2_nearerLink_2
def dkwX2_nearerLink_0 : List UInt8 := [3, 61, 28, 42, 180, 0, 13, 17, 1, 0, 46, 162, 0, 50, 42, 180, 0, 39, 28, 51, 153, 0, 35, 42]
abbrev dktX2_nearerLink_0 : List UInt8 := dkwX2_nearerLink_0 ++ dktX2_nearerLink_1
theorem dksX2_nearerLink_0 : cX2_nearerLink.data.toList.drop 0 = dktX2_nearerLink_0 := by decide +kernel
theorem dksX2_nearerLink_1 : cX2_nearerLink.data.toList.drop 24 = dktX2_nearerLink_1 := dk_seg dksX2_nearerLink_0 24 rfl rfl
theorem dksX2_nearerLink_2 : cX2_nearerLink.data.toList.drop 48 = dktX2_nearerLink_2 := dk_seg dksX2_nearerLink_1 24 rfl rfl
theorem dX2_nearerLink_0 : decode cX2_nearerLink 0 = .ok (.iconst 0, 1) := dk_3 (dk_at dksX2_nearerLink_0 0 rfl rfl)
theorem dX2_nearerLink_1 : decode cX2_nearerLink 1 = .ok (.istore_n 2, 1) := dk_61 (dk_at dksX2_nearerLink_0 1 rfl rfl)
theorem dX2_nearerLink_2 : decode cX2_nearerLink 2 = .ok (.iload_n 2, 1) := dk_28 (dk_at dksX2_nearerLink_0 2 rfl rfl)
theorem dX2_nearerLink_3 : decode cX2_nearerLink 3 = .ok (.aload_n 0, 1) := dk_42 (dk_at dksX2_nearerLink_0 3 rfl rfl)
theorem dX2_nearerLink_4 : decode cX2_nearerLink 4 = .ok (.getfield 13, 3) := dk_180 0 13 (dk_at dksX2_nearerLink_0 4 rfl rfl)
theorem dX2_nearerLink_7 : decode cX2_nearerLink 7 = .ok (.sipush 256, 3) := dk_17 1 0 (dk_at dksX2_nearerLink_0 7 rfl rfl)
theorem dX2_nearerLink_10 : decode cX2_nearerLink 10 = .ok (.iaload, 1) := dk_46 (dk_at dksX2_nearerLink_0 10 rfl rfl)
theorem dX2_nearerLink_11 : decode cX2_nearerLink 11 = .ok (.if_icmp .ge 50, 3) := dk_162 0 50 (dk_at dksX2_nearerLink_0 11 rfl rfl)
theorem dX2_nearerLink_14 : decode cX2_nearerLink 14 = .ok (.aload_n 0, 1) := dk_42 (dk_at dksX2_nearerLink_0 14 rfl rfl)
theorem dX2_nearerLink_15 : decode cX2_nearerLink 15 = .ok (.getfield 39, 3) := dk_180 0 39 (dk_at dksX2_nearerLink_0 15 rfl rfl)
theorem dX2_nearerLink_18 : decode cX2_nearerLink 18 = .ok (.iload_n 2, 1) := dk_28 (dk_at dksX2_nearerLink_0 18 rfl rfl)
theorem dX2_nearerLink_19 : decode cX2_nearerLink 19 = .ok (.baload, 1) := dk_51 (dk_at dksX2_nearerLink_0 19 rfl rfl)
theorem dX2_nearerLink_20 : decode cX2_nearerLink 20 = .ok (.ifCond .eq 35, 3) := dk_153 0 35 (dk_at dksX2_nearerLink_0 20 rfl rfl)
theorem dX2_nearerLink_23 : decode cX2_nearerLink 23 = .ok (.aload_n 0, 1) := dk_42 (dk_at dksX2_nearerLink_0 23 rfl rfl)
theorem dX2_nearerLink_24 : decode cX2_nearerLink 24 = .ok (.iload_n 2, 1) := dk_28 (dk_at dksX2_nearerLink_1 0 rfl rfl)
theorem dX2_nearerLink_25 : decode cX2_nearerLink 25 = .ok (.invokevirtual 308, 3) := dk_182 1 52 (dk_at dksX2_nearerLink_1 1 rfl rfl)
theorem dX2_nearerLink_28 : decode cX2_nearerLink 28 = .ok (.iload_n 1, 1) := dk_27 (dk_at dksX2_nearerLink_1 4 rfl rfl)
theorem dX2_nearerLink_29 : decode cX2_nearerLink 29 = .ok (.if_icmp .ne 26, 3) := dk_160 0 26 (dk_at dksX2_nearerLink_1 5 rfl rfl)
theorem dX2_nearerLink_32 : decode cX2_nearerLink 32 = .ok (.aload_n 0, 1) := dk_42 (dk_at dksX2_nearerLink_1 8 rfl rfl)
theorem dX2_nearerLink_33 : decode cX2_nearerLink 33 = .ok (.getfield 52, 3) := dk_180 0 52 (dk_at dksX2_nearerLink_1 9 rfl rfl)
theorem dX2_nearerLink_36 : decode cX2_nearerLink 36 = .ok (.aload_n 0, 1) := dk_42 (dk_at dksX2_nearerLink_1 12 rfl rfl)
theorem dX2_nearerLink_37 : decode cX2_nearerLink 37 = .ok (.iload_n 2, 1) := dk_28 (dk_at dksX2_nearerLink_1 13 rfl rfl)
theorem dX2_nearerLink_38 : decode cX2_nearerLink 38 = .ok (.invokevirtual 311, 3) := dk_182 1 55 (dk_at dksX2_nearerLink_1 14 rfl rfl)
theorem dX2_nearerLink_41 : decode cX2_nearerLink 41 = .ok (.iaload, 1) := dk_46 (dk_at dksX2_nearerLink_1 17 rfl rfl)
theorem dX2_nearerLink_42 : decode cX2_nearerLink 42 = .ok (.aload_n 0, 1) := dk_42 (dk_at dksX2_nearerLink_1 18 rfl rfl)
theorem dX2_nearerLink_43 : decode cX2_nearerLink 43 = .ok (.getfield 52, 3) := dk_180 0 52 (dk_at dksX2_nearerLink_1 19 rfl rfl)
theorem dX2_nearerLink_46 : decode cX2_nearerLink 46 = .ok (.iload_n 1, 1) := dk_27 (dk_at dksX2_nearerLink_1 22 rfl rfl)
theorem dX2_nearerLink_47 : decode cX2_nearerLink 47 = .ok (.iaload, 1) := dk_46 (dk_at dksX2_nearerLink_1 23 rfl rfl)
theorem dX2_nearerLink_48 : decode cX2_nearerLink 48 = .ok (.iconst 1, 1) := dk_4 (dk_at dksX2_nearerLink_2 0 rfl rfl)
theorem dX2_nearerLink_49 : decode cX2_nearerLink 49 = .ok (.isub, 1) := dk_100 (dk_at dksX2_nearerLink_2 1 rfl rfl)
theorem dX2_nearerLink_50 : decode cX2_nearerLink 50 = .ok (.if_icmp .ne 5, 3) := dk_160 0 5 (dk_at dksX2_nearerLink_2 2 rfl rfl)
theorem dX2_nearerLink_53 : decode cX2_nearerLink 53 = .ok (.iload_n 2, 1) := dk_28 (dk_at dksX2_nearerLink_2 5 rfl rfl)
theorem dX2_nearerLink_54 : decode cX2_nearerLink 54 = .ok (.ireturn, 1) := dk_172 (dk_at dksX2_nearerLink_2 6 rfl rfl)
theorem dX2_nearerLink_55 : decode cX2_nearerLink 55 = .ok (.iinc 2 1, 3) := dk_132 2 1 (dk_at dksX2_nearerLink_2 7 rfl rfl)
theorem dX2_nearerLink_58 : decode cX2_nearerLink 58 = .ok (.goto (-56), 3) := dk_167 255 200 (dk_at dksX2_nearerLink_2 10 rfl rfl)
theorem dX2_nearerLink_61 : decode cX2_nearerLink 61 = .ok (.iconst (-1), 1) := dk_2 (dk_at dksX2_nearerLink_2 13 rfl rfl)
theorem dX2_nearerLink_62 : decode cX2_nearerLink 62 = .ok (.ireturn, 1) := dk_172 (dk_at dksX2_nearerLink_2 14 rfl rfl)
abbrev cX2_needed : ByteArray := prog_12_method_86_code
def yX2_needed : MethodName := ⟨RX2, "needed", "(II)I"⟩
def dkwX2_needed_1 : List UInt8 := [16, 254, 160, 0, 8, 16, 254, 167, 0, 9, 42, 27, 28, 182, 1, 106, 172]
abbrev dktX2_needed_1 : List UInt8 := dkwX2_needed_1 ++ []
def dkwX2_needed_0 : List UInt8 := [42, 27, 182, 1, 27, 153, 0, 10, 28, 184, 1, 46, 154, 0, 5, 2, 172, 42, 27, 28, 182, 1, 49]
abbrev dktX2_needed_0 : List UInt8 := dkwX2_needed_0 ++ dktX2_needed_1
theorem dksX2_needed_0 : cX2_needed.data.toList.drop 0 = dktX2_needed_0 := by decide +kernel
theorem dksX2_needed_1 : cX2_needed.data.toList.drop 23 = dktX2_needed_1 := dk_seg dksX2_needed_0 23 rfl rfl
theorem dX2_needed_0 : decode cX2_needed 0 = .ok (.aload_n 0, 1) := dk_42 (dk_at dksX2_needed_0 0 rfl rfl)
theorem dX2_needed_1 : decode cX2_needed 1 = .ok (.iload_n 1, 1) := dk_27 (dk_at dksX2_needed_0 1 rfl rfl)
theorem dX2_needed_2 : decode cX2_needed 2 = .ok (.invokevirtual 283, 3) := dk_182 1 27 (dk_at dksX2_needed_0 2 rfl rfl)
theorem dX2_needed_5 : decode cX2_needed 5 = .ok (.ifCond .eq 10, 3) := dk_153 0 10 (dk_at dksX2_needed_0 5 rfl rfl)
theorem dX2_needed_8 : decode cX2_needed 8 = .ok (.iload_n 2, 1) := dk_28 (dk_at dksX2_needed_0 8 rfl rfl)
theorem dX2_needed_9 : decode cX2_needed 9 = .ok (.invokestatic 302, 3) := dk_184 1 46 (dk_at dksX2_needed_0 9 rfl rfl)
theorem dX2_needed_12 : decode cX2_needed 12 = .ok (.ifCond .ne 5, 3) := dk_154 0 5 (dk_at dksX2_needed_0 12 rfl rfl)
theorem dX2_needed_15 : decode cX2_needed 15 = .ok (.iconst (-1), 1) := dk_2 (dk_at dksX2_needed_0 15 rfl rfl)
theorem dX2_needed_16 : decode cX2_needed 16 = .ok (.ireturn, 1) := dk_172 (dk_at dksX2_needed_0 16 rfl rfl)
theorem dX2_needed_17 : decode cX2_needed 17 = .ok (.aload_n 0, 1) := dk_42 (dk_at dksX2_needed_0 17 rfl rfl)
theorem dX2_needed_18 : decode cX2_needed 18 = .ok (.iload_n 1, 1) := dk_27 (dk_at dksX2_needed_0 18 rfl rfl)
theorem dX2_needed_19 : decode cX2_needed 19 = .ok (.iload_n 2, 1) := dk_28 (dk_at dksX2_needed_0 19 rfl rfl)
theorem dX2_needed_20 : decode cX2_needed 20 = .ok (.invokevirtual 305, 3) := dk_182 1 49 (dk_at dksX2_needed_0 20 rfl rfl)
theorem dX2_needed_23 : decode cX2_needed 23 = .ok (.bipush (-2), 2) := dk_16 254 (dk_at dksX2_needed_1 0 rfl rfl)
theorem dX2_needed_25 : decode cX2_needed 25 = .ok (.if_icmp .ne 8, 3) := dk_160 0 8 (dk_at dksX2_needed_1 2 rfl rfl)
theorem dX2_needed_28 : decode cX2_needed 28 = .ok (.bipush (-2), 2) := dk_16 254 (dk_at dksX2_needed_1 5 rfl rfl)
theorem dX2_needed_30 : decode cX2_needed 30 = .ok (.goto 9, 3) := dk_167 0 9 (dk_at dksX2_needed_1 7 rfl rfl)
theorem dX2_needed_33 : decode cX2_needed 33 = .ok (.aload_n 0, 1) := dk_42 (dk_at dksX2_needed_1 10 rfl rfl)
theorem dX2_needed_34 : decode cX2_needed 34 = .ok (.iload_n 1, 1) := dk_27 (dk_at dksX2_needed_1 11 rfl rfl)
theorem dX2_needed_35 : decode cX2_needed 35 = .ok (.iload_n 2, 1) := dk_28 (dk_at dksX2_needed_1 12 rfl rfl)
theorem dX2_needed_36 : decode cX2_needed 36 = .ok (.invokevirtual 362, 3) := dk_182 1 106 (dk_at dksX2_needed_1 13 rfl rfl)
theorem dX2_needed_39 : decode cX2_needed 39 = .ok (.ireturn, 1) := dk_172 (dk_at dksX2_needed_1 16 rfl rfl)
abbrev cX2_neededOf : ByteArray := prog_12_method_85_code
def yX2_neededOf : MethodName := ⟨RX2, "neededOf", "(II)I"⟩
def dkwX2_neededOf_2 : List UInt8 := [167, 0, 5, 21, 4, 54, 4, 132, 5, 1, 167, 255, 212, 21, 4, 172]
abbrev dktX2_neededOf_2 : List UInt8 := dkwX2_neededOf_2 ++ []
def dkwX2_neededOf_1 : List UInt8 := [162, 0, 37, 42, 27, 28, 4, 21, 5, 120, 182, 1, 91, 29, 164, 0, 13, 21, 4, 4, 21, 5, 120, 128]
abbrev dktX2_neededOf_1 : List UInt8 := dkwX2_neededOf_1 ++ dktX2_neededOf_2
def dkwX2_neededOf_0 : List UInt8 := [42, 27, 28, 3, 182, 1, 91, 62, 3, 54, 4, 3, 54, 5, 21, 5, 42, 180, 0, 13, 17, 1, 0, 46]
abbrev dktX2_neededOf_0 : List UInt8 := dkwX2_neededOf_0 ++ dktX2_neededOf_1
theorem dksX2_neededOf_0 : cX2_neededOf.data.toList.drop 0 = dktX2_neededOf_0 := by decide +kernel
theorem dksX2_neededOf_1 : cX2_neededOf.data.toList.drop 24 = dktX2_neededOf_1 := dk_seg dksX2_neededOf_0 24 rfl rfl
theorem dksX2_neededOf_2 : cX2_neededOf.data.toList.drop 48 = dktX2_neededOf_2 := dk_seg dksX2_neededOf_1 24 rfl rfl
theorem dX2_neededOf_0 : decode cX2_neededOf 0 = .ok (.aload_n 0, 1) := dk_42 (dk_at dksX2_neededOf_0 0 rfl rfl)
theorem dX2_neededOf_1 : decode cX2_neededOf 1 = .ok (.iload_n 1, 1) := dk_27 (dk_at dksX2_neededOf_0 1 rfl rfl)
theorem dX2_neededOf_2 : decode cX2_neededOf 2 = .ok (.iload_n 2, 1) := dk_28 (dk_at dksX2_neededOf_0 2 rfl rfl)
theorem dX2_neededOf_3 : decode cX2_neededOf 3 = .ok (.iconst 0, 1) := dk_3 (dk_at dksX2_neededOf_0 3 rfl rfl)
theorem dX2_neededOf_4 : decode cX2_neededOf 4 = .ok (.invokevirtual 347, 3) := dk_182 1 91 (dk_at dksX2_neededOf_0 4 rfl rfl)
theorem dX2_neededOf_7 : decode cX2_neededOf 7 = .ok (.istore_n 3, 1) := dk_62 (dk_at dksX2_neededOf_0 7 rfl rfl)
theorem dX2_neededOf_8 : decode cX2_neededOf 8 = .ok (.iconst 0, 1) := dk_3 (dk_at dksX2_neededOf_0 8 rfl rfl)
theorem dX2_neededOf_9 : decode cX2_neededOf 9 = .ok (.istore 4, 2) := dk_54 4 (dk_at dksX2_neededOf_0 9 rfl rfl)
theorem dX2_neededOf_11 : decode cX2_neededOf 11 = .ok (.iconst 0, 1) := dk_3 (dk_at dksX2_neededOf_0 11 rfl rfl)
theorem dX2_neededOf_12 : decode cX2_neededOf 12 = .ok (.istore 5, 2) := dk_54 5 (dk_at dksX2_neededOf_0 12 rfl rfl)
theorem dX2_neededOf_14 : decode cX2_neededOf 14 = .ok (.iload 5, 2) := dk_21 5 (dk_at dksX2_neededOf_0 14 rfl rfl)
theorem dX2_neededOf_16 : decode cX2_neededOf 16 = .ok (.aload_n 0, 1) := dk_42 (dk_at dksX2_neededOf_0 16 rfl rfl)
theorem dX2_neededOf_17 : decode cX2_neededOf 17 = .ok (.getfield 13, 3) := dk_180 0 13 (dk_at dksX2_neededOf_0 17 rfl rfl)
theorem dX2_neededOf_20 : decode cX2_neededOf 20 = .ok (.sipush 256, 3) := dk_17 1 0 (dk_at dksX2_neededOf_0 20 rfl rfl)
theorem dX2_neededOf_23 : decode cX2_neededOf 23 = .ok (.iaload, 1) := dk_46 (dk_at dksX2_neededOf_0 23 rfl rfl)
theorem dX2_neededOf_24 : decode cX2_neededOf 24 = .ok (.if_icmp .ge 37, 3) := dk_162 0 37 (dk_at dksX2_neededOf_1 0 rfl rfl)
theorem dX2_neededOf_27 : decode cX2_neededOf 27 = .ok (.aload_n 0, 1) := dk_42 (dk_at dksX2_neededOf_1 3 rfl rfl)
theorem dX2_neededOf_28 : decode cX2_neededOf 28 = .ok (.iload_n 1, 1) := dk_27 (dk_at dksX2_neededOf_1 4 rfl rfl)
theorem dX2_neededOf_29 : decode cX2_neededOf 29 = .ok (.iload_n 2, 1) := dk_28 (dk_at dksX2_neededOf_1 5 rfl rfl)
theorem dX2_neededOf_30 : decode cX2_neededOf 30 = .ok (.iconst 1, 1) := dk_4 (dk_at dksX2_neededOf_1 6 rfl rfl)
theorem dX2_neededOf_31 : decode cX2_neededOf 31 = .ok (.iload 5, 2) := dk_21 5 (dk_at dksX2_neededOf_1 7 rfl rfl)
theorem dX2_neededOf_33 : decode cX2_neededOf 33 = .ok (.ishl, 1) := dk_120 (dk_at dksX2_neededOf_1 9 rfl rfl)
theorem dX2_neededOf_34 : decode cX2_neededOf 34 = .ok (.invokevirtual 347, 3) := dk_182 1 91 (dk_at dksX2_neededOf_1 10 rfl rfl)
theorem dX2_neededOf_37 : decode cX2_neededOf 37 = .ok (.iload_n 3, 1) := dk_29 (dk_at dksX2_neededOf_1 13 rfl rfl)
theorem dX2_neededOf_38 : decode cX2_neededOf 38 = .ok (.if_icmp .le 13, 3) := dk_164 0 13 (dk_at dksX2_neededOf_1 14 rfl rfl)
theorem dX2_neededOf_41 : decode cX2_neededOf 41 = .ok (.iload 4, 2) := dk_21 4 (dk_at dksX2_neededOf_1 17 rfl rfl)
theorem dX2_neededOf_43 : decode cX2_neededOf 43 = .ok (.iconst 1, 1) := dk_4 (dk_at dksX2_neededOf_1 19 rfl rfl)
theorem dX2_neededOf_44 : decode cX2_neededOf 44 = .ok (.iload 5, 2) := dk_21 5 (dk_at dksX2_neededOf_1 20 rfl rfl)
theorem dX2_neededOf_46 : decode cX2_neededOf 46 = .ok (.ishl, 1) := dk_120 (dk_at dksX2_neededOf_1 22 rfl rfl)
theorem dX2_neededOf_47 : decode cX2_neededOf 47 = .ok (.ior, 1) := dk_128 (dk_at dksX2_neededOf_1 23 rfl rfl)
theorem dX2_neededOf_48 : decode cX2_neededOf 48 = .ok (.goto 5, 3) := dk_167 0 5 (dk_at dksX2_neededOf_2 0 rfl rfl)
theorem dX2_neededOf_51 : decode cX2_neededOf 51 = .ok (.iload 4, 2) := dk_21 4 (dk_at dksX2_neededOf_2 3 rfl rfl)
theorem dX2_neededOf_53 : decode cX2_neededOf 53 = .ok (.istore 4, 2) := dk_54 4 (dk_at dksX2_neededOf_2 5 rfl rfl)
theorem dX2_neededOf_55 : decode cX2_neededOf 55 = .ok (.iinc 5 1, 3) := dk_132 5 1 (dk_at dksX2_neededOf_2 7 rfl rfl)
theorem dX2_neededOf_58 : decode cX2_neededOf 58 = .ok (.goto (-44), 3) := dk_167 255 212 (dk_at dksX2_neededOf_2 10 rfl rfl)
theorem dX2_neededOf_61 : decode cX2_neededOf 61 = .ok (.iload 4, 2) := dk_21 4 (dk_at dksX2_neededOf_2 13 rfl rfl)
theorem dX2_neededOf_63 : decode cX2_neededOf 63 = .ok (.ireturn, 1) := dk_172 (dk_at dksX2_neededOf_2 15 rfl rfl)
abbrev cX2_last : ByteArray := prog_12_method_87_code
def yX2_last : MethodName := ⟨RX2, "last", "(II)I"⟩
def dkwX2_last_6 : List UInt8 := [54, 4, 132, 5, 1, 167, 255, 155, 21, 4, 172]
abbrev dktX2_last_6 : List UInt8 := dkwX2_last_6 ++ []
def dkwX2_last_5 : List UInt8 := [21, 4, 162, 0, 7, 4, 167, 0, 4, 3, 54, 7, 21, 7, 153, 0, 8, 21, 6, 167, 0, 5, 21, 4]
abbrev dktX2_last_5 : List UInt8 := dkwX2_last_5 ++ dktX2_last_6
def dkwX2_last_4 : List UInt8 := [182, 1, 21, 163, 0, 25, 42, 21, 6, 182, 1, 21, 42, 21, 4, 182, 1, 21, 160, 0, 14, 21, 6]
abbrev dktX2_last_4 : List UInt8 := dkwX2_last_4 ++ dktX2_last_5
def dkwX2_last_3 : List UInt8 := [21, 5, 182, 1, 55, 54, 6, 21, 4, 16, 253, 159, 0, 40, 42, 21, 6, 182, 1, 21, 42, 21, 4]
abbrev dktX2_last_3 : List UInt8 := dkwX2_last_3 ++ dktX2_last_4
def dkwX2_last_2 : List UInt8 := [42, 180, 0, 13, 17, 1, 0, 46, 162, 0, 94, 29, 21, 5, 184, 0, 82, 154, 0, 6, 167, 0, 76, 42]
abbrev dktX2_last_2 : List UInt8 := dkwX2_last_2 ++ dktX2_last_3
def dkwX2_last_1 : List UInt8 := [16, 254, 160, 0, 6, 16, 254, 172, 42, 27, 28, 182, 1, 106, 62, 16, 253, 54, 4, 3, 54, 5, 21, 5]
abbrev dktX2_last_1 : List UInt8 := dkwX2_last_1 ++ dktX2_last_2
def dkwX2_last_0 : List UInt8 := [42, 27, 182, 1, 27, 153, 0, 10, 28, 184, 1, 46, 154, 0, 5, 2, 172, 42, 27, 28, 182, 1, 49]
abbrev dktX2_last_0 : List UInt8 := dkwX2_last_0 ++ dktX2_last_1
theorem dksX2_last_0 : cX2_last.data.toList.drop 0 = dktX2_last_0 := by decide +kernel
theorem dksX2_last_1 : cX2_last.data.toList.drop 23 = dktX2_last_1 := dk_seg dksX2_last_0 23 rfl rfl
theorem dksX2_last_2 : cX2_last.data.toList.drop 47 = dktX2_last_2 := dk_seg dksX2_last_1 24 rfl rfl
theorem dksX2_last_3 : cX2_last.data.toList.drop 71 = dktX2_last_3 := dk_seg dksX2_last_2 24 rfl rfl
theorem dksX2_last_4 : cX2_last.data.toList.drop 94 = dktX2_last_4 := dk_seg dksX2_last_3 23 rfl rfl
theorem dksX2_last_5 : cX2_last.data.toList.drop 117 = dktX2_last_5 := dk_seg dksX2_last_4 23 rfl rfl
theorem dksX2_last_6 : cX2_last.data.toList.drop 141 = dktX2_last_6 := dk_seg dksX2_last_5 24 rfl rfl
theorem dX2_last_0 : decode cX2_last 0 = .ok (.aload_n 0, 1) := dk_42 (dk_at dksX2_last_0 0 rfl rfl)
theorem dX2_last_1 : decode cX2_last 1 = .ok (.iload_n 1, 1) := dk_27 (dk_at dksX2_last_0 1 rfl rfl)
theorem dX2_last_2 : decode cX2_last 2 = .ok (.invokevirtual 283, 3) := dk_182 1 27 (dk_at dksX2_last_0 2 rfl rfl)
theorem dX2_last_5 : decode cX2_last 5 = .ok (.ifCond .eq 10, 3) := dk_153 0 10 (dk_at dksX2_last_0 5 rfl rfl)
theorem dX2_last_8 : decode cX2_last 8 = .ok (.iload_n 2, 1) := dk_28 (dk_at dksX2_last_0 8 rfl rfl)
theorem dX2_last_9 : decode cX2_last 9 = .ok (.invokestatic 302, 3) := dk_184 1 46 (dk_at dksX2_last_0 9 rfl rfl)
theorem dX2_last_12 : decode cX2_last 12 = .ok (.ifCond .ne 5, 3) := dk_154 0 5 (dk_at dksX2_last_0 12 rfl rfl)
theorem dX2_last_15 : decode cX2_last 15 = .ok (.iconst (-1), 1) := dk_2 (dk_at dksX2_last_0 15 rfl rfl)
theorem dX2_last_16 : decode cX2_last 16 = .ok (.ireturn, 1) := dk_172 (dk_at dksX2_last_0 16 rfl rfl)
theorem dX2_last_17 : decode cX2_last 17 = .ok (.aload_n 0, 1) := dk_42 (dk_at dksX2_last_0 17 rfl rfl)
theorem dX2_last_18 : decode cX2_last 18 = .ok (.iload_n 1, 1) := dk_27 (dk_at dksX2_last_0 18 rfl rfl)
theorem dX2_last_19 : decode cX2_last 19 = .ok (.iload_n 2, 1) := dk_28 (dk_at dksX2_last_0 19 rfl rfl)
theorem dX2_last_20 : decode cX2_last 20 = .ok (.invokevirtual 305, 3) := dk_182 1 49 (dk_at dksX2_last_0 20 rfl rfl)
theorem dX2_last_23 : decode cX2_last 23 = .ok (.bipush (-2), 2) := dk_16 254 (dk_at dksX2_last_1 0 rfl rfl)
theorem dX2_last_25 : decode cX2_last 25 = .ok (.if_icmp .ne 6, 3) := dk_160 0 6 (dk_at dksX2_last_1 2 rfl rfl)
theorem dX2_last_28 : decode cX2_last 28 = .ok (.bipush (-2), 2) := dk_16 254 (dk_at dksX2_last_1 5 rfl rfl)
theorem dX2_last_30 : decode cX2_last 30 = .ok (.ireturn, 1) := dk_172 (dk_at dksX2_last_1 7 rfl rfl)
theorem dX2_last_31 : decode cX2_last 31 = .ok (.aload_n 0, 1) := dk_42 (dk_at dksX2_last_1 8 rfl rfl)
theorem dX2_last_32 : decode cX2_last 32 = .ok (.iload_n 1, 1) := dk_27 (dk_at dksX2_last_1 9 rfl rfl)
theorem dX2_last_33 : decode cX2_last 33 = .ok (.iload_n 2, 1) := dk_28 (dk_at dksX2_last_1 10 rfl rfl)
theorem dX2_last_34 : decode cX2_last 34 = .ok (.invokevirtual 362, 3) := dk_182 1 106 (dk_at dksX2_last_1 11 rfl rfl)
theorem dX2_last_37 : decode cX2_last 37 = .ok (.istore_n 3, 1) := dk_62 (dk_at dksX2_last_1 14 rfl rfl)
theorem dX2_last_38 : decode cX2_last 38 = .ok (.bipush (-3), 2) := dk_16 253 (dk_at dksX2_last_1 15 rfl rfl)
theorem dX2_last_40 : decode cX2_last 40 = .ok (.istore 4, 2) := dk_54 4 (dk_at dksX2_last_1 17 rfl rfl)
theorem dX2_last_42 : decode cX2_last 42 = .ok (.iconst 0, 1) := dk_3 (dk_at dksX2_last_1 19 rfl rfl)
theorem dX2_last_43 : decode cX2_last 43 = .ok (.istore 5, 2) := dk_54 5 (dk_at dksX2_last_1 20 rfl rfl)
theorem dX2_last_45 : decode cX2_last 45 = .ok (.iload 5, 2) := dk_21 5 (dk_at dksX2_last_1 22 rfl rfl)
theorem dX2_last_47 : decode cX2_last 47 = .ok (.aload_n 0, 1) := dk_42 (dk_at dksX2_last_2 0 rfl rfl)
theorem dX2_last_48 : decode cX2_last 48 = .ok (.getfield 13, 3) := dk_180 0 13 (dk_at dksX2_last_2 1 rfl rfl)
theorem dX2_last_51 : decode cX2_last 51 = .ok (.sipush 256, 3) := dk_17 1 0 (dk_at dksX2_last_2 4 rfl rfl)
theorem dX2_last_54 : decode cX2_last 54 = .ok (.iaload, 1) := dk_46 (dk_at dksX2_last_2 7 rfl rfl)
theorem dX2_last_55 : decode cX2_last 55 = .ok (.if_icmp .ge 94, 3) := dk_162 0 94 (dk_at dksX2_last_2 8 rfl rfl)
theorem dX2_last_58 : decode cX2_last 58 = .ok (.iload_n 3, 1) := dk_29 (dk_at dksX2_last_2 11 rfl rfl)
theorem dX2_last_59 : decode cX2_last 59 = .ok (.iload 5, 2) := dk_21 5 (dk_at dksX2_last_2 12 rfl rfl)
theorem dX2_last_61 : decode cX2_last 61 = .ok (.invokestatic 82, 3) := dk_184 0 82 (dk_at dksX2_last_2 14 rfl rfl)
theorem dX2_last_64 : decode cX2_last 64 = .ok (.ifCond .ne 6, 3) := dk_154 0 6 (dk_at dksX2_last_2 17 rfl rfl)
theorem dX2_last_67 : decode cX2_last 67 = .ok (.goto 76, 3) := dk_167 0 76 (dk_at dksX2_last_2 20 rfl rfl)
theorem dX2_last_70 : decode cX2_last 70 = .ok (.aload_n 0, 1) := dk_42 (dk_at dksX2_last_2 23 rfl rfl)
theorem dX2_last_71 : decode cX2_last 71 = .ok (.iload 5, 2) := dk_21 5 (dk_at dksX2_last_3 0 rfl rfl)
theorem dX2_last_73 : decode cX2_last 73 = .ok (.invokevirtual 311, 3) := dk_182 1 55 (dk_at dksX2_last_3 2 rfl rfl)
theorem dX2_last_76 : decode cX2_last 76 = .ok (.istore 6, 2) := dk_54 6 (dk_at dksX2_last_3 5 rfl rfl)
theorem dX2_last_78 : decode cX2_last 78 = .ok (.iload 4, 2) := dk_21 4 (dk_at dksX2_last_3 7 rfl rfl)
theorem dX2_last_80 : decode cX2_last 80 = .ok (.bipush (-3), 2) := dk_16 253 (dk_at dksX2_last_3 9 rfl rfl)
theorem dX2_last_82 : decode cX2_last 82 = .ok (.if_icmp .eq 40, 3) := dk_159 0 40 (dk_at dksX2_last_3 11 rfl rfl)
theorem dX2_last_85 : decode cX2_last 85 = .ok (.aload_n 0, 1) := dk_42 (dk_at dksX2_last_3 14 rfl rfl)
theorem dX2_last_86 : decode cX2_last 86 = .ok (.iload 6, 2) := dk_21 6 (dk_at dksX2_last_3 15 rfl rfl)
theorem dX2_last_88 : decode cX2_last 88 = .ok (.invokevirtual 277, 3) := dk_182 1 21 (dk_at dksX2_last_3 17 rfl rfl)
theorem dX2_last_91 : decode cX2_last 91 = .ok (.aload_n 0, 1) := dk_42 (dk_at dksX2_last_3 20 rfl rfl)
theorem dX2_last_92 : decode cX2_last 92 = .ok (.iload 4, 2) := dk_21 4 (dk_at dksX2_last_3 21 rfl rfl)
theorem dX2_last_94 : decode cX2_last 94 = .ok (.invokevirtual 277, 3) := dk_182 1 21 (dk_at dksX2_last_4 0 rfl rfl)
theorem dX2_last_97 : decode cX2_last 97 = .ok (.if_icmp .gt 25, 3) := dk_163 0 25 (dk_at dksX2_last_4 3 rfl rfl)
theorem dX2_last_100 : decode cX2_last 100 = .ok (.aload_n 0, 1) := dk_42 (dk_at dksX2_last_4 6 rfl rfl)
theorem dX2_last_101 : decode cX2_last 101 = .ok (.iload 6, 2) := dk_21 6 (dk_at dksX2_last_4 7 rfl rfl)
theorem dX2_last_103 : decode cX2_last 103 = .ok (.invokevirtual 277, 3) := dk_182 1 21 (dk_at dksX2_last_4 9 rfl rfl)
theorem dX2_last_106 : decode cX2_last 106 = .ok (.aload_n 0, 1) := dk_42 (dk_at dksX2_last_4 12 rfl rfl)
theorem dX2_last_107 : decode cX2_last 107 = .ok (.iload 4, 2) := dk_21 4 (dk_at dksX2_last_4 13 rfl rfl)
theorem dX2_last_109 : decode cX2_last 109 = .ok (.invokevirtual 277, 3) := dk_182 1 21 (dk_at dksX2_last_4 15 rfl rfl)
theorem dX2_last_112 : decode cX2_last 112 = .ok (.if_icmp .ne 14, 3) := dk_160 0 14 (dk_at dksX2_last_4 18 rfl rfl)
theorem dX2_last_115 : decode cX2_last 115 = .ok (.iload 6, 2) := dk_21 6 (dk_at dksX2_last_4 21 rfl rfl)
theorem dX2_last_117 : decode cX2_last 117 = .ok (.iload 4, 2) := dk_21 4 (dk_at dksX2_last_5 0 rfl rfl)
theorem dX2_last_119 : decode cX2_last 119 = .ok (.if_icmp .ge 7, 3) := dk_162 0 7 (dk_at dksX2_last_5 2 rfl rfl)
theorem dX2_last_122 : decode cX2_last 122 = .ok (.iconst 1, 1) := dk_4 (dk_at dksX2_last_5 5 rfl rfl)
theorem dX2_last_123 : decode cX2_last 123 = .ok (.goto 4, 3) := dk_167 0 4 (dk_at dksX2_last_5 6 rfl rfl)
theorem dX2_last_126 : decode cX2_last 126 = .ok (.iconst 0, 1) := dk_3 (dk_at dksX2_last_5 9 rfl rfl)
theorem dX2_last_127 : decode cX2_last 127 = .ok (.istore 7, 2) := dk_54 7 (dk_at dksX2_last_5 10 rfl rfl)
theorem dX2_last_129 : decode cX2_last 129 = .ok (.iload 7, 2) := dk_21 7 (dk_at dksX2_last_5 12 rfl rfl)
theorem dX2_last_131 : decode cX2_last 131 = .ok (.ifCond .eq 8, 3) := dk_153 0 8 (dk_at dksX2_last_5 14 rfl rfl)
theorem dX2_last_134 : decode cX2_last 134 = .ok (.iload 6, 2) := dk_21 6 (dk_at dksX2_last_5 17 rfl rfl)
theorem dX2_last_136 : decode cX2_last 136 = .ok (.goto 5, 3) := dk_167 0 5 (dk_at dksX2_last_5 19 rfl rfl)
theorem dX2_last_139 : decode cX2_last 139 = .ok (.iload 4, 2) := dk_21 4 (dk_at dksX2_last_5 22 rfl rfl)
theorem dX2_last_141 : decode cX2_last 141 = .ok (.istore 4, 2) := dk_54 4 (dk_at dksX2_last_6 0 rfl rfl)
theorem dX2_last_143 : decode cX2_last 143 = .ok (.iinc 5 1, 3) := dk_132 5 1 (dk_at dksX2_last_6 2 rfl rfl)
theorem dX2_last_146 : decode cX2_last 146 = .ok (.goto (-101), 3) := dk_167 255 155 (dk_at dksX2_last_6 5 rfl rfl)
theorem dX2_last_149 : decode cX2_last 149 = .ok (.iload 4, 2) := dk_21 4 (dk_at dksX2_last_6 8 rfl rfl)
theorem dX2_last_151 : decode cX2_last 151 = .ok (.ireturn, 1) := dk_172 (dk_at dksX2_last_6 10 rfl rfl)
abbrev cX2_without : ByteArray := prog_12_method_88_code
def yX2_without : MethodName := ⟨RX2, "without", "(III)I"⟩
def dkwX2_without_1 : List UInt8 := [167, 0, 4, 2, 172]
abbrev dktX2_without_1 : List UInt8 := dkwX2_without_1 ++ []
def dkwX2_without_0 : List UInt8 := [42, 27, 182, 1, 27, 153, 0, 20, 28, 184, 1, 46, 153, 0, 13, 42, 27, 28, 29, 182, 1, 91]
abbrev dktX2_without_0 : List UInt8 := dkwX2_without_0 ++ dktX2_without_1
theorem dksX2_without_0 : cX2_without.data.toList.drop 0 = dktX2_without_0 := by decide +kernel
theorem dksX2_without_1 : cX2_without.data.toList.drop 22 = dktX2_without_1 := dk_seg dksX2_without_0 22 rfl rfl
theorem dX2_without_0 : decode cX2_without 0 = .ok (.aload_n 0, 1) := dk_42 (dk_at dksX2_without_0 0 rfl rfl)
theorem dX2_without_1 : decode cX2_without 1 = .ok (.iload_n 1, 1) := dk_27 (dk_at dksX2_without_0 1 rfl rfl)
theorem dX2_without_2 : decode cX2_without 2 = .ok (.invokevirtual 283, 3) := dk_182 1 27 (dk_at dksX2_without_0 2 rfl rfl)
theorem dX2_without_5 : decode cX2_without 5 = .ok (.ifCond .eq 20, 3) := dk_153 0 20 (dk_at dksX2_without_0 5 rfl rfl)
theorem dX2_without_8 : decode cX2_without 8 = .ok (.iload_n 2, 1) := dk_28 (dk_at dksX2_without_0 8 rfl rfl)
theorem dX2_without_9 : decode cX2_without 9 = .ok (.invokestatic 302, 3) := dk_184 1 46 (dk_at dksX2_without_0 9 rfl rfl)
theorem dX2_without_12 : decode cX2_without 12 = .ok (.ifCond .eq 13, 3) := dk_153 0 13 (dk_at dksX2_without_0 12 rfl rfl)
theorem dX2_without_15 : decode cX2_without 15 = .ok (.aload_n 0, 1) := dk_42 (dk_at dksX2_without_0 15 rfl rfl)
theorem dX2_without_16 : decode cX2_without 16 = .ok (.iload_n 1, 1) := dk_27 (dk_at dksX2_without_0 16 rfl rfl)
theorem dX2_without_17 : decode cX2_without 17 = .ok (.iload_n 2, 1) := dk_28 (dk_at dksX2_without_0 17 rfl rfl)
theorem dX2_without_18 : decode cX2_without 18 = .ok (.iload_n 3, 1) := dk_29 (dk_at dksX2_without_0 18 rfl rfl)
theorem dX2_without_19 : decode cX2_without 19 = .ok (.invokevirtual 347, 3) := dk_182 1 91 (dk_at dksX2_without_0 19 rfl rfl)
theorem dX2_without_22 : decode cX2_without 22 = .ok (.goto 4, 3) := dk_167 0 4 (dk_at dksX2_without_1 0 rfl rfl)
theorem dX2_without_25 : decode cX2_without 25 = .ok (.iconst (-1), 1) := dk_2 (dk_at dksX2_without_1 3 rfl rfl)
theorem dX2_without_26 : decode cX2_without 26 = .ok (.ireturn, 1) := dk_172 (dk_at dksX2_without_1 4 rfl rfl)
abbrev cX2_leastTerm : ByteArray := prog_12_method_90_code
def yX2_leastTerm : MethodName := ⟨RX2, "leastTerm", "(II)I"⟩
def dkwX2_leastTerm_4 : List UInt8 := [21, 5, 172]
abbrev dktX2_leastTerm_4 : List UInt8 := dkwX2_leastTerm_4 ++ []
def dkwX2_leastTerm_3 : List UInt8 := [182, 1, 109, 54, 5, 42, 180, 0, 13, 3, 21, 5, 79, 167, 255, 229, 42, 180, 0, 13, 3, 21, 4, 79]
abbrev dktX2_leastTerm_3 : List UInt8 := dkwX2_leastTerm_3 ++ dktX2_leastTerm_4
def dkwX2_leastTerm_2 : List UInt8 := [3, 54, 5, 42, 180, 0, 13, 3, 3, 79, 42, 27, 28, 3, 182, 1, 91, 29, 159, 0, 22, 42, 21, 5]
abbrev dktX2_leastTerm_2 : List UInt8 := dkwX2_leastTerm_2 ++ dktX2_leastTerm_3
def dkwX2_leastTerm_1 : List UInt8 := [16, 254, 160, 0, 6, 16, 254, 172, 42, 27, 28, 3, 182, 1, 91, 62, 42, 180, 0, 13, 3, 46, 54, 4]
abbrev dktX2_leastTerm_1 : List UInt8 := dkwX2_leastTerm_1 ++ dktX2_leastTerm_2
def dkwX2_leastTerm_0 : List UInt8 := [42, 27, 182, 1, 27, 153, 0, 10, 28, 184, 1, 46, 154, 0, 5, 2, 172, 42, 27, 28, 182, 1, 49]
abbrev dktX2_leastTerm_0 : List UInt8 := dkwX2_leastTerm_0 ++ dktX2_leastTerm_1
theorem dksX2_leastTerm_0 : cX2_leastTerm.data.toList.drop 0 = dktX2_leastTerm_0 := by decide +kernel
theorem dksX2_leastTerm_1 : cX2_leastTerm.data.toList.drop 23 = dktX2_leastTerm_1 := dk_seg dksX2_leastTerm_0 23 rfl rfl
theorem dksX2_leastTerm_2 : cX2_leastTerm.data.toList.drop 47 = dktX2_leastTerm_2 := dk_seg dksX2_leastTerm_1 24 rfl rfl
theorem dksX2_leastTerm_3 : cX2_leastTerm.data.toList.drop 71 = dktX2_leastTerm_3 := dk_seg dksX2_leastTerm_2 24 rfl rfl
theorem dksX2_leastTerm_4 : cX2_leastTerm.data.toList.drop 95 = dktX2_leastTerm_4 := dk_seg dksX2_leastTerm_3 24 rfl rfl
theorem dX2_leastTerm_0 : decode cX2_leastTerm 0 = .ok (.aload_n 0, 1) := dk_42 (dk_at dksX2_leastTerm_0 0 rfl rfl)
theorem dX2_leastTerm_1 : decode cX2_leastTerm 1 = .ok (.iload_n 1, 1) := dk_27 (dk_at dksX2_leastTerm_0 1 rfl rfl)
theorem dX2_leastTerm_2 : decode cX2_leastTerm 2 = .ok (.invokevirtual 283, 3) := dk_182 1 27 (dk_at dksX2_leastTerm_0 2 rfl rfl)
theorem dX2_leastTerm_5 : decode cX2_leastTerm 5 = .ok (.ifCond .eq 10, 3) := dk_153 0 10 (dk_at dksX2_leastTerm_0 5 rfl rfl)
theorem dX2_leastTerm_8 : decode cX2_leastTerm 8 = .ok (.iload_n 2, 1) := dk_28 (dk_at dksX2_leastTerm_0 8 rfl rfl)
theorem dX2_leastTerm_9 : decode cX2_leastTerm 9 = .ok (.invokestatic 302, 3) := dk_184 1 46 (dk_at dksX2_leastTerm_0 9 rfl rfl)
theorem dX2_leastTerm_12 : decode cX2_leastTerm 12 = .ok (.ifCond .ne 5, 3) := dk_154 0 5 (dk_at dksX2_leastTerm_0 12 rfl rfl)
theorem dX2_leastTerm_15 : decode cX2_leastTerm 15 = .ok (.iconst (-1), 1) := dk_2 (dk_at dksX2_leastTerm_0 15 rfl rfl)
theorem dX2_leastTerm_16 : decode cX2_leastTerm 16 = .ok (.ireturn, 1) := dk_172 (dk_at dksX2_leastTerm_0 16 rfl rfl)
theorem dX2_leastTerm_17 : decode cX2_leastTerm 17 = .ok (.aload_n 0, 1) := dk_42 (dk_at dksX2_leastTerm_0 17 rfl rfl)
theorem dX2_leastTerm_18 : decode cX2_leastTerm 18 = .ok (.iload_n 1, 1) := dk_27 (dk_at dksX2_leastTerm_0 18 rfl rfl)
theorem dX2_leastTerm_19 : decode cX2_leastTerm 19 = .ok (.iload_n 2, 1) := dk_28 (dk_at dksX2_leastTerm_0 19 rfl rfl)
theorem dX2_leastTerm_20 : decode cX2_leastTerm 20 = .ok (.invokevirtual 305, 3) := dk_182 1 49 (dk_at dksX2_leastTerm_0 20 rfl rfl)
theorem dX2_leastTerm_23 : decode cX2_leastTerm 23 = .ok (.bipush (-2), 2) := dk_16 254 (dk_at dksX2_leastTerm_1 0 rfl rfl)
theorem dX2_leastTerm_25 : decode cX2_leastTerm 25 = .ok (.if_icmp .ne 6, 3) := dk_160 0 6 (dk_at dksX2_leastTerm_1 2 rfl rfl)
theorem dX2_leastTerm_28 : decode cX2_leastTerm 28 = .ok (.bipush (-2), 2) := dk_16 254 (dk_at dksX2_leastTerm_1 5 rfl rfl)
theorem dX2_leastTerm_30 : decode cX2_leastTerm 30 = .ok (.ireturn, 1) := dk_172 (dk_at dksX2_leastTerm_1 7 rfl rfl)
theorem dX2_leastTerm_31 : decode cX2_leastTerm 31 = .ok (.aload_n 0, 1) := dk_42 (dk_at dksX2_leastTerm_1 8 rfl rfl)
theorem dX2_leastTerm_32 : decode cX2_leastTerm 32 = .ok (.iload_n 1, 1) := dk_27 (dk_at dksX2_leastTerm_1 9 rfl rfl)
theorem dX2_leastTerm_33 : decode cX2_leastTerm 33 = .ok (.iload_n 2, 1) := dk_28 (dk_at dksX2_leastTerm_1 10 rfl rfl)
theorem dX2_leastTerm_34 : decode cX2_leastTerm 34 = .ok (.iconst 0, 1) := dk_3 (dk_at dksX2_leastTerm_1 11 rfl rfl)
theorem dX2_leastTerm_35 : decode cX2_leastTerm 35 = .ok (.invokevirtual 347, 3) := dk_182 1 91 (dk_at dksX2_leastTerm_1 12 rfl rfl)
theorem dX2_leastTerm_38 : decode cX2_leastTerm 38 = .ok (.istore_n 3, 1) := dk_62 (dk_at dksX2_leastTerm_1 15 rfl rfl)
theorem dX2_leastTerm_39 : decode cX2_leastTerm 39 = .ok (.aload_n 0, 1) := dk_42 (dk_at dksX2_leastTerm_1 16 rfl rfl)
theorem dX2_leastTerm_40 : decode cX2_leastTerm 40 = .ok (.getfield 13, 3) := dk_180 0 13 (dk_at dksX2_leastTerm_1 17 rfl rfl)
theorem dX2_leastTerm_43 : decode cX2_leastTerm 43 = .ok (.iconst 0, 1) := dk_3 (dk_at dksX2_leastTerm_1 20 rfl rfl)
theorem dX2_leastTerm_44 : decode cX2_leastTerm 44 = .ok (.iaload, 1) := dk_46 (dk_at dksX2_leastTerm_1 21 rfl rfl)
theorem dX2_leastTerm_45 : decode cX2_leastTerm 45 = .ok (.istore 4, 2) := dk_54 4 (dk_at dksX2_leastTerm_1 22 rfl rfl)
theorem dX2_leastTerm_47 : decode cX2_leastTerm 47 = .ok (.iconst 0, 1) := dk_3 (dk_at dksX2_leastTerm_2 0 rfl rfl)
theorem dX2_leastTerm_48 : decode cX2_leastTerm 48 = .ok (.istore 5, 2) := dk_54 5 (dk_at dksX2_leastTerm_2 1 rfl rfl)
theorem dX2_leastTerm_50 : decode cX2_leastTerm 50 = .ok (.aload_n 0, 1) := dk_42 (dk_at dksX2_leastTerm_2 3 rfl rfl)
theorem dX2_leastTerm_51 : decode cX2_leastTerm 51 = .ok (.getfield 13, 3) := dk_180 0 13 (dk_at dksX2_leastTerm_2 4 rfl rfl)
theorem dX2_leastTerm_54 : decode cX2_leastTerm 54 = .ok (.iconst 0, 1) := dk_3 (dk_at dksX2_leastTerm_2 7 rfl rfl)
theorem dX2_leastTerm_55 : decode cX2_leastTerm 55 = .ok (.iconst 0, 1) := dk_3 (dk_at dksX2_leastTerm_2 8 rfl rfl)
theorem dX2_leastTerm_56 : decode cX2_leastTerm 56 = .ok (.iastore, 1) := dk_79 (dk_at dksX2_leastTerm_2 9 rfl rfl)
theorem dX2_leastTerm_57 : decode cX2_leastTerm 57 = .ok (.aload_n 0, 1) := dk_42 (dk_at dksX2_leastTerm_2 10 rfl rfl)
theorem dX2_leastTerm_58 : decode cX2_leastTerm 58 = .ok (.iload_n 1, 1) := dk_27 (dk_at dksX2_leastTerm_2 11 rfl rfl)
theorem dX2_leastTerm_59 : decode cX2_leastTerm 59 = .ok (.iload_n 2, 1) := dk_28 (dk_at dksX2_leastTerm_2 12 rfl rfl)
theorem dX2_leastTerm_60 : decode cX2_leastTerm 60 = .ok (.iconst 0, 1) := dk_3 (dk_at dksX2_leastTerm_2 13 rfl rfl)
theorem dX2_leastTerm_61 : decode cX2_leastTerm 61 = .ok (.invokevirtual 347, 3) := dk_182 1 91 (dk_at dksX2_leastTerm_2 14 rfl rfl)
theorem dX2_leastTerm_64 : decode cX2_leastTerm 64 = .ok (.iload_n 3, 1) := dk_29 (dk_at dksX2_leastTerm_2 17 rfl rfl)
theorem dX2_leastTerm_65 : decode cX2_leastTerm 65 = .ok (.if_icmp .eq 22, 3) := dk_159 0 22 (dk_at dksX2_leastTerm_2 18 rfl rfl)
theorem dX2_leastTerm_68 : decode cX2_leastTerm 68 = .ok (.aload_n 0, 1) := dk_42 (dk_at dksX2_leastTerm_2 21 rfl rfl)
theorem dX2_leastTerm_69 : decode cX2_leastTerm 69 = .ok (.iload 5, 2) := dk_21 5 (dk_at dksX2_leastTerm_2 22 rfl rfl)
theorem dX2_leastTerm_71 : decode cX2_leastTerm 71 = .ok (.invokevirtual 365, 3) := dk_182 1 109 (dk_at dksX2_leastTerm_3 0 rfl rfl)
theorem dX2_leastTerm_74 : decode cX2_leastTerm 74 = .ok (.istore 5, 2) := dk_54 5 (dk_at dksX2_leastTerm_3 3 rfl rfl)
theorem dX2_leastTerm_76 : decode cX2_leastTerm 76 = .ok (.aload_n 0, 1) := dk_42 (dk_at dksX2_leastTerm_3 5 rfl rfl)
theorem dX2_leastTerm_77 : decode cX2_leastTerm 77 = .ok (.getfield 13, 3) := dk_180 0 13 (dk_at dksX2_leastTerm_3 6 rfl rfl)
theorem dX2_leastTerm_80 : decode cX2_leastTerm 80 = .ok (.iconst 0, 1) := dk_3 (dk_at dksX2_leastTerm_3 9 rfl rfl)
theorem dX2_leastTerm_81 : decode cX2_leastTerm 81 = .ok (.iload 5, 2) := dk_21 5 (dk_at dksX2_leastTerm_3 10 rfl rfl)
theorem dX2_leastTerm_83 : decode cX2_leastTerm 83 = .ok (.iastore, 1) := dk_79 (dk_at dksX2_leastTerm_3 12 rfl rfl)
theorem dX2_leastTerm_84 : decode cX2_leastTerm 84 = .ok (.goto (-27), 3) := dk_167 255 229 (dk_at dksX2_leastTerm_3 13 rfl rfl)
theorem dX2_leastTerm_87 : decode cX2_leastTerm 87 = .ok (.aload_n 0, 1) := dk_42 (dk_at dksX2_leastTerm_3 16 rfl rfl)
theorem dX2_leastTerm_88 : decode cX2_leastTerm 88 = .ok (.getfield 13, 3) := dk_180 0 13 (dk_at dksX2_leastTerm_3 17 rfl rfl)
theorem dX2_leastTerm_91 : decode cX2_leastTerm 91 = .ok (.iconst 0, 1) := dk_3 (dk_at dksX2_leastTerm_3 20 rfl rfl)
theorem dX2_leastTerm_92 : decode cX2_leastTerm 92 = .ok (.iload 4, 2) := dk_21 4 (dk_at dksX2_leastTerm_3 21 rfl rfl)
theorem dX2_leastTerm_94 : decode cX2_leastTerm 94 = .ok (.iastore, 1) := dk_79 (dk_at dksX2_leastTerm_3 23 rfl rfl)
theorem dX2_leastTerm_95 : decode cX2_leastTerm 95 = .ok (.iload 5, 2) := dk_21 5 (dk_at dksX2_leastTerm_4 0 rfl rfl)
theorem dX2_leastTerm_97 : decode cX2_leastTerm 97 = .ok (.ireturn, 1) := dk_172 (dk_at dksX2_leastTerm_4 2 rfl rfl)
abbrev cX2_nextTerm : ByteArray := prog_12_method_89_code
def yX2_nextTerm : MethodName := ⟨RX2, "nextTerm", "(I)I"⟩
def dkwX2_nextTerm_3 : List UInt8 := [167, 255, 193, 28, 172]
abbrev dktX2_nextTerm_3 : List UInt8 := dkwX2_nextTerm_3 ++ []
def dkwX2_nextTerm_2 : List UInt8 := [21, 4, 27, 164, 0, 14, 21, 4, 28, 162, 0, 8, 21, 4, 167, 0, 4, 28, 61, 132, 3, 1]
abbrev dktX2_nextTerm_2 : List UInt8 := dkwX2_nextTerm_2 ++ dktX2_nextTerm_3
def dkwX2_nextTerm_1 : List UInt8 := [182, 1, 21, 42, 42, 29, 182, 1, 55, 182, 1, 21, 100, 54, 4, 42, 29, 182, 1, 58, 154, 0, 20]
abbrev dktX2_nextTerm_1 : List UInt8 := dkwX2_nextTerm_1 ++ dktX2_nextTerm_2
def dkwX2_nextTerm_0 : List UInt8 := [19, 1, 61, 61, 3, 62, 29, 42, 180, 0, 13, 17, 1, 0, 46, 162, 0, 57, 42, 42, 29, 182, 1, 52]
abbrev dktX2_nextTerm_0 : List UInt8 := dkwX2_nextTerm_0 ++ dktX2_nextTerm_1
theorem dksX2_nextTerm_0 : cX2_nextTerm.data.toList.drop 0 = dktX2_nextTerm_0 := by decide +kernel
theorem dksX2_nextTerm_1 : cX2_nextTerm.data.toList.drop 24 = dktX2_nextTerm_1 := dk_seg dksX2_nextTerm_0 24 rfl rfl
theorem dksX2_nextTerm_2 : cX2_nextTerm.data.toList.drop 47 = dktX2_nextTerm_2 := dk_seg dksX2_nextTerm_1 23 rfl rfl
theorem dksX2_nextTerm_3 : cX2_nextTerm.data.toList.drop 69 = dktX2_nextTerm_3 := dk_seg dksX2_nextTerm_2 22 rfl rfl
theorem dX2_nextTerm_0 : decode cX2_nextTerm 0 = .ok (.ldc_w 317, 3) := dk_19 1 61 (dk_at dksX2_nextTerm_0 0 rfl rfl)
theorem dX2_nextTerm_3 : decode cX2_nextTerm 3 = .ok (.istore_n 2, 1) := dk_61 (dk_at dksX2_nextTerm_0 3 rfl rfl)
theorem dX2_nextTerm_4 : decode cX2_nextTerm 4 = .ok (.iconst 0, 1) := dk_3 (dk_at dksX2_nextTerm_0 4 rfl rfl)
theorem dX2_nextTerm_5 : decode cX2_nextTerm 5 = .ok (.istore_n 3, 1) := dk_62 (dk_at dksX2_nextTerm_0 5 rfl rfl)
theorem dX2_nextTerm_6 : decode cX2_nextTerm 6 = .ok (.iload_n 3, 1) := dk_29 (dk_at dksX2_nextTerm_0 6 rfl rfl)
theorem dX2_nextTerm_7 : decode cX2_nextTerm 7 = .ok (.aload_n 0, 1) := dk_42 (dk_at dksX2_nextTerm_0 7 rfl rfl)
theorem dX2_nextTerm_8 : decode cX2_nextTerm 8 = .ok (.getfield 13, 3) := dk_180 0 13 (dk_at dksX2_nextTerm_0 8 rfl rfl)
theorem dX2_nextTerm_11 : decode cX2_nextTerm 11 = .ok (.sipush 256, 3) := dk_17 1 0 (dk_at dksX2_nextTerm_0 11 rfl rfl)
theorem dX2_nextTerm_14 : decode cX2_nextTerm 14 = .ok (.iaload, 1) := dk_46 (dk_at dksX2_nextTerm_0 14 rfl rfl)
theorem dX2_nextTerm_15 : decode cX2_nextTerm 15 = .ok (.if_icmp .ge 57, 3) := dk_162 0 57 (dk_at dksX2_nextTerm_0 15 rfl rfl)
theorem dX2_nextTerm_18 : decode cX2_nextTerm 18 = .ok (.aload_n 0, 1) := dk_42 (dk_at dksX2_nextTerm_0 18 rfl rfl)
theorem dX2_nextTerm_19 : decode cX2_nextTerm 19 = .ok (.aload_n 0, 1) := dk_42 (dk_at dksX2_nextTerm_0 19 rfl rfl)
theorem dX2_nextTerm_20 : decode cX2_nextTerm 20 = .ok (.iload_n 3, 1) := dk_29 (dk_at dksX2_nextTerm_0 20 rfl rfl)
theorem dX2_nextTerm_21 : decode cX2_nextTerm 21 = .ok (.invokevirtual 308, 3) := dk_182 1 52 (dk_at dksX2_nextTerm_0 21 rfl rfl)
theorem dX2_nextTerm_24 : decode cX2_nextTerm 24 = .ok (.invokevirtual 277, 3) := dk_182 1 21 (dk_at dksX2_nextTerm_1 0 rfl rfl)
theorem dX2_nextTerm_27 : decode cX2_nextTerm 27 = .ok (.aload_n 0, 1) := dk_42 (dk_at dksX2_nextTerm_1 3 rfl rfl)
theorem dX2_nextTerm_28 : decode cX2_nextTerm 28 = .ok (.aload_n 0, 1) := dk_42 (dk_at dksX2_nextTerm_1 4 rfl rfl)
theorem dX2_nextTerm_29 : decode cX2_nextTerm 29 = .ok (.iload_n 3, 1) := dk_29 (dk_at dksX2_nextTerm_1 5 rfl rfl)
theorem dX2_nextTerm_30 : decode cX2_nextTerm 30 = .ok (.invokevirtual 311, 3) := dk_182 1 55 (dk_at dksX2_nextTerm_1 6 rfl rfl)
theorem dX2_nextTerm_33 : decode cX2_nextTerm 33 = .ok (.invokevirtual 277, 3) := dk_182 1 21 (dk_at dksX2_nextTerm_1 9 rfl rfl)
theorem dX2_nextTerm_36 : decode cX2_nextTerm 36 = .ok (.isub, 1) := dk_100 (dk_at dksX2_nextTerm_1 12 rfl rfl)
theorem dX2_nextTerm_37 : decode cX2_nextTerm 37 = .ok (.istore 4, 2) := dk_54 4 (dk_at dksX2_nextTerm_1 13 rfl rfl)
theorem dX2_nextTerm_39 : decode cX2_nextTerm 39 = .ok (.aload_n 0, 1) := dk_42 (dk_at dksX2_nextTerm_1 15 rfl rfl)
theorem dX2_nextTerm_40 : decode cX2_nextTerm 40 = .ok (.iload_n 3, 1) := dk_29 (dk_at dksX2_nextTerm_1 16 rfl rfl)
theorem dX2_nextTerm_41 : decode cX2_nextTerm 41 = .ok (.invokevirtual 314, 3) := dk_182 1 58 (dk_at dksX2_nextTerm_1 17 rfl rfl)
theorem dX2_nextTerm_44 : decode cX2_nextTerm 44 = .ok (.ifCond .ne 20, 3) := dk_154 0 20 (dk_at dksX2_nextTerm_1 20 rfl rfl)
theorem dX2_nextTerm_47 : decode cX2_nextTerm 47 = .ok (.iload 4, 2) := dk_21 4 (dk_at dksX2_nextTerm_2 0 rfl rfl)
theorem dX2_nextTerm_49 : decode cX2_nextTerm 49 = .ok (.iload_n 1, 1) := dk_27 (dk_at dksX2_nextTerm_2 2 rfl rfl)
theorem dX2_nextTerm_50 : decode cX2_nextTerm 50 = .ok (.if_icmp .le 14, 3) := dk_164 0 14 (dk_at dksX2_nextTerm_2 3 rfl rfl)
theorem dX2_nextTerm_53 : decode cX2_nextTerm 53 = .ok (.iload 4, 2) := dk_21 4 (dk_at dksX2_nextTerm_2 6 rfl rfl)
theorem dX2_nextTerm_55 : decode cX2_nextTerm 55 = .ok (.iload_n 2, 1) := dk_28 (dk_at dksX2_nextTerm_2 8 rfl rfl)
theorem dX2_nextTerm_56 : decode cX2_nextTerm 56 = .ok (.if_icmp .ge 8, 3) := dk_162 0 8 (dk_at dksX2_nextTerm_2 9 rfl rfl)
theorem dX2_nextTerm_59 : decode cX2_nextTerm 59 = .ok (.iload 4, 2) := dk_21 4 (dk_at dksX2_nextTerm_2 12 rfl rfl)
theorem dX2_nextTerm_61 : decode cX2_nextTerm 61 = .ok (.goto 4, 3) := dk_167 0 4 (dk_at dksX2_nextTerm_2 14 rfl rfl)
theorem dX2_nextTerm_64 : decode cX2_nextTerm 64 = .ok (.iload_n 2, 1) := dk_28 (dk_at dksX2_nextTerm_2 17 rfl rfl)
theorem dX2_nextTerm_65 : decode cX2_nextTerm 65 = .ok (.istore_n 2, 1) := dk_61 (dk_at dksX2_nextTerm_2 18 rfl rfl)
theorem dX2_nextTerm_66 : decode cX2_nextTerm 66 = .ok (.iinc 3 1, 3) := dk_132 3 1 (dk_at dksX2_nextTerm_2 19 rfl rfl)
theorem dX2_nextTerm_69 : decode cX2_nextTerm 69 = .ok (.goto (-63), 3) := dk_167 255 193 (dk_at dksX2_nextTerm_3 0 rfl rfl)
theorem dX2_nextTerm_72 : decode cX2_nextTerm 72 = .ok (.iload_n 2, 1) := dk_28 (dk_at dksX2_nextTerm_3 3 rfl rfl)
theorem dX2_nextTerm_73 : decode cX2_nextTerm 73 = .ok (.ireturn, 1) := dk_172 (dk_at dksX2_nextTerm_3 4 rfl rfl)
abbrev cX2_harm : ByteArray := prog_12_method_95_code
def yX2_harm : MethodName := ⟨RX2, "harm", "(I)I"⟩
def dkwX2_harm_0 : List UInt8 := [42, 27, 182, 1, 68, 154, 0, 5, 2, 172, 42, 182, 1, 115, 42, 4, 27, 120, 182, 1, 118, 172]
abbrev dktX2_harm_0 : List UInt8 := dkwX2_harm_0 ++ []
theorem dksX2_harm_0 : cX2_harm.data.toList.drop 0 = dktX2_harm_0 := by decide +kernel
theorem dX2_harm_0 : decode cX2_harm 0 = .ok (.aload_n 0, 1) := dk_42 (dk_at dksX2_harm_0 0 rfl rfl)
theorem dX2_harm_1 : decode cX2_harm 1 = .ok (.iload_n 1, 1) := dk_27 (dk_at dksX2_harm_0 1 rfl rfl)
theorem dX2_harm_2 : decode cX2_harm 2 = .ok (.invokevirtual 324, 3) := dk_182 1 68 (dk_at dksX2_harm_0 2 rfl rfl)
theorem dX2_harm_5 : decode cX2_harm 5 = .ok (.ifCond .ne 5, 3) := dk_154 0 5 (dk_at dksX2_harm_0 5 rfl rfl)
theorem dX2_harm_8 : decode cX2_harm 8 = .ok (.iconst (-1), 1) := dk_2 (dk_at dksX2_harm_0 8 rfl rfl)
theorem dX2_harm_9 : decode cX2_harm 9 = .ok (.ireturn, 1) := dk_172 (dk_at dksX2_harm_0 9 rfl rfl)
theorem dX2_harm_10 : decode cX2_harm 10 = .ok (.aload_n 0, 1) := dk_42 (dk_at dksX2_harm_0 10 rfl rfl)
theorem dX2_harm_11 : decode cX2_harm 11 = .ok (.invokevirtual 371, 3) := dk_182 1 115 (dk_at dksX2_harm_0 11 rfl rfl)
theorem dX2_harm_14 : decode cX2_harm 14 = .ok (.aload_n 0, 1) := dk_42 (dk_at dksX2_harm_0 14 rfl rfl)
theorem dX2_harm_15 : decode cX2_harm 15 = .ok (.iconst 1, 1) := dk_4 (dk_at dksX2_harm_0 15 rfl rfl)
theorem dX2_harm_16 : decode cX2_harm 16 = .ok (.iload_n 1, 1) := dk_27 (dk_at dksX2_harm_0 16 rfl rfl)
theorem dX2_harm_17 : decode cX2_harm 17 = .ok (.ishl, 1) := dk_120 (dk_at dksX2_harm_0 17 rfl rfl)
theorem dX2_harm_18 : decode cX2_harm 18 = .ok (.invokevirtual 374, 3) := dk_182 1 118 (dk_at dksX2_harm_0 18 rfl rfl)
theorem dX2_harm_21 : decode cX2_harm 21 = .ok (.ireturn, 1) := dk_172 (dk_at dksX2_harm_0 21 rfl rfl)
abbrev cX2_laysDates : ByteArray := prog_12_method_93_code
def yX2_laysDates : MethodName := ⟨RX2, "laysDates", "()V"⟩
def dkwX2_laysDates_1 : List UInt8 := [132, 1, 1, 167, 255, 231, 177]
abbrev dktX2_laysDates_1 : List UInt8 := dkwX2_laysDates_1 ++ []
def dkwX2_laysDates_0 : List UInt8 := [3, 60, 27, 42, 180, 0, 22, 6, 46, 162, 0, 21, 42, 180, 0, 55, 27, 42, 27, 3, 182, 1, 112, 79]
abbrev dktX2_laysDates_0 : List UInt8 := dkwX2_laysDates_0 ++ dktX2_laysDates_1
theorem dksX2_laysDates_0 : cX2_laysDates.data.toList.drop 0 = dktX2_laysDates_0 := by decide +kernel
theorem dksX2_laysDates_1 : cX2_laysDates.data.toList.drop 24 = dktX2_laysDates_1 := dk_seg dksX2_laysDates_0 24 rfl rfl
theorem dX2_laysDates_0 : decode cX2_laysDates 0 = .ok (.iconst 0, 1) := dk_3 (dk_at dksX2_laysDates_0 0 rfl rfl)
theorem dX2_laysDates_1 : decode cX2_laysDates 1 = .ok (.istore_n 1, 1) := dk_60 (dk_at dksX2_laysDates_0 1 rfl rfl)
theorem dX2_laysDates_2 : decode cX2_laysDates 2 = .ok (.iload_n 1, 1) := dk_27 (dk_at dksX2_laysDates_0 2 rfl rfl)
theorem dX2_laysDates_3 : decode cX2_laysDates 3 = .ok (.aload_n 0, 1) := dk_42 (dk_at dksX2_laysDates_0 3 rfl rfl)
theorem dX2_laysDates_4 : decode cX2_laysDates 4 = .ok (.getfield 22, 3) := dk_180 0 22 (dk_at dksX2_laysDates_0 4 rfl rfl)
theorem dX2_laysDates_7 : decode cX2_laysDates 7 = .ok (.iconst 3, 1) := dk_6 (dk_at dksX2_laysDates_0 7 rfl rfl)
theorem dX2_laysDates_8 : decode cX2_laysDates 8 = .ok (.iaload, 1) := dk_46 (dk_at dksX2_laysDates_0 8 rfl rfl)
theorem dX2_laysDates_9 : decode cX2_laysDates 9 = .ok (.if_icmp .ge 21, 3) := dk_162 0 21 (dk_at dksX2_laysDates_0 9 rfl rfl)
theorem dX2_laysDates_12 : decode cX2_laysDates 12 = .ok (.aload_n 0, 1) := dk_42 (dk_at dksX2_laysDates_0 12 rfl rfl)
theorem dX2_laysDates_13 : decode cX2_laysDates 13 = .ok (.getfield 55, 3) := dk_180 0 55 (dk_at dksX2_laysDates_0 13 rfl rfl)
theorem dX2_laysDates_16 : decode cX2_laysDates 16 = .ok (.iload_n 1, 1) := dk_27 (dk_at dksX2_laysDates_0 16 rfl rfl)
theorem dX2_laysDates_17 : decode cX2_laysDates 17 = .ok (.aload_n 0, 1) := dk_42 (dk_at dksX2_laysDates_0 17 rfl rfl)
theorem dX2_laysDates_18 : decode cX2_laysDates 18 = .ok (.iload_n 1, 1) := dk_27 (dk_at dksX2_laysDates_0 18 rfl rfl)
theorem dX2_laysDates_19 : decode cX2_laysDates 19 = .ok (.iconst 0, 1) := dk_3 (dk_at dksX2_laysDates_0 19 rfl rfl)
theorem dX2_laysDates_20 : decode cX2_laysDates 20 = .ok (.invokevirtual 368, 3) := dk_182 1 112 (dk_at dksX2_laysDates_0 20 rfl rfl)
theorem dX2_laysDates_23 : decode cX2_laysDates 23 = .ok (.iastore, 1) := dk_79 (dk_at dksX2_laysDates_0 23 rfl rfl)
theorem dX2_laysDates_24 : decode cX2_laysDates 24 = .ok (.iinc 1 1, 3) := dk_132 1 1 (dk_at dksX2_laysDates_1 0 rfl rfl)
theorem dX2_laysDates_27 : decode cX2_laysDates 27 = .ok (.goto (-25), 3) := dk_167 255 231 (dk_at dksX2_laysDates_1 3 rfl rfl)
theorem dX2_laysDates_30 : decode cX2_laysDates 30 = .ok (.return_, 1) := dk_177 (dk_at dksX2_laysDates_1 6 rfl rfl)
abbrev cX2_laterNow : ByteArray := prog_12_method_94_code
def yX2_laterNow : MethodName := ⟨RX2, "laterNow", "(I)I"⟩
def dkwX2_laterNow_1 : List UInt8 := [29, 46, 164, 0, 11, 28, 4, 29, 120, 128, 167, 0, 4, 28, 61, 132, 3, 1, 167, 255, 218, 28, 172]
abbrev dktX2_laterNow_1 : List UInt8 := dkwX2_laterNow_1 ++ []
def dkwX2_laterNow_0 : List UInt8 := [3, 61, 3, 62, 29, 42, 180, 0, 22, 6, 46, 162, 0, 34, 42, 29, 27, 182, 1, 112, 42, 180, 0, 55]
abbrev dktX2_laterNow_0 : List UInt8 := dkwX2_laterNow_0 ++ dktX2_laterNow_1
theorem dksX2_laterNow_0 : cX2_laterNow.data.toList.drop 0 = dktX2_laterNow_0 := by decide +kernel
theorem dksX2_laterNow_1 : cX2_laterNow.data.toList.drop 24 = dktX2_laterNow_1 := dk_seg dksX2_laterNow_0 24 rfl rfl
theorem dX2_laterNow_0 : decode cX2_laterNow 0 = .ok (.iconst 0, 1) := dk_3 (dk_at dksX2_laterNow_0 0 rfl rfl)
theorem dX2_laterNow_1 : decode cX2_laterNow 1 = .ok (.istore_n 2, 1) := dk_61 (dk_at dksX2_laterNow_0 1 rfl rfl)
theorem dX2_laterNow_2 : decode cX2_laterNow 2 = .ok (.iconst 0, 1) := dk_3 (dk_at dksX2_laterNow_0 2 rfl rfl)
theorem dX2_laterNow_3 : decode cX2_laterNow 3 = .ok (.istore_n 3, 1) := dk_62 (dk_at dksX2_laterNow_0 3 rfl rfl)
theorem dX2_laterNow_4 : decode cX2_laterNow 4 = .ok (.iload_n 3, 1) := dk_29 (dk_at dksX2_laterNow_0 4 rfl rfl)
theorem dX2_laterNow_5 : decode cX2_laterNow 5 = .ok (.aload_n 0, 1) := dk_42 (dk_at dksX2_laterNow_0 5 rfl rfl)
theorem dX2_laterNow_6 : decode cX2_laterNow 6 = .ok (.getfield 22, 3) := dk_180 0 22 (dk_at dksX2_laterNow_0 6 rfl rfl)
theorem dX2_laterNow_9 : decode cX2_laterNow 9 = .ok (.iconst 3, 1) := dk_6 (dk_at dksX2_laterNow_0 9 rfl rfl)
theorem dX2_laterNow_10 : decode cX2_laterNow 10 = .ok (.iaload, 1) := dk_46 (dk_at dksX2_laterNow_0 10 rfl rfl)
theorem dX2_laterNow_11 : decode cX2_laterNow 11 = .ok (.if_icmp .ge 34, 3) := dk_162 0 34 (dk_at dksX2_laterNow_0 11 rfl rfl)
theorem dX2_laterNow_14 : decode cX2_laterNow 14 = .ok (.aload_n 0, 1) := dk_42 (dk_at dksX2_laterNow_0 14 rfl rfl)
theorem dX2_laterNow_15 : decode cX2_laterNow 15 = .ok (.iload_n 3, 1) := dk_29 (dk_at dksX2_laterNow_0 15 rfl rfl)
theorem dX2_laterNow_16 : decode cX2_laterNow 16 = .ok (.iload_n 1, 1) := dk_27 (dk_at dksX2_laterNow_0 16 rfl rfl)
theorem dX2_laterNow_17 : decode cX2_laterNow 17 = .ok (.invokevirtual 368, 3) := dk_182 1 112 (dk_at dksX2_laterNow_0 17 rfl rfl)
theorem dX2_laterNow_20 : decode cX2_laterNow 20 = .ok (.aload_n 0, 1) := dk_42 (dk_at dksX2_laterNow_0 20 rfl rfl)
theorem dX2_laterNow_21 : decode cX2_laterNow 21 = .ok (.getfield 55, 3) := dk_180 0 55 (dk_at dksX2_laterNow_0 21 rfl rfl)
theorem dX2_laterNow_24 : decode cX2_laterNow 24 = .ok (.iload_n 3, 1) := dk_29 (dk_at dksX2_laterNow_1 0 rfl rfl)
theorem dX2_laterNow_25 : decode cX2_laterNow 25 = .ok (.iaload, 1) := dk_46 (dk_at dksX2_laterNow_1 1 rfl rfl)
theorem dX2_laterNow_26 : decode cX2_laterNow 26 = .ok (.if_icmp .le 11, 3) := dk_164 0 11 (dk_at dksX2_laterNow_1 2 rfl rfl)
theorem dX2_laterNow_29 : decode cX2_laterNow 29 = .ok (.iload_n 2, 1) := dk_28 (dk_at dksX2_laterNow_1 5 rfl rfl)
theorem dX2_laterNow_30 : decode cX2_laterNow 30 = .ok (.iconst 1, 1) := dk_4 (dk_at dksX2_laterNow_1 6 rfl rfl)
theorem dX2_laterNow_31 : decode cX2_laterNow 31 = .ok (.iload_n 3, 1) := dk_29 (dk_at dksX2_laterNow_1 7 rfl rfl)
theorem dX2_laterNow_32 : decode cX2_laterNow 32 = .ok (.ishl, 1) := dk_120 (dk_at dksX2_laterNow_1 8 rfl rfl)
theorem dX2_laterNow_33 : decode cX2_laterNow 33 = .ok (.ior, 1) := dk_128 (dk_at dksX2_laterNow_1 9 rfl rfl)
theorem dX2_laterNow_34 : decode cX2_laterNow 34 = .ok (.goto 4, 3) := dk_167 0 4 (dk_at dksX2_laterNow_1 10 rfl rfl)
theorem dX2_laterNow_37 : decode cX2_laterNow 37 = .ok (.iload_n 2, 1) := dk_28 (dk_at dksX2_laterNow_1 13 rfl rfl)
theorem dX2_laterNow_38 : decode cX2_laterNow 38 = .ok (.istore_n 2, 1) := dk_61 (dk_at dksX2_laterNow_1 14 rfl rfl)
theorem dX2_laterNow_39 : decode cX2_laterNow 39 = .ok (.iinc 3 1, 3) := dk_132 3 1 (dk_at dksX2_laterNow_1 15 rfl rfl)
theorem dX2_laterNow_42 : decode cX2_laterNow 42 = .ok (.goto (-38), 3) := dk_167 255 218 (dk_at dksX2_laterNow_1 18 rfl rfl)
theorem dX2_laterNow_45 : decode cX2_laterNow 45 = .ok (.iload_n 2, 1) := dk_28 (dk_at dksX2_laterNow_1 21 rfl rfl)
theorem dX2_laterNow_46 : decode cX2_laterNow 46 = .ok (.ireturn, 1) := dk_172 (dk_at dksX2_laterNow_1 22 rfl rfl)
abbrev cX2_slip : ByteArray := prog_12_method_96_code
def yX2_slip : MethodName := ⟨RX2, "slip", "(II)I"⟩
def dkwX2_slip_2 : List UInt8 := [42, 180, 0, 13, 7, 27, 96, 42, 27, 182, 1, 21, 28, 100, 79, 29, 172]
abbrev dktX2_slip_2 : List UInt8 := dkwX2_slip_2 ++ []
def dkwX2_slip_1 : List UInt8 := [182, 1, 115, 42, 180, 0, 13, 7, 27, 96, 42, 27, 182, 1, 21, 28, 96, 79, 42, 3, 182, 1, 118, 62]
abbrev dktX2_slip_1 : List UInt8 := dkwX2_slip_1 ++ dktX2_slip_2
def dkwX2_slip_0 : List UInt8 := [42, 27, 182, 1, 27, 153, 0, 14, 28, 4, 17, 3, 231, 184, 0, 93, 154, 0, 5, 2, 172, 42]
abbrev dktX2_slip_0 : List UInt8 := dkwX2_slip_0 ++ dktX2_slip_1
theorem dksX2_slip_0 : cX2_slip.data.toList.drop 0 = dktX2_slip_0 := by decide +kernel
theorem dksX2_slip_1 : cX2_slip.data.toList.drop 22 = dktX2_slip_1 := dk_seg dksX2_slip_0 22 rfl rfl
theorem dksX2_slip_2 : cX2_slip.data.toList.drop 46 = dktX2_slip_2 := dk_seg dksX2_slip_1 24 rfl rfl
theorem dX2_slip_0 : decode cX2_slip 0 = .ok (.aload_n 0, 1) := dk_42 (dk_at dksX2_slip_0 0 rfl rfl)
theorem dX2_slip_1 : decode cX2_slip 1 = .ok (.iload_n 1, 1) := dk_27 (dk_at dksX2_slip_0 1 rfl rfl)
theorem dX2_slip_2 : decode cX2_slip 2 = .ok (.invokevirtual 283, 3) := dk_182 1 27 (dk_at dksX2_slip_0 2 rfl rfl)
theorem dX2_slip_5 : decode cX2_slip 5 = .ok (.ifCond .eq 14, 3) := dk_153 0 14 (dk_at dksX2_slip_0 5 rfl rfl)
theorem dX2_slip_8 : decode cX2_slip 8 = .ok (.iload_n 2, 1) := dk_28 (dk_at dksX2_slip_0 8 rfl rfl)
theorem dX2_slip_9 : decode cX2_slip 9 = .ok (.iconst 1, 1) := dk_4 (dk_at dksX2_slip_0 9 rfl rfl)
theorem dX2_slip_10 : decode cX2_slip 10 = .ok (.sipush 999, 3) := dk_17 3 231 (dk_at dksX2_slip_0 10 rfl rfl)
theorem dX2_slip_13 : decode cX2_slip 13 = .ok (.invokestatic 93, 3) := dk_184 0 93 (dk_at dksX2_slip_0 13 rfl rfl)
theorem dX2_slip_16 : decode cX2_slip 16 = .ok (.ifCond .ne 5, 3) := dk_154 0 5 (dk_at dksX2_slip_0 16 rfl rfl)
theorem dX2_slip_19 : decode cX2_slip 19 = .ok (.iconst (-1), 1) := dk_2 (dk_at dksX2_slip_0 19 rfl rfl)
theorem dX2_slip_20 : decode cX2_slip 20 = .ok (.ireturn, 1) := dk_172 (dk_at dksX2_slip_0 20 rfl rfl)
theorem dX2_slip_21 : decode cX2_slip 21 = .ok (.aload_n 0, 1) := dk_42 (dk_at dksX2_slip_0 21 rfl rfl)
theorem dX2_slip_22 : decode cX2_slip 22 = .ok (.invokevirtual 371, 3) := dk_182 1 115 (dk_at dksX2_slip_1 0 rfl rfl)
theorem dX2_slip_25 : decode cX2_slip 25 = .ok (.aload_n 0, 1) := dk_42 (dk_at dksX2_slip_1 3 rfl rfl)
theorem dX2_slip_26 : decode cX2_slip 26 = .ok (.getfield 13, 3) := dk_180 0 13 (dk_at dksX2_slip_1 4 rfl rfl)
theorem dX2_slip_29 : decode cX2_slip 29 = .ok (.iconst 4, 1) := dk_7 (dk_at dksX2_slip_1 7 rfl rfl)
theorem dX2_slip_30 : decode cX2_slip 30 = .ok (.iload_n 1, 1) := dk_27 (dk_at dksX2_slip_1 8 rfl rfl)
theorem dX2_slip_31 : decode cX2_slip 31 = .ok (.iadd, 1) := dk_96 (dk_at dksX2_slip_1 9 rfl rfl)
theorem dX2_slip_32 : decode cX2_slip 32 = .ok (.aload_n 0, 1) := dk_42 (dk_at dksX2_slip_1 10 rfl rfl)
theorem dX2_slip_33 : decode cX2_slip 33 = .ok (.iload_n 1, 1) := dk_27 (dk_at dksX2_slip_1 11 rfl rfl)
theorem dX2_slip_34 : decode cX2_slip 34 = .ok (.invokevirtual 277, 3) := dk_182 1 21 (dk_at dksX2_slip_1 12 rfl rfl)
theorem dX2_slip_37 : decode cX2_slip 37 = .ok (.iload_n 2, 1) := dk_28 (dk_at dksX2_slip_1 15 rfl rfl)
theorem dX2_slip_38 : decode cX2_slip 38 = .ok (.iadd, 1) := dk_96 (dk_at dksX2_slip_1 16 rfl rfl)
theorem dX2_slip_39 : decode cX2_slip 39 = .ok (.iastore, 1) := dk_79 (dk_at dksX2_slip_1 17 rfl rfl)
theorem dX2_slip_40 : decode cX2_slip 40 = .ok (.aload_n 0, 1) := dk_42 (dk_at dksX2_slip_1 18 rfl rfl)
theorem dX2_slip_41 : decode cX2_slip 41 = .ok (.iconst 0, 1) := dk_3 (dk_at dksX2_slip_1 19 rfl rfl)
theorem dX2_slip_42 : decode cX2_slip 42 = .ok (.invokevirtual 374, 3) := dk_182 1 118 (dk_at dksX2_slip_1 20 rfl rfl)
theorem dX2_slip_45 : decode cX2_slip 45 = .ok (.istore_n 3, 1) := dk_62 (dk_at dksX2_slip_1 23 rfl rfl)
theorem dX2_slip_46 : decode cX2_slip 46 = .ok (.aload_n 0, 1) := dk_42 (dk_at dksX2_slip_2 0 rfl rfl)
theorem dX2_slip_47 : decode cX2_slip 47 = .ok (.getfield 13, 3) := dk_180 0 13 (dk_at dksX2_slip_2 1 rfl rfl)
theorem dX2_slip_50 : decode cX2_slip 50 = .ok (.iconst 4, 1) := dk_7 (dk_at dksX2_slip_2 4 rfl rfl)
theorem dX2_slip_51 : decode cX2_slip 51 = .ok (.iload_n 1, 1) := dk_27 (dk_at dksX2_slip_2 5 rfl rfl)
theorem dX2_slip_52 : decode cX2_slip 52 = .ok (.iadd, 1) := dk_96 (dk_at dksX2_slip_2 6 rfl rfl)
theorem dX2_slip_53 : decode cX2_slip 53 = .ok (.aload_n 0, 1) := dk_42 (dk_at dksX2_slip_2 7 rfl rfl)
theorem dX2_slip_54 : decode cX2_slip 54 = .ok (.iload_n 1, 1) := dk_27 (dk_at dksX2_slip_2 8 rfl rfl)
theorem dX2_slip_55 : decode cX2_slip 55 = .ok (.invokevirtual 277, 3) := dk_182 1 21 (dk_at dksX2_slip_2 9 rfl rfl)
theorem dX2_slip_58 : decode cX2_slip 58 = .ok (.iload_n 2, 1) := dk_28 (dk_at dksX2_slip_2 12 rfl rfl)
theorem dX2_slip_59 : decode cX2_slip 59 = .ok (.isub, 1) := dk_100 (dk_at dksX2_slip_2 13 rfl rfl)
theorem dX2_slip_60 : decode cX2_slip 60 = .ok (.iastore, 1) := dk_79 (dk_at dksX2_slip_2 14 rfl rfl)
theorem dX2_slip_61 : decode cX2_slip 61 = .ok (.iload_n 3, 1) := dk_29 (dk_at dksX2_slip_2 15 rfl rfl)
theorem dX2_slip_62 : decode cX2_slip 62 = .ok (.ireturn, 1) := dk_172 (dk_at dksX2_slip_2 16 rfl rfl)
abbrev cX2_ending : ByteArray := prog_12_method_97_code
def yX2_ending : MethodName := ⟨RX2, "ending", "(II)I"⟩
def dkwX2_ending_2 : List UInt8 := [182, 1, 118, 54, 4, 42, 180, 0, 13, 16, 18, 27, 96, 29, 79, 21, 4, 172]
abbrev dktX2_ending_2 : List UInt8 := dkwX2_ending_2 ++ []
def dkwX2_ending_1 : List UInt8 := [2, 172, 42, 182, 1, 115, 42, 27, 182, 1, 24, 62, 42, 180, 0, 13, 16, 18, 27, 96, 28, 79, 42, 3]
abbrev dktX2_ending_1 : List UInt8 := dkwX2_ending_1 ++ dktX2_ending_2
def dkwX2_ending_0 : List UInt8 := [42, 27, 182, 1, 27, 153, 0, 19, 28, 184, 1, 121, 153, 0, 12, 28, 42, 27, 182, 1, 21, 162, 0, 5]
abbrev dktX2_ending_0 : List UInt8 := dkwX2_ending_0 ++ dktX2_ending_1
theorem dksX2_ending_0 : cX2_ending.data.toList.drop 0 = dktX2_ending_0 := by decide +kernel
theorem dksX2_ending_1 : cX2_ending.data.toList.drop 24 = dktX2_ending_1 := dk_seg dksX2_ending_0 24 rfl rfl
theorem dksX2_ending_2 : cX2_ending.data.toList.drop 48 = dktX2_ending_2 := dk_seg dksX2_ending_1 24 rfl rfl
theorem dX2_ending_0 : decode cX2_ending 0 = .ok (.aload_n 0, 1) := dk_42 (dk_at dksX2_ending_0 0 rfl rfl)
theorem dX2_ending_1 : decode cX2_ending 1 = .ok (.iload_n 1, 1) := dk_27 (dk_at dksX2_ending_0 1 rfl rfl)
theorem dX2_ending_2 : decode cX2_ending 2 = .ok (.invokevirtual 283, 3) := dk_182 1 27 (dk_at dksX2_ending_0 2 rfl rfl)
theorem dX2_ending_5 : decode cX2_ending 5 = .ok (.ifCond .eq 19, 3) := dk_153 0 19 (dk_at dksX2_ending_0 5 rfl rfl)
theorem dX2_ending_8 : decode cX2_ending 8 = .ok (.iload_n 2, 1) := dk_28 (dk_at dksX2_ending_0 8 rfl rfl)
theorem dX2_ending_9 : decode cX2_ending 9 = .ok (.invokestatic 377, 3) := dk_184 1 121 (dk_at dksX2_ending_0 9 rfl rfl)
theorem dX2_ending_12 : decode cX2_ending 12 = .ok (.ifCond .eq 12, 3) := dk_153 0 12 (dk_at dksX2_ending_0 12 rfl rfl)
theorem dX2_ending_15 : decode cX2_ending 15 = .ok (.iload_n 2, 1) := dk_28 (dk_at dksX2_ending_0 15 rfl rfl)
theorem dX2_ending_16 : decode cX2_ending 16 = .ok (.aload_n 0, 1) := dk_42 (dk_at dksX2_ending_0 16 rfl rfl)
theorem dX2_ending_17 : decode cX2_ending 17 = .ok (.iload_n 1, 1) := dk_27 (dk_at dksX2_ending_0 17 rfl rfl)
theorem dX2_ending_18 : decode cX2_ending 18 = .ok (.invokevirtual 277, 3) := dk_182 1 21 (dk_at dksX2_ending_0 18 rfl rfl)
theorem dX2_ending_21 : decode cX2_ending 21 = .ok (.if_icmp .ge 5, 3) := dk_162 0 5 (dk_at dksX2_ending_0 21 rfl rfl)
theorem dX2_ending_24 : decode cX2_ending 24 = .ok (.iconst (-1), 1) := dk_2 (dk_at dksX2_ending_1 0 rfl rfl)
theorem dX2_ending_25 : decode cX2_ending 25 = .ok (.ireturn, 1) := dk_172 (dk_at dksX2_ending_1 1 rfl rfl)
theorem dX2_ending_26 : decode cX2_ending 26 = .ok (.aload_n 0, 1) := dk_42 (dk_at dksX2_ending_1 2 rfl rfl)
theorem dX2_ending_27 : decode cX2_ending 27 = .ok (.invokevirtual 371, 3) := dk_182 1 115 (dk_at dksX2_ending_1 3 rfl rfl)
theorem dX2_ending_30 : decode cX2_ending 30 = .ok (.aload_n 0, 1) := dk_42 (dk_at dksX2_ending_1 6 rfl rfl)
theorem dX2_ending_31 : decode cX2_ending 31 = .ok (.iload_n 1, 1) := dk_27 (dk_at dksX2_ending_1 7 rfl rfl)
theorem dX2_ending_32 : decode cX2_ending 32 = .ok (.invokevirtual 280, 3) := dk_182 1 24 (dk_at dksX2_ending_1 8 rfl rfl)
theorem dX2_ending_35 : decode cX2_ending 35 = .ok (.istore_n 3, 1) := dk_62 (dk_at dksX2_ending_1 11 rfl rfl)
theorem dX2_ending_36 : decode cX2_ending 36 = .ok (.aload_n 0, 1) := dk_42 (dk_at dksX2_ending_1 12 rfl rfl)
theorem dX2_ending_37 : decode cX2_ending 37 = .ok (.getfield 13, 3) := dk_180 0 13 (dk_at dksX2_ending_1 13 rfl rfl)
theorem dX2_ending_40 : decode cX2_ending 40 = .ok (.bipush 18, 2) := dk_16 18 (dk_at dksX2_ending_1 16 rfl rfl)
theorem dX2_ending_42 : decode cX2_ending 42 = .ok (.iload_n 1, 1) := dk_27 (dk_at dksX2_ending_1 18 rfl rfl)
theorem dX2_ending_43 : decode cX2_ending 43 = .ok (.iadd, 1) := dk_96 (dk_at dksX2_ending_1 19 rfl rfl)
theorem dX2_ending_44 : decode cX2_ending 44 = .ok (.iload_n 2, 1) := dk_28 (dk_at dksX2_ending_1 20 rfl rfl)
theorem dX2_ending_45 : decode cX2_ending 45 = .ok (.iastore, 1) := dk_79 (dk_at dksX2_ending_1 21 rfl rfl)
theorem dX2_ending_46 : decode cX2_ending 46 = .ok (.aload_n 0, 1) := dk_42 (dk_at dksX2_ending_1 22 rfl rfl)
theorem dX2_ending_47 : decode cX2_ending 47 = .ok (.iconst 0, 1) := dk_3 (dk_at dksX2_ending_1 23 rfl rfl)
theorem dX2_ending_48 : decode cX2_ending 48 = .ok (.invokevirtual 374, 3) := dk_182 1 118 (dk_at dksX2_ending_2 0 rfl rfl)
theorem dX2_ending_51 : decode cX2_ending 51 = .ok (.istore 4, 2) := dk_54 4 (dk_at dksX2_ending_2 3 rfl rfl)
theorem dX2_ending_53 : decode cX2_ending 53 = .ok (.aload_n 0, 1) := dk_42 (dk_at dksX2_ending_2 5 rfl rfl)
theorem dX2_ending_54 : decode cX2_ending 54 = .ok (.getfield 13, 3) := dk_180 0 13 (dk_at dksX2_ending_2 6 rfl rfl)
theorem dX2_ending_57 : decode cX2_ending 57 = .ok (.bipush 18, 2) := dk_16 18 (dk_at dksX2_ending_2 9 rfl rfl)
theorem dX2_ending_59 : decode cX2_ending 59 = .ok (.iload_n 1, 1) := dk_27 (dk_at dksX2_ending_2 11 rfl rfl)
theorem dX2_ending_60 : decode cX2_ending 60 = .ok (.iadd, 1) := dk_96 (dk_at dksX2_ending_2 12 rfl rfl)
theorem dX2_ending_61 : decode cX2_ending 61 = .ok (.iload_n 3, 1) := dk_29 (dk_at dksX2_ending_2 13 rfl rfl)
theorem dX2_ending_62 : decode cX2_ending 62 = .ok (.iastore, 1) := dk_79 (dk_at dksX2_ending_2 14 rfl rfl)
theorem dX2_ending_63 : decode cX2_ending 63 = .ok (.iload 4, 2) := dk_21 4 (dk_at dksX2_ending_2 15 rfl rfl)
theorem dX2_ending_65 : decode cX2_ending 65 = .ok (.ireturn, 1) := dk_172 (dk_at dksX2_ending_2 17 rfl rfl)
abbrev cX2_isDay : ByteArray := prog_12_method_45_code
def yX2_isDay : MethodName := ⟨RX2, "isDay", "(I)Z"⟩
def dkwX2_isDay_0 : List UInt8 := [26, 3, 17, 39, 15, 184, 0, 93, 172]
abbrev dktX2_isDay_0 : List UInt8 := dkwX2_isDay_0 ++ []
theorem dksX2_isDay_0 : cX2_isDay.data.toList.drop 0 = dktX2_isDay_0 := by decide +kernel
theorem dX2_isDay_0 : decode cX2_isDay 0 = .ok (.iload_n 0, 1) := dk_26 (dk_at dksX2_isDay_0 0 rfl rfl)
theorem dX2_isDay_1 : decode cX2_isDay 1 = .ok (.iconst 0, 1) := dk_3 (dk_at dksX2_isDay_0 1 rfl rfl)
theorem dX2_isDay_2 : decode cX2_isDay 2 = .ok (.sipush 9999, 3) := dk_17 39 15 (dk_at dksX2_isDay_0 2 rfl rfl)
theorem dX2_isDay_5 : decode cX2_isDay 5 = .ok (.invokestatic 93, 3) := dk_184 0 93 (dk_at dksX2_isDay_0 5 rfl rfl)
theorem dX2_isDay_8 : decode cX2_isDay 8 = .ok (.ireturn, 1) := dk_172 (dk_at dksX2_isDay_0 8 rfl rfl)
abbrev cX2_bar : ByteArray := prog_12_method_109_code
def yX2_bar : MethodName := ⟨RX2, "bar", "(II)I"⟩
def dkwX2_bar_2 : List UInt8 := [180, 1, 145, 172]
abbrev dktX2_bar_2 : List UInt8 := dkwX2_bar_2 ++ []
def dkwX2_bar_1 : List UInt8 := [28, 154, 0, 10, 42, 180, 1, 139, 167, 0, 19, 28, 4, 160, 0, 10, 42, 180, 1, 142, 167, 0, 7, 42]
abbrev dktX2_bar_1 : List UInt8 := dkwX2_bar_1 ++ dktX2_bar_2
def dkwX2_bar_0 : List UInt8 := [42, 27, 182, 1, 171, 153, 0, 12, 28, 3, 5, 184, 0, 93, 154, 0, 5, 2, 172, 42, 27, 182, 1, 168]
abbrev dktX2_bar_0 : List UInt8 := dkwX2_bar_0 ++ dktX2_bar_1
theorem dksX2_bar_0 : cX2_bar.data.toList.drop 0 = dktX2_bar_0 := by decide +kernel
theorem dksX2_bar_1 : cX2_bar.data.toList.drop 24 = dktX2_bar_1 := dk_seg dksX2_bar_0 24 rfl rfl
theorem dksX2_bar_2 : cX2_bar.data.toList.drop 48 = dktX2_bar_2 := dk_seg dksX2_bar_1 24 rfl rfl
theorem dX2_bar_0 : decode cX2_bar 0 = .ok (.aload_n 0, 1) := dk_42 (dk_at dksX2_bar_0 0 rfl rfl)
theorem dX2_bar_1 : decode cX2_bar 1 = .ok (.iload_n 1, 1) := dk_27 (dk_at dksX2_bar_0 1 rfl rfl)
theorem dX2_bar_2 : decode cX2_bar 2 = .ok (.invokevirtual 427, 3) := dk_182 1 171 (dk_at dksX2_bar_0 2 rfl rfl)
theorem dX2_bar_5 : decode cX2_bar 5 = .ok (.ifCond .eq 12, 3) := dk_153 0 12 (dk_at dksX2_bar_0 5 rfl rfl)
theorem dX2_bar_8 : decode cX2_bar 8 = .ok (.iload_n 2, 1) := dk_28 (dk_at dksX2_bar_0 8 rfl rfl)
theorem dX2_bar_9 : decode cX2_bar 9 = .ok (.iconst 0, 1) := dk_3 (dk_at dksX2_bar_0 9 rfl rfl)
theorem dX2_bar_10 : decode cX2_bar 10 = .ok (.iconst 2, 1) := dk_5 (dk_at dksX2_bar_0 10 rfl rfl)
theorem dX2_bar_11 : decode cX2_bar 11 = .ok (.invokestatic 93, 3) := dk_184 0 93 (dk_at dksX2_bar_0 11 rfl rfl)
theorem dX2_bar_14 : decode cX2_bar 14 = .ok (.ifCond .ne 5, 3) := dk_154 0 5 (dk_at dksX2_bar_0 14 rfl rfl)
theorem dX2_bar_17 : decode cX2_bar 17 = .ok (.iconst (-1), 1) := dk_2 (dk_at dksX2_bar_0 17 rfl rfl)
theorem dX2_bar_18 : decode cX2_bar 18 = .ok (.ireturn, 1) := dk_172 (dk_at dksX2_bar_0 18 rfl rfl)
theorem dX2_bar_19 : decode cX2_bar 19 = .ok (.aload_n 0, 1) := dk_42 (dk_at dksX2_bar_0 19 rfl rfl)
theorem dX2_bar_20 : decode cX2_bar 20 = .ok (.iload_n 1, 1) := dk_27 (dk_at dksX2_bar_0 20 rfl rfl)
theorem dX2_bar_21 : decode cX2_bar 21 = .ok (.invokevirtual 424, 3) := dk_182 1 168 (dk_at dksX2_bar_0 21 rfl rfl)
theorem dX2_bar_24 : decode cX2_bar 24 = .ok (.iload_n 2, 1) := dk_28 (dk_at dksX2_bar_1 0 rfl rfl)
theorem dX2_bar_25 : decode cX2_bar 25 = .ok (.ifCond .ne 10, 3) := dk_154 0 10 (dk_at dksX2_bar_1 1 rfl rfl)
theorem dX2_bar_28 : decode cX2_bar 28 = .ok (.aload_n 0, 1) := dk_42 (dk_at dksX2_bar_1 4 rfl rfl)
theorem dX2_bar_29 : decode cX2_bar 29 = .ok (.getfield 395, 3) := dk_180 1 139 (dk_at dksX2_bar_1 5 rfl rfl)
theorem dX2_bar_32 : decode cX2_bar 32 = .ok (.goto 19, 3) := dk_167 0 19 (dk_at dksX2_bar_1 8 rfl rfl)
theorem dX2_bar_35 : decode cX2_bar 35 = .ok (.iload_n 2, 1) := dk_28 (dk_at dksX2_bar_1 11 rfl rfl)
theorem dX2_bar_36 : decode cX2_bar 36 = .ok (.iconst 1, 1) := dk_4 (dk_at dksX2_bar_1 12 rfl rfl)
theorem dX2_bar_37 : decode cX2_bar 37 = .ok (.if_icmp .ne 10, 3) := dk_160 0 10 (dk_at dksX2_bar_1 13 rfl rfl)
theorem dX2_bar_40 : decode cX2_bar 40 = .ok (.aload_n 0, 1) := dk_42 (dk_at dksX2_bar_1 16 rfl rfl)
theorem dX2_bar_41 : decode cX2_bar 41 = .ok (.getfield 398, 3) := dk_180 1 142 (dk_at dksX2_bar_1 17 rfl rfl)
theorem dX2_bar_44 : decode cX2_bar 44 = .ok (.goto 7, 3) := dk_167 0 7 (dk_at dksX2_bar_1 20 rfl rfl)
theorem dX2_bar_47 : decode cX2_bar 47 = .ok (.aload_n 0, 1) := dk_42 (dk_at dksX2_bar_1 23 rfl rfl)
theorem dX2_bar_48 : decode cX2_bar 48 = .ok (.getfield 401, 3) := dk_180 1 145 (dk_at dksX2_bar_2 0 rfl rfl)
theorem dX2_bar_51 : decode cX2_bar 51 = .ok (.ireturn, 1) := dk_172 (dk_at dksX2_bar_2 3 rfl rfl)
abbrev cX2_isClaim : ByteArray := prog_12_method_41_code
def yX2_isClaim : MethodName := ⟨RX2, "isClaim", "(I)Z"⟩
def dkwX2_isClaim_0 : List UInt8 := [27, 3, 42, 180, 0, 22, 6, 46, 4, 100, 184, 0, 93, 172]
abbrev dktX2_isClaim_0 : List UInt8 := dkwX2_isClaim_0 ++ []
theorem dksX2_isClaim_0 : cX2_isClaim.data.toList.drop 0 = dktX2_isClaim_0 := by decide +kernel
theorem dX2_isClaim_0 : decode cX2_isClaim 0 = .ok (.iload_n 1, 1) := dk_27 (dk_at dksX2_isClaim_0 0 rfl rfl)
theorem dX2_isClaim_1 : decode cX2_isClaim 1 = .ok (.iconst 0, 1) := dk_3 (dk_at dksX2_isClaim_0 1 rfl rfl)
theorem dX2_isClaim_2 : decode cX2_isClaim 2 = .ok (.aload_n 0, 1) := dk_42 (dk_at dksX2_isClaim_0 2 rfl rfl)
theorem dX2_isClaim_3 : decode cX2_isClaim 3 = .ok (.getfield 22, 3) := dk_180 0 22 (dk_at dksX2_isClaim_0 3 rfl rfl)
theorem dX2_isClaim_6 : decode cX2_isClaim 6 = .ok (.iconst 3, 1) := dk_6 (dk_at dksX2_isClaim_0 6 rfl rfl)
theorem dX2_isClaim_7 : decode cX2_isClaim 7 = .ok (.iaload, 1) := dk_46 (dk_at dksX2_isClaim_0 7 rfl rfl)
theorem dX2_isClaim_8 : decode cX2_isClaim 8 = .ok (.iconst 1, 1) := dk_4 (dk_at dksX2_isClaim_0 8 rfl rfl)
theorem dX2_isClaim_9 : decode cX2_isClaim 9 = .ok (.isub, 1) := dk_100 (dk_at dksX2_isClaim_0 9 rfl rfl)
theorem dX2_isClaim_10 : decode cX2_isClaim 10 = .ok (.invokestatic 93, 3) := dk_184 0 93 (dk_at dksX2_isClaim_0 10 rfl rfl)
theorem dX2_isClaim_13 : decode cX2_isClaim 13 = .ok (.ireturn, 1) := dk_172 (dk_at dksX2_isClaim_0 13 rfl rfl)
abbrev cX2_bars : ByteArray := prog_12_method_110_code
def yX2_bars : MethodName := ⟨RX2, "bars", "(II)I"⟩
def dkwX2_bars_3 : List UInt8 := [167, 0, 4, 4, 172]
abbrev dktX2_bars_3 : List UInt8 := dkwX2_bars_3 ++ []
def dkwX2_bars_2 : List UInt8 := [46, 184, 1, 136, 154, 0, 5, 3, 172, 42, 42, 27, 182, 1, 162, 29, 28, 182, 1, 130, 153, 0, 7, 5]
abbrev dktX2_bars_2 : List UInt8 := dkwX2_bars_2 ++ dktX2_bars_3
def dkwX2_bars_1 : List UInt8 := [62, 42, 29, 28, 182, 1, 127, 153, 0, 24, 42, 28, 5, 182, 1, 124, 42, 180, 0, 22, 16, 35, 27, 96]
abbrev dktX2_bars_1 : List UInt8 := dkwX2_bars_1 ++ dktX2_bars_2
def dkwX2_bars_0 : List UInt8 := [42, 27, 182, 1, 171, 153, 0, 11, 42, 28, 182, 1, 174, 154, 0, 5, 2, 172, 42, 27, 3, 182, 1, 112]
abbrev dktX2_bars_0 : List UInt8 := dkwX2_bars_0 ++ dktX2_bars_1
theorem dksX2_bars_0 : cX2_bars.data.toList.drop 0 = dktX2_bars_0 := by decide +kernel
theorem dksX2_bars_1 : cX2_bars.data.toList.drop 24 = dktX2_bars_1 := dk_seg dksX2_bars_0 24 rfl rfl
theorem dksX2_bars_2 : cX2_bars.data.toList.drop 48 = dktX2_bars_2 := dk_seg dksX2_bars_1 24 rfl rfl
theorem dksX2_bars_3 : cX2_bars.data.toList.drop 72 = dktX2_bars_3 := dk_seg dksX2_bars_2 24 rfl rfl
theorem dX2_bars_0 : decode cX2_bars 0 = .ok (.aload_n 0, 1) := dk_42 (dk_at dksX2_bars_0 0 rfl rfl)
theorem dX2_bars_1 : decode cX2_bars 1 = .ok (.iload_n 1, 1) := dk_27 (dk_at dksX2_bars_0 1 rfl rfl)
theorem dX2_bars_2 : decode cX2_bars 2 = .ok (.invokevirtual 427, 3) := dk_182 1 171 (dk_at dksX2_bars_0 2 rfl rfl)
theorem dX2_bars_5 : decode cX2_bars 5 = .ok (.ifCond .eq 11, 3) := dk_153 0 11 (dk_at dksX2_bars_0 5 rfl rfl)
theorem dX2_bars_8 : decode cX2_bars 8 = .ok (.aload_n 0, 1) := dk_42 (dk_at dksX2_bars_0 8 rfl rfl)
theorem dX2_bars_9 : decode cX2_bars 9 = .ok (.iload_n 2, 1) := dk_28 (dk_at dksX2_bars_0 9 rfl rfl)
theorem dX2_bars_10 : decode cX2_bars 10 = .ok (.invokevirtual 430, 3) := dk_182 1 174 (dk_at dksX2_bars_0 10 rfl rfl)
theorem dX2_bars_13 : decode cX2_bars 13 = .ok (.ifCond .ne 5, 3) := dk_154 0 5 (dk_at dksX2_bars_0 13 rfl rfl)
theorem dX2_bars_16 : decode cX2_bars 16 = .ok (.iconst (-1), 1) := dk_2 (dk_at dksX2_bars_0 16 rfl rfl)
theorem dX2_bars_17 : decode cX2_bars 17 = .ok (.ireturn, 1) := dk_172 (dk_at dksX2_bars_0 17 rfl rfl)
theorem dX2_bars_18 : decode cX2_bars 18 = .ok (.aload_n 0, 1) := dk_42 (dk_at dksX2_bars_0 18 rfl rfl)
theorem dX2_bars_19 : decode cX2_bars 19 = .ok (.iload_n 1, 1) := dk_27 (dk_at dksX2_bars_0 19 rfl rfl)
theorem dX2_bars_20 : decode cX2_bars 20 = .ok (.iconst 0, 1) := dk_3 (dk_at dksX2_bars_0 20 rfl rfl)
theorem dX2_bars_21 : decode cX2_bars 21 = .ok (.invokevirtual 368, 3) := dk_182 1 112 (dk_at dksX2_bars_0 21 rfl rfl)
theorem dX2_bars_24 : decode cX2_bars 24 = .ok (.istore_n 3, 1) := dk_62 (dk_at dksX2_bars_1 0 rfl rfl)
theorem dX2_bars_25 : decode cX2_bars 25 = .ok (.aload_n 0, 1) := dk_42 (dk_at dksX2_bars_1 1 rfl rfl)
theorem dX2_bars_26 : decode cX2_bars 26 = .ok (.iload_n 3, 1) := dk_29 (dk_at dksX2_bars_1 2 rfl rfl)
theorem dX2_bars_27 : decode cX2_bars 27 = .ok (.iload_n 2, 1) := dk_28 (dk_at dksX2_bars_1 3 rfl rfl)
theorem dX2_bars_28 : decode cX2_bars 28 = .ok (.invokevirtual 383, 3) := dk_182 1 127 (dk_at dksX2_bars_1 4 rfl rfl)
theorem dX2_bars_31 : decode cX2_bars 31 = .ok (.ifCond .eq 24, 3) := dk_153 0 24 (dk_at dksX2_bars_1 7 rfl rfl)
theorem dX2_bars_34 : decode cX2_bars 34 = .ok (.aload_n 0, 1) := dk_42 (dk_at dksX2_bars_1 10 rfl rfl)
theorem dX2_bars_35 : decode cX2_bars 35 = .ok (.iload_n 2, 1) := dk_28 (dk_at dksX2_bars_1 11 rfl rfl)
theorem dX2_bars_36 : decode cX2_bars 36 = .ok (.iconst 2, 1) := dk_5 (dk_at dksX2_bars_1 12 rfl rfl)
theorem dX2_bars_37 : decode cX2_bars 37 = .ok (.invokevirtual 380, 3) := dk_182 1 124 (dk_at dksX2_bars_1 13 rfl rfl)
theorem dX2_bars_40 : decode cX2_bars 40 = .ok (.aload_n 0, 1) := dk_42 (dk_at dksX2_bars_1 16 rfl rfl)
theorem dX2_bars_41 : decode cX2_bars 41 = .ok (.getfield 22, 3) := dk_180 0 22 (dk_at dksX2_bars_1 17 rfl rfl)
theorem dX2_bars_44 : decode cX2_bars 44 = .ok (.bipush 35, 2) := dk_16 35 (dk_at dksX2_bars_1 20 rfl rfl)
theorem dX2_bars_46 : decode cX2_bars 46 = .ok (.iload_n 1, 1) := dk_27 (dk_at dksX2_bars_1 22 rfl rfl)
theorem dX2_bars_47 : decode cX2_bars 47 = .ok (.iadd, 1) := dk_96 (dk_at dksX2_bars_1 23 rfl rfl)
theorem dX2_bars_48 : decode cX2_bars 48 = .ok (.iaload, 1) := dk_46 (dk_at dksX2_bars_2 0 rfl rfl)
theorem dX2_bars_49 : decode cX2_bars 49 = .ok (.invokestatic 392, 3) := dk_184 1 136 (dk_at dksX2_bars_2 1 rfl rfl)
theorem dX2_bars_52 : decode cX2_bars 52 = .ok (.ifCond .ne 5, 3) := dk_154 0 5 (dk_at dksX2_bars_2 4 rfl rfl)
theorem dX2_bars_55 : decode cX2_bars 55 = .ok (.iconst 0, 1) := dk_3 (dk_at dksX2_bars_2 7 rfl rfl)
theorem dX2_bars_56 : decode cX2_bars 56 = .ok (.ireturn, 1) := dk_172 (dk_at dksX2_bars_2 8 rfl rfl)
theorem dX2_bars_57 : decode cX2_bars 57 = .ok (.aload_n 0, 1) := dk_42 (dk_at dksX2_bars_2 9 rfl rfl)
theorem dX2_bars_58 : decode cX2_bars 58 = .ok (.aload_n 0, 1) := dk_42 (dk_at dksX2_bars_2 10 rfl rfl)
theorem dX2_bars_59 : decode cX2_bars 59 = .ok (.iload_n 1, 1) := dk_27 (dk_at dksX2_bars_2 11 rfl rfl)
theorem dX2_bars_60 : decode cX2_bars 60 = .ok (.invokevirtual 418, 3) := dk_182 1 162 (dk_at dksX2_bars_2 12 rfl rfl)
theorem dX2_bars_63 : decode cX2_bars 63 = .ok (.iload_n 3, 1) := dk_29 (dk_at dksX2_bars_2 15 rfl rfl)
theorem dX2_bars_64 : decode cX2_bars 64 = .ok (.iload_n 2, 1) := dk_28 (dk_at dksX2_bars_2 16 rfl rfl)
theorem dX2_bars_65 : decode cX2_bars 65 = .ok (.invokevirtual 386, 3) := dk_182 1 130 (dk_at dksX2_bars_2 17 rfl rfl)
theorem dX2_bars_68 : decode cX2_bars 68 = .ok (.ifCond .eq 7, 3) := dk_153 0 7 (dk_at dksX2_bars_2 20 rfl rfl)
theorem dX2_bars_71 : decode cX2_bars 71 = .ok (.iconst 2, 1) := dk_5 (dk_at dksX2_bars_2 23 rfl rfl)
theorem dX2_bars_72 : decode cX2_bars 72 = .ok (.goto 4, 3) := dk_167 0 4 (dk_at dksX2_bars_3 0 rfl rfl)
theorem dX2_bars_75 : decode cX2_bars 75 = .ok (.iconst 1, 1) := dk_4 (dk_at dksX2_bars_3 3 rfl rfl)
theorem dX2_bars_76 : decode cX2_bars 76 = .ok (.ireturn, 1) := dk_172 (dk_at dksX2_bars_3 4 rfl rfl)
abbrev cX2_isThing : ByteArray := prog_12_method_43_code
def yX2_isThing : MethodName := ⟨RX2, "isThing", "(I)Z"⟩
def dkwX2_isThing_0 : List UInt8 := [27, 3, 42, 180, 0, 13, 17, 1, 61, 46, 4, 100, 184, 0, 93, 172]
abbrev dktX2_isThing_0 : List UInt8 := dkwX2_isThing_0 ++ []
theorem dksX2_isThing_0 : cX2_isThing.data.toList.drop 0 = dktX2_isThing_0 := by decide +kernel
theorem dX2_isThing_0 : decode cX2_isThing 0 = .ok (.iload_n 1, 1) := dk_27 (dk_at dksX2_isThing_0 0 rfl rfl)
theorem dX2_isThing_1 : decode cX2_isThing 1 = .ok (.iconst 0, 1) := dk_3 (dk_at dksX2_isThing_0 1 rfl rfl)
theorem dX2_isThing_2 : decode cX2_isThing 2 = .ok (.aload_n 0, 1) := dk_42 (dk_at dksX2_isThing_0 2 rfl rfl)
theorem dX2_isThing_3 : decode cX2_isThing 3 = .ok (.getfield 13, 3) := dk_180 0 13 (dk_at dksX2_isThing_0 3 rfl rfl)
theorem dX2_isThing_6 : decode cX2_isThing 6 = .ok (.sipush 317, 3) := dk_17 1 61 (dk_at dksX2_isThing_0 6 rfl rfl)
theorem dX2_isThing_9 : decode cX2_isThing 9 = .ok (.iaload, 1) := dk_46 (dk_at dksX2_isThing_0 9 rfl rfl)
theorem dX2_isThing_10 : decode cX2_isThing 10 = .ok (.iconst 1, 1) := dk_4 (dk_at dksX2_isThing_0 10 rfl rfl)
theorem dX2_isThing_11 : decode cX2_isThing 11 = .ok (.isub, 1) := dk_100 (dk_at dksX2_isThing_0 11 rfl rfl)
theorem dX2_isThing_12 : decode cX2_isThing 12 = .ok (.invokestatic 93, 3) := dk_184 0 93 (dk_at dksX2_isThing_0 12 rfl rfl)
theorem dX2_isThing_15 : decode cX2_isThing 15 = .ok (.ireturn, 1) := dk_172 (dk_at dksX2_isThing_0 15 rfl rfl)
abbrev cX2_graced : ByteArray := prog_12_method_111_code
def yX2_graced : MethodName := ⟨RX2, "graced", "(I)I"⟩
def dkwX2_graced_4 : List UInt8 := [4, 21, 4, 120, 128, 167, 0, 4, 29, 62, 132, 4, 1, 167, 255, 170, 29, 172]
abbrev dktX2_graced_4 : List UInt8 := dkwX2_graced_4 ++ []
def dkwX2_graced_3 : List UInt8 := [16, 35, 27, 96, 46, 184, 1, 136, 153, 0, 7, 4, 167, 0, 4, 3, 54, 5, 21, 5, 153, 0, 12, 29]
abbrev dktX2_graced_3 : List UInt8 := dkwX2_graced_3 ++ dktX2_graced_4
def dkwX2_graced_2 : List UInt8 := [182, 1, 162, 28, 21, 4, 182, 1, 130, 153, 0, 29, 42, 21, 4, 5, 182, 1, 124, 42, 180, 0, 22]
abbrev dktX2_graced_2 : List UInt8 := dkwX2_graced_2 ++ dktX2_graced_3
def dkwX2_graced_1 : List UInt8 := [42, 180, 0, 13, 17, 1, 61, 46, 162, 0, 79, 42, 28, 21, 4, 182, 1, 127, 153, 0, 44, 42, 42, 27]
abbrev dktX2_graced_1 : List UInt8 := dkwX2_graced_1 ++ dktX2_graced_2
def dkwX2_graced_0 : List UInt8 := [42, 27, 182, 1, 171, 154, 0, 5, 2, 172, 42, 27, 3, 182, 1, 112, 61, 3, 62, 3, 54, 4, 21, 4]
abbrev dktX2_graced_0 : List UInt8 := dkwX2_graced_0 ++ dktX2_graced_1
theorem dksX2_graced_0 : cX2_graced.data.toList.drop 0 = dktX2_graced_0 := by decide +kernel
theorem dksX2_graced_1 : cX2_graced.data.toList.drop 24 = dktX2_graced_1 := dk_seg dksX2_graced_0 24 rfl rfl
theorem dksX2_graced_2 : cX2_graced.data.toList.drop 48 = dktX2_graced_2 := dk_seg dksX2_graced_1 24 rfl rfl
theorem dksX2_graced_3 : cX2_graced.data.toList.drop 71 = dktX2_graced_3 := dk_seg dksX2_graced_2 23 rfl rfl
theorem dksX2_graced_4 : cX2_graced.data.toList.drop 95 = dktX2_graced_4 := dk_seg dksX2_graced_3 24 rfl rfl
theorem dX2_graced_0 : decode cX2_graced 0 = .ok (.aload_n 0, 1) := dk_42 (dk_at dksX2_graced_0 0 rfl rfl)
theorem dX2_graced_1 : decode cX2_graced 1 = .ok (.iload_n 1, 1) := dk_27 (dk_at dksX2_graced_0 1 rfl rfl)
theorem dX2_graced_2 : decode cX2_graced 2 = .ok (.invokevirtual 427, 3) := dk_182 1 171 (dk_at dksX2_graced_0 2 rfl rfl)
theorem dX2_graced_5 : decode cX2_graced 5 = .ok (.ifCond .ne 5, 3) := dk_154 0 5 (dk_at dksX2_graced_0 5 rfl rfl)
theorem dX2_graced_8 : decode cX2_graced 8 = .ok (.iconst (-1), 1) := dk_2 (dk_at dksX2_graced_0 8 rfl rfl)
theorem dX2_graced_9 : decode cX2_graced 9 = .ok (.ireturn, 1) := dk_172 (dk_at dksX2_graced_0 9 rfl rfl)
theorem dX2_graced_10 : decode cX2_graced 10 = .ok (.aload_n 0, 1) := dk_42 (dk_at dksX2_graced_0 10 rfl rfl)
theorem dX2_graced_11 : decode cX2_graced 11 = .ok (.iload_n 1, 1) := dk_27 (dk_at dksX2_graced_0 11 rfl rfl)
theorem dX2_graced_12 : decode cX2_graced 12 = .ok (.iconst 0, 1) := dk_3 (dk_at dksX2_graced_0 12 rfl rfl)
theorem dX2_graced_13 : decode cX2_graced 13 = .ok (.invokevirtual 368, 3) := dk_182 1 112 (dk_at dksX2_graced_0 13 rfl rfl)
theorem dX2_graced_16 : decode cX2_graced 16 = .ok (.istore_n 2, 1) := dk_61 (dk_at dksX2_graced_0 16 rfl rfl)
theorem dX2_graced_17 : decode cX2_graced 17 = .ok (.iconst 0, 1) := dk_3 (dk_at dksX2_graced_0 17 rfl rfl)
theorem dX2_graced_18 : decode cX2_graced 18 = .ok (.istore_n 3, 1) := dk_62 (dk_at dksX2_graced_0 18 rfl rfl)
theorem dX2_graced_19 : decode cX2_graced 19 = .ok (.iconst 0, 1) := dk_3 (dk_at dksX2_graced_0 19 rfl rfl)
theorem dX2_graced_20 : decode cX2_graced 20 = .ok (.istore 4, 2) := dk_54 4 (dk_at dksX2_graced_0 20 rfl rfl)
theorem dX2_graced_22 : decode cX2_graced 22 = .ok (.iload 4, 2) := dk_21 4 (dk_at dksX2_graced_0 22 rfl rfl)
theorem dX2_graced_24 : decode cX2_graced 24 = .ok (.aload_n 0, 1) := dk_42 (dk_at dksX2_graced_1 0 rfl rfl)
theorem dX2_graced_25 : decode cX2_graced 25 = .ok (.getfield 13, 3) := dk_180 0 13 (dk_at dksX2_graced_1 1 rfl rfl)
theorem dX2_graced_28 : decode cX2_graced 28 = .ok (.sipush 317, 3) := dk_17 1 61 (dk_at dksX2_graced_1 4 rfl rfl)
theorem dX2_graced_31 : decode cX2_graced 31 = .ok (.iaload, 1) := dk_46 (dk_at dksX2_graced_1 7 rfl rfl)
theorem dX2_graced_32 : decode cX2_graced 32 = .ok (.if_icmp .ge 79, 3) := dk_162 0 79 (dk_at dksX2_graced_1 8 rfl rfl)
theorem dX2_graced_35 : decode cX2_graced 35 = .ok (.aload_n 0, 1) := dk_42 (dk_at dksX2_graced_1 11 rfl rfl)
theorem dX2_graced_36 : decode cX2_graced 36 = .ok (.iload_n 2, 1) := dk_28 (dk_at dksX2_graced_1 12 rfl rfl)
theorem dX2_graced_37 : decode cX2_graced 37 = .ok (.iload 4, 2) := dk_21 4 (dk_at dksX2_graced_1 13 rfl rfl)
theorem dX2_graced_39 : decode cX2_graced 39 = .ok (.invokevirtual 383, 3) := dk_182 1 127 (dk_at dksX2_graced_1 15 rfl rfl)
theorem dX2_graced_42 : decode cX2_graced 42 = .ok (.ifCond .eq 44, 3) := dk_153 0 44 (dk_at dksX2_graced_1 18 rfl rfl)
theorem dX2_graced_45 : decode cX2_graced 45 = .ok (.aload_n 0, 1) := dk_42 (dk_at dksX2_graced_1 21 rfl rfl)
theorem dX2_graced_46 : decode cX2_graced 46 = .ok (.aload_n 0, 1) := dk_42 (dk_at dksX2_graced_1 22 rfl rfl)
theorem dX2_graced_47 : decode cX2_graced 47 = .ok (.iload_n 1, 1) := dk_27 (dk_at dksX2_graced_1 23 rfl rfl)
theorem dX2_graced_48 : decode cX2_graced 48 = .ok (.invokevirtual 418, 3) := dk_182 1 162 (dk_at dksX2_graced_2 0 rfl rfl)
theorem dX2_graced_51 : decode cX2_graced 51 = .ok (.iload_n 2, 1) := dk_28 (dk_at dksX2_graced_2 3 rfl rfl)
theorem dX2_graced_52 : decode cX2_graced 52 = .ok (.iload 4, 2) := dk_21 4 (dk_at dksX2_graced_2 4 rfl rfl)
theorem dX2_graced_54 : decode cX2_graced 54 = .ok (.invokevirtual 386, 3) := dk_182 1 130 (dk_at dksX2_graced_2 6 rfl rfl)
theorem dX2_graced_57 : decode cX2_graced 57 = .ok (.ifCond .eq 29, 3) := dk_153 0 29 (dk_at dksX2_graced_2 9 rfl rfl)
theorem dX2_graced_60 : decode cX2_graced 60 = .ok (.aload_n 0, 1) := dk_42 (dk_at dksX2_graced_2 12 rfl rfl)
theorem dX2_graced_61 : decode cX2_graced 61 = .ok (.iload 4, 2) := dk_21 4 (dk_at dksX2_graced_2 13 rfl rfl)
theorem dX2_graced_63 : decode cX2_graced 63 = .ok (.iconst 2, 1) := dk_5 (dk_at dksX2_graced_2 15 rfl rfl)
theorem dX2_graced_64 : decode cX2_graced 64 = .ok (.invokevirtual 380, 3) := dk_182 1 124 (dk_at dksX2_graced_2 16 rfl rfl)
theorem dX2_graced_67 : decode cX2_graced 67 = .ok (.aload_n 0, 1) := dk_42 (dk_at dksX2_graced_2 19 rfl rfl)
theorem dX2_graced_68 : decode cX2_graced 68 = .ok (.getfield 22, 3) := dk_180 0 22 (dk_at dksX2_graced_2 20 rfl rfl)
theorem dX2_graced_71 : decode cX2_graced 71 = .ok (.bipush 35, 2) := dk_16 35 (dk_at dksX2_graced_3 0 rfl rfl)
theorem dX2_graced_73 : decode cX2_graced 73 = .ok (.iload_n 1, 1) := dk_27 (dk_at dksX2_graced_3 2 rfl rfl)
theorem dX2_graced_74 : decode cX2_graced 74 = .ok (.iadd, 1) := dk_96 (dk_at dksX2_graced_3 3 rfl rfl)
theorem dX2_graced_75 : decode cX2_graced 75 = .ok (.iaload, 1) := dk_46 (dk_at dksX2_graced_3 4 rfl rfl)
theorem dX2_graced_76 : decode cX2_graced 76 = .ok (.invokestatic 392, 3) := dk_184 1 136 (dk_at dksX2_graced_3 5 rfl rfl)
theorem dX2_graced_79 : decode cX2_graced 79 = .ok (.ifCond .eq 7, 3) := dk_153 0 7 (dk_at dksX2_graced_3 8 rfl rfl)
theorem dX2_graced_82 : decode cX2_graced 82 = .ok (.iconst 1, 1) := dk_4 (dk_at dksX2_graced_3 11 rfl rfl)
theorem dX2_graced_83 : decode cX2_graced 83 = .ok (.goto 4, 3) := dk_167 0 4 (dk_at dksX2_graced_3 12 rfl rfl)
theorem dX2_graced_86 : decode cX2_graced 86 = .ok (.iconst 0, 1) := dk_3 (dk_at dksX2_graced_3 15 rfl rfl)
theorem dX2_graced_87 : decode cX2_graced 87 = .ok (.istore 5, 2) := dk_54 5 (dk_at dksX2_graced_3 16 rfl rfl)
theorem dX2_graced_89 : decode cX2_graced 89 = .ok (.iload 5, 2) := dk_21 5 (dk_at dksX2_graced_3 18 rfl rfl)
theorem dX2_graced_91 : decode cX2_graced 91 = .ok (.ifCond .eq 12, 3) := dk_153 0 12 (dk_at dksX2_graced_3 20 rfl rfl)
theorem dX2_graced_94 : decode cX2_graced 94 = .ok (.iload_n 3, 1) := dk_29 (dk_at dksX2_graced_3 23 rfl rfl)
theorem dX2_graced_95 : decode cX2_graced 95 = .ok (.iconst 1, 1) := dk_4 (dk_at dksX2_graced_4 0 rfl rfl)
theorem dX2_graced_96 : decode cX2_graced 96 = .ok (.iload 4, 2) := dk_21 4 (dk_at dksX2_graced_4 1 rfl rfl)
theorem dX2_graced_98 : decode cX2_graced 98 = .ok (.ishl, 1) := dk_120 (dk_at dksX2_graced_4 3 rfl rfl)
theorem dX2_graced_99 : decode cX2_graced 99 = .ok (.ior, 1) := dk_128 (dk_at dksX2_graced_4 4 rfl rfl)
theorem dX2_graced_100 : decode cX2_graced 100 = .ok (.goto 4, 3) := dk_167 0 4 (dk_at dksX2_graced_4 5 rfl rfl)
theorem dX2_graced_103 : decode cX2_graced 103 = .ok (.iload_n 3, 1) := dk_29 (dk_at dksX2_graced_4 8 rfl rfl)
theorem dX2_graced_104 : decode cX2_graced 104 = .ok (.istore_n 3, 1) := dk_62 (dk_at dksX2_graced_4 9 rfl rfl)
theorem dX2_graced_105 : decode cX2_graced 105 = .ok (.iinc 4 1, 3) := dk_132 4 1 (dk_at dksX2_graced_4 10 rfl rfl)
theorem dX2_graced_108 : decode cX2_graced 108 = .ok (.goto (-86), 3) := dk_167 255 170 (dk_at dksX2_graced_4 13 rfl rfl)
theorem dX2_graced_111 : decode cX2_graced 111 = .ok (.iload_n 3, 1) := dk_29 (dk_at dksX2_graced_4 16 rfl rfl)
theorem dX2_graced_112 : decode cX2_graced 112 = .ok (.ireturn, 1) := dk_172 (dk_at dksX2_graced_4 17 rfl rfl)
abbrev cX2_claim : ByteArray := prog_12_method_114_code
def yX2_claim : MethodName := ⟨RX2, "claim", "(II)I"⟩
def dkwX2_claim_3 : List UInt8 := [182, 1, 112, 172, 42, 27, 182, 1, 180, 172, 42, 27, 182, 1, 168, 42, 180, 1, 139, 172, 2, 172]
abbrev dktX2_claim_3 : List UInt8 := dkwX2_claim_3 ++ []
def dkwX2_claim_2 : List UInt8 := [42, 180, 0, 22, 16, 19, 27, 96, 46, 172, 42, 180, 0, 22, 16, 35, 27, 96, 46, 172, 42, 27, 3]
abbrev dktX2_claim_2 : List UInt8 := dkwX2_claim_2 ++ dktX2_claim_3
def dkwX2_claim_1 : List UInt8 := [170, 0, 0, 0, 76, 0, 0, 0, 0, 0, 0, 0, 4, 0, 0, 0, 33, 0, 0, 0, 43, 0, 0, 0, 53, 0, 0, 0, 60, 0, 0, 0, 66]
abbrev dktX2_claim_1 : List UInt8 := dkwX2_claim_1 ++ dktX2_claim_2
def dkwX2_claim_0 : List UInt8 := [42, 27, 182, 1, 171, 154, 0, 5, 2, 172, 28]
abbrev dktX2_claim_0 : List UInt8 := dkwX2_claim_0 ++ dktX2_claim_1
theorem dksX2_claim_0 : cX2_claim.data.toList.drop 0 = dktX2_claim_0 := by decide +kernel
theorem dksX2_claim_1 : cX2_claim.data.toList.drop 11 = dktX2_claim_1 := dk_seg dksX2_claim_0 11 rfl rfl
theorem dksX2_claim_2 : cX2_claim.data.toList.drop 44 = dktX2_claim_2 := dk_seg dksX2_claim_1 33 rfl rfl
theorem dksX2_claim_3 : cX2_claim.data.toList.drop 67 = dktX2_claim_3 := dk_seg dksX2_claim_2 23 rfl rfl
theorem dX2_claim_0 : decode cX2_claim 0 = .ok (.aload_n 0, 1) := dk_42 (dk_at dksX2_claim_0 0 rfl rfl)
theorem dX2_claim_1 : decode cX2_claim 1 = .ok (.iload_n 1, 1) := dk_27 (dk_at dksX2_claim_0 1 rfl rfl)
theorem dX2_claim_2 : decode cX2_claim 2 = .ok (.invokevirtual 427, 3) := dk_182 1 171 (dk_at dksX2_claim_0 2 rfl rfl)
theorem dX2_claim_5 : decode cX2_claim 5 = .ok (.ifCond .ne 5, 3) := dk_154 0 5 (dk_at dksX2_claim_0 5 rfl rfl)
theorem dX2_claim_8 : decode cX2_claim 8 = .ok (.iconst (-1), 1) := dk_2 (dk_at dksX2_claim_0 8 rfl rfl)
theorem dX2_claim_9 : decode cX2_claim 9 = .ok (.ireturn, 1) := dk_172 (dk_at dksX2_claim_0 9 rfl rfl)
theorem dX2_claim_10 : decode cX2_claim 10 = .ok (.iload_n 2, 1) := dk_28 (dk_at dksX2_claim_0 10 rfl rfl)
theorem dX2_claim_11 : decode cX2_claim 11 = .ok (.tableswitch 76 0 4 #[33, 43, 53, 60, 66], 33) := by decide +kernel
theorem dX2_claim_44 : decode cX2_claim 44 = .ok (.aload_n 0, 1) := dk_42 (dk_at dksX2_claim_2 0 rfl rfl)
theorem dX2_claim_45 : decode cX2_claim 45 = .ok (.getfield 22, 3) := dk_180 0 22 (dk_at dksX2_claim_2 1 rfl rfl)
theorem dX2_claim_48 : decode cX2_claim 48 = .ok (.bipush 19, 2) := dk_16 19 (dk_at dksX2_claim_2 4 rfl rfl)
theorem dX2_claim_50 : decode cX2_claim 50 = .ok (.iload_n 1, 1) := dk_27 (dk_at dksX2_claim_2 6 rfl rfl)
theorem dX2_claim_51 : decode cX2_claim 51 = .ok (.iadd, 1) := dk_96 (dk_at dksX2_claim_2 7 rfl rfl)
theorem dX2_claim_52 : decode cX2_claim 52 = .ok (.iaload, 1) := dk_46 (dk_at dksX2_claim_2 8 rfl rfl)
theorem dX2_claim_53 : decode cX2_claim 53 = .ok (.ireturn, 1) := dk_172 (dk_at dksX2_claim_2 9 rfl rfl)
theorem dX2_claim_54 : decode cX2_claim 54 = .ok (.aload_n 0, 1) := dk_42 (dk_at dksX2_claim_2 10 rfl rfl)
theorem dX2_claim_55 : decode cX2_claim 55 = .ok (.getfield 22, 3) := dk_180 0 22 (dk_at dksX2_claim_2 11 rfl rfl)
theorem dX2_claim_58 : decode cX2_claim 58 = .ok (.bipush 35, 2) := dk_16 35 (dk_at dksX2_claim_2 14 rfl rfl)
theorem dX2_claim_60 : decode cX2_claim 60 = .ok (.iload_n 1, 1) := dk_27 (dk_at dksX2_claim_2 16 rfl rfl)
theorem dX2_claim_61 : decode cX2_claim 61 = .ok (.iadd, 1) := dk_96 (dk_at dksX2_claim_2 17 rfl rfl)
theorem dX2_claim_62 : decode cX2_claim 62 = .ok (.iaload, 1) := dk_46 (dk_at dksX2_claim_2 18 rfl rfl)
theorem dX2_claim_63 : decode cX2_claim 63 = .ok (.ireturn, 1) := dk_172 (dk_at dksX2_claim_2 19 rfl rfl)
theorem dX2_claim_64 : decode cX2_claim 64 = .ok (.aload_n 0, 1) := dk_42 (dk_at dksX2_claim_2 20 rfl rfl)
theorem dX2_claim_65 : decode cX2_claim 65 = .ok (.iload_n 1, 1) := dk_27 (dk_at dksX2_claim_2 21 rfl rfl)
theorem dX2_claim_66 : decode cX2_claim 66 = .ok (.iconst 0, 1) := dk_3 (dk_at dksX2_claim_2 22 rfl rfl)
theorem dX2_claim_67 : decode cX2_claim 67 = .ok (.invokevirtual 368, 3) := dk_182 1 112 (dk_at dksX2_claim_3 0 rfl rfl)
theorem dX2_claim_70 : decode cX2_claim 70 = .ok (.ireturn, 1) := dk_172 (dk_at dksX2_claim_3 3 rfl rfl)
theorem dX2_claim_71 : decode cX2_claim 71 = .ok (.aload_n 0, 1) := dk_42 (dk_at dksX2_claim_3 4 rfl rfl)
theorem dX2_claim_72 : decode cX2_claim 72 = .ok (.iload_n 1, 1) := dk_27 (dk_at dksX2_claim_3 5 rfl rfl)
theorem dX2_claim_73 : decode cX2_claim 73 = .ok (.invokevirtual 436, 3) := dk_182 1 180 (dk_at dksX2_claim_3 6 rfl rfl)
theorem dX2_claim_76 : decode cX2_claim 76 = .ok (.ireturn, 1) := dk_172 (dk_at dksX2_claim_3 9 rfl rfl)
theorem dX2_claim_77 : decode cX2_claim 77 = .ok (.aload_n 0, 1) := dk_42 (dk_at dksX2_claim_3 10 rfl rfl)
theorem dX2_claim_78 : decode cX2_claim 78 = .ok (.iload_n 1, 1) := dk_27 (dk_at dksX2_claim_3 11 rfl rfl)
theorem dX2_claim_79 : decode cX2_claim 79 = .ok (.invokevirtual 424, 3) := dk_182 1 168 (dk_at dksX2_claim_3 12 rfl rfl)
theorem dX2_claim_82 : decode cX2_claim 82 = .ok (.aload_n 0, 1) := dk_42 (dk_at dksX2_claim_3 15 rfl rfl)
theorem dX2_claim_83 : decode cX2_claim 83 = .ok (.getfield 395, 3) := dk_180 1 139 (dk_at dksX2_claim_3 16 rfl rfl)
theorem dX2_claim_86 : decode cX2_claim 86 = .ok (.ireturn, 1) := dk_172 (dk_at dksX2_claim_3 19 rfl rfl)
theorem dX2_claim_87 : decode cX2_claim 87 = .ok (.iconst (-1), 1) := dk_2 (dk_at dksX2_claim_3 20 rfl rfl)
theorem dX2_claim_88 : decode cX2_claim 88 = .ok (.ireturn, 1) := dk_172 (dk_at dksX2_claim_3 21 rfl rfl)
abbrev cX2_marginOf : ByteArray := prog_12_method_113_code
def yX2_marginOf : MethodName := ⟨RX2, "marginOf", "(I)I"⟩
def dkwX2_marginOf_2 : List UInt8 := [17, 39, 15, 172]
abbrev dktX2_marginOf_2 : List UInt8 := dkwX2_marginOf_2 ++ []
def dkwX2_marginOf_1 : List UInt8 := [153, 0, 16, 29, 154, 0, 8, 16, 254, 167, 0, 6, 29, 4, 100, 172, 132, 3, 1, 167, 255, 222]
abbrev dktX2_marginOf_1 : List UInt8 := dkwX2_marginOf_1 ++ dktX2_marginOf_2
def dkwX2_marginOf_0 : List UInt8 := [42, 27, 3, 182, 1, 112, 61, 3, 62, 29, 17, 39, 15, 163, 0, 33, 42, 27, 28, 29, 96, 182, 1, 177]
abbrev dktX2_marginOf_0 : List UInt8 := dkwX2_marginOf_0 ++ dktX2_marginOf_1
theorem dksX2_marginOf_0 : cX2_marginOf.data.toList.drop 0 = dktX2_marginOf_0 := by decide +kernel
theorem dksX2_marginOf_1 : cX2_marginOf.data.toList.drop 24 = dktX2_marginOf_1 := dk_seg dksX2_marginOf_0 24 rfl rfl
theorem dksX2_marginOf_2 : cX2_marginOf.data.toList.drop 46 = dktX2_marginOf_2 := dk_seg dksX2_marginOf_1 22 rfl rfl
theorem dX2_marginOf_0 : decode cX2_marginOf 0 = .ok (.aload_n 0, 1) := dk_42 (dk_at dksX2_marginOf_0 0 rfl rfl)
theorem dX2_marginOf_1 : decode cX2_marginOf 1 = .ok (.iload_n 1, 1) := dk_27 (dk_at dksX2_marginOf_0 1 rfl rfl)
theorem dX2_marginOf_2 : decode cX2_marginOf 2 = .ok (.iconst 0, 1) := dk_3 (dk_at dksX2_marginOf_0 2 rfl rfl)
theorem dX2_marginOf_3 : decode cX2_marginOf 3 = .ok (.invokevirtual 368, 3) := dk_182 1 112 (dk_at dksX2_marginOf_0 3 rfl rfl)
theorem dX2_marginOf_6 : decode cX2_marginOf 6 = .ok (.istore_n 2, 1) := dk_61 (dk_at dksX2_marginOf_0 6 rfl rfl)
theorem dX2_marginOf_7 : decode cX2_marginOf 7 = .ok (.iconst 0, 1) := dk_3 (dk_at dksX2_marginOf_0 7 rfl rfl)
theorem dX2_marginOf_8 : decode cX2_marginOf 8 = .ok (.istore_n 3, 1) := dk_62 (dk_at dksX2_marginOf_0 8 rfl rfl)
theorem dX2_marginOf_9 : decode cX2_marginOf 9 = .ok (.iload_n 3, 1) := dk_29 (dk_at dksX2_marginOf_0 9 rfl rfl)
theorem dX2_marginOf_10 : decode cX2_marginOf 10 = .ok (.sipush 9999, 3) := dk_17 39 15 (dk_at dksX2_marginOf_0 10 rfl rfl)
theorem dX2_marginOf_13 : decode cX2_marginOf 13 = .ok (.if_icmp .gt 33, 3) := dk_163 0 33 (dk_at dksX2_marginOf_0 13 rfl rfl)
theorem dX2_marginOf_16 : decode cX2_marginOf 16 = .ok (.aload_n 0, 1) := dk_42 (dk_at dksX2_marginOf_0 16 rfl rfl)
theorem dX2_marginOf_17 : decode cX2_marginOf 17 = .ok (.iload_n 1, 1) := dk_27 (dk_at dksX2_marginOf_0 17 rfl rfl)
theorem dX2_marginOf_18 : decode cX2_marginOf 18 = .ok (.iload_n 2, 1) := dk_28 (dk_at dksX2_marginOf_0 18 rfl rfl)
theorem dX2_marginOf_19 : decode cX2_marginOf 19 = .ok (.iload_n 3, 1) := dk_29 (dk_at dksX2_marginOf_0 19 rfl rfl)
theorem dX2_marginOf_20 : decode cX2_marginOf 20 = .ok (.iadd, 1) := dk_96 (dk_at dksX2_marginOf_0 20 rfl rfl)
theorem dX2_marginOf_21 : decode cX2_marginOf 21 = .ok (.invokevirtual 433, 3) := dk_182 1 177 (dk_at dksX2_marginOf_0 21 rfl rfl)
theorem dX2_marginOf_24 : decode cX2_marginOf 24 = .ok (.ifCond .eq 16, 3) := dk_153 0 16 (dk_at dksX2_marginOf_1 0 rfl rfl)
theorem dX2_marginOf_27 : decode cX2_marginOf 27 = .ok (.iload_n 3, 1) := dk_29 (dk_at dksX2_marginOf_1 3 rfl rfl)
theorem dX2_marginOf_28 : decode cX2_marginOf 28 = .ok (.ifCond .ne 8, 3) := dk_154 0 8 (dk_at dksX2_marginOf_1 4 rfl rfl)
theorem dX2_marginOf_31 : decode cX2_marginOf 31 = .ok (.bipush (-2), 2) := dk_16 254 (dk_at dksX2_marginOf_1 7 rfl rfl)
theorem dX2_marginOf_33 : decode cX2_marginOf 33 = .ok (.goto 6, 3) := dk_167 0 6 (dk_at dksX2_marginOf_1 9 rfl rfl)
theorem dX2_marginOf_36 : decode cX2_marginOf 36 = .ok (.iload_n 3, 1) := dk_29 (dk_at dksX2_marginOf_1 12 rfl rfl)
theorem dX2_marginOf_37 : decode cX2_marginOf 37 = .ok (.iconst 1, 1) := dk_4 (dk_at dksX2_marginOf_1 13 rfl rfl)
theorem dX2_marginOf_38 : decode cX2_marginOf 38 = .ok (.isub, 1) := dk_100 (dk_at dksX2_marginOf_1 14 rfl rfl)
theorem dX2_marginOf_39 : decode cX2_marginOf 39 = .ok (.ireturn, 1) := dk_172 (dk_at dksX2_marginOf_1 15 rfl rfl)
theorem dX2_marginOf_40 : decode cX2_marginOf 40 = .ok (.iinc 3 1, 3) := dk_132 3 1 (dk_at dksX2_marginOf_1 16 rfl rfl)
theorem dX2_marginOf_43 : decode cX2_marginOf 43 = .ok (.goto (-34), 3) := dk_167 255 222 (dk_at dksX2_marginOf_1 19 rfl rfl)
theorem dX2_marginOf_46 : decode cX2_marginOf 46 = .ok (.sipush 9999, 3) := dk_17 39 15 (dk_at dksX2_marginOf_2 0 rfl rfl)
theorem dX2_marginOf_49 : decode cX2_marginOf 49 = .ok (.ireturn, 1) := dk_172 (dk_at dksX2_marginOf_2 3 rfl rfl)
abbrev cX2_isBarredAlone : ByteArray := prog_12_method_112_code
def yX2_isBarredAlone : MethodName := ⟨RX2, "isBarredAlone", "(II)Z"⟩
def dkwX2_isBarredAlone_1 : List UInt8 := [16, 35, 27, 96, 46, 28, 29, 182, 1, 151, 153, 0, 5, 4, 172, 132, 3, 1, 167, 255, 216, 3, 172]
abbrev dktX2_isBarredAlone_1 : List UInt8 := dkwX2_isBarredAlone_1 ++ []
def dkwX2_isBarredAlone_0 : List UInt8 := [3, 62, 29, 42, 180, 0, 13, 17, 1, 61, 46, 162, 0, 34, 42, 42, 27, 182, 1, 162, 42, 180, 0, 22]
abbrev dktX2_isBarredAlone_0 : List UInt8 := dkwX2_isBarredAlone_0 ++ dktX2_isBarredAlone_1
theorem dksX2_isBarredAlone_0 : cX2_isBarredAlone.data.toList.drop 0 = dktX2_isBarredAlone_0 := by decide +kernel
theorem dksX2_isBarredAlone_1 : cX2_isBarredAlone.data.toList.drop 24 = dktX2_isBarredAlone_1 := dk_seg dksX2_isBarredAlone_0 24 rfl rfl
theorem dX2_isBarredAlone_0 : decode cX2_isBarredAlone 0 = .ok (.iconst 0, 1) := dk_3 (dk_at dksX2_isBarredAlone_0 0 rfl rfl)
theorem dX2_isBarredAlone_1 : decode cX2_isBarredAlone 1 = .ok (.istore_n 3, 1) := dk_62 (dk_at dksX2_isBarredAlone_0 1 rfl rfl)
theorem dX2_isBarredAlone_2 : decode cX2_isBarredAlone 2 = .ok (.iload_n 3, 1) := dk_29 (dk_at dksX2_isBarredAlone_0 2 rfl rfl)
theorem dX2_isBarredAlone_3 : decode cX2_isBarredAlone 3 = .ok (.aload_n 0, 1) := dk_42 (dk_at dksX2_isBarredAlone_0 3 rfl rfl)
theorem dX2_isBarredAlone_4 : decode cX2_isBarredAlone 4 = .ok (.getfield 13, 3) := dk_180 0 13 (dk_at dksX2_isBarredAlone_0 4 rfl rfl)
theorem dX2_isBarredAlone_7 : decode cX2_isBarredAlone 7 = .ok (.sipush 317, 3) := dk_17 1 61 (dk_at dksX2_isBarredAlone_0 7 rfl rfl)
theorem dX2_isBarredAlone_10 : decode cX2_isBarredAlone 10 = .ok (.iaload, 1) := dk_46 (dk_at dksX2_isBarredAlone_0 10 rfl rfl)
theorem dX2_isBarredAlone_11 : decode cX2_isBarredAlone 11 = .ok (.if_icmp .ge 34, 3) := dk_162 0 34 (dk_at dksX2_isBarredAlone_0 11 rfl rfl)
theorem dX2_isBarredAlone_14 : decode cX2_isBarredAlone 14 = .ok (.aload_n 0, 1) := dk_42 (dk_at dksX2_isBarredAlone_0 14 rfl rfl)
theorem dX2_isBarredAlone_15 : decode cX2_isBarredAlone 15 = .ok (.aload_n 0, 1) := dk_42 (dk_at dksX2_isBarredAlone_0 15 rfl rfl)
theorem dX2_isBarredAlone_16 : decode cX2_isBarredAlone 16 = .ok (.iload_n 1, 1) := dk_27 (dk_at dksX2_isBarredAlone_0 16 rfl rfl)
theorem dX2_isBarredAlone_17 : decode cX2_isBarredAlone 17 = .ok (.invokevirtual 418, 3) := dk_182 1 162 (dk_at dksX2_isBarredAlone_0 17 rfl rfl)
theorem dX2_isBarredAlone_20 : decode cX2_isBarredAlone 20 = .ok (.aload_n 0, 1) := dk_42 (dk_at dksX2_isBarredAlone_0 20 rfl rfl)
theorem dX2_isBarredAlone_21 : decode cX2_isBarredAlone 21 = .ok (.getfield 22, 3) := dk_180 0 22 (dk_at dksX2_isBarredAlone_0 21 rfl rfl)
theorem dX2_isBarredAlone_24 : decode cX2_isBarredAlone 24 = .ok (.bipush 35, 2) := dk_16 35 (dk_at dksX2_isBarredAlone_1 0 rfl rfl)
theorem dX2_isBarredAlone_26 : decode cX2_isBarredAlone 26 = .ok (.iload_n 1, 1) := dk_27 (dk_at dksX2_isBarredAlone_1 2 rfl rfl)
theorem dX2_isBarredAlone_27 : decode cX2_isBarredAlone 27 = .ok (.iadd, 1) := dk_96 (dk_at dksX2_isBarredAlone_1 3 rfl rfl)
theorem dX2_isBarredAlone_28 : decode cX2_isBarredAlone 28 = .ok (.iaload, 1) := dk_46 (dk_at dksX2_isBarredAlone_1 4 rfl rfl)
theorem dX2_isBarredAlone_29 : decode cX2_isBarredAlone 29 = .ok (.iload_n 2, 1) := dk_28 (dk_at dksX2_isBarredAlone_1 5 rfl rfl)
theorem dX2_isBarredAlone_30 : decode cX2_isBarredAlone 30 = .ok (.iload_n 3, 1) := dk_29 (dk_at dksX2_isBarredAlone_1 6 rfl rfl)
theorem dX2_isBarredAlone_31 : decode cX2_isBarredAlone 31 = .ok (.invokevirtual 407, 3) := dk_182 1 151 (dk_at dksX2_isBarredAlone_1 7 rfl rfl)
theorem dX2_isBarredAlone_34 : decode cX2_isBarredAlone 34 = .ok (.ifCond .eq 5, 3) := dk_153 0 5 (dk_at dksX2_isBarredAlone_1 10 rfl rfl)
theorem dX2_isBarredAlone_37 : decode cX2_isBarredAlone 37 = .ok (.iconst 1, 1) := dk_4 (dk_at dksX2_isBarredAlone_1 13 rfl rfl)
theorem dX2_isBarredAlone_38 : decode cX2_isBarredAlone 38 = .ok (.ireturn, 1) := dk_172 (dk_at dksX2_isBarredAlone_1 14 rfl rfl)
theorem dX2_isBarredAlone_39 : decode cX2_isBarredAlone 39 = .ok (.iinc 3 1, 3) := dk_132 3 1 (dk_at dksX2_isBarredAlone_1 15 rfl rfl)
theorem dX2_isBarredAlone_42 : decode cX2_isBarredAlone 42 = .ok (.goto (-40), 3) := dk_167 255 216 (dk_at dksX2_isBarredAlone_1 18 rfl rfl)
theorem dX2_isBarredAlone_45 : decode cX2_isBarredAlone 45 = .ok (.iconst 0, 1) := dk_3 (dk_at dksX2_isBarredAlone_1 21 rfl rfl)
theorem dX2_isBarredAlone_46 : decode cX2_isBarredAlone 46 = .ok (.ireturn, 1) := dk_172 (dk_at dksX2_isBarredAlone_1 22 rfl rfl)
abbrev cX2_shown : ByteArray := prog_12_method_115_code
def yX2_shown : MethodName := ⟨RX2, "shown", "(II)I"⟩
def dkwX2_shown_1 : List UInt8 := [167, 0, 4, 2, 172]
abbrev dktX2_shown_1 : List UInt8 := dkwX2_shown_1 ++ []
def dkwX2_shown_0 : List UInt8 := [42, 27, 182, 1, 174, 153, 0, 21, 28, 3, 5, 184, 0, 93, 153, 0, 12, 42, 27, 28, 182, 1, 124]
abbrev dktX2_shown_0 : List UInt8 := dkwX2_shown_0 ++ dktX2_shown_1
theorem dksX2_shown_0 : cX2_shown.data.toList.drop 0 = dktX2_shown_0 := by decide +kernel
theorem dksX2_shown_1 : cX2_shown.data.toList.drop 23 = dktX2_shown_1 := dk_seg dksX2_shown_0 23 rfl rfl
theorem dX2_shown_0 : decode cX2_shown 0 = .ok (.aload_n 0, 1) := dk_42 (dk_at dksX2_shown_0 0 rfl rfl)
theorem dX2_shown_1 : decode cX2_shown 1 = .ok (.iload_n 1, 1) := dk_27 (dk_at dksX2_shown_0 1 rfl rfl)
theorem dX2_shown_2 : decode cX2_shown 2 = .ok (.invokevirtual 430, 3) := dk_182 1 174 (dk_at dksX2_shown_0 2 rfl rfl)
theorem dX2_shown_5 : decode cX2_shown 5 = .ok (.ifCond .eq 21, 3) := dk_153 0 21 (dk_at dksX2_shown_0 5 rfl rfl)
theorem dX2_shown_8 : decode cX2_shown 8 = .ok (.iload_n 2, 1) := dk_28 (dk_at dksX2_shown_0 8 rfl rfl)
theorem dX2_shown_9 : decode cX2_shown 9 = .ok (.iconst 0, 1) := dk_3 (dk_at dksX2_shown_0 9 rfl rfl)
theorem dX2_shown_10 : decode cX2_shown 10 = .ok (.iconst 2, 1) := dk_5 (dk_at dksX2_shown_0 10 rfl rfl)
theorem dX2_shown_11 : decode cX2_shown 11 = .ok (.invokestatic 93, 3) := dk_184 0 93 (dk_at dksX2_shown_0 11 rfl rfl)
theorem dX2_shown_14 : decode cX2_shown 14 = .ok (.ifCond .eq 12, 3) := dk_153 0 12 (dk_at dksX2_shown_0 14 rfl rfl)
theorem dX2_shown_17 : decode cX2_shown 17 = .ok (.aload_n 0, 1) := dk_42 (dk_at dksX2_shown_0 17 rfl rfl)
theorem dX2_shown_18 : decode cX2_shown 18 = .ok (.iload_n 1, 1) := dk_27 (dk_at dksX2_shown_0 18 rfl rfl)
theorem dX2_shown_19 : decode cX2_shown 19 = .ok (.iload_n 2, 1) := dk_28 (dk_at dksX2_shown_0 19 rfl rfl)
theorem dX2_shown_20 : decode cX2_shown 20 = .ok (.invokevirtual 380, 3) := dk_182 1 124 (dk_at dksX2_shown_0 20 rfl rfl)
theorem dX2_shown_23 : decode cX2_shown 23 = .ok (.goto 4, 3) := dk_167 0 4 (dk_at dksX2_shown_1 0 rfl rfl)
theorem dX2_shown_26 : decode cX2_shown 26 = .ok (.iconst (-1), 1) := dk_2 (dk_at dksX2_shown_1 3 rfl rfl)
theorem dX2_shown_27 : decode cX2_shown 27 = .ok (.ireturn, 1) := dk_172 (dk_at dksX2_shown_1 4 rfl rfl)
abbrev cX2_guard : ByteArray := prog_12_method_118_code
def yX2_guard : MethodName := ⟨RX2, "guard", "(II)I"⟩
def dkwX2_guard_4 : List UInt8 := [28, 154, 0, 11, 21, 4, 184, 1, 4, 167, 0, 5, 21, 4, 172]
abbrev dktX2_guard_4 : List UInt8 := dkwX2_guard_4 ++ []
def dkwX2_guard_3 : List UInt8 := [21, 5, 2, 130, 126, 182, 1, 186, 154, 0, 6, 167, 0, 7, 21, 5, 54, 4, 132, 5, 1, 167, 255, 208]
abbrev dktX2_guard_3 : List UInt8 := dkwX2_guard_3 ++ dktX2_guard_4
def dkwX2_guard_2 : List UInt8 := [163, 0, 48, 21, 4, 2, 159, 0, 16, 21, 5, 184, 1, 4, 21, 4, 184, 1, 4, 162, 0, 23, 42, 29]
abbrev dktX2_guard_2 : List UInt8 := dkwX2_guard_2 ++ dktX2_guard_3
def dkwX2_guard_1 : List UInt8 := [4, 42, 180, 0, 13, 17, 1, 61, 46, 120, 4, 100, 62, 2, 54, 4, 3, 54, 5, 21, 5, 29]
abbrev dktX2_guard_1 : List UInt8 := dkwX2_guard_1 ++ dktX2_guard_2
def dkwX2_guard_0 : List UInt8 := [42, 27, 182, 1, 171, 153, 0, 12, 28, 3, 4, 184, 0, 93, 154, 0, 5, 2, 172, 42, 27, 182, 1, 183]
abbrev dktX2_guard_0 : List UInt8 := dkwX2_guard_0 ++ dktX2_guard_1
theorem dksX2_guard_0 : cX2_guard.data.toList.drop 0 = dktX2_guard_0 := by decide +kernel
theorem dksX2_guard_1 : cX2_guard.data.toList.drop 24 = dktX2_guard_1 := dk_seg dksX2_guard_0 24 rfl rfl
theorem dksX2_guard_2 : cX2_guard.data.toList.drop 46 = dktX2_guard_2 := dk_seg dksX2_guard_1 22 rfl rfl
theorem dksX2_guard_3 : cX2_guard.data.toList.drop 70 = dktX2_guard_3 := dk_seg dksX2_guard_2 24 rfl rfl
theorem dksX2_guard_4 : cX2_guard.data.toList.drop 94 = dktX2_guard_4 := dk_seg dksX2_guard_3 24 rfl rfl
theorem dX2_guard_0 : decode cX2_guard 0 = .ok (.aload_n 0, 1) := dk_42 (dk_at dksX2_guard_0 0 rfl rfl)
theorem dX2_guard_1 : decode cX2_guard 1 = .ok (.iload_n 1, 1) := dk_27 (dk_at dksX2_guard_0 1 rfl rfl)
theorem dX2_guard_2 : decode cX2_guard 2 = .ok (.invokevirtual 427, 3) := dk_182 1 171 (dk_at dksX2_guard_0 2 rfl rfl)
theorem dX2_guard_5 : decode cX2_guard 5 = .ok (.ifCond .eq 12, 3) := dk_153 0 12 (dk_at dksX2_guard_0 5 rfl rfl)
theorem dX2_guard_8 : decode cX2_guard 8 = .ok (.iload_n 2, 1) := dk_28 (dk_at dksX2_guard_0 8 rfl rfl)
theorem dX2_guard_9 : decode cX2_guard 9 = .ok (.iconst 0, 1) := dk_3 (dk_at dksX2_guard_0 9 rfl rfl)
theorem dX2_guard_10 : decode cX2_guard 10 = .ok (.iconst 1, 1) := dk_4 (dk_at dksX2_guard_0 10 rfl rfl)
theorem dX2_guard_11 : decode cX2_guard 11 = .ok (.invokestatic 93, 3) := dk_184 0 93 (dk_at dksX2_guard_0 11 rfl rfl)
theorem dX2_guard_14 : decode cX2_guard 14 = .ok (.ifCond .ne 5, 3) := dk_154 0 5 (dk_at dksX2_guard_0 14 rfl rfl)
theorem dX2_guard_17 : decode cX2_guard 17 = .ok (.iconst (-1), 1) := dk_2 (dk_at dksX2_guard_0 17 rfl rfl)
theorem dX2_guard_18 : decode cX2_guard 18 = .ok (.ireturn, 1) := dk_172 (dk_at dksX2_guard_0 18 rfl rfl)
theorem dX2_guard_19 : decode cX2_guard 19 = .ok (.aload_n 0, 1) := dk_42 (dk_at dksX2_guard_0 19 rfl rfl)
theorem dX2_guard_20 : decode cX2_guard 20 = .ok (.iload_n 1, 1) := dk_27 (dk_at dksX2_guard_0 20 rfl rfl)
theorem dX2_guard_21 : decode cX2_guard 21 = .ok (.invokevirtual 439, 3) := dk_182 1 183 (dk_at dksX2_guard_0 21 rfl rfl)
theorem dX2_guard_24 : decode cX2_guard 24 = .ok (.iconst 1, 1) := dk_4 (dk_at dksX2_guard_1 0 rfl rfl)
theorem dX2_guard_25 : decode cX2_guard 25 = .ok (.aload_n 0, 1) := dk_42 (dk_at dksX2_guard_1 1 rfl rfl)
theorem dX2_guard_26 : decode cX2_guard 26 = .ok (.getfield 13, 3) := dk_180 0 13 (dk_at dksX2_guard_1 2 rfl rfl)
theorem dX2_guard_29 : decode cX2_guard 29 = .ok (.sipush 317, 3) := dk_17 1 61 (dk_at dksX2_guard_1 5 rfl rfl)
theorem dX2_guard_32 : decode cX2_guard 32 = .ok (.iaload, 1) := dk_46 (dk_at dksX2_guard_1 8 rfl rfl)
theorem dX2_guard_33 : decode cX2_guard 33 = .ok (.ishl, 1) := dk_120 (dk_at dksX2_guard_1 9 rfl rfl)
theorem dX2_guard_34 : decode cX2_guard 34 = .ok (.iconst 1, 1) := dk_4 (dk_at dksX2_guard_1 10 rfl rfl)
theorem dX2_guard_35 : decode cX2_guard 35 = .ok (.isub, 1) := dk_100 (dk_at dksX2_guard_1 11 rfl rfl)
theorem dX2_guard_36 : decode cX2_guard 36 = .ok (.istore_n 3, 1) := dk_62 (dk_at dksX2_guard_1 12 rfl rfl)
theorem dX2_guard_37 : decode cX2_guard 37 = .ok (.iconst (-1), 1) := dk_2 (dk_at dksX2_guard_1 13 rfl rfl)
theorem dX2_guard_38 : decode cX2_guard 38 = .ok (.istore 4, 2) := dk_54 4 (dk_at dksX2_guard_1 14 rfl rfl)
theorem dX2_guard_40 : decode cX2_guard 40 = .ok (.iconst 0, 1) := dk_3 (dk_at dksX2_guard_1 16 rfl rfl)
theorem dX2_guard_41 : decode cX2_guard 41 = .ok (.istore 5, 2) := dk_54 5 (dk_at dksX2_guard_1 17 rfl rfl)
theorem dX2_guard_43 : decode cX2_guard 43 = .ok (.iload 5, 2) := dk_21 5 (dk_at dksX2_guard_1 19 rfl rfl)
theorem dX2_guard_45 : decode cX2_guard 45 = .ok (.iload_n 3, 1) := dk_29 (dk_at dksX2_guard_1 21 rfl rfl)
theorem dX2_guard_46 : decode cX2_guard 46 = .ok (.if_icmp .gt 48, 3) := dk_163 0 48 (dk_at dksX2_guard_2 0 rfl rfl)
theorem dX2_guard_49 : decode cX2_guard 49 = .ok (.iload 4, 2) := dk_21 4 (dk_at dksX2_guard_2 3 rfl rfl)
theorem dX2_guard_51 : decode cX2_guard 51 = .ok (.iconst (-1), 1) := dk_2 (dk_at dksX2_guard_2 5 rfl rfl)
theorem dX2_guard_52 : decode cX2_guard 52 = .ok (.if_icmp .eq 16, 3) := dk_159 0 16 (dk_at dksX2_guard_2 6 rfl rfl)
theorem dX2_guard_55 : decode cX2_guard 55 = .ok (.iload 5, 2) := dk_21 5 (dk_at dksX2_guard_2 9 rfl rfl)
theorem dX2_guard_57 : decode cX2_guard 57 = .ok (.invokestatic 260, 3) := dk_184 1 4 (dk_at dksX2_guard_2 11 rfl rfl)
theorem dX2_guard_60 : decode cX2_guard 60 = .ok (.iload 4, 2) := dk_21 4 (dk_at dksX2_guard_2 14 rfl rfl)
theorem dX2_guard_62 : decode cX2_guard 62 = .ok (.invokestatic 260, 3) := dk_184 1 4 (dk_at dksX2_guard_2 16 rfl rfl)
theorem dX2_guard_65 : decode cX2_guard 65 = .ok (.if_icmp .ge 23, 3) := dk_162 0 23 (dk_at dksX2_guard_2 19 rfl rfl)
theorem dX2_guard_68 : decode cX2_guard 68 = .ok (.aload_n 0, 1) := dk_42 (dk_at dksX2_guard_2 22 rfl rfl)
theorem dX2_guard_69 : decode cX2_guard 69 = .ok (.iload_n 3, 1) := dk_29 (dk_at dksX2_guard_2 23 rfl rfl)
theorem dX2_guard_70 : decode cX2_guard 70 = .ok (.iload 5, 2) := dk_21 5 (dk_at dksX2_guard_3 0 rfl rfl)
theorem dX2_guard_72 : decode cX2_guard 72 = .ok (.iconst (-1), 1) := dk_2 (dk_at dksX2_guard_3 2 rfl rfl)
theorem dX2_guard_73 : decode cX2_guard 73 = .ok (.ixor, 1) := dk_130 (dk_at dksX2_guard_3 3 rfl rfl)
theorem dX2_guard_74 : decode cX2_guard 74 = .ok (.iand, 1) := dk_126 (dk_at dksX2_guard_3 4 rfl rfl)
theorem dX2_guard_75 : decode cX2_guard 75 = .ok (.invokevirtual 442, 3) := dk_182 1 186 (dk_at dksX2_guard_3 5 rfl rfl)
theorem dX2_guard_78 : decode cX2_guard 78 = .ok (.ifCond .ne 6, 3) := dk_154 0 6 (dk_at dksX2_guard_3 8 rfl rfl)
theorem dX2_guard_81 : decode cX2_guard 81 = .ok (.goto 7, 3) := dk_167 0 7 (dk_at dksX2_guard_3 11 rfl rfl)
theorem dX2_guard_84 : decode cX2_guard 84 = .ok (.iload 5, 2) := dk_21 5 (dk_at dksX2_guard_3 14 rfl rfl)
theorem dX2_guard_86 : decode cX2_guard 86 = .ok (.istore 4, 2) := dk_54 4 (dk_at dksX2_guard_3 16 rfl rfl)
theorem dX2_guard_88 : decode cX2_guard 88 = .ok (.iinc 5 1, 3) := dk_132 5 1 (dk_at dksX2_guard_3 18 rfl rfl)
theorem dX2_guard_91 : decode cX2_guard 91 = .ok (.goto (-48), 3) := dk_167 255 208 (dk_at dksX2_guard_3 21 rfl rfl)
theorem dX2_guard_94 : decode cX2_guard 94 = .ok (.iload_n 2, 1) := dk_28 (dk_at dksX2_guard_4 0 rfl rfl)
theorem dX2_guard_95 : decode cX2_guard 95 = .ok (.ifCond .ne 11, 3) := dk_154 0 11 (dk_at dksX2_guard_4 1 rfl rfl)
theorem dX2_guard_98 : decode cX2_guard 98 = .ok (.iload 4, 2) := dk_21 4 (dk_at dksX2_guard_4 4 rfl rfl)
theorem dX2_guard_100 : decode cX2_guard 100 = .ok (.invokestatic 260, 3) := dk_184 1 4 (dk_at dksX2_guard_4 6 rfl rfl)
theorem dX2_guard_103 : decode cX2_guard 103 = .ok (.goto 5, 3) := dk_167 0 5 (dk_at dksX2_guard_4 9 rfl rfl)
theorem dX2_guard_106 : decode cX2_guard 106 = .ok (.iload 4, 2) := dk_21 4 (dk_at dksX2_guard_4 12 rfl rfl)
theorem dX2_guard_108 : decode cX2_guard 108 = .ok (.ireturn, 1) := dk_172 (dk_at dksX2_guard_4 14 rfl rfl)
abbrev cX2_laysPairs : ByteArray := prog_12_method_116_code
def yX2_laysPairs : MethodName := ⟨RX2, "laysPairs", "(I)V"⟩
def dkwX2_laysPairs_4 : List UInt8 := [120, 128, 79, 132, 6, 1, 167, 255, 206, 132, 5, 1, 167, 255, 176, 177]
abbrev dktX2_laysPairs_4 : List UInt8 := dkwX2_laysPairs_4 ++ []
def dkwX2_laysPairs_3 : List UInt8 := [21, 6, 182, 1, 155, 153, 0, 22, 42, 180, 0, 61, 21, 5, 42, 180, 0, 61, 21, 5, 46, 4, 21, 6]
abbrev dktX2_laysPairs_3 : List UInt8 := dkwX2_laysPairs_3 ++ dktX2_laysPairs_4
def dkwX2_laysPairs_2 : List UInt8 := [3, 54, 6, 21, 6, 42, 180, 0, 13, 17, 1, 61, 46, 162, 0, 43, 42, 28, 29, 21, 4, 21, 5]
abbrev dktX2_laysPairs_2 : List UInt8 := dkwX2_laysPairs_2 ++ dktX2_laysPairs_3
def dkwX2_laysPairs_1 : List UInt8 := [3, 54, 5, 21, 5, 42, 180, 0, 13, 17, 1, 61, 46, 162, 0, 73, 42, 180, 0, 61, 21, 5, 3, 79]
abbrev dktX2_laysPairs_1 : List UInt8 := dkwX2_laysPairs_1 ++ dktX2_laysPairs_2
def dkwX2_laysPairs_0 : List UInt8 := [42, 27, 182, 1, 162, 61, 42, 180, 0, 22, 16, 35, 27, 96, 46, 62, 42, 27, 3, 182, 1, 112, 54, 4]
abbrev dktX2_laysPairs_0 : List UInt8 := dkwX2_laysPairs_0 ++ dktX2_laysPairs_1
theorem dksX2_laysPairs_0 : cX2_laysPairs.data.toList.drop 0 = dktX2_laysPairs_0 := by decide +kernel
theorem dksX2_laysPairs_1 : cX2_laysPairs.data.toList.drop 24 = dktX2_laysPairs_1 := dk_seg dksX2_laysPairs_0 24 rfl rfl
theorem dksX2_laysPairs_2 : cX2_laysPairs.data.toList.drop 48 = dktX2_laysPairs_2 := dk_seg dksX2_laysPairs_1 24 rfl rfl
theorem dksX2_laysPairs_3 : cX2_laysPairs.data.toList.drop 71 = dktX2_laysPairs_3 := dk_seg dksX2_laysPairs_2 23 rfl rfl
theorem dksX2_laysPairs_4 : cX2_laysPairs.data.toList.drop 95 = dktX2_laysPairs_4 := dk_seg dksX2_laysPairs_3 24 rfl rfl
theorem dX2_laysPairs_0 : decode cX2_laysPairs 0 = .ok (.aload_n 0, 1) := dk_42 (dk_at dksX2_laysPairs_0 0 rfl rfl)
theorem dX2_laysPairs_1 : decode cX2_laysPairs 1 = .ok (.iload_n 1, 1) := dk_27 (dk_at dksX2_laysPairs_0 1 rfl rfl)
theorem dX2_laysPairs_2 : decode cX2_laysPairs 2 = .ok (.invokevirtual 418, 3) := dk_182 1 162 (dk_at dksX2_laysPairs_0 2 rfl rfl)
theorem dX2_laysPairs_5 : decode cX2_laysPairs 5 = .ok (.istore_n 2, 1) := dk_61 (dk_at dksX2_laysPairs_0 5 rfl rfl)
theorem dX2_laysPairs_6 : decode cX2_laysPairs 6 = .ok (.aload_n 0, 1) := dk_42 (dk_at dksX2_laysPairs_0 6 rfl rfl)
theorem dX2_laysPairs_7 : decode cX2_laysPairs 7 = .ok (.getfield 22, 3) := dk_180 0 22 (dk_at dksX2_laysPairs_0 7 rfl rfl)
theorem dX2_laysPairs_10 : decode cX2_laysPairs 10 = .ok (.bipush 35, 2) := dk_16 35 (dk_at dksX2_laysPairs_0 10 rfl rfl)
theorem dX2_laysPairs_12 : decode cX2_laysPairs 12 = .ok (.iload_n 1, 1) := dk_27 (dk_at dksX2_laysPairs_0 12 rfl rfl)
theorem dX2_laysPairs_13 : decode cX2_laysPairs 13 = .ok (.iadd, 1) := dk_96 (dk_at dksX2_laysPairs_0 13 rfl rfl)
theorem dX2_laysPairs_14 : decode cX2_laysPairs 14 = .ok (.iaload, 1) := dk_46 (dk_at dksX2_laysPairs_0 14 rfl rfl)
theorem dX2_laysPairs_15 : decode cX2_laysPairs 15 = .ok (.istore_n 3, 1) := dk_62 (dk_at dksX2_laysPairs_0 15 rfl rfl)
theorem dX2_laysPairs_16 : decode cX2_laysPairs 16 = .ok (.aload_n 0, 1) := dk_42 (dk_at dksX2_laysPairs_0 16 rfl rfl)
theorem dX2_laysPairs_17 : decode cX2_laysPairs 17 = .ok (.iload_n 1, 1) := dk_27 (dk_at dksX2_laysPairs_0 17 rfl rfl)
theorem dX2_laysPairs_18 : decode cX2_laysPairs 18 = .ok (.iconst 0, 1) := dk_3 (dk_at dksX2_laysPairs_0 18 rfl rfl)
theorem dX2_laysPairs_19 : decode cX2_laysPairs 19 = .ok (.invokevirtual 368, 3) := dk_182 1 112 (dk_at dksX2_laysPairs_0 19 rfl rfl)
theorem dX2_laysPairs_22 : decode cX2_laysPairs 22 = .ok (.istore 4, 2) := dk_54 4 (dk_at dksX2_laysPairs_0 22 rfl rfl)
theorem dX2_laysPairs_24 : decode cX2_laysPairs 24 = .ok (.iconst 0, 1) := dk_3 (dk_at dksX2_laysPairs_1 0 rfl rfl)
theorem dX2_laysPairs_25 : decode cX2_laysPairs 25 = .ok (.istore 5, 2) := dk_54 5 (dk_at dksX2_laysPairs_1 1 rfl rfl)
theorem dX2_laysPairs_27 : decode cX2_laysPairs 27 = .ok (.iload 5, 2) := dk_21 5 (dk_at dksX2_laysPairs_1 3 rfl rfl)
theorem dX2_laysPairs_29 : decode cX2_laysPairs 29 = .ok (.aload_n 0, 1) := dk_42 (dk_at dksX2_laysPairs_1 5 rfl rfl)
theorem dX2_laysPairs_30 : decode cX2_laysPairs 30 = .ok (.getfield 13, 3) := dk_180 0 13 (dk_at dksX2_laysPairs_1 6 rfl rfl)
theorem dX2_laysPairs_33 : decode cX2_laysPairs 33 = .ok (.sipush 317, 3) := dk_17 1 61 (dk_at dksX2_laysPairs_1 9 rfl rfl)
theorem dX2_laysPairs_36 : decode cX2_laysPairs 36 = .ok (.iaload, 1) := dk_46 (dk_at dksX2_laysPairs_1 12 rfl rfl)
theorem dX2_laysPairs_37 : decode cX2_laysPairs 37 = .ok (.if_icmp .ge 73, 3) := dk_162 0 73 (dk_at dksX2_laysPairs_1 13 rfl rfl)
theorem dX2_laysPairs_40 : decode cX2_laysPairs 40 = .ok (.aload_n 0, 1) := dk_42 (dk_at dksX2_laysPairs_1 16 rfl rfl)
theorem dX2_laysPairs_41 : decode cX2_laysPairs 41 = .ok (.getfield 61, 3) := dk_180 0 61 (dk_at dksX2_laysPairs_1 17 rfl rfl)
theorem dX2_laysPairs_44 : decode cX2_laysPairs 44 = .ok (.iload 5, 2) := dk_21 5 (dk_at dksX2_laysPairs_1 20 rfl rfl)
theorem dX2_laysPairs_46 : decode cX2_laysPairs 46 = .ok (.iconst 0, 1) := dk_3 (dk_at dksX2_laysPairs_1 22 rfl rfl)
theorem dX2_laysPairs_47 : decode cX2_laysPairs 47 = .ok (.iastore, 1) := dk_79 (dk_at dksX2_laysPairs_1 23 rfl rfl)
theorem dX2_laysPairs_48 : decode cX2_laysPairs 48 = .ok (.iconst 0, 1) := dk_3 (dk_at dksX2_laysPairs_2 0 rfl rfl)
theorem dX2_laysPairs_49 : decode cX2_laysPairs 49 = .ok (.istore 6, 2) := dk_54 6 (dk_at dksX2_laysPairs_2 1 rfl rfl)
theorem dX2_laysPairs_51 : decode cX2_laysPairs 51 = .ok (.iload 6, 2) := dk_21 6 (dk_at dksX2_laysPairs_2 3 rfl rfl)
theorem dX2_laysPairs_53 : decode cX2_laysPairs 53 = .ok (.aload_n 0, 1) := dk_42 (dk_at dksX2_laysPairs_2 5 rfl rfl)
theorem dX2_laysPairs_54 : decode cX2_laysPairs 54 = .ok (.getfield 13, 3) := dk_180 0 13 (dk_at dksX2_laysPairs_2 6 rfl rfl)
theorem dX2_laysPairs_57 : decode cX2_laysPairs 57 = .ok (.sipush 317, 3) := dk_17 1 61 (dk_at dksX2_laysPairs_2 9 rfl rfl)
theorem dX2_laysPairs_60 : decode cX2_laysPairs 60 = .ok (.iaload, 1) := dk_46 (dk_at dksX2_laysPairs_2 12 rfl rfl)
theorem dX2_laysPairs_61 : decode cX2_laysPairs 61 = .ok (.if_icmp .ge 43, 3) := dk_162 0 43 (dk_at dksX2_laysPairs_2 13 rfl rfl)
theorem dX2_laysPairs_64 : decode cX2_laysPairs 64 = .ok (.aload_n 0, 1) := dk_42 (dk_at dksX2_laysPairs_2 16 rfl rfl)
theorem dX2_laysPairs_65 : decode cX2_laysPairs 65 = .ok (.iload_n 2, 1) := dk_28 (dk_at dksX2_laysPairs_2 17 rfl rfl)
theorem dX2_laysPairs_66 : decode cX2_laysPairs 66 = .ok (.iload_n 3, 1) := dk_29 (dk_at dksX2_laysPairs_2 18 rfl rfl)
theorem dX2_laysPairs_67 : decode cX2_laysPairs 67 = .ok (.iload 4, 2) := dk_21 4 (dk_at dksX2_laysPairs_2 19 rfl rfl)
theorem dX2_laysPairs_69 : decode cX2_laysPairs 69 = .ok (.iload 5, 2) := dk_21 5 (dk_at dksX2_laysPairs_2 21 rfl rfl)
theorem dX2_laysPairs_71 : decode cX2_laysPairs 71 = .ok (.iload 6, 2) := dk_21 6 (dk_at dksX2_laysPairs_3 0 rfl rfl)
theorem dX2_laysPairs_73 : decode cX2_laysPairs 73 = .ok (.invokevirtual 411, 3) := dk_182 1 155 (dk_at dksX2_laysPairs_3 2 rfl rfl)
theorem dX2_laysPairs_76 : decode cX2_laysPairs 76 = .ok (.ifCond .eq 22, 3) := dk_153 0 22 (dk_at dksX2_laysPairs_3 5 rfl rfl)
theorem dX2_laysPairs_79 : decode cX2_laysPairs 79 = .ok (.aload_n 0, 1) := dk_42 (dk_at dksX2_laysPairs_3 8 rfl rfl)
theorem dX2_laysPairs_80 : decode cX2_laysPairs 80 = .ok (.getfield 61, 3) := dk_180 0 61 (dk_at dksX2_laysPairs_3 9 rfl rfl)
theorem dX2_laysPairs_83 : decode cX2_laysPairs 83 = .ok (.iload 5, 2) := dk_21 5 (dk_at dksX2_laysPairs_3 12 rfl rfl)
theorem dX2_laysPairs_85 : decode cX2_laysPairs 85 = .ok (.aload_n 0, 1) := dk_42 (dk_at dksX2_laysPairs_3 14 rfl rfl)
theorem dX2_laysPairs_86 : decode cX2_laysPairs 86 = .ok (.getfield 61, 3) := dk_180 0 61 (dk_at dksX2_laysPairs_3 15 rfl rfl)
theorem dX2_laysPairs_89 : decode cX2_laysPairs 89 = .ok (.iload 5, 2) := dk_21 5 (dk_at dksX2_laysPairs_3 18 rfl rfl)
theorem dX2_laysPairs_91 : decode cX2_laysPairs 91 = .ok (.iaload, 1) := dk_46 (dk_at dksX2_laysPairs_3 20 rfl rfl)
theorem dX2_laysPairs_92 : decode cX2_laysPairs 92 = .ok (.iconst 1, 1) := dk_4 (dk_at dksX2_laysPairs_3 21 rfl rfl)
theorem dX2_laysPairs_93 : decode cX2_laysPairs 93 = .ok (.iload 6, 2) := dk_21 6 (dk_at dksX2_laysPairs_3 22 rfl rfl)
theorem dX2_laysPairs_95 : decode cX2_laysPairs 95 = .ok (.ishl, 1) := dk_120 (dk_at dksX2_laysPairs_4 0 rfl rfl)
theorem dX2_laysPairs_96 : decode cX2_laysPairs 96 = .ok (.ior, 1) := dk_128 (dk_at dksX2_laysPairs_4 1 rfl rfl)
theorem dX2_laysPairs_97 : decode cX2_laysPairs 97 = .ok (.iastore, 1) := dk_79 (dk_at dksX2_laysPairs_4 2 rfl rfl)
theorem dX2_laysPairs_98 : decode cX2_laysPairs 98 = .ok (.iinc 6 1, 3) := dk_132 6 1 (dk_at dksX2_laysPairs_4 3 rfl rfl)
theorem dX2_laysPairs_101 : decode cX2_laysPairs 101 = .ok (.goto (-50), 3) := dk_167 255 206 (dk_at dksX2_laysPairs_4 6 rfl rfl)
theorem dX2_laysPairs_104 : decode cX2_laysPairs 104 = .ok (.iinc 5 1, 3) := dk_132 5 1 (dk_at dksX2_laysPairs_4 9 rfl rfl)
theorem dX2_laysPairs_107 : decode cX2_laysPairs 107 = .ok (.goto (-80), 3) := dk_167 255 176 (dk_at dksX2_laysPairs_4 12 rfl rfl)
theorem dX2_laysPairs_110 : decode cX2_laysPairs 110 = .ok (.return_, 1) := dk_177 (dk_at dksX2_laysPairs_4 15 rfl rfl)
abbrev cX2_isFree : ByteArray := prog_12_method_117_code
def yX2_isFree : MethodName := ⟨RX2, "isFree", "(I)Z"⟩
def dkwX2_isFree_1 : List UInt8 := [180, 0, 61, 28, 46, 27, 126, 153, 0, 5, 3, 172, 132, 2, 1, 167, 255, 220, 4, 172]
abbrev dktX2_isFree_1 : List UInt8 := dkwX2_isFree_1 ++ []
def dkwX2_isFree_0 : List UInt8 := [3, 61, 28, 42, 180, 0, 13, 17, 1, 61, 46, 162, 0, 30, 27, 28, 184, 0, 82, 153, 0, 16, 42]
abbrev dktX2_isFree_0 : List UInt8 := dkwX2_isFree_0 ++ dktX2_isFree_1
theorem dksX2_isFree_0 : cX2_isFree.data.toList.drop 0 = dktX2_isFree_0 := by decide +kernel
theorem dksX2_isFree_1 : cX2_isFree.data.toList.drop 23 = dktX2_isFree_1 := dk_seg dksX2_isFree_0 23 rfl rfl
theorem dX2_isFree_0 : decode cX2_isFree 0 = .ok (.iconst 0, 1) := dk_3 (dk_at dksX2_isFree_0 0 rfl rfl)
theorem dX2_isFree_1 : decode cX2_isFree 1 = .ok (.istore_n 2, 1) := dk_61 (dk_at dksX2_isFree_0 1 rfl rfl)
theorem dX2_isFree_2 : decode cX2_isFree 2 = .ok (.iload_n 2, 1) := dk_28 (dk_at dksX2_isFree_0 2 rfl rfl)
theorem dX2_isFree_3 : decode cX2_isFree 3 = .ok (.aload_n 0, 1) := dk_42 (dk_at dksX2_isFree_0 3 rfl rfl)
theorem dX2_isFree_4 : decode cX2_isFree 4 = .ok (.getfield 13, 3) := dk_180 0 13 (dk_at dksX2_isFree_0 4 rfl rfl)
theorem dX2_isFree_7 : decode cX2_isFree 7 = .ok (.sipush 317, 3) := dk_17 1 61 (dk_at dksX2_isFree_0 7 rfl rfl)
theorem dX2_isFree_10 : decode cX2_isFree 10 = .ok (.iaload, 1) := dk_46 (dk_at dksX2_isFree_0 10 rfl rfl)
theorem dX2_isFree_11 : decode cX2_isFree 11 = .ok (.if_icmp .ge 30, 3) := dk_162 0 30 (dk_at dksX2_isFree_0 11 rfl rfl)
theorem dX2_isFree_14 : decode cX2_isFree 14 = .ok (.iload_n 1, 1) := dk_27 (dk_at dksX2_isFree_0 14 rfl rfl)
theorem dX2_isFree_15 : decode cX2_isFree 15 = .ok (.iload_n 2, 1) := dk_28 (dk_at dksX2_isFree_0 15 rfl rfl)
theorem dX2_isFree_16 : decode cX2_isFree 16 = .ok (.invokestatic 82, 3) := dk_184 0 82 (dk_at dksX2_isFree_0 16 rfl rfl)
theorem dX2_isFree_19 : decode cX2_isFree 19 = .ok (.ifCond .eq 16, 3) := dk_153 0 16 (dk_at dksX2_isFree_0 19 rfl rfl)
theorem dX2_isFree_22 : decode cX2_isFree 22 = .ok (.aload_n 0, 1) := dk_42 (dk_at dksX2_isFree_0 22 rfl rfl)
theorem dX2_isFree_23 : decode cX2_isFree 23 = .ok (.getfield 61, 3) := dk_180 0 61 (dk_at dksX2_isFree_1 0 rfl rfl)
theorem dX2_isFree_26 : decode cX2_isFree 26 = .ok (.iload_n 2, 1) := dk_28 (dk_at dksX2_isFree_1 3 rfl rfl)
theorem dX2_isFree_27 : decode cX2_isFree 27 = .ok (.iaload, 1) := dk_46 (dk_at dksX2_isFree_1 4 rfl rfl)
theorem dX2_isFree_28 : decode cX2_isFree 28 = .ok (.iload_n 1, 1) := dk_27 (dk_at dksX2_isFree_1 5 rfl rfl)
theorem dX2_isFree_29 : decode cX2_isFree 29 = .ok (.iand, 1) := dk_126 (dk_at dksX2_isFree_1 6 rfl rfl)
theorem dX2_isFree_30 : decode cX2_isFree 30 = .ok (.ifCond .eq 5, 3) := dk_153 0 5 (dk_at dksX2_isFree_1 7 rfl rfl)
theorem dX2_isFree_33 : decode cX2_isFree 33 = .ok (.iconst 0, 1) := dk_3 (dk_at dksX2_isFree_1 10 rfl rfl)
theorem dX2_isFree_34 : decode cX2_isFree 34 = .ok (.ireturn, 1) := dk_172 (dk_at dksX2_isFree_1 11 rfl rfl)
theorem dX2_isFree_35 : decode cX2_isFree 35 = .ok (.iinc 2 1, 3) := dk_132 2 1 (dk_at dksX2_isFree_1 12 rfl rfl)
theorem dX2_isFree_38 : decode cX2_isFree 38 = .ok (.goto (-36), 3) := dk_167 255 220 (dk_at dksX2_isFree_1 15 rfl rfl)
theorem dX2_isFree_41 : decode cX2_isFree 41 = .ok (.iconst 1, 1) := dk_4 (dk_at dksX2_isFree_1 18 rfl rfl)
theorem dX2_isFree_42 : decode cX2_isFree 42 = .ok (.ireturn, 1) := dk_172 (dk_at dksX2_isFree_1 19 rfl rfl)
abbrev cX2_alone : ByteArray := prog_12_method_119_code
def yX2_alone : MethodName := ⟨RX2, "alone", "(III)I"⟩
def dkwX2_alone_1 : List UInt8 := [42, 28, 182, 1, 159, 42, 27, 28, 29, 182, 1, 165, 42, 180, 1, 139, 172]
abbrev dktX2_alone_1 : List UInt8 := dkwX2_alone_1 ++ []
def dkwX2_alone_0 : List UInt8 := [42, 27, 182, 1, 189, 153, 0, 17, 28, 184, 1, 46, 153, 0, 10, 29, 184, 1, 121, 154, 0, 5, 2, 172]
abbrev dktX2_alone_0 : List UInt8 := dkwX2_alone_0 ++ dktX2_alone_1
theorem dksX2_alone_0 : cX2_alone.data.toList.drop 0 = dktX2_alone_0 := by decide +kernel
theorem dksX2_alone_1 : cX2_alone.data.toList.drop 24 = dktX2_alone_1 := dk_seg dksX2_alone_0 24 rfl rfl
theorem dX2_alone_0 : decode cX2_alone 0 = .ok (.aload_n 0, 1) := dk_42 (dk_at dksX2_alone_0 0 rfl rfl)
theorem dX2_alone_1 : decode cX2_alone 1 = .ok (.iload_n 1, 1) := dk_27 (dk_at dksX2_alone_0 1 rfl rfl)
theorem dX2_alone_2 : decode cX2_alone 2 = .ok (.invokevirtual 445, 3) := dk_182 1 189 (dk_at dksX2_alone_0 2 rfl rfl)
theorem dX2_alone_5 : decode cX2_alone 5 = .ok (.ifCond .eq 17, 3) := dk_153 0 17 (dk_at dksX2_alone_0 5 rfl rfl)
theorem dX2_alone_8 : decode cX2_alone 8 = .ok (.iload_n 2, 1) := dk_28 (dk_at dksX2_alone_0 8 rfl rfl)
theorem dX2_alone_9 : decode cX2_alone 9 = .ok (.invokestatic 302, 3) := dk_184 1 46 (dk_at dksX2_alone_0 9 rfl rfl)
theorem dX2_alone_12 : decode cX2_alone 12 = .ok (.ifCond .eq 10, 3) := dk_153 0 10 (dk_at dksX2_alone_0 12 rfl rfl)
theorem dX2_alone_15 : decode cX2_alone 15 = .ok (.iload_n 3, 1) := dk_29 (dk_at dksX2_alone_0 15 rfl rfl)
theorem dX2_alone_16 : decode cX2_alone 16 = .ok (.invokestatic 377, 3) := dk_184 1 121 (dk_at dksX2_alone_0 16 rfl rfl)
theorem dX2_alone_19 : decode cX2_alone 19 = .ok (.ifCond .ne 5, 3) := dk_154 0 5 (dk_at dksX2_alone_0 19 rfl rfl)
theorem dX2_alone_22 : decode cX2_alone 22 = .ok (.iconst (-1), 1) := dk_2 (dk_at dksX2_alone_0 22 rfl rfl)
theorem dX2_alone_23 : decode cX2_alone 23 = .ok (.ireturn, 1) := dk_172 (dk_at dksX2_alone_0 23 rfl rfl)
theorem dX2_alone_24 : decode cX2_alone 24 = .ok (.aload_n 0, 1) := dk_42 (dk_at dksX2_alone_1 0 rfl rfl)
theorem dX2_alone_25 : decode cX2_alone 25 = .ok (.iload_n 2, 1) := dk_28 (dk_at dksX2_alone_1 1 rfl rfl)
theorem dX2_alone_26 : decode cX2_alone 26 = .ok (.invokevirtual 415, 3) := dk_182 1 159 (dk_at dksX2_alone_1 2 rfl rfl)
theorem dX2_alone_29 : decode cX2_alone 29 = .ok (.aload_n 0, 1) := dk_42 (dk_at dksX2_alone_1 5 rfl rfl)
theorem dX2_alone_30 : decode cX2_alone 30 = .ok (.iload_n 1, 1) := dk_27 (dk_at dksX2_alone_1 6 rfl rfl)
theorem dX2_alone_31 : decode cX2_alone 31 = .ok (.iload_n 2, 1) := dk_28 (dk_at dksX2_alone_1 7 rfl rfl)
theorem dX2_alone_32 : decode cX2_alone 32 = .ok (.iload_n 3, 1) := dk_29 (dk_at dksX2_alone_1 8 rfl rfl)
theorem dX2_alone_33 : decode cX2_alone 33 = .ok (.invokevirtual 421, 3) := dk_182 1 165 (dk_at dksX2_alone_1 9 rfl rfl)
theorem dX2_alone_36 : decode cX2_alone 36 = .ok (.aload_n 0, 1) := dk_42 (dk_at dksX2_alone_1 12 rfl rfl)
theorem dX2_alone_37 : decode cX2_alone 37 = .ok (.getfield 395, 3) := dk_180 1 139 (dk_at dksX2_alone_1 13 rfl rfl)
theorem dX2_alone_40 : decode cX2_alone 40 = .ok (.ireturn, 1) := dk_172 (dk_at dksX2_alone_1 16 rfl rfl)
abbrev cX2_isFiler : ByteArray := prog_12_method_40_code
def yX2_isFiler : MethodName := ⟨RX2, "isFiler", "(I)Z"⟩
def dkwX2_isFiler_0 : List UInt8 := [27, 3, 42, 180, 0, 22, 4, 46, 4, 100, 184, 0, 93, 172]
abbrev dktX2_isFiler_0 : List UInt8 := dkwX2_isFiler_0 ++ []
theorem dksX2_isFiler_0 : cX2_isFiler.data.toList.drop 0 = dktX2_isFiler_0 := by decide +kernel
theorem dX2_isFiler_0 : decode cX2_isFiler 0 = .ok (.iload_n 1, 1) := dk_27 (dk_at dksX2_isFiler_0 0 rfl rfl)
theorem dX2_isFiler_1 : decode cX2_isFiler 1 = .ok (.iconst 0, 1) := dk_3 (dk_at dksX2_isFiler_0 1 rfl rfl)
theorem dX2_isFiler_2 : decode cX2_isFiler 2 = .ok (.aload_n 0, 1) := dk_42 (dk_at dksX2_isFiler_0 2 rfl rfl)
theorem dX2_isFiler_3 : decode cX2_isFiler 3 = .ok (.getfield 22, 3) := dk_180 0 22 (dk_at dksX2_isFiler_0 3 rfl rfl)
theorem dX2_isFiler_6 : decode cX2_isFiler 6 = .ok (.iconst 1, 1) := dk_4 (dk_at dksX2_isFiler_0 6 rfl rfl)
theorem dX2_isFiler_7 : decode cX2_isFiler 7 = .ok (.iaload, 1) := dk_46 (dk_at dksX2_isFiler_0 7 rfl rfl)
theorem dX2_isFiler_8 : decode cX2_isFiler 8 = .ok (.iconst 1, 1) := dk_4 (dk_at dksX2_isFiler_0 8 rfl rfl)
theorem dX2_isFiler_9 : decode cX2_isFiler 9 = .ok (.isub, 1) := dk_100 (dk_at dksX2_isFiler_0 9 rfl rfl)
theorem dX2_isFiler_10 : decode cX2_isFiler 10 = .ok (.invokestatic 93, 3) := dk_184 0 93 (dk_at dksX2_isFiler_0 10 rfl rfl)
theorem dX2_isFiler_13 : decode cX2_isFiler 13 = .ok (.ireturn, 1) := dk_172 (dk_at dksX2_isFiler_0 13 rfl rfl)
abbrev cX2_latest : ByteArray := prog_12_method_120_code
def yX2_latest : MethodName := ⟨RX2, "latest", "(II)I"⟩
def dkwX2_latest_2 : List UInt8 := [28, 29, 182, 1, 165, 167, 255, 238, 29, 172]
abbrev dktX2_latest_2 : List UInt8 := dkwX2_latest_2 ++ []
def dkwX2_latest_1 : List UInt8 := [17, 39, 15, 62, 42, 27, 28, 29, 182, 1, 165, 42, 180, 1, 139, 153, 0, 17, 29, 4, 100, 62, 42, 27]
abbrev dktX2_latest_1 : List UInt8 := dkwX2_latest_1 ++ dktX2_latest_2
def dkwX2_latest_0 : List UInt8 := [42, 27, 182, 1, 189, 153, 0, 10, 28, 184, 1, 46, 154, 0, 5, 2, 172, 42, 28, 182, 1, 159]
abbrev dktX2_latest_0 : List UInt8 := dkwX2_latest_0 ++ dktX2_latest_1
theorem dksX2_latest_0 : cX2_latest.data.toList.drop 0 = dktX2_latest_0 := by decide +kernel
theorem dksX2_latest_1 : cX2_latest.data.toList.drop 22 = dktX2_latest_1 := dk_seg dksX2_latest_0 22 rfl rfl
theorem dksX2_latest_2 : cX2_latest.data.toList.drop 46 = dktX2_latest_2 := dk_seg dksX2_latest_1 24 rfl rfl
theorem dX2_latest_0 : decode cX2_latest 0 = .ok (.aload_n 0, 1) := dk_42 (dk_at dksX2_latest_0 0 rfl rfl)
theorem dX2_latest_1 : decode cX2_latest 1 = .ok (.iload_n 1, 1) := dk_27 (dk_at dksX2_latest_0 1 rfl rfl)
theorem dX2_latest_2 : decode cX2_latest 2 = .ok (.invokevirtual 445, 3) := dk_182 1 189 (dk_at dksX2_latest_0 2 rfl rfl)
theorem dX2_latest_5 : decode cX2_latest 5 = .ok (.ifCond .eq 10, 3) := dk_153 0 10 (dk_at dksX2_latest_0 5 rfl rfl)
theorem dX2_latest_8 : decode cX2_latest 8 = .ok (.iload_n 2, 1) := dk_28 (dk_at dksX2_latest_0 8 rfl rfl)
theorem dX2_latest_9 : decode cX2_latest 9 = .ok (.invokestatic 302, 3) := dk_184 1 46 (dk_at dksX2_latest_0 9 rfl rfl)
theorem dX2_latest_12 : decode cX2_latest 12 = .ok (.ifCond .ne 5, 3) := dk_154 0 5 (dk_at dksX2_latest_0 12 rfl rfl)
theorem dX2_latest_15 : decode cX2_latest 15 = .ok (.iconst (-1), 1) := dk_2 (dk_at dksX2_latest_0 15 rfl rfl)
theorem dX2_latest_16 : decode cX2_latest 16 = .ok (.ireturn, 1) := dk_172 (dk_at dksX2_latest_0 16 rfl rfl)
theorem dX2_latest_17 : decode cX2_latest 17 = .ok (.aload_n 0, 1) := dk_42 (dk_at dksX2_latest_0 17 rfl rfl)
theorem dX2_latest_18 : decode cX2_latest 18 = .ok (.iload_n 2, 1) := dk_28 (dk_at dksX2_latest_0 18 rfl rfl)
theorem dX2_latest_19 : decode cX2_latest 19 = .ok (.invokevirtual 415, 3) := dk_182 1 159 (dk_at dksX2_latest_0 19 rfl rfl)
theorem dX2_latest_22 : decode cX2_latest 22 = .ok (.sipush 9999, 3) := dk_17 39 15 (dk_at dksX2_latest_1 0 rfl rfl)
theorem dX2_latest_25 : decode cX2_latest 25 = .ok (.istore_n 3, 1) := dk_62 (dk_at dksX2_latest_1 3 rfl rfl)
theorem dX2_latest_26 : decode cX2_latest 26 = .ok (.aload_n 0, 1) := dk_42 (dk_at dksX2_latest_1 4 rfl rfl)
theorem dX2_latest_27 : decode cX2_latest 27 = .ok (.iload_n 1, 1) := dk_27 (dk_at dksX2_latest_1 5 rfl rfl)
theorem dX2_latest_28 : decode cX2_latest 28 = .ok (.iload_n 2, 1) := dk_28 (dk_at dksX2_latest_1 6 rfl rfl)
theorem dX2_latest_29 : decode cX2_latest 29 = .ok (.iload_n 3, 1) := dk_29 (dk_at dksX2_latest_1 7 rfl rfl)
theorem dX2_latest_30 : decode cX2_latest 30 = .ok (.invokevirtual 421, 3) := dk_182 1 165 (dk_at dksX2_latest_1 8 rfl rfl)
theorem dX2_latest_33 : decode cX2_latest 33 = .ok (.aload_n 0, 1) := dk_42 (dk_at dksX2_latest_1 11 rfl rfl)
theorem dX2_latest_34 : decode cX2_latest 34 = .ok (.getfield 395, 3) := dk_180 1 139 (dk_at dksX2_latest_1 12 rfl rfl)
theorem dX2_latest_37 : decode cX2_latest 37 = .ok (.ifCond .eq 17, 3) := dk_153 0 17 (dk_at dksX2_latest_1 15 rfl rfl)
theorem dX2_latest_40 : decode cX2_latest 40 = .ok (.iload_n 3, 1) := dk_29 (dk_at dksX2_latest_1 18 rfl rfl)
theorem dX2_latest_41 : decode cX2_latest 41 = .ok (.iconst 1, 1) := dk_4 (dk_at dksX2_latest_1 19 rfl rfl)
theorem dX2_latest_42 : decode cX2_latest 42 = .ok (.isub, 1) := dk_100 (dk_at dksX2_latest_1 20 rfl rfl)
theorem dX2_latest_43 : decode cX2_latest 43 = .ok (.istore_n 3, 1) := dk_62 (dk_at dksX2_latest_1 21 rfl rfl)
theorem dX2_latest_44 : decode cX2_latest 44 = .ok (.aload_n 0, 1) := dk_42 (dk_at dksX2_latest_1 22 rfl rfl)
theorem dX2_latest_45 : decode cX2_latest 45 = .ok (.iload_n 1, 1) := dk_27 (dk_at dksX2_latest_1 23 rfl rfl)
theorem dX2_latest_46 : decode cX2_latest 46 = .ok (.iload_n 2, 1) := dk_28 (dk_at dksX2_latest_2 0 rfl rfl)
theorem dX2_latest_47 : decode cX2_latest 47 = .ok (.iload_n 3, 1) := dk_29 (dk_at dksX2_latest_2 1 rfl rfl)
theorem dX2_latest_48 : decode cX2_latest 48 = .ok (.invokevirtual 421, 3) := dk_182 1 165 (dk_at dksX2_latest_2 2 rfl rfl)
theorem dX2_latest_51 : decode cX2_latest 51 = .ok (.goto (-18), 3) := dk_167 255 238 (dk_at dksX2_latest_2 5 rfl rfl)
theorem dX2_latest_54 : decode cX2_latest 54 = .ok (.iload_n 3, 1) := dk_29 (dk_at dksX2_latest_2 8 rfl rfl)
theorem dX2_latest_55 : decode cX2_latest 55 = .ok (.ireturn, 1) := dk_172 (dk_at dksX2_latest_2 9 rfl rfl)
abbrev cX2_order : ByteArray := prog_12_method_122_code
def yX2_order : MethodName := ⟨RX2, "order", "(II)I"⟩
def dkwX2_order_3 : List UInt8 := [21, 4, 2, 160, 0, 8, 16, 254, 167, 0, 5, 21, 4, 172]
abbrev dktX2_order_3 : List UInt8 := dkwX2_order_3 ++ []
def dkwX2_order_2 : List UInt8 := [42, 180, 0, 55, 21, 4, 46, 21, 4, 182, 1, 192, 54, 4, 167, 255, 224, 28, 2, 160, 0, 5, 29, 172]
abbrev dktX2_order_2 : List UInt8 := dkwX2_order_2 ++ dktX2_order_3
def dkwX2_order_1 : List UInt8 := [2, 182, 1, 192, 54, 4, 21, 4, 2, 159, 0, 32, 29, 28, 159, 0, 27, 29, 4, 96, 62, 42, 27, 2]
abbrev dktX2_order_1 : List UInt8 := dkwX2_order_1 ++ dktX2_order_2
def dkwX2_order_0 : List UInt8 := [27, 184, 1, 46, 153, 0, 8, 28, 2, 162, 0, 5, 2, 172, 42, 182, 1, 115, 3, 62, 42, 27, 2, 2]
abbrev dktX2_order_0 : List UInt8 := dkwX2_order_0 ++ dktX2_order_1
theorem dksX2_order_0 : cX2_order.data.toList.drop 0 = dktX2_order_0 := by decide +kernel
theorem dksX2_order_1 : cX2_order.data.toList.drop 24 = dktX2_order_1 := dk_seg dksX2_order_0 24 rfl rfl
theorem dksX2_order_2 : cX2_order.data.toList.drop 48 = dktX2_order_2 := dk_seg dksX2_order_1 24 rfl rfl
theorem dksX2_order_3 : cX2_order.data.toList.drop 72 = dktX2_order_3 := dk_seg dksX2_order_2 24 rfl rfl
theorem dX2_order_0 : decode cX2_order 0 = .ok (.iload_n 1, 1) := dk_27 (dk_at dksX2_order_0 0 rfl rfl)
theorem dX2_order_1 : decode cX2_order 1 = .ok (.invokestatic 302, 3) := dk_184 1 46 (dk_at dksX2_order_0 1 rfl rfl)
theorem dX2_order_4 : decode cX2_order 4 = .ok (.ifCond .eq 8, 3) := dk_153 0 8 (dk_at dksX2_order_0 4 rfl rfl)
theorem dX2_order_7 : decode cX2_order 7 = .ok (.iload_n 2, 1) := dk_28 (dk_at dksX2_order_0 7 rfl rfl)
theorem dX2_order_8 : decode cX2_order 8 = .ok (.iconst (-1), 1) := dk_2 (dk_at dksX2_order_0 8 rfl rfl)
theorem dX2_order_9 : decode cX2_order 9 = .ok (.if_icmp .ge 5, 3) := dk_162 0 5 (dk_at dksX2_order_0 9 rfl rfl)
theorem dX2_order_12 : decode cX2_order 12 = .ok (.iconst (-1), 1) := dk_2 (dk_at dksX2_order_0 12 rfl rfl)
theorem dX2_order_13 : decode cX2_order 13 = .ok (.ireturn, 1) := dk_172 (dk_at dksX2_order_0 13 rfl rfl)
theorem dX2_order_14 : decode cX2_order 14 = .ok (.aload_n 0, 1) := dk_42 (dk_at dksX2_order_0 14 rfl rfl)
theorem dX2_order_15 : decode cX2_order 15 = .ok (.invokevirtual 371, 3) := dk_182 1 115 (dk_at dksX2_order_0 15 rfl rfl)
theorem dX2_order_18 : decode cX2_order 18 = .ok (.iconst 0, 1) := dk_3 (dk_at dksX2_order_0 18 rfl rfl)
theorem dX2_order_19 : decode cX2_order 19 = .ok (.istore_n 3, 1) := dk_62 (dk_at dksX2_order_0 19 rfl rfl)
theorem dX2_order_20 : decode cX2_order 20 = .ok (.aload_n 0, 1) := dk_42 (dk_at dksX2_order_0 20 rfl rfl)
theorem dX2_order_21 : decode cX2_order 21 = .ok (.iload_n 1, 1) := dk_27 (dk_at dksX2_order_0 21 rfl rfl)
theorem dX2_order_22 : decode cX2_order 22 = .ok (.iconst (-1), 1) := dk_2 (dk_at dksX2_order_0 22 rfl rfl)
theorem dX2_order_23 : decode cX2_order 23 = .ok (.iconst (-1), 1) := dk_2 (dk_at dksX2_order_0 23 rfl rfl)
theorem dX2_order_24 : decode cX2_order 24 = .ok (.iconst (-1), 1) := dk_2 (dk_at dksX2_order_1 0 rfl rfl)
theorem dX2_order_25 : decode cX2_order 25 = .ok (.invokevirtual 448, 3) := dk_182 1 192 (dk_at dksX2_order_1 1 rfl rfl)
theorem dX2_order_28 : decode cX2_order 28 = .ok (.istore 4, 2) := dk_54 4 (dk_at dksX2_order_1 4 rfl rfl)
theorem dX2_order_30 : decode cX2_order 30 = .ok (.iload 4, 2) := dk_21 4 (dk_at dksX2_order_1 6 rfl rfl)
theorem dX2_order_32 : decode cX2_order 32 = .ok (.iconst (-1), 1) := dk_2 (dk_at dksX2_order_1 8 rfl rfl)
theorem dX2_order_33 : decode cX2_order 33 = .ok (.if_icmp .eq 32, 3) := dk_159 0 32 (dk_at dksX2_order_1 9 rfl rfl)
theorem dX2_order_36 : decode cX2_order 36 = .ok (.iload_n 3, 1) := dk_29 (dk_at dksX2_order_1 12 rfl rfl)
theorem dX2_order_37 : decode cX2_order 37 = .ok (.iload_n 2, 1) := dk_28 (dk_at dksX2_order_1 13 rfl rfl)
theorem dX2_order_38 : decode cX2_order 38 = .ok (.if_icmp .eq 27, 3) := dk_159 0 27 (dk_at dksX2_order_1 14 rfl rfl)
theorem dX2_order_41 : decode cX2_order 41 = .ok (.iload_n 3, 1) := dk_29 (dk_at dksX2_order_1 17 rfl rfl)
theorem dX2_order_42 : decode cX2_order 42 = .ok (.iconst 1, 1) := dk_4 (dk_at dksX2_order_1 18 rfl rfl)
theorem dX2_order_43 : decode cX2_order 43 = .ok (.iadd, 1) := dk_96 (dk_at dksX2_order_1 19 rfl rfl)
theorem dX2_order_44 : decode cX2_order 44 = .ok (.istore_n 3, 1) := dk_62 (dk_at dksX2_order_1 20 rfl rfl)
theorem dX2_order_45 : decode cX2_order 45 = .ok (.aload_n 0, 1) := dk_42 (dk_at dksX2_order_1 21 rfl rfl)
theorem dX2_order_46 : decode cX2_order 46 = .ok (.iload_n 1, 1) := dk_27 (dk_at dksX2_order_1 22 rfl rfl)
theorem dX2_order_47 : decode cX2_order 47 = .ok (.iconst (-1), 1) := dk_2 (dk_at dksX2_order_1 23 rfl rfl)
theorem dX2_order_48 : decode cX2_order 48 = .ok (.aload_n 0, 1) := dk_42 (dk_at dksX2_order_2 0 rfl rfl)
theorem dX2_order_49 : decode cX2_order 49 = .ok (.getfield 55, 3) := dk_180 0 55 (dk_at dksX2_order_2 1 rfl rfl)
theorem dX2_order_52 : decode cX2_order 52 = .ok (.iload 4, 2) := dk_21 4 (dk_at dksX2_order_2 4 rfl rfl)
theorem dX2_order_54 : decode cX2_order 54 = .ok (.iaload, 1) := dk_46 (dk_at dksX2_order_2 6 rfl rfl)
theorem dX2_order_55 : decode cX2_order 55 = .ok (.iload 4, 2) := dk_21 4 (dk_at dksX2_order_2 7 rfl rfl)
theorem dX2_order_57 : decode cX2_order 57 = .ok (.invokevirtual 448, 3) := dk_182 1 192 (dk_at dksX2_order_2 9 rfl rfl)
theorem dX2_order_60 : decode cX2_order 60 = .ok (.istore 4, 2) := dk_54 4 (dk_at dksX2_order_2 12 rfl rfl)
theorem dX2_order_62 : decode cX2_order 62 = .ok (.goto (-32), 3) := dk_167 255 224 (dk_at dksX2_order_2 14 rfl rfl)
theorem dX2_order_65 : decode cX2_order 65 = .ok (.iload_n 2, 1) := dk_28 (dk_at dksX2_order_2 17 rfl rfl)
theorem dX2_order_66 : decode cX2_order 66 = .ok (.iconst (-1), 1) := dk_2 (dk_at dksX2_order_2 18 rfl rfl)
theorem dX2_order_67 : decode cX2_order 67 = .ok (.if_icmp .ne 5, 3) := dk_160 0 5 (dk_at dksX2_order_2 19 rfl rfl)
theorem dX2_order_70 : decode cX2_order 70 = .ok (.iload_n 3, 1) := dk_29 (dk_at dksX2_order_2 22 rfl rfl)
theorem dX2_order_71 : decode cX2_order 71 = .ok (.ireturn, 1) := dk_172 (dk_at dksX2_order_2 23 rfl rfl)
theorem dX2_order_72 : decode cX2_order 72 = .ok (.iload 4, 2) := dk_21 4 (dk_at dksX2_order_3 0 rfl rfl)
theorem dX2_order_74 : decode cX2_order 74 = .ok (.iconst (-1), 1) := dk_2 (dk_at dksX2_order_3 2 rfl rfl)
theorem dX2_order_75 : decode cX2_order 75 = .ok (.if_icmp .ne 8, 3) := dk_160 0 8 (dk_at dksX2_order_3 3 rfl rfl)
theorem dX2_order_78 : decode cX2_order 78 = .ok (.bipush (-2), 2) := dk_16 254 (dk_at dksX2_order_3 6 rfl rfl)
theorem dX2_order_80 : decode cX2_order 80 = .ok (.goto 5, 3) := dk_167 0 5 (dk_at dksX2_order_3 8 rfl rfl)
theorem dX2_order_83 : decode cX2_order 83 = .ok (.iload 4, 2) := dk_21 4 (dk_at dksX2_order_3 11 rfl rfl)
theorem dX2_order_85 : decode cX2_order 85 = .ok (.ireturn, 1) := dk_172 (dk_at dksX2_order_3 13 rfl rfl)
abbrev cX2_nextClaim : ByteArray := prog_12_method_121_code
def yX2_nextClaim : MethodName := ⟨RX2, "nextClaim", "(IIII)I"⟩
def dkwX2_nextClaim_5 : List UInt8 := [54, 5, 132, 6, 1, 167, 255, 142, 21, 5, 172]
abbrev dktX2_nextClaim_5 : List UInt8 := dkwX2_nextClaim_5 ++ []
def dkwX2_nextClaim_4 : List UInt8 := [180, 0, 55, 21, 6, 46, 42, 180, 0, 55, 21, 5, 46, 162, 0, 8, 21, 6, 167, 0, 5, 21, 5]
abbrev dktX2_nextClaim_4 : List UInt8 := dkwX2_nextClaim_4 ++ dktX2_nextClaim_5
def dkwX2_nextClaim_3 : List UInt8 := [182, 1, 162, 28, 159, 0, 43, 21, 7, 154, 0, 6, 167, 0, 35, 21, 5, 2, 159, 0, 20, 42]
abbrev dktX2_nextClaim_3 : List UInt8 := dkwX2_nextClaim_3 ++ dktX2_nextClaim_4
def dkwX2_nextClaim_2 : List UInt8 := [167, 0, 4, 3, 54, 7, 42, 180, 0, 22, 16, 35, 21, 6, 96, 46, 27, 160, 0, 53, 42, 21, 6]
abbrev dktX2_nextClaim_2 : List UInt8 := dkwX2_nextClaim_2 ++ dktX2_nextClaim_3
def dkwX2_nextClaim_1 : List UInt8 := [29, 163, 0, 21, 42, 180, 0, 55, 21, 6, 46, 29, 160, 0, 14, 21, 6, 21, 4, 164, 0, 7, 4]
abbrev dktX2_nextClaim_1 : List UInt8 := dkwX2_nextClaim_1 ++ dktX2_nextClaim_2
def dkwX2_nextClaim_0 : List UInt8 := [2, 54, 5, 3, 54, 6, 21, 6, 42, 180, 0, 22, 6, 46, 162, 0, 109, 42, 180, 0, 55, 21, 6, 46]
abbrev dktX2_nextClaim_0 : List UInt8 := dkwX2_nextClaim_0 ++ dktX2_nextClaim_1
theorem dksX2_nextClaim_0 : cX2_nextClaim.data.toList.drop 0 = dktX2_nextClaim_0 := by decide +kernel
theorem dksX2_nextClaim_1 : cX2_nextClaim.data.toList.drop 24 = dktX2_nextClaim_1 := dk_seg dksX2_nextClaim_0 24 rfl rfl
theorem dksX2_nextClaim_2 : cX2_nextClaim.data.toList.drop 47 = dktX2_nextClaim_2 := dk_seg dksX2_nextClaim_1 23 rfl rfl
theorem dksX2_nextClaim_3 : cX2_nextClaim.data.toList.drop 70 = dktX2_nextClaim_3 := dk_seg dksX2_nextClaim_2 23 rfl rfl
theorem dksX2_nextClaim_4 : cX2_nextClaim.data.toList.drop 92 = dktX2_nextClaim_4 := dk_seg dksX2_nextClaim_3 22 rfl rfl
theorem dksX2_nextClaim_5 : cX2_nextClaim.data.toList.drop 115 = dktX2_nextClaim_5 := dk_seg dksX2_nextClaim_4 23 rfl rfl
theorem dX2_nextClaim_0 : decode cX2_nextClaim 0 = .ok (.iconst (-1), 1) := dk_2 (dk_at dksX2_nextClaim_0 0 rfl rfl)
theorem dX2_nextClaim_1 : decode cX2_nextClaim 1 = .ok (.istore 5, 2) := dk_54 5 (dk_at dksX2_nextClaim_0 1 rfl rfl)
theorem dX2_nextClaim_3 : decode cX2_nextClaim 3 = .ok (.iconst 0, 1) := dk_3 (dk_at dksX2_nextClaim_0 3 rfl rfl)
theorem dX2_nextClaim_4 : decode cX2_nextClaim 4 = .ok (.istore 6, 2) := dk_54 6 (dk_at dksX2_nextClaim_0 4 rfl rfl)
theorem dX2_nextClaim_6 : decode cX2_nextClaim 6 = .ok (.iload 6, 2) := dk_21 6 (dk_at dksX2_nextClaim_0 6 rfl rfl)
theorem dX2_nextClaim_8 : decode cX2_nextClaim 8 = .ok (.aload_n 0, 1) := dk_42 (dk_at dksX2_nextClaim_0 8 rfl rfl)
theorem dX2_nextClaim_9 : decode cX2_nextClaim 9 = .ok (.getfield 22, 3) := dk_180 0 22 (dk_at dksX2_nextClaim_0 9 rfl rfl)
theorem dX2_nextClaim_12 : decode cX2_nextClaim 12 = .ok (.iconst 3, 1) := dk_6 (dk_at dksX2_nextClaim_0 12 rfl rfl)
theorem dX2_nextClaim_13 : decode cX2_nextClaim 13 = .ok (.iaload, 1) := dk_46 (dk_at dksX2_nextClaim_0 13 rfl rfl)
theorem dX2_nextClaim_14 : decode cX2_nextClaim 14 = .ok (.if_icmp .ge 109, 3) := dk_162 0 109 (dk_at dksX2_nextClaim_0 14 rfl rfl)
theorem dX2_nextClaim_17 : decode cX2_nextClaim 17 = .ok (.aload_n 0, 1) := dk_42 (dk_at dksX2_nextClaim_0 17 rfl rfl)
theorem dX2_nextClaim_18 : decode cX2_nextClaim 18 = .ok (.getfield 55, 3) := dk_180 0 55 (dk_at dksX2_nextClaim_0 18 rfl rfl)
theorem dX2_nextClaim_21 : decode cX2_nextClaim 21 = .ok (.iload 6, 2) := dk_21 6 (dk_at dksX2_nextClaim_0 21 rfl rfl)
theorem dX2_nextClaim_23 : decode cX2_nextClaim 23 = .ok (.iaload, 1) := dk_46 (dk_at dksX2_nextClaim_0 23 rfl rfl)
theorem dX2_nextClaim_24 : decode cX2_nextClaim 24 = .ok (.iload_n 3, 1) := dk_29 (dk_at dksX2_nextClaim_1 0 rfl rfl)
theorem dX2_nextClaim_25 : decode cX2_nextClaim 25 = .ok (.if_icmp .gt 21, 3) := dk_163 0 21 (dk_at dksX2_nextClaim_1 1 rfl rfl)
theorem dX2_nextClaim_28 : decode cX2_nextClaim 28 = .ok (.aload_n 0, 1) := dk_42 (dk_at dksX2_nextClaim_1 4 rfl rfl)
theorem dX2_nextClaim_29 : decode cX2_nextClaim 29 = .ok (.getfield 55, 3) := dk_180 0 55 (dk_at dksX2_nextClaim_1 5 rfl rfl)
theorem dX2_nextClaim_32 : decode cX2_nextClaim 32 = .ok (.iload 6, 2) := dk_21 6 (dk_at dksX2_nextClaim_1 8 rfl rfl)
theorem dX2_nextClaim_34 : decode cX2_nextClaim 34 = .ok (.iaload, 1) := dk_46 (dk_at dksX2_nextClaim_1 10 rfl rfl)
theorem dX2_nextClaim_35 : decode cX2_nextClaim 35 = .ok (.iload_n 3, 1) := dk_29 (dk_at dksX2_nextClaim_1 11 rfl rfl)
theorem dX2_nextClaim_36 : decode cX2_nextClaim 36 = .ok (.if_icmp .ne 14, 3) := dk_160 0 14 (dk_at dksX2_nextClaim_1 12 rfl rfl)
theorem dX2_nextClaim_39 : decode cX2_nextClaim 39 = .ok (.iload 6, 2) := dk_21 6 (dk_at dksX2_nextClaim_1 15 rfl rfl)
theorem dX2_nextClaim_41 : decode cX2_nextClaim 41 = .ok (.iload 4, 2) := dk_21 4 (dk_at dksX2_nextClaim_1 17 rfl rfl)
theorem dX2_nextClaim_43 : decode cX2_nextClaim 43 = .ok (.if_icmp .le 7, 3) := dk_164 0 7 (dk_at dksX2_nextClaim_1 19 rfl rfl)
theorem dX2_nextClaim_46 : decode cX2_nextClaim 46 = .ok (.iconst 1, 1) := dk_4 (dk_at dksX2_nextClaim_1 22 rfl rfl)
theorem dX2_nextClaim_47 : decode cX2_nextClaim 47 = .ok (.goto 4, 3) := dk_167 0 4 (dk_at dksX2_nextClaim_2 0 rfl rfl)
theorem dX2_nextClaim_50 : decode cX2_nextClaim 50 = .ok (.iconst 0, 1) := dk_3 (dk_at dksX2_nextClaim_2 3 rfl rfl)
theorem dX2_nextClaim_51 : decode cX2_nextClaim 51 = .ok (.istore 7, 2) := dk_54 7 (dk_at dksX2_nextClaim_2 4 rfl rfl)
theorem dX2_nextClaim_53 : decode cX2_nextClaim 53 = .ok (.aload_n 0, 1) := dk_42 (dk_at dksX2_nextClaim_2 6 rfl rfl)
theorem dX2_nextClaim_54 : decode cX2_nextClaim 54 = .ok (.getfield 22, 3) := dk_180 0 22 (dk_at dksX2_nextClaim_2 7 rfl rfl)
theorem dX2_nextClaim_57 : decode cX2_nextClaim 57 = .ok (.bipush 35, 2) := dk_16 35 (dk_at dksX2_nextClaim_2 10 rfl rfl)
theorem dX2_nextClaim_59 : decode cX2_nextClaim 59 = .ok (.iload 6, 2) := dk_21 6 (dk_at dksX2_nextClaim_2 12 rfl rfl)
theorem dX2_nextClaim_61 : decode cX2_nextClaim 61 = .ok (.iadd, 1) := dk_96 (dk_at dksX2_nextClaim_2 14 rfl rfl)
theorem dX2_nextClaim_62 : decode cX2_nextClaim 62 = .ok (.iaload, 1) := dk_46 (dk_at dksX2_nextClaim_2 15 rfl rfl)
theorem dX2_nextClaim_63 : decode cX2_nextClaim 63 = .ok (.iload_n 1, 1) := dk_27 (dk_at dksX2_nextClaim_2 16 rfl rfl)
theorem dX2_nextClaim_64 : decode cX2_nextClaim 64 = .ok (.if_icmp .ne 53, 3) := dk_160 0 53 (dk_at dksX2_nextClaim_2 17 rfl rfl)
theorem dX2_nextClaim_67 : decode cX2_nextClaim 67 = .ok (.aload_n 0, 1) := dk_42 (dk_at dksX2_nextClaim_2 20 rfl rfl)
theorem dX2_nextClaim_68 : decode cX2_nextClaim 68 = .ok (.iload 6, 2) := dk_21 6 (dk_at dksX2_nextClaim_2 21 rfl rfl)
theorem dX2_nextClaim_70 : decode cX2_nextClaim 70 = .ok (.invokevirtual 418, 3) := dk_182 1 162 (dk_at dksX2_nextClaim_3 0 rfl rfl)
theorem dX2_nextClaim_73 : decode cX2_nextClaim 73 = .ok (.iload_n 2, 1) := dk_28 (dk_at dksX2_nextClaim_3 3 rfl rfl)
theorem dX2_nextClaim_74 : decode cX2_nextClaim 74 = .ok (.if_icmp .eq 43, 3) := dk_159 0 43 (dk_at dksX2_nextClaim_3 4 rfl rfl)
theorem dX2_nextClaim_77 : decode cX2_nextClaim 77 = .ok (.iload 7, 2) := dk_21 7 (dk_at dksX2_nextClaim_3 7 rfl rfl)
theorem dX2_nextClaim_79 : decode cX2_nextClaim 79 = .ok (.ifCond .ne 6, 3) := dk_154 0 6 (dk_at dksX2_nextClaim_3 9 rfl rfl)
theorem dX2_nextClaim_82 : decode cX2_nextClaim 82 = .ok (.goto 35, 3) := dk_167 0 35 (dk_at dksX2_nextClaim_3 12 rfl rfl)
theorem dX2_nextClaim_85 : decode cX2_nextClaim 85 = .ok (.iload 5, 2) := dk_21 5 (dk_at dksX2_nextClaim_3 15 rfl rfl)
theorem dX2_nextClaim_87 : decode cX2_nextClaim 87 = .ok (.iconst (-1), 1) := dk_2 (dk_at dksX2_nextClaim_3 17 rfl rfl)
theorem dX2_nextClaim_88 : decode cX2_nextClaim 88 = .ok (.if_icmp .eq 20, 3) := dk_159 0 20 (dk_at dksX2_nextClaim_3 18 rfl rfl)
theorem dX2_nextClaim_91 : decode cX2_nextClaim 91 = .ok (.aload_n 0, 1) := dk_42 (dk_at dksX2_nextClaim_3 21 rfl rfl)
theorem dX2_nextClaim_92 : decode cX2_nextClaim 92 = .ok (.getfield 55, 3) := dk_180 0 55 (dk_at dksX2_nextClaim_4 0 rfl rfl)
theorem dX2_nextClaim_95 : decode cX2_nextClaim 95 = .ok (.iload 6, 2) := dk_21 6 (dk_at dksX2_nextClaim_4 3 rfl rfl)
theorem dX2_nextClaim_97 : decode cX2_nextClaim 97 = .ok (.iaload, 1) := dk_46 (dk_at dksX2_nextClaim_4 5 rfl rfl)
theorem dX2_nextClaim_98 : decode cX2_nextClaim 98 = .ok (.aload_n 0, 1) := dk_42 (dk_at dksX2_nextClaim_4 6 rfl rfl)
theorem dX2_nextClaim_99 : decode cX2_nextClaim 99 = .ok (.getfield 55, 3) := dk_180 0 55 (dk_at dksX2_nextClaim_4 7 rfl rfl)
theorem dX2_nextClaim_102 : decode cX2_nextClaim 102 = .ok (.iload 5, 2) := dk_21 5 (dk_at dksX2_nextClaim_4 10 rfl rfl)
theorem dX2_nextClaim_104 : decode cX2_nextClaim 104 = .ok (.iaload, 1) := dk_46 (dk_at dksX2_nextClaim_4 12 rfl rfl)
theorem dX2_nextClaim_105 : decode cX2_nextClaim 105 = .ok (.if_icmp .ge 8, 3) := dk_162 0 8 (dk_at dksX2_nextClaim_4 13 rfl rfl)
theorem dX2_nextClaim_108 : decode cX2_nextClaim 108 = .ok (.iload 6, 2) := dk_21 6 (dk_at dksX2_nextClaim_4 16 rfl rfl)
theorem dX2_nextClaim_110 : decode cX2_nextClaim 110 = .ok (.goto 5, 3) := dk_167 0 5 (dk_at dksX2_nextClaim_4 18 rfl rfl)
theorem dX2_nextClaim_113 : decode cX2_nextClaim 113 = .ok (.iload 5, 2) := dk_21 5 (dk_at dksX2_nextClaim_4 21 rfl rfl)
theorem dX2_nextClaim_115 : decode cX2_nextClaim 115 = .ok (.istore 5, 2) := dk_54 5 (dk_at dksX2_nextClaim_5 0 rfl rfl)
theorem dX2_nextClaim_117 : decode cX2_nextClaim 117 = .ok (.iinc 6 1, 3) := dk_132 6 1 (dk_at dksX2_nextClaim_5 2 rfl rfl)
theorem dX2_nextClaim_120 : decode cX2_nextClaim 120 = .ok (.goto (-114), 3) := dk_167 255 142 (dk_at dksX2_nextClaim_5 5 rfl rfl)
theorem dX2_nextClaim_123 : decode cX2_nextClaim 123 = .ok (.iload 5, 2) := dk_21 5 (dk_at dksX2_nextClaim_5 8 rfl rfl)
theorem dX2_nextClaim_125 : decode cX2_nextClaim 125 = .ok (.ireturn, 1) := dk_172 (dk_at dksX2_nextClaim_5 10 rfl rfl)
abbrev cX2_rival : ByteArray := prog_12_method_123_code
def yX2_rival : MethodName := ⟨RX2, "rival", "(I)I"⟩
def dkwX2_rival_3 : List UInt8 := [160, 0, 8, 16, 253, 167, 0, 4, 28, 172]
abbrev dktX2_rival_3 : List UInt8 := dkwX2_rival_3 ++ []
def dkwX2_rival_2 : List UInt8 := [180, 0, 55, 27, 46, 164, 0, 6, 16, 254, 172, 42, 180, 0, 55, 28, 46, 42, 180, 0, 55, 27, 46]
abbrev dktX2_rival_2 : List UInt8 := dkwX2_rival_2 ++ dktX2_rival_3
def dkwX2_rival_1 : List UInt8 := [42, 27, 182, 1, 162, 2, 2, 182, 1, 192, 61, 28, 2, 159, 0, 18, 42, 180, 0, 55, 28, 46, 42]
abbrev dktX2_rival_1 : List UInt8 := dkwX2_rival_1 ++ dktX2_rival_2
def dkwX2_rival_0 : List UInt8 := [42, 27, 182, 1, 171, 154, 0, 5, 2, 172, 42, 182, 1, 115, 42, 42, 180, 0, 22, 16, 35, 27, 96, 46]
abbrev dktX2_rival_0 : List UInt8 := dkwX2_rival_0 ++ dktX2_rival_1
theorem dksX2_rival_0 : cX2_rival.data.toList.drop 0 = dktX2_rival_0 := by decide +kernel
theorem dksX2_rival_1 : cX2_rival.data.toList.drop 24 = dktX2_rival_1 := dk_seg dksX2_rival_0 24 rfl rfl
theorem dksX2_rival_2 : cX2_rival.data.toList.drop 47 = dktX2_rival_2 := dk_seg dksX2_rival_1 23 rfl rfl
theorem dksX2_rival_3 : cX2_rival.data.toList.drop 70 = dktX2_rival_3 := dk_seg dksX2_rival_2 23 rfl rfl
theorem dX2_rival_0 : decode cX2_rival 0 = .ok (.aload_n 0, 1) := dk_42 (dk_at dksX2_rival_0 0 rfl rfl)
theorem dX2_rival_1 : decode cX2_rival 1 = .ok (.iload_n 1, 1) := dk_27 (dk_at dksX2_rival_0 1 rfl rfl)
theorem dX2_rival_2 : decode cX2_rival 2 = .ok (.invokevirtual 427, 3) := dk_182 1 171 (dk_at dksX2_rival_0 2 rfl rfl)
theorem dX2_rival_5 : decode cX2_rival 5 = .ok (.ifCond .ne 5, 3) := dk_154 0 5 (dk_at dksX2_rival_0 5 rfl rfl)
theorem dX2_rival_8 : decode cX2_rival 8 = .ok (.iconst (-1), 1) := dk_2 (dk_at dksX2_rival_0 8 rfl rfl)
theorem dX2_rival_9 : decode cX2_rival 9 = .ok (.ireturn, 1) := dk_172 (dk_at dksX2_rival_0 9 rfl rfl)
theorem dX2_rival_10 : decode cX2_rival 10 = .ok (.aload_n 0, 1) := dk_42 (dk_at dksX2_rival_0 10 rfl rfl)
theorem dX2_rival_11 : decode cX2_rival 11 = .ok (.invokevirtual 371, 3) := dk_182 1 115 (dk_at dksX2_rival_0 11 rfl rfl)
theorem dX2_rival_14 : decode cX2_rival 14 = .ok (.aload_n 0, 1) := dk_42 (dk_at dksX2_rival_0 14 rfl rfl)
theorem dX2_rival_15 : decode cX2_rival 15 = .ok (.aload_n 0, 1) := dk_42 (dk_at dksX2_rival_0 15 rfl rfl)
theorem dX2_rival_16 : decode cX2_rival 16 = .ok (.getfield 22, 3) := dk_180 0 22 (dk_at dksX2_rival_0 16 rfl rfl)
theorem dX2_rival_19 : decode cX2_rival 19 = .ok (.bipush 35, 2) := dk_16 35 (dk_at dksX2_rival_0 19 rfl rfl)
theorem dX2_rival_21 : decode cX2_rival 21 = .ok (.iload_n 1, 1) := dk_27 (dk_at dksX2_rival_0 21 rfl rfl)
theorem dX2_rival_22 : decode cX2_rival 22 = .ok (.iadd, 1) := dk_96 (dk_at dksX2_rival_0 22 rfl rfl)
theorem dX2_rival_23 : decode cX2_rival 23 = .ok (.iaload, 1) := dk_46 (dk_at dksX2_rival_0 23 rfl rfl)
theorem dX2_rival_24 : decode cX2_rival 24 = .ok (.aload_n 0, 1) := dk_42 (dk_at dksX2_rival_1 0 rfl rfl)
theorem dX2_rival_25 : decode cX2_rival 25 = .ok (.iload_n 1, 1) := dk_27 (dk_at dksX2_rival_1 1 rfl rfl)
theorem dX2_rival_26 : decode cX2_rival 26 = .ok (.invokevirtual 418, 3) := dk_182 1 162 (dk_at dksX2_rival_1 2 rfl rfl)
theorem dX2_rival_29 : decode cX2_rival 29 = .ok (.iconst (-1), 1) := dk_2 (dk_at dksX2_rival_1 5 rfl rfl)
theorem dX2_rival_30 : decode cX2_rival 30 = .ok (.iconst (-1), 1) := dk_2 (dk_at dksX2_rival_1 6 rfl rfl)
theorem dX2_rival_31 : decode cX2_rival 31 = .ok (.invokevirtual 448, 3) := dk_182 1 192 (dk_at dksX2_rival_1 7 rfl rfl)
theorem dX2_rival_34 : decode cX2_rival 34 = .ok (.istore_n 2, 1) := dk_61 (dk_at dksX2_rival_1 10 rfl rfl)
theorem dX2_rival_35 : decode cX2_rival 35 = .ok (.iload_n 2, 1) := dk_28 (dk_at dksX2_rival_1 11 rfl rfl)
theorem dX2_rival_36 : decode cX2_rival 36 = .ok (.iconst (-1), 1) := dk_2 (dk_at dksX2_rival_1 12 rfl rfl)
theorem dX2_rival_37 : decode cX2_rival 37 = .ok (.if_icmp .eq 18, 3) := dk_159 0 18 (dk_at dksX2_rival_1 13 rfl rfl)
theorem dX2_rival_40 : decode cX2_rival 40 = .ok (.aload_n 0, 1) := dk_42 (dk_at dksX2_rival_1 16 rfl rfl)
theorem dX2_rival_41 : decode cX2_rival 41 = .ok (.getfield 55, 3) := dk_180 0 55 (dk_at dksX2_rival_1 17 rfl rfl)
theorem dX2_rival_44 : decode cX2_rival 44 = .ok (.iload_n 2, 1) := dk_28 (dk_at dksX2_rival_1 20 rfl rfl)
theorem dX2_rival_45 : decode cX2_rival 45 = .ok (.iaload, 1) := dk_46 (dk_at dksX2_rival_1 21 rfl rfl)
theorem dX2_rival_46 : decode cX2_rival 46 = .ok (.aload_n 0, 1) := dk_42 (dk_at dksX2_rival_1 22 rfl rfl)
theorem dX2_rival_47 : decode cX2_rival 47 = .ok (.getfield 55, 3) := dk_180 0 55 (dk_at dksX2_rival_2 0 rfl rfl)
theorem dX2_rival_50 : decode cX2_rival 50 = .ok (.iload_n 1, 1) := dk_27 (dk_at dksX2_rival_2 3 rfl rfl)
theorem dX2_rival_51 : decode cX2_rival 51 = .ok (.iaload, 1) := dk_46 (dk_at dksX2_rival_2 4 rfl rfl)
theorem dX2_rival_52 : decode cX2_rival 52 = .ok (.if_icmp .le 6, 3) := dk_164 0 6 (dk_at dksX2_rival_2 5 rfl rfl)
theorem dX2_rival_55 : decode cX2_rival 55 = .ok (.bipush (-2), 2) := dk_16 254 (dk_at dksX2_rival_2 8 rfl rfl)
theorem dX2_rival_57 : decode cX2_rival 57 = .ok (.ireturn, 1) := dk_172 (dk_at dksX2_rival_2 10 rfl rfl)
theorem dX2_rival_58 : decode cX2_rival 58 = .ok (.aload_n 0, 1) := dk_42 (dk_at dksX2_rival_2 11 rfl rfl)
theorem dX2_rival_59 : decode cX2_rival 59 = .ok (.getfield 55, 3) := dk_180 0 55 (dk_at dksX2_rival_2 12 rfl rfl)
theorem dX2_rival_62 : decode cX2_rival 62 = .ok (.iload_n 2, 1) := dk_28 (dk_at dksX2_rival_2 15 rfl rfl)
theorem dX2_rival_63 : decode cX2_rival 63 = .ok (.iaload, 1) := dk_46 (dk_at dksX2_rival_2 16 rfl rfl)
theorem dX2_rival_64 : decode cX2_rival 64 = .ok (.aload_n 0, 1) := dk_42 (dk_at dksX2_rival_2 17 rfl rfl)
theorem dX2_rival_65 : decode cX2_rival 65 = .ok (.getfield 55, 3) := dk_180 0 55 (dk_at dksX2_rival_2 18 rfl rfl)
theorem dX2_rival_68 : decode cX2_rival 68 = .ok (.iload_n 1, 1) := dk_27 (dk_at dksX2_rival_2 21 rfl rfl)
theorem dX2_rival_69 : decode cX2_rival 69 = .ok (.iaload, 1) := dk_46 (dk_at dksX2_rival_2 22 rfl rfl)
theorem dX2_rival_70 : decode cX2_rival 70 = .ok (.if_icmp .ne 8, 3) := dk_160 0 8 (dk_at dksX2_rival_3 0 rfl rfl)
theorem dX2_rival_73 : decode cX2_rival 73 = .ok (.bipush (-3), 2) := dk_16 253 (dk_at dksX2_rival_3 3 rfl rfl)
theorem dX2_rival_75 : decode cX2_rival 75 = .ok (.goto 4, 3) := dk_167 0 4 (dk_at dksX2_rival_3 5 rfl rfl)
theorem dX2_rival_78 : decode cX2_rival 78 = .ok (.iload_n 2, 1) := dk_28 (dk_at dksX2_rival_3 8 rfl rfl)
theorem dX2_rival_79 : decode cX2_rival 79 = .ok (.ireturn, 1) := dk_172 (dk_at dksX2_rival_3 9 rfl rfl)
abbrev cX2_twins : ByteArray := prog_12_method_124_code
def yX2_twins : MethodName := ⟨RX2, "twins", "(I)I"⟩
def dkwX2_twins_3 : List UInt8 := [153, 0, 11, 28, 4, 29, 120, 128, 167, 0, 4, 28, 61, 132, 3, 1, 167, 255, 182, 28, 172]
abbrev dktX2_twins_3 : List UInt8 := dkwX2_twins_3 ++ []
def dkwX2_twins_2 : List UInt8 := [29, 96, 46, 42, 180, 0, 22, 16, 35, 27, 96, 46, 160, 0, 7, 4, 167, 0, 4, 3, 54, 4, 21, 4]
abbrev dktX2_twins_2 : List UInt8 := dkwX2_twins_2 ++ dktX2_twins_3
def dkwX2_twins_1 : List UInt8 := [29, 27, 159, 0, 41, 42, 29, 182, 1, 162, 42, 27, 182, 1, 162, 160, 0, 28, 42, 180, 0, 22, 16, 35]
abbrev dktX2_twins_1 : List UInt8 := dkwX2_twins_1 ++ dktX2_twins_2
def dkwX2_twins_0 : List UInt8 := [42, 27, 182, 1, 171, 154, 0, 5, 2, 172, 3, 61, 3, 62, 29, 42, 180, 0, 22, 6, 46, 162, 0, 70]
abbrev dktX2_twins_0 : List UInt8 := dkwX2_twins_0 ++ dktX2_twins_1
theorem dksX2_twins_0 : cX2_twins.data.toList.drop 0 = dktX2_twins_0 := by decide +kernel
theorem dksX2_twins_1 : cX2_twins.data.toList.drop 24 = dktX2_twins_1 := dk_seg dksX2_twins_0 24 rfl rfl
theorem dksX2_twins_2 : cX2_twins.data.toList.drop 48 = dktX2_twins_2 := dk_seg dksX2_twins_1 24 rfl rfl
theorem dksX2_twins_3 : cX2_twins.data.toList.drop 72 = dktX2_twins_3 := dk_seg dksX2_twins_2 24 rfl rfl
theorem dX2_twins_0 : decode cX2_twins 0 = .ok (.aload_n 0, 1) := dk_42 (dk_at dksX2_twins_0 0 rfl rfl)
theorem dX2_twins_1 : decode cX2_twins 1 = .ok (.iload_n 1, 1) := dk_27 (dk_at dksX2_twins_0 1 rfl rfl)
theorem dX2_twins_2 : decode cX2_twins 2 = .ok (.invokevirtual 427, 3) := dk_182 1 171 (dk_at dksX2_twins_0 2 rfl rfl)
theorem dX2_twins_5 : decode cX2_twins 5 = .ok (.ifCond .ne 5, 3) := dk_154 0 5 (dk_at dksX2_twins_0 5 rfl rfl)
theorem dX2_twins_8 : decode cX2_twins 8 = .ok (.iconst (-1), 1) := dk_2 (dk_at dksX2_twins_0 8 rfl rfl)
theorem dX2_twins_9 : decode cX2_twins 9 = .ok (.ireturn, 1) := dk_172 (dk_at dksX2_twins_0 9 rfl rfl)
theorem dX2_twins_10 : decode cX2_twins 10 = .ok (.iconst 0, 1) := dk_3 (dk_at dksX2_twins_0 10 rfl rfl)
theorem dX2_twins_11 : decode cX2_twins 11 = .ok (.istore_n 2, 1) := dk_61 (dk_at dksX2_twins_0 11 rfl rfl)
theorem dX2_twins_12 : decode cX2_twins 12 = .ok (.iconst 0, 1) := dk_3 (dk_at dksX2_twins_0 12 rfl rfl)
theorem dX2_twins_13 : decode cX2_twins 13 = .ok (.istore_n 3, 1) := dk_62 (dk_at dksX2_twins_0 13 rfl rfl)
theorem dX2_twins_14 : decode cX2_twins 14 = .ok (.iload_n 3, 1) := dk_29 (dk_at dksX2_twins_0 14 rfl rfl)
theorem dX2_twins_15 : decode cX2_twins 15 = .ok (.aload_n 0, 1) := dk_42 (dk_at dksX2_twins_0 15 rfl rfl)
theorem dX2_twins_16 : decode cX2_twins 16 = .ok (.getfield 22, 3) := dk_180 0 22 (dk_at dksX2_twins_0 16 rfl rfl)
theorem dX2_twins_19 : decode cX2_twins 19 = .ok (.iconst 3, 1) := dk_6 (dk_at dksX2_twins_0 19 rfl rfl)
theorem dX2_twins_20 : decode cX2_twins 20 = .ok (.iaload, 1) := dk_46 (dk_at dksX2_twins_0 20 rfl rfl)
theorem dX2_twins_21 : decode cX2_twins 21 = .ok (.if_icmp .ge 70, 3) := dk_162 0 70 (dk_at dksX2_twins_0 21 rfl rfl)
theorem dX2_twins_24 : decode cX2_twins 24 = .ok (.iload_n 3, 1) := dk_29 (dk_at dksX2_twins_1 0 rfl rfl)
theorem dX2_twins_25 : decode cX2_twins 25 = .ok (.iload_n 1, 1) := dk_27 (dk_at dksX2_twins_1 1 rfl rfl)
theorem dX2_twins_26 : decode cX2_twins 26 = .ok (.if_icmp .eq 41, 3) := dk_159 0 41 (dk_at dksX2_twins_1 2 rfl rfl)
theorem dX2_twins_29 : decode cX2_twins 29 = .ok (.aload_n 0, 1) := dk_42 (dk_at dksX2_twins_1 5 rfl rfl)
theorem dX2_twins_30 : decode cX2_twins 30 = .ok (.iload_n 3, 1) := dk_29 (dk_at dksX2_twins_1 6 rfl rfl)
theorem dX2_twins_31 : decode cX2_twins 31 = .ok (.invokevirtual 418, 3) := dk_182 1 162 (dk_at dksX2_twins_1 7 rfl rfl)
theorem dX2_twins_34 : decode cX2_twins 34 = .ok (.aload_n 0, 1) := dk_42 (dk_at dksX2_twins_1 10 rfl rfl)
theorem dX2_twins_35 : decode cX2_twins 35 = .ok (.iload_n 1, 1) := dk_27 (dk_at dksX2_twins_1 11 rfl rfl)
theorem dX2_twins_36 : decode cX2_twins 36 = .ok (.invokevirtual 418, 3) := dk_182 1 162 (dk_at dksX2_twins_1 12 rfl rfl)
theorem dX2_twins_39 : decode cX2_twins 39 = .ok (.if_icmp .ne 28, 3) := dk_160 0 28 (dk_at dksX2_twins_1 15 rfl rfl)
theorem dX2_twins_42 : decode cX2_twins 42 = .ok (.aload_n 0, 1) := dk_42 (dk_at dksX2_twins_1 18 rfl rfl)
theorem dX2_twins_43 : decode cX2_twins 43 = .ok (.getfield 22, 3) := dk_180 0 22 (dk_at dksX2_twins_1 19 rfl rfl)
theorem dX2_twins_46 : decode cX2_twins 46 = .ok (.bipush 35, 2) := dk_16 35 (dk_at dksX2_twins_1 22 rfl rfl)
theorem dX2_twins_48 : decode cX2_twins 48 = .ok (.iload_n 3, 1) := dk_29 (dk_at dksX2_twins_2 0 rfl rfl)
theorem dX2_twins_49 : decode cX2_twins 49 = .ok (.iadd, 1) := dk_96 (dk_at dksX2_twins_2 1 rfl rfl)
theorem dX2_twins_50 : decode cX2_twins 50 = .ok (.iaload, 1) := dk_46 (dk_at dksX2_twins_2 2 rfl rfl)
theorem dX2_twins_51 : decode cX2_twins 51 = .ok (.aload_n 0, 1) := dk_42 (dk_at dksX2_twins_2 3 rfl rfl)
theorem dX2_twins_52 : decode cX2_twins 52 = .ok (.getfield 22, 3) := dk_180 0 22 (dk_at dksX2_twins_2 4 rfl rfl)
theorem dX2_twins_55 : decode cX2_twins 55 = .ok (.bipush 35, 2) := dk_16 35 (dk_at dksX2_twins_2 7 rfl rfl)
theorem dX2_twins_57 : decode cX2_twins 57 = .ok (.iload_n 1, 1) := dk_27 (dk_at dksX2_twins_2 9 rfl rfl)
theorem dX2_twins_58 : decode cX2_twins 58 = .ok (.iadd, 1) := dk_96 (dk_at dksX2_twins_2 10 rfl rfl)
theorem dX2_twins_59 : decode cX2_twins 59 = .ok (.iaload, 1) := dk_46 (dk_at dksX2_twins_2 11 rfl rfl)
theorem dX2_twins_60 : decode cX2_twins 60 = .ok (.if_icmp .ne 7, 3) := dk_160 0 7 (dk_at dksX2_twins_2 12 rfl rfl)
theorem dX2_twins_63 : decode cX2_twins 63 = .ok (.iconst 1, 1) := dk_4 (dk_at dksX2_twins_2 15 rfl rfl)
theorem dX2_twins_64 : decode cX2_twins 64 = .ok (.goto 4, 3) := dk_167 0 4 (dk_at dksX2_twins_2 16 rfl rfl)
theorem dX2_twins_67 : decode cX2_twins 67 = .ok (.iconst 0, 1) := dk_3 (dk_at dksX2_twins_2 19 rfl rfl)
theorem dX2_twins_68 : decode cX2_twins 68 = .ok (.istore 4, 2) := dk_54 4 (dk_at dksX2_twins_2 20 rfl rfl)
theorem dX2_twins_70 : decode cX2_twins 70 = .ok (.iload 4, 2) := dk_21 4 (dk_at dksX2_twins_2 22 rfl rfl)
theorem dX2_twins_72 : decode cX2_twins 72 = .ok (.ifCond .eq 11, 3) := dk_153 0 11 (dk_at dksX2_twins_3 0 rfl rfl)
theorem dX2_twins_75 : decode cX2_twins 75 = .ok (.iload_n 2, 1) := dk_28 (dk_at dksX2_twins_3 3 rfl rfl)
theorem dX2_twins_76 : decode cX2_twins 76 = .ok (.iconst 1, 1) := dk_4 (dk_at dksX2_twins_3 4 rfl rfl)
theorem dX2_twins_77 : decode cX2_twins 77 = .ok (.iload_n 3, 1) := dk_29 (dk_at dksX2_twins_3 5 rfl rfl)
theorem dX2_twins_78 : decode cX2_twins 78 = .ok (.ishl, 1) := dk_120 (dk_at dksX2_twins_3 6 rfl rfl)
theorem dX2_twins_79 : decode cX2_twins 79 = .ok (.ior, 1) := dk_128 (dk_at dksX2_twins_3 7 rfl rfl)
theorem dX2_twins_80 : decode cX2_twins 80 = .ok (.goto 4, 3) := dk_167 0 4 (dk_at dksX2_twins_3 8 rfl rfl)
theorem dX2_twins_83 : decode cX2_twins 83 = .ok (.iload_n 2, 1) := dk_28 (dk_at dksX2_twins_3 11 rfl rfl)
theorem dX2_twins_84 : decode cX2_twins 84 = .ok (.istore_n 2, 1) := dk_61 (dk_at dksX2_twins_3 12 rfl rfl)
theorem dX2_twins_85 : decode cX2_twins 85 = .ok (.iinc 3 1, 3) := dk_132 3 1 (dk_at dksX2_twins_3 13 rfl rfl)
theorem dX2_twins_88 : decode cX2_twins 88 = .ok (.goto (-74), 3) := dk_167 255 182 (dk_at dksX2_twins_3 16 rfl rfl)
theorem dX2_twins_91 : decode cX2_twins 91 = .ok (.iload_n 2, 1) := dk_28 (dk_at dksX2_twins_3 19 rfl rfl)
theorem dX2_twins_92 : decode cX2_twins 92 = .ok (.ireturn, 1) := dk_172 (dk_at dksX2_twins_3 20 rfl rfl)
abbrev cX2_family : ByteArray := prog_12_method_126_code
def yX2_family : MethodName := ⟨RX2, "family", "(I)I"⟩
def dkwX2_family_3 : List UInt8 := [28, 61, 132, 4, 1, 167, 255, 205, 167, 255, 192, 28, 172]
abbrev dktX2_family_3 : List UInt8 := dkwX2_family_3 ++ []
def dkwX2_family_2 : List UInt8 := [42, 21, 4, 182, 1, 55, 120, 128, 54, 5, 28, 21, 5, 126, 153, 0, 10, 28, 21, 5, 128, 167, 0, 4]
abbrev dktX2_family_2 : List UInt8 := dkwX2_family_2 ++ dktX2_family_3
def dkwX2_family_1 : List UInt8 := [54, 4, 21, 4, 42, 180, 0, 13, 17, 1, 0, 46, 162, 0, 44, 4, 42, 21, 4, 182, 1, 52, 120, 4]
abbrev dktX2_family_1 : List UInt8 := dkwX2_family_1 ++ dktX2_family_2
def dkwX2_family_0 : List UInt8 := [42, 27, 182, 1, 27, 154, 0, 5, 2, 172, 4, 27, 120, 61, 3, 62, 28, 29, 159, 0, 65, 28, 62, 3]
abbrev dktX2_family_0 : List UInt8 := dkwX2_family_0 ++ dktX2_family_1
theorem dksX2_family_0 : cX2_family.data.toList.drop 0 = dktX2_family_0 := by decide +kernel
theorem dksX2_family_1 : cX2_family.data.toList.drop 24 = dktX2_family_1 := dk_seg dksX2_family_0 24 rfl rfl
theorem dksX2_family_2 : cX2_family.data.toList.drop 48 = dktX2_family_2 := dk_seg dksX2_family_1 24 rfl rfl
theorem dksX2_family_3 : cX2_family.data.toList.drop 72 = dktX2_family_3 := dk_seg dksX2_family_2 24 rfl rfl
theorem dX2_family_0 : decode cX2_family 0 = .ok (.aload_n 0, 1) := dk_42 (dk_at dksX2_family_0 0 rfl rfl)
theorem dX2_family_1 : decode cX2_family 1 = .ok (.iload_n 1, 1) := dk_27 (dk_at dksX2_family_0 1 rfl rfl)
theorem dX2_family_2 : decode cX2_family 2 = .ok (.invokevirtual 283, 3) := dk_182 1 27 (dk_at dksX2_family_0 2 rfl rfl)
theorem dX2_family_5 : decode cX2_family 5 = .ok (.ifCond .ne 5, 3) := dk_154 0 5 (dk_at dksX2_family_0 5 rfl rfl)
theorem dX2_family_8 : decode cX2_family 8 = .ok (.iconst (-1), 1) := dk_2 (dk_at dksX2_family_0 8 rfl rfl)
theorem dX2_family_9 : decode cX2_family 9 = .ok (.ireturn, 1) := dk_172 (dk_at dksX2_family_0 9 rfl rfl)
theorem dX2_family_10 : decode cX2_family 10 = .ok (.iconst 1, 1) := dk_4 (dk_at dksX2_family_0 10 rfl rfl)
theorem dX2_family_11 : decode cX2_family 11 = .ok (.iload_n 1, 1) := dk_27 (dk_at dksX2_family_0 11 rfl rfl)
theorem dX2_family_12 : decode cX2_family 12 = .ok (.ishl, 1) := dk_120 (dk_at dksX2_family_0 12 rfl rfl)
theorem dX2_family_13 : decode cX2_family 13 = .ok (.istore_n 2, 1) := dk_61 (dk_at dksX2_family_0 13 rfl rfl)
theorem dX2_family_14 : decode cX2_family 14 = .ok (.iconst 0, 1) := dk_3 (dk_at dksX2_family_0 14 rfl rfl)
theorem dX2_family_15 : decode cX2_family 15 = .ok (.istore_n 3, 1) := dk_62 (dk_at dksX2_family_0 15 rfl rfl)
theorem dX2_family_16 : decode cX2_family 16 = .ok (.iload_n 2, 1) := dk_28 (dk_at dksX2_family_0 16 rfl rfl)
theorem dX2_family_17 : decode cX2_family 17 = .ok (.iload_n 3, 1) := dk_29 (dk_at dksX2_family_0 17 rfl rfl)
theorem dX2_family_18 : decode cX2_family 18 = .ok (.if_icmp .eq 65, 3) := dk_159 0 65 (dk_at dksX2_family_0 18 rfl rfl)
theorem dX2_family_21 : decode cX2_family 21 = .ok (.iload_n 2, 1) := dk_28 (dk_at dksX2_family_0 21 rfl rfl)
theorem dX2_family_22 : decode cX2_family 22 = .ok (.istore_n 3, 1) := dk_62 (dk_at dksX2_family_0 22 rfl rfl)
theorem dX2_family_23 : decode cX2_family 23 = .ok (.iconst 0, 1) := dk_3 (dk_at dksX2_family_0 23 rfl rfl)
theorem dX2_family_24 : decode cX2_family 24 = .ok (.istore 4, 2) := dk_54 4 (dk_at dksX2_family_1 0 rfl rfl)
theorem dX2_family_26 : decode cX2_family 26 = .ok (.iload 4, 2) := dk_21 4 (dk_at dksX2_family_1 2 rfl rfl)
theorem dX2_family_28 : decode cX2_family 28 = .ok (.aload_n 0, 1) := dk_42 (dk_at dksX2_family_1 4 rfl rfl)
theorem dX2_family_29 : decode cX2_family 29 = .ok (.getfield 13, 3) := dk_180 0 13 (dk_at dksX2_family_1 5 rfl rfl)
theorem dX2_family_32 : decode cX2_family 32 = .ok (.sipush 256, 3) := dk_17 1 0 (dk_at dksX2_family_1 8 rfl rfl)
theorem dX2_family_35 : decode cX2_family 35 = .ok (.iaload, 1) := dk_46 (dk_at dksX2_family_1 11 rfl rfl)
theorem dX2_family_36 : decode cX2_family 36 = .ok (.if_icmp .ge 44, 3) := dk_162 0 44 (dk_at dksX2_family_1 12 rfl rfl)
theorem dX2_family_39 : decode cX2_family 39 = .ok (.iconst 1, 1) := dk_4 (dk_at dksX2_family_1 15 rfl rfl)
theorem dX2_family_40 : decode cX2_family 40 = .ok (.aload_n 0, 1) := dk_42 (dk_at dksX2_family_1 16 rfl rfl)
theorem dX2_family_41 : decode cX2_family 41 = .ok (.iload 4, 2) := dk_21 4 (dk_at dksX2_family_1 17 rfl rfl)
theorem dX2_family_43 : decode cX2_family 43 = .ok (.invokevirtual 308, 3) := dk_182 1 52 (dk_at dksX2_family_1 19 rfl rfl)
theorem dX2_family_46 : decode cX2_family 46 = .ok (.ishl, 1) := dk_120 (dk_at dksX2_family_1 22 rfl rfl)
theorem dX2_family_47 : decode cX2_family 47 = .ok (.iconst 1, 1) := dk_4 (dk_at dksX2_family_1 23 rfl rfl)
theorem dX2_family_48 : decode cX2_family 48 = .ok (.aload_n 0, 1) := dk_42 (dk_at dksX2_family_2 0 rfl rfl)
theorem dX2_family_49 : decode cX2_family 49 = .ok (.iload 4, 2) := dk_21 4 (dk_at dksX2_family_2 1 rfl rfl)
theorem dX2_family_51 : decode cX2_family 51 = .ok (.invokevirtual 311, 3) := dk_182 1 55 (dk_at dksX2_family_2 3 rfl rfl)
theorem dX2_family_54 : decode cX2_family 54 = .ok (.ishl, 1) := dk_120 (dk_at dksX2_family_2 6 rfl rfl)
theorem dX2_family_55 : decode cX2_family 55 = .ok (.ior, 1) := dk_128 (dk_at dksX2_family_2 7 rfl rfl)
theorem dX2_family_56 : decode cX2_family 56 = .ok (.istore 5, 2) := dk_54 5 (dk_at dksX2_family_2 8 rfl rfl)
theorem dX2_family_58 : decode cX2_family 58 = .ok (.iload_n 2, 1) := dk_28 (dk_at dksX2_family_2 10 rfl rfl)
theorem dX2_family_59 : decode cX2_family 59 = .ok (.iload 5, 2) := dk_21 5 (dk_at dksX2_family_2 11 rfl rfl)
theorem dX2_family_61 : decode cX2_family 61 = .ok (.iand, 1) := dk_126 (dk_at dksX2_family_2 13 rfl rfl)
theorem dX2_family_62 : decode cX2_family 62 = .ok (.ifCond .eq 10, 3) := dk_153 0 10 (dk_at dksX2_family_2 14 rfl rfl)
theorem dX2_family_65 : decode cX2_family 65 = .ok (.iload_n 2, 1) := dk_28 (dk_at dksX2_family_2 17 rfl rfl)
theorem dX2_family_66 : decode cX2_family 66 = .ok (.iload 5, 2) := dk_21 5 (dk_at dksX2_family_2 18 rfl rfl)
theorem dX2_family_68 : decode cX2_family 68 = .ok (.ior, 1) := dk_128 (dk_at dksX2_family_2 20 rfl rfl)
theorem dX2_family_69 : decode cX2_family 69 = .ok (.goto 4, 3) := dk_167 0 4 (dk_at dksX2_family_2 21 rfl rfl)
theorem dX2_family_72 : decode cX2_family 72 = .ok (.iload_n 2, 1) := dk_28 (dk_at dksX2_family_3 0 rfl rfl)
theorem dX2_family_73 : decode cX2_family 73 = .ok (.istore_n 2, 1) := dk_61 (dk_at dksX2_family_3 1 rfl rfl)
theorem dX2_family_74 : decode cX2_family 74 = .ok (.iinc 4 1, 3) := dk_132 4 1 (dk_at dksX2_family_3 2 rfl rfl)
theorem dX2_family_77 : decode cX2_family 77 = .ok (.goto (-51), 3) := dk_167 255 205 (dk_at dksX2_family_3 5 rfl rfl)
theorem dX2_family_80 : decode cX2_family 80 = .ok (.goto (-64), 3) := dk_167 255 192 (dk_at dksX2_family_3 8 rfl rfl)
theorem dX2_family_83 : decode cX2_family 83 = .ok (.iload_n 2, 1) := dk_28 (dk_at dksX2_family_3 11 rfl rfl)
theorem dX2_family_84 : decode cX2_family 84 = .ok (.ireturn, 1) := dk_172 (dk_at dksX2_family_3 12 rfl rfl)
abbrev cX2_depth : ByteArray := prog_12_method_128_code
def yX2_depth : MethodName := ⟨RX2, "depth", "(I)I"⟩
def dkwX2_depth_9 : List UInt8 := [28, 61, 167, 255, 155, 28, 172]
abbrev dktX2_depth_9 : List UInt8 := dkwX2_depth_9 ++ []
def dkwX2_depth_8 : List UInt8 := [180, 0, 70, 29, 3, 79, 21, 4, 4, 21, 5, 120, 128, 54, 4, 29, 28, 164, 0, 7, 29, 167, 0, 4]
abbrev dktX2_depth_8 : List UInt8 := dkwX2_depth_8 ++ dktX2_depth_9
def dkwX2_depth_7 : List UInt8 := [180, 0, 70, 29, 21, 5, 4, 96, 79, 29, 4, 96, 62, 42, 180, 0, 67, 29, 21, 5, 79, 42]
abbrev dktX2_depth_7 : List UInt8 := dkwX2_depth_7 ++ dktX2_depth_8
def dkwX2_depth_6 : List UInt8 := [21, 4, 4, 42, 180, 0, 67, 29, 46, 120, 2, 130, 126, 54, 4, 29, 4, 100, 62, 167, 255, 207, 42]
abbrev dktX2_depth_6 : List UInt8 := dkwX2_depth_6 ++ dktX2_depth_7
def dkwX2_depth_5 : List UInt8 := [180, 0, 67, 29, 46, 42, 180, 0, 70, 29, 46, 21, 4, 182, 1, 196, 54, 5, 21, 5, 2, 160, 0, 25]
abbrev dktX2_depth_5 : List UInt8 := dkwX2_depth_5 ++ dktX2_depth_6
def dkwX2_depth_4 : List UInt8 := [54, 4, 42, 180, 0, 67, 3, 27, 79, 42, 180, 0, 70, 3, 3, 79, 29, 155, 0, 103, 42, 42]
abbrev dktX2_depth_4 : List UInt8 := dkwX2_depth_4 ++ dktX2_depth_5
def dkwX2_depth_3 : List UInt8 := [46, 4, 42, 28, 182, 1, 55, 120, 128, 79, 132, 2, 1, 167, 255, 205, 3, 61, 3, 62, 4, 27, 120]
abbrev dktX2_depth_3 : List UInt8 := dkwX2_depth_3 ++ dktX2_depth_4
def dkwX2_depth_2 : List UInt8 := [182, 1, 62, 153, 0, 31, 42, 180, 0, 64, 42, 28, 182, 1, 52, 42, 180, 0, 64, 42, 28, 182, 1, 52]
abbrev dktX2_depth_2 : List UInt8 := dkwX2_depth_2 ++ dktX2_depth_3
def dkwX2_depth_1 : List UInt8 := [79, 132, 2, 1, 167, 255, 240, 3, 61, 28, 42, 180, 0, 13, 17, 1, 0, 46, 162, 0, 45, 42, 28]
abbrev dktX2_depth_1 : List UInt8 := dkwX2_depth_1 ++ dktX2_depth_2
def dkwX2_depth_0 : List UInt8 := [42, 27, 182, 1, 27, 154, 0, 5, 2, 172, 3, 61, 28, 16, 14, 162, 0, 16, 42, 180, 0, 64, 28, 3]
abbrev dktX2_depth_0 : List UInt8 := dkwX2_depth_0 ++ dktX2_depth_1
theorem dksX2_depth_0 : cX2_depth.data.toList.drop 0 = dktX2_depth_0 := by decide +kernel
theorem dksX2_depth_1 : cX2_depth.data.toList.drop 24 = dktX2_depth_1 := dk_seg dksX2_depth_0 24 rfl rfl
theorem dksX2_depth_2 : cX2_depth.data.toList.drop 47 = dktX2_depth_2 := dk_seg dksX2_depth_1 23 rfl rfl
theorem dksX2_depth_3 : cX2_depth.data.toList.drop 71 = dktX2_depth_3 := dk_seg dksX2_depth_2 24 rfl rfl
theorem dksX2_depth_4 : cX2_depth.data.toList.drop 94 = dktX2_depth_4 := dk_seg dksX2_depth_3 23 rfl rfl
theorem dksX2_depth_5 : cX2_depth.data.toList.drop 116 = dktX2_depth_5 := dk_seg dksX2_depth_4 22 rfl rfl
theorem dksX2_depth_6 : cX2_depth.data.toList.drop 140 = dktX2_depth_6 := dk_seg dksX2_depth_5 24 rfl rfl
theorem dksX2_depth_7 : cX2_depth.data.toList.drop 163 = dktX2_depth_7 := dk_seg dksX2_depth_6 23 rfl rfl
theorem dksX2_depth_8 : cX2_depth.data.toList.drop 185 = dktX2_depth_8 := dk_seg dksX2_depth_7 22 rfl rfl
theorem dksX2_depth_9 : cX2_depth.data.toList.drop 209 = dktX2_depth_9 := dk_seg dksX2_depth_8 24 rfl rfl
theorem dX2_depth_0 : decode cX2_depth 0 = .ok (.aload_n 0, 1) := dk_42 (dk_at dksX2_depth_0 0 rfl rfl)
theorem dX2_depth_1 : decode cX2_depth 1 = .ok (.iload_n 1, 1) := dk_27 (dk_at dksX2_depth_0 1 rfl rfl)
theorem dX2_depth_2 : decode cX2_depth 2 = .ok (.invokevirtual 283, 3) := dk_182 1 27 (dk_at dksX2_depth_0 2 rfl rfl)
theorem dX2_depth_5 : decode cX2_depth 5 = .ok (.ifCond .ne 5, 3) := dk_154 0 5 (dk_at dksX2_depth_0 5 rfl rfl)
theorem dX2_depth_8 : decode cX2_depth 8 = .ok (.iconst (-1), 1) := dk_2 (dk_at dksX2_depth_0 8 rfl rfl)
theorem dX2_depth_9 : decode cX2_depth 9 = .ok (.ireturn, 1) := dk_172 (dk_at dksX2_depth_0 9 rfl rfl)
theorem dX2_depth_10 : decode cX2_depth 10 = .ok (.iconst 0, 1) := dk_3 (dk_at dksX2_depth_0 10 rfl rfl)
theorem dX2_depth_11 : decode cX2_depth 11 = .ok (.istore_n 2, 1) := dk_61 (dk_at dksX2_depth_0 11 rfl rfl)
theorem dX2_depth_12 : decode cX2_depth 12 = .ok (.iload_n 2, 1) := dk_28 (dk_at dksX2_depth_0 12 rfl rfl)
theorem dX2_depth_13 : decode cX2_depth 13 = .ok (.bipush 14, 2) := dk_16 14 (dk_at dksX2_depth_0 13 rfl rfl)
theorem dX2_depth_15 : decode cX2_depth 15 = .ok (.if_icmp .ge 16, 3) := dk_162 0 16 (dk_at dksX2_depth_0 15 rfl rfl)
theorem dX2_depth_18 : decode cX2_depth 18 = .ok (.aload_n 0, 1) := dk_42 (dk_at dksX2_depth_0 18 rfl rfl)
theorem dX2_depth_19 : decode cX2_depth 19 = .ok (.getfield 64, 3) := dk_180 0 64 (dk_at dksX2_depth_0 19 rfl rfl)
theorem dX2_depth_22 : decode cX2_depth 22 = .ok (.iload_n 2, 1) := dk_28 (dk_at dksX2_depth_0 22 rfl rfl)
theorem dX2_depth_23 : decode cX2_depth 23 = .ok (.iconst 0, 1) := dk_3 (dk_at dksX2_depth_0 23 rfl rfl)
theorem dX2_depth_24 : decode cX2_depth 24 = .ok (.iastore, 1) := dk_79 (dk_at dksX2_depth_1 0 rfl rfl)
theorem dX2_depth_25 : decode cX2_depth 25 = .ok (.iinc 2 1, 3) := dk_132 2 1 (dk_at dksX2_depth_1 1 rfl rfl)
theorem dX2_depth_28 : decode cX2_depth 28 = .ok (.goto (-16), 3) := dk_167 255 240 (dk_at dksX2_depth_1 4 rfl rfl)
theorem dX2_depth_31 : decode cX2_depth 31 = .ok (.iconst 0, 1) := dk_3 (dk_at dksX2_depth_1 7 rfl rfl)
theorem dX2_depth_32 : decode cX2_depth 32 = .ok (.istore_n 2, 1) := dk_61 (dk_at dksX2_depth_1 8 rfl rfl)
theorem dX2_depth_33 : decode cX2_depth 33 = .ok (.iload_n 2, 1) := dk_28 (dk_at dksX2_depth_1 9 rfl rfl)
theorem dX2_depth_34 : decode cX2_depth 34 = .ok (.aload_n 0, 1) := dk_42 (dk_at dksX2_depth_1 10 rfl rfl)
theorem dX2_depth_35 : decode cX2_depth 35 = .ok (.getfield 13, 3) := dk_180 0 13 (dk_at dksX2_depth_1 11 rfl rfl)
theorem dX2_depth_38 : decode cX2_depth 38 = .ok (.sipush 256, 3) := dk_17 1 0 (dk_at dksX2_depth_1 14 rfl rfl)
theorem dX2_depth_41 : decode cX2_depth 41 = .ok (.iaload, 1) := dk_46 (dk_at dksX2_depth_1 17 rfl rfl)
theorem dX2_depth_42 : decode cX2_depth 42 = .ok (.if_icmp .ge 45, 3) := dk_162 0 45 (dk_at dksX2_depth_1 18 rfl rfl)
theorem dX2_depth_45 : decode cX2_depth 45 = .ok (.aload_n 0, 1) := dk_42 (dk_at dksX2_depth_1 21 rfl rfl)
theorem dX2_depth_46 : decode cX2_depth 46 = .ok (.iload_n 2, 1) := dk_28 (dk_at dksX2_depth_1 22 rfl rfl)
theorem dX2_depth_47 : decode cX2_depth 47 = .ok (.invokevirtual 318, 3) := dk_182 1 62 (dk_at dksX2_depth_2 0 rfl rfl)
theorem dX2_depth_50 : decode cX2_depth 50 = .ok (.ifCond .eq 31, 3) := dk_153 0 31 (dk_at dksX2_depth_2 3 rfl rfl)
theorem dX2_depth_53 : decode cX2_depth 53 = .ok (.aload_n 0, 1) := dk_42 (dk_at dksX2_depth_2 6 rfl rfl)
theorem dX2_depth_54 : decode cX2_depth 54 = .ok (.getfield 64, 3) := dk_180 0 64 (dk_at dksX2_depth_2 7 rfl rfl)
theorem dX2_depth_57 : decode cX2_depth 57 = .ok (.aload_n 0, 1) := dk_42 (dk_at dksX2_depth_2 10 rfl rfl)
theorem dX2_depth_58 : decode cX2_depth 58 = .ok (.iload_n 2, 1) := dk_28 (dk_at dksX2_depth_2 11 rfl rfl)
theorem dX2_depth_59 : decode cX2_depth 59 = .ok (.invokevirtual 308, 3) := dk_182 1 52 (dk_at dksX2_depth_2 12 rfl rfl)
theorem dX2_depth_62 : decode cX2_depth 62 = .ok (.aload_n 0, 1) := dk_42 (dk_at dksX2_depth_2 15 rfl rfl)
theorem dX2_depth_63 : decode cX2_depth 63 = .ok (.getfield 64, 3) := dk_180 0 64 (dk_at dksX2_depth_2 16 rfl rfl)
theorem dX2_depth_66 : decode cX2_depth 66 = .ok (.aload_n 0, 1) := dk_42 (dk_at dksX2_depth_2 19 rfl rfl)
theorem dX2_depth_67 : decode cX2_depth 67 = .ok (.iload_n 2, 1) := dk_28 (dk_at dksX2_depth_2 20 rfl rfl)
theorem dX2_depth_68 : decode cX2_depth 68 = .ok (.invokevirtual 308, 3) := dk_182 1 52 (dk_at dksX2_depth_2 21 rfl rfl)
theorem dX2_depth_71 : decode cX2_depth 71 = .ok (.iaload, 1) := dk_46 (dk_at dksX2_depth_3 0 rfl rfl)
theorem dX2_depth_72 : decode cX2_depth 72 = .ok (.iconst 1, 1) := dk_4 (dk_at dksX2_depth_3 1 rfl rfl)
theorem dX2_depth_73 : decode cX2_depth 73 = .ok (.aload_n 0, 1) := dk_42 (dk_at dksX2_depth_3 2 rfl rfl)
theorem dX2_depth_74 : decode cX2_depth 74 = .ok (.iload_n 2, 1) := dk_28 (dk_at dksX2_depth_3 3 rfl rfl)
theorem dX2_depth_75 : decode cX2_depth 75 = .ok (.invokevirtual 311, 3) := dk_182 1 55 (dk_at dksX2_depth_3 4 rfl rfl)
theorem dX2_depth_78 : decode cX2_depth 78 = .ok (.ishl, 1) := dk_120 (dk_at dksX2_depth_3 7 rfl rfl)
theorem dX2_depth_79 : decode cX2_depth 79 = .ok (.ior, 1) := dk_128 (dk_at dksX2_depth_3 8 rfl rfl)
theorem dX2_depth_80 : decode cX2_depth 80 = .ok (.iastore, 1) := dk_79 (dk_at dksX2_depth_3 9 rfl rfl)
theorem dX2_depth_81 : decode cX2_depth 81 = .ok (.iinc 2 1, 3) := dk_132 2 1 (dk_at dksX2_depth_3 10 rfl rfl)
theorem dX2_depth_84 : decode cX2_depth 84 = .ok (.goto (-51), 3) := dk_167 255 205 (dk_at dksX2_depth_3 13 rfl rfl)
theorem dX2_depth_87 : decode cX2_depth 87 = .ok (.iconst 0, 1) := dk_3 (dk_at dksX2_depth_3 16 rfl rfl)
theorem dX2_depth_88 : decode cX2_depth 88 = .ok (.istore_n 2, 1) := dk_61 (dk_at dksX2_depth_3 17 rfl rfl)
theorem dX2_depth_89 : decode cX2_depth 89 = .ok (.iconst 0, 1) := dk_3 (dk_at dksX2_depth_3 18 rfl rfl)
theorem dX2_depth_90 : decode cX2_depth 90 = .ok (.istore_n 3, 1) := dk_62 (dk_at dksX2_depth_3 19 rfl rfl)
theorem dX2_depth_91 : decode cX2_depth 91 = .ok (.iconst 1, 1) := dk_4 (dk_at dksX2_depth_3 20 rfl rfl)
theorem dX2_depth_92 : decode cX2_depth 92 = .ok (.iload_n 1, 1) := dk_27 (dk_at dksX2_depth_3 21 rfl rfl)
theorem dX2_depth_93 : decode cX2_depth 93 = .ok (.ishl, 1) := dk_120 (dk_at dksX2_depth_3 22 rfl rfl)
theorem dX2_depth_94 : decode cX2_depth 94 = .ok (.istore 4, 2) := dk_54 4 (dk_at dksX2_depth_4 0 rfl rfl)
theorem dX2_depth_96 : decode cX2_depth 96 = .ok (.aload_n 0, 1) := dk_42 (dk_at dksX2_depth_4 2 rfl rfl)
theorem dX2_depth_97 : decode cX2_depth 97 = .ok (.getfield 67, 3) := dk_180 0 67 (dk_at dksX2_depth_4 3 rfl rfl)
theorem dX2_depth_100 : decode cX2_depth 100 = .ok (.iconst 0, 1) := dk_3 (dk_at dksX2_depth_4 6 rfl rfl)
theorem dX2_depth_101 : decode cX2_depth 101 = .ok (.iload_n 1, 1) := dk_27 (dk_at dksX2_depth_4 7 rfl rfl)
theorem dX2_depth_102 : decode cX2_depth 102 = .ok (.iastore, 1) := dk_79 (dk_at dksX2_depth_4 8 rfl rfl)
theorem dX2_depth_103 : decode cX2_depth 103 = .ok (.aload_n 0, 1) := dk_42 (dk_at dksX2_depth_4 9 rfl rfl)
theorem dX2_depth_104 : decode cX2_depth 104 = .ok (.getfield 70, 3) := dk_180 0 70 (dk_at dksX2_depth_4 10 rfl rfl)
theorem dX2_depth_107 : decode cX2_depth 107 = .ok (.iconst 0, 1) := dk_3 (dk_at dksX2_depth_4 13 rfl rfl)
theorem dX2_depth_108 : decode cX2_depth 108 = .ok (.iconst 0, 1) := dk_3 (dk_at dksX2_depth_4 14 rfl rfl)
theorem dX2_depth_109 : decode cX2_depth 109 = .ok (.iastore, 1) := dk_79 (dk_at dksX2_depth_4 15 rfl rfl)
theorem dX2_depth_110 : decode cX2_depth 110 = .ok (.iload_n 3, 1) := dk_29 (dk_at dksX2_depth_4 16 rfl rfl)
theorem dX2_depth_111 : decode cX2_depth 111 = .ok (.ifCond .lt 103, 3) := dk_155 0 103 (dk_at dksX2_depth_4 17 rfl rfl)
theorem dX2_depth_114 : decode cX2_depth 114 = .ok (.aload_n 0, 1) := dk_42 (dk_at dksX2_depth_4 20 rfl rfl)
theorem dX2_depth_115 : decode cX2_depth 115 = .ok (.aload_n 0, 1) := dk_42 (dk_at dksX2_depth_4 21 rfl rfl)
theorem dX2_depth_116 : decode cX2_depth 116 = .ok (.getfield 67, 3) := dk_180 0 67 (dk_at dksX2_depth_5 0 rfl rfl)
theorem dX2_depth_119 : decode cX2_depth 119 = .ok (.iload_n 3, 1) := dk_29 (dk_at dksX2_depth_5 3 rfl rfl)
theorem dX2_depth_120 : decode cX2_depth 120 = .ok (.iaload, 1) := dk_46 (dk_at dksX2_depth_5 4 rfl rfl)
theorem dX2_depth_121 : decode cX2_depth 121 = .ok (.aload_n 0, 1) := dk_42 (dk_at dksX2_depth_5 5 rfl rfl)
theorem dX2_depth_122 : decode cX2_depth 122 = .ok (.getfield 70, 3) := dk_180 0 70 (dk_at dksX2_depth_5 6 rfl rfl)
theorem dX2_depth_125 : decode cX2_depth 125 = .ok (.iload_n 3, 1) := dk_29 (dk_at dksX2_depth_5 9 rfl rfl)
theorem dX2_depth_126 : decode cX2_depth 126 = .ok (.iaload, 1) := dk_46 (dk_at dksX2_depth_5 10 rfl rfl)
theorem dX2_depth_127 : decode cX2_depth 127 = .ok (.iload 4, 2) := dk_21 4 (dk_at dksX2_depth_5 11 rfl rfl)
theorem dX2_depth_129 : decode cX2_depth 129 = .ok (.invokevirtual 452, 3) := dk_182 1 196 (dk_at dksX2_depth_5 13 rfl rfl)
theorem dX2_depth_132 : decode cX2_depth 132 = .ok (.istore 5, 2) := dk_54 5 (dk_at dksX2_depth_5 16 rfl rfl)
theorem dX2_depth_134 : decode cX2_depth 134 = .ok (.iload 5, 2) := dk_21 5 (dk_at dksX2_depth_5 18 rfl rfl)
theorem dX2_depth_136 : decode cX2_depth 136 = .ok (.iconst (-1), 1) := dk_2 (dk_at dksX2_depth_5 20 rfl rfl)
theorem dX2_depth_137 : decode cX2_depth 137 = .ok (.if_icmp .ne 25, 3) := dk_160 0 25 (dk_at dksX2_depth_5 21 rfl rfl)
theorem dX2_depth_140 : decode cX2_depth 140 = .ok (.iload 4, 2) := dk_21 4 (dk_at dksX2_depth_6 0 rfl rfl)
theorem dX2_depth_142 : decode cX2_depth 142 = .ok (.iconst 1, 1) := dk_4 (dk_at dksX2_depth_6 2 rfl rfl)
theorem dX2_depth_143 : decode cX2_depth 143 = .ok (.aload_n 0, 1) := dk_42 (dk_at dksX2_depth_6 3 rfl rfl)
theorem dX2_depth_144 : decode cX2_depth 144 = .ok (.getfield 67, 3) := dk_180 0 67 (dk_at dksX2_depth_6 4 rfl rfl)
theorem dX2_depth_147 : decode cX2_depth 147 = .ok (.iload_n 3, 1) := dk_29 (dk_at dksX2_depth_6 7 rfl rfl)
theorem dX2_depth_148 : decode cX2_depth 148 = .ok (.iaload, 1) := dk_46 (dk_at dksX2_depth_6 8 rfl rfl)
theorem dX2_depth_149 : decode cX2_depth 149 = .ok (.ishl, 1) := dk_120 (dk_at dksX2_depth_6 9 rfl rfl)
theorem dX2_depth_150 : decode cX2_depth 150 = .ok (.iconst (-1), 1) := dk_2 (dk_at dksX2_depth_6 10 rfl rfl)
theorem dX2_depth_151 : decode cX2_depth 151 = .ok (.ixor, 1) := dk_130 (dk_at dksX2_depth_6 11 rfl rfl)
theorem dX2_depth_152 : decode cX2_depth 152 = .ok (.iand, 1) := dk_126 (dk_at dksX2_depth_6 12 rfl rfl)
theorem dX2_depth_153 : decode cX2_depth 153 = .ok (.istore 4, 2) := dk_54 4 (dk_at dksX2_depth_6 13 rfl rfl)
theorem dX2_depth_155 : decode cX2_depth 155 = .ok (.iload_n 3, 1) := dk_29 (dk_at dksX2_depth_6 15 rfl rfl)
theorem dX2_depth_156 : decode cX2_depth 156 = .ok (.iconst 1, 1) := dk_4 (dk_at dksX2_depth_6 16 rfl rfl)
theorem dX2_depth_157 : decode cX2_depth 157 = .ok (.isub, 1) := dk_100 (dk_at dksX2_depth_6 17 rfl rfl)
theorem dX2_depth_158 : decode cX2_depth 158 = .ok (.istore_n 3, 1) := dk_62 (dk_at dksX2_depth_6 18 rfl rfl)
theorem dX2_depth_159 : decode cX2_depth 159 = .ok (.goto (-49), 3) := dk_167 255 207 (dk_at dksX2_depth_6 19 rfl rfl)
theorem dX2_depth_162 : decode cX2_depth 162 = .ok (.aload_n 0, 1) := dk_42 (dk_at dksX2_depth_6 22 rfl rfl)
theorem dX2_depth_163 : decode cX2_depth 163 = .ok (.getfield 70, 3) := dk_180 0 70 (dk_at dksX2_depth_7 0 rfl rfl)
theorem dX2_depth_166 : decode cX2_depth 166 = .ok (.iload_n 3, 1) := dk_29 (dk_at dksX2_depth_7 3 rfl rfl)
theorem dX2_depth_167 : decode cX2_depth 167 = .ok (.iload 5, 2) := dk_21 5 (dk_at dksX2_depth_7 4 rfl rfl)
theorem dX2_depth_169 : decode cX2_depth 169 = .ok (.iconst 1, 1) := dk_4 (dk_at dksX2_depth_7 6 rfl rfl)
theorem dX2_depth_170 : decode cX2_depth 170 = .ok (.iadd, 1) := dk_96 (dk_at dksX2_depth_7 7 rfl rfl)
theorem dX2_depth_171 : decode cX2_depth 171 = .ok (.iastore, 1) := dk_79 (dk_at dksX2_depth_7 8 rfl rfl)
theorem dX2_depth_172 : decode cX2_depth 172 = .ok (.iload_n 3, 1) := dk_29 (dk_at dksX2_depth_7 9 rfl rfl)
theorem dX2_depth_173 : decode cX2_depth 173 = .ok (.iconst 1, 1) := dk_4 (dk_at dksX2_depth_7 10 rfl rfl)
theorem dX2_depth_174 : decode cX2_depth 174 = .ok (.iadd, 1) := dk_96 (dk_at dksX2_depth_7 11 rfl rfl)
theorem dX2_depth_175 : decode cX2_depth 175 = .ok (.istore_n 3, 1) := dk_62 (dk_at dksX2_depth_7 12 rfl rfl)
theorem dX2_depth_176 : decode cX2_depth 176 = .ok (.aload_n 0, 1) := dk_42 (dk_at dksX2_depth_7 13 rfl rfl)
theorem dX2_depth_177 : decode cX2_depth 177 = .ok (.getfield 67, 3) := dk_180 0 67 (dk_at dksX2_depth_7 14 rfl rfl)
theorem dX2_depth_180 : decode cX2_depth 180 = .ok (.iload_n 3, 1) := dk_29 (dk_at dksX2_depth_7 17 rfl rfl)
theorem dX2_depth_181 : decode cX2_depth 181 = .ok (.iload 5, 2) := dk_21 5 (dk_at dksX2_depth_7 18 rfl rfl)
theorem dX2_depth_183 : decode cX2_depth 183 = .ok (.iastore, 1) := dk_79 (dk_at dksX2_depth_7 20 rfl rfl)
theorem dX2_depth_184 : decode cX2_depth 184 = .ok (.aload_n 0, 1) := dk_42 (dk_at dksX2_depth_7 21 rfl rfl)
theorem dX2_depth_185 : decode cX2_depth 185 = .ok (.getfield 70, 3) := dk_180 0 70 (dk_at dksX2_depth_8 0 rfl rfl)
theorem dX2_depth_188 : decode cX2_depth 188 = .ok (.iload_n 3, 1) := dk_29 (dk_at dksX2_depth_8 3 rfl rfl)
theorem dX2_depth_189 : decode cX2_depth 189 = .ok (.iconst 0, 1) := dk_3 (dk_at dksX2_depth_8 4 rfl rfl)
theorem dX2_depth_190 : decode cX2_depth 190 = .ok (.iastore, 1) := dk_79 (dk_at dksX2_depth_8 5 rfl rfl)
theorem dX2_depth_191 : decode cX2_depth 191 = .ok (.iload 4, 2) := dk_21 4 (dk_at dksX2_depth_8 6 rfl rfl)
theorem dX2_depth_193 : decode cX2_depth 193 = .ok (.iconst 1, 1) := dk_4 (dk_at dksX2_depth_8 8 rfl rfl)
theorem dX2_depth_194 : decode cX2_depth 194 = .ok (.iload 5, 2) := dk_21 5 (dk_at dksX2_depth_8 9 rfl rfl)
theorem dX2_depth_196 : decode cX2_depth 196 = .ok (.ishl, 1) := dk_120 (dk_at dksX2_depth_8 11 rfl rfl)
theorem dX2_depth_197 : decode cX2_depth 197 = .ok (.ior, 1) := dk_128 (dk_at dksX2_depth_8 12 rfl rfl)
theorem dX2_depth_198 : decode cX2_depth 198 = .ok (.istore 4, 2) := dk_54 4 (dk_at dksX2_depth_8 13 rfl rfl)
theorem dX2_depth_200 : decode cX2_depth 200 = .ok (.iload_n 3, 1) := dk_29 (dk_at dksX2_depth_8 15 rfl rfl)
theorem dX2_depth_201 : decode cX2_depth 201 = .ok (.iload_n 2, 1) := dk_28 (dk_at dksX2_depth_8 16 rfl rfl)
theorem dX2_depth_202 : decode cX2_depth 202 = .ok (.if_icmp .le 7, 3) := dk_164 0 7 (dk_at dksX2_depth_8 17 rfl rfl)
theorem dX2_depth_205 : decode cX2_depth 205 = .ok (.iload_n 3, 1) := dk_29 (dk_at dksX2_depth_8 20 rfl rfl)
theorem dX2_depth_206 : decode cX2_depth 206 = .ok (.goto 4, 3) := dk_167 0 4 (dk_at dksX2_depth_8 21 rfl rfl)
theorem dX2_depth_209 : decode cX2_depth 209 = .ok (.iload_n 2, 1) := dk_28 (dk_at dksX2_depth_9 0 rfl rfl)
theorem dX2_depth_210 : decode cX2_depth 210 = .ok (.istore_n 2, 1) := dk_61 (dk_at dksX2_depth_9 1 rfl rfl)
theorem dX2_depth_211 : decode cX2_depth 211 = .ok (.goto (-101), 3) := dk_167 255 155 (dk_at dksX2_depth_9 2 rfl rfl)
theorem dX2_depth_214 : decode cX2_depth 214 = .ok (.iload_n 2, 1) := dk_28 (dk_at dksX2_depth_9 5 rfl rfl)
theorem dX2_depth_215 : decode cX2_depth 215 = .ok (.ireturn, 1) := dk_172 (dk_at dksX2_depth_9 6 rfl rfl)
abbrev cX2_nextStep : ByteArray := prog_12_method_127_code
def yX2_nextStep : MethodName := ⟨RX2, "nextStep", "(III)I"⟩
def dkwX2_nextStep_2 : List UInt8 := [2, 172]
abbrev dktX2_nextStep_2 : List UInt8 := dkwX2_nextStep_2 ++ []
def dkwX2_nextStep_1 : List UInt8 := [184, 0, 82, 153, 0, 15, 29, 21, 4, 184, 0, 82, 154, 0, 6, 21, 4, 172, 132, 4, 1, 167, 255, 216]
abbrev dktX2_nextStep_1 : List UInt8 := dkwX2_nextStep_1 ++ dktX2_nextStep_2
def dkwX2_nextStep_0 : List UInt8 := [28, 54, 4, 21, 4, 42, 180, 0, 22, 5, 46, 162, 0, 35, 42, 180, 0, 64, 27, 46, 21, 4]
abbrev dktX2_nextStep_0 : List UInt8 := dkwX2_nextStep_0 ++ dktX2_nextStep_1
theorem dksX2_nextStep_0 : cX2_nextStep.data.toList.drop 0 = dktX2_nextStep_0 := by decide +kernel
theorem dksX2_nextStep_1 : cX2_nextStep.data.toList.drop 22 = dktX2_nextStep_1 := dk_seg dksX2_nextStep_0 22 rfl rfl
theorem dksX2_nextStep_2 : cX2_nextStep.data.toList.drop 46 = dktX2_nextStep_2 := dk_seg dksX2_nextStep_1 24 rfl rfl
theorem dX2_nextStep_0 : decode cX2_nextStep 0 = .ok (.iload_n 2, 1) := dk_28 (dk_at dksX2_nextStep_0 0 rfl rfl)
theorem dX2_nextStep_1 : decode cX2_nextStep 1 = .ok (.istore 4, 2) := dk_54 4 (dk_at dksX2_nextStep_0 1 rfl rfl)
theorem dX2_nextStep_3 : decode cX2_nextStep 3 = .ok (.iload 4, 2) := dk_21 4 (dk_at dksX2_nextStep_0 3 rfl rfl)
theorem dX2_nextStep_5 : decode cX2_nextStep 5 = .ok (.aload_n 0, 1) := dk_42 (dk_at dksX2_nextStep_0 5 rfl rfl)
theorem dX2_nextStep_6 : decode cX2_nextStep 6 = .ok (.getfield 22, 3) := dk_180 0 22 (dk_at dksX2_nextStep_0 6 rfl rfl)
theorem dX2_nextStep_9 : decode cX2_nextStep 9 = .ok (.iconst 2, 1) := dk_5 (dk_at dksX2_nextStep_0 9 rfl rfl)
theorem dX2_nextStep_10 : decode cX2_nextStep 10 = .ok (.iaload, 1) := dk_46 (dk_at dksX2_nextStep_0 10 rfl rfl)
theorem dX2_nextStep_11 : decode cX2_nextStep 11 = .ok (.if_icmp .ge 35, 3) := dk_162 0 35 (dk_at dksX2_nextStep_0 11 rfl rfl)
theorem dX2_nextStep_14 : decode cX2_nextStep 14 = .ok (.aload_n 0, 1) := dk_42 (dk_at dksX2_nextStep_0 14 rfl rfl)
theorem dX2_nextStep_15 : decode cX2_nextStep 15 = .ok (.getfield 64, 3) := dk_180 0 64 (dk_at dksX2_nextStep_0 15 rfl rfl)
theorem dX2_nextStep_18 : decode cX2_nextStep 18 = .ok (.iload_n 1, 1) := dk_27 (dk_at dksX2_nextStep_0 18 rfl rfl)
theorem dX2_nextStep_19 : decode cX2_nextStep 19 = .ok (.iaload, 1) := dk_46 (dk_at dksX2_nextStep_0 19 rfl rfl)
theorem dX2_nextStep_20 : decode cX2_nextStep 20 = .ok (.iload 4, 2) := dk_21 4 (dk_at dksX2_nextStep_0 20 rfl rfl)
theorem dX2_nextStep_22 : decode cX2_nextStep 22 = .ok (.invokestatic 82, 3) := dk_184 0 82 (dk_at dksX2_nextStep_1 0 rfl rfl)
theorem dX2_nextStep_25 : decode cX2_nextStep 25 = .ok (.ifCond .eq 15, 3) := dk_153 0 15 (dk_at dksX2_nextStep_1 3 rfl rfl)
theorem dX2_nextStep_28 : decode cX2_nextStep 28 = .ok (.iload_n 3, 1) := dk_29 (dk_at dksX2_nextStep_1 6 rfl rfl)
theorem dX2_nextStep_29 : decode cX2_nextStep 29 = .ok (.iload 4, 2) := dk_21 4 (dk_at dksX2_nextStep_1 7 rfl rfl)
theorem dX2_nextStep_31 : decode cX2_nextStep 31 = .ok (.invokestatic 82, 3) := dk_184 0 82 (dk_at dksX2_nextStep_1 9 rfl rfl)
theorem dX2_nextStep_34 : decode cX2_nextStep 34 = .ok (.ifCond .ne 6, 3) := dk_154 0 6 (dk_at dksX2_nextStep_1 12 rfl rfl)
theorem dX2_nextStep_37 : decode cX2_nextStep 37 = .ok (.iload 4, 2) := dk_21 4 (dk_at dksX2_nextStep_1 15 rfl rfl)
theorem dX2_nextStep_39 : decode cX2_nextStep 39 = .ok (.ireturn, 1) := dk_172 (dk_at dksX2_nextStep_1 17 rfl rfl)
theorem dX2_nextStep_40 : decode cX2_nextStep 40 = .ok (.iinc 4 1, 3) := dk_132 4 1 (dk_at dksX2_nextStep_1 18 rfl rfl)
theorem dX2_nextStep_43 : decode cX2_nextStep 43 = .ok (.goto (-40), 3) := dk_167 255 216 (dk_at dksX2_nextStep_1 21 rfl rfl)
theorem dX2_nextStep_46 : decode cX2_nextStep 46 = .ok (.iconst (-1), 1) := dk_2 (dk_at dksX2_nextStep_2 0 rfl rfl)
theorem dX2_nextStep_47 : decode cX2_nextStep 47 = .ok (.ireturn, 1) := dk_172 (dk_at dksX2_nextStep_2 1 rfl rfl)
abbrev cX2_heirs : ByteArray := prog_12_method_129_code
def yX2_heirs : MethodName := ⟨RX2, "heirs", "(II)I"⟩
def dkwX2_heirs_3 : List UInt8 := [21, 4, 120, 128, 167, 0, 4, 29, 62, 132, 4, 1, 167, 255, 220, 29, 172]
abbrev dktX2_heirs_3 : List UInt8 := dkwX2_heirs_3 ++ []
def dkwX2_heirs_2 : List UInt8 := [21, 4, 42, 180, 0, 22, 5, 46, 162, 0, 31, 42, 180, 0, 52, 21, 4, 46, 2, 159, 0, 12, 29, 4]
abbrev dktX2_heirs_2 : List UInt8 := dkwX2_heirs_2 ++ dktX2_heirs_3
def dkwX2_heirs_1 : List UInt8 := [16, 254, 160, 0, 5, 3, 172, 42, 28, 3, 182, 1, 78, 42, 27, 182, 1, 94, 3, 62, 3, 54, 4]
abbrev dktX2_heirs_1 : List UInt8 := dkwX2_heirs_1 ++ dktX2_heirs_2
def dkwX2_heirs_0 : List UInt8 := [42, 27, 182, 1, 27, 153, 0, 10, 28, 184, 1, 46, 154, 0, 5, 2, 172, 42, 27, 28, 182, 1, 49]
abbrev dktX2_heirs_0 : List UInt8 := dkwX2_heirs_0 ++ dktX2_heirs_1
theorem dksX2_heirs_0 : cX2_heirs.data.toList.drop 0 = dktX2_heirs_0 := by decide +kernel
theorem dksX2_heirs_1 : cX2_heirs.data.toList.drop 23 = dktX2_heirs_1 := dk_seg dksX2_heirs_0 23 rfl rfl
theorem dksX2_heirs_2 : cX2_heirs.data.toList.drop 46 = dktX2_heirs_2 := dk_seg dksX2_heirs_1 23 rfl rfl
theorem dksX2_heirs_3 : cX2_heirs.data.toList.drop 70 = dktX2_heirs_3 := dk_seg dksX2_heirs_2 24 rfl rfl
theorem dX2_heirs_0 : decode cX2_heirs 0 = .ok (.aload_n 0, 1) := dk_42 (dk_at dksX2_heirs_0 0 rfl rfl)
theorem dX2_heirs_1 : decode cX2_heirs 1 = .ok (.iload_n 1, 1) := dk_27 (dk_at dksX2_heirs_0 1 rfl rfl)
theorem dX2_heirs_2 : decode cX2_heirs 2 = .ok (.invokevirtual 283, 3) := dk_182 1 27 (dk_at dksX2_heirs_0 2 rfl rfl)
theorem dX2_heirs_5 : decode cX2_heirs 5 = .ok (.ifCond .eq 10, 3) := dk_153 0 10 (dk_at dksX2_heirs_0 5 rfl rfl)
theorem dX2_heirs_8 : decode cX2_heirs 8 = .ok (.iload_n 2, 1) := dk_28 (dk_at dksX2_heirs_0 8 rfl rfl)
theorem dX2_heirs_9 : decode cX2_heirs 9 = .ok (.invokestatic 302, 3) := dk_184 1 46 (dk_at dksX2_heirs_0 9 rfl rfl)
theorem dX2_heirs_12 : decode cX2_heirs 12 = .ok (.ifCond .ne 5, 3) := dk_154 0 5 (dk_at dksX2_heirs_0 12 rfl rfl)
theorem dX2_heirs_15 : decode cX2_heirs 15 = .ok (.iconst (-1), 1) := dk_2 (dk_at dksX2_heirs_0 15 rfl rfl)
theorem dX2_heirs_16 : decode cX2_heirs 16 = .ok (.ireturn, 1) := dk_172 (dk_at dksX2_heirs_0 16 rfl rfl)
theorem dX2_heirs_17 : decode cX2_heirs 17 = .ok (.aload_n 0, 1) := dk_42 (dk_at dksX2_heirs_0 17 rfl rfl)
theorem dX2_heirs_18 : decode cX2_heirs 18 = .ok (.iload_n 1, 1) := dk_27 (dk_at dksX2_heirs_0 18 rfl rfl)
theorem dX2_heirs_19 : decode cX2_heirs 19 = .ok (.iload_n 2, 1) := dk_28 (dk_at dksX2_heirs_0 19 rfl rfl)
theorem dX2_heirs_20 : decode cX2_heirs 20 = .ok (.invokevirtual 305, 3) := dk_182 1 49 (dk_at dksX2_heirs_0 20 rfl rfl)
theorem dX2_heirs_23 : decode cX2_heirs 23 = .ok (.bipush (-2), 2) := dk_16 254 (dk_at dksX2_heirs_1 0 rfl rfl)
theorem dX2_heirs_25 : decode cX2_heirs 25 = .ok (.if_icmp .ne 5, 3) := dk_160 0 5 (dk_at dksX2_heirs_1 2 rfl rfl)
theorem dX2_heirs_28 : decode cX2_heirs 28 = .ok (.iconst 0, 1) := dk_3 (dk_at dksX2_heirs_1 5 rfl rfl)
theorem dX2_heirs_29 : decode cX2_heirs 29 = .ok (.ireturn, 1) := dk_172 (dk_at dksX2_heirs_1 6 rfl rfl)
theorem dX2_heirs_30 : decode cX2_heirs 30 = .ok (.aload_n 0, 1) := dk_42 (dk_at dksX2_heirs_1 7 rfl rfl)
theorem dX2_heirs_31 : decode cX2_heirs 31 = .ok (.iload_n 2, 1) := dk_28 (dk_at dksX2_heirs_1 8 rfl rfl)
theorem dX2_heirs_32 : decode cX2_heirs 32 = .ok (.iconst 0, 1) := dk_3 (dk_at dksX2_heirs_1 9 rfl rfl)
theorem dX2_heirs_33 : decode cX2_heirs 33 = .ok (.invokevirtual 334, 3) := dk_182 1 78 (dk_at dksX2_heirs_1 10 rfl rfl)
theorem dX2_heirs_36 : decode cX2_heirs 36 = .ok (.aload_n 0, 1) := dk_42 (dk_at dksX2_heirs_1 13 rfl rfl)
theorem dX2_heirs_37 : decode cX2_heirs 37 = .ok (.iload_n 1, 1) := dk_27 (dk_at dksX2_heirs_1 14 rfl rfl)
theorem dX2_heirs_38 : decode cX2_heirs 38 = .ok (.invokevirtual 350, 3) := dk_182 1 94 (dk_at dksX2_heirs_1 15 rfl rfl)
theorem dX2_heirs_41 : decode cX2_heirs 41 = .ok (.iconst 0, 1) := dk_3 (dk_at dksX2_heirs_1 18 rfl rfl)
theorem dX2_heirs_42 : decode cX2_heirs 42 = .ok (.istore_n 3, 1) := dk_62 (dk_at dksX2_heirs_1 19 rfl rfl)
theorem dX2_heirs_43 : decode cX2_heirs 43 = .ok (.iconst 0, 1) := dk_3 (dk_at dksX2_heirs_1 20 rfl rfl)
theorem dX2_heirs_44 : decode cX2_heirs 44 = .ok (.istore 4, 2) := dk_54 4 (dk_at dksX2_heirs_1 21 rfl rfl)
theorem dX2_heirs_46 : decode cX2_heirs 46 = .ok (.iload 4, 2) := dk_21 4 (dk_at dksX2_heirs_2 0 rfl rfl)
theorem dX2_heirs_48 : decode cX2_heirs 48 = .ok (.aload_n 0, 1) := dk_42 (dk_at dksX2_heirs_2 2 rfl rfl)
theorem dX2_heirs_49 : decode cX2_heirs 49 = .ok (.getfield 22, 3) := dk_180 0 22 (dk_at dksX2_heirs_2 3 rfl rfl)
theorem dX2_heirs_52 : decode cX2_heirs 52 = .ok (.iconst 2, 1) := dk_5 (dk_at dksX2_heirs_2 6 rfl rfl)
theorem dX2_heirs_53 : decode cX2_heirs 53 = .ok (.iaload, 1) := dk_46 (dk_at dksX2_heirs_2 7 rfl rfl)
theorem dX2_heirs_54 : decode cX2_heirs 54 = .ok (.if_icmp .ge 31, 3) := dk_162 0 31 (dk_at dksX2_heirs_2 8 rfl rfl)
theorem dX2_heirs_57 : decode cX2_heirs 57 = .ok (.aload_n 0, 1) := dk_42 (dk_at dksX2_heirs_2 11 rfl rfl)
theorem dX2_heirs_58 : decode cX2_heirs 58 = .ok (.getfield 52, 3) := dk_180 0 52 (dk_at dksX2_heirs_2 12 rfl rfl)
theorem dX2_heirs_61 : decode cX2_heirs 61 = .ok (.iload 4, 2) := dk_21 4 (dk_at dksX2_heirs_2 15 rfl rfl)
theorem dX2_heirs_63 : decode cX2_heirs 63 = .ok (.iaload, 1) := dk_46 (dk_at dksX2_heirs_2 17 rfl rfl)
theorem dX2_heirs_64 : decode cX2_heirs 64 = .ok (.iconst (-1), 1) := dk_2 (dk_at dksX2_heirs_2 18 rfl rfl)
theorem dX2_heirs_65 : decode cX2_heirs 65 = .ok (.if_icmp .eq 12, 3) := dk_159 0 12 (dk_at dksX2_heirs_2 19 rfl rfl)
theorem dX2_heirs_68 : decode cX2_heirs 68 = .ok (.iload_n 3, 1) := dk_29 (dk_at dksX2_heirs_2 22 rfl rfl)
theorem dX2_heirs_69 : decode cX2_heirs 69 = .ok (.iconst 1, 1) := dk_4 (dk_at dksX2_heirs_2 23 rfl rfl)
theorem dX2_heirs_70 : decode cX2_heirs 70 = .ok (.iload 4, 2) := dk_21 4 (dk_at dksX2_heirs_3 0 rfl rfl)
theorem dX2_heirs_72 : decode cX2_heirs 72 = .ok (.ishl, 1) := dk_120 (dk_at dksX2_heirs_3 2 rfl rfl)
theorem dX2_heirs_73 : decode cX2_heirs 73 = .ok (.ior, 1) := dk_128 (dk_at dksX2_heirs_3 3 rfl rfl)
theorem dX2_heirs_74 : decode cX2_heirs 74 = .ok (.goto 4, 3) := dk_167 0 4 (dk_at dksX2_heirs_3 4 rfl rfl)
theorem dX2_heirs_77 : decode cX2_heirs 77 = .ok (.iload_n 3, 1) := dk_29 (dk_at dksX2_heirs_3 7 rfl rfl)
theorem dX2_heirs_78 : decode cX2_heirs 78 = .ok (.istore_n 3, 1) := dk_62 (dk_at dksX2_heirs_3 8 rfl rfl)
theorem dX2_heirs_79 : decode cX2_heirs 79 = .ok (.iinc 4 1, 3) := dk_132 4 1 (dk_at dksX2_heirs_3 9 rfl rfl)
theorem dX2_heirs_82 : decode cX2_heirs 82 = .ok (.goto (-36), 3) := dk_167 255 220 (dk_at dksX2_heirs_3 12 rfl rfl)
theorem dX2_heirs_85 : decode cX2_heirs 85 = .ok (.iload_n 3, 1) := dk_29 (dk_at dksX2_heirs_3 15 rfl rfl)
theorem dX2_heirs_86 : decode cX2_heirs 86 = .ok (.ireturn, 1) := dk_172 (dk_at dksX2_heirs_3 16 rfl rfl)
abbrev cX2_first : ByteArray := prog_12_method_130_code
def yX2_first : MethodName := ⟨RX2, "first", "(II)I"⟩
def dkwX2_first_4 : List UInt8 := [160, 0, 8, 21, 4, 167, 0, 8, 42, 29, 182, 1, 30, 172]
abbrev dktX2_first_4 : List UInt8 := dkwX2_first_4 ++ []
def dkwX2_first_3 : List UInt8 := [54, 4, 132, 5, 1, 167, 255, 208, 29, 16, 254, 159, 0, 7, 28, 154, 0, 5, 29, 172, 28, 4]
abbrev dktX2_first_3 : List UInt8 := dkwX2_first_3 ++ dktX2_first_4
def dkwX2_first_2 : List UInt8 := [54, 6, 21, 6, 16, 254, 159, 0, 20, 21, 6, 21, 4, 161, 0, 6, 167, 0, 10, 21, 5, 62, 21, 6]
abbrev dktX2_first_2 : List UInt8 := dkwX2_first_2 ++ dktX2_first_3
def dkwX2_first_1 : List UInt8 := [54, 4, 3, 54, 5, 21, 5, 42, 180, 0, 22, 5, 46, 162, 0, 43, 42, 21, 5, 27, 3, 182, 1, 91]
abbrev dktX2_first_1 : List UInt8 := dkwX2_first_1 ++ dktX2_first_2
def dkwX2_first_0 : List UInt8 := [27, 184, 1, 46, 153, 0, 12, 28, 3, 5, 184, 0, 93, 154, 0, 5, 2, 172, 16, 254, 62, 19, 1, 61]
abbrev dktX2_first_0 : List UInt8 := dkwX2_first_0 ++ dktX2_first_1
theorem dksX2_first_0 : cX2_first.data.toList.drop 0 = dktX2_first_0 := by decide +kernel
theorem dksX2_first_1 : cX2_first.data.toList.drop 24 = dktX2_first_1 := dk_seg dksX2_first_0 24 rfl rfl
theorem dksX2_first_2 : cX2_first.data.toList.drop 48 = dktX2_first_2 := dk_seg dksX2_first_1 24 rfl rfl
theorem dksX2_first_3 : cX2_first.data.toList.drop 72 = dktX2_first_3 := dk_seg dksX2_first_2 24 rfl rfl
theorem dksX2_first_4 : cX2_first.data.toList.drop 94 = dktX2_first_4 := dk_seg dksX2_first_3 22 rfl rfl
theorem dX2_first_0 : decode cX2_first 0 = .ok (.iload_n 1, 1) := dk_27 (dk_at dksX2_first_0 0 rfl rfl)
theorem dX2_first_1 : decode cX2_first 1 = .ok (.invokestatic 302, 3) := dk_184 1 46 (dk_at dksX2_first_0 1 rfl rfl)
theorem dX2_first_4 : decode cX2_first 4 = .ok (.ifCond .eq 12, 3) := dk_153 0 12 (dk_at dksX2_first_0 4 rfl rfl)
theorem dX2_first_7 : decode cX2_first 7 = .ok (.iload_n 2, 1) := dk_28 (dk_at dksX2_first_0 7 rfl rfl)
theorem dX2_first_8 : decode cX2_first 8 = .ok (.iconst 0, 1) := dk_3 (dk_at dksX2_first_0 8 rfl rfl)
theorem dX2_first_9 : decode cX2_first 9 = .ok (.iconst 2, 1) := dk_5 (dk_at dksX2_first_0 9 rfl rfl)
theorem dX2_first_10 : decode cX2_first 10 = .ok (.invokestatic 93, 3) := dk_184 0 93 (dk_at dksX2_first_0 10 rfl rfl)
theorem dX2_first_13 : decode cX2_first 13 = .ok (.ifCond .ne 5, 3) := dk_154 0 5 (dk_at dksX2_first_0 13 rfl rfl)
theorem dX2_first_16 : decode cX2_first 16 = .ok (.iconst (-1), 1) := dk_2 (dk_at dksX2_first_0 16 rfl rfl)
theorem dX2_first_17 : decode cX2_first 17 = .ok (.ireturn, 1) := dk_172 (dk_at dksX2_first_0 17 rfl rfl)
theorem dX2_first_18 : decode cX2_first 18 = .ok (.bipush (-2), 2) := dk_16 254 (dk_at dksX2_first_0 18 rfl rfl)
theorem dX2_first_20 : decode cX2_first 20 = .ok (.istore_n 3, 1) := dk_62 (dk_at dksX2_first_0 20 rfl rfl)
theorem dX2_first_21 : decode cX2_first 21 = .ok (.ldc_w 317, 3) := dk_19 1 61 (dk_at dksX2_first_0 21 rfl rfl)
theorem dX2_first_24 : decode cX2_first 24 = .ok (.istore 4, 2) := dk_54 4 (dk_at dksX2_first_1 0 rfl rfl)
theorem dX2_first_26 : decode cX2_first 26 = .ok (.iconst 0, 1) := dk_3 (dk_at dksX2_first_1 2 rfl rfl)
theorem dX2_first_27 : decode cX2_first 27 = .ok (.istore 5, 2) := dk_54 5 (dk_at dksX2_first_1 3 rfl rfl)
theorem dX2_first_29 : decode cX2_first 29 = .ok (.iload 5, 2) := dk_21 5 (dk_at dksX2_first_1 5 rfl rfl)
theorem dX2_first_31 : decode cX2_first 31 = .ok (.aload_n 0, 1) := dk_42 (dk_at dksX2_first_1 7 rfl rfl)
theorem dX2_first_32 : decode cX2_first 32 = .ok (.getfield 22, 3) := dk_180 0 22 (dk_at dksX2_first_1 8 rfl rfl)
theorem dX2_first_35 : decode cX2_first 35 = .ok (.iconst 2, 1) := dk_5 (dk_at dksX2_first_1 11 rfl rfl)
theorem dX2_first_36 : decode cX2_first 36 = .ok (.iaload, 1) := dk_46 (dk_at dksX2_first_1 12 rfl rfl)
theorem dX2_first_37 : decode cX2_first 37 = .ok (.if_icmp .ge 43, 3) := dk_162 0 43 (dk_at dksX2_first_1 13 rfl rfl)
theorem dX2_first_40 : decode cX2_first 40 = .ok (.aload_n 0, 1) := dk_42 (dk_at dksX2_first_1 16 rfl rfl)
theorem dX2_first_41 : decode cX2_first 41 = .ok (.iload 5, 2) := dk_21 5 (dk_at dksX2_first_1 17 rfl rfl)
theorem dX2_first_43 : decode cX2_first 43 = .ok (.iload_n 1, 1) := dk_27 (dk_at dksX2_first_1 19 rfl rfl)
theorem dX2_first_44 : decode cX2_first 44 = .ok (.iconst 0, 1) := dk_3 (dk_at dksX2_first_1 20 rfl rfl)
theorem dX2_first_45 : decode cX2_first 45 = .ok (.invokevirtual 347, 3) := dk_182 1 91 (dk_at dksX2_first_1 21 rfl rfl)
theorem dX2_first_48 : decode cX2_first 48 = .ok (.istore 6, 2) := dk_54 6 (dk_at dksX2_first_2 0 rfl rfl)
theorem dX2_first_50 : decode cX2_first 50 = .ok (.iload 6, 2) := dk_21 6 (dk_at dksX2_first_2 2 rfl rfl)
theorem dX2_first_52 : decode cX2_first 52 = .ok (.bipush (-2), 2) := dk_16 254 (dk_at dksX2_first_2 4 rfl rfl)
theorem dX2_first_54 : decode cX2_first 54 = .ok (.if_icmp .eq 20, 3) := dk_159 0 20 (dk_at dksX2_first_2 6 rfl rfl)
theorem dX2_first_57 : decode cX2_first 57 = .ok (.iload 6, 2) := dk_21 6 (dk_at dksX2_first_2 9 rfl rfl)
theorem dX2_first_59 : decode cX2_first 59 = .ok (.iload 4, 2) := dk_21 4 (dk_at dksX2_first_2 11 rfl rfl)
theorem dX2_first_61 : decode cX2_first 61 = .ok (.if_icmp .lt 6, 3) := dk_161 0 6 (dk_at dksX2_first_2 13 rfl rfl)
theorem dX2_first_64 : decode cX2_first 64 = .ok (.goto 10, 3) := dk_167 0 10 (dk_at dksX2_first_2 16 rfl rfl)
theorem dX2_first_67 : decode cX2_first 67 = .ok (.iload 5, 2) := dk_21 5 (dk_at dksX2_first_2 19 rfl rfl)
theorem dX2_first_69 : decode cX2_first 69 = .ok (.istore_n 3, 1) := dk_62 (dk_at dksX2_first_2 21 rfl rfl)
theorem dX2_first_70 : decode cX2_first 70 = .ok (.iload 6, 2) := dk_21 6 (dk_at dksX2_first_2 22 rfl rfl)
theorem dX2_first_72 : decode cX2_first 72 = .ok (.istore 4, 2) := dk_54 4 (dk_at dksX2_first_3 0 rfl rfl)
theorem dX2_first_74 : decode cX2_first 74 = .ok (.iinc 5 1, 3) := dk_132 5 1 (dk_at dksX2_first_3 2 rfl rfl)
theorem dX2_first_77 : decode cX2_first 77 = .ok (.goto (-48), 3) := dk_167 255 208 (dk_at dksX2_first_3 5 rfl rfl)
theorem dX2_first_80 : decode cX2_first 80 = .ok (.iload_n 3, 1) := dk_29 (dk_at dksX2_first_3 8 rfl rfl)
theorem dX2_first_81 : decode cX2_first 81 = .ok (.bipush (-2), 2) := dk_16 254 (dk_at dksX2_first_3 9 rfl rfl)
theorem dX2_first_83 : decode cX2_first 83 = .ok (.if_icmp .eq 7, 3) := dk_159 0 7 (dk_at dksX2_first_3 11 rfl rfl)
theorem dX2_first_86 : decode cX2_first 86 = .ok (.iload_n 2, 1) := dk_28 (dk_at dksX2_first_3 14 rfl rfl)
theorem dX2_first_87 : decode cX2_first 87 = .ok (.ifCond .ne 5, 3) := dk_154 0 5 (dk_at dksX2_first_3 15 rfl rfl)
theorem dX2_first_90 : decode cX2_first 90 = .ok (.iload_n 3, 1) := dk_29 (dk_at dksX2_first_3 18 rfl rfl)
theorem dX2_first_91 : decode cX2_first 91 = .ok (.ireturn, 1) := dk_172 (dk_at dksX2_first_3 19 rfl rfl)
theorem dX2_first_92 : decode cX2_first 92 = .ok (.iload_n 2, 1) := dk_28 (dk_at dksX2_first_3 20 rfl rfl)
theorem dX2_first_93 : decode cX2_first 93 = .ok (.iconst 1, 1) := dk_4 (dk_at dksX2_first_3 21 rfl rfl)
theorem dX2_first_94 : decode cX2_first 94 = .ok (.if_icmp .ne 8, 3) := dk_160 0 8 (dk_at dksX2_first_4 0 rfl rfl)
theorem dX2_first_97 : decode cX2_first 97 = .ok (.iload 4, 2) := dk_21 4 (dk_at dksX2_first_4 3 rfl rfl)
theorem dX2_first_99 : decode cX2_first 99 = .ok (.goto 8, 3) := dk_167 0 8 (dk_at dksX2_first_4 5 rfl rfl)
theorem dX2_first_102 : decode cX2_first 102 = .ok (.aload_n 0, 1) := dk_42 (dk_at dksX2_first_4 8 rfl rfl)
theorem dX2_first_103 : decode cX2_first 103 = .ok (.iload_n 3, 1) := dk_29 (dk_at dksX2_first_4 9 rfl rfl)
theorem dX2_first_104 : decode cX2_first 104 = .ok (.invokevirtual 286, 3) := dk_182 1 30 (dk_at dksX2_first_4 10 rfl rfl)
theorem dX2_first_107 : decode cX2_first 107 = .ok (.ireturn, 1) := dk_172 (dk_at dksX2_first_4 13 rfl rfl)
abbrev cX2_nearest : ByteArray := prog_12_method_131_code
def yX2_nearest : MethodName := ⟨RX2, "nearest", "(II)I"⟩
def dkwX2_nearest_5 : List UInt8 := [159, 0, 7, 28, 154, 0, 7, 29, 167, 0, 5, 21, 4, 172]
abbrev dktX2_nearest_5 : List UInt8 := dkwX2_nearest_5 ++ []
def dkwX2_nearest_4 : List UInt8 := [161, 0, 6, 167, 0, 10, 21, 5, 62, 21, 6, 54, 4, 132, 5, 1, 167, 255, 178, 29, 16, 254]
abbrev dktX2_nearest_4 : List UInt8 := dkwX2_nearest_4 ++ dktX2_nearest_5
def dkwX2_nearest_3 : List UInt8 := [161, 0, 36, 21, 6, 21, 4, 160, 0, 22, 42, 21, 5, 4, 182, 1, 124, 42, 29, 4, 182, 1, 124]
abbrev dktX2_nearest_3 : List UInt8 := dkwX2_nearest_3 ++ dktX2_nearest_4
def dkwX2_nearest_2 : List UInt8 := [182, 1, 124, 42, 180, 0, 22, 16, 35, 27, 96, 46, 126, 184, 1, 4, 54, 6, 21, 6, 21, 4]
abbrev dktX2_nearest_2 : List UInt8 := dkwX2_nearest_2 ++ dktX2_nearest_3
def dkwX2_nearest_1 : List UInt8 := [54, 4, 3, 54, 5, 21, 5, 42, 180, 0, 13, 17, 1, 61, 46, 162, 0, 71, 42, 21, 5, 5]
abbrev dktX2_nearest_1 : List UInt8 := dkwX2_nearest_1 ++ dktX2_nearest_2
def dkwX2_nearest_0 : List UInt8 := [42, 27, 182, 1, 171, 153, 0, 12, 28, 3, 4, 184, 0, 93, 154, 0, 5, 2, 172, 16, 254, 62, 2]
abbrev dktX2_nearest_0 : List UInt8 := dkwX2_nearest_0 ++ dktX2_nearest_1
theorem dksX2_nearest_0 : cX2_nearest.data.toList.drop 0 = dktX2_nearest_0 := by decide +kernel
theorem dksX2_nearest_1 : cX2_nearest.data.toList.drop 23 = dktX2_nearest_1 := dk_seg dksX2_nearest_0 23 rfl rfl
theorem dksX2_nearest_2 : cX2_nearest.data.toList.drop 45 = dktX2_nearest_2 := dk_seg dksX2_nearest_1 22 rfl rfl
theorem dksX2_nearest_3 : cX2_nearest.data.toList.drop 67 = dktX2_nearest_3 := dk_seg dksX2_nearest_2 22 rfl rfl
theorem dksX2_nearest_4 : cX2_nearest.data.toList.drop 90 = dktX2_nearest_4 := dk_seg dksX2_nearest_3 23 rfl rfl
theorem dksX2_nearest_5 : cX2_nearest.data.toList.drop 112 = dktX2_nearest_5 := dk_seg dksX2_nearest_4 22 rfl rfl
theorem dX2_nearest_0 : decode cX2_nearest 0 = .ok (.aload_n 0, 1) := dk_42 (dk_at dksX2_nearest_0 0 rfl rfl)
theorem dX2_nearest_1 : decode cX2_nearest 1 = .ok (.iload_n 1, 1) := dk_27 (dk_at dksX2_nearest_0 1 rfl rfl)
theorem dX2_nearest_2 : decode cX2_nearest 2 = .ok (.invokevirtual 427, 3) := dk_182 1 171 (dk_at dksX2_nearest_0 2 rfl rfl)
theorem dX2_nearest_5 : decode cX2_nearest 5 = .ok (.ifCond .eq 12, 3) := dk_153 0 12 (dk_at dksX2_nearest_0 5 rfl rfl)
theorem dX2_nearest_8 : decode cX2_nearest 8 = .ok (.iload_n 2, 1) := dk_28 (dk_at dksX2_nearest_0 8 rfl rfl)
theorem dX2_nearest_9 : decode cX2_nearest 9 = .ok (.iconst 0, 1) := dk_3 (dk_at dksX2_nearest_0 9 rfl rfl)
theorem dX2_nearest_10 : decode cX2_nearest 10 = .ok (.iconst 1, 1) := dk_4 (dk_at dksX2_nearest_0 10 rfl rfl)
theorem dX2_nearest_11 : decode cX2_nearest 11 = .ok (.invokestatic 93, 3) := dk_184 0 93 (dk_at dksX2_nearest_0 11 rfl rfl)
theorem dX2_nearest_14 : decode cX2_nearest 14 = .ok (.ifCond .ne 5, 3) := dk_154 0 5 (dk_at dksX2_nearest_0 14 rfl rfl)
theorem dX2_nearest_17 : decode cX2_nearest 17 = .ok (.iconst (-1), 1) := dk_2 (dk_at dksX2_nearest_0 17 rfl rfl)
theorem dX2_nearest_18 : decode cX2_nearest 18 = .ok (.ireturn, 1) := dk_172 (dk_at dksX2_nearest_0 18 rfl rfl)
theorem dX2_nearest_19 : decode cX2_nearest 19 = .ok (.bipush (-2), 2) := dk_16 254 (dk_at dksX2_nearest_0 19 rfl rfl)
theorem dX2_nearest_21 : decode cX2_nearest 21 = .ok (.istore_n 3, 1) := dk_62 (dk_at dksX2_nearest_0 21 rfl rfl)
theorem dX2_nearest_22 : decode cX2_nearest 22 = .ok (.iconst (-1), 1) := dk_2 (dk_at dksX2_nearest_0 22 rfl rfl)
theorem dX2_nearest_23 : decode cX2_nearest 23 = .ok (.istore 4, 2) := dk_54 4 (dk_at dksX2_nearest_1 0 rfl rfl)
theorem dX2_nearest_25 : decode cX2_nearest 25 = .ok (.iconst 0, 1) := dk_3 (dk_at dksX2_nearest_1 2 rfl rfl)
theorem dX2_nearest_26 : decode cX2_nearest 26 = .ok (.istore 5, 2) := dk_54 5 (dk_at dksX2_nearest_1 3 rfl rfl)
theorem dX2_nearest_28 : decode cX2_nearest 28 = .ok (.iload 5, 2) := dk_21 5 (dk_at dksX2_nearest_1 5 rfl rfl)
theorem dX2_nearest_30 : decode cX2_nearest 30 = .ok (.aload_n 0, 1) := dk_42 (dk_at dksX2_nearest_1 7 rfl rfl)
theorem dX2_nearest_31 : decode cX2_nearest 31 = .ok (.getfield 13, 3) := dk_180 0 13 (dk_at dksX2_nearest_1 8 rfl rfl)
theorem dX2_nearest_34 : decode cX2_nearest 34 = .ok (.sipush 317, 3) := dk_17 1 61 (dk_at dksX2_nearest_1 11 rfl rfl)
theorem dX2_nearest_37 : decode cX2_nearest 37 = .ok (.iaload, 1) := dk_46 (dk_at dksX2_nearest_1 14 rfl rfl)
theorem dX2_nearest_38 : decode cX2_nearest 38 = .ok (.if_icmp .ge 71, 3) := dk_162 0 71 (dk_at dksX2_nearest_1 15 rfl rfl)
theorem dX2_nearest_41 : decode cX2_nearest 41 = .ok (.aload_n 0, 1) := dk_42 (dk_at dksX2_nearest_1 18 rfl rfl)
theorem dX2_nearest_42 : decode cX2_nearest 42 = .ok (.iload 5, 2) := dk_21 5 (dk_at dksX2_nearest_1 19 rfl rfl)
theorem dX2_nearest_44 : decode cX2_nearest 44 = .ok (.iconst 2, 1) := dk_5 (dk_at dksX2_nearest_1 21 rfl rfl)
theorem dX2_nearest_45 : decode cX2_nearest 45 = .ok (.invokevirtual 380, 3) := dk_182 1 124 (dk_at dksX2_nearest_2 0 rfl rfl)
theorem dX2_nearest_48 : decode cX2_nearest 48 = .ok (.aload_n 0, 1) := dk_42 (dk_at dksX2_nearest_2 3 rfl rfl)
theorem dX2_nearest_49 : decode cX2_nearest 49 = .ok (.getfield 22, 3) := dk_180 0 22 (dk_at dksX2_nearest_2 4 rfl rfl)
theorem dX2_nearest_52 : decode cX2_nearest 52 = .ok (.bipush 35, 2) := dk_16 35 (dk_at dksX2_nearest_2 7 rfl rfl)
theorem dX2_nearest_54 : decode cX2_nearest 54 = .ok (.iload_n 1, 1) := dk_27 (dk_at dksX2_nearest_2 9 rfl rfl)
theorem dX2_nearest_55 : decode cX2_nearest 55 = .ok (.iadd, 1) := dk_96 (dk_at dksX2_nearest_2 10 rfl rfl)
theorem dX2_nearest_56 : decode cX2_nearest 56 = .ok (.iaload, 1) := dk_46 (dk_at dksX2_nearest_2 11 rfl rfl)
theorem dX2_nearest_57 : decode cX2_nearest 57 = .ok (.iand, 1) := dk_126 (dk_at dksX2_nearest_2 12 rfl rfl)
theorem dX2_nearest_58 : decode cX2_nearest 58 = .ok (.invokestatic 260, 3) := dk_184 1 4 (dk_at dksX2_nearest_2 13 rfl rfl)
theorem dX2_nearest_61 : decode cX2_nearest 61 = .ok (.istore 6, 2) := dk_54 6 (dk_at dksX2_nearest_2 16 rfl rfl)
theorem dX2_nearest_63 : decode cX2_nearest 63 = .ok (.iload 6, 2) := dk_21 6 (dk_at dksX2_nearest_2 18 rfl rfl)
theorem dX2_nearest_65 : decode cX2_nearest 65 = .ok (.iload 4, 2) := dk_21 4 (dk_at dksX2_nearest_2 20 rfl rfl)
theorem dX2_nearest_67 : decode cX2_nearest 67 = .ok (.if_icmp .lt 36, 3) := dk_161 0 36 (dk_at dksX2_nearest_3 0 rfl rfl)
theorem dX2_nearest_70 : decode cX2_nearest 70 = .ok (.iload 6, 2) := dk_21 6 (dk_at dksX2_nearest_3 3 rfl rfl)
theorem dX2_nearest_72 : decode cX2_nearest 72 = .ok (.iload 4, 2) := dk_21 4 (dk_at dksX2_nearest_3 5 rfl rfl)
theorem dX2_nearest_74 : decode cX2_nearest 74 = .ok (.if_icmp .ne 22, 3) := dk_160 0 22 (dk_at dksX2_nearest_3 7 rfl rfl)
theorem dX2_nearest_77 : decode cX2_nearest 77 = .ok (.aload_n 0, 1) := dk_42 (dk_at dksX2_nearest_3 10 rfl rfl)
theorem dX2_nearest_78 : decode cX2_nearest 78 = .ok (.iload 5, 2) := dk_21 5 (dk_at dksX2_nearest_3 11 rfl rfl)
theorem dX2_nearest_80 : decode cX2_nearest 80 = .ok (.iconst 1, 1) := dk_4 (dk_at dksX2_nearest_3 13 rfl rfl)
theorem dX2_nearest_81 : decode cX2_nearest 81 = .ok (.invokevirtual 380, 3) := dk_182 1 124 (dk_at dksX2_nearest_3 14 rfl rfl)
theorem dX2_nearest_84 : decode cX2_nearest 84 = .ok (.aload_n 0, 1) := dk_42 (dk_at dksX2_nearest_3 17 rfl rfl)
theorem dX2_nearest_85 : decode cX2_nearest 85 = .ok (.iload_n 3, 1) := dk_29 (dk_at dksX2_nearest_3 18 rfl rfl)
theorem dX2_nearest_86 : decode cX2_nearest 86 = .ok (.iconst 1, 1) := dk_4 (dk_at dksX2_nearest_3 19 rfl rfl)
theorem dX2_nearest_87 : decode cX2_nearest 87 = .ok (.invokevirtual 380, 3) := dk_182 1 124 (dk_at dksX2_nearest_3 20 rfl rfl)
theorem dX2_nearest_90 : decode cX2_nearest 90 = .ok (.if_icmp .lt 6, 3) := dk_161 0 6 (dk_at dksX2_nearest_4 0 rfl rfl)
theorem dX2_nearest_93 : decode cX2_nearest 93 = .ok (.goto 10, 3) := dk_167 0 10 (dk_at dksX2_nearest_4 3 rfl rfl)
theorem dX2_nearest_96 : decode cX2_nearest 96 = .ok (.iload 5, 2) := dk_21 5 (dk_at dksX2_nearest_4 6 rfl rfl)
theorem dX2_nearest_98 : decode cX2_nearest 98 = .ok (.istore_n 3, 1) := dk_62 (dk_at dksX2_nearest_4 8 rfl rfl)
theorem dX2_nearest_99 : decode cX2_nearest 99 = .ok (.iload 6, 2) := dk_21 6 (dk_at dksX2_nearest_4 9 rfl rfl)
theorem dX2_nearest_101 : decode cX2_nearest 101 = .ok (.istore 4, 2) := dk_54 4 (dk_at dksX2_nearest_4 11 rfl rfl)
theorem dX2_nearest_103 : decode cX2_nearest 103 = .ok (.iinc 5 1, 3) := dk_132 5 1 (dk_at dksX2_nearest_4 13 rfl rfl)
theorem dX2_nearest_106 : decode cX2_nearest 106 = .ok (.goto (-78), 3) := dk_167 255 178 (dk_at dksX2_nearest_4 16 rfl rfl)
theorem dX2_nearest_109 : decode cX2_nearest 109 = .ok (.iload_n 3, 1) := dk_29 (dk_at dksX2_nearest_4 19 rfl rfl)
theorem dX2_nearest_110 : decode cX2_nearest 110 = .ok (.bipush (-2), 2) := dk_16 254 (dk_at dksX2_nearest_4 20 rfl rfl)
theorem dX2_nearest_112 : decode cX2_nearest 112 = .ok (.if_icmp .eq 7, 3) := dk_159 0 7 (dk_at dksX2_nearest_5 0 rfl rfl)
theorem dX2_nearest_115 : decode cX2_nearest 115 = .ok (.iload_n 2, 1) := dk_28 (dk_at dksX2_nearest_5 3 rfl rfl)
theorem dX2_nearest_116 : decode cX2_nearest 116 = .ok (.ifCond .ne 7, 3) := dk_154 0 7 (dk_at dksX2_nearest_5 4 rfl rfl)
theorem dX2_nearest_119 : decode cX2_nearest 119 = .ok (.iload_n 3, 1) := dk_29 (dk_at dksX2_nearest_5 7 rfl rfl)
theorem dX2_nearest_120 : decode cX2_nearest 120 = .ok (.goto 5, 3) := dk_167 0 5 (dk_at dksX2_nearest_5 8 rfl rfl)
theorem dX2_nearest_123 : decode cX2_nearest 123 = .ok (.iload 4, 2) := dk_21 4 (dk_at dksX2_nearest_5 11 rfl rfl)
theorem dX2_nearest_125 : decode cX2_nearest 125 = .ok (.ireturn, 1) := dk_172 (dk_at dksX2_nearest_5 13 rfl rfl)
abbrev cX2_late : ByteArray := prog_12_method_132_code
def yX2_late : MethodName := ⟨RX2, "late", "(I)I"⟩
def dkwX2_late_4 : List UInt8 := [132, 6, 1, 167, 255, 201, 21, 5, 172]
abbrev dktX2_late_4 : List UInt8 := dkwX2_late_4 ++ []
def dkwX2_late_3 : List UInt8 := [126, 3, 182, 1, 91, 21, 4, 162, 0, 13, 21, 5, 4, 21, 6, 120, 128, 167, 0, 5, 21, 5, 54, 5]
abbrev dktX2_late_3 : List UInt8 := dkwX2_late_3 ++ dktX2_late_4
def dkwX2_late_2 : List UInt8 := [162, 0, 54, 29, 21, 6, 184, 0, 82, 154, 0, 6, 167, 0, 36, 42, 28, 29, 4, 21, 6, 120, 2, 130]
abbrev dktX2_late_2 : List UInt8 := dkwX2_late_2 ++ dktX2_late_3
def dkwX2_late_1 : List UInt8 := [16, 35, 27, 96, 46, 62, 42, 27, 3, 182, 1, 112, 54, 4, 3, 54, 5, 3, 54, 6, 21, 6, 16, 16]
abbrev dktX2_late_1 : List UInt8 := dkwX2_late_1 ++ dktX2_late_2
def dkwX2_late_0 : List UInt8 := [42, 27, 182, 1, 171, 154, 0, 5, 2, 172, 42, 180, 0, 22, 16, 19, 27, 96, 46, 61, 42, 180, 0, 22]
abbrev dktX2_late_0 : List UInt8 := dkwX2_late_0 ++ dktX2_late_1
theorem dksX2_late_0 : cX2_late.data.toList.drop 0 = dktX2_late_0 := by decide +kernel
theorem dksX2_late_1 : cX2_late.data.toList.drop 24 = dktX2_late_1 := dk_seg dksX2_late_0 24 rfl rfl
theorem dksX2_late_2 : cX2_late.data.toList.drop 48 = dktX2_late_2 := dk_seg dksX2_late_1 24 rfl rfl
theorem dksX2_late_3 : cX2_late.data.toList.drop 72 = dktX2_late_3 := dk_seg dksX2_late_2 24 rfl rfl
theorem dksX2_late_4 : cX2_late.data.toList.drop 96 = dktX2_late_4 := dk_seg dksX2_late_3 24 rfl rfl
theorem dX2_late_0 : decode cX2_late 0 = .ok (.aload_n 0, 1) := dk_42 (dk_at dksX2_late_0 0 rfl rfl)
theorem dX2_late_1 : decode cX2_late 1 = .ok (.iload_n 1, 1) := dk_27 (dk_at dksX2_late_0 1 rfl rfl)
theorem dX2_late_2 : decode cX2_late 2 = .ok (.invokevirtual 427, 3) := dk_182 1 171 (dk_at dksX2_late_0 2 rfl rfl)
theorem dX2_late_5 : decode cX2_late 5 = .ok (.ifCond .ne 5, 3) := dk_154 0 5 (dk_at dksX2_late_0 5 rfl rfl)
theorem dX2_late_8 : decode cX2_late 8 = .ok (.iconst (-1), 1) := dk_2 (dk_at dksX2_late_0 8 rfl rfl)
theorem dX2_late_9 : decode cX2_late 9 = .ok (.ireturn, 1) := dk_172 (dk_at dksX2_late_0 9 rfl rfl)
theorem dX2_late_10 : decode cX2_late 10 = .ok (.aload_n 0, 1) := dk_42 (dk_at dksX2_late_0 10 rfl rfl)
theorem dX2_late_11 : decode cX2_late 11 = .ok (.getfield 22, 3) := dk_180 0 22 (dk_at dksX2_late_0 11 rfl rfl)
theorem dX2_late_14 : decode cX2_late 14 = .ok (.bipush 19, 2) := dk_16 19 (dk_at dksX2_late_0 14 rfl rfl)
theorem dX2_late_16 : decode cX2_late 16 = .ok (.iload_n 1, 1) := dk_27 (dk_at dksX2_late_0 16 rfl rfl)
theorem dX2_late_17 : decode cX2_late 17 = .ok (.iadd, 1) := dk_96 (dk_at dksX2_late_0 17 rfl rfl)
theorem dX2_late_18 : decode cX2_late 18 = .ok (.iaload, 1) := dk_46 (dk_at dksX2_late_0 18 rfl rfl)
theorem dX2_late_19 : decode cX2_late 19 = .ok (.istore_n 2, 1) := dk_61 (dk_at dksX2_late_0 19 rfl rfl)
theorem dX2_late_20 : decode cX2_late 20 = .ok (.aload_n 0, 1) := dk_42 (dk_at dksX2_late_0 20 rfl rfl)
theorem dX2_late_21 : decode cX2_late 21 = .ok (.getfield 22, 3) := dk_180 0 22 (dk_at dksX2_late_0 21 rfl rfl)
theorem dX2_late_24 : decode cX2_late 24 = .ok (.bipush 35, 2) := dk_16 35 (dk_at dksX2_late_1 0 rfl rfl)
theorem dX2_late_26 : decode cX2_late 26 = .ok (.iload_n 1, 1) := dk_27 (dk_at dksX2_late_1 2 rfl rfl)
theorem dX2_late_27 : decode cX2_late 27 = .ok (.iadd, 1) := dk_96 (dk_at dksX2_late_1 3 rfl rfl)
theorem dX2_late_28 : decode cX2_late 28 = .ok (.iaload, 1) := dk_46 (dk_at dksX2_late_1 4 rfl rfl)
theorem dX2_late_29 : decode cX2_late 29 = .ok (.istore_n 3, 1) := dk_62 (dk_at dksX2_late_1 5 rfl rfl)
theorem dX2_late_30 : decode cX2_late 30 = .ok (.aload_n 0, 1) := dk_42 (dk_at dksX2_late_1 6 rfl rfl)
theorem dX2_late_31 : decode cX2_late 31 = .ok (.iload_n 1, 1) := dk_27 (dk_at dksX2_late_1 7 rfl rfl)
theorem dX2_late_32 : decode cX2_late 32 = .ok (.iconst 0, 1) := dk_3 (dk_at dksX2_late_1 8 rfl rfl)
theorem dX2_late_33 : decode cX2_late 33 = .ok (.invokevirtual 368, 3) := dk_182 1 112 (dk_at dksX2_late_1 9 rfl rfl)
theorem dX2_late_36 : decode cX2_late 36 = .ok (.istore 4, 2) := dk_54 4 (dk_at dksX2_late_1 12 rfl rfl)
theorem dX2_late_38 : decode cX2_late 38 = .ok (.iconst 0, 1) := dk_3 (dk_at dksX2_late_1 14 rfl rfl)
theorem dX2_late_39 : decode cX2_late 39 = .ok (.istore 5, 2) := dk_54 5 (dk_at dksX2_late_1 15 rfl rfl)
theorem dX2_late_41 : decode cX2_late 41 = .ok (.iconst 0, 1) := dk_3 (dk_at dksX2_late_1 17 rfl rfl)
theorem dX2_late_42 : decode cX2_late 42 = .ok (.istore 6, 2) := dk_54 6 (dk_at dksX2_late_1 18 rfl rfl)
theorem dX2_late_44 : decode cX2_late 44 = .ok (.iload 6, 2) := dk_21 6 (dk_at dksX2_late_1 20 rfl rfl)
theorem dX2_late_46 : decode cX2_late 46 = .ok (.bipush 16, 2) := dk_16 16 (dk_at dksX2_late_1 22 rfl rfl)
theorem dX2_late_48 : decode cX2_late 48 = .ok (.if_icmp .ge 54, 3) := dk_162 0 54 (dk_at dksX2_late_2 0 rfl rfl)
theorem dX2_late_51 : decode cX2_late 51 = .ok (.iload_n 3, 1) := dk_29 (dk_at dksX2_late_2 3 rfl rfl)
theorem dX2_late_52 : decode cX2_late 52 = .ok (.iload 6, 2) := dk_21 6 (dk_at dksX2_late_2 4 rfl rfl)
theorem dX2_late_54 : decode cX2_late 54 = .ok (.invokestatic 82, 3) := dk_184 0 82 (dk_at dksX2_late_2 6 rfl rfl)
theorem dX2_late_57 : decode cX2_late 57 = .ok (.ifCond .ne 6, 3) := dk_154 0 6 (dk_at dksX2_late_2 9 rfl rfl)
theorem dX2_late_60 : decode cX2_late 60 = .ok (.goto 36, 3) := dk_167 0 36 (dk_at dksX2_late_2 12 rfl rfl)
theorem dX2_late_63 : decode cX2_late 63 = .ok (.aload_n 0, 1) := dk_42 (dk_at dksX2_late_2 15 rfl rfl)
theorem dX2_late_64 : decode cX2_late 64 = .ok (.iload_n 2, 1) := dk_28 (dk_at dksX2_late_2 16 rfl rfl)
theorem dX2_late_65 : decode cX2_late 65 = .ok (.iload_n 3, 1) := dk_29 (dk_at dksX2_late_2 17 rfl rfl)
theorem dX2_late_66 : decode cX2_late 66 = .ok (.iconst 1, 1) := dk_4 (dk_at dksX2_late_2 18 rfl rfl)
theorem dX2_late_67 : decode cX2_late 67 = .ok (.iload 6, 2) := dk_21 6 (dk_at dksX2_late_2 19 rfl rfl)
theorem dX2_late_69 : decode cX2_late 69 = .ok (.ishl, 1) := dk_120 (dk_at dksX2_late_2 21 rfl rfl)
theorem dX2_late_70 : decode cX2_late 70 = .ok (.iconst (-1), 1) := dk_2 (dk_at dksX2_late_2 22 rfl rfl)
theorem dX2_late_71 : decode cX2_late 71 = .ok (.ixor, 1) := dk_130 (dk_at dksX2_late_2 23 rfl rfl)
theorem dX2_late_72 : decode cX2_late 72 = .ok (.iand, 1) := dk_126 (dk_at dksX2_late_3 0 rfl rfl)
theorem dX2_late_73 : decode cX2_late 73 = .ok (.iconst 0, 1) := dk_3 (dk_at dksX2_late_3 1 rfl rfl)
theorem dX2_late_74 : decode cX2_late 74 = .ok (.invokevirtual 347, 3) := dk_182 1 91 (dk_at dksX2_late_3 2 rfl rfl)
theorem dX2_late_77 : decode cX2_late 77 = .ok (.iload 4, 2) := dk_21 4 (dk_at dksX2_late_3 5 rfl rfl)
theorem dX2_late_79 : decode cX2_late 79 = .ok (.if_icmp .ge 13, 3) := dk_162 0 13 (dk_at dksX2_late_3 7 rfl rfl)
theorem dX2_late_82 : decode cX2_late 82 = .ok (.iload 5, 2) := dk_21 5 (dk_at dksX2_late_3 10 rfl rfl)
theorem dX2_late_84 : decode cX2_late 84 = .ok (.iconst 1, 1) := dk_4 (dk_at dksX2_late_3 12 rfl rfl)
theorem dX2_late_85 : decode cX2_late 85 = .ok (.iload 6, 2) := dk_21 6 (dk_at dksX2_late_3 13 rfl rfl)
theorem dX2_late_87 : decode cX2_late 87 = .ok (.ishl, 1) := dk_120 (dk_at dksX2_late_3 15 rfl rfl)
theorem dX2_late_88 : decode cX2_late 88 = .ok (.ior, 1) := dk_128 (dk_at dksX2_late_3 16 rfl rfl)
theorem dX2_late_89 : decode cX2_late 89 = .ok (.goto 5, 3) := dk_167 0 5 (dk_at dksX2_late_3 17 rfl rfl)
theorem dX2_late_92 : decode cX2_late 92 = .ok (.iload 5, 2) := dk_21 5 (dk_at dksX2_late_3 20 rfl rfl)
theorem dX2_late_94 : decode cX2_late 94 = .ok (.istore 5, 2) := dk_54 5 (dk_at dksX2_late_3 22 rfl rfl)
theorem dX2_late_96 : decode cX2_late 96 = .ok (.iinc 6 1, 3) := dk_132 6 1 (dk_at dksX2_late_4 0 rfl rfl)
theorem dX2_late_99 : decode cX2_late 99 = .ok (.goto (-55), 3) := dk_167 255 201 (dk_at dksX2_late_4 3 rfl rfl)
theorem dX2_late_102 : decode cX2_late 102 = .ok (.iload 5, 2) := dk_21 5 (dk_at dksX2_late_4 6 rfl rfl)
theorem dX2_late_104 : decode cX2_late 104 = .ok (.ireturn, 1) := dk_172 (dk_at dksX2_late_4 8 rfl rfl)
abbrev cX2_write : ByteArray := prog_12_method_136_code
def yX2_write : MethodName := ⟨RX2, "write", "(I)I"⟩
def dkwX2_write_4 : List UInt8 := [42, 27, 3, 182, 1, 112, 182, 1, 208, 42, 180, 1, 199, 172]
abbrev dktX2_write_4 : List UInt8 := dkwX2_write_4 ++ []
def dkwX2_write_3 : List UInt8 := [180, 0, 49, 28, 46, 182, 1, 55, 182, 1, 205, 132, 2, 1, 167, 255, 225, 42, 16, 61, 182, 1, 202, 42]
abbrev dktX2_write_3 : List UInt8 := dkwX2_write_3 ++ dktX2_write_4
def dkwX2_write_2 : List UInt8 := [182, 1, 205, 3, 61, 28, 42, 180, 1, 97, 162, 0, 29, 42, 16, 60, 182, 1, 202, 42, 42, 42]
abbrev dktX2_write_2 : List UInt8 := dkwX2_write_2 ++ dktX2_write_3
def dkwX2_write_1 : List UInt8 := [16, 35, 27, 96, 46, 182, 1, 103, 42, 3, 181, 1, 199, 42, 42, 180, 0, 22, 16, 19, 27, 96, 46]
abbrev dktX2_write_1 : List UInt8 := dkwX2_write_1 ++ dktX2_write_2
def dkwX2_write_0 : List UInt8 := [42, 27, 182, 1, 171, 154, 0, 5, 2, 172, 42, 42, 180, 0, 22, 16, 19, 27, 96, 46, 42, 180, 0, 22]
abbrev dktX2_write_0 : List UInt8 := dkwX2_write_0 ++ dktX2_write_1
theorem dksX2_write_0 : cX2_write.data.toList.drop 0 = dktX2_write_0 := by decide +kernel
theorem dksX2_write_1 : cX2_write.data.toList.drop 24 = dktX2_write_1 := dk_seg dksX2_write_0 24 rfl rfl
theorem dksX2_write_2 : cX2_write.data.toList.drop 47 = dktX2_write_2 := dk_seg dksX2_write_1 23 rfl rfl
theorem dksX2_write_3 : cX2_write.data.toList.drop 69 = dktX2_write_3 := dk_seg dksX2_write_2 22 rfl rfl
theorem dksX2_write_4 : cX2_write.data.toList.drop 93 = dktX2_write_4 := dk_seg dksX2_write_3 24 rfl rfl
theorem dX2_write_0 : decode cX2_write 0 = .ok (.aload_n 0, 1) := dk_42 (dk_at dksX2_write_0 0 rfl rfl)
theorem dX2_write_1 : decode cX2_write 1 = .ok (.iload_n 1, 1) := dk_27 (dk_at dksX2_write_0 1 rfl rfl)
theorem dX2_write_2 : decode cX2_write 2 = .ok (.invokevirtual 427, 3) := dk_182 1 171 (dk_at dksX2_write_0 2 rfl rfl)
theorem dX2_write_5 : decode cX2_write 5 = .ok (.ifCond .ne 5, 3) := dk_154 0 5 (dk_at dksX2_write_0 5 rfl rfl)
theorem dX2_write_8 : decode cX2_write 8 = .ok (.iconst (-1), 1) := dk_2 (dk_at dksX2_write_0 8 rfl rfl)
theorem dX2_write_9 : decode cX2_write 9 = .ok (.ireturn, 1) := dk_172 (dk_at dksX2_write_0 9 rfl rfl)
theorem dX2_write_10 : decode cX2_write 10 = .ok (.aload_n 0, 1) := dk_42 (dk_at dksX2_write_0 10 rfl rfl)
theorem dX2_write_11 : decode cX2_write 11 = .ok (.aload_n 0, 1) := dk_42 (dk_at dksX2_write_0 11 rfl rfl)
theorem dX2_write_12 : decode cX2_write 12 = .ok (.getfield 22, 3) := dk_180 0 22 (dk_at dksX2_write_0 12 rfl rfl)
theorem dX2_write_15 : decode cX2_write 15 = .ok (.bipush 19, 2) := dk_16 19 (dk_at dksX2_write_0 15 rfl rfl)
theorem dX2_write_17 : decode cX2_write 17 = .ok (.iload_n 1, 1) := dk_27 (dk_at dksX2_write_0 17 rfl rfl)
theorem dX2_write_18 : decode cX2_write 18 = .ok (.iadd, 1) := dk_96 (dk_at dksX2_write_0 18 rfl rfl)
theorem dX2_write_19 : decode cX2_write 19 = .ok (.iaload, 1) := dk_46 (dk_at dksX2_write_0 19 rfl rfl)
theorem dX2_write_20 : decode cX2_write 20 = .ok (.aload_n 0, 1) := dk_42 (dk_at dksX2_write_0 20 rfl rfl)
theorem dX2_write_21 : decode cX2_write 21 = .ok (.getfield 22, 3) := dk_180 0 22 (dk_at dksX2_write_0 21 rfl rfl)
theorem dX2_write_24 : decode cX2_write 24 = .ok (.bipush 35, 2) := dk_16 35 (dk_at dksX2_write_1 0 rfl rfl)
theorem dX2_write_26 : decode cX2_write 26 = .ok (.iload_n 1, 1) := dk_27 (dk_at dksX2_write_1 2 rfl rfl)
theorem dX2_write_27 : decode cX2_write 27 = .ok (.iadd, 1) := dk_96 (dk_at dksX2_write_1 3 rfl rfl)
theorem dX2_write_28 : decode cX2_write 28 = .ok (.iaload, 1) := dk_46 (dk_at dksX2_write_1 4 rfl rfl)
theorem dX2_write_29 : decode cX2_write 29 = .ok (.invokevirtual 359, 3) := dk_182 1 103 (dk_at dksX2_write_1 5 rfl rfl)
theorem dX2_write_32 : decode cX2_write 32 = .ok (.aload_n 0, 1) := dk_42 (dk_at dksX2_write_1 8 rfl rfl)
theorem dX2_write_33 : decode cX2_write 33 = .ok (.iconst 0, 1) := dk_3 (dk_at dksX2_write_1 9 rfl rfl)
theorem dX2_write_34 : decode cX2_write 34 = .ok (.putfield 455, 3) := dk_181 1 199 (dk_at dksX2_write_1 10 rfl rfl)
theorem dX2_write_37 : decode cX2_write 37 = .ok (.aload_n 0, 1) := dk_42 (dk_at dksX2_write_1 13 rfl rfl)
theorem dX2_write_38 : decode cX2_write 38 = .ok (.aload_n 0, 1) := dk_42 (dk_at dksX2_write_1 14 rfl rfl)
theorem dX2_write_39 : decode cX2_write 39 = .ok (.getfield 22, 3) := dk_180 0 22 (dk_at dksX2_write_1 15 rfl rfl)
theorem dX2_write_42 : decode cX2_write 42 = .ok (.bipush 19, 2) := dk_16 19 (dk_at dksX2_write_1 18 rfl rfl)
theorem dX2_write_44 : decode cX2_write 44 = .ok (.iload_n 1, 1) := dk_27 (dk_at dksX2_write_1 20 rfl rfl)
theorem dX2_write_45 : decode cX2_write 45 = .ok (.iadd, 1) := dk_96 (dk_at dksX2_write_1 21 rfl rfl)
theorem dX2_write_46 : decode cX2_write 46 = .ok (.iaload, 1) := dk_46 (dk_at dksX2_write_1 22 rfl rfl)
theorem dX2_write_47 : decode cX2_write 47 = .ok (.invokevirtual 461, 3) := dk_182 1 205 (dk_at dksX2_write_2 0 rfl rfl)
theorem dX2_write_50 : decode cX2_write 50 = .ok (.iconst 0, 1) := dk_3 (dk_at dksX2_write_2 3 rfl rfl)
theorem dX2_write_51 : decode cX2_write 51 = .ok (.istore_n 2, 1) := dk_61 (dk_at dksX2_write_2 4 rfl rfl)
theorem dX2_write_52 : decode cX2_write 52 = .ok (.iload_n 2, 1) := dk_28 (dk_at dksX2_write_2 5 rfl rfl)
theorem dX2_write_53 : decode cX2_write 53 = .ok (.aload_n 0, 1) := dk_42 (dk_at dksX2_write_2 6 rfl rfl)
theorem dX2_write_54 : decode cX2_write 54 = .ok (.getfield 353, 3) := dk_180 1 97 (dk_at dksX2_write_2 7 rfl rfl)
theorem dX2_write_57 : decode cX2_write 57 = .ok (.if_icmp .ge 29, 3) := dk_162 0 29 (dk_at dksX2_write_2 10 rfl rfl)
theorem dX2_write_60 : decode cX2_write 60 = .ok (.aload_n 0, 1) := dk_42 (dk_at dksX2_write_2 13 rfl rfl)
theorem dX2_write_61 : decode cX2_write 61 = .ok (.bipush 60, 2) := dk_16 60 (dk_at dksX2_write_2 14 rfl rfl)
theorem dX2_write_63 : decode cX2_write 63 = .ok (.invokevirtual 458, 3) := dk_182 1 202 (dk_at dksX2_write_2 16 rfl rfl)
theorem dX2_write_66 : decode cX2_write 66 = .ok (.aload_n 0, 1) := dk_42 (dk_at dksX2_write_2 19 rfl rfl)
theorem dX2_write_67 : decode cX2_write 67 = .ok (.aload_n 0, 1) := dk_42 (dk_at dksX2_write_2 20 rfl rfl)
theorem dX2_write_68 : decode cX2_write 68 = .ok (.aload_n 0, 1) := dk_42 (dk_at dksX2_write_2 21 rfl rfl)
theorem dX2_write_69 : decode cX2_write 69 = .ok (.getfield 49, 3) := dk_180 0 49 (dk_at dksX2_write_3 0 rfl rfl)
theorem dX2_write_72 : decode cX2_write 72 = .ok (.iload_n 2, 1) := dk_28 (dk_at dksX2_write_3 3 rfl rfl)
theorem dX2_write_73 : decode cX2_write 73 = .ok (.iaload, 1) := dk_46 (dk_at dksX2_write_3 4 rfl rfl)
theorem dX2_write_74 : decode cX2_write 74 = .ok (.invokevirtual 311, 3) := dk_182 1 55 (dk_at dksX2_write_3 5 rfl rfl)
theorem dX2_write_77 : decode cX2_write 77 = .ok (.invokevirtual 461, 3) := dk_182 1 205 (dk_at dksX2_write_3 8 rfl rfl)
theorem dX2_write_80 : decode cX2_write 80 = .ok (.iinc 2 1, 3) := dk_132 2 1 (dk_at dksX2_write_3 11 rfl rfl)
theorem dX2_write_83 : decode cX2_write 83 = .ok (.goto (-31), 3) := dk_167 255 225 (dk_at dksX2_write_3 14 rfl rfl)
theorem dX2_write_86 : decode cX2_write 86 = .ok (.aload_n 0, 1) := dk_42 (dk_at dksX2_write_3 17 rfl rfl)
theorem dX2_write_87 : decode cX2_write 87 = .ok (.bipush 61, 2) := dk_16 61 (dk_at dksX2_write_3 18 rfl rfl)
theorem dX2_write_89 : decode cX2_write 89 = .ok (.invokevirtual 458, 3) := dk_182 1 202 (dk_at dksX2_write_3 20 rfl rfl)
theorem dX2_write_92 : decode cX2_write 92 = .ok (.aload_n 0, 1) := dk_42 (dk_at dksX2_write_3 23 rfl rfl)
theorem dX2_write_93 : decode cX2_write 93 = .ok (.aload_n 0, 1) := dk_42 (dk_at dksX2_write_4 0 rfl rfl)
theorem dX2_write_94 : decode cX2_write 94 = .ok (.iload_n 1, 1) := dk_27 (dk_at dksX2_write_4 1 rfl rfl)
theorem dX2_write_95 : decode cX2_write 95 = .ok (.iconst 0, 1) := dk_3 (dk_at dksX2_write_4 2 rfl rfl)
theorem dX2_write_96 : decode cX2_write 96 = .ok (.invokevirtual 368, 3) := dk_182 1 112 (dk_at dksX2_write_4 3 rfl rfl)
theorem dX2_write_99 : decode cX2_write 99 = .ok (.invokevirtual 464, 3) := dk_182 1 208 (dk_at dksX2_write_4 6 rfl rfl)
theorem dX2_write_102 : decode cX2_write 102 = .ok (.aload_n 0, 1) := dk_42 (dk_at dksX2_write_4 9 rfl rfl)
theorem dX2_write_103 : decode cX2_write 103 = .ok (.getfield 455, 3) := dk_180 1 199 (dk_at dksX2_write_4 10 rfl rfl)
theorem dX2_write_106 : decode cX2_write 106 = .ok (.ireturn, 1) := dk_172 (dk_at dksX2_write_4 13 rfl rfl)
abbrev cX2_writesName : ByteArray := prog_12_method_134_code
def yX2_writesName : MethodName := ⟨RX2, "writesName", "(I)V"⟩
def dkwX2_writesName_1 : List UInt8 := [16, 96, 42, 32, 21, 4, 182, 1, 14, 96, 182, 1, 202, 132, 4, 1, 167, 255, 229, 177]
abbrev dktX2_writesName_1 : List UInt8 := dkwX2_writesName_1 ++ []
def dkwX2_writesName_0 : List UInt8 := [42, 180, 0, 29, 16, 22, 27, 96, 47, 65, 3, 54, 4, 21, 4, 42, 32, 182, 1, 10, 162, 0, 23, 42]
abbrev dktX2_writesName_0 : List UInt8 := dkwX2_writesName_0 ++ dktX2_writesName_1
theorem dksX2_writesName_0 : cX2_writesName.data.toList.drop 0 = dktX2_writesName_0 := by decide +kernel
theorem dksX2_writesName_1 : cX2_writesName.data.toList.drop 24 = dktX2_writesName_1 := dk_seg dksX2_writesName_0 24 rfl rfl
theorem dX2_writesName_0 : decode cX2_writesName 0 = .ok (.aload_n 0, 1) := dk_42 (dk_at dksX2_writesName_0 0 rfl rfl)
theorem dX2_writesName_1 : decode cX2_writesName 1 = .ok (.getfield 29, 3) := dk_180 0 29 (dk_at dksX2_writesName_0 1 rfl rfl)
theorem dX2_writesName_4 : decode cX2_writesName 4 = .ok (.bipush 22, 2) := dk_16 22 (dk_at dksX2_writesName_0 4 rfl rfl)
theorem dX2_writesName_6 : decode cX2_writesName 6 = .ok (.iload_n 1, 1) := dk_27 (dk_at dksX2_writesName_0 6 rfl rfl)
theorem dX2_writesName_7 : decode cX2_writesName 7 = .ok (.iadd, 1) := dk_96 (dk_at dksX2_writesName_0 7 rfl rfl)
theorem dX2_writesName_8 : decode cX2_writesName 8 = .ok (.laload, 1) := dk_47 (dk_at dksX2_writesName_0 8 rfl rfl)
theorem dX2_writesName_9 : decode cX2_writesName 9 = .ok (.lstore_n 2, 1) := dk_65 (dk_at dksX2_writesName_0 9 rfl rfl)
theorem dX2_writesName_10 : decode cX2_writesName 10 = .ok (.iconst 0, 1) := dk_3 (dk_at dksX2_writesName_0 10 rfl rfl)
theorem dX2_writesName_11 : decode cX2_writesName 11 = .ok (.istore 4, 2) := dk_54 4 (dk_at dksX2_writesName_0 11 rfl rfl)
theorem dX2_writesName_13 : decode cX2_writesName 13 = .ok (.iload 4, 2) := dk_21 4 (dk_at dksX2_writesName_0 13 rfl rfl)
theorem dX2_writesName_15 : decode cX2_writesName 15 = .ok (.aload_n 0, 1) := dk_42 (dk_at dksX2_writesName_0 15 rfl rfl)
theorem dX2_writesName_16 : decode cX2_writesName 16 = .ok (.lload_n 2, 1) := dk_32 (dk_at dksX2_writesName_0 16 rfl rfl)
theorem dX2_writesName_17 : decode cX2_writesName 17 = .ok (.invokevirtual 266, 3) := dk_182 1 10 (dk_at dksX2_writesName_0 17 rfl rfl)
theorem dX2_writesName_20 : decode cX2_writesName 20 = .ok (.if_icmp .ge 23, 3) := dk_162 0 23 (dk_at dksX2_writesName_0 20 rfl rfl)
theorem dX2_writesName_23 : decode cX2_writesName 23 = .ok (.aload_n 0, 1) := dk_42 (dk_at dksX2_writesName_0 23 rfl rfl)
theorem dX2_writesName_24 : decode cX2_writesName 24 = .ok (.bipush 96, 2) := dk_16 96 (dk_at dksX2_writesName_1 0 rfl rfl)
theorem dX2_writesName_26 : decode cX2_writesName 26 = .ok (.aload_n 0, 1) := dk_42 (dk_at dksX2_writesName_1 2 rfl rfl)
theorem dX2_writesName_27 : decode cX2_writesName 27 = .ok (.lload_n 2, 1) := dk_32 (dk_at dksX2_writesName_1 3 rfl rfl)
theorem dX2_writesName_28 : decode cX2_writesName 28 = .ok (.iload 4, 2) := dk_21 4 (dk_at dksX2_writesName_1 4 rfl rfl)
theorem dX2_writesName_30 : decode cX2_writesName 30 = .ok (.invokevirtual 270, 3) := dk_182 1 14 (dk_at dksX2_writesName_1 6 rfl rfl)
theorem dX2_writesName_33 : decode cX2_writesName 33 = .ok (.iadd, 1) := dk_96 (dk_at dksX2_writesName_1 9 rfl rfl)
theorem dX2_writesName_34 : decode cX2_writesName 34 = .ok (.invokevirtual 458, 3) := dk_182 1 202 (dk_at dksX2_writesName_1 10 rfl rfl)
theorem dX2_writesName_37 : decode cX2_writesName 37 = .ok (.iinc 4 1, 3) := dk_132 4 1 (dk_at dksX2_writesName_1 13 rfl rfl)
theorem dX2_writesName_40 : decode cX2_writesName 40 = .ok (.goto (-27), 3) := dk_167 255 229 (dk_at dksX2_writesName_1 16 rfl rfl)
theorem dX2_writesName_43 : decode cX2_writesName 43 = .ok (.return_, 1) := dk_177 (dk_at dksX2_writesName_1 19 rfl rfl)
abbrev cX2_writes : ByteArray := prog_12_method_133_code
def yX2_writes : MethodName := ⟨RX2, "writes", "(I)V"⟩
def dkwX2_writes_0 : List UInt8 := [42, 180, 0, 73, 42, 180, 1, 199, 27, 79, 42, 42, 180, 1, 199, 4, 96, 181, 1, 199, 177]
abbrev dktX2_writes_0 : List UInt8 := dkwX2_writes_0 ++ []
theorem dksX2_writes_0 : cX2_writes.data.toList.drop 0 = dktX2_writes_0 := by decide +kernel
theorem dX2_writes_0 : decode cX2_writes 0 = .ok (.aload_n 0, 1) := dk_42 (dk_at dksX2_writes_0 0 rfl rfl)
theorem dX2_writes_1 : decode cX2_writes 1 = .ok (.getfield 73, 3) := dk_180 0 73 (dk_at dksX2_writes_0 1 rfl rfl)
theorem dX2_writes_4 : decode cX2_writes 4 = .ok (.aload_n 0, 1) := dk_42 (dk_at dksX2_writes_0 4 rfl rfl)
theorem dX2_writes_5 : decode cX2_writes 5 = .ok (.getfield 455, 3) := dk_180 1 199 (dk_at dksX2_writes_0 5 rfl rfl)
theorem dX2_writes_8 : decode cX2_writes 8 = .ok (.iload_n 1, 1) := dk_27 (dk_at dksX2_writes_0 8 rfl rfl)
theorem dX2_writes_9 : decode cX2_writes 9 = .ok (.iastore, 1) := dk_79 (dk_at dksX2_writes_0 9 rfl rfl)
theorem dX2_writes_10 : decode cX2_writes 10 = .ok (.aload_n 0, 1) := dk_42 (dk_at dksX2_writes_0 10 rfl rfl)
theorem dX2_writes_11 : decode cX2_writes 11 = .ok (.aload_n 0, 1) := dk_42 (dk_at dksX2_writes_0 11 rfl rfl)
theorem dX2_writes_12 : decode cX2_writes 12 = .ok (.getfield 455, 3) := dk_180 1 199 (dk_at dksX2_writes_0 12 rfl rfl)
theorem dX2_writes_15 : decode cX2_writes 15 = .ok (.iconst 1, 1) := dk_4 (dk_at dksX2_writes_0 15 rfl rfl)
theorem dX2_writes_16 : decode cX2_writes 16 = .ok (.iadd, 1) := dk_96 (dk_at dksX2_writes_0 16 rfl rfl)
theorem dX2_writes_17 : decode cX2_writes 17 = .ok (.putfield 455, 3) := dk_181 1 199 (dk_at dksX2_writes_0 17 rfl rfl)
theorem dX2_writes_20 : decode cX2_writes 20 = .ok (.return_, 1) := dk_177 (dk_at dksX2_writes_0 20 rfl rfl)
abbrev cX2_writesNumber : ByteArray := prog_12_method_135_code
def yX2_writesNumber : MethodName := ⟨RX2, "writesNumber", "(I)V"⟩
def dkwX2_writesNumber_1 : List UInt8 := [16, 48, 27, 28, 108, 16, 10, 112, 96, 182, 1, 202, 28, 16, 10, 108, 61, 167, 255, 234, 177]
abbrev dktX2_writesNumber_1 : List UInt8 := dkwX2_writesNumber_1 ++ []
def dkwX2_writesNumber_0 : List UInt8 := [4, 61, 27, 28, 108, 16, 9, 164, 0, 11, 16, 10, 28, 104, 61, 167, 255, 243, 28, 158, 0, 24, 42]
abbrev dktX2_writesNumber_0 : List UInt8 := dkwX2_writesNumber_0 ++ dktX2_writesNumber_1
theorem dksX2_writesNumber_0 : cX2_writesNumber.data.toList.drop 0 = dktX2_writesNumber_0 := by decide +kernel
theorem dksX2_writesNumber_1 : cX2_writesNumber.data.toList.drop 23 = dktX2_writesNumber_1 := dk_seg dksX2_writesNumber_0 23 rfl rfl
theorem dX2_writesNumber_0 : decode cX2_writesNumber 0 = .ok (.iconst 1, 1) := dk_4 (dk_at dksX2_writesNumber_0 0 rfl rfl)
theorem dX2_writesNumber_1 : decode cX2_writesNumber 1 = .ok (.istore_n 2, 1) := dk_61 (dk_at dksX2_writesNumber_0 1 rfl rfl)
theorem dX2_writesNumber_2 : decode cX2_writesNumber 2 = .ok (.iload_n 1, 1) := dk_27 (dk_at dksX2_writesNumber_0 2 rfl rfl)
theorem dX2_writesNumber_3 : decode cX2_writesNumber 3 = .ok (.iload_n 2, 1) := dk_28 (dk_at dksX2_writesNumber_0 3 rfl rfl)
theorem dX2_writesNumber_4 : decode cX2_writesNumber 4 = .ok (.idiv, 1) := dk_108 (dk_at dksX2_writesNumber_0 4 rfl rfl)
theorem dX2_writesNumber_5 : decode cX2_writesNumber 5 = .ok (.bipush 9, 2) := dk_16 9 (dk_at dksX2_writesNumber_0 5 rfl rfl)
theorem dX2_writesNumber_7 : decode cX2_writesNumber 7 = .ok (.if_icmp .le 11, 3) := dk_164 0 11 (dk_at dksX2_writesNumber_0 7 rfl rfl)
theorem dX2_writesNumber_10 : decode cX2_writesNumber 10 = .ok (.bipush 10, 2) := dk_16 10 (dk_at dksX2_writesNumber_0 10 rfl rfl)
theorem dX2_writesNumber_12 : decode cX2_writesNumber 12 = .ok (.iload_n 2, 1) := dk_28 (dk_at dksX2_writesNumber_0 12 rfl rfl)
theorem dX2_writesNumber_13 : decode cX2_writesNumber 13 = .ok (.imul, 1) := dk_104 (dk_at dksX2_writesNumber_0 13 rfl rfl)
theorem dX2_writesNumber_14 : decode cX2_writesNumber 14 = .ok (.istore_n 2, 1) := dk_61 (dk_at dksX2_writesNumber_0 14 rfl rfl)
theorem dX2_writesNumber_15 : decode cX2_writesNumber 15 = .ok (.goto (-13), 3) := dk_167 255 243 (dk_at dksX2_writesNumber_0 15 rfl rfl)
theorem dX2_writesNumber_18 : decode cX2_writesNumber 18 = .ok (.iload_n 2, 1) := dk_28 (dk_at dksX2_writesNumber_0 18 rfl rfl)
theorem dX2_writesNumber_19 : decode cX2_writesNumber 19 = .ok (.ifCond .le 24, 3) := dk_158 0 24 (dk_at dksX2_writesNumber_0 19 rfl rfl)
theorem dX2_writesNumber_22 : decode cX2_writesNumber 22 = .ok (.aload_n 0, 1) := dk_42 (dk_at dksX2_writesNumber_0 22 rfl rfl)
theorem dX2_writesNumber_23 : decode cX2_writesNumber 23 = .ok (.bipush 48, 2) := dk_16 48 (dk_at dksX2_writesNumber_1 0 rfl rfl)
theorem dX2_writesNumber_25 : decode cX2_writesNumber 25 = .ok (.iload_n 1, 1) := dk_27 (dk_at dksX2_writesNumber_1 2 rfl rfl)
theorem dX2_writesNumber_26 : decode cX2_writesNumber 26 = .ok (.iload_n 2, 1) := dk_28 (dk_at dksX2_writesNumber_1 3 rfl rfl)
theorem dX2_writesNumber_27 : decode cX2_writesNumber 27 = .ok (.idiv, 1) := dk_108 (dk_at dksX2_writesNumber_1 4 rfl rfl)
theorem dX2_writesNumber_28 : decode cX2_writesNumber 28 = .ok (.bipush 10, 2) := dk_16 10 (dk_at dksX2_writesNumber_1 5 rfl rfl)
theorem dX2_writesNumber_30 : decode cX2_writesNumber 30 = .ok (.irem, 1) := dk_112 (dk_at dksX2_writesNumber_1 7 rfl rfl)
theorem dX2_writesNumber_31 : decode cX2_writesNumber 31 = .ok (.iadd, 1) := dk_96 (dk_at dksX2_writesNumber_1 8 rfl rfl)
theorem dX2_writesNumber_32 : decode cX2_writesNumber 32 = .ok (.invokevirtual 458, 3) := dk_182 1 202 (dk_at dksX2_writesNumber_1 9 rfl rfl)
theorem dX2_writesNumber_35 : decode cX2_writesNumber 35 = .ok (.iload_n 2, 1) := dk_28 (dk_at dksX2_writesNumber_1 12 rfl rfl)
theorem dX2_writesNumber_36 : decode cX2_writesNumber 36 = .ok (.bipush 10, 2) := dk_16 10 (dk_at dksX2_writesNumber_1 13 rfl rfl)
theorem dX2_writesNumber_38 : decode cX2_writesNumber 38 = .ok (.idiv, 1) := dk_108 (dk_at dksX2_writesNumber_1 15 rfl rfl)
theorem dX2_writesNumber_39 : decode cX2_writesNumber 39 = .ok (.istore_n 2, 1) := dk_61 (dk_at dksX2_writesNumber_1 16 rfl rfl)
theorem dX2_writesNumber_40 : decode cX2_writesNumber 40 = .ok (.goto (-22), 3) := dk_167 255 234 (dk_at dksX2_writesNumber_1 17 rfl rfl)
theorem dX2_writesNumber_43 : decode cX2_writesNumber 43 = .ok (.return_, 1) := dk_177 (dk_at dksX2_writesNumber_1 20 rfl rfl)
abbrev cX2_octet : ByteArray := prog_12_method_137_code
def yX2_octet : MethodName := ⟨RX2, "octet", "(I)I"⟩
def dkwX2_octet_1 : List UInt8 := [172]
abbrev dktX2_octet_1 : List UInt8 := dkwX2_octet_1 ++ []
def dkwX2_octet_0 : List UInt8 := [27, 3, 42, 180, 1, 199, 4, 100, 184, 0, 93, 153, 0, 12, 42, 180, 0, 73, 27, 46, 167, 0, 4, 2]
abbrev dktX2_octet_0 : List UInt8 := dkwX2_octet_0 ++ dktX2_octet_1
theorem dksX2_octet_0 : cX2_octet.data.toList.drop 0 = dktX2_octet_0 := by decide +kernel
theorem dksX2_octet_1 : cX2_octet.data.toList.drop 24 = dktX2_octet_1 := dk_seg dksX2_octet_0 24 rfl rfl
theorem dX2_octet_0 : decode cX2_octet 0 = .ok (.iload_n 1, 1) := dk_27 (dk_at dksX2_octet_0 0 rfl rfl)
theorem dX2_octet_1 : decode cX2_octet 1 = .ok (.iconst 0, 1) := dk_3 (dk_at dksX2_octet_0 1 rfl rfl)
theorem dX2_octet_2 : decode cX2_octet 2 = .ok (.aload_n 0, 1) := dk_42 (dk_at dksX2_octet_0 2 rfl rfl)
theorem dX2_octet_3 : decode cX2_octet 3 = .ok (.getfield 455, 3) := dk_180 1 199 (dk_at dksX2_octet_0 3 rfl rfl)
theorem dX2_octet_6 : decode cX2_octet 6 = .ok (.iconst 1, 1) := dk_4 (dk_at dksX2_octet_0 6 rfl rfl)
theorem dX2_octet_7 : decode cX2_octet 7 = .ok (.isub, 1) := dk_100 (dk_at dksX2_octet_0 7 rfl rfl)
theorem dX2_octet_8 : decode cX2_octet 8 = .ok (.invokestatic 93, 3) := dk_184 0 93 (dk_at dksX2_octet_0 8 rfl rfl)
theorem dX2_octet_11 : decode cX2_octet 11 = .ok (.ifCond .eq 12, 3) := dk_153 0 12 (dk_at dksX2_octet_0 11 rfl rfl)
theorem dX2_octet_14 : decode cX2_octet 14 = .ok (.aload_n 0, 1) := dk_42 (dk_at dksX2_octet_0 14 rfl rfl)
theorem dX2_octet_15 : decode cX2_octet 15 = .ok (.getfield 73, 3) := dk_180 0 73 (dk_at dksX2_octet_0 15 rfl rfl)
theorem dX2_octet_18 : decode cX2_octet 18 = .ok (.iload_n 1, 1) := dk_27 (dk_at dksX2_octet_0 18 rfl rfl)
theorem dX2_octet_19 : decode cX2_octet 19 = .ok (.iaload, 1) := dk_46 (dk_at dksX2_octet_0 19 rfl rfl)
theorem dX2_octet_20 : decode cX2_octet 20 = .ok (.goto 4, 3) := dk_167 0 4 (dk_at dksX2_octet_0 20 rfl rfl)
theorem dX2_octet_23 : decode cX2_octet 23 = .ok (.iconst (-1), 1) := dk_2 (dk_at dksX2_octet_0 23 rfl rfl)
theorem dX2_octet_24 : decode cX2_octet 24 = .ok (.ireturn, 1) := dk_172 (dk_at dksX2_octet_1 0 rfl rfl)
abbrev cX2_link : ByteArray := prog_12_method_139_code
def yX2_link : MethodName := ⟨RX2, "link", "(III)I"⟩
def dkwX2_link_4 : List UInt8 := [184, 0, 215, 42, 180, 0, 13, 17, 1, 0, 46, 4, 100, 172]
abbrev dktX2_link_4 : List UInt8 := dkwX2_link_4 ++ []
def dkwX2_link_3 : List UInt8 := [28, 29, 184, 0, 211, 2, 159, 0, 6, 16, 253, 172, 42, 182, 1, 211, 42, 180, 0, 13, 27, 28, 29]
abbrev dktX2_link_3 : List UInt8 := dkwX2_link_3 ++ dktX2_link_4
def dkwX2_link_2 : List UInt8 := [159, 0, 16, 42, 29, 182, 1, 21, 42, 28, 182, 1, 21, 164, 0, 6, 16, 253, 172, 42, 180, 0, 13, 27]
abbrev dktX2_link_2 : List UInt8 := dkwX2_link_2 ++ dktX2_link_3
def dkwX2_link_1 : List UInt8 := [154, 0, 5, 2, 172, 42, 180, 0, 13, 17, 1, 0, 46, 16, 20, 160, 0, 6, 16, 254, 172, 28, 29]
abbrev dktX2_link_1 : List UInt8 := dkwX2_link_1 ++ dktX2_link_2
def dkwX2_link_0 : List UInt8 := [27, 3, 4, 184, 0, 93, 153, 0, 19, 42, 28, 182, 1, 27, 153, 0, 11, 42, 29, 182, 1, 27]
abbrev dktX2_link_0 : List UInt8 := dkwX2_link_0 ++ dktX2_link_1
theorem dksX2_link_0 : cX2_link.data.toList.drop 0 = dktX2_link_0 := by decide +kernel
theorem dksX2_link_1 : cX2_link.data.toList.drop 22 = dktX2_link_1 := dk_seg dksX2_link_0 22 rfl rfl
theorem dksX2_link_2 : cX2_link.data.toList.drop 45 = dktX2_link_2 := dk_seg dksX2_link_1 23 rfl rfl
theorem dksX2_link_3 : cX2_link.data.toList.drop 69 = dktX2_link_3 := dk_seg dksX2_link_2 24 rfl rfl
theorem dksX2_link_4 : cX2_link.data.toList.drop 92 = dktX2_link_4 := dk_seg dksX2_link_3 23 rfl rfl
theorem dX2_link_0 : decode cX2_link 0 = .ok (.iload_n 1, 1) := dk_27 (dk_at dksX2_link_0 0 rfl rfl)
theorem dX2_link_1 : decode cX2_link 1 = .ok (.iconst 0, 1) := dk_3 (dk_at dksX2_link_0 1 rfl rfl)
theorem dX2_link_2 : decode cX2_link 2 = .ok (.iconst 1, 1) := dk_4 (dk_at dksX2_link_0 2 rfl rfl)
theorem dX2_link_3 : decode cX2_link 3 = .ok (.invokestatic 93, 3) := dk_184 0 93 (dk_at dksX2_link_0 3 rfl rfl)
theorem dX2_link_6 : decode cX2_link 6 = .ok (.ifCond .eq 19, 3) := dk_153 0 19 (dk_at dksX2_link_0 6 rfl rfl)
theorem dX2_link_9 : decode cX2_link 9 = .ok (.aload_n 0, 1) := dk_42 (dk_at dksX2_link_0 9 rfl rfl)
theorem dX2_link_10 : decode cX2_link 10 = .ok (.iload_n 2, 1) := dk_28 (dk_at dksX2_link_0 10 rfl rfl)
theorem dX2_link_11 : decode cX2_link 11 = .ok (.invokevirtual 283, 3) := dk_182 1 27 (dk_at dksX2_link_0 11 rfl rfl)
theorem dX2_link_14 : decode cX2_link 14 = .ok (.ifCond .eq 11, 3) := dk_153 0 11 (dk_at dksX2_link_0 14 rfl rfl)
theorem dX2_link_17 : decode cX2_link 17 = .ok (.aload_n 0, 1) := dk_42 (dk_at dksX2_link_0 17 rfl rfl)
theorem dX2_link_18 : decode cX2_link 18 = .ok (.iload_n 3, 1) := dk_29 (dk_at dksX2_link_0 18 rfl rfl)
theorem dX2_link_19 : decode cX2_link 19 = .ok (.invokevirtual 283, 3) := dk_182 1 27 (dk_at dksX2_link_0 19 rfl rfl)
theorem dX2_link_22 : decode cX2_link 22 = .ok (.ifCond .ne 5, 3) := dk_154 0 5 (dk_at dksX2_link_1 0 rfl rfl)
theorem dX2_link_25 : decode cX2_link 25 = .ok (.iconst (-1), 1) := dk_2 (dk_at dksX2_link_1 3 rfl rfl)
theorem dX2_link_26 : decode cX2_link 26 = .ok (.ireturn, 1) := dk_172 (dk_at dksX2_link_1 4 rfl rfl)
theorem dX2_link_27 : decode cX2_link 27 = .ok (.aload_n 0, 1) := dk_42 (dk_at dksX2_link_1 5 rfl rfl)
theorem dX2_link_28 : decode cX2_link 28 = .ok (.getfield 13, 3) := dk_180 0 13 (dk_at dksX2_link_1 6 rfl rfl)
theorem dX2_link_31 : decode cX2_link 31 = .ok (.sipush 256, 3) := dk_17 1 0 (dk_at dksX2_link_1 9 rfl rfl)
theorem dX2_link_34 : decode cX2_link 34 = .ok (.iaload, 1) := dk_46 (dk_at dksX2_link_1 12 rfl rfl)
theorem dX2_link_35 : decode cX2_link 35 = .ok (.bipush 20, 2) := dk_16 20 (dk_at dksX2_link_1 13 rfl rfl)
theorem dX2_link_37 : decode cX2_link 37 = .ok (.if_icmp .ne 6, 3) := dk_160 0 6 (dk_at dksX2_link_1 15 rfl rfl)
theorem dX2_link_40 : decode cX2_link 40 = .ok (.bipush (-2), 2) := dk_16 254 (dk_at dksX2_link_1 18 rfl rfl)
theorem dX2_link_42 : decode cX2_link 42 = .ok (.ireturn, 1) := dk_172 (dk_at dksX2_link_1 20 rfl rfl)
theorem dX2_link_43 : decode cX2_link 43 = .ok (.iload_n 2, 1) := dk_28 (dk_at dksX2_link_1 21 rfl rfl)
theorem dX2_link_44 : decode cX2_link 44 = .ok (.iload_n 3, 1) := dk_29 (dk_at dksX2_link_1 22 rfl rfl)
theorem dX2_link_45 : decode cX2_link 45 = .ok (.if_icmp .eq 16, 3) := dk_159 0 16 (dk_at dksX2_link_2 0 rfl rfl)
theorem dX2_link_48 : decode cX2_link 48 = .ok (.aload_n 0, 1) := dk_42 (dk_at dksX2_link_2 3 rfl rfl)
theorem dX2_link_49 : decode cX2_link 49 = .ok (.iload_n 3, 1) := dk_29 (dk_at dksX2_link_2 4 rfl rfl)
theorem dX2_link_50 : decode cX2_link 50 = .ok (.invokevirtual 277, 3) := dk_182 1 21 (dk_at dksX2_link_2 5 rfl rfl)
theorem dX2_link_53 : decode cX2_link 53 = .ok (.aload_n 0, 1) := dk_42 (dk_at dksX2_link_2 8 rfl rfl)
theorem dX2_link_54 : decode cX2_link 54 = .ok (.iload_n 2, 1) := dk_28 (dk_at dksX2_link_2 9 rfl rfl)
theorem dX2_link_55 : decode cX2_link 55 = .ok (.invokevirtual 277, 3) := dk_182 1 21 (dk_at dksX2_link_2 10 rfl rfl)
theorem dX2_link_58 : decode cX2_link 58 = .ok (.if_icmp .le 6, 3) := dk_164 0 6 (dk_at dksX2_link_2 13 rfl rfl)
theorem dX2_link_61 : decode cX2_link 61 = .ok (.bipush (-3), 2) := dk_16 253 (dk_at dksX2_link_2 16 rfl rfl)
theorem dX2_link_63 : decode cX2_link 63 = .ok (.ireturn, 1) := dk_172 (dk_at dksX2_link_2 18 rfl rfl)
theorem dX2_link_64 : decode cX2_link 64 = .ok (.aload_n 0, 1) := dk_42 (dk_at dksX2_link_2 19 rfl rfl)
theorem dX2_link_65 : decode cX2_link 65 = .ok (.getfield 13, 3) := dk_180 0 13 (dk_at dksX2_link_2 20 rfl rfl)
theorem dX2_link_68 : decode cX2_link 68 = .ok (.iload_n 1, 1) := dk_27 (dk_at dksX2_link_2 23 rfl rfl)
theorem dX2_link_69 : decode cX2_link 69 = .ok (.iload_n 2, 1) := dk_28 (dk_at dksX2_link_3 0 rfl rfl)
theorem dX2_link_70 : decode cX2_link 70 = .ok (.iload_n 3, 1) := dk_29 (dk_at dksX2_link_3 1 rfl rfl)
theorem dX2_link_71 : decode cX2_link 71 = .ok (.invokestatic 211, 3) := dk_184 0 211 (dk_at dksX2_link_3 2 rfl rfl)
theorem dX2_link_74 : decode cX2_link 74 = .ok (.iconst (-1), 1) := dk_2 (dk_at dksX2_link_3 5 rfl rfl)
theorem dX2_link_75 : decode cX2_link 75 = .ok (.if_icmp .eq 6, 3) := dk_159 0 6 (dk_at dksX2_link_3 6 rfl rfl)
theorem dX2_link_78 : decode cX2_link 78 = .ok (.bipush (-3), 2) := dk_16 253 (dk_at dksX2_link_3 9 rfl rfl)
theorem dX2_link_80 : decode cX2_link 80 = .ok (.ireturn, 1) := dk_172 (dk_at dksX2_link_3 11 rfl rfl)
theorem dX2_link_81 : decode cX2_link 81 = .ok (.aload_n 0, 1) := dk_42 (dk_at dksX2_link_3 12 rfl rfl)
theorem dX2_link_82 : decode cX2_link 82 = .ok (.invokevirtual 467, 3) := dk_182 1 211 (dk_at dksX2_link_3 13 rfl rfl)
theorem dX2_link_85 : decode cX2_link 85 = .ok (.aload_n 0, 1) := dk_42 (dk_at dksX2_link_3 16 rfl rfl)
theorem dX2_link_86 : decode cX2_link 86 = .ok (.getfield 13, 3) := dk_180 0 13 (dk_at dksX2_link_3 17 rfl rfl)
theorem dX2_link_89 : decode cX2_link 89 = .ok (.iload_n 1, 1) := dk_27 (dk_at dksX2_link_3 20 rfl rfl)
theorem dX2_link_90 : decode cX2_link 90 = .ok (.iload_n 2, 1) := dk_28 (dk_at dksX2_link_3 21 rfl rfl)
theorem dX2_link_91 : decode cX2_link 91 = .ok (.iload_n 3, 1) := dk_29 (dk_at dksX2_link_3 22 rfl rfl)
theorem dX2_link_92 : decode cX2_link 92 = .ok (.invokestatic 215, 3) := dk_184 0 215 (dk_at dksX2_link_4 0 rfl rfl)
theorem dX2_link_95 : decode cX2_link 95 = .ok (.aload_n 0, 1) := dk_42 (dk_at dksX2_link_4 3 rfl rfl)
theorem dX2_link_96 : decode cX2_link 96 = .ok (.getfield 13, 3) := dk_180 0 13 (dk_at dksX2_link_4 4 rfl rfl)
theorem dX2_link_99 : decode cX2_link 99 = .ok (.sipush 256, 3) := dk_17 1 0 (dk_at dksX2_link_4 7 rfl rfl)
theorem dX2_link_102 : decode cX2_link 102 = .ok (.iaload, 1) := dk_46 (dk_at dksX2_link_4 10 rfl rfl)
theorem dX2_link_103 : decode cX2_link 103 = .ok (.iconst 1, 1) := dk_4 (dk_at dksX2_link_4 11 rfl rfl)
theorem dX2_link_104 : decode cX2_link 104 = .ok (.isub, 1) := dk_100 (dk_at dksX2_link_4 12 rfl rfl)
theorem dX2_link_105 : decode cX2_link 105 = .ok (.ireturn, 1) := dk_172 (dk_at dksX2_link_4 13 rfl rfl)
abbrev cX2_keeps : ByteArray := prog_12_method_138_code
def yX2_keeps : MethodName := ⟨RX2, "keeps", "()V"⟩
def dkwX2_keeps_3 : List UInt8 := [180, 0, 13, 27, 46, 79, 132, 1, 1, 167, 255, 225, 42, 42, 180, 0, 253, 4, 96, 181, 0, 253, 177]
abbrev dktX2_keeps_3 : List UInt8 := dkwX2_keeps_3 ++ []
def dkwX2_keeps_2 : List UInt8 := [3, 60, 27, 17, 1, 104, 162, 0, 30, 42, 180, 0, 16, 17, 1, 104, 42, 180, 0, 253, 104, 27, 96, 42]
abbrev dktX2_keeps_2 : List UInt8 := dkwX2_keeps_2 ++ dktX2_keeps_3
def dkwX2_keeps_1 : List UInt8 := [27, 17, 1, 104, 100, 42, 180, 0, 16, 27, 46, 79, 132, 1, 1, 167, 255, 230, 42, 16, 11, 181, 0, 253]
abbrev dktX2_keeps_1 : List UInt8 := dkwX2_keeps_1 ++ dktX2_keeps_2
def dkwX2_keeps_0 : List UInt8 := [42, 180, 0, 253, 16, 12, 160, 0, 42, 17, 1, 104, 60, 27, 17, 16, 224, 162, 0, 25, 42, 180, 0, 16]
abbrev dktX2_keeps_0 : List UInt8 := dkwX2_keeps_0 ++ dktX2_keeps_1
theorem dksX2_keeps_0 : cX2_keeps.data.toList.drop 0 = dktX2_keeps_0 := by decide +kernel
theorem dksX2_keeps_1 : cX2_keeps.data.toList.drop 24 = dktX2_keeps_1 := dk_seg dksX2_keeps_0 24 rfl rfl
theorem dksX2_keeps_2 : cX2_keeps.data.toList.drop 48 = dktX2_keeps_2 := dk_seg dksX2_keeps_1 24 rfl rfl
theorem dksX2_keeps_3 : cX2_keeps.data.toList.drop 72 = dktX2_keeps_3 := dk_seg dksX2_keeps_2 24 rfl rfl
theorem dX2_keeps_0 : decode cX2_keeps 0 = .ok (.aload_n 0, 1) := dk_42 (dk_at dksX2_keeps_0 0 rfl rfl)
theorem dX2_keeps_1 : decode cX2_keeps 1 = .ok (.getfield 253, 3) := dk_180 0 253 (dk_at dksX2_keeps_0 1 rfl rfl)
theorem dX2_keeps_4 : decode cX2_keeps 4 = .ok (.bipush 12, 2) := dk_16 12 (dk_at dksX2_keeps_0 4 rfl rfl)
theorem dX2_keeps_6 : decode cX2_keeps 6 = .ok (.if_icmp .ne 42, 3) := dk_160 0 42 (dk_at dksX2_keeps_0 6 rfl rfl)
theorem dX2_keeps_9 : decode cX2_keeps 9 = .ok (.sipush 360, 3) := dk_17 1 104 (dk_at dksX2_keeps_0 9 rfl rfl)
theorem dX2_keeps_12 : decode cX2_keeps 12 = .ok (.istore_n 1, 1) := dk_60 (dk_at dksX2_keeps_0 12 rfl rfl)
theorem dX2_keeps_13 : decode cX2_keeps 13 = .ok (.iload_n 1, 1) := dk_27 (dk_at dksX2_keeps_0 13 rfl rfl)
theorem dX2_keeps_14 : decode cX2_keeps 14 = .ok (.sipush 4320, 3) := dk_17 16 224 (dk_at dksX2_keeps_0 14 rfl rfl)
theorem dX2_keeps_17 : decode cX2_keeps 17 = .ok (.if_icmp .ge 25, 3) := dk_162 0 25 (dk_at dksX2_keeps_0 17 rfl rfl)
theorem dX2_keeps_20 : decode cX2_keeps 20 = .ok (.aload_n 0, 1) := dk_42 (dk_at dksX2_keeps_0 20 rfl rfl)
theorem dX2_keeps_21 : decode cX2_keeps 21 = .ok (.getfield 16, 3) := dk_180 0 16 (dk_at dksX2_keeps_0 21 rfl rfl)
theorem dX2_keeps_24 : decode cX2_keeps 24 = .ok (.iload_n 1, 1) := dk_27 (dk_at dksX2_keeps_1 0 rfl rfl)
theorem dX2_keeps_25 : decode cX2_keeps 25 = .ok (.sipush 360, 3) := dk_17 1 104 (dk_at dksX2_keeps_1 1 rfl rfl)
theorem dX2_keeps_28 : decode cX2_keeps 28 = .ok (.isub, 1) := dk_100 (dk_at dksX2_keeps_1 4 rfl rfl)
theorem dX2_keeps_29 : decode cX2_keeps 29 = .ok (.aload_n 0, 1) := dk_42 (dk_at dksX2_keeps_1 5 rfl rfl)
theorem dX2_keeps_30 : decode cX2_keeps 30 = .ok (.getfield 16, 3) := dk_180 0 16 (dk_at dksX2_keeps_1 6 rfl rfl)
theorem dX2_keeps_33 : decode cX2_keeps 33 = .ok (.iload_n 1, 1) := dk_27 (dk_at dksX2_keeps_1 9 rfl rfl)
theorem dX2_keeps_34 : decode cX2_keeps 34 = .ok (.iaload, 1) := dk_46 (dk_at dksX2_keeps_1 10 rfl rfl)
theorem dX2_keeps_35 : decode cX2_keeps 35 = .ok (.iastore, 1) := dk_79 (dk_at dksX2_keeps_1 11 rfl rfl)
theorem dX2_keeps_36 : decode cX2_keeps 36 = .ok (.iinc 1 1, 3) := dk_132 1 1 (dk_at dksX2_keeps_1 12 rfl rfl)
theorem dX2_keeps_39 : decode cX2_keeps 39 = .ok (.goto (-26), 3) := dk_167 255 230 (dk_at dksX2_keeps_1 15 rfl rfl)
theorem dX2_keeps_42 : decode cX2_keeps 42 = .ok (.aload_n 0, 1) := dk_42 (dk_at dksX2_keeps_1 18 rfl rfl)
theorem dX2_keeps_43 : decode cX2_keeps 43 = .ok (.bipush 11, 2) := dk_16 11 (dk_at dksX2_keeps_1 19 rfl rfl)
theorem dX2_keeps_45 : decode cX2_keeps 45 = .ok (.putfield 253, 3) := dk_181 0 253 (dk_at dksX2_keeps_1 21 rfl rfl)
theorem dX2_keeps_48 : decode cX2_keeps 48 = .ok (.iconst 0, 1) := dk_3 (dk_at dksX2_keeps_2 0 rfl rfl)
theorem dX2_keeps_49 : decode cX2_keeps 49 = .ok (.istore_n 1, 1) := dk_60 (dk_at dksX2_keeps_2 1 rfl rfl)
theorem dX2_keeps_50 : decode cX2_keeps 50 = .ok (.iload_n 1, 1) := dk_27 (dk_at dksX2_keeps_2 2 rfl rfl)
theorem dX2_keeps_51 : decode cX2_keeps 51 = .ok (.sipush 360, 3) := dk_17 1 104 (dk_at dksX2_keeps_2 3 rfl rfl)
theorem dX2_keeps_54 : decode cX2_keeps 54 = .ok (.if_icmp .ge 30, 3) := dk_162 0 30 (dk_at dksX2_keeps_2 6 rfl rfl)
theorem dX2_keeps_57 : decode cX2_keeps 57 = .ok (.aload_n 0, 1) := dk_42 (dk_at dksX2_keeps_2 9 rfl rfl)
theorem dX2_keeps_58 : decode cX2_keeps 58 = .ok (.getfield 16, 3) := dk_180 0 16 (dk_at dksX2_keeps_2 10 rfl rfl)
theorem dX2_keeps_61 : decode cX2_keeps 61 = .ok (.sipush 360, 3) := dk_17 1 104 (dk_at dksX2_keeps_2 13 rfl rfl)
theorem dX2_keeps_64 : decode cX2_keeps 64 = .ok (.aload_n 0, 1) := dk_42 (dk_at dksX2_keeps_2 16 rfl rfl)
theorem dX2_keeps_65 : decode cX2_keeps 65 = .ok (.getfield 253, 3) := dk_180 0 253 (dk_at dksX2_keeps_2 17 rfl rfl)
theorem dX2_keeps_68 : decode cX2_keeps 68 = .ok (.imul, 1) := dk_104 (dk_at dksX2_keeps_2 20 rfl rfl)
theorem dX2_keeps_69 : decode cX2_keeps 69 = .ok (.iload_n 1, 1) := dk_27 (dk_at dksX2_keeps_2 21 rfl rfl)
theorem dX2_keeps_70 : decode cX2_keeps 70 = .ok (.iadd, 1) := dk_96 (dk_at dksX2_keeps_2 22 rfl rfl)
theorem dX2_keeps_71 : decode cX2_keeps 71 = .ok (.aload_n 0, 1) := dk_42 (dk_at dksX2_keeps_2 23 rfl rfl)
theorem dX2_keeps_72 : decode cX2_keeps 72 = .ok (.getfield 13, 3) := dk_180 0 13 (dk_at dksX2_keeps_3 0 rfl rfl)
theorem dX2_keeps_75 : decode cX2_keeps 75 = .ok (.iload_n 1, 1) := dk_27 (dk_at dksX2_keeps_3 3 rfl rfl)
theorem dX2_keeps_76 : decode cX2_keeps 76 = .ok (.iaload, 1) := dk_46 (dk_at dksX2_keeps_3 4 rfl rfl)
theorem dX2_keeps_77 : decode cX2_keeps 77 = .ok (.iastore, 1) := dk_79 (dk_at dksX2_keeps_3 5 rfl rfl)
theorem dX2_keeps_78 : decode cX2_keeps 78 = .ok (.iinc 1 1, 3) := dk_132 1 1 (dk_at dksX2_keeps_3 6 rfl rfl)
theorem dX2_keeps_81 : decode cX2_keeps 81 = .ok (.goto (-31), 3) := dk_167 255 225 (dk_at dksX2_keeps_3 9 rfl rfl)
theorem dX2_keeps_84 : decode cX2_keeps 84 = .ok (.aload_n 0, 1) := dk_42 (dk_at dksX2_keeps_3 12 rfl rfl)
theorem dX2_keeps_85 : decode cX2_keeps 85 = .ok (.aload_n 0, 1) := dk_42 (dk_at dksX2_keeps_3 13 rfl rfl)
theorem dX2_keeps_86 : decode cX2_keeps 86 = .ok (.getfield 253, 3) := dk_180 0 253 (dk_at dksX2_keeps_3 14 rfl rfl)
theorem dX2_keeps_89 : decode cX2_keeps 89 = .ok (.iconst 1, 1) := dk_4 (dk_at dksX2_keeps_3 17 rfl rfl)
theorem dX2_keeps_90 : decode cX2_keeps 90 = .ok (.iadd, 1) := dk_96 (dk_at dksX2_keeps_3 18 rfl rfl)
theorem dX2_keeps_91 : decode cX2_keeps 91 = .ok (.putfield 253, 3) := dk_181 0 253 (dk_at dksX2_keeps_3 19 rfl rfl)
theorem dX2_keeps_94 : decode cX2_keeps 94 = .ok (.return_, 1) := dk_177 (dk_at dksX2_keeps_3 22 rfl rfl)
abbrev cX2_cut : ByteArray := prog_12_method_140_code
def yX2_cut : MethodName := ⟨RX2, "cut", "(I)Z"⟩
def dkwX2_cut_3 : List UInt8 := [46, 79, 132, 2, 1, 167, 255, 221, 4, 172]
abbrev dktX2_cut_3 : List UInt8 := dkwX2_cut_3 ++ []
def dkwX2_cut_2 : List UInt8 := [180, 0, 13, 17, 1, 0, 46, 104, 96, 162, 0, 23, 42, 180, 0, 13, 28, 42, 180, 0, 13, 28, 6, 96]
abbrev dktX2_cut_2 : List UInt8 := dkwX2_cut_2 ++ dktX2_cut_3
def dkwX2_cut_1 : List UInt8 := [180, 0, 13, 17, 1, 0, 46, 4, 100, 79, 17, 1, 1, 6, 27, 104, 96, 61, 28, 17, 1, 1, 6, 42]
abbrev dktX2_cut_1 : List UInt8 := dkwX2_cut_1 ++ dktX2_cut_2
def dkwX2_cut_0 : List UInt8 := [42, 27, 182, 1, 68, 154, 0, 5, 3, 172, 42, 182, 1, 211, 42, 180, 0, 13, 17, 1, 0, 42]
abbrev dktX2_cut_0 : List UInt8 := dkwX2_cut_0 ++ dktX2_cut_1
theorem dksX2_cut_0 : cX2_cut.data.toList.drop 0 = dktX2_cut_0 := by decide +kernel
theorem dksX2_cut_1 : cX2_cut.data.toList.drop 22 = dktX2_cut_1 := dk_seg dksX2_cut_0 22 rfl rfl
theorem dksX2_cut_2 : cX2_cut.data.toList.drop 46 = dktX2_cut_2 := dk_seg dksX2_cut_1 24 rfl rfl
theorem dksX2_cut_3 : cX2_cut.data.toList.drop 70 = dktX2_cut_3 := dk_seg dksX2_cut_2 24 rfl rfl
theorem dX2_cut_0 : decode cX2_cut 0 = .ok (.aload_n 0, 1) := dk_42 (dk_at dksX2_cut_0 0 rfl rfl)
theorem dX2_cut_1 : decode cX2_cut 1 = .ok (.iload_n 1, 1) := dk_27 (dk_at dksX2_cut_0 1 rfl rfl)
theorem dX2_cut_2 : decode cX2_cut 2 = .ok (.invokevirtual 324, 3) := dk_182 1 68 (dk_at dksX2_cut_0 2 rfl rfl)
theorem dX2_cut_5 : decode cX2_cut 5 = .ok (.ifCond .ne 5, 3) := dk_154 0 5 (dk_at dksX2_cut_0 5 rfl rfl)
theorem dX2_cut_8 : decode cX2_cut 8 = .ok (.iconst 0, 1) := dk_3 (dk_at dksX2_cut_0 8 rfl rfl)
theorem dX2_cut_9 : decode cX2_cut 9 = .ok (.ireturn, 1) := dk_172 (dk_at dksX2_cut_0 9 rfl rfl)
theorem dX2_cut_10 : decode cX2_cut 10 = .ok (.aload_n 0, 1) := dk_42 (dk_at dksX2_cut_0 10 rfl rfl)
theorem dX2_cut_11 : decode cX2_cut 11 = .ok (.invokevirtual 467, 3) := dk_182 1 211 (dk_at dksX2_cut_0 11 rfl rfl)
theorem dX2_cut_14 : decode cX2_cut 14 = .ok (.aload_n 0, 1) := dk_42 (dk_at dksX2_cut_0 14 rfl rfl)
theorem dX2_cut_15 : decode cX2_cut 15 = .ok (.getfield 13, 3) := dk_180 0 13 (dk_at dksX2_cut_0 15 rfl rfl)
theorem dX2_cut_18 : decode cX2_cut 18 = .ok (.sipush 256, 3) := dk_17 1 0 (dk_at dksX2_cut_0 18 rfl rfl)
theorem dX2_cut_21 : decode cX2_cut 21 = .ok (.aload_n 0, 1) := dk_42 (dk_at dksX2_cut_0 21 rfl rfl)
theorem dX2_cut_22 : decode cX2_cut 22 = .ok (.getfield 13, 3) := dk_180 0 13 (dk_at dksX2_cut_1 0 rfl rfl)
theorem dX2_cut_25 : decode cX2_cut 25 = .ok (.sipush 256, 3) := dk_17 1 0 (dk_at dksX2_cut_1 3 rfl rfl)
theorem dX2_cut_28 : decode cX2_cut 28 = .ok (.iaload, 1) := dk_46 (dk_at dksX2_cut_1 6 rfl rfl)
theorem dX2_cut_29 : decode cX2_cut 29 = .ok (.iconst 1, 1) := dk_4 (dk_at dksX2_cut_1 7 rfl rfl)
theorem dX2_cut_30 : decode cX2_cut 30 = .ok (.isub, 1) := dk_100 (dk_at dksX2_cut_1 8 rfl rfl)
theorem dX2_cut_31 : decode cX2_cut 31 = .ok (.iastore, 1) := dk_79 (dk_at dksX2_cut_1 9 rfl rfl)
theorem dX2_cut_32 : decode cX2_cut 32 = .ok (.sipush 257, 3) := dk_17 1 1 (dk_at dksX2_cut_1 10 rfl rfl)
theorem dX2_cut_35 : decode cX2_cut 35 = .ok (.iconst 3, 1) := dk_6 (dk_at dksX2_cut_1 13 rfl rfl)
theorem dX2_cut_36 : decode cX2_cut 36 = .ok (.iload_n 1, 1) := dk_27 (dk_at dksX2_cut_1 14 rfl rfl)
theorem dX2_cut_37 : decode cX2_cut 37 = .ok (.imul, 1) := dk_104 (dk_at dksX2_cut_1 15 rfl rfl)
theorem dX2_cut_38 : decode cX2_cut 38 = .ok (.iadd, 1) := dk_96 (dk_at dksX2_cut_1 16 rfl rfl)
theorem dX2_cut_39 : decode cX2_cut 39 = .ok (.istore_n 2, 1) := dk_61 (dk_at dksX2_cut_1 17 rfl rfl)
theorem dX2_cut_40 : decode cX2_cut 40 = .ok (.iload_n 2, 1) := dk_28 (dk_at dksX2_cut_1 18 rfl rfl)
theorem dX2_cut_41 : decode cX2_cut 41 = .ok (.sipush 257, 3) := dk_17 1 1 (dk_at dksX2_cut_1 19 rfl rfl)
theorem dX2_cut_44 : decode cX2_cut 44 = .ok (.iconst 3, 1) := dk_6 (dk_at dksX2_cut_1 22 rfl rfl)
theorem dX2_cut_45 : decode cX2_cut 45 = .ok (.aload_n 0, 1) := dk_42 (dk_at dksX2_cut_1 23 rfl rfl)
theorem dX2_cut_46 : decode cX2_cut 46 = .ok (.getfield 13, 3) := dk_180 0 13 (dk_at dksX2_cut_2 0 rfl rfl)
theorem dX2_cut_49 : decode cX2_cut 49 = .ok (.sipush 256, 3) := dk_17 1 0 (dk_at dksX2_cut_2 3 rfl rfl)
theorem dX2_cut_52 : decode cX2_cut 52 = .ok (.iaload, 1) := dk_46 (dk_at dksX2_cut_2 6 rfl rfl)
theorem dX2_cut_53 : decode cX2_cut 53 = .ok (.imul, 1) := dk_104 (dk_at dksX2_cut_2 7 rfl rfl)
theorem dX2_cut_54 : decode cX2_cut 54 = .ok (.iadd, 1) := dk_96 (dk_at dksX2_cut_2 8 rfl rfl)
theorem dX2_cut_55 : decode cX2_cut 55 = .ok (.if_icmp .ge 23, 3) := dk_162 0 23 (dk_at dksX2_cut_2 9 rfl rfl)
theorem dX2_cut_58 : decode cX2_cut 58 = .ok (.aload_n 0, 1) := dk_42 (dk_at dksX2_cut_2 12 rfl rfl)
theorem dX2_cut_59 : decode cX2_cut 59 = .ok (.getfield 13, 3) := dk_180 0 13 (dk_at dksX2_cut_2 13 rfl rfl)
theorem dX2_cut_62 : decode cX2_cut 62 = .ok (.iload_n 2, 1) := dk_28 (dk_at dksX2_cut_2 16 rfl rfl)
theorem dX2_cut_63 : decode cX2_cut 63 = .ok (.aload_n 0, 1) := dk_42 (dk_at dksX2_cut_2 17 rfl rfl)
theorem dX2_cut_64 : decode cX2_cut 64 = .ok (.getfield 13, 3) := dk_180 0 13 (dk_at dksX2_cut_2 18 rfl rfl)
theorem dX2_cut_67 : decode cX2_cut 67 = .ok (.iload_n 2, 1) := dk_28 (dk_at dksX2_cut_2 21 rfl rfl)
theorem dX2_cut_68 : decode cX2_cut 68 = .ok (.iconst 3, 1) := dk_6 (dk_at dksX2_cut_2 22 rfl rfl)
theorem dX2_cut_69 : decode cX2_cut 69 = .ok (.iadd, 1) := dk_96 (dk_at dksX2_cut_2 23 rfl rfl)
theorem dX2_cut_70 : decode cX2_cut 70 = .ok (.iaload, 1) := dk_46 (dk_at dksX2_cut_3 0 rfl rfl)
theorem dX2_cut_71 : decode cX2_cut 71 = .ok (.iastore, 1) := dk_79 (dk_at dksX2_cut_3 1 rfl rfl)
theorem dX2_cut_72 : decode cX2_cut 72 = .ok (.iinc 2 1, 3) := dk_132 2 1 (dk_at dksX2_cut_3 2 rfl rfl)
theorem dX2_cut_75 : decode cX2_cut 75 = .ok (.goto (-35), 3) := dk_167 255 221 (dk_at dksX2_cut_3 5 rfl rfl)
theorem dX2_cut_78 : decode cX2_cut 78 = .ok (.iconst 1, 1) := dk_4 (dk_at dksX2_cut_3 8 rfl rfl)
theorem dX2_cut_79 : decode cX2_cut 79 = .ok (.ireturn, 1) := dk_172 (dk_at dksX2_cut_3 9 rfl rfl)
abbrev cX2_end : ByteArray := prog_12_method_141_code
def yX2_end : MethodName := ⟨RX2, "end", "(II)Z"⟩
def dkwX2_end_2 : List UInt8 := [172, 42, 182, 1, 211, 42, 180, 0, 13, 16, 18, 27, 96, 28, 79, 4, 172]
abbrev dktX2_end_2 : List UInt8 := dkwX2_end_2 ++ []
def dkwX2_end_1 : List UInt8 := [16, 254, 159, 0, 12, 28, 42, 27, 182, 1, 21, 161, 0, 12, 42, 27, 182, 1, 24, 28, 160, 0, 5, 3]
abbrev dktX2_end_1 : List UInt8 := dkwX2_end_1 ++ dktX2_end_2
def dkwX2_end_0 : List UInt8 := [42, 27, 182, 1, 27, 153, 0, 16, 28, 16, 254, 159, 0, 12, 28, 184, 1, 121, 154, 0, 5, 3, 172, 28]
abbrev dktX2_end_0 : List UInt8 := dkwX2_end_0 ++ dktX2_end_1
theorem dksX2_end_0 : cX2_end.data.toList.drop 0 = dktX2_end_0 := by decide +kernel
theorem dksX2_end_1 : cX2_end.data.toList.drop 24 = dktX2_end_1 := dk_seg dksX2_end_0 24 rfl rfl
theorem dksX2_end_2 : cX2_end.data.toList.drop 48 = dktX2_end_2 := dk_seg dksX2_end_1 24 rfl rfl
theorem dX2_end_0 : decode cX2_end 0 = .ok (.aload_n 0, 1) := dk_42 (dk_at dksX2_end_0 0 rfl rfl)
theorem dX2_end_1 : decode cX2_end 1 = .ok (.iload_n 1, 1) := dk_27 (dk_at dksX2_end_0 1 rfl rfl)
theorem dX2_end_2 : decode cX2_end 2 = .ok (.invokevirtual 283, 3) := dk_182 1 27 (dk_at dksX2_end_0 2 rfl rfl)
theorem dX2_end_5 : decode cX2_end 5 = .ok (.ifCond .eq 16, 3) := dk_153 0 16 (dk_at dksX2_end_0 5 rfl rfl)
theorem dX2_end_8 : decode cX2_end 8 = .ok (.iload_n 2, 1) := dk_28 (dk_at dksX2_end_0 8 rfl rfl)
theorem dX2_end_9 : decode cX2_end 9 = .ok (.bipush (-2), 2) := dk_16 254 (dk_at dksX2_end_0 9 rfl rfl)
theorem dX2_end_11 : decode cX2_end 11 = .ok (.if_icmp .eq 12, 3) := dk_159 0 12 (dk_at dksX2_end_0 11 rfl rfl)
theorem dX2_end_14 : decode cX2_end 14 = .ok (.iload_n 2, 1) := dk_28 (dk_at dksX2_end_0 14 rfl rfl)
theorem dX2_end_15 : decode cX2_end 15 = .ok (.invokestatic 377, 3) := dk_184 1 121 (dk_at dksX2_end_0 15 rfl rfl)
theorem dX2_end_18 : decode cX2_end 18 = .ok (.ifCond .ne 5, 3) := dk_154 0 5 (dk_at dksX2_end_0 18 rfl rfl)
theorem dX2_end_21 : decode cX2_end 21 = .ok (.iconst 0, 1) := dk_3 (dk_at dksX2_end_0 21 rfl rfl)
theorem dX2_end_22 : decode cX2_end 22 = .ok (.ireturn, 1) := dk_172 (dk_at dksX2_end_0 22 rfl rfl)
theorem dX2_end_23 : decode cX2_end 23 = .ok (.iload_n 2, 1) := dk_28 (dk_at dksX2_end_0 23 rfl rfl)
theorem dX2_end_24 : decode cX2_end 24 = .ok (.bipush (-2), 2) := dk_16 254 (dk_at dksX2_end_1 0 rfl rfl)
theorem dX2_end_26 : decode cX2_end 26 = .ok (.if_icmp .eq 12, 3) := dk_159 0 12 (dk_at dksX2_end_1 2 rfl rfl)
theorem dX2_end_29 : decode cX2_end 29 = .ok (.iload_n 2, 1) := dk_28 (dk_at dksX2_end_1 5 rfl rfl)
theorem dX2_end_30 : decode cX2_end 30 = .ok (.aload_n 0, 1) := dk_42 (dk_at dksX2_end_1 6 rfl rfl)
theorem dX2_end_31 : decode cX2_end 31 = .ok (.iload_n 1, 1) := dk_27 (dk_at dksX2_end_1 7 rfl rfl)
theorem dX2_end_32 : decode cX2_end 32 = .ok (.invokevirtual 277, 3) := dk_182 1 21 (dk_at dksX2_end_1 8 rfl rfl)
theorem dX2_end_35 : decode cX2_end 35 = .ok (.if_icmp .lt 12, 3) := dk_161 0 12 (dk_at dksX2_end_1 11 rfl rfl)
theorem dX2_end_38 : decode cX2_end 38 = .ok (.aload_n 0, 1) := dk_42 (dk_at dksX2_end_1 14 rfl rfl)
theorem dX2_end_39 : decode cX2_end 39 = .ok (.iload_n 1, 1) := dk_27 (dk_at dksX2_end_1 15 rfl rfl)
theorem dX2_end_40 : decode cX2_end 40 = .ok (.invokevirtual 280, 3) := dk_182 1 24 (dk_at dksX2_end_1 16 rfl rfl)
theorem dX2_end_43 : decode cX2_end 43 = .ok (.iload_n 2, 1) := dk_28 (dk_at dksX2_end_1 19 rfl rfl)
theorem dX2_end_44 : decode cX2_end 44 = .ok (.if_icmp .ne 5, 3) := dk_160 0 5 (dk_at dksX2_end_1 20 rfl rfl)
theorem dX2_end_47 : decode cX2_end 47 = .ok (.iconst 0, 1) := dk_3 (dk_at dksX2_end_1 23 rfl rfl)
theorem dX2_end_48 : decode cX2_end 48 = .ok (.ireturn, 1) := dk_172 (dk_at dksX2_end_2 0 rfl rfl)
theorem dX2_end_49 : decode cX2_end 49 = .ok (.aload_n 0, 1) := dk_42 (dk_at dksX2_end_2 1 rfl rfl)
theorem dX2_end_50 : decode cX2_end 50 = .ok (.invokevirtual 467, 3) := dk_182 1 211 (dk_at dksX2_end_2 2 rfl rfl)
theorem dX2_end_53 : decode cX2_end 53 = .ok (.aload_n 0, 1) := dk_42 (dk_at dksX2_end_2 5 rfl rfl)
theorem dX2_end_54 : decode cX2_end 54 = .ok (.getfield 13, 3) := dk_180 0 13 (dk_at dksX2_end_2 6 rfl rfl)
theorem dX2_end_57 : decode cX2_end 57 = .ok (.bipush 18, 2) := dk_16 18 (dk_at dksX2_end_2 9 rfl rfl)
theorem dX2_end_59 : decode cX2_end 59 = .ok (.iload_n 1, 1) := dk_27 (dk_at dksX2_end_2 11 rfl rfl)
theorem dX2_end_60 : decode cX2_end 60 = .ok (.iadd, 1) := dk_96 (dk_at dksX2_end_2 12 rfl rfl)
theorem dX2_end_61 : decode cX2_end 61 = .ok (.iload_n 2, 1) := dk_28 (dk_at dksX2_end_2 13 rfl rfl)
theorem dX2_end_62 : decode cX2_end 62 = .ok (.iastore, 1) := dk_79 (dk_at dksX2_end_2 14 rfl rfl)
theorem dX2_end_63 : decode cX2_end 63 = .ok (.iconst 1, 1) := dk_4 (dk_at dksX2_end_2 15 rfl rfl)
theorem dX2_end_64 : decode cX2_end 64 = .ok (.ireturn, 1) := dk_172 (dk_at dksX2_end_2 16 rfl rfl)
abbrev cX2_add : ByteArray := prog_12_method_143_code
def yX2_add : MethodName := ⟨RX2, "add", "(III)I"⟩
def dkwX2_add_4 : List UInt8 := [167, 255, 221, 42, 27, 3, 182, 1, 33, 184, 1, 4, 172]
abbrev dktX2_add_4 : List UInt8 := dkwX2_add_4 ++ []
def dkwX2_add_3 : List UInt8 := [153, 0, 19, 42, 180, 0, 13, 16, 32, 16, 16, 27, 104, 96, 21, 4, 96, 28, 79, 132, 4, 1]
abbrev dktX2_add_3 : List UInt8 := dkwX2_add_3 ++ dktX2_add_4
def dkwX2_add_2 : List UInt8 := [16, 253, 172, 42, 182, 1, 211, 3, 54, 4, 21, 4, 16, 16, 162, 0, 34, 29, 21, 4, 184, 0, 82]
abbrev dktX2_add_2 : List UInt8 := dkwX2_add_2 ++ dktX2_add_3
def dkwX2_add_1 : List UInt8 := [172, 28, 42, 27, 182, 1, 21, 163, 0, 6, 16, 254, 172, 42, 27, 3, 182, 1, 33, 29, 126, 153, 0, 6]
abbrev dktX2_add_1 : List UInt8 := dkwX2_add_1 ++ dktX2_add_2
def dkwX2_add_0 : List UInt8 := [42, 27, 182, 1, 27, 153, 0, 18, 28, 184, 1, 121, 153, 0, 11, 42, 29, 182, 1, 214, 154, 0, 5, 2]
abbrev dktX2_add_0 : List UInt8 := dkwX2_add_0 ++ dktX2_add_1
theorem dksX2_add_0 : cX2_add.data.toList.drop 0 = dktX2_add_0 := by decide +kernel
theorem dksX2_add_1 : cX2_add.data.toList.drop 24 = dktX2_add_1 := dk_seg dksX2_add_0 24 rfl rfl
theorem dksX2_add_2 : cX2_add.data.toList.drop 48 = dktX2_add_2 := dk_seg dksX2_add_1 24 rfl rfl
theorem dksX2_add_3 : cX2_add.data.toList.drop 71 = dktX2_add_3 := dk_seg dksX2_add_2 23 rfl rfl
theorem dksX2_add_4 : cX2_add.data.toList.drop 93 = dktX2_add_4 := dk_seg dksX2_add_3 22 rfl rfl
theorem dX2_add_0 : decode cX2_add 0 = .ok (.aload_n 0, 1) := dk_42 (dk_at dksX2_add_0 0 rfl rfl)
theorem dX2_add_1 : decode cX2_add 1 = .ok (.iload_n 1, 1) := dk_27 (dk_at dksX2_add_0 1 rfl rfl)
theorem dX2_add_2 : decode cX2_add 2 = .ok (.invokevirtual 283, 3) := dk_182 1 27 (dk_at dksX2_add_0 2 rfl rfl)
theorem dX2_add_5 : decode cX2_add 5 = .ok (.ifCond .eq 18, 3) := dk_153 0 18 (dk_at dksX2_add_0 5 rfl rfl)
theorem dX2_add_8 : decode cX2_add 8 = .ok (.iload_n 2, 1) := dk_28 (dk_at dksX2_add_0 8 rfl rfl)
theorem dX2_add_9 : decode cX2_add 9 = .ok (.invokestatic 377, 3) := dk_184 1 121 (dk_at dksX2_add_0 9 rfl rfl)
theorem dX2_add_12 : decode cX2_add 12 = .ok (.ifCond .eq 11, 3) := dk_153 0 11 (dk_at dksX2_add_0 12 rfl rfl)
theorem dX2_add_15 : decode cX2_add 15 = .ok (.aload_n 0, 1) := dk_42 (dk_at dksX2_add_0 15 rfl rfl)
theorem dX2_add_16 : decode cX2_add 16 = .ok (.iload_n 3, 1) := dk_29 (dk_at dksX2_add_0 16 rfl rfl)
theorem dX2_add_17 : decode cX2_add 17 = .ok (.invokevirtual 470, 3) := dk_182 1 214 (dk_at dksX2_add_0 17 rfl rfl)
theorem dX2_add_20 : decode cX2_add 20 = .ok (.ifCond .ne 5, 3) := dk_154 0 5 (dk_at dksX2_add_0 20 rfl rfl)
theorem dX2_add_23 : decode cX2_add 23 = .ok (.iconst (-1), 1) := dk_2 (dk_at dksX2_add_0 23 rfl rfl)
theorem dX2_add_24 : decode cX2_add 24 = .ok (.ireturn, 1) := dk_172 (dk_at dksX2_add_1 0 rfl rfl)
theorem dX2_add_25 : decode cX2_add 25 = .ok (.iload_n 2, 1) := dk_28 (dk_at dksX2_add_1 1 rfl rfl)
theorem dX2_add_26 : decode cX2_add 26 = .ok (.aload_n 0, 1) := dk_42 (dk_at dksX2_add_1 2 rfl rfl)
theorem dX2_add_27 : decode cX2_add 27 = .ok (.iload_n 1, 1) := dk_27 (dk_at dksX2_add_1 3 rfl rfl)
theorem dX2_add_28 : decode cX2_add 28 = .ok (.invokevirtual 277, 3) := dk_182 1 21 (dk_at dksX2_add_1 4 rfl rfl)
theorem dX2_add_31 : decode cX2_add 31 = .ok (.if_icmp .gt 6, 3) := dk_163 0 6 (dk_at dksX2_add_1 7 rfl rfl)
theorem dX2_add_34 : decode cX2_add 34 = .ok (.bipush (-2), 2) := dk_16 254 (dk_at dksX2_add_1 10 rfl rfl)
theorem dX2_add_36 : decode cX2_add 36 = .ok (.ireturn, 1) := dk_172 (dk_at dksX2_add_1 12 rfl rfl)
theorem dX2_add_37 : decode cX2_add 37 = .ok (.aload_n 0, 1) := dk_42 (dk_at dksX2_add_1 13 rfl rfl)
theorem dX2_add_38 : decode cX2_add 38 = .ok (.iload_n 1, 1) := dk_27 (dk_at dksX2_add_1 14 rfl rfl)
theorem dX2_add_39 : decode cX2_add 39 = .ok (.iconst 0, 1) := dk_3 (dk_at dksX2_add_1 15 rfl rfl)
theorem dX2_add_40 : decode cX2_add 40 = .ok (.invokevirtual 289, 3) := dk_182 1 33 (dk_at dksX2_add_1 16 rfl rfl)
theorem dX2_add_43 : decode cX2_add 43 = .ok (.iload_n 3, 1) := dk_29 (dk_at dksX2_add_1 19 rfl rfl)
theorem dX2_add_44 : decode cX2_add 44 = .ok (.iand, 1) := dk_126 (dk_at dksX2_add_1 20 rfl rfl)
theorem dX2_add_45 : decode cX2_add 45 = .ok (.ifCond .eq 6, 3) := dk_153 0 6 (dk_at dksX2_add_1 21 rfl rfl)
theorem dX2_add_48 : decode cX2_add 48 = .ok (.bipush (-3), 2) := dk_16 253 (dk_at dksX2_add_2 0 rfl rfl)
theorem dX2_add_50 : decode cX2_add 50 = .ok (.ireturn, 1) := dk_172 (dk_at dksX2_add_2 2 rfl rfl)
theorem dX2_add_51 : decode cX2_add 51 = .ok (.aload_n 0, 1) := dk_42 (dk_at dksX2_add_2 3 rfl rfl)
theorem dX2_add_52 : decode cX2_add 52 = .ok (.invokevirtual 467, 3) := dk_182 1 211 (dk_at dksX2_add_2 4 rfl rfl)
theorem dX2_add_55 : decode cX2_add 55 = .ok (.iconst 0, 1) := dk_3 (dk_at dksX2_add_2 7 rfl rfl)
theorem dX2_add_56 : decode cX2_add 56 = .ok (.istore 4, 2) := dk_54 4 (dk_at dksX2_add_2 8 rfl rfl)
theorem dX2_add_58 : decode cX2_add 58 = .ok (.iload 4, 2) := dk_21 4 (dk_at dksX2_add_2 10 rfl rfl)
theorem dX2_add_60 : decode cX2_add 60 = .ok (.bipush 16, 2) := dk_16 16 (dk_at dksX2_add_2 12 rfl rfl)
theorem dX2_add_62 : decode cX2_add 62 = .ok (.if_icmp .ge 34, 3) := dk_162 0 34 (dk_at dksX2_add_2 14 rfl rfl)
theorem dX2_add_65 : decode cX2_add 65 = .ok (.iload_n 3, 1) := dk_29 (dk_at dksX2_add_2 17 rfl rfl)
theorem dX2_add_66 : decode cX2_add 66 = .ok (.iload 4, 2) := dk_21 4 (dk_at dksX2_add_2 18 rfl rfl)
theorem dX2_add_68 : decode cX2_add 68 = .ok (.invokestatic 82, 3) := dk_184 0 82 (dk_at dksX2_add_2 20 rfl rfl)
theorem dX2_add_71 : decode cX2_add 71 = .ok (.ifCond .eq 19, 3) := dk_153 0 19 (dk_at dksX2_add_3 0 rfl rfl)
theorem dX2_add_74 : decode cX2_add 74 = .ok (.aload_n 0, 1) := dk_42 (dk_at dksX2_add_3 3 rfl rfl)
theorem dX2_add_75 : decode cX2_add 75 = .ok (.getfield 13, 3) := dk_180 0 13 (dk_at dksX2_add_3 4 rfl rfl)
theorem dX2_add_78 : decode cX2_add 78 = .ok (.bipush 32, 2) := dk_16 32 (dk_at dksX2_add_3 7 rfl rfl)
theorem dX2_add_80 : decode cX2_add 80 = .ok (.bipush 16, 2) := dk_16 16 (dk_at dksX2_add_3 9 rfl rfl)
theorem dX2_add_82 : decode cX2_add 82 = .ok (.iload_n 1, 1) := dk_27 (dk_at dksX2_add_3 11 rfl rfl)
theorem dX2_add_83 : decode cX2_add 83 = .ok (.imul, 1) := dk_104 (dk_at dksX2_add_3 12 rfl rfl)
theorem dX2_add_84 : decode cX2_add 84 = .ok (.iadd, 1) := dk_96 (dk_at dksX2_add_3 13 rfl rfl)
theorem dX2_add_85 : decode cX2_add 85 = .ok (.iload 4, 2) := dk_21 4 (dk_at dksX2_add_3 14 rfl rfl)
theorem dX2_add_87 : decode cX2_add 87 = .ok (.iadd, 1) := dk_96 (dk_at dksX2_add_3 16 rfl rfl)
theorem dX2_add_88 : decode cX2_add 88 = .ok (.iload_n 2, 1) := dk_28 (dk_at dksX2_add_3 17 rfl rfl)
theorem dX2_add_89 : decode cX2_add 89 = .ok (.iastore, 1) := dk_79 (dk_at dksX2_add_3 18 rfl rfl)
theorem dX2_add_90 : decode cX2_add 90 = .ok (.iinc 4 1, 3) := dk_132 4 1 (dk_at dksX2_add_3 19 rfl rfl)
theorem dX2_add_93 : decode cX2_add 93 = .ok (.goto (-35), 3) := dk_167 255 221 (dk_at dksX2_add_4 0 rfl rfl)
theorem dX2_add_96 : decode cX2_add 96 = .ok (.aload_n 0, 1) := dk_42 (dk_at dksX2_add_4 3 rfl rfl)
theorem dX2_add_97 : decode cX2_add 97 = .ok (.iload_n 1, 1) := dk_27 (dk_at dksX2_add_4 4 rfl rfl)
theorem dX2_add_98 : decode cX2_add 98 = .ok (.iconst 0, 1) := dk_3 (dk_at dksX2_add_4 5 rfl rfl)
theorem dX2_add_99 : decode cX2_add 99 = .ok (.invokevirtual 289, 3) := dk_182 1 33 (dk_at dksX2_add_4 6 rfl rfl)
theorem dX2_add_102 : decode cX2_add 102 = .ok (.invokestatic 260, 3) := dk_184 1 4 (dk_at dksX2_add_4 9 rfl rfl)
theorem dX2_add_105 : decode cX2_add 105 = .ok (.ireturn, 1) := dk_172 (dk_at dksX2_add_4 12 rfl rfl)
abbrev cX2_areParts : ByteArray := prog_12_method_142_code
def yX2_areParts : MethodName := ⟨RX2, "areParts", "(I)Z"⟩
def dkwX2_areParts_0 : List UInt8 := [27, 4, 4, 42, 180, 0, 22, 3, 46, 120, 4, 100, 184, 0, 93, 172]
abbrev dktX2_areParts_0 : List UInt8 := dkwX2_areParts_0 ++ []
theorem dksX2_areParts_0 : cX2_areParts.data.toList.drop 0 = dktX2_areParts_0 := by decide +kernel
theorem dX2_areParts_0 : decode cX2_areParts 0 = .ok (.iload_n 1, 1) := dk_27 (dk_at dksX2_areParts_0 0 rfl rfl)
theorem dX2_areParts_1 : decode cX2_areParts 1 = .ok (.iconst 1, 1) := dk_4 (dk_at dksX2_areParts_0 1 rfl rfl)
theorem dX2_areParts_2 : decode cX2_areParts 2 = .ok (.iconst 1, 1) := dk_4 (dk_at dksX2_areParts_0 2 rfl rfl)
theorem dX2_areParts_3 : decode cX2_areParts 3 = .ok (.aload_n 0, 1) := dk_42 (dk_at dksX2_areParts_0 3 rfl rfl)
theorem dX2_areParts_4 : decode cX2_areParts 4 = .ok (.getfield 22, 3) := dk_180 0 22 (dk_at dksX2_areParts_0 4 rfl rfl)
theorem dX2_areParts_7 : decode cX2_areParts 7 = .ok (.iconst 0, 1) := dk_3 (dk_at dksX2_areParts_0 7 rfl rfl)
theorem dX2_areParts_8 : decode cX2_areParts 8 = .ok (.iaload, 1) := dk_46 (dk_at dksX2_areParts_0 8 rfl rfl)
theorem dX2_areParts_9 : decode cX2_areParts 9 = .ok (.ishl, 1) := dk_120 (dk_at dksX2_areParts_0 9 rfl rfl)
theorem dX2_areParts_10 : decode cX2_areParts 10 = .ok (.iconst 1, 1) := dk_4 (dk_at dksX2_areParts_0 10 rfl rfl)
theorem dX2_areParts_11 : decode cX2_areParts 11 = .ok (.isub, 1) := dk_100 (dk_at dksX2_areParts_0 11 rfl rfl)
theorem dX2_areParts_12 : decode cX2_areParts 12 = .ok (.invokestatic 93, 3) := dk_184 0 93 (dk_at dksX2_areParts_0 12 rfl rfl)
theorem dX2_areParts_15 : decode cX2_areParts 15 = .ok (.ireturn, 1) := dk_172 (dk_at dksX2_areParts_0 15 rfl rfl)
abbrev cX2_show : ByteArray := prog_12_method_144_code
def yX2_show : MethodName := ⟨RX2, "show", "(III)I"⟩
def dkwX2_show_2 : List UInt8 := [180, 0, 13, 27, 28, 29, 184, 0, 219, 42, 180, 0, 13, 17, 1, 61, 46, 4, 100, 172]
abbrev dktX2_show_2 : List UInt8 := dkwX2_show_2 ++ []
def dkwX2_show_1 : List UInt8 := [172, 42, 180, 0, 13, 17, 1, 61, 46, 16, 14, 160, 0, 6, 16, 254, 172, 42, 182, 1, 211, 42]
abbrev dktX2_show_1 : List UInt8 := dkwX2_show_1 ++ dktX2_show_2
def dkwX2_show_0 : List UInt8 := [42, 27, 182, 1, 189, 153, 0, 18, 28, 184, 1, 121, 153, 0, 11, 42, 29, 182, 1, 214, 154, 0, 5, 2]
abbrev dktX2_show_0 : List UInt8 := dkwX2_show_0 ++ dktX2_show_1
theorem dksX2_show_0 : cX2_show.data.toList.drop 0 = dktX2_show_0 := by decide +kernel
theorem dksX2_show_1 : cX2_show.data.toList.drop 24 = dktX2_show_1 := dk_seg dksX2_show_0 24 rfl rfl
theorem dksX2_show_2 : cX2_show.data.toList.drop 46 = dktX2_show_2 := dk_seg dksX2_show_1 22 rfl rfl
theorem dX2_show_0 : decode cX2_show 0 = .ok (.aload_n 0, 1) := dk_42 (dk_at dksX2_show_0 0 rfl rfl)
theorem dX2_show_1 : decode cX2_show 1 = .ok (.iload_n 1, 1) := dk_27 (dk_at dksX2_show_0 1 rfl rfl)
theorem dX2_show_2 : decode cX2_show 2 = .ok (.invokevirtual 445, 3) := dk_182 1 189 (dk_at dksX2_show_0 2 rfl rfl)
theorem dX2_show_5 : decode cX2_show 5 = .ok (.ifCond .eq 18, 3) := dk_153 0 18 (dk_at dksX2_show_0 5 rfl rfl)
theorem dX2_show_8 : decode cX2_show 8 = .ok (.iload_n 2, 1) := dk_28 (dk_at dksX2_show_0 8 rfl rfl)
theorem dX2_show_9 : decode cX2_show 9 = .ok (.invokestatic 377, 3) := dk_184 1 121 (dk_at dksX2_show_0 9 rfl rfl)
theorem dX2_show_12 : decode cX2_show 12 = .ok (.ifCond .eq 11, 3) := dk_153 0 11 (dk_at dksX2_show_0 12 rfl rfl)
theorem dX2_show_15 : decode cX2_show 15 = .ok (.aload_n 0, 1) := dk_42 (dk_at dksX2_show_0 15 rfl rfl)
theorem dX2_show_16 : decode cX2_show 16 = .ok (.iload_n 3, 1) := dk_29 (dk_at dksX2_show_0 16 rfl rfl)
theorem dX2_show_17 : decode cX2_show 17 = .ok (.invokevirtual 470, 3) := dk_182 1 214 (dk_at dksX2_show_0 17 rfl rfl)
theorem dX2_show_20 : decode cX2_show 20 = .ok (.ifCond .ne 5, 3) := dk_154 0 5 (dk_at dksX2_show_0 20 rfl rfl)
theorem dX2_show_23 : decode cX2_show 23 = .ok (.iconst (-1), 1) := dk_2 (dk_at dksX2_show_0 23 rfl rfl)
theorem dX2_show_24 : decode cX2_show 24 = .ok (.ireturn, 1) := dk_172 (dk_at dksX2_show_1 0 rfl rfl)
theorem dX2_show_25 : decode cX2_show 25 = .ok (.aload_n 0, 1) := dk_42 (dk_at dksX2_show_1 1 rfl rfl)
theorem dX2_show_26 : decode cX2_show 26 = .ok (.getfield 13, 3) := dk_180 0 13 (dk_at dksX2_show_1 2 rfl rfl)
theorem dX2_show_29 : decode cX2_show 29 = .ok (.sipush 317, 3) := dk_17 1 61 (dk_at dksX2_show_1 5 rfl rfl)
theorem dX2_show_32 : decode cX2_show 32 = .ok (.iaload, 1) := dk_46 (dk_at dksX2_show_1 8 rfl rfl)
theorem dX2_show_33 : decode cX2_show 33 = .ok (.bipush 14, 2) := dk_16 14 (dk_at dksX2_show_1 9 rfl rfl)
theorem dX2_show_35 : decode cX2_show 35 = .ok (.if_icmp .ne 6, 3) := dk_160 0 6 (dk_at dksX2_show_1 11 rfl rfl)
theorem dX2_show_38 : decode cX2_show 38 = .ok (.bipush (-2), 2) := dk_16 254 (dk_at dksX2_show_1 14 rfl rfl)
theorem dX2_show_40 : decode cX2_show 40 = .ok (.ireturn, 1) := dk_172 (dk_at dksX2_show_1 16 rfl rfl)
theorem dX2_show_41 : decode cX2_show 41 = .ok (.aload_n 0, 1) := dk_42 (dk_at dksX2_show_1 17 rfl rfl)
theorem dX2_show_42 : decode cX2_show 42 = .ok (.invokevirtual 467, 3) := dk_182 1 211 (dk_at dksX2_show_1 18 rfl rfl)
theorem dX2_show_45 : decode cX2_show 45 = .ok (.aload_n 0, 1) := dk_42 (dk_at dksX2_show_1 21 rfl rfl)
theorem dX2_show_46 : decode cX2_show 46 = .ok (.getfield 13, 3) := dk_180 0 13 (dk_at dksX2_show_2 0 rfl rfl)
theorem dX2_show_49 : decode cX2_show 49 = .ok (.iload_n 1, 1) := dk_27 (dk_at dksX2_show_2 3 rfl rfl)
theorem dX2_show_50 : decode cX2_show 50 = .ok (.iload_n 2, 1) := dk_28 (dk_at dksX2_show_2 4 rfl rfl)
theorem dX2_show_51 : decode cX2_show 51 = .ok (.iload_n 3, 1) := dk_29 (dk_at dksX2_show_2 5 rfl rfl)
theorem dX2_show_52 : decode cX2_show 52 = .ok (.invokestatic 219, 3) := dk_184 0 219 (dk_at dksX2_show_2 6 rfl rfl)
theorem dX2_show_55 : decode cX2_show 55 = .ok (.aload_n 0, 1) := dk_42 (dk_at dksX2_show_2 9 rfl rfl)
theorem dX2_show_56 : decode cX2_show 56 = .ok (.getfield 13, 3) := dk_180 0 13 (dk_at dksX2_show_2 10 rfl rfl)
theorem dX2_show_59 : decode cX2_show 59 = .ok (.sipush 317, 3) := dk_17 1 61 (dk_at dksX2_show_2 13 rfl rfl)
theorem dX2_show_62 : decode cX2_show 62 = .ok (.iaload, 1) := dk_46 (dk_at dksX2_show_2 16 rfl rfl)
theorem dX2_show_63 : decode cX2_show 63 = .ok (.iconst 1, 1) := dk_4 (dk_at dksX2_show_2 17 rfl rfl)
theorem dX2_show_64 : decode cX2_show 64 = .ok (.isub, 1) := dk_100 (dk_at dksX2_show_2 18 rfl rfl)
theorem dX2_show_65 : decode cX2_show 65 = .ok (.ireturn, 1) := dk_172 (dk_at dksX2_show_2 19 rfl rfl)
abbrev cX2_move : ByteArray := prog_12_method_145_code
def yX2_move : MethodName := ⟨RX2, "move", "(II)I"⟩
def dkwX2_move_2 : List UInt8 := [42, 182, 1, 211, 42, 27, 182, 1, 21, 62, 42, 180, 0, 13, 7, 27, 96, 28, 79, 29, 172]
abbrev dktX2_move_2 : List UInt8 := dkwX2_move_2 ++ []
def dkwX2_move_1 : List UInt8 := [2, 172, 42, 27, 182, 1, 24, 16, 254, 159, 0, 15, 28, 42, 27, 182, 1, 24, 164, 0, 6, 16, 254, 172]
abbrev dktX2_move_1 : List UInt8 := dkwX2_move_1 ++ dktX2_move_2
def dkwX2_move_0 : List UInt8 := [42, 27, 182, 1, 27, 153, 0, 19, 28, 184, 1, 121, 153, 0, 12, 42, 27, 182, 1, 21, 28, 160, 0, 5]
abbrev dktX2_move_0 : List UInt8 := dkwX2_move_0 ++ dktX2_move_1
theorem dksX2_move_0 : cX2_move.data.toList.drop 0 = dktX2_move_0 := by decide +kernel
theorem dksX2_move_1 : cX2_move.data.toList.drop 24 = dktX2_move_1 := dk_seg dksX2_move_0 24 rfl rfl
theorem dksX2_move_2 : cX2_move.data.toList.drop 48 = dktX2_move_2 := dk_seg dksX2_move_1 24 rfl rfl
theorem dX2_move_0 : decode cX2_move 0 = .ok (.aload_n 0, 1) := dk_42 (dk_at dksX2_move_0 0 rfl rfl)
theorem dX2_move_1 : decode cX2_move 1 = .ok (.iload_n 1, 1) := dk_27 (dk_at dksX2_move_0 1 rfl rfl)
theorem dX2_move_2 : decode cX2_move 2 = .ok (.invokevirtual 283, 3) := dk_182 1 27 (dk_at dksX2_move_0 2 rfl rfl)
theorem dX2_move_5 : decode cX2_move 5 = .ok (.ifCond .eq 19, 3) := dk_153 0 19 (dk_at dksX2_move_0 5 rfl rfl)
theorem dX2_move_8 : decode cX2_move 8 = .ok (.iload_n 2, 1) := dk_28 (dk_at dksX2_move_0 8 rfl rfl)
theorem dX2_move_9 : decode cX2_move 9 = .ok (.invokestatic 377, 3) := dk_184 1 121 (dk_at dksX2_move_0 9 rfl rfl)
theorem dX2_move_12 : decode cX2_move 12 = .ok (.ifCond .eq 12, 3) := dk_153 0 12 (dk_at dksX2_move_0 12 rfl rfl)
theorem dX2_move_15 : decode cX2_move 15 = .ok (.aload_n 0, 1) := dk_42 (dk_at dksX2_move_0 15 rfl rfl)
theorem dX2_move_16 : decode cX2_move 16 = .ok (.iload_n 1, 1) := dk_27 (dk_at dksX2_move_0 16 rfl rfl)
theorem dX2_move_17 : decode cX2_move 17 = .ok (.invokevirtual 277, 3) := dk_182 1 21 (dk_at dksX2_move_0 17 rfl rfl)
theorem dX2_move_20 : decode cX2_move 20 = .ok (.iload_n 2, 1) := dk_28 (dk_at dksX2_move_0 20 rfl rfl)
theorem dX2_move_21 : decode cX2_move 21 = .ok (.if_icmp .ne 5, 3) := dk_160 0 5 (dk_at dksX2_move_0 21 rfl rfl)
theorem dX2_move_24 : decode cX2_move 24 = .ok (.iconst (-1), 1) := dk_2 (dk_at dksX2_move_1 0 rfl rfl)
theorem dX2_move_25 : decode cX2_move 25 = .ok (.ireturn, 1) := dk_172 (dk_at dksX2_move_1 1 rfl rfl)
theorem dX2_move_26 : decode cX2_move 26 = .ok (.aload_n 0, 1) := dk_42 (dk_at dksX2_move_1 2 rfl rfl)
theorem dX2_move_27 : decode cX2_move 27 = .ok (.iload_n 1, 1) := dk_27 (dk_at dksX2_move_1 3 rfl rfl)
theorem dX2_move_28 : decode cX2_move 28 = .ok (.invokevirtual 280, 3) := dk_182 1 24 (dk_at dksX2_move_1 4 rfl rfl)
theorem dX2_move_31 : decode cX2_move 31 = .ok (.bipush (-2), 2) := dk_16 254 (dk_at dksX2_move_1 7 rfl rfl)
theorem dX2_move_33 : decode cX2_move 33 = .ok (.if_icmp .eq 15, 3) := dk_159 0 15 (dk_at dksX2_move_1 9 rfl rfl)
theorem dX2_move_36 : decode cX2_move 36 = .ok (.iload_n 2, 1) := dk_28 (dk_at dksX2_move_1 12 rfl rfl)
theorem dX2_move_37 : decode cX2_move 37 = .ok (.aload_n 0, 1) := dk_42 (dk_at dksX2_move_1 13 rfl rfl)
theorem dX2_move_38 : decode cX2_move 38 = .ok (.iload_n 1, 1) := dk_27 (dk_at dksX2_move_1 14 rfl rfl)
theorem dX2_move_39 : decode cX2_move 39 = .ok (.invokevirtual 280, 3) := dk_182 1 24 (dk_at dksX2_move_1 15 rfl rfl)
theorem dX2_move_42 : decode cX2_move 42 = .ok (.if_icmp .le 6, 3) := dk_164 0 6 (dk_at dksX2_move_1 18 rfl rfl)
theorem dX2_move_45 : decode cX2_move 45 = .ok (.bipush (-2), 2) := dk_16 254 (dk_at dksX2_move_1 21 rfl rfl)
theorem dX2_move_47 : decode cX2_move 47 = .ok (.ireturn, 1) := dk_172 (dk_at dksX2_move_1 23 rfl rfl)
theorem dX2_move_48 : decode cX2_move 48 = .ok (.aload_n 0, 1) := dk_42 (dk_at dksX2_move_2 0 rfl rfl)
theorem dX2_move_49 : decode cX2_move 49 = .ok (.invokevirtual 467, 3) := dk_182 1 211 (dk_at dksX2_move_2 1 rfl rfl)
theorem dX2_move_52 : decode cX2_move 52 = .ok (.aload_n 0, 1) := dk_42 (dk_at dksX2_move_2 4 rfl rfl)
theorem dX2_move_53 : decode cX2_move 53 = .ok (.iload_n 1, 1) := dk_27 (dk_at dksX2_move_2 5 rfl rfl)
theorem dX2_move_54 : decode cX2_move 54 = .ok (.invokevirtual 277, 3) := dk_182 1 21 (dk_at dksX2_move_2 6 rfl rfl)
theorem dX2_move_57 : decode cX2_move 57 = .ok (.istore_n 3, 1) := dk_62 (dk_at dksX2_move_2 9 rfl rfl)
theorem dX2_move_58 : decode cX2_move 58 = .ok (.aload_n 0, 1) := dk_42 (dk_at dksX2_move_2 10 rfl rfl)
theorem dX2_move_59 : decode cX2_move 59 = .ok (.getfield 13, 3) := dk_180 0 13 (dk_at dksX2_move_2 11 rfl rfl)
theorem dX2_move_62 : decode cX2_move 62 = .ok (.iconst 4, 1) := dk_7 (dk_at dksX2_move_2 14 rfl rfl)
theorem dX2_move_63 : decode cX2_move 63 = .ok (.iload_n 1, 1) := dk_27 (dk_at dksX2_move_2 15 rfl rfl)
theorem dX2_move_64 : decode cX2_move 64 = .ok (.iadd, 1) := dk_96 (dk_at dksX2_move_2 16 rfl rfl)
theorem dX2_move_65 : decode cX2_move 65 = .ok (.iload_n 2, 1) := dk_28 (dk_at dksX2_move_2 17 rfl rfl)
theorem dX2_move_66 : decode cX2_move 66 = .ok (.iastore, 1) := dk_79 (dk_at dksX2_move_2 18 rfl rfl)
theorem dX2_move_67 : decode cX2_move 67 = .ok (.iload_n 3, 1) := dk_29 (dk_at dksX2_move_2 19 rfl rfl)
theorem dX2_move_68 : decode cX2_move 68 = .ok (.ireturn, 1) := dk_172 (dk_at dksX2_move_2 20 rfl rfl)
abbrev cX2_rule : ByteArray := prog_12_method_146_code
def yX2_rule : MethodName := ⟨RX2, "rule", "(II)I"⟩
def dkwX2_rule_2 : List UInt8 := [172]
abbrev dktX2_rule_2 : List UInt8 := dkwX2_rule_2 ++ []
def dkwX2_rule_1 : List UInt8 := [160, 0, 5, 2, 172, 42, 182, 1, 211, 42, 180, 0, 13, 27, 46, 62, 42, 180, 0, 13, 27, 28, 79, 29]
abbrev dktX2_rule_1 : List UInt8 := dkwX2_rule_1 ++ dktX2_rule_2
def dkwX2_rule_0 : List UInt8 := [27, 3, 6, 184, 0, 93, 153, 0, 20, 28, 184, 1, 121, 153, 0, 13, 42, 180, 0, 13, 27, 46, 28]
abbrev dktX2_rule_0 : List UInt8 := dkwX2_rule_0 ++ dktX2_rule_1
theorem dksX2_rule_0 : cX2_rule.data.toList.drop 0 = dktX2_rule_0 := by decide +kernel
theorem dksX2_rule_1 : cX2_rule.data.toList.drop 23 = dktX2_rule_1 := dk_seg dksX2_rule_0 23 rfl rfl
theorem dksX2_rule_2 : cX2_rule.data.toList.drop 47 = dktX2_rule_2 := dk_seg dksX2_rule_1 24 rfl rfl
theorem dX2_rule_0 : decode cX2_rule 0 = .ok (.iload_n 1, 1) := dk_27 (dk_at dksX2_rule_0 0 rfl rfl)
theorem dX2_rule_1 : decode cX2_rule 1 = .ok (.iconst 0, 1) := dk_3 (dk_at dksX2_rule_0 1 rfl rfl)
theorem dX2_rule_2 : decode cX2_rule 2 = .ok (.iconst 3, 1) := dk_6 (dk_at dksX2_rule_0 2 rfl rfl)
theorem dX2_rule_3 : decode cX2_rule 3 = .ok (.invokestatic 93, 3) := dk_184 0 93 (dk_at dksX2_rule_0 3 rfl rfl)
theorem dX2_rule_6 : decode cX2_rule 6 = .ok (.ifCond .eq 20, 3) := dk_153 0 20 (dk_at dksX2_rule_0 6 rfl rfl)
theorem dX2_rule_9 : decode cX2_rule 9 = .ok (.iload_n 2, 1) := dk_28 (dk_at dksX2_rule_0 9 rfl rfl)
theorem dX2_rule_10 : decode cX2_rule 10 = .ok (.invokestatic 377, 3) := dk_184 1 121 (dk_at dksX2_rule_0 10 rfl rfl)
theorem dX2_rule_13 : decode cX2_rule 13 = .ok (.ifCond .eq 13, 3) := dk_153 0 13 (dk_at dksX2_rule_0 13 rfl rfl)
theorem dX2_rule_16 : decode cX2_rule 16 = .ok (.aload_n 0, 1) := dk_42 (dk_at dksX2_rule_0 16 rfl rfl)
theorem dX2_rule_17 : decode cX2_rule 17 = .ok (.getfield 13, 3) := dk_180 0 13 (dk_at dksX2_rule_0 17 rfl rfl)
theorem dX2_rule_20 : decode cX2_rule 20 = .ok (.iload_n 1, 1) := dk_27 (dk_at dksX2_rule_0 20 rfl rfl)
theorem dX2_rule_21 : decode cX2_rule 21 = .ok (.iaload, 1) := dk_46 (dk_at dksX2_rule_0 21 rfl rfl)
theorem dX2_rule_22 : decode cX2_rule 22 = .ok (.iload_n 2, 1) := dk_28 (dk_at dksX2_rule_0 22 rfl rfl)
theorem dX2_rule_23 : decode cX2_rule 23 = .ok (.if_icmp .ne 5, 3) := dk_160 0 5 (dk_at dksX2_rule_1 0 rfl rfl)
theorem dX2_rule_26 : decode cX2_rule 26 = .ok (.iconst (-1), 1) := dk_2 (dk_at dksX2_rule_1 3 rfl rfl)
theorem dX2_rule_27 : decode cX2_rule 27 = .ok (.ireturn, 1) := dk_172 (dk_at dksX2_rule_1 4 rfl rfl)
theorem dX2_rule_28 : decode cX2_rule 28 = .ok (.aload_n 0, 1) := dk_42 (dk_at dksX2_rule_1 5 rfl rfl)
theorem dX2_rule_29 : decode cX2_rule 29 = .ok (.invokevirtual 467, 3) := dk_182 1 211 (dk_at dksX2_rule_1 6 rfl rfl)
theorem dX2_rule_32 : decode cX2_rule 32 = .ok (.aload_n 0, 1) := dk_42 (dk_at dksX2_rule_1 9 rfl rfl)
theorem dX2_rule_33 : decode cX2_rule 33 = .ok (.getfield 13, 3) := dk_180 0 13 (dk_at dksX2_rule_1 10 rfl rfl)
theorem dX2_rule_36 : decode cX2_rule 36 = .ok (.iload_n 1, 1) := dk_27 (dk_at dksX2_rule_1 13 rfl rfl)
theorem dX2_rule_37 : decode cX2_rule 37 = .ok (.iaload, 1) := dk_46 (dk_at dksX2_rule_1 14 rfl rfl)
theorem dX2_rule_38 : decode cX2_rule 38 = .ok (.istore_n 3, 1) := dk_62 (dk_at dksX2_rule_1 15 rfl rfl)
theorem dX2_rule_39 : decode cX2_rule 39 = .ok (.aload_n 0, 1) := dk_42 (dk_at dksX2_rule_1 16 rfl rfl)
theorem dX2_rule_40 : decode cX2_rule 40 = .ok (.getfield 13, 3) := dk_180 0 13 (dk_at dksX2_rule_1 17 rfl rfl)
theorem dX2_rule_43 : decode cX2_rule 43 = .ok (.iload_n 1, 1) := dk_27 (dk_at dksX2_rule_1 20 rfl rfl)
theorem dX2_rule_44 : decode cX2_rule 44 = .ok (.iload_n 2, 1) := dk_28 (dk_at dksX2_rule_1 21 rfl rfl)
theorem dX2_rule_45 : decode cX2_rule 45 = .ok (.iastore, 1) := dk_79 (dk_at dksX2_rule_1 22 rfl rfl)
theorem dX2_rule_46 : decode cX2_rule 46 = .ok (.iload_n 3, 1) := dk_29 (dk_at dksX2_rule_1 23 rfl rfl)
theorem dX2_rule_47 : decode cX2_rule 47 = .ok (.ireturn, 1) := dk_172 (dk_at dksX2_rule_2 0 rfl rfl)
abbrev cX2_undo : ByteArray := prog_12_method_147_code
def yX2_undo : MethodName := ⟨RX2, "undo", "()I"⟩
def dkwX2_undo_2 : List UInt8 := [96, 46, 79, 132, 1, 1, 167, 255, 225, 42, 180, 0, 253, 172]
abbrev dktX2_undo_2 : List UInt8 := dkwX2_undo_2 ++ []
def dkwX2_undo_1 : List UInt8 := [17, 1, 104, 162, 0, 30, 42, 180, 0, 13, 27, 42, 180, 0, 16, 17, 1, 104, 42, 180, 0, 253, 104, 27]
abbrev dktX2_undo_1 : List UInt8 := dkwX2_undo_1 ++ dktX2_undo_2
def dkwX2_undo_0 : List UInt8 := [42, 180, 0, 253, 154, 0, 5, 2, 172, 42, 42, 180, 0, 253, 4, 100, 181, 0, 253, 3, 60, 27]
abbrev dktX2_undo_0 : List UInt8 := dkwX2_undo_0 ++ dktX2_undo_1
theorem dksX2_undo_0 : cX2_undo.data.toList.drop 0 = dktX2_undo_0 := by decide +kernel
theorem dksX2_undo_1 : cX2_undo.data.toList.drop 22 = dktX2_undo_1 := dk_seg dksX2_undo_0 22 rfl rfl
theorem dksX2_undo_2 : cX2_undo.data.toList.drop 46 = dktX2_undo_2 := dk_seg dksX2_undo_1 24 rfl rfl
theorem dX2_undo_0 : decode cX2_undo 0 = .ok (.aload_n 0, 1) := dk_42 (dk_at dksX2_undo_0 0 rfl rfl)
theorem dX2_undo_1 : decode cX2_undo 1 = .ok (.getfield 253, 3) := dk_180 0 253 (dk_at dksX2_undo_0 1 rfl rfl)
theorem dX2_undo_4 : decode cX2_undo 4 = .ok (.ifCond .ne 5, 3) := dk_154 0 5 (dk_at dksX2_undo_0 4 rfl rfl)
theorem dX2_undo_7 : decode cX2_undo 7 = .ok (.iconst (-1), 1) := dk_2 (dk_at dksX2_undo_0 7 rfl rfl)
theorem dX2_undo_8 : decode cX2_undo 8 = .ok (.ireturn, 1) := dk_172 (dk_at dksX2_undo_0 8 rfl rfl)
theorem dX2_undo_9 : decode cX2_undo 9 = .ok (.aload_n 0, 1) := dk_42 (dk_at dksX2_undo_0 9 rfl rfl)
theorem dX2_undo_10 : decode cX2_undo 10 = .ok (.aload_n 0, 1) := dk_42 (dk_at dksX2_undo_0 10 rfl rfl)
theorem dX2_undo_11 : decode cX2_undo 11 = .ok (.getfield 253, 3) := dk_180 0 253 (dk_at dksX2_undo_0 11 rfl rfl)
theorem dX2_undo_14 : decode cX2_undo 14 = .ok (.iconst 1, 1) := dk_4 (dk_at dksX2_undo_0 14 rfl rfl)
theorem dX2_undo_15 : decode cX2_undo 15 = .ok (.isub, 1) := dk_100 (dk_at dksX2_undo_0 15 rfl rfl)
theorem dX2_undo_16 : decode cX2_undo 16 = .ok (.putfield 253, 3) := dk_181 0 253 (dk_at dksX2_undo_0 16 rfl rfl)
theorem dX2_undo_19 : decode cX2_undo 19 = .ok (.iconst 0, 1) := dk_3 (dk_at dksX2_undo_0 19 rfl rfl)
theorem dX2_undo_20 : decode cX2_undo 20 = .ok (.istore_n 1, 1) := dk_60 (dk_at dksX2_undo_0 20 rfl rfl)
theorem dX2_undo_21 : decode cX2_undo 21 = .ok (.iload_n 1, 1) := dk_27 (dk_at dksX2_undo_0 21 rfl rfl)
theorem dX2_undo_22 : decode cX2_undo 22 = .ok (.sipush 360, 3) := dk_17 1 104 (dk_at dksX2_undo_1 0 rfl rfl)
theorem dX2_undo_25 : decode cX2_undo 25 = .ok (.if_icmp .ge 30, 3) := dk_162 0 30 (dk_at dksX2_undo_1 3 rfl rfl)
theorem dX2_undo_28 : decode cX2_undo 28 = .ok (.aload_n 0, 1) := dk_42 (dk_at dksX2_undo_1 6 rfl rfl)
theorem dX2_undo_29 : decode cX2_undo 29 = .ok (.getfield 13, 3) := dk_180 0 13 (dk_at dksX2_undo_1 7 rfl rfl)
theorem dX2_undo_32 : decode cX2_undo 32 = .ok (.iload_n 1, 1) := dk_27 (dk_at dksX2_undo_1 10 rfl rfl)
theorem dX2_undo_33 : decode cX2_undo 33 = .ok (.aload_n 0, 1) := dk_42 (dk_at dksX2_undo_1 11 rfl rfl)
theorem dX2_undo_34 : decode cX2_undo 34 = .ok (.getfield 16, 3) := dk_180 0 16 (dk_at dksX2_undo_1 12 rfl rfl)
theorem dX2_undo_37 : decode cX2_undo 37 = .ok (.sipush 360, 3) := dk_17 1 104 (dk_at dksX2_undo_1 15 rfl rfl)
theorem dX2_undo_40 : decode cX2_undo 40 = .ok (.aload_n 0, 1) := dk_42 (dk_at dksX2_undo_1 18 rfl rfl)
theorem dX2_undo_41 : decode cX2_undo 41 = .ok (.getfield 253, 3) := dk_180 0 253 (dk_at dksX2_undo_1 19 rfl rfl)
theorem dX2_undo_44 : decode cX2_undo 44 = .ok (.imul, 1) := dk_104 (dk_at dksX2_undo_1 22 rfl rfl)
theorem dX2_undo_45 : decode cX2_undo 45 = .ok (.iload_n 1, 1) := dk_27 (dk_at dksX2_undo_1 23 rfl rfl)
theorem dX2_undo_46 : decode cX2_undo 46 = .ok (.iadd, 1) := dk_96 (dk_at dksX2_undo_2 0 rfl rfl)
theorem dX2_undo_47 : decode cX2_undo 47 = .ok (.iaload, 1) := dk_46 (dk_at dksX2_undo_2 1 rfl rfl)
theorem dX2_undo_48 : decode cX2_undo 48 = .ok (.iastore, 1) := dk_79 (dk_at dksX2_undo_2 2 rfl rfl)
theorem dX2_undo_49 : decode cX2_undo 49 = .ok (.iinc 1 1, 3) := dk_132 1 1 (dk_at dksX2_undo_2 3 rfl rfl)
theorem dX2_undo_52 : decode cX2_undo 52 = .ok (.goto (-31), 3) := dk_167 255 225 (dk_at dksX2_undo_2 6 rfl rfl)
theorem dX2_undo_55 : decode cX2_undo 55 = .ok (.aload_n 0, 1) := dk_42 (dk_at dksX2_undo_2 9 rfl rfl)
theorem dX2_undo_56 : decode cX2_undo 56 = .ok (.getfield 253, 3) := dk_180 0 253 (dk_at dksX2_undo_2 10 rfl rfl)
theorem dX2_undo_59 : decode cX2_undo 59 = .ok (.ireturn, 1) := dk_172 (dk_at dksX2_undo_2 13 rfl rfl)
theorem q174 : (Jvm.Cond.initialized "FilingChainsModel") ∈ lw_all := lw_g (lw_at lw_m1 11 rfl) rfl
theorem q444 : (Jvm.Cond.selects "FilingChainsModel" ({ cls := "java/lang/Object", name := "getClass", desc := "()Ljava/lang/Class;" } : Jvm.MethodName) ({ cls := "java/lang/Object", name := "getClass", desc := "()Ljava/lang/Class;" } : Jvm.MethodName)) ∈ lw_all := lw_g (lw_at lw_m2 41 rfl) rfl
theorem q881 : (Jvm.Cond.selects "FilingChainsModel" ({ cls := "java/lang/Object", name := "equals", desc := "(Ljava/lang/Object;)Z" } : Jvm.MethodName) ({ cls := "java/lang/Object", name := "equals", desc := "(Ljava/lang/Object;)Z" } : Jvm.MethodName)) ∈ lw_all := lw_g (lw_at lw_m3 238 rfl) rfl
theorem q2685 : (Jvm.Cond.instantiable "FilingChainsModel" (39 : Nat)) ∈ lw_all := lw_g (lw_at lw_m11 122 rfl) rfl
theorem q2687 : (Jvm.Cond.instanceMethod ({ cls := "FilingChainsModel", name := "<init>", desc := "()V" } : Jvm.MethodName)) ∈ lw_all := lw_g (lw_at lw_m11 124 rfl) rfl
theorem q2688 : (Jvm.Cond.code ({ cls := "FilingChainsModel", name := "<init>", desc := "()V" } : Jvm.MethodName) prog_12_method_1_code (1 : Nat) (Option.none : Option Jvm.ClassFile.FieldType)) ∈ lw_all := lw_g (lw_at lw_m11 125 rfl) rfl
theorem q2689 : (Jvm.Cond.methodLink "FilingChainsModel" (1 : Nat) ({ cls := "java/lang/Object", name := "<init>", desc := "()V" } : Jvm.MethodName)) ∈ lw_all := lw_g (lw_at lw_m11 126 rfl) rfl
theorem q2690 : (Jvm.Cond.methodLink "FilingChainsModel" (76 : Nat) ({ cls := "FilingChainsModel", name := "blank", desc := "()V" } : Jvm.MethodName)) ∈ lw_all := lw_g (lw_at lw_m11 127 rfl) rfl
theorem q2691 : (Jvm.Cond.privateMethod ({ cls := "FilingChainsModel", name := "blank", desc := "()V" } : Jvm.MethodName)) ∈ lw_tbl := lw_at lw_m11 128 rfl
theorem q2692 : (Jvm.Cond.instanceMethod ({ cls := "FilingChainsModel", name := "blank", desc := "()V" } : Jvm.MethodName)) ∈ lw_all := lw_g (lw_at lw_m11 129 rfl) rfl
theorem q2693 : (Jvm.Cond.code ({ cls := "FilingChainsModel", name := "blank", desc := "()V" } : Jvm.MethodName) prog_12_method_20_code (2 : Nat) (Option.none : Option Jvm.ClassFile.FieldType)) ∈ lw_all := lw_g (lw_at lw_m11 130 rfl) rfl
theorem q2694 : (Jvm.Cond.methodLink "FilingChainsModel" (79 : Nat) ({ cls := "FilingChainsModel", name := "stands", desc := "()V" } : Jvm.MethodName)) ∈ lw_all := lw_g (lw_at lw_m11 131 rfl) rfl
theorem q2695 : (Jvm.Cond.privateMethod ({ cls := "FilingChainsModel", name := "stands", desc := "()V" } : Jvm.MethodName)) ∈ lw_tbl := lw_at lw_m11 132 rfl
theorem q2696 : (Jvm.Cond.instanceMethod ({ cls := "FilingChainsModel", name := "stands", desc := "()V" } : Jvm.MethodName)) ∈ lw_all := lw_g (lw_at lw_m11 133 rfl) rfl
theorem q2697 : (Jvm.Cond.code ({ cls := "FilingChainsModel", name := "stands", desc := "()V" } : Jvm.MethodName) prog_12_method_37_code (2 : Nat) (Option.none : Option Jvm.ClassFile.FieldType)) ∈ lw_all := lw_g (lw_at lw_m11 134 rfl) rfl
theorem q2698 : (Jvm.Cond.fieldLink "FilingChainsModel" (7 : Nat) "FilingChainsModel" "fresh" "[I") ∈ lw_all := lw_g (lw_at lw_m11 135 rfl) rfl
theorem q2699 : (Jvm.Cond.fieldLink "FilingChainsModel" (13 : Nat) "FilingChainsModel" "now" "[I") ∈ lw_all := lw_g (lw_at lw_m11 136 rfl) rfl
theorem q2700 : (Jvm.Cond.fieldLink "FilingChainsModel" (16 : Nat) "FilingChainsModel" "kept" "[I") ∈ lw_all := lw_g (lw_at lw_m11 137 rfl) rfl
theorem q2701 : (Jvm.Cond.fieldLink "FilingChainsModel" (19 : Nat) "FilingChainsModel" "freshFix" "[I") ∈ lw_all := lw_g (lw_at lw_m11 138 rfl) rfl
theorem q2702 : (Jvm.Cond.fieldLink "FilingChainsModel" (22 : Nat) "FilingChainsModel" "fix" "[I") ∈ lw_all := lw_g (lw_at lw_m11 139 rfl) rfl
theorem q2703 : (Jvm.Cond.fieldLink "FilingChainsModel" (25 : Nat) "FilingChainsModel" "freshName" "[J") ∈ lw_all := lw_g (lw_at lw_m11 140 rfl) rfl
theorem q2704 : (Jvm.Cond.fieldLink "FilingChainsModel" (29 : Nat) "FilingChainsModel" "nameOf" "[J") ∈ lw_all := lw_g (lw_at lw_m11 141 rfl) rfl
theorem q2705 : (Jvm.Cond.fieldLink "FilingChainsModel" (32 : Nat) "FilingChainsModel" "tape" "[I") ∈ lw_all := lw_g (lw_at lw_m11 142 rfl) rfl
theorem q2706 : (Jvm.Cond.fieldLink "FilingChainsModel" (86 : Nat) "FilingChainsModel" "taped" "I") ∈ lw_all := lw_g (lw_at lw_m11 143 rfl) rfl
theorem q2707 : (Jvm.Cond.fieldLink "FilingChainsModel" (97 : Nat) "FilingChainsModel" "size" "I") ∈ lw_all := lw_g (lw_at lw_m11 144 rfl) rfl
theorem q2708 : (Jvm.Cond.fieldLink "FilingChainsModel" (100 : Nat) "FilingChainsModel" "at" "I") ∈ lw_all := lw_g (lw_at lw_m11 145 rfl) rfl
theorem q2709 : (Jvm.Cond.fieldLink "FilingChainsModel" (107 : Nat) "FilingChainsModel" "place" "I") ∈ lw_all := lw_g (lw_at lw_m11 146 rfl) rfl
theorem q2710 : (Jvm.Cond.fieldLink "FilingChainsModel" (110 : Nat) "FilingChainsModel" "token" "I") ∈ lw_all := lw_g (lw_at lw_m11 147 rfl) rfl
theorem q2711 : (Jvm.Cond.fieldLink "FilingChainsModel" (134 : Nat) "FilingChainsModel" "value" "I") ∈ lw_all := lw_g (lw_at lw_m11 148 rfl) rfl
theorem q2712 : (Jvm.Cond.fieldLink "FilingChainsModel" (137 : Nat) "FilingChainsModel" "bad" "I") ∈ lw_all := lw_g (lw_at lw_m11 149 rfl) rfl
theorem q2713 : (Jvm.Cond.fieldLink "FilingChainsModel" (140 : Nat) "FilingChainsModel" "badPlace" "I") ∈ lw_all := lw_g (lw_at lw_m11 150 rfl) rfl
theorem q2714 : (Jvm.Cond.fieldLink "FilingChainsModel" (147 : Nat) "FilingChainsModel" "gotPlace" "I") ∈ lw_all := lw_g (lw_at lw_m11 151 rfl) rfl
theorem q2715 : (Jvm.Cond.fieldLink "FilingChainsModel" (190 : Nat) "FilingChainsModel" "onces" "I") ∈ lw_all := lw_g (lw_at lw_m11 152 rfl) rfl
theorem q2716 : (Jvm.Cond.fieldLink "FilingChainsModel" (250 : Nat) "FilingChainsModel" "lastFault" "I") ∈ lw_all := lw_g (lw_at lw_m11 153 rfl) rfl
theorem q2717 : (Jvm.Cond.fieldLink "FilingChainsModel" (35 : Nat) "FilingChainsModel" "lastPlace" "I") ∈ lw_all := lw_g (lw_at lw_m11 154 rfl) rfl
theorem q2718 : (Jvm.Cond.fieldLink "FilingChainsModel" (126 : Nat) "FilingChainsModel" "word" "J") ∈ lw_all := lw_g (lw_at lw_m11 155 rfl) rfl
theorem q2719 : (Jvm.Cond.fieldLink "FilingChainsModel" (39 : Nat) "FilingChainsModel" "counts" "[Z") ∈ lw_all := lw_g (lw_at lw_m11 156 rfl) rfl
theorem q2720 : (Jvm.Cond.fieldLink "FilingChainsModel" (43 : Nat) "FilingChainsModel" "far" "[I") ∈ lw_all := lw_g (lw_at lw_m11 157 rfl) rfl
theorem q2721 : (Jvm.Cond.fieldLink "FilingChainsModel" (46 : Nat) "FilingChainsModel" "queue" "[I") ∈ lw_all := lw_g (lw_at lw_m11 158 rfl) rfl
theorem q2722 : (Jvm.Cond.fieldLink "FilingChainsModel" (49 : Nat) "FilingChainsModel" "wayLink" "[I") ∈ lw_all := lw_g (lw_at lw_m11 159 rfl) rfl
theorem q2723 : (Jvm.Cond.fieldLink "FilingChainsModel" (52 : Nat) "FilingChainsModel" "left" "[I") ∈ lw_all := lw_g (lw_at lw_m11 160 rfl) rfl
theorem q2724 : (Jvm.Cond.fieldLink "FilingChainsModel" (353 : Nat) "FilingChainsModel" "wayMany" "I") ∈ lw_all := lw_g (lw_at lw_m11 161 rfl) rfl
theorem q2725 : (Jvm.Cond.fieldLink "FilingChainsModel" (55 : Nat) "FilingChainsModel" "dates" "[I") ∈ lw_all := lw_g (lw_at lw_m11 162 rfl) rfl
theorem q2726 : (Jvm.Cond.fieldLink "FilingChainsModel" (58 : Nat) "FilingChainsModel" "openDate" "[I") ∈ lw_all := lw_g (lw_at lw_m11 163 rfl) rfl
theorem q2727 : (Jvm.Cond.fieldLink "FilingChainsModel" (395 : Nat) "FilingChainsModel" "barSort" "I") ∈ lw_all := lw_g (lw_at lw_m11 164 rfl) rfl
theorem q2728 : (Jvm.Cond.fieldLink "FilingChainsModel" (398 : Nat) "FilingChainsModel" "barFirst" "I") ∈ lw_all := lw_g (lw_at lw_m11 165 rfl) rfl
theorem q2729 : (Jvm.Cond.fieldLink "FilingChainsModel" (401 : Nat) "FilingChainsModel" "barSecond" "I") ∈ lw_all := lw_g (lw_at lw_m11 166 rfl) rfl
theorem q2730 : (Jvm.Cond.fieldLink "FilingChainsModel" (61 : Nat) "FilingChainsModel" "barsWith" "[I") ∈ lw_all := lw_g (lw_at lw_m11 167 rfl) rfl
theorem q2731 : (Jvm.Cond.fieldLink "FilingChainsModel" (64 : Nat) "FilingChainsModel" "stepsTo" "[I") ∈ lw_all := lw_g (lw_at lw_m11 168 rfl) rfl
theorem q2732 : (Jvm.Cond.fieldLink "FilingChainsModel" (67 : Nat) "FilingChainsModel" "row" "[I") ∈ lw_all := lw_g (lw_at lw_m11 169 rfl) rfl
theorem q2733 : (Jvm.Cond.fieldLink "FilingChainsModel" (70 : Nat) "FilingChainsModel" "tried" "[I") ∈ lw_all := lw_g (lw_at lw_m11 170 rfl) rfl
theorem q2734 : (Jvm.Cond.fieldLink "FilingChainsModel" (73 : Nat) "FilingChainsModel" "written" "[I") ∈ lw_all := lw_g (lw_at lw_m11 171 rfl) rfl
theorem q2735 : (Jvm.Cond.fieldLink "FilingChainsModel" (455 : Nat) "FilingChainsModel" "writtenMany" "I") ∈ lw_all := lw_g (lw_at lw_m11 172 rfl) rfl
theorem q2736 : (Jvm.Cond.fieldLink "FilingChainsModel" (253 : Nat) "FilingChainsModel" "acts" "I") ∈ lw_all := lw_g (lw_at lw_m11 173 rfl) rfl
theorem q2737 : (Jvm.Cond.laysFinal "FilingChainsModel" "FilingChainsModel" "fresh" "[I") ∈ lw_all := lw_g (lw_at lw_m11 174 rfl) rfl
theorem q2738 : (Jvm.Cond.soleField "FilingChainsModel" "fresh") ∈ lw_all := lw_g (lw_at lw_m11 175 rfl) rfl
theorem q2739 : (Jvm.Cond.laysFinal "FilingChainsModel" "FilingChainsModel" "now" "[I") ∈ lw_all := lw_g (lw_at lw_m11 176 rfl) rfl
theorem q2740 : (Jvm.Cond.soleField "FilingChainsModel" "now") ∈ lw_all := lw_g (lw_at lw_m11 177 rfl) rfl
theorem q2741 : (Jvm.Cond.laysFinal "FilingChainsModel" "FilingChainsModel" "kept" "[I") ∈ lw_all := lw_g (lw_at lw_m11 178 rfl) rfl
theorem q2742 : (Jvm.Cond.soleField "FilingChainsModel" "kept") ∈ lw_all := lw_g (lw_at lw_m11 179 rfl) rfl
theorem q2743 : (Jvm.Cond.laysFinal "FilingChainsModel" "FilingChainsModel" "freshFix" "[I") ∈ lw_all := lw_g (lw_at lw_m11 180 rfl) rfl
theorem q2744 : (Jvm.Cond.soleField "FilingChainsModel" "freshFix") ∈ lw_all := lw_g (lw_at lw_m11 181 rfl) rfl
theorem q2745 : (Jvm.Cond.laysFinal "FilingChainsModel" "FilingChainsModel" "fix" "[I") ∈ lw_all := lw_g (lw_at lw_m11 182 rfl) rfl
theorem q2746 : (Jvm.Cond.soleField "FilingChainsModel" "fix") ∈ lw_all := lw_g (lw_at lw_m11 183 rfl) rfl
theorem q2747 : (Jvm.Cond.laysFinal "FilingChainsModel" "FilingChainsModel" "freshName" "[J") ∈ lw_all := lw_g (lw_at lw_m11 184 rfl) rfl
theorem q2748 : (Jvm.Cond.soleField "FilingChainsModel" "freshName") ∈ lw_all := lw_g (lw_at lw_m11 185 rfl) rfl
theorem q2749 : (Jvm.Cond.laysFinal "FilingChainsModel" "FilingChainsModel" "nameOf" "[J") ∈ lw_all := lw_g (lw_at lw_m11 186 rfl) rfl
theorem q2750 : (Jvm.Cond.soleField "FilingChainsModel" "nameOf") ∈ lw_all := lw_g (lw_at lw_m11 187 rfl) rfl
theorem q2751 : (Jvm.Cond.laysFinal "FilingChainsModel" "FilingChainsModel" "tape" "[I") ∈ lw_all := lw_g (lw_at lw_m11 188 rfl) rfl
theorem q2752 : (Jvm.Cond.soleField "FilingChainsModel" "tape") ∈ lw_all := lw_g (lw_at lw_m11 189 rfl) rfl
theorem q2753 : (Jvm.Cond.lays "FilingChainsModel" "FilingChainsModel" "taped" "I") ∈ lw_all := lw_g (lw_at lw_m11 190 rfl) rfl
theorem q2754 : (Jvm.Cond.soleField "FilingChainsModel" "taped") ∈ lw_all := lw_g (lw_at lw_m11 191 rfl) rfl
theorem q2755 : (Jvm.Cond.lays "FilingChainsModel" "FilingChainsModel" "size" "I") ∈ lw_all := lw_g (lw_at lw_m11 192 rfl) rfl
theorem q2756 : (Jvm.Cond.soleField "FilingChainsModel" "size") ∈ lw_all := lw_g (lw_at lw_m11 193 rfl) rfl
theorem q2757 : (Jvm.Cond.lays "FilingChainsModel" "FilingChainsModel" "at" "I") ∈ lw_all := lw_g (lw_at lw_m11 194 rfl) rfl
theorem q2758 : (Jvm.Cond.soleField "FilingChainsModel" "at") ∈ lw_all := lw_g (lw_at lw_m11 195 rfl) rfl
theorem q2759 : (Jvm.Cond.lays "FilingChainsModel" "FilingChainsModel" "place" "I") ∈ lw_all := lw_g (lw_at lw_m11 196 rfl) rfl
theorem q2760 : (Jvm.Cond.soleField "FilingChainsModel" "place") ∈ lw_all := lw_g (lw_at lw_m11 197 rfl) rfl
theorem q2761 : (Jvm.Cond.lays "FilingChainsModel" "FilingChainsModel" "token" "I") ∈ lw_all := lw_g (lw_at lw_m11 198 rfl) rfl
theorem q2762 : (Jvm.Cond.soleField "FilingChainsModel" "token") ∈ lw_all := lw_g (lw_at lw_m11 199 rfl) rfl
theorem q2763 : (Jvm.Cond.lays "FilingChainsModel" "FilingChainsModel" "value" "I") ∈ lw_all := lw_g (lw_at lw_m11 200 rfl) rfl
theorem q2764 : (Jvm.Cond.soleField "FilingChainsModel" "value") ∈ lw_all := lw_g (lw_at lw_m11 201 rfl) rfl
theorem q2765 : (Jvm.Cond.lays "FilingChainsModel" "FilingChainsModel" "bad" "I") ∈ lw_all := lw_g (lw_at lw_m11 202 rfl) rfl
theorem q2766 : (Jvm.Cond.soleField "FilingChainsModel" "bad") ∈ lw_all := lw_g (lw_at lw_m11 203 rfl) rfl
theorem q2767 : (Jvm.Cond.lays "FilingChainsModel" "FilingChainsModel" "badPlace" "I") ∈ lw_all := lw_g (lw_at lw_m11 204 rfl) rfl
theorem q2768 : (Jvm.Cond.soleField "FilingChainsModel" "badPlace") ∈ lw_all := lw_g (lw_at lw_m11 205 rfl) rfl
theorem q2769 : (Jvm.Cond.lays "FilingChainsModel" "FilingChainsModel" "gotPlace" "I") ∈ lw_all := lw_g (lw_at lw_m11 206 rfl) rfl
theorem q2770 : (Jvm.Cond.soleField "FilingChainsModel" "gotPlace") ∈ lw_all := lw_g (lw_at lw_m11 207 rfl) rfl
theorem q2771 : (Jvm.Cond.lays "FilingChainsModel" "FilingChainsModel" "onces" "I") ∈ lw_all := lw_g (lw_at lw_m11 208 rfl) rfl
theorem q2772 : (Jvm.Cond.soleField "FilingChainsModel" "onces") ∈ lw_all := lw_g (lw_at lw_m11 209 rfl) rfl
theorem q2773 : (Jvm.Cond.lays "FilingChainsModel" "FilingChainsModel" "lastFault" "I") ∈ lw_all := lw_g (lw_at lw_m11 210 rfl) rfl
theorem q2774 : (Jvm.Cond.soleField "FilingChainsModel" "lastFault") ∈ lw_all := lw_g (lw_at lw_m11 211 rfl) rfl
theorem q2775 : (Jvm.Cond.lays "FilingChainsModel" "FilingChainsModel" "lastPlace" "I") ∈ lw_all := lw_g (lw_at lw_m11 212 rfl) rfl
theorem q2776 : (Jvm.Cond.soleField "FilingChainsModel" "lastPlace") ∈ lw_all := lw_g (lw_at lw_m11 213 rfl) rfl
theorem q2777 : (Jvm.Cond.lays "FilingChainsModel" "FilingChainsModel" "word" "J") ∈ lw_all := lw_g (lw_at lw_m11 214 rfl) rfl
theorem q2778 : (Jvm.Cond.soleField "FilingChainsModel" "word") ∈ lw_all := lw_g (lw_at lw_m11 215 rfl) rfl
theorem q2779 : (Jvm.Cond.laysFinal "FilingChainsModel" "FilingChainsModel" "counts" "[Z") ∈ lw_all := lw_g (lw_at lw_m11 216 rfl) rfl
theorem q2780 : (Jvm.Cond.soleField "FilingChainsModel" "counts") ∈ lw_all := lw_g (lw_at lw_m11 217 rfl) rfl
theorem q2781 : (Jvm.Cond.laysFinal "FilingChainsModel" "FilingChainsModel" "far" "[I") ∈ lw_all := lw_g (lw_at lw_m11 218 rfl) rfl
theorem q2782 : (Jvm.Cond.soleField "FilingChainsModel" "far") ∈ lw_all := lw_g (lw_at lw_m11 219 rfl) rfl
theorem q2783 : (Jvm.Cond.laysFinal "FilingChainsModel" "FilingChainsModel" "queue" "[I") ∈ lw_all := lw_g (lw_at lw_m11 220 rfl) rfl
theorem q2784 : (Jvm.Cond.soleField "FilingChainsModel" "queue") ∈ lw_all := lw_g (lw_at lw_m11 221 rfl) rfl
theorem q2785 : (Jvm.Cond.laysFinal "FilingChainsModel" "FilingChainsModel" "wayLink" "[I") ∈ lw_all := lw_g (lw_at lw_m11 222 rfl) rfl
theorem q2786 : (Jvm.Cond.soleField "FilingChainsModel" "wayLink") ∈ lw_all := lw_g (lw_at lw_m11 223 rfl) rfl
theorem q2787 : (Jvm.Cond.laysFinal "FilingChainsModel" "FilingChainsModel" "left" "[I") ∈ lw_all := lw_g (lw_at lw_m11 224 rfl) rfl
theorem q2788 : (Jvm.Cond.soleField "FilingChainsModel" "left") ∈ lw_all := lw_g (lw_at lw_m11 225 rfl) rfl
theorem q2789 : (Jvm.Cond.lays "FilingChainsModel" "FilingChainsModel" "wayMany" "I") ∈ lw_all := lw_g (lw_at lw_m11 226 rfl) rfl
theorem q2790 : (Jvm.Cond.soleField "FilingChainsModel" "wayMany") ∈ lw_all := lw_g (lw_at lw_m11 227 rfl) rfl
theorem q2791 : (Jvm.Cond.laysFinal "FilingChainsModel" "FilingChainsModel" "dates" "[I") ∈ lw_all := lw_g (lw_at lw_m11 228 rfl) rfl
theorem q2792 : (Jvm.Cond.soleField "FilingChainsModel" "dates") ∈ lw_all := lw_g (lw_at lw_m11 229 rfl) rfl
theorem q2793 : (Jvm.Cond.laysFinal "FilingChainsModel" "FilingChainsModel" "openDate" "[I") ∈ lw_all := lw_g (lw_at lw_m11 230 rfl) rfl
theorem q2794 : (Jvm.Cond.soleField "FilingChainsModel" "openDate") ∈ lw_all := lw_g (lw_at lw_m11 231 rfl) rfl
theorem q2795 : (Jvm.Cond.lays "FilingChainsModel" "FilingChainsModel" "barSort" "I") ∈ lw_all := lw_g (lw_at lw_m11 232 rfl) rfl
theorem q2796 : (Jvm.Cond.soleField "FilingChainsModel" "barSort") ∈ lw_all := lw_g (lw_at lw_m11 233 rfl) rfl
theorem q2797 : (Jvm.Cond.lays "FilingChainsModel" "FilingChainsModel" "barFirst" "I") ∈ lw_all := lw_g (lw_at lw_m11 234 rfl) rfl
theorem q2798 : (Jvm.Cond.soleField "FilingChainsModel" "barFirst") ∈ lw_all := lw_g (lw_at lw_m11 235 rfl) rfl
theorem q2799 : (Jvm.Cond.lays "FilingChainsModel" "FilingChainsModel" "barSecond" "I") ∈ lw_all := lw_g (lw_at lw_m11 236 rfl) rfl
theorem q2800 : (Jvm.Cond.soleField "FilingChainsModel" "barSecond") ∈ lw_all := lw_g (lw_at lw_m11 237 rfl) rfl
theorem q2801 : (Jvm.Cond.laysFinal "FilingChainsModel" "FilingChainsModel" "barsWith" "[I") ∈ lw_all := lw_g (lw_at lw_m11 238 rfl) rfl
theorem q2802 : (Jvm.Cond.soleField "FilingChainsModel" "barsWith") ∈ lw_all := lw_g (lw_at lw_m11 239 rfl) rfl
theorem q2803 : (Jvm.Cond.laysFinal "FilingChainsModel" "FilingChainsModel" "stepsTo" "[I") ∈ lw_all := lw_g (lw_at lw_m12 0 rfl) rfl
theorem q2804 : (Jvm.Cond.soleField "FilingChainsModel" "stepsTo") ∈ lw_all := lw_g (lw_at lw_m12 1 rfl) rfl
theorem q2805 : (Jvm.Cond.laysFinal "FilingChainsModel" "FilingChainsModel" "row" "[I") ∈ lw_all := lw_g (lw_at lw_m12 2 rfl) rfl
theorem q2806 : (Jvm.Cond.soleField "FilingChainsModel" "row") ∈ lw_all := lw_g (lw_at lw_m12 3 rfl) rfl
theorem q2807 : (Jvm.Cond.laysFinal "FilingChainsModel" "FilingChainsModel" "tried" "[I") ∈ lw_all := lw_g (lw_at lw_m12 4 rfl) rfl
theorem q2808 : (Jvm.Cond.soleField "FilingChainsModel" "tried") ∈ lw_all := lw_g (lw_at lw_m12 5 rfl) rfl
theorem q2809 : (Jvm.Cond.laysFinal "FilingChainsModel" "FilingChainsModel" "written" "[I") ∈ lw_all := lw_g (lw_at lw_m12 6 rfl) rfl
theorem q2810 : (Jvm.Cond.soleField "FilingChainsModel" "written") ∈ lw_all := lw_g (lw_at lw_m12 7 rfl) rfl
theorem q2811 : (Jvm.Cond.lays "FilingChainsModel" "FilingChainsModel" "writtenMany" "I") ∈ lw_all := lw_g (lw_at lw_m12 8 rfl) rfl
theorem q2812 : (Jvm.Cond.soleField "FilingChainsModel" "writtenMany") ∈ lw_all := lw_g (lw_at lw_m12 9 rfl) rfl
theorem q2813 : (Jvm.Cond.lays "FilingChainsModel" "FilingChainsModel" "acts" "I") ∈ lw_all := lw_g (lw_at lw_m12 10 rfl) rfl
theorem q2814 : (Jvm.Cond.soleField "FilingChainsModel" "acts") ∈ lw_all := lw_g (lw_at lw_m12 11 rfl) rfl
theorem q2815 : (Jvm.Cond.superclass "FilingChainsModel" "java/lang/Object") ∈ lw_all := lw_g (lw_at lw_m12 12 rfl) rfl
theorem q2818 : (Jvm.Cond.instanceMethod ({ cls := "FilingChainsModel", name := "feed", desc := "(IIIII)I" } : Jvm.MethodName)) ∈ lw_all := lw_g (lw_at lw_m12 15 rfl) rfl
theorem q2819 : (Jvm.Cond.selects "FilingChainsModel" ({ cls := "FilingChainsModel", name := "feed", desc := "(IIIII)I" } : Jvm.MethodName) ({ cls := "FilingChainsModel", name := "feed", desc := "(IIIII)I" } : Jvm.MethodName)) ∈ lw_all := lw_g (lw_at lw_m12 16 rfl) rfl
theorem q2820 : (Jvm.Cond.code ({ cls := "FilingChainsModel", name := "feed", desc := "(IIIII)I" } : Jvm.MethodName) prog_12_method_5_code (6 : Nat) (Option.some Jvm.ClassFile.FieldType.int)) ∈ lw_all := lw_g (lw_at lw_m12 17 rfl) rfl
theorem q2821 : (Jvm.Cond.methodLink "FilingChainsModel" (89 : Nat) ({ cls := "FilingChainsModel", name := "four", desc := "(I)V" } : Jvm.MethodName)) ∈ lw_all := lw_g (lw_at lw_m12 18 rfl) rfl
theorem q2822 : (Jvm.Cond.privateMethod ({ cls := "FilingChainsModel", name := "four", desc := "(I)V" } : Jvm.MethodName)) ∈ lw_tbl := lw_at lw_m12 19 rfl
theorem q2823 : (Jvm.Cond.instanceMethod ({ cls := "FilingChainsModel", name := "four", desc := "(I)V" } : Jvm.MethodName)) ∈ lw_all := lw_g (lw_at lw_m12 20 rfl) rfl
theorem q2824 : (Jvm.Cond.code ({ cls := "FilingChainsModel", name := "four", desc := "(I)V" } : Jvm.MethodName) prog_12_method_6_code (3 : Nat) (Option.none : Option Jvm.ClassFile.FieldType)) ∈ lw_all := lw_g (lw_at lw_m12 21 rfl) rfl
theorem q2826 : (Jvm.Cond.instanceMethod ({ cls := "FilingChainsModel", name := "text", desc := "(I)I" } : Jvm.MethodName)) ∈ lw_all := lw_g (lw_at lw_m12 23 rfl) rfl
theorem q2827 : (Jvm.Cond.selects "FilingChainsModel" ({ cls := "FilingChainsModel", name := "text", desc := "(I)I" } : Jvm.MethodName) ({ cls := "FilingChainsModel", name := "text", desc := "(I)I" } : Jvm.MethodName)) ∈ lw_all := lw_g (lw_at lw_m12 24 rfl) rfl
theorem q2828 : (Jvm.Cond.code ({ cls := "FilingChainsModel", name := "text", desc := "(I)I" } : Jvm.MethodName) prog_12_method_36_code (2 : Nat) (Option.some Jvm.ClassFile.FieldType.int)) ∈ lw_all := lw_g (lw_at lw_m12 25 rfl) rfl
theorem q2829 : (Jvm.Cond.methodLink "FilingChainsModel" (150 : Nat) ({ cls := "FilingChainsModel", name := "goOn", desc := "()V" } : Jvm.MethodName)) ∈ lw_all := lw_g (lw_at lw_m12 26 rfl) rfl
theorem q2830 : (Jvm.Cond.privateMethod ({ cls := "FilingChainsModel", name := "goOn", desc := "()V" } : Jvm.MethodName)) ∈ lw_tbl := lw_at lw_m12 27 rfl
theorem q2831 : (Jvm.Cond.instanceMethod ({ cls := "FilingChainsModel", name := "goOn", desc := "()V" } : Jvm.MethodName)) ∈ lw_all := lw_g (lw_at lw_m12 28 rfl) rfl
theorem q2832 : (Jvm.Cond.code ({ cls := "FilingChainsModel", name := "goOn", desc := "()V" } : Jvm.MethodName) prog_12_method_10_code (2 : Nat) (Option.none : Option Jvm.ClassFile.FieldType)) ∈ lw_all := lw_g (lw_at lw_m12 29 rfl) rfl
theorem q2833 : (Jvm.Cond.methodLink "FilingChainsModel" (103 : Nat) ({ cls := "FilingChainsModel", name := "byteAt", desc := "(I)I" } : Jvm.MethodName)) ∈ lw_all := lw_g (lw_at lw_m12 30 rfl) rfl
theorem q2834 : (Jvm.Cond.privateMethod ({ cls := "FilingChainsModel", name := "byteAt", desc := "(I)I" } : Jvm.MethodName)) ∈ lw_tbl := lw_at lw_m12 31 rfl
theorem q2835 : (Jvm.Cond.instanceMethod ({ cls := "FilingChainsModel", name := "byteAt", desc := "(I)I" } : Jvm.MethodName)) ∈ lw_all := lw_g (lw_at lw_m12 32 rfl) rfl
theorem q2836 : (Jvm.Cond.code ({ cls := "FilingChainsModel", name := "byteAt", desc := "(I)I" } : Jvm.MethodName) prog_12_method_9_code (2 : Nat) (Option.some Jvm.ClassFile.FieldType.int)) ∈ lw_all := lw_g (lw_at lw_m12 33 rfl) rfl
theorem q2837 : (Jvm.Cond.methodLink "FilingChainsModel" (113 : Nat) ({ cls := "FilingChainsModel", name := "isLetter", desc := "(I)Z" } : Jvm.MethodName)) ∈ lw_all := lw_g (lw_at lw_m12 34 rfl) rfl
theorem q2838 : (Jvm.Cond.static ({ cls := "FilingChainsModel", name := "isLetter", desc := "(I)Z" } : Jvm.MethodName)) ∈ lw_all := lw_g (lw_at lw_m12 35 rfl) rfl
theorem q2839 : (Jvm.Cond.code ({ cls := "FilingChainsModel", name := "isLetter", desc := "(I)Z" } : Jvm.MethodName) prog_12_method_7_code (1 : Nat) (Option.some Jvm.ClassFile.FieldType.boolean)) ∈ lw_all := lw_g (lw_at lw_m12 36 rfl) rfl
theorem q2840 : (Jvm.Cond.methodLink "FilingChainsModel" (93 : Nat) ({ cls := "FilingChainsModel", name := "in", desc := "(III)Z" } : Jvm.MethodName)) ∈ lw_all := lw_g (lw_at lw_m12 37 rfl) rfl
theorem q2841 : (Jvm.Cond.static ({ cls := "FilingChainsModel", name := "in", desc := "(III)Z" } : Jvm.MethodName)) ∈ lw_all := lw_g (lw_at lw_m12 38 rfl) rfl
theorem q2842 : (Jvm.Cond.code ({ cls := "FilingChainsModel", name := "in", desc := "(III)Z" } : Jvm.MethodName) prog_12_method_2_code (3 : Nat) (Option.some Jvm.ClassFile.FieldType.boolean)) ∈ lw_all := lw_g (lw_at lw_m12 39 rfl) rfl
theorem q2843 : (Jvm.Cond.methodLink "FilingChainsModel" (117 : Nat) ({ cls := "FilingChainsModel", name := "letters", desc := "()V" } : Jvm.MethodName)) ∈ lw_all := lw_g (lw_at lw_m12 40 rfl) rfl
theorem q2844 : (Jvm.Cond.privateMethod ({ cls := "FilingChainsModel", name := "letters", desc := "()V" } : Jvm.MethodName)) ∈ lw_tbl := lw_at lw_m12 41 rfl
theorem q2845 : (Jvm.Cond.instanceMethod ({ cls := "FilingChainsModel", name := "letters", desc := "()V" } : Jvm.MethodName)) ∈ lw_all := lw_g (lw_at lw_m12 42 rfl) rfl
theorem q2846 : (Jvm.Cond.code ({ cls := "FilingChainsModel", name := "letters", desc := "()V" } : Jvm.MethodName) prog_12_method_11_code (3 : Nat) (Option.none : Option Jvm.ClassFile.FieldType)) ∈ lw_all := lw_g (lw_at lw_m12 43 rfl) rfl
theorem q2847 : (Jvm.Cond.methodLink "FilingChainsModel" (120 : Nat) ({ cls := "FilingChainsModel", name := "isDigit", desc := "(I)Z" } : Jvm.MethodName)) ∈ lw_all := lw_g (lw_at lw_m12 44 rfl) rfl
theorem q2848 : (Jvm.Cond.static ({ cls := "FilingChainsModel", name := "isDigit", desc := "(I)Z" } : Jvm.MethodName)) ∈ lw_all := lw_g (lw_at lw_m12 45 rfl) rfl
theorem q2849 : (Jvm.Cond.code ({ cls := "FilingChainsModel", name := "isDigit", desc := "(I)Z" } : Jvm.MethodName) prog_12_method_8_code (1 : Nat) (Option.some Jvm.ClassFile.FieldType.boolean)) ∈ lw_all := lw_g (lw_at lw_m12 46 rfl) rfl
theorem q2850 : (Jvm.Cond.constantLong "FilingChainsModel" (130 : Nat) (32 : Int64)) ∈ lw_all := lw_g (lw_at lw_m12 47 rfl) rfl
theorem q2851 : (Jvm.Cond.constantLong "FilingChainsModel" (132 : Nat) (96 : Int64)) ∈ lw_all := lw_g (lw_at lw_m12 48 rfl) rfl
theorem q2852 : (Jvm.Cond.methodLink "FilingChainsModel" (123 : Nat) ({ cls := "FilingChainsModel", name := "digits", desc := "()V" } : Jvm.MethodName)) ∈ lw_all := lw_g (lw_at lw_m12 49 rfl) rfl
theorem q2853 : (Jvm.Cond.privateMethod ({ cls := "FilingChainsModel", name := "digits", desc := "()V" } : Jvm.MethodName)) ∈ lw_tbl := lw_at lw_m12 50 rfl
theorem q2854 : (Jvm.Cond.instanceMethod ({ cls := "FilingChainsModel", name := "digits", desc := "()V" } : Jvm.MethodName)) ∈ lw_all := lw_g (lw_at lw_m12 51 rfl) rfl
theorem q2855 : (Jvm.Cond.code ({ cls := "FilingChainsModel", name := "digits", desc := "()V" } : Jvm.MethodName) prog_12_method_12_code (3 : Nat) (Option.none : Option Jvm.ClassFile.FieldType)) ∈ lw_all := lw_g (lw_at lw_m12 52 rfl) rfl
theorem q2856 : (Jvm.Cond.methodLink "FilingChainsModel" (247 : Nat) ({ cls := "FilingChainsModel", name := "line", desc := "()V" } : Jvm.MethodName)) ∈ lw_all := lw_g (lw_at lw_m12 53 rfl) rfl
theorem q2857 : (Jvm.Cond.privateMethod ({ cls := "FilingChainsModel", name := "line", desc := "()V" } : Jvm.MethodName)) ∈ lw_tbl := lw_at lw_m12 54 rfl
theorem q2858 : (Jvm.Cond.instanceMethod ({ cls := "FilingChainsModel", name := "line", desc := "()V" } : Jvm.MethodName)) ∈ lw_all := lw_g (lw_at lw_m12 55 rfl) rfl
theorem q2859 : (Jvm.Cond.code ({ cls := "FilingChainsModel", name := "line", desc := "()V" } : Jvm.MethodName) prog_12_method_35_code (2 : Nat) (Option.none : Option Jvm.ClassFile.FieldType)) ∈ lw_all := lw_g (lw_at lw_m12 56 rfl) rfl
theorem q2860 : (Jvm.Cond.methodLink "FilingChainsModel" (183 : Nat) ({ cls := "FilingChainsModel", name := "key", desc := "()I" } : Jvm.MethodName)) ∈ lw_all := lw_g (lw_at lw_m12 57 rfl) rfl
theorem q2861 : (Jvm.Cond.privateMethod ({ cls := "FilingChainsModel", name := "key", desc := "()I" } : Jvm.MethodName)) ∈ lw_tbl := lw_at lw_m12 58 rfl
theorem q2862 : (Jvm.Cond.instanceMethod ({ cls := "FilingChainsModel", name := "key", desc := "()I" } : Jvm.MethodName)) ∈ lw_all := lw_g (lw_at lw_m12 59 rfl) rfl
theorem q2863 : (Jvm.Cond.code ({ cls := "FilingChainsModel", name := "key", desc := "()I" } : Jvm.MethodName) prog_12_method_15_code (1 : Nat) (Option.some Jvm.ClassFile.FieldType.int)) ∈ lw_all := lw_g (lw_at lw_m12 60 rfl) rfl
theorem q2864 : (Jvm.Cond.constantLong "FilingChainsModel" (153 : Nat) (661069 : Int64)) ∈ lw_all := lw_g (lw_at lw_m12 61 rfl) rfl
theorem q2865 : (Jvm.Cond.constantLong "FilingChainsModel" (155 : Nat) (7930981 : Int64)) ∈ lw_all := lw_g (lw_at lw_m12 62 rfl) rfl
theorem q2866 : (Jvm.Cond.constantLong "FilingChainsModel" (157 : Nat) (20190598 : Int64)) ∈ lw_all := lw_g (lw_at lw_m12 63 rfl) rfl
theorem q2867 : (Jvm.Cond.constantLong "FilingChainsModel" (159 : Nat) (402629 : Int64)) ∈ lw_all := lw_g (lw_at lw_m12 64 rfl) rfl
theorem q2868 : (Jvm.Cond.constantLong "FilingChainsModel" (161 : Nat) (525908 : Int64)) ∈ lw_all := lw_g (lw_at lw_m12 65 rfl) rfl
theorem q2869 : (Jvm.Cond.constantLong "FilingChainsModel" (163 : Nat) (6598834 : Int64)) ∈ lw_all := lw_g (lw_at lw_m12 66 rfl) rfl
theorem q2870 : (Jvm.Cond.constantLong "FilingChainsModel" (165 : Nat) (211166663 : Int64)) ∈ lw_all := lw_g (lw_at lw_m12 67 rfl) rfl
theorem q2871 : (Jvm.Cond.constantLong "FilingChainsModel" (167 : Nat) (37011 : Int64)) ∈ lw_all := lw_g (lw_at lw_m12 68 rfl) rfl
theorem q2872 : (Jvm.Cond.constantLong "FilingChainsModel" (169 : Nat) (215533 : Int64)) ∈ lw_all := lw_g (lw_at lw_m12 69 rfl) rfl
theorem q2873 : (Jvm.Cond.constantLong "FilingChainsModel" (171 : Nat) (244915 : Int64)) ∈ lw_all := lw_g (lw_at lw_m12 70 rfl) rfl
theorem q2874 : (Jvm.Cond.constantLong "FilingChainsModel" (173 : Nat) (178323 : Int64)) ∈ lw_all := lw_g (lw_at lw_m12 71 rfl) rfl
theorem q2875 : (Jvm.Cond.constantLong "FilingChainsModel" (175 : Nat) (3540269 : Int64)) ∈ lw_all := lw_g (lw_at lw_m12 72 rfl) rfl
theorem q2876 : (Jvm.Cond.constantLong "FilingChainsModel" (177 : Nat) (20201198 : Int64)) ∈ lw_all := lw_g (lw_at lw_m12 73 rfl) rfl
theorem q2877 : (Jvm.Cond.methodLink "FilingChainsModel" (222 : Nat) ({ cls := "FilingChainsModel", name := "nameLine", desc := "(III)V" } : Jvm.MethodName)) ∈ lw_all := lw_g (lw_at lw_m12 74 rfl) rfl
theorem q2878 : (Jvm.Cond.privateMethod ({ cls := "FilingChainsModel", name := "nameLine", desc := "(III)V" } : Jvm.MethodName)) ∈ lw_tbl := lw_at lw_m12 75 rfl
theorem q2879 : (Jvm.Cond.instanceMethod ({ cls := "FilingChainsModel", name := "nameLine", desc := "(III)V" } : Jvm.MethodName)) ∈ lw_all := lw_g (lw_at lw_m12 76 rfl) rfl
theorem q2880 : (Jvm.Cond.code ({ cls := "FilingChainsModel", name := "nameLine", desc := "(III)V" } : Jvm.MethodName) prog_12_method_23_code (5 : Nat) (Option.none : Option Jvm.ClassFile.FieldType)) ∈ lw_all := lw_g (lw_at lw_m12 77 rfl) rfl
theorem q2881 : (Jvm.Cond.methodLink "FilingChainsModel" (196 : Nat) ({ cls := "FilingChainsModel", name := "hasRoom", desc := "(II)Z" } : Jvm.MethodName)) ∈ lw_all := lw_g (lw_at lw_m12 78 rfl) rfl
theorem q2882 : (Jvm.Cond.privateMethod ({ cls := "FilingChainsModel", name := "hasRoom", desc := "(II)Z" } : Jvm.MethodName)) ∈ lw_tbl := lw_at lw_m12 79 rfl
theorem q2883 : (Jvm.Cond.instanceMethod ({ cls := "FilingChainsModel", name := "hasRoom", desc := "(II)Z" } : Jvm.MethodName)) ∈ lw_all := lw_g (lw_at lw_m12 80 rfl) rfl
theorem q2884 : (Jvm.Cond.code ({ cls := "FilingChainsModel", name := "hasRoom", desc := "(II)Z" } : Jvm.MethodName) prog_12_method_21_code (3 : Nat) (Option.some Jvm.ClassFile.FieldType.boolean)) ∈ lw_all := lw_g (lw_at lw_m12 81 rfl) rfl
theorem q2885 : (Jvm.Cond.methodLink "FilingChainsModel" (143 : Nat) ({ cls := "FilingChainsModel", name := "fail", desc := "(II)V" } : Jvm.MethodName)) ∈ lw_all := lw_g (lw_at lw_m12 82 rfl) rfl
theorem q2886 : (Jvm.Cond.privateMethod ({ cls := "FilingChainsModel", name := "fail", desc := "(II)V" } : Jvm.MethodName)) ∈ lw_tbl := lw_at lw_m12 83 rfl
theorem q2887 : (Jvm.Cond.instanceMethod ({ cls := "FilingChainsModel", name := "fail", desc := "(II)V" } : Jvm.MethodName)) ∈ lw_all := lw_g (lw_at lw_m12 84 rfl) rfl
theorem q2888 : (Jvm.Cond.code ({ cls := "FilingChainsModel", name := "fail", desc := "(II)V" } : Jvm.MethodName) prog_12_method_13_code (3 : Nat) (Option.none : Option Jvm.ClassFile.FieldType)) ∈ lw_all := lw_g (lw_at lw_m12 85 rfl) rfl
theorem q2889 : (Jvm.Cond.methodLink "FilingChainsModel" (199 : Nat) ({ cls := "FilingChainsModel", name := "given", desc := "(I)V" } : Jvm.MethodName)) ∈ lw_all := lw_g (lw_at lw_m12 86 rfl) rfl
theorem q2890 : (Jvm.Cond.privateMethod ({ cls := "FilingChainsModel", name := "given", desc := "(I)V" } : Jvm.MethodName)) ∈ lw_tbl := lw_at lw_m12 87 rfl
theorem q2891 : (Jvm.Cond.instanceMethod ({ cls := "FilingChainsModel", name := "given", desc := "(I)V" } : Jvm.MethodName)) ∈ lw_all := lw_g (lw_at lw_m12 88 rfl) rfl
theorem q2892 : (Jvm.Cond.code ({ cls := "FilingChainsModel", name := "given", desc := "(I)V" } : Jvm.MethodName) prog_12_method_18_code (2 : Nat) (Option.none : Option Jvm.ClassFile.FieldType)) ∈ lw_all := lw_g (lw_at lw_m12 89 rfl) rfl
theorem q2893 : (Jvm.Cond.methodLink "FilingChainsModel" (187 : Nat) ({ cls := "FilingChainsModel", name := "foundOf", desc := "(I)I" } : Jvm.MethodName)) ∈ lw_all := lw_g (lw_at lw_m12 90 rfl) rfl
theorem q2894 : (Jvm.Cond.privateMethod ({ cls := "FilingChainsModel", name := "foundOf", desc := "(I)I" } : Jvm.MethodName)) ∈ lw_tbl := lw_at lw_m12 91 rfl
theorem q2895 : (Jvm.Cond.instanceMethod ({ cls := "FilingChainsModel", name := "foundOf", desc := "(I)I" } : Jvm.MethodName)) ∈ lw_all := lw_g (lw_at lw_m12 92 rfl) rfl
theorem q2896 : (Jvm.Cond.code ({ cls := "FilingChainsModel", name := "foundOf", desc := "(I)I" } : Jvm.MethodName) prog_12_method_17_code (2 : Nat) (Option.some Jvm.ClassFile.FieldType.int)) ∈ lw_all := lw_g (lw_at lw_m12 93 rfl) rfl
theorem q2897 : (Jvm.Cond.methodLink "FilingChainsModel" (179 : Nat) ({ cls := "FilingChainsModel", name := "found", desc := "(II)I" } : Jvm.MethodName)) ∈ lw_all := lw_g (lw_at lw_m12 94 rfl) rfl
theorem q2898 : (Jvm.Cond.privateMethod ({ cls := "FilingChainsModel", name := "found", desc := "(II)I" } : Jvm.MethodName)) ∈ lw_tbl := lw_at lw_m12 95 rfl
theorem q2899 : (Jvm.Cond.instanceMethod ({ cls := "FilingChainsModel", name := "found", desc := "(II)I" } : Jvm.MethodName)) ∈ lw_all := lw_g (lw_at lw_m12 96 rfl) rfl
theorem q2900 : (Jvm.Cond.code ({ cls := "FilingChainsModel", name := "found", desc := "(II)I" } : Jvm.MethodName) prog_12_method_16_code (4 : Nat) (Option.some Jvm.ClassFile.FieldType.int)) ∈ lw_all := lw_g (lw_at lw_m12 97 rfl) rfl
theorem q2901 : (Jvm.Cond.methodLink "FilingChainsModel" (226 : Nat) ({ cls := "FilingChainsModel", name := "filingLine", desc := "()V" } : Jvm.MethodName)) ∈ lw_all := lw_g (lw_at lw_m12 98 rfl) rfl
theorem q2902 : (Jvm.Cond.privateMethod ({ cls := "FilingChainsModel", name := "filingLine", desc := "()V" } : Jvm.MethodName)) ∈ lw_tbl := lw_at lw_m12 99 rfl
theorem q2903 : (Jvm.Cond.instanceMethod ({ cls := "FilingChainsModel", name := "filingLine", desc := "()V" } : Jvm.MethodName)) ∈ lw_all := lw_g (lw_at lw_m12 100 rfl) rfl
theorem q2904 : (Jvm.Cond.code ({ cls := "FilingChainsModel", name := "filingLine", desc := "()V" } : Jvm.MethodName) prog_12_method_26_code (4 : Nat) (Option.none : Option Jvm.ClassFile.FieldType)) ∈ lw_all := lw_g (lw_at lw_m12 101 rfl) rfl
theorem q2905 : (Jvm.Cond.methodLink "FilingChainsModel" (202 : Nat) ({ cls := "FilingChainsModel", name := "asked", desc := "(I)I" } : Jvm.MethodName)) ∈ lw_all := lw_g (lw_at lw_m12 102 rfl) rfl
theorem q2906 : (Jvm.Cond.privateMethod ({ cls := "FilingChainsModel", name := "asked", desc := "(I)I" } : Jvm.MethodName)) ∈ lw_tbl := lw_at lw_m12 103 rfl
theorem q2907 : (Jvm.Cond.instanceMethod ({ cls := "FilingChainsModel", name := "asked", desc := "(I)I" } : Jvm.MethodName)) ∈ lw_all := lw_g (lw_at lw_m12 104 rfl) rfl
theorem q2908 : (Jvm.Cond.code ({ cls := "FilingChainsModel", name := "asked", desc := "(I)I" } : Jvm.MethodName) prog_12_method_19_code (3 : Nat) (Option.some Jvm.ClassFile.FieldType.int)) ∈ lw_all := lw_g (lw_at lw_m12 105 rfl) rfl
theorem q2909 : (Jvm.Cond.methodLink "FilingChainsModel" (193 : Nat) ({ cls := "FilingChainsModel", name := "number", desc := "()I" } : Jvm.MethodName)) ∈ lw_all := lw_g (lw_at lw_m12 106 rfl) rfl
theorem q2910 : (Jvm.Cond.privateMethod ({ cls := "FilingChainsModel", name := "number", desc := "()I" } : Jvm.MethodName)) ∈ lw_tbl := lw_at lw_m12 107 rfl
theorem q2911 : (Jvm.Cond.instanceMethod ({ cls := "FilingChainsModel", name := "number", desc := "()I" } : Jvm.MethodName)) ∈ lw_all := lw_g (lw_at lw_m12 108 rfl) rfl
theorem q2912 : (Jvm.Cond.code ({ cls := "FilingChainsModel", name := "number", desc := "()I" } : Jvm.MethodName) prog_12_method_14_code (2 : Nat) (Option.some Jvm.ClassFile.FieldType.int)) ∈ lw_all := lw_g (lw_at lw_m12 109 rfl) rfl
theorem q2913 : (Jvm.Cond.methodLink "FilingChainsModel" (205 : Nat) ({ cls := "FilingChainsModel", name := "partsTold", desc := "(II)I" } : Jvm.MethodName)) ∈ lw_all := lw_g (lw_at lw_m12 110 rfl) rfl
theorem q2914 : (Jvm.Cond.privateMethod ({ cls := "FilingChainsModel", name := "partsTold", desc := "(II)I" } : Jvm.MethodName)) ∈ lw_tbl := lw_at lw_m12 111 rfl
theorem q2915 : (Jvm.Cond.instanceMethod ({ cls := "FilingChainsModel", name := "partsTold", desc := "(II)I" } : Jvm.MethodName)) ∈ lw_all := lw_g (lw_at lw_m12 112 rfl) rfl
theorem q2916 : (Jvm.Cond.code ({ cls := "FilingChainsModel", name := "partsTold", desc := "(II)I" } : Jvm.MethodName) prog_12_method_24_code (6 : Nat) (Option.some Jvm.ClassFile.FieldType.int)) ∈ lw_all := lw_g (lw_at lw_m12 113 rfl) rfl
theorem q2917 : (Jvm.Cond.methodLink "FilingChainsModel" (82 : Nat) ({ cls := "FilingChainsModel", name := "has", desc := "(II)Z" } : Jvm.MethodName)) ∈ lw_all := lw_g (lw_at lw_m12 114 rfl) rfl
theorem q2918 : (Jvm.Cond.static ({ cls := "FilingChainsModel", name := "has", desc := "(II)Z" } : Jvm.MethodName)) ∈ lw_all := lw_g (lw_at lw_m12 115 rfl) rfl
theorem q2919 : (Jvm.Cond.code ({ cls := "FilingChainsModel", name := "has", desc := "(II)Z" } : Jvm.MethodName) prog_12_method_3_code (2 : Nat) (Option.some Jvm.ClassFile.FieldType.boolean)) ∈ lw_all := lw_g (lw_at lw_m12 116 rfl) rfl
theorem q2920 : (Jvm.Cond.methodLink "FilingChainsModel" (229 : Nat) ({ cls := "FilingChainsModel", name := "addsLine", desc := "()V" } : Jvm.MethodName)) ∈ lw_all := lw_g (lw_at lw_m12 117 rfl) rfl
theorem q2921 : (Jvm.Cond.privateMethod ({ cls := "FilingChainsModel", name := "addsLine", desc := "()V" } : Jvm.MethodName)) ∈ lw_tbl := lw_at lw_m12 118 rfl
theorem q2922 : (Jvm.Cond.instanceMethod ({ cls := "FilingChainsModel", name := "addsLine", desc := "()V" } : Jvm.MethodName)) ∈ lw_all := lw_g (lw_at lw_m12 119 rfl) rfl
theorem q2923 : (Jvm.Cond.code ({ cls := "FilingChainsModel", name := "addsLine", desc := "()V" } : Jvm.MethodName) prog_12_method_27_code (5 : Nat) (Option.none : Option Jvm.ClassFile.FieldType)) ∈ lw_all := lw_g (lw_at lw_m12 120 rfl) rfl
theorem q2924 : (Jvm.Cond.methodLink "FilingChainsModel" (208 : Nat) ({ cls := "FilingChainsModel", name := "needsPart", desc := "(I)V" } : Jvm.MethodName)) ∈ lw_all := lw_g (lw_at lw_m12 121 rfl) rfl
theorem q2925 : (Jvm.Cond.privateMethod ({ cls := "FilingChainsModel", name := "needsPart", desc := "(I)V" } : Jvm.MethodName)) ∈ lw_tbl := lw_at lw_m12 122 rfl
theorem q2926 : (Jvm.Cond.instanceMethod ({ cls := "FilingChainsModel", name := "needsPart", desc := "(I)V" } : Jvm.MethodName)) ∈ lw_all := lw_g (lw_at lw_m12 123 rfl) rfl
theorem q2927 : (Jvm.Cond.code ({ cls := "FilingChainsModel", name := "needsPart", desc := "(I)V" } : Jvm.MethodName) prog_12_method_25_code (2 : Nat) (Option.none : Option Jvm.ClassFile.FieldType)) ∈ lw_all := lw_g (lw_at lw_m12 124 rfl) rfl
theorem q2928 : (Jvm.Cond.methodLink "FilingChainsModel" (232 : Nat) ({ cls := "FilingChainsModel", name := "linkLine", desc := "(I)V" } : Jvm.MethodName)) ∈ lw_all := lw_g (lw_at lw_m12 125 rfl) rfl
theorem q2929 : (Jvm.Cond.privateMethod ({ cls := "FilingChainsModel", name := "linkLine", desc := "(I)V" } : Jvm.MethodName)) ∈ lw_tbl := lw_at lw_m12 126 rfl
theorem q2930 : (Jvm.Cond.instanceMethod ({ cls := "FilingChainsModel", name := "linkLine", desc := "(I)V" } : Jvm.MethodName)) ∈ lw_all := lw_g (lw_at lw_m12 127 rfl) rfl
theorem q2931 : (Jvm.Cond.code ({ cls := "FilingChainsModel", name := "linkLine", desc := "(I)V" } : Jvm.MethodName) prog_12_method_30_code (4 : Nat) (Option.none : Option Jvm.ClassFile.FieldType)) ∈ lw_all := lw_g (lw_at lw_m12 128 rfl) rfl
theorem q2932 : (Jvm.Cond.methodLink "FilingChainsModel" (211 : Nat) ({ cls := "FilingChainsModel", name := "linkIn", desc := "([IIII)I" } : Jvm.MethodName)) ∈ lw_all := lw_g (lw_at lw_m12 129 rfl) rfl
theorem q2933 : (Jvm.Cond.static ({ cls := "FilingChainsModel", name := "linkIn", desc := "([IIII)I" } : Jvm.MethodName)) ∈ lw_all := lw_g (lw_at lw_m12 130 rfl) rfl
theorem q2934 : (Jvm.Cond.code ({ cls := "FilingChainsModel", name := "linkIn", desc := "([IIII)I" } : Jvm.MethodName) prog_12_method_28_code (6 : Nat) (Option.some Jvm.ClassFile.FieldType.int)) ∈ lw_all := lw_g (lw_at lw_m12 131 rfl) rfl
theorem q2935 : (Jvm.Cond.methodLink "FilingChainsModel" (215 : Nat) ({ cls := "FilingChainsModel", name := "linksIn", desc := "([IIII)V" } : Jvm.MethodName)) ∈ lw_all := lw_g (lw_at lw_m12 132 rfl) rfl
theorem q2936 : (Jvm.Cond.static ({ cls := "FilingChainsModel", name := "linksIn", desc := "([IIII)V" } : Jvm.MethodName)) ∈ lw_all := lw_g (lw_at lw_m12 133 rfl) rfl
theorem q2937 : (Jvm.Cond.code ({ cls := "FilingChainsModel", name := "linksIn", desc := "([IIII)V" } : Jvm.MethodName) prog_12_method_29_code (5 : Nat) (Option.none : Option Jvm.ClassFile.FieldType)) ∈ lw_all := lw_g (lw_at lw_m12 134 rfl) rfl
theorem q2938 : (Jvm.Cond.methodLink "FilingChainsModel" (235 : Nat) ({ cls := "FilingChainsModel", name := "endsLine", desc := "()V" } : Jvm.MethodName)) ∈ lw_all := lw_g (lw_at lw_m12 135 rfl) rfl
theorem q2939 : (Jvm.Cond.privateMethod ({ cls := "FilingChainsModel", name := "endsLine", desc := "()V" } : Jvm.MethodName)) ∈ lw_tbl := lw_at lw_m12 136 rfl
theorem q2940 : (Jvm.Cond.instanceMethod ({ cls := "FilingChainsModel", name := "endsLine", desc := "()V" } : Jvm.MethodName)) ∈ lw_all := lw_g (lw_at lw_m12 137 rfl) rfl
theorem q2941 : (Jvm.Cond.code ({ cls := "FilingChainsModel", name := "endsLine", desc := "()V" } : Jvm.MethodName) prog_12_method_31_code (3 : Nat) (Option.none : Option Jvm.ClassFile.FieldType)) ∈ lw_all := lw_g (lw_at lw_m12 138 rfl) rfl
theorem q2942 : (Jvm.Cond.methodLink "FilingChainsModel" (238 : Nat) ({ cls := "FilingChainsModel", name := "claimLine", desc := "()V" } : Jvm.MethodName)) ∈ lw_all := lw_g (lw_at lw_m12 139 rfl) rfl
theorem q2943 : (Jvm.Cond.privateMethod ({ cls := "FilingChainsModel", name := "claimLine", desc := "()V" } : Jvm.MethodName)) ∈ lw_tbl := lw_at lw_m12 140 rfl
theorem q2944 : (Jvm.Cond.instanceMethod ({ cls := "FilingChainsModel", name := "claimLine", desc := "()V" } : Jvm.MethodName)) ∈ lw_all := lw_g (lw_at lw_m12 141 rfl) rfl
theorem q2945 : (Jvm.Cond.code ({ cls := "FilingChainsModel", name := "claimLine", desc := "()V" } : Jvm.MethodName) prog_12_method_32_code (4 : Nat) (Option.none : Option Jvm.ClassFile.FieldType)) ∈ lw_all := lw_g (lw_at lw_m12 142 rfl) rfl
theorem q2946 : (Jvm.Cond.methodLink "FilingChainsModel" (241 : Nat) ({ cls := "FilingChainsModel", name := "shownLine", desc := "()V" } : Jvm.MethodName)) ∈ lw_all := lw_g (lw_at lw_m12 143 rfl) rfl
theorem q2947 : (Jvm.Cond.privateMethod ({ cls := "FilingChainsModel", name := "shownLine", desc := "()V" } : Jvm.MethodName)) ∈ lw_tbl := lw_at lw_m12 144 rfl
theorem q2948 : (Jvm.Cond.instanceMethod ({ cls := "FilingChainsModel", name := "shownLine", desc := "()V" } : Jvm.MethodName)) ∈ lw_all := lw_g (lw_at lw_m12 145 rfl) rfl
theorem q2949 : (Jvm.Cond.code ({ cls := "FilingChainsModel", name := "shownLine", desc := "()V" } : Jvm.MethodName) prog_12_method_34_code (4 : Nat) (Option.none : Option Jvm.ClassFile.FieldType)) ∈ lw_all := lw_g (lw_at lw_m12 146 rfl) rfl
theorem q2950 : (Jvm.Cond.methodLink "FilingChainsModel" (219 : Nat) ({ cls := "FilingChainsModel", name := "showsIn", desc := "([IIII)V" } : Jvm.MethodName)) ∈ lw_all := lw_g (lw_at lw_m12 147 rfl) rfl
theorem q2951 : (Jvm.Cond.static ({ cls := "FilingChainsModel", name := "showsIn", desc := "([IIII)V" } : Jvm.MethodName)) ∈ lw_all := lw_g (lw_at lw_m12 148 rfl) rfl
theorem q2952 : (Jvm.Cond.code ({ cls := "FilingChainsModel", name := "showsIn", desc := "([IIII)V" } : Jvm.MethodName) prog_12_method_33_code (5 : Nat) (Option.none : Option Jvm.ClassFile.FieldType)) ∈ lw_all := lw_g (lw_at lw_m12 149 rfl) rfl
theorem q2953 : (Jvm.Cond.methodLink "FilingChainsModel" (244 : Nat) ({ cls := "FilingChainsModel", name := "ruleLine", desc := "(I)V" } : Jvm.MethodName)) ∈ lw_all := lw_g (lw_at lw_m12 150 rfl) rfl
theorem q2954 : (Jvm.Cond.privateMethod ({ cls := "FilingChainsModel", name := "ruleLine", desc := "(I)V" } : Jvm.MethodName)) ∈ lw_tbl := lw_at lw_m12 151 rfl
theorem q2955 : (Jvm.Cond.instanceMethod ({ cls := "FilingChainsModel", name := "ruleLine", desc := "(I)V" } : Jvm.MethodName)) ∈ lw_all := lw_g (lw_at lw_m12 152 rfl) rfl
theorem q2956 : (Jvm.Cond.code ({ cls := "FilingChainsModel", name := "ruleLine", desc := "(I)V" } : Jvm.MethodName) prog_12_method_22_code (2 : Nat) (Option.none : Option Jvm.ClassFile.FieldType)) ∈ lw_all := lw_g (lw_at lw_m12 153 rfl) rfl
theorem q2958 : (Jvm.Cond.instanceMethod ({ cls := "FilingChainsModel", name := "fault", desc := "(I)I" } : Jvm.MethodName)) ∈ lw_all := lw_g (lw_at lw_m12 155 rfl) rfl
theorem q2959 : (Jvm.Cond.selects "FilingChainsModel" ({ cls := "FilingChainsModel", name := "fault", desc := "(I)I" } : Jvm.MethodName) ({ cls := "FilingChainsModel", name := "fault", desc := "(I)I" } : Jvm.MethodName)) ∈ lw_all := lw_g (lw_at lw_m12 156 rfl) rfl
theorem q2960 : (Jvm.Cond.code ({ cls := "FilingChainsModel", name := "fault", desc := "(I)I" } : Jvm.MethodName) prog_12_method_38_code (2 : Nat) (Option.some Jvm.ClassFile.FieldType.int)) ∈ lw_all := lw_g (lw_at lw_m12 157 rfl) rfl
theorem q2962 : (Jvm.Cond.instanceMethod ({ cls := "FilingChainsModel", name := "count", desc := "(I)I" } : Jvm.MethodName)) ∈ lw_all := lw_g (lw_at lw_m12 159 rfl) rfl
theorem q2963 : (Jvm.Cond.selects "FilingChainsModel" ({ cls := "FilingChainsModel", name := "count", desc := "(I)I" } : Jvm.MethodName) ({ cls := "FilingChainsModel", name := "count", desc := "(I)I" } : Jvm.MethodName)) ∈ lw_all := lw_g (lw_at lw_m12 160 rfl) rfl
theorem q2964 : (Jvm.Cond.code ({ cls := "FilingChainsModel", name := "count", desc := "(I)I" } : Jvm.MethodName) prog_12_method_54_code (2 : Nat) (Option.some Jvm.ClassFile.FieldType.int)) ∈ lw_all := lw_g (lw_at lw_m12 161 rfl) rfl
theorem q2965 : (Jvm.Cond.methodLink "FilingChainsModel" (257 : Nat) ({ cls := "FilingChainsModel", name := "broken", desc := "()I" } : Jvm.MethodName)) ∈ lw_all := lw_g (lw_at lw_m12 162 rfl) rfl
theorem q2966 : (Jvm.Cond.instanceMethod ({ cls := "FilingChainsModel", name := "broken", desc := "()I" } : Jvm.MethodName)) ∈ lw_all := lw_g (lw_at lw_m12 163 rfl) rfl
theorem q2967 : (Jvm.Cond.selects "FilingChainsModel" ({ cls := "FilingChainsModel", name := "broken", desc := "()I" } : Jvm.MethodName) ({ cls := "FilingChainsModel", name := "broken", desc := "()I" } : Jvm.MethodName)) ∈ lw_all := lw_g (lw_at lw_m12 164 rfl) rfl
theorem q2968 : (Jvm.Cond.code ({ cls := "FilingChainsModel", name := "broken", desc := "()I" } : Jvm.MethodName) prog_12_method_71_code (3 : Nat) (Option.some Jvm.ClassFile.FieldType.int)) ∈ lw_all := lw_g (lw_at lw_m12 165 rfl) rfl
theorem q2969 : (Jvm.Cond.methodLink "FilingChainsModel" (318 : Nat) ({ cls := "FilingChainsModel", name := "doesHold", desc := "(I)Z" } : Jvm.MethodName)) ∈ lw_all := lw_g (lw_at lw_m12 166 rfl) rfl
theorem q2970 : (Jvm.Cond.privateMethod ({ cls := "FilingChainsModel", name := "doesHold", desc := "(I)Z" } : Jvm.MethodName)) ∈ lw_tbl := lw_at lw_m12 167 rfl
theorem q2971 : (Jvm.Cond.instanceMethod ({ cls := "FilingChainsModel", name := "doesHold", desc := "(I)Z" } : Jvm.MethodName)) ∈ lw_all := lw_g (lw_at lw_m12 168 rfl) rfl
theorem q2972 : (Jvm.Cond.code ({ cls := "FilingChainsModel", name := "doesHold", desc := "(I)Z" } : Jvm.MethodName) prog_12_method_64_code (4 : Nat) (Option.some Jvm.ClassFile.FieldType.boolean)) ∈ lw_all := lw_g (lw_at lw_m12 169 rfl) rfl
theorem q2973 : (Jvm.Cond.methodLink "FilingChainsModel" (308 : Nat) ({ cls := "FilingChainsModel", name := "childOf", desc := "(I)I" } : Jvm.MethodName)) ∈ lw_all := lw_g (lw_at lw_m12 170 rfl) rfl
theorem q2974 : (Jvm.Cond.privateMethod ({ cls := "FilingChainsModel", name := "childOf", desc := "(I)I" } : Jvm.MethodName)) ∈ lw_tbl := lw_at lw_m12 171 rfl
theorem q2975 : (Jvm.Cond.instanceMethod ({ cls := "FilingChainsModel", name := "childOf", desc := "(I)I" } : Jvm.MethodName)) ∈ lw_all := lw_g (lw_at lw_m12 172 rfl) rfl
theorem q2976 : (Jvm.Cond.code ({ cls := "FilingChainsModel", name := "childOf", desc := "(I)I" } : Jvm.MethodName) prog_12_method_50_code (2 : Nat) (Option.some Jvm.ClassFile.FieldType.int)) ∈ lw_all := lw_g (lw_at lw_m12 173 rfl) rfl
theorem q2977 : (Jvm.Cond.methodLink "FilingChainsModel" (311 : Nat) ({ cls := "FilingChainsModel", name := "parentOf", desc := "(I)I" } : Jvm.MethodName)) ∈ lw_all := lw_g (lw_at lw_m12 174 rfl) rfl
theorem q2978 : (Jvm.Cond.privateMethod ({ cls := "FilingChainsModel", name := "parentOf", desc := "(I)I" } : Jvm.MethodName)) ∈ lw_tbl := lw_at lw_m12 175 rfl
theorem q2979 : (Jvm.Cond.instanceMethod ({ cls := "FilingChainsModel", name := "parentOf", desc := "(I)I" } : Jvm.MethodName)) ∈ lw_all := lw_g (lw_at lw_m12 176 rfl) rfl
theorem q2980 : (Jvm.Cond.code ({ cls := "FilingChainsModel", name := "parentOf", desc := "(I)I" } : Jvm.MethodName) prog_12_method_51_code (2 : Nat) (Option.some Jvm.ClassFile.FieldType.int)) ∈ lw_all := lw_g (lw_at lw_m12 177 rfl) rfl
theorem q2981 : (Jvm.Cond.methodLink "FilingChainsModel" (286 : Nat) ({ cls := "FilingChainsModel", name := "filerOf", desc := "(I)I" } : Jvm.MethodName)) ∈ lw_all := lw_g (lw_at lw_m12 178 rfl) rfl
theorem q2982 : (Jvm.Cond.privateMethod ({ cls := "FilingChainsModel", name := "filerOf", desc := "(I)I" } : Jvm.MethodName)) ∈ lw_tbl := lw_at lw_m12 179 rfl
theorem q2983 : (Jvm.Cond.instanceMethod ({ cls := "FilingChainsModel", name := "filerOf", desc := "(I)I" } : Jvm.MethodName)) ∈ lw_all := lw_g (lw_at lw_m12 180 rfl) rfl
theorem q2984 : (Jvm.Cond.code ({ cls := "FilingChainsModel", name := "filerOf", desc := "(I)I" } : Jvm.MethodName) prog_12_method_46_code (2 : Nat) (Option.some Jvm.ClassFile.FieldType.int)) ∈ lw_all := lw_g (lw_at lw_m12 181 rfl) rfl
theorem q2985 : (Jvm.Cond.methodLink "FilingChainsModel" (277 : Nat) ({ cls := "FilingChainsModel", name := "dayOf", desc := "(I)I" } : Jvm.MethodName)) ∈ lw_all := lw_g (lw_at lw_m12 182 rfl) rfl
theorem q2986 : (Jvm.Cond.privateMethod ({ cls := "FilingChainsModel", name := "dayOf", desc := "(I)I" } : Jvm.MethodName)) ∈ lw_tbl := lw_at lw_m12 183 rfl
theorem q2987 : (Jvm.Cond.instanceMethod ({ cls := "FilingChainsModel", name := "dayOf", desc := "(I)I" } : Jvm.MethodName)) ∈ lw_all := lw_g (lw_at lw_m12 184 rfl) rfl
theorem q2988 : (Jvm.Cond.code ({ cls := "FilingChainsModel", name := "dayOf", desc := "(I)I" } : Jvm.MethodName) prog_12_method_47_code (2 : Nat) (Option.some Jvm.ClassFile.FieldType.int)) ∈ lw_all := lw_g (lw_at lw_m12 185 rfl) rfl
theorem q2989 : (Jvm.Cond.methodLink "FilingChainsModel" (314 : Nat) ({ cls := "FilingChainsModel", name := "sortOf", desc := "(I)I" } : Jvm.MethodName)) ∈ lw_all := lw_g (lw_at lw_m12 186 rfl) rfl
theorem q2990 : (Jvm.Cond.privateMethod ({ cls := "FilingChainsModel", name := "sortOf", desc := "(I)I" } : Jvm.MethodName)) ∈ lw_tbl := lw_at lw_m12 187 rfl
theorem q2991 : (Jvm.Cond.instanceMethod ({ cls := "FilingChainsModel", name := "sortOf", desc := "(I)I" } : Jvm.MethodName)) ∈ lw_all := lw_g (lw_at lw_m12 188 rfl) rfl
theorem q2992 : (Jvm.Cond.code ({ cls := "FilingChainsModel", name := "sortOf", desc := "(I)I" } : Jvm.MethodName) prog_12_method_49_code (2 : Nat) (Option.some Jvm.ClassFile.FieldType.int)) ∈ lw_all := lw_g (lw_at lw_m12 189 rfl) rfl
theorem q2993 : (Jvm.Cond.methodLink "FilingChainsModel" (280 : Nat) ({ cls := "FilingChainsModel", name := "endsOf", desc := "(I)I" } : Jvm.MethodName)) ∈ lw_all := lw_g (lw_at lw_m12 190 rfl) rfl
theorem q2994 : (Jvm.Cond.privateMethod ({ cls := "FilingChainsModel", name := "endsOf", desc := "(I)I" } : Jvm.MethodName)) ∈ lw_tbl := lw_at lw_m12 191 rfl
theorem q2995 : (Jvm.Cond.instanceMethod ({ cls := "FilingChainsModel", name := "endsOf", desc := "(I)I" } : Jvm.MethodName)) ∈ lw_all := lw_g (lw_at lw_m12 192 rfl) rfl
theorem q2996 : (Jvm.Cond.code ({ cls := "FilingChainsModel", name := "endsOf", desc := "(I)I" } : Jvm.MethodName) prog_12_method_48_code (2 : Nat) (Option.some Jvm.ClassFile.FieldType.int)) ∈ lw_all := lw_g (lw_at lw_m12 193 rfl) rfl
theorem q2997 : (Jvm.Cond.methodLink "FilingChainsModel" (260 : Nat) ({ cls := "FilingChainsModel", name := "bitsOf", desc := "(I)I" } : Jvm.MethodName)) ∈ lw_all := lw_g (lw_at lw_m12 194 rfl) rfl
theorem q2998 : (Jvm.Cond.static ({ cls := "FilingChainsModel", name := "bitsOf", desc := "(I)I" } : Jvm.MethodName)) ∈ lw_all := lw_g (lw_at lw_m12 195 rfl) rfl
theorem q2999 : (Jvm.Cond.code ({ cls := "FilingChainsModel", name := "bitsOf", desc := "(I)I" } : Jvm.MethodName) prog_12_method_4_code (3 : Nat) (Option.some Jvm.ClassFile.FieldType.int)) ∈ lw_all := lw_g (lw_at lw_m12 196 rfl) rfl
theorem q3000 : (Jvm.Cond.methodLink "FilingChainsModel" (263 : Nat) ({ cls := "FilingChainsModel", name := "barredMany", desc := "()I" } : Jvm.MethodName)) ∈ lw_all := lw_g (lw_at lw_m12 197 rfl) rfl
theorem q3001 : (Jvm.Cond.privateMethod ({ cls := "FilingChainsModel", name := "barredMany", desc := "()I" } : Jvm.MethodName)) ∈ lw_tbl := lw_at lw_m12 198 rfl
theorem q3002 : (Jvm.Cond.instanceMethod ({ cls := "FilingChainsModel", name := "barredMany", desc := "()I" } : Jvm.MethodName)) ∈ lw_all := lw_g (lw_at lw_m12 199 rfl) rfl
theorem q3003 : (Jvm.Cond.code ({ cls := "FilingChainsModel", name := "barredMany", desc := "()I" } : Jvm.MethodName) prog_12_method_108_code (3 : Nat) (Option.some Jvm.ClassFile.FieldType.int)) ∈ lw_all := lw_g (lw_at lw_m12 200 rfl) rfl
theorem q3004 : (Jvm.Cond.methodLink "FilingChainsModel" (424 : Nat) ({ cls := "FilingChainsModel", name := "laysClaimBar", desc := "(I)V" } : Jvm.MethodName)) ∈ lw_all := lw_g (lw_at lw_m12 201 rfl) rfl
theorem q3005 : (Jvm.Cond.privateMethod ({ cls := "FilingChainsModel", name := "laysClaimBar", desc := "(I)V" } : Jvm.MethodName)) ∈ lw_tbl := lw_at lw_m12 202 rfl
theorem q3006 : (Jvm.Cond.instanceMethod ({ cls := "FilingChainsModel", name := "laysClaimBar", desc := "(I)V" } : Jvm.MethodName)) ∈ lw_all := lw_g (lw_at lw_m12 203 rfl) rfl
theorem q3007 : (Jvm.Cond.code ({ cls := "FilingChainsModel", name := "laysClaimBar", desc := "(I)V" } : Jvm.MethodName) prog_12_method_107_code (2 : Nat) (Option.none : Option Jvm.ClassFile.FieldType)) ∈ lw_all := lw_g (lw_at lw_m12 204 rfl) rfl
theorem q3008 : (Jvm.Cond.methodLink "FilingChainsModel" (415 : Nat) ({ cls := "FilingChainsModel", name := "laysOpen", desc := "(I)V" } : Jvm.MethodName)) ∈ lw_all := lw_g (lw_at lw_m12 205 rfl) rfl
theorem q3009 : (Jvm.Cond.privateMethod ({ cls := "FilingChainsModel", name := "laysOpen", desc := "(I)V" } : Jvm.MethodName)) ∈ lw_tbl := lw_at lw_m12 206 rfl
theorem q3010 : (Jvm.Cond.instanceMethod ({ cls := "FilingChainsModel", name := "laysOpen", desc := "(I)V" } : Jvm.MethodName)) ∈ lw_all := lw_g (lw_at lw_m12 207 rfl) rfl
theorem q3011 : (Jvm.Cond.code ({ cls := "FilingChainsModel", name := "laysOpen", desc := "(I)V" } : Jvm.MethodName) prog_12_method_104_code (4 : Nat) (Option.none : Option Jvm.ClassFile.FieldType)) ∈ lw_all := lw_g (lw_at lw_m12 208 rfl) rfl
theorem q3012 : (Jvm.Cond.methodLink "FilingChainsModel" (296 : Nat) ({ cls := "FilingChainsModel", name := "openOf", desc := "(I)I" } : Jvm.MethodName)) ∈ lw_all := lw_g (lw_at lw_m12 209 rfl) rfl
theorem q3013 : (Jvm.Cond.privateMethod ({ cls := "FilingChainsModel", name := "openOf", desc := "(I)I" } : Jvm.MethodName)) ∈ lw_tbl := lw_at lw_m12 210 rfl
theorem q3014 : (Jvm.Cond.instanceMethod ({ cls := "FilingChainsModel", name := "openOf", desc := "(I)I" } : Jvm.MethodName)) ∈ lw_all := lw_g (lw_at lw_m12 211 rfl) rfl
theorem q3015 : (Jvm.Cond.code ({ cls := "FilingChainsModel", name := "openOf", desc := "(I)I" } : Jvm.MethodName) prog_12_method_60_code (3 : Nat) (Option.some Jvm.ClassFile.FieldType.int)) ∈ lw_all := lw_g (lw_at lw_m12 212 rfl) rfl
theorem q3016 : (Jvm.Cond.methodLink "FilingChainsModel" (347 : Nat) ({ cls := "FilingChainsModel", name := "dateOf", desc := "(III)I" } : Jvm.MethodName)) ∈ lw_all := lw_g (lw_at lw_m12 213 rfl) rfl
theorem q3017 : (Jvm.Cond.privateMethod ({ cls := "FilingChainsModel", name := "dateOf", desc := "(III)I" } : Jvm.MethodName)) ∈ lw_tbl := lw_at lw_m12 214 rfl
theorem q3018 : (Jvm.Cond.instanceMethod ({ cls := "FilingChainsModel", name := "dateOf", desc := "(III)I" } : Jvm.MethodName)) ∈ lw_all := lw_g (lw_at lw_m12 215 rfl) rfl
theorem q3019 : (Jvm.Cond.code ({ cls := "FilingChainsModel", name := "dateOf", desc := "(III)I" } : Jvm.MethodName) prog_12_method_78_code (5 : Nat) (Option.some Jvm.ClassFile.FieldType.int)) ∈ lw_all := lw_g (lw_at lw_m12 216 rfl) rfl
theorem q3020 : (Jvm.Cond.methodLink "FilingChainsModel" (343 : Nat) ({ cls := "FilingChainsModel", name := "daterOf", desc := "(III)I" } : Jvm.MethodName)) ∈ lw_all := lw_g (lw_at lw_m12 217 rfl) rfl
theorem q3021 : (Jvm.Cond.privateMethod ({ cls := "FilingChainsModel", name := "daterOf", desc := "(III)I" } : Jvm.MethodName)) ∈ lw_tbl := lw_at lw_m12 218 rfl
theorem q3022 : (Jvm.Cond.instanceMethod ({ cls := "FilingChainsModel", name := "daterOf", desc := "(III)I" } : Jvm.MethodName)) ∈ lw_all := lw_g (lw_at lw_m12 219 rfl) rfl
theorem q3023 : (Jvm.Cond.code ({ cls := "FilingChainsModel", name := "daterOf", desc := "(III)I" } : Jvm.MethodName) prog_12_method_77_code (4 : Nat) (Option.some Jvm.ClassFile.FieldType.int)) ∈ lw_all := lw_g (lw_at lw_m12 220 rfl) rfl
theorem q3024 : (Jvm.Cond.methodLink "FilingChainsModel" (305 : Nat) ({ cls := "FilingChainsModel", name := "bearsFrom", desc := "(II)I" } : Jvm.MethodName)) ∈ lw_all := lw_g (lw_at lw_m12 221 rfl) rfl
theorem q3025 : (Jvm.Cond.privateMethod ({ cls := "FilingChainsModel", name := "bearsFrom", desc := "(II)I" } : Jvm.MethodName)) ∈ lw_tbl := lw_at lw_m12 222 rfl
theorem q3026 : (Jvm.Cond.instanceMethod ({ cls := "FilingChainsModel", name := "bearsFrom", desc := "(II)I" } : Jvm.MethodName)) ∈ lw_all := lw_g (lw_at lw_m12 223 rfl) rfl
theorem q3027 : (Jvm.Cond.code ({ cls := "FilingChainsModel", name := "bearsFrom", desc := "(II)I" } : Jvm.MethodName) prog_12_method_62_code (6 : Nat) (Option.some Jvm.ClassFile.FieldType.int)) ∈ lw_all := lw_g (lw_at lw_m12 224 rfl) rfl
theorem q3028 : (Jvm.Cond.methodLink "FilingChainsModel" (274 : Nat) ({ cls := "FilingChainsModel", name := "partDayOf", desc := "(II)I" } : Jvm.MethodName)) ∈ lw_all := lw_g (lw_at lw_m12 225 rfl) rfl
theorem q3029 : (Jvm.Cond.privateMethod ({ cls := "FilingChainsModel", name := "partDayOf", desc := "(II)I" } : Jvm.MethodName)) ∈ lw_tbl := lw_at lw_m12 226 rfl
theorem q3030 : (Jvm.Cond.instanceMethod ({ cls := "FilingChainsModel", name := "partDayOf", desc := "(II)I" } : Jvm.MethodName)) ∈ lw_all := lw_g (lw_at lw_m12 227 rfl) rfl
theorem q3031 : (Jvm.Cond.code ({ cls := "FilingChainsModel", name := "partDayOf", desc := "(II)I" } : Jvm.MethodName) prog_12_method_53_code (3 : Nat) (Option.some Jvm.ClassFile.FieldType.int)) ∈ lw_all := lw_g (lw_at lw_m12 228 rfl) rfl
theorem q3032 : (Jvm.Cond.methodLink "FilingChainsModel" (334 : Nat) ({ cls := "FilingChainsModel", name := "laysLinks", desc := "(II)V" } : Jvm.MethodName)) ∈ lw_all := lw_g (lw_at lw_m12 229 rfl) rfl
theorem q3033 : (Jvm.Cond.privateMethod ({ cls := "FilingChainsModel", name := "laysLinks", desc := "(II)V" } : Jvm.MethodName)) ∈ lw_tbl := lw_at lw_m12 230 rfl
theorem q3034 : (Jvm.Cond.instanceMethod ({ cls := "FilingChainsModel", name := "laysLinks", desc := "(II)V" } : Jvm.MethodName)) ∈ lw_all := lw_g (lw_at lw_m12 231 rfl) rfl
theorem q3035 : (Jvm.Cond.code ({ cls := "FilingChainsModel", name := "laysLinks", desc := "(II)V" } : Jvm.MethodName) prog_12_method_74_code (4 : Nat) (Option.none : Option Jvm.ClassFile.FieldType)) ∈ lw_all := lw_g (lw_at lw_m12 232 rfl) rfl
theorem q3036 : (Jvm.Cond.methodLink "FilingChainsModel" (331 : Nat) ({ cls := "FilingChainsModel", name := "holdsFor", desc := "(II)Z" } : Jvm.MethodName)) ∈ lw_all := lw_g (lw_at lw_m12 233 rfl) rfl
theorem q3037 : (Jvm.Cond.privateMethod ({ cls := "FilingChainsModel", name := "holdsFor", desc := "(II)Z" } : Jvm.MethodName)) ∈ lw_tbl := lw_at lw_m12 234 rfl
theorem q3038 : (Jvm.Cond.instanceMethod ({ cls := "FilingChainsModel", name := "holdsFor", desc := "(II)Z" } : Jvm.MethodName)) ∈ lw_all := lw_g (lw_at lw_m12 235 rfl) rfl
theorem q3039 : (Jvm.Cond.code ({ cls := "FilingChainsModel", name := "holdsFor", desc := "(II)Z" } : Jvm.MethodName) prog_12_method_66_code (4 : Nat) (Option.some Jvm.ClassFile.FieldType.boolean)) ∈ lw_all := lw_g (lw_at lw_m12 236 rfl) rfl
theorem q3040 : (Jvm.Cond.methodLink "FilingChainsModel" (321 : Nat) ({ cls := "FilingChainsModel", name := "earliestBy", desc := "(II)I" } : Jvm.MethodName)) ∈ lw_all := lw_g (lw_at lw_m12 237 rfl) rfl
theorem q3041 : (Jvm.Cond.privateMethod ({ cls := "FilingChainsModel", name := "earliestBy", desc := "(II)I" } : Jvm.MethodName)) ∈ lw_tbl := lw_at lw_m12 238 rfl
theorem q3042 : (Jvm.Cond.instanceMethod ({ cls := "FilingChainsModel", name := "earliestBy", desc := "(II)I" } : Jvm.MethodName)) ∈ lw_all := lw_g (lw_at lw_m12 239 rfl) rfl
theorem q3043 : (Jvm.Cond.code ({ cls := "FilingChainsModel", name := "earliestBy", desc := "(II)I" } : Jvm.MethodName) prog_12_method_65_code (6 : Nat) (Option.some Jvm.ClassFile.FieldType.int)) ∈ lw_all := lw_g (lw_at lw_m13 0 rfl) rfl
theorem q3044 : (Jvm.Cond.constant "FilingChainsModel" (317 : Nat) (1000000 : Int32)) ∈ lw_all := lw_g (lw_at lw_m13 1 rfl) rfl
theorem q3045 : (Jvm.Cond.methodLink "FilingChainsModel" (337 : Nat) ({ cls := "FilingChainsModel", name := "reaches", desc := "(I)V" } : Jvm.MethodName)) ∈ lw_all := lw_g (lw_at lw_m13 2 rfl) rfl
theorem q3046 : (Jvm.Cond.privateMethod ({ cls := "FilingChainsModel", name := "reaches", desc := "(I)V" } : Jvm.MethodName)) ∈ lw_tbl := lw_at lw_m13 3 rfl
theorem q3047 : (Jvm.Cond.instanceMethod ({ cls := "FilingChainsModel", name := "reaches", desc := "(I)V" } : Jvm.MethodName)) ∈ lw_all := lw_g (lw_at lw_m13 4 rfl) rfl
theorem q3048 : (Jvm.Cond.code ({ cls := "FilingChainsModel", name := "reaches", desc := "(I)V" } : Jvm.MethodName) prog_12_method_75_code (6 : Nat) (Option.none : Option Jvm.ClassFile.FieldType)) ∈ lw_all := lw_g (lw_at lw_m13 5 rfl) rfl
theorem q3049 : (Jvm.Cond.methodLink "FilingChainsModel" (340 : Nat) ({ cls := "FilingChainsModel", name := "daterNow", desc := "(I)I" } : Jvm.MethodName)) ∈ lw_all := lw_g (lw_at lw_m13 6 rfl) rfl
theorem q3050 : (Jvm.Cond.privateMethod ({ cls := "FilingChainsModel", name := "daterNow", desc := "(I)I" } : Jvm.MethodName)) ∈ lw_tbl := lw_at lw_m13 7 rfl
theorem q3051 : (Jvm.Cond.instanceMethod ({ cls := "FilingChainsModel", name := "daterNow", desc := "(I)I" } : Jvm.MethodName)) ∈ lw_all := lw_g (lw_at lw_m13 8 rfl) rfl
theorem q3052 : (Jvm.Cond.code ({ cls := "FilingChainsModel", name := "daterNow", desc := "(I)I" } : Jvm.MethodName) prog_12_method_76_code (5 : Nat) (Option.some Jvm.ClassFile.FieldType.int)) ∈ lw_all := lw_g (lw_at lw_m13 9 rfl) rfl
theorem q3053 : (Jvm.Cond.methodLink "FilingChainsModel" (418 : Nat) ({ cls := "FilingChainsModel", name := "claimFiler", desc := "(I)I" } : Jvm.MethodName)) ∈ lw_all := lw_g (lw_at lw_m13 10 rfl) rfl
theorem q3054 : (Jvm.Cond.privateMethod ({ cls := "FilingChainsModel", name := "claimFiler", desc := "(I)I" } : Jvm.MethodName)) ∈ lw_tbl := lw_at lw_m13 11 rfl
theorem q3055 : (Jvm.Cond.instanceMethod ({ cls := "FilingChainsModel", name := "claimFiler", desc := "(I)I" } : Jvm.MethodName)) ∈ lw_all := lw_g (lw_at lw_m13 12 rfl) rfl
theorem q3056 : (Jvm.Cond.code ({ cls := "FilingChainsModel", name := "claimFiler", desc := "(I)I" } : Jvm.MethodName) prog_12_method_92_code (2 : Nat) (Option.some Jvm.ClassFile.FieldType.int)) ∈ lw_all := lw_g (lw_at lw_m13 13 rfl) rfl
theorem q3057 : (Jvm.Cond.methodLink "FilingChainsModel" (368 : Nat) ({ cls := "FilingChainsModel", name := "claimDate", desc := "(II)I" } : Jvm.MethodName)) ∈ lw_all := lw_g (lw_at lw_m13 14 rfl) rfl
theorem q3058 : (Jvm.Cond.privateMethod ({ cls := "FilingChainsModel", name := "claimDate", desc := "(II)I" } : Jvm.MethodName)) ∈ lw_tbl := lw_at lw_m13 15 rfl
theorem q3059 : (Jvm.Cond.instanceMethod ({ cls := "FilingChainsModel", name := "claimDate", desc := "(II)I" } : Jvm.MethodName)) ∈ lw_all := lw_g (lw_at lw_m13 16 rfl) rfl
theorem q3060 : (Jvm.Cond.code ({ cls := "FilingChainsModel", name := "claimDate", desc := "(II)I" } : Jvm.MethodName) prog_12_method_91_code (3 : Nat) (Option.some Jvm.ClassFile.FieldType.int)) ∈ lw_all := lw_g (lw_at lw_m13 17 rfl) rfl
theorem q3061 : (Jvm.Cond.methodLink "FilingChainsModel" (421 : Nat) ({ cls := "FilingChainsModel", name := "laysBar", desc := "(III)V" } : Jvm.MethodName)) ∈ lw_all := lw_g (lw_at lw_m13 18 rfl) rfl
theorem q3062 : (Jvm.Cond.privateMethod ({ cls := "FilingChainsModel", name := "laysBar", desc := "(III)V" } : Jvm.MethodName)) ∈ lw_tbl := lw_at lw_m13 19 rfl
theorem q3063 : (Jvm.Cond.instanceMethod ({ cls := "FilingChainsModel", name := "laysBar", desc := "(III)V" } : Jvm.MethodName)) ∈ lw_all := lw_g (lw_at lw_m13 20 rfl) rfl
theorem q3064 : (Jvm.Cond.code ({ cls := "FilingChainsModel", name := "laysBar", desc := "(III)V" } : Jvm.MethodName) prog_12_method_106_code (7 : Nat) (Option.none : Option Jvm.ClassFile.FieldType)) ∈ lw_all := lw_g (lw_at lw_m13 21 rfl) rfl
theorem q3065 : (Jvm.Cond.methodLink "FilingChainsModel" (404 : Nat) ({ cls := "FilingChainsModel", name := "setsBar", desc := "(III)V" } : Jvm.MethodName)) ∈ lw_all := lw_g (lw_at lw_m13 22 rfl) rfl
theorem q3066 : (Jvm.Cond.privateMethod ({ cls := "FilingChainsModel", name := "setsBar", desc := "(III)V" } : Jvm.MethodName)) ∈ lw_tbl := lw_at lw_m13 23 rfl
theorem q3067 : (Jvm.Cond.instanceMethod ({ cls := "FilingChainsModel", name := "setsBar", desc := "(III)V" } : Jvm.MethodName)) ∈ lw_all := lw_g (lw_at lw_m13 24 rfl) rfl
theorem q3068 : (Jvm.Cond.code ({ cls := "FilingChainsModel", name := "setsBar", desc := "(III)V" } : Jvm.MethodName) prog_12_method_105_code (4 : Nat) (Option.none : Option Jvm.ClassFile.FieldType)) ∈ lw_all := lw_g (lw_at lw_m13 25 rfl) rfl
theorem q3069 : (Jvm.Cond.methodLink "FilingChainsModel" (407 : Nat) ({ cls := "FilingChainsModel", name := "barsAlone", desc := "(IIII)Z" } : Jvm.MethodName)) ∈ lw_all := lw_g (lw_at lw_m13 26 rfl) rfl
theorem q3070 : (Jvm.Cond.privateMethod ({ cls := "FilingChainsModel", name := "barsAlone", desc := "(IIII)Z" } : Jvm.MethodName)) ∈ lw_tbl := lw_at lw_m13 27 rfl
theorem q3071 : (Jvm.Cond.instanceMethod ({ cls := "FilingChainsModel", name := "barsAlone", desc := "(IIII)Z" } : Jvm.MethodName)) ∈ lw_all := lw_g (lw_at lw_m13 28 rfl) rfl
theorem q3072 : (Jvm.Cond.code ({ cls := "FilingChainsModel", name := "barsAlone", desc := "(IIII)Z" } : Jvm.MethodName) prog_12_method_102_code (5 : Nat) (Option.some Jvm.ClassFile.FieldType.boolean)) ∈ lw_all := lw_g (lw_at lw_m13 29 rfl) rfl
theorem q3073 : (Jvm.Cond.methodLink "FilingChainsModel" (389 : Nat) ({ cls := "FilingChainsModel", name := "weighs", desc := "(III)Z" } : Jvm.MethodName)) ∈ lw_all := lw_g (lw_at lw_m13 30 rfl) rfl
theorem q3074 : (Jvm.Cond.privateMethod ({ cls := "FilingChainsModel", name := "weighs", desc := "(III)Z" } : Jvm.MethodName)) ∈ lw_tbl := lw_at lw_m13 31 rfl
theorem q3075 : (Jvm.Cond.instanceMethod ({ cls := "FilingChainsModel", name := "weighs", desc := "(III)Z" } : Jvm.MethodName)) ∈ lw_all := lw_g (lw_at lw_m13 32 rfl) rfl
theorem q3076 : (Jvm.Cond.code ({ cls := "FilingChainsModel", name := "weighs", desc := "(III)Z" } : Jvm.MethodName) prog_12_method_101_code (4 : Nat) (Option.some Jvm.ClassFile.FieldType.boolean)) ∈ lw_all := lw_g (lw_at lw_m13 33 rfl) rfl
theorem q3077 : (Jvm.Cond.methodLink "FilingChainsModel" (383 : Nat) ({ cls := "FilingChainsModel", name := "isAhead", desc := "(II)Z" } : Jvm.MethodName)) ∈ lw_all := lw_g (lw_at lw_m13 34 rfl) rfl
theorem q3078 : (Jvm.Cond.privateMethod ({ cls := "FilingChainsModel", name := "isAhead", desc := "(II)Z" } : Jvm.MethodName)) ∈ lw_tbl := lw_at lw_m13 35 rfl
theorem q3079 : (Jvm.Cond.instanceMethod ({ cls := "FilingChainsModel", name := "isAhead", desc := "(II)Z" } : Jvm.MethodName)) ∈ lw_all := lw_g (lw_at lw_m13 36 rfl) rfl
theorem q3080 : (Jvm.Cond.code ({ cls := "FilingChainsModel", name := "isAhead", desc := "(II)Z" } : Jvm.MethodName) prog_12_method_100_code (3 : Nat) (Option.some Jvm.ClassFile.FieldType.boolean)) ∈ lw_all := lw_g (lw_at lw_m13 37 rfl) rfl
theorem q3081 : (Jvm.Cond.methodLink "FilingChainsModel" (380 : Nat) ({ cls := "FilingChainsModel", name := "thingOf", desc := "(II)I" } : Jvm.MethodName)) ∈ lw_all := lw_g (lw_at lw_m13 38 rfl) rfl
theorem q3082 : (Jvm.Cond.privateMethod ({ cls := "FilingChainsModel", name := "thingOf", desc := "(II)I" } : Jvm.MethodName)) ∈ lw_tbl := lw_at lw_m13 39 rfl
theorem q3083 : (Jvm.Cond.instanceMethod ({ cls := "FilingChainsModel", name := "thingOf", desc := "(II)I" } : Jvm.MethodName)) ∈ lw_all := lw_g (lw_at lw_m13 40 rfl) rfl
theorem q3084 : (Jvm.Cond.code ({ cls := "FilingChainsModel", name := "thingOf", desc := "(II)I" } : Jvm.MethodName) prog_12_method_52_code (3 : Nat) (Option.some Jvm.ClassFile.FieldType.int)) ∈ lw_all := lw_g (lw_at lw_m13 41 rfl) rfl
theorem q3085 : (Jvm.Cond.methodLink "FilingChainsModel" (386 : Nat) ({ cls := "FilingChainsModel", name := "isGraced", desc := "(III)Z" } : Jvm.MethodName)) ∈ lw_all := lw_g (lw_at lw_m13 42 rfl) rfl
theorem q3086 : (Jvm.Cond.privateMethod ({ cls := "FilingChainsModel", name := "isGraced", desc := "(III)Z" } : Jvm.MethodName)) ∈ lw_tbl := lw_at lw_m13 43 rfl
theorem q3087 : (Jvm.Cond.instanceMethod ({ cls := "FilingChainsModel", name := "isGraced", desc := "(III)Z" } : Jvm.MethodName)) ∈ lw_all := lw_g (lw_at lw_m13 44 rfl) rfl
theorem q3088 : (Jvm.Cond.code ({ cls := "FilingChainsModel", name := "isGraced", desc := "(III)Z" } : Jvm.MethodName) prog_12_method_99_code (4 : Nat) (Option.some Jvm.ClassFile.FieldType.boolean)) ∈ lw_all := lw_g (lw_at lw_m13 45 rfl) rfl
theorem q3089 : (Jvm.Cond.methodLink "FilingChainsModel" (392 : Nat) ({ cls := "FilingChainsModel", name := "hasAll", desc := "(II)Z" } : Jvm.MethodName)) ∈ lw_all := lw_g (lw_at lw_m13 46 rfl) rfl
theorem q3090 : (Jvm.Cond.static ({ cls := "FilingChainsModel", name := "hasAll", desc := "(II)Z" } : Jvm.MethodName)) ∈ lw_all := lw_g (lw_at lw_m13 47 rfl) rfl
theorem q3091 : (Jvm.Cond.code ({ cls := "FilingChainsModel", name := "hasAll", desc := "(II)Z" } : Jvm.MethodName) prog_12_method_98_code (2 : Nat) (Option.some Jvm.ClassFile.FieldType.boolean)) ∈ lw_all := lw_g (lw_at lw_m13 48 rfl) rfl
theorem q3092 : (Jvm.Cond.methodLink "FilingChainsModel" (411 : Nat) ({ cls := "FilingChainsModel", name := "barsTogether", desc := "(IIIII)Z" } : Jvm.MethodName)) ∈ lw_all := lw_g (lw_at lw_m13 49 rfl) rfl
theorem q3093 : (Jvm.Cond.privateMethod ({ cls := "FilingChainsModel", name := "barsTogether", desc := "(IIIII)Z" } : Jvm.MethodName)) ∈ lw_tbl := lw_at lw_m13 50 rfl
theorem q3094 : (Jvm.Cond.instanceMethod ({ cls := "FilingChainsModel", name := "barsTogether", desc := "(IIIII)Z" } : Jvm.MethodName)) ∈ lw_all := lw_g (lw_at lw_m13 51 rfl) rfl
theorem q3095 : (Jvm.Cond.code ({ cls := "FilingChainsModel", name := "barsTogether", desc := "(IIIII)Z" } : Jvm.MethodName) prog_12_method_103_code (6 : Nat) (Option.some Jvm.ClassFile.FieldType.boolean)) ∈ lw_all := lw_g (lw_at lw_m13 52 rfl) rfl
theorem q3097 : (Jvm.Cond.instanceMethod ({ cls := "FilingChainsModel", name := "letter", desc := "(III)I" } : Jvm.MethodName)) ∈ lw_all := lw_g (lw_at lw_m13 54 rfl) rfl
theorem q3098 : (Jvm.Cond.selects "FilingChainsModel" ({ cls := "FilingChainsModel", name := "letter", desc := "(III)I" } : Jvm.MethodName) ({ cls := "FilingChainsModel", name := "letter", desc := "(III)I" } : Jvm.MethodName)) ∈ lw_all := lw_g (lw_at lw_m13 55 rfl) rfl
theorem q3099 : (Jvm.Cond.code ({ cls := "FilingChainsModel", name := "letter", desc := "(III)I" } : Jvm.MethodName) prog_12_method_57_code (6 : Nat) (Option.some Jvm.ClassFile.FieldType.int)) ∈ lw_all := lw_g (lw_at lw_m13 56 rfl) rfl
theorem q3100 : (Jvm.Cond.methodLink "FilingChainsModel" (270 : Nat) ({ cls := "FilingChainsModel", name := "letterOf", desc := "(JI)I" } : Jvm.MethodName)) ∈ lw_all := lw_g (lw_at lw_m13 57 rfl) rfl
theorem q3101 : (Jvm.Cond.privateMethod ({ cls := "FilingChainsModel", name := "letterOf", desc := "(JI)I" } : Jvm.MethodName)) ∈ lw_tbl := lw_at lw_m13 58 rfl
theorem q3102 : (Jvm.Cond.instanceMethod ({ cls := "FilingChainsModel", name := "letterOf", desc := "(JI)I" } : Jvm.MethodName)) ∈ lw_all := lw_g (lw_at lw_m13 59 rfl) rfl
theorem q3103 : (Jvm.Cond.code ({ cls := "FilingChainsModel", name := "letterOf", desc := "(JI)I" } : Jvm.MethodName) prog_12_method_56_code (8 : Nat) (Option.some Jvm.ClassFile.FieldType.int)) ∈ lw_all := lw_g (lw_at lw_m13 60 rfl) rfl
theorem q3104 : (Jvm.Cond.methodLink "FilingChainsModel" (266 : Nat) ({ cls := "FilingChainsModel", name := "lettersOf", desc := "(J)I" } : Jvm.MethodName)) ∈ lw_all := lw_g (lw_at lw_m13 61 rfl) rfl
theorem q3105 : (Jvm.Cond.privateMethod ({ cls := "FilingChainsModel", name := "lettersOf", desc := "(J)I" } : Jvm.MethodName)) ∈ lw_tbl := lw_at lw_m13 62 rfl
theorem q3106 : (Jvm.Cond.instanceMethod ({ cls := "FilingChainsModel", name := "lettersOf", desc := "(J)I" } : Jvm.MethodName)) ∈ lw_all := lw_g (lw_at lw_m13 63 rfl) rfl
theorem q3107 : (Jvm.Cond.code ({ cls := "FilingChainsModel", name := "lettersOf", desc := "(J)I" } : Jvm.MethodName) prog_12_method_55_code (6 : Nat) (Option.some Jvm.ClassFile.FieldType.int)) ∈ lw_all := lw_g (lw_at lw_m13 64 rfl) rfl
theorem q3109 : (Jvm.Cond.instanceMethod ({ cls := "FilingChainsModel", name := "filing", desc := "(II)I" } : Jvm.MethodName)) ∈ lw_all := lw_g (lw_at lw_m13 66 rfl) rfl
theorem q3110 : (Jvm.Cond.selects "FilingChainsModel" ({ cls := "FilingChainsModel", name := "filing", desc := "(II)I" } : Jvm.MethodName) ({ cls := "FilingChainsModel", name := "filing", desc := "(II)I" } : Jvm.MethodName)) ∈ lw_all := lw_g (lw_at lw_m13 67 rfl) rfl
theorem q3111 : (Jvm.Cond.code ({ cls := "FilingChainsModel", name := "filing", desc := "(II)I" } : Jvm.MethodName) prog_12_method_61_code (3 : Nat) (Option.some Jvm.ClassFile.FieldType.int)) ∈ lw_all := lw_g (lw_at lw_m13 68 rfl) rfl
theorem q3112 : (Jvm.Cond.methodLink "FilingChainsModel" (283 : Nat) ({ cls := "FilingChainsModel", name := "isFiling", desc := "(I)Z" } : Jvm.MethodName)) ∈ lw_all := lw_g (lw_at lw_m13 69 rfl) rfl
theorem q3113 : (Jvm.Cond.privateMethod ({ cls := "FilingChainsModel", name := "isFiling", desc := "(I)Z" } : Jvm.MethodName)) ∈ lw_tbl := lw_at lw_m13 70 rfl
theorem q3114 : (Jvm.Cond.instanceMethod ({ cls := "FilingChainsModel", name := "isFiling", desc := "(I)Z" } : Jvm.MethodName)) ∈ lw_all := lw_g (lw_at lw_m13 71 rfl) rfl
theorem q3115 : (Jvm.Cond.code ({ cls := "FilingChainsModel", name := "isFiling", desc := "(I)Z" } : Jvm.MethodName) prog_12_method_39_code (2 : Nat) (Option.some Jvm.ClassFile.FieldType.boolean)) ∈ lw_all := lw_g (lw_at lw_m13 72 rfl) rfl
theorem q3116 : (Jvm.Cond.methodLink "FilingChainsModel" (289 : Nat) ({ cls := "FilingChainsModel", name := "partsOf", desc := "(IZ)I" } : Jvm.MethodName)) ∈ lw_all := lw_g (lw_at lw_m13 73 rfl) rfl
theorem q3117 : (Jvm.Cond.privateMethod ({ cls := "FilingChainsModel", name := "partsOf", desc := "(IZ)I" } : Jvm.MethodName)) ∈ lw_tbl := lw_at lw_m13 74 rfl
theorem q3118 : (Jvm.Cond.instanceMethod ({ cls := "FilingChainsModel", name := "partsOf", desc := "(IZ)I" } : Jvm.MethodName)) ∈ lw_all := lw_g (lw_at lw_m13 75 rfl) rfl
theorem q3119 : (Jvm.Cond.code ({ cls := "FilingChainsModel", name := "partsOf", desc := "(IZ)I" } : Jvm.MethodName) prog_12_method_58_code (7 : Nat) (Option.some Jvm.ClassFile.FieldType.int)) ∈ lw_all := lw_g (lw_at lw_m13 76 rfl) rfl
theorem q3120 : (Jvm.Cond.methodLink "FilingChainsModel" (293 : Nat) ({ cls := "FilingChainsModel", name := "claimsOf", desc := "(I)I" } : Jvm.MethodName)) ∈ lw_all := lw_g (lw_at lw_m13 77 rfl) rfl
theorem q3121 : (Jvm.Cond.privateMethod ({ cls := "FilingChainsModel", name := "claimsOf", desc := "(I)I" } : Jvm.MethodName)) ∈ lw_tbl := lw_at lw_m13 78 rfl
theorem q3122 : (Jvm.Cond.instanceMethod ({ cls := "FilingChainsModel", name := "claimsOf", desc := "(I)I" } : Jvm.MethodName)) ∈ lw_all := lw_g (lw_at lw_m13 79 rfl) rfl
theorem q3123 : (Jvm.Cond.code ({ cls := "FilingChainsModel", name := "claimsOf", desc := "(I)I" } : Jvm.MethodName) prog_12_method_59_code (4 : Nat) (Option.some Jvm.ClassFile.FieldType.int)) ∈ lw_all := lw_g (lw_at lw_m13 80 rfl) rfl
theorem q3124 : (Jvm.Cond.methodLink "FilingChainsModel" (299 : Nat) ({ cls := "FilingChainsModel", name := "oldestOf", desc := "(I)I" } : Jvm.MethodName)) ∈ lw_all := lw_g (lw_at lw_m13 81 rfl) rfl
theorem q3125 : (Jvm.Cond.privateMethod ({ cls := "FilingChainsModel", name := "oldestOf", desc := "(I)I" } : Jvm.MethodName)) ∈ lw_tbl := lw_at lw_m13 82 rfl
theorem q3126 : (Jvm.Cond.instanceMethod ({ cls := "FilingChainsModel", name := "oldestOf", desc := "(I)I" } : Jvm.MethodName)) ∈ lw_all := lw_g (lw_at lw_m13 83 rfl) rfl
theorem q3127 : (Jvm.Cond.code ({ cls := "FilingChainsModel", name := "oldestOf", desc := "(I)I" } : Jvm.MethodName) prog_12_method_125_code (4 : Nat) (Option.some Jvm.ClassFile.FieldType.int)) ∈ lw_all := lw_g (lw_at lw_m13 84 rfl) rfl
theorem q3129 : (Jvm.Cond.instanceMethod ({ cls := "FilingChainsModel", name := "bears", desc := "(II)I" } : Jvm.MethodName)) ∈ lw_all := lw_g (lw_at lw_m13 86 rfl) rfl
theorem q3130 : (Jvm.Cond.selects "FilingChainsModel" ({ cls := "FilingChainsModel", name := "bears", desc := "(II)I" } : Jvm.MethodName) ({ cls := "FilingChainsModel", name := "bears", desc := "(II)I" } : Jvm.MethodName)) ∈ lw_all := lw_g (lw_at lw_m13 87 rfl) rfl
theorem q3131 : (Jvm.Cond.code ({ cls := "FilingChainsModel", name := "bears", desc := "(II)I" } : Jvm.MethodName) prog_12_method_63_code (3 : Nat) (Option.some Jvm.ClassFile.FieldType.int)) ∈ lw_all := lw_g (lw_at lw_m13 88 rfl) rfl
theorem q3132 : (Jvm.Cond.methodLink "FilingChainsModel" (302 : Nat) ({ cls := "FilingChainsModel", name := "isSet", desc := "(I)Z" } : Jvm.MethodName)) ∈ lw_all := lw_g (lw_at lw_m13 89 rfl) rfl
theorem q3133 : (Jvm.Cond.static ({ cls := "FilingChainsModel", name := "isSet", desc := "(I)Z" } : Jvm.MethodName)) ∈ lw_all := lw_g (lw_at lw_m13 90 rfl) rfl
theorem q3134 : (Jvm.Cond.code ({ cls := "FilingChainsModel", name := "isSet", desc := "(I)Z" } : Jvm.MethodName) prog_12_method_44_code (1 : Nat) (Option.some Jvm.ClassFile.FieldType.boolean)) ∈ lw_all := lw_g (lw_at lw_m13 91 rfl) rfl
theorem q3135 : (Jvm.Cond.constant "FilingChainsModel" (256 : Nat) (65535 : Int32)) ∈ lw_all := lw_g (lw_at lw_m13 92 rfl) rfl
theorem q3137 : (Jvm.Cond.instanceMethod ({ cls := "FilingChainsModel", name := "linked", desc := "(II)I" } : Jvm.MethodName)) ∈ lw_all := lw_g (lw_at lw_m13 94 rfl) rfl
theorem q3138 : (Jvm.Cond.selects "FilingChainsModel" ({ cls := "FilingChainsModel", name := "linked", desc := "(II)I" } : Jvm.MethodName) ({ cls := "FilingChainsModel", name := "linked", desc := "(II)I" } : Jvm.MethodName)) ∈ lw_all := lw_g (lw_at lw_m13 95 rfl) rfl
theorem q3139 : (Jvm.Cond.code ({ cls := "FilingChainsModel", name := "linked", desc := "(II)I" } : Jvm.MethodName) prog_12_method_68_code (3 : Nat) (Option.some Jvm.ClassFile.FieldType.int)) ∈ lw_all := lw_g (lw_at lw_m13 96 rfl) rfl
theorem q3140 : (Jvm.Cond.methodLink "FilingChainsModel" (324 : Nat) ({ cls := "FilingChainsModel", name := "isLink", desc := "(I)Z" } : Jvm.MethodName)) ∈ lw_all := lw_g (lw_at lw_m13 97 rfl) rfl
theorem q3141 : (Jvm.Cond.privateMethod ({ cls := "FilingChainsModel", name := "isLink", desc := "(I)Z" } : Jvm.MethodName)) ∈ lw_tbl := lw_at lw_m13 98 rfl
theorem q3142 : (Jvm.Cond.instanceMethod ({ cls := "FilingChainsModel", name := "isLink", desc := "(I)Z" } : Jvm.MethodName)) ∈ lw_all := lw_g (lw_at lw_m13 99 rfl) rfl
theorem q3143 : (Jvm.Cond.code ({ cls := "FilingChainsModel", name := "isLink", desc := "(I)Z" } : Jvm.MethodName) prog_12_method_42_code (2 : Nat) (Option.some Jvm.ClassFile.FieldType.boolean)) ∈ lw_all := lw_g (lw_at lw_m13 100 rfl) rfl
theorem q3145 : (Jvm.Cond.instanceMethod ({ cls := "FilingChainsModel", name := "slack", desc := "(I)I" } : Jvm.MethodName)) ∈ lw_all := lw_g (lw_at lw_m13 102 rfl) rfl
theorem q3146 : (Jvm.Cond.selects "FilingChainsModel" ({ cls := "FilingChainsModel", name := "slack", desc := "(I)I" } : Jvm.MethodName) ({ cls := "FilingChainsModel", name := "slack", desc := "(I)I" } : Jvm.MethodName)) ∈ lw_all := lw_g (lw_at lw_m13 103 rfl) rfl
theorem q3147 : (Jvm.Cond.code ({ cls := "FilingChainsModel", name := "slack", desc := "(I)I" } : Jvm.MethodName) prog_12_method_69_code (2 : Nat) (Option.some Jvm.ClassFile.FieldType.int)) ∈ lw_all := lw_g (lw_at lw_m13 104 rfl) rfl
theorem q3148 : (Jvm.Cond.methodLink "FilingChainsModel" (327 : Nat) ({ cls := "FilingChainsModel", name := "slackOf", desc := "(I)I" } : Jvm.MethodName)) ∈ lw_all := lw_g (lw_at lw_m13 105 rfl) rfl
theorem q3149 : (Jvm.Cond.privateMethod ({ cls := "FilingChainsModel", name := "slackOf", desc := "(I)I" } : Jvm.MethodName)) ∈ lw_tbl := lw_at lw_m13 106 rfl
theorem q3150 : (Jvm.Cond.instanceMethod ({ cls := "FilingChainsModel", name := "slackOf", desc := "(I)I" } : Jvm.MethodName)) ∈ lw_all := lw_g (lw_at lw_m13 107 rfl) rfl
theorem q3151 : (Jvm.Cond.code ({ cls := "FilingChainsModel", name := "slackOf", desc := "(I)I" } : Jvm.MethodName) prog_12_method_67_code (4 : Nat) (Option.some Jvm.ClassFile.FieldType.int)) ∈ lw_all := lw_g (lw_at lw_m13 108 rfl) rfl
theorem q3152 : (Jvm.Cond.constant "FilingChainsModel" (330 : Nat) (-100000 : Int32)) ∈ lw_all := lw_g (lw_at lw_m13 109 rfl) rfl
theorem q3154 : (Jvm.Cond.instanceMethod ({ cls := "FilingChainsModel", name := "holds", desc := "(II)I" } : Jvm.MethodName)) ∈ lw_all := lw_g (lw_at lw_m13 111 rfl) rfl
theorem q3155 : (Jvm.Cond.selects "FilingChainsModel" ({ cls := "FilingChainsModel", name := "holds", desc := "(II)I" } : Jvm.MethodName) ({ cls := "FilingChainsModel", name := "holds", desc := "(II)I" } : Jvm.MethodName)) ∈ lw_all := lw_g (lw_at lw_m13 112 rfl) rfl
theorem q3156 : (Jvm.Cond.code ({ cls := "FilingChainsModel", name := "holds", desc := "(II)I" } : Jvm.MethodName) prog_12_method_70_code (3 : Nat) (Option.some Jvm.ClassFile.FieldType.int)) ∈ lw_all := lw_g (lw_at lw_m13 113 rfl) rfl
theorem q3159 : (Jvm.Cond.instanceMethod ({ cls := "FilingChainsModel", name := "tight", desc := "(I)I" } : Jvm.MethodName)) ∈ lw_all := lw_g (lw_at lw_m13 116 rfl) rfl
theorem q3160 : (Jvm.Cond.selects "FilingChainsModel" ({ cls := "FilingChainsModel", name := "tight", desc := "(I)I" } : Jvm.MethodName) ({ cls := "FilingChainsModel", name := "tight", desc := "(I)I" } : Jvm.MethodName)) ∈ lw_all := lw_g (lw_at lw_m13 117 rfl) rfl
theorem q3161 : (Jvm.Cond.code ({ cls := "FilingChainsModel", name := "tight", desc := "(I)I" } : Jvm.MethodName) prog_12_method_72_code (4 : Nat) (Option.some Jvm.ClassFile.FieldType.int)) ∈ lw_all := lw_g (lw_at lw_m13 118 rfl) rfl
theorem q3163 : (Jvm.Cond.instanceMethod ({ cls := "FilingChainsModel", name := "window", desc := "(II)I" } : Jvm.MethodName)) ∈ lw_all := lw_g (lw_at lw_m13 120 rfl) rfl
theorem q3164 : (Jvm.Cond.selects "FilingChainsModel" ({ cls := "FilingChainsModel", name := "window", desc := "(II)I" } : Jvm.MethodName) ({ cls := "FilingChainsModel", name := "window", desc := "(II)I" } : Jvm.MethodName)) ∈ lw_all := lw_g (lw_at lw_m13 121 rfl) rfl
theorem q3165 : (Jvm.Cond.code ({ cls := "FilingChainsModel", name := "window", desc := "(II)I" } : Jvm.MethodName) prog_12_method_73_code (3 : Nat) (Option.some Jvm.ClassFile.FieldType.int)) ∈ lw_all := lw_g (lw_at lw_m13 122 rfl) rfl
theorem q3167 : (Jvm.Cond.instanceMethod ({ cls := "FilingChainsModel", name := "date", desc := "(II)I" } : Jvm.MethodName)) ∈ lw_all := lw_g (lw_at lw_m13 124 rfl) rfl
theorem q3168 : (Jvm.Cond.selects "FilingChainsModel" ({ cls := "FilingChainsModel", name := "date", desc := "(II)I" } : Jvm.MethodName) ({ cls := "FilingChainsModel", name := "date", desc := "(II)I" } : Jvm.MethodName)) ∈ lw_all := lw_g (lw_at lw_m13 125 rfl) rfl
theorem q3169 : (Jvm.Cond.code ({ cls := "FilingChainsModel", name := "date", desc := "(II)I" } : Jvm.MethodName) prog_12_method_79_code (3 : Nat) (Option.some Jvm.ClassFile.FieldType.int)) ∈ lw_all := lw_g (lw_at lw_m13 126 rfl) rfl
theorem q3171 : (Jvm.Cond.instanceMethod ({ cls := "FilingChainsModel", name := "dater", desc := "(II)I" } : Jvm.MethodName)) ∈ lw_all := lw_g (lw_at lw_m13 128 rfl) rfl
theorem q3172 : (Jvm.Cond.selects "FilingChainsModel" ({ cls := "FilingChainsModel", name := "dater", desc := "(II)I" } : Jvm.MethodName) ({ cls := "FilingChainsModel", name := "dater", desc := "(II)I" } : Jvm.MethodName)) ∈ lw_all := lw_g (lw_at lw_m13 129 rfl) rfl
theorem q3173 : (Jvm.Cond.code ({ cls := "FilingChainsModel", name := "dater", desc := "(II)I" } : Jvm.MethodName) prog_12_method_80_code (3 : Nat) (Option.some Jvm.ClassFile.FieldType.int)) ∈ lw_all := lw_g (lw_at lw_m13 130 rfl) rfl
theorem q3175 : (Jvm.Cond.instanceMethod ({ cls := "FilingChainsModel", name := "way", desc := "(III)I" } : Jvm.MethodName)) ∈ lw_all := lw_g (lw_at lw_m13 132 rfl) rfl
theorem q3176 : (Jvm.Cond.selects "FilingChainsModel" ({ cls := "FilingChainsModel", name := "way", desc := "(III)I" } : Jvm.MethodName) ({ cls := "FilingChainsModel", name := "way", desc := "(III)I" } : Jvm.MethodName)) ∈ lw_all := lw_g (lw_at lw_m13 133 rfl) rfl
theorem q3177 : (Jvm.Cond.code ({ cls := "FilingChainsModel", name := "way", desc := "(III)I" } : Jvm.MethodName) prog_12_method_84_code (4 : Nat) (Option.some Jvm.ClassFile.FieldType.int)) ∈ lw_all := lw_g (lw_at lw_m13 134 rfl) rfl
theorem q3178 : (Jvm.Cond.methodLink "FilingChainsModel" (359 : Nat) ({ cls := "FilingChainsModel", name := "laysWay", desc := "(II)V" } : Jvm.MethodName)) ∈ lw_all := lw_g (lw_at lw_m13 135 rfl) rfl
theorem q3179 : (Jvm.Cond.privateMethod ({ cls := "FilingChainsModel", name := "laysWay", desc := "(II)V" } : Jvm.MethodName)) ∈ lw_tbl := lw_at lw_m13 136 rfl
theorem q3180 : (Jvm.Cond.instanceMethod ({ cls := "FilingChainsModel", name := "laysWay", desc := "(II)V" } : Jvm.MethodName)) ∈ lw_all := lw_g (lw_at lw_m13 137 rfl) rfl
theorem q3181 : (Jvm.Cond.code ({ cls := "FilingChainsModel", name := "laysWay", desc := "(II)V" } : Jvm.MethodName) prog_12_method_83_code (5 : Nat) (Option.none : Option Jvm.ClassFile.FieldType)) ∈ lw_all := lw_g (lw_at lw_m13 138 rfl) rfl
theorem q3182 : (Jvm.Cond.methodLink "FilingChainsModel" (350 : Nat) ({ cls := "FilingChainsModel", name := "reachedFrom", desc := "(I)V" } : Jvm.MethodName)) ∈ lw_all := lw_g (lw_at lw_m13 139 rfl) rfl
theorem q3183 : (Jvm.Cond.privateMethod ({ cls := "FilingChainsModel", name := "reachedFrom", desc := "(I)V" } : Jvm.MethodName)) ∈ lw_tbl := lw_at lw_m13 140 rfl
theorem q3184 : (Jvm.Cond.instanceMethod ({ cls := "FilingChainsModel", name := "reachedFrom", desc := "(I)V" } : Jvm.MethodName)) ∈ lw_all := lw_g (lw_at lw_m13 141 rfl) rfl
theorem q3185 : (Jvm.Cond.code ({ cls := "FilingChainsModel", name := "reachedFrom", desc := "(I)V" } : Jvm.MethodName) prog_12_method_81_code (6 : Nat) (Option.none : Option Jvm.ClassFile.FieldType)) ∈ lw_all := lw_g (lw_at lw_m13 142 rfl) rfl
theorem q3186 : (Jvm.Cond.methodLink "FilingChainsModel" (356 : Nat) ({ cls := "FilingChainsModel", name := "nearerLink", desc := "(I)I" } : Jvm.MethodName)) ∈ lw_all := lw_g (lw_at lw_m13 143 rfl) rfl
theorem q3187 : (Jvm.Cond.privateMethod ({ cls := "FilingChainsModel", name := "nearerLink", desc := "(I)I" } : Jvm.MethodName)) ∈ lw_tbl := lw_at lw_m13 144 rfl
theorem q3188 : (Jvm.Cond.instanceMethod ({ cls := "FilingChainsModel", name := "nearerLink", desc := "(I)I" } : Jvm.MethodName)) ∈ lw_all := lw_g (lw_at lw_m13 145 rfl) rfl
theorem q3189 : (Jvm.Cond.code ({ cls := "FilingChainsModel", name := "nearerLink", desc := "(I)I" } : Jvm.MethodName) prog_12_method_82_code (3 : Nat) (Option.some Jvm.ClassFile.FieldType.int)) ∈ lw_all := lw_g (lw_at lw_m13 146 rfl) rfl
theorem q3191 : (Jvm.Cond.instanceMethod ({ cls := "FilingChainsModel", name := "needed", desc := "(II)I" } : Jvm.MethodName)) ∈ lw_all := lw_g (lw_at lw_m13 148 rfl) rfl
theorem q3192 : (Jvm.Cond.selects "FilingChainsModel" ({ cls := "FilingChainsModel", name := "needed", desc := "(II)I" } : Jvm.MethodName) ({ cls := "FilingChainsModel", name := "needed", desc := "(II)I" } : Jvm.MethodName)) ∈ lw_all := lw_g (lw_at lw_m13 149 rfl) rfl
theorem q3193 : (Jvm.Cond.code ({ cls := "FilingChainsModel", name := "needed", desc := "(II)I" } : Jvm.MethodName) prog_12_method_86_code (3 : Nat) (Option.some Jvm.ClassFile.FieldType.int)) ∈ lw_all := lw_g (lw_at lw_m13 150 rfl) rfl
theorem q3194 : (Jvm.Cond.methodLink "FilingChainsModel" (362 : Nat) ({ cls := "FilingChainsModel", name := "neededOf", desc := "(II)I" } : Jvm.MethodName)) ∈ lw_all := lw_g (lw_at lw_m13 151 rfl) rfl
theorem q3195 : (Jvm.Cond.privateMethod ({ cls := "FilingChainsModel", name := "neededOf", desc := "(II)I" } : Jvm.MethodName)) ∈ lw_tbl := lw_at lw_m13 152 rfl
theorem q3196 : (Jvm.Cond.instanceMethod ({ cls := "FilingChainsModel", name := "neededOf", desc := "(II)I" } : Jvm.MethodName)) ∈ lw_all := lw_g (lw_at lw_m13 153 rfl) rfl
theorem q3197 : (Jvm.Cond.code ({ cls := "FilingChainsModel", name := "neededOf", desc := "(II)I" } : Jvm.MethodName) prog_12_method_85_code (6 : Nat) (Option.some Jvm.ClassFile.FieldType.int)) ∈ lw_all := lw_g (lw_at lw_m13 154 rfl) rfl
theorem q3199 : (Jvm.Cond.instanceMethod ({ cls := "FilingChainsModel", name := "last", desc := "(II)I" } : Jvm.MethodName)) ∈ lw_all := lw_g (lw_at lw_m13 156 rfl) rfl
theorem q3200 : (Jvm.Cond.selects "FilingChainsModel" ({ cls := "FilingChainsModel", name := "last", desc := "(II)I" } : Jvm.MethodName) ({ cls := "FilingChainsModel", name := "last", desc := "(II)I" } : Jvm.MethodName)) ∈ lw_all := lw_g (lw_at lw_m13 157 rfl) rfl
theorem q3201 : (Jvm.Cond.code ({ cls := "FilingChainsModel", name := "last", desc := "(II)I" } : Jvm.MethodName) prog_12_method_87_code (8 : Nat) (Option.some Jvm.ClassFile.FieldType.int)) ∈ lw_all := lw_g (lw_at lw_m13 158 rfl) rfl
theorem q3203 : (Jvm.Cond.instanceMethod ({ cls := "FilingChainsModel", name := "without", desc := "(III)I" } : Jvm.MethodName)) ∈ lw_all := lw_g (lw_at lw_m13 160 rfl) rfl
theorem q3204 : (Jvm.Cond.selects "FilingChainsModel" ({ cls := "FilingChainsModel", name := "without", desc := "(III)I" } : Jvm.MethodName) ({ cls := "FilingChainsModel", name := "without", desc := "(III)I" } : Jvm.MethodName)) ∈ lw_all := lw_g (lw_at lw_m13 161 rfl) rfl
theorem q3205 : (Jvm.Cond.code ({ cls := "FilingChainsModel", name := "without", desc := "(III)I" } : Jvm.MethodName) prog_12_method_88_code (4 : Nat) (Option.some Jvm.ClassFile.FieldType.int)) ∈ lw_all := lw_g (lw_at lw_m13 162 rfl) rfl
theorem q3207 : (Jvm.Cond.instanceMethod ({ cls := "FilingChainsModel", name := "leastTerm", desc := "(II)I" } : Jvm.MethodName)) ∈ lw_all := lw_g (lw_at lw_m13 164 rfl) rfl
theorem q3208 : (Jvm.Cond.selects "FilingChainsModel" ({ cls := "FilingChainsModel", name := "leastTerm", desc := "(II)I" } : Jvm.MethodName) ({ cls := "FilingChainsModel", name := "leastTerm", desc := "(II)I" } : Jvm.MethodName)) ∈ lw_all := lw_g (lw_at lw_m13 165 rfl) rfl
theorem q3209 : (Jvm.Cond.code ({ cls := "FilingChainsModel", name := "leastTerm", desc := "(II)I" } : Jvm.MethodName) prog_12_method_90_code (6 : Nat) (Option.some Jvm.ClassFile.FieldType.int)) ∈ lw_all := lw_g (lw_at lw_m13 166 rfl) rfl
theorem q3210 : (Jvm.Cond.methodLink "FilingChainsModel" (365 : Nat) ({ cls := "FilingChainsModel", name := "nextTerm", desc := "(I)I" } : Jvm.MethodName)) ∈ lw_all := lw_g (lw_at lw_m13 167 rfl) rfl
theorem q3211 : (Jvm.Cond.privateMethod ({ cls := "FilingChainsModel", name := "nextTerm", desc := "(I)I" } : Jvm.MethodName)) ∈ lw_tbl := lw_at lw_m13 168 rfl
theorem q3212 : (Jvm.Cond.instanceMethod ({ cls := "FilingChainsModel", name := "nextTerm", desc := "(I)I" } : Jvm.MethodName)) ∈ lw_all := lw_g (lw_at lw_m13 169 rfl) rfl
theorem q3213 : (Jvm.Cond.code ({ cls := "FilingChainsModel", name := "nextTerm", desc := "(I)I" } : Jvm.MethodName) prog_12_method_89_code (5 : Nat) (Option.some Jvm.ClassFile.FieldType.int)) ∈ lw_all := lw_g (lw_at lw_m13 170 rfl) rfl
theorem q3215 : (Jvm.Cond.instanceMethod ({ cls := "FilingChainsModel", name := "harm", desc := "(I)I" } : Jvm.MethodName)) ∈ lw_all := lw_g (lw_at lw_m13 172 rfl) rfl
theorem q3216 : (Jvm.Cond.selects "FilingChainsModel" ({ cls := "FilingChainsModel", name := "harm", desc := "(I)I" } : Jvm.MethodName) ({ cls := "FilingChainsModel", name := "harm", desc := "(I)I" } : Jvm.MethodName)) ∈ lw_all := lw_g (lw_at lw_m13 173 rfl) rfl
theorem q3217 : (Jvm.Cond.code ({ cls := "FilingChainsModel", name := "harm", desc := "(I)I" } : Jvm.MethodName) prog_12_method_95_code (2 : Nat) (Option.some Jvm.ClassFile.FieldType.int)) ∈ lw_all := lw_g (lw_at lw_m13 174 rfl) rfl
theorem q3218 : (Jvm.Cond.methodLink "FilingChainsModel" (371 : Nat) ({ cls := "FilingChainsModel", name := "laysDates", desc := "()V" } : Jvm.MethodName)) ∈ lw_all := lw_g (lw_at lw_m13 175 rfl) rfl
theorem q3219 : (Jvm.Cond.privateMethod ({ cls := "FilingChainsModel", name := "laysDates", desc := "()V" } : Jvm.MethodName)) ∈ lw_tbl := lw_at lw_m13 176 rfl
theorem q3220 : (Jvm.Cond.instanceMethod ({ cls := "FilingChainsModel", name := "laysDates", desc := "()V" } : Jvm.MethodName)) ∈ lw_all := lw_g (lw_at lw_m13 177 rfl) rfl
theorem q3221 : (Jvm.Cond.code ({ cls := "FilingChainsModel", name := "laysDates", desc := "()V" } : Jvm.MethodName) prog_12_method_93_code (2 : Nat) (Option.none : Option Jvm.ClassFile.FieldType)) ∈ lw_all := lw_g (lw_at lw_m13 178 rfl) rfl
theorem q3222 : (Jvm.Cond.methodLink "FilingChainsModel" (374 : Nat) ({ cls := "FilingChainsModel", name := "laterNow", desc := "(I)I" } : Jvm.MethodName)) ∈ lw_all := lw_g (lw_at lw_m13 179 rfl) rfl
theorem q3223 : (Jvm.Cond.privateMethod ({ cls := "FilingChainsModel", name := "laterNow", desc := "(I)I" } : Jvm.MethodName)) ∈ lw_tbl := lw_at lw_m13 180 rfl
theorem q3224 : (Jvm.Cond.instanceMethod ({ cls := "FilingChainsModel", name := "laterNow", desc := "(I)I" } : Jvm.MethodName)) ∈ lw_all := lw_g (lw_at lw_m13 181 rfl) rfl
theorem q3225 : (Jvm.Cond.code ({ cls := "FilingChainsModel", name := "laterNow", desc := "(I)I" } : Jvm.MethodName) prog_12_method_94_code (4 : Nat) (Option.some Jvm.ClassFile.FieldType.int)) ∈ lw_all := lw_g (lw_at lw_m13 182 rfl) rfl
theorem q3227 : (Jvm.Cond.instanceMethod ({ cls := "FilingChainsModel", name := "slip", desc := "(II)I" } : Jvm.MethodName)) ∈ lw_all := lw_g (lw_at lw_m13 184 rfl) rfl
theorem q3228 : (Jvm.Cond.selects "FilingChainsModel" ({ cls := "FilingChainsModel", name := "slip", desc := "(II)I" } : Jvm.MethodName) ({ cls := "FilingChainsModel", name := "slip", desc := "(II)I" } : Jvm.MethodName)) ∈ lw_all := lw_g (lw_at lw_m13 185 rfl) rfl
theorem q3229 : (Jvm.Cond.code ({ cls := "FilingChainsModel", name := "slip", desc := "(II)I" } : Jvm.MethodName) prog_12_method_96_code (4 : Nat) (Option.some Jvm.ClassFile.FieldType.int)) ∈ lw_all := lw_g (lw_at lw_m13 186 rfl) rfl
theorem q3231 : (Jvm.Cond.instanceMethod ({ cls := "FilingChainsModel", name := "ending", desc := "(II)I" } : Jvm.MethodName)) ∈ lw_all := lw_g (lw_at lw_m13 188 rfl) rfl
theorem q3232 : (Jvm.Cond.selects "FilingChainsModel" ({ cls := "FilingChainsModel", name := "ending", desc := "(II)I" } : Jvm.MethodName) ({ cls := "FilingChainsModel", name := "ending", desc := "(II)I" } : Jvm.MethodName)) ∈ lw_all := lw_g (lw_at lw_m13 189 rfl) rfl
theorem q3233 : (Jvm.Cond.code ({ cls := "FilingChainsModel", name := "ending", desc := "(II)I" } : Jvm.MethodName) prog_12_method_97_code (5 : Nat) (Option.some Jvm.ClassFile.FieldType.int)) ∈ lw_all := lw_g (lw_at lw_m13 190 rfl) rfl
theorem q3234 : (Jvm.Cond.methodLink "FilingChainsModel" (377 : Nat) ({ cls := "FilingChainsModel", name := "isDay", desc := "(I)Z" } : Jvm.MethodName)) ∈ lw_all := lw_g (lw_at lw_m13 191 rfl) rfl
theorem q3235 : (Jvm.Cond.static ({ cls := "FilingChainsModel", name := "isDay", desc := "(I)Z" } : Jvm.MethodName)) ∈ lw_all := lw_g (lw_at lw_m13 192 rfl) rfl
theorem q3236 : (Jvm.Cond.code ({ cls := "FilingChainsModel", name := "isDay", desc := "(I)Z" } : Jvm.MethodName) prog_12_method_45_code (1 : Nat) (Option.some Jvm.ClassFile.FieldType.boolean)) ∈ lw_all := lw_g (lw_at lw_m13 193 rfl) rfl
theorem q3238 : (Jvm.Cond.instanceMethod ({ cls := "FilingChainsModel", name := "bar", desc := "(II)I" } : Jvm.MethodName)) ∈ lw_all := lw_g (lw_at lw_m13 195 rfl) rfl
theorem q3239 : (Jvm.Cond.selects "FilingChainsModel" ({ cls := "FilingChainsModel", name := "bar", desc := "(II)I" } : Jvm.MethodName) ({ cls := "FilingChainsModel", name := "bar", desc := "(II)I" } : Jvm.MethodName)) ∈ lw_all := lw_g (lw_at lw_m13 196 rfl) rfl
theorem q3240 : (Jvm.Cond.code ({ cls := "FilingChainsModel", name := "bar", desc := "(II)I" } : Jvm.MethodName) prog_12_method_109_code (3 : Nat) (Option.some Jvm.ClassFile.FieldType.int)) ∈ lw_all := lw_g (lw_at lw_m13 197 rfl) rfl
theorem q3241 : (Jvm.Cond.methodLink "FilingChainsModel" (427 : Nat) ({ cls := "FilingChainsModel", name := "isClaim", desc := "(I)Z" } : Jvm.MethodName)) ∈ lw_all := lw_g (lw_at lw_m13 198 rfl) rfl
theorem q3242 : (Jvm.Cond.privateMethod ({ cls := "FilingChainsModel", name := "isClaim", desc := "(I)Z" } : Jvm.MethodName)) ∈ lw_tbl := lw_at lw_m13 199 rfl
theorem q3243 : (Jvm.Cond.instanceMethod ({ cls := "FilingChainsModel", name := "isClaim", desc := "(I)Z" } : Jvm.MethodName)) ∈ lw_all := lw_g (lw_at lw_m13 200 rfl) rfl
theorem q3244 : (Jvm.Cond.code ({ cls := "FilingChainsModel", name := "isClaim", desc := "(I)Z" } : Jvm.MethodName) prog_12_method_41_code (2 : Nat) (Option.some Jvm.ClassFile.FieldType.boolean)) ∈ lw_all := lw_g (lw_at lw_m13 201 rfl) rfl
theorem q3246 : (Jvm.Cond.instanceMethod ({ cls := "FilingChainsModel", name := "bars", desc := "(II)I" } : Jvm.MethodName)) ∈ lw_all := lw_g (lw_at lw_m13 203 rfl) rfl
theorem q3247 : (Jvm.Cond.selects "FilingChainsModel" ({ cls := "FilingChainsModel", name := "bars", desc := "(II)I" } : Jvm.MethodName) ({ cls := "FilingChainsModel", name := "bars", desc := "(II)I" } : Jvm.MethodName)) ∈ lw_all := lw_g (lw_at lw_m13 204 rfl) rfl
theorem q3248 : (Jvm.Cond.code ({ cls := "FilingChainsModel", name := "bars", desc := "(II)I" } : Jvm.MethodName) prog_12_method_110_code (4 : Nat) (Option.some Jvm.ClassFile.FieldType.int)) ∈ lw_all := lw_g (lw_at lw_m13 205 rfl) rfl
theorem q3249 : (Jvm.Cond.methodLink "FilingChainsModel" (430 : Nat) ({ cls := "FilingChainsModel", name := "isThing", desc := "(I)Z" } : Jvm.MethodName)) ∈ lw_all := lw_g (lw_at lw_m13 206 rfl) rfl
theorem q3250 : (Jvm.Cond.privateMethod ({ cls := "FilingChainsModel", name := "isThing", desc := "(I)Z" } : Jvm.MethodName)) ∈ lw_tbl := lw_at lw_m13 207 rfl
theorem q3251 : (Jvm.Cond.instanceMethod ({ cls := "FilingChainsModel", name := "isThing", desc := "(I)Z" } : Jvm.MethodName)) ∈ lw_all := lw_g (lw_at lw_m13 208 rfl) rfl
theorem q3252 : (Jvm.Cond.code ({ cls := "FilingChainsModel", name := "isThing", desc := "(I)Z" } : Jvm.MethodName) prog_12_method_43_code (2 : Nat) (Option.some Jvm.ClassFile.FieldType.boolean)) ∈ lw_all := lw_g (lw_at lw_m13 209 rfl) rfl
theorem q3254 : (Jvm.Cond.instanceMethod ({ cls := "FilingChainsModel", name := "graced", desc := "(I)I" } : Jvm.MethodName)) ∈ lw_all := lw_g (lw_at lw_m13 211 rfl) rfl
theorem q3255 : (Jvm.Cond.selects "FilingChainsModel" ({ cls := "FilingChainsModel", name := "graced", desc := "(I)I" } : Jvm.MethodName) ({ cls := "FilingChainsModel", name := "graced", desc := "(I)I" } : Jvm.MethodName)) ∈ lw_all := lw_g (lw_at lw_m13 212 rfl) rfl
theorem q3256 : (Jvm.Cond.code ({ cls := "FilingChainsModel", name := "graced", desc := "(I)I" } : Jvm.MethodName) prog_12_method_111_code (6 : Nat) (Option.some Jvm.ClassFile.FieldType.int)) ∈ lw_all := lw_g (lw_at lw_m13 213 rfl) rfl
theorem q3258 : (Jvm.Cond.instanceMethod ({ cls := "FilingChainsModel", name := "claim", desc := "(II)I" } : Jvm.MethodName)) ∈ lw_all := lw_g (lw_at lw_m13 215 rfl) rfl
theorem q3259 : (Jvm.Cond.selects "FilingChainsModel" ({ cls := "FilingChainsModel", name := "claim", desc := "(II)I" } : Jvm.MethodName) ({ cls := "FilingChainsModel", name := "claim", desc := "(II)I" } : Jvm.MethodName)) ∈ lw_all := lw_g (lw_at lw_m13 216 rfl) rfl
theorem q3260 : (Jvm.Cond.code ({ cls := "FilingChainsModel", name := "claim", desc := "(II)I" } : Jvm.MethodName) prog_12_method_114_code (3 : Nat) (Option.some Jvm.ClassFile.FieldType.int)) ∈ lw_all := lw_g (lw_at lw_m13 217 rfl) rfl
theorem q3261 : (Jvm.Cond.methodLink "FilingChainsModel" (436 : Nat) ({ cls := "FilingChainsModel", name := "marginOf", desc := "(I)I" } : Jvm.MethodName)) ∈ lw_all := lw_g (lw_at lw_m13 218 rfl) rfl
theorem q3262 : (Jvm.Cond.privateMethod ({ cls := "FilingChainsModel", name := "marginOf", desc := "(I)I" } : Jvm.MethodName)) ∈ lw_tbl := lw_at lw_m13 219 rfl
theorem q3263 : (Jvm.Cond.instanceMethod ({ cls := "FilingChainsModel", name := "marginOf", desc := "(I)I" } : Jvm.MethodName)) ∈ lw_all := lw_g (lw_at lw_m13 220 rfl) rfl
theorem q3264 : (Jvm.Cond.code ({ cls := "FilingChainsModel", name := "marginOf", desc := "(I)I" } : Jvm.MethodName) prog_12_method_113_code (4 : Nat) (Option.some Jvm.ClassFile.FieldType.int)) ∈ lw_all := lw_g (lw_at lw_m13 221 rfl) rfl
theorem q3265 : (Jvm.Cond.methodLink "FilingChainsModel" (433 : Nat) ({ cls := "FilingChainsModel", name := "isBarredAlone", desc := "(II)Z" } : Jvm.MethodName)) ∈ lw_all := lw_g (lw_at lw_m13 222 rfl) rfl
theorem q3266 : (Jvm.Cond.privateMethod ({ cls := "FilingChainsModel", name := "isBarredAlone", desc := "(II)Z" } : Jvm.MethodName)) ∈ lw_tbl := lw_at lw_m13 223 rfl
theorem q3267 : (Jvm.Cond.instanceMethod ({ cls := "FilingChainsModel", name := "isBarredAlone", desc := "(II)Z" } : Jvm.MethodName)) ∈ lw_all := lw_g (lw_at lw_m13 224 rfl) rfl
theorem q3268 : (Jvm.Cond.code ({ cls := "FilingChainsModel", name := "isBarredAlone", desc := "(II)Z" } : Jvm.MethodName) prog_12_method_112_code (4 : Nat) (Option.some Jvm.ClassFile.FieldType.boolean)) ∈ lw_all := lw_g (lw_at lw_m13 225 rfl) rfl
theorem q3270 : (Jvm.Cond.instanceMethod ({ cls := "FilingChainsModel", name := "shown", desc := "(II)I" } : Jvm.MethodName)) ∈ lw_all := lw_g (lw_at lw_m13 227 rfl) rfl
theorem q3271 : (Jvm.Cond.selects "FilingChainsModel" ({ cls := "FilingChainsModel", name := "shown", desc := "(II)I" } : Jvm.MethodName) ({ cls := "FilingChainsModel", name := "shown", desc := "(II)I" } : Jvm.MethodName)) ∈ lw_all := lw_g (lw_at lw_m13 228 rfl) rfl
theorem q3272 : (Jvm.Cond.code ({ cls := "FilingChainsModel", name := "shown", desc := "(II)I" } : Jvm.MethodName) prog_12_method_115_code (3 : Nat) (Option.some Jvm.ClassFile.FieldType.int)) ∈ lw_all := lw_g (lw_at lw_m13 229 rfl) rfl
theorem q3274 : (Jvm.Cond.instanceMethod ({ cls := "FilingChainsModel", name := "guard", desc := "(II)I" } : Jvm.MethodName)) ∈ lw_all := lw_g (lw_at lw_m13 231 rfl) rfl
theorem q3275 : (Jvm.Cond.selects "FilingChainsModel" ({ cls := "FilingChainsModel", name := "guard", desc := "(II)I" } : Jvm.MethodName) ({ cls := "FilingChainsModel", name := "guard", desc := "(II)I" } : Jvm.MethodName)) ∈ lw_all := lw_g (lw_at lw_m13 232 rfl) rfl
theorem q3276 : (Jvm.Cond.code ({ cls := "FilingChainsModel", name := "guard", desc := "(II)I" } : Jvm.MethodName) prog_12_method_118_code (6 : Nat) (Option.some Jvm.ClassFile.FieldType.int)) ∈ lw_all := lw_g (lw_at lw_m13 233 rfl) rfl
theorem q3277 : (Jvm.Cond.methodLink "FilingChainsModel" (439 : Nat) ({ cls := "FilingChainsModel", name := "laysPairs", desc := "(I)V" } : Jvm.MethodName)) ∈ lw_all := lw_g (lw_at lw_m13 234 rfl) rfl
theorem q3278 : (Jvm.Cond.privateMethod ({ cls := "FilingChainsModel", name := "laysPairs", desc := "(I)V" } : Jvm.MethodName)) ∈ lw_tbl := lw_at lw_m13 235 rfl
theorem q3279 : (Jvm.Cond.instanceMethod ({ cls := "FilingChainsModel", name := "laysPairs", desc := "(I)V" } : Jvm.MethodName)) ∈ lw_all := lw_g (lw_at lw_m13 236 rfl) rfl
theorem q3280 : (Jvm.Cond.code ({ cls := "FilingChainsModel", name := "laysPairs", desc := "(I)V" } : Jvm.MethodName) prog_12_method_116_code (7 : Nat) (Option.none : Option Jvm.ClassFile.FieldType)) ∈ lw_all := lw_g (lw_at lw_m13 237 rfl) rfl
theorem q3281 : (Jvm.Cond.methodLink "FilingChainsModel" (442 : Nat) ({ cls := "FilingChainsModel", name := "isFree", desc := "(I)Z" } : Jvm.MethodName)) ∈ lw_all := lw_g (lw_at lw_m13 238 rfl) rfl
theorem q3282 : (Jvm.Cond.privateMethod ({ cls := "FilingChainsModel", name := "isFree", desc := "(I)Z" } : Jvm.MethodName)) ∈ lw_tbl := lw_at lw_m13 239 rfl
theorem q3283 : (Jvm.Cond.instanceMethod ({ cls := "FilingChainsModel", name := "isFree", desc := "(I)Z" } : Jvm.MethodName)) ∈ lw_all := lw_g (lw_at lw_m14 0 rfl) rfl
theorem q3284 : (Jvm.Cond.code ({ cls := "FilingChainsModel", name := "isFree", desc := "(I)Z" } : Jvm.MethodName) prog_12_method_117_code (3 : Nat) (Option.some Jvm.ClassFile.FieldType.boolean)) ∈ lw_all := lw_g (lw_at lw_m14 1 rfl) rfl
theorem q3286 : (Jvm.Cond.instanceMethod ({ cls := "FilingChainsModel", name := "alone", desc := "(III)I" } : Jvm.MethodName)) ∈ lw_all := lw_g (lw_at lw_m14 3 rfl) rfl
theorem q3287 : (Jvm.Cond.selects "FilingChainsModel" ({ cls := "FilingChainsModel", name := "alone", desc := "(III)I" } : Jvm.MethodName) ({ cls := "FilingChainsModel", name := "alone", desc := "(III)I" } : Jvm.MethodName)) ∈ lw_all := lw_g (lw_at lw_m14 4 rfl) rfl
theorem q3288 : (Jvm.Cond.code ({ cls := "FilingChainsModel", name := "alone", desc := "(III)I" } : Jvm.MethodName) prog_12_method_119_code (4 : Nat) (Option.some Jvm.ClassFile.FieldType.int)) ∈ lw_all := lw_g (lw_at lw_m14 5 rfl) rfl
theorem q3289 : (Jvm.Cond.methodLink "FilingChainsModel" (445 : Nat) ({ cls := "FilingChainsModel", name := "isFiler", desc := "(I)Z" } : Jvm.MethodName)) ∈ lw_all := lw_g (lw_at lw_m14 6 rfl) rfl
theorem q3290 : (Jvm.Cond.privateMethod ({ cls := "FilingChainsModel", name := "isFiler", desc := "(I)Z" } : Jvm.MethodName)) ∈ lw_tbl := lw_at lw_m14 7 rfl
theorem q3291 : (Jvm.Cond.instanceMethod ({ cls := "FilingChainsModel", name := "isFiler", desc := "(I)Z" } : Jvm.MethodName)) ∈ lw_all := lw_g (lw_at lw_m14 8 rfl) rfl
theorem q3292 : (Jvm.Cond.code ({ cls := "FilingChainsModel", name := "isFiler", desc := "(I)Z" } : Jvm.MethodName) prog_12_method_40_code (2 : Nat) (Option.some Jvm.ClassFile.FieldType.boolean)) ∈ lw_all := lw_g (lw_at lw_m14 9 rfl) rfl
theorem q3294 : (Jvm.Cond.instanceMethod ({ cls := "FilingChainsModel", name := "latest", desc := "(II)I" } : Jvm.MethodName)) ∈ lw_all := lw_g (lw_at lw_m14 11 rfl) rfl
theorem q3295 : (Jvm.Cond.selects "FilingChainsModel" ({ cls := "FilingChainsModel", name := "latest", desc := "(II)I" } : Jvm.MethodName) ({ cls := "FilingChainsModel", name := "latest", desc := "(II)I" } : Jvm.MethodName)) ∈ lw_all := lw_g (lw_at lw_m14 12 rfl) rfl
theorem q3296 : (Jvm.Cond.code ({ cls := "FilingChainsModel", name := "latest", desc := "(II)I" } : Jvm.MethodName) prog_12_method_120_code (4 : Nat) (Option.some Jvm.ClassFile.FieldType.int)) ∈ lw_all := lw_g (lw_at lw_m14 13 rfl) rfl
theorem q3298 : (Jvm.Cond.instanceMethod ({ cls := "FilingChainsModel", name := "order", desc := "(II)I" } : Jvm.MethodName)) ∈ lw_all := lw_g (lw_at lw_m14 15 rfl) rfl
theorem q3299 : (Jvm.Cond.selects "FilingChainsModel" ({ cls := "FilingChainsModel", name := "order", desc := "(II)I" } : Jvm.MethodName) ({ cls := "FilingChainsModel", name := "order", desc := "(II)I" } : Jvm.MethodName)) ∈ lw_all := lw_g (lw_at lw_m14 16 rfl) rfl
theorem q3300 : (Jvm.Cond.code ({ cls := "FilingChainsModel", name := "order", desc := "(II)I" } : Jvm.MethodName) prog_12_method_122_code (5 : Nat) (Option.some Jvm.ClassFile.FieldType.int)) ∈ lw_all := lw_g (lw_at lw_m14 17 rfl) rfl
theorem q3301 : (Jvm.Cond.methodLink "FilingChainsModel" (448 : Nat) ({ cls := "FilingChainsModel", name := "nextClaim", desc := "(IIII)I" } : Jvm.MethodName)) ∈ lw_all := lw_g (lw_at lw_m14 18 rfl) rfl
theorem q3302 : (Jvm.Cond.privateMethod ({ cls := "FilingChainsModel", name := "nextClaim", desc := "(IIII)I" } : Jvm.MethodName)) ∈ lw_tbl := lw_at lw_m14 19 rfl
theorem q3303 : (Jvm.Cond.instanceMethod ({ cls := "FilingChainsModel", name := "nextClaim", desc := "(IIII)I" } : Jvm.MethodName)) ∈ lw_all := lw_g (lw_at lw_m14 20 rfl) rfl
theorem q3304 : (Jvm.Cond.code ({ cls := "FilingChainsModel", name := "nextClaim", desc := "(IIII)I" } : Jvm.MethodName) prog_12_method_121_code (8 : Nat) (Option.some Jvm.ClassFile.FieldType.int)) ∈ lw_all := lw_g (lw_at lw_m14 21 rfl) rfl
theorem q3306 : (Jvm.Cond.instanceMethod ({ cls := "FilingChainsModel", name := "rival", desc := "(I)I" } : Jvm.MethodName)) ∈ lw_all := lw_g (lw_at lw_m14 23 rfl) rfl
theorem q3307 : (Jvm.Cond.selects "FilingChainsModel" ({ cls := "FilingChainsModel", name := "rival", desc := "(I)I" } : Jvm.MethodName) ({ cls := "FilingChainsModel", name := "rival", desc := "(I)I" } : Jvm.MethodName)) ∈ lw_all := lw_g (lw_at lw_m14 24 rfl) rfl
theorem q3308 : (Jvm.Cond.code ({ cls := "FilingChainsModel", name := "rival", desc := "(I)I" } : Jvm.MethodName) prog_12_method_123_code (3 : Nat) (Option.some Jvm.ClassFile.FieldType.int)) ∈ lw_all := lw_g (lw_at lw_m14 25 rfl) rfl
theorem q3310 : (Jvm.Cond.instanceMethod ({ cls := "FilingChainsModel", name := "twins", desc := "(I)I" } : Jvm.MethodName)) ∈ lw_all := lw_g (lw_at lw_m14 27 rfl) rfl
theorem q3311 : (Jvm.Cond.selects "FilingChainsModel" ({ cls := "FilingChainsModel", name := "twins", desc := "(I)I" } : Jvm.MethodName) ({ cls := "FilingChainsModel", name := "twins", desc := "(I)I" } : Jvm.MethodName)) ∈ lw_all := lw_g (lw_at lw_m14 28 rfl) rfl
theorem q3312 : (Jvm.Cond.code ({ cls := "FilingChainsModel", name := "twins", desc := "(I)I" } : Jvm.MethodName) prog_12_method_124_code (5 : Nat) (Option.some Jvm.ClassFile.FieldType.int)) ∈ lw_all := lw_g (lw_at lw_m14 29 rfl) rfl
theorem q3314 : (Jvm.Cond.instanceMethod ({ cls := "FilingChainsModel", name := "family", desc := "(I)I" } : Jvm.MethodName)) ∈ lw_all := lw_g (lw_at lw_m14 31 rfl) rfl
theorem q3315 : (Jvm.Cond.selects "FilingChainsModel" ({ cls := "FilingChainsModel", name := "family", desc := "(I)I" } : Jvm.MethodName) ({ cls := "FilingChainsModel", name := "family", desc := "(I)I" } : Jvm.MethodName)) ∈ lw_all := lw_g (lw_at lw_m14 32 rfl) rfl
theorem q3316 : (Jvm.Cond.code ({ cls := "FilingChainsModel", name := "family", desc := "(I)I" } : Jvm.MethodName) prog_12_method_126_code (6 : Nat) (Option.some Jvm.ClassFile.FieldType.int)) ∈ lw_all := lw_g (lw_at lw_m14 33 rfl) rfl
theorem q3318 : (Jvm.Cond.instanceMethod ({ cls := "FilingChainsModel", name := "depth", desc := "(I)I" } : Jvm.MethodName)) ∈ lw_all := lw_g (lw_at lw_m14 35 rfl) rfl
theorem q3319 : (Jvm.Cond.selects "FilingChainsModel" ({ cls := "FilingChainsModel", name := "depth", desc := "(I)I" } : Jvm.MethodName) ({ cls := "FilingChainsModel", name := "depth", desc := "(I)I" } : Jvm.MethodName)) ∈ lw_all := lw_g (lw_at lw_m14 36 rfl) rfl
theorem q3320 : (Jvm.Cond.code ({ cls := "FilingChainsModel", name := "depth", desc := "(I)I" } : Jvm.MethodName) prog_12_method_128_code (6 : Nat) (Option.some Jvm.ClassFile.FieldType.int)) ∈ lw_all := lw_g (lw_at lw_m14 37 rfl) rfl
theorem q3321 : (Jvm.Cond.methodLink "FilingChainsModel" (452 : Nat) ({ cls := "FilingChainsModel", name := "nextStep", desc := "(III)I" } : Jvm.MethodName)) ∈ lw_all := lw_g (lw_at lw_m14 38 rfl) rfl
theorem q3322 : (Jvm.Cond.privateMethod ({ cls := "FilingChainsModel", name := "nextStep", desc := "(III)I" } : Jvm.MethodName)) ∈ lw_tbl := lw_at lw_m14 39 rfl
theorem q3323 : (Jvm.Cond.instanceMethod ({ cls := "FilingChainsModel", name := "nextStep", desc := "(III)I" } : Jvm.MethodName)) ∈ lw_all := lw_g (lw_at lw_m14 40 rfl) rfl
theorem q3324 : (Jvm.Cond.code ({ cls := "FilingChainsModel", name := "nextStep", desc := "(III)I" } : Jvm.MethodName) prog_12_method_127_code (5 : Nat) (Option.some Jvm.ClassFile.FieldType.int)) ∈ lw_all := lw_g (lw_at lw_m14 41 rfl) rfl
theorem q3326 : (Jvm.Cond.instanceMethod ({ cls := "FilingChainsModel", name := "heirs", desc := "(II)I" } : Jvm.MethodName)) ∈ lw_all := lw_g (lw_at lw_m14 43 rfl) rfl
theorem q3327 : (Jvm.Cond.selects "FilingChainsModel" ({ cls := "FilingChainsModel", name := "heirs", desc := "(II)I" } : Jvm.MethodName) ({ cls := "FilingChainsModel", name := "heirs", desc := "(II)I" } : Jvm.MethodName)) ∈ lw_all := lw_g (lw_at lw_m14 44 rfl) rfl
theorem q3328 : (Jvm.Cond.code ({ cls := "FilingChainsModel", name := "heirs", desc := "(II)I" } : Jvm.MethodName) prog_12_method_129_code (5 : Nat) (Option.some Jvm.ClassFile.FieldType.int)) ∈ lw_all := lw_g (lw_at lw_m14 45 rfl) rfl
theorem q3330 : (Jvm.Cond.instanceMethod ({ cls := "FilingChainsModel", name := "first", desc := "(II)I" } : Jvm.MethodName)) ∈ lw_all := lw_g (lw_at lw_m14 47 rfl) rfl
theorem q3331 : (Jvm.Cond.selects "FilingChainsModel" ({ cls := "FilingChainsModel", name := "first", desc := "(II)I" } : Jvm.MethodName) ({ cls := "FilingChainsModel", name := "first", desc := "(II)I" } : Jvm.MethodName)) ∈ lw_all := lw_g (lw_at lw_m14 48 rfl) rfl
theorem q3332 : (Jvm.Cond.code ({ cls := "FilingChainsModel", name := "first", desc := "(II)I" } : Jvm.MethodName) prog_12_method_130_code (7 : Nat) (Option.some Jvm.ClassFile.FieldType.int)) ∈ lw_all := lw_g (lw_at lw_m14 49 rfl) rfl
theorem q3334 : (Jvm.Cond.instanceMethod ({ cls := "FilingChainsModel", name := "nearest", desc := "(II)I" } : Jvm.MethodName)) ∈ lw_all := lw_g (lw_at lw_m14 51 rfl) rfl
theorem q3335 : (Jvm.Cond.selects "FilingChainsModel" ({ cls := "FilingChainsModel", name := "nearest", desc := "(II)I" } : Jvm.MethodName) ({ cls := "FilingChainsModel", name := "nearest", desc := "(II)I" } : Jvm.MethodName)) ∈ lw_all := lw_g (lw_at lw_m14 52 rfl) rfl
theorem q3336 : (Jvm.Cond.code ({ cls := "FilingChainsModel", name := "nearest", desc := "(II)I" } : Jvm.MethodName) prog_12_method_131_code (7 : Nat) (Option.some Jvm.ClassFile.FieldType.int)) ∈ lw_all := lw_g (lw_at lw_m14 53 rfl) rfl
theorem q3338 : (Jvm.Cond.instanceMethod ({ cls := "FilingChainsModel", name := "late", desc := "(I)I" } : Jvm.MethodName)) ∈ lw_all := lw_g (lw_at lw_m14 55 rfl) rfl
theorem q3339 : (Jvm.Cond.selects "FilingChainsModel" ({ cls := "FilingChainsModel", name := "late", desc := "(I)I" } : Jvm.MethodName) ({ cls := "FilingChainsModel", name := "late", desc := "(I)I" } : Jvm.MethodName)) ∈ lw_all := lw_g (lw_at lw_m14 56 rfl) rfl
theorem q3340 : (Jvm.Cond.code ({ cls := "FilingChainsModel", name := "late", desc := "(I)I" } : Jvm.MethodName) prog_12_method_132_code (7 : Nat) (Option.some Jvm.ClassFile.FieldType.int)) ∈ lw_all := lw_g (lw_at lw_m14 57 rfl) rfl
theorem q3342 : (Jvm.Cond.instanceMethod ({ cls := "FilingChainsModel", name := "write", desc := "(I)I" } : Jvm.MethodName)) ∈ lw_all := lw_g (lw_at lw_m14 59 rfl) rfl
theorem q3343 : (Jvm.Cond.selects "FilingChainsModel" ({ cls := "FilingChainsModel", name := "write", desc := "(I)I" } : Jvm.MethodName) ({ cls := "FilingChainsModel", name := "write", desc := "(I)I" } : Jvm.MethodName)) ∈ lw_all := lw_g (lw_at lw_m14 60 rfl) rfl
theorem q3344 : (Jvm.Cond.code ({ cls := "FilingChainsModel", name := "write", desc := "(I)I" } : Jvm.MethodName) prog_12_method_136_code (3 : Nat) (Option.some Jvm.ClassFile.FieldType.int)) ∈ lw_all := lw_g (lw_at lw_m14 61 rfl) rfl
theorem q3345 : (Jvm.Cond.methodLink "FilingChainsModel" (461 : Nat) ({ cls := "FilingChainsModel", name := "writesName", desc := "(I)V" } : Jvm.MethodName)) ∈ lw_all := lw_g (lw_at lw_m14 62 rfl) rfl
theorem q3346 : (Jvm.Cond.privateMethod ({ cls := "FilingChainsModel", name := "writesName", desc := "(I)V" } : Jvm.MethodName)) ∈ lw_tbl := lw_at lw_m14 63 rfl
theorem q3347 : (Jvm.Cond.instanceMethod ({ cls := "FilingChainsModel", name := "writesName", desc := "(I)V" } : Jvm.MethodName)) ∈ lw_all := lw_g (lw_at lw_m14 64 rfl) rfl
theorem q3348 : (Jvm.Cond.code ({ cls := "FilingChainsModel", name := "writesName", desc := "(I)V" } : Jvm.MethodName) prog_12_method_134_code (5 : Nat) (Option.none : Option Jvm.ClassFile.FieldType)) ∈ lw_all := lw_g (lw_at lw_m14 65 rfl) rfl
theorem q3349 : (Jvm.Cond.methodLink "FilingChainsModel" (458 : Nat) ({ cls := "FilingChainsModel", name := "writes", desc := "(I)V" } : Jvm.MethodName)) ∈ lw_all := lw_g (lw_at lw_m14 66 rfl) rfl
theorem q3350 : (Jvm.Cond.privateMethod ({ cls := "FilingChainsModel", name := "writes", desc := "(I)V" } : Jvm.MethodName)) ∈ lw_tbl := lw_at lw_m14 67 rfl
theorem q3351 : (Jvm.Cond.instanceMethod ({ cls := "FilingChainsModel", name := "writes", desc := "(I)V" } : Jvm.MethodName)) ∈ lw_all := lw_g (lw_at lw_m14 68 rfl) rfl
theorem q3352 : (Jvm.Cond.code ({ cls := "FilingChainsModel", name := "writes", desc := "(I)V" } : Jvm.MethodName) prog_12_method_133_code (2 : Nat) (Option.none : Option Jvm.ClassFile.FieldType)) ∈ lw_all := lw_g (lw_at lw_m14 69 rfl) rfl
theorem q3353 : (Jvm.Cond.methodLink "FilingChainsModel" (464 : Nat) ({ cls := "FilingChainsModel", name := "writesNumber", desc := "(I)V" } : Jvm.MethodName)) ∈ lw_all := lw_g (lw_at lw_m14 70 rfl) rfl
theorem q3354 : (Jvm.Cond.privateMethod ({ cls := "FilingChainsModel", name := "writesNumber", desc := "(I)V" } : Jvm.MethodName)) ∈ lw_tbl := lw_at lw_m14 71 rfl
theorem q3355 : (Jvm.Cond.instanceMethod ({ cls := "FilingChainsModel", name := "writesNumber", desc := "(I)V" } : Jvm.MethodName)) ∈ lw_all := lw_g (lw_at lw_m14 72 rfl) rfl
theorem q3356 : (Jvm.Cond.code ({ cls := "FilingChainsModel", name := "writesNumber", desc := "(I)V" } : Jvm.MethodName) prog_12_method_135_code (3 : Nat) (Option.none : Option Jvm.ClassFile.FieldType)) ∈ lw_all := lw_g (lw_at lw_m14 73 rfl) rfl
theorem q3358 : (Jvm.Cond.instanceMethod ({ cls := "FilingChainsModel", name := "octet", desc := "(I)I" } : Jvm.MethodName)) ∈ lw_all := lw_g (lw_at lw_m14 75 rfl) rfl
theorem q3359 : (Jvm.Cond.selects "FilingChainsModel" ({ cls := "FilingChainsModel", name := "octet", desc := "(I)I" } : Jvm.MethodName) ({ cls := "FilingChainsModel", name := "octet", desc := "(I)I" } : Jvm.MethodName)) ∈ lw_all := lw_g (lw_at lw_m14 76 rfl) rfl
theorem q3360 : (Jvm.Cond.code ({ cls := "FilingChainsModel", name := "octet", desc := "(I)I" } : Jvm.MethodName) prog_12_method_137_code (2 : Nat) (Option.some Jvm.ClassFile.FieldType.int)) ∈ lw_all := lw_g (lw_at lw_m14 77 rfl) rfl
theorem q3362 : (Jvm.Cond.instanceMethod ({ cls := "FilingChainsModel", name := "link", desc := "(III)I" } : Jvm.MethodName)) ∈ lw_all := lw_g (lw_at lw_m14 79 rfl) rfl
theorem q3363 : (Jvm.Cond.selects "FilingChainsModel" ({ cls := "FilingChainsModel", name := "link", desc := "(III)I" } : Jvm.MethodName) ({ cls := "FilingChainsModel", name := "link", desc := "(III)I" } : Jvm.MethodName)) ∈ lw_all := lw_g (lw_at lw_m14 80 rfl) rfl
theorem q3364 : (Jvm.Cond.code ({ cls := "FilingChainsModel", name := "link", desc := "(III)I" } : Jvm.MethodName) prog_12_method_139_code (4 : Nat) (Option.some Jvm.ClassFile.FieldType.int)) ∈ lw_all := lw_g (lw_at lw_m14 81 rfl) rfl
theorem q3365 : (Jvm.Cond.methodLink "FilingChainsModel" (467 : Nat) ({ cls := "FilingChainsModel", name := "keeps", desc := "()V" } : Jvm.MethodName)) ∈ lw_all := lw_g (lw_at lw_m14 82 rfl) rfl
theorem q3366 : (Jvm.Cond.privateMethod ({ cls := "FilingChainsModel", name := "keeps", desc := "()V" } : Jvm.MethodName)) ∈ lw_tbl := lw_at lw_m14 83 rfl
theorem q3367 : (Jvm.Cond.instanceMethod ({ cls := "FilingChainsModel", name := "keeps", desc := "()V" } : Jvm.MethodName)) ∈ lw_all := lw_g (lw_at lw_m14 84 rfl) rfl
theorem q3368 : (Jvm.Cond.code ({ cls := "FilingChainsModel", name := "keeps", desc := "()V" } : Jvm.MethodName) prog_12_method_138_code (2 : Nat) (Option.none : Option Jvm.ClassFile.FieldType)) ∈ lw_all := lw_g (lw_at lw_m14 85 rfl) rfl
theorem q3370 : (Jvm.Cond.instanceMethod ({ cls := "FilingChainsModel", name := "cut", desc := "(I)Z" } : Jvm.MethodName)) ∈ lw_all := lw_g (lw_at lw_m14 87 rfl) rfl
theorem q3371 : (Jvm.Cond.selects "FilingChainsModel" ({ cls := "FilingChainsModel", name := "cut", desc := "(I)Z" } : Jvm.MethodName) ({ cls := "FilingChainsModel", name := "cut", desc := "(I)Z" } : Jvm.MethodName)) ∈ lw_all := lw_g (lw_at lw_m14 88 rfl) rfl
theorem q3372 : (Jvm.Cond.code ({ cls := "FilingChainsModel", name := "cut", desc := "(I)Z" } : Jvm.MethodName) prog_12_method_140_code (3 : Nat) (Option.some Jvm.ClassFile.FieldType.boolean)) ∈ lw_all := lw_g (lw_at lw_m14 89 rfl) rfl
theorem q3374 : (Jvm.Cond.instanceMethod ({ cls := "FilingChainsModel", name := "end", desc := "(II)Z" } : Jvm.MethodName)) ∈ lw_all := lw_g (lw_at lw_m14 91 rfl) rfl
theorem q3375 : (Jvm.Cond.selects "FilingChainsModel" ({ cls := "FilingChainsModel", name := "end", desc := "(II)Z" } : Jvm.MethodName) ({ cls := "FilingChainsModel", name := "end", desc := "(II)Z" } : Jvm.MethodName)) ∈ lw_all := lw_g (lw_at lw_m14 92 rfl) rfl
theorem q3376 : (Jvm.Cond.code ({ cls := "FilingChainsModel", name := "end", desc := "(II)Z" } : Jvm.MethodName) prog_12_method_141_code (3 : Nat) (Option.some Jvm.ClassFile.FieldType.boolean)) ∈ lw_all := lw_g (lw_at lw_m14 93 rfl) rfl
theorem q3378 : (Jvm.Cond.instanceMethod ({ cls := "FilingChainsModel", name := "add", desc := "(III)I" } : Jvm.MethodName)) ∈ lw_all := lw_g (lw_at lw_m14 95 rfl) rfl
theorem q3379 : (Jvm.Cond.selects "FilingChainsModel" ({ cls := "FilingChainsModel", name := "add", desc := "(III)I" } : Jvm.MethodName) ({ cls := "FilingChainsModel", name := "add", desc := "(III)I" } : Jvm.MethodName)) ∈ lw_all := lw_g (lw_at lw_m14 96 rfl) rfl
theorem q3380 : (Jvm.Cond.code ({ cls := "FilingChainsModel", name := "add", desc := "(III)I" } : Jvm.MethodName) prog_12_method_143_code (5 : Nat) (Option.some Jvm.ClassFile.FieldType.int)) ∈ lw_all := lw_g (lw_at lw_m14 97 rfl) rfl
theorem q3381 : (Jvm.Cond.methodLink "FilingChainsModel" (470 : Nat) ({ cls := "FilingChainsModel", name := "areParts", desc := "(I)Z" } : Jvm.MethodName)) ∈ lw_all := lw_g (lw_at lw_m14 98 rfl) rfl
theorem q3382 : (Jvm.Cond.privateMethod ({ cls := "FilingChainsModel", name := "areParts", desc := "(I)Z" } : Jvm.MethodName)) ∈ lw_tbl := lw_at lw_m14 99 rfl
theorem q3383 : (Jvm.Cond.instanceMethod ({ cls := "FilingChainsModel", name := "areParts", desc := "(I)Z" } : Jvm.MethodName)) ∈ lw_all := lw_g (lw_at lw_m14 100 rfl) rfl
theorem q3384 : (Jvm.Cond.code ({ cls := "FilingChainsModel", name := "areParts", desc := "(I)Z" } : Jvm.MethodName) prog_12_method_142_code (2 : Nat) (Option.some Jvm.ClassFile.FieldType.boolean)) ∈ lw_all := lw_g (lw_at lw_m14 101 rfl) rfl
theorem q3386 : (Jvm.Cond.instanceMethod ({ cls := "FilingChainsModel", name := "show", desc := "(III)I" } : Jvm.MethodName)) ∈ lw_all := lw_g (lw_at lw_m14 103 rfl) rfl
theorem q3387 : (Jvm.Cond.selects "FilingChainsModel" ({ cls := "FilingChainsModel", name := "show", desc := "(III)I" } : Jvm.MethodName) ({ cls := "FilingChainsModel", name := "show", desc := "(III)I" } : Jvm.MethodName)) ∈ lw_all := lw_g (lw_at lw_m14 104 rfl) rfl
theorem q3388 : (Jvm.Cond.code ({ cls := "FilingChainsModel", name := "show", desc := "(III)I" } : Jvm.MethodName) prog_12_method_144_code (4 : Nat) (Option.some Jvm.ClassFile.FieldType.int)) ∈ lw_all := lw_g (lw_at lw_m14 105 rfl) rfl
theorem q3390 : (Jvm.Cond.instanceMethod ({ cls := "FilingChainsModel", name := "move", desc := "(II)I" } : Jvm.MethodName)) ∈ lw_all := lw_g (lw_at lw_m14 107 rfl) rfl
theorem q3391 : (Jvm.Cond.selects "FilingChainsModel" ({ cls := "FilingChainsModel", name := "move", desc := "(II)I" } : Jvm.MethodName) ({ cls := "FilingChainsModel", name := "move", desc := "(II)I" } : Jvm.MethodName)) ∈ lw_all := lw_g (lw_at lw_m14 108 rfl) rfl
theorem q3392 : (Jvm.Cond.code ({ cls := "FilingChainsModel", name := "move", desc := "(II)I" } : Jvm.MethodName) prog_12_method_145_code (4 : Nat) (Option.some Jvm.ClassFile.FieldType.int)) ∈ lw_all := lw_g (lw_at lw_m14 109 rfl) rfl
theorem q3394 : (Jvm.Cond.instanceMethod ({ cls := "FilingChainsModel", name := "rule", desc := "(II)I" } : Jvm.MethodName)) ∈ lw_all := lw_g (lw_at lw_m14 111 rfl) rfl
theorem q3395 : (Jvm.Cond.selects "FilingChainsModel" ({ cls := "FilingChainsModel", name := "rule", desc := "(II)I" } : Jvm.MethodName) ({ cls := "FilingChainsModel", name := "rule", desc := "(II)I" } : Jvm.MethodName)) ∈ lw_all := lw_g (lw_at lw_m14 112 rfl) rfl
theorem q3396 : (Jvm.Cond.code ({ cls := "FilingChainsModel", name := "rule", desc := "(II)I" } : Jvm.MethodName) prog_12_method_146_code (4 : Nat) (Option.some Jvm.ClassFile.FieldType.int)) ∈ lw_all := lw_g (lw_at lw_m14 113 rfl) rfl
theorem q3398 : (Jvm.Cond.instanceMethod ({ cls := "FilingChainsModel", name := "undo", desc := "()I" } : Jvm.MethodName)) ∈ lw_all := lw_g (lw_at lw_m14 115 rfl) rfl
theorem q3399 : (Jvm.Cond.selects "FilingChainsModel" ({ cls := "FilingChainsModel", name := "undo", desc := "()I" } : Jvm.MethodName) ({ cls := "FilingChainsModel", name := "undo", desc := "()I" } : Jvm.MethodName)) ∈ lw_all := lw_g (lw_at lw_m14 116 rfl) rfl
theorem q3400 : (Jvm.Cond.code ({ cls := "FilingChainsModel", name := "undo", desc := "()I" } : Jvm.MethodName) prog_12_method_147_code (2 : Nat) (Option.some Jvm.ClassFile.FieldType.int)) ∈ lw_all := lw_g (lw_at lw_m14 117 rfl) rfl
theorem q3434 : (Jvm.Cond.castable "FilingChainsModel" "java/lang/Object") ∈ lw_tbl := lw_at lw_m14 151 rfl
theorem in_X2 : ∀ w ∈ wsX20, w ∈ lw_all := lw_in wsX20 [2737, 2739, 2741, 2743, 2745, 2747, 2749, 2751, 2753, 2755, 2757, 2759, 2761, 2763, 2765, 2767, 2769, 2771, 2773, 2775, 2777, 2779, 2781, 2783, 2785, 2787, 2789, 2791, 2793, 2795, 2797, 2799, 2801, 2803, 2805, 2807, 2809, 2811, 2813] (by decide +kernel) (by decide +kernel)
