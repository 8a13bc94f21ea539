/-! PhrasehallModel -/
set_option maxRecDepth 100000
def RX2 : String := "PhrasehallModel"
def TX2 : u_T := fun k => match k with
  | 0 => ("PhrasehallModel", "fencers", "I", false)
  | 1 => ("PhrasehallModel", "seed", "J", false)
  | 2 => ("PhrasehallModel", "reason", "I", false)
  | 3 => ("PhrasehallModel", "bouts", "I", false)
  | 4 => ("PhrasehallModel", "onPiste", "I", false)
  | 5 => ("PhrasehallModel", "who", "[I", true)
  | 6 => ("PhrasehallModel", "touches", "[I", true)
  | 7 => ("PhrasehallModel", "weapon", "[I", true)
  | 8 => ("PhrasehallModel", "goes", "[I", true)
  | 9 => ("PhrasehallModel", "poolOf", "[I", true)
  | 10 => ("PhrasehallModel", "winner", "[I", true)
  | 11 => ("PhrasehallModel", "seconds", "[I", true)
  | 12 => ("PhrasehallModel", "passive", "[I", true)
  | 13 => ("PhrasehallModel", "drawn", "[I", true)
  | 14 => ("PhrasehallModel", "quiet", "I", false)
  | 15 => ("PhrasehallModel", "cards", "[I", true)
  | 16 => ("PhrasehallModel", "hadThird", "[Z", true)
  | 17 => ("PhrasehallModel", "items", "I", false)
  | 18 => ("PhrasehallModel", "side", "[I", true)
  | 19 => ("PhrasehallModel", "kind", "[I", true)
  | 20 => ("PhrasehallModel", "time", "[I", true)
  | 21 => ("PhrasehallModel", "span", "[I", true)
  | 22 => ("PhrasehallModel", "target", "[I", true)
  | 23 => ("PhrasehallModel", "pools", "I", false)
  | 24 => ("PhrasehallModel", "members", "[I", true)
  | 25 => ("PhrasehallModel", "gone", "[I", true)
  | 26 => ("PhrasehallModel", "ranked", "[I", true)
  | 27 => ("PhrasehallModel", "places", "I", false)
  | 28 => ("PhrasehallModel", "meets", "[I", true)
  | 29 => ("PhrasehallModel", "won", "[I", true)
  | 30 => ("PhrasehallModel", "holder", "I", false)
  | _ => ("PhrasehallModel", "thrown", "I", false)
def tyX2 : Nat → FieldType := fun k => match k with
  | 0 => .int
  | 1 => .long
  | 2 => .int
  | 3 => .int
  | 4 => .int
  | 5 => .array .int
  | 6 => .array .int
  | 7 => .array .int
  | 8 => .array .int
  | 9 => .array .int
  | 10 => .array .int
  | 11 => .array .int
  | 12 => .array .int
  | 13 => .array .int
  | 14 => .int
  | 15 => .array .int
  | 16 => .array .boolean
  | 17 => .int
  | 18 => .array .int
  | 19 => .array .int
  | 20 => .array .int
  | 21 => .array .int
  | 22 => .array .int
  | 23 => .int
  | 24 => .array .int
  | 25 => .array .int
  | 26 => .array .int
  | 27 => .int
  | 28 => .array .int
  | 29 => .array .int
  | 30 => .int
  | _ => .int
abbrev wsX20 : List Cond := u_ws RX2 TX2 32
set_option maxRecDepth 100000 in
theorem nmX2 : ∀ a, a < 32 → ∀ b, b < 32 → a ≠ b → (TX2 a).2.1 ≠ (TX2 b).2.1 := by decide +kernel
set_option maxRecDepth 100000 in
theorem tyX2_ok : ∀ k, k < 32 → parseFieldDescriptor (TX2 k).2.2.1 = some (tyX2 k) := by decide +kernel
abbrev cX2_init : ByteArray := prog_13_method_1_code
def yX2_init : MethodName := ⟨RX2, "<init>", "()V"⟩
def dkwX2_init_7 : List UInt8 := [17, 0, 128, 188, 10, 181, 0, 75, 42, 16, 64, 188, 10, 181, 0, 78, 177]
abbrev dktX2_init_7 : List UInt8 := dkwX2_init_7 ++ []
def dkwX2_init_6 : List UInt8 := [16, 6, 188, 10, 181, 0, 66, 42, 16, 6, 188, 10, 181, 0, 69, 42, 16, 12, 188, 10, 181, 0, 72, 42]
abbrev dktX2_init_6 : List UInt8 := dkwX2_init_6 ++ dktX2_init_7
def dkwX2_init_5 : List UInt8 := [16, 24, 188, 10, 181, 0, 57, 42, 16, 24, 188, 10, 181, 0, 60, 42, 16, 24, 188, 10, 181, 0, 63, 42]
abbrev dktX2_init_5 : List UInt8 := dkwX2_init_5 ++ dktX2_init_6
def dkwX2_init_4 : List UInt8 := [5, 188, 4, 181, 0, 47, 42, 16, 24, 188, 10, 181, 0, 51, 42, 16, 24, 188, 10, 181, 0, 54, 42]
abbrev dktX2_init_4 : List UInt8 := dkwX2_init_4 ++ dktX2_init_5
def dkwX2_init_3 : List UInt8 := [42, 16, 80, 188, 10, 181, 0, 38, 42, 16, 80, 188, 10, 181, 0, 41, 42, 5, 188, 10, 181, 0, 44, 42]
abbrev dktX2_init_3 : List UInt8 := dkwX2_init_3 ++ dktX2_init_4
def dkwX2_init_2 : List UInt8 := [42, 16, 80, 188, 10, 181, 0, 29, 42, 16, 80, 188, 10, 181, 0, 32, 42, 16, 80, 188, 10, 181, 0, 35]
abbrev dktX2_init_2 : List UInt8 := dkwX2_init_2 ++ dktX2_init_3
def dkwX2_init_1 : List UInt8 := [17, 0, 160, 188, 10, 181, 0, 20, 42, 16, 80, 188, 10, 181, 0, 23, 42, 16, 80, 188, 10, 181, 0, 26]
abbrev dktX2_init_1 : List UInt8 := dkwX2_init_1 ++ dktX2_init_2
def dkwX2_init_0 : List UInt8 := [42, 183, 0, 1, 42, 2, 181, 0, 9, 42, 2, 181, 0, 13, 42, 17, 0, 160, 188, 10, 181, 0, 16, 42]
abbrev dktX2_init_0 : List UInt8 := dkwX2_init_0 ++ dktX2_init_1
theorem dksX2_init_0 : cX2_init.data.toList.drop 0 = dktX2_init_0 := by decide +kernel
theorem dksX2_init_1 : cX2_init.data.toList.drop 24 = dktX2_init_1 := dk_seg dksX2_init_0 24 rfl rfl
theorem dksX2_init_2 : cX2_init.data.toList.drop 48 = dktX2_init_2 := dk_seg dksX2_init_1 24 rfl rfl
theorem dksX2_init_3 : cX2_init.data.toList.drop 72 = dktX2_init_3 := dk_seg dksX2_init_2 24 rfl rfl
theorem dksX2_init_4 : cX2_init.data.toList.drop 96 = dktX2_init_4 := dk_seg dksX2_init_3 24 rfl rfl
theorem dksX2_init_5 : cX2_init.data.toList.drop 119 = dktX2_init_5 := dk_seg dksX2_init_4 23 rfl rfl
theorem dksX2_init_6 : cX2_init.data.toList.drop 143 = dktX2_init_6 := dk_seg dksX2_init_5 24 rfl rfl
theorem dksX2_init_7 : cX2_init.data.toList.drop 167 = dktX2_init_7 := dk_seg dksX2_init_6 24 rfl rfl
theorem dX2_init_0 : decode cX2_init 0 = .ok (.aload_n 0, 1) := dk_42 (dk_at dksX2_init_0 0 rfl rfl)
theorem dX2_init_1 : decode cX2_init 1 = .ok (.invokespecial 1, 3) := dk_183 0 1 (dk_at dksX2_init_0 1 rfl rfl)
theorem dX2_init_4 : decode cX2_init 4 = .ok (.aload_n 0, 1) := dk_42 (dk_at dksX2_init_0 4 rfl rfl)
theorem dX2_init_5 : decode cX2_init 5 = .ok (.iconst (-1), 1) := dk_2 (dk_at dksX2_init_0 5 rfl rfl)
theorem dX2_init_6 : decode cX2_init 6 = .ok (.putfield 9, 3) := dk_181 0 9 (dk_at dksX2_init_0 6 rfl rfl)
theorem dX2_init_9 : decode cX2_init 9 = .ok (.aload_n 0, 1) := dk_42 (dk_at dksX2_init_0 9 rfl rfl)
theorem dX2_init_10 : decode cX2_init 10 = .ok (.iconst (-1), 1) := dk_2 (dk_at dksX2_init_0 10 rfl rfl)
theorem dX2_init_11 : decode cX2_init 11 = .ok (.putfield 13, 3) := dk_181 0 13 (dk_at dksX2_init_0 11 rfl rfl)
theorem dX2_init_14 : decode cX2_init 14 = .ok (.aload_n 0, 1) := dk_42 (dk_at dksX2_init_0 14 rfl rfl)
theorem dX2_init_15 : decode cX2_init 15 = .ok (.sipush 160, 3) := dk_17 0 160 (dk_at dksX2_init_0 15 rfl rfl)
theorem dX2_init_18 : decode cX2_init 18 = .ok (.newarray .int, 2) := dk_188_10 (dk_at dksX2_init_0 18 rfl rfl)
theorem dX2_init_20 : decode cX2_init 20 = .ok (.putfield 16, 3) := dk_181 0 16 (dk_at dksX2_init_0 20 rfl rfl)
theorem dX2_init_23 : decode cX2_init 23 = .ok (.aload_n 0, 1) := dk_42 (dk_at dksX2_init_0 23 rfl rfl)
theorem dX2_init_24 : decode cX2_init 24 = .ok (.sipush 160, 3) := dk_17 0 160 (dk_at dksX2_init_1 0 rfl rfl)
theorem dX2_init_27 : decode cX2_init 27 = .ok (.newarray .int, 2) := dk_188_10 (dk_at dksX2_init_1 3 rfl rfl)
theorem dX2_init_29 : decode cX2_init 29 = .ok (.putfield 20, 3) := dk_181 0 20 (dk_at dksX2_init_1 5 rfl rfl)
theorem dX2_init_32 : decode cX2_init 32 = .ok (.aload_n 0, 1) := dk_42 (dk_at dksX2_init_1 8 rfl rfl)
theorem dX2_init_33 : decode cX2_init 33 = .ok (.bipush 80, 2) := dk_16 80 (dk_at dksX2_init_1 9 rfl rfl)
theorem dX2_init_35 : decode cX2_init 35 = .ok (.newarray .int, 2) := dk_188_10 (dk_at dksX2_init_1 11 rfl rfl)
theorem dX2_init_37 : decode cX2_init 37 = .ok (.putfield 23, 3) := dk_181 0 23 (dk_at dksX2_init_1 13 rfl rfl)
theorem dX2_init_40 : decode cX2_init 40 = .ok (.aload_n 0, 1) := dk_42 (dk_at dksX2_init_1 16 rfl rfl)
theorem dX2_init_41 : decode cX2_init 41 = .ok (.bipush 80, 2) := dk_16 80 (dk_at dksX2_init_1 17 rfl rfl)
theorem dX2_init_43 : decode cX2_init 43 = .ok (.newarray .int, 2) := dk_188_10 (dk_at dksX2_init_1 19 rfl rfl)
theorem dX2_init_45 : decode cX2_init 45 = .ok (.putfield 26, 3) := dk_181 0 26 (dk_at dksX2_init_1 21 rfl rfl)
theorem dX2_init_48 : decode cX2_init 48 = .ok (.aload_n 0, 1) := dk_42 (dk_at dksX2_init_2 0 rfl rfl)
theorem dX2_init_49 : decode cX2_init 49 = .ok (.bipush 80, 2) := dk_16 80 (dk_at dksX2_init_2 1 rfl rfl)
theorem dX2_init_51 : decode cX2_init 51 = .ok (.newarray .int, 2) := dk_188_10 (dk_at dksX2_init_2 3 rfl rfl)
theorem dX2_init_53 : decode cX2_init 53 = .ok (.putfield 29, 3) := dk_181 0 29 (dk_at dksX2_init_2 5 rfl rfl)
theorem dX2_init_56 : decode cX2_init 56 = .ok (.aload_n 0, 1) := dk_42 (dk_at dksX2_init_2 8 rfl rfl)
theorem dX2_init_57 : decode cX2_init 57 = .ok (.bipush 80, 2) := dk_16 80 (dk_at dksX2_init_2 9 rfl rfl)
theorem dX2_init_59 : decode cX2_init 59 = .ok (.newarray .int, 2) := dk_188_10 (dk_at dksX2_init_2 11 rfl rfl)
theorem dX2_init_61 : decode cX2_init 61 = .ok (.putfield 32, 3) := dk_181 0 32 (dk_at dksX2_init_2 13 rfl rfl)
theorem dX2_init_64 : decode cX2_init 64 = .ok (.aload_n 0, 1) := dk_42 (dk_at dksX2_init_2 16 rfl rfl)
theorem dX2_init_65 : decode cX2_init 65 = .ok (.bipush 80, 2) := dk_16 80 (dk_at dksX2_init_2 17 rfl rfl)
theorem dX2_init_67 : decode cX2_init 67 = .ok (.newarray .int, 2) := dk_188_10 (dk_at dksX2_init_2 19 rfl rfl)
theorem dX2_init_69 : decode cX2_init 69 = .ok (.putfield 35, 3) := dk_181 0 35 (dk_at dksX2_init_2 21 rfl rfl)
theorem dX2_init_72 : decode cX2_init 72 = .ok (.aload_n 0, 1) := dk_42 (dk_at dksX2_init_3 0 rfl rfl)
theorem dX2_init_73 : decode cX2_init 73 = .ok (.bipush 80, 2) := dk_16 80 (dk_at dksX2_init_3 1 rfl rfl)
theorem dX2_init_75 : decode cX2_init 75 = .ok (.newarray .int, 2) := dk_188_10 (dk_at dksX2_init_3 3 rfl rfl)
theorem dX2_init_77 : decode cX2_init 77 = .ok (.putfield 38, 3) := dk_181 0 38 (dk_at dksX2_init_3 5 rfl rfl)
theorem dX2_init_80 : decode cX2_init 80 = .ok (.aload_n 0, 1) := dk_42 (dk_at dksX2_init_3 8 rfl rfl)
theorem dX2_init_81 : decode cX2_init 81 = .ok (.bipush 80, 2) := dk_16 80 (dk_at dksX2_init_3 9 rfl rfl)
theorem dX2_init_83 : decode cX2_init 83 = .ok (.newarray .int, 2) := dk_188_10 (dk_at dksX2_init_3 11 rfl rfl)
theorem dX2_init_85 : decode cX2_init 85 = .ok (.putfield 41, 3) := dk_181 0 41 (dk_at dksX2_init_3 13 rfl rfl)
theorem dX2_init_88 : decode cX2_init 88 = .ok (.aload_n 0, 1) := dk_42 (dk_at dksX2_init_3 16 rfl rfl)
theorem dX2_init_89 : decode cX2_init 89 = .ok (.iconst 2, 1) := dk_5 (dk_at dksX2_init_3 17 rfl rfl)
theorem dX2_init_90 : decode cX2_init 90 = .ok (.newarray .int, 2) := dk_188_10 (dk_at dksX2_init_3 18 rfl rfl)
theorem dX2_init_92 : decode cX2_init 92 = .ok (.putfield 44, 3) := dk_181 0 44 (dk_at dksX2_init_3 20 rfl rfl)
theorem dX2_init_95 : decode cX2_init 95 = .ok (.aload_n 0, 1) := dk_42 (dk_at dksX2_init_3 23 rfl rfl)
theorem dX2_init_96 : decode cX2_init 96 = .ok (.iconst 2, 1) := dk_5 (dk_at dksX2_init_4 0 rfl rfl)
theorem dX2_init_97 : decode cX2_init 97 = .ok (.newarray .boolean, 2) := dk_188_4 (dk_at dksX2_init_4 1 rfl rfl)
theorem dX2_init_99 : decode cX2_init 99 = .ok (.putfield 47, 3) := dk_181 0 47 (dk_at dksX2_init_4 3 rfl rfl)
theorem dX2_init_102 : decode cX2_init 102 = .ok (.aload_n 0, 1) := dk_42 (dk_at dksX2_init_4 6 rfl rfl)
theorem dX2_init_103 : decode cX2_init 103 = .ok (.bipush 24, 2) := dk_16 24 (dk_at dksX2_init_4 7 rfl rfl)
theorem dX2_init_105 : decode cX2_init 105 = .ok (.newarray .int, 2) := dk_188_10 (dk_at dksX2_init_4 9 rfl rfl)
theorem dX2_init_107 : decode cX2_init 107 = .ok (.putfield 51, 3) := dk_181 0 51 (dk_at dksX2_init_4 11 rfl rfl)
theorem dX2_init_110 : decode cX2_init 110 = .ok (.aload_n 0, 1) := dk_42 (dk_at dksX2_init_4 14 rfl rfl)
theorem dX2_init_111 : decode cX2_init 111 = .ok (.bipush 24, 2) := dk_16 24 (dk_at dksX2_init_4 15 rfl rfl)
theorem dX2_init_113 : decode cX2_init 113 = .ok (.newarray .int, 2) := dk_188_10 (dk_at dksX2_init_4 17 rfl rfl)
theorem dX2_init_115 : decode cX2_init 115 = .ok (.putfield 54, 3) := dk_181 0 54 (dk_at dksX2_init_4 19 rfl rfl)
theorem dX2_init_118 : decode cX2_init 118 = .ok (.aload_n 0, 1) := dk_42 (dk_at dksX2_init_4 22 rfl rfl)
theorem dX2_init_119 : decode cX2_init 119 = .ok (.bipush 24, 2) := dk_16 24 (dk_at dksX2_init_5 0 rfl rfl)
theorem dX2_init_121 : decode cX2_init 121 = .ok (.newarray .int, 2) := dk_188_10 (dk_at dksX2_init_5 2 rfl rfl)
theorem dX2_init_123 : decode cX2_init 123 = .ok (.putfield 57, 3) := dk_181 0 57 (dk_at dksX2_init_5 4 rfl rfl)
theorem dX2_init_126 : decode cX2_init 126 = .ok (.aload_n 0, 1) := dk_42 (dk_at dksX2_init_5 7 rfl rfl)
theorem dX2_init_127 : decode cX2_init 127 = .ok (.bipush 24, 2) := dk_16 24 (dk_at dksX2_init_5 8 rfl rfl)
theorem dX2_init_129 : decode cX2_init 129 = .ok (.newarray .int, 2) := dk_188_10 (dk_at dksX2_init_5 10 rfl rfl)
theorem dX2_init_131 : decode cX2_init 131 = .ok (.putfield 60, 3) := dk_181 0 60 (dk_at dksX2_init_5 12 rfl rfl)
theorem dX2_init_134 : decode cX2_init 134 = .ok (.aload_n 0, 1) := dk_42 (dk_at dksX2_init_5 15 rfl rfl)
theorem dX2_init_135 : decode cX2_init 135 = .ok (.bipush 24, 2) := dk_16 24 (dk_at dksX2_init_5 16 rfl rfl)
theorem dX2_init_137 : decode cX2_init 137 = .ok (.newarray .int, 2) := dk_188_10 (dk_at dksX2_init_5 18 rfl rfl)
theorem dX2_init_139 : decode cX2_init 139 = .ok (.putfield 63, 3) := dk_181 0 63 (dk_at dksX2_init_5 20 rfl rfl)
theorem dX2_init_142 : decode cX2_init 142 = .ok (.aload_n 0, 1) := dk_42 (dk_at dksX2_init_5 23 rfl rfl)
theorem dX2_init_143 : decode cX2_init 143 = .ok (.bipush 6, 2) := dk_16 6 (dk_at dksX2_init_6 0 rfl rfl)
theorem dX2_init_145 : decode cX2_init 145 = .ok (.newarray .int, 2) := dk_188_10 (dk_at dksX2_init_6 2 rfl rfl)
theorem dX2_init_147 : decode cX2_init 147 = .ok (.putfield 66, 3) := dk_181 0 66 (dk_at dksX2_init_6 4 rfl rfl)
theorem dX2_init_150 : decode cX2_init 150 = .ok (.aload_n 0, 1) := dk_42 (dk_at dksX2_init_6 7 rfl rfl)
theorem dX2_init_151 : decode cX2_init 151 = .ok (.bipush 6, 2) := dk_16 6 (dk_at dksX2_init_6 8 rfl rfl)
theorem dX2_init_153 : decode cX2_init 153 = .ok (.newarray .int, 2) := dk_188_10 (dk_at dksX2_init_6 10 rfl rfl)
theorem dX2_init_155 : decode cX2_init 155 = .ok (.putfield 69, 3) := dk_181 0 69 (dk_at dksX2_init_6 12 rfl rfl)
theorem dX2_init_158 : decode cX2_init 158 = .ok (.aload_n 0, 1) := dk_42 (dk_at dksX2_init_6 15 rfl rfl)
theorem dX2_init_159 : decode cX2_init 159 = .ok (.bipush 12, 2) := dk_16 12 (dk_at dksX2_init_6 16 rfl rfl)
theorem dX2_init_161 : decode cX2_init 161 = .ok (.newarray .int, 2) := dk_188_10 (dk_at dksX2_init_6 18 rfl rfl)
theorem dX2_init_163 : decode cX2_init 163 = .ok (.putfield 72, 3) := dk_181 0 72 (dk_at dksX2_init_6 20 rfl rfl)
theorem dX2_init_166 : decode cX2_init 166 = .ok (.aload_n 0, 1) := dk_42 (dk_at dksX2_init_6 23 rfl rfl)
theorem dX2_init_167 : decode cX2_init 167 = .ok (.sipush 128, 3) := dk_17 0 128 (dk_at dksX2_init_7 0 rfl rfl)
theorem dX2_init_170 : decode cX2_init 170 = .ok (.newarray .int, 2) := dk_188_10 (dk_at dksX2_init_7 3 rfl rfl)
theorem dX2_init_172 : decode cX2_init 172 = .ok (.putfield 75, 3) := dk_181 0 75 (dk_at dksX2_init_7 5 rfl rfl)
theorem dX2_init_175 : decode cX2_init 175 = .ok (.aload_n 0, 1) := dk_42 (dk_at dksX2_init_7 8 rfl rfl)
theorem dX2_init_176 : decode cX2_init 176 = .ok (.bipush 64, 2) := dk_16 64 (dk_at dksX2_init_7 9 rfl rfl)
theorem dX2_init_178 : decode cX2_init 178 = .ok (.newarray .int, 2) := dk_188_10 (dk_at dksX2_init_7 11 rfl rfl)
theorem dX2_init_180 : decode cX2_init 180 = .ok (.putfield 78, 3) := dk_181 0 78 (dk_at dksX2_init_7 13 rfl rfl)
theorem dX2_init_183 : decode cX2_init 183 = .ok (.return_, 1) := dk_177 (dk_at dksX2_init_7 16 rfl rfl)
abbrev cX2_thrown : ByteArray := prog_13_method_2_code
def yX2_thrown : MethodName := ⟨RX2, "thrown", "()I"⟩
theorem dX2_thrown_0 : decode cX2_thrown 0 = .ok (.aload_n 0, 1) := by decide +kernel
theorem dX2_thrown_1 : decode cX2_thrown 1 = .ok (.getfield 81, 3) := by decide +kernel
theorem dX2_thrown_4 : decode cX2_thrown 4 = .ok (.ireturn, 1) := by decide +kernel
abbrev cX2_fencer : ByteArray := prog_13_method_7_code
def yX2_fencer : MethodName := ⟨RX2, "fencer", "()I"⟩
def dkwX2_fencer_1 : List UInt8 := [158, 0, 5, 3, 172, 42, 89, 180, 0, 84, 4, 96, 181, 0, 84, 42, 180, 0, 84, 4, 100, 172]
abbrev dktX2_fencer_1 : List UInt8 := dkwX2_fencer_1 ++ []
def dkwX2_fencer_0 : List UInt8 := [42, 42, 180, 0, 84, 16, 12, 160, 0, 7, 4, 167, 0, 4, 3, 181, 0, 81, 42, 180, 0, 81]
abbrev dktX2_fencer_0 : List UInt8 := dkwX2_fencer_0 ++ dktX2_fencer_1
theorem dksX2_fencer_0 : cX2_fencer.data.toList.drop 0 = dktX2_fencer_0 := by decide +kernel
theorem dksX2_fencer_1 : cX2_fencer.data.toList.drop 22 = dktX2_fencer_1 := dk_seg dksX2_fencer_0 22 rfl rfl
theorem dX2_fencer_0 : decode cX2_fencer 0 = .ok (.aload_n 0, 1) := dk_42 (dk_at dksX2_fencer_0 0 rfl rfl)
theorem dX2_fencer_1 : decode cX2_fencer 1 = .ok (.aload_n 0, 1) := dk_42 (dk_at dksX2_fencer_0 1 rfl rfl)
theorem dX2_fencer_2 : decode cX2_fencer 2 = .ok (.getfield 84, 3) := dk_180 0 84 (dk_at dksX2_fencer_0 2 rfl rfl)
theorem dX2_fencer_5 : decode cX2_fencer 5 = .ok (.bipush 12, 2) := dk_16 12 (dk_at dksX2_fencer_0 5 rfl rfl)
theorem dX2_fencer_7 : decode cX2_fencer 7 = .ok (.if_icmp .ne 7, 3) := dk_160 0 7 (dk_at dksX2_fencer_0 7 rfl rfl)
theorem dX2_fencer_10 : decode cX2_fencer 10 = .ok (.iconst 1, 1) := dk_4 (dk_at dksX2_fencer_0 10 rfl rfl)
theorem dX2_fencer_11 : decode cX2_fencer 11 = .ok (.goto 4, 3) := dk_167 0 4 (dk_at dksX2_fencer_0 11 rfl rfl)
theorem dX2_fencer_14 : decode cX2_fencer 14 = .ok (.iconst 0, 1) := dk_3 (dk_at dksX2_fencer_0 14 rfl rfl)
theorem dX2_fencer_15 : decode cX2_fencer 15 = .ok (.putfield 81, 3) := dk_181 0 81 (dk_at dksX2_fencer_0 15 rfl rfl)
theorem dX2_fencer_18 : decode cX2_fencer 18 = .ok (.aload_n 0, 1) := dk_42 (dk_at dksX2_fencer_0 18 rfl rfl)
theorem dX2_fencer_19 : decode cX2_fencer 19 = .ok (.getfield 81, 3) := dk_180 0 81 (dk_at dksX2_fencer_0 19 rfl rfl)
theorem dX2_fencer_22 : decode cX2_fencer 22 = .ok (.ifCond .le 5, 3) := dk_158 0 5 (dk_at dksX2_fencer_1 0 rfl rfl)
theorem dX2_fencer_25 : decode cX2_fencer 25 = .ok (.iconst 0, 1) := dk_3 (dk_at dksX2_fencer_1 3 rfl rfl)
theorem dX2_fencer_26 : decode cX2_fencer 26 = .ok (.ireturn, 1) := dk_172 (dk_at dksX2_fencer_1 4 rfl rfl)
theorem dX2_fencer_27 : decode cX2_fencer 27 = .ok (.aload_n 0, 1) := dk_42 (dk_at dksX2_fencer_1 5 rfl rfl)
theorem dX2_fencer_28 : decode cX2_fencer 28 = .ok (.dup, 1) := dk_89 (dk_at dksX2_fencer_1 6 rfl rfl)
theorem dX2_fencer_29 : decode cX2_fencer 29 = .ok (.getfield 84, 3) := dk_180 0 84 (dk_at dksX2_fencer_1 7 rfl rfl)
theorem dX2_fencer_32 : decode cX2_fencer 32 = .ok (.iconst 1, 1) := dk_4 (dk_at dksX2_fencer_1 10 rfl rfl)
theorem dX2_fencer_33 : decode cX2_fencer 33 = .ok (.iadd, 1) := dk_96 (dk_at dksX2_fencer_1 11 rfl rfl)
theorem dX2_fencer_34 : decode cX2_fencer 34 = .ok (.putfield 84, 3) := dk_181 0 84 (dk_at dksX2_fencer_1 12 rfl rfl)
theorem dX2_fencer_37 : decode cX2_fencer 37 = .ok (.aload_n 0, 1) := dk_42 (dk_at dksX2_fencer_1 15 rfl rfl)
theorem dX2_fencer_38 : decode cX2_fencer 38 = .ok (.getfield 84, 3) := dk_180 0 84 (dk_at dksX2_fencer_1 16 rfl rfl)
theorem dX2_fencer_41 : decode cX2_fencer 41 = .ok (.iconst 1, 1) := dk_4 (dk_at dksX2_fencer_1 19 rfl rfl)
theorem dX2_fencer_42 : decode cX2_fencer 42 = .ok (.isub, 1) := dk_100 (dk_at dksX2_fencer_1 20 rfl rfl)
theorem dX2_fencer_43 : decode cX2_fencer 43 = .ok (.ireturn, 1) := dk_172 (dk_at dksX2_fencer_1 21 rfl rfl)
abbrev cX2_begin : ByteArray := prog_13_method_8_code
def yX2_begin : MethodName := ⟨RX2, "begin", "(IIIII)I"⟩
def dkwX2_begin_14 : List UInt8 := [167, 255, 231, 42, 3, 181, 0, 111, 42, 89, 180, 0, 105, 4, 96, 181, 0, 105, 42, 180, 0, 13, 172]
abbrev dktX2_begin_14 : List UInt8 := dkwX2_begin_14 ++ []
def dkwX2_begin_13 : List UInt8 := [162, 0, 25, 42, 180, 0, 44, 21, 8, 3, 79, 42, 180, 0, 47, 21, 8, 3, 84, 132, 8, 1]
abbrev dktX2_begin_13 : List UInt8 := dkwX2_begin_13 ++ dktX2_begin_14
def dkwX2_begin_12 : List UInt8 := [180, 0, 105, 2, 79, 42, 42, 180, 0, 105, 181, 0, 13, 42, 3, 181, 0, 108, 3, 54, 8, 21, 8, 5]
abbrev dktX2_begin_12 : List UInt8 := dkwX2_begin_12 ++ dktX2_begin_13
def dkwX2_begin_11 : List UInt8 := [42, 180, 0, 105, 21, 5, 79, 42, 180, 0, 32, 42, 180, 0, 105, 2, 79, 42, 180, 0, 41, 42]
abbrev dktX2_begin_11 : List UInt8 := dkwX2_begin_11 ++ dktX2_begin_12
def dkwX2_begin_10 : List UInt8 := [180, 0, 23, 42, 180, 0, 105, 29, 79, 42, 180, 0, 26, 42, 180, 0, 105, 21, 4, 79, 42, 180, 0, 29]
abbrev dktX2_begin_10 : List UInt8 := dkwX2_begin_10 ++ dktX2_begin_11
def dkwX2_begin_9 : List UInt8 := [5, 42, 180, 0, 105, 104, 27, 79, 42, 180, 0, 16, 5, 42, 180, 0, 105, 104, 4, 96, 28, 79, 42]
abbrev dktX2_begin_9 : List UInt8 := dkwX2_begin_9 ++ dktX2_begin_10
def dkwX2_begin_8 : List UInt8 := [160, 0, 7, 6, 167, 0, 4, 3, 181, 0, 81, 42, 180, 0, 81, 158, 0, 5, 3, 172, 42, 180, 0, 16]
abbrev dktX2_begin_8 : List UInt8 := dkwX2_begin_8 ++ dktX2_begin_9
def dkwX2_begin_7 : List UInt8 := [167, 0, 30, 42, 180, 0, 13, 2, 160, 0, 17, 21, 7, 153, 0, 12, 42, 180, 0, 105, 16, 80]
abbrev dktX2_begin_7 : List UInt8 := dkwX2_begin_7 ++ dktX2_begin_8
def dkwX2_begin_6 : List UInt8 := [184, 0, 87, 153, 0, 19, 21, 4, 4, 16, 45, 184, 0, 87, 153, 0, 8, 21, 6, 154, 0, 7, 5]
abbrev dktX2_begin_6 : List UInt8 := dkwX2_begin_6 ++ dktX2_begin_7
def dkwX2_begin_5 : List UInt8 := [28, 184, 0, 101, 154, 0, 7, 4, 167, 0, 4, 3, 54, 7, 42, 27, 28, 159, 0, 28, 29, 3, 5]
abbrev dktX2_begin_5 : List UInt8 := dkwX2_begin_5 ++ dktX2_begin_6
def dkwX2_begin_4 : List UInt8 := [159, 0, 31, 42, 180, 0, 69, 21, 5, 46, 27, 184, 0, 101, 154, 0, 21, 42, 180, 0, 69, 21, 5, 46]
abbrev dktX2_begin_4 : List UInt8 := dkwX2_begin_4 ++ dktX2_begin_5
def dkwX2_begin_3 : List UInt8 := [180, 0, 66, 21, 5, 46, 28, 184, 0, 101, 153, 0, 7, 4, 167, 0, 4, 3, 54, 6, 21, 5, 2]
abbrev dktX2_begin_3 : List UInt8 := dkwX2_begin_3 ++ dktX2_begin_4
def dkwX2_begin_2 : List UInt8 := [172, 21, 5, 2, 159, 0, 31, 42, 180, 0, 66, 21, 5, 46, 27, 184, 0, 101, 153, 0, 21, 42]
abbrev dktX2_begin_2 : List UInt8 := dkwX2_begin_2 ++ dktX2_begin_3
def dkwX2_begin_1 : List UInt8 := [21, 5, 182, 0, 98, 154, 0, 7, 4, 167, 0, 4, 3, 181, 0, 81, 42, 180, 0, 81, 158, 0, 5, 3]
abbrev dktX2_begin_1 : List UInt8 := dkwX2_begin_1 ++ dktX2_begin_2
def dkwX2_begin_0 : List UInt8 := [42, 42, 27, 182, 0, 94, 153, 0, 26, 42, 28, 182, 0, 94, 153, 0, 18, 21, 5, 2, 159, 0, 16, 42]
abbrev dktX2_begin_0 : List UInt8 := dkwX2_begin_0 ++ dktX2_begin_1
theorem dksX2_begin_0 : cX2_begin.data.toList.drop 0 = dktX2_begin_0 := by decide +kernel
theorem dksX2_begin_1 : cX2_begin.data.toList.drop 24 = dktX2_begin_1 := dk_seg dksX2_begin_0 24 rfl rfl
theorem dksX2_begin_2 : cX2_begin.data.toList.drop 48 = dktX2_begin_2 := dk_seg dksX2_begin_1 24 rfl rfl
theorem dksX2_begin_3 : cX2_begin.data.toList.drop 70 = dktX2_begin_3 := dk_seg dksX2_begin_2 22 rfl rfl
theorem dksX2_begin_4 : cX2_begin.data.toList.drop 93 = dktX2_begin_4 := dk_seg dksX2_begin_3 23 rfl rfl
theorem dksX2_begin_5 : cX2_begin.data.toList.drop 117 = dktX2_begin_5 := dk_seg dksX2_begin_4 24 rfl rfl
theorem dksX2_begin_6 : cX2_begin.data.toList.drop 140 = dktX2_begin_6 := dk_seg dksX2_begin_5 23 rfl rfl
theorem dksX2_begin_7 : cX2_begin.data.toList.drop 163 = dktX2_begin_7 := dk_seg dksX2_begin_6 23 rfl rfl
theorem dksX2_begin_8 : cX2_begin.data.toList.drop 185 = dktX2_begin_8 := dk_seg dksX2_begin_7 22 rfl rfl
theorem dksX2_begin_9 : cX2_begin.data.toList.drop 209 = dktX2_begin_9 := dk_seg dksX2_begin_8 24 rfl rfl
theorem dksX2_begin_10 : cX2_begin.data.toList.drop 232 = dktX2_begin_10 := dk_seg dksX2_begin_9 23 rfl rfl
theorem dksX2_begin_11 : cX2_begin.data.toList.drop 256 = dktX2_begin_11 := dk_seg dksX2_begin_10 24 rfl rfl
theorem dksX2_begin_12 : cX2_begin.data.toList.drop 278 = dktX2_begin_12 := dk_seg dksX2_begin_11 22 rfl rfl
theorem dksX2_begin_13 : cX2_begin.data.toList.drop 302 = dktX2_begin_13 := dk_seg dksX2_begin_12 24 rfl rfl
theorem dksX2_begin_14 : cX2_begin.data.toList.drop 324 = dktX2_begin_14 := dk_seg dksX2_begin_13 22 rfl rfl
theorem dX2_begin_0 : decode cX2_begin 0 = .ok (.aload_n 0, 1) := dk_42 (dk_at dksX2_begin_0 0 rfl rfl)
theorem dX2_begin_1 : decode cX2_begin 1 = .ok (.aload_n 0, 1) := dk_42 (dk_at dksX2_begin_0 1 rfl rfl)
theorem dX2_begin_2 : decode cX2_begin 2 = .ok (.iload_n 1, 1) := dk_27 (dk_at dksX2_begin_0 2 rfl rfl)
theorem dX2_begin_3 : decode cX2_begin 3 = .ok (.invokevirtual 94, 3) := dk_182 0 94 (dk_at dksX2_begin_0 3 rfl rfl)
theorem dX2_begin_6 : decode cX2_begin 6 = .ok (.ifCond .eq 26, 3) := dk_153 0 26 (dk_at dksX2_begin_0 6 rfl rfl)
theorem dX2_begin_9 : decode cX2_begin 9 = .ok (.aload_n 0, 1) := dk_42 (dk_at dksX2_begin_0 9 rfl rfl)
theorem dX2_begin_10 : decode cX2_begin 10 = .ok (.iload_n 2, 1) := dk_28 (dk_at dksX2_begin_0 10 rfl rfl)
theorem dX2_begin_11 : decode cX2_begin 11 = .ok (.invokevirtual 94, 3) := dk_182 0 94 (dk_at dksX2_begin_0 11 rfl rfl)
theorem dX2_begin_14 : decode cX2_begin 14 = .ok (.ifCond .eq 18, 3) := dk_153 0 18 (dk_at dksX2_begin_0 14 rfl rfl)
theorem dX2_begin_17 : decode cX2_begin 17 = .ok (.iload 5, 2) := dk_21 5 (dk_at dksX2_begin_0 17 rfl rfl)
theorem dX2_begin_19 : decode cX2_begin 19 = .ok (.iconst (-1), 1) := dk_2 (dk_at dksX2_begin_0 19 rfl rfl)
theorem dX2_begin_20 : decode cX2_begin 20 = .ok (.if_icmp .eq 16, 3) := dk_159 0 16 (dk_at dksX2_begin_0 20 rfl rfl)
theorem dX2_begin_23 : decode cX2_begin 23 = .ok (.aload_n 0, 1) := dk_42 (dk_at dksX2_begin_0 23 rfl rfl)
theorem dX2_begin_24 : decode cX2_begin 24 = .ok (.iload 5, 2) := dk_21 5 (dk_at dksX2_begin_1 0 rfl rfl)
theorem dX2_begin_26 : decode cX2_begin 26 = .ok (.invokevirtual 98, 3) := dk_182 0 98 (dk_at dksX2_begin_1 2 rfl rfl)
theorem dX2_begin_29 : decode cX2_begin 29 = .ok (.ifCond .ne 7, 3) := dk_154 0 7 (dk_at dksX2_begin_1 5 rfl rfl)
theorem dX2_begin_32 : decode cX2_begin 32 = .ok (.iconst 1, 1) := dk_4 (dk_at dksX2_begin_1 8 rfl rfl)
theorem dX2_begin_33 : decode cX2_begin 33 = .ok (.goto 4, 3) := dk_167 0 4 (dk_at dksX2_begin_1 9 rfl rfl)
theorem dX2_begin_36 : decode cX2_begin 36 = .ok (.iconst 0, 1) := dk_3 (dk_at dksX2_begin_1 12 rfl rfl)
theorem dX2_begin_37 : decode cX2_begin 37 = .ok (.putfield 81, 3) := dk_181 0 81 (dk_at dksX2_begin_1 13 rfl rfl)
theorem dX2_begin_40 : decode cX2_begin 40 = .ok (.aload_n 0, 1) := dk_42 (dk_at dksX2_begin_1 16 rfl rfl)
theorem dX2_begin_41 : decode cX2_begin 41 = .ok (.getfield 81, 3) := dk_180 0 81 (dk_at dksX2_begin_1 17 rfl rfl)
theorem dX2_begin_44 : decode cX2_begin 44 = .ok (.ifCond .le 5, 3) := dk_158 0 5 (dk_at dksX2_begin_1 20 rfl rfl)
theorem dX2_begin_47 : decode cX2_begin 47 = .ok (.iconst 0, 1) := dk_3 (dk_at dksX2_begin_1 23 rfl rfl)
theorem dX2_begin_48 : decode cX2_begin 48 = .ok (.ireturn, 1) := dk_172 (dk_at dksX2_begin_2 0 rfl rfl)
theorem dX2_begin_49 : decode cX2_begin 49 = .ok (.iload 5, 2) := dk_21 5 (dk_at dksX2_begin_2 1 rfl rfl)
theorem dX2_begin_51 : decode cX2_begin 51 = .ok (.iconst (-1), 1) := dk_2 (dk_at dksX2_begin_2 3 rfl rfl)
theorem dX2_begin_52 : decode cX2_begin 52 = .ok (.if_icmp .eq 31, 3) := dk_159 0 31 (dk_at dksX2_begin_2 4 rfl rfl)
theorem dX2_begin_55 : decode cX2_begin 55 = .ok (.aload_n 0, 1) := dk_42 (dk_at dksX2_begin_2 7 rfl rfl)
theorem dX2_begin_56 : decode cX2_begin 56 = .ok (.getfield 66, 3) := dk_180 0 66 (dk_at dksX2_begin_2 8 rfl rfl)
theorem dX2_begin_59 : decode cX2_begin 59 = .ok (.iload 5, 2) := dk_21 5 (dk_at dksX2_begin_2 11 rfl rfl)
theorem dX2_begin_61 : decode cX2_begin 61 = .ok (.iaload, 1) := dk_46 (dk_at dksX2_begin_2 13 rfl rfl)
theorem dX2_begin_62 : decode cX2_begin 62 = .ok (.iload_n 1, 1) := dk_27 (dk_at dksX2_begin_2 14 rfl rfl)
theorem dX2_begin_63 : decode cX2_begin 63 = .ok (.invokestatic 101, 3) := dk_184 0 101 (dk_at dksX2_begin_2 15 rfl rfl)
theorem dX2_begin_66 : decode cX2_begin 66 = .ok (.ifCond .eq 21, 3) := dk_153 0 21 (dk_at dksX2_begin_2 18 rfl rfl)
theorem dX2_begin_69 : decode cX2_begin 69 = .ok (.aload_n 0, 1) := dk_42 (dk_at dksX2_begin_2 21 rfl rfl)
theorem dX2_begin_70 : decode cX2_begin 70 = .ok (.getfield 66, 3) := dk_180 0 66 (dk_at dksX2_begin_3 0 rfl rfl)
theorem dX2_begin_73 : decode cX2_begin 73 = .ok (.iload 5, 2) := dk_21 5 (dk_at dksX2_begin_3 3 rfl rfl)
theorem dX2_begin_75 : decode cX2_begin 75 = .ok (.iaload, 1) := dk_46 (dk_at dksX2_begin_3 5 rfl rfl)
theorem dX2_begin_76 : decode cX2_begin 76 = .ok (.iload_n 2, 1) := dk_28 (dk_at dksX2_begin_3 6 rfl rfl)
theorem dX2_begin_77 : decode cX2_begin 77 = .ok (.invokestatic 101, 3) := dk_184 0 101 (dk_at dksX2_begin_3 7 rfl rfl)
theorem dX2_begin_80 : decode cX2_begin 80 = .ok (.ifCond .eq 7, 3) := dk_153 0 7 (dk_at dksX2_begin_3 10 rfl rfl)
theorem dX2_begin_83 : decode cX2_begin 83 = .ok (.iconst 1, 1) := dk_4 (dk_at dksX2_begin_3 13 rfl rfl)
theorem dX2_begin_84 : decode cX2_begin 84 = .ok (.goto 4, 3) := dk_167 0 4 (dk_at dksX2_begin_3 14 rfl rfl)
theorem dX2_begin_87 : decode cX2_begin 87 = .ok (.iconst 0, 1) := dk_3 (dk_at dksX2_begin_3 17 rfl rfl)
theorem dX2_begin_88 : decode cX2_begin 88 = .ok (.istore 6, 2) := dk_54 6 (dk_at dksX2_begin_3 18 rfl rfl)
theorem dX2_begin_90 : decode cX2_begin 90 = .ok (.iload 5, 2) := dk_21 5 (dk_at dksX2_begin_3 20 rfl rfl)
theorem dX2_begin_92 : decode cX2_begin 92 = .ok (.iconst (-1), 1) := dk_2 (dk_at dksX2_begin_3 22 rfl rfl)
theorem dX2_begin_93 : decode cX2_begin 93 = .ok (.if_icmp .eq 31, 3) := dk_159 0 31 (dk_at dksX2_begin_4 0 rfl rfl)
theorem dX2_begin_96 : decode cX2_begin 96 = .ok (.aload_n 0, 1) := dk_42 (dk_at dksX2_begin_4 3 rfl rfl)
theorem dX2_begin_97 : decode cX2_begin 97 = .ok (.getfield 69, 3) := dk_180 0 69 (dk_at dksX2_begin_4 4 rfl rfl)
theorem dX2_begin_100 : decode cX2_begin 100 = .ok (.iload 5, 2) := dk_21 5 (dk_at dksX2_begin_4 7 rfl rfl)
theorem dX2_begin_102 : decode cX2_begin 102 = .ok (.iaload, 1) := dk_46 (dk_at dksX2_begin_4 9 rfl rfl)
theorem dX2_begin_103 : decode cX2_begin 103 = .ok (.iload_n 1, 1) := dk_27 (dk_at dksX2_begin_4 10 rfl rfl)
theorem dX2_begin_104 : decode cX2_begin 104 = .ok (.invokestatic 101, 3) := dk_184 0 101 (dk_at dksX2_begin_4 11 rfl rfl)
theorem dX2_begin_107 : decode cX2_begin 107 = .ok (.ifCond .ne 21, 3) := dk_154 0 21 (dk_at dksX2_begin_4 14 rfl rfl)
theorem dX2_begin_110 : decode cX2_begin 110 = .ok (.aload_n 0, 1) := dk_42 (dk_at dksX2_begin_4 17 rfl rfl)
theorem dX2_begin_111 : decode cX2_begin 111 = .ok (.getfield 69, 3) := dk_180 0 69 (dk_at dksX2_begin_4 18 rfl rfl)
theorem dX2_begin_114 : decode cX2_begin 114 = .ok (.iload 5, 2) := dk_21 5 (dk_at dksX2_begin_4 21 rfl rfl)
theorem dX2_begin_116 : decode cX2_begin 116 = .ok (.iaload, 1) := dk_46 (dk_at dksX2_begin_4 23 rfl rfl)
theorem dX2_begin_117 : decode cX2_begin 117 = .ok (.iload_n 2, 1) := dk_28 (dk_at dksX2_begin_5 0 rfl rfl)
theorem dX2_begin_118 : decode cX2_begin 118 = .ok (.invokestatic 101, 3) := dk_184 0 101 (dk_at dksX2_begin_5 1 rfl rfl)
theorem dX2_begin_121 : decode cX2_begin 121 = .ok (.ifCond .ne 7, 3) := dk_154 0 7 (dk_at dksX2_begin_5 4 rfl rfl)
theorem dX2_begin_124 : decode cX2_begin 124 = .ok (.iconst 1, 1) := dk_4 (dk_at dksX2_begin_5 7 rfl rfl)
theorem dX2_begin_125 : decode cX2_begin 125 = .ok (.goto 4, 3) := dk_167 0 4 (dk_at dksX2_begin_5 8 rfl rfl)
theorem dX2_begin_128 : decode cX2_begin 128 = .ok (.iconst 0, 1) := dk_3 (dk_at dksX2_begin_5 11 rfl rfl)
theorem dX2_begin_129 : decode cX2_begin 129 = .ok (.istore 7, 2) := dk_54 7 (dk_at dksX2_begin_5 12 rfl rfl)
theorem dX2_begin_131 : decode cX2_begin 131 = .ok (.aload_n 0, 1) := dk_42 (dk_at dksX2_begin_5 14 rfl rfl)
theorem dX2_begin_132 : decode cX2_begin 132 = .ok (.iload_n 1, 1) := dk_27 (dk_at dksX2_begin_5 15 rfl rfl)
theorem dX2_begin_133 : decode cX2_begin 133 = .ok (.iload_n 2, 1) := dk_28 (dk_at dksX2_begin_5 16 rfl rfl)
theorem dX2_begin_134 : decode cX2_begin 134 = .ok (.if_icmp .eq 28, 3) := dk_159 0 28 (dk_at dksX2_begin_5 17 rfl rfl)
theorem dX2_begin_137 : decode cX2_begin 137 = .ok (.iload_n 3, 1) := dk_29 (dk_at dksX2_begin_5 20 rfl rfl)
theorem dX2_begin_138 : decode cX2_begin 138 = .ok (.iconst 0, 1) := dk_3 (dk_at dksX2_begin_5 21 rfl rfl)
theorem dX2_begin_139 : decode cX2_begin 139 = .ok (.iconst 2, 1) := dk_5 (dk_at dksX2_begin_5 22 rfl rfl)
theorem dX2_begin_140 : decode cX2_begin 140 = .ok (.invokestatic 87, 3) := dk_184 0 87 (dk_at dksX2_begin_6 0 rfl rfl)
theorem dX2_begin_143 : decode cX2_begin 143 = .ok (.ifCond .eq 19, 3) := dk_153 0 19 (dk_at dksX2_begin_6 3 rfl rfl)
theorem dX2_begin_146 : decode cX2_begin 146 = .ok (.iload 4, 2) := dk_21 4 (dk_at dksX2_begin_6 6 rfl rfl)
theorem dX2_begin_148 : decode cX2_begin 148 = .ok (.iconst 1, 1) := dk_4 (dk_at dksX2_begin_6 8 rfl rfl)
theorem dX2_begin_149 : decode cX2_begin 149 = .ok (.bipush 45, 2) := dk_16 45 (dk_at dksX2_begin_6 9 rfl rfl)
theorem dX2_begin_151 : decode cX2_begin 151 = .ok (.invokestatic 87, 3) := dk_184 0 87 (dk_at dksX2_begin_6 11 rfl rfl)
theorem dX2_begin_154 : decode cX2_begin 154 = .ok (.ifCond .eq 8, 3) := dk_153 0 8 (dk_at dksX2_begin_6 14 rfl rfl)
theorem dX2_begin_157 : decode cX2_begin 157 = .ok (.iload 6, 2) := dk_21 6 (dk_at dksX2_begin_6 17 rfl rfl)
theorem dX2_begin_159 : decode cX2_begin 159 = .ok (.ifCond .ne 7, 3) := dk_154 0 7 (dk_at dksX2_begin_6 19 rfl rfl)
theorem dX2_begin_162 : decode cX2_begin 162 = .ok (.iconst 2, 1) := dk_5 (dk_at dksX2_begin_6 22 rfl rfl)
theorem dX2_begin_163 : decode cX2_begin 163 = .ok (.goto 30, 3) := dk_167 0 30 (dk_at dksX2_begin_7 0 rfl rfl)
theorem dX2_begin_166 : decode cX2_begin 166 = .ok (.aload_n 0, 1) := dk_42 (dk_at dksX2_begin_7 3 rfl rfl)
theorem dX2_begin_167 : decode cX2_begin 167 = .ok (.getfield 13, 3) := dk_180 0 13 (dk_at dksX2_begin_7 4 rfl rfl)
theorem dX2_begin_170 : decode cX2_begin 170 = .ok (.iconst (-1), 1) := dk_2 (dk_at dksX2_begin_7 7 rfl rfl)
theorem dX2_begin_171 : decode cX2_begin 171 = .ok (.if_icmp .ne 17, 3) := dk_160 0 17 (dk_at dksX2_begin_7 8 rfl rfl)
theorem dX2_begin_174 : decode cX2_begin 174 = .ok (.iload 7, 2) := dk_21 7 (dk_at dksX2_begin_7 11 rfl rfl)
theorem dX2_begin_176 : decode cX2_begin 176 = .ok (.ifCond .eq 12, 3) := dk_153 0 12 (dk_at dksX2_begin_7 13 rfl rfl)
theorem dX2_begin_179 : decode cX2_begin 179 = .ok (.aload_n 0, 1) := dk_42 (dk_at dksX2_begin_7 16 rfl rfl)
theorem dX2_begin_180 : decode cX2_begin 180 = .ok (.getfield 105, 3) := dk_180 0 105 (dk_at dksX2_begin_7 17 rfl rfl)
theorem dX2_begin_183 : decode cX2_begin 183 = .ok (.bipush 80, 2) := dk_16 80 (dk_at dksX2_begin_7 20 rfl rfl)
theorem dX2_begin_185 : decode cX2_begin 185 = .ok (.if_icmp .ne 7, 3) := dk_160 0 7 (dk_at dksX2_begin_8 0 rfl rfl)
theorem dX2_begin_188 : decode cX2_begin 188 = .ok (.iconst 3, 1) := dk_6 (dk_at dksX2_begin_8 3 rfl rfl)
theorem dX2_begin_189 : decode cX2_begin 189 = .ok (.goto 4, 3) := dk_167 0 4 (dk_at dksX2_begin_8 4 rfl rfl)
theorem dX2_begin_192 : decode cX2_begin 192 = .ok (.iconst 0, 1) := dk_3 (dk_at dksX2_begin_8 7 rfl rfl)
theorem dX2_begin_193 : decode cX2_begin 193 = .ok (.putfield 81, 3) := dk_181 0 81 (dk_at dksX2_begin_8 8 rfl rfl)
theorem dX2_begin_196 : decode cX2_begin 196 = .ok (.aload_n 0, 1) := dk_42 (dk_at dksX2_begin_8 11 rfl rfl)
theorem dX2_begin_197 : decode cX2_begin 197 = .ok (.getfield 81, 3) := dk_180 0 81 (dk_at dksX2_begin_8 12 rfl rfl)
theorem dX2_begin_200 : decode cX2_begin 200 = .ok (.ifCond .le 5, 3) := dk_158 0 5 (dk_at dksX2_begin_8 15 rfl rfl)
theorem dX2_begin_203 : decode cX2_begin 203 = .ok (.iconst 0, 1) := dk_3 (dk_at dksX2_begin_8 18 rfl rfl)
theorem dX2_begin_204 : decode cX2_begin 204 = .ok (.ireturn, 1) := dk_172 (dk_at dksX2_begin_8 19 rfl rfl)
theorem dX2_begin_205 : decode cX2_begin 205 = .ok (.aload_n 0, 1) := dk_42 (dk_at dksX2_begin_8 20 rfl rfl)
theorem dX2_begin_206 : decode cX2_begin 206 = .ok (.getfield 16, 3) := dk_180 0 16 (dk_at dksX2_begin_8 21 rfl rfl)
theorem dX2_begin_209 : decode cX2_begin 209 = .ok (.iconst 2, 1) := dk_5 (dk_at dksX2_begin_9 0 rfl rfl)
theorem dX2_begin_210 : decode cX2_begin 210 = .ok (.aload_n 0, 1) := dk_42 (dk_at dksX2_begin_9 1 rfl rfl)
theorem dX2_begin_211 : decode cX2_begin 211 = .ok (.getfield 105, 3) := dk_180 0 105 (dk_at dksX2_begin_9 2 rfl rfl)
theorem dX2_begin_214 : decode cX2_begin 214 = .ok (.imul, 1) := dk_104 (dk_at dksX2_begin_9 5 rfl rfl)
theorem dX2_begin_215 : decode cX2_begin 215 = .ok (.iload_n 1, 1) := dk_27 (dk_at dksX2_begin_9 6 rfl rfl)
theorem dX2_begin_216 : decode cX2_begin 216 = .ok (.iastore, 1) := dk_79 (dk_at dksX2_begin_9 7 rfl rfl)
theorem dX2_begin_217 : decode cX2_begin 217 = .ok (.aload_n 0, 1) := dk_42 (dk_at dksX2_begin_9 8 rfl rfl)
theorem dX2_begin_218 : decode cX2_begin 218 = .ok (.getfield 16, 3) := dk_180 0 16 (dk_at dksX2_begin_9 9 rfl rfl)
theorem dX2_begin_221 : decode cX2_begin 221 = .ok (.iconst 2, 1) := dk_5 (dk_at dksX2_begin_9 12 rfl rfl)
theorem dX2_begin_222 : decode cX2_begin 222 = .ok (.aload_n 0, 1) := dk_42 (dk_at dksX2_begin_9 13 rfl rfl)
theorem dX2_begin_223 : decode cX2_begin 223 = .ok (.getfield 105, 3) := dk_180 0 105 (dk_at dksX2_begin_9 14 rfl rfl)
theorem dX2_begin_226 : decode cX2_begin 226 = .ok (.imul, 1) := dk_104 (dk_at dksX2_begin_9 17 rfl rfl)
theorem dX2_begin_227 : decode cX2_begin 227 = .ok (.iconst 1, 1) := dk_4 (dk_at dksX2_begin_9 18 rfl rfl)
theorem dX2_begin_228 : decode cX2_begin 228 = .ok (.iadd, 1) := dk_96 (dk_at dksX2_begin_9 19 rfl rfl)
theorem dX2_begin_229 : decode cX2_begin 229 = .ok (.iload_n 2, 1) := dk_28 (dk_at dksX2_begin_9 20 rfl rfl)
theorem dX2_begin_230 : decode cX2_begin 230 = .ok (.iastore, 1) := dk_79 (dk_at dksX2_begin_9 21 rfl rfl)
theorem dX2_begin_231 : decode cX2_begin 231 = .ok (.aload_n 0, 1) := dk_42 (dk_at dksX2_begin_9 22 rfl rfl)
theorem dX2_begin_232 : decode cX2_begin 232 = .ok (.getfield 23, 3) := dk_180 0 23 (dk_at dksX2_begin_10 0 rfl rfl)
theorem dX2_begin_235 : decode cX2_begin 235 = .ok (.aload_n 0, 1) := dk_42 (dk_at dksX2_begin_10 3 rfl rfl)
theorem dX2_begin_236 : decode cX2_begin 236 = .ok (.getfield 105, 3) := dk_180 0 105 (dk_at dksX2_begin_10 4 rfl rfl)
theorem dX2_begin_239 : decode cX2_begin 239 = .ok (.iload_n 3, 1) := dk_29 (dk_at dksX2_begin_10 7 rfl rfl)
theorem dX2_begin_240 : decode cX2_begin 240 = .ok (.iastore, 1) := dk_79 (dk_at dksX2_begin_10 8 rfl rfl)
theorem dX2_begin_241 : decode cX2_begin 241 = .ok (.aload_n 0, 1) := dk_42 (dk_at dksX2_begin_10 9 rfl rfl)
theorem dX2_begin_242 : decode cX2_begin 242 = .ok (.getfield 26, 3) := dk_180 0 26 (dk_at dksX2_begin_10 10 rfl rfl)
theorem dX2_begin_245 : decode cX2_begin 245 = .ok (.aload_n 0, 1) := dk_42 (dk_at dksX2_begin_10 13 rfl rfl)
theorem dX2_begin_246 : decode cX2_begin 246 = .ok (.getfield 105, 3) := dk_180 0 105 (dk_at dksX2_begin_10 14 rfl rfl)
theorem dX2_begin_249 : decode cX2_begin 249 = .ok (.iload 4, 2) := dk_21 4 (dk_at dksX2_begin_10 17 rfl rfl)
theorem dX2_begin_251 : decode cX2_begin 251 = .ok (.iastore, 1) := dk_79 (dk_at dksX2_begin_10 19 rfl rfl)
theorem dX2_begin_252 : decode cX2_begin 252 = .ok (.aload_n 0, 1) := dk_42 (dk_at dksX2_begin_10 20 rfl rfl)
theorem dX2_begin_253 : decode cX2_begin 253 = .ok (.getfield 29, 3) := dk_180 0 29 (dk_at dksX2_begin_10 21 rfl rfl)
theorem dX2_begin_256 : decode cX2_begin 256 = .ok (.aload_n 0, 1) := dk_42 (dk_at dksX2_begin_11 0 rfl rfl)
theorem dX2_begin_257 : decode cX2_begin 257 = .ok (.getfield 105, 3) := dk_180 0 105 (dk_at dksX2_begin_11 1 rfl rfl)
theorem dX2_begin_260 : decode cX2_begin 260 = .ok (.iload 5, 2) := dk_21 5 (dk_at dksX2_begin_11 4 rfl rfl)
theorem dX2_begin_262 : decode cX2_begin 262 = .ok (.iastore, 1) := dk_79 (dk_at dksX2_begin_11 6 rfl rfl)
theorem dX2_begin_263 : decode cX2_begin 263 = .ok (.aload_n 0, 1) := dk_42 (dk_at dksX2_begin_11 7 rfl rfl)
theorem dX2_begin_264 : decode cX2_begin 264 = .ok (.getfield 32, 3) := dk_180 0 32 (dk_at dksX2_begin_11 8 rfl rfl)
theorem dX2_begin_267 : decode cX2_begin 267 = .ok (.aload_n 0, 1) := dk_42 (dk_at dksX2_begin_11 11 rfl rfl)
theorem dX2_begin_268 : decode cX2_begin 268 = .ok (.getfield 105, 3) := dk_180 0 105 (dk_at dksX2_begin_11 12 rfl rfl)
theorem dX2_begin_271 : decode cX2_begin 271 = .ok (.iconst (-1), 1) := dk_2 (dk_at dksX2_begin_11 15 rfl rfl)
theorem dX2_begin_272 : decode cX2_begin 272 = .ok (.iastore, 1) := dk_79 (dk_at dksX2_begin_11 16 rfl rfl)
theorem dX2_begin_273 : decode cX2_begin 273 = .ok (.aload_n 0, 1) := dk_42 (dk_at dksX2_begin_11 17 rfl rfl)
theorem dX2_begin_274 : decode cX2_begin 274 = .ok (.getfield 41, 3) := dk_180 0 41 (dk_at dksX2_begin_11 18 rfl rfl)
theorem dX2_begin_277 : decode cX2_begin 277 = .ok (.aload_n 0, 1) := dk_42 (dk_at dksX2_begin_11 21 rfl rfl)
theorem dX2_begin_278 : decode cX2_begin 278 = .ok (.getfield 105, 3) := dk_180 0 105 (dk_at dksX2_begin_12 0 rfl rfl)
theorem dX2_begin_281 : decode cX2_begin 281 = .ok (.iconst (-1), 1) := dk_2 (dk_at dksX2_begin_12 3 rfl rfl)
theorem dX2_begin_282 : decode cX2_begin 282 = .ok (.iastore, 1) := dk_79 (dk_at dksX2_begin_12 4 rfl rfl)
theorem dX2_begin_283 : decode cX2_begin 283 = .ok (.aload_n 0, 1) := dk_42 (dk_at dksX2_begin_12 5 rfl rfl)
theorem dX2_begin_284 : decode cX2_begin 284 = .ok (.aload_n 0, 1) := dk_42 (dk_at dksX2_begin_12 6 rfl rfl)
theorem dX2_begin_285 : decode cX2_begin 285 = .ok (.getfield 105, 3) := dk_180 0 105 (dk_at dksX2_begin_12 7 rfl rfl)
theorem dX2_begin_288 : decode cX2_begin 288 = .ok (.putfield 13, 3) := dk_181 0 13 (dk_at dksX2_begin_12 10 rfl rfl)
theorem dX2_begin_291 : decode cX2_begin 291 = .ok (.aload_n 0, 1) := dk_42 (dk_at dksX2_begin_12 13 rfl rfl)
theorem dX2_begin_292 : decode cX2_begin 292 = .ok (.iconst 0, 1) := dk_3 (dk_at dksX2_begin_12 14 rfl rfl)
theorem dX2_begin_293 : decode cX2_begin 293 = .ok (.putfield 108, 3) := dk_181 0 108 (dk_at dksX2_begin_12 15 rfl rfl)
theorem dX2_begin_296 : decode cX2_begin 296 = .ok (.iconst 0, 1) := dk_3 (dk_at dksX2_begin_12 18 rfl rfl)
theorem dX2_begin_297 : decode cX2_begin 297 = .ok (.istore 8, 2) := dk_54 8 (dk_at dksX2_begin_12 19 rfl rfl)
theorem dX2_begin_299 : decode cX2_begin 299 = .ok (.iload 8, 2) := dk_21 8 (dk_at dksX2_begin_12 21 rfl rfl)
theorem dX2_begin_301 : decode cX2_begin 301 = .ok (.iconst 2, 1) := dk_5 (dk_at dksX2_begin_12 23 rfl rfl)
theorem dX2_begin_302 : decode cX2_begin 302 = .ok (.if_icmp .ge 25, 3) := dk_162 0 25 (dk_at dksX2_begin_13 0 rfl rfl)
theorem dX2_begin_305 : decode cX2_begin 305 = .ok (.aload_n 0, 1) := dk_42 (dk_at dksX2_begin_13 3 rfl rfl)
theorem dX2_begin_306 : decode cX2_begin 306 = .ok (.getfield 44, 3) := dk_180 0 44 (dk_at dksX2_begin_13 4 rfl rfl)
theorem dX2_begin_309 : decode cX2_begin 309 = .ok (.iload 8, 2) := dk_21 8 (dk_at dksX2_begin_13 7 rfl rfl)
theorem dX2_begin_311 : decode cX2_begin 311 = .ok (.iconst 0, 1) := dk_3 (dk_at dksX2_begin_13 9 rfl rfl)
theorem dX2_begin_312 : decode cX2_begin 312 = .ok (.iastore, 1) := dk_79 (dk_at dksX2_begin_13 10 rfl rfl)
theorem dX2_begin_313 : decode cX2_begin 313 = .ok (.aload_n 0, 1) := dk_42 (dk_at dksX2_begin_13 11 rfl rfl)
theorem dX2_begin_314 : decode cX2_begin 314 = .ok (.getfield 47, 3) := dk_180 0 47 (dk_at dksX2_begin_13 12 rfl rfl)
theorem dX2_begin_317 : decode cX2_begin 317 = .ok (.iload 8, 2) := dk_21 8 (dk_at dksX2_begin_13 15 rfl rfl)
theorem dX2_begin_319 : decode cX2_begin 319 = .ok (.iconst 0, 1) := dk_3 (dk_at dksX2_begin_13 17 rfl rfl)
theorem dX2_begin_320 : decode cX2_begin 320 = .ok (.bastore, 1) := dk_84 (dk_at dksX2_begin_13 18 rfl rfl)
theorem dX2_begin_321 : decode cX2_begin 321 = .ok (.iinc 8 1, 3) := dk_132 8 1 (dk_at dksX2_begin_13 19 rfl rfl)
theorem dX2_begin_324 : decode cX2_begin 324 = .ok (.goto (-25), 3) := dk_167 255 231 (dk_at dksX2_begin_14 0 rfl rfl)
theorem dX2_begin_327 : decode cX2_begin 327 = .ok (.aload_n 0, 1) := dk_42 (dk_at dksX2_begin_14 3 rfl rfl)
theorem dX2_begin_328 : decode cX2_begin 328 = .ok (.iconst 0, 1) := dk_3 (dk_at dksX2_begin_14 4 rfl rfl)
theorem dX2_begin_329 : decode cX2_begin 329 = .ok (.putfield 111, 3) := dk_181 0 111 (dk_at dksX2_begin_14 5 rfl rfl)
theorem dX2_begin_332 : decode cX2_begin 332 = .ok (.aload_n 0, 1) := dk_42 (dk_at dksX2_begin_14 8 rfl rfl)
theorem dX2_begin_333 : decode cX2_begin 333 = .ok (.dup, 1) := dk_89 (dk_at dksX2_begin_14 9 rfl rfl)
theorem dX2_begin_334 : decode cX2_begin 334 = .ok (.getfield 105, 3) := dk_180 0 105 (dk_at dksX2_begin_14 10 rfl rfl)
theorem dX2_begin_337 : decode cX2_begin 337 = .ok (.iconst 1, 1) := dk_4 (dk_at dksX2_begin_14 13 rfl rfl)
theorem dX2_begin_338 : decode cX2_begin 338 = .ok (.iadd, 1) := dk_96 (dk_at dksX2_begin_14 14 rfl rfl)
theorem dX2_begin_339 : decode cX2_begin 339 = .ok (.putfield 105, 3) := dk_181 0 105 (dk_at dksX2_begin_14 15 rfl rfl)
theorem dX2_begin_342 : decode cX2_begin 342 = .ok (.aload_n 0, 1) := dk_42 (dk_at dksX2_begin_14 18 rfl rfl)
theorem dX2_begin_343 : decode cX2_begin 343 = .ok (.getfield 13, 3) := dk_180 0 13 (dk_at dksX2_begin_14 19 rfl rfl)
theorem dX2_begin_346 : decode cX2_begin 346 = .ok (.ireturn, 1) := dk_172 (dk_at dksX2_begin_14 22 rfl rfl)
abbrev cX2_isFencer : ByteArray := prog_13_method_4_code
def yX2_isFencer : MethodName := ⟨RX2, "isFencer", "(I)Z"⟩
def dkwX2_isFencer_0 : List UInt8 := [27, 3, 42, 180, 0, 84, 4, 100, 184, 0, 87, 172]
abbrev dktX2_isFencer_0 : List UInt8 := dkwX2_isFencer_0 ++ []
theorem dksX2_isFencer_0 : cX2_isFencer.data.toList.drop 0 = dktX2_isFencer_0 := by decide +kernel
theorem dX2_isFencer_0 : decode cX2_isFencer 0 = .ok (.iload_n 1, 1) := dk_27 (dk_at dksX2_isFencer_0 0 rfl rfl)
theorem dX2_isFencer_1 : decode cX2_isFencer 1 = .ok (.iconst 0, 1) := dk_3 (dk_at dksX2_isFencer_0 1 rfl rfl)
theorem dX2_isFencer_2 : decode cX2_isFencer 2 = .ok (.aload_n 0, 1) := dk_42 (dk_at dksX2_isFencer_0 2 rfl rfl)
theorem dX2_isFencer_3 : decode cX2_isFencer 3 = .ok (.getfield 84, 3) := dk_180 0 84 (dk_at dksX2_isFencer_0 3 rfl rfl)
theorem dX2_isFencer_6 : decode cX2_isFencer 6 = .ok (.iconst 1, 1) := dk_4 (dk_at dksX2_isFencer_0 6 rfl rfl)
theorem dX2_isFencer_7 : decode cX2_isFencer 7 = .ok (.isub, 1) := dk_100 (dk_at dksX2_isFencer_0 7 rfl rfl)
theorem dX2_isFencer_8 : decode cX2_isFencer 8 = .ok (.invokestatic 87, 3) := dk_184 0 87 (dk_at dksX2_isFencer_0 8 rfl rfl)
theorem dX2_isFencer_11 : decode cX2_isFencer 11 = .ok (.ireturn, 1) := dk_172 (dk_at dksX2_isFencer_0 11 rfl rfl)
abbrev cX2_isIn : ByteArray := prog_13_method_3_code
def yX2_isIn : MethodName := ⟨RX2, "isIn", "(III)Z"⟩
def dkwX2_isIn_0 : List UInt8 := [26, 27, 161, 0, 12, 26, 28, 163, 0, 7, 4, 167, 0, 4, 3, 172]
abbrev dktX2_isIn_0 : List UInt8 := dkwX2_isIn_0 ++ []
theorem dksX2_isIn_0 : cX2_isIn.data.toList.drop 0 = dktX2_isIn_0 := by decide +kernel
theorem dX2_isIn_0 : decode cX2_isIn 0 = .ok (.iload_n 0, 1) := dk_26 (dk_at dksX2_isIn_0 0 rfl rfl)
theorem dX2_isIn_1 : decode cX2_isIn 1 = .ok (.iload_n 1, 1) := dk_27 (dk_at dksX2_isIn_0 1 rfl rfl)
theorem dX2_isIn_2 : decode cX2_isIn 2 = .ok (.if_icmp .lt 12, 3) := dk_161 0 12 (dk_at dksX2_isIn_0 2 rfl rfl)
theorem dX2_isIn_5 : decode cX2_isIn 5 = .ok (.iload_n 0, 1) := dk_26 (dk_at dksX2_isIn_0 5 rfl rfl)
theorem dX2_isIn_6 : decode cX2_isIn 6 = .ok (.iload_n 2, 1) := dk_28 (dk_at dksX2_isIn_0 6 rfl rfl)
theorem dX2_isIn_7 : decode cX2_isIn 7 = .ok (.if_icmp .gt 7, 3) := dk_163 0 7 (dk_at dksX2_isIn_0 7 rfl rfl)
theorem dX2_isIn_10 : decode cX2_isIn 10 = .ok (.iconst 1, 1) := dk_4 (dk_at dksX2_isIn_0 10 rfl rfl)
theorem dX2_isIn_11 : decode cX2_isIn 11 = .ok (.goto 4, 3) := dk_167 0 4 (dk_at dksX2_isIn_0 11 rfl rfl)
theorem dX2_isIn_14 : decode cX2_isIn 14 = .ok (.iconst 0, 1) := dk_3 (dk_at dksX2_isIn_0 14 rfl rfl)
theorem dX2_isIn_15 : decode cX2_isIn 15 = .ok (.ireturn, 1) := dk_172 (dk_at dksX2_isIn_0 15 rfl rfl)
abbrev cX2_isPool : ByteArray := prog_13_method_5_code
def yX2_isPool : MethodName := ⟨RX2, "isPool", "(I)Z"⟩
def dkwX2_isPool_0 : List UInt8 := [27, 3, 42, 180, 0, 91, 4, 100, 184, 0, 87, 172]
abbrev dktX2_isPool_0 : List UInt8 := dkwX2_isPool_0 ++ []
theorem dksX2_isPool_0 : cX2_isPool.data.toList.drop 0 = dktX2_isPool_0 := by decide +kernel
theorem dX2_isPool_0 : decode cX2_isPool 0 = .ok (.iload_n 1, 1) := dk_27 (dk_at dksX2_isPool_0 0 rfl rfl)
theorem dX2_isPool_1 : decode cX2_isPool 1 = .ok (.iconst 0, 1) := dk_3 (dk_at dksX2_isPool_0 1 rfl rfl)
theorem dX2_isPool_2 : decode cX2_isPool 2 = .ok (.aload_n 0, 1) := dk_42 (dk_at dksX2_isPool_0 2 rfl rfl)
theorem dX2_isPool_3 : decode cX2_isPool 3 = .ok (.getfield 91, 3) := dk_180 0 91 (dk_at dksX2_isPool_0 3 rfl rfl)
theorem dX2_isPool_6 : decode cX2_isPool 6 = .ok (.iconst 1, 1) := dk_4 (dk_at dksX2_isPool_0 6 rfl rfl)
theorem dX2_isPool_7 : decode cX2_isPool 7 = .ok (.isub, 1) := dk_100 (dk_at dksX2_isPool_0 7 rfl rfl)
theorem dX2_isPool_8 : decode cX2_isPool 8 = .ok (.invokestatic 87, 3) := dk_184 0 87 (dk_at dksX2_isPool_0 8 rfl rfl)
theorem dX2_isPool_11 : decode cX2_isPool 11 = .ok (.ireturn, 1) := dk_172 (dk_at dksX2_isPool_0 11 rfl rfl)
abbrev cX2_has : ByteArray := prog_13_method_6_code
def yX2_has : MethodName := ⟨RX2, "has", "(II)Z"⟩
def dkwX2_has_0 : List UInt8 := [26, 27, 122, 4, 126, 4, 160, 0, 7, 4, 167, 0, 4, 3, 172]
abbrev dktX2_has_0 : List UInt8 := dkwX2_has_0 ++ []
theorem dksX2_has_0 : cX2_has.data.toList.drop 0 = dktX2_has_0 := by decide +kernel
theorem dX2_has_0 : decode cX2_has 0 = .ok (.iload_n 0, 1) := dk_26 (dk_at dksX2_has_0 0 rfl rfl)
theorem dX2_has_1 : decode cX2_has 1 = .ok (.iload_n 1, 1) := dk_27 (dk_at dksX2_has_0 1 rfl rfl)
theorem dX2_has_2 : decode cX2_has 2 = .ok (.ishr, 1) := dk_122 (dk_at dksX2_has_0 2 rfl rfl)
theorem dX2_has_3 : decode cX2_has 3 = .ok (.iconst 1, 1) := dk_4 (dk_at dksX2_has_0 3 rfl rfl)
theorem dX2_has_4 : decode cX2_has 4 = .ok (.iand, 1) := dk_126 (dk_at dksX2_has_0 4 rfl rfl)
theorem dX2_has_5 : decode cX2_has 5 = .ok (.iconst 1, 1) := dk_4 (dk_at dksX2_has_0 5 rfl rfl)
theorem dX2_has_6 : decode cX2_has 6 = .ok (.if_icmp .ne 7, 3) := dk_160 0 7 (dk_at dksX2_has_0 6 rfl rfl)
theorem dX2_has_9 : decode cX2_has 9 = .ok (.iconst 1, 1) := dk_4 (dk_at dksX2_has_0 9 rfl rfl)
theorem dX2_has_10 : decode cX2_has 10 = .ok (.goto 4, 3) := dk_167 0 4 (dk_at dksX2_has_0 10 rfl rfl)
theorem dX2_has_13 : decode cX2_has 13 = .ok (.iconst 0, 1) := dk_3 (dk_at dksX2_has_0 13 rfl rfl)
theorem dX2_has_14 : decode cX2_has 14 = .ok (.ireturn, 1) := dk_172 (dk_at dksX2_has_0 14 rfl rfl)
abbrev cX2_act : ByteArray := prog_13_method_12_code
def yX2_act : MethodName := ⟨RX2, "act", "(III)I"⟩
def dkwX2_act_2 : List UInt8 := [181, 0, 81, 42, 180, 0, 81, 158, 0, 7, 3, 167, 0, 10, 42, 27, 28, 29, 182, 0, 121, 172]
abbrev dktX2_act_2 : List UInt8 := dkwX2_act_2 ++ []
def dkwX2_act_1 : List UInt8 := [184, 0, 87, 154, 0, 7, 4, 167, 0, 16, 42, 29, 182, 0, 118, 154, 0, 7, 5, 167, 0, 4, 3]
abbrev dktX2_act_1 : List UInt8 := dkwX2_act_1 ++ dktX2_act_2
def dkwX2_act_0 : List UInt8 := [42, 27, 184, 0, 114, 153, 0, 23, 28, 3, 16, 6, 184, 0, 87, 153, 0, 13, 29, 3, 18, 117]
abbrev dktX2_act_0 : List UInt8 := dkwX2_act_0 ++ dktX2_act_1
theorem dksX2_act_0 : cX2_act.data.toList.drop 0 = dktX2_act_0 := by decide +kernel
theorem dksX2_act_1 : cX2_act.data.toList.drop 22 = dktX2_act_1 := dk_seg dksX2_act_0 22 rfl rfl
theorem dksX2_act_2 : cX2_act.data.toList.drop 45 = dktX2_act_2 := dk_seg dksX2_act_1 23 rfl rfl
theorem dX2_act_0 : decode cX2_act 0 = .ok (.aload_n 0, 1) := dk_42 (dk_at dksX2_act_0 0 rfl rfl)
theorem dX2_act_1 : decode cX2_act 1 = .ok (.iload_n 1, 1) := dk_27 (dk_at dksX2_act_0 1 rfl rfl)
theorem dX2_act_2 : decode cX2_act 2 = .ok (.invokestatic 114, 3) := dk_184 0 114 (dk_at dksX2_act_0 2 rfl rfl)
theorem dX2_act_5 : decode cX2_act 5 = .ok (.ifCond .eq 23, 3) := dk_153 0 23 (dk_at dksX2_act_0 5 rfl rfl)
theorem dX2_act_8 : decode cX2_act 8 = .ok (.iload_n 2, 1) := dk_28 (dk_at dksX2_act_0 8 rfl rfl)
theorem dX2_act_9 : decode cX2_act 9 = .ok (.iconst 0, 1) := dk_3 (dk_at dksX2_act_0 9 rfl rfl)
theorem dX2_act_10 : decode cX2_act 10 = .ok (.bipush 6, 2) := dk_16 6 (dk_at dksX2_act_0 10 rfl rfl)
theorem dX2_act_12 : decode cX2_act 12 = .ok (.invokestatic 87, 3) := dk_184 0 87 (dk_at dksX2_act_0 12 rfl rfl)
theorem dX2_act_15 : decode cX2_act 15 = .ok (.ifCond .eq 13, 3) := dk_153 0 13 (dk_at dksX2_act_0 15 rfl rfl)
theorem dX2_act_18 : decode cX2_act 18 = .ok (.iload_n 3, 1) := dk_29 (dk_at dksX2_act_0 18 rfl rfl)
theorem dX2_act_19 : decode cX2_act 19 = .ok (.iconst 0, 1) := dk_3 (dk_at dksX2_act_0 19 rfl rfl)
theorem dX2_act_20 : decode cX2_act 20 = .ok (.ldc 117, 2) := dk_18 117 (dk_at dksX2_act_0 20 rfl rfl)
theorem dX2_act_22 : decode cX2_act 22 = .ok (.invokestatic 87, 3) := dk_184 0 87 (dk_at dksX2_act_1 0 rfl rfl)
theorem dX2_act_25 : decode cX2_act 25 = .ok (.ifCond .ne 7, 3) := dk_154 0 7 (dk_at dksX2_act_1 3 rfl rfl)
theorem dX2_act_28 : decode cX2_act 28 = .ok (.iconst 1, 1) := dk_4 (dk_at dksX2_act_1 6 rfl rfl)
theorem dX2_act_29 : decode cX2_act 29 = .ok (.goto 16, 3) := dk_167 0 16 (dk_at dksX2_act_1 7 rfl rfl)
theorem dX2_act_32 : decode cX2_act 32 = .ok (.aload_n 0, 1) := dk_42 (dk_at dksX2_act_1 10 rfl rfl)
theorem dX2_act_33 : decode cX2_act 33 = .ok (.iload_n 3, 1) := dk_29 (dk_at dksX2_act_1 11 rfl rfl)
theorem dX2_act_34 : decode cX2_act 34 = .ok (.invokevirtual 118, 3) := dk_182 0 118 (dk_at dksX2_act_1 12 rfl rfl)
theorem dX2_act_37 : decode cX2_act 37 = .ok (.ifCond .ne 7, 3) := dk_154 0 7 (dk_at dksX2_act_1 15 rfl rfl)
theorem dX2_act_40 : decode cX2_act 40 = .ok (.iconst 2, 1) := dk_5 (dk_at dksX2_act_1 18 rfl rfl)
theorem dX2_act_41 : decode cX2_act 41 = .ok (.goto 4, 3) := dk_167 0 4 (dk_at dksX2_act_1 19 rfl rfl)
theorem dX2_act_44 : decode cX2_act 44 = .ok (.iconst 0, 1) := dk_3 (dk_at dksX2_act_1 22 rfl rfl)
theorem dX2_act_45 : decode cX2_act 45 = .ok (.putfield 81, 3) := dk_181 0 81 (dk_at dksX2_act_2 0 rfl rfl)
theorem dX2_act_48 : decode cX2_act 48 = .ok (.aload_n 0, 1) := dk_42 (dk_at dksX2_act_2 3 rfl rfl)
theorem dX2_act_49 : decode cX2_act 49 = .ok (.getfield 81, 3) := dk_180 0 81 (dk_at dksX2_act_2 4 rfl rfl)
theorem dX2_act_52 : decode cX2_act 52 = .ok (.ifCond .le 7, 3) := dk_158 0 7 (dk_at dksX2_act_2 7 rfl rfl)
theorem dX2_act_55 : decode cX2_act 55 = .ok (.iconst 0, 1) := dk_3 (dk_at dksX2_act_2 10 rfl rfl)
theorem dX2_act_56 : decode cX2_act 56 = .ok (.goto 10, 3) := dk_167 0 10 (dk_at dksX2_act_2 11 rfl rfl)
theorem dX2_act_59 : decode cX2_act 59 = .ok (.aload_n 0, 1) := dk_42 (dk_at dksX2_act_2 14 rfl rfl)
theorem dX2_act_60 : decode cX2_act 60 = .ok (.iload_n 1, 1) := dk_27 (dk_at dksX2_act_2 15 rfl rfl)
theorem dX2_act_61 : decode cX2_act 61 = .ok (.iload_n 2, 1) := dk_28 (dk_at dksX2_act_2 16 rfl rfl)
theorem dX2_act_62 : decode cX2_act 62 = .ok (.iload_n 3, 1) := dk_29 (dk_at dksX2_act_2 17 rfl rfl)
theorem dX2_act_63 : decode cX2_act 63 = .ok (.invokevirtual 121, 3) := dk_182 0 121 (dk_at dksX2_act_2 18 rfl rfl)
theorem dX2_act_66 : decode cX2_act 66 = .ok (.ireturn, 1) := dk_172 (dk_at dksX2_act_2 21 rfl rfl)
abbrev cX2_isSide : ByteArray := prog_13_method_11_code
def yX2_isSide : MethodName := ⟨RX2, "isSide", "(I)Z"⟩
def dkwX2_isSide_0 : List UInt8 := [26, 3, 4, 184, 0, 87, 172]
abbrev dktX2_isSide_0 : List UInt8 := dkwX2_isSide_0 ++ []
theorem dksX2_isSide_0 : cX2_isSide.data.toList.drop 0 = dktX2_isSide_0 := by decide +kernel
theorem dX2_isSide_0 : decode cX2_isSide 0 = .ok (.iload_n 0, 1) := dk_26 (dk_at dksX2_isSide_0 0 rfl rfl)
theorem dX2_isSide_1 : decode cX2_isSide 1 = .ok (.iconst 0, 1) := dk_3 (dk_at dksX2_isSide_0 1 rfl rfl)
theorem dX2_isSide_2 : decode cX2_isSide 2 = .ok (.iconst 1, 1) := dk_4 (dk_at dksX2_isSide_0 2 rfl rfl)
theorem dX2_isSide_3 : decode cX2_isSide 3 = .ok (.invokestatic 87, 3) := dk_184 0 87 (dk_at dksX2_isSide_0 3 rfl rfl)
theorem dX2_isSide_6 : decode cX2_isSide 6 = .ok (.ireturn, 1) := dk_172 (dk_at dksX2_isSide_0 6 rfl rfl)
abbrev cX2_may : ByteArray := prog_13_method_10_code
def yX2_may : MethodName := ⟨RX2, "may", "(I)Z"⟩
def dkwX2_may_1 : List UInt8 := [27, 42, 180, 0, 57, 42, 180, 0, 111, 4, 100, 46, 161, 0, 7, 4, 167, 0, 4, 3, 172]
abbrev dktX2_may_1 : List UInt8 := dkwX2_may_1 ++ []
def dkwX2_may_0 : List UInt8 := [42, 180, 0, 13, 2, 159, 0, 38, 42, 180, 0, 111, 16, 24, 162, 0, 29, 42, 180, 0, 111, 153, 0, 18]
abbrev dktX2_may_0 : List UInt8 := dkwX2_may_0 ++ dktX2_may_1
theorem dksX2_may_0 : cX2_may.data.toList.drop 0 = dktX2_may_0 := by decide +kernel
theorem dksX2_may_1 : cX2_may.data.toList.drop 24 = dktX2_may_1 := dk_seg dksX2_may_0 24 rfl rfl
theorem dX2_may_0 : decode cX2_may 0 = .ok (.aload_n 0, 1) := dk_42 (dk_at dksX2_may_0 0 rfl rfl)
theorem dX2_may_1 : decode cX2_may 1 = .ok (.getfield 13, 3) := dk_180 0 13 (dk_at dksX2_may_0 1 rfl rfl)
theorem dX2_may_4 : decode cX2_may 4 = .ok (.iconst (-1), 1) := dk_2 (dk_at dksX2_may_0 4 rfl rfl)
theorem dX2_may_5 : decode cX2_may 5 = .ok (.if_icmp .eq 38, 3) := dk_159 0 38 (dk_at dksX2_may_0 5 rfl rfl)
theorem dX2_may_8 : decode cX2_may 8 = .ok (.aload_n 0, 1) := dk_42 (dk_at dksX2_may_0 8 rfl rfl)
theorem dX2_may_9 : decode cX2_may 9 = .ok (.getfield 111, 3) := dk_180 0 111 (dk_at dksX2_may_0 9 rfl rfl)
theorem dX2_may_12 : decode cX2_may 12 = .ok (.bipush 24, 2) := dk_16 24 (dk_at dksX2_may_0 12 rfl rfl)
theorem dX2_may_14 : decode cX2_may 14 = .ok (.if_icmp .ge 29, 3) := dk_162 0 29 (dk_at dksX2_may_0 14 rfl rfl)
theorem dX2_may_17 : decode cX2_may 17 = .ok (.aload_n 0, 1) := dk_42 (dk_at dksX2_may_0 17 rfl rfl)
theorem dX2_may_18 : decode cX2_may 18 = .ok (.getfield 111, 3) := dk_180 0 111 (dk_at dksX2_may_0 18 rfl rfl)
theorem dX2_may_21 : decode cX2_may 21 = .ok (.ifCond .eq 18, 3) := dk_153 0 18 (dk_at dksX2_may_0 21 rfl rfl)
theorem dX2_may_24 : decode cX2_may 24 = .ok (.iload_n 1, 1) := dk_27 (dk_at dksX2_may_1 0 rfl rfl)
theorem dX2_may_25 : decode cX2_may 25 = .ok (.aload_n 0, 1) := dk_42 (dk_at dksX2_may_1 1 rfl rfl)
theorem dX2_may_26 : decode cX2_may 26 = .ok (.getfield 57, 3) := dk_180 0 57 (dk_at dksX2_may_1 2 rfl rfl)
theorem dX2_may_29 : decode cX2_may 29 = .ok (.aload_n 0, 1) := dk_42 (dk_at dksX2_may_1 5 rfl rfl)
theorem dX2_may_30 : decode cX2_may 30 = .ok (.getfield 111, 3) := dk_180 0 111 (dk_at dksX2_may_1 6 rfl rfl)
theorem dX2_may_33 : decode cX2_may 33 = .ok (.iconst 1, 1) := dk_4 (dk_at dksX2_may_1 9 rfl rfl)
theorem dX2_may_34 : decode cX2_may 34 = .ok (.isub, 1) := dk_100 (dk_at dksX2_may_1 10 rfl rfl)
theorem dX2_may_35 : decode cX2_may 35 = .ok (.iaload, 1) := dk_46 (dk_at dksX2_may_1 11 rfl rfl)
theorem dX2_may_36 : decode cX2_may 36 = .ok (.if_icmp .lt 7, 3) := dk_161 0 7 (dk_at dksX2_may_1 12 rfl rfl)
theorem dX2_may_39 : decode cX2_may 39 = .ok (.iconst 1, 1) := dk_4 (dk_at dksX2_may_1 15 rfl rfl)
theorem dX2_may_40 : decode cX2_may 40 = .ok (.goto 4, 3) := dk_167 0 4 (dk_at dksX2_may_1 16 rfl rfl)
theorem dX2_may_43 : decode cX2_may 43 = .ok (.iconst 0, 1) := dk_3 (dk_at dksX2_may_1 19 rfl rfl)
theorem dX2_may_44 : decode cX2_may 44 = .ok (.ireturn, 1) := dk_172 (dk_at dksX2_may_1 20 rfl rfl)
abbrev cX2_puts : ByteArray := prog_13_method_9_code
def yX2_puts : MethodName := ⟨RX2, "puts", "(III)I"⟩
def dkwX2_puts_1 : List UInt8 := [42, 180, 0, 111, 29, 79, 42, 89, 180, 0, 111, 4, 96, 181, 0, 111, 42, 180, 0, 111, 172]
abbrev dktX2_puts_1 : List UInt8 := dkwX2_puts_1 ++ []
def dkwX2_puts_0 : List UInt8 := [42, 180, 0, 51, 42, 180, 0, 111, 27, 79, 42, 180, 0, 54, 42, 180, 0, 111, 28, 79, 42, 180, 0, 57]
abbrev dktX2_puts_0 : List UInt8 := dkwX2_puts_0 ++ dktX2_puts_1
theorem dksX2_puts_0 : cX2_puts.data.toList.drop 0 = dktX2_puts_0 := by decide +kernel
theorem dksX2_puts_1 : cX2_puts.data.toList.drop 24 = dktX2_puts_1 := dk_seg dksX2_puts_0 24 rfl rfl
theorem dX2_puts_0 : decode cX2_puts 0 = .ok (.aload_n 0, 1) := dk_42 (dk_at dksX2_puts_0 0 rfl rfl)
theorem dX2_puts_1 : decode cX2_puts 1 = .ok (.getfield 51, 3) := dk_180 0 51 (dk_at dksX2_puts_0 1 rfl rfl)
theorem dX2_puts_4 : decode cX2_puts 4 = .ok (.aload_n 0, 1) := dk_42 (dk_at dksX2_puts_0 4 rfl rfl)
theorem dX2_puts_5 : decode cX2_puts 5 = .ok (.getfield 111, 3) := dk_180 0 111 (dk_at dksX2_puts_0 5 rfl rfl)
theorem dX2_puts_8 : decode cX2_puts 8 = .ok (.iload_n 1, 1) := dk_27 (dk_at dksX2_puts_0 8 rfl rfl)
theorem dX2_puts_9 : decode cX2_puts 9 = .ok (.iastore, 1) := dk_79 (dk_at dksX2_puts_0 9 rfl rfl)
theorem dX2_puts_10 : decode cX2_puts 10 = .ok (.aload_n 0, 1) := dk_42 (dk_at dksX2_puts_0 10 rfl rfl)
theorem dX2_puts_11 : decode cX2_puts 11 = .ok (.getfield 54, 3) := dk_180 0 54 (dk_at dksX2_puts_0 11 rfl rfl)
theorem dX2_puts_14 : decode cX2_puts 14 = .ok (.aload_n 0, 1) := dk_42 (dk_at dksX2_puts_0 14 rfl rfl)
theorem dX2_puts_15 : decode cX2_puts 15 = .ok (.getfield 111, 3) := dk_180 0 111 (dk_at dksX2_puts_0 15 rfl rfl)
theorem dX2_puts_18 : decode cX2_puts 18 = .ok (.iload_n 2, 1) := dk_28 (dk_at dksX2_puts_0 18 rfl rfl)
theorem dX2_puts_19 : decode cX2_puts 19 = .ok (.iastore, 1) := dk_79 (dk_at dksX2_puts_0 19 rfl rfl)
theorem dX2_puts_20 : decode cX2_puts 20 = .ok (.aload_n 0, 1) := dk_42 (dk_at dksX2_puts_0 20 rfl rfl)
theorem dX2_puts_21 : decode cX2_puts 21 = .ok (.getfield 57, 3) := dk_180 0 57 (dk_at dksX2_puts_0 21 rfl rfl)
theorem dX2_puts_24 : decode cX2_puts 24 = .ok (.aload_n 0, 1) := dk_42 (dk_at dksX2_puts_1 0 rfl rfl)
theorem dX2_puts_25 : decode cX2_puts 25 = .ok (.getfield 111, 3) := dk_180 0 111 (dk_at dksX2_puts_1 1 rfl rfl)
theorem dX2_puts_28 : decode cX2_puts 28 = .ok (.iload_n 3, 1) := dk_29 (dk_at dksX2_puts_1 4 rfl rfl)
theorem dX2_puts_29 : decode cX2_puts 29 = .ok (.iastore, 1) := dk_79 (dk_at dksX2_puts_1 5 rfl rfl)
theorem dX2_puts_30 : decode cX2_puts 30 = .ok (.aload_n 0, 1) := dk_42 (dk_at dksX2_puts_1 6 rfl rfl)
theorem dX2_puts_31 : decode cX2_puts 31 = .ok (.dup, 1) := dk_89 (dk_at dksX2_puts_1 7 rfl rfl)
theorem dX2_puts_32 : decode cX2_puts 32 = .ok (.getfield 111, 3) := dk_180 0 111 (dk_at dksX2_puts_1 8 rfl rfl)
theorem dX2_puts_35 : decode cX2_puts 35 = .ok (.iconst 1, 1) := dk_4 (dk_at dksX2_puts_1 11 rfl rfl)
theorem dX2_puts_36 : decode cX2_puts 36 = .ok (.iadd, 1) := dk_96 (dk_at dksX2_puts_1 12 rfl rfl)
theorem dX2_puts_37 : decode cX2_puts 37 = .ok (.putfield 111, 3) := dk_181 0 111 (dk_at dksX2_puts_1 13 rfl rfl)
theorem dX2_puts_40 : decode cX2_puts 40 = .ok (.aload_n 0, 1) := dk_42 (dk_at dksX2_puts_1 16 rfl rfl)
theorem dX2_puts_41 : decode cX2_puts 41 = .ok (.getfield 111, 3) := dk_180 0 111 (dk_at dksX2_puts_1 17 rfl rfl)
theorem dX2_puts_44 : decode cX2_puts 44 = .ok (.ireturn, 1) := dk_172 (dk_at dksX2_puts_1 20 rfl rfl)
abbrev cX2_hit : ByteArray := prog_13_method_13_code
def yX2_hit : MethodName := ⟨RX2, "hit", "(IIII)I"⟩
def dkwX2_hit_4 : List UInt8 := [28, 182, 0, 121, 172]
abbrev dktX2_hit_4 : List UInt8 := dkwX2_hit_4 ++ []
def dkwX2_hit_3 : List UInt8 := [180, 0, 60, 42, 180, 0, 111, 29, 79, 42, 180, 0, 63, 42, 180, 0, 111, 21, 4, 79, 42, 27, 16, 7]
abbrev dktX2_hit_3 : List UInt8 := dkwX2_hit_3 ++ dktX2_hit_4
def dkwX2_hit_2 : List UInt8 := [182, 0, 118, 154, 0, 7, 5, 167, 0, 4, 3, 181, 0, 81, 42, 180, 0, 81, 158, 0, 5, 3, 172, 42]
abbrev dktX2_hit_2 : List UInt8 := dkwX2_hit_2 ++ dktX2_hit_3
def dkwX2_hit_1 : List UInt8 := [184, 0, 87, 153, 0, 13, 21, 4, 3, 5, 184, 0, 87, 154, 0, 7, 4, 167, 0, 16, 42, 28]
abbrev dktX2_hit_1 : List UInt8 := dkwX2_hit_1 ++ dktX2_hit_2
def dkwX2_hit_0 : List UInt8 := [42, 27, 184, 0, 114, 153, 0, 34, 28, 3, 18, 117, 184, 0, 87, 153, 0, 24, 29, 3, 17, 3, 232]
abbrev dktX2_hit_0 : List UInt8 := dkwX2_hit_0 ++ dktX2_hit_1
theorem dksX2_hit_0 : cX2_hit.data.toList.drop 0 = dktX2_hit_0 := by decide +kernel
theorem dksX2_hit_1 : cX2_hit.data.toList.drop 23 = dktX2_hit_1 := dk_seg dksX2_hit_0 23 rfl rfl
theorem dksX2_hit_2 : cX2_hit.data.toList.drop 45 = dktX2_hit_2 := dk_seg dksX2_hit_1 22 rfl rfl
theorem dksX2_hit_3 : cX2_hit.data.toList.drop 69 = dktX2_hit_3 := dk_seg dksX2_hit_2 24 rfl rfl
theorem dksX2_hit_4 : cX2_hit.data.toList.drop 93 = dktX2_hit_4 := dk_seg dksX2_hit_3 24 rfl rfl
theorem dX2_hit_0 : decode cX2_hit 0 = .ok (.aload_n 0, 1) := dk_42 (dk_at dksX2_hit_0 0 rfl rfl)
theorem dX2_hit_1 : decode cX2_hit 1 = .ok (.iload_n 1, 1) := dk_27 (dk_at dksX2_hit_0 1 rfl rfl)
theorem dX2_hit_2 : decode cX2_hit 2 = .ok (.invokestatic 114, 3) := dk_184 0 114 (dk_at dksX2_hit_0 2 rfl rfl)
theorem dX2_hit_5 : decode cX2_hit 5 = .ok (.ifCond .eq 34, 3) := dk_153 0 34 (dk_at dksX2_hit_0 5 rfl rfl)
theorem dX2_hit_8 : decode cX2_hit 8 = .ok (.iload_n 2, 1) := dk_28 (dk_at dksX2_hit_0 8 rfl rfl)
theorem dX2_hit_9 : decode cX2_hit 9 = .ok (.iconst 0, 1) := dk_3 (dk_at dksX2_hit_0 9 rfl rfl)
theorem dX2_hit_10 : decode cX2_hit 10 = .ok (.ldc 117, 2) := dk_18 117 (dk_at dksX2_hit_0 10 rfl rfl)
theorem dX2_hit_12 : decode cX2_hit 12 = .ok (.invokestatic 87, 3) := dk_184 0 87 (dk_at dksX2_hit_0 12 rfl rfl)
theorem dX2_hit_15 : decode cX2_hit 15 = .ok (.ifCond .eq 24, 3) := dk_153 0 24 (dk_at dksX2_hit_0 15 rfl rfl)
theorem dX2_hit_18 : decode cX2_hit 18 = .ok (.iload_n 3, 1) := dk_29 (dk_at dksX2_hit_0 18 rfl rfl)
theorem dX2_hit_19 : decode cX2_hit 19 = .ok (.iconst 0, 1) := dk_3 (dk_at dksX2_hit_0 19 rfl rfl)
theorem dX2_hit_20 : decode cX2_hit 20 = .ok (.sipush 1000, 3) := dk_17 3 232 (dk_at dksX2_hit_0 20 rfl rfl)
theorem dX2_hit_23 : decode cX2_hit 23 = .ok (.invokestatic 87, 3) := dk_184 0 87 (dk_at dksX2_hit_1 0 rfl rfl)
theorem dX2_hit_26 : decode cX2_hit 26 = .ok (.ifCond .eq 13, 3) := dk_153 0 13 (dk_at dksX2_hit_1 3 rfl rfl)
theorem dX2_hit_29 : decode cX2_hit 29 = .ok (.iload 4, 2) := dk_21 4 (dk_at dksX2_hit_1 6 rfl rfl)
theorem dX2_hit_31 : decode cX2_hit 31 = .ok (.iconst 0, 1) := dk_3 (dk_at dksX2_hit_1 8 rfl rfl)
theorem dX2_hit_32 : decode cX2_hit 32 = .ok (.iconst 2, 1) := dk_5 (dk_at dksX2_hit_1 9 rfl rfl)
theorem dX2_hit_33 : decode cX2_hit 33 = .ok (.invokestatic 87, 3) := dk_184 0 87 (dk_at dksX2_hit_1 10 rfl rfl)
theorem dX2_hit_36 : decode cX2_hit 36 = .ok (.ifCond .ne 7, 3) := dk_154 0 7 (dk_at dksX2_hit_1 13 rfl rfl)
theorem dX2_hit_39 : decode cX2_hit 39 = .ok (.iconst 1, 1) := dk_4 (dk_at dksX2_hit_1 16 rfl rfl)
theorem dX2_hit_40 : decode cX2_hit 40 = .ok (.goto 16, 3) := dk_167 0 16 (dk_at dksX2_hit_1 17 rfl rfl)
theorem dX2_hit_43 : decode cX2_hit 43 = .ok (.aload_n 0, 1) := dk_42 (dk_at dksX2_hit_1 20 rfl rfl)
theorem dX2_hit_44 : decode cX2_hit 44 = .ok (.iload_n 2, 1) := dk_28 (dk_at dksX2_hit_1 21 rfl rfl)
theorem dX2_hit_45 : decode cX2_hit 45 = .ok (.invokevirtual 118, 3) := dk_182 0 118 (dk_at dksX2_hit_2 0 rfl rfl)
theorem dX2_hit_48 : decode cX2_hit 48 = .ok (.ifCond .ne 7, 3) := dk_154 0 7 (dk_at dksX2_hit_2 3 rfl rfl)
theorem dX2_hit_51 : decode cX2_hit 51 = .ok (.iconst 2, 1) := dk_5 (dk_at dksX2_hit_2 6 rfl rfl)
theorem dX2_hit_52 : decode cX2_hit 52 = .ok (.goto 4, 3) := dk_167 0 4 (dk_at dksX2_hit_2 7 rfl rfl)
theorem dX2_hit_55 : decode cX2_hit 55 = .ok (.iconst 0, 1) := dk_3 (dk_at dksX2_hit_2 10 rfl rfl)
theorem dX2_hit_56 : decode cX2_hit 56 = .ok (.putfield 81, 3) := dk_181 0 81 (dk_at dksX2_hit_2 11 rfl rfl)
theorem dX2_hit_59 : decode cX2_hit 59 = .ok (.aload_n 0, 1) := dk_42 (dk_at dksX2_hit_2 14 rfl rfl)
theorem dX2_hit_60 : decode cX2_hit 60 = .ok (.getfield 81, 3) := dk_180 0 81 (dk_at dksX2_hit_2 15 rfl rfl)
theorem dX2_hit_63 : decode cX2_hit 63 = .ok (.ifCond .le 5, 3) := dk_158 0 5 (dk_at dksX2_hit_2 18 rfl rfl)
theorem dX2_hit_66 : decode cX2_hit 66 = .ok (.iconst 0, 1) := dk_3 (dk_at dksX2_hit_2 21 rfl rfl)
theorem dX2_hit_67 : decode cX2_hit 67 = .ok (.ireturn, 1) := dk_172 (dk_at dksX2_hit_2 22 rfl rfl)
theorem dX2_hit_68 : decode cX2_hit 68 = .ok (.aload_n 0, 1) := dk_42 (dk_at dksX2_hit_2 23 rfl rfl)
theorem dX2_hit_69 : decode cX2_hit 69 = .ok (.getfield 60, 3) := dk_180 0 60 (dk_at dksX2_hit_3 0 rfl rfl)
theorem dX2_hit_72 : decode cX2_hit 72 = .ok (.aload_n 0, 1) := dk_42 (dk_at dksX2_hit_3 3 rfl rfl)
theorem dX2_hit_73 : decode cX2_hit 73 = .ok (.getfield 111, 3) := dk_180 0 111 (dk_at dksX2_hit_3 4 rfl rfl)
theorem dX2_hit_76 : decode cX2_hit 76 = .ok (.iload_n 3, 1) := dk_29 (dk_at dksX2_hit_3 7 rfl rfl)
theorem dX2_hit_77 : decode cX2_hit 77 = .ok (.iastore, 1) := dk_79 (dk_at dksX2_hit_3 8 rfl rfl)
theorem dX2_hit_78 : decode cX2_hit 78 = .ok (.aload_n 0, 1) := dk_42 (dk_at dksX2_hit_3 9 rfl rfl)
theorem dX2_hit_79 : decode cX2_hit 79 = .ok (.getfield 63, 3) := dk_180 0 63 (dk_at dksX2_hit_3 10 rfl rfl)
theorem dX2_hit_82 : decode cX2_hit 82 = .ok (.aload_n 0, 1) := dk_42 (dk_at dksX2_hit_3 13 rfl rfl)
theorem dX2_hit_83 : decode cX2_hit 83 = .ok (.getfield 111, 3) := dk_180 0 111 (dk_at dksX2_hit_3 14 rfl rfl)
theorem dX2_hit_86 : decode cX2_hit 86 = .ok (.iload 4, 2) := dk_21 4 (dk_at dksX2_hit_3 17 rfl rfl)
theorem dX2_hit_88 : decode cX2_hit 88 = .ok (.iastore, 1) := dk_79 (dk_at dksX2_hit_3 19 rfl rfl)
theorem dX2_hit_89 : decode cX2_hit 89 = .ok (.aload_n 0, 1) := dk_42 (dk_at dksX2_hit_3 20 rfl rfl)
theorem dX2_hit_90 : decode cX2_hit 90 = .ok (.iload_n 1, 1) := dk_27 (dk_at dksX2_hit_3 21 rfl rfl)
theorem dX2_hit_91 : decode cX2_hit 91 = .ok (.bipush 7, 2) := dk_16 7 (dk_at dksX2_hit_3 22 rfl rfl)
theorem dX2_hit_93 : decode cX2_hit 93 = .ok (.iload_n 2, 1) := dk_28 (dk_at dksX2_hit_4 0 rfl rfl)
theorem dX2_hit_94 : decode cX2_hit 94 = .ok (.invokevirtual 121, 3) := dk_182 0 121 (dk_at dksX2_hit_4 1 rfl rfl)
theorem dX2_hit_97 : decode cX2_hit 97 = .ok (.ireturn, 1) := dk_172 (dk_at dksX2_hit_4 4 rfl rfl)
abbrev cX2_judge : ByteArray := prog_13_method_22_code
def yX2_judge : MethodName := ⟨RX2, "judge", "()I"⟩
def dkwX2_judge_2 : List UInt8 := [180, 0, 108, 181, 0, 108, 42, 27, 182, 0, 152, 27, 172]
abbrev dktX2_judge_2 : List UInt8 := dkwX2_judge_2 ++ []
def dkwX2_judge_1 : List UInt8 := [3, 172, 42, 182, 0, 149, 60, 42, 3, 181, 0, 111, 42, 27, 158, 0, 7, 3, 167, 0, 7, 42]
abbrev dktX2_judge_1 : List UInt8 := dkwX2_judge_1 ++ dktX2_judge_2
def dkwX2_judge_0 : List UInt8 := [42, 42, 180, 0, 13, 2, 160, 0, 7, 4, 167, 0, 4, 3, 181, 0, 81, 42, 180, 0, 81, 158, 0, 5]
abbrev dktX2_judge_0 : List UInt8 := dkwX2_judge_0 ++ dktX2_judge_1
theorem dksX2_judge_0 : cX2_judge.data.toList.drop 0 = dktX2_judge_0 := by decide +kernel
theorem dksX2_judge_1 : cX2_judge.data.toList.drop 24 = dktX2_judge_1 := dk_seg dksX2_judge_0 24 rfl rfl
theorem dksX2_judge_2 : cX2_judge.data.toList.drop 46 = dktX2_judge_2 := dk_seg dksX2_judge_1 22 rfl rfl
theorem dX2_judge_0 : decode cX2_judge 0 = .ok (.aload_n 0, 1) := dk_42 (dk_at dksX2_judge_0 0 rfl rfl)
theorem dX2_judge_1 : decode cX2_judge 1 = .ok (.aload_n 0, 1) := dk_42 (dk_at dksX2_judge_0 1 rfl rfl)
theorem dX2_judge_2 : decode cX2_judge 2 = .ok (.getfield 13, 3) := dk_180 0 13 (dk_at dksX2_judge_0 2 rfl rfl)
theorem dX2_judge_5 : decode cX2_judge 5 = .ok (.iconst (-1), 1) := dk_2 (dk_at dksX2_judge_0 5 rfl rfl)
theorem dX2_judge_6 : decode cX2_judge 6 = .ok (.if_icmp .ne 7, 3) := dk_160 0 7 (dk_at dksX2_judge_0 6 rfl rfl)
theorem dX2_judge_9 : decode cX2_judge 9 = .ok (.iconst 1, 1) := dk_4 (dk_at dksX2_judge_0 9 rfl rfl)
theorem dX2_judge_10 : decode cX2_judge 10 = .ok (.goto 4, 3) := dk_167 0 4 (dk_at dksX2_judge_0 10 rfl rfl)
theorem dX2_judge_13 : decode cX2_judge 13 = .ok (.iconst 0, 1) := dk_3 (dk_at dksX2_judge_0 13 rfl rfl)
theorem dX2_judge_14 : decode cX2_judge 14 = .ok (.putfield 81, 3) := dk_181 0 81 (dk_at dksX2_judge_0 14 rfl rfl)
theorem dX2_judge_17 : decode cX2_judge 17 = .ok (.aload_n 0, 1) := dk_42 (dk_at dksX2_judge_0 17 rfl rfl)
theorem dX2_judge_18 : decode cX2_judge 18 = .ok (.getfield 81, 3) := dk_180 0 81 (dk_at dksX2_judge_0 18 rfl rfl)
theorem dX2_judge_21 : decode cX2_judge 21 = .ok (.ifCond .le 5, 3) := dk_158 0 5 (dk_at dksX2_judge_0 21 rfl rfl)
theorem dX2_judge_24 : decode cX2_judge 24 = .ok (.iconst 0, 1) := dk_3 (dk_at dksX2_judge_1 0 rfl rfl)
theorem dX2_judge_25 : decode cX2_judge 25 = .ok (.ireturn, 1) := dk_172 (dk_at dksX2_judge_1 1 rfl rfl)
theorem dX2_judge_26 : decode cX2_judge 26 = .ok (.aload_n 0, 1) := dk_42 (dk_at dksX2_judge_1 2 rfl rfl)
theorem dX2_judge_27 : decode cX2_judge 27 = .ok (.invokevirtual 149, 3) := dk_182 0 149 (dk_at dksX2_judge_1 3 rfl rfl)
theorem dX2_judge_30 : decode cX2_judge 30 = .ok (.istore_n 1, 1) := dk_60 (dk_at dksX2_judge_1 6 rfl rfl)
theorem dX2_judge_31 : decode cX2_judge 31 = .ok (.aload_n 0, 1) := dk_42 (dk_at dksX2_judge_1 7 rfl rfl)
theorem dX2_judge_32 : decode cX2_judge 32 = .ok (.iconst 0, 1) := dk_3 (dk_at dksX2_judge_1 8 rfl rfl)
theorem dX2_judge_33 : decode cX2_judge 33 = .ok (.putfield 111, 3) := dk_181 0 111 (dk_at dksX2_judge_1 9 rfl rfl)
theorem dX2_judge_36 : decode cX2_judge 36 = .ok (.aload_n 0, 1) := dk_42 (dk_at dksX2_judge_1 12 rfl rfl)
theorem dX2_judge_37 : decode cX2_judge 37 = .ok (.iload_n 1, 1) := dk_27 (dk_at dksX2_judge_1 13 rfl rfl)
theorem dX2_judge_38 : decode cX2_judge 38 = .ok (.ifCond .le 7, 3) := dk_158 0 7 (dk_at dksX2_judge_1 14 rfl rfl)
theorem dX2_judge_41 : decode cX2_judge 41 = .ok (.iconst 0, 1) := dk_3 (dk_at dksX2_judge_1 17 rfl rfl)
theorem dX2_judge_42 : decode cX2_judge 42 = .ok (.goto 7, 3) := dk_167 0 7 (dk_at dksX2_judge_1 18 rfl rfl)
theorem dX2_judge_45 : decode cX2_judge 45 = .ok (.aload_n 0, 1) := dk_42 (dk_at dksX2_judge_1 21 rfl rfl)
theorem dX2_judge_46 : decode cX2_judge 46 = .ok (.getfield 108, 3) := dk_180 0 108 (dk_at dksX2_judge_2 0 rfl rfl)
theorem dX2_judge_49 : decode cX2_judge 49 = .ok (.putfield 108, 3) := dk_181 0 108 (dk_at dksX2_judge_2 3 rfl rfl)
theorem dX2_judge_52 : decode cX2_judge 52 = .ok (.aload_n 0, 1) := dk_42 (dk_at dksX2_judge_2 6 rfl rfl)
theorem dX2_judge_53 : decode cX2_judge 53 = .ok (.iload_n 1, 1) := dk_27 (dk_at dksX2_judge_2 7 rfl rfl)
theorem dX2_judge_54 : decode cX2_judge 54 = .ok (.invokevirtual 152, 3) := dk_182 0 152 (dk_at dksX2_judge_2 8 rfl rfl)
theorem dX2_judge_57 : decode cX2_judge 57 = .ok (.iload_n 1, 1) := dk_27 (dk_at dksX2_judge_2 11 rfl rfl)
theorem dX2_judge_58 : decode cX2_judge 58 = .ok (.ireturn, 1) := dk_172 (dk_at dksX2_judge_2 12 rfl rfl)
abbrev cX2_given : ByteArray := prog_13_method_21_code
def yX2_given : MethodName := ⟨RX2, "given", "()I"⟩
def dkwX2_given_12 : List UInt8 := [21, 4, 120, 167, 0, 4, 3, 172]
abbrev dktX2_given_12 : List UInt8 := dkwX2_given_12 ++ []
def dkwX2_given_11 : List UInt8 := [154, 0, 8, 16, 6, 167, 0, 4, 5, 181, 0, 9, 42, 180, 0, 63, 21, 5, 46, 154, 0, 10, 4]
abbrev dktX2_given_11 : List UInt8 := dkwX2_given_11 ++ dktX2_given_12
def dkwX2_given_10 : List UInt8 := [161, 0, 15, 42, 8, 181, 0, 9, 4, 4, 21, 4, 100, 120, 172, 42, 42, 180, 0, 63, 21, 5, 46]
abbrev dktX2_given_10 : List UInt8 := dkwX2_given_10 ++ dktX2_given_11
def dkwX2_given_9 : List UInt8 := [21, 6, 46, 154, 0, 36, 42, 180, 0, 57, 21, 5, 46, 42, 180, 0, 57, 21, 6, 46, 100, 17, 0, 150]
abbrev dktX2_given_9 : List UInt8 := dkwX2_given_9 ++ dktX2_given_10
def dkwX2_given_8 : List UInt8 := [27, 167, 0, 4, 28, 54, 5, 21, 4, 154, 0, 7, 28, 167, 0, 4, 27, 54, 6, 42, 180, 0, 63]
abbrev dktX2_given_8 : List UInt8 := dkwX2_given_8 ++ dktX2_given_9
def dkwX2_given_7 : List UInt8 := [28, 182, 0, 146, 54, 4, 21, 4, 2, 160, 0, 10, 42, 7, 181, 0, 9, 3, 172, 21, 4, 154, 0, 7]
abbrev dktX2_given_7 : List UInt8 := dkwX2_given_7 ++ dktX2_given_8
def dkwX2_given_6 : List UInt8 := [180, 0, 26, 29, 46, 161, 0, 7, 3, 167, 0, 4, 6, 172, 42, 27, 28, 164, 0, 7, 27, 167, 0, 4]
abbrev dktX2_given_6 : List UInt8 := dkwX2_given_6 ++ dktX2_given_7
def dkwX2_given_5 : List UInt8 := [42, 180, 0, 26, 29, 46, 161, 0, 28, 42, 180, 0, 20, 5, 29, 104, 4, 96, 46, 4, 96, 42]
abbrev dktX2_given_5 : List UInt8 := dkwX2_given_5 ++ dktX2_given_6
def dkwX2_given_4 : List UInt8 := [180, 0, 23, 29, 46, 4, 160, 0, 54, 42, 6, 181, 0, 9, 42, 180, 0, 20, 5, 29, 104, 46, 4, 96]
abbrev dktX2_given_4 : List UInt8 := dkwX2_given_4 ++ dktX2_given_5
def dkwX2_given_3 : List UInt8 := [29, 46, 154, 0, 14, 4, 42, 180, 0, 51, 29, 46, 120, 167, 0, 4, 3, 172, 42, 180, 0, 13, 62, 42]
abbrev dktX2_given_3 : List UInt8 := dkwX2_given_3 ++ dktX2_given_4
def dkwX2_given_2 : List UInt8 := [27, 62, 42, 42, 180, 0, 63, 29, 46, 154, 0, 7, 4, 167, 0, 4, 5, 181, 0, 9, 42, 180, 0, 63]
abbrev dktX2_given_2 : List UInt8 := dkwX2_given_2 ++ dktX2_given_3
def dkwX2_given_1 : List UInt8 := [181, 0, 9, 3, 172, 27, 2, 159, 0, 8, 28, 2, 160, 0, 54, 27, 2, 160, 0, 7, 28, 167, 0, 4]
abbrev dktX2_given_1 : List UInt8 := dkwX2_given_1 ++ dktX2_given_2
def dkwX2_given_0 : List UInt8 := [42, 3, 182, 0, 143, 60, 42, 4, 182, 0, 143, 61, 27, 2, 160, 0, 15, 28, 2, 160, 0, 10, 42, 3]
abbrev dktX2_given_0 : List UInt8 := dkwX2_given_0 ++ dktX2_given_1
theorem dksX2_given_0 : cX2_given.data.toList.drop 0 = dktX2_given_0 := by decide +kernel
theorem dksX2_given_1 : cX2_given.data.toList.drop 24 = dktX2_given_1 := dk_seg dksX2_given_0 24 rfl rfl
theorem dksX2_given_2 : cX2_given.data.toList.drop 48 = dktX2_given_2 := dk_seg dksX2_given_1 24 rfl rfl
theorem dksX2_given_3 : cX2_given.data.toList.drop 72 = dktX2_given_3 := dk_seg dksX2_given_2 24 rfl rfl
theorem dksX2_given_4 : cX2_given.data.toList.drop 96 = dktX2_given_4 := dk_seg dksX2_given_3 24 rfl rfl
theorem dksX2_given_5 : cX2_given.data.toList.drop 120 = dktX2_given_5 := dk_seg dksX2_given_4 24 rfl rfl
theorem dksX2_given_6 : cX2_given.data.toList.drop 142 = dktX2_given_6 := dk_seg dksX2_given_5 22 rfl rfl
theorem dksX2_given_7 : cX2_given.data.toList.drop 166 = dktX2_given_7 := dk_seg dksX2_given_6 24 rfl rfl
theorem dksX2_given_8 : cX2_given.data.toList.drop 190 = dktX2_given_8 := dk_seg dksX2_given_7 24 rfl rfl
theorem dksX2_given_9 : cX2_given.data.toList.drop 213 = dktX2_given_9 := dk_seg dksX2_given_8 23 rfl rfl
theorem dksX2_given_10 : cX2_given.data.toList.drop 237 = dktX2_given_10 := dk_seg dksX2_given_9 24 rfl rfl
theorem dksX2_given_11 : cX2_given.data.toList.drop 260 = dktX2_given_11 := dk_seg dksX2_given_10 23 rfl rfl
theorem dksX2_given_12 : cX2_given.data.toList.drop 283 = dktX2_given_12 := dk_seg dksX2_given_11 23 rfl rfl
theorem dX2_given_0 : decode cX2_given 0 = .ok (.aload_n 0, 1) := dk_42 (dk_at dksX2_given_0 0 rfl rfl)
theorem dX2_given_1 : decode cX2_given 1 = .ok (.iconst 0, 1) := dk_3 (dk_at dksX2_given_0 1 rfl rfl)
theorem dX2_given_2 : decode cX2_given 2 = .ok (.invokevirtual 143, 3) := dk_182 0 143 (dk_at dksX2_given_0 2 rfl rfl)
theorem dX2_given_5 : decode cX2_given 5 = .ok (.istore_n 1, 1) := dk_60 (dk_at dksX2_given_0 5 rfl rfl)
theorem dX2_given_6 : decode cX2_given 6 = .ok (.aload_n 0, 1) := dk_42 (dk_at dksX2_given_0 6 rfl rfl)
theorem dX2_given_7 : decode cX2_given 7 = .ok (.iconst 1, 1) := dk_4 (dk_at dksX2_given_0 7 rfl rfl)
theorem dX2_given_8 : decode cX2_given 8 = .ok (.invokevirtual 143, 3) := dk_182 0 143 (dk_at dksX2_given_0 8 rfl rfl)
theorem dX2_given_11 : decode cX2_given 11 = .ok (.istore_n 2, 1) := dk_61 (dk_at dksX2_given_0 11 rfl rfl)
theorem dX2_given_12 : decode cX2_given 12 = .ok (.iload_n 1, 1) := dk_27 (dk_at dksX2_given_0 12 rfl rfl)
theorem dX2_given_13 : decode cX2_given 13 = .ok (.iconst (-1), 1) := dk_2 (dk_at dksX2_given_0 13 rfl rfl)
theorem dX2_given_14 : decode cX2_given 14 = .ok (.if_icmp .ne 15, 3) := dk_160 0 15 (dk_at dksX2_given_0 14 rfl rfl)
theorem dX2_given_17 : decode cX2_given 17 = .ok (.iload_n 2, 1) := dk_28 (dk_at dksX2_given_0 17 rfl rfl)
theorem dX2_given_18 : decode cX2_given 18 = .ok (.iconst (-1), 1) := dk_2 (dk_at dksX2_given_0 18 rfl rfl)
theorem dX2_given_19 : decode cX2_given 19 = .ok (.if_icmp .ne 10, 3) := dk_160 0 10 (dk_at dksX2_given_0 19 rfl rfl)
theorem dX2_given_22 : decode cX2_given 22 = .ok (.aload_n 0, 1) := dk_42 (dk_at dksX2_given_0 22 rfl rfl)
theorem dX2_given_23 : decode cX2_given 23 = .ok (.iconst 0, 1) := dk_3 (dk_at dksX2_given_0 23 rfl rfl)
theorem dX2_given_24 : decode cX2_given 24 = .ok (.putfield 9, 3) := dk_181 0 9 (dk_at dksX2_given_1 0 rfl rfl)
theorem dX2_given_27 : decode cX2_given 27 = .ok (.iconst 0, 1) := dk_3 (dk_at dksX2_given_1 3 rfl rfl)
theorem dX2_given_28 : decode cX2_given 28 = .ok (.ireturn, 1) := dk_172 (dk_at dksX2_given_1 4 rfl rfl)
theorem dX2_given_29 : decode cX2_given 29 = .ok (.iload_n 1, 1) := dk_27 (dk_at dksX2_given_1 5 rfl rfl)
theorem dX2_given_30 : decode cX2_given 30 = .ok (.iconst (-1), 1) := dk_2 (dk_at dksX2_given_1 6 rfl rfl)
theorem dX2_given_31 : decode cX2_given 31 = .ok (.if_icmp .eq 8, 3) := dk_159 0 8 (dk_at dksX2_given_1 7 rfl rfl)
theorem dX2_given_34 : decode cX2_given 34 = .ok (.iload_n 2, 1) := dk_28 (dk_at dksX2_given_1 10 rfl rfl)
theorem dX2_given_35 : decode cX2_given 35 = .ok (.iconst (-1), 1) := dk_2 (dk_at dksX2_given_1 11 rfl rfl)
theorem dX2_given_36 : decode cX2_given 36 = .ok (.if_icmp .ne 54, 3) := dk_160 0 54 (dk_at dksX2_given_1 12 rfl rfl)
theorem dX2_given_39 : decode cX2_given 39 = .ok (.iload_n 1, 1) := dk_27 (dk_at dksX2_given_1 15 rfl rfl)
theorem dX2_given_40 : decode cX2_given 40 = .ok (.iconst (-1), 1) := dk_2 (dk_at dksX2_given_1 16 rfl rfl)
theorem dX2_given_41 : decode cX2_given 41 = .ok (.if_icmp .ne 7, 3) := dk_160 0 7 (dk_at dksX2_given_1 17 rfl rfl)
theorem dX2_given_44 : decode cX2_given 44 = .ok (.iload_n 2, 1) := dk_28 (dk_at dksX2_given_1 20 rfl rfl)
theorem dX2_given_45 : decode cX2_given 45 = .ok (.goto 4, 3) := dk_167 0 4 (dk_at dksX2_given_1 21 rfl rfl)
theorem dX2_given_48 : decode cX2_given 48 = .ok (.iload_n 1, 1) := dk_27 (dk_at dksX2_given_2 0 rfl rfl)
theorem dX2_given_49 : decode cX2_given 49 = .ok (.istore_n 3, 1) := dk_62 (dk_at dksX2_given_2 1 rfl rfl)
theorem dX2_given_50 : decode cX2_given 50 = .ok (.aload_n 0, 1) := dk_42 (dk_at dksX2_given_2 2 rfl rfl)
theorem dX2_given_51 : decode cX2_given 51 = .ok (.aload_n 0, 1) := dk_42 (dk_at dksX2_given_2 3 rfl rfl)
theorem dX2_given_52 : decode cX2_given 52 = .ok (.getfield 63, 3) := dk_180 0 63 (dk_at dksX2_given_2 4 rfl rfl)
theorem dX2_given_55 : decode cX2_given 55 = .ok (.iload_n 3, 1) := dk_29 (dk_at dksX2_given_2 7 rfl rfl)
theorem dX2_given_56 : decode cX2_given 56 = .ok (.iaload, 1) := dk_46 (dk_at dksX2_given_2 8 rfl rfl)
theorem dX2_given_57 : decode cX2_given 57 = .ok (.ifCond .ne 7, 3) := dk_154 0 7 (dk_at dksX2_given_2 9 rfl rfl)
theorem dX2_given_60 : decode cX2_given 60 = .ok (.iconst 1, 1) := dk_4 (dk_at dksX2_given_2 12 rfl rfl)
theorem dX2_given_61 : decode cX2_given 61 = .ok (.goto 4, 3) := dk_167 0 4 (dk_at dksX2_given_2 13 rfl rfl)
theorem dX2_given_64 : decode cX2_given 64 = .ok (.iconst 2, 1) := dk_5 (dk_at dksX2_given_2 16 rfl rfl)
theorem dX2_given_65 : decode cX2_given 65 = .ok (.putfield 9, 3) := dk_181 0 9 (dk_at dksX2_given_2 17 rfl rfl)
theorem dX2_given_68 : decode cX2_given 68 = .ok (.aload_n 0, 1) := dk_42 (dk_at dksX2_given_2 20 rfl rfl)
theorem dX2_given_69 : decode cX2_given 69 = .ok (.getfield 63, 3) := dk_180 0 63 (dk_at dksX2_given_2 21 rfl rfl)
theorem dX2_given_72 : decode cX2_given 72 = .ok (.iload_n 3, 1) := dk_29 (dk_at dksX2_given_3 0 rfl rfl)
theorem dX2_given_73 : decode cX2_given 73 = .ok (.iaload, 1) := dk_46 (dk_at dksX2_given_3 1 rfl rfl)
theorem dX2_given_74 : decode cX2_given 74 = .ok (.ifCond .ne 14, 3) := dk_154 0 14 (dk_at dksX2_given_3 2 rfl rfl)
theorem dX2_given_77 : decode cX2_given 77 = .ok (.iconst 1, 1) := dk_4 (dk_at dksX2_given_3 5 rfl rfl)
theorem dX2_given_78 : decode cX2_given 78 = .ok (.aload_n 0, 1) := dk_42 (dk_at dksX2_given_3 6 rfl rfl)
theorem dX2_given_79 : decode cX2_given 79 = .ok (.getfield 51, 3) := dk_180 0 51 (dk_at dksX2_given_3 7 rfl rfl)
theorem dX2_given_82 : decode cX2_given 82 = .ok (.iload_n 3, 1) := dk_29 (dk_at dksX2_given_3 10 rfl rfl)
theorem dX2_given_83 : decode cX2_given 83 = .ok (.iaload, 1) := dk_46 (dk_at dksX2_given_3 11 rfl rfl)
theorem dX2_given_84 : decode cX2_given 84 = .ok (.ishl, 1) := dk_120 (dk_at dksX2_given_3 12 rfl rfl)
theorem dX2_given_85 : decode cX2_given 85 = .ok (.goto 4, 3) := dk_167 0 4 (dk_at dksX2_given_3 13 rfl rfl)
theorem dX2_given_88 : decode cX2_given 88 = .ok (.iconst 0, 1) := dk_3 (dk_at dksX2_given_3 16 rfl rfl)
theorem dX2_given_89 : decode cX2_given 89 = .ok (.ireturn, 1) := dk_172 (dk_at dksX2_given_3 17 rfl rfl)
theorem dX2_given_90 : decode cX2_given 90 = .ok (.aload_n 0, 1) := dk_42 (dk_at dksX2_given_3 18 rfl rfl)
theorem dX2_given_91 : decode cX2_given 91 = .ok (.getfield 13, 3) := dk_180 0 13 (dk_at dksX2_given_3 19 rfl rfl)
theorem dX2_given_94 : decode cX2_given 94 = .ok (.istore_n 3, 1) := dk_62 (dk_at dksX2_given_3 22 rfl rfl)
theorem dX2_given_95 : decode cX2_given 95 = .ok (.aload_n 0, 1) := dk_42 (dk_at dksX2_given_3 23 rfl rfl)
theorem dX2_given_96 : decode cX2_given 96 = .ok (.getfield 23, 3) := dk_180 0 23 (dk_at dksX2_given_4 0 rfl rfl)
theorem dX2_given_99 : decode cX2_given 99 = .ok (.iload_n 3, 1) := dk_29 (dk_at dksX2_given_4 3 rfl rfl)
theorem dX2_given_100 : decode cX2_given 100 = .ok (.iaload, 1) := dk_46 (dk_at dksX2_given_4 4 rfl rfl)
theorem dX2_given_101 : decode cX2_given 101 = .ok (.iconst 1, 1) := dk_4 (dk_at dksX2_given_4 5 rfl rfl)
theorem dX2_given_102 : decode cX2_given 102 = .ok (.if_icmp .ne 54, 3) := dk_160 0 54 (dk_at dksX2_given_4 6 rfl rfl)
theorem dX2_given_105 : decode cX2_given 105 = .ok (.aload_n 0, 1) := dk_42 (dk_at dksX2_given_4 9 rfl rfl)
theorem dX2_given_106 : decode cX2_given 106 = .ok (.iconst 3, 1) := dk_6 (dk_at dksX2_given_4 10 rfl rfl)
theorem dX2_given_107 : decode cX2_given 107 = .ok (.putfield 9, 3) := dk_181 0 9 (dk_at dksX2_given_4 11 rfl rfl)
theorem dX2_given_110 : decode cX2_given 110 = .ok (.aload_n 0, 1) := dk_42 (dk_at dksX2_given_4 14 rfl rfl)
theorem dX2_given_111 : decode cX2_given 111 = .ok (.getfield 20, 3) := dk_180 0 20 (dk_at dksX2_given_4 15 rfl rfl)
theorem dX2_given_114 : decode cX2_given 114 = .ok (.iconst 2, 1) := dk_5 (dk_at dksX2_given_4 18 rfl rfl)
theorem dX2_given_115 : decode cX2_given 115 = .ok (.iload_n 3, 1) := dk_29 (dk_at dksX2_given_4 19 rfl rfl)
theorem dX2_given_116 : decode cX2_given 116 = .ok (.imul, 1) := dk_104 (dk_at dksX2_given_4 20 rfl rfl)
theorem dX2_given_117 : decode cX2_given 117 = .ok (.iaload, 1) := dk_46 (dk_at dksX2_given_4 21 rfl rfl)
theorem dX2_given_118 : decode cX2_given 118 = .ok (.iconst 1, 1) := dk_4 (dk_at dksX2_given_4 22 rfl rfl)
theorem dX2_given_119 : decode cX2_given 119 = .ok (.iadd, 1) := dk_96 (dk_at dksX2_given_4 23 rfl rfl)
theorem dX2_given_120 : decode cX2_given 120 = .ok (.aload_n 0, 1) := dk_42 (dk_at dksX2_given_5 0 rfl rfl)
theorem dX2_given_121 : decode cX2_given 121 = .ok (.getfield 26, 3) := dk_180 0 26 (dk_at dksX2_given_5 1 rfl rfl)
theorem dX2_given_124 : decode cX2_given 124 = .ok (.iload_n 3, 1) := dk_29 (dk_at dksX2_given_5 4 rfl rfl)
theorem dX2_given_125 : decode cX2_given 125 = .ok (.iaload, 1) := dk_46 (dk_at dksX2_given_5 5 rfl rfl)
theorem dX2_given_126 : decode cX2_given 126 = .ok (.if_icmp .lt 28, 3) := dk_161 0 28 (dk_at dksX2_given_5 6 rfl rfl)
theorem dX2_given_129 : decode cX2_given 129 = .ok (.aload_n 0, 1) := dk_42 (dk_at dksX2_given_5 9 rfl rfl)
theorem dX2_given_130 : decode cX2_given 130 = .ok (.getfield 20, 3) := dk_180 0 20 (dk_at dksX2_given_5 10 rfl rfl)
theorem dX2_given_133 : decode cX2_given 133 = .ok (.iconst 2, 1) := dk_5 (dk_at dksX2_given_5 13 rfl rfl)
theorem dX2_given_134 : decode cX2_given 134 = .ok (.iload_n 3, 1) := dk_29 (dk_at dksX2_given_5 14 rfl rfl)
theorem dX2_given_135 : decode cX2_given 135 = .ok (.imul, 1) := dk_104 (dk_at dksX2_given_5 15 rfl rfl)
theorem dX2_given_136 : decode cX2_given 136 = .ok (.iconst 1, 1) := dk_4 (dk_at dksX2_given_5 16 rfl rfl)
theorem dX2_given_137 : decode cX2_given 137 = .ok (.iadd, 1) := dk_96 (dk_at dksX2_given_5 17 rfl rfl)
theorem dX2_given_138 : decode cX2_given 138 = .ok (.iaload, 1) := dk_46 (dk_at dksX2_given_5 18 rfl rfl)
theorem dX2_given_139 : decode cX2_given 139 = .ok (.iconst 1, 1) := dk_4 (dk_at dksX2_given_5 19 rfl rfl)
theorem dX2_given_140 : decode cX2_given 140 = .ok (.iadd, 1) := dk_96 (dk_at dksX2_given_5 20 rfl rfl)
theorem dX2_given_141 : decode cX2_given 141 = .ok (.aload_n 0, 1) := dk_42 (dk_at dksX2_given_5 21 rfl rfl)
theorem dX2_given_142 : decode cX2_given 142 = .ok (.getfield 26, 3) := dk_180 0 26 (dk_at dksX2_given_6 0 rfl rfl)
theorem dX2_given_145 : decode cX2_given 145 = .ok (.iload_n 3, 1) := dk_29 (dk_at dksX2_given_6 3 rfl rfl)
theorem dX2_given_146 : decode cX2_given 146 = .ok (.iaload, 1) := dk_46 (dk_at dksX2_given_6 4 rfl rfl)
theorem dX2_given_147 : decode cX2_given 147 = .ok (.if_icmp .lt 7, 3) := dk_161 0 7 (dk_at dksX2_given_6 5 rfl rfl)
theorem dX2_given_150 : decode cX2_given 150 = .ok (.iconst 0, 1) := dk_3 (dk_at dksX2_given_6 8 rfl rfl)
theorem dX2_given_151 : decode cX2_given 151 = .ok (.goto 4, 3) := dk_167 0 4 (dk_at dksX2_given_6 9 rfl rfl)
theorem dX2_given_154 : decode cX2_given 154 = .ok (.iconst 3, 1) := dk_6 (dk_at dksX2_given_6 12 rfl rfl)
theorem dX2_given_155 : decode cX2_given 155 = .ok (.ireturn, 1) := dk_172 (dk_at dksX2_given_6 13 rfl rfl)
theorem dX2_given_156 : decode cX2_given 156 = .ok (.aload_n 0, 1) := dk_42 (dk_at dksX2_given_6 14 rfl rfl)
theorem dX2_given_157 : decode cX2_given 157 = .ok (.iload_n 1, 1) := dk_27 (dk_at dksX2_given_6 15 rfl rfl)
theorem dX2_given_158 : decode cX2_given 158 = .ok (.iload_n 2, 1) := dk_28 (dk_at dksX2_given_6 16 rfl rfl)
theorem dX2_given_159 : decode cX2_given 159 = .ok (.if_icmp .le 7, 3) := dk_164 0 7 (dk_at dksX2_given_6 17 rfl rfl)
theorem dX2_given_162 : decode cX2_given 162 = .ok (.iload_n 1, 1) := dk_27 (dk_at dksX2_given_6 20 rfl rfl)
theorem dX2_given_163 : decode cX2_given 163 = .ok (.goto 4, 3) := dk_167 0 4 (dk_at dksX2_given_6 21 rfl rfl)
theorem dX2_given_166 : decode cX2_given 166 = .ok (.iload_n 2, 1) := dk_28 (dk_at dksX2_given_7 0 rfl rfl)
theorem dX2_given_167 : decode cX2_given 167 = .ok (.invokevirtual 146, 3) := dk_182 0 146 (dk_at dksX2_given_7 1 rfl rfl)
theorem dX2_given_170 : decode cX2_given 170 = .ok (.istore 4, 2) := dk_54 4 (dk_at dksX2_given_7 4 rfl rfl)
theorem dX2_given_172 : decode cX2_given 172 = .ok (.iload 4, 2) := dk_21 4 (dk_at dksX2_given_7 6 rfl rfl)
theorem dX2_given_174 : decode cX2_given 174 = .ok (.iconst (-1), 1) := dk_2 (dk_at dksX2_given_7 8 rfl rfl)
theorem dX2_given_175 : decode cX2_given 175 = .ok (.if_icmp .ne 10, 3) := dk_160 0 10 (dk_at dksX2_given_7 9 rfl rfl)
theorem dX2_given_178 : decode cX2_given 178 = .ok (.aload_n 0, 1) := dk_42 (dk_at dksX2_given_7 12 rfl rfl)
theorem dX2_given_179 : decode cX2_given 179 = .ok (.iconst 4, 1) := dk_7 (dk_at dksX2_given_7 13 rfl rfl)
theorem dX2_given_180 : decode cX2_given 180 = .ok (.putfield 9, 3) := dk_181 0 9 (dk_at dksX2_given_7 14 rfl rfl)
theorem dX2_given_183 : decode cX2_given 183 = .ok (.iconst 0, 1) := dk_3 (dk_at dksX2_given_7 17 rfl rfl)
theorem dX2_given_184 : decode cX2_given 184 = .ok (.ireturn, 1) := dk_172 (dk_at dksX2_given_7 18 rfl rfl)
theorem dX2_given_185 : decode cX2_given 185 = .ok (.iload 4, 2) := dk_21 4 (dk_at dksX2_given_7 19 rfl rfl)
theorem dX2_given_187 : decode cX2_given 187 = .ok (.ifCond .ne 7, 3) := dk_154 0 7 (dk_at dksX2_given_7 21 rfl rfl)
theorem dX2_given_190 : decode cX2_given 190 = .ok (.iload_n 1, 1) := dk_27 (dk_at dksX2_given_8 0 rfl rfl)
theorem dX2_given_191 : decode cX2_given 191 = .ok (.goto 4, 3) := dk_167 0 4 (dk_at dksX2_given_8 1 rfl rfl)
theorem dX2_given_194 : decode cX2_given 194 = .ok (.iload_n 2, 1) := dk_28 (dk_at dksX2_given_8 4 rfl rfl)
theorem dX2_given_195 : decode cX2_given 195 = .ok (.istore 5, 2) := dk_54 5 (dk_at dksX2_given_8 5 rfl rfl)
theorem dX2_given_197 : decode cX2_given 197 = .ok (.iload 4, 2) := dk_21 4 (dk_at dksX2_given_8 7 rfl rfl)
theorem dX2_given_199 : decode cX2_given 199 = .ok (.ifCond .ne 7, 3) := dk_154 0 7 (dk_at dksX2_given_8 9 rfl rfl)
theorem dX2_given_202 : decode cX2_given 202 = .ok (.iload_n 2, 1) := dk_28 (dk_at dksX2_given_8 12 rfl rfl)
theorem dX2_given_203 : decode cX2_given 203 = .ok (.goto 4, 3) := dk_167 0 4 (dk_at dksX2_given_8 13 rfl rfl)
theorem dX2_given_206 : decode cX2_given 206 = .ok (.iload_n 1, 1) := dk_27 (dk_at dksX2_given_8 16 rfl rfl)
theorem dX2_given_207 : decode cX2_given 207 = .ok (.istore 6, 2) := dk_54 6 (dk_at dksX2_given_8 17 rfl rfl)
theorem dX2_given_209 : decode cX2_given 209 = .ok (.aload_n 0, 1) := dk_42 (dk_at dksX2_given_8 19 rfl rfl)
theorem dX2_given_210 : decode cX2_given 210 = .ok (.getfield 63, 3) := dk_180 0 63 (dk_at dksX2_given_8 20 rfl rfl)
theorem dX2_given_213 : decode cX2_given 213 = .ok (.iload 6, 2) := dk_21 6 (dk_at dksX2_given_9 0 rfl rfl)
theorem dX2_given_215 : decode cX2_given 215 = .ok (.iaload, 1) := dk_46 (dk_at dksX2_given_9 2 rfl rfl)
theorem dX2_given_216 : decode cX2_given 216 = .ok (.ifCond .ne 36, 3) := dk_154 0 36 (dk_at dksX2_given_9 3 rfl rfl)
theorem dX2_given_219 : decode cX2_given 219 = .ok (.aload_n 0, 1) := dk_42 (dk_at dksX2_given_9 6 rfl rfl)
theorem dX2_given_220 : decode cX2_given 220 = .ok (.getfield 57, 3) := dk_180 0 57 (dk_at dksX2_given_9 7 rfl rfl)
theorem dX2_given_223 : decode cX2_given 223 = .ok (.iload 5, 2) := dk_21 5 (dk_at dksX2_given_9 10 rfl rfl)
theorem dX2_given_225 : decode cX2_given 225 = .ok (.iaload, 1) := dk_46 (dk_at dksX2_given_9 12 rfl rfl)
theorem dX2_given_226 : decode cX2_given 226 = .ok (.aload_n 0, 1) := dk_42 (dk_at dksX2_given_9 13 rfl rfl)
theorem dX2_given_227 : decode cX2_given 227 = .ok (.getfield 57, 3) := dk_180 0 57 (dk_at dksX2_given_9 14 rfl rfl)
theorem dX2_given_230 : decode cX2_given 230 = .ok (.iload 6, 2) := dk_21 6 (dk_at dksX2_given_9 17 rfl rfl)
theorem dX2_given_232 : decode cX2_given 232 = .ok (.iaload, 1) := dk_46 (dk_at dksX2_given_9 19 rfl rfl)
theorem dX2_given_233 : decode cX2_given 233 = .ok (.isub, 1) := dk_100 (dk_at dksX2_given_9 20 rfl rfl)
theorem dX2_given_234 : decode cX2_given 234 = .ok (.sipush 150, 3) := dk_17 0 150 (dk_at dksX2_given_9 21 rfl rfl)
theorem dX2_given_237 : decode cX2_given 237 = .ok (.if_icmp .lt 15, 3) := dk_161 0 15 (dk_at dksX2_given_10 0 rfl rfl)
theorem dX2_given_240 : decode cX2_given 240 = .ok (.aload_n 0, 1) := dk_42 (dk_at dksX2_given_10 3 rfl rfl)
theorem dX2_given_241 : decode cX2_given 241 = .ok (.iconst 5, 1) := dk_8 (dk_at dksX2_given_10 4 rfl rfl)
theorem dX2_given_242 : decode cX2_given 242 = .ok (.putfield 9, 3) := dk_181 0 9 (dk_at dksX2_given_10 5 rfl rfl)
theorem dX2_given_245 : decode cX2_given 245 = .ok (.iconst 1, 1) := dk_4 (dk_at dksX2_given_10 8 rfl rfl)
theorem dX2_given_246 : decode cX2_given 246 = .ok (.iconst 1, 1) := dk_4 (dk_at dksX2_given_10 9 rfl rfl)
theorem dX2_given_247 : decode cX2_given 247 = .ok (.iload 4, 2) := dk_21 4 (dk_at dksX2_given_10 10 rfl rfl)
theorem dX2_given_249 : decode cX2_given 249 = .ok (.isub, 1) := dk_100 (dk_at dksX2_given_10 12 rfl rfl)
theorem dX2_given_250 : decode cX2_given 250 = .ok (.ishl, 1) := dk_120 (dk_at dksX2_given_10 13 rfl rfl)
theorem dX2_given_251 : decode cX2_given 251 = .ok (.ireturn, 1) := dk_172 (dk_at dksX2_given_10 14 rfl rfl)
theorem dX2_given_252 : decode cX2_given 252 = .ok (.aload_n 0, 1) := dk_42 (dk_at dksX2_given_10 15 rfl rfl)
theorem dX2_given_253 : decode cX2_given 253 = .ok (.aload_n 0, 1) := dk_42 (dk_at dksX2_given_10 16 rfl rfl)
theorem dX2_given_254 : decode cX2_given 254 = .ok (.getfield 63, 3) := dk_180 0 63 (dk_at dksX2_given_10 17 rfl rfl)
theorem dX2_given_257 : decode cX2_given 257 = .ok (.iload 5, 2) := dk_21 5 (dk_at dksX2_given_10 20 rfl rfl)
theorem dX2_given_259 : decode cX2_given 259 = .ok (.iaload, 1) := dk_46 (dk_at dksX2_given_10 22 rfl rfl)
theorem dX2_given_260 : decode cX2_given 260 = .ok (.ifCond .ne 8, 3) := dk_154 0 8 (dk_at dksX2_given_11 0 rfl rfl)
theorem dX2_given_263 : decode cX2_given 263 = .ok (.bipush 6, 2) := dk_16 6 (dk_at dksX2_given_11 3 rfl rfl)
theorem dX2_given_265 : decode cX2_given 265 = .ok (.goto 4, 3) := dk_167 0 4 (dk_at dksX2_given_11 5 rfl rfl)
theorem dX2_given_268 : decode cX2_given 268 = .ok (.iconst 2, 1) := dk_5 (dk_at dksX2_given_11 8 rfl rfl)
theorem dX2_given_269 : decode cX2_given 269 = .ok (.putfield 9, 3) := dk_181 0 9 (dk_at dksX2_given_11 9 rfl rfl)
theorem dX2_given_272 : decode cX2_given 272 = .ok (.aload_n 0, 1) := dk_42 (dk_at dksX2_given_11 12 rfl rfl)
theorem dX2_given_273 : decode cX2_given 273 = .ok (.getfield 63, 3) := dk_180 0 63 (dk_at dksX2_given_11 13 rfl rfl)
theorem dX2_given_276 : decode cX2_given 276 = .ok (.iload 5, 2) := dk_21 5 (dk_at dksX2_given_11 16 rfl rfl)
theorem dX2_given_278 : decode cX2_given 278 = .ok (.iaload, 1) := dk_46 (dk_at dksX2_given_11 18 rfl rfl)
theorem dX2_given_279 : decode cX2_given 279 = .ok (.ifCond .ne 10, 3) := dk_154 0 10 (dk_at dksX2_given_11 19 rfl rfl)
theorem dX2_given_282 : decode cX2_given 282 = .ok (.iconst 1, 1) := dk_4 (dk_at dksX2_given_11 22 rfl rfl)
theorem dX2_given_283 : decode cX2_given 283 = .ok (.iload 4, 2) := dk_21 4 (dk_at dksX2_given_12 0 rfl rfl)
theorem dX2_given_285 : decode cX2_given 285 = .ok (.ishl, 1) := dk_120 (dk_at dksX2_given_12 2 rfl rfl)
theorem dX2_given_286 : decode cX2_given 286 = .ok (.goto 4, 3) := dk_167 0 4 (dk_at dksX2_given_12 3 rfl rfl)
theorem dX2_given_289 : decode cX2_given 289 = .ok (.iconst 0, 1) := dk_3 (dk_at dksX2_given_12 6 rfl rfl)
theorem dX2_given_290 : decode cX2_given 290 = .ok (.ireturn, 1) := dk_172 (dk_at dksX2_given_12 7 rfl rfl)
abbrev cX2_registered : ByteArray := prog_13_method_16_code
def yX2_registered : MethodName := ⟨RX2, "registered", "(I)I"⟩
def dkwX2_registered_9 : List UInt8 := [21, 4, 54, 4, 132, 5, 1, 167, 255, 71, 27, 154, 0, 7, 29, 167, 0, 5, 21, 4, 172]
abbrev dktX2_registered_9 : List UInt8 := dkwX2_registered_9 ++ []
def dkwX2_registered_8 : List UInt8 := [21, 5, 167, 0, 4, 29, 62, 42, 180, 0, 51, 21, 5, 46, 4, 160, 0, 8, 21, 5, 167, 0, 5]
abbrev dktX2_registered_8 : List UInt8 := dkwX2_registered_8 ++ dktX2_registered_9
def dkwX2_registered_7 : List UInt8 := [180, 0, 57, 21, 7, 46, 100, 28, 184, 0, 129, 163, 0, 40, 42, 180, 0, 51, 21, 5, 46, 154, 0, 8]
abbrev dktX2_registered_7 : List UInt8 := dkwX2_registered_7 ++ dktX2_registered_8
def dkwX2_registered_6 : List UInt8 := [153, 0, 73, 21, 8, 153, 0, 68, 21, 7, 2, 159, 0, 25, 42, 180, 0, 57, 21, 5, 46, 42]
abbrev dktX2_registered_6 : List UInt8 := dkwX2_registered_6 ++ dktX2_registered_7
def dkwX2_registered_5 : List UInt8 := [154, 0, 7, 29, 167, 0, 5, 21, 4, 2, 160, 0, 7, 4, 167, 0, 4, 3, 54, 8, 21, 6]
abbrev dktX2_registered_5 : List UInt8 := dkwX2_registered_5 ++ dktX2_registered_6
def dkwX2_registered_4 : List UInt8 := [54, 6, 29, 2, 159, 0, 7, 29, 167, 0, 5, 21, 4, 54, 7, 42, 180, 0, 51, 21, 5, 46]
abbrev dktX2_registered_4 : List UInt8 := dkwX2_registered_4 ++ dktX2_registered_5
def dkwX2_registered_3 : List UInt8 := [153, 0, 18, 28, 154, 0, 18, 42, 180, 0, 63, 21, 5, 46, 4, 160, 0, 7, 4, 167, 0, 4, 3]
abbrev dktX2_registered_3 : List UInt8 := dkwX2_registered_3 ++ dktX2_registered_4
def dkwX2_registered_2 : List UInt8 := [160, 0, 46, 42, 180, 0, 60, 21, 5, 46, 28, 184, 0, 125, 161, 0, 32, 42, 180, 0, 63, 21, 5, 46]
abbrev dktX2_registered_2 : List UInt8 := dkwX2_registered_2 ++ dktX2_registered_3
def dkwX2_registered_1 : List UInt8 := [54, 4, 3, 54, 5, 21, 5, 42, 180, 0, 111, 162, 0, 182, 42, 180, 0, 54, 21, 5, 46, 16, 7]
abbrev dktX2_registered_1 : List UInt8 := dkwX2_registered_1 ++ dktX2_registered_2
def dkwX2_registered_0 : List UInt8 := [42, 180, 0, 13, 2, 160, 0, 5, 2, 172, 42, 180, 0, 23, 42, 180, 0, 13, 46, 61, 2, 62, 2]
abbrev dktX2_registered_0 : List UInt8 := dkwX2_registered_0 ++ dktX2_registered_1
theorem dksX2_registered_0 : cX2_registered.data.toList.drop 0 = dktX2_registered_0 := by decide +kernel
theorem dksX2_registered_1 : cX2_registered.data.toList.drop 23 = dktX2_registered_1 := dk_seg dksX2_registered_0 23 rfl rfl
theorem dksX2_registered_2 : cX2_registered.data.toList.drop 46 = dktX2_registered_2 := dk_seg dksX2_registered_1 23 rfl rfl
theorem dksX2_registered_3 : cX2_registered.data.toList.drop 70 = dktX2_registered_3 := dk_seg dksX2_registered_2 24 rfl rfl
theorem dksX2_registered_4 : cX2_registered.data.toList.drop 93 = dktX2_registered_4 := dk_seg dksX2_registered_3 23 rfl rfl
theorem dksX2_registered_5 : cX2_registered.data.toList.drop 115 = dktX2_registered_5 := dk_seg dksX2_registered_4 22 rfl rfl
theorem dksX2_registered_6 : cX2_registered.data.toList.drop 137 = dktX2_registered_6 := dk_seg dksX2_registered_5 22 rfl rfl
theorem dksX2_registered_7 : cX2_registered.data.toList.drop 159 = dktX2_registered_7 := dk_seg dksX2_registered_6 22 rfl rfl
theorem dksX2_registered_8 : cX2_registered.data.toList.drop 183 = dktX2_registered_8 := dk_seg dksX2_registered_7 24 rfl rfl
theorem dksX2_registered_9 : cX2_registered.data.toList.drop 206 = dktX2_registered_9 := dk_seg dksX2_registered_8 23 rfl rfl
theorem dX2_registered_0 : decode cX2_registered 0 = .ok (.aload_n 0, 1) := dk_42 (dk_at dksX2_registered_0 0 rfl rfl)
theorem dX2_registered_1 : decode cX2_registered 1 = .ok (.getfield 13, 3) := dk_180 0 13 (dk_at dksX2_registered_0 1 rfl rfl)
theorem dX2_registered_4 : decode cX2_registered 4 = .ok (.iconst (-1), 1) := dk_2 (dk_at dksX2_registered_0 4 rfl rfl)
theorem dX2_registered_5 : decode cX2_registered 5 = .ok (.if_icmp .ne 5, 3) := dk_160 0 5 (dk_at dksX2_registered_0 5 rfl rfl)
theorem dX2_registered_8 : decode cX2_registered 8 = .ok (.iconst (-1), 1) := dk_2 (dk_at dksX2_registered_0 8 rfl rfl)
theorem dX2_registered_9 : decode cX2_registered 9 = .ok (.ireturn, 1) := dk_172 (dk_at dksX2_registered_0 9 rfl rfl)
theorem dX2_registered_10 : decode cX2_registered 10 = .ok (.aload_n 0, 1) := dk_42 (dk_at dksX2_registered_0 10 rfl rfl)
theorem dX2_registered_11 : decode cX2_registered 11 = .ok (.getfield 23, 3) := dk_180 0 23 (dk_at dksX2_registered_0 11 rfl rfl)
theorem dX2_registered_14 : decode cX2_registered 14 = .ok (.aload_n 0, 1) := dk_42 (dk_at dksX2_registered_0 14 rfl rfl)
theorem dX2_registered_15 : decode cX2_registered 15 = .ok (.getfield 13, 3) := dk_180 0 13 (dk_at dksX2_registered_0 15 rfl rfl)
theorem dX2_registered_18 : decode cX2_registered 18 = .ok (.iaload, 1) := dk_46 (dk_at dksX2_registered_0 18 rfl rfl)
theorem dX2_registered_19 : decode cX2_registered 19 = .ok (.istore_n 2, 1) := dk_61 (dk_at dksX2_registered_0 19 rfl rfl)
theorem dX2_registered_20 : decode cX2_registered 20 = .ok (.iconst (-1), 1) := dk_2 (dk_at dksX2_registered_0 20 rfl rfl)
theorem dX2_registered_21 : decode cX2_registered 21 = .ok (.istore_n 3, 1) := dk_62 (dk_at dksX2_registered_0 21 rfl rfl)
theorem dX2_registered_22 : decode cX2_registered 22 = .ok (.iconst (-1), 1) := dk_2 (dk_at dksX2_registered_0 22 rfl rfl)
theorem dX2_registered_23 : decode cX2_registered 23 = .ok (.istore 4, 2) := dk_54 4 (dk_at dksX2_registered_1 0 rfl rfl)
theorem dX2_registered_25 : decode cX2_registered 25 = .ok (.iconst 0, 1) := dk_3 (dk_at dksX2_registered_1 2 rfl rfl)
theorem dX2_registered_26 : decode cX2_registered 26 = .ok (.istore 5, 2) := dk_54 5 (dk_at dksX2_registered_1 3 rfl rfl)
theorem dX2_registered_28 : decode cX2_registered 28 = .ok (.iload 5, 2) := dk_21 5 (dk_at dksX2_registered_1 5 rfl rfl)
theorem dX2_registered_30 : decode cX2_registered 30 = .ok (.aload_n 0, 1) := dk_42 (dk_at dksX2_registered_1 7 rfl rfl)
theorem dX2_registered_31 : decode cX2_registered 31 = .ok (.getfield 111, 3) := dk_180 0 111 (dk_at dksX2_registered_1 8 rfl rfl)
theorem dX2_registered_34 : decode cX2_registered 34 = .ok (.if_icmp .ge 182, 3) := dk_162 0 182 (dk_at dksX2_registered_1 11 rfl rfl)
theorem dX2_registered_37 : decode cX2_registered 37 = .ok (.aload_n 0, 1) := dk_42 (dk_at dksX2_registered_1 14 rfl rfl)
theorem dX2_registered_38 : decode cX2_registered 38 = .ok (.getfield 54, 3) := dk_180 0 54 (dk_at dksX2_registered_1 15 rfl rfl)
theorem dX2_registered_41 : decode cX2_registered 41 = .ok (.iload 5, 2) := dk_21 5 (dk_at dksX2_registered_1 18 rfl rfl)
theorem dX2_registered_43 : decode cX2_registered 43 = .ok (.iaload, 1) := dk_46 (dk_at dksX2_registered_1 20 rfl rfl)
theorem dX2_registered_44 : decode cX2_registered 44 = .ok (.bipush 7, 2) := dk_16 7 (dk_at dksX2_registered_1 21 rfl rfl)
theorem dX2_registered_46 : decode cX2_registered 46 = .ok (.if_icmp .ne 46, 3) := dk_160 0 46 (dk_at dksX2_registered_2 0 rfl rfl)
theorem dX2_registered_49 : decode cX2_registered 49 = .ok (.aload_n 0, 1) := dk_42 (dk_at dksX2_registered_2 3 rfl rfl)
theorem dX2_registered_50 : decode cX2_registered 50 = .ok (.getfield 60, 3) := dk_180 0 60 (dk_at dksX2_registered_2 4 rfl rfl)
theorem dX2_registered_53 : decode cX2_registered 53 = .ok (.iload 5, 2) := dk_21 5 (dk_at dksX2_registered_2 7 rfl rfl)
theorem dX2_registered_55 : decode cX2_registered 55 = .ok (.iaload, 1) := dk_46 (dk_at dksX2_registered_2 9 rfl rfl)
theorem dX2_registered_56 : decode cX2_registered 56 = .ok (.iload_n 2, 1) := dk_28 (dk_at dksX2_registered_2 10 rfl rfl)
theorem dX2_registered_57 : decode cX2_registered 57 = .ok (.invokestatic 125, 3) := dk_184 0 125 (dk_at dksX2_registered_2 11 rfl rfl)
theorem dX2_registered_60 : decode cX2_registered 60 = .ok (.if_icmp .lt 32, 3) := dk_161 0 32 (dk_at dksX2_registered_2 14 rfl rfl)
theorem dX2_registered_63 : decode cX2_registered 63 = .ok (.aload_n 0, 1) := dk_42 (dk_at dksX2_registered_2 17 rfl rfl)
theorem dX2_registered_64 : decode cX2_registered 64 = .ok (.getfield 63, 3) := dk_180 0 63 (dk_at dksX2_registered_2 18 rfl rfl)
theorem dX2_registered_67 : decode cX2_registered 67 = .ok (.iload 5, 2) := dk_21 5 (dk_at dksX2_registered_2 21 rfl rfl)
theorem dX2_registered_69 : decode cX2_registered 69 = .ok (.iaload, 1) := dk_46 (dk_at dksX2_registered_2 23 rfl rfl)
theorem dX2_registered_70 : decode cX2_registered 70 = .ok (.ifCond .eq 18, 3) := dk_153 0 18 (dk_at dksX2_registered_3 0 rfl rfl)
theorem dX2_registered_73 : decode cX2_registered 73 = .ok (.iload_n 2, 1) := dk_28 (dk_at dksX2_registered_3 3 rfl rfl)
theorem dX2_registered_74 : decode cX2_registered 74 = .ok (.ifCond .ne 18, 3) := dk_154 0 18 (dk_at dksX2_registered_3 4 rfl rfl)
theorem dX2_registered_77 : decode cX2_registered 77 = .ok (.aload_n 0, 1) := dk_42 (dk_at dksX2_registered_3 7 rfl rfl)
theorem dX2_registered_78 : decode cX2_registered 78 = .ok (.getfield 63, 3) := dk_180 0 63 (dk_at dksX2_registered_3 8 rfl rfl)
theorem dX2_registered_81 : decode cX2_registered 81 = .ok (.iload 5, 2) := dk_21 5 (dk_at dksX2_registered_3 11 rfl rfl)
theorem dX2_registered_83 : decode cX2_registered 83 = .ok (.iaload, 1) := dk_46 (dk_at dksX2_registered_3 13 rfl rfl)
theorem dX2_registered_84 : decode cX2_registered 84 = .ok (.iconst 1, 1) := dk_4 (dk_at dksX2_registered_3 14 rfl rfl)
theorem dX2_registered_85 : decode cX2_registered 85 = .ok (.if_icmp .ne 7, 3) := dk_160 0 7 (dk_at dksX2_registered_3 15 rfl rfl)
theorem dX2_registered_88 : decode cX2_registered 88 = .ok (.iconst 1, 1) := dk_4 (dk_at dksX2_registered_3 18 rfl rfl)
theorem dX2_registered_89 : decode cX2_registered 89 = .ok (.goto 4, 3) := dk_167 0 4 (dk_at dksX2_registered_3 19 rfl rfl)
theorem dX2_registered_92 : decode cX2_registered 92 = .ok (.iconst 0, 1) := dk_3 (dk_at dksX2_registered_3 22 rfl rfl)
theorem dX2_registered_93 : decode cX2_registered 93 = .ok (.istore 6, 2) := dk_54 6 (dk_at dksX2_registered_4 0 rfl rfl)
theorem dX2_registered_95 : decode cX2_registered 95 = .ok (.iload_n 3, 1) := dk_29 (dk_at dksX2_registered_4 2 rfl rfl)
theorem dX2_registered_96 : decode cX2_registered 96 = .ok (.iconst (-1), 1) := dk_2 (dk_at dksX2_registered_4 3 rfl rfl)
theorem dX2_registered_97 : decode cX2_registered 97 = .ok (.if_icmp .eq 7, 3) := dk_159 0 7 (dk_at dksX2_registered_4 4 rfl rfl)
theorem dX2_registered_100 : decode cX2_registered 100 = .ok (.iload_n 3, 1) := dk_29 (dk_at dksX2_registered_4 7 rfl rfl)
theorem dX2_registered_101 : decode cX2_registered 101 = .ok (.goto 5, 3) := dk_167 0 5 (dk_at dksX2_registered_4 8 rfl rfl)
theorem dX2_registered_104 : decode cX2_registered 104 = .ok (.iload 4, 2) := dk_21 4 (dk_at dksX2_registered_4 11 rfl rfl)
theorem dX2_registered_106 : decode cX2_registered 106 = .ok (.istore 7, 2) := dk_54 7 (dk_at dksX2_registered_4 13 rfl rfl)
theorem dX2_registered_108 : decode cX2_registered 108 = .ok (.aload_n 0, 1) := dk_42 (dk_at dksX2_registered_4 15 rfl rfl)
theorem dX2_registered_109 : decode cX2_registered 109 = .ok (.getfield 51, 3) := dk_180 0 51 (dk_at dksX2_registered_4 16 rfl rfl)
theorem dX2_registered_112 : decode cX2_registered 112 = .ok (.iload 5, 2) := dk_21 5 (dk_at dksX2_registered_4 19 rfl rfl)
theorem dX2_registered_114 : decode cX2_registered 114 = .ok (.iaload, 1) := dk_46 (dk_at dksX2_registered_4 21 rfl rfl)
theorem dX2_registered_115 : decode cX2_registered 115 = .ok (.ifCond .ne 7, 3) := dk_154 0 7 (dk_at dksX2_registered_5 0 rfl rfl)
theorem dX2_registered_118 : decode cX2_registered 118 = .ok (.iload_n 3, 1) := dk_29 (dk_at dksX2_registered_5 3 rfl rfl)
theorem dX2_registered_119 : decode cX2_registered 119 = .ok (.goto 5, 3) := dk_167 0 5 (dk_at dksX2_registered_5 4 rfl rfl)
theorem dX2_registered_122 : decode cX2_registered 122 = .ok (.iload 4, 2) := dk_21 4 (dk_at dksX2_registered_5 7 rfl rfl)
theorem dX2_registered_124 : decode cX2_registered 124 = .ok (.iconst (-1), 1) := dk_2 (dk_at dksX2_registered_5 9 rfl rfl)
theorem dX2_registered_125 : decode cX2_registered 125 = .ok (.if_icmp .ne 7, 3) := dk_160 0 7 (dk_at dksX2_registered_5 10 rfl rfl)
theorem dX2_registered_128 : decode cX2_registered 128 = .ok (.iconst 1, 1) := dk_4 (dk_at dksX2_registered_5 13 rfl rfl)
theorem dX2_registered_129 : decode cX2_registered 129 = .ok (.goto 4, 3) := dk_167 0 4 (dk_at dksX2_registered_5 14 rfl rfl)
theorem dX2_registered_132 : decode cX2_registered 132 = .ok (.iconst 0, 1) := dk_3 (dk_at dksX2_registered_5 17 rfl rfl)
theorem dX2_registered_133 : decode cX2_registered 133 = .ok (.istore 8, 2) := dk_54 8 (dk_at dksX2_registered_5 18 rfl rfl)
theorem dX2_registered_135 : decode cX2_registered 135 = .ok (.iload 6, 2) := dk_21 6 (dk_at dksX2_registered_5 20 rfl rfl)
theorem dX2_registered_137 : decode cX2_registered 137 = .ok (.ifCond .eq 73, 3) := dk_153 0 73 (dk_at dksX2_registered_6 0 rfl rfl)
theorem dX2_registered_140 : decode cX2_registered 140 = .ok (.iload 8, 2) := dk_21 8 (dk_at dksX2_registered_6 3 rfl rfl)
theorem dX2_registered_142 : decode cX2_registered 142 = .ok (.ifCond .eq 68, 3) := dk_153 0 68 (dk_at dksX2_registered_6 5 rfl rfl)
theorem dX2_registered_145 : decode cX2_registered 145 = .ok (.iload 7, 2) := dk_21 7 (dk_at dksX2_registered_6 8 rfl rfl)
theorem dX2_registered_147 : decode cX2_registered 147 = .ok (.iconst (-1), 1) := dk_2 (dk_at dksX2_registered_6 10 rfl rfl)
theorem dX2_registered_148 : decode cX2_registered 148 = .ok (.if_icmp .eq 25, 3) := dk_159 0 25 (dk_at dksX2_registered_6 11 rfl rfl)
theorem dX2_registered_151 : decode cX2_registered 151 = .ok (.aload_n 0, 1) := dk_42 (dk_at dksX2_registered_6 14 rfl rfl)
theorem dX2_registered_152 : decode cX2_registered 152 = .ok (.getfield 57, 3) := dk_180 0 57 (dk_at dksX2_registered_6 15 rfl rfl)
theorem dX2_registered_155 : decode cX2_registered 155 = .ok (.iload 5, 2) := dk_21 5 (dk_at dksX2_registered_6 18 rfl rfl)
theorem dX2_registered_157 : decode cX2_registered 157 = .ok (.iaload, 1) := dk_46 (dk_at dksX2_registered_6 20 rfl rfl)
theorem dX2_registered_158 : decode cX2_registered 158 = .ok (.aload_n 0, 1) := dk_42 (dk_at dksX2_registered_6 21 rfl rfl)
theorem dX2_registered_159 : decode cX2_registered 159 = .ok (.getfield 57, 3) := dk_180 0 57 (dk_at dksX2_registered_7 0 rfl rfl)
theorem dX2_registered_162 : decode cX2_registered 162 = .ok (.iload 7, 2) := dk_21 7 (dk_at dksX2_registered_7 3 rfl rfl)
theorem dX2_registered_164 : decode cX2_registered 164 = .ok (.iaload, 1) := dk_46 (dk_at dksX2_registered_7 5 rfl rfl)
theorem dX2_registered_165 : decode cX2_registered 165 = .ok (.isub, 1) := dk_100 (dk_at dksX2_registered_7 6 rfl rfl)
theorem dX2_registered_166 : decode cX2_registered 166 = .ok (.iload_n 2, 1) := dk_28 (dk_at dksX2_registered_7 7 rfl rfl)
theorem dX2_registered_167 : decode cX2_registered 167 = .ok (.invokestatic 129, 3) := dk_184 0 129 (dk_at dksX2_registered_7 8 rfl rfl)
theorem dX2_registered_170 : decode cX2_registered 170 = .ok (.if_icmp .gt 40, 3) := dk_163 0 40 (dk_at dksX2_registered_7 11 rfl rfl)
theorem dX2_registered_173 : decode cX2_registered 173 = .ok (.aload_n 0, 1) := dk_42 (dk_at dksX2_registered_7 14 rfl rfl)
theorem dX2_registered_174 : decode cX2_registered 174 = .ok (.getfield 51, 3) := dk_180 0 51 (dk_at dksX2_registered_7 15 rfl rfl)
theorem dX2_registered_177 : decode cX2_registered 177 = .ok (.iload 5, 2) := dk_21 5 (dk_at dksX2_registered_7 18 rfl rfl)
theorem dX2_registered_179 : decode cX2_registered 179 = .ok (.iaload, 1) := dk_46 (dk_at dksX2_registered_7 20 rfl rfl)
theorem dX2_registered_180 : decode cX2_registered 180 = .ok (.ifCond .ne 8, 3) := dk_154 0 8 (dk_at dksX2_registered_7 21 rfl rfl)
theorem dX2_registered_183 : decode cX2_registered 183 = .ok (.iload 5, 2) := dk_21 5 (dk_at dksX2_registered_8 0 rfl rfl)
theorem dX2_registered_185 : decode cX2_registered 185 = .ok (.goto 4, 3) := dk_167 0 4 (dk_at dksX2_registered_8 2 rfl rfl)
theorem dX2_registered_188 : decode cX2_registered 188 = .ok (.iload_n 3, 1) := dk_29 (dk_at dksX2_registered_8 5 rfl rfl)
theorem dX2_registered_189 : decode cX2_registered 189 = .ok (.istore_n 3, 1) := dk_62 (dk_at dksX2_registered_8 6 rfl rfl)
theorem dX2_registered_190 : decode cX2_registered 190 = .ok (.aload_n 0, 1) := dk_42 (dk_at dksX2_registered_8 7 rfl rfl)
theorem dX2_registered_191 : decode cX2_registered 191 = .ok (.getfield 51, 3) := dk_180 0 51 (dk_at dksX2_registered_8 8 rfl rfl)
theorem dX2_registered_194 : decode cX2_registered 194 = .ok (.iload 5, 2) := dk_21 5 (dk_at dksX2_registered_8 11 rfl rfl)
theorem dX2_registered_196 : decode cX2_registered 196 = .ok (.iaload, 1) := dk_46 (dk_at dksX2_registered_8 13 rfl rfl)
theorem dX2_registered_197 : decode cX2_registered 197 = .ok (.iconst 1, 1) := dk_4 (dk_at dksX2_registered_8 14 rfl rfl)
theorem dX2_registered_198 : decode cX2_registered 198 = .ok (.if_icmp .ne 8, 3) := dk_160 0 8 (dk_at dksX2_registered_8 15 rfl rfl)
theorem dX2_registered_201 : decode cX2_registered 201 = .ok (.iload 5, 2) := dk_21 5 (dk_at dksX2_registered_8 18 rfl rfl)
theorem dX2_registered_203 : decode cX2_registered 203 = .ok (.goto 5, 3) := dk_167 0 5 (dk_at dksX2_registered_8 20 rfl rfl)
theorem dX2_registered_206 : decode cX2_registered 206 = .ok (.iload 4, 2) := dk_21 4 (dk_at dksX2_registered_9 0 rfl rfl)
theorem dX2_registered_208 : decode cX2_registered 208 = .ok (.istore 4, 2) := dk_54 4 (dk_at dksX2_registered_9 2 rfl rfl)
theorem dX2_registered_210 : decode cX2_registered 210 = .ok (.iinc 5 1, 3) := dk_132 5 1 (dk_at dksX2_registered_9 4 rfl rfl)
theorem dX2_registered_213 : decode cX2_registered 213 = .ok (.goto (-185), 3) := dk_167 255 71 (dk_at dksX2_registered_9 7 rfl rfl)
theorem dX2_registered_216 : decode cX2_registered 216 = .ok (.iload_n 1, 1) := dk_27 (dk_at dksX2_registered_9 10 rfl rfl)
theorem dX2_registered_217 : decode cX2_registered 217 = .ok (.ifCond .ne 7, 3) := dk_154 0 7 (dk_at dksX2_registered_9 11 rfl rfl)
theorem dX2_registered_220 : decode cX2_registered 220 = .ok (.iload_n 3, 1) := dk_29 (dk_at dksX2_registered_9 14 rfl rfl)
theorem dX2_registered_221 : decode cX2_registered 221 = .ok (.goto 5, 3) := dk_167 0 5 (dk_at dksX2_registered_9 15 rfl rfl)
theorem dX2_registered_224 : decode cX2_registered 224 = .ok (.iload 4, 2) := dk_21 4 (dk_at dksX2_registered_9 18 rfl rfl)
theorem dX2_registered_226 : decode cX2_registered 226 = .ok (.ireturn, 1) := dk_172 (dk_at dksX2_registered_9 20 rfl rfl)
abbrev cX2_least : ByteArray := prog_13_method_14_code
def yX2_least : MethodName := ⟨RX2, "least", "(I)I"⟩
def dkwX2_least_0 : List UInt8 := [26, 154, 0, 8, 16, 14, 167, 0, 13, 26, 4, 160, 0, 7, 5, 167, 0, 4, 4, 172]
abbrev dktX2_least_0 : List UInt8 := dkwX2_least_0 ++ []
theorem dksX2_least_0 : cX2_least.data.toList.drop 0 = dktX2_least_0 := by decide +kernel
theorem dX2_least_0 : decode cX2_least 0 = .ok (.iload_n 0, 1) := dk_26 (dk_at dksX2_least_0 0 rfl rfl)
theorem dX2_least_1 : decode cX2_least 1 = .ok (.ifCond .ne 8, 3) := dk_154 0 8 (dk_at dksX2_least_0 1 rfl rfl)
theorem dX2_least_4 : decode cX2_least 4 = .ok (.bipush 14, 2) := dk_16 14 (dk_at dksX2_least_0 4 rfl rfl)
theorem dX2_least_6 : decode cX2_least 6 = .ok (.goto 13, 3) := dk_167 0 13 (dk_at dksX2_least_0 6 rfl rfl)
theorem dX2_least_9 : decode cX2_least 9 = .ok (.iload_n 0, 1) := dk_26 (dk_at dksX2_least_0 9 rfl rfl)
theorem dX2_least_10 : decode cX2_least 10 = .ok (.iconst 1, 1) := dk_4 (dk_at dksX2_least_0 10 rfl rfl)
theorem dX2_least_11 : decode cX2_least 11 = .ok (.if_icmp .ne 7, 3) := dk_160 0 7 (dk_at dksX2_least_0 11 rfl rfl)
theorem dX2_least_14 : decode cX2_least 14 = .ok (.iconst 2, 1) := dk_5 (dk_at dksX2_least_0 14 rfl rfl)
theorem dX2_least_15 : decode cX2_least 15 = .ok (.goto 4, 3) := dk_167 0 4 (dk_at dksX2_least_0 15 rfl rfl)
theorem dX2_least_18 : decode cX2_least 18 = .ok (.iconst 1, 1) := dk_4 (dk_at dksX2_least_0 18 rfl rfl)
theorem dX2_least_19 : decode cX2_least 19 = .ok (.ireturn, 1) := dk_172 (dk_at dksX2_least_0 19 rfl rfl)
abbrev cX2_locks : ByteArray := prog_13_method_15_code
def yX2_locks : MethodName := ⟨RX2, "locks", "(I)I"⟩
def dkwX2_locks_0 : List UInt8 := [26, 154, 0, 9, 17, 1, 44, 167, 0, 16, 26, 4, 160, 0, 8, 16, 45, 167, 0, 6, 17, 0, 170, 172]
abbrev dktX2_locks_0 : List UInt8 := dkwX2_locks_0 ++ []
theorem dksX2_locks_0 : cX2_locks.data.toList.drop 0 = dktX2_locks_0 := by decide +kernel
theorem dX2_locks_0 : decode cX2_locks 0 = .ok (.iload_n 0, 1) := dk_26 (dk_at dksX2_locks_0 0 rfl rfl)
theorem dX2_locks_1 : decode cX2_locks 1 = .ok (.ifCond .ne 9, 3) := dk_154 0 9 (dk_at dksX2_locks_0 1 rfl rfl)
theorem dX2_locks_4 : decode cX2_locks 4 = .ok (.sipush 300, 3) := dk_17 1 44 (dk_at dksX2_locks_0 4 rfl rfl)
theorem dX2_locks_7 : decode cX2_locks 7 = .ok (.goto 16, 3) := dk_167 0 16 (dk_at dksX2_locks_0 7 rfl rfl)
theorem dX2_locks_10 : decode cX2_locks 10 = .ok (.iload_n 0, 1) := dk_26 (dk_at dksX2_locks_0 10 rfl rfl)
theorem dX2_locks_11 : decode cX2_locks 11 = .ok (.iconst 1, 1) := dk_4 (dk_at dksX2_locks_0 11 rfl rfl)
theorem dX2_locks_12 : decode cX2_locks 12 = .ok (.if_icmp .ne 8, 3) := dk_160 0 8 (dk_at dksX2_locks_0 12 rfl rfl)
theorem dX2_locks_15 : decode cX2_locks 15 = .ok (.bipush 45, 2) := dk_16 45 (dk_at dksX2_locks_0 15 rfl rfl)
theorem dX2_locks_17 : decode cX2_locks 17 = .ok (.goto 6, 3) := dk_167 0 6 (dk_at dksX2_locks_0 17 rfl rfl)
theorem dX2_locks_20 : decode cX2_locks 20 = .ok (.sipush 170, 3) := dk_17 0 170 (dk_at dksX2_locks_0 20 rfl rfl)
theorem dX2_locks_23 : decode cX2_locks 23 = .ok (.ireturn, 1) := dk_172 (dk_at dksX2_locks_0 23 rfl rfl)
abbrev cX2_rights : ByteArray := prog_13_method_17_code
def yX2_rights : MethodName := ⟨RX2, "rights", "(I)I"⟩
def dkwX2_rights_14 : List UInt8 := [42, 180, 0, 132, 181, 0, 132, 167, 0, 3, 132, 6, 1, 167, 254, 182, 42, 180, 0, 132, 172]
abbrev dktX2_rights_14 : List UInt8 := dkwX2_rights_14 ++ []
def dkwX2_rights_13 : List UInt8 := [21, 7, 181, 0, 132, 8, 61, 167, 0, 27, 42, 42, 180, 0, 132, 21, 7, 160, 0, 7, 2, 167, 0, 7]
abbrev dktX2_rights_13 : List UInt8 := dkwX2_rights_13 ++ dktX2_rights_14
def dkwX2_rights_12 : List UInt8 := [153, 0, 58, 21, 4, 4, 21, 7, 100, 160, 0, 49, 21, 10, 21, 5, 100, 17, 1, 44, 164, 0, 38, 42]
abbrev dktX2_rights_12 : List UInt8 := dkwX2_rights_12 ++ dktX2_rights_13
def dkwX2_rights_11 : List UInt8 := [21, 5, 100, 17, 1, 44, 163, 0, 74, 42, 21, 7, 181, 0, 132, 7, 61, 167, 0, 63, 21, 9]
abbrev dktX2_rights_11 : List UInt8 := dkwX2_rights_11 ++ dktX2_rights_12
def dkwX2_rights_10 : List UInt8 := [54, 4, 21, 10, 54, 5, 167, 0, 97, 21, 9, 153, 0, 92, 21, 4, 21, 7, 160, 0, 85, 21, 10]
abbrev dktX2_rights_10 : List UInt8 := dkwX2_rights_10 ++ dktX2_rights_11
def dkwX2_rights_9 : List UInt8 := [21, 10, 62, 167, 0, 123, 21, 8, 153, 0, 118, 28, 4, 159, 0, 113, 42, 2, 181, 0, 132, 21, 7]
abbrev dktX2_rights_9 : List UInt8 := dkwX2_rights_9 ++ dktX2_rights_10
def dkwX2_rights_8 : List UInt8 := [181, 0, 132, 167, 0, 147, 21, 8, 153, 0, 142, 28, 4, 160, 0, 137, 42, 21, 7, 181, 0, 132, 3, 61]
abbrev dktX2_rights_8 : List UInt8 := dkwX2_rights_8 ++ dktX2_rights_9
def dkwX2_rights_7 : List UInt8 := [153, 0, 7, 4, 167, 0, 4, 28, 61, 42, 21, 9, 153, 0, 8, 21, 7, 167, 0, 7, 42, 180, 0, 132]
abbrev dktX2_rights_7 : List UInt8 := dkwX2_rights_7 ++ dktX2_rights_8
def dkwX2_rights_6 : List UInt8 := [167, 0, 198, 21, 8, 154, 0, 193, 42, 21, 7, 181, 0, 132, 3, 61, 21, 10, 62, 167, 0, 179, 21, 9]
abbrev dktX2_rights_6 : List UInt8 := dkwX2_rights_6 ++ dktX2_rights_7
def dkwX2_rights_5 : List UInt8 := [21, 8, 153, 0, 24, 28, 154, 0, 20, 21, 10, 29, 100, 16, 40, 163, 0, 11, 42, 2, 181, 0, 132]
abbrev dktX2_rights_5 : List UInt8 := dkwX2_rights_5 ++ dktX2_rights_6
def dkwX2_rights_4 : List UInt8 := [170, 0, 0, 0, 1, 7, 0, 0, 0, 0, 0, 0, 0, 6, 0, 0, 0, 42, 0, 0, 0, 87, 0, 0, 0, 119, 0, 0, 0, 143, 0, 0, 0, 169, 0, 0, 0, 203, 0, 0, 0, 239]
abbrev dktX2_rights_4 : List UInt8 := dkwX2_rights_4 ++ dktX2_rights_5
def dkwX2_rights_3 : List UInt8 := [46, 54, 10, 42, 180, 0, 54, 21, 6, 46]
abbrev dktX2_rights_3 : List UInt8 := dkwX2_rights_3 ++ dktX2_rights_4
def dkwX2_rights_2 : List UInt8 := [3, 54, 8, 42, 180, 0, 132, 2, 160, 0, 7, 4, 167, 0, 4, 3, 54, 9, 42, 180, 0, 57, 21, 6]
abbrev dktX2_rights_2 : List UInt8 := dkwX2_rights_2 ++ dktX2_rights_3
def dkwX2_rights_1 : List UInt8 := [42, 180, 0, 51, 21, 6, 46, 54, 7, 42, 180, 0, 132, 4, 21, 7, 100, 160, 0, 7, 4, 167, 0, 4]
abbrev dktX2_rights_1 : List UInt8 := dkwX2_rights_1 ++ dktX2_rights_2
def dkwX2_rights_0 : List UInt8 := [42, 2, 181, 0, 132, 2, 61, 3, 62, 2, 54, 4, 3, 54, 5, 3, 54, 6, 21, 6, 27, 162, 1, 74]
abbrev dktX2_rights_0 : List UInt8 := dkwX2_rights_0 ++ dktX2_rights_1
theorem dksX2_rights_0 : cX2_rights.data.toList.drop 0 = dktX2_rights_0 := by decide +kernel
theorem dksX2_rights_1 : cX2_rights.data.toList.drop 24 = dktX2_rights_1 := dk_seg dksX2_rights_0 24 rfl rfl
theorem dksX2_rights_2 : cX2_rights.data.toList.drop 48 = dktX2_rights_2 := dk_seg dksX2_rights_1 24 rfl rfl
theorem dksX2_rights_3 : cX2_rights.data.toList.drop 72 = dktX2_rights_3 := dk_seg dksX2_rights_2 24 rfl rfl
theorem dksX2_rights_4 : cX2_rights.data.toList.drop 82 = dktX2_rights_4 := dk_seg dksX2_rights_3 10 rfl rfl
theorem dksX2_rights_5 : cX2_rights.data.toList.drop 124 = dktX2_rights_5 := dk_seg dksX2_rights_4 42 rfl rfl
theorem dksX2_rights_6 : cX2_rights.data.toList.drop 147 = dktX2_rights_6 := dk_seg dksX2_rights_5 23 rfl rfl
theorem dksX2_rights_7 : cX2_rights.data.toList.drop 171 = dktX2_rights_7 := dk_seg dksX2_rights_6 24 rfl rfl
theorem dksX2_rights_8 : cX2_rights.data.toList.drop 195 = dktX2_rights_8 := dk_seg dksX2_rights_7 24 rfl rfl
theorem dksX2_rights_9 : cX2_rights.data.toList.drop 219 = dktX2_rights_9 := dk_seg dksX2_rights_8 24 rfl rfl
theorem dksX2_rights_10 : cX2_rights.data.toList.drop 242 = dktX2_rights_10 := dk_seg dksX2_rights_9 23 rfl rfl
theorem dksX2_rights_11 : cX2_rights.data.toList.drop 265 = dktX2_rights_11 := dk_seg dksX2_rights_10 23 rfl rfl
theorem dksX2_rights_12 : cX2_rights.data.toList.drop 287 = dktX2_rights_12 := dk_seg dksX2_rights_11 22 rfl rfl
theorem dksX2_rights_13 : cX2_rights.data.toList.drop 311 = dktX2_rights_13 := dk_seg dksX2_rights_12 24 rfl rfl
theorem dksX2_rights_14 : cX2_rights.data.toList.drop 335 = dktX2_rights_14 := dk_seg dksX2_rights_13 24 rfl rfl
theorem dX2_rights_0 : decode cX2_rights 0 = .ok (.aload_n 0, 1) := dk_42 (dk_at dksX2_rights_0 0 rfl rfl)
theorem dX2_rights_1 : decode cX2_rights 1 = .ok (.iconst (-1), 1) := dk_2 (dk_at dksX2_rights_0 1 rfl rfl)
theorem dX2_rights_2 : decode cX2_rights 2 = .ok (.putfield 132, 3) := dk_181 0 132 (dk_at dksX2_rights_0 2 rfl rfl)
theorem dX2_rights_5 : decode cX2_rights 5 = .ok (.iconst (-1), 1) := dk_2 (dk_at dksX2_rights_0 5 rfl rfl)
theorem dX2_rights_6 : decode cX2_rights 6 = .ok (.istore_n 2, 1) := dk_61 (dk_at dksX2_rights_0 6 rfl rfl)
theorem dX2_rights_7 : decode cX2_rights 7 = .ok (.iconst 0, 1) := dk_3 (dk_at dksX2_rights_0 7 rfl rfl)
theorem dX2_rights_8 : decode cX2_rights 8 = .ok (.istore_n 3, 1) := dk_62 (dk_at dksX2_rights_0 8 rfl rfl)
theorem dX2_rights_9 : decode cX2_rights 9 = .ok (.iconst (-1), 1) := dk_2 (dk_at dksX2_rights_0 9 rfl rfl)
theorem dX2_rights_10 : decode cX2_rights 10 = .ok (.istore 4, 2) := dk_54 4 (dk_at dksX2_rights_0 10 rfl rfl)
theorem dX2_rights_12 : decode cX2_rights 12 = .ok (.iconst 0, 1) := dk_3 (dk_at dksX2_rights_0 12 rfl rfl)
theorem dX2_rights_13 : decode cX2_rights 13 = .ok (.istore 5, 2) := dk_54 5 (dk_at dksX2_rights_0 13 rfl rfl)
theorem dX2_rights_15 : decode cX2_rights 15 = .ok (.iconst 0, 1) := dk_3 (dk_at dksX2_rights_0 15 rfl rfl)
theorem dX2_rights_16 : decode cX2_rights 16 = .ok (.istore 6, 2) := dk_54 6 (dk_at dksX2_rights_0 16 rfl rfl)
theorem dX2_rights_18 : decode cX2_rights 18 = .ok (.iload 6, 2) := dk_21 6 (dk_at dksX2_rights_0 18 rfl rfl)
theorem dX2_rights_20 : decode cX2_rights 20 = .ok (.iload_n 1, 1) := dk_27 (dk_at dksX2_rights_0 20 rfl rfl)
theorem dX2_rights_21 : decode cX2_rights 21 = .ok (.if_icmp .ge 330, 3) := dk_162 1 74 (dk_at dksX2_rights_0 21 rfl rfl)
theorem dX2_rights_24 : decode cX2_rights 24 = .ok (.aload_n 0, 1) := dk_42 (dk_at dksX2_rights_1 0 rfl rfl)
theorem dX2_rights_25 : decode cX2_rights 25 = .ok (.getfield 51, 3) := dk_180 0 51 (dk_at dksX2_rights_1 1 rfl rfl)
theorem dX2_rights_28 : decode cX2_rights 28 = .ok (.iload 6, 2) := dk_21 6 (dk_at dksX2_rights_1 4 rfl rfl)
theorem dX2_rights_30 : decode cX2_rights 30 = .ok (.iaload, 1) := dk_46 (dk_at dksX2_rights_1 6 rfl rfl)
theorem dX2_rights_31 : decode cX2_rights 31 = .ok (.istore 7, 2) := dk_54 7 (dk_at dksX2_rights_1 7 rfl rfl)
theorem dX2_rights_33 : decode cX2_rights 33 = .ok (.aload_n 0, 1) := dk_42 (dk_at dksX2_rights_1 9 rfl rfl)
theorem dX2_rights_34 : decode cX2_rights 34 = .ok (.getfield 132, 3) := dk_180 0 132 (dk_at dksX2_rights_1 10 rfl rfl)
theorem dX2_rights_37 : decode cX2_rights 37 = .ok (.iconst 1, 1) := dk_4 (dk_at dksX2_rights_1 13 rfl rfl)
theorem dX2_rights_38 : decode cX2_rights 38 = .ok (.iload 7, 2) := dk_21 7 (dk_at dksX2_rights_1 14 rfl rfl)
theorem dX2_rights_40 : decode cX2_rights 40 = .ok (.isub, 1) := dk_100 (dk_at dksX2_rights_1 16 rfl rfl)
theorem dX2_rights_41 : decode cX2_rights 41 = .ok (.if_icmp .ne 7, 3) := dk_160 0 7 (dk_at dksX2_rights_1 17 rfl rfl)
theorem dX2_rights_44 : decode cX2_rights 44 = .ok (.iconst 1, 1) := dk_4 (dk_at dksX2_rights_1 20 rfl rfl)
theorem dX2_rights_45 : decode cX2_rights 45 = .ok (.goto 4, 3) := dk_167 0 4 (dk_at dksX2_rights_1 21 rfl rfl)
theorem dX2_rights_48 : decode cX2_rights 48 = .ok (.iconst 0, 1) := dk_3 (dk_at dksX2_rights_2 0 rfl rfl)
theorem dX2_rights_49 : decode cX2_rights 49 = .ok (.istore 8, 2) := dk_54 8 (dk_at dksX2_rights_2 1 rfl rfl)
theorem dX2_rights_51 : decode cX2_rights 51 = .ok (.aload_n 0, 1) := dk_42 (dk_at dksX2_rights_2 3 rfl rfl)
theorem dX2_rights_52 : decode cX2_rights 52 = .ok (.getfield 132, 3) := dk_180 0 132 (dk_at dksX2_rights_2 4 rfl rfl)
theorem dX2_rights_55 : decode cX2_rights 55 = .ok (.iconst (-1), 1) := dk_2 (dk_at dksX2_rights_2 7 rfl rfl)
theorem dX2_rights_56 : decode cX2_rights 56 = .ok (.if_icmp .ne 7, 3) := dk_160 0 7 (dk_at dksX2_rights_2 8 rfl rfl)
theorem dX2_rights_59 : decode cX2_rights 59 = .ok (.iconst 1, 1) := dk_4 (dk_at dksX2_rights_2 11 rfl rfl)
theorem dX2_rights_60 : decode cX2_rights 60 = .ok (.goto 4, 3) := dk_167 0 4 (dk_at dksX2_rights_2 12 rfl rfl)
theorem dX2_rights_63 : decode cX2_rights 63 = .ok (.iconst 0, 1) := dk_3 (dk_at dksX2_rights_2 15 rfl rfl)
theorem dX2_rights_64 : decode cX2_rights 64 = .ok (.istore 9, 2) := dk_54 9 (dk_at dksX2_rights_2 16 rfl rfl)
theorem dX2_rights_66 : decode cX2_rights 66 = .ok (.aload_n 0, 1) := dk_42 (dk_at dksX2_rights_2 18 rfl rfl)
theorem dX2_rights_67 : decode cX2_rights 67 = .ok (.getfield 57, 3) := dk_180 0 57 (dk_at dksX2_rights_2 19 rfl rfl)
theorem dX2_rights_70 : decode cX2_rights 70 = .ok (.iload 6, 2) := dk_21 6 (dk_at dksX2_rights_2 22 rfl rfl)
theorem dX2_rights_72 : decode cX2_rights 72 = .ok (.iaload, 1) := dk_46 (dk_at dksX2_rights_3 0 rfl rfl)
theorem dX2_rights_73 : decode cX2_rights 73 = .ok (.istore 10, 2) := dk_54 10 (dk_at dksX2_rights_3 1 rfl rfl)
theorem dX2_rights_75 : decode cX2_rights 75 = .ok (.aload_n 0, 1) := dk_42 (dk_at dksX2_rights_3 3 rfl rfl)
theorem dX2_rights_76 : decode cX2_rights 76 = .ok (.getfield 54, 3) := dk_180 0 54 (dk_at dksX2_rights_3 4 rfl rfl)
theorem dX2_rights_79 : decode cX2_rights 79 = .ok (.iload 6, 2) := dk_21 6 (dk_at dksX2_rights_3 7 rfl rfl)
theorem dX2_rights_81 : decode cX2_rights 81 = .ok (.iaload, 1) := dk_46 (dk_at dksX2_rights_3 9 rfl rfl)
theorem dX2_rights_82 : decode cX2_rights 82 = .ok (.tableswitch 263 0 6 #[42, 87, 119, 143, 169, 203, 239], 42) := by decide +kernel
theorem dX2_rights_124 : decode cX2_rights 124 = .ok (.iload 8, 2) := dk_21 8 (dk_at dksX2_rights_5 0 rfl rfl)
theorem dX2_rights_126 : decode cX2_rights 126 = .ok (.ifCond .eq 24, 3) := dk_153 0 24 (dk_at dksX2_rights_5 2 rfl rfl)
theorem dX2_rights_129 : decode cX2_rights 129 = .ok (.iload_n 2, 1) := dk_28 (dk_at dksX2_rights_5 5 rfl rfl)
theorem dX2_rights_130 : decode cX2_rights 130 = .ok (.ifCond .ne 20, 3) := dk_154 0 20 (dk_at dksX2_rights_5 6 rfl rfl)
theorem dX2_rights_133 : decode cX2_rights 133 = .ok (.iload 10, 2) := dk_21 10 (dk_at dksX2_rights_5 9 rfl rfl)
theorem dX2_rights_135 : decode cX2_rights 135 = .ok (.iload_n 3, 1) := dk_29 (dk_at dksX2_rights_5 11 rfl rfl)
theorem dX2_rights_136 : decode cX2_rights 136 = .ok (.isub, 1) := dk_100 (dk_at dksX2_rights_5 12 rfl rfl)
theorem dX2_rights_137 : decode cX2_rights 137 = .ok (.bipush 40, 2) := dk_16 40 (dk_at dksX2_rights_5 13 rfl rfl)
theorem dX2_rights_139 : decode cX2_rights 139 = .ok (.if_icmp .gt 11, 3) := dk_163 0 11 (dk_at dksX2_rights_5 15 rfl rfl)
theorem dX2_rights_142 : decode cX2_rights 142 = .ok (.aload_n 0, 1) := dk_42 (dk_at dksX2_rights_5 18 rfl rfl)
theorem dX2_rights_143 : decode cX2_rights 143 = .ok (.iconst (-1), 1) := dk_2 (dk_at dksX2_rights_5 19 rfl rfl)
theorem dX2_rights_144 : decode cX2_rights 144 = .ok (.putfield 132, 3) := dk_181 0 132 (dk_at dksX2_rights_5 20 rfl rfl)
theorem dX2_rights_147 : decode cX2_rights 147 = .ok (.goto 198, 3) := dk_167 0 198 (dk_at dksX2_rights_6 0 rfl rfl)
theorem dX2_rights_150 : decode cX2_rights 150 = .ok (.iload 8, 2) := dk_21 8 (dk_at dksX2_rights_6 3 rfl rfl)
theorem dX2_rights_152 : decode cX2_rights 152 = .ok (.ifCond .ne 193, 3) := dk_154 0 193 (dk_at dksX2_rights_6 5 rfl rfl)
theorem dX2_rights_155 : decode cX2_rights 155 = .ok (.aload_n 0, 1) := dk_42 (dk_at dksX2_rights_6 8 rfl rfl)
theorem dX2_rights_156 : decode cX2_rights 156 = .ok (.iload 7, 2) := dk_21 7 (dk_at dksX2_rights_6 9 rfl rfl)
theorem dX2_rights_158 : decode cX2_rights 158 = .ok (.putfield 132, 3) := dk_181 0 132 (dk_at dksX2_rights_6 11 rfl rfl)
theorem dX2_rights_161 : decode cX2_rights 161 = .ok (.iconst 0, 1) := dk_3 (dk_at dksX2_rights_6 14 rfl rfl)
theorem dX2_rights_162 : decode cX2_rights 162 = .ok (.istore_n 2, 1) := dk_61 (dk_at dksX2_rights_6 15 rfl rfl)
theorem dX2_rights_163 : decode cX2_rights 163 = .ok (.iload 10, 2) := dk_21 10 (dk_at dksX2_rights_6 16 rfl rfl)
theorem dX2_rights_165 : decode cX2_rights 165 = .ok (.istore_n 3, 1) := dk_62 (dk_at dksX2_rights_6 18 rfl rfl)
theorem dX2_rights_166 : decode cX2_rights 166 = .ok (.goto 179, 3) := dk_167 0 179 (dk_at dksX2_rights_6 19 rfl rfl)
theorem dX2_rights_169 : decode cX2_rights 169 = .ok (.iload 9, 2) := dk_21 9 (dk_at dksX2_rights_6 22 rfl rfl)
theorem dX2_rights_171 : decode cX2_rights 171 = .ok (.ifCond .eq 7, 3) := dk_153 0 7 (dk_at dksX2_rights_7 0 rfl rfl)
theorem dX2_rights_174 : decode cX2_rights 174 = .ok (.iconst 1, 1) := dk_4 (dk_at dksX2_rights_7 3 rfl rfl)
theorem dX2_rights_175 : decode cX2_rights 175 = .ok (.goto 4, 3) := dk_167 0 4 (dk_at dksX2_rights_7 4 rfl rfl)
theorem dX2_rights_178 : decode cX2_rights 178 = .ok (.iload_n 2, 1) := dk_28 (dk_at dksX2_rights_7 7 rfl rfl)
theorem dX2_rights_179 : decode cX2_rights 179 = .ok (.istore_n 2, 1) := dk_61 (dk_at dksX2_rights_7 8 rfl rfl)
theorem dX2_rights_180 : decode cX2_rights 180 = .ok (.aload_n 0, 1) := dk_42 (dk_at dksX2_rights_7 9 rfl rfl)
theorem dX2_rights_181 : decode cX2_rights 181 = .ok (.iload 9, 2) := dk_21 9 (dk_at dksX2_rights_7 10 rfl rfl)
theorem dX2_rights_183 : decode cX2_rights 183 = .ok (.ifCond .eq 8, 3) := dk_153 0 8 (dk_at dksX2_rights_7 12 rfl rfl)
theorem dX2_rights_186 : decode cX2_rights 186 = .ok (.iload 7, 2) := dk_21 7 (dk_at dksX2_rights_7 15 rfl rfl)
theorem dX2_rights_188 : decode cX2_rights 188 = .ok (.goto 7, 3) := dk_167 0 7 (dk_at dksX2_rights_7 17 rfl rfl)
theorem dX2_rights_191 : decode cX2_rights 191 = .ok (.aload_n 0, 1) := dk_42 (dk_at dksX2_rights_7 20 rfl rfl)
theorem dX2_rights_192 : decode cX2_rights 192 = .ok (.getfield 132, 3) := dk_180 0 132 (dk_at dksX2_rights_7 21 rfl rfl)
theorem dX2_rights_195 : decode cX2_rights 195 = .ok (.putfield 132, 3) := dk_181 0 132 (dk_at dksX2_rights_8 0 rfl rfl)
theorem dX2_rights_198 : decode cX2_rights 198 = .ok (.goto 147, 3) := dk_167 0 147 (dk_at dksX2_rights_8 3 rfl rfl)
theorem dX2_rights_201 : decode cX2_rights 201 = .ok (.iload 8, 2) := dk_21 8 (dk_at dksX2_rights_8 6 rfl rfl)
theorem dX2_rights_203 : decode cX2_rights 203 = .ok (.ifCond .eq 142, 3) := dk_153 0 142 (dk_at dksX2_rights_8 8 rfl rfl)
theorem dX2_rights_206 : decode cX2_rights 206 = .ok (.iload_n 2, 1) := dk_28 (dk_at dksX2_rights_8 11 rfl rfl)
theorem dX2_rights_207 : decode cX2_rights 207 = .ok (.iconst 1, 1) := dk_4 (dk_at dksX2_rights_8 12 rfl rfl)
theorem dX2_rights_208 : decode cX2_rights 208 = .ok (.if_icmp .ne 137, 3) := dk_160 0 137 (dk_at dksX2_rights_8 13 rfl rfl)
theorem dX2_rights_211 : decode cX2_rights 211 = .ok (.aload_n 0, 1) := dk_42 (dk_at dksX2_rights_8 16 rfl rfl)
theorem dX2_rights_212 : decode cX2_rights 212 = .ok (.iload 7, 2) := dk_21 7 (dk_at dksX2_rights_8 17 rfl rfl)
theorem dX2_rights_214 : decode cX2_rights 214 = .ok (.putfield 132, 3) := dk_181 0 132 (dk_at dksX2_rights_8 19 rfl rfl)
theorem dX2_rights_217 : decode cX2_rights 217 = .ok (.iconst 0, 1) := dk_3 (dk_at dksX2_rights_8 22 rfl rfl)
theorem dX2_rights_218 : decode cX2_rights 218 = .ok (.istore_n 2, 1) := dk_61 (dk_at dksX2_rights_8 23 rfl rfl)
theorem dX2_rights_219 : decode cX2_rights 219 = .ok (.iload 10, 2) := dk_21 10 (dk_at dksX2_rights_9 0 rfl rfl)
theorem dX2_rights_221 : decode cX2_rights 221 = .ok (.istore_n 3, 1) := dk_62 (dk_at dksX2_rights_9 2 rfl rfl)
theorem dX2_rights_222 : decode cX2_rights 222 = .ok (.goto 123, 3) := dk_167 0 123 (dk_at dksX2_rights_9 3 rfl rfl)
theorem dX2_rights_225 : decode cX2_rights 225 = .ok (.iload 8, 2) := dk_21 8 (dk_at dksX2_rights_9 6 rfl rfl)
theorem dX2_rights_227 : decode cX2_rights 227 = .ok (.ifCond .eq 118, 3) := dk_153 0 118 (dk_at dksX2_rights_9 8 rfl rfl)
theorem dX2_rights_230 : decode cX2_rights 230 = .ok (.iload_n 2, 1) := dk_28 (dk_at dksX2_rights_9 11 rfl rfl)
theorem dX2_rights_231 : decode cX2_rights 231 = .ok (.iconst 1, 1) := dk_4 (dk_at dksX2_rights_9 12 rfl rfl)
theorem dX2_rights_232 : decode cX2_rights 232 = .ok (.if_icmp .eq 113, 3) := dk_159 0 113 (dk_at dksX2_rights_9 13 rfl rfl)
theorem dX2_rights_235 : decode cX2_rights 235 = .ok (.aload_n 0, 1) := dk_42 (dk_at dksX2_rights_9 16 rfl rfl)
theorem dX2_rights_236 : decode cX2_rights 236 = .ok (.iconst (-1), 1) := dk_2 (dk_at dksX2_rights_9 17 rfl rfl)
theorem dX2_rights_237 : decode cX2_rights 237 = .ok (.putfield 132, 3) := dk_181 0 132 (dk_at dksX2_rights_9 18 rfl rfl)
theorem dX2_rights_240 : decode cX2_rights 240 = .ok (.iload 7, 2) := dk_21 7 (dk_at dksX2_rights_9 21 rfl rfl)
theorem dX2_rights_242 : decode cX2_rights 242 = .ok (.istore 4, 2) := dk_54 4 (dk_at dksX2_rights_10 0 rfl rfl)
theorem dX2_rights_244 : decode cX2_rights 244 = .ok (.iload 10, 2) := dk_21 10 (dk_at dksX2_rights_10 2 rfl rfl)
theorem dX2_rights_246 : decode cX2_rights 246 = .ok (.istore 5, 2) := dk_54 5 (dk_at dksX2_rights_10 4 rfl rfl)
theorem dX2_rights_248 : decode cX2_rights 248 = .ok (.goto 97, 3) := dk_167 0 97 (dk_at dksX2_rights_10 6 rfl rfl)
theorem dX2_rights_251 : decode cX2_rights 251 = .ok (.iload 9, 2) := dk_21 9 (dk_at dksX2_rights_10 9 rfl rfl)
theorem dX2_rights_253 : decode cX2_rights 253 = .ok (.ifCond .eq 92, 3) := dk_153 0 92 (dk_at dksX2_rights_10 11 rfl rfl)
theorem dX2_rights_256 : decode cX2_rights 256 = .ok (.iload 4, 2) := dk_21 4 (dk_at dksX2_rights_10 14 rfl rfl)
theorem dX2_rights_258 : decode cX2_rights 258 = .ok (.iload 7, 2) := dk_21 7 (dk_at dksX2_rights_10 16 rfl rfl)
theorem dX2_rights_260 : decode cX2_rights 260 = .ok (.if_icmp .ne 85, 3) := dk_160 0 85 (dk_at dksX2_rights_10 18 rfl rfl)
theorem dX2_rights_263 : decode cX2_rights 263 = .ok (.iload 10, 2) := dk_21 10 (dk_at dksX2_rights_10 21 rfl rfl)
theorem dX2_rights_265 : decode cX2_rights 265 = .ok (.iload 5, 2) := dk_21 5 (dk_at dksX2_rights_11 0 rfl rfl)
theorem dX2_rights_267 : decode cX2_rights 267 = .ok (.isub, 1) := dk_100 (dk_at dksX2_rights_11 2 rfl rfl)
theorem dX2_rights_268 : decode cX2_rights 268 = .ok (.sipush 300, 3) := dk_17 1 44 (dk_at dksX2_rights_11 3 rfl rfl)
theorem dX2_rights_271 : decode cX2_rights 271 = .ok (.if_icmp .gt 74, 3) := dk_163 0 74 (dk_at dksX2_rights_11 6 rfl rfl)
theorem dX2_rights_274 : decode cX2_rights 274 = .ok (.aload_n 0, 1) := dk_42 (dk_at dksX2_rights_11 9 rfl rfl)
theorem dX2_rights_275 : decode cX2_rights 275 = .ok (.iload 7, 2) := dk_21 7 (dk_at dksX2_rights_11 10 rfl rfl)
theorem dX2_rights_277 : decode cX2_rights 277 = .ok (.putfield 132, 3) := dk_181 0 132 (dk_at dksX2_rights_11 12 rfl rfl)
theorem dX2_rights_280 : decode cX2_rights 280 = .ok (.iconst 4, 1) := dk_7 (dk_at dksX2_rights_11 15 rfl rfl)
theorem dX2_rights_281 : decode cX2_rights 281 = .ok (.istore_n 2, 1) := dk_61 (dk_at dksX2_rights_11 16 rfl rfl)
theorem dX2_rights_282 : decode cX2_rights 282 = .ok (.goto 63, 3) := dk_167 0 63 (dk_at dksX2_rights_11 17 rfl rfl)
theorem dX2_rights_285 : decode cX2_rights 285 = .ok (.iload 9, 2) := dk_21 9 (dk_at dksX2_rights_11 20 rfl rfl)
theorem dX2_rights_287 : decode cX2_rights 287 = .ok (.ifCond .eq 58, 3) := dk_153 0 58 (dk_at dksX2_rights_12 0 rfl rfl)
theorem dX2_rights_290 : decode cX2_rights 290 = .ok (.iload 4, 2) := dk_21 4 (dk_at dksX2_rights_12 3 rfl rfl)
theorem dX2_rights_292 : decode cX2_rights 292 = .ok (.iconst 1, 1) := dk_4 (dk_at dksX2_rights_12 5 rfl rfl)
theorem dX2_rights_293 : decode cX2_rights 293 = .ok (.iload 7, 2) := dk_21 7 (dk_at dksX2_rights_12 6 rfl rfl)
theorem dX2_rights_295 : decode cX2_rights 295 = .ok (.isub, 1) := dk_100 (dk_at dksX2_rights_12 8 rfl rfl)
theorem dX2_rights_296 : decode cX2_rights 296 = .ok (.if_icmp .ne 49, 3) := dk_160 0 49 (dk_at dksX2_rights_12 9 rfl rfl)
theorem dX2_rights_299 : decode cX2_rights 299 = .ok (.iload 10, 2) := dk_21 10 (dk_at dksX2_rights_12 12 rfl rfl)
theorem dX2_rights_301 : decode cX2_rights 301 = .ok (.iload 5, 2) := dk_21 5 (dk_at dksX2_rights_12 14 rfl rfl)
theorem dX2_rights_303 : decode cX2_rights 303 = .ok (.isub, 1) := dk_100 (dk_at dksX2_rights_12 16 rfl rfl)
theorem dX2_rights_304 : decode cX2_rights 304 = .ok (.sipush 300, 3) := dk_17 1 44 (dk_at dksX2_rights_12 17 rfl rfl)
theorem dX2_rights_307 : decode cX2_rights 307 = .ok (.if_icmp .le 38, 3) := dk_164 0 38 (dk_at dksX2_rights_12 20 rfl rfl)
theorem dX2_rights_310 : decode cX2_rights 310 = .ok (.aload_n 0, 1) := dk_42 (dk_at dksX2_rights_12 23 rfl rfl)
theorem dX2_rights_311 : decode cX2_rights 311 = .ok (.iload 7, 2) := dk_21 7 (dk_at dksX2_rights_13 0 rfl rfl)
theorem dX2_rights_313 : decode cX2_rights 313 = .ok (.putfield 132, 3) := dk_181 0 132 (dk_at dksX2_rights_13 2 rfl rfl)
theorem dX2_rights_316 : decode cX2_rights 316 = .ok (.iconst 5, 1) := dk_8 (dk_at dksX2_rights_13 5 rfl rfl)
theorem dX2_rights_317 : decode cX2_rights 317 = .ok (.istore_n 2, 1) := dk_61 (dk_at dksX2_rights_13 6 rfl rfl)
theorem dX2_rights_318 : decode cX2_rights 318 = .ok (.goto 27, 3) := dk_167 0 27 (dk_at dksX2_rights_13 7 rfl rfl)
theorem dX2_rights_321 : decode cX2_rights 321 = .ok (.aload_n 0, 1) := dk_42 (dk_at dksX2_rights_13 10 rfl rfl)
theorem dX2_rights_322 : decode cX2_rights 322 = .ok (.aload_n 0, 1) := dk_42 (dk_at dksX2_rights_13 11 rfl rfl)
theorem dX2_rights_323 : decode cX2_rights 323 = .ok (.getfield 132, 3) := dk_180 0 132 (dk_at dksX2_rights_13 12 rfl rfl)
theorem dX2_rights_326 : decode cX2_rights 326 = .ok (.iload 7, 2) := dk_21 7 (dk_at dksX2_rights_13 15 rfl rfl)
theorem dX2_rights_328 : decode cX2_rights 328 = .ok (.if_icmp .ne 7, 3) := dk_160 0 7 (dk_at dksX2_rights_13 17 rfl rfl)
theorem dX2_rights_331 : decode cX2_rights 331 = .ok (.iconst (-1), 1) := dk_2 (dk_at dksX2_rights_13 20 rfl rfl)
theorem dX2_rights_332 : decode cX2_rights 332 = .ok (.goto 7, 3) := dk_167 0 7 (dk_at dksX2_rights_13 21 rfl rfl)
theorem dX2_rights_335 : decode cX2_rights 335 = .ok (.aload_n 0, 1) := dk_42 (dk_at dksX2_rights_14 0 rfl rfl)
theorem dX2_rights_336 : decode cX2_rights 336 = .ok (.getfield 132, 3) := dk_180 0 132 (dk_at dksX2_rights_14 1 rfl rfl)
theorem dX2_rights_339 : decode cX2_rights 339 = .ok (.putfield 132, 3) := dk_181 0 132 (dk_at dksX2_rights_14 4 rfl rfl)
theorem dX2_rights_342 : decode cX2_rights 342 = .ok (.goto 3, 3) := dk_167 0 3 (dk_at dksX2_rights_14 7 rfl rfl)
theorem dX2_rights_345 : decode cX2_rights 345 = .ok (.iinc 6 1, 3) := dk_132 6 1 (dk_at dksX2_rights_14 10 rfl rfl)
theorem dX2_rights_348 : decode cX2_rights 348 = .ok (.goto (-330), 3) := dk_167 254 182 (dk_at dksX2_rights_14 13 rfl rfl)
theorem dX2_rights_351 : decode cX2_rights 351 = .ok (.aload_n 0, 1) := dk_42 (dk_at dksX2_rights_14 16 rfl rfl)
theorem dX2_rights_352 : decode cX2_rights 352 = .ok (.getfield 132, 3) := dk_180 0 132 (dk_at dksX2_rights_14 17 rfl rfl)
theorem dX2_rights_355 : decode cX2_rights 355 = .ok (.ireturn, 1) := dk_172 (dk_at dksX2_rights_14 20 rfl rfl)
abbrev cX2_gives : ByteArray := prog_13_method_20_code
def yX2_gives : MethodName := ⟨RX2, "gives", "(I)V"⟩
def dkwX2_gives_5 : List UInt8 := [2, 159, 0, 16, 21, 4, 153, 0, 11, 42, 42, 182, 0, 135, 182, 0, 139, 177]
abbrev dktX2_gives_5 : List UInt8 := dkwX2_gives_5 ++ []
def dkwX2_gives_4 : List UInt8 := [159, 0, 7, 4, 167, 0, 4, 3, 54, 4, 27, 158, 0, 30, 29, 154, 0, 18, 42, 180, 0, 41, 28, 46]
abbrev dktX2_gives_4 : List UInt8 := dkwX2_gives_4 ++ dktX2_gives_5
def dkwX2_gives_3 : List UInt8 := [167, 0, 4, 3, 62, 42, 180, 0, 20, 5, 28, 104, 46, 42, 180, 0, 20, 5, 28, 104, 4, 96, 46]
abbrev dktX2_gives_3 : List UInt8 := dkwX2_gives_3 ++ dktX2_gives_4
def dkwX2_gives_2 : List UInt8 := [46, 162, 0, 22, 42, 180, 0, 20, 5, 28, 104, 4, 96, 46, 42, 180, 0, 26, 28, 46, 161, 0, 7, 4]
abbrev dktX2_gives_2 : List UInt8 := dkwX2_gives_2 ++ dktX2_gives_3
def dkwX2_gives_1 : List UInt8 := [28, 104, 4, 96, 92, 46, 27, 4, 122, 96, 79, 42, 180, 0, 20, 5, 28, 104, 46, 42, 180, 0, 26, 28]
abbrev dktX2_gives_1 : List UInt8 := dkwX2_gives_1 ++ dktX2_gives_2
def dkwX2_gives_0 : List UInt8 := [42, 180, 0, 13, 61, 42, 180, 0, 20, 5, 28, 104, 92, 46, 27, 4, 126, 96, 79, 42, 180, 0, 20, 5]
abbrev dktX2_gives_0 : List UInt8 := dkwX2_gives_0 ++ dktX2_gives_1
theorem dksX2_gives_0 : cX2_gives.data.toList.drop 0 = dktX2_gives_0 := by decide +kernel
theorem dksX2_gives_1 : cX2_gives.data.toList.drop 24 = dktX2_gives_1 := dk_seg dksX2_gives_0 24 rfl rfl
theorem dksX2_gives_2 : cX2_gives.data.toList.drop 48 = dktX2_gives_2 := dk_seg dksX2_gives_1 24 rfl rfl
theorem dksX2_gives_3 : cX2_gives.data.toList.drop 72 = dktX2_gives_3 := dk_seg dksX2_gives_2 24 rfl rfl
theorem dksX2_gives_4 : cX2_gives.data.toList.drop 95 = dktX2_gives_4 := dk_seg dksX2_gives_3 23 rfl rfl
theorem dksX2_gives_5 : cX2_gives.data.toList.drop 119 = dktX2_gives_5 := dk_seg dksX2_gives_4 24 rfl rfl
theorem dX2_gives_0 : decode cX2_gives 0 = .ok (.aload_n 0, 1) := dk_42 (dk_at dksX2_gives_0 0 rfl rfl)
theorem dX2_gives_1 : decode cX2_gives 1 = .ok (.getfield 13, 3) := dk_180 0 13 (dk_at dksX2_gives_0 1 rfl rfl)
theorem dX2_gives_4 : decode cX2_gives 4 = .ok (.istore_n 2, 1) := dk_61 (dk_at dksX2_gives_0 4 rfl rfl)
theorem dX2_gives_5 : decode cX2_gives 5 = .ok (.aload_n 0, 1) := dk_42 (dk_at dksX2_gives_0 5 rfl rfl)
theorem dX2_gives_6 : decode cX2_gives 6 = .ok (.getfield 20, 3) := dk_180 0 20 (dk_at dksX2_gives_0 6 rfl rfl)
theorem dX2_gives_9 : decode cX2_gives 9 = .ok (.iconst 2, 1) := dk_5 (dk_at dksX2_gives_0 9 rfl rfl)
theorem dX2_gives_10 : decode cX2_gives 10 = .ok (.iload_n 2, 1) := dk_28 (dk_at dksX2_gives_0 10 rfl rfl)
theorem dX2_gives_11 : decode cX2_gives 11 = .ok (.imul, 1) := dk_104 (dk_at dksX2_gives_0 11 rfl rfl)
theorem dX2_gives_12 : decode cX2_gives 12 = .ok (.dup2, 1) := dk_92 (dk_at dksX2_gives_0 12 rfl rfl)
theorem dX2_gives_13 : decode cX2_gives 13 = .ok (.iaload, 1) := dk_46 (dk_at dksX2_gives_0 13 rfl rfl)
theorem dX2_gives_14 : decode cX2_gives 14 = .ok (.iload_n 1, 1) := dk_27 (dk_at dksX2_gives_0 14 rfl rfl)
theorem dX2_gives_15 : decode cX2_gives 15 = .ok (.iconst 1, 1) := dk_4 (dk_at dksX2_gives_0 15 rfl rfl)
theorem dX2_gives_16 : decode cX2_gives 16 = .ok (.iand, 1) := dk_126 (dk_at dksX2_gives_0 16 rfl rfl)
theorem dX2_gives_17 : decode cX2_gives 17 = .ok (.iadd, 1) := dk_96 (dk_at dksX2_gives_0 17 rfl rfl)
theorem dX2_gives_18 : decode cX2_gives 18 = .ok (.iastore, 1) := dk_79 (dk_at dksX2_gives_0 18 rfl rfl)
theorem dX2_gives_19 : decode cX2_gives 19 = .ok (.aload_n 0, 1) := dk_42 (dk_at dksX2_gives_0 19 rfl rfl)
theorem dX2_gives_20 : decode cX2_gives 20 = .ok (.getfield 20, 3) := dk_180 0 20 (dk_at dksX2_gives_0 20 rfl rfl)
theorem dX2_gives_23 : decode cX2_gives 23 = .ok (.iconst 2, 1) := dk_5 (dk_at dksX2_gives_0 23 rfl rfl)
theorem dX2_gives_24 : decode cX2_gives 24 = .ok (.iload_n 2, 1) := dk_28 (dk_at dksX2_gives_1 0 rfl rfl)
theorem dX2_gives_25 : decode cX2_gives 25 = .ok (.imul, 1) := dk_104 (dk_at dksX2_gives_1 1 rfl rfl)
theorem dX2_gives_26 : decode cX2_gives 26 = .ok (.iconst 1, 1) := dk_4 (dk_at dksX2_gives_1 2 rfl rfl)
theorem dX2_gives_27 : decode cX2_gives 27 = .ok (.iadd, 1) := dk_96 (dk_at dksX2_gives_1 3 rfl rfl)
theorem dX2_gives_28 : decode cX2_gives 28 = .ok (.dup2, 1) := dk_92 (dk_at dksX2_gives_1 4 rfl rfl)
theorem dX2_gives_29 : decode cX2_gives 29 = .ok (.iaload, 1) := dk_46 (dk_at dksX2_gives_1 5 rfl rfl)
theorem dX2_gives_30 : decode cX2_gives 30 = .ok (.iload_n 1, 1) := dk_27 (dk_at dksX2_gives_1 6 rfl rfl)
theorem dX2_gives_31 : decode cX2_gives 31 = .ok (.iconst 1, 1) := dk_4 (dk_at dksX2_gives_1 7 rfl rfl)
theorem dX2_gives_32 : decode cX2_gives 32 = .ok (.ishr, 1) := dk_122 (dk_at dksX2_gives_1 8 rfl rfl)
theorem dX2_gives_33 : decode cX2_gives 33 = .ok (.iadd, 1) := dk_96 (dk_at dksX2_gives_1 9 rfl rfl)
theorem dX2_gives_34 : decode cX2_gives 34 = .ok (.iastore, 1) := dk_79 (dk_at dksX2_gives_1 10 rfl rfl)
theorem dX2_gives_35 : decode cX2_gives 35 = .ok (.aload_n 0, 1) := dk_42 (dk_at dksX2_gives_1 11 rfl rfl)
theorem dX2_gives_36 : decode cX2_gives 36 = .ok (.getfield 20, 3) := dk_180 0 20 (dk_at dksX2_gives_1 12 rfl rfl)
theorem dX2_gives_39 : decode cX2_gives 39 = .ok (.iconst 2, 1) := dk_5 (dk_at dksX2_gives_1 15 rfl rfl)
theorem dX2_gives_40 : decode cX2_gives 40 = .ok (.iload_n 2, 1) := dk_28 (dk_at dksX2_gives_1 16 rfl rfl)
theorem dX2_gives_41 : decode cX2_gives 41 = .ok (.imul, 1) := dk_104 (dk_at dksX2_gives_1 17 rfl rfl)
theorem dX2_gives_42 : decode cX2_gives 42 = .ok (.iaload, 1) := dk_46 (dk_at dksX2_gives_1 18 rfl rfl)
theorem dX2_gives_43 : decode cX2_gives 43 = .ok (.aload_n 0, 1) := dk_42 (dk_at dksX2_gives_1 19 rfl rfl)
theorem dX2_gives_44 : decode cX2_gives 44 = .ok (.getfield 26, 3) := dk_180 0 26 (dk_at dksX2_gives_1 20 rfl rfl)
theorem dX2_gives_47 : decode cX2_gives 47 = .ok (.iload_n 2, 1) := dk_28 (dk_at dksX2_gives_1 23 rfl rfl)
theorem dX2_gives_48 : decode cX2_gives 48 = .ok (.iaload, 1) := dk_46 (dk_at dksX2_gives_2 0 rfl rfl)
theorem dX2_gives_49 : decode cX2_gives 49 = .ok (.if_icmp .ge 22, 3) := dk_162 0 22 (dk_at dksX2_gives_2 1 rfl rfl)
theorem dX2_gives_52 : decode cX2_gives 52 = .ok (.aload_n 0, 1) := dk_42 (dk_at dksX2_gives_2 4 rfl rfl)
theorem dX2_gives_53 : decode cX2_gives 53 = .ok (.getfield 20, 3) := dk_180 0 20 (dk_at dksX2_gives_2 5 rfl rfl)
theorem dX2_gives_56 : decode cX2_gives 56 = .ok (.iconst 2, 1) := dk_5 (dk_at dksX2_gives_2 8 rfl rfl)
theorem dX2_gives_57 : decode cX2_gives 57 = .ok (.iload_n 2, 1) := dk_28 (dk_at dksX2_gives_2 9 rfl rfl)
theorem dX2_gives_58 : decode cX2_gives 58 = .ok (.imul, 1) := dk_104 (dk_at dksX2_gives_2 10 rfl rfl)
theorem dX2_gives_59 : decode cX2_gives 59 = .ok (.iconst 1, 1) := dk_4 (dk_at dksX2_gives_2 11 rfl rfl)
theorem dX2_gives_60 : decode cX2_gives 60 = .ok (.iadd, 1) := dk_96 (dk_at dksX2_gives_2 12 rfl rfl)
theorem dX2_gives_61 : decode cX2_gives 61 = .ok (.iaload, 1) := dk_46 (dk_at dksX2_gives_2 13 rfl rfl)
theorem dX2_gives_62 : decode cX2_gives 62 = .ok (.aload_n 0, 1) := dk_42 (dk_at dksX2_gives_2 14 rfl rfl)
theorem dX2_gives_63 : decode cX2_gives 63 = .ok (.getfield 26, 3) := dk_180 0 26 (dk_at dksX2_gives_2 15 rfl rfl)
theorem dX2_gives_66 : decode cX2_gives 66 = .ok (.iload_n 2, 1) := dk_28 (dk_at dksX2_gives_2 18 rfl rfl)
theorem dX2_gives_67 : decode cX2_gives 67 = .ok (.iaload, 1) := dk_46 (dk_at dksX2_gives_2 19 rfl rfl)
theorem dX2_gives_68 : decode cX2_gives 68 = .ok (.if_icmp .lt 7, 3) := dk_161 0 7 (dk_at dksX2_gives_2 20 rfl rfl)
theorem dX2_gives_71 : decode cX2_gives 71 = .ok (.iconst 1, 1) := dk_4 (dk_at dksX2_gives_2 23 rfl rfl)
theorem dX2_gives_72 : decode cX2_gives 72 = .ok (.goto 4, 3) := dk_167 0 4 (dk_at dksX2_gives_3 0 rfl rfl)
theorem dX2_gives_75 : decode cX2_gives 75 = .ok (.iconst 0, 1) := dk_3 (dk_at dksX2_gives_3 3 rfl rfl)
theorem dX2_gives_76 : decode cX2_gives 76 = .ok (.istore_n 3, 1) := dk_62 (dk_at dksX2_gives_3 4 rfl rfl)
theorem dX2_gives_77 : decode cX2_gives 77 = .ok (.aload_n 0, 1) := dk_42 (dk_at dksX2_gives_3 5 rfl rfl)
theorem dX2_gives_78 : decode cX2_gives 78 = .ok (.getfield 20, 3) := dk_180 0 20 (dk_at dksX2_gives_3 6 rfl rfl)
theorem dX2_gives_81 : decode cX2_gives 81 = .ok (.iconst 2, 1) := dk_5 (dk_at dksX2_gives_3 9 rfl rfl)
theorem dX2_gives_82 : decode cX2_gives 82 = .ok (.iload_n 2, 1) := dk_28 (dk_at dksX2_gives_3 10 rfl rfl)
theorem dX2_gives_83 : decode cX2_gives 83 = .ok (.imul, 1) := dk_104 (dk_at dksX2_gives_3 11 rfl rfl)
theorem dX2_gives_84 : decode cX2_gives 84 = .ok (.iaload, 1) := dk_46 (dk_at dksX2_gives_3 12 rfl rfl)
theorem dX2_gives_85 : decode cX2_gives 85 = .ok (.aload_n 0, 1) := dk_42 (dk_at dksX2_gives_3 13 rfl rfl)
theorem dX2_gives_86 : decode cX2_gives 86 = .ok (.getfield 20, 3) := dk_180 0 20 (dk_at dksX2_gives_3 14 rfl rfl)
theorem dX2_gives_89 : decode cX2_gives 89 = .ok (.iconst 2, 1) := dk_5 (dk_at dksX2_gives_3 17 rfl rfl)
theorem dX2_gives_90 : decode cX2_gives 90 = .ok (.iload_n 2, 1) := dk_28 (dk_at dksX2_gives_3 18 rfl rfl)
theorem dX2_gives_91 : decode cX2_gives 91 = .ok (.imul, 1) := dk_104 (dk_at dksX2_gives_3 19 rfl rfl)
theorem dX2_gives_92 : decode cX2_gives 92 = .ok (.iconst 1, 1) := dk_4 (dk_at dksX2_gives_3 20 rfl rfl)
theorem dX2_gives_93 : decode cX2_gives 93 = .ok (.iadd, 1) := dk_96 (dk_at dksX2_gives_3 21 rfl rfl)
theorem dX2_gives_94 : decode cX2_gives 94 = .ok (.iaload, 1) := dk_46 (dk_at dksX2_gives_3 22 rfl rfl)
theorem dX2_gives_95 : decode cX2_gives 95 = .ok (.if_icmp .eq 7, 3) := dk_159 0 7 (dk_at dksX2_gives_4 0 rfl rfl)
theorem dX2_gives_98 : decode cX2_gives 98 = .ok (.iconst 1, 1) := dk_4 (dk_at dksX2_gives_4 3 rfl rfl)
theorem dX2_gives_99 : decode cX2_gives 99 = .ok (.goto 4, 3) := dk_167 0 4 (dk_at dksX2_gives_4 4 rfl rfl)
theorem dX2_gives_102 : decode cX2_gives 102 = .ok (.iconst 0, 1) := dk_3 (dk_at dksX2_gives_4 7 rfl rfl)
theorem dX2_gives_103 : decode cX2_gives 103 = .ok (.istore 4, 2) := dk_54 4 (dk_at dksX2_gives_4 8 rfl rfl)
theorem dX2_gives_105 : decode cX2_gives 105 = .ok (.iload_n 1, 1) := dk_27 (dk_at dksX2_gives_4 10 rfl rfl)
theorem dX2_gives_106 : decode cX2_gives 106 = .ok (.ifCond .le 30, 3) := dk_158 0 30 (dk_at dksX2_gives_4 11 rfl rfl)
theorem dX2_gives_109 : decode cX2_gives 109 = .ok (.iload_n 3, 1) := dk_29 (dk_at dksX2_gives_4 14 rfl rfl)
theorem dX2_gives_110 : decode cX2_gives 110 = .ok (.ifCond .ne 18, 3) := dk_154 0 18 (dk_at dksX2_gives_4 15 rfl rfl)
theorem dX2_gives_113 : decode cX2_gives 113 = .ok (.aload_n 0, 1) := dk_42 (dk_at dksX2_gives_4 18 rfl rfl)
theorem dX2_gives_114 : decode cX2_gives 114 = .ok (.getfield 41, 3) := dk_180 0 41 (dk_at dksX2_gives_4 19 rfl rfl)
theorem dX2_gives_117 : decode cX2_gives 117 = .ok (.iload_n 2, 1) := dk_28 (dk_at dksX2_gives_4 22 rfl rfl)
theorem dX2_gives_118 : decode cX2_gives 118 = .ok (.iaload, 1) := dk_46 (dk_at dksX2_gives_4 23 rfl rfl)
theorem dX2_gives_119 : decode cX2_gives 119 = .ok (.iconst (-1), 1) := dk_2 (dk_at dksX2_gives_5 0 rfl rfl)
theorem dX2_gives_120 : decode cX2_gives 120 = .ok (.if_icmp .eq 16, 3) := dk_159 0 16 (dk_at dksX2_gives_5 1 rfl rfl)
theorem dX2_gives_123 : decode cX2_gives 123 = .ok (.iload 4, 2) := dk_21 4 (dk_at dksX2_gives_5 4 rfl rfl)
theorem dX2_gives_125 : decode cX2_gives 125 = .ok (.ifCond .eq 11, 3) := dk_153 0 11 (dk_at dksX2_gives_5 6 rfl rfl)
theorem dX2_gives_128 : decode cX2_gives 128 = .ok (.aload_n 0, 1) := dk_42 (dk_at dksX2_gives_5 9 rfl rfl)
theorem dX2_gives_129 : decode cX2_gives 129 = .ok (.aload_n 0, 1) := dk_42 (dk_at dksX2_gives_5 10 rfl rfl)
theorem dX2_gives_130 : decode cX2_gives 130 = .ok (.invokevirtual 135, 3) := dk_182 0 135 (dk_at dksX2_gives_5 11 rfl rfl)
theorem dX2_gives_133 : decode cX2_gives 133 = .ok (.invokevirtual 139, 3) := dk_182 0 139 (dk_at dksX2_gives_5 14 rfl rfl)
theorem dX2_gives_136 : decode cX2_gives 136 = .ok (.return_, 1) := dk_177 (dk_at dksX2_gives_5 17 rfl rfl)
abbrev cX2_ahead : ByteArray := prog_13_method_19_code
def yX2_ahead : MethodName := ⟨RX2, "ahead", "()I"⟩
def dkwX2_ahead_2 : List UInt8 := [46, 42, 180, 0, 16, 5, 27, 104, 4, 96, 46, 162, 0, 7, 3, 167, 0, 4, 4, 172]
abbrev dktX2_ahead_2 : List UInt8 := dkwX2_ahead_2 ++ []
def dkwX2_ahead_1 : List UInt8 := [61, 28, 158, 0, 7, 3, 167, 0, 37, 28, 156, 0, 7, 4, 167, 0, 29, 42, 180, 0, 16, 5, 27, 104]
abbrev dktX2_ahead_1 : List UInt8 := dkwX2_ahead_1 ++ dktX2_ahead_2
def dkwX2_ahead_0 : List UInt8 := [42, 180, 0, 13, 60, 42, 180, 0, 20, 5, 27, 104, 46, 42, 180, 0, 20, 5, 27, 104, 4, 96, 46, 100]
abbrev dktX2_ahead_0 : List UInt8 := dkwX2_ahead_0 ++ dktX2_ahead_1
theorem dksX2_ahead_0 : cX2_ahead.data.toList.drop 0 = dktX2_ahead_0 := by decide +kernel
theorem dksX2_ahead_1 : cX2_ahead.data.toList.drop 24 = dktX2_ahead_1 := dk_seg dksX2_ahead_0 24 rfl rfl
theorem dksX2_ahead_2 : cX2_ahead.data.toList.drop 48 = dktX2_ahead_2 := dk_seg dksX2_ahead_1 24 rfl rfl
theorem dX2_ahead_0 : decode cX2_ahead 0 = .ok (.aload_n 0, 1) := dk_42 (dk_at dksX2_ahead_0 0 rfl rfl)
theorem dX2_ahead_1 : decode cX2_ahead 1 = .ok (.getfield 13, 3) := dk_180 0 13 (dk_at dksX2_ahead_0 1 rfl rfl)
theorem dX2_ahead_4 : decode cX2_ahead 4 = .ok (.istore_n 1, 1) := dk_60 (dk_at dksX2_ahead_0 4 rfl rfl)
theorem dX2_ahead_5 : decode cX2_ahead 5 = .ok (.aload_n 0, 1) := dk_42 (dk_at dksX2_ahead_0 5 rfl rfl)
theorem dX2_ahead_6 : decode cX2_ahead 6 = .ok (.getfield 20, 3) := dk_180 0 20 (dk_at dksX2_ahead_0 6 rfl rfl)
theorem dX2_ahead_9 : decode cX2_ahead 9 = .ok (.iconst 2, 1) := dk_5 (dk_at dksX2_ahead_0 9 rfl rfl)
theorem dX2_ahead_10 : decode cX2_ahead 10 = .ok (.iload_n 1, 1) := dk_27 (dk_at dksX2_ahead_0 10 rfl rfl)
theorem dX2_ahead_11 : decode cX2_ahead 11 = .ok (.imul, 1) := dk_104 (dk_at dksX2_ahead_0 11 rfl rfl)
theorem dX2_ahead_12 : decode cX2_ahead 12 = .ok (.iaload, 1) := dk_46 (dk_at dksX2_ahead_0 12 rfl rfl)
theorem dX2_ahead_13 : decode cX2_ahead 13 = .ok (.aload_n 0, 1) := dk_42 (dk_at dksX2_ahead_0 13 rfl rfl)
theorem dX2_ahead_14 : decode cX2_ahead 14 = .ok (.getfield 20, 3) := dk_180 0 20 (dk_at dksX2_ahead_0 14 rfl rfl)
theorem dX2_ahead_17 : decode cX2_ahead 17 = .ok (.iconst 2, 1) := dk_5 (dk_at dksX2_ahead_0 17 rfl rfl)
theorem dX2_ahead_18 : decode cX2_ahead 18 = .ok (.iload_n 1, 1) := dk_27 (dk_at dksX2_ahead_0 18 rfl rfl)
theorem dX2_ahead_19 : decode cX2_ahead 19 = .ok (.imul, 1) := dk_104 (dk_at dksX2_ahead_0 19 rfl rfl)
theorem dX2_ahead_20 : decode cX2_ahead 20 = .ok (.iconst 1, 1) := dk_4 (dk_at dksX2_ahead_0 20 rfl rfl)
theorem dX2_ahead_21 : decode cX2_ahead 21 = .ok (.iadd, 1) := dk_96 (dk_at dksX2_ahead_0 21 rfl rfl)
theorem dX2_ahead_22 : decode cX2_ahead 22 = .ok (.iaload, 1) := dk_46 (dk_at dksX2_ahead_0 22 rfl rfl)
theorem dX2_ahead_23 : decode cX2_ahead 23 = .ok (.isub, 1) := dk_100 (dk_at dksX2_ahead_0 23 rfl rfl)
theorem dX2_ahead_24 : decode cX2_ahead 24 = .ok (.istore_n 2, 1) := dk_61 (dk_at dksX2_ahead_1 0 rfl rfl)
theorem dX2_ahead_25 : decode cX2_ahead 25 = .ok (.iload_n 2, 1) := dk_28 (dk_at dksX2_ahead_1 1 rfl rfl)
theorem dX2_ahead_26 : decode cX2_ahead 26 = .ok (.ifCond .le 7, 3) := dk_158 0 7 (dk_at dksX2_ahead_1 2 rfl rfl)
theorem dX2_ahead_29 : decode cX2_ahead 29 = .ok (.iconst 0, 1) := dk_3 (dk_at dksX2_ahead_1 5 rfl rfl)
theorem dX2_ahead_30 : decode cX2_ahead 30 = .ok (.goto 37, 3) := dk_167 0 37 (dk_at dksX2_ahead_1 6 rfl rfl)
theorem dX2_ahead_33 : decode cX2_ahead 33 = .ok (.iload_n 2, 1) := dk_28 (dk_at dksX2_ahead_1 9 rfl rfl)
theorem dX2_ahead_34 : decode cX2_ahead 34 = .ok (.ifCond .ge 7, 3) := dk_156 0 7 (dk_at dksX2_ahead_1 10 rfl rfl)
theorem dX2_ahead_37 : decode cX2_ahead 37 = .ok (.iconst 1, 1) := dk_4 (dk_at dksX2_ahead_1 13 rfl rfl)
theorem dX2_ahead_38 : decode cX2_ahead 38 = .ok (.goto 29, 3) := dk_167 0 29 (dk_at dksX2_ahead_1 14 rfl rfl)
theorem dX2_ahead_41 : decode cX2_ahead 41 = .ok (.aload_n 0, 1) := dk_42 (dk_at dksX2_ahead_1 17 rfl rfl)
theorem dX2_ahead_42 : decode cX2_ahead 42 = .ok (.getfield 16, 3) := dk_180 0 16 (dk_at dksX2_ahead_1 18 rfl rfl)
theorem dX2_ahead_45 : decode cX2_ahead 45 = .ok (.iconst 2, 1) := dk_5 (dk_at dksX2_ahead_1 21 rfl rfl)
theorem dX2_ahead_46 : decode cX2_ahead 46 = .ok (.iload_n 1, 1) := dk_27 (dk_at dksX2_ahead_1 22 rfl rfl)
theorem dX2_ahead_47 : decode cX2_ahead 47 = .ok (.imul, 1) := dk_104 (dk_at dksX2_ahead_1 23 rfl rfl)
theorem dX2_ahead_48 : decode cX2_ahead 48 = .ok (.iaload, 1) := dk_46 (dk_at dksX2_ahead_2 0 rfl rfl)
theorem dX2_ahead_49 : decode cX2_ahead 49 = .ok (.aload_n 0, 1) := dk_42 (dk_at dksX2_ahead_2 1 rfl rfl)
theorem dX2_ahead_50 : decode cX2_ahead 50 = .ok (.getfield 16, 3) := dk_180 0 16 (dk_at dksX2_ahead_2 2 rfl rfl)
theorem dX2_ahead_53 : decode cX2_ahead 53 = .ok (.iconst 2, 1) := dk_5 (dk_at dksX2_ahead_2 5 rfl rfl)
theorem dX2_ahead_54 : decode cX2_ahead 54 = .ok (.iload_n 1, 1) := dk_27 (dk_at dksX2_ahead_2 6 rfl rfl)
theorem dX2_ahead_55 : decode cX2_ahead 55 = .ok (.imul, 1) := dk_104 (dk_at dksX2_ahead_2 7 rfl rfl)
theorem dX2_ahead_56 : decode cX2_ahead 56 = .ok (.iconst 1, 1) := dk_4 (dk_at dksX2_ahead_2 8 rfl rfl)
theorem dX2_ahead_57 : decode cX2_ahead 57 = .ok (.iadd, 1) := dk_96 (dk_at dksX2_ahead_2 9 rfl rfl)
theorem dX2_ahead_58 : decode cX2_ahead 58 = .ok (.iaload, 1) := dk_46 (dk_at dksX2_ahead_2 10 rfl rfl)
theorem dX2_ahead_59 : decode cX2_ahead 59 = .ok (.if_icmp .ge 7, 3) := dk_162 0 7 (dk_at dksX2_ahead_2 11 rfl rfl)
theorem dX2_ahead_62 : decode cX2_ahead 62 = .ok (.iconst 0, 1) := dk_3 (dk_at dksX2_ahead_2 14 rfl rfl)
theorem dX2_ahead_63 : decode cX2_ahead 63 = .ok (.goto 4, 3) := dk_167 0 4 (dk_at dksX2_ahead_2 15 rfl rfl)
theorem dX2_ahead_66 : decode cX2_ahead 66 = .ok (.iconst 1, 1) := dk_4 (dk_at dksX2_ahead_2 18 rfl rfl)
theorem dX2_ahead_67 : decode cX2_ahead 67 = .ok (.ireturn, 1) := dk_172 (dk_at dksX2_ahead_2 19 rfl rfl)
abbrev cX2_ends : ByteArray := prog_13_method_18_code
def yX2_ends : MethodName := ⟨RX2, "ends", "(I)V"⟩
def dkwX2_ends_0 : List UInt8 := [42, 180, 0, 32, 42, 180, 0, 13, 27, 79, 42, 2, 181, 0, 13, 42, 3, 181, 0, 111, 177]
abbrev dktX2_ends_0 : List UInt8 := dkwX2_ends_0 ++ []
theorem dksX2_ends_0 : cX2_ends.data.toList.drop 0 = dktX2_ends_0 := by decide +kernel
theorem dX2_ends_0 : decode cX2_ends 0 = .ok (.aload_n 0, 1) := dk_42 (dk_at dksX2_ends_0 0 rfl rfl)
theorem dX2_ends_1 : decode cX2_ends 1 = .ok (.getfield 32, 3) := dk_180 0 32 (dk_at dksX2_ends_0 1 rfl rfl)
theorem dX2_ends_4 : decode cX2_ends 4 = .ok (.aload_n 0, 1) := dk_42 (dk_at dksX2_ends_0 4 rfl rfl)
theorem dX2_ends_5 : decode cX2_ends 5 = .ok (.getfield 13, 3) := dk_180 0 13 (dk_at dksX2_ends_0 5 rfl rfl)
theorem dX2_ends_8 : decode cX2_ends 8 = .ok (.iload_n 1, 1) := dk_27 (dk_at dksX2_ends_0 8 rfl rfl)
theorem dX2_ends_9 : decode cX2_ends 9 = .ok (.iastore, 1) := dk_79 (dk_at dksX2_ends_0 9 rfl rfl)
theorem dX2_ends_10 : decode cX2_ends 10 = .ok (.aload_n 0, 1) := dk_42 (dk_at dksX2_ends_0 10 rfl rfl)
theorem dX2_ends_11 : decode cX2_ends 11 = .ok (.iconst (-1), 1) := dk_2 (dk_at dksX2_ends_0 11 rfl rfl)
theorem dX2_ends_12 : decode cX2_ends 12 = .ok (.putfield 13, 3) := dk_181 0 13 (dk_at dksX2_ends_0 12 rfl rfl)
theorem dX2_ends_15 : decode cX2_ends 15 = .ok (.aload_n 0, 1) := dk_42 (dk_at dksX2_ends_0 15 rfl rfl)
theorem dX2_ends_16 : decode cX2_ends 16 = .ok (.iconst 0, 1) := dk_3 (dk_at dksX2_ends_0 16 rfl rfl)
theorem dX2_ends_17 : decode cX2_ends 17 = .ok (.putfield 111, 3) := dk_181 0 111 (dk_at dksX2_ends_0 17 rfl rfl)
theorem dX2_ends_20 : decode cX2_ends 20 = .ok (.return_, 1) := dk_177 (dk_at dksX2_ends_0 20 rfl rfl)
abbrev cX2_card : ByteArray := prog_13_method_23_code
def yX2_card : MethodName := ⟨RX2, "card", "(II)I"⟩
def dkwX2_card_6 : List UInt8 := [27, 100, 182, 0, 139, 29, 172]
abbrev dktX2_card_6 : List UInt8 := dkwX2_card_6 ++ []
def dkwX2_card_5 : List UInt8 := [42, 3, 181, 0, 108, 42, 4, 4, 27, 100, 120, 182, 0, 152, 167, 0, 15, 29, 6, 160, 0, 10, 42, 4]
abbrev dktX2_card_5 : List UInt8 := dkwX2_card_5 ++ dktX2_card_6
def dkwX2_card_4 : List UInt8 := [42, 180, 0, 47, 27, 92, 51, 28, 6, 160, 0, 7, 4, 167, 0, 4, 3, 128, 84, 29, 5, 160, 0, 20]
abbrev dktX2_card_4 : List UInt8 := dkwX2_card_4 ++ dktX2_card_5
def dkwX2_card_3 : List UInt8 := [180, 0, 47, 27, 51, 153, 0, 7, 6, 167, 0, 4, 5, 62, 42, 180, 0, 44, 27, 92, 46, 4, 96, 79]
abbrev dktX2_card_3 : List UInt8 := dkwX2_card_3 ++ dktX2_card_4
def dkwX2_card_2 : List UInt8 := [28, 4, 160, 0, 16, 42, 180, 0, 44, 27, 46, 154, 0, 7, 4, 167, 0, 22, 28, 6, 160, 0, 16, 42]
abbrev dktX2_card_2 : List UInt8 := dkwX2_card_2 ++ dktX2_card_3
def dkwX2_card_1 : List UInt8 := [180, 0, 13, 2, 160, 0, 7, 5, 167, 0, 4, 3, 181, 0, 81, 42, 180, 0, 81, 158, 0, 5, 3, 172]
abbrev dktX2_card_1 : List UInt8 := dkwX2_card_1 ++ dktX2_card_2
def dkwX2_card_0 : List UInt8 := [42, 27, 184, 0, 114, 153, 0, 12, 28, 4, 6, 184, 0, 87, 154, 0, 7, 4, 167, 0, 16, 42]
abbrev dktX2_card_0 : List UInt8 := dkwX2_card_0 ++ dktX2_card_1
theorem dksX2_card_0 : cX2_card.data.toList.drop 0 = dktX2_card_0 := by decide +kernel
theorem dksX2_card_1 : cX2_card.data.toList.drop 22 = dktX2_card_1 := dk_seg dksX2_card_0 22 rfl rfl
theorem dksX2_card_2 : cX2_card.data.toList.drop 46 = dktX2_card_2 := dk_seg dksX2_card_1 24 rfl rfl
theorem dksX2_card_3 : cX2_card.data.toList.drop 70 = dktX2_card_3 := dk_seg dksX2_card_2 24 rfl rfl
theorem dksX2_card_4 : cX2_card.data.toList.drop 94 = dktX2_card_4 := dk_seg dksX2_card_3 24 rfl rfl
theorem dksX2_card_5 : cX2_card.data.toList.drop 118 = dktX2_card_5 := dk_seg dksX2_card_4 24 rfl rfl
theorem dksX2_card_6 : cX2_card.data.toList.drop 142 = dktX2_card_6 := dk_seg dksX2_card_5 24 rfl rfl
theorem dX2_card_0 : decode cX2_card 0 = .ok (.aload_n 0, 1) := dk_42 (dk_at dksX2_card_0 0 rfl rfl)
theorem dX2_card_1 : decode cX2_card 1 = .ok (.iload_n 1, 1) := dk_27 (dk_at dksX2_card_0 1 rfl rfl)
theorem dX2_card_2 : decode cX2_card 2 = .ok (.invokestatic 114, 3) := dk_184 0 114 (dk_at dksX2_card_0 2 rfl rfl)
theorem dX2_card_5 : decode cX2_card 5 = .ok (.ifCond .eq 12, 3) := dk_153 0 12 (dk_at dksX2_card_0 5 rfl rfl)
theorem dX2_card_8 : decode cX2_card 8 = .ok (.iload_n 2, 1) := dk_28 (dk_at dksX2_card_0 8 rfl rfl)
theorem dX2_card_9 : decode cX2_card 9 = .ok (.iconst 1, 1) := dk_4 (dk_at dksX2_card_0 9 rfl rfl)
theorem dX2_card_10 : decode cX2_card 10 = .ok (.iconst 3, 1) := dk_6 (dk_at dksX2_card_0 10 rfl rfl)
theorem dX2_card_11 : decode cX2_card 11 = .ok (.invokestatic 87, 3) := dk_184 0 87 (dk_at dksX2_card_0 11 rfl rfl)
theorem dX2_card_14 : decode cX2_card 14 = .ok (.ifCond .ne 7, 3) := dk_154 0 7 (dk_at dksX2_card_0 14 rfl rfl)
theorem dX2_card_17 : decode cX2_card 17 = .ok (.iconst 1, 1) := dk_4 (dk_at dksX2_card_0 17 rfl rfl)
theorem dX2_card_18 : decode cX2_card 18 = .ok (.goto 16, 3) := dk_167 0 16 (dk_at dksX2_card_0 18 rfl rfl)
theorem dX2_card_21 : decode cX2_card 21 = .ok (.aload_n 0, 1) := dk_42 (dk_at dksX2_card_0 21 rfl rfl)
theorem dX2_card_22 : decode cX2_card 22 = .ok (.getfield 13, 3) := dk_180 0 13 (dk_at dksX2_card_1 0 rfl rfl)
theorem dX2_card_25 : decode cX2_card 25 = .ok (.iconst (-1), 1) := dk_2 (dk_at dksX2_card_1 3 rfl rfl)
theorem dX2_card_26 : decode cX2_card 26 = .ok (.if_icmp .ne 7, 3) := dk_160 0 7 (dk_at dksX2_card_1 4 rfl rfl)
theorem dX2_card_29 : decode cX2_card 29 = .ok (.iconst 2, 1) := dk_5 (dk_at dksX2_card_1 7 rfl rfl)
theorem dX2_card_30 : decode cX2_card 30 = .ok (.goto 4, 3) := dk_167 0 4 (dk_at dksX2_card_1 8 rfl rfl)
theorem dX2_card_33 : decode cX2_card 33 = .ok (.iconst 0, 1) := dk_3 (dk_at dksX2_card_1 11 rfl rfl)
theorem dX2_card_34 : decode cX2_card 34 = .ok (.putfield 81, 3) := dk_181 0 81 (dk_at dksX2_card_1 12 rfl rfl)
theorem dX2_card_37 : decode cX2_card 37 = .ok (.aload_n 0, 1) := dk_42 (dk_at dksX2_card_1 15 rfl rfl)
theorem dX2_card_38 : decode cX2_card 38 = .ok (.getfield 81, 3) := dk_180 0 81 (dk_at dksX2_card_1 16 rfl rfl)
theorem dX2_card_41 : decode cX2_card 41 = .ok (.ifCond .le 5, 3) := dk_158 0 5 (dk_at dksX2_card_1 19 rfl rfl)
theorem dX2_card_44 : decode cX2_card 44 = .ok (.iconst 0, 1) := dk_3 (dk_at dksX2_card_1 22 rfl rfl)
theorem dX2_card_45 : decode cX2_card 45 = .ok (.ireturn, 1) := dk_172 (dk_at dksX2_card_1 23 rfl rfl)
theorem dX2_card_46 : decode cX2_card 46 = .ok (.iload_n 2, 1) := dk_28 (dk_at dksX2_card_2 0 rfl rfl)
theorem dX2_card_47 : decode cX2_card 47 = .ok (.iconst 1, 1) := dk_4 (dk_at dksX2_card_2 1 rfl rfl)
theorem dX2_card_48 : decode cX2_card 48 = .ok (.if_icmp .ne 16, 3) := dk_160 0 16 (dk_at dksX2_card_2 2 rfl rfl)
theorem dX2_card_51 : decode cX2_card 51 = .ok (.aload_n 0, 1) := dk_42 (dk_at dksX2_card_2 5 rfl rfl)
theorem dX2_card_52 : decode cX2_card 52 = .ok (.getfield 44, 3) := dk_180 0 44 (dk_at dksX2_card_2 6 rfl rfl)
theorem dX2_card_55 : decode cX2_card 55 = .ok (.iload_n 1, 1) := dk_27 (dk_at dksX2_card_2 9 rfl rfl)
theorem dX2_card_56 : decode cX2_card 56 = .ok (.iaload, 1) := dk_46 (dk_at dksX2_card_2 10 rfl rfl)
theorem dX2_card_57 : decode cX2_card 57 = .ok (.ifCond .ne 7, 3) := dk_154 0 7 (dk_at dksX2_card_2 11 rfl rfl)
theorem dX2_card_60 : decode cX2_card 60 = .ok (.iconst 1, 1) := dk_4 (dk_at dksX2_card_2 14 rfl rfl)
theorem dX2_card_61 : decode cX2_card 61 = .ok (.goto 22, 3) := dk_167 0 22 (dk_at dksX2_card_2 15 rfl rfl)
theorem dX2_card_64 : decode cX2_card 64 = .ok (.iload_n 2, 1) := dk_28 (dk_at dksX2_card_2 18 rfl rfl)
theorem dX2_card_65 : decode cX2_card 65 = .ok (.iconst 3, 1) := dk_6 (dk_at dksX2_card_2 19 rfl rfl)
theorem dX2_card_66 : decode cX2_card 66 = .ok (.if_icmp .ne 16, 3) := dk_160 0 16 (dk_at dksX2_card_2 20 rfl rfl)
theorem dX2_card_69 : decode cX2_card 69 = .ok (.aload_n 0, 1) := dk_42 (dk_at dksX2_card_2 23 rfl rfl)
theorem dX2_card_70 : decode cX2_card 70 = .ok (.getfield 47, 3) := dk_180 0 47 (dk_at dksX2_card_3 0 rfl rfl)
theorem dX2_card_73 : decode cX2_card 73 = .ok (.iload_n 1, 1) := dk_27 (dk_at dksX2_card_3 3 rfl rfl)
theorem dX2_card_74 : decode cX2_card 74 = .ok (.baload, 1) := dk_51 (dk_at dksX2_card_3 4 rfl rfl)
theorem dX2_card_75 : decode cX2_card 75 = .ok (.ifCond .eq 7, 3) := dk_153 0 7 (dk_at dksX2_card_3 5 rfl rfl)
theorem dX2_card_78 : decode cX2_card 78 = .ok (.iconst 3, 1) := dk_6 (dk_at dksX2_card_3 8 rfl rfl)
theorem dX2_card_79 : decode cX2_card 79 = .ok (.goto 4, 3) := dk_167 0 4 (dk_at dksX2_card_3 9 rfl rfl)
theorem dX2_card_82 : decode cX2_card 82 = .ok (.iconst 2, 1) := dk_5 (dk_at dksX2_card_3 12 rfl rfl)
theorem dX2_card_83 : decode cX2_card 83 = .ok (.istore_n 3, 1) := dk_62 (dk_at dksX2_card_3 13 rfl rfl)
theorem dX2_card_84 : decode cX2_card 84 = .ok (.aload_n 0, 1) := dk_42 (dk_at dksX2_card_3 14 rfl rfl)
theorem dX2_card_85 : decode cX2_card 85 = .ok (.getfield 44, 3) := dk_180 0 44 (dk_at dksX2_card_3 15 rfl rfl)
theorem dX2_card_88 : decode cX2_card 88 = .ok (.iload_n 1, 1) := dk_27 (dk_at dksX2_card_3 18 rfl rfl)
theorem dX2_card_89 : decode cX2_card 89 = .ok (.dup2, 1) := dk_92 (dk_at dksX2_card_3 19 rfl rfl)
theorem dX2_card_90 : decode cX2_card 90 = .ok (.iaload, 1) := dk_46 (dk_at dksX2_card_3 20 rfl rfl)
theorem dX2_card_91 : decode cX2_card 91 = .ok (.iconst 1, 1) := dk_4 (dk_at dksX2_card_3 21 rfl rfl)
theorem dX2_card_92 : decode cX2_card 92 = .ok (.iadd, 1) := dk_96 (dk_at dksX2_card_3 22 rfl rfl)
theorem dX2_card_93 : decode cX2_card 93 = .ok (.iastore, 1) := dk_79 (dk_at dksX2_card_3 23 rfl rfl)
theorem dX2_card_94 : decode cX2_card 94 = .ok (.aload_n 0, 1) := dk_42 (dk_at dksX2_card_4 0 rfl rfl)
theorem dX2_card_95 : decode cX2_card 95 = .ok (.getfield 47, 3) := dk_180 0 47 (dk_at dksX2_card_4 1 rfl rfl)
theorem dX2_card_98 : decode cX2_card 98 = .ok (.iload_n 1, 1) := dk_27 (dk_at dksX2_card_4 4 rfl rfl)
theorem dX2_card_99 : decode cX2_card 99 = .ok (.dup2, 1) := dk_92 (dk_at dksX2_card_4 5 rfl rfl)
theorem dX2_card_100 : decode cX2_card 100 = .ok (.baload, 1) := dk_51 (dk_at dksX2_card_4 6 rfl rfl)
theorem dX2_card_101 : decode cX2_card 101 = .ok (.iload_n 2, 1) := dk_28 (dk_at dksX2_card_4 7 rfl rfl)
theorem dX2_card_102 : decode cX2_card 102 = .ok (.iconst 3, 1) := dk_6 (dk_at dksX2_card_4 8 rfl rfl)
theorem dX2_card_103 : decode cX2_card 103 = .ok (.if_icmp .ne 7, 3) := dk_160 0 7 (dk_at dksX2_card_4 9 rfl rfl)
theorem dX2_card_106 : decode cX2_card 106 = .ok (.iconst 1, 1) := dk_4 (dk_at dksX2_card_4 12 rfl rfl)
theorem dX2_card_107 : decode cX2_card 107 = .ok (.goto 4, 3) := dk_167 0 4 (dk_at dksX2_card_4 13 rfl rfl)
theorem dX2_card_110 : decode cX2_card 110 = .ok (.iconst 0, 1) := dk_3 (dk_at dksX2_card_4 16 rfl rfl)
theorem dX2_card_111 : decode cX2_card 111 = .ok (.ior, 1) := dk_128 (dk_at dksX2_card_4 17 rfl rfl)
theorem dX2_card_112 : decode cX2_card 112 = .ok (.bastore, 1) := dk_84 (dk_at dksX2_card_4 18 rfl rfl)
theorem dX2_card_113 : decode cX2_card 113 = .ok (.iload_n 3, 1) := dk_29 (dk_at dksX2_card_4 19 rfl rfl)
theorem dX2_card_114 : decode cX2_card 114 = .ok (.iconst 2, 1) := dk_5 (dk_at dksX2_card_4 20 rfl rfl)
theorem dX2_card_115 : decode cX2_card 115 = .ok (.if_icmp .ne 20, 3) := dk_160 0 20 (dk_at dksX2_card_4 21 rfl rfl)
theorem dX2_card_118 : decode cX2_card 118 = .ok (.aload_n 0, 1) := dk_42 (dk_at dksX2_card_5 0 rfl rfl)
theorem dX2_card_119 : decode cX2_card 119 = .ok (.iconst 0, 1) := dk_3 (dk_at dksX2_card_5 1 rfl rfl)
theorem dX2_card_120 : decode cX2_card 120 = .ok (.putfield 108, 3) := dk_181 0 108 (dk_at dksX2_card_5 2 rfl rfl)
theorem dX2_card_123 : decode cX2_card 123 = .ok (.aload_n 0, 1) := dk_42 (dk_at dksX2_card_5 5 rfl rfl)
theorem dX2_card_124 : decode cX2_card 124 = .ok (.iconst 1, 1) := dk_4 (dk_at dksX2_card_5 6 rfl rfl)
theorem dX2_card_125 : decode cX2_card 125 = .ok (.iconst 1, 1) := dk_4 (dk_at dksX2_card_5 7 rfl rfl)
theorem dX2_card_126 : decode cX2_card 126 = .ok (.iload_n 1, 1) := dk_27 (dk_at dksX2_card_5 8 rfl rfl)
theorem dX2_card_127 : decode cX2_card 127 = .ok (.isub, 1) := dk_100 (dk_at dksX2_card_5 9 rfl rfl)
theorem dX2_card_128 : decode cX2_card 128 = .ok (.ishl, 1) := dk_120 (dk_at dksX2_card_5 10 rfl rfl)
theorem dX2_card_129 : decode cX2_card 129 = .ok (.invokevirtual 152, 3) := dk_182 0 152 (dk_at dksX2_card_5 11 rfl rfl)
theorem dX2_card_132 : decode cX2_card 132 = .ok (.goto 15, 3) := dk_167 0 15 (dk_at dksX2_card_5 14 rfl rfl)
theorem dX2_card_135 : decode cX2_card 135 = .ok (.iload_n 3, 1) := dk_29 (dk_at dksX2_card_5 17 rfl rfl)
theorem dX2_card_136 : decode cX2_card 136 = .ok (.iconst 3, 1) := dk_6 (dk_at dksX2_card_5 18 rfl rfl)
theorem dX2_card_137 : decode cX2_card 137 = .ok (.if_icmp .ne 10, 3) := dk_160 0 10 (dk_at dksX2_card_5 19 rfl rfl)
theorem dX2_card_140 : decode cX2_card 140 = .ok (.aload_n 0, 1) := dk_42 (dk_at dksX2_card_5 22 rfl rfl)
theorem dX2_card_141 : decode cX2_card 141 = .ok (.iconst 1, 1) := dk_4 (dk_at dksX2_card_5 23 rfl rfl)
theorem dX2_card_142 : decode cX2_card 142 = .ok (.iload_n 1, 1) := dk_27 (dk_at dksX2_card_6 0 rfl rfl)
theorem dX2_card_143 : decode cX2_card 143 = .ok (.isub, 1) := dk_100 (dk_at dksX2_card_6 1 rfl rfl)
theorem dX2_card_144 : decode cX2_card 144 = .ok (.invokevirtual 139, 3) := dk_182 0 139 (dk_at dksX2_card_6 2 rfl rfl)
theorem dX2_card_147 : decode cX2_card 147 = .ok (.iload_n 3, 1) := dk_29 (dk_at dksX2_card_6 5 rfl rfl)
theorem dX2_card_148 : decode cX2_card 148 = .ok (.ireturn, 1) := dk_172 (dk_at dksX2_card_6 6 rfl rfl)
abbrev cX2_clock : ByteArray := prog_13_method_26_code
def yX2_clock : MethodName := ⟨RX2, "clock", "(I)I"⟩
def dkwX2_clock_4 : List UInt8 := [167, 0, 6, 17, 0, 240, 42, 180, 0, 35, 42, 180, 0, 13, 46, 100, 172]
abbrev dktX2_clock_4 : List UInt8 := dkwX2_clock_4 ++ []
def dkwX2_clock_3 : List UInt8 := [160, 0, 7, 3, 167, 0, 35, 42, 180, 0, 41, 42, 180, 0, 13, 46, 2, 160, 0, 9, 17, 0, 180]
abbrev dktX2_clock_3 : List UInt8 := dkwX2_clock_3 ++ dktX2_clock_4
def dkwX2_clock_2 : List UInt8 := [42, 180, 0, 13, 2, 159, 0, 13, 42, 182, 0, 173, 132, 2, 1, 167, 255, 236, 42, 180, 0, 13, 2]
abbrev dktX2_clock_2 : List UInt8 := dkwX2_clock_2 ++ dktX2_clock_3
def dkwX2_clock_1 : List UInt8 := [5, 167, 0, 4, 3, 181, 0, 81, 42, 180, 0, 81, 158, 0, 5, 3, 172, 3, 61, 28, 27, 162, 0, 21]
abbrev dktX2_clock_1 : List UInt8 := dkwX2_clock_1 ++ dktX2_clock_2
def dkwX2_clock_0 : List UInt8 := [42, 27, 4, 17, 0, 240, 184, 0, 87, 154, 0, 7, 4, 167, 0, 16, 42, 180, 0, 13, 2, 160, 0, 7]
abbrev dktX2_clock_0 : List UInt8 := dkwX2_clock_0 ++ dktX2_clock_1
theorem dksX2_clock_0 : cX2_clock.data.toList.drop 0 = dktX2_clock_0 := by decide +kernel
theorem dksX2_clock_1 : cX2_clock.data.toList.drop 24 = dktX2_clock_1 := dk_seg dksX2_clock_0 24 rfl rfl
theorem dksX2_clock_2 : cX2_clock.data.toList.drop 48 = dktX2_clock_2 := dk_seg dksX2_clock_1 24 rfl rfl
theorem dksX2_clock_3 : cX2_clock.data.toList.drop 71 = dktX2_clock_3 := dk_seg dksX2_clock_2 23 rfl rfl
theorem dksX2_clock_4 : cX2_clock.data.toList.drop 94 = dktX2_clock_4 := dk_seg dksX2_clock_3 23 rfl rfl
theorem dX2_clock_0 : decode cX2_clock 0 = .ok (.aload_n 0, 1) := dk_42 (dk_at dksX2_clock_0 0 rfl rfl)
theorem dX2_clock_1 : decode cX2_clock 1 = .ok (.iload_n 1, 1) := dk_27 (dk_at dksX2_clock_0 1 rfl rfl)
theorem dX2_clock_2 : decode cX2_clock 2 = .ok (.iconst 1, 1) := dk_4 (dk_at dksX2_clock_0 2 rfl rfl)
theorem dX2_clock_3 : decode cX2_clock 3 = .ok (.sipush 240, 3) := dk_17 0 240 (dk_at dksX2_clock_0 3 rfl rfl)
theorem dX2_clock_6 : decode cX2_clock 6 = .ok (.invokestatic 87, 3) := dk_184 0 87 (dk_at dksX2_clock_0 6 rfl rfl)
theorem dX2_clock_9 : decode cX2_clock 9 = .ok (.ifCond .ne 7, 3) := dk_154 0 7 (dk_at dksX2_clock_0 9 rfl rfl)
theorem dX2_clock_12 : decode cX2_clock 12 = .ok (.iconst 1, 1) := dk_4 (dk_at dksX2_clock_0 12 rfl rfl)
theorem dX2_clock_13 : decode cX2_clock 13 = .ok (.goto 16, 3) := dk_167 0 16 (dk_at dksX2_clock_0 13 rfl rfl)
theorem dX2_clock_16 : decode cX2_clock 16 = .ok (.aload_n 0, 1) := dk_42 (dk_at dksX2_clock_0 16 rfl rfl)
theorem dX2_clock_17 : decode cX2_clock 17 = .ok (.getfield 13, 3) := dk_180 0 13 (dk_at dksX2_clock_0 17 rfl rfl)
theorem dX2_clock_20 : decode cX2_clock 20 = .ok (.iconst (-1), 1) := dk_2 (dk_at dksX2_clock_0 20 rfl rfl)
theorem dX2_clock_21 : decode cX2_clock 21 = .ok (.if_icmp .ne 7, 3) := dk_160 0 7 (dk_at dksX2_clock_0 21 rfl rfl)
theorem dX2_clock_24 : decode cX2_clock 24 = .ok (.iconst 2, 1) := dk_5 (dk_at dksX2_clock_1 0 rfl rfl)
theorem dX2_clock_25 : decode cX2_clock 25 = .ok (.goto 4, 3) := dk_167 0 4 (dk_at dksX2_clock_1 1 rfl rfl)
theorem dX2_clock_28 : decode cX2_clock 28 = .ok (.iconst 0, 1) := dk_3 (dk_at dksX2_clock_1 4 rfl rfl)
theorem dX2_clock_29 : decode cX2_clock 29 = .ok (.putfield 81, 3) := dk_181 0 81 (dk_at dksX2_clock_1 5 rfl rfl)
theorem dX2_clock_32 : decode cX2_clock 32 = .ok (.aload_n 0, 1) := dk_42 (dk_at dksX2_clock_1 8 rfl rfl)
theorem dX2_clock_33 : decode cX2_clock 33 = .ok (.getfield 81, 3) := dk_180 0 81 (dk_at dksX2_clock_1 9 rfl rfl)
theorem dX2_clock_36 : decode cX2_clock 36 = .ok (.ifCond .le 5, 3) := dk_158 0 5 (dk_at dksX2_clock_1 12 rfl rfl)
theorem dX2_clock_39 : decode cX2_clock 39 = .ok (.iconst 0, 1) := dk_3 (dk_at dksX2_clock_1 15 rfl rfl)
theorem dX2_clock_40 : decode cX2_clock 40 = .ok (.ireturn, 1) := dk_172 (dk_at dksX2_clock_1 16 rfl rfl)
theorem dX2_clock_41 : decode cX2_clock 41 = .ok (.iconst 0, 1) := dk_3 (dk_at dksX2_clock_1 17 rfl rfl)
theorem dX2_clock_42 : decode cX2_clock 42 = .ok (.istore_n 2, 1) := dk_61 (dk_at dksX2_clock_1 18 rfl rfl)
theorem dX2_clock_43 : decode cX2_clock 43 = .ok (.iload_n 2, 1) := dk_28 (dk_at dksX2_clock_1 19 rfl rfl)
theorem dX2_clock_44 : decode cX2_clock 44 = .ok (.iload_n 1, 1) := dk_27 (dk_at dksX2_clock_1 20 rfl rfl)
theorem dX2_clock_45 : decode cX2_clock 45 = .ok (.if_icmp .ge 21, 3) := dk_162 0 21 (dk_at dksX2_clock_1 21 rfl rfl)
theorem dX2_clock_48 : decode cX2_clock 48 = .ok (.aload_n 0, 1) := dk_42 (dk_at dksX2_clock_2 0 rfl rfl)
theorem dX2_clock_49 : decode cX2_clock 49 = .ok (.getfield 13, 3) := dk_180 0 13 (dk_at dksX2_clock_2 1 rfl rfl)
theorem dX2_clock_52 : decode cX2_clock 52 = .ok (.iconst (-1), 1) := dk_2 (dk_at dksX2_clock_2 4 rfl rfl)
theorem dX2_clock_53 : decode cX2_clock 53 = .ok (.if_icmp .eq 13, 3) := dk_159 0 13 (dk_at dksX2_clock_2 5 rfl rfl)
theorem dX2_clock_56 : decode cX2_clock 56 = .ok (.aload_n 0, 1) := dk_42 (dk_at dksX2_clock_2 8 rfl rfl)
theorem dX2_clock_57 : decode cX2_clock 57 = .ok (.invokevirtual 173, 3) := dk_182 0 173 (dk_at dksX2_clock_2 9 rfl rfl)
theorem dX2_clock_60 : decode cX2_clock 60 = .ok (.iinc 2 1, 3) := dk_132 2 1 (dk_at dksX2_clock_2 12 rfl rfl)
theorem dX2_clock_63 : decode cX2_clock 63 = .ok (.goto (-20), 3) := dk_167 255 236 (dk_at dksX2_clock_2 15 rfl rfl)
theorem dX2_clock_66 : decode cX2_clock 66 = .ok (.aload_n 0, 1) := dk_42 (dk_at dksX2_clock_2 18 rfl rfl)
theorem dX2_clock_67 : decode cX2_clock 67 = .ok (.getfield 13, 3) := dk_180 0 13 (dk_at dksX2_clock_2 19 rfl rfl)
theorem dX2_clock_70 : decode cX2_clock 70 = .ok (.iconst (-1), 1) := dk_2 (dk_at dksX2_clock_2 22 rfl rfl)
theorem dX2_clock_71 : decode cX2_clock 71 = .ok (.if_icmp .ne 7, 3) := dk_160 0 7 (dk_at dksX2_clock_3 0 rfl rfl)
theorem dX2_clock_74 : decode cX2_clock 74 = .ok (.iconst 0, 1) := dk_3 (dk_at dksX2_clock_3 3 rfl rfl)
theorem dX2_clock_75 : decode cX2_clock 75 = .ok (.goto 35, 3) := dk_167 0 35 (dk_at dksX2_clock_3 4 rfl rfl)
theorem dX2_clock_78 : decode cX2_clock 78 = .ok (.aload_n 0, 1) := dk_42 (dk_at dksX2_clock_3 7 rfl rfl)
theorem dX2_clock_79 : decode cX2_clock 79 = .ok (.getfield 41, 3) := dk_180 0 41 (dk_at dksX2_clock_3 8 rfl rfl)
theorem dX2_clock_82 : decode cX2_clock 82 = .ok (.aload_n 0, 1) := dk_42 (dk_at dksX2_clock_3 11 rfl rfl)
theorem dX2_clock_83 : decode cX2_clock 83 = .ok (.getfield 13, 3) := dk_180 0 13 (dk_at dksX2_clock_3 12 rfl rfl)
theorem dX2_clock_86 : decode cX2_clock 86 = .ok (.iaload, 1) := dk_46 (dk_at dksX2_clock_3 15 rfl rfl)
theorem dX2_clock_87 : decode cX2_clock 87 = .ok (.iconst (-1), 1) := dk_2 (dk_at dksX2_clock_3 16 rfl rfl)
theorem dX2_clock_88 : decode cX2_clock 88 = .ok (.if_icmp .ne 9, 3) := dk_160 0 9 (dk_at dksX2_clock_3 17 rfl rfl)
theorem dX2_clock_91 : decode cX2_clock 91 = .ok (.sipush 180, 3) := dk_17 0 180 (dk_at dksX2_clock_3 20 rfl rfl)
theorem dX2_clock_94 : decode cX2_clock 94 = .ok (.goto 6, 3) := dk_167 0 6 (dk_at dksX2_clock_4 0 rfl rfl)
theorem dX2_clock_97 : decode cX2_clock 97 = .ok (.sipush 240, 3) := dk_17 0 240 (dk_at dksX2_clock_4 3 rfl rfl)
theorem dX2_clock_100 : decode cX2_clock 100 = .ok (.aload_n 0, 1) := dk_42 (dk_at dksX2_clock_4 6 rfl rfl)
theorem dX2_clock_101 : decode cX2_clock 101 = .ok (.getfield 35, 3) := dk_180 0 35 (dk_at dksX2_clock_4 7 rfl rfl)
theorem dX2_clock_104 : decode cX2_clock 104 = .ok (.aload_n 0, 1) := dk_42 (dk_at dksX2_clock_4 10 rfl rfl)
theorem dX2_clock_105 : decode cX2_clock 105 = .ok (.getfield 13, 3) := dk_180 0 13 (dk_at dksX2_clock_4 11 rfl rfl)
theorem dX2_clock_108 : decode cX2_clock 108 = .ok (.iaload, 1) := dk_46 (dk_at dksX2_clock_4 14 rfl rfl)
theorem dX2_clock_109 : decode cX2_clock 109 = .ok (.isub, 1) := dk_100 (dk_at dksX2_clock_4 15 rfl rfl)
theorem dX2_clock_110 : decode cX2_clock 110 = .ok (.ireturn, 1) := dk_172 (dk_at dksX2_clock_4 16 rfl rfl)
abbrev cX2_second : ByteArray := prog_13_method_25_code
def yX2_second : MethodName := ⟨RX2, "second", "()V"⟩
def dkwX2_second_8 : List UInt8 := [180, 0, 41, 27, 46, 182, 0, 139, 177]
abbrev dktX2_second_8 : List UInt8 := dkwX2_second_8 ++ []
def dkwX2_second_7 : List UInt8 := [20, 0, 171, 113, 136, 79, 167, 0, 25, 42, 180, 0, 35, 27, 46, 17, 0, 240, 160, 0, 13, 42, 42]
abbrev dktX2_second_7 : List UInt8 := dkwX2_second_7 ++ dktX2_second_8
def dkwX2_second_6 : List UInt8 := [42, 42, 180, 0, 161, 184, 0, 165, 181, 0, 161, 42, 180, 0, 41, 27, 42, 180, 0, 161, 20, 0, 169, 109]
abbrev dktX2_second_6 : List UInt8 := dkwX2_second_6 ++ dktX2_second_7
def dkwX2_second_5 : List UInt8 := [42, 180, 0, 20, 5, 27, 104, 4, 96, 46, 159, 0, 14, 42, 42, 182, 0, 135, 182, 0, 139, 167, 0, 58]
abbrev dktX2_second_5 : List UInt8 := dkwX2_second_5 ++ dktX2_second_6
def dkwX2_second_4 : List UInt8 := [160, 0, 4, 177, 42, 180, 0, 35, 27, 46, 17, 0, 180, 160, 0, 68, 42, 180, 0, 20, 5, 27, 104, 46]
abbrev dktX2_second_4 : List UInt8 := dkwX2_second_4 ++ dktX2_second_5
def dkwX2_second_3 : List UInt8 := [180, 0, 38, 27, 46, 6, 160, 0, 11, 42, 42, 182, 0, 135, 182, 0, 139, 42, 180, 0, 13, 2]
abbrev dktX2_second_3 : List UInt8 := dkwX2_second_3 ++ dktX2_second_4
def dkwX2_second_2 : List UInt8 := [4, 96, 79, 42, 180, 0, 38, 27, 46, 5, 160, 0, 11, 42, 6, 182, 0, 152, 167, 0, 21, 42]
abbrev dktX2_second_2 : List UInt8 := dkwX2_second_2 ++ dktX2_second_3
def dkwX2_second_1 : List UInt8 := [181, 0, 108, 42, 180, 0, 108, 16, 60, 160, 0, 54, 42, 3, 181, 0, 108, 42, 180, 0, 38, 27, 92, 46]
abbrev dktX2_second_1 : List UInt8 := dkwX2_second_1 ++ dktX2_second_2
def dkwX2_second_0 : List UInt8 := [42, 180, 0, 13, 60, 42, 180, 0, 35, 27, 92, 46, 4, 96, 79, 42, 89, 180, 0, 108, 4, 96]
abbrev dktX2_second_0 : List UInt8 := dkwX2_second_0 ++ dktX2_second_1
theorem dksX2_second_0 : cX2_second.data.toList.drop 0 = dktX2_second_0 := by decide +kernel
theorem dksX2_second_1 : cX2_second.data.toList.drop 22 = dktX2_second_1 := dk_seg dksX2_second_0 22 rfl rfl
theorem dksX2_second_2 : cX2_second.data.toList.drop 46 = dktX2_second_2 := dk_seg dksX2_second_1 24 rfl rfl
theorem dksX2_second_3 : cX2_second.data.toList.drop 68 = dktX2_second_3 := dk_seg dksX2_second_2 22 rfl rfl
theorem dksX2_second_4 : cX2_second.data.toList.drop 90 = dktX2_second_4 := dk_seg dksX2_second_3 22 rfl rfl
theorem dksX2_second_5 : cX2_second.data.toList.drop 114 = dktX2_second_5 := dk_seg dksX2_second_4 24 rfl rfl
theorem dksX2_second_6 : cX2_second.data.toList.drop 138 = dktX2_second_6 := dk_seg dksX2_second_5 24 rfl rfl
theorem dksX2_second_7 : cX2_second.data.toList.drop 162 = dktX2_second_7 := dk_seg dksX2_second_6 24 rfl rfl
theorem dksX2_second_8 : cX2_second.data.toList.drop 185 = dktX2_second_8 := dk_seg dksX2_second_7 23 rfl rfl
theorem dX2_second_0 : decode cX2_second 0 = .ok (.aload_n 0, 1) := dk_42 (dk_at dksX2_second_0 0 rfl rfl)
theorem dX2_second_1 : decode cX2_second 1 = .ok (.getfield 13, 3) := dk_180 0 13 (dk_at dksX2_second_0 1 rfl rfl)
theorem dX2_second_4 : decode cX2_second 4 = .ok (.istore_n 1, 1) := dk_60 (dk_at dksX2_second_0 4 rfl rfl)
theorem dX2_second_5 : decode cX2_second 5 = .ok (.aload_n 0, 1) := dk_42 (dk_at dksX2_second_0 5 rfl rfl)
theorem dX2_second_6 : decode cX2_second 6 = .ok (.getfield 35, 3) := dk_180 0 35 (dk_at dksX2_second_0 6 rfl rfl)
theorem dX2_second_9 : decode cX2_second 9 = .ok (.iload_n 1, 1) := dk_27 (dk_at dksX2_second_0 9 rfl rfl)
theorem dX2_second_10 : decode cX2_second 10 = .ok (.dup2, 1) := dk_92 (dk_at dksX2_second_0 10 rfl rfl)
theorem dX2_second_11 : decode cX2_second 11 = .ok (.iaload, 1) := dk_46 (dk_at dksX2_second_0 11 rfl rfl)
theorem dX2_second_12 : decode cX2_second 12 = .ok (.iconst 1, 1) := dk_4 (dk_at dksX2_second_0 12 rfl rfl)
theorem dX2_second_13 : decode cX2_second 13 = .ok (.iadd, 1) := dk_96 (dk_at dksX2_second_0 13 rfl rfl)
theorem dX2_second_14 : decode cX2_second 14 = .ok (.iastore, 1) := dk_79 (dk_at dksX2_second_0 14 rfl rfl)
theorem dX2_second_15 : decode cX2_second 15 = .ok (.aload_n 0, 1) := dk_42 (dk_at dksX2_second_0 15 rfl rfl)
theorem dX2_second_16 : decode cX2_second 16 = .ok (.dup, 1) := dk_89 (dk_at dksX2_second_0 16 rfl rfl)
theorem dX2_second_17 : decode cX2_second 17 = .ok (.getfield 108, 3) := dk_180 0 108 (dk_at dksX2_second_0 17 rfl rfl)
theorem dX2_second_20 : decode cX2_second 20 = .ok (.iconst 1, 1) := dk_4 (dk_at dksX2_second_0 20 rfl rfl)
theorem dX2_second_21 : decode cX2_second 21 = .ok (.iadd, 1) := dk_96 (dk_at dksX2_second_0 21 rfl rfl)
theorem dX2_second_22 : decode cX2_second 22 = .ok (.putfield 108, 3) := dk_181 0 108 (dk_at dksX2_second_1 0 rfl rfl)
theorem dX2_second_25 : decode cX2_second 25 = .ok (.aload_n 0, 1) := dk_42 (dk_at dksX2_second_1 3 rfl rfl)
theorem dX2_second_26 : decode cX2_second 26 = .ok (.getfield 108, 3) := dk_180 0 108 (dk_at dksX2_second_1 4 rfl rfl)
theorem dX2_second_29 : decode cX2_second 29 = .ok (.bipush 60, 2) := dk_16 60 (dk_at dksX2_second_1 7 rfl rfl)
theorem dX2_second_31 : decode cX2_second 31 = .ok (.if_icmp .ne 54, 3) := dk_160 0 54 (dk_at dksX2_second_1 9 rfl rfl)
theorem dX2_second_34 : decode cX2_second 34 = .ok (.aload_n 0, 1) := dk_42 (dk_at dksX2_second_1 12 rfl rfl)
theorem dX2_second_35 : decode cX2_second 35 = .ok (.iconst 0, 1) := dk_3 (dk_at dksX2_second_1 13 rfl rfl)
theorem dX2_second_36 : decode cX2_second 36 = .ok (.putfield 108, 3) := dk_181 0 108 (dk_at dksX2_second_1 14 rfl rfl)
theorem dX2_second_39 : decode cX2_second 39 = .ok (.aload_n 0, 1) := dk_42 (dk_at dksX2_second_1 17 rfl rfl)
theorem dX2_second_40 : decode cX2_second 40 = .ok (.getfield 38, 3) := dk_180 0 38 (dk_at dksX2_second_1 18 rfl rfl)
theorem dX2_second_43 : decode cX2_second 43 = .ok (.iload_n 1, 1) := dk_27 (dk_at dksX2_second_1 21 rfl rfl)
theorem dX2_second_44 : decode cX2_second 44 = .ok (.dup2, 1) := dk_92 (dk_at dksX2_second_1 22 rfl rfl)
theorem dX2_second_45 : decode cX2_second 45 = .ok (.iaload, 1) := dk_46 (dk_at dksX2_second_1 23 rfl rfl)
theorem dX2_second_46 : decode cX2_second 46 = .ok (.iconst 1, 1) := dk_4 (dk_at dksX2_second_2 0 rfl rfl)
theorem dX2_second_47 : decode cX2_second 47 = .ok (.iadd, 1) := dk_96 (dk_at dksX2_second_2 1 rfl rfl)
theorem dX2_second_48 : decode cX2_second 48 = .ok (.iastore, 1) := dk_79 (dk_at dksX2_second_2 2 rfl rfl)
theorem dX2_second_49 : decode cX2_second 49 = .ok (.aload_n 0, 1) := dk_42 (dk_at dksX2_second_2 3 rfl rfl)
theorem dX2_second_50 : decode cX2_second 50 = .ok (.getfield 38, 3) := dk_180 0 38 (dk_at dksX2_second_2 4 rfl rfl)
theorem dX2_second_53 : decode cX2_second 53 = .ok (.iload_n 1, 1) := dk_27 (dk_at dksX2_second_2 7 rfl rfl)
theorem dX2_second_54 : decode cX2_second 54 = .ok (.iaload, 1) := dk_46 (dk_at dksX2_second_2 8 rfl rfl)
theorem dX2_second_55 : decode cX2_second 55 = .ok (.iconst 2, 1) := dk_5 (dk_at dksX2_second_2 9 rfl rfl)
theorem dX2_second_56 : decode cX2_second 56 = .ok (.if_icmp .ne 11, 3) := dk_160 0 11 (dk_at dksX2_second_2 10 rfl rfl)
theorem dX2_second_59 : decode cX2_second 59 = .ok (.aload_n 0, 1) := dk_42 (dk_at dksX2_second_2 13 rfl rfl)
theorem dX2_second_60 : decode cX2_second 60 = .ok (.iconst 3, 1) := dk_6 (dk_at dksX2_second_2 14 rfl rfl)
theorem dX2_second_61 : decode cX2_second 61 = .ok (.invokevirtual 152, 3) := dk_182 0 152 (dk_at dksX2_second_2 15 rfl rfl)
theorem dX2_second_64 : decode cX2_second 64 = .ok (.goto 21, 3) := dk_167 0 21 (dk_at dksX2_second_2 18 rfl rfl)
theorem dX2_second_67 : decode cX2_second 67 = .ok (.aload_n 0, 1) := dk_42 (dk_at dksX2_second_2 21 rfl rfl)
theorem dX2_second_68 : decode cX2_second 68 = .ok (.getfield 38, 3) := dk_180 0 38 (dk_at dksX2_second_3 0 rfl rfl)
theorem dX2_second_71 : decode cX2_second 71 = .ok (.iload_n 1, 1) := dk_27 (dk_at dksX2_second_3 3 rfl rfl)
theorem dX2_second_72 : decode cX2_second 72 = .ok (.iaload, 1) := dk_46 (dk_at dksX2_second_3 4 rfl rfl)
theorem dX2_second_73 : decode cX2_second 73 = .ok (.iconst 3, 1) := dk_6 (dk_at dksX2_second_3 5 rfl rfl)
theorem dX2_second_74 : decode cX2_second 74 = .ok (.if_icmp .ne 11, 3) := dk_160 0 11 (dk_at dksX2_second_3 6 rfl rfl)
theorem dX2_second_77 : decode cX2_second 77 = .ok (.aload_n 0, 1) := dk_42 (dk_at dksX2_second_3 9 rfl rfl)
theorem dX2_second_78 : decode cX2_second 78 = .ok (.aload_n 0, 1) := dk_42 (dk_at dksX2_second_3 10 rfl rfl)
theorem dX2_second_79 : decode cX2_second 79 = .ok (.invokevirtual 135, 3) := dk_182 0 135 (dk_at dksX2_second_3 11 rfl rfl)
theorem dX2_second_82 : decode cX2_second 82 = .ok (.invokevirtual 139, 3) := dk_182 0 139 (dk_at dksX2_second_3 14 rfl rfl)
theorem dX2_second_85 : decode cX2_second 85 = .ok (.aload_n 0, 1) := dk_42 (dk_at dksX2_second_3 17 rfl rfl)
theorem dX2_second_86 : decode cX2_second 86 = .ok (.getfield 13, 3) := dk_180 0 13 (dk_at dksX2_second_3 18 rfl rfl)
theorem dX2_second_89 : decode cX2_second 89 = .ok (.iconst (-1), 1) := dk_2 (dk_at dksX2_second_3 21 rfl rfl)
theorem dX2_second_90 : decode cX2_second 90 = .ok (.if_icmp .ne 4, 3) := dk_160 0 4 (dk_at dksX2_second_4 0 rfl rfl)
theorem dX2_second_93 : decode cX2_second 93 = .ok (.return_, 1) := dk_177 (dk_at dksX2_second_4 3 rfl rfl)
theorem dX2_second_94 : decode cX2_second 94 = .ok (.aload_n 0, 1) := dk_42 (dk_at dksX2_second_4 4 rfl rfl)
theorem dX2_second_95 : decode cX2_second 95 = .ok (.getfield 35, 3) := dk_180 0 35 (dk_at dksX2_second_4 5 rfl rfl)
theorem dX2_second_98 : decode cX2_second 98 = .ok (.iload_n 1, 1) := dk_27 (dk_at dksX2_second_4 8 rfl rfl)
theorem dX2_second_99 : decode cX2_second 99 = .ok (.iaload, 1) := dk_46 (dk_at dksX2_second_4 9 rfl rfl)
theorem dX2_second_100 : decode cX2_second 100 = .ok (.sipush 180, 3) := dk_17 0 180 (dk_at dksX2_second_4 10 rfl rfl)
theorem dX2_second_103 : decode cX2_second 103 = .ok (.if_icmp .ne 68, 3) := dk_160 0 68 (dk_at dksX2_second_4 13 rfl rfl)
theorem dX2_second_106 : decode cX2_second 106 = .ok (.aload_n 0, 1) := dk_42 (dk_at dksX2_second_4 16 rfl rfl)
theorem dX2_second_107 : decode cX2_second 107 = .ok (.getfield 20, 3) := dk_180 0 20 (dk_at dksX2_second_4 17 rfl rfl)
theorem dX2_second_110 : decode cX2_second 110 = .ok (.iconst 2, 1) := dk_5 (dk_at dksX2_second_4 20 rfl rfl)
theorem dX2_second_111 : decode cX2_second 111 = .ok (.iload_n 1, 1) := dk_27 (dk_at dksX2_second_4 21 rfl rfl)
theorem dX2_second_112 : decode cX2_second 112 = .ok (.imul, 1) := dk_104 (dk_at dksX2_second_4 22 rfl rfl)
theorem dX2_second_113 : decode cX2_second 113 = .ok (.iaload, 1) := dk_46 (dk_at dksX2_second_4 23 rfl rfl)
theorem dX2_second_114 : decode cX2_second 114 = .ok (.aload_n 0, 1) := dk_42 (dk_at dksX2_second_5 0 rfl rfl)
theorem dX2_second_115 : decode cX2_second 115 = .ok (.getfield 20, 3) := dk_180 0 20 (dk_at dksX2_second_5 1 rfl rfl)
theorem dX2_second_118 : decode cX2_second 118 = .ok (.iconst 2, 1) := dk_5 (dk_at dksX2_second_5 4 rfl rfl)
theorem dX2_second_119 : decode cX2_second 119 = .ok (.iload_n 1, 1) := dk_27 (dk_at dksX2_second_5 5 rfl rfl)
theorem dX2_second_120 : decode cX2_second 120 = .ok (.imul, 1) := dk_104 (dk_at dksX2_second_5 6 rfl rfl)
theorem dX2_second_121 : decode cX2_second 121 = .ok (.iconst 1, 1) := dk_4 (dk_at dksX2_second_5 7 rfl rfl)
theorem dX2_second_122 : decode cX2_second 122 = .ok (.iadd, 1) := dk_96 (dk_at dksX2_second_5 8 rfl rfl)
theorem dX2_second_123 : decode cX2_second 123 = .ok (.iaload, 1) := dk_46 (dk_at dksX2_second_5 9 rfl rfl)
theorem dX2_second_124 : decode cX2_second 124 = .ok (.if_icmp .eq 14, 3) := dk_159 0 14 (dk_at dksX2_second_5 10 rfl rfl)
theorem dX2_second_127 : decode cX2_second 127 = .ok (.aload_n 0, 1) := dk_42 (dk_at dksX2_second_5 13 rfl rfl)
theorem dX2_second_128 : decode cX2_second 128 = .ok (.aload_n 0, 1) := dk_42 (dk_at dksX2_second_5 14 rfl rfl)
theorem dX2_second_129 : decode cX2_second 129 = .ok (.invokevirtual 135, 3) := dk_182 0 135 (dk_at dksX2_second_5 15 rfl rfl)
theorem dX2_second_132 : decode cX2_second 132 = .ok (.invokevirtual 139, 3) := dk_182 0 139 (dk_at dksX2_second_5 18 rfl rfl)
theorem dX2_second_135 : decode cX2_second 135 = .ok (.goto 58, 3) := dk_167 0 58 (dk_at dksX2_second_5 21 rfl rfl)
theorem dX2_second_138 : decode cX2_second 138 = .ok (.aload_n 0, 1) := dk_42 (dk_at dksX2_second_6 0 rfl rfl)
theorem dX2_second_139 : decode cX2_second 139 = .ok (.aload_n 0, 1) := dk_42 (dk_at dksX2_second_6 1 rfl rfl)
theorem dX2_second_140 : decode cX2_second 140 = .ok (.getfield 161, 3) := dk_180 0 161 (dk_at dksX2_second_6 2 rfl rfl)
theorem dX2_second_143 : decode cX2_second 143 = .ok (.invokestatic 165, 3) := dk_184 0 165 (dk_at dksX2_second_6 5 rfl rfl)
theorem dX2_second_146 : decode cX2_second 146 = .ok (.putfield 161, 3) := dk_181 0 161 (dk_at dksX2_second_6 8 rfl rfl)
theorem dX2_second_149 : decode cX2_second 149 = .ok (.aload_n 0, 1) := dk_42 (dk_at dksX2_second_6 11 rfl rfl)
theorem dX2_second_150 : decode cX2_second 150 = .ok (.getfield 41, 3) := dk_180 0 41 (dk_at dksX2_second_6 12 rfl rfl)
theorem dX2_second_153 : decode cX2_second 153 = .ok (.iload_n 1, 1) := dk_27 (dk_at dksX2_second_6 15 rfl rfl)
theorem dX2_second_154 : decode cX2_second 154 = .ok (.aload_n 0, 1) := dk_42 (dk_at dksX2_second_6 16 rfl rfl)
theorem dX2_second_155 : decode cX2_second 155 = .ok (.getfield 161, 3) := dk_180 0 161 (dk_at dksX2_second_6 17 rfl rfl)
theorem dX2_second_158 : decode cX2_second 158 = .ok (.ldc2_w 169, 3) := dk_20 0 169 (dk_at dksX2_second_6 20 rfl rfl)
theorem dX2_second_161 : decode cX2_second 161 = .ok (.ldiv, 1) := dk_109 (dk_at dksX2_second_6 23 rfl rfl)
theorem dX2_second_162 : decode cX2_second 162 = .ok (.ldc2_w 171, 3) := dk_20 0 171 (dk_at dksX2_second_7 0 rfl rfl)
theorem dX2_second_165 : decode cX2_second 165 = .ok (.lrem, 1) := dk_113 (dk_at dksX2_second_7 3 rfl rfl)
theorem dX2_second_166 : decode cX2_second 166 = .ok (.l2i, 1) := dk_136 (dk_at dksX2_second_7 4 rfl rfl)
theorem dX2_second_167 : decode cX2_second 167 = .ok (.iastore, 1) := dk_79 (dk_at dksX2_second_7 5 rfl rfl)
theorem dX2_second_168 : decode cX2_second 168 = .ok (.goto 25, 3) := dk_167 0 25 (dk_at dksX2_second_7 6 rfl rfl)
theorem dX2_second_171 : decode cX2_second 171 = .ok (.aload_n 0, 1) := dk_42 (dk_at dksX2_second_7 9 rfl rfl)
theorem dX2_second_172 : decode cX2_second 172 = .ok (.getfield 35, 3) := dk_180 0 35 (dk_at dksX2_second_7 10 rfl rfl)
theorem dX2_second_175 : decode cX2_second 175 = .ok (.iload_n 1, 1) := dk_27 (dk_at dksX2_second_7 13 rfl rfl)
theorem dX2_second_176 : decode cX2_second 176 = .ok (.iaload, 1) := dk_46 (dk_at dksX2_second_7 14 rfl rfl)
theorem dX2_second_177 : decode cX2_second 177 = .ok (.sipush 240, 3) := dk_17 0 240 (dk_at dksX2_second_7 15 rfl rfl)
theorem dX2_second_180 : decode cX2_second 180 = .ok (.if_icmp .ne 13, 3) := dk_160 0 13 (dk_at dksX2_second_7 18 rfl rfl)
theorem dX2_second_183 : decode cX2_second 183 = .ok (.aload_n 0, 1) := dk_42 (dk_at dksX2_second_7 21 rfl rfl)
theorem dX2_second_184 : decode cX2_second 184 = .ok (.aload_n 0, 1) := dk_42 (dk_at dksX2_second_7 22 rfl rfl)
theorem dX2_second_185 : decode cX2_second 185 = .ok (.getfield 41, 3) := dk_180 0 41 (dk_at dksX2_second_8 0 rfl rfl)
theorem dX2_second_188 : decode cX2_second 188 = .ok (.iload_n 1, 1) := dk_27 (dk_at dksX2_second_8 3 rfl rfl)
theorem dX2_second_189 : decode cX2_second 189 = .ok (.iaload, 1) := dk_46 (dk_at dksX2_second_8 4 rfl rfl)
theorem dX2_second_190 : decode cX2_second 190 = .ok (.invokevirtual 139, 3) := dk_182 0 139 (dk_at dksX2_second_8 5 rfl rfl)
theorem dX2_second_193 : decode cX2_second 193 = .ok (.return_, 1) := dk_177 (dk_at dksX2_second_8 8 rfl rfl)
abbrev cX2_next : ByteArray := prog_13_method_24_code
def yX2_next : MethodName := ⟨RX2, "next", "(J)J"⟩
def dkwX2_next_0 : List UInt8 := [20, 0, 155, 30, 105, 20, 0, 157, 97, 20, 0, 159, 113, 173]
abbrev dktX2_next_0 : List UInt8 := dkwX2_next_0 ++ []
theorem dksX2_next_0 : cX2_next.data.toList.drop 0 = dktX2_next_0 := by decide +kernel
theorem dX2_next_0 : decode cX2_next 0 = .ok (.ldc2_w 155, 3) := dk_20 0 155 (dk_at dksX2_next_0 0 rfl rfl)
theorem dX2_next_3 : decode cX2_next 3 = .ok (.lload_n 0, 1) := dk_30 (dk_at dksX2_next_0 3 rfl rfl)
theorem dX2_next_4 : decode cX2_next 4 = .ok (.lmul, 1) := dk_105 (dk_at dksX2_next_0 4 rfl rfl)
theorem dX2_next_5 : decode cX2_next 5 = .ok (.ldc2_w 157, 3) := dk_20 0 157 (dk_at dksX2_next_0 5 rfl rfl)
theorem dX2_next_8 : decode cX2_next 8 = .ok (.ladd, 1) := dk_97 (dk_at dksX2_next_0 8 rfl rfl)
theorem dX2_next_9 : decode cX2_next 9 = .ok (.ldc2_w 159, 3) := dk_20 0 159 (dk_at dksX2_next_0 9 rfl rfl)
theorem dX2_next_12 : decode cX2_next 12 = .ok (.lrem, 1) := dk_113 (dk_at dksX2_next_0 12 rfl rfl)
theorem dX2_next_13 : decode cX2_next 13 = .ok (.lreturn, 1) := dk_173 (dk_at dksX2_next_0 13 rfl rfl)
abbrev cX2_end : ByteArray := prog_13_method_27_code
def yX2_end : MethodName := ⟨RX2, "end", "()I"⟩
def dkwX2_end_1 : List UInt8 := [3, 172, 42, 182, 0, 135, 60, 42, 27, 182, 0, 139, 27, 172]
abbrev dktX2_end_1 : List UInt8 := dkwX2_end_1 ++ []
def dkwX2_end_0 : List UInt8 := [42, 42, 180, 0, 13, 2, 160, 0, 7, 4, 167, 0, 4, 3, 181, 0, 81, 42, 180, 0, 81, 158, 0, 5]
abbrev dktX2_end_0 : List UInt8 := dkwX2_end_0 ++ dktX2_end_1
theorem dksX2_end_0 : cX2_end.data.toList.drop 0 = dktX2_end_0 := by decide +kernel
theorem dksX2_end_1 : cX2_end.data.toList.drop 24 = dktX2_end_1 := dk_seg dksX2_end_0 24 rfl rfl
theorem dX2_end_0 : decode cX2_end 0 = .ok (.aload_n 0, 1) := dk_42 (dk_at dksX2_end_0 0 rfl rfl)
theorem dX2_end_1 : decode cX2_end 1 = .ok (.aload_n 0, 1) := dk_42 (dk_at dksX2_end_0 1 rfl rfl)
theorem dX2_end_2 : decode cX2_end 2 = .ok (.getfield 13, 3) := dk_180 0 13 (dk_at dksX2_end_0 2 rfl rfl)
theorem dX2_end_5 : decode cX2_end 5 = .ok (.iconst (-1), 1) := dk_2 (dk_at dksX2_end_0 5 rfl rfl)
theorem dX2_end_6 : decode cX2_end 6 = .ok (.if_icmp .ne 7, 3) := dk_160 0 7 (dk_at dksX2_end_0 6 rfl rfl)
theorem dX2_end_9 : decode cX2_end 9 = .ok (.iconst 1, 1) := dk_4 (dk_at dksX2_end_0 9 rfl rfl)
theorem dX2_end_10 : decode cX2_end 10 = .ok (.goto 4, 3) := dk_167 0 4 (dk_at dksX2_end_0 10 rfl rfl)
theorem dX2_end_13 : decode cX2_end 13 = .ok (.iconst 0, 1) := dk_3 (dk_at dksX2_end_0 13 rfl rfl)
theorem dX2_end_14 : decode cX2_end 14 = .ok (.putfield 81, 3) := dk_181 0 81 (dk_at dksX2_end_0 14 rfl rfl)
theorem dX2_end_17 : decode cX2_end 17 = .ok (.aload_n 0, 1) := dk_42 (dk_at dksX2_end_0 17 rfl rfl)
theorem dX2_end_18 : decode cX2_end 18 = .ok (.getfield 81, 3) := dk_180 0 81 (dk_at dksX2_end_0 18 rfl rfl)
theorem dX2_end_21 : decode cX2_end 21 = .ok (.ifCond .le 5, 3) := dk_158 0 5 (dk_at dksX2_end_0 21 rfl rfl)
theorem dX2_end_24 : decode cX2_end 24 = .ok (.iconst 0, 1) := dk_3 (dk_at dksX2_end_1 0 rfl rfl)
theorem dX2_end_25 : decode cX2_end 25 = .ok (.ireturn, 1) := dk_172 (dk_at dksX2_end_1 1 rfl rfl)
theorem dX2_end_26 : decode cX2_end 26 = .ok (.aload_n 0, 1) := dk_42 (dk_at dksX2_end_1 2 rfl rfl)
theorem dX2_end_27 : decode cX2_end 27 = .ok (.invokevirtual 135, 3) := dk_182 0 135 (dk_at dksX2_end_1 3 rfl rfl)
theorem dX2_end_30 : decode cX2_end 30 = .ok (.istore_n 1, 1) := dk_60 (dk_at dksX2_end_1 6 rfl rfl)
theorem dX2_end_31 : decode cX2_end 31 = .ok (.aload_n 0, 1) := dk_42 (dk_at dksX2_end_1 7 rfl rfl)
theorem dX2_end_32 : decode cX2_end 32 = .ok (.iload_n 1, 1) := dk_27 (dk_at dksX2_end_1 8 rfl rfl)
theorem dX2_end_33 : decode cX2_end 33 = .ok (.invokevirtual 139, 3) := dk_182 0 139 (dk_at dksX2_end_1 9 rfl rfl)
theorem dX2_end_36 : decode cX2_end 36 = .ok (.iload_n 1, 1) := dk_27 (dk_at dksX2_end_1 12 rfl rfl)
theorem dX2_end_37 : decode cX2_end 37 = .ok (.ireturn, 1) := dk_172 (dk_at dksX2_end_1 13 rfl rfl)
abbrev cX2_seed : ByteArray := prog_13_method_28_code
def yX2_seed : MethodName := ⟨RX2, "seed", "(I)V"⟩
def dkwX2_seed_1 : List UInt8 := [167, 0, 5, 27, 133, 181, 0, 161, 177]
abbrev dktX2_seed_1 : List UInt8 := dkwX2_seed_1 ++ []
def dkwX2_seed_0 : List UInt8 := [42, 27, 156, 0, 7, 4, 167, 0, 4, 3, 181, 0, 81, 42, 27, 156, 0, 10, 42, 180, 0, 161]
abbrev dktX2_seed_0 : List UInt8 := dkwX2_seed_0 ++ dktX2_seed_1
theorem dksX2_seed_0 : cX2_seed.data.toList.drop 0 = dktX2_seed_0 := by decide +kernel
theorem dksX2_seed_1 : cX2_seed.data.toList.drop 22 = dktX2_seed_1 := dk_seg dksX2_seed_0 22 rfl rfl
theorem dX2_seed_0 : decode cX2_seed 0 = .ok (.aload_n 0, 1) := dk_42 (dk_at dksX2_seed_0 0 rfl rfl)
theorem dX2_seed_1 : decode cX2_seed 1 = .ok (.iload_n 1, 1) := dk_27 (dk_at dksX2_seed_0 1 rfl rfl)
theorem dX2_seed_2 : decode cX2_seed 2 = .ok (.ifCond .ge 7, 3) := dk_156 0 7 (dk_at dksX2_seed_0 2 rfl rfl)
theorem dX2_seed_5 : decode cX2_seed 5 = .ok (.iconst 1, 1) := dk_4 (dk_at dksX2_seed_0 5 rfl rfl)
theorem dX2_seed_6 : decode cX2_seed 6 = .ok (.goto 4, 3) := dk_167 0 4 (dk_at dksX2_seed_0 6 rfl rfl)
theorem dX2_seed_9 : decode cX2_seed 9 = .ok (.iconst 0, 1) := dk_3 (dk_at dksX2_seed_0 9 rfl rfl)
theorem dX2_seed_10 : decode cX2_seed 10 = .ok (.putfield 81, 3) := dk_181 0 81 (dk_at dksX2_seed_0 10 rfl rfl)
theorem dX2_seed_13 : decode cX2_seed 13 = .ok (.aload_n 0, 1) := dk_42 (dk_at dksX2_seed_0 13 rfl rfl)
theorem dX2_seed_14 : decode cX2_seed 14 = .ok (.iload_n 1, 1) := dk_27 (dk_at dksX2_seed_0 14 rfl rfl)
theorem dX2_seed_15 : decode cX2_seed 15 = .ok (.ifCond .ge 10, 3) := dk_156 0 10 (dk_at dksX2_seed_0 15 rfl rfl)
theorem dX2_seed_18 : decode cX2_seed 18 = .ok (.aload_n 0, 1) := dk_42 (dk_at dksX2_seed_0 18 rfl rfl)
theorem dX2_seed_19 : decode cX2_seed 19 = .ok (.getfield 161, 3) := dk_180 0 161 (dk_at dksX2_seed_0 19 rfl rfl)
theorem dX2_seed_22 : decode cX2_seed 22 = .ok (.goto 5, 3) := dk_167 0 5 (dk_at dksX2_seed_1 0 rfl rfl)
theorem dX2_seed_25 : decode cX2_seed 25 = .ok (.iload_n 1, 1) := dk_27 (dk_at dksX2_seed_1 3 rfl rfl)
theorem dX2_seed_26 : decode cX2_seed 26 = .ok (.i2l, 1) := dk_133 (dk_at dksX2_seed_1 4 rfl rfl)
theorem dX2_seed_27 : decode cX2_seed 27 = .ok (.putfield 161, 3) := dk_181 0 161 (dk_at dksX2_seed_1 5 rfl rfl)
theorem dX2_seed_30 : decode cX2_seed 30 = .ok (.return_, 1) := dk_177 (dk_at dksX2_seed_1 8 rfl rfl)
abbrev cX2_pool : ByteArray := prog_13_method_30_code
def yX2_pool : MethodName := ⟨RX2, "pool", "(I)I"⟩
def dkwX2_pool_3 : List UInt8 := [181, 0, 91, 42, 180, 0, 91, 4, 100, 172]
abbrev dktX2_pool_3 : List UInt8 := dkwX2_pool_3 ++ []
def dkwX2_pool_2 : List UInt8 := [158, 0, 5, 3, 172, 42, 180, 0, 66, 42, 180, 0, 91, 27, 79, 42, 89, 180, 0, 91, 4, 96]
abbrev dktX2_pool_2 : List UInt8 := dkwX2_pool_2 ++ dktX2_pool_3
def dkwX2_pool_1 : List UInt8 := [167, 0, 17, 42, 180, 0, 91, 16, 6, 160, 0, 7, 5, 167, 0, 4, 3, 181, 0, 81, 42, 180, 0, 81]
abbrev dktX2_pool_1 : List UInt8 := dkwX2_pool_1 ++ dktX2_pool_2
def dkwX2_pool_0 : List UInt8 := [42, 27, 155, 0, 21, 27, 4, 42, 180, 0, 84, 120, 162, 0, 11, 27, 184, 0, 176, 5, 162, 0, 7, 4]
abbrev dktX2_pool_0 : List UInt8 := dkwX2_pool_0 ++ dktX2_pool_1
theorem dksX2_pool_0 : cX2_pool.data.toList.drop 0 = dktX2_pool_0 := by decide +kernel
theorem dksX2_pool_1 : cX2_pool.data.toList.drop 24 = dktX2_pool_1 := dk_seg dksX2_pool_0 24 rfl rfl
theorem dksX2_pool_2 : cX2_pool.data.toList.drop 48 = dktX2_pool_2 := dk_seg dksX2_pool_1 24 rfl rfl
theorem dksX2_pool_3 : cX2_pool.data.toList.drop 70 = dktX2_pool_3 := dk_seg dksX2_pool_2 22 rfl rfl
theorem dX2_pool_0 : decode cX2_pool 0 = .ok (.aload_n 0, 1) := dk_42 (dk_at dksX2_pool_0 0 rfl rfl)
theorem dX2_pool_1 : decode cX2_pool 1 = .ok (.iload_n 1, 1) := dk_27 (dk_at dksX2_pool_0 1 rfl rfl)
theorem dX2_pool_2 : decode cX2_pool 2 = .ok (.ifCond .lt 21, 3) := dk_155 0 21 (dk_at dksX2_pool_0 2 rfl rfl)
theorem dX2_pool_5 : decode cX2_pool 5 = .ok (.iload_n 1, 1) := dk_27 (dk_at dksX2_pool_0 5 rfl rfl)
theorem dX2_pool_6 : decode cX2_pool 6 = .ok (.iconst 1, 1) := dk_4 (dk_at dksX2_pool_0 6 rfl rfl)
theorem dX2_pool_7 : decode cX2_pool 7 = .ok (.aload_n 0, 1) := dk_42 (dk_at dksX2_pool_0 7 rfl rfl)
theorem dX2_pool_8 : decode cX2_pool 8 = .ok (.getfield 84, 3) := dk_180 0 84 (dk_at dksX2_pool_0 8 rfl rfl)
theorem dX2_pool_11 : decode cX2_pool 11 = .ok (.ishl, 1) := dk_120 (dk_at dksX2_pool_0 11 rfl rfl)
theorem dX2_pool_12 : decode cX2_pool 12 = .ok (.if_icmp .ge 11, 3) := dk_162 0 11 (dk_at dksX2_pool_0 12 rfl rfl)
theorem dX2_pool_15 : decode cX2_pool 15 = .ok (.iload_n 1, 1) := dk_27 (dk_at dksX2_pool_0 15 rfl rfl)
theorem dX2_pool_16 : decode cX2_pool 16 = .ok (.invokestatic 176, 3) := dk_184 0 176 (dk_at dksX2_pool_0 16 rfl rfl)
theorem dX2_pool_19 : decode cX2_pool 19 = .ok (.iconst 2, 1) := dk_5 (dk_at dksX2_pool_0 19 rfl rfl)
theorem dX2_pool_20 : decode cX2_pool 20 = .ok (.if_icmp .ge 7, 3) := dk_162 0 7 (dk_at dksX2_pool_0 20 rfl rfl)
theorem dX2_pool_23 : decode cX2_pool 23 = .ok (.iconst 1, 1) := dk_4 (dk_at dksX2_pool_0 23 rfl rfl)
theorem dX2_pool_24 : decode cX2_pool 24 = .ok (.goto 17, 3) := dk_167 0 17 (dk_at dksX2_pool_1 0 rfl rfl)
theorem dX2_pool_27 : decode cX2_pool 27 = .ok (.aload_n 0, 1) := dk_42 (dk_at dksX2_pool_1 3 rfl rfl)
theorem dX2_pool_28 : decode cX2_pool 28 = .ok (.getfield 91, 3) := dk_180 0 91 (dk_at dksX2_pool_1 4 rfl rfl)
theorem dX2_pool_31 : decode cX2_pool 31 = .ok (.bipush 6, 2) := dk_16 6 (dk_at dksX2_pool_1 7 rfl rfl)
theorem dX2_pool_33 : decode cX2_pool 33 = .ok (.if_icmp .ne 7, 3) := dk_160 0 7 (dk_at dksX2_pool_1 9 rfl rfl)
theorem dX2_pool_36 : decode cX2_pool 36 = .ok (.iconst 2, 1) := dk_5 (dk_at dksX2_pool_1 12 rfl rfl)
theorem dX2_pool_37 : decode cX2_pool 37 = .ok (.goto 4, 3) := dk_167 0 4 (dk_at dksX2_pool_1 13 rfl rfl)
theorem dX2_pool_40 : decode cX2_pool 40 = .ok (.iconst 0, 1) := dk_3 (dk_at dksX2_pool_1 16 rfl rfl)
theorem dX2_pool_41 : decode cX2_pool 41 = .ok (.putfield 81, 3) := dk_181 0 81 (dk_at dksX2_pool_1 17 rfl rfl)
theorem dX2_pool_44 : decode cX2_pool 44 = .ok (.aload_n 0, 1) := dk_42 (dk_at dksX2_pool_1 20 rfl rfl)
theorem dX2_pool_45 : decode cX2_pool 45 = .ok (.getfield 81, 3) := dk_180 0 81 (dk_at dksX2_pool_1 21 rfl rfl)
theorem dX2_pool_48 : decode cX2_pool 48 = .ok (.ifCond .le 5, 3) := dk_158 0 5 (dk_at dksX2_pool_2 0 rfl rfl)
theorem dX2_pool_51 : decode cX2_pool 51 = .ok (.iconst 0, 1) := dk_3 (dk_at dksX2_pool_2 3 rfl rfl)
theorem dX2_pool_52 : decode cX2_pool 52 = .ok (.ireturn, 1) := dk_172 (dk_at dksX2_pool_2 4 rfl rfl)
theorem dX2_pool_53 : decode cX2_pool 53 = .ok (.aload_n 0, 1) := dk_42 (dk_at dksX2_pool_2 5 rfl rfl)
theorem dX2_pool_54 : decode cX2_pool 54 = .ok (.getfield 66, 3) := dk_180 0 66 (dk_at dksX2_pool_2 6 rfl rfl)
theorem dX2_pool_57 : decode cX2_pool 57 = .ok (.aload_n 0, 1) := dk_42 (dk_at dksX2_pool_2 9 rfl rfl)
theorem dX2_pool_58 : decode cX2_pool 58 = .ok (.getfield 91, 3) := dk_180 0 91 (dk_at dksX2_pool_2 10 rfl rfl)
theorem dX2_pool_61 : decode cX2_pool 61 = .ok (.iload_n 1, 1) := dk_27 (dk_at dksX2_pool_2 13 rfl rfl)
theorem dX2_pool_62 : decode cX2_pool 62 = .ok (.iastore, 1) := dk_79 (dk_at dksX2_pool_2 14 rfl rfl)
theorem dX2_pool_63 : decode cX2_pool 63 = .ok (.aload_n 0, 1) := dk_42 (dk_at dksX2_pool_2 15 rfl rfl)
theorem dX2_pool_64 : decode cX2_pool 64 = .ok (.dup, 1) := dk_89 (dk_at dksX2_pool_2 16 rfl rfl)
theorem dX2_pool_65 : decode cX2_pool 65 = .ok (.getfield 91, 3) := dk_180 0 91 (dk_at dksX2_pool_2 17 rfl rfl)
theorem dX2_pool_68 : decode cX2_pool 68 = .ok (.iconst 1, 1) := dk_4 (dk_at dksX2_pool_2 20 rfl rfl)
theorem dX2_pool_69 : decode cX2_pool 69 = .ok (.iadd, 1) := dk_96 (dk_at dksX2_pool_2 21 rfl rfl)
theorem dX2_pool_70 : decode cX2_pool 70 = .ok (.putfield 91, 3) := dk_181 0 91 (dk_at dksX2_pool_3 0 rfl rfl)
theorem dX2_pool_73 : decode cX2_pool 73 = .ok (.aload_n 0, 1) := dk_42 (dk_at dksX2_pool_3 3 rfl rfl)
theorem dX2_pool_74 : decode cX2_pool 74 = .ok (.getfield 91, 3) := dk_180 0 91 (dk_at dksX2_pool_3 4 rfl rfl)
theorem dX2_pool_77 : decode cX2_pool 77 = .ok (.iconst 1, 1) := dk_4 (dk_at dksX2_pool_3 7 rfl rfl)
theorem dX2_pool_78 : decode cX2_pool 78 = .ok (.isub, 1) := dk_100 (dk_at dksX2_pool_3 8 rfl rfl)
theorem dX2_pool_79 : decode cX2_pool 79 = .ok (.ireturn, 1) := dk_172 (dk_at dksX2_pool_3 9 rfl rfl)
abbrev cX2_many : ByteArray := prog_13_method_29_code
def yX2_many : MethodName := ⟨RX2, "many", "(I)I"⟩
def dkwX2_many_1 : List UInt8 := [27, 172]
abbrev dktX2_many_1 : List UInt8 := dkwX2_many_1 ++ []
def dkwX2_many_0 : List UInt8 := [3, 60, 3, 61, 28, 16, 32, 162, 0, 17, 27, 26, 28, 122, 4, 126, 96, 60, 132, 2, 1, 167, 255, 239]
abbrev dktX2_many_0 : List UInt8 := dkwX2_many_0 ++ dktX2_many_1
theorem dksX2_many_0 : cX2_many.data.toList.drop 0 = dktX2_many_0 := by decide +kernel
theorem dksX2_many_1 : cX2_many.data.toList.drop 24 = dktX2_many_1 := dk_seg dksX2_many_0 24 rfl rfl
theorem dX2_many_0 : decode cX2_many 0 = .ok (.iconst 0, 1) := dk_3 (dk_at dksX2_many_0 0 rfl rfl)
theorem dX2_many_1 : decode cX2_many 1 = .ok (.istore_n 1, 1) := dk_60 (dk_at dksX2_many_0 1 rfl rfl)
theorem dX2_many_2 : decode cX2_many 2 = .ok (.iconst 0, 1) := dk_3 (dk_at dksX2_many_0 2 rfl rfl)
theorem dX2_many_3 : decode cX2_many 3 = .ok (.istore_n 2, 1) := dk_61 (dk_at dksX2_many_0 3 rfl rfl)
theorem dX2_many_4 : decode cX2_many 4 = .ok (.iload_n 2, 1) := dk_28 (dk_at dksX2_many_0 4 rfl rfl)
theorem dX2_many_5 : decode cX2_many 5 = .ok (.bipush 32, 2) := dk_16 32 (dk_at dksX2_many_0 5 rfl rfl)
theorem dX2_many_7 : decode cX2_many 7 = .ok (.if_icmp .ge 17, 3) := dk_162 0 17 (dk_at dksX2_many_0 7 rfl rfl)
theorem dX2_many_10 : decode cX2_many 10 = .ok (.iload_n 1, 1) := dk_27 (dk_at dksX2_many_0 10 rfl rfl)
theorem dX2_many_11 : decode cX2_many 11 = .ok (.iload_n 0, 1) := dk_26 (dk_at dksX2_many_0 11 rfl rfl)
theorem dX2_many_12 : decode cX2_many 12 = .ok (.iload_n 2, 1) := dk_28 (dk_at dksX2_many_0 12 rfl rfl)
theorem dX2_many_13 : decode cX2_many 13 = .ok (.ishr, 1) := dk_122 (dk_at dksX2_many_0 13 rfl rfl)
theorem dX2_many_14 : decode cX2_many 14 = .ok (.iconst 1, 1) := dk_4 (dk_at dksX2_many_0 14 rfl rfl)
theorem dX2_many_15 : decode cX2_many 15 = .ok (.iand, 1) := dk_126 (dk_at dksX2_many_0 15 rfl rfl)
theorem dX2_many_16 : decode cX2_many 16 = .ok (.iadd, 1) := dk_96 (dk_at dksX2_many_0 16 rfl rfl)
theorem dX2_many_17 : decode cX2_many 17 = .ok (.istore_n 1, 1) := dk_60 (dk_at dksX2_many_0 17 rfl rfl)
theorem dX2_many_18 : decode cX2_many 18 = .ok (.iinc 2 1, 3) := dk_132 2 1 (dk_at dksX2_many_0 18 rfl rfl)
theorem dX2_many_21 : decode cX2_many 21 = .ok (.goto (-17), 3) := dk_167 255 239 (dk_at dksX2_many_0 21 rfl rfl)
theorem dX2_many_24 : decode cX2_many 24 = .ok (.iload_n 1, 1) := dk_27 (dk_at dksX2_many_1 0 rfl rfl)
theorem dX2_many_25 : decode cX2_many 25 = .ok (.ireturn, 1) := dk_172 (dk_at dksX2_many_1 1 rfl rfl)
abbrev cX2_withdraw : ByteArray := prog_13_method_34_code
def yX2_withdraw : MethodName := ⟨RX2, "withdraw", "(II)I"⟩
def dkwX2_withdraw_6 : List UInt8 := [128, 79, 21, 4, 172]
abbrev dktX2_withdraw_6 : List UInt8 := dkwX2_withdraw_6 ++ []
def dkwX2_withdraw_5 : List UInt8 := [158, 0, 5, 3, 172, 42, 27, 28, 3, 182, 0, 185, 54, 4, 42, 180, 0, 69, 27, 92, 46, 4, 28, 120]
abbrev dktX2_withdraw_5 : List UInt8 := dkwX2_withdraw_5 ++ dktX2_withdraw_6
def dkwX2_withdraw_4 : List UInt8 := [180, 0, 69, 27, 46, 28, 184, 0, 101, 153, 0, 7, 5, 167, 0, 4, 3, 181, 0, 81, 42, 180, 0, 81]
abbrev dktX2_withdraw_4 : List UInt8 := dkwX2_withdraw_4 ++ dktX2_withdraw_5
def dkwX2_withdraw_3 : List UInt8 := [180, 0, 13, 104, 4, 96, 46, 28, 160, 0, 7, 4, 167, 0, 4, 3, 62, 42, 29, 154, 0, 16, 42]
abbrev dktX2_withdraw_3 : List UInt8 := dkwX2_withdraw_3 ++ dktX2_withdraw_4
def dkwX2_withdraw_2 : List UInt8 := [160, 0, 39, 42, 180, 0, 16, 5, 42, 180, 0, 13, 104, 46, 28, 159, 0, 20, 42, 180, 0, 16, 5, 42]
abbrev dktX2_withdraw_2 : List UInt8 := dkwX2_withdraw_2 ++ dktX2_withdraw_3
def dkwX2_withdraw_1 : List UInt8 := [158, 0, 5, 3, 172, 42, 180, 0, 13, 2, 159, 0, 52, 42, 180, 0, 29, 42, 180, 0, 13, 46, 27]
abbrev dktX2_withdraw_1 : List UInt8 := dkwX2_withdraw_1 ++ dktX2_withdraw_2
def dkwX2_withdraw_0 : List UInt8 := [42, 42, 27, 28, 182, 0, 182, 154, 0, 7, 4, 167, 0, 4, 3, 181, 0, 81, 42, 180, 0, 81]
abbrev dktX2_withdraw_0 : List UInt8 := dkwX2_withdraw_0 ++ dktX2_withdraw_1
theorem dksX2_withdraw_0 : cX2_withdraw.data.toList.drop 0 = dktX2_withdraw_0 := by decide +kernel
theorem dksX2_withdraw_1 : cX2_withdraw.data.toList.drop 22 = dktX2_withdraw_1 := dk_seg dksX2_withdraw_0 22 rfl rfl
theorem dksX2_withdraw_2 : cX2_withdraw.data.toList.drop 45 = dktX2_withdraw_2 := dk_seg dksX2_withdraw_1 23 rfl rfl
theorem dksX2_withdraw_3 : cX2_withdraw.data.toList.drop 69 = dktX2_withdraw_3 := dk_seg dksX2_withdraw_2 24 rfl rfl
theorem dksX2_withdraw_4 : cX2_withdraw.data.toList.drop 92 = dktX2_withdraw_4 := dk_seg dksX2_withdraw_3 23 rfl rfl
theorem dksX2_withdraw_5 : cX2_withdraw.data.toList.drop 116 = dktX2_withdraw_5 := dk_seg dksX2_withdraw_4 24 rfl rfl
theorem dksX2_withdraw_6 : cX2_withdraw.data.toList.drop 140 = dktX2_withdraw_6 := dk_seg dksX2_withdraw_5 24 rfl rfl
theorem dX2_withdraw_0 : decode cX2_withdraw 0 = .ok (.aload_n 0, 1) := dk_42 (dk_at dksX2_withdraw_0 0 rfl rfl)
theorem dX2_withdraw_1 : decode cX2_withdraw 1 = .ok (.aload_n 0, 1) := dk_42 (dk_at dksX2_withdraw_0 1 rfl rfl)
theorem dX2_withdraw_2 : decode cX2_withdraw 2 = .ok (.iload_n 1, 1) := dk_27 (dk_at dksX2_withdraw_0 2 rfl rfl)
theorem dX2_withdraw_3 : decode cX2_withdraw 3 = .ok (.iload_n 2, 1) := dk_28 (dk_at dksX2_withdraw_0 3 rfl rfl)
theorem dX2_withdraw_4 : decode cX2_withdraw 4 = .ok (.invokevirtual 182, 3) := dk_182 0 182 (dk_at dksX2_withdraw_0 4 rfl rfl)
theorem dX2_withdraw_7 : decode cX2_withdraw 7 = .ok (.ifCond .ne 7, 3) := dk_154 0 7 (dk_at dksX2_withdraw_0 7 rfl rfl)
theorem dX2_withdraw_10 : decode cX2_withdraw 10 = .ok (.iconst 1, 1) := dk_4 (dk_at dksX2_withdraw_0 10 rfl rfl)
theorem dX2_withdraw_11 : decode cX2_withdraw 11 = .ok (.goto 4, 3) := dk_167 0 4 (dk_at dksX2_withdraw_0 11 rfl rfl)
theorem dX2_withdraw_14 : decode cX2_withdraw 14 = .ok (.iconst 0, 1) := dk_3 (dk_at dksX2_withdraw_0 14 rfl rfl)
theorem dX2_withdraw_15 : decode cX2_withdraw 15 = .ok (.putfield 81, 3) := dk_181 0 81 (dk_at dksX2_withdraw_0 15 rfl rfl)
theorem dX2_withdraw_18 : decode cX2_withdraw 18 = .ok (.aload_n 0, 1) := dk_42 (dk_at dksX2_withdraw_0 18 rfl rfl)
theorem dX2_withdraw_19 : decode cX2_withdraw 19 = .ok (.getfield 81, 3) := dk_180 0 81 (dk_at dksX2_withdraw_0 19 rfl rfl)
theorem dX2_withdraw_22 : decode cX2_withdraw 22 = .ok (.ifCond .le 5, 3) := dk_158 0 5 (dk_at dksX2_withdraw_1 0 rfl rfl)
theorem dX2_withdraw_25 : decode cX2_withdraw 25 = .ok (.iconst 0, 1) := dk_3 (dk_at dksX2_withdraw_1 3 rfl rfl)
theorem dX2_withdraw_26 : decode cX2_withdraw 26 = .ok (.ireturn, 1) := dk_172 (dk_at dksX2_withdraw_1 4 rfl rfl)
theorem dX2_withdraw_27 : decode cX2_withdraw 27 = .ok (.aload_n 0, 1) := dk_42 (dk_at dksX2_withdraw_1 5 rfl rfl)
theorem dX2_withdraw_28 : decode cX2_withdraw 28 = .ok (.getfield 13, 3) := dk_180 0 13 (dk_at dksX2_withdraw_1 6 rfl rfl)
theorem dX2_withdraw_31 : decode cX2_withdraw 31 = .ok (.iconst (-1), 1) := dk_2 (dk_at dksX2_withdraw_1 9 rfl rfl)
theorem dX2_withdraw_32 : decode cX2_withdraw 32 = .ok (.if_icmp .eq 52, 3) := dk_159 0 52 (dk_at dksX2_withdraw_1 10 rfl rfl)
theorem dX2_withdraw_35 : decode cX2_withdraw 35 = .ok (.aload_n 0, 1) := dk_42 (dk_at dksX2_withdraw_1 13 rfl rfl)
theorem dX2_withdraw_36 : decode cX2_withdraw 36 = .ok (.getfield 29, 3) := dk_180 0 29 (dk_at dksX2_withdraw_1 14 rfl rfl)
theorem dX2_withdraw_39 : decode cX2_withdraw 39 = .ok (.aload_n 0, 1) := dk_42 (dk_at dksX2_withdraw_1 17 rfl rfl)
theorem dX2_withdraw_40 : decode cX2_withdraw 40 = .ok (.getfield 13, 3) := dk_180 0 13 (dk_at dksX2_withdraw_1 18 rfl rfl)
theorem dX2_withdraw_43 : decode cX2_withdraw 43 = .ok (.iaload, 1) := dk_46 (dk_at dksX2_withdraw_1 21 rfl rfl)
theorem dX2_withdraw_44 : decode cX2_withdraw 44 = .ok (.iload_n 1, 1) := dk_27 (dk_at dksX2_withdraw_1 22 rfl rfl)
theorem dX2_withdraw_45 : decode cX2_withdraw 45 = .ok (.if_icmp .ne 39, 3) := dk_160 0 39 (dk_at dksX2_withdraw_2 0 rfl rfl)
theorem dX2_withdraw_48 : decode cX2_withdraw 48 = .ok (.aload_n 0, 1) := dk_42 (dk_at dksX2_withdraw_2 3 rfl rfl)
theorem dX2_withdraw_49 : decode cX2_withdraw 49 = .ok (.getfield 16, 3) := dk_180 0 16 (dk_at dksX2_withdraw_2 4 rfl rfl)
theorem dX2_withdraw_52 : decode cX2_withdraw 52 = .ok (.iconst 2, 1) := dk_5 (dk_at dksX2_withdraw_2 7 rfl rfl)
theorem dX2_withdraw_53 : decode cX2_withdraw 53 = .ok (.aload_n 0, 1) := dk_42 (dk_at dksX2_withdraw_2 8 rfl rfl)
theorem dX2_withdraw_54 : decode cX2_withdraw 54 = .ok (.getfield 13, 3) := dk_180 0 13 (dk_at dksX2_withdraw_2 9 rfl rfl)
theorem dX2_withdraw_57 : decode cX2_withdraw 57 = .ok (.imul, 1) := dk_104 (dk_at dksX2_withdraw_2 12 rfl rfl)
theorem dX2_withdraw_58 : decode cX2_withdraw 58 = .ok (.iaload, 1) := dk_46 (dk_at dksX2_withdraw_2 13 rfl rfl)
theorem dX2_withdraw_59 : decode cX2_withdraw 59 = .ok (.iload_n 2, 1) := dk_28 (dk_at dksX2_withdraw_2 14 rfl rfl)
theorem dX2_withdraw_60 : decode cX2_withdraw 60 = .ok (.if_icmp .eq 20, 3) := dk_159 0 20 (dk_at dksX2_withdraw_2 15 rfl rfl)
theorem dX2_withdraw_63 : decode cX2_withdraw 63 = .ok (.aload_n 0, 1) := dk_42 (dk_at dksX2_withdraw_2 18 rfl rfl)
theorem dX2_withdraw_64 : decode cX2_withdraw 64 = .ok (.getfield 16, 3) := dk_180 0 16 (dk_at dksX2_withdraw_2 19 rfl rfl)
theorem dX2_withdraw_67 : decode cX2_withdraw 67 = .ok (.iconst 2, 1) := dk_5 (dk_at dksX2_withdraw_2 22 rfl rfl)
theorem dX2_withdraw_68 : decode cX2_withdraw 68 = .ok (.aload_n 0, 1) := dk_42 (dk_at dksX2_withdraw_2 23 rfl rfl)
theorem dX2_withdraw_69 : decode cX2_withdraw 69 = .ok (.getfield 13, 3) := dk_180 0 13 (dk_at dksX2_withdraw_3 0 rfl rfl)
theorem dX2_withdraw_72 : decode cX2_withdraw 72 = .ok (.imul, 1) := dk_104 (dk_at dksX2_withdraw_3 3 rfl rfl)
theorem dX2_withdraw_73 : decode cX2_withdraw 73 = .ok (.iconst 1, 1) := dk_4 (dk_at dksX2_withdraw_3 4 rfl rfl)
theorem dX2_withdraw_74 : decode cX2_withdraw 74 = .ok (.iadd, 1) := dk_96 (dk_at dksX2_withdraw_3 5 rfl rfl)
theorem dX2_withdraw_75 : decode cX2_withdraw 75 = .ok (.iaload, 1) := dk_46 (dk_at dksX2_withdraw_3 6 rfl rfl)
theorem dX2_withdraw_76 : decode cX2_withdraw 76 = .ok (.iload_n 2, 1) := dk_28 (dk_at dksX2_withdraw_3 7 rfl rfl)
theorem dX2_withdraw_77 : decode cX2_withdraw 77 = .ok (.if_icmp .ne 7, 3) := dk_160 0 7 (dk_at dksX2_withdraw_3 8 rfl rfl)
theorem dX2_withdraw_80 : decode cX2_withdraw 80 = .ok (.iconst 1, 1) := dk_4 (dk_at dksX2_withdraw_3 11 rfl rfl)
theorem dX2_withdraw_81 : decode cX2_withdraw 81 = .ok (.goto 4, 3) := dk_167 0 4 (dk_at dksX2_withdraw_3 12 rfl rfl)
theorem dX2_withdraw_84 : decode cX2_withdraw 84 = .ok (.iconst 0, 1) := dk_3 (dk_at dksX2_withdraw_3 15 rfl rfl)
theorem dX2_withdraw_85 : decode cX2_withdraw 85 = .ok (.istore_n 3, 1) := dk_62 (dk_at dksX2_withdraw_3 16 rfl rfl)
theorem dX2_withdraw_86 : decode cX2_withdraw 86 = .ok (.aload_n 0, 1) := dk_42 (dk_at dksX2_withdraw_3 17 rfl rfl)
theorem dX2_withdraw_87 : decode cX2_withdraw 87 = .ok (.iload_n 3, 1) := dk_29 (dk_at dksX2_withdraw_3 18 rfl rfl)
theorem dX2_withdraw_88 : decode cX2_withdraw 88 = .ok (.ifCond .ne 16, 3) := dk_154 0 16 (dk_at dksX2_withdraw_3 19 rfl rfl)
theorem dX2_withdraw_91 : decode cX2_withdraw 91 = .ok (.aload_n 0, 1) := dk_42 (dk_at dksX2_withdraw_3 22 rfl rfl)
theorem dX2_withdraw_92 : decode cX2_withdraw 92 = .ok (.getfield 69, 3) := dk_180 0 69 (dk_at dksX2_withdraw_4 0 rfl rfl)
theorem dX2_withdraw_95 : decode cX2_withdraw 95 = .ok (.iload_n 1, 1) := dk_27 (dk_at dksX2_withdraw_4 3 rfl rfl)
theorem dX2_withdraw_96 : decode cX2_withdraw 96 = .ok (.iaload, 1) := dk_46 (dk_at dksX2_withdraw_4 4 rfl rfl)
theorem dX2_withdraw_97 : decode cX2_withdraw 97 = .ok (.iload_n 2, 1) := dk_28 (dk_at dksX2_withdraw_4 5 rfl rfl)
theorem dX2_withdraw_98 : decode cX2_withdraw 98 = .ok (.invokestatic 101, 3) := dk_184 0 101 (dk_at dksX2_withdraw_4 6 rfl rfl)
theorem dX2_withdraw_101 : decode cX2_withdraw 101 = .ok (.ifCond .eq 7, 3) := dk_153 0 7 (dk_at dksX2_withdraw_4 9 rfl rfl)
theorem dX2_withdraw_104 : decode cX2_withdraw 104 = .ok (.iconst 2, 1) := dk_5 (dk_at dksX2_withdraw_4 12 rfl rfl)
theorem dX2_withdraw_105 : decode cX2_withdraw 105 = .ok (.goto 4, 3) := dk_167 0 4 (dk_at dksX2_withdraw_4 13 rfl rfl)
theorem dX2_withdraw_108 : decode cX2_withdraw 108 = .ok (.iconst 0, 1) := dk_3 (dk_at dksX2_withdraw_4 16 rfl rfl)
theorem dX2_withdraw_109 : decode cX2_withdraw 109 = .ok (.putfield 81, 3) := dk_181 0 81 (dk_at dksX2_withdraw_4 17 rfl rfl)
theorem dX2_withdraw_112 : decode cX2_withdraw 112 = .ok (.aload_n 0, 1) := dk_42 (dk_at dksX2_withdraw_4 20 rfl rfl)
theorem dX2_withdraw_113 : decode cX2_withdraw 113 = .ok (.getfield 81, 3) := dk_180 0 81 (dk_at dksX2_withdraw_4 21 rfl rfl)
theorem dX2_withdraw_116 : decode cX2_withdraw 116 = .ok (.ifCond .le 5, 3) := dk_158 0 5 (dk_at dksX2_withdraw_5 0 rfl rfl)
theorem dX2_withdraw_119 : decode cX2_withdraw 119 = .ok (.iconst 0, 1) := dk_3 (dk_at dksX2_withdraw_5 3 rfl rfl)
theorem dX2_withdraw_120 : decode cX2_withdraw 120 = .ok (.ireturn, 1) := dk_172 (dk_at dksX2_withdraw_5 4 rfl rfl)
theorem dX2_withdraw_121 : decode cX2_withdraw 121 = .ok (.aload_n 0, 1) := dk_42 (dk_at dksX2_withdraw_5 5 rfl rfl)
theorem dX2_withdraw_122 : decode cX2_withdraw 122 = .ok (.iload_n 1, 1) := dk_27 (dk_at dksX2_withdraw_5 6 rfl rfl)
theorem dX2_withdraw_123 : decode cX2_withdraw 123 = .ok (.iload_n 2, 1) := dk_28 (dk_at dksX2_withdraw_5 7 rfl rfl)
theorem dX2_withdraw_124 : decode cX2_withdraw 124 = .ok (.iconst 0, 1) := dk_3 (dk_at dksX2_withdraw_5 8 rfl rfl)
theorem dX2_withdraw_125 : decode cX2_withdraw 125 = .ok (.invokevirtual 185, 3) := dk_182 0 185 (dk_at dksX2_withdraw_5 9 rfl rfl)
theorem dX2_withdraw_128 : decode cX2_withdraw 128 = .ok (.istore 4, 2) := dk_54 4 (dk_at dksX2_withdraw_5 12 rfl rfl)
theorem dX2_withdraw_130 : decode cX2_withdraw 130 = .ok (.aload_n 0, 1) := dk_42 (dk_at dksX2_withdraw_5 14 rfl rfl)
theorem dX2_withdraw_131 : decode cX2_withdraw 131 = .ok (.getfield 69, 3) := dk_180 0 69 (dk_at dksX2_withdraw_5 15 rfl rfl)
theorem dX2_withdraw_134 : decode cX2_withdraw 134 = .ok (.iload_n 1, 1) := dk_27 (dk_at dksX2_withdraw_5 18 rfl rfl)
theorem dX2_withdraw_135 : decode cX2_withdraw 135 = .ok (.dup2, 1) := dk_92 (dk_at dksX2_withdraw_5 19 rfl rfl)
theorem dX2_withdraw_136 : decode cX2_withdraw 136 = .ok (.iaload, 1) := dk_46 (dk_at dksX2_withdraw_5 20 rfl rfl)
theorem dX2_withdraw_137 : decode cX2_withdraw 137 = .ok (.iconst 1, 1) := dk_4 (dk_at dksX2_withdraw_5 21 rfl rfl)
theorem dX2_withdraw_138 : decode cX2_withdraw 138 = .ok (.iload_n 2, 1) := dk_28 (dk_at dksX2_withdraw_5 22 rfl rfl)
theorem dX2_withdraw_139 : decode cX2_withdraw 139 = .ok (.ishl, 1) := dk_120 (dk_at dksX2_withdraw_5 23 rfl rfl)
theorem dX2_withdraw_140 : decode cX2_withdraw 140 = .ok (.ior, 1) := dk_128 (dk_at dksX2_withdraw_6 0 rfl rfl)
theorem dX2_withdraw_141 : decode cX2_withdraw 141 = .ok (.iastore, 1) := dk_79 (dk_at dksX2_withdraw_6 1 rfl rfl)
theorem dX2_withdraw_142 : decode cX2_withdraw 142 = .ok (.iload 4, 2) := dk_21 4 (dk_at dksX2_withdraw_6 2 rfl rfl)
theorem dX2_withdraw_144 : decode cX2_withdraw 144 = .ok (.ireturn, 1) := dk_172 (dk_at dksX2_withdraw_6 4 rfl rfl)
abbrev cX2_isMember : ByteArray := prog_13_method_31_code
def yX2_isMember : MethodName := ⟨RX2, "isMember", "(II)Z"⟩
def dkwX2_isMember_1 : List UInt8 := [184, 0, 101, 153, 0, 7, 4, 167, 0, 4, 3, 172]
abbrev dktX2_isMember_1 : List UInt8 := dkwX2_isMember_1 ++ []
def dkwX2_isMember_0 : List UInt8 := [42, 27, 182, 0, 98, 153, 0, 28, 42, 28, 182, 0, 94, 153, 0, 20, 42, 180, 0, 66, 27, 46, 28]
abbrev dktX2_isMember_0 : List UInt8 := dkwX2_isMember_0 ++ dktX2_isMember_1
theorem dksX2_isMember_0 : cX2_isMember.data.toList.drop 0 = dktX2_isMember_0 := by decide +kernel
theorem dksX2_isMember_1 : cX2_isMember.data.toList.drop 23 = dktX2_isMember_1 := dk_seg dksX2_isMember_0 23 rfl rfl
theorem dX2_isMember_0 : decode cX2_isMember 0 = .ok (.aload_n 0, 1) := dk_42 (dk_at dksX2_isMember_0 0 rfl rfl)
theorem dX2_isMember_1 : decode cX2_isMember 1 = .ok (.iload_n 1, 1) := dk_27 (dk_at dksX2_isMember_0 1 rfl rfl)
theorem dX2_isMember_2 : decode cX2_isMember 2 = .ok (.invokevirtual 98, 3) := dk_182 0 98 (dk_at dksX2_isMember_0 2 rfl rfl)
theorem dX2_isMember_5 : decode cX2_isMember 5 = .ok (.ifCond .eq 28, 3) := dk_153 0 28 (dk_at dksX2_isMember_0 5 rfl rfl)
theorem dX2_isMember_8 : decode cX2_isMember 8 = .ok (.aload_n 0, 1) := dk_42 (dk_at dksX2_isMember_0 8 rfl rfl)
theorem dX2_isMember_9 : decode cX2_isMember 9 = .ok (.iload_n 2, 1) := dk_28 (dk_at dksX2_isMember_0 9 rfl rfl)
theorem dX2_isMember_10 : decode cX2_isMember 10 = .ok (.invokevirtual 94, 3) := dk_182 0 94 (dk_at dksX2_isMember_0 10 rfl rfl)
theorem dX2_isMember_13 : decode cX2_isMember 13 = .ok (.ifCond .eq 20, 3) := dk_153 0 20 (dk_at dksX2_isMember_0 13 rfl rfl)
theorem dX2_isMember_16 : decode cX2_isMember 16 = .ok (.aload_n 0, 1) := dk_42 (dk_at dksX2_isMember_0 16 rfl rfl)
theorem dX2_isMember_17 : decode cX2_isMember 17 = .ok (.getfield 66, 3) := dk_180 0 66 (dk_at dksX2_isMember_0 17 rfl rfl)
theorem dX2_isMember_20 : decode cX2_isMember 20 = .ok (.iload_n 1, 1) := dk_27 (dk_at dksX2_isMember_0 20 rfl rfl)
theorem dX2_isMember_21 : decode cX2_isMember 21 = .ok (.iaload, 1) := dk_46 (dk_at dksX2_isMember_0 21 rfl rfl)
theorem dX2_isMember_22 : decode cX2_isMember 22 = .ok (.iload_n 2, 1) := dk_28 (dk_at dksX2_isMember_0 22 rfl rfl)
theorem dX2_isMember_23 : decode cX2_isMember 23 = .ok (.invokestatic 101, 3) := dk_184 0 101 (dk_at dksX2_isMember_1 0 rfl rfl)
theorem dX2_isMember_26 : decode cX2_isMember 26 = .ok (.ifCond .eq 7, 3) := dk_153 0 7 (dk_at dksX2_isMember_1 3 rfl rfl)
theorem dX2_isMember_29 : decode cX2_isMember 29 = .ok (.iconst 1, 1) := dk_4 (dk_at dksX2_isMember_1 6 rfl rfl)
theorem dX2_isMember_30 : decode cX2_isMember 30 = .ok (.goto 4, 3) := dk_167 0 4 (dk_at dksX2_isMember_1 7 rfl rfl)
theorem dX2_isMember_33 : decode cX2_isMember 33 = .ok (.iconst 0, 1) := dk_3 (dk_at dksX2_isMember_1 10 rfl rfl)
theorem dX2_isMember_34 : decode cX2_isMember 34 = .ok (.ireturn, 1) := dk_172 (dk_at dksX2_isMember_1 11 rfl rfl)
abbrev cX2_tells : ByteArray := prog_13_method_33_code
def yX2_tells : MethodName := ⟨RX2, "tells", "(III)I"⟩
def dkwX2_tells_4 : List UInt8 := [132, 5, 1, 167, 255, 166, 21, 4, 172]
abbrev dktX2_tells_4 : List UInt8 := dkwX2_tells_4 ++ []
def dkwX2_tells_3 : List UInt8 := [21, 5, 104, 29, 5, 160, 0, 8, 21, 6, 167, 0, 7, 4, 21, 6, 100, 96, 46, 96, 54, 4]
abbrev dktX2_tells_3 : List UInt8 := dkwX2_tells_3 ++ dktX2_tells_4
def dkwX2_tells_2 : List UInt8 := [180, 0, 32, 21, 5, 46, 21, 6, 160, 0, 7, 4, 167, 0, 31, 3, 167, 0, 27, 42, 180, 0, 20, 5]
abbrev dktX2_tells_2 : List UInt8 := dkwX2_tells_2 ++ dktX2_tells_3
def dkwX2_tells_1 : List UInt8 := [54, 6, 21, 6, 2, 159, 0, 65, 21, 4, 29, 154, 0, 7, 4, 167, 0, 52, 29, 4, 160, 0, 23, 42]
abbrev dktX2_tells_1 : List UInt8 := dkwX2_tells_1 ++ dktX2_tells_2
def dkwX2_tells_0 : List UInt8 := [3, 54, 4, 3, 54, 5, 21, 5, 42, 180, 0, 105, 162, 0, 87, 42, 21, 5, 27, 28, 182, 0, 179]
abbrev dktX2_tells_0 : List UInt8 := dkwX2_tells_0 ++ dktX2_tells_1
theorem dksX2_tells_0 : cX2_tells.data.toList.drop 0 = dktX2_tells_0 := by decide +kernel
theorem dksX2_tells_1 : cX2_tells.data.toList.drop 23 = dktX2_tells_1 := dk_seg dksX2_tells_0 23 rfl rfl
theorem dksX2_tells_2 : cX2_tells.data.toList.drop 47 = dktX2_tells_2 := dk_seg dksX2_tells_1 24 rfl rfl
theorem dksX2_tells_3 : cX2_tells.data.toList.drop 71 = dktX2_tells_3 := dk_seg dksX2_tells_2 24 rfl rfl
theorem dksX2_tells_4 : cX2_tells.data.toList.drop 93 = dktX2_tells_4 := dk_seg dksX2_tells_3 22 rfl rfl
theorem dX2_tells_0 : decode cX2_tells 0 = .ok (.iconst 0, 1) := dk_3 (dk_at dksX2_tells_0 0 rfl rfl)
theorem dX2_tells_1 : decode cX2_tells 1 = .ok (.istore 4, 2) := dk_54 4 (dk_at dksX2_tells_0 1 rfl rfl)
theorem dX2_tells_3 : decode cX2_tells 3 = .ok (.iconst 0, 1) := dk_3 (dk_at dksX2_tells_0 3 rfl rfl)
theorem dX2_tells_4 : decode cX2_tells 4 = .ok (.istore 5, 2) := dk_54 5 (dk_at dksX2_tells_0 4 rfl rfl)
theorem dX2_tells_6 : decode cX2_tells 6 = .ok (.iload 5, 2) := dk_21 5 (dk_at dksX2_tells_0 6 rfl rfl)
theorem dX2_tells_8 : decode cX2_tells 8 = .ok (.aload_n 0, 1) := dk_42 (dk_at dksX2_tells_0 8 rfl rfl)
theorem dX2_tells_9 : decode cX2_tells 9 = .ok (.getfield 105, 3) := dk_180 0 105 (dk_at dksX2_tells_0 9 rfl rfl)
theorem dX2_tells_12 : decode cX2_tells 12 = .ok (.if_icmp .ge 87, 3) := dk_162 0 87 (dk_at dksX2_tells_0 12 rfl rfl)
theorem dX2_tells_15 : decode cX2_tells 15 = .ok (.aload_n 0, 1) := dk_42 (dk_at dksX2_tells_0 15 rfl rfl)
theorem dX2_tells_16 : decode cX2_tells 16 = .ok (.iload 5, 2) := dk_21 5 (dk_at dksX2_tells_0 16 rfl rfl)
theorem dX2_tells_18 : decode cX2_tells 18 = .ok (.iload_n 1, 1) := dk_27 (dk_at dksX2_tells_0 18 rfl rfl)
theorem dX2_tells_19 : decode cX2_tells 19 = .ok (.iload_n 2, 1) := dk_28 (dk_at dksX2_tells_0 19 rfl rfl)
theorem dX2_tells_20 : decode cX2_tells 20 = .ok (.invokevirtual 179, 3) := dk_182 0 179 (dk_at dksX2_tells_0 20 rfl rfl)
theorem dX2_tells_23 : decode cX2_tells 23 = .ok (.istore 6, 2) := dk_54 6 (dk_at dksX2_tells_1 0 rfl rfl)
theorem dX2_tells_25 : decode cX2_tells 25 = .ok (.iload 6, 2) := dk_21 6 (dk_at dksX2_tells_1 2 rfl rfl)
theorem dX2_tells_27 : decode cX2_tells 27 = .ok (.iconst (-1), 1) := dk_2 (dk_at dksX2_tells_1 4 rfl rfl)
theorem dX2_tells_28 : decode cX2_tells 28 = .ok (.if_icmp .eq 65, 3) := dk_159 0 65 (dk_at dksX2_tells_1 5 rfl rfl)
theorem dX2_tells_31 : decode cX2_tells 31 = .ok (.iload 4, 2) := dk_21 4 (dk_at dksX2_tells_1 8 rfl rfl)
theorem dX2_tells_33 : decode cX2_tells 33 = .ok (.iload_n 3, 1) := dk_29 (dk_at dksX2_tells_1 10 rfl rfl)
theorem dX2_tells_34 : decode cX2_tells 34 = .ok (.ifCond .ne 7, 3) := dk_154 0 7 (dk_at dksX2_tells_1 11 rfl rfl)
theorem dX2_tells_37 : decode cX2_tells 37 = .ok (.iconst 1, 1) := dk_4 (dk_at dksX2_tells_1 14 rfl rfl)
theorem dX2_tells_38 : decode cX2_tells 38 = .ok (.goto 52, 3) := dk_167 0 52 (dk_at dksX2_tells_1 15 rfl rfl)
theorem dX2_tells_41 : decode cX2_tells 41 = .ok (.iload_n 3, 1) := dk_29 (dk_at dksX2_tells_1 18 rfl rfl)
theorem dX2_tells_42 : decode cX2_tells 42 = .ok (.iconst 1, 1) := dk_4 (dk_at dksX2_tells_1 19 rfl rfl)
theorem dX2_tells_43 : decode cX2_tells 43 = .ok (.if_icmp .ne 23, 3) := dk_160 0 23 (dk_at dksX2_tells_1 20 rfl rfl)
theorem dX2_tells_46 : decode cX2_tells 46 = .ok (.aload_n 0, 1) := dk_42 (dk_at dksX2_tells_1 23 rfl rfl)
theorem dX2_tells_47 : decode cX2_tells 47 = .ok (.getfield 32, 3) := dk_180 0 32 (dk_at dksX2_tells_2 0 rfl rfl)
theorem dX2_tells_50 : decode cX2_tells 50 = .ok (.iload 5, 2) := dk_21 5 (dk_at dksX2_tells_2 3 rfl rfl)
theorem dX2_tells_52 : decode cX2_tells 52 = .ok (.iaload, 1) := dk_46 (dk_at dksX2_tells_2 5 rfl rfl)
theorem dX2_tells_53 : decode cX2_tells 53 = .ok (.iload 6, 2) := dk_21 6 (dk_at dksX2_tells_2 6 rfl rfl)
theorem dX2_tells_55 : decode cX2_tells 55 = .ok (.if_icmp .ne 7, 3) := dk_160 0 7 (dk_at dksX2_tells_2 8 rfl rfl)
theorem dX2_tells_58 : decode cX2_tells 58 = .ok (.iconst 1, 1) := dk_4 (dk_at dksX2_tells_2 11 rfl rfl)
theorem dX2_tells_59 : decode cX2_tells 59 = .ok (.goto 31, 3) := dk_167 0 31 (dk_at dksX2_tells_2 12 rfl rfl)
theorem dX2_tells_62 : decode cX2_tells 62 = .ok (.iconst 0, 1) := dk_3 (dk_at dksX2_tells_2 15 rfl rfl)
theorem dX2_tells_63 : decode cX2_tells 63 = .ok (.goto 27, 3) := dk_167 0 27 (dk_at dksX2_tells_2 16 rfl rfl)
theorem dX2_tells_66 : decode cX2_tells 66 = .ok (.aload_n 0, 1) := dk_42 (dk_at dksX2_tells_2 19 rfl rfl)
theorem dX2_tells_67 : decode cX2_tells 67 = .ok (.getfield 20, 3) := dk_180 0 20 (dk_at dksX2_tells_2 20 rfl rfl)
theorem dX2_tells_70 : decode cX2_tells 70 = .ok (.iconst 2, 1) := dk_5 (dk_at dksX2_tells_2 23 rfl rfl)
theorem dX2_tells_71 : decode cX2_tells 71 = .ok (.iload 5, 2) := dk_21 5 (dk_at dksX2_tells_3 0 rfl rfl)
theorem dX2_tells_73 : decode cX2_tells 73 = .ok (.imul, 1) := dk_104 (dk_at dksX2_tells_3 2 rfl rfl)
theorem dX2_tells_74 : decode cX2_tells 74 = .ok (.iload_n 3, 1) := dk_29 (dk_at dksX2_tells_3 3 rfl rfl)
theorem dX2_tells_75 : decode cX2_tells 75 = .ok (.iconst 2, 1) := dk_5 (dk_at dksX2_tells_3 4 rfl rfl)
theorem dX2_tells_76 : decode cX2_tells 76 = .ok (.if_icmp .ne 8, 3) := dk_160 0 8 (dk_at dksX2_tells_3 5 rfl rfl)
theorem dX2_tells_79 : decode cX2_tells 79 = .ok (.iload 6, 2) := dk_21 6 (dk_at dksX2_tells_3 8 rfl rfl)
theorem dX2_tells_81 : decode cX2_tells 81 = .ok (.goto 7, 3) := dk_167 0 7 (dk_at dksX2_tells_3 10 rfl rfl)
theorem dX2_tells_84 : decode cX2_tells 84 = .ok (.iconst 1, 1) := dk_4 (dk_at dksX2_tells_3 13 rfl rfl)
theorem dX2_tells_85 : decode cX2_tells 85 = .ok (.iload 6, 2) := dk_21 6 (dk_at dksX2_tells_3 14 rfl rfl)
theorem dX2_tells_87 : decode cX2_tells 87 = .ok (.isub, 1) := dk_100 (dk_at dksX2_tells_3 16 rfl rfl)
theorem dX2_tells_88 : decode cX2_tells 88 = .ok (.iadd, 1) := dk_96 (dk_at dksX2_tells_3 17 rfl rfl)
theorem dX2_tells_89 : decode cX2_tells 89 = .ok (.iaload, 1) := dk_46 (dk_at dksX2_tells_3 18 rfl rfl)
theorem dX2_tells_90 : decode cX2_tells 90 = .ok (.iadd, 1) := dk_96 (dk_at dksX2_tells_3 19 rfl rfl)
theorem dX2_tells_91 : decode cX2_tells 91 = .ok (.istore 4, 2) := dk_54 4 (dk_at dksX2_tells_3 20 rfl rfl)
theorem dX2_tells_93 : decode cX2_tells 93 = .ok (.iinc 5 1, 3) := dk_132 5 1 (dk_at dksX2_tells_4 0 rfl rfl)
theorem dX2_tells_96 : decode cX2_tells 96 = .ok (.goto (-90), 3) := dk_167 255 166 (dk_at dksX2_tells_4 3 rfl rfl)
theorem dX2_tells_99 : decode cX2_tells 99 = .ok (.iload 4, 2) := dk_21 4 (dk_at dksX2_tells_4 6 rfl rfl)
theorem dX2_tells_101 : decode cX2_tells 101 = .ok (.ireturn, 1) := dk_172 (dk_at dksX2_tells_4 8 rfl rfl)
abbrev cX2_sideIn : ByteArray := prog_13_method_32_code
def yX2_sideIn : MethodName := ⟨RX2, "sideIn", "(III)I"⟩
def dkwX2_sideIn_4 : List UInt8 := [167, 0, 14, 21, 5, 29, 160, 0, 7, 4, 167, 0, 4, 2, 172]
abbrev dktX2_sideIn_4 : List UInt8 := dkwX2_sideIn_4 ++ []
def dkwX2_sideIn_3 : List UInt8 := [167, 0, 4, 3, 54, 6, 21, 6, 154, 0, 7, 2, 167, 0, 24, 21, 4, 29, 160, 0, 7, 3]
abbrev dktX2_sideIn_3 : List UInt8 := dkwX2_sideIn_3 ++ dktX2_sideIn_4
def dkwX2_sideIn_2 : List UInt8 := [46, 21, 4, 184, 0, 101, 154, 0, 21, 42, 180, 0, 69, 28, 46, 21, 5, 184, 0, 101, 154, 0, 7, 4]
abbrev dktX2_sideIn_2 : List UInt8 := dkwX2_sideIn_2 ++ dktX2_sideIn_3
def dkwX2_sideIn_1 : List UInt8 := [180, 0, 29, 27, 46, 28, 160, 0, 45, 42, 180, 0, 32, 27, 46, 2, 159, 0, 35, 42, 180, 0, 69, 28]
abbrev dktX2_sideIn_1 : List UInt8 := dkwX2_sideIn_1 ++ dktX2_sideIn_2
def dkwX2_sideIn_0 : List UInt8 := [42, 180, 0, 16, 5, 27, 104, 46, 54, 4, 42, 180, 0, 16, 5, 27, 104, 4, 96, 46, 54, 5, 42]
abbrev dktX2_sideIn_0 : List UInt8 := dkwX2_sideIn_0 ++ dktX2_sideIn_1
theorem dksX2_sideIn_0 : cX2_sideIn.data.toList.drop 0 = dktX2_sideIn_0 := by decide +kernel
theorem dksX2_sideIn_1 : cX2_sideIn.data.toList.drop 23 = dktX2_sideIn_1 := dk_seg dksX2_sideIn_0 23 rfl rfl
theorem dksX2_sideIn_2 : cX2_sideIn.data.toList.drop 47 = dktX2_sideIn_2 := dk_seg dksX2_sideIn_1 24 rfl rfl
theorem dksX2_sideIn_3 : cX2_sideIn.data.toList.drop 71 = dktX2_sideIn_3 := dk_seg dksX2_sideIn_2 24 rfl rfl
theorem dksX2_sideIn_4 : cX2_sideIn.data.toList.drop 93 = dktX2_sideIn_4 := dk_seg dksX2_sideIn_3 22 rfl rfl
theorem dX2_sideIn_0 : decode cX2_sideIn 0 = .ok (.aload_n 0, 1) := dk_42 (dk_at dksX2_sideIn_0 0 rfl rfl)
theorem dX2_sideIn_1 : decode cX2_sideIn 1 = .ok (.getfield 16, 3) := dk_180 0 16 (dk_at dksX2_sideIn_0 1 rfl rfl)
theorem dX2_sideIn_4 : decode cX2_sideIn 4 = .ok (.iconst 2, 1) := dk_5 (dk_at dksX2_sideIn_0 4 rfl rfl)
theorem dX2_sideIn_5 : decode cX2_sideIn 5 = .ok (.iload_n 1, 1) := dk_27 (dk_at dksX2_sideIn_0 5 rfl rfl)
theorem dX2_sideIn_6 : decode cX2_sideIn 6 = .ok (.imul, 1) := dk_104 (dk_at dksX2_sideIn_0 6 rfl rfl)
theorem dX2_sideIn_7 : decode cX2_sideIn 7 = .ok (.iaload, 1) := dk_46 (dk_at dksX2_sideIn_0 7 rfl rfl)
theorem dX2_sideIn_8 : decode cX2_sideIn 8 = .ok (.istore 4, 2) := dk_54 4 (dk_at dksX2_sideIn_0 8 rfl rfl)
theorem dX2_sideIn_10 : decode cX2_sideIn 10 = .ok (.aload_n 0, 1) := dk_42 (dk_at dksX2_sideIn_0 10 rfl rfl)
theorem dX2_sideIn_11 : decode cX2_sideIn 11 = .ok (.getfield 16, 3) := dk_180 0 16 (dk_at dksX2_sideIn_0 11 rfl rfl)
theorem dX2_sideIn_14 : decode cX2_sideIn 14 = .ok (.iconst 2, 1) := dk_5 (dk_at dksX2_sideIn_0 14 rfl rfl)
theorem dX2_sideIn_15 : decode cX2_sideIn 15 = .ok (.iload_n 1, 1) := dk_27 (dk_at dksX2_sideIn_0 15 rfl rfl)
theorem dX2_sideIn_16 : decode cX2_sideIn 16 = .ok (.imul, 1) := dk_104 (dk_at dksX2_sideIn_0 16 rfl rfl)
theorem dX2_sideIn_17 : decode cX2_sideIn 17 = .ok (.iconst 1, 1) := dk_4 (dk_at dksX2_sideIn_0 17 rfl rfl)
theorem dX2_sideIn_18 : decode cX2_sideIn 18 = .ok (.iadd, 1) := dk_96 (dk_at dksX2_sideIn_0 18 rfl rfl)
theorem dX2_sideIn_19 : decode cX2_sideIn 19 = .ok (.iaload, 1) := dk_46 (dk_at dksX2_sideIn_0 19 rfl rfl)
theorem dX2_sideIn_20 : decode cX2_sideIn 20 = .ok (.istore 5, 2) := dk_54 5 (dk_at dksX2_sideIn_0 20 rfl rfl)
theorem dX2_sideIn_22 : decode cX2_sideIn 22 = .ok (.aload_n 0, 1) := dk_42 (dk_at dksX2_sideIn_0 22 rfl rfl)
theorem dX2_sideIn_23 : decode cX2_sideIn 23 = .ok (.getfield 29, 3) := dk_180 0 29 (dk_at dksX2_sideIn_1 0 rfl rfl)
theorem dX2_sideIn_26 : decode cX2_sideIn 26 = .ok (.iload_n 1, 1) := dk_27 (dk_at dksX2_sideIn_1 3 rfl rfl)
theorem dX2_sideIn_27 : decode cX2_sideIn 27 = .ok (.iaload, 1) := dk_46 (dk_at dksX2_sideIn_1 4 rfl rfl)
theorem dX2_sideIn_28 : decode cX2_sideIn 28 = .ok (.iload_n 2, 1) := dk_28 (dk_at dksX2_sideIn_1 5 rfl rfl)
theorem dX2_sideIn_29 : decode cX2_sideIn 29 = .ok (.if_icmp .ne 45, 3) := dk_160 0 45 (dk_at dksX2_sideIn_1 6 rfl rfl)
theorem dX2_sideIn_32 : decode cX2_sideIn 32 = .ok (.aload_n 0, 1) := dk_42 (dk_at dksX2_sideIn_1 9 rfl rfl)
theorem dX2_sideIn_33 : decode cX2_sideIn 33 = .ok (.getfield 32, 3) := dk_180 0 32 (dk_at dksX2_sideIn_1 10 rfl rfl)
theorem dX2_sideIn_36 : decode cX2_sideIn 36 = .ok (.iload_n 1, 1) := dk_27 (dk_at dksX2_sideIn_1 13 rfl rfl)
theorem dX2_sideIn_37 : decode cX2_sideIn 37 = .ok (.iaload, 1) := dk_46 (dk_at dksX2_sideIn_1 14 rfl rfl)
theorem dX2_sideIn_38 : decode cX2_sideIn 38 = .ok (.iconst (-1), 1) := dk_2 (dk_at dksX2_sideIn_1 15 rfl rfl)
theorem dX2_sideIn_39 : decode cX2_sideIn 39 = .ok (.if_icmp .eq 35, 3) := dk_159 0 35 (dk_at dksX2_sideIn_1 16 rfl rfl)
theorem dX2_sideIn_42 : decode cX2_sideIn 42 = .ok (.aload_n 0, 1) := dk_42 (dk_at dksX2_sideIn_1 19 rfl rfl)
theorem dX2_sideIn_43 : decode cX2_sideIn 43 = .ok (.getfield 69, 3) := dk_180 0 69 (dk_at dksX2_sideIn_1 20 rfl rfl)
theorem dX2_sideIn_46 : decode cX2_sideIn 46 = .ok (.iload_n 2, 1) := dk_28 (dk_at dksX2_sideIn_1 23 rfl rfl)
theorem dX2_sideIn_47 : decode cX2_sideIn 47 = .ok (.iaload, 1) := dk_46 (dk_at dksX2_sideIn_2 0 rfl rfl)
theorem dX2_sideIn_48 : decode cX2_sideIn 48 = .ok (.iload 4, 2) := dk_21 4 (dk_at dksX2_sideIn_2 1 rfl rfl)
theorem dX2_sideIn_50 : decode cX2_sideIn 50 = .ok (.invokestatic 101, 3) := dk_184 0 101 (dk_at dksX2_sideIn_2 3 rfl rfl)
theorem dX2_sideIn_53 : decode cX2_sideIn 53 = .ok (.ifCond .ne 21, 3) := dk_154 0 21 (dk_at dksX2_sideIn_2 6 rfl rfl)
theorem dX2_sideIn_56 : decode cX2_sideIn 56 = .ok (.aload_n 0, 1) := dk_42 (dk_at dksX2_sideIn_2 9 rfl rfl)
theorem dX2_sideIn_57 : decode cX2_sideIn 57 = .ok (.getfield 69, 3) := dk_180 0 69 (dk_at dksX2_sideIn_2 10 rfl rfl)
theorem dX2_sideIn_60 : decode cX2_sideIn 60 = .ok (.iload_n 2, 1) := dk_28 (dk_at dksX2_sideIn_2 13 rfl rfl)
theorem dX2_sideIn_61 : decode cX2_sideIn 61 = .ok (.iaload, 1) := dk_46 (dk_at dksX2_sideIn_2 14 rfl rfl)
theorem dX2_sideIn_62 : decode cX2_sideIn 62 = .ok (.iload 5, 2) := dk_21 5 (dk_at dksX2_sideIn_2 15 rfl rfl)
theorem dX2_sideIn_64 : decode cX2_sideIn 64 = .ok (.invokestatic 101, 3) := dk_184 0 101 (dk_at dksX2_sideIn_2 17 rfl rfl)
theorem dX2_sideIn_67 : decode cX2_sideIn 67 = .ok (.ifCond .ne 7, 3) := dk_154 0 7 (dk_at dksX2_sideIn_2 20 rfl rfl)
theorem dX2_sideIn_70 : decode cX2_sideIn 70 = .ok (.iconst 1, 1) := dk_4 (dk_at dksX2_sideIn_2 23 rfl rfl)
theorem dX2_sideIn_71 : decode cX2_sideIn 71 = .ok (.goto 4, 3) := dk_167 0 4 (dk_at dksX2_sideIn_3 0 rfl rfl)
theorem dX2_sideIn_74 : decode cX2_sideIn 74 = .ok (.iconst 0, 1) := dk_3 (dk_at dksX2_sideIn_3 3 rfl rfl)
theorem dX2_sideIn_75 : decode cX2_sideIn 75 = .ok (.istore 6, 2) := dk_54 6 (dk_at dksX2_sideIn_3 4 rfl rfl)
theorem dX2_sideIn_77 : decode cX2_sideIn 77 = .ok (.iload 6, 2) := dk_21 6 (dk_at dksX2_sideIn_3 6 rfl rfl)
theorem dX2_sideIn_79 : decode cX2_sideIn 79 = .ok (.ifCond .ne 7, 3) := dk_154 0 7 (dk_at dksX2_sideIn_3 8 rfl rfl)
theorem dX2_sideIn_82 : decode cX2_sideIn 82 = .ok (.iconst (-1), 1) := dk_2 (dk_at dksX2_sideIn_3 11 rfl rfl)
theorem dX2_sideIn_83 : decode cX2_sideIn 83 = .ok (.goto 24, 3) := dk_167 0 24 (dk_at dksX2_sideIn_3 12 rfl rfl)
theorem dX2_sideIn_86 : decode cX2_sideIn 86 = .ok (.iload 4, 2) := dk_21 4 (dk_at dksX2_sideIn_3 15 rfl rfl)
theorem dX2_sideIn_88 : decode cX2_sideIn 88 = .ok (.iload_n 3, 1) := dk_29 (dk_at dksX2_sideIn_3 17 rfl rfl)
theorem dX2_sideIn_89 : decode cX2_sideIn 89 = .ok (.if_icmp .ne 7, 3) := dk_160 0 7 (dk_at dksX2_sideIn_3 18 rfl rfl)
theorem dX2_sideIn_92 : decode cX2_sideIn 92 = .ok (.iconst 0, 1) := dk_3 (dk_at dksX2_sideIn_3 21 rfl rfl)
theorem dX2_sideIn_93 : decode cX2_sideIn 93 = .ok (.goto 14, 3) := dk_167 0 14 (dk_at dksX2_sideIn_4 0 rfl rfl)
theorem dX2_sideIn_96 : decode cX2_sideIn 96 = .ok (.iload 5, 2) := dk_21 5 (dk_at dksX2_sideIn_4 3 rfl rfl)
theorem dX2_sideIn_98 : decode cX2_sideIn 98 = .ok (.iload_n 3, 1) := dk_29 (dk_at dksX2_sideIn_4 5 rfl rfl)
theorem dX2_sideIn_99 : decode cX2_sideIn 99 = .ok (.if_icmp .ne 7, 3) := dk_160 0 7 (dk_at dksX2_sideIn_4 6 rfl rfl)
theorem dX2_sideIn_102 : decode cX2_sideIn 102 = .ok (.iconst 1, 1) := dk_4 (dk_at dksX2_sideIn_4 9 rfl rfl)
theorem dX2_sideIn_103 : decode cX2_sideIn 103 = .ok (.goto 4, 3) := dk_167 0 4 (dk_at dksX2_sideIn_4 10 rfl rfl)
theorem dX2_sideIn_106 : decode cX2_sideIn 106 = .ok (.iconst (-1), 1) := dk_2 (dk_at dksX2_sideIn_4 13 rfl rfl)
theorem dX2_sideIn_107 : decode cX2_sideIn 107 = .ok (.ireturn, 1) := dk_172 (dk_at dksX2_sideIn_4 14 rfl rfl)
abbrev cX2_tableau : ByteArray := prog_13_method_38_code
def yX2_tableau : MethodName := ⟨RX2, "tableau", "(I)I"⟩
def dkwX2_tableau_11 : List UInt8 := [172]
abbrev dktX2_tableau_11 : List UInt8 := dkwX2_tableau_11 ++ []
def dkwX2_tableau_10 : List UInt8 := [167, 0, 11, 42, 180, 0, 75, 5, 29, 104, 46, 182, 0, 201, 132, 3, 1, 167, 255, 178, 42, 180, 0, 194]
abbrev dktX2_tableau_10 : List UInt8 := dkwX2_tableau_10 ++ dktX2_tableau_11
def dkwX2_tableau_9 : List UInt8 := [42, 180, 0, 75, 5, 29, 104, 46, 2, 160, 0, 16, 42, 180, 0, 75, 5, 29, 104, 4, 96, 46]
abbrev dktX2_tableau_9 : List UInt8 := dkwX2_tableau_9 ++ dktX2_tableau_10
def dkwX2_tableau_8 : List UInt8 := [29, 104, 46, 2, 159, 0, 17, 42, 180, 0, 75, 5, 29, 104, 4, 96, 46, 2, 160, 0, 42, 42, 3, 29]
abbrev dktX2_tableau_8 : List UInt8 := dkwX2_tableau_8 ++ dktX2_tableau_9
def dkwX2_tableau_7 : List UInt8 := [79, 132, 3, 1, 167, 255, 212, 3, 62, 29, 42, 180, 0, 194, 5, 108, 162, 0, 74, 42, 180, 0, 75, 5]
abbrev dktX2_tableau_7 : List UInt8 := dkwX2_tableau_7 ++ dktX2_tableau_8
def dkwX2_tableau_6 : List UInt8 := [54, 4, 42, 180, 0, 75, 29, 21, 4, 28, 162, 0, 13, 42, 180, 0, 72, 21, 4, 46, 167, 0, 4, 2]
abbrev dktX2_tableau_6 : List UInt8 := dkwX2_tableau_6 ++ dktX2_tableau_7
def dkwX2_tableau_5 : List UInt8 := [132, 3, 1, 167, 255, 240, 3, 62, 29, 42, 180, 0, 194, 162, 0, 42, 42, 180, 0, 194, 29, 184, 0, 197]
abbrev dktX2_tableau_5 : List UInt8 := dkwX2_tableau_5 ++ dktX2_tableau_6
def dkwX2_tableau_4 : List UInt8 := [29, 2, 79, 132, 3, 1, 167, 255, 239, 3, 62, 29, 16, 64, 162, 0, 16, 42, 180, 0, 78, 29, 2, 79]
abbrev dktX2_tableau_4 : List UInt8 := dkwX2_tableau_4 ++ dktX2_tableau_5
def dkwX2_tableau_3 : List UInt8 := [180, 0, 194, 5, 104, 181, 0, 194, 167, 255, 238, 3, 62, 29, 17, 0, 128, 162, 0, 16, 42, 180, 0, 75]
abbrev dktX2_tableau_3 : List UInt8 := dkwX2_tableau_3 ++ dktX2_tableau_4
def dkwX2_tableau_2 : List UInt8 := [180, 0, 81, 158, 0, 5, 3, 172, 42, 5, 181, 0, 194, 42, 180, 0, 194, 28, 162, 0, 16, 42, 89]
abbrev dktX2_tableau_2 : List UInt8 := dkwX2_tableau_2 ++ dktX2_tableau_3
def dkwX2_tableau_1 : List UInt8 := [3, 172, 42, 27, 182, 0, 191, 61, 42, 28, 5, 162, 0, 7, 5, 167, 0, 4, 3, 181, 0, 81, 42]
abbrev dktX2_tableau_1 : List UInt8 := dkwX2_tableau_1 ++ dktX2_tableau_2
def dkwX2_tableau_0 : List UInt8 := [42, 42, 27, 182, 0, 98, 153, 0, 7, 3, 167, 0, 4, 4, 181, 0, 81, 42, 180, 0, 81, 158, 0, 5]
abbrev dktX2_tableau_0 : List UInt8 := dkwX2_tableau_0 ++ dktX2_tableau_1
theorem dksX2_tableau_0 : cX2_tableau.data.toList.drop 0 = dktX2_tableau_0 := by decide +kernel
theorem dksX2_tableau_1 : cX2_tableau.data.toList.drop 24 = dktX2_tableau_1 := dk_seg dksX2_tableau_0 24 rfl rfl
theorem dksX2_tableau_2 : cX2_tableau.data.toList.drop 47 = dktX2_tableau_2 := dk_seg dksX2_tableau_1 23 rfl rfl
theorem dksX2_tableau_3 : cX2_tableau.data.toList.drop 70 = dktX2_tableau_3 := dk_seg dksX2_tableau_2 23 rfl rfl
theorem dksX2_tableau_4 : cX2_tableau.data.toList.drop 94 = dktX2_tableau_4 := dk_seg dksX2_tableau_3 24 rfl rfl
theorem dksX2_tableau_5 : cX2_tableau.data.toList.drop 118 = dktX2_tableau_5 := dk_seg dksX2_tableau_4 24 rfl rfl
theorem dksX2_tableau_6 : cX2_tableau.data.toList.drop 142 = dktX2_tableau_6 := dk_seg dksX2_tableau_5 24 rfl rfl
theorem dksX2_tableau_7 : cX2_tableau.data.toList.drop 166 = dktX2_tableau_7 := dk_seg dksX2_tableau_6 24 rfl rfl
theorem dksX2_tableau_8 : cX2_tableau.data.toList.drop 190 = dktX2_tableau_8 := dk_seg dksX2_tableau_7 24 rfl rfl
theorem dksX2_tableau_9 : cX2_tableau.data.toList.drop 214 = dktX2_tableau_9 := dk_seg dksX2_tableau_8 24 rfl rfl
theorem dksX2_tableau_10 : cX2_tableau.data.toList.drop 236 = dktX2_tableau_10 := dk_seg dksX2_tableau_9 22 rfl rfl
theorem dksX2_tableau_11 : cX2_tableau.data.toList.drop 260 = dktX2_tableau_11 := dk_seg dksX2_tableau_10 24 rfl rfl
theorem dX2_tableau_0 : decode cX2_tableau 0 = .ok (.aload_n 0, 1) := dk_42 (dk_at dksX2_tableau_0 0 rfl rfl)
theorem dX2_tableau_1 : decode cX2_tableau 1 = .ok (.aload_n 0, 1) := dk_42 (dk_at dksX2_tableau_0 1 rfl rfl)
theorem dX2_tableau_2 : decode cX2_tableau 2 = .ok (.iload_n 1, 1) := dk_27 (dk_at dksX2_tableau_0 2 rfl rfl)
theorem dX2_tableau_3 : decode cX2_tableau 3 = .ok (.invokevirtual 98, 3) := dk_182 0 98 (dk_at dksX2_tableau_0 3 rfl rfl)
theorem dX2_tableau_6 : decode cX2_tableau 6 = .ok (.ifCond .eq 7, 3) := dk_153 0 7 (dk_at dksX2_tableau_0 6 rfl rfl)
theorem dX2_tableau_9 : decode cX2_tableau 9 = .ok (.iconst 0, 1) := dk_3 (dk_at dksX2_tableau_0 9 rfl rfl)
theorem dX2_tableau_10 : decode cX2_tableau 10 = .ok (.goto 4, 3) := dk_167 0 4 (dk_at dksX2_tableau_0 10 rfl rfl)
theorem dX2_tableau_13 : decode cX2_tableau 13 = .ok (.iconst 1, 1) := dk_4 (dk_at dksX2_tableau_0 13 rfl rfl)
theorem dX2_tableau_14 : decode cX2_tableau 14 = .ok (.putfield 81, 3) := dk_181 0 81 (dk_at dksX2_tableau_0 14 rfl rfl)
theorem dX2_tableau_17 : decode cX2_tableau 17 = .ok (.aload_n 0, 1) := dk_42 (dk_at dksX2_tableau_0 17 rfl rfl)
theorem dX2_tableau_18 : decode cX2_tableau 18 = .ok (.getfield 81, 3) := dk_180 0 81 (dk_at dksX2_tableau_0 18 rfl rfl)
theorem dX2_tableau_21 : decode cX2_tableau 21 = .ok (.ifCond .le 5, 3) := dk_158 0 5 (dk_at dksX2_tableau_0 21 rfl rfl)
theorem dX2_tableau_24 : decode cX2_tableau 24 = .ok (.iconst 0, 1) := dk_3 (dk_at dksX2_tableau_1 0 rfl rfl)
theorem dX2_tableau_25 : decode cX2_tableau 25 = .ok (.ireturn, 1) := dk_172 (dk_at dksX2_tableau_1 1 rfl rfl)
theorem dX2_tableau_26 : decode cX2_tableau 26 = .ok (.aload_n 0, 1) := dk_42 (dk_at dksX2_tableau_1 2 rfl rfl)
theorem dX2_tableau_27 : decode cX2_tableau 27 = .ok (.iload_n 1, 1) := dk_27 (dk_at dksX2_tableau_1 3 rfl rfl)
theorem dX2_tableau_28 : decode cX2_tableau 28 = .ok (.invokevirtual 191, 3) := dk_182 0 191 (dk_at dksX2_tableau_1 4 rfl rfl)
theorem dX2_tableau_31 : decode cX2_tableau 31 = .ok (.istore_n 2, 1) := dk_61 (dk_at dksX2_tableau_1 7 rfl rfl)
theorem dX2_tableau_32 : decode cX2_tableau 32 = .ok (.aload_n 0, 1) := dk_42 (dk_at dksX2_tableau_1 8 rfl rfl)
theorem dX2_tableau_33 : decode cX2_tableau 33 = .ok (.iload_n 2, 1) := dk_28 (dk_at dksX2_tableau_1 9 rfl rfl)
theorem dX2_tableau_34 : decode cX2_tableau 34 = .ok (.iconst 2, 1) := dk_5 (dk_at dksX2_tableau_1 10 rfl rfl)
theorem dX2_tableau_35 : decode cX2_tableau 35 = .ok (.if_icmp .ge 7, 3) := dk_162 0 7 (dk_at dksX2_tableau_1 11 rfl rfl)
theorem dX2_tableau_38 : decode cX2_tableau 38 = .ok (.iconst 2, 1) := dk_5 (dk_at dksX2_tableau_1 14 rfl rfl)
theorem dX2_tableau_39 : decode cX2_tableau 39 = .ok (.goto 4, 3) := dk_167 0 4 (dk_at dksX2_tableau_1 15 rfl rfl)
theorem dX2_tableau_42 : decode cX2_tableau 42 = .ok (.iconst 0, 1) := dk_3 (dk_at dksX2_tableau_1 18 rfl rfl)
theorem dX2_tableau_43 : decode cX2_tableau 43 = .ok (.putfield 81, 3) := dk_181 0 81 (dk_at dksX2_tableau_1 19 rfl rfl)
theorem dX2_tableau_46 : decode cX2_tableau 46 = .ok (.aload_n 0, 1) := dk_42 (dk_at dksX2_tableau_1 22 rfl rfl)
theorem dX2_tableau_47 : decode cX2_tableau 47 = .ok (.getfield 81, 3) := dk_180 0 81 (dk_at dksX2_tableau_2 0 rfl rfl)
theorem dX2_tableau_50 : decode cX2_tableau 50 = .ok (.ifCond .le 5, 3) := dk_158 0 5 (dk_at dksX2_tableau_2 3 rfl rfl)
theorem dX2_tableau_53 : decode cX2_tableau 53 = .ok (.iconst 0, 1) := dk_3 (dk_at dksX2_tableau_2 6 rfl rfl)
theorem dX2_tableau_54 : decode cX2_tableau 54 = .ok (.ireturn, 1) := dk_172 (dk_at dksX2_tableau_2 7 rfl rfl)
theorem dX2_tableau_55 : decode cX2_tableau 55 = .ok (.aload_n 0, 1) := dk_42 (dk_at dksX2_tableau_2 8 rfl rfl)
theorem dX2_tableau_56 : decode cX2_tableau 56 = .ok (.iconst 2, 1) := dk_5 (dk_at dksX2_tableau_2 9 rfl rfl)
theorem dX2_tableau_57 : decode cX2_tableau 57 = .ok (.putfield 194, 3) := dk_181 0 194 (dk_at dksX2_tableau_2 10 rfl rfl)
theorem dX2_tableau_60 : decode cX2_tableau 60 = .ok (.aload_n 0, 1) := dk_42 (dk_at dksX2_tableau_2 13 rfl rfl)
theorem dX2_tableau_61 : decode cX2_tableau 61 = .ok (.getfield 194, 3) := dk_180 0 194 (dk_at dksX2_tableau_2 14 rfl rfl)
theorem dX2_tableau_64 : decode cX2_tableau 64 = .ok (.iload_n 2, 1) := dk_28 (dk_at dksX2_tableau_2 17 rfl rfl)
theorem dX2_tableau_65 : decode cX2_tableau 65 = .ok (.if_icmp .ge 16, 3) := dk_162 0 16 (dk_at dksX2_tableau_2 18 rfl rfl)
theorem dX2_tableau_68 : decode cX2_tableau 68 = .ok (.aload_n 0, 1) := dk_42 (dk_at dksX2_tableau_2 21 rfl rfl)
theorem dX2_tableau_69 : decode cX2_tableau 69 = .ok (.dup, 1) := dk_89 (dk_at dksX2_tableau_2 22 rfl rfl)
theorem dX2_tableau_70 : decode cX2_tableau 70 = .ok (.getfield 194, 3) := dk_180 0 194 (dk_at dksX2_tableau_3 0 rfl rfl)
theorem dX2_tableau_73 : decode cX2_tableau 73 = .ok (.iconst 2, 1) := dk_5 (dk_at dksX2_tableau_3 3 rfl rfl)
theorem dX2_tableau_74 : decode cX2_tableau 74 = .ok (.imul, 1) := dk_104 (dk_at dksX2_tableau_3 4 rfl rfl)
theorem dX2_tableau_75 : decode cX2_tableau 75 = .ok (.putfield 194, 3) := dk_181 0 194 (dk_at dksX2_tableau_3 5 rfl rfl)
theorem dX2_tableau_78 : decode cX2_tableau 78 = .ok (.goto (-18), 3) := dk_167 255 238 (dk_at dksX2_tableau_3 8 rfl rfl)
theorem dX2_tableau_81 : decode cX2_tableau 81 = .ok (.iconst 0, 1) := dk_3 (dk_at dksX2_tableau_3 11 rfl rfl)
theorem dX2_tableau_82 : decode cX2_tableau 82 = .ok (.istore_n 3, 1) := dk_62 (dk_at dksX2_tableau_3 12 rfl rfl)
theorem dX2_tableau_83 : decode cX2_tableau 83 = .ok (.iload_n 3, 1) := dk_29 (dk_at dksX2_tableau_3 13 rfl rfl)
theorem dX2_tableau_84 : decode cX2_tableau 84 = .ok (.sipush 128, 3) := dk_17 0 128 (dk_at dksX2_tableau_3 14 rfl rfl)
theorem dX2_tableau_87 : decode cX2_tableau 87 = .ok (.if_icmp .ge 16, 3) := dk_162 0 16 (dk_at dksX2_tableau_3 17 rfl rfl)
theorem dX2_tableau_90 : decode cX2_tableau 90 = .ok (.aload_n 0, 1) := dk_42 (dk_at dksX2_tableau_3 20 rfl rfl)
theorem dX2_tableau_91 : decode cX2_tableau 91 = .ok (.getfield 75, 3) := dk_180 0 75 (dk_at dksX2_tableau_3 21 rfl rfl)
theorem dX2_tableau_94 : decode cX2_tableau 94 = .ok (.iload_n 3, 1) := dk_29 (dk_at dksX2_tableau_4 0 rfl rfl)
theorem dX2_tableau_95 : decode cX2_tableau 95 = .ok (.iconst (-1), 1) := dk_2 (dk_at dksX2_tableau_4 1 rfl rfl)
theorem dX2_tableau_96 : decode cX2_tableau 96 = .ok (.iastore, 1) := dk_79 (dk_at dksX2_tableau_4 2 rfl rfl)
theorem dX2_tableau_97 : decode cX2_tableau 97 = .ok (.iinc 3 1, 3) := dk_132 3 1 (dk_at dksX2_tableau_4 3 rfl rfl)
theorem dX2_tableau_100 : decode cX2_tableau 100 = .ok (.goto (-17), 3) := dk_167 255 239 (dk_at dksX2_tableau_4 6 rfl rfl)
theorem dX2_tableau_103 : decode cX2_tableau 103 = .ok (.iconst 0, 1) := dk_3 (dk_at dksX2_tableau_4 9 rfl rfl)
theorem dX2_tableau_104 : decode cX2_tableau 104 = .ok (.istore_n 3, 1) := dk_62 (dk_at dksX2_tableau_4 10 rfl rfl)
theorem dX2_tableau_105 : decode cX2_tableau 105 = .ok (.iload_n 3, 1) := dk_29 (dk_at dksX2_tableau_4 11 rfl rfl)
theorem dX2_tableau_106 : decode cX2_tableau 106 = .ok (.bipush 64, 2) := dk_16 64 (dk_at dksX2_tableau_4 12 rfl rfl)
theorem dX2_tableau_108 : decode cX2_tableau 108 = .ok (.if_icmp .ge 16, 3) := dk_162 0 16 (dk_at dksX2_tableau_4 14 rfl rfl)
theorem dX2_tableau_111 : decode cX2_tableau 111 = .ok (.aload_n 0, 1) := dk_42 (dk_at dksX2_tableau_4 17 rfl rfl)
theorem dX2_tableau_112 : decode cX2_tableau 112 = .ok (.getfield 78, 3) := dk_180 0 78 (dk_at dksX2_tableau_4 18 rfl rfl)
theorem dX2_tableau_115 : decode cX2_tableau 115 = .ok (.iload_n 3, 1) := dk_29 (dk_at dksX2_tableau_4 21 rfl rfl)
theorem dX2_tableau_116 : decode cX2_tableau 116 = .ok (.iconst (-1), 1) := dk_2 (dk_at dksX2_tableau_4 22 rfl rfl)
theorem dX2_tableau_117 : decode cX2_tableau 117 = .ok (.iastore, 1) := dk_79 (dk_at dksX2_tableau_4 23 rfl rfl)
theorem dX2_tableau_118 : decode cX2_tableau 118 = .ok (.iinc 3 1, 3) := dk_132 3 1 (dk_at dksX2_tableau_5 0 rfl rfl)
theorem dX2_tableau_121 : decode cX2_tableau 121 = .ok (.goto (-16), 3) := dk_167 255 240 (dk_at dksX2_tableau_5 3 rfl rfl)
theorem dX2_tableau_124 : decode cX2_tableau 124 = .ok (.iconst 0, 1) := dk_3 (dk_at dksX2_tableau_5 6 rfl rfl)
theorem dX2_tableau_125 : decode cX2_tableau 125 = .ok (.istore_n 3, 1) := dk_62 (dk_at dksX2_tableau_5 7 rfl rfl)
theorem dX2_tableau_126 : decode cX2_tableau 126 = .ok (.iload_n 3, 1) := dk_29 (dk_at dksX2_tableau_5 8 rfl rfl)
theorem dX2_tableau_127 : decode cX2_tableau 127 = .ok (.aload_n 0, 1) := dk_42 (dk_at dksX2_tableau_5 9 rfl rfl)
theorem dX2_tableau_128 : decode cX2_tableau 128 = .ok (.getfield 194, 3) := dk_180 0 194 (dk_at dksX2_tableau_5 10 rfl rfl)
theorem dX2_tableau_131 : decode cX2_tableau 131 = .ok (.if_icmp .ge 42, 3) := dk_162 0 42 (dk_at dksX2_tableau_5 13 rfl rfl)
theorem dX2_tableau_134 : decode cX2_tableau 134 = .ok (.aload_n 0, 1) := dk_42 (dk_at dksX2_tableau_5 16 rfl rfl)
theorem dX2_tableau_135 : decode cX2_tableau 135 = .ok (.getfield 194, 3) := dk_180 0 194 (dk_at dksX2_tableau_5 17 rfl rfl)
theorem dX2_tableau_138 : decode cX2_tableau 138 = .ok (.iload_n 3, 1) := dk_29 (dk_at dksX2_tableau_5 20 rfl rfl)
theorem dX2_tableau_139 : decode cX2_tableau 139 = .ok (.invokestatic 197, 3) := dk_184 0 197 (dk_at dksX2_tableau_5 21 rfl rfl)
theorem dX2_tableau_142 : decode cX2_tableau 142 = .ok (.istore 4, 2) := dk_54 4 (dk_at dksX2_tableau_6 0 rfl rfl)
theorem dX2_tableau_144 : decode cX2_tableau 144 = .ok (.aload_n 0, 1) := dk_42 (dk_at dksX2_tableau_6 2 rfl rfl)
theorem dX2_tableau_145 : decode cX2_tableau 145 = .ok (.getfield 75, 3) := dk_180 0 75 (dk_at dksX2_tableau_6 3 rfl rfl)
theorem dX2_tableau_148 : decode cX2_tableau 148 = .ok (.iload_n 3, 1) := dk_29 (dk_at dksX2_tableau_6 6 rfl rfl)
theorem dX2_tableau_149 : decode cX2_tableau 149 = .ok (.iload 4, 2) := dk_21 4 (dk_at dksX2_tableau_6 7 rfl rfl)
theorem dX2_tableau_151 : decode cX2_tableau 151 = .ok (.iload_n 2, 1) := dk_28 (dk_at dksX2_tableau_6 9 rfl rfl)
theorem dX2_tableau_152 : decode cX2_tableau 152 = .ok (.if_icmp .ge 13, 3) := dk_162 0 13 (dk_at dksX2_tableau_6 10 rfl rfl)
theorem dX2_tableau_155 : decode cX2_tableau 155 = .ok (.aload_n 0, 1) := dk_42 (dk_at dksX2_tableau_6 13 rfl rfl)
theorem dX2_tableau_156 : decode cX2_tableau 156 = .ok (.getfield 72, 3) := dk_180 0 72 (dk_at dksX2_tableau_6 14 rfl rfl)
theorem dX2_tableau_159 : decode cX2_tableau 159 = .ok (.iload 4, 2) := dk_21 4 (dk_at dksX2_tableau_6 17 rfl rfl)
theorem dX2_tableau_161 : decode cX2_tableau 161 = .ok (.iaload, 1) := dk_46 (dk_at dksX2_tableau_6 19 rfl rfl)
theorem dX2_tableau_162 : decode cX2_tableau 162 = .ok (.goto 4, 3) := dk_167 0 4 (dk_at dksX2_tableau_6 20 rfl rfl)
theorem dX2_tableau_165 : decode cX2_tableau 165 = .ok (.iconst (-1), 1) := dk_2 (dk_at dksX2_tableau_6 23 rfl rfl)
theorem dX2_tableau_166 : decode cX2_tableau 166 = .ok (.iastore, 1) := dk_79 (dk_at dksX2_tableau_7 0 rfl rfl)
theorem dX2_tableau_167 : decode cX2_tableau 167 = .ok (.iinc 3 1, 3) := dk_132 3 1 (dk_at dksX2_tableau_7 1 rfl rfl)
theorem dX2_tableau_170 : decode cX2_tableau 170 = .ok (.goto (-44), 3) := dk_167 255 212 (dk_at dksX2_tableau_7 4 rfl rfl)
theorem dX2_tableau_173 : decode cX2_tableau 173 = .ok (.iconst 0, 1) := dk_3 (dk_at dksX2_tableau_7 7 rfl rfl)
theorem dX2_tableau_174 : decode cX2_tableau 174 = .ok (.istore_n 3, 1) := dk_62 (dk_at dksX2_tableau_7 8 rfl rfl)
theorem dX2_tableau_175 : decode cX2_tableau 175 = .ok (.iload_n 3, 1) := dk_29 (dk_at dksX2_tableau_7 9 rfl rfl)
theorem dX2_tableau_176 : decode cX2_tableau 176 = .ok (.aload_n 0, 1) := dk_42 (dk_at dksX2_tableau_7 10 rfl rfl)
theorem dX2_tableau_177 : decode cX2_tableau 177 = .ok (.getfield 194, 3) := dk_180 0 194 (dk_at dksX2_tableau_7 11 rfl rfl)
theorem dX2_tableau_180 : decode cX2_tableau 180 = .ok (.iconst 2, 1) := dk_5 (dk_at dksX2_tableau_7 14 rfl rfl)
theorem dX2_tableau_181 : decode cX2_tableau 181 = .ok (.idiv, 1) := dk_108 (dk_at dksX2_tableau_7 15 rfl rfl)
theorem dX2_tableau_182 : decode cX2_tableau 182 = .ok (.if_icmp .ge 74, 3) := dk_162 0 74 (dk_at dksX2_tableau_7 16 rfl rfl)
theorem dX2_tableau_185 : decode cX2_tableau 185 = .ok (.aload_n 0, 1) := dk_42 (dk_at dksX2_tableau_7 19 rfl rfl)
theorem dX2_tableau_186 : decode cX2_tableau 186 = .ok (.getfield 75, 3) := dk_180 0 75 (dk_at dksX2_tableau_7 20 rfl rfl)
theorem dX2_tableau_189 : decode cX2_tableau 189 = .ok (.iconst 2, 1) := dk_5 (dk_at dksX2_tableau_7 23 rfl rfl)
theorem dX2_tableau_190 : decode cX2_tableau 190 = .ok (.iload_n 3, 1) := dk_29 (dk_at dksX2_tableau_8 0 rfl rfl)
theorem dX2_tableau_191 : decode cX2_tableau 191 = .ok (.imul, 1) := dk_104 (dk_at dksX2_tableau_8 1 rfl rfl)
theorem dX2_tableau_192 : decode cX2_tableau 192 = .ok (.iaload, 1) := dk_46 (dk_at dksX2_tableau_8 2 rfl rfl)
theorem dX2_tableau_193 : decode cX2_tableau 193 = .ok (.iconst (-1), 1) := dk_2 (dk_at dksX2_tableau_8 3 rfl rfl)
theorem dX2_tableau_194 : decode cX2_tableau 194 = .ok (.if_icmp .eq 17, 3) := dk_159 0 17 (dk_at dksX2_tableau_8 4 rfl rfl)
theorem dX2_tableau_197 : decode cX2_tableau 197 = .ok (.aload_n 0, 1) := dk_42 (dk_at dksX2_tableau_8 7 rfl rfl)
theorem dX2_tableau_198 : decode cX2_tableau 198 = .ok (.getfield 75, 3) := dk_180 0 75 (dk_at dksX2_tableau_8 8 rfl rfl)
theorem dX2_tableau_201 : decode cX2_tableau 201 = .ok (.iconst 2, 1) := dk_5 (dk_at dksX2_tableau_8 11 rfl rfl)
theorem dX2_tableau_202 : decode cX2_tableau 202 = .ok (.iload_n 3, 1) := dk_29 (dk_at dksX2_tableau_8 12 rfl rfl)
theorem dX2_tableau_203 : decode cX2_tableau 203 = .ok (.imul, 1) := dk_104 (dk_at dksX2_tableau_8 13 rfl rfl)
theorem dX2_tableau_204 : decode cX2_tableau 204 = .ok (.iconst 1, 1) := dk_4 (dk_at dksX2_tableau_8 14 rfl rfl)
theorem dX2_tableau_205 : decode cX2_tableau 205 = .ok (.iadd, 1) := dk_96 (dk_at dksX2_tableau_8 15 rfl rfl)
theorem dX2_tableau_206 : decode cX2_tableau 206 = .ok (.iaload, 1) := dk_46 (dk_at dksX2_tableau_8 16 rfl rfl)
theorem dX2_tableau_207 : decode cX2_tableau 207 = .ok (.iconst (-1), 1) := dk_2 (dk_at dksX2_tableau_8 17 rfl rfl)
theorem dX2_tableau_208 : decode cX2_tableau 208 = .ok (.if_icmp .ne 42, 3) := dk_160 0 42 (dk_at dksX2_tableau_8 18 rfl rfl)
theorem dX2_tableau_211 : decode cX2_tableau 211 = .ok (.aload_n 0, 1) := dk_42 (dk_at dksX2_tableau_8 21 rfl rfl)
theorem dX2_tableau_212 : decode cX2_tableau 212 = .ok (.iconst 0, 1) := dk_3 (dk_at dksX2_tableau_8 22 rfl rfl)
theorem dX2_tableau_213 : decode cX2_tableau 213 = .ok (.iload_n 3, 1) := dk_29 (dk_at dksX2_tableau_8 23 rfl rfl)
theorem dX2_tableau_214 : decode cX2_tableau 214 = .ok (.aload_n 0, 1) := dk_42 (dk_at dksX2_tableau_9 0 rfl rfl)
theorem dX2_tableau_215 : decode cX2_tableau 215 = .ok (.getfield 75, 3) := dk_180 0 75 (dk_at dksX2_tableau_9 1 rfl rfl)
theorem dX2_tableau_218 : decode cX2_tableau 218 = .ok (.iconst 2, 1) := dk_5 (dk_at dksX2_tableau_9 4 rfl rfl)
theorem dX2_tableau_219 : decode cX2_tableau 219 = .ok (.iload_n 3, 1) := dk_29 (dk_at dksX2_tableau_9 5 rfl rfl)
theorem dX2_tableau_220 : decode cX2_tableau 220 = .ok (.imul, 1) := dk_104 (dk_at dksX2_tableau_9 6 rfl rfl)
theorem dX2_tableau_221 : decode cX2_tableau 221 = .ok (.iaload, 1) := dk_46 (dk_at dksX2_tableau_9 7 rfl rfl)
theorem dX2_tableau_222 : decode cX2_tableau 222 = .ok (.iconst (-1), 1) := dk_2 (dk_at dksX2_tableau_9 8 rfl rfl)
theorem dX2_tableau_223 : decode cX2_tableau 223 = .ok (.if_icmp .ne 16, 3) := dk_160 0 16 (dk_at dksX2_tableau_9 9 rfl rfl)
theorem dX2_tableau_226 : decode cX2_tableau 226 = .ok (.aload_n 0, 1) := dk_42 (dk_at dksX2_tableau_9 12 rfl rfl)
theorem dX2_tableau_227 : decode cX2_tableau 227 = .ok (.getfield 75, 3) := dk_180 0 75 (dk_at dksX2_tableau_9 13 rfl rfl)
theorem dX2_tableau_230 : decode cX2_tableau 230 = .ok (.iconst 2, 1) := dk_5 (dk_at dksX2_tableau_9 16 rfl rfl)
theorem dX2_tableau_231 : decode cX2_tableau 231 = .ok (.iload_n 3, 1) := dk_29 (dk_at dksX2_tableau_9 17 rfl rfl)
theorem dX2_tableau_232 : decode cX2_tableau 232 = .ok (.imul, 1) := dk_104 (dk_at dksX2_tableau_9 18 rfl rfl)
theorem dX2_tableau_233 : decode cX2_tableau 233 = .ok (.iconst 1, 1) := dk_4 (dk_at dksX2_tableau_9 19 rfl rfl)
theorem dX2_tableau_234 : decode cX2_tableau 234 = .ok (.iadd, 1) := dk_96 (dk_at dksX2_tableau_9 20 rfl rfl)
theorem dX2_tableau_235 : decode cX2_tableau 235 = .ok (.iaload, 1) := dk_46 (dk_at dksX2_tableau_9 21 rfl rfl)
theorem dX2_tableau_236 : decode cX2_tableau 236 = .ok (.goto 11, 3) := dk_167 0 11 (dk_at dksX2_tableau_10 0 rfl rfl)
theorem dX2_tableau_239 : decode cX2_tableau 239 = .ok (.aload_n 0, 1) := dk_42 (dk_at dksX2_tableau_10 3 rfl rfl)
theorem dX2_tableau_240 : decode cX2_tableau 240 = .ok (.getfield 75, 3) := dk_180 0 75 (dk_at dksX2_tableau_10 4 rfl rfl)
theorem dX2_tableau_243 : decode cX2_tableau 243 = .ok (.iconst 2, 1) := dk_5 (dk_at dksX2_tableau_10 7 rfl rfl)
theorem dX2_tableau_244 : decode cX2_tableau 244 = .ok (.iload_n 3, 1) := dk_29 (dk_at dksX2_tableau_10 8 rfl rfl)
theorem dX2_tableau_245 : decode cX2_tableau 245 = .ok (.imul, 1) := dk_104 (dk_at dksX2_tableau_10 9 rfl rfl)
theorem dX2_tableau_246 : decode cX2_tableau 246 = .ok (.iaload, 1) := dk_46 (dk_at dksX2_tableau_10 10 rfl rfl)
theorem dX2_tableau_247 : decode cX2_tableau 247 = .ok (.invokevirtual 201, 3) := dk_182 0 201 (dk_at dksX2_tableau_10 11 rfl rfl)
theorem dX2_tableau_250 : decode cX2_tableau 250 = .ok (.iinc 3 1, 3) := dk_132 3 1 (dk_at dksX2_tableau_10 14 rfl rfl)
theorem dX2_tableau_253 : decode cX2_tableau 253 = .ok (.goto (-78), 3) := dk_167 255 178 (dk_at dksX2_tableau_10 17 rfl rfl)
theorem dX2_tableau_256 : decode cX2_tableau 256 = .ok (.aload_n 0, 1) := dk_42 (dk_at dksX2_tableau_10 20 rfl rfl)
theorem dX2_tableau_257 : decode cX2_tableau 257 = .ok (.getfield 194, 3) := dk_180 0 194 (dk_at dksX2_tableau_10 21 rfl rfl)
theorem dX2_tableau_260 : decode cX2_tableau 260 = .ok (.ireturn, 1) := dk_172 (dk_at dksX2_tableau_11 0 rfl rfl)
abbrev cX2_ranks : ByteArray := prog_13_method_36_code
def yX2_ranks : MethodName := ⟨RX2, "ranks", "(I)I"⟩
def dkwX2_ranks_4 : List UInt8 := [132, 3, 1, 167, 255, 164, 28, 172]
abbrev dktX2_ranks_4 : List UInt8 := dkwX2_ranks_4 ++ []
def dkwX2_ranks_3 : List UInt8 := [21, 4, 4, 100, 46, 79, 132, 4, 255, 167, 255, 214, 42, 180, 0, 72, 21, 4, 29, 79, 132, 2, 1]
abbrev dktX2_ranks_3 : List UInt8 := dkwX2_ranks_3 ++ dktX2_ranks_4
def dkwX2_ranks_2 : List UInt8 := [180, 0, 72, 21, 4, 4, 100, 46, 182, 0, 188, 153, 0, 25, 42, 180, 0, 72, 21, 4, 42, 180, 0, 72]
abbrev dktX2_ranks_2 : List UInt8 := dkwX2_ranks_2 ++ dktX2_ranks_3
def dkwX2_ranks_1 : List UInt8 := [2, 130, 126, 29, 184, 0, 101, 153, 0, 62, 28, 54, 4, 21, 4, 158, 0, 43, 42, 27, 29, 42]
abbrev dktX2_ranks_1 : List UInt8 := dkwX2_ranks_1 ++ dktX2_ranks_2
def dkwX2_ranks_0 : List UInt8 := [3, 61, 3, 62, 29, 42, 180, 0, 84, 162, 0, 90, 42, 180, 0, 66, 27, 46, 42, 180, 0, 69, 27, 46]
abbrev dktX2_ranks_0 : List UInt8 := dkwX2_ranks_0 ++ dktX2_ranks_1
theorem dksX2_ranks_0 : cX2_ranks.data.toList.drop 0 = dktX2_ranks_0 := by decide +kernel
theorem dksX2_ranks_1 : cX2_ranks.data.toList.drop 24 = dktX2_ranks_1 := dk_seg dksX2_ranks_0 24 rfl rfl
theorem dksX2_ranks_2 : cX2_ranks.data.toList.drop 46 = dktX2_ranks_2 := dk_seg dksX2_ranks_1 22 rfl rfl
theorem dksX2_ranks_3 : cX2_ranks.data.toList.drop 70 = dktX2_ranks_3 := dk_seg dksX2_ranks_2 24 rfl rfl
theorem dksX2_ranks_4 : cX2_ranks.data.toList.drop 93 = dktX2_ranks_4 := dk_seg dksX2_ranks_3 23 rfl rfl
theorem dX2_ranks_0 : decode cX2_ranks 0 = .ok (.iconst 0, 1) := dk_3 (dk_at dksX2_ranks_0 0 rfl rfl)
theorem dX2_ranks_1 : decode cX2_ranks 1 = .ok (.istore_n 2, 1) := dk_61 (dk_at dksX2_ranks_0 1 rfl rfl)
theorem dX2_ranks_2 : decode cX2_ranks 2 = .ok (.iconst 0, 1) := dk_3 (dk_at dksX2_ranks_0 2 rfl rfl)
theorem dX2_ranks_3 : decode cX2_ranks 3 = .ok (.istore_n 3, 1) := dk_62 (dk_at dksX2_ranks_0 3 rfl rfl)
theorem dX2_ranks_4 : decode cX2_ranks 4 = .ok (.iload_n 3, 1) := dk_29 (dk_at dksX2_ranks_0 4 rfl rfl)
theorem dX2_ranks_5 : decode cX2_ranks 5 = .ok (.aload_n 0, 1) := dk_42 (dk_at dksX2_ranks_0 5 rfl rfl)
theorem dX2_ranks_6 : decode cX2_ranks 6 = .ok (.getfield 84, 3) := dk_180 0 84 (dk_at dksX2_ranks_0 6 rfl rfl)
theorem dX2_ranks_9 : decode cX2_ranks 9 = .ok (.if_icmp .ge 90, 3) := dk_162 0 90 (dk_at dksX2_ranks_0 9 rfl rfl)
theorem dX2_ranks_12 : decode cX2_ranks 12 = .ok (.aload_n 0, 1) := dk_42 (dk_at dksX2_ranks_0 12 rfl rfl)
theorem dX2_ranks_13 : decode cX2_ranks 13 = .ok (.getfield 66, 3) := dk_180 0 66 (dk_at dksX2_ranks_0 13 rfl rfl)
theorem dX2_ranks_16 : decode cX2_ranks 16 = .ok (.iload_n 1, 1) := dk_27 (dk_at dksX2_ranks_0 16 rfl rfl)
theorem dX2_ranks_17 : decode cX2_ranks 17 = .ok (.iaload, 1) := dk_46 (dk_at dksX2_ranks_0 17 rfl rfl)
theorem dX2_ranks_18 : decode cX2_ranks 18 = .ok (.aload_n 0, 1) := dk_42 (dk_at dksX2_ranks_0 18 rfl rfl)
theorem dX2_ranks_19 : decode cX2_ranks 19 = .ok (.getfield 69, 3) := dk_180 0 69 (dk_at dksX2_ranks_0 19 rfl rfl)
theorem dX2_ranks_22 : decode cX2_ranks 22 = .ok (.iload_n 1, 1) := dk_27 (dk_at dksX2_ranks_0 22 rfl rfl)
theorem dX2_ranks_23 : decode cX2_ranks 23 = .ok (.iaload, 1) := dk_46 (dk_at dksX2_ranks_0 23 rfl rfl)
theorem dX2_ranks_24 : decode cX2_ranks 24 = .ok (.iconst (-1), 1) := dk_2 (dk_at dksX2_ranks_1 0 rfl rfl)
theorem dX2_ranks_25 : decode cX2_ranks 25 = .ok (.ixor, 1) := dk_130 (dk_at dksX2_ranks_1 1 rfl rfl)
theorem dX2_ranks_26 : decode cX2_ranks 26 = .ok (.iand, 1) := dk_126 (dk_at dksX2_ranks_1 2 rfl rfl)
theorem dX2_ranks_27 : decode cX2_ranks 27 = .ok (.iload_n 3, 1) := dk_29 (dk_at dksX2_ranks_1 3 rfl rfl)
theorem dX2_ranks_28 : decode cX2_ranks 28 = .ok (.invokestatic 101, 3) := dk_184 0 101 (dk_at dksX2_ranks_1 4 rfl rfl)
theorem dX2_ranks_31 : decode cX2_ranks 31 = .ok (.ifCond .eq 62, 3) := dk_153 0 62 (dk_at dksX2_ranks_1 7 rfl rfl)
theorem dX2_ranks_34 : decode cX2_ranks 34 = .ok (.iload_n 2, 1) := dk_28 (dk_at dksX2_ranks_1 10 rfl rfl)
theorem dX2_ranks_35 : decode cX2_ranks 35 = .ok (.istore 4, 2) := dk_54 4 (dk_at dksX2_ranks_1 11 rfl rfl)
theorem dX2_ranks_37 : decode cX2_ranks 37 = .ok (.iload 4, 2) := dk_21 4 (dk_at dksX2_ranks_1 13 rfl rfl)
theorem dX2_ranks_39 : decode cX2_ranks 39 = .ok (.ifCond .le 43, 3) := dk_158 0 43 (dk_at dksX2_ranks_1 15 rfl rfl)
theorem dX2_ranks_42 : decode cX2_ranks 42 = .ok (.aload_n 0, 1) := dk_42 (dk_at dksX2_ranks_1 18 rfl rfl)
theorem dX2_ranks_43 : decode cX2_ranks 43 = .ok (.iload_n 1, 1) := dk_27 (dk_at dksX2_ranks_1 19 rfl rfl)
theorem dX2_ranks_44 : decode cX2_ranks 44 = .ok (.iload_n 3, 1) := dk_29 (dk_at dksX2_ranks_1 20 rfl rfl)
theorem dX2_ranks_45 : decode cX2_ranks 45 = .ok (.aload_n 0, 1) := dk_42 (dk_at dksX2_ranks_1 21 rfl rfl)
theorem dX2_ranks_46 : decode cX2_ranks 46 = .ok (.getfield 72, 3) := dk_180 0 72 (dk_at dksX2_ranks_2 0 rfl rfl)
theorem dX2_ranks_49 : decode cX2_ranks 49 = .ok (.iload 4, 2) := dk_21 4 (dk_at dksX2_ranks_2 3 rfl rfl)
theorem dX2_ranks_51 : decode cX2_ranks 51 = .ok (.iconst 1, 1) := dk_4 (dk_at dksX2_ranks_2 5 rfl rfl)
theorem dX2_ranks_52 : decode cX2_ranks 52 = .ok (.isub, 1) := dk_100 (dk_at dksX2_ranks_2 6 rfl rfl)
theorem dX2_ranks_53 : decode cX2_ranks 53 = .ok (.iaload, 1) := dk_46 (dk_at dksX2_ranks_2 7 rfl rfl)
theorem dX2_ranks_54 : decode cX2_ranks 54 = .ok (.invokevirtual 188, 3) := dk_182 0 188 (dk_at dksX2_ranks_2 8 rfl rfl)
theorem dX2_ranks_57 : decode cX2_ranks 57 = .ok (.ifCond .eq 25, 3) := dk_153 0 25 (dk_at dksX2_ranks_2 11 rfl rfl)
theorem dX2_ranks_60 : decode cX2_ranks 60 = .ok (.aload_n 0, 1) := dk_42 (dk_at dksX2_ranks_2 14 rfl rfl)
theorem dX2_ranks_61 : decode cX2_ranks 61 = .ok (.getfield 72, 3) := dk_180 0 72 (dk_at dksX2_ranks_2 15 rfl rfl)
theorem dX2_ranks_64 : decode cX2_ranks 64 = .ok (.iload 4, 2) := dk_21 4 (dk_at dksX2_ranks_2 18 rfl rfl)
theorem dX2_ranks_66 : decode cX2_ranks 66 = .ok (.aload_n 0, 1) := dk_42 (dk_at dksX2_ranks_2 20 rfl rfl)
theorem dX2_ranks_67 : decode cX2_ranks 67 = .ok (.getfield 72, 3) := dk_180 0 72 (dk_at dksX2_ranks_2 21 rfl rfl)
theorem dX2_ranks_70 : decode cX2_ranks 70 = .ok (.iload 4, 2) := dk_21 4 (dk_at dksX2_ranks_3 0 rfl rfl)
theorem dX2_ranks_72 : decode cX2_ranks 72 = .ok (.iconst 1, 1) := dk_4 (dk_at dksX2_ranks_3 2 rfl rfl)
theorem dX2_ranks_73 : decode cX2_ranks 73 = .ok (.isub, 1) := dk_100 (dk_at dksX2_ranks_3 3 rfl rfl)
theorem dX2_ranks_74 : decode cX2_ranks 74 = .ok (.iaload, 1) := dk_46 (dk_at dksX2_ranks_3 4 rfl rfl)
theorem dX2_ranks_75 : decode cX2_ranks 75 = .ok (.iastore, 1) := dk_79 (dk_at dksX2_ranks_3 5 rfl rfl)
theorem dX2_ranks_76 : decode cX2_ranks 76 = .ok (.iinc 4 (-1), 3) := dk_132 4 255 (dk_at dksX2_ranks_3 6 rfl rfl)
theorem dX2_ranks_79 : decode cX2_ranks 79 = .ok (.goto (-42), 3) := dk_167 255 214 (dk_at dksX2_ranks_3 9 rfl rfl)
theorem dX2_ranks_82 : decode cX2_ranks 82 = .ok (.aload_n 0, 1) := dk_42 (dk_at dksX2_ranks_3 12 rfl rfl)
theorem dX2_ranks_83 : decode cX2_ranks 83 = .ok (.getfield 72, 3) := dk_180 0 72 (dk_at dksX2_ranks_3 13 rfl rfl)
theorem dX2_ranks_86 : decode cX2_ranks 86 = .ok (.iload 4, 2) := dk_21 4 (dk_at dksX2_ranks_3 16 rfl rfl)
theorem dX2_ranks_88 : decode cX2_ranks 88 = .ok (.iload_n 3, 1) := dk_29 (dk_at dksX2_ranks_3 18 rfl rfl)
theorem dX2_ranks_89 : decode cX2_ranks 89 = .ok (.iastore, 1) := dk_79 (dk_at dksX2_ranks_3 19 rfl rfl)
theorem dX2_ranks_90 : decode cX2_ranks 90 = .ok (.iinc 2 1, 3) := dk_132 2 1 (dk_at dksX2_ranks_3 20 rfl rfl)
theorem dX2_ranks_93 : decode cX2_ranks 93 = .ok (.iinc 3 1, 3) := dk_132 3 1 (dk_at dksX2_ranks_4 0 rfl rfl)
theorem dX2_ranks_96 : decode cX2_ranks 96 = .ok (.goto (-92), 3) := dk_167 255 164 (dk_at dksX2_ranks_4 3 rfl rfl)
theorem dX2_ranks_99 : decode cX2_ranks 99 = .ok (.iload_n 2, 1) := dk_28 (dk_at dksX2_ranks_4 6 rfl rfl)
theorem dX2_ranks_100 : decode cX2_ranks 100 = .ok (.ireturn, 1) := dk_172 (dk_at dksX2_ranks_4 7 rfl rfl)
abbrev cX2_isBetter : ByteArray := prog_13_method_35_code
def yX2_isBetter : MethodName := ⟨RX2, "isBetter", "(III)Z"⟩
def dkwX2_isBetter_7 : List UInt8 := [167, 0, 4, 3, 172]
abbrev dktX2_isBetter_7 : List UInt8 := dkwX2_isBetter_7 ++ []
def dkwX2_isBetter_6 : List UInt8 := [159, 0, 18, 21, 7, 21, 8, 164, 0, 7, 4, 167, 0, 17, 3, 167, 0, 13, 28, 29, 162, 0, 7, 4]
abbrev dktX2_isBetter_6 : List UInt8 := dkwX2_isBetter_6 ++ dktX2_isBetter_7
def dkwX2_isBetter_5 : List UInt8 := [21, 9, 153, 0, 16, 21, 9, 158, 0, 7, 4, 167, 0, 39, 3, 167, 0, 35, 21, 7, 21, 8]
abbrev dktX2_isBetter_5 : List UInt8 := dkwX2_isBetter_5 ++ dktX2_isBetter_6
def dkwX2_isBetter_4 : List UInt8 := [21, 7, 42, 27, 28, 6, 182, 0, 185, 100, 21, 8, 100, 42, 27, 29, 6, 182, 0, 185, 96, 54, 9]
abbrev dktX2_isBetter_4 : List UInt8 := dkwX2_isBetter_4 ++ dktX2_isBetter_5
def dkwX2_isBetter_3 : List UInt8 := [167, 0, 4, 3, 172, 42, 27, 28, 5, 182, 0, 185, 54, 7, 42, 27, 29, 5, 182, 0, 185, 54, 8]
abbrev dktX2_isBetter_3 : List UInt8 := dkwX2_isBetter_3 ++ dktX2_isBetter_4
def dkwX2_isBetter_2 : List UInt8 := [154, 0, 7, 4, 167, 0, 5, 21, 4, 104, 100, 54, 6, 21, 6, 153, 0, 14, 21, 6, 158, 0, 7, 4]
abbrev dktX2_isBetter_2 : List UInt8 := dkwX2_isBetter_2 ++ dktX2_isBetter_3
def dkwX2_isBetter_1 : List UInt8 := [182, 0, 185, 21, 5, 154, 0, 7, 4, 167, 0, 5, 21, 5, 104, 42, 27, 29, 4, 182, 0, 185, 21, 4]
abbrev dktX2_isBetter_1 : List UInt8 := dkwX2_isBetter_1 ++ dktX2_isBetter_2
def dkwX2_isBetter_0 : List UInt8 := [42, 27, 28, 3, 182, 0, 185, 54, 4, 42, 27, 29, 3, 182, 0, 185, 54, 5, 42, 27, 28, 4]
abbrev dktX2_isBetter_0 : List UInt8 := dkwX2_isBetter_0 ++ dktX2_isBetter_1
theorem dksX2_isBetter_0 : cX2_isBetter.data.toList.drop 0 = dktX2_isBetter_0 := by decide +kernel
theorem dksX2_isBetter_1 : cX2_isBetter.data.toList.drop 22 = dktX2_isBetter_1 := dk_seg dksX2_isBetter_0 22 rfl rfl
theorem dksX2_isBetter_2 : cX2_isBetter.data.toList.drop 46 = dktX2_isBetter_2 := dk_seg dksX2_isBetter_1 24 rfl rfl
theorem dksX2_isBetter_3 : cX2_isBetter.data.toList.drop 70 = dktX2_isBetter_3 := dk_seg dksX2_isBetter_2 24 rfl rfl
theorem dksX2_isBetter_4 : cX2_isBetter.data.toList.drop 93 = dktX2_isBetter_4 := dk_seg dksX2_isBetter_3 23 rfl rfl
theorem dksX2_isBetter_5 : cX2_isBetter.data.toList.drop 116 = dktX2_isBetter_5 := dk_seg dksX2_isBetter_4 23 rfl rfl
theorem dksX2_isBetter_6 : cX2_isBetter.data.toList.drop 138 = dktX2_isBetter_6 := dk_seg dksX2_isBetter_5 22 rfl rfl
theorem dksX2_isBetter_7 : cX2_isBetter.data.toList.drop 162 = dktX2_isBetter_7 := dk_seg dksX2_isBetter_6 24 rfl rfl
theorem dX2_isBetter_0 : decode cX2_isBetter 0 = .ok (.aload_n 0, 1) := dk_42 (dk_at dksX2_isBetter_0 0 rfl rfl)
theorem dX2_isBetter_1 : decode cX2_isBetter 1 = .ok (.iload_n 1, 1) := dk_27 (dk_at dksX2_isBetter_0 1 rfl rfl)
theorem dX2_isBetter_2 : decode cX2_isBetter 2 = .ok (.iload_n 2, 1) := dk_28 (dk_at dksX2_isBetter_0 2 rfl rfl)
theorem dX2_isBetter_3 : decode cX2_isBetter 3 = .ok (.iconst 0, 1) := dk_3 (dk_at dksX2_isBetter_0 3 rfl rfl)
theorem dX2_isBetter_4 : decode cX2_isBetter 4 = .ok (.invokevirtual 185, 3) := dk_182 0 185 (dk_at dksX2_isBetter_0 4 rfl rfl)
theorem dX2_isBetter_7 : decode cX2_isBetter 7 = .ok (.istore 4, 2) := dk_54 4 (dk_at dksX2_isBetter_0 7 rfl rfl)
theorem dX2_isBetter_9 : decode cX2_isBetter 9 = .ok (.aload_n 0, 1) := dk_42 (dk_at dksX2_isBetter_0 9 rfl rfl)
theorem dX2_isBetter_10 : decode cX2_isBetter 10 = .ok (.iload_n 1, 1) := dk_27 (dk_at dksX2_isBetter_0 10 rfl rfl)
theorem dX2_isBetter_11 : decode cX2_isBetter 11 = .ok (.iload_n 3, 1) := dk_29 (dk_at dksX2_isBetter_0 11 rfl rfl)
theorem dX2_isBetter_12 : decode cX2_isBetter 12 = .ok (.iconst 0, 1) := dk_3 (dk_at dksX2_isBetter_0 12 rfl rfl)
theorem dX2_isBetter_13 : decode cX2_isBetter 13 = .ok (.invokevirtual 185, 3) := dk_182 0 185 (dk_at dksX2_isBetter_0 13 rfl rfl)
theorem dX2_isBetter_16 : decode cX2_isBetter 16 = .ok (.istore 5, 2) := dk_54 5 (dk_at dksX2_isBetter_0 16 rfl rfl)
theorem dX2_isBetter_18 : decode cX2_isBetter 18 = .ok (.aload_n 0, 1) := dk_42 (dk_at dksX2_isBetter_0 18 rfl rfl)
theorem dX2_isBetter_19 : decode cX2_isBetter 19 = .ok (.iload_n 1, 1) := dk_27 (dk_at dksX2_isBetter_0 19 rfl rfl)
theorem dX2_isBetter_20 : decode cX2_isBetter 20 = .ok (.iload_n 2, 1) := dk_28 (dk_at dksX2_isBetter_0 20 rfl rfl)
theorem dX2_isBetter_21 : decode cX2_isBetter 21 = .ok (.iconst 1, 1) := dk_4 (dk_at dksX2_isBetter_0 21 rfl rfl)
theorem dX2_isBetter_22 : decode cX2_isBetter 22 = .ok (.invokevirtual 185, 3) := dk_182 0 185 (dk_at dksX2_isBetter_1 0 rfl rfl)
theorem dX2_isBetter_25 : decode cX2_isBetter 25 = .ok (.iload 5, 2) := dk_21 5 (dk_at dksX2_isBetter_1 3 rfl rfl)
theorem dX2_isBetter_27 : decode cX2_isBetter 27 = .ok (.ifCond .ne 7, 3) := dk_154 0 7 (dk_at dksX2_isBetter_1 5 rfl rfl)
theorem dX2_isBetter_30 : decode cX2_isBetter 30 = .ok (.iconst 1, 1) := dk_4 (dk_at dksX2_isBetter_1 8 rfl rfl)
theorem dX2_isBetter_31 : decode cX2_isBetter 31 = .ok (.goto 5, 3) := dk_167 0 5 (dk_at dksX2_isBetter_1 9 rfl rfl)
theorem dX2_isBetter_34 : decode cX2_isBetter 34 = .ok (.iload 5, 2) := dk_21 5 (dk_at dksX2_isBetter_1 12 rfl rfl)
theorem dX2_isBetter_36 : decode cX2_isBetter 36 = .ok (.imul, 1) := dk_104 (dk_at dksX2_isBetter_1 14 rfl rfl)
theorem dX2_isBetter_37 : decode cX2_isBetter 37 = .ok (.aload_n 0, 1) := dk_42 (dk_at dksX2_isBetter_1 15 rfl rfl)
theorem dX2_isBetter_38 : decode cX2_isBetter 38 = .ok (.iload_n 1, 1) := dk_27 (dk_at dksX2_isBetter_1 16 rfl rfl)
theorem dX2_isBetter_39 : decode cX2_isBetter 39 = .ok (.iload_n 3, 1) := dk_29 (dk_at dksX2_isBetter_1 17 rfl rfl)
theorem dX2_isBetter_40 : decode cX2_isBetter 40 = .ok (.iconst 1, 1) := dk_4 (dk_at dksX2_isBetter_1 18 rfl rfl)
theorem dX2_isBetter_41 : decode cX2_isBetter 41 = .ok (.invokevirtual 185, 3) := dk_182 0 185 (dk_at dksX2_isBetter_1 19 rfl rfl)
theorem dX2_isBetter_44 : decode cX2_isBetter 44 = .ok (.iload 4, 2) := dk_21 4 (dk_at dksX2_isBetter_1 22 rfl rfl)
theorem dX2_isBetter_46 : decode cX2_isBetter 46 = .ok (.ifCond .ne 7, 3) := dk_154 0 7 (dk_at dksX2_isBetter_2 0 rfl rfl)
theorem dX2_isBetter_49 : decode cX2_isBetter 49 = .ok (.iconst 1, 1) := dk_4 (dk_at dksX2_isBetter_2 3 rfl rfl)
theorem dX2_isBetter_50 : decode cX2_isBetter 50 = .ok (.goto 5, 3) := dk_167 0 5 (dk_at dksX2_isBetter_2 4 rfl rfl)
theorem dX2_isBetter_53 : decode cX2_isBetter 53 = .ok (.iload 4, 2) := dk_21 4 (dk_at dksX2_isBetter_2 7 rfl rfl)
theorem dX2_isBetter_55 : decode cX2_isBetter 55 = .ok (.imul, 1) := dk_104 (dk_at dksX2_isBetter_2 9 rfl rfl)
theorem dX2_isBetter_56 : decode cX2_isBetter 56 = .ok (.isub, 1) := dk_100 (dk_at dksX2_isBetter_2 10 rfl rfl)
theorem dX2_isBetter_57 : decode cX2_isBetter 57 = .ok (.istore 6, 2) := dk_54 6 (dk_at dksX2_isBetter_2 11 rfl rfl)
theorem dX2_isBetter_59 : decode cX2_isBetter 59 = .ok (.iload 6, 2) := dk_21 6 (dk_at dksX2_isBetter_2 13 rfl rfl)
theorem dX2_isBetter_61 : decode cX2_isBetter 61 = .ok (.ifCond .eq 14, 3) := dk_153 0 14 (dk_at dksX2_isBetter_2 15 rfl rfl)
theorem dX2_isBetter_64 : decode cX2_isBetter 64 = .ok (.iload 6, 2) := dk_21 6 (dk_at dksX2_isBetter_2 18 rfl rfl)
theorem dX2_isBetter_66 : decode cX2_isBetter 66 = .ok (.ifCond .le 7, 3) := dk_158 0 7 (dk_at dksX2_isBetter_2 20 rfl rfl)
theorem dX2_isBetter_69 : decode cX2_isBetter 69 = .ok (.iconst 1, 1) := dk_4 (dk_at dksX2_isBetter_2 23 rfl rfl)
theorem dX2_isBetter_70 : decode cX2_isBetter 70 = .ok (.goto 4, 3) := dk_167 0 4 (dk_at dksX2_isBetter_3 0 rfl rfl)
theorem dX2_isBetter_73 : decode cX2_isBetter 73 = .ok (.iconst 0, 1) := dk_3 (dk_at dksX2_isBetter_3 3 rfl rfl)
theorem dX2_isBetter_74 : decode cX2_isBetter 74 = .ok (.ireturn, 1) := dk_172 (dk_at dksX2_isBetter_3 4 rfl rfl)
theorem dX2_isBetter_75 : decode cX2_isBetter 75 = .ok (.aload_n 0, 1) := dk_42 (dk_at dksX2_isBetter_3 5 rfl rfl)
theorem dX2_isBetter_76 : decode cX2_isBetter 76 = .ok (.iload_n 1, 1) := dk_27 (dk_at dksX2_isBetter_3 6 rfl rfl)
theorem dX2_isBetter_77 : decode cX2_isBetter 77 = .ok (.iload_n 2, 1) := dk_28 (dk_at dksX2_isBetter_3 7 rfl rfl)
theorem dX2_isBetter_78 : decode cX2_isBetter 78 = .ok (.iconst 2, 1) := dk_5 (dk_at dksX2_isBetter_3 8 rfl rfl)
theorem dX2_isBetter_79 : decode cX2_isBetter 79 = .ok (.invokevirtual 185, 3) := dk_182 0 185 (dk_at dksX2_isBetter_3 9 rfl rfl)
theorem dX2_isBetter_82 : decode cX2_isBetter 82 = .ok (.istore 7, 2) := dk_54 7 (dk_at dksX2_isBetter_3 12 rfl rfl)
theorem dX2_isBetter_84 : decode cX2_isBetter 84 = .ok (.aload_n 0, 1) := dk_42 (dk_at dksX2_isBetter_3 14 rfl rfl)
theorem dX2_isBetter_85 : decode cX2_isBetter 85 = .ok (.iload_n 1, 1) := dk_27 (dk_at dksX2_isBetter_3 15 rfl rfl)
theorem dX2_isBetter_86 : decode cX2_isBetter 86 = .ok (.iload_n 3, 1) := dk_29 (dk_at dksX2_isBetter_3 16 rfl rfl)
theorem dX2_isBetter_87 : decode cX2_isBetter 87 = .ok (.iconst 2, 1) := dk_5 (dk_at dksX2_isBetter_3 17 rfl rfl)
theorem dX2_isBetter_88 : decode cX2_isBetter 88 = .ok (.invokevirtual 185, 3) := dk_182 0 185 (dk_at dksX2_isBetter_3 18 rfl rfl)
theorem dX2_isBetter_91 : decode cX2_isBetter 91 = .ok (.istore 8, 2) := dk_54 8 (dk_at dksX2_isBetter_3 21 rfl rfl)
theorem dX2_isBetter_93 : decode cX2_isBetter 93 = .ok (.iload 7, 2) := dk_21 7 (dk_at dksX2_isBetter_4 0 rfl rfl)
theorem dX2_isBetter_95 : decode cX2_isBetter 95 = .ok (.aload_n 0, 1) := dk_42 (dk_at dksX2_isBetter_4 2 rfl rfl)
theorem dX2_isBetter_96 : decode cX2_isBetter 96 = .ok (.iload_n 1, 1) := dk_27 (dk_at dksX2_isBetter_4 3 rfl rfl)
theorem dX2_isBetter_97 : decode cX2_isBetter 97 = .ok (.iload_n 2, 1) := dk_28 (dk_at dksX2_isBetter_4 4 rfl rfl)
theorem dX2_isBetter_98 : decode cX2_isBetter 98 = .ok (.iconst 3, 1) := dk_6 (dk_at dksX2_isBetter_4 5 rfl rfl)
theorem dX2_isBetter_99 : decode cX2_isBetter 99 = .ok (.invokevirtual 185, 3) := dk_182 0 185 (dk_at dksX2_isBetter_4 6 rfl rfl)
theorem dX2_isBetter_102 : decode cX2_isBetter 102 = .ok (.isub, 1) := dk_100 (dk_at dksX2_isBetter_4 9 rfl rfl)
theorem dX2_isBetter_103 : decode cX2_isBetter 103 = .ok (.iload 8, 2) := dk_21 8 (dk_at dksX2_isBetter_4 10 rfl rfl)
theorem dX2_isBetter_105 : decode cX2_isBetter 105 = .ok (.isub, 1) := dk_100 (dk_at dksX2_isBetter_4 12 rfl rfl)
theorem dX2_isBetter_106 : decode cX2_isBetter 106 = .ok (.aload_n 0, 1) := dk_42 (dk_at dksX2_isBetter_4 13 rfl rfl)
theorem dX2_isBetter_107 : decode cX2_isBetter 107 = .ok (.iload_n 1, 1) := dk_27 (dk_at dksX2_isBetter_4 14 rfl rfl)
theorem dX2_isBetter_108 : decode cX2_isBetter 108 = .ok (.iload_n 3, 1) := dk_29 (dk_at dksX2_isBetter_4 15 rfl rfl)
theorem dX2_isBetter_109 : decode cX2_isBetter 109 = .ok (.iconst 3, 1) := dk_6 (dk_at dksX2_isBetter_4 16 rfl rfl)
theorem dX2_isBetter_110 : decode cX2_isBetter 110 = .ok (.invokevirtual 185, 3) := dk_182 0 185 (dk_at dksX2_isBetter_4 17 rfl rfl)
theorem dX2_isBetter_113 : decode cX2_isBetter 113 = .ok (.iadd, 1) := dk_96 (dk_at dksX2_isBetter_4 20 rfl rfl)
theorem dX2_isBetter_114 : decode cX2_isBetter 114 = .ok (.istore 9, 2) := dk_54 9 (dk_at dksX2_isBetter_4 21 rfl rfl)
theorem dX2_isBetter_116 : decode cX2_isBetter 116 = .ok (.iload 9, 2) := dk_21 9 (dk_at dksX2_isBetter_5 0 rfl rfl)
theorem dX2_isBetter_118 : decode cX2_isBetter 118 = .ok (.ifCond .eq 16, 3) := dk_153 0 16 (dk_at dksX2_isBetter_5 2 rfl rfl)
theorem dX2_isBetter_121 : decode cX2_isBetter 121 = .ok (.iload 9, 2) := dk_21 9 (dk_at dksX2_isBetter_5 5 rfl rfl)
theorem dX2_isBetter_123 : decode cX2_isBetter 123 = .ok (.ifCond .le 7, 3) := dk_158 0 7 (dk_at dksX2_isBetter_5 7 rfl rfl)
theorem dX2_isBetter_126 : decode cX2_isBetter 126 = .ok (.iconst 1, 1) := dk_4 (dk_at dksX2_isBetter_5 10 rfl rfl)
theorem dX2_isBetter_127 : decode cX2_isBetter 127 = .ok (.goto 39, 3) := dk_167 0 39 (dk_at dksX2_isBetter_5 11 rfl rfl)
theorem dX2_isBetter_130 : decode cX2_isBetter 130 = .ok (.iconst 0, 1) := dk_3 (dk_at dksX2_isBetter_5 14 rfl rfl)
theorem dX2_isBetter_131 : decode cX2_isBetter 131 = .ok (.goto 35, 3) := dk_167 0 35 (dk_at dksX2_isBetter_5 15 rfl rfl)
theorem dX2_isBetter_134 : decode cX2_isBetter 134 = .ok (.iload 7, 2) := dk_21 7 (dk_at dksX2_isBetter_5 18 rfl rfl)
theorem dX2_isBetter_136 : decode cX2_isBetter 136 = .ok (.iload 8, 2) := dk_21 8 (dk_at dksX2_isBetter_5 20 rfl rfl)
theorem dX2_isBetter_138 : decode cX2_isBetter 138 = .ok (.if_icmp .eq 18, 3) := dk_159 0 18 (dk_at dksX2_isBetter_6 0 rfl rfl)
theorem dX2_isBetter_141 : decode cX2_isBetter 141 = .ok (.iload 7, 2) := dk_21 7 (dk_at dksX2_isBetter_6 3 rfl rfl)
theorem dX2_isBetter_143 : decode cX2_isBetter 143 = .ok (.iload 8, 2) := dk_21 8 (dk_at dksX2_isBetter_6 5 rfl rfl)
theorem dX2_isBetter_145 : decode cX2_isBetter 145 = .ok (.if_icmp .le 7, 3) := dk_164 0 7 (dk_at dksX2_isBetter_6 7 rfl rfl)
theorem dX2_isBetter_148 : decode cX2_isBetter 148 = .ok (.iconst 1, 1) := dk_4 (dk_at dksX2_isBetter_6 10 rfl rfl)
theorem dX2_isBetter_149 : decode cX2_isBetter 149 = .ok (.goto 17, 3) := dk_167 0 17 (dk_at dksX2_isBetter_6 11 rfl rfl)
theorem dX2_isBetter_152 : decode cX2_isBetter 152 = .ok (.iconst 0, 1) := dk_3 (dk_at dksX2_isBetter_6 14 rfl rfl)
theorem dX2_isBetter_153 : decode cX2_isBetter 153 = .ok (.goto 13, 3) := dk_167 0 13 (dk_at dksX2_isBetter_6 15 rfl rfl)
theorem dX2_isBetter_156 : decode cX2_isBetter 156 = .ok (.iload_n 2, 1) := dk_28 (dk_at dksX2_isBetter_6 18 rfl rfl)
theorem dX2_isBetter_157 : decode cX2_isBetter 157 = .ok (.iload_n 3, 1) := dk_29 (dk_at dksX2_isBetter_6 19 rfl rfl)
theorem dX2_isBetter_158 : decode cX2_isBetter 158 = .ok (.if_icmp .ge 7, 3) := dk_162 0 7 (dk_at dksX2_isBetter_6 20 rfl rfl)
theorem dX2_isBetter_161 : decode cX2_isBetter 161 = .ok (.iconst 1, 1) := dk_4 (dk_at dksX2_isBetter_6 23 rfl rfl)
theorem dX2_isBetter_162 : decode cX2_isBetter 162 = .ok (.goto 4, 3) := dk_167 0 4 (dk_at dksX2_isBetter_7 0 rfl rfl)
theorem dX2_isBetter_165 : decode cX2_isBetter 165 = .ok (.iconst 0, 1) := dk_3 (dk_at dksX2_isBetter_7 3 rfl rfl)
theorem dX2_isBetter_166 : decode cX2_isBetter 166 = .ok (.ireturn, 1) := dk_172 (dk_at dksX2_isBetter_7 4 rfl rfl)
abbrev cX2_orderAt : ByteArray := prog_13_method_37_code
def yX2_orderAt : MethodName := ⟨RX2, "orderAt", "(II)I"⟩
def dkwX2_orderAt_1 : List UInt8 := [21, 4, 108, 5, 112, 154, 0, 7, 28, 167, 0, 8, 29, 4, 100, 28, 100, 61, 167, 255, 222, 28, 172]
abbrev dktX2_orderAt_1 : List UInt8 := dkwX2_orderAt_1 ++ []
def dkwX2_orderAt_0 : List UInt8 := [3, 61, 4, 62, 26, 54, 4, 29, 26, 162, 0, 35, 29, 5, 104, 62, 21, 4, 5, 108, 54, 4, 27]
abbrev dktX2_orderAt_0 : List UInt8 := dkwX2_orderAt_0 ++ dktX2_orderAt_1
theorem dksX2_orderAt_0 : cX2_orderAt.data.toList.drop 0 = dktX2_orderAt_0 := by decide +kernel
theorem dksX2_orderAt_1 : cX2_orderAt.data.toList.drop 23 = dktX2_orderAt_1 := dk_seg dksX2_orderAt_0 23 rfl rfl
theorem dX2_orderAt_0 : decode cX2_orderAt 0 = .ok (.iconst 0, 1) := dk_3 (dk_at dksX2_orderAt_0 0 rfl rfl)
theorem dX2_orderAt_1 : decode cX2_orderAt 1 = .ok (.istore_n 2, 1) := dk_61 (dk_at dksX2_orderAt_0 1 rfl rfl)
theorem dX2_orderAt_2 : decode cX2_orderAt 2 = .ok (.iconst 1, 1) := dk_4 (dk_at dksX2_orderAt_0 2 rfl rfl)
theorem dX2_orderAt_3 : decode cX2_orderAt 3 = .ok (.istore_n 3, 1) := dk_62 (dk_at dksX2_orderAt_0 3 rfl rfl)
theorem dX2_orderAt_4 : decode cX2_orderAt 4 = .ok (.iload_n 0, 1) := dk_26 (dk_at dksX2_orderAt_0 4 rfl rfl)
theorem dX2_orderAt_5 : decode cX2_orderAt 5 = .ok (.istore 4, 2) := dk_54 4 (dk_at dksX2_orderAt_0 5 rfl rfl)
theorem dX2_orderAt_7 : decode cX2_orderAt 7 = .ok (.iload_n 3, 1) := dk_29 (dk_at dksX2_orderAt_0 7 rfl rfl)
theorem dX2_orderAt_8 : decode cX2_orderAt 8 = .ok (.iload_n 0, 1) := dk_26 (dk_at dksX2_orderAt_0 8 rfl rfl)
theorem dX2_orderAt_9 : decode cX2_orderAt 9 = .ok (.if_icmp .ge 35, 3) := dk_162 0 35 (dk_at dksX2_orderAt_0 9 rfl rfl)
theorem dX2_orderAt_12 : decode cX2_orderAt 12 = .ok (.iload_n 3, 1) := dk_29 (dk_at dksX2_orderAt_0 12 rfl rfl)
theorem dX2_orderAt_13 : decode cX2_orderAt 13 = .ok (.iconst 2, 1) := dk_5 (dk_at dksX2_orderAt_0 13 rfl rfl)
theorem dX2_orderAt_14 : decode cX2_orderAt 14 = .ok (.imul, 1) := dk_104 (dk_at dksX2_orderAt_0 14 rfl rfl)
theorem dX2_orderAt_15 : decode cX2_orderAt 15 = .ok (.istore_n 3, 1) := dk_62 (dk_at dksX2_orderAt_0 15 rfl rfl)
theorem dX2_orderAt_16 : decode cX2_orderAt 16 = .ok (.iload 4, 2) := dk_21 4 (dk_at dksX2_orderAt_0 16 rfl rfl)
theorem dX2_orderAt_18 : decode cX2_orderAt 18 = .ok (.iconst 2, 1) := dk_5 (dk_at dksX2_orderAt_0 18 rfl rfl)
theorem dX2_orderAt_19 : decode cX2_orderAt 19 = .ok (.idiv, 1) := dk_108 (dk_at dksX2_orderAt_0 19 rfl rfl)
theorem dX2_orderAt_20 : decode cX2_orderAt 20 = .ok (.istore 4, 2) := dk_54 4 (dk_at dksX2_orderAt_0 20 rfl rfl)
theorem dX2_orderAt_22 : decode cX2_orderAt 22 = .ok (.iload_n 1, 1) := dk_27 (dk_at dksX2_orderAt_0 22 rfl rfl)
theorem dX2_orderAt_23 : decode cX2_orderAt 23 = .ok (.iload 4, 2) := dk_21 4 (dk_at dksX2_orderAt_1 0 rfl rfl)
theorem dX2_orderAt_25 : decode cX2_orderAt 25 = .ok (.idiv, 1) := dk_108 (dk_at dksX2_orderAt_1 2 rfl rfl)
theorem dX2_orderAt_26 : decode cX2_orderAt 26 = .ok (.iconst 2, 1) := dk_5 (dk_at dksX2_orderAt_1 3 rfl rfl)
theorem dX2_orderAt_27 : decode cX2_orderAt 27 = .ok (.irem, 1) := dk_112 (dk_at dksX2_orderAt_1 4 rfl rfl)
theorem dX2_orderAt_28 : decode cX2_orderAt 28 = .ok (.ifCond .ne 7, 3) := dk_154 0 7 (dk_at dksX2_orderAt_1 5 rfl rfl)
theorem dX2_orderAt_31 : decode cX2_orderAt 31 = .ok (.iload_n 2, 1) := dk_28 (dk_at dksX2_orderAt_1 8 rfl rfl)
theorem dX2_orderAt_32 : decode cX2_orderAt 32 = .ok (.goto 8, 3) := dk_167 0 8 (dk_at dksX2_orderAt_1 9 rfl rfl)
theorem dX2_orderAt_35 : decode cX2_orderAt 35 = .ok (.iload_n 3, 1) := dk_29 (dk_at dksX2_orderAt_1 12 rfl rfl)
theorem dX2_orderAt_36 : decode cX2_orderAt 36 = .ok (.iconst 1, 1) := dk_4 (dk_at dksX2_orderAt_1 13 rfl rfl)
theorem dX2_orderAt_37 : decode cX2_orderAt 37 = .ok (.isub, 1) := dk_100 (dk_at dksX2_orderAt_1 14 rfl rfl)
theorem dX2_orderAt_38 : decode cX2_orderAt 38 = .ok (.iload_n 2, 1) := dk_28 (dk_at dksX2_orderAt_1 15 rfl rfl)
theorem dX2_orderAt_39 : decode cX2_orderAt 39 = .ok (.isub, 1) := dk_100 (dk_at dksX2_orderAt_1 16 rfl rfl)
theorem dX2_orderAt_40 : decode cX2_orderAt 40 = .ok (.istore_n 2, 1) := dk_61 (dk_at dksX2_orderAt_1 17 rfl rfl)
theorem dX2_orderAt_41 : decode cX2_orderAt 41 = .ok (.goto (-34), 3) := dk_167 255 222 (dk_at dksX2_orderAt_1 18 rfl rfl)
theorem dX2_orderAt_44 : decode cX2_orderAt 44 = .ok (.iload_n 2, 1) := dk_28 (dk_at dksX2_orderAt_1 21 rfl rfl)
theorem dX2_orderAt_45 : decode cX2_orderAt 45 = .ok (.ireturn, 1) := dk_172 (dk_at dksX2_orderAt_1 22 rfl rfl)
abbrev cX2_isWon : ByteArray := prog_13_method_40_code
def yX2_isWon : MethodName := ⟨RX2, "isWon", "(III)V"⟩
def dkwX2_isWon_1 : List UInt8 := [162, 0, 17, 42, 180, 0, 75, 16, 32, 27, 4, 96, 104, 28, 96, 29, 79, 177]
abbrev dktX2_isWon_1 : List UInt8 := dkwX2_isWon_1 ++ []
def dkwX2_isWon_0 : List UInt8 := [42, 180, 0, 78, 16, 16, 27, 104, 28, 96, 29, 79, 27, 4, 96, 42, 180, 0, 194, 184, 0, 205]
abbrev dktX2_isWon_0 : List UInt8 := dkwX2_isWon_0 ++ dktX2_isWon_1
theorem dksX2_isWon_0 : cX2_isWon.data.toList.drop 0 = dktX2_isWon_0 := by decide +kernel
theorem dksX2_isWon_1 : cX2_isWon.data.toList.drop 22 = dktX2_isWon_1 := dk_seg dksX2_isWon_0 22 rfl rfl
theorem dX2_isWon_0 : decode cX2_isWon 0 = .ok (.aload_n 0, 1) := dk_42 (dk_at dksX2_isWon_0 0 rfl rfl)
theorem dX2_isWon_1 : decode cX2_isWon 1 = .ok (.getfield 78, 3) := dk_180 0 78 (dk_at dksX2_isWon_0 1 rfl rfl)
theorem dX2_isWon_4 : decode cX2_isWon 4 = .ok (.bipush 16, 2) := dk_16 16 (dk_at dksX2_isWon_0 4 rfl rfl)
theorem dX2_isWon_6 : decode cX2_isWon 6 = .ok (.iload_n 1, 1) := dk_27 (dk_at dksX2_isWon_0 6 rfl rfl)
theorem dX2_isWon_7 : decode cX2_isWon 7 = .ok (.imul, 1) := dk_104 (dk_at dksX2_isWon_0 7 rfl rfl)
theorem dX2_isWon_8 : decode cX2_isWon 8 = .ok (.iload_n 2, 1) := dk_28 (dk_at dksX2_isWon_0 8 rfl rfl)
theorem dX2_isWon_9 : decode cX2_isWon 9 = .ok (.iadd, 1) := dk_96 (dk_at dksX2_isWon_0 9 rfl rfl)
theorem dX2_isWon_10 : decode cX2_isWon 10 = .ok (.iload_n 3, 1) := dk_29 (dk_at dksX2_isWon_0 10 rfl rfl)
theorem dX2_isWon_11 : decode cX2_isWon 11 = .ok (.iastore, 1) := dk_79 (dk_at dksX2_isWon_0 11 rfl rfl)
theorem dX2_isWon_12 : decode cX2_isWon 12 = .ok (.iload_n 1, 1) := dk_27 (dk_at dksX2_isWon_0 12 rfl rfl)
theorem dX2_isWon_13 : decode cX2_isWon 13 = .ok (.iconst 1, 1) := dk_4 (dk_at dksX2_isWon_0 13 rfl rfl)
theorem dX2_isWon_14 : decode cX2_isWon 14 = .ok (.iadd, 1) := dk_96 (dk_at dksX2_isWon_0 14 rfl rfl)
theorem dX2_isWon_15 : decode cX2_isWon 15 = .ok (.aload_n 0, 1) := dk_42 (dk_at dksX2_isWon_0 15 rfl rfl)
theorem dX2_isWon_16 : decode cX2_isWon 16 = .ok (.getfield 194, 3) := dk_180 0 194 (dk_at dksX2_isWon_0 16 rfl rfl)
theorem dX2_isWon_19 : decode cX2_isWon 19 = .ok (.invokestatic 205, 3) := dk_184 0 205 (dk_at dksX2_isWon_0 19 rfl rfl)
theorem dX2_isWon_22 : decode cX2_isWon 22 = .ok (.if_icmp .ge 17, 3) := dk_162 0 17 (dk_at dksX2_isWon_1 0 rfl rfl)
theorem dX2_isWon_25 : decode cX2_isWon 25 = .ok (.aload_n 0, 1) := dk_42 (dk_at dksX2_isWon_1 3 rfl rfl)
theorem dX2_isWon_26 : decode cX2_isWon 26 = .ok (.getfield 75, 3) := dk_180 0 75 (dk_at dksX2_isWon_1 4 rfl rfl)
theorem dX2_isWon_29 : decode cX2_isWon 29 = .ok (.bipush 32, 2) := dk_16 32 (dk_at dksX2_isWon_1 7 rfl rfl)
theorem dX2_isWon_31 : decode cX2_isWon 31 = .ok (.iload_n 1, 1) := dk_27 (dk_at dksX2_isWon_1 9 rfl rfl)
theorem dX2_isWon_32 : decode cX2_isWon 32 = .ok (.iconst 1, 1) := dk_4 (dk_at dksX2_isWon_1 10 rfl rfl)
theorem dX2_isWon_33 : decode cX2_isWon 33 = .ok (.iadd, 1) := dk_96 (dk_at dksX2_isWon_1 11 rfl rfl)
theorem dX2_isWon_34 : decode cX2_isWon 34 = .ok (.imul, 1) := dk_104 (dk_at dksX2_isWon_1 12 rfl rfl)
theorem dX2_isWon_35 : decode cX2_isWon 35 = .ok (.iload_n 2, 1) := dk_28 (dk_at dksX2_isWon_1 13 rfl rfl)
theorem dX2_isWon_36 : decode cX2_isWon 36 = .ok (.iadd, 1) := dk_96 (dk_at dksX2_isWon_1 14 rfl rfl)
theorem dX2_isWon_37 : decode cX2_isWon 37 = .ok (.iload_n 3, 1) := dk_29 (dk_at dksX2_isWon_1 15 rfl rfl)
theorem dX2_isWon_38 : decode cX2_isWon 38 = .ok (.iastore, 1) := dk_79 (dk_at dksX2_isWon_1 16 rfl rfl)
theorem dX2_isWon_39 : decode cX2_isWon 39 = .ok (.return_, 1) := dk_177 (dk_at dksX2_isWon_1 17 rfl rfl)
abbrev cX2_rounds : ByteArray := prog_13_method_39_code
def yX2_rounds : MethodName := ⟨RX2, "rounds", "(I)I"⟩
def dkwX2_rounds_1 : List UInt8 := [160, 0, 7, 5, 167, 0, 13, 26, 5, 160, 0, 7, 4, 167, 0, 4, 3, 172]
abbrev dktX2_rounds_1 : List UInt8 := dkwX2_rounds_1 ++ []
def dkwX2_rounds_0 : List UInt8 := [26, 16, 16, 160, 0, 7, 7, 167, 0, 32, 26, 16, 8, 160, 0, 7, 6, 167, 0, 22, 26, 7]
abbrev dktX2_rounds_0 : List UInt8 := dkwX2_rounds_0 ++ dktX2_rounds_1
theorem dksX2_rounds_0 : cX2_rounds.data.toList.drop 0 = dktX2_rounds_0 := by decide +kernel
theorem dksX2_rounds_1 : cX2_rounds.data.toList.drop 22 = dktX2_rounds_1 := dk_seg dksX2_rounds_0 22 rfl rfl
theorem dX2_rounds_0 : decode cX2_rounds 0 = .ok (.iload_n 0, 1) := dk_26 (dk_at dksX2_rounds_0 0 rfl rfl)
theorem dX2_rounds_1 : decode cX2_rounds 1 = .ok (.bipush 16, 2) := dk_16 16 (dk_at dksX2_rounds_0 1 rfl rfl)
theorem dX2_rounds_3 : decode cX2_rounds 3 = .ok (.if_icmp .ne 7, 3) := dk_160 0 7 (dk_at dksX2_rounds_0 3 rfl rfl)
theorem dX2_rounds_6 : decode cX2_rounds 6 = .ok (.iconst 4, 1) := dk_7 (dk_at dksX2_rounds_0 6 rfl rfl)
theorem dX2_rounds_7 : decode cX2_rounds 7 = .ok (.goto 32, 3) := dk_167 0 32 (dk_at dksX2_rounds_0 7 rfl rfl)
theorem dX2_rounds_10 : decode cX2_rounds 10 = .ok (.iload_n 0, 1) := dk_26 (dk_at dksX2_rounds_0 10 rfl rfl)
theorem dX2_rounds_11 : decode cX2_rounds 11 = .ok (.bipush 8, 2) := dk_16 8 (dk_at dksX2_rounds_0 11 rfl rfl)
theorem dX2_rounds_13 : decode cX2_rounds 13 = .ok (.if_icmp .ne 7, 3) := dk_160 0 7 (dk_at dksX2_rounds_0 13 rfl rfl)
theorem dX2_rounds_16 : decode cX2_rounds 16 = .ok (.iconst 3, 1) := dk_6 (dk_at dksX2_rounds_0 16 rfl rfl)
theorem dX2_rounds_17 : decode cX2_rounds 17 = .ok (.goto 22, 3) := dk_167 0 22 (dk_at dksX2_rounds_0 17 rfl rfl)
theorem dX2_rounds_20 : decode cX2_rounds 20 = .ok (.iload_n 0, 1) := dk_26 (dk_at dksX2_rounds_0 20 rfl rfl)
theorem dX2_rounds_21 : decode cX2_rounds 21 = .ok (.iconst 4, 1) := dk_7 (dk_at dksX2_rounds_0 21 rfl rfl)
theorem dX2_rounds_22 : decode cX2_rounds 22 = .ok (.if_icmp .ne 7, 3) := dk_160 0 7 (dk_at dksX2_rounds_1 0 rfl rfl)
theorem dX2_rounds_25 : decode cX2_rounds 25 = .ok (.iconst 2, 1) := dk_5 (dk_at dksX2_rounds_1 3 rfl rfl)
theorem dX2_rounds_26 : decode cX2_rounds 26 = .ok (.goto 13, 3) := dk_167 0 13 (dk_at dksX2_rounds_1 4 rfl rfl)
theorem dX2_rounds_29 : decode cX2_rounds 29 = .ok (.iload_n 0, 1) := dk_26 (dk_at dksX2_rounds_1 7 rfl rfl)
theorem dX2_rounds_30 : decode cX2_rounds 30 = .ok (.iconst 2, 1) := dk_5 (dk_at dksX2_rounds_1 8 rfl rfl)
theorem dX2_rounds_31 : decode cX2_rounds 31 = .ok (.if_icmp .ne 7, 3) := dk_160 0 7 (dk_at dksX2_rounds_1 9 rfl rfl)
theorem dX2_rounds_34 : decode cX2_rounds 34 = .ok (.iconst 1, 1) := dk_4 (dk_at dksX2_rounds_1 12 rfl rfl)
theorem dX2_rounds_35 : decode cX2_rounds 35 = .ok (.goto 4, 3) := dk_167 0 4 (dk_at dksX2_rounds_1 13 rfl rfl)
theorem dX2_rounds_38 : decode cX2_rounds 38 = .ok (.iconst 0, 1) := dk_3 (dk_at dksX2_rounds_1 16 rfl rfl)
theorem dX2_rounds_39 : decode cX2_rounds 39 = .ok (.ireturn, 1) := dk_172 (dk_at dksX2_rounds_1 17 rfl rfl)
abbrev cX2_wins : ByteArray := prog_13_method_42_code
def yX2_wins : MethodName := ⟨RX2, "wins", "(III)I"⟩
def dkwX2_wins_5 : List UInt8 := [27, 28, 21, 5, 182, 0, 201, 21, 5, 172]
abbrev dktX2_wins_5 : List UInt8 := dkwX2_wins_5 ++ []
def dkwX2_wins_4 : List UInt8 := [181, 0, 81, 42, 180, 0, 81, 158, 0, 5, 3, 172, 42, 180, 0, 75, 21, 4, 29, 96, 46, 54, 5, 42]
abbrev dktX2_wins_4 : List UInt8 := dkwX2_wins_4 ++ dktX2_wins_5
def dkwX2_wins_3 : List UInt8 := [159, 0, 18, 42, 180, 0, 78, 16, 16, 27, 104, 28, 96, 46, 2, 159, 0, 7, 6, 167, 0, 4, 3]
abbrev dktX2_wins_3 : List UInt8 := dkwX2_wins_3 ++ dktX2_wins_4
def dkwX2_wins_2 : List UInt8 := [54, 4, 42, 42, 180, 0, 75, 21, 4, 46, 2, 159, 0, 31, 42, 180, 0, 75, 21, 4, 4, 96, 46, 2]
abbrev dktX2_wins_2 : List UInt8 := dkwX2_wins_2 ++ dktX2_wins_3
def dkwX2_wins_1 : List UInt8 := [167, 0, 4, 3, 181, 0, 81, 42, 180, 0, 81, 158, 0, 5, 3, 172, 16, 32, 27, 104, 5, 28, 104, 96]
abbrev dktX2_wins_1 : List UInt8 := dkwX2_wins_1 ++ dktX2_wins_2
def dkwX2_wins_0 : List UInt8 := [42, 42, 27, 28, 182, 0, 208, 154, 0, 7, 4, 167, 0, 15, 29, 184, 0, 114, 154, 0, 7, 5]
abbrev dktX2_wins_0 : List UInt8 := dkwX2_wins_0 ++ dktX2_wins_1
theorem dksX2_wins_0 : cX2_wins.data.toList.drop 0 = dktX2_wins_0 := by decide +kernel
theorem dksX2_wins_1 : cX2_wins.data.toList.drop 22 = dktX2_wins_1 := dk_seg dksX2_wins_0 22 rfl rfl
theorem dksX2_wins_2 : cX2_wins.data.toList.drop 46 = dktX2_wins_2 := dk_seg dksX2_wins_1 24 rfl rfl
theorem dksX2_wins_3 : cX2_wins.data.toList.drop 70 = dktX2_wins_3 := dk_seg dksX2_wins_2 24 rfl rfl
theorem dksX2_wins_4 : cX2_wins.data.toList.drop 93 = dktX2_wins_4 := dk_seg dksX2_wins_3 23 rfl rfl
theorem dksX2_wins_5 : cX2_wins.data.toList.drop 117 = dktX2_wins_5 := dk_seg dksX2_wins_4 24 rfl rfl
theorem dX2_wins_0 : decode cX2_wins 0 = .ok (.aload_n 0, 1) := dk_42 (dk_at dksX2_wins_0 0 rfl rfl)
theorem dX2_wins_1 : decode cX2_wins 1 = .ok (.aload_n 0, 1) := dk_42 (dk_at dksX2_wins_0 1 rfl rfl)
theorem dX2_wins_2 : decode cX2_wins 2 = .ok (.iload_n 1, 1) := dk_27 (dk_at dksX2_wins_0 2 rfl rfl)
theorem dX2_wins_3 : decode cX2_wins 3 = .ok (.iload_n 2, 1) := dk_28 (dk_at dksX2_wins_0 3 rfl rfl)
theorem dX2_wins_4 : decode cX2_wins 4 = .ok (.invokevirtual 208, 3) := dk_182 0 208 (dk_at dksX2_wins_0 4 rfl rfl)
theorem dX2_wins_7 : decode cX2_wins 7 = .ok (.ifCond .ne 7, 3) := dk_154 0 7 (dk_at dksX2_wins_0 7 rfl rfl)
theorem dX2_wins_10 : decode cX2_wins 10 = .ok (.iconst 1, 1) := dk_4 (dk_at dksX2_wins_0 10 rfl rfl)
theorem dX2_wins_11 : decode cX2_wins 11 = .ok (.goto 15, 3) := dk_167 0 15 (dk_at dksX2_wins_0 11 rfl rfl)
theorem dX2_wins_14 : decode cX2_wins 14 = .ok (.iload_n 3, 1) := dk_29 (dk_at dksX2_wins_0 14 rfl rfl)
theorem dX2_wins_15 : decode cX2_wins 15 = .ok (.invokestatic 114, 3) := dk_184 0 114 (dk_at dksX2_wins_0 15 rfl rfl)
theorem dX2_wins_18 : decode cX2_wins 18 = .ok (.ifCond .ne 7, 3) := dk_154 0 7 (dk_at dksX2_wins_0 18 rfl rfl)
theorem dX2_wins_21 : decode cX2_wins 21 = .ok (.iconst 2, 1) := dk_5 (dk_at dksX2_wins_0 21 rfl rfl)
theorem dX2_wins_22 : decode cX2_wins 22 = .ok (.goto 4, 3) := dk_167 0 4 (dk_at dksX2_wins_1 0 rfl rfl)
theorem dX2_wins_25 : decode cX2_wins 25 = .ok (.iconst 0, 1) := dk_3 (dk_at dksX2_wins_1 3 rfl rfl)
theorem dX2_wins_26 : decode cX2_wins 26 = .ok (.putfield 81, 3) := dk_181 0 81 (dk_at dksX2_wins_1 4 rfl rfl)
theorem dX2_wins_29 : decode cX2_wins 29 = .ok (.aload_n 0, 1) := dk_42 (dk_at dksX2_wins_1 7 rfl rfl)
theorem dX2_wins_30 : decode cX2_wins 30 = .ok (.getfield 81, 3) := dk_180 0 81 (dk_at dksX2_wins_1 8 rfl rfl)
theorem dX2_wins_33 : decode cX2_wins 33 = .ok (.ifCond .le 5, 3) := dk_158 0 5 (dk_at dksX2_wins_1 11 rfl rfl)
theorem dX2_wins_36 : decode cX2_wins 36 = .ok (.iconst 0, 1) := dk_3 (dk_at dksX2_wins_1 14 rfl rfl)
theorem dX2_wins_37 : decode cX2_wins 37 = .ok (.ireturn, 1) := dk_172 (dk_at dksX2_wins_1 15 rfl rfl)
theorem dX2_wins_38 : decode cX2_wins 38 = .ok (.bipush 32, 2) := dk_16 32 (dk_at dksX2_wins_1 16 rfl rfl)
theorem dX2_wins_40 : decode cX2_wins 40 = .ok (.iload_n 1, 1) := dk_27 (dk_at dksX2_wins_1 18 rfl rfl)
theorem dX2_wins_41 : decode cX2_wins 41 = .ok (.imul, 1) := dk_104 (dk_at dksX2_wins_1 19 rfl rfl)
theorem dX2_wins_42 : decode cX2_wins 42 = .ok (.iconst 2, 1) := dk_5 (dk_at dksX2_wins_1 20 rfl rfl)
theorem dX2_wins_43 : decode cX2_wins 43 = .ok (.iload_n 2, 1) := dk_28 (dk_at dksX2_wins_1 21 rfl rfl)
theorem dX2_wins_44 : decode cX2_wins 44 = .ok (.imul, 1) := dk_104 (dk_at dksX2_wins_1 22 rfl rfl)
theorem dX2_wins_45 : decode cX2_wins 45 = .ok (.iadd, 1) := dk_96 (dk_at dksX2_wins_1 23 rfl rfl)
theorem dX2_wins_46 : decode cX2_wins 46 = .ok (.istore 4, 2) := dk_54 4 (dk_at dksX2_wins_2 0 rfl rfl)
theorem dX2_wins_48 : decode cX2_wins 48 = .ok (.aload_n 0, 1) := dk_42 (dk_at dksX2_wins_2 2 rfl rfl)
theorem dX2_wins_49 : decode cX2_wins 49 = .ok (.aload_n 0, 1) := dk_42 (dk_at dksX2_wins_2 3 rfl rfl)
theorem dX2_wins_50 : decode cX2_wins 50 = .ok (.getfield 75, 3) := dk_180 0 75 (dk_at dksX2_wins_2 4 rfl rfl)
theorem dX2_wins_53 : decode cX2_wins 53 = .ok (.iload 4, 2) := dk_21 4 (dk_at dksX2_wins_2 7 rfl rfl)
theorem dX2_wins_55 : decode cX2_wins 55 = .ok (.iaload, 1) := dk_46 (dk_at dksX2_wins_2 9 rfl rfl)
theorem dX2_wins_56 : decode cX2_wins 56 = .ok (.iconst (-1), 1) := dk_2 (dk_at dksX2_wins_2 10 rfl rfl)
theorem dX2_wins_57 : decode cX2_wins 57 = .ok (.if_icmp .eq 31, 3) := dk_159 0 31 (dk_at dksX2_wins_2 11 rfl rfl)
theorem dX2_wins_60 : decode cX2_wins 60 = .ok (.aload_n 0, 1) := dk_42 (dk_at dksX2_wins_2 14 rfl rfl)
theorem dX2_wins_61 : decode cX2_wins 61 = .ok (.getfield 75, 3) := dk_180 0 75 (dk_at dksX2_wins_2 15 rfl rfl)
theorem dX2_wins_64 : decode cX2_wins 64 = .ok (.iload 4, 2) := dk_21 4 (dk_at dksX2_wins_2 18 rfl rfl)
theorem dX2_wins_66 : decode cX2_wins 66 = .ok (.iconst 1, 1) := dk_4 (dk_at dksX2_wins_2 20 rfl rfl)
theorem dX2_wins_67 : decode cX2_wins 67 = .ok (.iadd, 1) := dk_96 (dk_at dksX2_wins_2 21 rfl rfl)
theorem dX2_wins_68 : decode cX2_wins 68 = .ok (.iaload, 1) := dk_46 (dk_at dksX2_wins_2 22 rfl rfl)
theorem dX2_wins_69 : decode cX2_wins 69 = .ok (.iconst (-1), 1) := dk_2 (dk_at dksX2_wins_2 23 rfl rfl)
theorem dX2_wins_70 : decode cX2_wins 70 = .ok (.if_icmp .eq 18, 3) := dk_159 0 18 (dk_at dksX2_wins_3 0 rfl rfl)
theorem dX2_wins_73 : decode cX2_wins 73 = .ok (.aload_n 0, 1) := dk_42 (dk_at dksX2_wins_3 3 rfl rfl)
theorem dX2_wins_74 : decode cX2_wins 74 = .ok (.getfield 78, 3) := dk_180 0 78 (dk_at dksX2_wins_3 4 rfl rfl)
theorem dX2_wins_77 : decode cX2_wins 77 = .ok (.bipush 16, 2) := dk_16 16 (dk_at dksX2_wins_3 7 rfl rfl)
theorem dX2_wins_79 : decode cX2_wins 79 = .ok (.iload_n 1, 1) := dk_27 (dk_at dksX2_wins_3 9 rfl rfl)
theorem dX2_wins_80 : decode cX2_wins 80 = .ok (.imul, 1) := dk_104 (dk_at dksX2_wins_3 10 rfl rfl)
theorem dX2_wins_81 : decode cX2_wins 81 = .ok (.iload_n 2, 1) := dk_28 (dk_at dksX2_wins_3 11 rfl rfl)
theorem dX2_wins_82 : decode cX2_wins 82 = .ok (.iadd, 1) := dk_96 (dk_at dksX2_wins_3 12 rfl rfl)
theorem dX2_wins_83 : decode cX2_wins 83 = .ok (.iaload, 1) := dk_46 (dk_at dksX2_wins_3 13 rfl rfl)
theorem dX2_wins_84 : decode cX2_wins 84 = .ok (.iconst (-1), 1) := dk_2 (dk_at dksX2_wins_3 14 rfl rfl)
theorem dX2_wins_85 : decode cX2_wins 85 = .ok (.if_icmp .eq 7, 3) := dk_159 0 7 (dk_at dksX2_wins_3 15 rfl rfl)
theorem dX2_wins_88 : decode cX2_wins 88 = .ok (.iconst 3, 1) := dk_6 (dk_at dksX2_wins_3 18 rfl rfl)
theorem dX2_wins_89 : decode cX2_wins 89 = .ok (.goto 4, 3) := dk_167 0 4 (dk_at dksX2_wins_3 19 rfl rfl)
theorem dX2_wins_92 : decode cX2_wins 92 = .ok (.iconst 0, 1) := dk_3 (dk_at dksX2_wins_3 22 rfl rfl)
theorem dX2_wins_93 : decode cX2_wins 93 = .ok (.putfield 81, 3) := dk_181 0 81 (dk_at dksX2_wins_4 0 rfl rfl)
theorem dX2_wins_96 : decode cX2_wins 96 = .ok (.aload_n 0, 1) := dk_42 (dk_at dksX2_wins_4 3 rfl rfl)
theorem dX2_wins_97 : decode cX2_wins 97 = .ok (.getfield 81, 3) := dk_180 0 81 (dk_at dksX2_wins_4 4 rfl rfl)
theorem dX2_wins_100 : decode cX2_wins 100 = .ok (.ifCond .le 5, 3) := dk_158 0 5 (dk_at dksX2_wins_4 7 rfl rfl)
theorem dX2_wins_103 : decode cX2_wins 103 = .ok (.iconst 0, 1) := dk_3 (dk_at dksX2_wins_4 10 rfl rfl)
theorem dX2_wins_104 : decode cX2_wins 104 = .ok (.ireturn, 1) := dk_172 (dk_at dksX2_wins_4 11 rfl rfl)
theorem dX2_wins_105 : decode cX2_wins 105 = .ok (.aload_n 0, 1) := dk_42 (dk_at dksX2_wins_4 12 rfl rfl)
theorem dX2_wins_106 : decode cX2_wins 106 = .ok (.getfield 75, 3) := dk_180 0 75 (dk_at dksX2_wins_4 13 rfl rfl)
theorem dX2_wins_109 : decode cX2_wins 109 = .ok (.iload 4, 2) := dk_21 4 (dk_at dksX2_wins_4 16 rfl rfl)
theorem dX2_wins_111 : decode cX2_wins 111 = .ok (.iload_n 3, 1) := dk_29 (dk_at dksX2_wins_4 18 rfl rfl)
theorem dX2_wins_112 : decode cX2_wins 112 = .ok (.iadd, 1) := dk_96 (dk_at dksX2_wins_4 19 rfl rfl)
theorem dX2_wins_113 : decode cX2_wins 113 = .ok (.iaload, 1) := dk_46 (dk_at dksX2_wins_4 20 rfl rfl)
theorem dX2_wins_114 : decode cX2_wins 114 = .ok (.istore 5, 2) := dk_54 5 (dk_at dksX2_wins_4 21 rfl rfl)
theorem dX2_wins_116 : decode cX2_wins 116 = .ok (.aload_n 0, 1) := dk_42 (dk_at dksX2_wins_4 23 rfl rfl)
theorem dX2_wins_117 : decode cX2_wins 117 = .ok (.iload_n 1, 1) := dk_27 (dk_at dksX2_wins_5 0 rfl rfl)
theorem dX2_wins_118 : decode cX2_wins 118 = .ok (.iload_n 2, 1) := dk_28 (dk_at dksX2_wins_5 1 rfl rfl)
theorem dX2_wins_119 : decode cX2_wins 119 = .ok (.iload 5, 2) := dk_21 5 (dk_at dksX2_wins_5 2 rfl rfl)
theorem dX2_wins_121 : decode cX2_wins 121 = .ok (.invokevirtual 201, 3) := dk_182 0 201 (dk_at dksX2_wins_5 4 rfl rfl)
theorem dX2_wins_124 : decode cX2_wins 124 = .ok (.iload 5, 2) := dk_21 5 (dk_at dksX2_wins_5 7 rfl rfl)
theorem dX2_wins_126 : decode cX2_wins 126 = .ok (.ireturn, 1) := dk_172 (dk_at dksX2_wins_5 9 rfl rfl)
abbrev cX2_isMatch : ByteArray := prog_13_method_41_code
def yX2_isMatch : MethodName := ⟨RX2, "isMatch", "(II)Z"⟩
def dkwX2_isMatch_1 : List UInt8 := [4, 96, 122, 4, 100, 184, 0, 87, 153, 0, 7, 4, 167, 0, 4, 3, 172]
abbrev dktX2_isMatch_1 : List UInt8 := dkwX2_isMatch_1 ++ []
def dkwX2_isMatch_0 : List UInt8 := [27, 3, 42, 180, 0, 194, 184, 0, 205, 4, 100, 184, 0, 87, 153, 0, 25, 28, 3, 42, 180, 0, 194, 27]
abbrev dktX2_isMatch_0 : List UInt8 := dkwX2_isMatch_0 ++ dktX2_isMatch_1
theorem dksX2_isMatch_0 : cX2_isMatch.data.toList.drop 0 = dktX2_isMatch_0 := by decide +kernel
theorem dksX2_isMatch_1 : cX2_isMatch.data.toList.drop 24 = dktX2_isMatch_1 := dk_seg dksX2_isMatch_0 24 rfl rfl
theorem dX2_isMatch_0 : decode cX2_isMatch 0 = .ok (.iload_n 1, 1) := dk_27 (dk_at dksX2_isMatch_0 0 rfl rfl)
theorem dX2_isMatch_1 : decode cX2_isMatch 1 = .ok (.iconst 0, 1) := dk_3 (dk_at dksX2_isMatch_0 1 rfl rfl)
theorem dX2_isMatch_2 : decode cX2_isMatch 2 = .ok (.aload_n 0, 1) := dk_42 (dk_at dksX2_isMatch_0 2 rfl rfl)
theorem dX2_isMatch_3 : decode cX2_isMatch 3 = .ok (.getfield 194, 3) := dk_180 0 194 (dk_at dksX2_isMatch_0 3 rfl rfl)
theorem dX2_isMatch_6 : decode cX2_isMatch 6 = .ok (.invokestatic 205, 3) := dk_184 0 205 (dk_at dksX2_isMatch_0 6 rfl rfl)
theorem dX2_isMatch_9 : decode cX2_isMatch 9 = .ok (.iconst 1, 1) := dk_4 (dk_at dksX2_isMatch_0 9 rfl rfl)
theorem dX2_isMatch_10 : decode cX2_isMatch 10 = .ok (.isub, 1) := dk_100 (dk_at dksX2_isMatch_0 10 rfl rfl)
theorem dX2_isMatch_11 : decode cX2_isMatch 11 = .ok (.invokestatic 87, 3) := dk_184 0 87 (dk_at dksX2_isMatch_0 11 rfl rfl)
theorem dX2_isMatch_14 : decode cX2_isMatch 14 = .ok (.ifCond .eq 25, 3) := dk_153 0 25 (dk_at dksX2_isMatch_0 14 rfl rfl)
theorem dX2_isMatch_17 : decode cX2_isMatch 17 = .ok (.iload_n 2, 1) := dk_28 (dk_at dksX2_isMatch_0 17 rfl rfl)
theorem dX2_isMatch_18 : decode cX2_isMatch 18 = .ok (.iconst 0, 1) := dk_3 (dk_at dksX2_isMatch_0 18 rfl rfl)
theorem dX2_isMatch_19 : decode cX2_isMatch 19 = .ok (.aload_n 0, 1) := dk_42 (dk_at dksX2_isMatch_0 19 rfl rfl)
theorem dX2_isMatch_20 : decode cX2_isMatch 20 = .ok (.getfield 194, 3) := dk_180 0 194 (dk_at dksX2_isMatch_0 20 rfl rfl)
theorem dX2_isMatch_23 : decode cX2_isMatch 23 = .ok (.iload_n 1, 1) := dk_27 (dk_at dksX2_isMatch_0 23 rfl rfl)
theorem dX2_isMatch_24 : decode cX2_isMatch 24 = .ok (.iconst 1, 1) := dk_4 (dk_at dksX2_isMatch_1 0 rfl rfl)
theorem dX2_isMatch_25 : decode cX2_isMatch 25 = .ok (.iadd, 1) := dk_96 (dk_at dksX2_isMatch_1 1 rfl rfl)
theorem dX2_isMatch_26 : decode cX2_isMatch 26 = .ok (.ishr, 1) := dk_122 (dk_at dksX2_isMatch_1 2 rfl rfl)
theorem dX2_isMatch_27 : decode cX2_isMatch 27 = .ok (.iconst 1, 1) := dk_4 (dk_at dksX2_isMatch_1 3 rfl rfl)
theorem dX2_isMatch_28 : decode cX2_isMatch 28 = .ok (.isub, 1) := dk_100 (dk_at dksX2_isMatch_1 4 rfl rfl)
theorem dX2_isMatch_29 : decode cX2_isMatch 29 = .ok (.invokestatic 87, 3) := dk_184 0 87 (dk_at dksX2_isMatch_1 5 rfl rfl)
theorem dX2_isMatch_32 : decode cX2_isMatch 32 = .ok (.ifCond .eq 7, 3) := dk_153 0 7 (dk_at dksX2_isMatch_1 8 rfl rfl)
theorem dX2_isMatch_35 : decode cX2_isMatch 35 = .ok (.iconst 1, 1) := dk_4 (dk_at dksX2_isMatch_1 11 rfl rfl)
theorem dX2_isMatch_36 : decode cX2_isMatch 36 = .ok (.goto 4, 3) := dk_167 0 4 (dk_at dksX2_isMatch_1 12 rfl rfl)
theorem dX2_isMatch_39 : decode cX2_isMatch 39 = .ok (.iconst 0, 1) := dk_3 (dk_at dksX2_isMatch_1 15 rfl rfl)
theorem dX2_isMatch_40 : decode cX2_isMatch 40 = .ok (.ireturn, 1) := dk_172 (dk_at dksX2_isMatch_1 16 rfl rfl)
abbrev cX2_lamp : ByteArray := prog_13_method_43_code
def yX2_lamp : MethodName := ⟨RX2, "lamp", "(I)I"⟩
def dkwX2_lamp_1 : List UInt8 := [172, 42, 27, 182, 0, 143, 61, 28, 2, 160, 0, 7, 2, 167, 0, 9, 42, 180, 0, 63, 28, 46, 172]
abbrev dktX2_lamp_1 : List UInt8 := dkwX2_lamp_1 ++ []
def dkwX2_lamp_0 : List UInt8 := [42, 27, 184, 0, 114, 153, 0, 7, 3, 167, 0, 4, 4, 181, 0, 81, 42, 180, 0, 81, 158, 0, 5, 3]
abbrev dktX2_lamp_0 : List UInt8 := dkwX2_lamp_0 ++ dktX2_lamp_1
theorem dksX2_lamp_0 : cX2_lamp.data.toList.drop 0 = dktX2_lamp_0 := by decide +kernel
theorem dksX2_lamp_1 : cX2_lamp.data.toList.drop 24 = dktX2_lamp_1 := dk_seg dksX2_lamp_0 24 rfl rfl
theorem dX2_lamp_0 : decode cX2_lamp 0 = .ok (.aload_n 0, 1) := dk_42 (dk_at dksX2_lamp_0 0 rfl rfl)
theorem dX2_lamp_1 : decode cX2_lamp 1 = .ok (.iload_n 1, 1) := dk_27 (dk_at dksX2_lamp_0 1 rfl rfl)
theorem dX2_lamp_2 : decode cX2_lamp 2 = .ok (.invokestatic 114, 3) := dk_184 0 114 (dk_at dksX2_lamp_0 2 rfl rfl)
theorem dX2_lamp_5 : decode cX2_lamp 5 = .ok (.ifCond .eq 7, 3) := dk_153 0 7 (dk_at dksX2_lamp_0 5 rfl rfl)
theorem dX2_lamp_8 : decode cX2_lamp 8 = .ok (.iconst 0, 1) := dk_3 (dk_at dksX2_lamp_0 8 rfl rfl)
theorem dX2_lamp_9 : decode cX2_lamp 9 = .ok (.goto 4, 3) := dk_167 0 4 (dk_at dksX2_lamp_0 9 rfl rfl)
theorem dX2_lamp_12 : decode cX2_lamp 12 = .ok (.iconst 1, 1) := dk_4 (dk_at dksX2_lamp_0 12 rfl rfl)
theorem dX2_lamp_13 : decode cX2_lamp 13 = .ok (.putfield 81, 3) := dk_181 0 81 (dk_at dksX2_lamp_0 13 rfl rfl)
theorem dX2_lamp_16 : decode cX2_lamp 16 = .ok (.aload_n 0, 1) := dk_42 (dk_at dksX2_lamp_0 16 rfl rfl)
theorem dX2_lamp_17 : decode cX2_lamp 17 = .ok (.getfield 81, 3) := dk_180 0 81 (dk_at dksX2_lamp_0 17 rfl rfl)
theorem dX2_lamp_20 : decode cX2_lamp 20 = .ok (.ifCond .le 5, 3) := dk_158 0 5 (dk_at dksX2_lamp_0 20 rfl rfl)
theorem dX2_lamp_23 : decode cX2_lamp 23 = .ok (.iconst 0, 1) := dk_3 (dk_at dksX2_lamp_0 23 rfl rfl)
theorem dX2_lamp_24 : decode cX2_lamp 24 = .ok (.ireturn, 1) := dk_172 (dk_at dksX2_lamp_1 0 rfl rfl)
theorem dX2_lamp_25 : decode cX2_lamp 25 = .ok (.aload_n 0, 1) := dk_42 (dk_at dksX2_lamp_1 1 rfl rfl)
theorem dX2_lamp_26 : decode cX2_lamp 26 = .ok (.iload_n 1, 1) := dk_27 (dk_at dksX2_lamp_1 2 rfl rfl)
theorem dX2_lamp_27 : decode cX2_lamp 27 = .ok (.invokevirtual 143, 3) := dk_182 0 143 (dk_at dksX2_lamp_1 3 rfl rfl)
theorem dX2_lamp_30 : decode cX2_lamp 30 = .ok (.istore_n 2, 1) := dk_61 (dk_at dksX2_lamp_1 6 rfl rfl)
theorem dX2_lamp_31 : decode cX2_lamp 31 = .ok (.iload_n 2, 1) := dk_28 (dk_at dksX2_lamp_1 7 rfl rfl)
theorem dX2_lamp_32 : decode cX2_lamp 32 = .ok (.iconst (-1), 1) := dk_2 (dk_at dksX2_lamp_1 8 rfl rfl)
theorem dX2_lamp_33 : decode cX2_lamp 33 = .ok (.if_icmp .ne 7, 3) := dk_160 0 7 (dk_at dksX2_lamp_1 9 rfl rfl)
theorem dX2_lamp_36 : decode cX2_lamp 36 = .ok (.iconst (-1), 1) := dk_2 (dk_at dksX2_lamp_1 12 rfl rfl)
theorem dX2_lamp_37 : decode cX2_lamp 37 = .ok (.goto 9, 3) := dk_167 0 9 (dk_at dksX2_lamp_1 13 rfl rfl)
theorem dX2_lamp_40 : decode cX2_lamp 40 = .ok (.aload_n 0, 1) := dk_42 (dk_at dksX2_lamp_1 16 rfl rfl)
theorem dX2_lamp_41 : decode cX2_lamp 41 = .ok (.getfield 63, 3) := dk_180 0 63 (dk_at dksX2_lamp_1 17 rfl rfl)
theorem dX2_lamp_44 : decode cX2_lamp 44 = .ok (.iload_n 2, 1) := dk_28 (dk_at dksX2_lamp_1 20 rfl rfl)
theorem dX2_lamp_45 : decode cX2_lamp 45 = .ok (.iaload, 1) := dk_46 (dk_at dksX2_lamp_1 21 rfl rfl)
theorem dX2_lamp_46 : decode cX2_lamp 46 = .ok (.ireturn, 1) := dk_172 (dk_at dksX2_lamp_1 22 rfl rfl)
abbrev cX2_holder : ByteArray := prog_13_method_44_code
def yX2_holder : MethodName := ⟨RX2, "holder", "()I"⟩
def dkwX2_holder_0 : List UInt8 := [42, 3, 181, 0, 81, 42, 42, 180, 0, 111, 182, 0, 146, 172]
abbrev dktX2_holder_0 : List UInt8 := dkwX2_holder_0 ++ []
theorem dksX2_holder_0 : cX2_holder.data.toList.drop 0 = dktX2_holder_0 := by decide +kernel
theorem dX2_holder_0 : decode cX2_holder 0 = .ok (.aload_n 0, 1) := dk_42 (dk_at dksX2_holder_0 0 rfl rfl)
theorem dX2_holder_1 : decode cX2_holder 1 = .ok (.iconst 0, 1) := dk_3 (dk_at dksX2_holder_0 1 rfl rfl)
theorem dX2_holder_2 : decode cX2_holder 2 = .ok (.putfield 81, 3) := dk_181 0 81 (dk_at dksX2_holder_0 2 rfl rfl)
theorem dX2_holder_5 : decode cX2_holder 5 = .ok (.aload_n 0, 1) := dk_42 (dk_at dksX2_holder_0 5 rfl rfl)
theorem dX2_holder_6 : decode cX2_holder 6 = .ok (.aload_n 0, 1) := dk_42 (dk_at dksX2_holder_0 6 rfl rfl)
theorem dX2_holder_7 : decode cX2_holder 7 = .ok (.getfield 111, 3) := dk_180 0 111 (dk_at dksX2_holder_0 7 rfl rfl)
theorem dX2_holder_10 : decode cX2_holder 10 = .ok (.invokevirtual 146, 3) := dk_182 0 146 (dk_at dksX2_holder_0 10 rfl rfl)
theorem dX2_holder_13 : decode cX2_holder 13 = .ok (.ireturn, 1) := dk_172 (dk_at dksX2_holder_0 13 rfl rfl)
abbrev cX2_reason : ByteArray := prog_13_method_45_code
def yX2_reason : MethodName := ⟨RX2, "reason", "()I"⟩
def dkwX2_reason_0 : List UInt8 := [42, 3, 181, 0, 81, 42, 180, 0, 9, 172]
abbrev dktX2_reason_0 : List UInt8 := dkwX2_reason_0 ++ []
theorem dksX2_reason_0 : cX2_reason.data.toList.drop 0 = dktX2_reason_0 := by decide +kernel
theorem dX2_reason_0 : decode cX2_reason 0 = .ok (.aload_n 0, 1) := dk_42 (dk_at dksX2_reason_0 0 rfl rfl)
theorem dX2_reason_1 : decode cX2_reason 1 = .ok (.iconst 0, 1) := dk_3 (dk_at dksX2_reason_0 1 rfl rfl)
theorem dX2_reason_2 : decode cX2_reason 2 = .ok (.putfield 81, 3) := dk_181 0 81 (dk_at dksX2_reason_0 2 rfl rfl)
theorem dX2_reason_5 : decode cX2_reason 5 = .ok (.aload_n 0, 1) := dk_42 (dk_at dksX2_reason_0 5 rfl rfl)
theorem dX2_reason_6 : decode cX2_reason 6 = .ok (.getfield 9, 3) := dk_180 0 9 (dk_at dksX2_reason_0 6 rfl rfl)
theorem dX2_reason_9 : decode cX2_reason 9 = .ok (.ireturn, 1) := dk_172 (dk_at dksX2_reason_0 9 rfl rfl)
abbrev cX2_ofBout : ByteArray := prog_13_method_46_code
def yX2_ofBout : MethodName := ⟨RX2, "ofBout", "(II)I"⟩
def dkwX2_ofBout_4 : List UInt8 := [160, 0, 12, 42, 180, 0, 38, 27, 46, 167, 0, 9, 42, 180, 0, 41, 27, 46, 172]
abbrev dktX2_ofBout_4 : List UInt8 := dkwX2_ofBout_4 ++ []
def dkwX2_ofBout_3 : List UInt8 := [180, 0, 32, 27, 46, 167, 0, 37, 28, 6, 160, 0, 12, 42, 180, 0, 35, 27, 46, 167, 0, 23, 28, 7]
abbrev dktX2_ofBout_3 : List UInt8 := dkwX2_ofBout_3 ++ dktX2_ofBout_4
def dkwX2_ofBout_2 : List UInt8 := [5, 162, 0, 16, 42, 180, 0, 20, 5, 27, 104, 28, 96, 46, 167, 0, 51, 28, 5, 160, 0, 12, 42]
abbrev dktX2_ofBout_2 : List UInt8 := dkwX2_ofBout_2 ++ dktX2_ofBout_3
def dkwX2_ofBout_1 : List UInt8 := [184, 0, 87, 154, 0, 7, 5, 167, 0, 4, 3, 181, 0, 81, 42, 180, 0, 81, 158, 0, 5, 3, 172, 28]
abbrev dktX2_ofBout_1 : List UInt8 := dkwX2_ofBout_1 ++ dktX2_ofBout_2
def dkwX2_ofBout_0 : List UInt8 := [42, 27, 3, 42, 180, 0, 105, 4, 100, 184, 0, 87, 154, 0, 7, 4, 167, 0, 17, 28, 3, 8]
abbrev dktX2_ofBout_0 : List UInt8 := dkwX2_ofBout_0 ++ dktX2_ofBout_1
theorem dksX2_ofBout_0 : cX2_ofBout.data.toList.drop 0 = dktX2_ofBout_0 := by decide +kernel
theorem dksX2_ofBout_1 : cX2_ofBout.data.toList.drop 22 = dktX2_ofBout_1 := dk_seg dksX2_ofBout_0 22 rfl rfl
theorem dksX2_ofBout_2 : cX2_ofBout.data.toList.drop 46 = dktX2_ofBout_2 := dk_seg dksX2_ofBout_1 24 rfl rfl
theorem dksX2_ofBout_3 : cX2_ofBout.data.toList.drop 69 = dktX2_ofBout_3 := dk_seg dksX2_ofBout_2 23 rfl rfl
theorem dksX2_ofBout_4 : cX2_ofBout.data.toList.drop 93 = dktX2_ofBout_4 := dk_seg dksX2_ofBout_3 24 rfl rfl
theorem dX2_ofBout_0 : decode cX2_ofBout 0 = .ok (.aload_n 0, 1) := dk_42 (dk_at dksX2_ofBout_0 0 rfl rfl)
theorem dX2_ofBout_1 : decode cX2_ofBout 1 = .ok (.iload_n 1, 1) := dk_27 (dk_at dksX2_ofBout_0 1 rfl rfl)
theorem dX2_ofBout_2 : decode cX2_ofBout 2 = .ok (.iconst 0, 1) := dk_3 (dk_at dksX2_ofBout_0 2 rfl rfl)
theorem dX2_ofBout_3 : decode cX2_ofBout 3 = .ok (.aload_n 0, 1) := dk_42 (dk_at dksX2_ofBout_0 3 rfl rfl)
theorem dX2_ofBout_4 : decode cX2_ofBout 4 = .ok (.getfield 105, 3) := dk_180 0 105 (dk_at dksX2_ofBout_0 4 rfl rfl)
theorem dX2_ofBout_7 : decode cX2_ofBout 7 = .ok (.iconst 1, 1) := dk_4 (dk_at dksX2_ofBout_0 7 rfl rfl)
theorem dX2_ofBout_8 : decode cX2_ofBout 8 = .ok (.isub, 1) := dk_100 (dk_at dksX2_ofBout_0 8 rfl rfl)
theorem dX2_ofBout_9 : decode cX2_ofBout 9 = .ok (.invokestatic 87, 3) := dk_184 0 87 (dk_at dksX2_ofBout_0 9 rfl rfl)
theorem dX2_ofBout_12 : decode cX2_ofBout 12 = .ok (.ifCond .ne 7, 3) := dk_154 0 7 (dk_at dksX2_ofBout_0 12 rfl rfl)
theorem dX2_ofBout_15 : decode cX2_ofBout 15 = .ok (.iconst 1, 1) := dk_4 (dk_at dksX2_ofBout_0 15 rfl rfl)
theorem dX2_ofBout_16 : decode cX2_ofBout 16 = .ok (.goto 17, 3) := dk_167 0 17 (dk_at dksX2_ofBout_0 16 rfl rfl)
theorem dX2_ofBout_19 : decode cX2_ofBout 19 = .ok (.iload_n 2, 1) := dk_28 (dk_at dksX2_ofBout_0 19 rfl rfl)
theorem dX2_ofBout_20 : decode cX2_ofBout 20 = .ok (.iconst 0, 1) := dk_3 (dk_at dksX2_ofBout_0 20 rfl rfl)
theorem dX2_ofBout_21 : decode cX2_ofBout 21 = .ok (.iconst 5, 1) := dk_8 (dk_at dksX2_ofBout_0 21 rfl rfl)
theorem dX2_ofBout_22 : decode cX2_ofBout 22 = .ok (.invokestatic 87, 3) := dk_184 0 87 (dk_at dksX2_ofBout_1 0 rfl rfl)
theorem dX2_ofBout_25 : decode cX2_ofBout 25 = .ok (.ifCond .ne 7, 3) := dk_154 0 7 (dk_at dksX2_ofBout_1 3 rfl rfl)
theorem dX2_ofBout_28 : decode cX2_ofBout 28 = .ok (.iconst 2, 1) := dk_5 (dk_at dksX2_ofBout_1 6 rfl rfl)
theorem dX2_ofBout_29 : decode cX2_ofBout 29 = .ok (.goto 4, 3) := dk_167 0 4 (dk_at dksX2_ofBout_1 7 rfl rfl)
theorem dX2_ofBout_32 : decode cX2_ofBout 32 = .ok (.iconst 0, 1) := dk_3 (dk_at dksX2_ofBout_1 10 rfl rfl)
theorem dX2_ofBout_33 : decode cX2_ofBout 33 = .ok (.putfield 81, 3) := dk_181 0 81 (dk_at dksX2_ofBout_1 11 rfl rfl)
theorem dX2_ofBout_36 : decode cX2_ofBout 36 = .ok (.aload_n 0, 1) := dk_42 (dk_at dksX2_ofBout_1 14 rfl rfl)
theorem dX2_ofBout_37 : decode cX2_ofBout 37 = .ok (.getfield 81, 3) := dk_180 0 81 (dk_at dksX2_ofBout_1 15 rfl rfl)
theorem dX2_ofBout_40 : decode cX2_ofBout 40 = .ok (.ifCond .le 5, 3) := dk_158 0 5 (dk_at dksX2_ofBout_1 18 rfl rfl)
theorem dX2_ofBout_43 : decode cX2_ofBout 43 = .ok (.iconst 0, 1) := dk_3 (dk_at dksX2_ofBout_1 21 rfl rfl)
theorem dX2_ofBout_44 : decode cX2_ofBout 44 = .ok (.ireturn, 1) := dk_172 (dk_at dksX2_ofBout_1 22 rfl rfl)
theorem dX2_ofBout_45 : decode cX2_ofBout 45 = .ok (.iload_n 2, 1) := dk_28 (dk_at dksX2_ofBout_1 23 rfl rfl)
theorem dX2_ofBout_46 : decode cX2_ofBout 46 = .ok (.iconst 2, 1) := dk_5 (dk_at dksX2_ofBout_2 0 rfl rfl)
theorem dX2_ofBout_47 : decode cX2_ofBout 47 = .ok (.if_icmp .ge 16, 3) := dk_162 0 16 (dk_at dksX2_ofBout_2 1 rfl rfl)
theorem dX2_ofBout_50 : decode cX2_ofBout 50 = .ok (.aload_n 0, 1) := dk_42 (dk_at dksX2_ofBout_2 4 rfl rfl)
theorem dX2_ofBout_51 : decode cX2_ofBout 51 = .ok (.getfield 20, 3) := dk_180 0 20 (dk_at dksX2_ofBout_2 5 rfl rfl)
theorem dX2_ofBout_54 : decode cX2_ofBout 54 = .ok (.iconst 2, 1) := dk_5 (dk_at dksX2_ofBout_2 8 rfl rfl)
theorem dX2_ofBout_55 : decode cX2_ofBout 55 = .ok (.iload_n 1, 1) := dk_27 (dk_at dksX2_ofBout_2 9 rfl rfl)
theorem dX2_ofBout_56 : decode cX2_ofBout 56 = .ok (.imul, 1) := dk_104 (dk_at dksX2_ofBout_2 10 rfl rfl)
theorem dX2_ofBout_57 : decode cX2_ofBout 57 = .ok (.iload_n 2, 1) := dk_28 (dk_at dksX2_ofBout_2 11 rfl rfl)
theorem dX2_ofBout_58 : decode cX2_ofBout 58 = .ok (.iadd, 1) := dk_96 (dk_at dksX2_ofBout_2 12 rfl rfl)
theorem dX2_ofBout_59 : decode cX2_ofBout 59 = .ok (.iaload, 1) := dk_46 (dk_at dksX2_ofBout_2 13 rfl rfl)
theorem dX2_ofBout_60 : decode cX2_ofBout 60 = .ok (.goto 51, 3) := dk_167 0 51 (dk_at dksX2_ofBout_2 14 rfl rfl)
theorem dX2_ofBout_63 : decode cX2_ofBout 63 = .ok (.iload_n 2, 1) := dk_28 (dk_at dksX2_ofBout_2 17 rfl rfl)
theorem dX2_ofBout_64 : decode cX2_ofBout 64 = .ok (.iconst 2, 1) := dk_5 (dk_at dksX2_ofBout_2 18 rfl rfl)
theorem dX2_ofBout_65 : decode cX2_ofBout 65 = .ok (.if_icmp .ne 12, 3) := dk_160 0 12 (dk_at dksX2_ofBout_2 19 rfl rfl)
theorem dX2_ofBout_68 : decode cX2_ofBout 68 = .ok (.aload_n 0, 1) := dk_42 (dk_at dksX2_ofBout_2 22 rfl rfl)
theorem dX2_ofBout_69 : decode cX2_ofBout 69 = .ok (.getfield 32, 3) := dk_180 0 32 (dk_at dksX2_ofBout_3 0 rfl rfl)
theorem dX2_ofBout_72 : decode cX2_ofBout 72 = .ok (.iload_n 1, 1) := dk_27 (dk_at dksX2_ofBout_3 3 rfl rfl)
theorem dX2_ofBout_73 : decode cX2_ofBout 73 = .ok (.iaload, 1) := dk_46 (dk_at dksX2_ofBout_3 4 rfl rfl)
theorem dX2_ofBout_74 : decode cX2_ofBout 74 = .ok (.goto 37, 3) := dk_167 0 37 (dk_at dksX2_ofBout_3 5 rfl rfl)
theorem dX2_ofBout_77 : decode cX2_ofBout 77 = .ok (.iload_n 2, 1) := dk_28 (dk_at dksX2_ofBout_3 8 rfl rfl)
theorem dX2_ofBout_78 : decode cX2_ofBout 78 = .ok (.iconst 3, 1) := dk_6 (dk_at dksX2_ofBout_3 9 rfl rfl)
theorem dX2_ofBout_79 : decode cX2_ofBout 79 = .ok (.if_icmp .ne 12, 3) := dk_160 0 12 (dk_at dksX2_ofBout_3 10 rfl rfl)
theorem dX2_ofBout_82 : decode cX2_ofBout 82 = .ok (.aload_n 0, 1) := dk_42 (dk_at dksX2_ofBout_3 13 rfl rfl)
theorem dX2_ofBout_83 : decode cX2_ofBout 83 = .ok (.getfield 35, 3) := dk_180 0 35 (dk_at dksX2_ofBout_3 14 rfl rfl)
theorem dX2_ofBout_86 : decode cX2_ofBout 86 = .ok (.iload_n 1, 1) := dk_27 (dk_at dksX2_ofBout_3 17 rfl rfl)
theorem dX2_ofBout_87 : decode cX2_ofBout 87 = .ok (.iaload, 1) := dk_46 (dk_at dksX2_ofBout_3 18 rfl rfl)
theorem dX2_ofBout_88 : decode cX2_ofBout 88 = .ok (.goto 23, 3) := dk_167 0 23 (dk_at dksX2_ofBout_3 19 rfl rfl)
theorem dX2_ofBout_91 : decode cX2_ofBout 91 = .ok (.iload_n 2, 1) := dk_28 (dk_at dksX2_ofBout_3 22 rfl rfl)
theorem dX2_ofBout_92 : decode cX2_ofBout 92 = .ok (.iconst 4, 1) := dk_7 (dk_at dksX2_ofBout_3 23 rfl rfl)
theorem dX2_ofBout_93 : decode cX2_ofBout 93 = .ok (.if_icmp .ne 12, 3) := dk_160 0 12 (dk_at dksX2_ofBout_4 0 rfl rfl)
theorem dX2_ofBout_96 : decode cX2_ofBout 96 = .ok (.aload_n 0, 1) := dk_42 (dk_at dksX2_ofBout_4 3 rfl rfl)
theorem dX2_ofBout_97 : decode cX2_ofBout 97 = .ok (.getfield 38, 3) := dk_180 0 38 (dk_at dksX2_ofBout_4 4 rfl rfl)
theorem dX2_ofBout_100 : decode cX2_ofBout 100 = .ok (.iload_n 1, 1) := dk_27 (dk_at dksX2_ofBout_4 7 rfl rfl)
theorem dX2_ofBout_101 : decode cX2_ofBout 101 = .ok (.iaload, 1) := dk_46 (dk_at dksX2_ofBout_4 8 rfl rfl)
theorem dX2_ofBout_102 : decode cX2_ofBout 102 = .ok (.goto 9, 3) := dk_167 0 9 (dk_at dksX2_ofBout_4 9 rfl rfl)
theorem dX2_ofBout_105 : decode cX2_ofBout 105 = .ok (.aload_n 0, 1) := dk_42 (dk_at dksX2_ofBout_4 12 rfl rfl)
theorem dX2_ofBout_106 : decode cX2_ofBout 106 = .ok (.getfield 41, 3) := dk_180 0 41 (dk_at dksX2_ofBout_4 13 rfl rfl)
theorem dX2_ofBout_109 : decode cX2_ofBout 109 = .ok (.iload_n 1, 1) := dk_27 (dk_at dksX2_ofBout_4 16 rfl rfl)
theorem dX2_ofBout_110 : decode cX2_ofBout 110 = .ok (.iaload, 1) := dk_46 (dk_at dksX2_ofBout_4 17 rfl rfl)
theorem dX2_ofBout_111 : decode cX2_ofBout 111 = .ok (.ireturn, 1) := dk_172 (dk_at dksX2_ofBout_4 18 rfl rfl)
abbrev cX2_ofPool : ByteArray := prog_13_method_48_code
def yX2_ofPool : MethodName := ⟨RX2, "ofPool", "(III)I"⟩
def dkwX2_ofPool_0 : List UInt8 := [42, 27, 28, 29, 182, 0, 211, 172]
abbrev dktX2_ofPool_0 : List UInt8 := dkwX2_ofPool_0 ++ []
theorem dksX2_ofPool_0 : cX2_ofPool.data.toList.drop 0 = dktX2_ofPool_0 := by decide +kernel
theorem dX2_ofPool_0 : decode cX2_ofPool 0 = .ok (.aload_n 0, 1) := dk_42 (dk_at dksX2_ofPool_0 0 rfl rfl)
theorem dX2_ofPool_1 : decode cX2_ofPool 1 = .ok (.iload_n 1, 1) := dk_27 (dk_at dksX2_ofPool_0 1 rfl rfl)
theorem dX2_ofPool_2 : decode cX2_ofPool 2 = .ok (.iload_n 2, 1) := dk_28 (dk_at dksX2_ofPool_0 2 rfl rfl)
theorem dX2_ofPool_3 : decode cX2_ofPool 3 = .ok (.iload_n 3, 1) := dk_29 (dk_at dksX2_ofPool_0 3 rfl rfl)
theorem dX2_ofPool_4 : decode cX2_ofPool 4 = .ok (.invokevirtual 211, 3) := dk_182 0 211 (dk_at dksX2_ofPool_0 4 rfl rfl)
theorem dX2_ofPool_7 : decode cX2_ofPool 7 = .ok (.ireturn, 1) := dk_172 (dk_at dksX2_ofPool_0 7 rfl rfl)
abbrev cX2_ofPools : ByteArray := prog_13_method_47_code
def yX2_ofPools : MethodName := ⟨RX2, "ofPools", "(III)I"⟩
def dkwX2_ofPools_2 : List UInt8 := [182, 0, 185, 172]
abbrev dktX2_ofPools_2 : List UInt8 := dkwX2_ofPools_2 ++ []
def dkwX2_ofPools_1 : List UInt8 := [167, 0, 4, 3, 181, 0, 81, 42, 180, 0, 81, 158, 0, 7, 3, 167, 0, 10, 42, 27, 28, 29]
abbrev dktX2_ofPools_1 : List UInt8 := dkwX2_ofPools_1 ++ dktX2_ofPools_2
def dkwX2_ofPools_0 : List UInt8 := [42, 42, 27, 28, 182, 0, 182, 154, 0, 7, 4, 167, 0, 17, 29, 3, 6, 184, 0, 87, 154, 0, 7, 5]
abbrev dktX2_ofPools_0 : List UInt8 := dkwX2_ofPools_0 ++ dktX2_ofPools_1
theorem dksX2_ofPools_0 : cX2_ofPools.data.toList.drop 0 = dktX2_ofPools_0 := by decide +kernel
theorem dksX2_ofPools_1 : cX2_ofPools.data.toList.drop 24 = dktX2_ofPools_1 := dk_seg dksX2_ofPools_0 24 rfl rfl
theorem dksX2_ofPools_2 : cX2_ofPools.data.toList.drop 46 = dktX2_ofPools_2 := dk_seg dksX2_ofPools_1 22 rfl rfl
theorem dX2_ofPools_0 : decode cX2_ofPools 0 = .ok (.aload_n 0, 1) := dk_42 (dk_at dksX2_ofPools_0 0 rfl rfl)
theorem dX2_ofPools_1 : decode cX2_ofPools 1 = .ok (.aload_n 0, 1) := dk_42 (dk_at dksX2_ofPools_0 1 rfl rfl)
theorem dX2_ofPools_2 : decode cX2_ofPools 2 = .ok (.iload_n 1, 1) := dk_27 (dk_at dksX2_ofPools_0 2 rfl rfl)
theorem dX2_ofPools_3 : decode cX2_ofPools 3 = .ok (.iload_n 2, 1) := dk_28 (dk_at dksX2_ofPools_0 3 rfl rfl)
theorem dX2_ofPools_4 : decode cX2_ofPools 4 = .ok (.invokevirtual 182, 3) := dk_182 0 182 (dk_at dksX2_ofPools_0 4 rfl rfl)
theorem dX2_ofPools_7 : decode cX2_ofPools 7 = .ok (.ifCond .ne 7, 3) := dk_154 0 7 (dk_at dksX2_ofPools_0 7 rfl rfl)
theorem dX2_ofPools_10 : decode cX2_ofPools 10 = .ok (.iconst 1, 1) := dk_4 (dk_at dksX2_ofPools_0 10 rfl rfl)
theorem dX2_ofPools_11 : decode cX2_ofPools 11 = .ok (.goto 17, 3) := dk_167 0 17 (dk_at dksX2_ofPools_0 11 rfl rfl)
theorem dX2_ofPools_14 : decode cX2_ofPools 14 = .ok (.iload_n 3, 1) := dk_29 (dk_at dksX2_ofPools_0 14 rfl rfl)
theorem dX2_ofPools_15 : decode cX2_ofPools 15 = .ok (.iconst 0, 1) := dk_3 (dk_at dksX2_ofPools_0 15 rfl rfl)
theorem dX2_ofPools_16 : decode cX2_ofPools 16 = .ok (.iconst 3, 1) := dk_6 (dk_at dksX2_ofPools_0 16 rfl rfl)
theorem dX2_ofPools_17 : decode cX2_ofPools 17 = .ok (.invokestatic 87, 3) := dk_184 0 87 (dk_at dksX2_ofPools_0 17 rfl rfl)
theorem dX2_ofPools_20 : decode cX2_ofPools 20 = .ok (.ifCond .ne 7, 3) := dk_154 0 7 (dk_at dksX2_ofPools_0 20 rfl rfl)
theorem dX2_ofPools_23 : decode cX2_ofPools 23 = .ok (.iconst 2, 1) := dk_5 (dk_at dksX2_ofPools_0 23 rfl rfl)
theorem dX2_ofPools_24 : decode cX2_ofPools 24 = .ok (.goto 4, 3) := dk_167 0 4 (dk_at dksX2_ofPools_1 0 rfl rfl)
theorem dX2_ofPools_27 : decode cX2_ofPools 27 = .ok (.iconst 0, 1) := dk_3 (dk_at dksX2_ofPools_1 3 rfl rfl)
theorem dX2_ofPools_28 : decode cX2_ofPools 28 = .ok (.putfield 81, 3) := dk_181 0 81 (dk_at dksX2_ofPools_1 4 rfl rfl)
theorem dX2_ofPools_31 : decode cX2_ofPools 31 = .ok (.aload_n 0, 1) := dk_42 (dk_at dksX2_ofPools_1 7 rfl rfl)
theorem dX2_ofPools_32 : decode cX2_ofPools 32 = .ok (.getfield 81, 3) := dk_180 0 81 (dk_at dksX2_ofPools_1 8 rfl rfl)
theorem dX2_ofPools_35 : decode cX2_ofPools 35 = .ok (.ifCond .le 7, 3) := dk_158 0 7 (dk_at dksX2_ofPools_1 11 rfl rfl)
theorem dX2_ofPools_38 : decode cX2_ofPools 38 = .ok (.iconst 0, 1) := dk_3 (dk_at dksX2_ofPools_1 14 rfl rfl)
theorem dX2_ofPools_39 : decode cX2_ofPools 39 = .ok (.goto 10, 3) := dk_167 0 10 (dk_at dksX2_ofPools_1 15 rfl rfl)
theorem dX2_ofPools_42 : decode cX2_ofPools 42 = .ok (.aload_n 0, 1) := dk_42 (dk_at dksX2_ofPools_1 18 rfl rfl)
theorem dX2_ofPools_43 : decode cX2_ofPools 43 = .ok (.iload_n 1, 1) := dk_27 (dk_at dksX2_ofPools_1 19 rfl rfl)
theorem dX2_ofPools_44 : decode cX2_ofPools 44 = .ok (.iload_n 2, 1) := dk_28 (dk_at dksX2_ofPools_1 20 rfl rfl)
theorem dX2_ofPools_45 : decode cX2_ofPools 45 = .ok (.iload_n 3, 1) := dk_29 (dk_at dksX2_ofPools_1 21 rfl rfl)
theorem dX2_ofPools_46 : decode cX2_ofPools 46 = .ok (.invokevirtual 185, 3) := dk_182 0 185 (dk_at dksX2_ofPools_2 0 rfl rfl)
theorem dX2_ofPools_49 : decode cX2_ofPools 49 = .ok (.ireturn, 1) := dk_172 (dk_at dksX2_ofPools_2 3 rfl rfl)
abbrev cX2_ofPoolAnew : ByteArray := prog_13_method_49_code
def yX2_ofPoolAnew : MethodName := ⟨RX2, "ofPoolAnew", "(III)I"⟩
def dkwX2_ofPoolAnew_0 : List UInt8 := [42, 27, 28, 29, 182, 0, 211, 172]
abbrev dktX2_ofPoolAnew_0 : List UInt8 := dkwX2_ofPoolAnew_0 ++ []
theorem dksX2_ofPoolAnew_0 : cX2_ofPoolAnew.data.toList.drop 0 = dktX2_ofPoolAnew_0 := by decide +kernel
theorem dX2_ofPoolAnew_0 : decode cX2_ofPoolAnew 0 = .ok (.aload_n 0, 1) := dk_42 (dk_at dksX2_ofPoolAnew_0 0 rfl rfl)
theorem dX2_ofPoolAnew_1 : decode cX2_ofPoolAnew 1 = .ok (.iload_n 1, 1) := dk_27 (dk_at dksX2_ofPoolAnew_0 1 rfl rfl)
theorem dX2_ofPoolAnew_2 : decode cX2_ofPoolAnew 2 = .ok (.iload_n 2, 1) := dk_28 (dk_at dksX2_ofPoolAnew_0 2 rfl rfl)
theorem dX2_ofPoolAnew_3 : decode cX2_ofPoolAnew 3 = .ok (.iload_n 3, 1) := dk_29 (dk_at dksX2_ofPoolAnew_0 3 rfl rfl)
theorem dX2_ofPoolAnew_4 : decode cX2_ofPoolAnew 4 = .ok (.invokevirtual 211, 3) := dk_182 0 211 (dk_at dksX2_ofPoolAnew_0 4 rfl rfl)
theorem dX2_ofPoolAnew_7 : decode cX2_ofPoolAnew 7 = .ok (.ireturn, 1) := dk_172 (dk_at dksX2_ofPoolAnew_0 7 rfl rfl)
abbrev cX2_rank : ByteArray := prog_13_method_50_code
def yX2_rank : MethodName := ⟨RX2, "rank", "(II)I"⟩
def dkwX2_rank_2 : List UInt8 := [46, 167, 0, 4, 2, 172]
abbrev dktX2_rank_2 : List UInt8 := dkwX2_rank_2 ++ []
def dkwX2_rank_1 : List UInt8 := [180, 0, 81, 158, 0, 5, 3, 172, 42, 27, 182, 0, 191, 62, 28, 29, 162, 0, 12, 42, 180, 0, 72, 28]
abbrev dktX2_rank_1 : List UInt8 := dkwX2_rank_1 ++ dktX2_rank_2
def dkwX2_rank_0 : List UInt8 := [42, 42, 27, 182, 0, 98, 153, 0, 11, 28, 155, 0, 7, 3, 167, 0, 4, 4, 181, 0, 81, 42]
abbrev dktX2_rank_0 : List UInt8 := dkwX2_rank_0 ++ dktX2_rank_1
theorem dksX2_rank_0 : cX2_rank.data.toList.drop 0 = dktX2_rank_0 := by decide +kernel
theorem dksX2_rank_1 : cX2_rank.data.toList.drop 22 = dktX2_rank_1 := dk_seg dksX2_rank_0 22 rfl rfl
theorem dksX2_rank_2 : cX2_rank.data.toList.drop 46 = dktX2_rank_2 := dk_seg dksX2_rank_1 24 rfl rfl
theorem dX2_rank_0 : decode cX2_rank 0 = .ok (.aload_n 0, 1) := dk_42 (dk_at dksX2_rank_0 0 rfl rfl)
theorem dX2_rank_1 : decode cX2_rank 1 = .ok (.aload_n 0, 1) := dk_42 (dk_at dksX2_rank_0 1 rfl rfl)
theorem dX2_rank_2 : decode cX2_rank 2 = .ok (.iload_n 1, 1) := dk_27 (dk_at dksX2_rank_0 2 rfl rfl)
theorem dX2_rank_3 : decode cX2_rank 3 = .ok (.invokevirtual 98, 3) := dk_182 0 98 (dk_at dksX2_rank_0 3 rfl rfl)
theorem dX2_rank_6 : decode cX2_rank 6 = .ok (.ifCond .eq 11, 3) := dk_153 0 11 (dk_at dksX2_rank_0 6 rfl rfl)
theorem dX2_rank_9 : decode cX2_rank 9 = .ok (.iload_n 2, 1) := dk_28 (dk_at dksX2_rank_0 9 rfl rfl)
theorem dX2_rank_10 : decode cX2_rank 10 = .ok (.ifCond .lt 7, 3) := dk_155 0 7 (dk_at dksX2_rank_0 10 rfl rfl)
theorem dX2_rank_13 : decode cX2_rank 13 = .ok (.iconst 0, 1) := dk_3 (dk_at dksX2_rank_0 13 rfl rfl)
theorem dX2_rank_14 : decode cX2_rank 14 = .ok (.goto 4, 3) := dk_167 0 4 (dk_at dksX2_rank_0 14 rfl rfl)
theorem dX2_rank_17 : decode cX2_rank 17 = .ok (.iconst 1, 1) := dk_4 (dk_at dksX2_rank_0 17 rfl rfl)
theorem dX2_rank_18 : decode cX2_rank 18 = .ok (.putfield 81, 3) := dk_181 0 81 (dk_at dksX2_rank_0 18 rfl rfl)
theorem dX2_rank_21 : decode cX2_rank 21 = .ok (.aload_n 0, 1) := dk_42 (dk_at dksX2_rank_0 21 rfl rfl)
theorem dX2_rank_22 : decode cX2_rank 22 = .ok (.getfield 81, 3) := dk_180 0 81 (dk_at dksX2_rank_1 0 rfl rfl)
theorem dX2_rank_25 : decode cX2_rank 25 = .ok (.ifCond .le 5, 3) := dk_158 0 5 (dk_at dksX2_rank_1 3 rfl rfl)
theorem dX2_rank_28 : decode cX2_rank 28 = .ok (.iconst 0, 1) := dk_3 (dk_at dksX2_rank_1 6 rfl rfl)
theorem dX2_rank_29 : decode cX2_rank 29 = .ok (.ireturn, 1) := dk_172 (dk_at dksX2_rank_1 7 rfl rfl)
theorem dX2_rank_30 : decode cX2_rank 30 = .ok (.aload_n 0, 1) := dk_42 (dk_at dksX2_rank_1 8 rfl rfl)
theorem dX2_rank_31 : decode cX2_rank 31 = .ok (.iload_n 1, 1) := dk_27 (dk_at dksX2_rank_1 9 rfl rfl)
theorem dX2_rank_32 : decode cX2_rank 32 = .ok (.invokevirtual 191, 3) := dk_182 0 191 (dk_at dksX2_rank_1 10 rfl rfl)
theorem dX2_rank_35 : decode cX2_rank 35 = .ok (.istore_n 3, 1) := dk_62 (dk_at dksX2_rank_1 13 rfl rfl)
theorem dX2_rank_36 : decode cX2_rank 36 = .ok (.iload_n 2, 1) := dk_28 (dk_at dksX2_rank_1 14 rfl rfl)
theorem dX2_rank_37 : decode cX2_rank 37 = .ok (.iload_n 3, 1) := dk_29 (dk_at dksX2_rank_1 15 rfl rfl)
theorem dX2_rank_38 : decode cX2_rank 38 = .ok (.if_icmp .ge 12, 3) := dk_162 0 12 (dk_at dksX2_rank_1 16 rfl rfl)
theorem dX2_rank_41 : decode cX2_rank 41 = .ok (.aload_n 0, 1) := dk_42 (dk_at dksX2_rank_1 19 rfl rfl)
theorem dX2_rank_42 : decode cX2_rank 42 = .ok (.getfield 72, 3) := dk_180 0 72 (dk_at dksX2_rank_1 20 rfl rfl)
theorem dX2_rank_45 : decode cX2_rank 45 = .ok (.iload_n 2, 1) := dk_28 (dk_at dksX2_rank_1 23 rfl rfl)
theorem dX2_rank_46 : decode cX2_rank 46 = .ok (.iaload, 1) := dk_46 (dk_at dksX2_rank_2 0 rfl rfl)
theorem dX2_rank_47 : decode cX2_rank 47 = .ok (.goto 4, 3) := dk_167 0 4 (dk_at dksX2_rank_2 1 rfl rfl)
theorem dX2_rank_50 : decode cX2_rank 50 = .ok (.iconst (-1), 1) := dk_2 (dk_at dksX2_rank_2 4 rfl rfl)
theorem dX2_rank_51 : decode cX2_rank 51 = .ok (.ireturn, 1) := dk_172 (dk_at dksX2_rank_2 5 rfl rfl)
abbrev cX2_meets : ByteArray := prog_13_method_51_code
def yX2_meets : MethodName := ⟨RX2, "meets", "(III)I"⟩
def dkwX2_meets_3 : List UInt8 := [96, 29, 96, 46, 172]
abbrev dktX2_meets_3 : List UInt8 := dkwX2_meets_3 ++ []
def dkwX2_meets_2 : List UInt8 := [180, 0, 78, 16, 16, 27, 104, 28, 96, 46, 167, 0, 18, 42, 180, 0, 75, 16, 32, 27, 104, 5, 28, 104]
abbrev dktX2_meets_2 : List UInt8 := dkwX2_meets_2 ++ dktX2_meets_3
def dkwX2_meets_1 : List UInt8 := [167, 0, 4, 3, 181, 0, 81, 42, 180, 0, 81, 158, 0, 5, 3, 172, 29, 5, 160, 0, 17, 42]
abbrev dktX2_meets_1 : List UInt8 := dkwX2_meets_1 ++ dktX2_meets_2
def dkwX2_meets_0 : List UInt8 := [42, 42, 27, 28, 182, 0, 208, 154, 0, 7, 4, 167, 0, 17, 29, 3, 5, 184, 0, 87, 154, 0, 7, 5]
abbrev dktX2_meets_0 : List UInt8 := dkwX2_meets_0 ++ dktX2_meets_1
theorem dksX2_meets_0 : cX2_meets.data.toList.drop 0 = dktX2_meets_0 := by decide +kernel
theorem dksX2_meets_1 : cX2_meets.data.toList.drop 24 = dktX2_meets_1 := dk_seg dksX2_meets_0 24 rfl rfl
theorem dksX2_meets_2 : cX2_meets.data.toList.drop 46 = dktX2_meets_2 := dk_seg dksX2_meets_1 22 rfl rfl
theorem dksX2_meets_3 : cX2_meets.data.toList.drop 70 = dktX2_meets_3 := dk_seg dksX2_meets_2 24 rfl rfl
theorem dX2_meets_0 : decode cX2_meets 0 = .ok (.aload_n 0, 1) := dk_42 (dk_at dksX2_meets_0 0 rfl rfl)
theorem dX2_meets_1 : decode cX2_meets 1 = .ok (.aload_n 0, 1) := dk_42 (dk_at dksX2_meets_0 1 rfl rfl)
theorem dX2_meets_2 : decode cX2_meets 2 = .ok (.iload_n 1, 1) := dk_27 (dk_at dksX2_meets_0 2 rfl rfl)
theorem dX2_meets_3 : decode cX2_meets 3 = .ok (.iload_n 2, 1) := dk_28 (dk_at dksX2_meets_0 3 rfl rfl)
theorem dX2_meets_4 : decode cX2_meets 4 = .ok (.invokevirtual 208, 3) := dk_182 0 208 (dk_at dksX2_meets_0 4 rfl rfl)
theorem dX2_meets_7 : decode cX2_meets 7 = .ok (.ifCond .ne 7, 3) := dk_154 0 7 (dk_at dksX2_meets_0 7 rfl rfl)
theorem dX2_meets_10 : decode cX2_meets 10 = .ok (.iconst 1, 1) := dk_4 (dk_at dksX2_meets_0 10 rfl rfl)
theorem dX2_meets_11 : decode cX2_meets 11 = .ok (.goto 17, 3) := dk_167 0 17 (dk_at dksX2_meets_0 11 rfl rfl)
theorem dX2_meets_14 : decode cX2_meets 14 = .ok (.iload_n 3, 1) := dk_29 (dk_at dksX2_meets_0 14 rfl rfl)
theorem dX2_meets_15 : decode cX2_meets 15 = .ok (.iconst 0, 1) := dk_3 (dk_at dksX2_meets_0 15 rfl rfl)
theorem dX2_meets_16 : decode cX2_meets 16 = .ok (.iconst 2, 1) := dk_5 (dk_at dksX2_meets_0 16 rfl rfl)
theorem dX2_meets_17 : decode cX2_meets 17 = .ok (.invokestatic 87, 3) := dk_184 0 87 (dk_at dksX2_meets_0 17 rfl rfl)
theorem dX2_meets_20 : decode cX2_meets 20 = .ok (.ifCond .ne 7, 3) := dk_154 0 7 (dk_at dksX2_meets_0 20 rfl rfl)
theorem dX2_meets_23 : decode cX2_meets 23 = .ok (.iconst 2, 1) := dk_5 (dk_at dksX2_meets_0 23 rfl rfl)
theorem dX2_meets_24 : decode cX2_meets 24 = .ok (.goto 4, 3) := dk_167 0 4 (dk_at dksX2_meets_1 0 rfl rfl)
theorem dX2_meets_27 : decode cX2_meets 27 = .ok (.iconst 0, 1) := dk_3 (dk_at dksX2_meets_1 3 rfl rfl)
theorem dX2_meets_28 : decode cX2_meets 28 = .ok (.putfield 81, 3) := dk_181 0 81 (dk_at dksX2_meets_1 4 rfl rfl)
theorem dX2_meets_31 : decode cX2_meets 31 = .ok (.aload_n 0, 1) := dk_42 (dk_at dksX2_meets_1 7 rfl rfl)
theorem dX2_meets_32 : decode cX2_meets 32 = .ok (.getfield 81, 3) := dk_180 0 81 (dk_at dksX2_meets_1 8 rfl rfl)
theorem dX2_meets_35 : decode cX2_meets 35 = .ok (.ifCond .le 5, 3) := dk_158 0 5 (dk_at dksX2_meets_1 11 rfl rfl)
theorem dX2_meets_38 : decode cX2_meets 38 = .ok (.iconst 0, 1) := dk_3 (dk_at dksX2_meets_1 14 rfl rfl)
theorem dX2_meets_39 : decode cX2_meets 39 = .ok (.ireturn, 1) := dk_172 (dk_at dksX2_meets_1 15 rfl rfl)
theorem dX2_meets_40 : decode cX2_meets 40 = .ok (.iload_n 3, 1) := dk_29 (dk_at dksX2_meets_1 16 rfl rfl)
theorem dX2_meets_41 : decode cX2_meets 41 = .ok (.iconst 2, 1) := dk_5 (dk_at dksX2_meets_1 17 rfl rfl)
theorem dX2_meets_42 : decode cX2_meets 42 = .ok (.if_icmp .ne 17, 3) := dk_160 0 17 (dk_at dksX2_meets_1 18 rfl rfl)
theorem dX2_meets_45 : decode cX2_meets 45 = .ok (.aload_n 0, 1) := dk_42 (dk_at dksX2_meets_1 21 rfl rfl)
theorem dX2_meets_46 : decode cX2_meets 46 = .ok (.getfield 78, 3) := dk_180 0 78 (dk_at dksX2_meets_2 0 rfl rfl)
theorem dX2_meets_49 : decode cX2_meets 49 = .ok (.bipush 16, 2) := dk_16 16 (dk_at dksX2_meets_2 3 rfl rfl)
theorem dX2_meets_51 : decode cX2_meets 51 = .ok (.iload_n 1, 1) := dk_27 (dk_at dksX2_meets_2 5 rfl rfl)
theorem dX2_meets_52 : decode cX2_meets 52 = .ok (.imul, 1) := dk_104 (dk_at dksX2_meets_2 6 rfl rfl)
theorem dX2_meets_53 : decode cX2_meets 53 = .ok (.iload_n 2, 1) := dk_28 (dk_at dksX2_meets_2 7 rfl rfl)
theorem dX2_meets_54 : decode cX2_meets 54 = .ok (.iadd, 1) := dk_96 (dk_at dksX2_meets_2 8 rfl rfl)
theorem dX2_meets_55 : decode cX2_meets 55 = .ok (.iaload, 1) := dk_46 (dk_at dksX2_meets_2 9 rfl rfl)
theorem dX2_meets_56 : decode cX2_meets 56 = .ok (.goto 18, 3) := dk_167 0 18 (dk_at dksX2_meets_2 10 rfl rfl)
theorem dX2_meets_59 : decode cX2_meets 59 = .ok (.aload_n 0, 1) := dk_42 (dk_at dksX2_meets_2 13 rfl rfl)
theorem dX2_meets_60 : decode cX2_meets 60 = .ok (.getfield 75, 3) := dk_180 0 75 (dk_at dksX2_meets_2 14 rfl rfl)
theorem dX2_meets_63 : decode cX2_meets 63 = .ok (.bipush 32, 2) := dk_16 32 (dk_at dksX2_meets_2 17 rfl rfl)
theorem dX2_meets_65 : decode cX2_meets 65 = .ok (.iload_n 1, 1) := dk_27 (dk_at dksX2_meets_2 19 rfl rfl)
theorem dX2_meets_66 : decode cX2_meets 66 = .ok (.imul, 1) := dk_104 (dk_at dksX2_meets_2 20 rfl rfl)
theorem dX2_meets_67 : decode cX2_meets 67 = .ok (.iconst 2, 1) := dk_5 (dk_at dksX2_meets_2 21 rfl rfl)
theorem dX2_meets_68 : decode cX2_meets 68 = .ok (.iload_n 2, 1) := dk_28 (dk_at dksX2_meets_2 22 rfl rfl)
theorem dX2_meets_69 : decode cX2_meets 69 = .ok (.imul, 1) := dk_104 (dk_at dksX2_meets_2 23 rfl rfl)
theorem dX2_meets_70 : decode cX2_meets 70 = .ok (.iadd, 1) := dk_96 (dk_at dksX2_meets_3 0 rfl rfl)
theorem dX2_meets_71 : decode cX2_meets 71 = .ok (.iload_n 3, 1) := dk_29 (dk_at dksX2_meets_3 1 rfl rfl)
theorem dX2_meets_72 : decode cX2_meets 72 = .ok (.iadd, 1) := dk_96 (dk_at dksX2_meets_3 2 rfl rfl)
theorem dX2_meets_73 : decode cX2_meets 73 = .ok (.iaload, 1) := dk_46 (dk_at dksX2_meets_3 3 rfl rfl)
theorem dX2_meets_74 : decode cX2_meets 74 = .ok (.ireturn, 1) := dk_172 (dk_at dksX2_meets_3 4 rfl rfl)
theorem q46 : (Jvm.Cond.initialized "PhrasehallModel") ∈ lw_all := lw_g (lw_at lw_m1 5 rfl) rfl
theorem q356 : (Jvm.Cond.selects "PhrasehallModel" ({ cls := "java/lang/Object", name := "getClass", desc := "()Ljava/lang/Class;" } : Jvm.MethodName) ({ cls := "java/lang/Object", name := "getClass", desc := "()Ljava/lang/Class;" } : Jvm.MethodName)) ∈ lw_all := lw_g (lw_at lw_m2 75 rfl) rfl
theorem q1228 : (Jvm.Cond.instantiable "PhrasehallModel" (32 : Nat)) ∈ lw_all := lw_g (lw_at lw_m5 227 rfl) rfl
theorem q1230 : (Jvm.Cond.instanceMethod ({ cls := "PhrasehallModel", name := "<init>", desc := "()V" } : Jvm.MethodName)) ∈ lw_all := lw_g (lw_at lw_m5 229 rfl) rfl
theorem q1231 : (Jvm.Cond.code ({ cls := "PhrasehallModel", name := "<init>", desc := "()V" } : Jvm.MethodName) prog_13_method_1_code (1 : Nat) (Option.none : Option Jvm.ClassFile.FieldType)) ∈ lw_all := lw_g (lw_at lw_m5 230 rfl) rfl
theorem q1232 : (Jvm.Cond.methodLink "PhrasehallModel" (1 : Nat) ({ cls := "java/lang/Object", name := "<init>", desc := "()V" } : Jvm.MethodName)) ∈ lw_all := lw_g (lw_at lw_m5 231 rfl) rfl
theorem q1233 : (Jvm.Cond.fieldLink "PhrasehallModel" (84 : Nat) "PhrasehallModel" "fencers" "I") ∈ lw_all := lw_g (lw_at lw_m5 232 rfl) rfl
theorem q1234 : (Jvm.Cond.fieldLink "PhrasehallModel" (161 : Nat) "PhrasehallModel" "seed" "J") ∈ lw_all := lw_g (lw_at lw_m5 233 rfl) rfl
theorem q1235 : (Jvm.Cond.fieldLink "PhrasehallModel" (9 : Nat) "PhrasehallModel" "reason" "I") ∈ lw_all := lw_g (lw_at lw_m5 234 rfl) rfl
theorem q1236 : (Jvm.Cond.fieldLink "PhrasehallModel" (105 : Nat) "PhrasehallModel" "bouts" "I") ∈ lw_all := lw_g (lw_at lw_m5 235 rfl) rfl
theorem q1237 : (Jvm.Cond.fieldLink "PhrasehallModel" (13 : Nat) "PhrasehallModel" "onPiste" "I") ∈ lw_all := lw_g (lw_at lw_m5 236 rfl) rfl
theorem q1238 : (Jvm.Cond.fieldLink "PhrasehallModel" (16 : Nat) "PhrasehallModel" "who" "[I") ∈ lw_all := lw_g (lw_at lw_m5 237 rfl) rfl
theorem q1239 : (Jvm.Cond.fieldLink "PhrasehallModel" (20 : Nat) "PhrasehallModel" "touches" "[I") ∈ lw_all := lw_g (lw_at lw_m5 238 rfl) rfl
theorem q1240 : (Jvm.Cond.fieldLink "PhrasehallModel" (23 : Nat) "PhrasehallModel" "weapon" "[I") ∈ lw_all := lw_g (lw_at lw_m5 239 rfl) rfl
theorem q1241 : (Jvm.Cond.fieldLink "PhrasehallModel" (26 : Nat) "PhrasehallModel" "goes" "[I") ∈ lw_all := lw_g (lw_at lw_m6 0 rfl) rfl
theorem q1242 : (Jvm.Cond.fieldLink "PhrasehallModel" (29 : Nat) "PhrasehallModel" "poolOf" "[I") ∈ lw_all := lw_g (lw_at lw_m6 1 rfl) rfl
theorem q1243 : (Jvm.Cond.fieldLink "PhrasehallModel" (32 : Nat) "PhrasehallModel" "winner" "[I") ∈ lw_all := lw_g (lw_at lw_m6 2 rfl) rfl
theorem q1244 : (Jvm.Cond.fieldLink "PhrasehallModel" (35 : Nat) "PhrasehallModel" "seconds" "[I") ∈ lw_all := lw_g (lw_at lw_m6 3 rfl) rfl
theorem q1245 : (Jvm.Cond.fieldLink "PhrasehallModel" (38 : Nat) "PhrasehallModel" "passive" "[I") ∈ lw_all := lw_g (lw_at lw_m6 4 rfl) rfl
theorem q1246 : (Jvm.Cond.fieldLink "PhrasehallModel" (41 : Nat) "PhrasehallModel" "drawn" "[I") ∈ lw_all := lw_g (lw_at lw_m6 5 rfl) rfl
theorem q1247 : (Jvm.Cond.fieldLink "PhrasehallModel" (108 : Nat) "PhrasehallModel" "quiet" "I") ∈ lw_all := lw_g (lw_at lw_m6 6 rfl) rfl
theorem q1248 : (Jvm.Cond.fieldLink "PhrasehallModel" (44 : Nat) "PhrasehallModel" "cards" "[I") ∈ lw_all := lw_g (lw_at lw_m6 7 rfl) rfl
theorem q1249 : (Jvm.Cond.fieldLink "PhrasehallModel" (47 : Nat) "PhrasehallModel" "hadThird" "[Z") ∈ lw_all := lw_g (lw_at lw_m6 8 rfl) rfl
theorem q1250 : (Jvm.Cond.fieldLink "PhrasehallModel" (111 : Nat) "PhrasehallModel" "items" "I") ∈ lw_all := lw_g (lw_at lw_m6 9 rfl) rfl
theorem q1251 : (Jvm.Cond.fieldLink "PhrasehallModel" (51 : Nat) "PhrasehallModel" "side" "[I") ∈ lw_all := lw_g (lw_at lw_m6 10 rfl) rfl
theorem q1252 : (Jvm.Cond.fieldLink "PhrasehallModel" (54 : Nat) "PhrasehallModel" "kind" "[I") ∈ lw_all := lw_g (lw_at lw_m6 11 rfl) rfl
theorem q1253 : (Jvm.Cond.fieldLink "PhrasehallModel" (57 : Nat) "PhrasehallModel" "time" "[I") ∈ lw_all := lw_g (lw_at lw_m6 12 rfl) rfl
theorem q1254 : (Jvm.Cond.fieldLink "PhrasehallModel" (60 : Nat) "PhrasehallModel" "span" "[I") ∈ lw_all := lw_g (lw_at lw_m6 13 rfl) rfl
theorem q1255 : (Jvm.Cond.fieldLink "PhrasehallModel" (63 : Nat) "PhrasehallModel" "target" "[I") ∈ lw_all := lw_g (lw_at lw_m6 14 rfl) rfl
theorem q1256 : (Jvm.Cond.fieldLink "PhrasehallModel" (91 : Nat) "PhrasehallModel" "pools" "I") ∈ lw_all := lw_g (lw_at lw_m6 15 rfl) rfl
theorem q1257 : (Jvm.Cond.fieldLink "PhrasehallModel" (66 : Nat) "PhrasehallModel" "members" "[I") ∈ lw_all := lw_g (lw_at lw_m6 16 rfl) rfl
theorem q1258 : (Jvm.Cond.fieldLink "PhrasehallModel" (69 : Nat) "PhrasehallModel" "gone" "[I") ∈ lw_all := lw_g (lw_at lw_m6 17 rfl) rfl
theorem q1259 : (Jvm.Cond.fieldLink "PhrasehallModel" (72 : Nat) "PhrasehallModel" "ranked" "[I") ∈ lw_all := lw_g (lw_at lw_m6 18 rfl) rfl
theorem q1260 : (Jvm.Cond.fieldLink "PhrasehallModel" (194 : Nat) "PhrasehallModel" "places" "I") ∈ lw_all := lw_g (lw_at lw_m6 19 rfl) rfl
theorem q1261 : (Jvm.Cond.fieldLink "PhrasehallModel" (75 : Nat) "PhrasehallModel" "meets" "[I") ∈ lw_all := lw_g (lw_at lw_m6 20 rfl) rfl
theorem q1262 : (Jvm.Cond.fieldLink "PhrasehallModel" (78 : Nat) "PhrasehallModel" "won" "[I") ∈ lw_all := lw_g (lw_at lw_m6 21 rfl) rfl
theorem q1263 : (Jvm.Cond.fieldLink "PhrasehallModel" (132 : Nat) "PhrasehallModel" "holder" "I") ∈ lw_all := lw_g (lw_at lw_m6 22 rfl) rfl
theorem q1264 : (Jvm.Cond.fieldLink "PhrasehallModel" (81 : Nat) "PhrasehallModel" "thrown" "I") ∈ lw_all := lw_g (lw_at lw_m6 23 rfl) rfl
theorem q1265 : (Jvm.Cond.lays "PhrasehallModel" "PhrasehallModel" "fencers" "I") ∈ lw_all := lw_g (lw_at lw_m6 24 rfl) rfl
theorem q1266 : (Jvm.Cond.soleField "PhrasehallModel" "fencers") ∈ lw_all := lw_g (lw_at lw_m6 25 rfl) rfl
theorem q1267 : (Jvm.Cond.lays "PhrasehallModel" "PhrasehallModel" "seed" "J") ∈ lw_all := lw_g (lw_at lw_m6 26 rfl) rfl
theorem q1268 : (Jvm.Cond.soleField "PhrasehallModel" "seed") ∈ lw_all := lw_g (lw_at lw_m6 27 rfl) rfl
theorem q1269 : (Jvm.Cond.lays "PhrasehallModel" "PhrasehallModel" "reason" "I") ∈ lw_all := lw_g (lw_at lw_m6 28 rfl) rfl
theorem q1270 : (Jvm.Cond.soleField "PhrasehallModel" "reason") ∈ lw_all := lw_g (lw_at lw_m6 29 rfl) rfl
theorem q1271 : (Jvm.Cond.lays "PhrasehallModel" "PhrasehallModel" "bouts" "I") ∈ lw_all := lw_g (lw_at lw_m6 30 rfl) rfl
theorem q1272 : (Jvm.Cond.soleField "PhrasehallModel" "bouts") ∈ lw_all := lw_g (lw_at lw_m6 31 rfl) rfl
theorem q1273 : (Jvm.Cond.lays "PhrasehallModel" "PhrasehallModel" "onPiste" "I") ∈ lw_all := lw_g (lw_at lw_m6 32 rfl) rfl
theorem q1274 : (Jvm.Cond.soleField "PhrasehallModel" "onPiste") ∈ lw_all := lw_g (lw_at lw_m6 33 rfl) rfl
theorem q1275 : (Jvm.Cond.laysFinal "PhrasehallModel" "PhrasehallModel" "who" "[I") ∈ lw_all := lw_g (lw_at lw_m6 34 rfl) rfl
theorem q1276 : (Jvm.Cond.soleField "PhrasehallModel" "who") ∈ lw_all := lw_g (lw_at lw_m6 35 rfl) rfl
theorem q1277 : (Jvm.Cond.laysFinal "PhrasehallModel" "PhrasehallModel" "touches" "[I") ∈ lw_all := lw_g (lw_at lw_m6 36 rfl) rfl
theorem q1278 : (Jvm.Cond.soleField "PhrasehallModel" "touches") ∈ lw_all := lw_g (lw_at lw_m6 37 rfl) rfl
theorem q1279 : (Jvm.Cond.laysFinal "PhrasehallModel" "PhrasehallModel" "weapon" "[I") ∈ lw_all := lw_g (lw_at lw_m6 38 rfl) rfl
theorem q1280 : (Jvm.Cond.soleField "PhrasehallModel" "weapon") ∈ lw_all := lw_g (lw_at lw_m6 39 rfl) rfl
theorem q1281 : (Jvm.Cond.laysFinal "PhrasehallModel" "PhrasehallModel" "goes" "[I") ∈ lw_all := lw_g (lw_at lw_m6 40 rfl) rfl
theorem q1282 : (Jvm.Cond.soleField "PhrasehallModel" "goes") ∈ lw_all := lw_g (lw_at lw_m6 41 rfl) rfl
theorem q1283 : (Jvm.Cond.laysFinal "PhrasehallModel" "PhrasehallModel" "poolOf" "[I") ∈ lw_all := lw_g (lw_at lw_m6 42 rfl) rfl
theorem q1284 : (Jvm.Cond.soleField "PhrasehallModel" "poolOf") ∈ lw_all := lw_g (lw_at lw_m6 43 rfl) rfl
theorem q1285 : (Jvm.Cond.laysFinal "PhrasehallModel" "PhrasehallModel" "winner" "[I") ∈ lw_all := lw_g (lw_at lw_m6 44 rfl) rfl
theorem q1286 : (Jvm.Cond.soleField "PhrasehallModel" "winner") ∈ lw_all := lw_g (lw_at lw_m6 45 rfl) rfl
theorem q1287 : (Jvm.Cond.laysFinal "PhrasehallModel" "PhrasehallModel" "seconds" "[I") ∈ lw_all := lw_g (lw_at lw_m6 46 rfl) rfl
theorem q1288 : (Jvm.Cond.soleField "PhrasehallModel" "seconds") ∈ lw_all := lw_g (lw_at lw_m6 47 rfl) rfl
theorem q1289 : (Jvm.Cond.laysFinal "PhrasehallModel" "PhrasehallModel" "passive" "[I") ∈ lw_all := lw_g (lw_at lw_m6 48 rfl) rfl
theorem q1290 : (Jvm.Cond.soleField "PhrasehallModel" "passive") ∈ lw_all := lw_g (lw_at lw_m6 49 rfl) rfl
theorem q1291 : (Jvm.Cond.laysFinal "PhrasehallModel" "PhrasehallModel" "drawn" "[I") ∈ lw_all := lw_g (lw_at lw_m6 50 rfl) rfl
theorem q1292 : (Jvm.Cond.soleField "PhrasehallModel" "drawn") ∈ lw_all := lw_g (lw_at lw_m6 51 rfl) rfl
theorem q1293 : (Jvm.Cond.lays "PhrasehallModel" "PhrasehallModel" "quiet" "I") ∈ lw_all := lw_g (lw_at lw_m6 52 rfl) rfl
theorem q1294 : (Jvm.Cond.soleField "PhrasehallModel" "quiet") ∈ lw_all := lw_g (lw_at lw_m6 53 rfl) rfl
theorem q1295 : (Jvm.Cond.laysFinal "PhrasehallModel" "PhrasehallModel" "cards" "[I") ∈ lw_all := lw_g (lw_at lw_m6 54 rfl) rfl
theorem q1296 : (Jvm.Cond.soleField "PhrasehallModel" "cards") ∈ lw_all := lw_g (lw_at lw_m6 55 rfl) rfl
theorem q1297 : (Jvm.Cond.laysFinal "PhrasehallModel" "PhrasehallModel" "hadThird" "[Z") ∈ lw_all := lw_g (lw_at lw_m6 56 rfl) rfl
theorem q1298 : (Jvm.Cond.soleField "PhrasehallModel" "hadThird") ∈ lw_all := lw_g (lw_at lw_m6 57 rfl) rfl
theorem q1299 : (Jvm.Cond.lays "PhrasehallModel" "PhrasehallModel" "items" "I") ∈ lw_all := lw_g (lw_at lw_m6 58 rfl) rfl
theorem q1300 : (Jvm.Cond.soleField "PhrasehallModel" "items") ∈ lw_all := lw_g (lw_at lw_m6 59 rfl) rfl
theorem q1301 : (Jvm.Cond.laysFinal "PhrasehallModel" "PhrasehallModel" "side" "[I") ∈ lw_all := lw_g (lw_at lw_m6 60 rfl) rfl
theorem q1302 : (Jvm.Cond.soleField "PhrasehallModel" "side") ∈ lw_all := lw_g (lw_at lw_m6 61 rfl) rfl
theorem q1303 : (Jvm.Cond.laysFinal "PhrasehallModel" "PhrasehallModel" "kind" "[I") ∈ lw_all := lw_g (lw_at lw_m6 62 rfl) rfl
theorem q1304 : (Jvm.Cond.soleField "PhrasehallModel" "kind") ∈ lw_all := lw_g (lw_at lw_m6 63 rfl) rfl
theorem q1305 : (Jvm.Cond.laysFinal "PhrasehallModel" "PhrasehallModel" "time" "[I") ∈ lw_all := lw_g (lw_at lw_m6 64 rfl) rfl
theorem q1306 : (Jvm.Cond.soleField "PhrasehallModel" "time") ∈ lw_all := lw_g (lw_at lw_m6 65 rfl) rfl
theorem q1307 : (Jvm.Cond.laysFinal "PhrasehallModel" "PhrasehallModel" "span" "[I") ∈ lw_all := lw_g (lw_at lw_m6 66 rfl) rfl
theorem q1308 : (Jvm.Cond.soleField "PhrasehallModel" "span") ∈ lw_all := lw_g (lw_at lw_m6 67 rfl) rfl
theorem q1309 : (Jvm.Cond.laysFinal "PhrasehallModel" "PhrasehallModel" "target" "[I") ∈ lw_all := lw_g (lw_at lw_m6 68 rfl) rfl
theorem q1310 : (Jvm.Cond.soleField "PhrasehallModel" "target") ∈ lw_all := lw_g (lw_at lw_m6 69 rfl) rfl
theorem q1311 : (Jvm.Cond.lays "PhrasehallModel" "PhrasehallModel" "pools" "I") ∈ lw_all := lw_g (lw_at lw_m6 70 rfl) rfl
theorem q1312 : (Jvm.Cond.soleField "PhrasehallModel" "pools") ∈ lw_all := lw_g (lw_at lw_m6 71 rfl) rfl
theorem q1313 : (Jvm.Cond.laysFinal "PhrasehallModel" "PhrasehallModel" "members" "[I") ∈ lw_all := lw_g (lw_at lw_m6 72 rfl) rfl
theorem q1314 : (Jvm.Cond.soleField "PhrasehallModel" "members") ∈ lw_all := lw_g (lw_at lw_m6 73 rfl) rfl
theorem q1315 : (Jvm.Cond.laysFinal "PhrasehallModel" "PhrasehallModel" "gone" "[I") ∈ lw_all := lw_g (lw_at lw_m6 74 rfl) rfl
theorem q1316 : (Jvm.Cond.soleField "PhrasehallModel" "gone") ∈ lw_all := lw_g (lw_at lw_m6 75 rfl) rfl
theorem q1317 : (Jvm.Cond.laysFinal "PhrasehallModel" "PhrasehallModel" "ranked" "[I") ∈ lw_all := lw_g (lw_at lw_m6 76 rfl) rfl
theorem q1318 : (Jvm.Cond.soleField "PhrasehallModel" "ranked") ∈ lw_all := lw_g (lw_at lw_m6 77 rfl) rfl
theorem q1319 : (Jvm.Cond.lays "PhrasehallModel" "PhrasehallModel" "places" "I") ∈ lw_all := lw_g (lw_at lw_m6 78 rfl) rfl
theorem q1320 : (Jvm.Cond.soleField "PhrasehallModel" "places") ∈ lw_all := lw_g (lw_at lw_m6 79 rfl) rfl
theorem q1321 : (Jvm.Cond.laysFinal "PhrasehallModel" "PhrasehallModel" "meets" "[I") ∈ lw_all := lw_g (lw_at lw_m6 80 rfl) rfl
theorem q1322 : (Jvm.Cond.soleField "PhrasehallModel" "meets") ∈ lw_all := lw_g (lw_at lw_m6 81 rfl) rfl
theorem q1323 : (Jvm.Cond.laysFinal "PhrasehallModel" "PhrasehallModel" "won" "[I") ∈ lw_all := lw_g (lw_at lw_m6 82 rfl) rfl
theorem q1324 : (Jvm.Cond.soleField "PhrasehallModel" "won") ∈ lw_all := lw_g (lw_at lw_m6 83 rfl) rfl
theorem q1325 : (Jvm.Cond.lays "PhrasehallModel" "PhrasehallModel" "holder" "I") ∈ lw_all := lw_g (lw_at lw_m6 84 rfl) rfl
theorem q1326 : (Jvm.Cond.soleField "PhrasehallModel" "holder") ∈ lw_all := lw_g (lw_at lw_m6 85 rfl) rfl
theorem q1327 : (Jvm.Cond.lays "PhrasehallModel" "PhrasehallModel" "thrown" "I") ∈ lw_all := lw_g (lw_at lw_m6 86 rfl) rfl
theorem q1328 : (Jvm.Cond.soleField "PhrasehallModel" "thrown") ∈ lw_all := lw_g (lw_at lw_m6 87 rfl) rfl
theorem q1329 : (Jvm.Cond.superclass "PhrasehallModel" "java/lang/Object") ∈ lw_all := lw_g (lw_at lw_m6 88 rfl) rfl
theorem q1331 : (Jvm.Cond.instanceMethod ({ cls := "PhrasehallModel", name := "thrown", desc := "()I" } : Jvm.MethodName)) ∈ lw_all := lw_g (lw_at lw_m6 90 rfl) rfl
theorem q1332 : (Jvm.Cond.selects "PhrasehallModel" ({ cls := "PhrasehallModel", name := "thrown", desc := "()I" } : Jvm.MethodName) ({ cls := "PhrasehallModel", name := "thrown", desc := "()I" } : Jvm.MethodName)) ∈ lw_all := lw_g (lw_at lw_m6 91 rfl) rfl
theorem q1333 : (Jvm.Cond.code ({ cls := "PhrasehallModel", name := "thrown", desc := "()I" } : Jvm.MethodName) prog_13_method_2_code (1 : Nat) (Option.some Jvm.ClassFile.FieldType.int)) ∈ lw_all := lw_g (lw_at lw_m6 92 rfl) rfl
theorem q1335 : (Jvm.Cond.instanceMethod ({ cls := "PhrasehallModel", name := "fencer", desc := "()I" } : Jvm.MethodName)) ∈ lw_all := lw_g (lw_at lw_m6 94 rfl) rfl
theorem q1336 : (Jvm.Cond.selects "PhrasehallModel" ({ cls := "PhrasehallModel", name := "fencer", desc := "()I" } : Jvm.MethodName) ({ cls := "PhrasehallModel", name := "fencer", desc := "()I" } : Jvm.MethodName)) ∈ lw_all := lw_g (lw_at lw_m6 95 rfl) rfl
theorem q1337 : (Jvm.Cond.code ({ cls := "PhrasehallModel", name := "fencer", desc := "()I" } : Jvm.MethodName) prog_13_method_7_code (1 : Nat) (Option.some Jvm.ClassFile.FieldType.int)) ∈ lw_all := lw_g (lw_at lw_m6 96 rfl) rfl
theorem q1339 : (Jvm.Cond.instanceMethod ({ cls := "PhrasehallModel", name := "begin", desc := "(IIIII)I" } : Jvm.MethodName)) ∈ lw_all := lw_g (lw_at lw_m6 98 rfl) rfl
theorem q1340 : (Jvm.Cond.selects "PhrasehallModel" ({ cls := "PhrasehallModel", name := "begin", desc := "(IIIII)I" } : Jvm.MethodName) ({ cls := "PhrasehallModel", name := "begin", desc := "(IIIII)I" } : Jvm.MethodName)) ∈ lw_all := lw_g (lw_at lw_m6 99 rfl) rfl
theorem q1341 : (Jvm.Cond.code ({ cls := "PhrasehallModel", name := "begin", desc := "(IIIII)I" } : Jvm.MethodName) prog_13_method_8_code (9 : Nat) (Option.some Jvm.ClassFile.FieldType.int)) ∈ lw_all := lw_g (lw_at lw_m6 100 rfl) rfl
theorem q1342 : (Jvm.Cond.methodLink "PhrasehallModel" (94 : Nat) ({ cls := "PhrasehallModel", name := "isFencer", desc := "(I)Z" } : Jvm.MethodName)) ∈ lw_all := lw_g (lw_at lw_m6 101 rfl) rfl
theorem q1343 : (Jvm.Cond.privateMethod ({ cls := "PhrasehallModel", name := "isFencer", desc := "(I)Z" } : Jvm.MethodName)) ∈ lw_tbl := lw_at lw_m6 102 rfl
theorem q1344 : (Jvm.Cond.instanceMethod ({ cls := "PhrasehallModel", name := "isFencer", desc := "(I)Z" } : Jvm.MethodName)) ∈ lw_all := lw_g (lw_at lw_m6 103 rfl) rfl
theorem q1345 : (Jvm.Cond.code ({ cls := "PhrasehallModel", name := "isFencer", desc := "(I)Z" } : Jvm.MethodName) prog_13_method_4_code (2 : Nat) (Option.some Jvm.ClassFile.FieldType.boolean)) ∈ lw_all := lw_g (lw_at lw_m6 104 rfl) rfl
theorem q1346 : (Jvm.Cond.methodLink "PhrasehallModel" (87 : Nat) ({ cls := "PhrasehallModel", name := "isIn", desc := "(III)Z" } : Jvm.MethodName)) ∈ lw_all := lw_g (lw_at lw_m6 105 rfl) rfl
theorem q1347 : (Jvm.Cond.static ({ cls := "PhrasehallModel", name := "isIn", desc := "(III)Z" } : Jvm.MethodName)) ∈ lw_all := lw_g (lw_at lw_m6 106 rfl) rfl
theorem q1348 : (Jvm.Cond.code ({ cls := "PhrasehallModel", name := "isIn", desc := "(III)Z" } : Jvm.MethodName) prog_13_method_3_code (3 : Nat) (Option.some Jvm.ClassFile.FieldType.boolean)) ∈ lw_all := lw_g (lw_at lw_m6 107 rfl) rfl
theorem q1349 : (Jvm.Cond.methodLink "PhrasehallModel" (98 : Nat) ({ cls := "PhrasehallModel", name := "isPool", desc := "(I)Z" } : Jvm.MethodName)) ∈ lw_all := lw_g (lw_at lw_m6 108 rfl) rfl
theorem q1350 : (Jvm.Cond.privateMethod ({ cls := "PhrasehallModel", name := "isPool", desc := "(I)Z" } : Jvm.MethodName)) ∈ lw_tbl := lw_at lw_m6 109 rfl
theorem q1351 : (Jvm.Cond.instanceMethod ({ cls := "PhrasehallModel", name := "isPool", desc := "(I)Z" } : Jvm.MethodName)) ∈ lw_all := lw_g (lw_at lw_m6 110 rfl) rfl
theorem q1352 : (Jvm.Cond.code ({ cls := "PhrasehallModel", name := "isPool", desc := "(I)Z" } : Jvm.MethodName) prog_13_method_5_code (2 : Nat) (Option.some Jvm.ClassFile.FieldType.boolean)) ∈ lw_all := lw_g (lw_at lw_m6 111 rfl) rfl
theorem q1353 : (Jvm.Cond.methodLink "PhrasehallModel" (101 : Nat) ({ cls := "PhrasehallModel", name := "has", desc := "(II)Z" } : Jvm.MethodName)) ∈ lw_all := lw_g (lw_at lw_m6 112 rfl) rfl
theorem q1354 : (Jvm.Cond.static ({ cls := "PhrasehallModel", name := "has", desc := "(II)Z" } : Jvm.MethodName)) ∈ lw_all := lw_g (lw_at lw_m6 113 rfl) rfl
theorem q1355 : (Jvm.Cond.code ({ cls := "PhrasehallModel", name := "has", desc := "(II)Z" } : Jvm.MethodName) prog_13_method_6_code (2 : Nat) (Option.some Jvm.ClassFile.FieldType.boolean)) ∈ lw_all := lw_g (lw_at lw_m6 114 rfl) rfl
theorem q1357 : (Jvm.Cond.instanceMethod ({ cls := "PhrasehallModel", name := "act", desc := "(III)I" } : Jvm.MethodName)) ∈ lw_all := lw_g (lw_at lw_m6 116 rfl) rfl
theorem q1358 : (Jvm.Cond.selects "PhrasehallModel" ({ cls := "PhrasehallModel", name := "act", desc := "(III)I" } : Jvm.MethodName) ({ cls := "PhrasehallModel", name := "act", desc := "(III)I" } : Jvm.MethodName)) ∈ lw_all := lw_g (lw_at lw_m6 117 rfl) rfl
theorem q1359 : (Jvm.Cond.code ({ cls := "PhrasehallModel", name := "act", desc := "(III)I" } : Jvm.MethodName) prog_13_method_12_code (4 : Nat) (Option.some Jvm.ClassFile.FieldType.int)) ∈ lw_all := lw_g (lw_at lw_m6 118 rfl) rfl
theorem q1360 : (Jvm.Cond.methodLink "PhrasehallModel" (114 : Nat) ({ cls := "PhrasehallModel", name := "isSide", desc := "(I)Z" } : Jvm.MethodName)) ∈ lw_all := lw_g (lw_at lw_m6 119 rfl) rfl
theorem q1361 : (Jvm.Cond.static ({ cls := "PhrasehallModel", name := "isSide", desc := "(I)Z" } : Jvm.MethodName)) ∈ lw_all := lw_g (lw_at lw_m6 120 rfl) rfl
theorem q1362 : (Jvm.Cond.code ({ cls := "PhrasehallModel", name := "isSide", desc := "(I)Z" } : Jvm.MethodName) prog_13_method_11_code (1 : Nat) (Option.some Jvm.ClassFile.FieldType.boolean)) ∈ lw_all := lw_g (lw_at lw_m6 121 rfl) rfl
theorem q1363 : (Jvm.Cond.constant "PhrasehallModel" (117 : Nat) (1000000 : Int32)) ∈ lw_all := lw_g (lw_at lw_m6 122 rfl) rfl
theorem q1364 : (Jvm.Cond.methodLink "PhrasehallModel" (118 : Nat) ({ cls := "PhrasehallModel", name := "may", desc := "(I)Z" } : Jvm.MethodName)) ∈ lw_all := lw_g (lw_at lw_m6 123 rfl) rfl
theorem q1365 : (Jvm.Cond.privateMethod ({ cls := "PhrasehallModel", name := "may", desc := "(I)Z" } : Jvm.MethodName)) ∈ lw_tbl := lw_at lw_m6 124 rfl
theorem q1366 : (Jvm.Cond.instanceMethod ({ cls := "PhrasehallModel", name := "may", desc := "(I)Z" } : Jvm.MethodName)) ∈ lw_all := lw_g (lw_at lw_m6 125 rfl) rfl
theorem q1367 : (Jvm.Cond.code ({ cls := "PhrasehallModel", name := "may", desc := "(I)Z" } : Jvm.MethodName) prog_13_method_10_code (2 : Nat) (Option.some Jvm.ClassFile.FieldType.boolean)) ∈ lw_all := lw_g (lw_at lw_m6 126 rfl) rfl
theorem q1368 : (Jvm.Cond.methodLink "PhrasehallModel" (121 : Nat) ({ cls := "PhrasehallModel", name := "puts", desc := "(III)I" } : Jvm.MethodName)) ∈ lw_all := lw_g (lw_at lw_m6 127 rfl) rfl
theorem q1369 : (Jvm.Cond.privateMethod ({ cls := "PhrasehallModel", name := "puts", desc := "(III)I" } : Jvm.MethodName)) ∈ lw_tbl := lw_at lw_m6 128 rfl
theorem q1370 : (Jvm.Cond.instanceMethod ({ cls := "PhrasehallModel", name := "puts", desc := "(III)I" } : Jvm.MethodName)) ∈ lw_all := lw_g (lw_at lw_m6 129 rfl) rfl
theorem q1371 : (Jvm.Cond.code ({ cls := "PhrasehallModel", name := "puts", desc := "(III)I" } : Jvm.MethodName) prog_13_method_9_code (4 : Nat) (Option.some Jvm.ClassFile.FieldType.int)) ∈ lw_all := lw_g (lw_at lw_m6 130 rfl) rfl
theorem q1373 : (Jvm.Cond.instanceMethod ({ cls := "PhrasehallModel", name := "hit", desc := "(IIII)I" } : Jvm.MethodName)) ∈ lw_all := lw_g (lw_at lw_m6 132 rfl) rfl
theorem q1374 : (Jvm.Cond.selects "PhrasehallModel" ({ cls := "PhrasehallModel", name := "hit", desc := "(IIII)I" } : Jvm.MethodName) ({ cls := "PhrasehallModel", name := "hit", desc := "(IIII)I" } : Jvm.MethodName)) ∈ lw_all := lw_g (lw_at lw_m6 133 rfl) rfl
theorem q1375 : (Jvm.Cond.code ({ cls := "PhrasehallModel", name := "hit", desc := "(IIII)I" } : Jvm.MethodName) prog_13_method_13_code (5 : Nat) (Option.some Jvm.ClassFile.FieldType.int)) ∈ lw_all := lw_g (lw_at lw_m6 134 rfl) rfl
theorem q1377 : (Jvm.Cond.instanceMethod ({ cls := "PhrasehallModel", name := "judge", desc := "()I" } : Jvm.MethodName)) ∈ lw_all := lw_g (lw_at lw_m6 136 rfl) rfl
theorem q1378 : (Jvm.Cond.selects "PhrasehallModel" ({ cls := "PhrasehallModel", name := "judge", desc := "()I" } : Jvm.MethodName) ({ cls := "PhrasehallModel", name := "judge", desc := "()I" } : Jvm.MethodName)) ∈ lw_all := lw_g (lw_at lw_m6 137 rfl) rfl
theorem q1379 : (Jvm.Cond.code ({ cls := "PhrasehallModel", name := "judge", desc := "()I" } : Jvm.MethodName) prog_13_method_22_code (2 : Nat) (Option.some Jvm.ClassFile.FieldType.int)) ∈ lw_all := lw_g (lw_at lw_m6 138 rfl) rfl
theorem q1380 : (Jvm.Cond.methodLink "PhrasehallModel" (149 : Nat) ({ cls := "PhrasehallModel", name := "given", desc := "()I" } : Jvm.MethodName)) ∈ lw_all := lw_g (lw_at lw_m6 139 rfl) rfl
theorem q1381 : (Jvm.Cond.privateMethod ({ cls := "PhrasehallModel", name := "given", desc := "()I" } : Jvm.MethodName)) ∈ lw_tbl := lw_at lw_m6 140 rfl
theorem q1382 : (Jvm.Cond.instanceMethod ({ cls := "PhrasehallModel", name := "given", desc := "()I" } : Jvm.MethodName)) ∈ lw_all := lw_g (lw_at lw_m6 141 rfl) rfl
theorem q1383 : (Jvm.Cond.code ({ cls := "PhrasehallModel", name := "given", desc := "()I" } : Jvm.MethodName) prog_13_method_21_code (7 : Nat) (Option.some Jvm.ClassFile.FieldType.int)) ∈ lw_all := lw_g (lw_at lw_m6 142 rfl) rfl
theorem q1384 : (Jvm.Cond.methodLink "PhrasehallModel" (143 : Nat) ({ cls := "PhrasehallModel", name := "registered", desc := "(I)I" } : Jvm.MethodName)) ∈ lw_all := lw_g (lw_at lw_m6 143 rfl) rfl
theorem q1385 : (Jvm.Cond.privateMethod ({ cls := "PhrasehallModel", name := "registered", desc := "(I)I" } : Jvm.MethodName)) ∈ lw_tbl := lw_at lw_m6 144 rfl
theorem q1386 : (Jvm.Cond.instanceMethod ({ cls := "PhrasehallModel", name := "registered", desc := "(I)I" } : Jvm.MethodName)) ∈ lw_all := lw_g (lw_at lw_m6 145 rfl) rfl
theorem q1387 : (Jvm.Cond.code ({ cls := "PhrasehallModel", name := "registered", desc := "(I)I" } : Jvm.MethodName) prog_13_method_16_code (9 : Nat) (Option.some Jvm.ClassFile.FieldType.int)) ∈ lw_all := lw_g (lw_at lw_m6 146 rfl) rfl
theorem q1388 : (Jvm.Cond.methodLink "PhrasehallModel" (125 : Nat) ({ cls := "PhrasehallModel", name := "least", desc := "(I)I" } : Jvm.MethodName)) ∈ lw_all := lw_g (lw_at lw_m6 147 rfl) rfl
theorem q1389 : (Jvm.Cond.static ({ cls := "PhrasehallModel", name := "least", desc := "(I)I" } : Jvm.MethodName)) ∈ lw_all := lw_g (lw_at lw_m6 148 rfl) rfl
theorem q1390 : (Jvm.Cond.code ({ cls := "PhrasehallModel", name := "least", desc := "(I)I" } : Jvm.MethodName) prog_13_method_14_code (1 : Nat) (Option.some Jvm.ClassFile.FieldType.int)) ∈ lw_all := lw_g (lw_at lw_m6 149 rfl) rfl
theorem q1391 : (Jvm.Cond.methodLink "PhrasehallModel" (129 : Nat) ({ cls := "PhrasehallModel", name := "locks", desc := "(I)I" } : Jvm.MethodName)) ∈ lw_all := lw_g (lw_at lw_m6 150 rfl) rfl
theorem q1392 : (Jvm.Cond.static ({ cls := "PhrasehallModel", name := "locks", desc := "(I)I" } : Jvm.MethodName)) ∈ lw_all := lw_g (lw_at lw_m6 151 rfl) rfl
theorem q1393 : (Jvm.Cond.code ({ cls := "PhrasehallModel", name := "locks", desc := "(I)I" } : Jvm.MethodName) prog_13_method_15_code (1 : Nat) (Option.some Jvm.ClassFile.FieldType.int)) ∈ lw_all := lw_g (lw_at lw_m6 152 rfl) rfl
theorem q1394 : (Jvm.Cond.methodLink "PhrasehallModel" (146 : Nat) ({ cls := "PhrasehallModel", name := "rights", desc := "(I)I" } : Jvm.MethodName)) ∈ lw_all := lw_g (lw_at lw_m6 153 rfl) rfl
theorem q1395 : (Jvm.Cond.privateMethod ({ cls := "PhrasehallModel", name := "rights", desc := "(I)I" } : Jvm.MethodName)) ∈ lw_tbl := lw_at lw_m6 154 rfl
theorem q1396 : (Jvm.Cond.instanceMethod ({ cls := "PhrasehallModel", name := "rights", desc := "(I)I" } : Jvm.MethodName)) ∈ lw_all := lw_g (lw_at lw_m6 155 rfl) rfl
theorem q1397 : (Jvm.Cond.code ({ cls := "PhrasehallModel", name := "rights", desc := "(I)I" } : Jvm.MethodName) prog_13_method_17_code (11 : Nat) (Option.some Jvm.ClassFile.FieldType.int)) ∈ lw_all := lw_g (lw_at lw_m6 156 rfl) rfl
theorem q1398 : (Jvm.Cond.methodLink "PhrasehallModel" (152 : Nat) ({ cls := "PhrasehallModel", name := "gives", desc := "(I)V" } : Jvm.MethodName)) ∈ lw_all := lw_g (lw_at lw_m6 157 rfl) rfl
theorem q1399 : (Jvm.Cond.privateMethod ({ cls := "PhrasehallModel", name := "gives", desc := "(I)V" } : Jvm.MethodName)) ∈ lw_tbl := lw_at lw_m6 158 rfl
theorem q1400 : (Jvm.Cond.instanceMethod ({ cls := "PhrasehallModel", name := "gives", desc := "(I)V" } : Jvm.MethodName)) ∈ lw_all := lw_g (lw_at lw_m6 159 rfl) rfl
theorem q1401 : (Jvm.Cond.code ({ cls := "PhrasehallModel", name := "gives", desc := "(I)V" } : Jvm.MethodName) prog_13_method_20_code (5 : Nat) (Option.none : Option Jvm.ClassFile.FieldType)) ∈ lw_all := lw_g (lw_at lw_m6 160 rfl) rfl
theorem q1402 : (Jvm.Cond.methodLink "PhrasehallModel" (135 : Nat) ({ cls := "PhrasehallModel", name := "ahead", desc := "()I" } : Jvm.MethodName)) ∈ lw_all := lw_g (lw_at lw_m6 161 rfl) rfl
theorem q1403 : (Jvm.Cond.privateMethod ({ cls := "PhrasehallModel", name := "ahead", desc := "()I" } : Jvm.MethodName)) ∈ lw_tbl := lw_at lw_m6 162 rfl
theorem q1404 : (Jvm.Cond.instanceMethod ({ cls := "PhrasehallModel", name := "ahead", desc := "()I" } : Jvm.MethodName)) ∈ lw_all := lw_g (lw_at lw_m6 163 rfl) rfl
theorem q1405 : (Jvm.Cond.code ({ cls := "PhrasehallModel", name := "ahead", desc := "()I" } : Jvm.MethodName) prog_13_method_19_code (3 : Nat) (Option.some Jvm.ClassFile.FieldType.int)) ∈ lw_all := lw_g (lw_at lw_m6 164 rfl) rfl
theorem q1406 : (Jvm.Cond.methodLink "PhrasehallModel" (139 : Nat) ({ cls := "PhrasehallModel", name := "ends", desc := "(I)V" } : Jvm.MethodName)) ∈ lw_all := lw_g (lw_at lw_m6 165 rfl) rfl
theorem q1407 : (Jvm.Cond.privateMethod ({ cls := "PhrasehallModel", name := "ends", desc := "(I)V" } : Jvm.MethodName)) ∈ lw_tbl := lw_at lw_m6 166 rfl
theorem q1408 : (Jvm.Cond.instanceMethod ({ cls := "PhrasehallModel", name := "ends", desc := "(I)V" } : Jvm.MethodName)) ∈ lw_all := lw_g (lw_at lw_m6 167 rfl) rfl
theorem q1409 : (Jvm.Cond.code ({ cls := "PhrasehallModel", name := "ends", desc := "(I)V" } : Jvm.MethodName) prog_13_method_18_code (2 : Nat) (Option.none : Option Jvm.ClassFile.FieldType)) ∈ lw_all := lw_g (lw_at lw_m6 168 rfl) rfl
theorem q1411 : (Jvm.Cond.instanceMethod ({ cls := "PhrasehallModel", name := "card", desc := "(II)I" } : Jvm.MethodName)) ∈ lw_all := lw_g (lw_at lw_m6 170 rfl) rfl
theorem q1412 : (Jvm.Cond.selects "PhrasehallModel" ({ cls := "PhrasehallModel", name := "card", desc := "(II)I" } : Jvm.MethodName) ({ cls := "PhrasehallModel", name := "card", desc := "(II)I" } : Jvm.MethodName)) ∈ lw_all := lw_g (lw_at lw_m6 171 rfl) rfl
theorem q1413 : (Jvm.Cond.code ({ cls := "PhrasehallModel", name := "card", desc := "(II)I" } : Jvm.MethodName) prog_13_method_23_code (4 : Nat) (Option.some Jvm.ClassFile.FieldType.int)) ∈ lw_all := lw_g (lw_at lw_m6 172 rfl) rfl
theorem q1415 : (Jvm.Cond.instanceMethod ({ cls := "PhrasehallModel", name := "clock", desc := "(I)I" } : Jvm.MethodName)) ∈ lw_all := lw_g (lw_at lw_m6 174 rfl) rfl
theorem q1416 : (Jvm.Cond.selects "PhrasehallModel" ({ cls := "PhrasehallModel", name := "clock", desc := "(I)I" } : Jvm.MethodName) ({ cls := "PhrasehallModel", name := "clock", desc := "(I)I" } : Jvm.MethodName)) ∈ lw_all := lw_g (lw_at lw_m6 175 rfl) rfl
theorem q1417 : (Jvm.Cond.code ({ cls := "PhrasehallModel", name := "clock", desc := "(I)I" } : Jvm.MethodName) prog_13_method_26_code (3 : Nat) (Option.some Jvm.ClassFile.FieldType.int)) ∈ lw_all := lw_g (lw_at lw_m6 176 rfl) rfl
theorem q1418 : (Jvm.Cond.methodLink "PhrasehallModel" (173 : Nat) ({ cls := "PhrasehallModel", name := "second", desc := "()V" } : Jvm.MethodName)) ∈ lw_all := lw_g (lw_at lw_m6 177 rfl) rfl
theorem q1419 : (Jvm.Cond.privateMethod ({ cls := "PhrasehallModel", name := "second", desc := "()V" } : Jvm.MethodName)) ∈ lw_tbl := lw_at lw_m6 178 rfl
theorem q1420 : (Jvm.Cond.instanceMethod ({ cls := "PhrasehallModel", name := "second", desc := "()V" } : Jvm.MethodName)) ∈ lw_all := lw_g (lw_at lw_m6 179 rfl) rfl
theorem q1421 : (Jvm.Cond.code ({ cls := "PhrasehallModel", name := "second", desc := "()V" } : Jvm.MethodName) prog_13_method_25_code (2 : Nat) (Option.none : Option Jvm.ClassFile.FieldType)) ∈ lw_all := lw_g (lw_at lw_m6 180 rfl) rfl
theorem q1422 : (Jvm.Cond.methodLink "PhrasehallModel" (165 : Nat) ({ cls := "PhrasehallModel", name := "next", desc := "(J)J" } : Jvm.MethodName)) ∈ lw_all := lw_g (lw_at lw_m6 181 rfl) rfl
theorem q1423 : (Jvm.Cond.static ({ cls := "PhrasehallModel", name := "next", desc := "(J)J" } : Jvm.MethodName)) ∈ lw_all := lw_g (lw_at lw_m6 182 rfl) rfl
theorem q1424 : (Jvm.Cond.code ({ cls := "PhrasehallModel", name := "next", desc := "(J)J" } : Jvm.MethodName) prog_13_method_24_code (2 : Nat) (Option.some Jvm.ClassFile.FieldType.long)) ∈ lw_all := lw_g (lw_at lw_m6 183 rfl) rfl
theorem q1425 : (Jvm.Cond.constantLong "PhrasehallModel" (155 : Nat) (1103515245 : Int64)) ∈ lw_all := lw_g (lw_at lw_m6 184 rfl) rfl
theorem q1426 : (Jvm.Cond.constantLong "PhrasehallModel" (157 : Nat) (12345 : Int64)) ∈ lw_all := lw_g (lw_at lw_m6 185 rfl) rfl
theorem q1427 : (Jvm.Cond.constantLong "PhrasehallModel" (159 : Nat) (2147483648 : Int64)) ∈ lw_all := lw_g (lw_at lw_m6 186 rfl) rfl
theorem q1428 : (Jvm.Cond.constantLong "PhrasehallModel" (169 : Nat) (65536 : Int64)) ∈ lw_all := lw_g (lw_at lw_m6 187 rfl) rfl
theorem q1429 : (Jvm.Cond.constantLong "PhrasehallModel" (171 : Nat) (2 : Int64)) ∈ lw_all := lw_g (lw_at lw_m6 188 rfl) rfl
theorem q1431 : (Jvm.Cond.instanceMethod ({ cls := "PhrasehallModel", name := "end", desc := "()I" } : Jvm.MethodName)) ∈ lw_all := lw_g (lw_at lw_m6 190 rfl) rfl
theorem q1432 : (Jvm.Cond.selects "PhrasehallModel" ({ cls := "PhrasehallModel", name := "end", desc := "()I" } : Jvm.MethodName) ({ cls := "PhrasehallModel", name := "end", desc := "()I" } : Jvm.MethodName)) ∈ lw_all := lw_g (lw_at lw_m6 191 rfl) rfl
theorem q1433 : (Jvm.Cond.code ({ cls := "PhrasehallModel", name := "end", desc := "()I" } : Jvm.MethodName) prog_13_method_27_code (2 : Nat) (Option.some Jvm.ClassFile.FieldType.int)) ∈ lw_all := lw_g (lw_at lw_m6 192 rfl) rfl
theorem q1435 : (Jvm.Cond.instanceMethod ({ cls := "PhrasehallModel", name := "seed", desc := "(I)V" } : Jvm.MethodName)) ∈ lw_all := lw_g (lw_at lw_m6 194 rfl) rfl
theorem q1436 : (Jvm.Cond.selects "PhrasehallModel" ({ cls := "PhrasehallModel", name := "seed", desc := "(I)V" } : Jvm.MethodName) ({ cls := "PhrasehallModel", name := "seed", desc := "(I)V" } : Jvm.MethodName)) ∈ lw_all := lw_g (lw_at lw_m6 195 rfl) rfl
theorem q1437 : (Jvm.Cond.code ({ cls := "PhrasehallModel", name := "seed", desc := "(I)V" } : Jvm.MethodName) prog_13_method_28_code (2 : Nat) (Option.none : Option Jvm.ClassFile.FieldType)) ∈ lw_all := lw_g (lw_at lw_m6 196 rfl) rfl
theorem q1439 : (Jvm.Cond.instanceMethod ({ cls := "PhrasehallModel", name := "pool", desc := "(I)I" } : Jvm.MethodName)) ∈ lw_all := lw_g (lw_at lw_m6 198 rfl) rfl
theorem q1440 : (Jvm.Cond.selects "PhrasehallModel" ({ cls := "PhrasehallModel", name := "pool", desc := "(I)I" } : Jvm.MethodName) ({ cls := "PhrasehallModel", name := "pool", desc := "(I)I" } : Jvm.MethodName)) ∈ lw_all := lw_g (lw_at lw_m6 199 rfl) rfl
theorem q1441 : (Jvm.Cond.code ({ cls := "PhrasehallModel", name := "pool", desc := "(I)I" } : Jvm.MethodName) prog_13_method_30_code (2 : Nat) (Option.some Jvm.ClassFile.FieldType.int)) ∈ lw_all := lw_g (lw_at lw_m6 200 rfl) rfl
theorem q1442 : (Jvm.Cond.methodLink "PhrasehallModel" (176 : Nat) ({ cls := "PhrasehallModel", name := "many", desc := "(I)I" } : Jvm.MethodName)) ∈ lw_all := lw_g (lw_at lw_m6 201 rfl) rfl
theorem q1443 : (Jvm.Cond.static ({ cls := "PhrasehallModel", name := "many", desc := "(I)I" } : Jvm.MethodName)) ∈ lw_all := lw_g (lw_at lw_m6 202 rfl) rfl
theorem q1444 : (Jvm.Cond.code ({ cls := "PhrasehallModel", name := "many", desc := "(I)I" } : Jvm.MethodName) prog_13_method_29_code (3 : Nat) (Option.some Jvm.ClassFile.FieldType.int)) ∈ lw_all := lw_g (lw_at lw_m6 203 rfl) rfl
theorem q1446 : (Jvm.Cond.instanceMethod ({ cls := "PhrasehallModel", name := "withdraw", desc := "(II)I" } : Jvm.MethodName)) ∈ lw_all := lw_g (lw_at lw_m6 205 rfl) rfl
theorem q1447 : (Jvm.Cond.selects "PhrasehallModel" ({ cls := "PhrasehallModel", name := "withdraw", desc := "(II)I" } : Jvm.MethodName) ({ cls := "PhrasehallModel", name := "withdraw", desc := "(II)I" } : Jvm.MethodName)) ∈ lw_all := lw_g (lw_at lw_m6 206 rfl) rfl
theorem q1448 : (Jvm.Cond.code ({ cls := "PhrasehallModel", name := "withdraw", desc := "(II)I" } : Jvm.MethodName) prog_13_method_34_code (5 : Nat) (Option.some Jvm.ClassFile.FieldType.int)) ∈ lw_all := lw_g (lw_at lw_m6 207 rfl) rfl
theorem q1449 : (Jvm.Cond.methodLink "PhrasehallModel" (182 : Nat) ({ cls := "PhrasehallModel", name := "isMember", desc := "(II)Z" } : Jvm.MethodName)) ∈ lw_all := lw_g (lw_at lw_m6 208 rfl) rfl
theorem q1450 : (Jvm.Cond.privateMethod ({ cls := "PhrasehallModel", name := "isMember", desc := "(II)Z" } : Jvm.MethodName)) ∈ lw_tbl := lw_at lw_m6 209 rfl
theorem q1451 : (Jvm.Cond.instanceMethod ({ cls := "PhrasehallModel", name := "isMember", desc := "(II)Z" } : Jvm.MethodName)) ∈ lw_all := lw_g (lw_at lw_m6 210 rfl) rfl
theorem q1452 : (Jvm.Cond.code ({ cls := "PhrasehallModel", name := "isMember", desc := "(II)Z" } : Jvm.MethodName) prog_13_method_31_code (3 : Nat) (Option.some Jvm.ClassFile.FieldType.boolean)) ∈ lw_all := lw_g (lw_at lw_m6 211 rfl) rfl
theorem q1453 : (Jvm.Cond.methodLink "PhrasehallModel" (185 : Nat) ({ cls := "PhrasehallModel", name := "tells", desc := "(III)I" } : Jvm.MethodName)) ∈ lw_all := lw_g (lw_at lw_m6 212 rfl) rfl
theorem q1454 : (Jvm.Cond.privateMethod ({ cls := "PhrasehallModel", name := "tells", desc := "(III)I" } : Jvm.MethodName)) ∈ lw_tbl := lw_at lw_m6 213 rfl
theorem q1455 : (Jvm.Cond.instanceMethod ({ cls := "PhrasehallModel", name := "tells", desc := "(III)I" } : Jvm.MethodName)) ∈ lw_all := lw_g (lw_at lw_m6 214 rfl) rfl
theorem q1456 : (Jvm.Cond.code ({ cls := "PhrasehallModel", name := "tells", desc := "(III)I" } : Jvm.MethodName) prog_13_method_33_code (7 : Nat) (Option.some Jvm.ClassFile.FieldType.int)) ∈ lw_all := lw_g (lw_at lw_m6 215 rfl) rfl
theorem q1457 : (Jvm.Cond.methodLink "PhrasehallModel" (179 : Nat) ({ cls := "PhrasehallModel", name := "sideIn", desc := "(III)I" } : Jvm.MethodName)) ∈ lw_all := lw_g (lw_at lw_m6 216 rfl) rfl
theorem q1458 : (Jvm.Cond.privateMethod ({ cls := "PhrasehallModel", name := "sideIn", desc := "(III)I" } : Jvm.MethodName)) ∈ lw_tbl := lw_at lw_m6 217 rfl
theorem q1459 : (Jvm.Cond.instanceMethod ({ cls := "PhrasehallModel", name := "sideIn", desc := "(III)I" } : Jvm.MethodName)) ∈ lw_all := lw_g (lw_at lw_m6 218 rfl) rfl
theorem q1460 : (Jvm.Cond.code ({ cls := "PhrasehallModel", name := "sideIn", desc := "(III)I" } : Jvm.MethodName) prog_13_method_32_code (7 : Nat) (Option.some Jvm.ClassFile.FieldType.int)) ∈ lw_all := lw_g (lw_at lw_m6 219 rfl) rfl
theorem q1462 : (Jvm.Cond.instanceMethod ({ cls := "PhrasehallModel", name := "tableau", desc := "(I)I" } : Jvm.MethodName)) ∈ lw_all := lw_g (lw_at lw_m6 221 rfl) rfl
theorem q1463 : (Jvm.Cond.selects "PhrasehallModel" ({ cls := "PhrasehallModel", name := "tableau", desc := "(I)I" } : Jvm.MethodName) ({ cls := "PhrasehallModel", name := "tableau", desc := "(I)I" } : Jvm.MethodName)) ∈ lw_all := lw_g (lw_at lw_m6 222 rfl) rfl
theorem q1464 : (Jvm.Cond.code ({ cls := "PhrasehallModel", name := "tableau", desc := "(I)I" } : Jvm.MethodName) prog_13_method_38_code (5 : Nat) (Option.some Jvm.ClassFile.FieldType.int)) ∈ lw_all := lw_g (lw_at lw_m6 223 rfl) rfl
theorem q1465 : (Jvm.Cond.methodLink "PhrasehallModel" (191 : Nat) ({ cls := "PhrasehallModel", name := "ranks", desc := "(I)I" } : Jvm.MethodName)) ∈ lw_all := lw_g (lw_at lw_m6 224 rfl) rfl
theorem q1466 : (Jvm.Cond.privateMethod ({ cls := "PhrasehallModel", name := "ranks", desc := "(I)I" } : Jvm.MethodName)) ∈ lw_tbl := lw_at lw_m6 225 rfl
theorem q1467 : (Jvm.Cond.instanceMethod ({ cls := "PhrasehallModel", name := "ranks", desc := "(I)I" } : Jvm.MethodName)) ∈ lw_all := lw_g (lw_at lw_m6 226 rfl) rfl
theorem q1468 : (Jvm.Cond.code ({ cls := "PhrasehallModel", name := "ranks", desc := "(I)I" } : Jvm.MethodName) prog_13_method_36_code (5 : Nat) (Option.some Jvm.ClassFile.FieldType.int)) ∈ lw_all := lw_g (lw_at lw_m6 227 rfl) rfl
theorem q1469 : (Jvm.Cond.methodLink "PhrasehallModel" (188 : Nat) ({ cls := "PhrasehallModel", name := "isBetter", desc := "(III)Z" } : Jvm.MethodName)) ∈ lw_all := lw_g (lw_at lw_m6 228 rfl) rfl
theorem q1470 : (Jvm.Cond.privateMethod ({ cls := "PhrasehallModel", name := "isBetter", desc := "(III)Z" } : Jvm.MethodName)) ∈ lw_tbl := lw_at lw_m6 229 rfl
theorem q1471 : (Jvm.Cond.instanceMethod ({ cls := "PhrasehallModel", name := "isBetter", desc := "(III)Z" } : Jvm.MethodName)) ∈ lw_all := lw_g (lw_at lw_m6 230 rfl) rfl
theorem q1472 : (Jvm.Cond.code ({ cls := "PhrasehallModel", name := "isBetter", desc := "(III)Z" } : Jvm.MethodName) prog_13_method_35_code (10 : Nat) (Option.some Jvm.ClassFile.FieldType.boolean)) ∈ lw_all := lw_g (lw_at lw_m6 231 rfl) rfl
theorem q1473 : (Jvm.Cond.methodLink "PhrasehallModel" (197 : Nat) ({ cls := "PhrasehallModel", name := "orderAt", desc := "(II)I" } : Jvm.MethodName)) ∈ lw_all := lw_g (lw_at lw_m6 232 rfl) rfl
theorem q1474 : (Jvm.Cond.static ({ cls := "PhrasehallModel", name := "orderAt", desc := "(II)I" } : Jvm.MethodName)) ∈ lw_all := lw_g (lw_at lw_m6 233 rfl) rfl
theorem q1475 : (Jvm.Cond.code ({ cls := "PhrasehallModel", name := "orderAt", desc := "(II)I" } : Jvm.MethodName) prog_13_method_37_code (5 : Nat) (Option.some Jvm.ClassFile.FieldType.int)) ∈ lw_all := lw_g (lw_at lw_m6 234 rfl) rfl
theorem q1476 : (Jvm.Cond.methodLink "PhrasehallModel" (201 : Nat) ({ cls := "PhrasehallModel", name := "isWon", desc := "(III)V" } : Jvm.MethodName)) ∈ lw_all := lw_g (lw_at lw_m6 235 rfl) rfl
theorem q1477 : (Jvm.Cond.privateMethod ({ cls := "PhrasehallModel", name := "isWon", desc := "(III)V" } : Jvm.MethodName)) ∈ lw_tbl := lw_at lw_m6 236 rfl
theorem q1478 : (Jvm.Cond.instanceMethod ({ cls := "PhrasehallModel", name := "isWon", desc := "(III)V" } : Jvm.MethodName)) ∈ lw_all := lw_g (lw_at lw_m6 237 rfl) rfl
theorem q1479 : (Jvm.Cond.code ({ cls := "PhrasehallModel", name := "isWon", desc := "(III)V" } : Jvm.MethodName) prog_13_method_40_code (4 : Nat) (Option.none : Option Jvm.ClassFile.FieldType)) ∈ lw_all := lw_g (lw_at lw_m6 238 rfl) rfl
theorem q1480 : (Jvm.Cond.methodLink "PhrasehallModel" (205 : Nat) ({ cls := "PhrasehallModel", name := "rounds", desc := "(I)I" } : Jvm.MethodName)) ∈ lw_all := lw_g (lw_at lw_m6 239 rfl) rfl
theorem q1481 : (Jvm.Cond.static ({ cls := "PhrasehallModel", name := "rounds", desc := "(I)I" } : Jvm.MethodName)) ∈ lw_all := lw_g (lw_at lw_m7 0 rfl) rfl
theorem q1482 : (Jvm.Cond.code ({ cls := "PhrasehallModel", name := "rounds", desc := "(I)I" } : Jvm.MethodName) prog_13_method_39_code (1 : Nat) (Option.some Jvm.ClassFile.FieldType.int)) ∈ lw_all := lw_g (lw_at lw_m7 1 rfl) rfl
theorem q1484 : (Jvm.Cond.instanceMethod ({ cls := "PhrasehallModel", name := "wins", desc := "(III)I" } : Jvm.MethodName)) ∈ lw_all := lw_g (lw_at lw_m7 3 rfl) rfl
theorem q1485 : (Jvm.Cond.selects "PhrasehallModel" ({ cls := "PhrasehallModel", name := "wins", desc := "(III)I" } : Jvm.MethodName) ({ cls := "PhrasehallModel", name := "wins", desc := "(III)I" } : Jvm.MethodName)) ∈ lw_all := lw_g (lw_at lw_m7 4 rfl) rfl
theorem q1486 : (Jvm.Cond.code ({ cls := "PhrasehallModel", name := "wins", desc := "(III)I" } : Jvm.MethodName) prog_13_method_42_code (6 : Nat) (Option.some Jvm.ClassFile.FieldType.int)) ∈ lw_all := lw_g (lw_at lw_m7 5 rfl) rfl
theorem q1487 : (Jvm.Cond.methodLink "PhrasehallModel" (208 : Nat) ({ cls := "PhrasehallModel", name := "isMatch", desc := "(II)Z" } : Jvm.MethodName)) ∈ lw_all := lw_g (lw_at lw_m7 6 rfl) rfl
theorem q1488 : (Jvm.Cond.privateMethod ({ cls := "PhrasehallModel", name := "isMatch", desc := "(II)Z" } : Jvm.MethodName)) ∈ lw_tbl := lw_at lw_m7 7 rfl
theorem q1489 : (Jvm.Cond.instanceMethod ({ cls := "PhrasehallModel", name := "isMatch", desc := "(II)Z" } : Jvm.MethodName)) ∈ lw_all := lw_g (lw_at lw_m7 8 rfl) rfl
theorem q1490 : (Jvm.Cond.code ({ cls := "PhrasehallModel", name := "isMatch", desc := "(II)Z" } : Jvm.MethodName) prog_13_method_41_code (3 : Nat) (Option.some Jvm.ClassFile.FieldType.boolean)) ∈ lw_all := lw_g (lw_at lw_m7 9 rfl) rfl
theorem q1492 : (Jvm.Cond.instanceMethod ({ cls := "PhrasehallModel", name := "lamp", desc := "(I)I" } : Jvm.MethodName)) ∈ lw_all := lw_g (lw_at lw_m7 11 rfl) rfl
theorem q1493 : (Jvm.Cond.selects "PhrasehallModel" ({ cls := "PhrasehallModel", name := "lamp", desc := "(I)I" } : Jvm.MethodName) ({ cls := "PhrasehallModel", name := "lamp", desc := "(I)I" } : Jvm.MethodName)) ∈ lw_all := lw_g (lw_at lw_m7 12 rfl) rfl
theorem q1494 : (Jvm.Cond.code ({ cls := "PhrasehallModel", name := "lamp", desc := "(I)I" } : Jvm.MethodName) prog_13_method_43_code (3 : Nat) (Option.some Jvm.ClassFile.FieldType.int)) ∈ lw_all := lw_g (lw_at lw_m7 13 rfl) rfl
theorem q1496 : (Jvm.Cond.instanceMethod ({ cls := "PhrasehallModel", name := "holder", desc := "()I" } : Jvm.MethodName)) ∈ lw_all := lw_g (lw_at lw_m7 15 rfl) rfl
theorem q1497 : (Jvm.Cond.selects "PhrasehallModel" ({ cls := "PhrasehallModel", name := "holder", desc := "()I" } : Jvm.MethodName) ({ cls := "PhrasehallModel", name := "holder", desc := "()I" } : Jvm.MethodName)) ∈ lw_all := lw_g (lw_at lw_m7 16 rfl) rfl
theorem q1498 : (Jvm.Cond.code ({ cls := "PhrasehallModel", name := "holder", desc := "()I" } : Jvm.MethodName) prog_13_method_44_code (1 : Nat) (Option.some Jvm.ClassFile.FieldType.int)) ∈ lw_all := lw_g (lw_at lw_m7 17 rfl) rfl
theorem q1500 : (Jvm.Cond.instanceMethod ({ cls := "PhrasehallModel", name := "reason", desc := "()I" } : Jvm.MethodName)) ∈ lw_all := lw_g (lw_at lw_m7 19 rfl) rfl
theorem q1501 : (Jvm.Cond.selects "PhrasehallModel" ({ cls := "PhrasehallModel", name := "reason", desc := "()I" } : Jvm.MethodName) ({ cls := "PhrasehallModel", name := "reason", desc := "()I" } : Jvm.MethodName)) ∈ lw_all := lw_g (lw_at lw_m7 20 rfl) rfl
theorem q1502 : (Jvm.Cond.code ({ cls := "PhrasehallModel", name := "reason", desc := "()I" } : Jvm.MethodName) prog_13_method_45_code (1 : Nat) (Option.some Jvm.ClassFile.FieldType.int)) ∈ lw_all := lw_g (lw_at lw_m7 21 rfl) rfl
theorem q1504 : (Jvm.Cond.instanceMethod ({ cls := "PhrasehallModel", name := "ofBout", desc := "(II)I" } : Jvm.MethodName)) ∈ lw_all := lw_g (lw_at lw_m7 23 rfl) rfl
theorem q1505 : (Jvm.Cond.selects "PhrasehallModel" ({ cls := "PhrasehallModel", name := "ofBout", desc := "(II)I" } : Jvm.MethodName) ({ cls := "PhrasehallModel", name := "ofBout", desc := "(II)I" } : Jvm.MethodName)) ∈ lw_all := lw_g (lw_at lw_m7 24 rfl) rfl
theorem q1506 : (Jvm.Cond.code ({ cls := "PhrasehallModel", name := "ofBout", desc := "(II)I" } : Jvm.MethodName) prog_13_method_46_code (3 : Nat) (Option.some Jvm.ClassFile.FieldType.int)) ∈ lw_all := lw_g (lw_at lw_m7 25 rfl) rfl
theorem q1508 : (Jvm.Cond.instanceMethod ({ cls := "PhrasehallModel", name := "ofPool", desc := "(III)I" } : Jvm.MethodName)) ∈ lw_all := lw_g (lw_at lw_m7 27 rfl) rfl
theorem q1509 : (Jvm.Cond.selects "PhrasehallModel" ({ cls := "PhrasehallModel", name := "ofPool", desc := "(III)I" } : Jvm.MethodName) ({ cls := "PhrasehallModel", name := "ofPool", desc := "(III)I" } : Jvm.MethodName)) ∈ lw_all := lw_g (lw_at lw_m7 28 rfl) rfl
theorem q1510 : (Jvm.Cond.code ({ cls := "PhrasehallModel", name := "ofPool", desc := "(III)I" } : Jvm.MethodName) prog_13_method_48_code (4 : Nat) (Option.some Jvm.ClassFile.FieldType.int)) ∈ lw_all := lw_g (lw_at lw_m7 29 rfl) rfl
theorem q1511 : (Jvm.Cond.methodLink "PhrasehallModel" (211 : Nat) ({ cls := "PhrasehallModel", name := "ofPools", desc := "(III)I" } : Jvm.MethodName)) ∈ lw_all := lw_g (lw_at lw_m7 30 rfl) rfl
theorem q1512 : (Jvm.Cond.privateMethod ({ cls := "PhrasehallModel", name := "ofPools", desc := "(III)I" } : Jvm.MethodName)) ∈ lw_tbl := lw_at lw_m7 31 rfl
theorem q1513 : (Jvm.Cond.instanceMethod ({ cls := "PhrasehallModel", name := "ofPools", desc := "(III)I" } : Jvm.MethodName)) ∈ lw_all := lw_g (lw_at lw_m7 32 rfl) rfl
theorem q1514 : (Jvm.Cond.code ({ cls := "PhrasehallModel", name := "ofPools", desc := "(III)I" } : Jvm.MethodName) prog_13_method_47_code (4 : Nat) (Option.some Jvm.ClassFile.FieldType.int)) ∈ lw_all := lw_g (lw_at lw_m7 33 rfl) rfl
theorem q1516 : (Jvm.Cond.instanceMethod ({ cls := "PhrasehallModel", name := "ofPoolAnew", desc := "(III)I" } : Jvm.MethodName)) ∈ lw_all := lw_g (lw_at lw_m7 35 rfl) rfl
theorem q1517 : (Jvm.Cond.selects "PhrasehallModel" ({ cls := "PhrasehallModel", name := "ofPoolAnew", desc := "(III)I" } : Jvm.MethodName) ({ cls := "PhrasehallModel", name := "ofPoolAnew", desc := "(III)I" } : Jvm.MethodName)) ∈ lw_all := lw_g (lw_at lw_m7 36 rfl) rfl
theorem q1518 : (Jvm.Cond.code ({ cls := "PhrasehallModel", name := "ofPoolAnew", desc := "(III)I" } : Jvm.MethodName) prog_13_method_49_code (4 : Nat) (Option.some Jvm.ClassFile.FieldType.int)) ∈ lw_all := lw_g (lw_at lw_m7 37 rfl) rfl
theorem q1520 : (Jvm.Cond.instanceMethod ({ cls := "PhrasehallModel", name := "rank", desc := "(II)I" } : Jvm.MethodName)) ∈ lw_all := lw_g (lw_at lw_m7 39 rfl) rfl
theorem q1521 : (Jvm.Cond.selects "PhrasehallModel" ({ cls := "PhrasehallModel", name := "rank", desc := "(II)I" } : Jvm.MethodName) ({ cls := "PhrasehallModel", name := "rank", desc := "(II)I" } : Jvm.MethodName)) ∈ lw_all := lw_g (lw_at lw_m7 40 rfl) rfl
theorem q1522 : (Jvm.Cond.code ({ cls := "PhrasehallModel", name := "rank", desc := "(II)I" } : Jvm.MethodName) prog_13_method_50_code (4 : Nat) (Option.some Jvm.ClassFile.FieldType.int)) ∈ lw_all := lw_g (lw_at lw_m7 41 rfl) rfl
theorem q1524 : (Jvm.Cond.instanceMethod ({ cls := "PhrasehallModel", name := "meets", desc := "(III)I" } : Jvm.MethodName)) ∈ lw_all := lw_g (lw_at lw_m7 43 rfl) rfl
theorem q1525 : (Jvm.Cond.selects "PhrasehallModel" ({ cls := "PhrasehallModel", name := "meets", desc := "(III)I" } : Jvm.MethodName) ({ cls := "PhrasehallModel", name := "meets", desc := "(III)I" } : Jvm.MethodName)) ∈ lw_all := lw_g (lw_at lw_m7 44 rfl) rfl
theorem q1526 : (Jvm.Cond.code ({ cls := "PhrasehallModel", name := "meets", desc := "(III)I" } : Jvm.MethodName) prog_13_method_51_code (4 : Nat) (Option.some Jvm.ClassFile.FieldType.int)) ∈ lw_all := lw_g (lw_at lw_m7 45 rfl) rfl
theorem q1544 : (Jvm.Cond.castable "PhrasehallModel" "java/lang/Object") ∈ lw_tbl := lw_at lw_m7 63 rfl
theorem in_X2 : ∀ w ∈ wsX20, w ∈ lw_all := lw_in wsX20 [1265, 1267, 1269, 1271, 1273, 1275, 1277, 1279, 1281, 1283, 1285, 1287, 1289, 1291, 1293, 1295, 1297, 1299, 1301, 1303, 1305, 1307, 1309, 1311, 1313, 1315, 1317, 1319, 1321, 1323, 1325, 1327] (by decide +kernel) (by decide +kernel)
