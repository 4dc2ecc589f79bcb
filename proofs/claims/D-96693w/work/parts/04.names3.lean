/-! WhichOneAllKnowModel -/
set_option maxRecDepth 100000
def RX12 : String := "WhichOneAllKnowModel"
def TX12 : u_T := fun k => match k with
  | 0 => ("WhichOneAllKnowModel", "holding", "[I", true)
  | 1 => ("WhichOneAllKnowModel", "rowLength", "[I", true)
  | 2 => ("WhichOneAllKnowModel", "rowOf", "[J", true)
  | 3 => ("WhichOneAllKnowModel", "voices", "I", false)
  | 4 => ("WhichOneAllKnowModel", "kind", "[I", true)
  | 5 => ("WhichOneAllKnowModel", "a", "[I", true)
  | 6 => ("WhichOneAllKnowModel", "place", "[I", true)
  | 7 => ("WhichOneAllKnowModel", "bold", "[I", true)
  | 8 => ("WhichOneAllKnowModel", "top", "[I", true)
  | 9 => ("WhichOneAllKnowModel", "known", "[I", true)
  | 10 => ("WhichOneAllKnowModel", "tunes", "I", false)
  | 11 => ("WhichOneAllKnowModel", "high", "[I", true)
  | 12 => ("WhichOneAllKnowModel", "wait", "I", false)
  | 13 => ("WhichOneAllKnowModel", "hymns", "I", false)
  | 14 => ("WhichOneAllKnowModel", "seed", "I", false)
  | 15 => ("WhichOneAllKnowModel", "reading", "I", false)
  | 16 => ("WhichOneAllKnowModel", "at", "I", false)
  | 17 => ("WhichOneAllKnowModel", "fault", "I", false)
  | 18 => ("WhichOneAllKnowModel", "numbers", "[I", true)
  | 19 => ("WhichOneAllKnowModel", "traced", "I", false)
  | 20 => ("WhichOneAllKnowModel", "traces", "[I", true)
  | 21 => ("WhichOneAllKnowModel", "refusals", "[I", true)
  | 22 => ("WhichOneAllKnowModel", "imaged", "Z", false)
  | 23 => ("WhichOneAllKnowModel", "old", "[I", true)
  | 24 => ("WhichOneAllKnowModel", "ahead", "[I", true)
  | 25 => ("WhichOneAllKnowModel", "right", "[I", true)
  | 26 => ("WhichOneAllKnowModel", "wrong", "[I", true)
  | 27 => ("WhichOneAllKnowModel", "mimes", "[I", true)
  | _ => ("WhichOneAllKnowModel", "missing", "I", false)
def tyX12 : Nat → FieldType := fun k => match k with
  | 0 => .array .int
  | 1 => .array .int
  | 2 => .array .long
  | 3 => .int
  | 4 => .array .int
  | 5 => .array .int
  | 6 => .array .int
  | 7 => .array .int
  | 8 => .array .int
  | 9 => .array .int
  | 10 => .int
  | 11 => .array .int
  | 12 => .int
  | 13 => .int
  | 14 => .int
  | 15 => .int
  | 16 => .int
  | 17 => .int
  | 18 => .array .int
  | 19 => .int
  | 20 => .array .int
  | 21 => .array .int
  | 22 => .boolean
  | 23 => .array .int
  | 24 => .array .int
  | 25 => .array .int
  | 26 => .array .int
  | 27 => .array .int
  | _ => .int
abbrev wsX120 : List Cond := u_ws RX12 TX12 29
set_option maxRecDepth 100000 in
theorem nmX12 : ∀ a, a < 29 → ∀ b, b < 29 → a ≠ b → (TX12 a).2.1 ≠ (TX12 b).2.1 := by decide +kernel
set_option maxRecDepth 100000 in
theorem tyX12_ok : ∀ k, k < 29 → parseFieldDescriptor (TX12 k).2.2.1 = some (tyX12 k) := by decide +kernel
abbrev cX12_init : ByteArray := prog_22_method_1_code
def yX12_init : MethodName := ⟨RX12, "<init>", "()V"⟩
def dkwX12_init_8 : List UInt8 := [177]
abbrev dktX12_init_8 : List UInt8 := dkwX12_init_8 ++ []
def dkwX12_init_7 : List UInt8 := [181, 0, 75, 3, 60, 27, 16, 8, 162, 0, 16, 42, 180, 0, 7, 27, 2, 79, 132, 1, 1, 167, 255, 240]
abbrev dktX12_init_7 : List UInt8 := dkwX12_init_7 ++ dktX12_init_8
def dkwX12_init_6 : List UInt8 := [188, 10, 181, 0, 62, 42, 5, 181, 0, 65, 42, 4, 181, 0, 69, 42, 2, 181, 0, 72, 42, 2]
abbrev dktX12_init_6 : List UInt8 := dkwX12_init_6 ++ dktX12_init_7
def dkwX12_init_5 : List UInt8 := [188, 10, 181, 0, 53, 42, 16, 44, 188, 10, 181, 0, 56, 42, 16, 44, 188, 10, 181, 0, 59, 42, 16, 44]
abbrev dktX12_init_5 : List UInt8 := dkwX12_init_5 ++ dktX12_init_6
def dkwX12_init_4 : List UInt8 := [188, 10, 181, 0, 44, 42, 16, 8, 188, 10, 181, 0, 47, 42, 16, 83, 188, 10, 181, 0, 50, 42, 16, 83]
abbrev dktX12_init_4 : List UInt8 := dkwX12_init_4 ++ dktX12_init_5
def dkwX12_init_3 : List UInt8 := [188, 10, 181, 0, 35, 42, 16, 6, 188, 10, 181, 0, 38, 42, 8, 188, 10, 181, 0, 41, 42, 16, 20]
abbrev dktX12_init_3 : List UInt8 := dkwX12_init_3 ++ dktX12_init_4
def dkwX12_init_2 : List UInt8 := [188, 10, 181, 0, 26, 42, 16, 14, 188, 10, 181, 0, 29, 42, 16, 14, 188, 10, 181, 0, 32, 42, 16, 14]
abbrev dktX12_init_2 : List UInt8 := dkwX12_init_2 ++ dktX12_init_3
def dkwX12_init_1 : List UInt8 := [188, 11, 181, 0, 16, 42, 16, 14, 188, 10, 181, 0, 20, 42, 16, 14, 188, 10, 181, 0, 23, 42, 16, 14]
abbrev dktX12_init_1 : List UInt8 := dkwX12_init_1 ++ dktX12_init_2
def dkwX12_init_0 : List UInt8 := [42, 183, 0, 1, 42, 16, 8, 188, 10, 181, 0, 7, 42, 16, 8, 188, 10, 181, 0, 13, 42, 17, 5, 0]
abbrev dktX12_init_0 : List UInt8 := dkwX12_init_0 ++ dktX12_init_1
theorem dksX12_init_0 : cX12_init.data.toList.drop 0 = dktX12_init_0 := by decide +kernel
theorem dksX12_init_1 : cX12_init.data.toList.drop 24 = dktX12_init_1 := dk_seg dksX12_init_0 24 rfl rfl
theorem dksX12_init_2 : cX12_init.data.toList.drop 48 = dktX12_init_2 := dk_seg dksX12_init_1 24 rfl rfl
theorem dksX12_init_3 : cX12_init.data.toList.drop 72 = dktX12_init_3 := dk_seg dksX12_init_2 24 rfl rfl
theorem dksX12_init_4 : cX12_init.data.toList.drop 95 = dktX12_init_4 := dk_seg dksX12_init_3 23 rfl rfl
theorem dksX12_init_5 : cX12_init.data.toList.drop 119 = dktX12_init_5 := dk_seg dksX12_init_4 24 rfl rfl
theorem dksX12_init_6 : cX12_init.data.toList.drop 143 = dktX12_init_6 := dk_seg dksX12_init_5 24 rfl rfl
theorem dksX12_init_7 : cX12_init.data.toList.drop 165 = dktX12_init_7 := dk_seg dksX12_init_6 22 rfl rfl
theorem dksX12_init_8 : cX12_init.data.toList.drop 189 = dktX12_init_8 := dk_seg dksX12_init_7 24 rfl rfl
theorem dX12_init_0 : decode cX12_init 0 = .ok (.aload_n 0, 1) := dk_42 (dk_at dksX12_init_0 0 rfl rfl)
theorem dX12_init_1 : decode cX12_init 1 = .ok (.invokespecial 1, 3) := dk_183 0 1 (dk_at dksX12_init_0 1 rfl rfl)
theorem dX12_init_4 : decode cX12_init 4 = .ok (.aload_n 0, 1) := dk_42 (dk_at dksX12_init_0 4 rfl rfl)
theorem dX12_init_5 : decode cX12_init 5 = .ok (.bipush 8, 2) := dk_16 8 (dk_at dksX12_init_0 5 rfl rfl)
theorem dX12_init_7 : decode cX12_init 7 = .ok (.newarray .int, 2) := dk_188_10 (dk_at dksX12_init_0 7 rfl rfl)
theorem dX12_init_9 : decode cX12_init 9 = .ok (.putfield 7, 3) := dk_181 0 7 (dk_at dksX12_init_0 9 rfl rfl)
theorem dX12_init_12 : decode cX12_init 12 = .ok (.aload_n 0, 1) := dk_42 (dk_at dksX12_init_0 12 rfl rfl)
theorem dX12_init_13 : decode cX12_init 13 = .ok (.bipush 8, 2) := dk_16 8 (dk_at dksX12_init_0 13 rfl rfl)
theorem dX12_init_15 : decode cX12_init 15 = .ok (.newarray .int, 2) := dk_188_10 (dk_at dksX12_init_0 15 rfl rfl)
theorem dX12_init_17 : decode cX12_init 17 = .ok (.putfield 13, 3) := dk_181 0 13 (dk_at dksX12_init_0 17 rfl rfl)
theorem dX12_init_20 : decode cX12_init 20 = .ok (.aload_n 0, 1) := dk_42 (dk_at dksX12_init_0 20 rfl rfl)
theorem dX12_init_21 : decode cX12_init 21 = .ok (.sipush 1280, 3) := dk_17 5 0 (dk_at dksX12_init_0 21 rfl rfl)
theorem dX12_init_24 : decode cX12_init 24 = .ok (.newarray .long, 2) := dk_188_11 (dk_at dksX12_init_1 0 rfl rfl)
theorem dX12_init_26 : decode cX12_init 26 = .ok (.putfield 16, 3) := dk_181 0 16 (dk_at dksX12_init_1 2 rfl rfl)
theorem dX12_init_29 : decode cX12_init 29 = .ok (.aload_n 0, 1) := dk_42 (dk_at dksX12_init_1 5 rfl rfl)
theorem dX12_init_30 : decode cX12_init 30 = .ok (.bipush 14, 2) := dk_16 14 (dk_at dksX12_init_1 6 rfl rfl)
theorem dX12_init_32 : decode cX12_init 32 = .ok (.newarray .int, 2) := dk_188_10 (dk_at dksX12_init_1 8 rfl rfl)
theorem dX12_init_34 : decode cX12_init 34 = .ok (.putfield 20, 3) := dk_181 0 20 (dk_at dksX12_init_1 10 rfl rfl)
theorem dX12_init_37 : decode cX12_init 37 = .ok (.aload_n 0, 1) := dk_42 (dk_at dksX12_init_1 13 rfl rfl)
theorem dX12_init_38 : decode cX12_init 38 = .ok (.bipush 14, 2) := dk_16 14 (dk_at dksX12_init_1 14 rfl rfl)
theorem dX12_init_40 : decode cX12_init 40 = .ok (.newarray .int, 2) := dk_188_10 (dk_at dksX12_init_1 16 rfl rfl)
theorem dX12_init_42 : decode cX12_init 42 = .ok (.putfield 23, 3) := dk_181 0 23 (dk_at dksX12_init_1 18 rfl rfl)
theorem dX12_init_45 : decode cX12_init 45 = .ok (.aload_n 0, 1) := dk_42 (dk_at dksX12_init_1 21 rfl rfl)
theorem dX12_init_46 : decode cX12_init 46 = .ok (.bipush 14, 2) := dk_16 14 (dk_at dksX12_init_1 22 rfl rfl)
theorem dX12_init_48 : decode cX12_init 48 = .ok (.newarray .int, 2) := dk_188_10 (dk_at dksX12_init_2 0 rfl rfl)
theorem dX12_init_50 : decode cX12_init 50 = .ok (.putfield 26, 3) := dk_181 0 26 (dk_at dksX12_init_2 2 rfl rfl)
theorem dX12_init_53 : decode cX12_init 53 = .ok (.aload_n 0, 1) := dk_42 (dk_at dksX12_init_2 5 rfl rfl)
theorem dX12_init_54 : decode cX12_init 54 = .ok (.bipush 14, 2) := dk_16 14 (dk_at dksX12_init_2 6 rfl rfl)
theorem dX12_init_56 : decode cX12_init 56 = .ok (.newarray .int, 2) := dk_188_10 (dk_at dksX12_init_2 8 rfl rfl)
theorem dX12_init_58 : decode cX12_init 58 = .ok (.putfield 29, 3) := dk_181 0 29 (dk_at dksX12_init_2 10 rfl rfl)
theorem dX12_init_61 : decode cX12_init 61 = .ok (.aload_n 0, 1) := dk_42 (dk_at dksX12_init_2 13 rfl rfl)
theorem dX12_init_62 : decode cX12_init 62 = .ok (.bipush 14, 2) := dk_16 14 (dk_at dksX12_init_2 14 rfl rfl)
theorem dX12_init_64 : decode cX12_init 64 = .ok (.newarray .int, 2) := dk_188_10 (dk_at dksX12_init_2 16 rfl rfl)
theorem dX12_init_66 : decode cX12_init 66 = .ok (.putfield 32, 3) := dk_181 0 32 (dk_at dksX12_init_2 18 rfl rfl)
theorem dX12_init_69 : decode cX12_init 69 = .ok (.aload_n 0, 1) := dk_42 (dk_at dksX12_init_2 21 rfl rfl)
theorem dX12_init_70 : decode cX12_init 70 = .ok (.bipush 14, 2) := dk_16 14 (dk_at dksX12_init_2 22 rfl rfl)
theorem dX12_init_72 : decode cX12_init 72 = .ok (.newarray .int, 2) := dk_188_10 (dk_at dksX12_init_3 0 rfl rfl)
theorem dX12_init_74 : decode cX12_init 74 = .ok (.putfield 35, 3) := dk_181 0 35 (dk_at dksX12_init_3 2 rfl rfl)
theorem dX12_init_77 : decode cX12_init 77 = .ok (.aload_n 0, 1) := dk_42 (dk_at dksX12_init_3 5 rfl rfl)
theorem dX12_init_78 : decode cX12_init 78 = .ok (.bipush 6, 2) := dk_16 6 (dk_at dksX12_init_3 6 rfl rfl)
theorem dX12_init_80 : decode cX12_init 80 = .ok (.newarray .int, 2) := dk_188_10 (dk_at dksX12_init_3 8 rfl rfl)
theorem dX12_init_82 : decode cX12_init 82 = .ok (.putfield 38, 3) := dk_181 0 38 (dk_at dksX12_init_3 10 rfl rfl)
theorem dX12_init_85 : decode cX12_init 85 = .ok (.aload_n 0, 1) := dk_42 (dk_at dksX12_init_3 13 rfl rfl)
theorem dX12_init_86 : decode cX12_init 86 = .ok (.iconst 5, 1) := dk_8 (dk_at dksX12_init_3 14 rfl rfl)
theorem dX12_init_87 : decode cX12_init 87 = .ok (.newarray .int, 2) := dk_188_10 (dk_at dksX12_init_3 15 rfl rfl)
theorem dX12_init_89 : decode cX12_init 89 = .ok (.putfield 41, 3) := dk_181 0 41 (dk_at dksX12_init_3 17 rfl rfl)
theorem dX12_init_92 : decode cX12_init 92 = .ok (.aload_n 0, 1) := dk_42 (dk_at dksX12_init_3 20 rfl rfl)
theorem dX12_init_93 : decode cX12_init 93 = .ok (.bipush 20, 2) := dk_16 20 (dk_at dksX12_init_3 21 rfl rfl)
theorem dX12_init_95 : decode cX12_init 95 = .ok (.newarray .int, 2) := dk_188_10 (dk_at dksX12_init_4 0 rfl rfl)
theorem dX12_init_97 : decode cX12_init 97 = .ok (.putfield 44, 3) := dk_181 0 44 (dk_at dksX12_init_4 2 rfl rfl)
theorem dX12_init_100 : decode cX12_init 100 = .ok (.aload_n 0, 1) := dk_42 (dk_at dksX12_init_4 5 rfl rfl)
theorem dX12_init_101 : decode cX12_init 101 = .ok (.bipush 8, 2) := dk_16 8 (dk_at dksX12_init_4 6 rfl rfl)
theorem dX12_init_103 : decode cX12_init 103 = .ok (.newarray .int, 2) := dk_188_10 (dk_at dksX12_init_4 8 rfl rfl)
theorem dX12_init_105 : decode cX12_init 105 = .ok (.putfield 47, 3) := dk_181 0 47 (dk_at dksX12_init_4 10 rfl rfl)
theorem dX12_init_108 : decode cX12_init 108 = .ok (.aload_n 0, 1) := dk_42 (dk_at dksX12_init_4 13 rfl rfl)
theorem dX12_init_109 : decode cX12_init 109 = .ok (.bipush 83, 2) := dk_16 83 (dk_at dksX12_init_4 14 rfl rfl)
theorem dX12_init_111 : decode cX12_init 111 = .ok (.newarray .int, 2) := dk_188_10 (dk_at dksX12_init_4 16 rfl rfl)
theorem dX12_init_113 : decode cX12_init 113 = .ok (.putfield 50, 3) := dk_181 0 50 (dk_at dksX12_init_4 18 rfl rfl)
theorem dX12_init_116 : decode cX12_init 116 = .ok (.aload_n 0, 1) := dk_42 (dk_at dksX12_init_4 21 rfl rfl)
theorem dX12_init_117 : decode cX12_init 117 = .ok (.bipush 83, 2) := dk_16 83 (dk_at dksX12_init_4 22 rfl rfl)
theorem dX12_init_119 : decode cX12_init 119 = .ok (.newarray .int, 2) := dk_188_10 (dk_at dksX12_init_5 0 rfl rfl)
theorem dX12_init_121 : decode cX12_init 121 = .ok (.putfield 53, 3) := dk_181 0 53 (dk_at dksX12_init_5 2 rfl rfl)
theorem dX12_init_124 : decode cX12_init 124 = .ok (.aload_n 0, 1) := dk_42 (dk_at dksX12_init_5 5 rfl rfl)
theorem dX12_init_125 : decode cX12_init 125 = .ok (.bipush 44, 2) := dk_16 44 (dk_at dksX12_init_5 6 rfl rfl)
theorem dX12_init_127 : decode cX12_init 127 = .ok (.newarray .int, 2) := dk_188_10 (dk_at dksX12_init_5 8 rfl rfl)
theorem dX12_init_129 : decode cX12_init 129 = .ok (.putfield 56, 3) := dk_181 0 56 (dk_at dksX12_init_5 10 rfl rfl)
theorem dX12_init_132 : decode cX12_init 132 = .ok (.aload_n 0, 1) := dk_42 (dk_at dksX12_init_5 13 rfl rfl)
theorem dX12_init_133 : decode cX12_init 133 = .ok (.bipush 44, 2) := dk_16 44 (dk_at dksX12_init_5 14 rfl rfl)
theorem dX12_init_135 : decode cX12_init 135 = .ok (.newarray .int, 2) := dk_188_10 (dk_at dksX12_init_5 16 rfl rfl)
theorem dX12_init_137 : decode cX12_init 137 = .ok (.putfield 59, 3) := dk_181 0 59 (dk_at dksX12_init_5 18 rfl rfl)
theorem dX12_init_140 : decode cX12_init 140 = .ok (.aload_n 0, 1) := dk_42 (dk_at dksX12_init_5 21 rfl rfl)
theorem dX12_init_141 : decode cX12_init 141 = .ok (.bipush 44, 2) := dk_16 44 (dk_at dksX12_init_5 22 rfl rfl)
theorem dX12_init_143 : decode cX12_init 143 = .ok (.newarray .int, 2) := dk_188_10 (dk_at dksX12_init_6 0 rfl rfl)
theorem dX12_init_145 : decode cX12_init 145 = .ok (.putfield 62, 3) := dk_181 0 62 (dk_at dksX12_init_6 2 rfl rfl)
theorem dX12_init_148 : decode cX12_init 148 = .ok (.aload_n 0, 1) := dk_42 (dk_at dksX12_init_6 5 rfl rfl)
theorem dX12_init_149 : decode cX12_init 149 = .ok (.iconst 2, 1) := dk_5 (dk_at dksX12_init_6 6 rfl rfl)
theorem dX12_init_150 : decode cX12_init 150 = .ok (.putfield 65, 3) := dk_181 0 65 (dk_at dksX12_init_6 7 rfl rfl)
theorem dX12_init_153 : decode cX12_init 153 = .ok (.aload_n 0, 1) := dk_42 (dk_at dksX12_init_6 10 rfl rfl)
theorem dX12_init_154 : decode cX12_init 154 = .ok (.iconst 1, 1) := dk_4 (dk_at dksX12_init_6 11 rfl rfl)
theorem dX12_init_155 : decode cX12_init 155 = .ok (.putfield 69, 3) := dk_181 0 69 (dk_at dksX12_init_6 12 rfl rfl)
theorem dX12_init_158 : decode cX12_init 158 = .ok (.aload_n 0, 1) := dk_42 (dk_at dksX12_init_6 15 rfl rfl)
theorem dX12_init_159 : decode cX12_init 159 = .ok (.iconst (-1), 1) := dk_2 (dk_at dksX12_init_6 16 rfl rfl)
theorem dX12_init_160 : decode cX12_init 160 = .ok (.putfield 72, 3) := dk_181 0 72 (dk_at dksX12_init_6 17 rfl rfl)
theorem dX12_init_163 : decode cX12_init 163 = .ok (.aload_n 0, 1) := dk_42 (dk_at dksX12_init_6 20 rfl rfl)
theorem dX12_init_164 : decode cX12_init 164 = .ok (.iconst (-1), 1) := dk_2 (dk_at dksX12_init_6 21 rfl rfl)
theorem dX12_init_165 : decode cX12_init 165 = .ok (.putfield 75, 3) := dk_181 0 75 (dk_at dksX12_init_7 0 rfl rfl)
theorem dX12_init_168 : decode cX12_init 168 = .ok (.iconst 0, 1) := dk_3 (dk_at dksX12_init_7 3 rfl rfl)
theorem dX12_init_169 : decode cX12_init 169 = .ok (.istore_n 1, 1) := dk_60 (dk_at dksX12_init_7 4 rfl rfl)
theorem dX12_init_170 : decode cX12_init 170 = .ok (.iload_n 1, 1) := dk_27 (dk_at dksX12_init_7 5 rfl rfl)
theorem dX12_init_171 : decode cX12_init 171 = .ok (.bipush 8, 2) := dk_16 8 (dk_at dksX12_init_7 6 rfl rfl)
theorem dX12_init_173 : decode cX12_init 173 = .ok (.if_icmp .ge 16, 3) := dk_162 0 16 (dk_at dksX12_init_7 8 rfl rfl)
theorem dX12_init_176 : decode cX12_init 176 = .ok (.aload_n 0, 1) := dk_42 (dk_at dksX12_init_7 11 rfl rfl)
theorem dX12_init_177 : decode cX12_init 177 = .ok (.getfield 7, 3) := dk_180 0 7 (dk_at dksX12_init_7 12 rfl rfl)
theorem dX12_init_180 : decode cX12_init 180 = .ok (.iload_n 1, 1) := dk_27 (dk_at dksX12_init_7 15 rfl rfl)
theorem dX12_init_181 : decode cX12_init 181 = .ok (.iconst (-1), 1) := dk_2 (dk_at dksX12_init_7 16 rfl rfl)
theorem dX12_init_182 : decode cX12_init 182 = .ok (.iastore, 1) := dk_79 (dk_at dksX12_init_7 17 rfl rfl)
theorem dX12_init_183 : decode cX12_init 183 = .ok (.iinc 1 1, 3) := dk_132 1 1 (dk_at dksX12_init_7 18 rfl rfl)
theorem dX12_init_186 : decode cX12_init 186 = .ok (.goto (-16), 3) := dk_167 255 240 (dk_at dksX12_init_7 21 rfl rfl)
theorem dX12_init_189 : decode cX12_init 189 = .ok (.return_, 1) := dk_177 (dk_at dksX12_init_8 0 rfl rfl)
abbrev cX12_row : ByteArray := prog_22_method_13_code
def yX12_row : MethodName := ⟨RX12, "row", "(III)I"⟩
def dkwX12_row_4 : List UInt8 := [21, 4, 96, 9, 80, 132, 4, 1, 167, 255, 231, 4, 172]
abbrev dktX12_row_4 : List UInt8 := dkwX12_row_4 ++ []
def dkwX12_row_3 : List UInt8 := [27, 29, 79, 3, 54, 4, 21, 4, 17, 0, 160, 162, 0, 23, 42, 180, 0, 16, 17, 0, 160, 27, 104]
abbrev dktX12_row_3 : List UInt8 := dkwX12_row_3 ++ dktX12_row_4
def dkwX12_row_2 : List UInt8 := [164, 0, 10, 42, 16, 249, 182, 0, 78, 172, 42, 180, 0, 7, 27, 16, 100, 28, 96, 79, 42, 180, 0, 13]
abbrev dktX12_row_2 : List UInt8 := dkwX12_row_2 ++ dktX12_row_3
def dkwX12_row_1 : List UInt8 := [182, 0, 78, 172, 28, 3, 6, 184, 0, 85, 154, 0, 10, 42, 16, 250, 182, 0, 78, 172, 29, 17, 0, 160]
abbrev dktX12_row_1 : List UInt8 := dkwX12_row_1 ++ dktX12_row_2
def dkwX12_row_0 : List UInt8 := [27, 3, 16, 7, 184, 0, 85, 154, 0, 9, 42, 2, 182, 0, 78, 172, 29, 156, 0, 10, 42, 16, 252]
abbrev dktX12_row_0 : List UInt8 := dkwX12_row_0 ++ dktX12_row_1
theorem dksX12_row_0 : cX12_row.data.toList.drop 0 = dktX12_row_0 := by decide +kernel
theorem dksX12_row_1 : cX12_row.data.toList.drop 23 = dktX12_row_1 := dk_seg dksX12_row_0 23 rfl rfl
theorem dksX12_row_2 : cX12_row.data.toList.drop 47 = dktX12_row_2 := dk_seg dksX12_row_1 24 rfl rfl
theorem dksX12_row_3 : cX12_row.data.toList.drop 71 = dktX12_row_3 := dk_seg dksX12_row_2 24 rfl rfl
theorem dksX12_row_4 : cX12_row.data.toList.drop 94 = dktX12_row_4 := dk_seg dksX12_row_3 23 rfl rfl
theorem dX12_row_0 : decode cX12_row 0 = .ok (.iload_n 1, 1) := dk_27 (dk_at dksX12_row_0 0 rfl rfl)
theorem dX12_row_1 : decode cX12_row 1 = .ok (.iconst 0, 1) := dk_3 (dk_at dksX12_row_0 1 rfl rfl)
theorem dX12_row_2 : decode cX12_row 2 = .ok (.bipush 7, 2) := dk_16 7 (dk_at dksX12_row_0 2 rfl rfl)
theorem dX12_row_4 : decode cX12_row 4 = .ok (.invokestatic 85, 3) := dk_184 0 85 (dk_at dksX12_row_0 4 rfl rfl)
theorem dX12_row_7 : decode cX12_row 7 = .ok (.ifCond .ne 9, 3) := dk_154 0 9 (dk_at dksX12_row_0 7 rfl rfl)
theorem dX12_row_10 : decode cX12_row 10 = .ok (.aload_n 0, 1) := dk_42 (dk_at dksX12_row_0 10 rfl rfl)
theorem dX12_row_11 : decode cX12_row 11 = .ok (.iconst (-1), 1) := dk_2 (dk_at dksX12_row_0 11 rfl rfl)
theorem dX12_row_12 : decode cX12_row 12 = .ok (.invokevirtual 78, 3) := dk_182 0 78 (dk_at dksX12_row_0 12 rfl rfl)
theorem dX12_row_15 : decode cX12_row 15 = .ok (.ireturn, 1) := dk_172 (dk_at dksX12_row_0 15 rfl rfl)
theorem dX12_row_16 : decode cX12_row 16 = .ok (.iload_n 3, 1) := dk_29 (dk_at dksX12_row_0 16 rfl rfl)
theorem dX12_row_17 : decode cX12_row 17 = .ok (.ifCond .ge 10, 3) := dk_156 0 10 (dk_at dksX12_row_0 17 rfl rfl)
theorem dX12_row_20 : decode cX12_row 20 = .ok (.aload_n 0, 1) := dk_42 (dk_at dksX12_row_0 20 rfl rfl)
theorem dX12_row_21 : decode cX12_row 21 = .ok (.bipush (-4), 2) := dk_16 252 (dk_at dksX12_row_0 21 rfl rfl)
theorem dX12_row_23 : decode cX12_row 23 = .ok (.invokevirtual 78, 3) := dk_182 0 78 (dk_at dksX12_row_1 0 rfl rfl)
theorem dX12_row_26 : decode cX12_row 26 = .ok (.ireturn, 1) := dk_172 (dk_at dksX12_row_1 3 rfl rfl)
theorem dX12_row_27 : decode cX12_row 27 = .ok (.iload_n 2, 1) := dk_28 (dk_at dksX12_row_1 4 rfl rfl)
theorem dX12_row_28 : decode cX12_row 28 = .ok (.iconst 0, 1) := dk_3 (dk_at dksX12_row_1 5 rfl rfl)
theorem dX12_row_29 : decode cX12_row 29 = .ok (.iconst 3, 1) := dk_6 (dk_at dksX12_row_1 6 rfl rfl)
theorem dX12_row_30 : decode cX12_row 30 = .ok (.invokestatic 85, 3) := dk_184 0 85 (dk_at dksX12_row_1 7 rfl rfl)
theorem dX12_row_33 : decode cX12_row 33 = .ok (.ifCond .ne 10, 3) := dk_154 0 10 (dk_at dksX12_row_1 10 rfl rfl)
theorem dX12_row_36 : decode cX12_row 36 = .ok (.aload_n 0, 1) := dk_42 (dk_at dksX12_row_1 13 rfl rfl)
theorem dX12_row_37 : decode cX12_row 37 = .ok (.bipush (-6), 2) := dk_16 250 (dk_at dksX12_row_1 14 rfl rfl)
theorem dX12_row_39 : decode cX12_row 39 = .ok (.invokevirtual 78, 3) := dk_182 0 78 (dk_at dksX12_row_1 16 rfl rfl)
theorem dX12_row_42 : decode cX12_row 42 = .ok (.ireturn, 1) := dk_172 (dk_at dksX12_row_1 19 rfl rfl)
theorem dX12_row_43 : decode cX12_row 43 = .ok (.iload_n 3, 1) := dk_29 (dk_at dksX12_row_1 20 rfl rfl)
theorem dX12_row_44 : decode cX12_row 44 = .ok (.sipush 160, 3) := dk_17 0 160 (dk_at dksX12_row_1 21 rfl rfl)
theorem dX12_row_47 : decode cX12_row 47 = .ok (.if_icmp .le 10, 3) := dk_164 0 10 (dk_at dksX12_row_2 0 rfl rfl)
theorem dX12_row_50 : decode cX12_row 50 = .ok (.aload_n 0, 1) := dk_42 (dk_at dksX12_row_2 3 rfl rfl)
theorem dX12_row_51 : decode cX12_row 51 = .ok (.bipush (-7), 2) := dk_16 249 (dk_at dksX12_row_2 4 rfl rfl)
theorem dX12_row_53 : decode cX12_row 53 = .ok (.invokevirtual 78, 3) := dk_182 0 78 (dk_at dksX12_row_2 6 rfl rfl)
theorem dX12_row_56 : decode cX12_row 56 = .ok (.ireturn, 1) := dk_172 (dk_at dksX12_row_2 9 rfl rfl)
theorem dX12_row_57 : decode cX12_row 57 = .ok (.aload_n 0, 1) := dk_42 (dk_at dksX12_row_2 10 rfl rfl)
theorem dX12_row_58 : decode cX12_row 58 = .ok (.getfield 7, 3) := dk_180 0 7 (dk_at dksX12_row_2 11 rfl rfl)
theorem dX12_row_61 : decode cX12_row 61 = .ok (.iload_n 1, 1) := dk_27 (dk_at dksX12_row_2 14 rfl rfl)
theorem dX12_row_62 : decode cX12_row 62 = .ok (.bipush 100, 2) := dk_16 100 (dk_at dksX12_row_2 15 rfl rfl)
theorem dX12_row_64 : decode cX12_row 64 = .ok (.iload_n 2, 1) := dk_28 (dk_at dksX12_row_2 17 rfl rfl)
theorem dX12_row_65 : decode cX12_row 65 = .ok (.iadd, 1) := dk_96 (dk_at dksX12_row_2 18 rfl rfl)
theorem dX12_row_66 : decode cX12_row 66 = .ok (.iastore, 1) := dk_79 (dk_at dksX12_row_2 19 rfl rfl)
theorem dX12_row_67 : decode cX12_row 67 = .ok (.aload_n 0, 1) := dk_42 (dk_at dksX12_row_2 20 rfl rfl)
theorem dX12_row_68 : decode cX12_row 68 = .ok (.getfield 13, 3) := dk_180 0 13 (dk_at dksX12_row_2 21 rfl rfl)
theorem dX12_row_71 : decode cX12_row 71 = .ok (.iload_n 1, 1) := dk_27 (dk_at dksX12_row_3 0 rfl rfl)
theorem dX12_row_72 : decode cX12_row 72 = .ok (.iload_n 3, 1) := dk_29 (dk_at dksX12_row_3 1 rfl rfl)
theorem dX12_row_73 : decode cX12_row 73 = .ok (.iastore, 1) := dk_79 (dk_at dksX12_row_3 2 rfl rfl)
theorem dX12_row_74 : decode cX12_row 74 = .ok (.iconst 0, 1) := dk_3 (dk_at dksX12_row_3 3 rfl rfl)
theorem dX12_row_75 : decode cX12_row 75 = .ok (.istore 4, 2) := dk_54 4 (dk_at dksX12_row_3 4 rfl rfl)
theorem dX12_row_77 : decode cX12_row 77 = .ok (.iload 4, 2) := dk_21 4 (dk_at dksX12_row_3 6 rfl rfl)
theorem dX12_row_79 : decode cX12_row 79 = .ok (.sipush 160, 3) := dk_17 0 160 (dk_at dksX12_row_3 8 rfl rfl)
theorem dX12_row_82 : decode cX12_row 82 = .ok (.if_icmp .ge 23, 3) := dk_162 0 23 (dk_at dksX12_row_3 11 rfl rfl)
theorem dX12_row_85 : decode cX12_row 85 = .ok (.aload_n 0, 1) := dk_42 (dk_at dksX12_row_3 14 rfl rfl)
theorem dX12_row_86 : decode cX12_row 86 = .ok (.getfield 16, 3) := dk_180 0 16 (dk_at dksX12_row_3 15 rfl rfl)
theorem dX12_row_89 : decode cX12_row 89 = .ok (.sipush 160, 3) := dk_17 0 160 (dk_at dksX12_row_3 18 rfl rfl)
theorem dX12_row_92 : decode cX12_row 92 = .ok (.iload_n 1, 1) := dk_27 (dk_at dksX12_row_3 21 rfl rfl)
theorem dX12_row_93 : decode cX12_row 93 = .ok (.imul, 1) := dk_104 (dk_at dksX12_row_3 22 rfl rfl)
theorem dX12_row_94 : decode cX12_row 94 = .ok (.iload 4, 2) := dk_21 4 (dk_at dksX12_row_4 0 rfl rfl)
theorem dX12_row_96 : decode cX12_row 96 = .ok (.iadd, 1) := dk_96 (dk_at dksX12_row_4 2 rfl rfl)
theorem dX12_row_97 : decode cX12_row 97 = .ok (.lconst 0, 1) := dk_9 (dk_at dksX12_row_4 3 rfl rfl)
theorem dX12_row_98 : decode cX12_row 98 = .ok (.lastore, 1) := dk_80 (dk_at dksX12_row_4 4 rfl rfl)
theorem dX12_row_99 : decode cX12_row 99 = .ok (.iinc 4 1, 3) := dk_132 4 1 (dk_at dksX12_row_4 5 rfl rfl)
theorem dX12_row_102 : decode cX12_row 102 = .ok (.goto (-25), 3) := dk_167 255 231 (dk_at dksX12_row_4 8 rfl rfl)
theorem dX12_row_105 : decode cX12_row 105 = .ok (.iconst 1, 1) := dk_4 (dk_at dksX12_row_4 11 rfl rfl)
theorem dX12_row_106 : decode cX12_row 106 = .ok (.ireturn, 1) := dk_172 (dk_at dksX12_row_4 12 rfl rfl)
abbrev cX12_within : ByteArray := prog_22_method_4_code
def yX12_within : MethodName := ⟨RX12, "within", "(III)Z"⟩
def dkwX12_within_0 : List UInt8 := [26, 27, 161, 0, 12, 26, 28, 163, 0, 7, 4, 167, 0, 4, 3, 172]
abbrev dktX12_within_0 : List UInt8 := dkwX12_within_0 ++ []
theorem dksX12_within_0 : cX12_within.data.toList.drop 0 = dktX12_within_0 := by decide +kernel
theorem dX12_within_0 : decode cX12_within 0 = .ok (.iload_n 0, 1) := dk_26 (dk_at dksX12_within_0 0 rfl rfl)
theorem dX12_within_1 : decode cX12_within 1 = .ok (.iload_n 1, 1) := dk_27 (dk_at dksX12_within_0 1 rfl rfl)
theorem dX12_within_2 : decode cX12_within 2 = .ok (.if_icmp .lt 12, 3) := dk_161 0 12 (dk_at dksX12_within_0 2 rfl rfl)
theorem dX12_within_5 : decode cX12_within 5 = .ok (.iload_n 0, 1) := dk_26 (dk_at dksX12_within_0 5 rfl rfl)
theorem dX12_within_6 : decode cX12_within 6 = .ok (.iload_n 2, 1) := dk_28 (dk_at dksX12_within_0 6 rfl rfl)
theorem dX12_within_7 : decode cX12_within 7 = .ok (.if_icmp .gt 7, 3) := dk_163 0 7 (dk_at dksX12_within_0 7 rfl rfl)
theorem dX12_within_10 : decode cX12_within 10 = .ok (.iconst 1, 1) := dk_4 (dk_at dksX12_within_0 10 rfl rfl)
theorem dX12_within_11 : decode cX12_within 11 = .ok (.goto 4, 3) := dk_167 0 4 (dk_at dksX12_within_0 11 rfl rfl)
theorem dX12_within_14 : decode cX12_within 14 = .ok (.iconst 0, 1) := dk_3 (dk_at dksX12_within_0 14 rfl rfl)
theorem dX12_within_15 : decode cX12_within 15 = .ok (.ireturn, 1) := dk_172 (dk_at dksX12_within_0 15 rfl rfl)
abbrev cX12_no : ByteArray := prog_22_method_2_code
def yX12_no : MethodName := ⟨RX12, "no", "(I)I"⟩
def dkwX12_no_0 : List UInt8 := [42, 180, 0, 47, 27, 116, 92, 46, 4, 96, 79, 27, 172]
abbrev dktX12_no_0 : List UInt8 := dkwX12_no_0 ++ []
theorem dksX12_no_0 : cX12_no.data.toList.drop 0 = dktX12_no_0 := by decide +kernel
theorem dX12_no_0 : decode cX12_no 0 = .ok (.aload_n 0, 1) := dk_42 (dk_at dksX12_no_0 0 rfl rfl)
theorem dX12_no_1 : decode cX12_no 1 = .ok (.getfield 47, 3) := dk_180 0 47 (dk_at dksX12_no_0 1 rfl rfl)
theorem dX12_no_4 : decode cX12_no 4 = .ok (.iload_n 1, 1) := dk_27 (dk_at dksX12_no_0 4 rfl rfl)
theorem dX12_no_5 : decode cX12_no 5 = .ok (.ineg, 1) := dk_116 (dk_at dksX12_no_0 5 rfl rfl)
theorem dX12_no_6 : decode cX12_no 6 = .ok (.dup2, 1) := dk_92 (dk_at dksX12_no_0 6 rfl rfl)
theorem dX12_no_7 : decode cX12_no 7 = .ok (.iaload, 1) := dk_46 (dk_at dksX12_no_0 7 rfl rfl)
theorem dX12_no_8 : decode cX12_no 8 = .ok (.iconst 1, 1) := dk_4 (dk_at dksX12_no_0 8 rfl rfl)
theorem dX12_no_9 : decode cX12_no 9 = .ok (.iadd, 1) := dk_96 (dk_at dksX12_no_0 9 rfl rfl)
theorem dX12_no_10 : decode cX12_no 10 = .ok (.iastore, 1) := dk_79 (dk_at dksX12_no_0 10 rfl rfl)
theorem dX12_no_11 : decode cX12_no 11 = .ok (.iload_n 1, 1) := dk_27 (dk_at dksX12_no_0 11 rfl rfl)
theorem dX12_no_12 : decode cX12_no 12 = .ok (.ireturn, 1) := dk_172 (dk_at dksX12_no_0 12 rfl rfl)
abbrev cX12_set : ByteArray := prog_22_method_15_code
def yX12_set : MethodName := ⟨RX12, "set", "(IIJ)I"⟩
def dkwX12_set_4 : List UInt8 := [160, 0, 9, 33, 136, 133, 167, 0, 4, 33, 80, 4, 172]
abbrev dktX12_set_4 : List UInt8 := dkwX12_set_4 ++ []
def dkwX12_set_3 : List UInt8 := [136, 145, 133, 167, 0, 29, 21, 6, 4, 160, 0, 10, 33, 136, 147, 133, 167, 0, 16, 21, 6, 5]
abbrev dktX12_set_3 : List UInt8 := dkwX12_set_3 ++ dktX12_set_4
def dkwX12_set_2 : List UInt8 := [27, 46, 16, 100, 100, 54, 6, 42, 180, 0, 16, 17, 0, 160, 27, 104, 28, 96, 21, 6, 154, 0, 10, 33]
abbrev dktX12_set_2 : List UInt8 := dkwX12_set_2 ++ dktX12_set_3
def dkwX12_set_1 : List UInt8 := [180, 0, 13, 27, 46, 4, 100, 184, 0, 85, 154, 0, 10, 42, 16, 251, 182, 0, 78, 172, 42, 180, 0, 7]
abbrev dktX12_set_1 : List UInt8 := dkwX12_set_1 ++ dktX12_set_2
def dkwX12_set_0 : List UInt8 := [42, 27, 182, 0, 99, 54, 5, 21, 5, 156, 0, 10, 42, 21, 5, 182, 0, 78, 172, 28, 3, 42]
abbrev dktX12_set_0 : List UInt8 := dkwX12_set_0 ++ dktX12_set_1
theorem dksX12_set_0 : cX12_set.data.toList.drop 0 = dktX12_set_0 := by decide +kernel
theorem dksX12_set_1 : cX12_set.data.toList.drop 22 = dktX12_set_1 := dk_seg dksX12_set_0 22 rfl rfl
theorem dksX12_set_2 : cX12_set.data.toList.drop 46 = dktX12_set_2 := dk_seg dksX12_set_1 24 rfl rfl
theorem dksX12_set_3 : cX12_set.data.toList.drop 70 = dktX12_set_3 := dk_seg dksX12_set_2 24 rfl rfl
theorem dksX12_set_4 : cX12_set.data.toList.drop 92 = dktX12_set_4 := dk_seg dksX12_set_3 22 rfl rfl
theorem dX12_set_0 : decode cX12_set 0 = .ok (.aload_n 0, 1) := dk_42 (dk_at dksX12_set_0 0 rfl rfl)
theorem dX12_set_1 : decode cX12_set 1 = .ok (.iload_n 1, 1) := dk_27 (dk_at dksX12_set_0 1 rfl rfl)
theorem dX12_set_2 : decode cX12_set 2 = .ok (.invokevirtual 99, 3) := dk_182 0 99 (dk_at dksX12_set_0 2 rfl rfl)
theorem dX12_set_5 : decode cX12_set 5 = .ok (.istore 5, 2) := dk_54 5 (dk_at dksX12_set_0 5 rfl rfl)
theorem dX12_set_7 : decode cX12_set 7 = .ok (.iload 5, 2) := dk_21 5 (dk_at dksX12_set_0 7 rfl rfl)
theorem dX12_set_9 : decode cX12_set 9 = .ok (.ifCond .ge 10, 3) := dk_156 0 10 (dk_at dksX12_set_0 9 rfl rfl)
theorem dX12_set_12 : decode cX12_set 12 = .ok (.aload_n 0, 1) := dk_42 (dk_at dksX12_set_0 12 rfl rfl)
theorem dX12_set_13 : decode cX12_set 13 = .ok (.iload 5, 2) := dk_21 5 (dk_at dksX12_set_0 13 rfl rfl)
theorem dX12_set_15 : decode cX12_set 15 = .ok (.invokevirtual 78, 3) := dk_182 0 78 (dk_at dksX12_set_0 15 rfl rfl)
theorem dX12_set_18 : decode cX12_set 18 = .ok (.ireturn, 1) := dk_172 (dk_at dksX12_set_0 18 rfl rfl)
theorem dX12_set_19 : decode cX12_set 19 = .ok (.iload_n 2, 1) := dk_28 (dk_at dksX12_set_0 19 rfl rfl)
theorem dX12_set_20 : decode cX12_set 20 = .ok (.iconst 0, 1) := dk_3 (dk_at dksX12_set_0 20 rfl rfl)
theorem dX12_set_21 : decode cX12_set 21 = .ok (.aload_n 0, 1) := dk_42 (dk_at dksX12_set_0 21 rfl rfl)
theorem dX12_set_22 : decode cX12_set 22 = .ok (.getfield 13, 3) := dk_180 0 13 (dk_at dksX12_set_1 0 rfl rfl)
theorem dX12_set_25 : decode cX12_set 25 = .ok (.iload_n 1, 1) := dk_27 (dk_at dksX12_set_1 3 rfl rfl)
theorem dX12_set_26 : decode cX12_set 26 = .ok (.iaload, 1) := dk_46 (dk_at dksX12_set_1 4 rfl rfl)
theorem dX12_set_27 : decode cX12_set 27 = .ok (.iconst 1, 1) := dk_4 (dk_at dksX12_set_1 5 rfl rfl)
theorem dX12_set_28 : decode cX12_set 28 = .ok (.isub, 1) := dk_100 (dk_at dksX12_set_1 6 rfl rfl)
theorem dX12_set_29 : decode cX12_set 29 = .ok (.invokestatic 85, 3) := dk_184 0 85 (dk_at dksX12_set_1 7 rfl rfl)
theorem dX12_set_32 : decode cX12_set 32 = .ok (.ifCond .ne 10, 3) := dk_154 0 10 (dk_at dksX12_set_1 10 rfl rfl)
theorem dX12_set_35 : decode cX12_set 35 = .ok (.aload_n 0, 1) := dk_42 (dk_at dksX12_set_1 13 rfl rfl)
theorem dX12_set_36 : decode cX12_set 36 = .ok (.bipush (-5), 2) := dk_16 251 (dk_at dksX12_set_1 14 rfl rfl)
theorem dX12_set_38 : decode cX12_set 38 = .ok (.invokevirtual 78, 3) := dk_182 0 78 (dk_at dksX12_set_1 16 rfl rfl)
theorem dX12_set_41 : decode cX12_set 41 = .ok (.ireturn, 1) := dk_172 (dk_at dksX12_set_1 19 rfl rfl)
theorem dX12_set_42 : decode cX12_set 42 = .ok (.aload_n 0, 1) := dk_42 (dk_at dksX12_set_1 20 rfl rfl)
theorem dX12_set_43 : decode cX12_set 43 = .ok (.getfield 7, 3) := dk_180 0 7 (dk_at dksX12_set_1 21 rfl rfl)
theorem dX12_set_46 : decode cX12_set 46 = .ok (.iload_n 1, 1) := dk_27 (dk_at dksX12_set_2 0 rfl rfl)
theorem dX12_set_47 : decode cX12_set 47 = .ok (.iaload, 1) := dk_46 (dk_at dksX12_set_2 1 rfl rfl)
theorem dX12_set_48 : decode cX12_set 48 = .ok (.bipush 100, 2) := dk_16 100 (dk_at dksX12_set_2 2 rfl rfl)
theorem dX12_set_50 : decode cX12_set 50 = .ok (.isub, 1) := dk_100 (dk_at dksX12_set_2 4 rfl rfl)
theorem dX12_set_51 : decode cX12_set 51 = .ok (.istore 6, 2) := dk_54 6 (dk_at dksX12_set_2 5 rfl rfl)
theorem dX12_set_53 : decode cX12_set 53 = .ok (.aload_n 0, 1) := dk_42 (dk_at dksX12_set_2 7 rfl rfl)
theorem dX12_set_54 : decode cX12_set 54 = .ok (.getfield 16, 3) := dk_180 0 16 (dk_at dksX12_set_2 8 rfl rfl)
theorem dX12_set_57 : decode cX12_set 57 = .ok (.sipush 160, 3) := dk_17 0 160 (dk_at dksX12_set_2 11 rfl rfl)
theorem dX12_set_60 : decode cX12_set 60 = .ok (.iload_n 1, 1) := dk_27 (dk_at dksX12_set_2 14 rfl rfl)
theorem dX12_set_61 : decode cX12_set 61 = .ok (.imul, 1) := dk_104 (dk_at dksX12_set_2 15 rfl rfl)
theorem dX12_set_62 : decode cX12_set 62 = .ok (.iload_n 2, 1) := dk_28 (dk_at dksX12_set_2 16 rfl rfl)
theorem dX12_set_63 : decode cX12_set 63 = .ok (.iadd, 1) := dk_96 (dk_at dksX12_set_2 17 rfl rfl)
theorem dX12_set_64 : decode cX12_set 64 = .ok (.iload 6, 2) := dk_21 6 (dk_at dksX12_set_2 18 rfl rfl)
theorem dX12_set_66 : decode cX12_set 66 = .ok (.ifCond .ne 10, 3) := dk_154 0 10 (dk_at dksX12_set_2 20 rfl rfl)
theorem dX12_set_69 : decode cX12_set 69 = .ok (.lload_n 3, 1) := dk_33 (dk_at dksX12_set_2 23 rfl rfl)
theorem dX12_set_70 : decode cX12_set 70 = .ok (.l2i, 1) := dk_136 (dk_at dksX12_set_3 0 rfl rfl)
theorem dX12_set_71 : decode cX12_set 71 = .ok (.i2b, 1) := dk_145 (dk_at dksX12_set_3 1 rfl rfl)
theorem dX12_set_72 : decode cX12_set 72 = .ok (.i2l, 1) := dk_133 (dk_at dksX12_set_3 2 rfl rfl)
theorem dX12_set_73 : decode cX12_set 73 = .ok (.goto 29, 3) := dk_167 0 29 (dk_at dksX12_set_3 3 rfl rfl)
theorem dX12_set_76 : decode cX12_set 76 = .ok (.iload 6, 2) := dk_21 6 (dk_at dksX12_set_3 6 rfl rfl)
theorem dX12_set_78 : decode cX12_set 78 = .ok (.iconst 1, 1) := dk_4 (dk_at dksX12_set_3 8 rfl rfl)
theorem dX12_set_79 : decode cX12_set 79 = .ok (.if_icmp .ne 10, 3) := dk_160 0 10 (dk_at dksX12_set_3 9 rfl rfl)
theorem dX12_set_82 : decode cX12_set 82 = .ok (.lload_n 3, 1) := dk_33 (dk_at dksX12_set_3 12 rfl rfl)
theorem dX12_set_83 : decode cX12_set 83 = .ok (.l2i, 1) := dk_136 (dk_at dksX12_set_3 13 rfl rfl)
theorem dX12_set_84 : decode cX12_set 84 = .ok (.i2s, 1) := dk_147 (dk_at dksX12_set_3 14 rfl rfl)
theorem dX12_set_85 : decode cX12_set 85 = .ok (.i2l, 1) := dk_133 (dk_at dksX12_set_3 15 rfl rfl)
theorem dX12_set_86 : decode cX12_set 86 = .ok (.goto 16, 3) := dk_167 0 16 (dk_at dksX12_set_3 16 rfl rfl)
theorem dX12_set_89 : decode cX12_set 89 = .ok (.iload 6, 2) := dk_21 6 (dk_at dksX12_set_3 19 rfl rfl)
theorem dX12_set_91 : decode cX12_set 91 = .ok (.iconst 2, 1) := dk_5 (dk_at dksX12_set_3 21 rfl rfl)
theorem dX12_set_92 : decode cX12_set 92 = .ok (.if_icmp .ne 9, 3) := dk_160 0 9 (dk_at dksX12_set_4 0 rfl rfl)
theorem dX12_set_95 : decode cX12_set 95 = .ok (.lload_n 3, 1) := dk_33 (dk_at dksX12_set_4 3 rfl rfl)
theorem dX12_set_96 : decode cX12_set 96 = .ok (.l2i, 1) := dk_136 (dk_at dksX12_set_4 4 rfl rfl)
theorem dX12_set_97 : decode cX12_set 97 = .ok (.i2l, 1) := dk_133 (dk_at dksX12_set_4 5 rfl rfl)
theorem dX12_set_98 : decode cX12_set 98 = .ok (.goto 4, 3) := dk_167 0 4 (dk_at dksX12_set_4 6 rfl rfl)
theorem dX12_set_101 : decode cX12_set 101 = .ok (.lload_n 3, 1) := dk_33 (dk_at dksX12_set_4 9 rfl rfl)
theorem dX12_set_102 : decode cX12_set 102 = .ok (.lastore, 1) := dk_80 (dk_at dksX12_set_4 10 rfl rfl)
theorem dX12_set_103 : decode cX12_set 103 = .ok (.iconst 1, 1) := dk_4 (dk_at dksX12_set_4 11 rfl rfl)
theorem dX12_set_104 : decode cX12_set 104 = .ok (.ireturn, 1) := dk_172 (dk_at dksX12_set_4 12 rfl rfl)
abbrev cX12_noRow : ByteArray := prog_22_method_14_code
def yX12_noRow : MethodName := ⟨RX12, "noRow", "(I)I"⟩
def dkwX12_noRow_2 : List UInt8 := [172]
abbrev dktX12_noRow_2 : List UInt8 := dkwX12_noRow_2 ++ []
def dkwX12_noRow_1 : List UInt8 := [182, 0, 96, 154, 0, 6, 16, 254, 172, 42, 180, 0, 7, 27, 46, 156, 0, 8, 16, 253, 167, 0, 4, 3]
abbrev dktX12_noRow_1 : List UInt8 := dkwX12_noRow_1 ++ dktX12_noRow_2
def dkwX12_noRow_0 : List UInt8 := [27, 3, 16, 7, 184, 0, 85, 154, 0, 5, 2, 172, 42, 180, 0, 7, 27, 46, 155, 0, 14, 42, 27]
abbrev dktX12_noRow_0 : List UInt8 := dkwX12_noRow_0 ++ dktX12_noRow_1
theorem dksX12_noRow_0 : cX12_noRow.data.toList.drop 0 = dktX12_noRow_0 := by decide +kernel
theorem dksX12_noRow_1 : cX12_noRow.data.toList.drop 23 = dktX12_noRow_1 := dk_seg dksX12_noRow_0 23 rfl rfl
theorem dksX12_noRow_2 : cX12_noRow.data.toList.drop 47 = dktX12_noRow_2 := dk_seg dksX12_noRow_1 24 rfl rfl
theorem dX12_noRow_0 : decode cX12_noRow 0 = .ok (.iload_n 1, 1) := dk_27 (dk_at dksX12_noRow_0 0 rfl rfl)
theorem dX12_noRow_1 : decode cX12_noRow 1 = .ok (.iconst 0, 1) := dk_3 (dk_at dksX12_noRow_0 1 rfl rfl)
theorem dX12_noRow_2 : decode cX12_noRow 2 = .ok (.bipush 7, 2) := dk_16 7 (dk_at dksX12_noRow_0 2 rfl rfl)
theorem dX12_noRow_4 : decode cX12_noRow 4 = .ok (.invokestatic 85, 3) := dk_184 0 85 (dk_at dksX12_noRow_0 4 rfl rfl)
theorem dX12_noRow_7 : decode cX12_noRow 7 = .ok (.ifCond .ne 5, 3) := dk_154 0 5 (dk_at dksX12_noRow_0 7 rfl rfl)
theorem dX12_noRow_10 : decode cX12_noRow 10 = .ok (.iconst (-1), 1) := dk_2 (dk_at dksX12_noRow_0 10 rfl rfl)
theorem dX12_noRow_11 : decode cX12_noRow 11 = .ok (.ireturn, 1) := dk_172 (dk_at dksX12_noRow_0 11 rfl rfl)
theorem dX12_noRow_12 : decode cX12_noRow 12 = .ok (.aload_n 0, 1) := dk_42 (dk_at dksX12_noRow_0 12 rfl rfl)
theorem dX12_noRow_13 : decode cX12_noRow 13 = .ok (.getfield 7, 3) := dk_180 0 7 (dk_at dksX12_noRow_0 13 rfl rfl)
theorem dX12_noRow_16 : decode cX12_noRow 16 = .ok (.iload_n 1, 1) := dk_27 (dk_at dksX12_noRow_0 16 rfl rfl)
theorem dX12_noRow_17 : decode cX12_noRow 17 = .ok (.iaload, 1) := dk_46 (dk_at dksX12_noRow_0 17 rfl rfl)
theorem dX12_noRow_18 : decode cX12_noRow 18 = .ok (.ifCond .lt 14, 3) := dk_155 0 14 (dk_at dksX12_noRow_0 18 rfl rfl)
theorem dX12_noRow_21 : decode cX12_noRow 21 = .ok (.aload_n 0, 1) := dk_42 (dk_at dksX12_noRow_0 21 rfl rfl)
theorem dX12_noRow_22 : decode cX12_noRow 22 = .ok (.iload_n 1, 1) := dk_27 (dk_at dksX12_noRow_0 22 rfl rfl)
theorem dX12_noRow_23 : decode cX12_noRow 23 = .ok (.invokevirtual 96, 3) := dk_182 0 96 (dk_at dksX12_noRow_1 0 rfl rfl)
theorem dX12_noRow_26 : decode cX12_noRow 26 = .ok (.ifCond .ne 6, 3) := dk_154 0 6 (dk_at dksX12_noRow_1 3 rfl rfl)
theorem dX12_noRow_29 : decode cX12_noRow 29 = .ok (.bipush (-2), 2) := dk_16 254 (dk_at dksX12_noRow_1 6 rfl rfl)
theorem dX12_noRow_31 : decode cX12_noRow 31 = .ok (.ireturn, 1) := dk_172 (dk_at dksX12_noRow_1 8 rfl rfl)
theorem dX12_noRow_32 : decode cX12_noRow 32 = .ok (.aload_n 0, 1) := dk_42 (dk_at dksX12_noRow_1 9 rfl rfl)
theorem dX12_noRow_33 : decode cX12_noRow 33 = .ok (.getfield 7, 3) := dk_180 0 7 (dk_at dksX12_noRow_1 10 rfl rfl)
theorem dX12_noRow_36 : decode cX12_noRow 36 = .ok (.iload_n 1, 1) := dk_27 (dk_at dksX12_noRow_1 13 rfl rfl)
theorem dX12_noRow_37 : decode cX12_noRow 37 = .ok (.iaload, 1) := dk_46 (dk_at dksX12_noRow_1 14 rfl rfl)
theorem dX12_noRow_38 : decode cX12_noRow 38 = .ok (.ifCond .ge 8, 3) := dk_156 0 8 (dk_at dksX12_noRow_1 15 rfl rfl)
theorem dX12_noRow_41 : decode cX12_noRow 41 = .ok (.bipush (-3), 2) := dk_16 253 (dk_at dksX12_noRow_1 18 rfl rfl)
theorem dX12_noRow_43 : decode cX12_noRow 43 = .ok (.goto 4, 3) := dk_167 0 4 (dk_at dksX12_noRow_1 20 rfl rfl)
theorem dX12_noRow_46 : decode cX12_noRow 46 = .ok (.iconst 0, 1) := dk_3 (dk_at dksX12_noRow_1 23 rfl rfl)
theorem dX12_noRow_47 : decode cX12_noRow 47 = .ok (.ireturn, 1) := dk_172 (dk_at dksX12_noRow_2 0 rfl rfl)
abbrev cX12_isRow : ByteArray := prog_22_method_12_code
def yX12_isRow : MethodName := ⟨RX12, "isRow", "(I)Z"⟩
def dkwX12_isRow_0 : List UInt8 := [42, 180, 0, 7, 27, 46, 16, 100, 161, 0, 7, 4, 167, 0, 4, 3, 172]
abbrev dktX12_isRow_0 : List UInt8 := dkwX12_isRow_0 ++ []
theorem dksX12_isRow_0 : cX12_isRow.data.toList.drop 0 = dktX12_isRow_0 := by decide +kernel
theorem dX12_isRow_0 : decode cX12_isRow 0 = .ok (.aload_n 0, 1) := dk_42 (dk_at dksX12_isRow_0 0 rfl rfl)
theorem dX12_isRow_1 : decode cX12_isRow 1 = .ok (.getfield 7, 3) := dk_180 0 7 (dk_at dksX12_isRow_0 1 rfl rfl)
theorem dX12_isRow_4 : decode cX12_isRow 4 = .ok (.iload_n 1, 1) := dk_27 (dk_at dksX12_isRow_0 4 rfl rfl)
theorem dX12_isRow_5 : decode cX12_isRow 5 = .ok (.iaload, 1) := dk_46 (dk_at dksX12_isRow_0 5 rfl rfl)
theorem dX12_isRow_6 : decode cX12_isRow 6 = .ok (.bipush 100, 2) := dk_16 100 (dk_at dksX12_isRow_0 6 rfl rfl)
theorem dX12_isRow_8 : decode cX12_isRow 8 = .ok (.if_icmp .lt 7, 3) := dk_161 0 7 (dk_at dksX12_isRow_0 8 rfl rfl)
theorem dX12_isRow_11 : decode cX12_isRow 11 = .ok (.iconst 1, 1) := dk_4 (dk_at dksX12_isRow_0 11 rfl rfl)
theorem dX12_isRow_12 : decode cX12_isRow 12 = .ok (.goto 4, 3) := dk_167 0 4 (dk_at dksX12_isRow_0 12 rfl rfl)
theorem dX12_isRow_15 : decode cX12_isRow 15 = .ok (.iconst 0, 1) := dk_3 (dk_at dksX12_isRow_0 15 rfl rfl)
theorem dX12_isRow_16 : decode cX12_isRow 16 = .ok (.ireturn, 1) := dk_172 (dk_at dksX12_isRow_0 16 rfl rfl)
abbrev cX12_copy : ByteArray := prog_22_method_16_code
def yX12_copy : MethodName := ⟨RX12, "copy", "(IIIII)I"⟩
def dkwX12_copy_12 : List UInt8 := [17, 0, 160, 27, 104, 29, 96, 21, 6, 96, 47, 80, 132, 6, 1, 167, 255, 215, 4, 172]
abbrev dktX12_copy_12 : List UInt8 := dkwX12_copy_12 ++ []
def dkwX12_copy_11 : List UInt8 := [162, 0, 40, 42, 180, 0, 16, 17, 0, 160, 28, 104, 21, 4, 96, 21, 6, 96, 42, 180, 0, 16]
abbrev dktX12_copy_11 : List UInt8 := dkwX12_copy_11 ++ dktX12_copy_12
def dkwX12_copy_10 : List UInt8 := [96, 21, 6, 96, 47, 80, 132, 6, 255, 167, 255, 217, 167, 0, 50, 3, 54, 6, 21, 6, 21, 5]
abbrev dktX12_copy_10 : List UInt8 := dkwX12_copy_10 ++ dktX12_copy_11
def dkwX12_copy_9 : List UInt8 := [180, 0, 16, 17, 0, 160, 28, 104, 21, 4, 96, 21, 6, 96, 42, 180, 0, 16, 17, 0, 160, 27, 104, 29]
abbrev dktX12_copy_9 : List UInt8 := dkwX12_copy_9 ++ dktX12_copy_10
def dkwX12_copy_8 : List UInt8 := [28, 160, 0, 60, 29, 21, 4, 162, 0, 54, 21, 5, 4, 100, 54, 6, 21, 6, 155, 0, 40, 42]
abbrev dktX12_copy_8 : List UInt8 := dkwX12_copy_8 ++ dktX12_copy_9
def dkwX12_copy_7 : List UInt8 := [133, 21, 5, 133, 97, 42, 180, 0, 13, 28, 46, 133, 148, 158, 0, 10, 42, 16, 251, 182, 0, 78, 172, 27]
abbrev dktX12_copy_7 : List UInt8 := dkwX12_copy_7 ++ dktX12_copy_8
def dkwX12_copy_6 : List UInt8 := [21, 4, 155, 0, 38, 29, 133, 21, 5, 133, 97, 42, 180, 0, 13, 27, 46, 133, 148, 157, 0, 21, 21, 4]
abbrev dktX12_copy_6 : List UInt8 := dkwX12_copy_6 ++ dktX12_copy_7
def dkwX12_copy_5 : List UInt8 := [42, 16, 253, 182, 0, 78, 172, 21, 5, 156, 0, 10, 42, 16, 252, 182, 0, 78, 172, 29, 155, 0, 43]
abbrev dktX12_copy_5 : List UInt8 := dkwX12_copy_5 ++ dktX12_copy_6
def dkwX12_copy_4 : List UInt8 := [16, 254, 182, 0, 78, 172, 42, 180, 0, 7, 27, 46, 155, 0, 12, 42, 180, 0, 7, 28, 46, 156, 0, 10]
abbrev dktX12_copy_4 : List UInt8 := dkwX12_copy_4 ++ dktX12_copy_5
def dkwX12_copy_3 : List UInt8 := [42, 28, 182, 0, 96, 153, 0, 25, 42, 180, 0, 7, 27, 46, 42, 180, 0, 7, 28, 46, 159, 0, 10, 42]
abbrev dktX12_copy_3 : List UInt8 := dkwX12_copy_3 ++ dktX12_copy_4
def dkwX12_copy_2 : List UInt8 := [180, 0, 7, 28, 46, 155, 0, 11, 42, 28, 182, 0, 96, 153, 0, 34, 42, 27, 182, 0, 96, 153, 0, 33]
abbrev dktX12_copy_2 : List UInt8 := dkwX12_copy_2 ++ dktX12_copy_3
def dkwX12_copy_1 : List UInt8 := [182, 0, 78, 172, 42, 180, 0, 7, 27, 46, 155, 0, 11, 42, 27, 182, 0, 96, 153, 0, 51, 42]
abbrev dktX12_copy_1 : List UInt8 := dkwX12_copy_1 ++ dktX12_copy_2
def dkwX12_copy_0 : List UInt8 := [27, 3, 16, 7, 184, 0, 85, 153, 0, 13, 28, 3, 16, 7, 184, 0, 85, 154, 0, 9, 42, 2]
abbrev dktX12_copy_0 : List UInt8 := dkwX12_copy_0 ++ dktX12_copy_1
theorem dksX12_copy_0 : cX12_copy.data.toList.drop 0 = dktX12_copy_0 := by decide +kernel
theorem dksX12_copy_1 : cX12_copy.data.toList.drop 22 = dktX12_copy_1 := dk_seg dksX12_copy_0 22 rfl rfl
theorem dksX12_copy_2 : cX12_copy.data.toList.drop 44 = dktX12_copy_2 := dk_seg dksX12_copy_1 22 rfl rfl
theorem dksX12_copy_3 : cX12_copy.data.toList.drop 68 = dktX12_copy_3 := dk_seg dksX12_copy_2 24 rfl rfl
theorem dksX12_copy_4 : cX12_copy.data.toList.drop 92 = dktX12_copy_4 := dk_seg dksX12_copy_3 24 rfl rfl
theorem dksX12_copy_5 : cX12_copy.data.toList.drop 116 = dktX12_copy_5 := dk_seg dksX12_copy_4 24 rfl rfl
theorem dksX12_copy_6 : cX12_copy.data.toList.drop 139 = dktX12_copy_6 := dk_seg dksX12_copy_5 23 rfl rfl
theorem dksX12_copy_7 : cX12_copy.data.toList.drop 163 = dktX12_copy_7 := dk_seg dksX12_copy_6 24 rfl rfl
theorem dksX12_copy_8 : cX12_copy.data.toList.drop 187 = dktX12_copy_8 := dk_seg dksX12_copy_7 24 rfl rfl
theorem dksX12_copy_9 : cX12_copy.data.toList.drop 209 = dktX12_copy_9 := dk_seg dksX12_copy_8 22 rfl rfl
theorem dksX12_copy_10 : cX12_copy.data.toList.drop 233 = dktX12_copy_10 := dk_seg dksX12_copy_9 24 rfl rfl
theorem dksX12_copy_11 : cX12_copy.data.toList.drop 255 = dktX12_copy_11 := dk_seg dksX12_copy_10 22 rfl rfl
theorem dksX12_copy_12 : cX12_copy.data.toList.drop 277 = dktX12_copy_12 := dk_seg dksX12_copy_11 22 rfl rfl
theorem dX12_copy_0 : decode cX12_copy 0 = .ok (.iload_n 1, 1) := dk_27 (dk_at dksX12_copy_0 0 rfl rfl)
theorem dX12_copy_1 : decode cX12_copy 1 = .ok (.iconst 0, 1) := dk_3 (dk_at dksX12_copy_0 1 rfl rfl)
theorem dX12_copy_2 : decode cX12_copy 2 = .ok (.bipush 7, 2) := dk_16 7 (dk_at dksX12_copy_0 2 rfl rfl)
theorem dX12_copy_4 : decode cX12_copy 4 = .ok (.invokestatic 85, 3) := dk_184 0 85 (dk_at dksX12_copy_0 4 rfl rfl)
theorem dX12_copy_7 : decode cX12_copy 7 = .ok (.ifCond .eq 13, 3) := dk_153 0 13 (dk_at dksX12_copy_0 7 rfl rfl)
theorem dX12_copy_10 : decode cX12_copy 10 = .ok (.iload_n 2, 1) := dk_28 (dk_at dksX12_copy_0 10 rfl rfl)
theorem dX12_copy_11 : decode cX12_copy 11 = .ok (.iconst 0, 1) := dk_3 (dk_at dksX12_copy_0 11 rfl rfl)
theorem dX12_copy_12 : decode cX12_copy 12 = .ok (.bipush 7, 2) := dk_16 7 (dk_at dksX12_copy_0 12 rfl rfl)
theorem dX12_copy_14 : decode cX12_copy 14 = .ok (.invokestatic 85, 3) := dk_184 0 85 (dk_at dksX12_copy_0 14 rfl rfl)
theorem dX12_copy_17 : decode cX12_copy 17 = .ok (.ifCond .ne 9, 3) := dk_154 0 9 (dk_at dksX12_copy_0 17 rfl rfl)
theorem dX12_copy_20 : decode cX12_copy 20 = .ok (.aload_n 0, 1) := dk_42 (dk_at dksX12_copy_0 20 rfl rfl)
theorem dX12_copy_21 : decode cX12_copy 21 = .ok (.iconst (-1), 1) := dk_2 (dk_at dksX12_copy_0 21 rfl rfl)
theorem dX12_copy_22 : decode cX12_copy 22 = .ok (.invokevirtual 78, 3) := dk_182 0 78 (dk_at dksX12_copy_1 0 rfl rfl)
theorem dX12_copy_25 : decode cX12_copy 25 = .ok (.ireturn, 1) := dk_172 (dk_at dksX12_copy_1 3 rfl rfl)
theorem dX12_copy_26 : decode cX12_copy 26 = .ok (.aload_n 0, 1) := dk_42 (dk_at dksX12_copy_1 4 rfl rfl)
theorem dX12_copy_27 : decode cX12_copy 27 = .ok (.getfield 7, 3) := dk_180 0 7 (dk_at dksX12_copy_1 5 rfl rfl)
theorem dX12_copy_30 : decode cX12_copy 30 = .ok (.iload_n 1, 1) := dk_27 (dk_at dksX12_copy_1 8 rfl rfl)
theorem dX12_copy_31 : decode cX12_copy 31 = .ok (.iaload, 1) := dk_46 (dk_at dksX12_copy_1 9 rfl rfl)
theorem dX12_copy_32 : decode cX12_copy 32 = .ok (.ifCond .lt 11, 3) := dk_155 0 11 (dk_at dksX12_copy_1 10 rfl rfl)
theorem dX12_copy_35 : decode cX12_copy 35 = .ok (.aload_n 0, 1) := dk_42 (dk_at dksX12_copy_1 13 rfl rfl)
theorem dX12_copy_36 : decode cX12_copy 36 = .ok (.iload_n 1, 1) := dk_27 (dk_at dksX12_copy_1 14 rfl rfl)
theorem dX12_copy_37 : decode cX12_copy 37 = .ok (.invokevirtual 96, 3) := dk_182 0 96 (dk_at dksX12_copy_1 15 rfl rfl)
theorem dX12_copy_40 : decode cX12_copy 40 = .ok (.ifCond .eq 51, 3) := dk_153 0 51 (dk_at dksX12_copy_1 18 rfl rfl)
theorem dX12_copy_43 : decode cX12_copy 43 = .ok (.aload_n 0, 1) := dk_42 (dk_at dksX12_copy_1 21 rfl rfl)
theorem dX12_copy_44 : decode cX12_copy 44 = .ok (.getfield 7, 3) := dk_180 0 7 (dk_at dksX12_copy_2 0 rfl rfl)
theorem dX12_copy_47 : decode cX12_copy 47 = .ok (.iload_n 2, 1) := dk_28 (dk_at dksX12_copy_2 3 rfl rfl)
theorem dX12_copy_48 : decode cX12_copy 48 = .ok (.iaload, 1) := dk_46 (dk_at dksX12_copy_2 4 rfl rfl)
theorem dX12_copy_49 : decode cX12_copy 49 = .ok (.ifCond .lt 11, 3) := dk_155 0 11 (dk_at dksX12_copy_2 5 rfl rfl)
theorem dX12_copy_52 : decode cX12_copy 52 = .ok (.aload_n 0, 1) := dk_42 (dk_at dksX12_copy_2 8 rfl rfl)
theorem dX12_copy_53 : decode cX12_copy 53 = .ok (.iload_n 2, 1) := dk_28 (dk_at dksX12_copy_2 9 rfl rfl)
theorem dX12_copy_54 : decode cX12_copy 54 = .ok (.invokevirtual 96, 3) := dk_182 0 96 (dk_at dksX12_copy_2 10 rfl rfl)
theorem dX12_copy_57 : decode cX12_copy 57 = .ok (.ifCond .eq 34, 3) := dk_153 0 34 (dk_at dksX12_copy_2 13 rfl rfl)
theorem dX12_copy_60 : decode cX12_copy 60 = .ok (.aload_n 0, 1) := dk_42 (dk_at dksX12_copy_2 16 rfl rfl)
theorem dX12_copy_61 : decode cX12_copy 61 = .ok (.iload_n 1, 1) := dk_27 (dk_at dksX12_copy_2 17 rfl rfl)
theorem dX12_copy_62 : decode cX12_copy 62 = .ok (.invokevirtual 96, 3) := dk_182 0 96 (dk_at dksX12_copy_2 18 rfl rfl)
theorem dX12_copy_65 : decode cX12_copy 65 = .ok (.ifCond .eq 33, 3) := dk_153 0 33 (dk_at dksX12_copy_2 21 rfl rfl)
theorem dX12_copy_68 : decode cX12_copy 68 = .ok (.aload_n 0, 1) := dk_42 (dk_at dksX12_copy_3 0 rfl rfl)
theorem dX12_copy_69 : decode cX12_copy 69 = .ok (.iload_n 2, 1) := dk_28 (dk_at dksX12_copy_3 1 rfl rfl)
theorem dX12_copy_70 : decode cX12_copy 70 = .ok (.invokevirtual 96, 3) := dk_182 0 96 (dk_at dksX12_copy_3 2 rfl rfl)
theorem dX12_copy_73 : decode cX12_copy 73 = .ok (.ifCond .eq 25, 3) := dk_153 0 25 (dk_at dksX12_copy_3 5 rfl rfl)
theorem dX12_copy_76 : decode cX12_copy 76 = .ok (.aload_n 0, 1) := dk_42 (dk_at dksX12_copy_3 8 rfl rfl)
theorem dX12_copy_77 : decode cX12_copy 77 = .ok (.getfield 7, 3) := dk_180 0 7 (dk_at dksX12_copy_3 9 rfl rfl)
theorem dX12_copy_80 : decode cX12_copy 80 = .ok (.iload_n 1, 1) := dk_27 (dk_at dksX12_copy_3 12 rfl rfl)
theorem dX12_copy_81 : decode cX12_copy 81 = .ok (.iaload, 1) := dk_46 (dk_at dksX12_copy_3 13 rfl rfl)
theorem dX12_copy_82 : decode cX12_copy 82 = .ok (.aload_n 0, 1) := dk_42 (dk_at dksX12_copy_3 14 rfl rfl)
theorem dX12_copy_83 : decode cX12_copy 83 = .ok (.getfield 7, 3) := dk_180 0 7 (dk_at dksX12_copy_3 15 rfl rfl)
theorem dX12_copy_86 : decode cX12_copy 86 = .ok (.iload_n 2, 1) := dk_28 (dk_at dksX12_copy_3 18 rfl rfl)
theorem dX12_copy_87 : decode cX12_copy 87 = .ok (.iaload, 1) := dk_46 (dk_at dksX12_copy_3 19 rfl rfl)
theorem dX12_copy_88 : decode cX12_copy 88 = .ok (.if_icmp .eq 10, 3) := dk_159 0 10 (dk_at dksX12_copy_3 20 rfl rfl)
theorem dX12_copy_91 : decode cX12_copy 91 = .ok (.aload_n 0, 1) := dk_42 (dk_at dksX12_copy_3 23 rfl rfl)
theorem dX12_copy_92 : decode cX12_copy 92 = .ok (.bipush (-2), 2) := dk_16 254 (dk_at dksX12_copy_4 0 rfl rfl)
theorem dX12_copy_94 : decode cX12_copy 94 = .ok (.invokevirtual 78, 3) := dk_182 0 78 (dk_at dksX12_copy_4 2 rfl rfl)
theorem dX12_copy_97 : decode cX12_copy 97 = .ok (.ireturn, 1) := dk_172 (dk_at dksX12_copy_4 5 rfl rfl)
theorem dX12_copy_98 : decode cX12_copy 98 = .ok (.aload_n 0, 1) := dk_42 (dk_at dksX12_copy_4 6 rfl rfl)
theorem dX12_copy_99 : decode cX12_copy 99 = .ok (.getfield 7, 3) := dk_180 0 7 (dk_at dksX12_copy_4 7 rfl rfl)
theorem dX12_copy_102 : decode cX12_copy 102 = .ok (.iload_n 1, 1) := dk_27 (dk_at dksX12_copy_4 10 rfl rfl)
theorem dX12_copy_103 : decode cX12_copy 103 = .ok (.iaload, 1) := dk_46 (dk_at dksX12_copy_4 11 rfl rfl)
theorem dX12_copy_104 : decode cX12_copy 104 = .ok (.ifCond .lt 12, 3) := dk_155 0 12 (dk_at dksX12_copy_4 12 rfl rfl)
theorem dX12_copy_107 : decode cX12_copy 107 = .ok (.aload_n 0, 1) := dk_42 (dk_at dksX12_copy_4 15 rfl rfl)
theorem dX12_copy_108 : decode cX12_copy 108 = .ok (.getfield 7, 3) := dk_180 0 7 (dk_at dksX12_copy_4 16 rfl rfl)
theorem dX12_copy_111 : decode cX12_copy 111 = .ok (.iload_n 2, 1) := dk_28 (dk_at dksX12_copy_4 19 rfl rfl)
theorem dX12_copy_112 : decode cX12_copy 112 = .ok (.iaload, 1) := dk_46 (dk_at dksX12_copy_4 20 rfl rfl)
theorem dX12_copy_113 : decode cX12_copy 113 = .ok (.ifCond .ge 10, 3) := dk_156 0 10 (dk_at dksX12_copy_4 21 rfl rfl)
theorem dX12_copy_116 : decode cX12_copy 116 = .ok (.aload_n 0, 1) := dk_42 (dk_at dksX12_copy_5 0 rfl rfl)
theorem dX12_copy_117 : decode cX12_copy 117 = .ok (.bipush (-3), 2) := dk_16 253 (dk_at dksX12_copy_5 1 rfl rfl)
theorem dX12_copy_119 : decode cX12_copy 119 = .ok (.invokevirtual 78, 3) := dk_182 0 78 (dk_at dksX12_copy_5 3 rfl rfl)
theorem dX12_copy_122 : decode cX12_copy 122 = .ok (.ireturn, 1) := dk_172 (dk_at dksX12_copy_5 6 rfl rfl)
theorem dX12_copy_123 : decode cX12_copy 123 = .ok (.iload 5, 2) := dk_21 5 (dk_at dksX12_copy_5 7 rfl rfl)
theorem dX12_copy_125 : decode cX12_copy 125 = .ok (.ifCond .ge 10, 3) := dk_156 0 10 (dk_at dksX12_copy_5 9 rfl rfl)
theorem dX12_copy_128 : decode cX12_copy 128 = .ok (.aload_n 0, 1) := dk_42 (dk_at dksX12_copy_5 12 rfl rfl)
theorem dX12_copy_129 : decode cX12_copy 129 = .ok (.bipush (-4), 2) := dk_16 252 (dk_at dksX12_copy_5 13 rfl rfl)
theorem dX12_copy_131 : decode cX12_copy 131 = .ok (.invokevirtual 78, 3) := dk_182 0 78 (dk_at dksX12_copy_5 15 rfl rfl)
theorem dX12_copy_134 : decode cX12_copy 134 = .ok (.ireturn, 1) := dk_172 (dk_at dksX12_copy_5 18 rfl rfl)
theorem dX12_copy_135 : decode cX12_copy 135 = .ok (.iload_n 3, 1) := dk_29 (dk_at dksX12_copy_5 19 rfl rfl)
theorem dX12_copy_136 : decode cX12_copy 136 = .ok (.ifCond .lt 43, 3) := dk_155 0 43 (dk_at dksX12_copy_5 20 rfl rfl)
theorem dX12_copy_139 : decode cX12_copy 139 = .ok (.iload 4, 2) := dk_21 4 (dk_at dksX12_copy_6 0 rfl rfl)
theorem dX12_copy_141 : decode cX12_copy 141 = .ok (.ifCond .lt 38, 3) := dk_155 0 38 (dk_at dksX12_copy_6 2 rfl rfl)
theorem dX12_copy_144 : decode cX12_copy 144 = .ok (.iload_n 3, 1) := dk_29 (dk_at dksX12_copy_6 5 rfl rfl)
theorem dX12_copy_145 : decode cX12_copy 145 = .ok (.i2l, 1) := dk_133 (dk_at dksX12_copy_6 6 rfl rfl)
theorem dX12_copy_146 : decode cX12_copy 146 = .ok (.iload 5, 2) := dk_21 5 (dk_at dksX12_copy_6 7 rfl rfl)
theorem dX12_copy_148 : decode cX12_copy 148 = .ok (.i2l, 1) := dk_133 (dk_at dksX12_copy_6 9 rfl rfl)
theorem dX12_copy_149 : decode cX12_copy 149 = .ok (.ladd, 1) := dk_97 (dk_at dksX12_copy_6 10 rfl rfl)
theorem dX12_copy_150 : decode cX12_copy 150 = .ok (.aload_n 0, 1) := dk_42 (dk_at dksX12_copy_6 11 rfl rfl)
theorem dX12_copy_151 : decode cX12_copy 151 = .ok (.getfield 13, 3) := dk_180 0 13 (dk_at dksX12_copy_6 12 rfl rfl)
theorem dX12_copy_154 : decode cX12_copy 154 = .ok (.iload_n 1, 1) := dk_27 (dk_at dksX12_copy_6 15 rfl rfl)
theorem dX12_copy_155 : decode cX12_copy 155 = .ok (.iaload, 1) := dk_46 (dk_at dksX12_copy_6 16 rfl rfl)
theorem dX12_copy_156 : decode cX12_copy 156 = .ok (.i2l, 1) := dk_133 (dk_at dksX12_copy_6 17 rfl rfl)
theorem dX12_copy_157 : decode cX12_copy 157 = .ok (.lcmp, 1) := dk_148 (dk_at dksX12_copy_6 18 rfl rfl)
theorem dX12_copy_158 : decode cX12_copy 158 = .ok (.ifCond .gt 21, 3) := dk_157 0 21 (dk_at dksX12_copy_6 19 rfl rfl)
theorem dX12_copy_161 : decode cX12_copy 161 = .ok (.iload 4, 2) := dk_21 4 (dk_at dksX12_copy_6 22 rfl rfl)
theorem dX12_copy_163 : decode cX12_copy 163 = .ok (.i2l, 1) := dk_133 (dk_at dksX12_copy_7 0 rfl rfl)
theorem dX12_copy_164 : decode cX12_copy 164 = .ok (.iload 5, 2) := dk_21 5 (dk_at dksX12_copy_7 1 rfl rfl)
theorem dX12_copy_166 : decode cX12_copy 166 = .ok (.i2l, 1) := dk_133 (dk_at dksX12_copy_7 3 rfl rfl)
theorem dX12_copy_167 : decode cX12_copy 167 = .ok (.ladd, 1) := dk_97 (dk_at dksX12_copy_7 4 rfl rfl)
theorem dX12_copy_168 : decode cX12_copy 168 = .ok (.aload_n 0, 1) := dk_42 (dk_at dksX12_copy_7 5 rfl rfl)
theorem dX12_copy_169 : decode cX12_copy 169 = .ok (.getfield 13, 3) := dk_180 0 13 (dk_at dksX12_copy_7 6 rfl rfl)
theorem dX12_copy_172 : decode cX12_copy 172 = .ok (.iload_n 2, 1) := dk_28 (dk_at dksX12_copy_7 9 rfl rfl)
theorem dX12_copy_173 : decode cX12_copy 173 = .ok (.iaload, 1) := dk_46 (dk_at dksX12_copy_7 10 rfl rfl)
theorem dX12_copy_174 : decode cX12_copy 174 = .ok (.i2l, 1) := dk_133 (dk_at dksX12_copy_7 11 rfl rfl)
theorem dX12_copy_175 : decode cX12_copy 175 = .ok (.lcmp, 1) := dk_148 (dk_at dksX12_copy_7 12 rfl rfl)
theorem dX12_copy_176 : decode cX12_copy 176 = .ok (.ifCond .le 10, 3) := dk_158 0 10 (dk_at dksX12_copy_7 13 rfl rfl)
theorem dX12_copy_179 : decode cX12_copy 179 = .ok (.aload_n 0, 1) := dk_42 (dk_at dksX12_copy_7 16 rfl rfl)
theorem dX12_copy_180 : decode cX12_copy 180 = .ok (.bipush (-5), 2) := dk_16 251 (dk_at dksX12_copy_7 17 rfl rfl)
theorem dX12_copy_182 : decode cX12_copy 182 = .ok (.invokevirtual 78, 3) := dk_182 0 78 (dk_at dksX12_copy_7 19 rfl rfl)
theorem dX12_copy_185 : decode cX12_copy 185 = .ok (.ireturn, 1) := dk_172 (dk_at dksX12_copy_7 22 rfl rfl)
theorem dX12_copy_186 : decode cX12_copy 186 = .ok (.iload_n 1, 1) := dk_27 (dk_at dksX12_copy_7 23 rfl rfl)
theorem dX12_copy_187 : decode cX12_copy 187 = .ok (.iload_n 2, 1) := dk_28 (dk_at dksX12_copy_8 0 rfl rfl)
theorem dX12_copy_188 : decode cX12_copy 188 = .ok (.if_icmp .ne 60, 3) := dk_160 0 60 (dk_at dksX12_copy_8 1 rfl rfl)
theorem dX12_copy_191 : decode cX12_copy 191 = .ok (.iload_n 3, 1) := dk_29 (dk_at dksX12_copy_8 4 rfl rfl)
theorem dX12_copy_192 : decode cX12_copy 192 = .ok (.iload 4, 2) := dk_21 4 (dk_at dksX12_copy_8 5 rfl rfl)
theorem dX12_copy_194 : decode cX12_copy 194 = .ok (.if_icmp .ge 54, 3) := dk_162 0 54 (dk_at dksX12_copy_8 7 rfl rfl)
theorem dX12_copy_197 : decode cX12_copy 197 = .ok (.iload 5, 2) := dk_21 5 (dk_at dksX12_copy_8 10 rfl rfl)
theorem dX12_copy_199 : decode cX12_copy 199 = .ok (.iconst 1, 1) := dk_4 (dk_at dksX12_copy_8 12 rfl rfl)
theorem dX12_copy_200 : decode cX12_copy 200 = .ok (.isub, 1) := dk_100 (dk_at dksX12_copy_8 13 rfl rfl)
theorem dX12_copy_201 : decode cX12_copy 201 = .ok (.istore 6, 2) := dk_54 6 (dk_at dksX12_copy_8 14 rfl rfl)
theorem dX12_copy_203 : decode cX12_copy 203 = .ok (.iload 6, 2) := dk_21 6 (dk_at dksX12_copy_8 16 rfl rfl)
theorem dX12_copy_205 : decode cX12_copy 205 = .ok (.ifCond .lt 40, 3) := dk_155 0 40 (dk_at dksX12_copy_8 18 rfl rfl)
theorem dX12_copy_208 : decode cX12_copy 208 = .ok (.aload_n 0, 1) := dk_42 (dk_at dksX12_copy_8 21 rfl rfl)
theorem dX12_copy_209 : decode cX12_copy 209 = .ok (.getfield 16, 3) := dk_180 0 16 (dk_at dksX12_copy_9 0 rfl rfl)
theorem dX12_copy_212 : decode cX12_copy 212 = .ok (.sipush 160, 3) := dk_17 0 160 (dk_at dksX12_copy_9 3 rfl rfl)
theorem dX12_copy_215 : decode cX12_copy 215 = .ok (.iload_n 2, 1) := dk_28 (dk_at dksX12_copy_9 6 rfl rfl)
theorem dX12_copy_216 : decode cX12_copy 216 = .ok (.imul, 1) := dk_104 (dk_at dksX12_copy_9 7 rfl rfl)
theorem dX12_copy_217 : decode cX12_copy 217 = .ok (.iload 4, 2) := dk_21 4 (dk_at dksX12_copy_9 8 rfl rfl)
theorem dX12_copy_219 : decode cX12_copy 219 = .ok (.iadd, 1) := dk_96 (dk_at dksX12_copy_9 10 rfl rfl)
theorem dX12_copy_220 : decode cX12_copy 220 = .ok (.iload 6, 2) := dk_21 6 (dk_at dksX12_copy_9 11 rfl rfl)
theorem dX12_copy_222 : decode cX12_copy 222 = .ok (.iadd, 1) := dk_96 (dk_at dksX12_copy_9 13 rfl rfl)
theorem dX12_copy_223 : decode cX12_copy 223 = .ok (.aload_n 0, 1) := dk_42 (dk_at dksX12_copy_9 14 rfl rfl)
theorem dX12_copy_224 : decode cX12_copy 224 = .ok (.getfield 16, 3) := dk_180 0 16 (dk_at dksX12_copy_9 15 rfl rfl)
theorem dX12_copy_227 : decode cX12_copy 227 = .ok (.sipush 160, 3) := dk_17 0 160 (dk_at dksX12_copy_9 18 rfl rfl)
theorem dX12_copy_230 : decode cX12_copy 230 = .ok (.iload_n 1, 1) := dk_27 (dk_at dksX12_copy_9 21 rfl rfl)
theorem dX12_copy_231 : decode cX12_copy 231 = .ok (.imul, 1) := dk_104 (dk_at dksX12_copy_9 22 rfl rfl)
theorem dX12_copy_232 : decode cX12_copy 232 = .ok (.iload_n 3, 1) := dk_29 (dk_at dksX12_copy_9 23 rfl rfl)
theorem dX12_copy_233 : decode cX12_copy 233 = .ok (.iadd, 1) := dk_96 (dk_at dksX12_copy_10 0 rfl rfl)
theorem dX12_copy_234 : decode cX12_copy 234 = .ok (.iload 6, 2) := dk_21 6 (dk_at dksX12_copy_10 1 rfl rfl)
theorem dX12_copy_236 : decode cX12_copy 236 = .ok (.iadd, 1) := dk_96 (dk_at dksX12_copy_10 3 rfl rfl)
theorem dX12_copy_237 : decode cX12_copy 237 = .ok (.laload, 1) := dk_47 (dk_at dksX12_copy_10 4 rfl rfl)
theorem dX12_copy_238 : decode cX12_copy 238 = .ok (.lastore, 1) := dk_80 (dk_at dksX12_copy_10 5 rfl rfl)
theorem dX12_copy_239 : decode cX12_copy 239 = .ok (.iinc 6 (-1), 3) := dk_132 6 255 (dk_at dksX12_copy_10 6 rfl rfl)
theorem dX12_copy_242 : decode cX12_copy 242 = .ok (.goto (-39), 3) := dk_167 255 217 (dk_at dksX12_copy_10 9 rfl rfl)
theorem dX12_copy_245 : decode cX12_copy 245 = .ok (.goto 50, 3) := dk_167 0 50 (dk_at dksX12_copy_10 12 rfl rfl)
theorem dX12_copy_248 : decode cX12_copy 248 = .ok (.iconst 0, 1) := dk_3 (dk_at dksX12_copy_10 15 rfl rfl)
theorem dX12_copy_249 : decode cX12_copy 249 = .ok (.istore 6, 2) := dk_54 6 (dk_at dksX12_copy_10 16 rfl rfl)
theorem dX12_copy_251 : decode cX12_copy 251 = .ok (.iload 6, 2) := dk_21 6 (dk_at dksX12_copy_10 18 rfl rfl)
theorem dX12_copy_253 : decode cX12_copy 253 = .ok (.iload 5, 2) := dk_21 5 (dk_at dksX12_copy_10 20 rfl rfl)
theorem dX12_copy_255 : decode cX12_copy 255 = .ok (.if_icmp .ge 40, 3) := dk_162 0 40 (dk_at dksX12_copy_11 0 rfl rfl)
theorem dX12_copy_258 : decode cX12_copy 258 = .ok (.aload_n 0, 1) := dk_42 (dk_at dksX12_copy_11 3 rfl rfl)
theorem dX12_copy_259 : decode cX12_copy 259 = .ok (.getfield 16, 3) := dk_180 0 16 (dk_at dksX12_copy_11 4 rfl rfl)
theorem dX12_copy_262 : decode cX12_copy 262 = .ok (.sipush 160, 3) := dk_17 0 160 (dk_at dksX12_copy_11 7 rfl rfl)
theorem dX12_copy_265 : decode cX12_copy 265 = .ok (.iload_n 2, 1) := dk_28 (dk_at dksX12_copy_11 10 rfl rfl)
theorem dX12_copy_266 : decode cX12_copy 266 = .ok (.imul, 1) := dk_104 (dk_at dksX12_copy_11 11 rfl rfl)
theorem dX12_copy_267 : decode cX12_copy 267 = .ok (.iload 4, 2) := dk_21 4 (dk_at dksX12_copy_11 12 rfl rfl)
theorem dX12_copy_269 : decode cX12_copy 269 = .ok (.iadd, 1) := dk_96 (dk_at dksX12_copy_11 14 rfl rfl)
theorem dX12_copy_270 : decode cX12_copy 270 = .ok (.iload 6, 2) := dk_21 6 (dk_at dksX12_copy_11 15 rfl rfl)
theorem dX12_copy_272 : decode cX12_copy 272 = .ok (.iadd, 1) := dk_96 (dk_at dksX12_copy_11 17 rfl rfl)
theorem dX12_copy_273 : decode cX12_copy 273 = .ok (.aload_n 0, 1) := dk_42 (dk_at dksX12_copy_11 18 rfl rfl)
theorem dX12_copy_274 : decode cX12_copy 274 = .ok (.getfield 16, 3) := dk_180 0 16 (dk_at dksX12_copy_11 19 rfl rfl)
theorem dX12_copy_277 : decode cX12_copy 277 = .ok (.sipush 160, 3) := dk_17 0 160 (dk_at dksX12_copy_12 0 rfl rfl)
theorem dX12_copy_280 : decode cX12_copy 280 = .ok (.iload_n 1, 1) := dk_27 (dk_at dksX12_copy_12 3 rfl rfl)
theorem dX12_copy_281 : decode cX12_copy 281 = .ok (.imul, 1) := dk_104 (dk_at dksX12_copy_12 4 rfl rfl)
theorem dX12_copy_282 : decode cX12_copy 282 = .ok (.iload_n 3, 1) := dk_29 (dk_at dksX12_copy_12 5 rfl rfl)
theorem dX12_copy_283 : decode cX12_copy 283 = .ok (.iadd, 1) := dk_96 (dk_at dksX12_copy_12 6 rfl rfl)
theorem dX12_copy_284 : decode cX12_copy 284 = .ok (.iload 6, 2) := dk_21 6 (dk_at dksX12_copy_12 7 rfl rfl)
theorem dX12_copy_286 : decode cX12_copy 286 = .ok (.iadd, 1) := dk_96 (dk_at dksX12_copy_12 9 rfl rfl)
theorem dX12_copy_287 : decode cX12_copy 287 = .ok (.laload, 1) := dk_47 (dk_at dksX12_copy_12 10 rfl rfl)
theorem dX12_copy_288 : decode cX12_copy 288 = .ok (.lastore, 1) := dk_80 (dk_at dksX12_copy_12 11 rfl rfl)
theorem dX12_copy_289 : decode cX12_copy 289 = .ok (.iinc 6 1, 3) := dk_132 6 1 (dk_at dksX12_copy_12 12 rfl rfl)
theorem dX12_copy_292 : decode cX12_copy 292 = .ok (.goto (-41), 3) := dk_167 255 215 (dk_at dksX12_copy_12 15 rfl rfl)
theorem dX12_copy_295 : decode cX12_copy 295 = .ok (.iconst 1, 1) := dk_4 (dk_at dksX12_copy_12 18 rfl rfl)
theorem dX12_copy_296 : decode cX12_copy 296 = .ok (.ireturn, 1) := dk_172 (dk_at dksX12_copy_12 19 rfl rfl)
abbrev cX12_element : ByteArray := prog_22_method_17_code
def yX12_element : MethodName := ⟨RX12, "element", "(II)J"⟩
def dkwX12_element_2 : List UInt8 := [167, 0, 4, 9, 173]
abbrev dktX12_element_2 : List UInt8 := dkwX12_element_2 ++ []
def dkwX12_element_1 : List UInt8 := [27, 46, 4, 100, 184, 0, 85, 153, 0, 18, 42, 180, 0, 16, 17, 0, 160, 27, 104, 28, 96, 47]
abbrev dktX12_element_1 : List UInt8 := dkwX12_element_1 ++ dktX12_element_2
def dkwX12_element_0 : List UInt8 := [27, 3, 16, 7, 184, 0, 85, 153, 0, 42, 42, 27, 182, 0, 96, 153, 0, 34, 28, 3, 42, 180, 0, 13]
abbrev dktX12_element_0 : List UInt8 := dkwX12_element_0 ++ dktX12_element_1
theorem dksX12_element_0 : cX12_element.data.toList.drop 0 = dktX12_element_0 := by decide +kernel
theorem dksX12_element_1 : cX12_element.data.toList.drop 24 = dktX12_element_1 := dk_seg dksX12_element_0 24 rfl rfl
theorem dksX12_element_2 : cX12_element.data.toList.drop 46 = dktX12_element_2 := dk_seg dksX12_element_1 22 rfl rfl
theorem dX12_element_0 : decode cX12_element 0 = .ok (.iload_n 1, 1) := dk_27 (dk_at dksX12_element_0 0 rfl rfl)
theorem dX12_element_1 : decode cX12_element 1 = .ok (.iconst 0, 1) := dk_3 (dk_at dksX12_element_0 1 rfl rfl)
theorem dX12_element_2 : decode cX12_element 2 = .ok (.bipush 7, 2) := dk_16 7 (dk_at dksX12_element_0 2 rfl rfl)
theorem dX12_element_4 : decode cX12_element 4 = .ok (.invokestatic 85, 3) := dk_184 0 85 (dk_at dksX12_element_0 4 rfl rfl)
theorem dX12_element_7 : decode cX12_element 7 = .ok (.ifCond .eq 42, 3) := dk_153 0 42 (dk_at dksX12_element_0 7 rfl rfl)
theorem dX12_element_10 : decode cX12_element 10 = .ok (.aload_n 0, 1) := dk_42 (dk_at dksX12_element_0 10 rfl rfl)
theorem dX12_element_11 : decode cX12_element 11 = .ok (.iload_n 1, 1) := dk_27 (dk_at dksX12_element_0 11 rfl rfl)
theorem dX12_element_12 : decode cX12_element 12 = .ok (.invokevirtual 96, 3) := dk_182 0 96 (dk_at dksX12_element_0 12 rfl rfl)
theorem dX12_element_15 : decode cX12_element 15 = .ok (.ifCond .eq 34, 3) := dk_153 0 34 (dk_at dksX12_element_0 15 rfl rfl)
theorem dX12_element_18 : decode cX12_element 18 = .ok (.iload_n 2, 1) := dk_28 (dk_at dksX12_element_0 18 rfl rfl)
theorem dX12_element_19 : decode cX12_element 19 = .ok (.iconst 0, 1) := dk_3 (dk_at dksX12_element_0 19 rfl rfl)
theorem dX12_element_20 : decode cX12_element 20 = .ok (.aload_n 0, 1) := dk_42 (dk_at dksX12_element_0 20 rfl rfl)
theorem dX12_element_21 : decode cX12_element 21 = .ok (.getfield 13, 3) := dk_180 0 13 (dk_at dksX12_element_0 21 rfl rfl)
theorem dX12_element_24 : decode cX12_element 24 = .ok (.iload_n 1, 1) := dk_27 (dk_at dksX12_element_1 0 rfl rfl)
theorem dX12_element_25 : decode cX12_element 25 = .ok (.iaload, 1) := dk_46 (dk_at dksX12_element_1 1 rfl rfl)
theorem dX12_element_26 : decode cX12_element 26 = .ok (.iconst 1, 1) := dk_4 (dk_at dksX12_element_1 2 rfl rfl)
theorem dX12_element_27 : decode cX12_element 27 = .ok (.isub, 1) := dk_100 (dk_at dksX12_element_1 3 rfl rfl)
theorem dX12_element_28 : decode cX12_element 28 = .ok (.invokestatic 85, 3) := dk_184 0 85 (dk_at dksX12_element_1 4 rfl rfl)
theorem dX12_element_31 : decode cX12_element 31 = .ok (.ifCond .eq 18, 3) := dk_153 0 18 (dk_at dksX12_element_1 7 rfl rfl)
theorem dX12_element_34 : decode cX12_element 34 = .ok (.aload_n 0, 1) := dk_42 (dk_at dksX12_element_1 10 rfl rfl)
theorem dX12_element_35 : decode cX12_element 35 = .ok (.getfield 16, 3) := dk_180 0 16 (dk_at dksX12_element_1 11 rfl rfl)
theorem dX12_element_38 : decode cX12_element 38 = .ok (.sipush 160, 3) := dk_17 0 160 (dk_at dksX12_element_1 14 rfl rfl)
theorem dX12_element_41 : decode cX12_element 41 = .ok (.iload_n 1, 1) := dk_27 (dk_at dksX12_element_1 17 rfl rfl)
theorem dX12_element_42 : decode cX12_element 42 = .ok (.imul, 1) := dk_104 (dk_at dksX12_element_1 18 rfl rfl)
theorem dX12_element_43 : decode cX12_element 43 = .ok (.iload_n 2, 1) := dk_28 (dk_at dksX12_element_1 19 rfl rfl)
theorem dX12_element_44 : decode cX12_element 44 = .ok (.iadd, 1) := dk_96 (dk_at dksX12_element_1 20 rfl rfl)
theorem dX12_element_45 : decode cX12_element 45 = .ok (.laload, 1) := dk_47 (dk_at dksX12_element_1 21 rfl rfl)
theorem dX12_element_46 : decode cX12_element 46 = .ok (.goto 4, 3) := dk_167 0 4 (dk_at dksX12_element_2 0 rfl rfl)
theorem dX12_element_49 : decode cX12_element 49 = .ok (.lconst 0, 1) := dk_9 (dk_at dksX12_element_2 3 rfl rfl)
theorem dX12_element_50 : decode cX12_element 50 = .ok (.lreturn, 1) := dk_173 (dk_at dksX12_element_2 4 rfl rfl)
abbrev cX12_show : ByteArray := prog_22_method_18_code
def yX12_show : MethodName := ⟨RX12, "show", "(II)I"⟩
def dkwX12_show_1 : List UInt8 := [2, 182, 0, 78, 172, 42, 180, 0, 7, 27, 28, 79, 28, 2, 160, 0, 7, 3, 167, 0, 4, 4, 172]
abbrev dktX12_show_1 : List UInt8 := dkwX12_show_1 ++ []
def dkwX12_show_0 : List UInt8 := [27, 3, 16, 7, 184, 0, 85, 153, 0, 16, 28, 2, 159, 0, 17, 42, 28, 182, 0, 102, 154, 0, 9, 42]
abbrev dktX12_show_0 : List UInt8 := dkwX12_show_0 ++ dktX12_show_1
theorem dksX12_show_0 : cX12_show.data.toList.drop 0 = dktX12_show_0 := by decide +kernel
theorem dksX12_show_1 : cX12_show.data.toList.drop 24 = dktX12_show_1 := dk_seg dksX12_show_0 24 rfl rfl
theorem dX12_show_0 : decode cX12_show 0 = .ok (.iload_n 1, 1) := dk_27 (dk_at dksX12_show_0 0 rfl rfl)
theorem dX12_show_1 : decode cX12_show 1 = .ok (.iconst 0, 1) := dk_3 (dk_at dksX12_show_0 1 rfl rfl)
theorem dX12_show_2 : decode cX12_show 2 = .ok (.bipush 7, 2) := dk_16 7 (dk_at dksX12_show_0 2 rfl rfl)
theorem dX12_show_4 : decode cX12_show 4 = .ok (.invokestatic 85, 3) := dk_184 0 85 (dk_at dksX12_show_0 4 rfl rfl)
theorem dX12_show_7 : decode cX12_show 7 = .ok (.ifCond .eq 16, 3) := dk_153 0 16 (dk_at dksX12_show_0 7 rfl rfl)
theorem dX12_show_10 : decode cX12_show 10 = .ok (.iload_n 2, 1) := dk_28 (dk_at dksX12_show_0 10 rfl rfl)
theorem dX12_show_11 : decode cX12_show 11 = .ok (.iconst (-1), 1) := dk_2 (dk_at dksX12_show_0 11 rfl rfl)
theorem dX12_show_12 : decode cX12_show 12 = .ok (.if_icmp .eq 17, 3) := dk_159 0 17 (dk_at dksX12_show_0 12 rfl rfl)
theorem dX12_show_15 : decode cX12_show 15 = .ok (.aload_n 0, 1) := dk_42 (dk_at dksX12_show_0 15 rfl rfl)
theorem dX12_show_16 : decode cX12_show 16 = .ok (.iload_n 2, 1) := dk_28 (dk_at dksX12_show_0 16 rfl rfl)
theorem dX12_show_17 : decode cX12_show 17 = .ok (.invokevirtual 102, 3) := dk_182 0 102 (dk_at dksX12_show_0 17 rfl rfl)
theorem dX12_show_20 : decode cX12_show 20 = .ok (.ifCond .ne 9, 3) := dk_154 0 9 (dk_at dksX12_show_0 20 rfl rfl)
theorem dX12_show_23 : decode cX12_show 23 = .ok (.aload_n 0, 1) := dk_42 (dk_at dksX12_show_0 23 rfl rfl)
theorem dX12_show_24 : decode cX12_show 24 = .ok (.iconst (-1), 1) := dk_2 (dk_at dksX12_show_1 0 rfl rfl)
theorem dX12_show_25 : decode cX12_show 25 = .ok (.invokevirtual 78, 3) := dk_182 0 78 (dk_at dksX12_show_1 1 rfl rfl)
theorem dX12_show_28 : decode cX12_show 28 = .ok (.ireturn, 1) := dk_172 (dk_at dksX12_show_1 4 rfl rfl)
theorem dX12_show_29 : decode cX12_show 29 = .ok (.aload_n 0, 1) := dk_42 (dk_at dksX12_show_1 5 rfl rfl)
theorem dX12_show_30 : decode cX12_show 30 = .ok (.getfield 7, 3) := dk_180 0 7 (dk_at dksX12_show_1 6 rfl rfl)
theorem dX12_show_33 : decode cX12_show 33 = .ok (.iload_n 1, 1) := dk_27 (dk_at dksX12_show_1 9 rfl rfl)
theorem dX12_show_34 : decode cX12_show 34 = .ok (.iload_n 2, 1) := dk_28 (dk_at dksX12_show_1 10 rfl rfl)
theorem dX12_show_35 : decode cX12_show 35 = .ok (.iastore, 1) := dk_79 (dk_at dksX12_show_1 11 rfl rfl)
theorem dX12_show_36 : decode cX12_show 36 = .ok (.iload_n 2, 1) := dk_28 (dk_at dksX12_show_1 12 rfl rfl)
theorem dX12_show_37 : decode cX12_show 37 = .ok (.iconst (-1), 1) := dk_2 (dk_at dksX12_show_1 13 rfl rfl)
theorem dX12_show_38 : decode cX12_show 38 = .ok (.if_icmp .ne 7, 3) := dk_160 0 7 (dk_at dksX12_show_1 14 rfl rfl)
theorem dX12_show_41 : decode cX12_show 41 = .ok (.iconst 0, 1) := dk_3 (dk_at dksX12_show_1 17 rfl rfl)
theorem dX12_show_42 : decode cX12_show 42 = .ok (.goto 4, 3) := dk_167 0 4 (dk_at dksX12_show_1 18 rfl rfl)
theorem dX12_show_45 : decode cX12_show 45 = .ok (.iconst 1, 1) := dk_4 (dk_at dksX12_show_1 21 rfl rfl)
theorem dX12_show_46 : decode cX12_show 46 = .ok (.ireturn, 1) := dk_172 (dk_at dksX12_show_1 22 rfl rfl)
abbrev cX12_isVoice : ByteArray := prog_22_method_6_code
def yX12_isVoice : MethodName := ⟨RX12, "isVoice", "(I)Z"⟩
def dkwX12_isVoice_0 : List UInt8 := [27, 3, 42, 180, 0, 82, 4, 100, 184, 0, 85, 172]
abbrev dktX12_isVoice_0 : List UInt8 := dkwX12_isVoice_0 ++ []
theorem dksX12_isVoice_0 : cX12_isVoice.data.toList.drop 0 = dktX12_isVoice_0 := by decide +kernel
theorem dX12_isVoice_0 : decode cX12_isVoice 0 = .ok (.iload_n 1, 1) := dk_27 (dk_at dksX12_isVoice_0 0 rfl rfl)
theorem dX12_isVoice_1 : decode cX12_isVoice 1 = .ok (.iconst 0, 1) := dk_3 (dk_at dksX12_isVoice_0 1 rfl rfl)
theorem dX12_isVoice_2 : decode cX12_isVoice 2 = .ok (.aload_n 0, 1) := dk_42 (dk_at dksX12_isVoice_0 2 rfl rfl)
theorem dX12_isVoice_3 : decode cX12_isVoice 3 = .ok (.getfield 82, 3) := dk_180 0 82 (dk_at dksX12_isVoice_0 3 rfl rfl)
theorem dX12_isVoice_6 : decode cX12_isVoice 6 = .ok (.iconst 1, 1) := dk_4 (dk_at dksX12_isVoice_0 6 rfl rfl)
theorem dX12_isVoice_7 : decode cX12_isVoice 7 = .ok (.isub, 1) := dk_100 (dk_at dksX12_isVoice_0 7 rfl rfl)
theorem dX12_isVoice_8 : decode cX12_isVoice 8 = .ok (.invokestatic 85, 3) := dk_184 0 85 (dk_at dksX12_isVoice_0 8 rfl rfl)
theorem dX12_isVoice_11 : decode cX12_isVoice 11 = .ok (.ireturn, 1) := dk_172 (dk_at dksX12_isVoice_0 11 rfl rfl)
abbrev cX12_holds : ByteArray := prog_22_method_19_code
def yX12_holds : MethodName := ⟨RX12, "holds", "(I)I"⟩
def dkwX12_holds_0 : List UInt8 := [27, 3, 16, 7, 184, 0, 85, 153, 0, 12, 42, 180, 0, 7, 27, 46, 167, 0, 4, 2, 172]
abbrev dktX12_holds_0 : List UInt8 := dkwX12_holds_0 ++ []
theorem dksX12_holds_0 : cX12_holds.data.toList.drop 0 = dktX12_holds_0 := by decide +kernel
theorem dX12_holds_0 : decode cX12_holds 0 = .ok (.iload_n 1, 1) := dk_27 (dk_at dksX12_holds_0 0 rfl rfl)
theorem dX12_holds_1 : decode cX12_holds 1 = .ok (.iconst 0, 1) := dk_3 (dk_at dksX12_holds_0 1 rfl rfl)
theorem dX12_holds_2 : decode cX12_holds 2 = .ok (.bipush 7, 2) := dk_16 7 (dk_at dksX12_holds_0 2 rfl rfl)
theorem dX12_holds_4 : decode cX12_holds 4 = .ok (.invokestatic 85, 3) := dk_184 0 85 (dk_at dksX12_holds_0 4 rfl rfl)
theorem dX12_holds_7 : decode cX12_holds 7 = .ok (.ifCond .eq 12, 3) := dk_153 0 12 (dk_at dksX12_holds_0 7 rfl rfl)
theorem dX12_holds_10 : decode cX12_holds 10 = .ok (.aload_n 0, 1) := dk_42 (dk_at dksX12_holds_0 10 rfl rfl)
theorem dX12_holds_11 : decode cX12_holds 11 = .ok (.getfield 7, 3) := dk_180 0 7 (dk_at dksX12_holds_0 11 rfl rfl)
theorem dX12_holds_14 : decode cX12_holds 14 = .ok (.iload_n 1, 1) := dk_27 (dk_at dksX12_holds_0 14 rfl rfl)
theorem dX12_holds_15 : decode cX12_holds 15 = .ok (.iaload, 1) := dk_46 (dk_at dksX12_holds_0 15 rfl rfl)
theorem dX12_holds_16 : decode cX12_holds 16 = .ok (.goto 4, 3) := dk_167 0 4 (dk_at dksX12_holds_0 16 rfl rfl)
theorem dX12_holds_19 : decode cX12_holds 19 = .ok (.iconst (-1), 1) := dk_2 (dk_at dksX12_holds_0 19 rfl rfl)
theorem dX12_holds_20 : decode cX12_holds 20 = .ok (.ireturn, 1) := dk_172 (dk_at dksX12_holds_0 20 rfl rfl)
abbrev cX12_says : ByteArray := prog_22_method_22_code
def yX12_says : MethodName := ⟨RX12, "says", "(II)I"⟩
def dkwX12_says_6 : List UInt8 := [180, 0, 35, 29, 46, 184, 0, 112, 172]
abbrev dktX12_says_6 : List UInt8 := dkwX12_says_6 ++ []
def dkwX12_says_5 : List UInt8 := [42, 180, 0, 26, 29, 46, 172, 42, 180, 0, 32, 29, 46, 172, 42, 180, 0, 23, 29, 46, 172, 42]
abbrev dktX12_says_5 : List UInt8 := dkwX12_says_5 ++ dktX12_says_6
def dkwX12_says_4 : List UInt8 := [170, 0, 0, 0, 0, 0, 60, 0, 0, 0, 0, 0, 0, 0, 5, 0, 0, 0, 39, 0, 0, 0, 46, 0, 0, 0, 53, 0, 0, 0, 46, 0, 0, 0, 60, 0, 0, 0, 53]
abbrev dktX12_says_4 : List UInt8 := dkwX12_says_4 ++ dktX12_says_5
def dkwX12_says_3 : List UInt8 := [16, 253, 182, 0, 78, 172, 28]
abbrev dktX12_says_3 : List UInt8 := dkwX12_says_3 ++ dktX12_says_4
def dkwX12_says_2 : List UInt8 := [180, 0, 20, 29, 46, 28, 184, 0, 108, 154, 0, 10, 42, 16, 254, 182, 0, 78, 172, 29, 156, 0, 10, 42]
abbrev dktX12_says_2 : List UInt8 := dkwX12_says_2 ++ dktX12_says_3
def dkwX12_says_1 : List UInt8 := [182, 0, 78, 172, 42, 180, 0, 7, 27, 46, 62, 29, 155, 0, 31, 42, 27, 182, 0, 96, 154, 0, 16, 42]
abbrev dktX12_says_1 : List UInt8 := dkwX12_says_1 ++ dktX12_says_2
def dkwX12_says_0 : List UInt8 := [27, 3, 16, 7, 184, 0, 85, 153, 0, 13, 28, 3, 16, 6, 184, 0, 85, 154, 0, 9, 42, 2]
abbrev dktX12_says_0 : List UInt8 := dkwX12_says_0 ++ dktX12_says_1
theorem dksX12_says_0 : cX12_says.data.toList.drop 0 = dktX12_says_0 := by decide +kernel
theorem dksX12_says_1 : cX12_says.data.toList.drop 22 = dktX12_says_1 := dk_seg dksX12_says_0 22 rfl rfl
theorem dksX12_says_2 : cX12_says.data.toList.drop 46 = dktX12_says_2 := dk_seg dksX12_says_1 24 rfl rfl
theorem dksX12_says_3 : cX12_says.data.toList.drop 70 = dktX12_says_3 := dk_seg dksX12_says_2 24 rfl rfl
theorem dksX12_says_4 : cX12_says.data.toList.drop 77 = dktX12_says_4 := dk_seg dksX12_says_3 7 rfl rfl
theorem dksX12_says_5 : cX12_says.data.toList.drop 116 = dktX12_says_5 := dk_seg dksX12_says_4 39 rfl rfl
theorem dksX12_says_6 : cX12_says.data.toList.drop 138 = dktX12_says_6 := dk_seg dksX12_says_5 22 rfl rfl
theorem dX12_says_0 : decode cX12_says 0 = .ok (.iload_n 1, 1) := dk_27 (dk_at dksX12_says_0 0 rfl rfl)
theorem dX12_says_1 : decode cX12_says 1 = .ok (.iconst 0, 1) := dk_3 (dk_at dksX12_says_0 1 rfl rfl)
theorem dX12_says_2 : decode cX12_says 2 = .ok (.bipush 7, 2) := dk_16 7 (dk_at dksX12_says_0 2 rfl rfl)
theorem dX12_says_4 : decode cX12_says 4 = .ok (.invokestatic 85, 3) := dk_184 0 85 (dk_at dksX12_says_0 4 rfl rfl)
theorem dX12_says_7 : decode cX12_says 7 = .ok (.ifCond .eq 13, 3) := dk_153 0 13 (dk_at dksX12_says_0 7 rfl rfl)
theorem dX12_says_10 : decode cX12_says 10 = .ok (.iload_n 2, 1) := dk_28 (dk_at dksX12_says_0 10 rfl rfl)
theorem dX12_says_11 : decode cX12_says 11 = .ok (.iconst 0, 1) := dk_3 (dk_at dksX12_says_0 11 rfl rfl)
theorem dX12_says_12 : decode cX12_says 12 = .ok (.bipush 6, 2) := dk_16 6 (dk_at dksX12_says_0 12 rfl rfl)
theorem dX12_says_14 : decode cX12_says 14 = .ok (.invokestatic 85, 3) := dk_184 0 85 (dk_at dksX12_says_0 14 rfl rfl)
theorem dX12_says_17 : decode cX12_says 17 = .ok (.ifCond .ne 9, 3) := dk_154 0 9 (dk_at dksX12_says_0 17 rfl rfl)
theorem dX12_says_20 : decode cX12_says 20 = .ok (.aload_n 0, 1) := dk_42 (dk_at dksX12_says_0 20 rfl rfl)
theorem dX12_says_21 : decode cX12_says 21 = .ok (.iconst (-1), 1) := dk_2 (dk_at dksX12_says_0 21 rfl rfl)
theorem dX12_says_22 : decode cX12_says 22 = .ok (.invokevirtual 78, 3) := dk_182 0 78 (dk_at dksX12_says_1 0 rfl rfl)
theorem dX12_says_25 : decode cX12_says 25 = .ok (.ireturn, 1) := dk_172 (dk_at dksX12_says_1 3 rfl rfl)
theorem dX12_says_26 : decode cX12_says 26 = .ok (.aload_n 0, 1) := dk_42 (dk_at dksX12_says_1 4 rfl rfl)
theorem dX12_says_27 : decode cX12_says 27 = .ok (.getfield 7, 3) := dk_180 0 7 (dk_at dksX12_says_1 5 rfl rfl)
theorem dX12_says_30 : decode cX12_says 30 = .ok (.iload_n 1, 1) := dk_27 (dk_at dksX12_says_1 8 rfl rfl)
theorem dX12_says_31 : decode cX12_says 31 = .ok (.iaload, 1) := dk_46 (dk_at dksX12_says_1 9 rfl rfl)
theorem dX12_says_32 : decode cX12_says 32 = .ok (.istore_n 3, 1) := dk_62 (dk_at dksX12_says_1 10 rfl rfl)
theorem dX12_says_33 : decode cX12_says 33 = .ok (.iload_n 3, 1) := dk_29 (dk_at dksX12_says_1 11 rfl rfl)
theorem dX12_says_34 : decode cX12_says 34 = .ok (.ifCond .lt 31, 3) := dk_155 0 31 (dk_at dksX12_says_1 12 rfl rfl)
theorem dX12_says_37 : decode cX12_says 37 = .ok (.aload_n 0, 1) := dk_42 (dk_at dksX12_says_1 15 rfl rfl)
theorem dX12_says_38 : decode cX12_says 38 = .ok (.iload_n 1, 1) := dk_27 (dk_at dksX12_says_1 16 rfl rfl)
theorem dX12_says_39 : decode cX12_says 39 = .ok (.invokevirtual 96, 3) := dk_182 0 96 (dk_at dksX12_says_1 17 rfl rfl)
theorem dX12_says_42 : decode cX12_says 42 = .ok (.ifCond .ne 16, 3) := dk_154 0 16 (dk_at dksX12_says_1 20 rfl rfl)
theorem dX12_says_45 : decode cX12_says 45 = .ok (.aload_n 0, 1) := dk_42 (dk_at dksX12_says_1 23 rfl rfl)
theorem dX12_says_46 : decode cX12_says 46 = .ok (.getfield 20, 3) := dk_180 0 20 (dk_at dksX12_says_2 0 rfl rfl)
theorem dX12_says_49 : decode cX12_says 49 = .ok (.iload_n 3, 1) := dk_29 (dk_at dksX12_says_2 3 rfl rfl)
theorem dX12_says_50 : decode cX12_says 50 = .ok (.iaload, 1) := dk_46 (dk_at dksX12_says_2 4 rfl rfl)
theorem dX12_says_51 : decode cX12_says 51 = .ok (.iload_n 2, 1) := dk_28 (dk_at dksX12_says_2 5 rfl rfl)
theorem dX12_says_52 : decode cX12_says 52 = .ok (.invokestatic 108, 3) := dk_184 0 108 (dk_at dksX12_says_2 6 rfl rfl)
theorem dX12_says_55 : decode cX12_says 55 = .ok (.ifCond .ne 10, 3) := dk_154 0 10 (dk_at dksX12_says_2 9 rfl rfl)
theorem dX12_says_58 : decode cX12_says 58 = .ok (.aload_n 0, 1) := dk_42 (dk_at dksX12_says_2 12 rfl rfl)
theorem dX12_says_59 : decode cX12_says 59 = .ok (.bipush (-2), 2) := dk_16 254 (dk_at dksX12_says_2 13 rfl rfl)
theorem dX12_says_61 : decode cX12_says 61 = .ok (.invokevirtual 78, 3) := dk_182 0 78 (dk_at dksX12_says_2 15 rfl rfl)
theorem dX12_says_64 : decode cX12_says 64 = .ok (.ireturn, 1) := dk_172 (dk_at dksX12_says_2 18 rfl rfl)
theorem dX12_says_65 : decode cX12_says 65 = .ok (.iload_n 3, 1) := dk_29 (dk_at dksX12_says_2 19 rfl rfl)
theorem dX12_says_66 : decode cX12_says 66 = .ok (.ifCond .ge 10, 3) := dk_156 0 10 (dk_at dksX12_says_2 20 rfl rfl)
theorem dX12_says_69 : decode cX12_says 69 = .ok (.aload_n 0, 1) := dk_42 (dk_at dksX12_says_2 23 rfl rfl)
theorem dX12_says_70 : decode cX12_says 70 = .ok (.bipush (-3), 2) := dk_16 253 (dk_at dksX12_says_3 0 rfl rfl)
theorem dX12_says_72 : decode cX12_says 72 = .ok (.invokevirtual 78, 3) := dk_182 0 78 (dk_at dksX12_says_3 2 rfl rfl)
theorem dX12_says_75 : decode cX12_says 75 = .ok (.ireturn, 1) := dk_172 (dk_at dksX12_says_3 5 rfl rfl)
theorem dX12_says_76 : decode cX12_says 76 = .ok (.iload_n 2, 1) := dk_28 (dk_at dksX12_says_3 6 rfl rfl)
theorem dX12_says_77 : decode cX12_says 77 = .ok (.tableswitch 60 0 5 #[39, 46, 53, 46, 60, 53], 39) := by decide +kernel
theorem dX12_says_116 : decode cX12_says 116 = .ok (.aload_n 0, 1) := dk_42 (dk_at dksX12_says_5 0 rfl rfl)
theorem dX12_says_117 : decode cX12_says 117 = .ok (.getfield 26, 3) := dk_180 0 26 (dk_at dksX12_says_5 1 rfl rfl)
theorem dX12_says_120 : decode cX12_says 120 = .ok (.iload_n 3, 1) := dk_29 (dk_at dksX12_says_5 4 rfl rfl)
theorem dX12_says_121 : decode cX12_says 121 = .ok (.iaload, 1) := dk_46 (dk_at dksX12_says_5 5 rfl rfl)
theorem dX12_says_122 : decode cX12_says 122 = .ok (.ireturn, 1) := dk_172 (dk_at dksX12_says_5 6 rfl rfl)
theorem dX12_says_123 : decode cX12_says 123 = .ok (.aload_n 0, 1) := dk_42 (dk_at dksX12_says_5 7 rfl rfl)
theorem dX12_says_124 : decode cX12_says 124 = .ok (.getfield 32, 3) := dk_180 0 32 (dk_at dksX12_says_5 8 rfl rfl)
theorem dX12_says_127 : decode cX12_says 127 = .ok (.iload_n 3, 1) := dk_29 (dk_at dksX12_says_5 11 rfl rfl)
theorem dX12_says_128 : decode cX12_says 128 = .ok (.iaload, 1) := dk_46 (dk_at dksX12_says_5 12 rfl rfl)
theorem dX12_says_129 : decode cX12_says 129 = .ok (.ireturn, 1) := dk_172 (dk_at dksX12_says_5 13 rfl rfl)
theorem dX12_says_130 : decode cX12_says 130 = .ok (.aload_n 0, 1) := dk_42 (dk_at dksX12_says_5 14 rfl rfl)
theorem dX12_says_131 : decode cX12_says 131 = .ok (.getfield 23, 3) := dk_180 0 23 (dk_at dksX12_says_5 15 rfl rfl)
theorem dX12_says_134 : decode cX12_says 134 = .ok (.iload_n 3, 1) := dk_29 (dk_at dksX12_says_5 18 rfl rfl)
theorem dX12_says_135 : decode cX12_says 135 = .ok (.iaload, 1) := dk_46 (dk_at dksX12_says_5 19 rfl rfl)
theorem dX12_says_136 : decode cX12_says 136 = .ok (.ireturn, 1) := dk_172 (dk_at dksX12_says_5 20 rfl rfl)
theorem dX12_says_137 : decode cX12_says 137 = .ok (.aload_n 0, 1) := dk_42 (dk_at dksX12_says_5 21 rfl rfl)
theorem dX12_says_138 : decode cX12_says 138 = .ok (.getfield 35, 3) := dk_180 0 35 (dk_at dksX12_says_6 0 rfl rfl)
theorem dX12_says_141 : decode cX12_says 141 = .ok (.iload_n 3, 1) := dk_29 (dk_at dksX12_says_6 3 rfl rfl)
theorem dX12_says_142 : decode cX12_says 142 = .ok (.iaload, 1) := dk_46 (dk_at dksX12_says_6 4 rfl rfl)
theorem dX12_says_143 : decode cX12_says 143 = .ok (.invokestatic 112, 3) := dk_184 0 112 (dk_at dksX12_says_6 5 rfl rfl)
theorem dX12_says_146 : decode cX12_says 146 = .ok (.ireturn, 1) := dk_172 (dk_at dksX12_says_6 8 rfl rfl)
abbrev cX12_isUnder : ByteArray := prog_22_method_21_code
def yX12_isUnder : MethodName := ⟨RX12, "isUnder", "(II)Z"⟩
def dkwX12_isUnder_1 : List UInt8 := [4, 167, 0, 4, 3, 172]
abbrev dktX12_isUnder_1 : List UInt8 := dkwX12_isUnder_1 ++ []
def dkwX12_isUnder_0 : List UInt8 := [26, 61, 28, 27, 159, 0, 15, 28, 158, 0, 11, 28, 184, 0, 105, 61, 167, 255, 242, 28, 27, 160, 0, 7]
abbrev dktX12_isUnder_0 : List UInt8 := dkwX12_isUnder_0 ++ dktX12_isUnder_1
theorem dksX12_isUnder_0 : cX12_isUnder.data.toList.drop 0 = dktX12_isUnder_0 := by decide +kernel
theorem dksX12_isUnder_1 : cX12_isUnder.data.toList.drop 24 = dktX12_isUnder_1 := dk_seg dksX12_isUnder_0 24 rfl rfl
theorem dX12_isUnder_0 : decode cX12_isUnder 0 = .ok (.iload_n 0, 1) := dk_26 (dk_at dksX12_isUnder_0 0 rfl rfl)
theorem dX12_isUnder_1 : decode cX12_isUnder 1 = .ok (.istore_n 2, 1) := dk_61 (dk_at dksX12_isUnder_0 1 rfl rfl)
theorem dX12_isUnder_2 : decode cX12_isUnder 2 = .ok (.iload_n 2, 1) := dk_28 (dk_at dksX12_isUnder_0 2 rfl rfl)
theorem dX12_isUnder_3 : decode cX12_isUnder 3 = .ok (.iload_n 1, 1) := dk_27 (dk_at dksX12_isUnder_0 3 rfl rfl)
theorem dX12_isUnder_4 : decode cX12_isUnder 4 = .ok (.if_icmp .eq 15, 3) := dk_159 0 15 (dk_at dksX12_isUnder_0 4 rfl rfl)
theorem dX12_isUnder_7 : decode cX12_isUnder 7 = .ok (.iload_n 2, 1) := dk_28 (dk_at dksX12_isUnder_0 7 rfl rfl)
theorem dX12_isUnder_8 : decode cX12_isUnder 8 = .ok (.ifCond .le 11, 3) := dk_158 0 11 (dk_at dksX12_isUnder_0 8 rfl rfl)
theorem dX12_isUnder_11 : decode cX12_isUnder 11 = .ok (.iload_n 2, 1) := dk_28 (dk_at dksX12_isUnder_0 11 rfl rfl)
theorem dX12_isUnder_12 : decode cX12_isUnder 12 = .ok (.invokestatic 105, 3) := dk_184 0 105 (dk_at dksX12_isUnder_0 12 rfl rfl)
theorem dX12_isUnder_15 : decode cX12_isUnder 15 = .ok (.istore_n 2, 1) := dk_61 (dk_at dksX12_isUnder_0 15 rfl rfl)
theorem dX12_isUnder_16 : decode cX12_isUnder 16 = .ok (.goto (-14), 3) := dk_167 255 242 (dk_at dksX12_isUnder_0 16 rfl rfl)
theorem dX12_isUnder_19 : decode cX12_isUnder 19 = .ok (.iload_n 2, 1) := dk_28 (dk_at dksX12_isUnder_0 19 rfl rfl)
theorem dX12_isUnder_20 : decode cX12_isUnder 20 = .ok (.iload_n 1, 1) := dk_27 (dk_at dksX12_isUnder_0 20 rfl rfl)
theorem dX12_isUnder_21 : decode cX12_isUnder 21 = .ok (.if_icmp .ne 7, 3) := dk_160 0 7 (dk_at dksX12_isUnder_0 21 rfl rfl)
theorem dX12_isUnder_24 : decode cX12_isUnder 24 = .ok (.iconst 1, 1) := dk_4 (dk_at dksX12_isUnder_1 0 rfl rfl)
theorem dX12_isUnder_25 : decode cX12_isUnder 25 = .ok (.goto 4, 3) := dk_167 0 4 (dk_at dksX12_isUnder_1 1 rfl rfl)
theorem dX12_isUnder_28 : decode cX12_isUnder 28 = .ok (.iconst 0, 1) := dk_3 (dk_at dksX12_isUnder_1 4 rfl rfl)
theorem dX12_isUnder_29 : decode cX12_isUnder 29 = .ok (.ireturn, 1) := dk_172 (dk_at dksX12_isUnder_1 5 rfl rfl)
abbrev cX12_above : ByteArray := prog_22_method_20_code
def yX12_above : MethodName := ⟨RX12, "above", "(I)I"⟩
def dkwX12_above_1 : List UInt8 := [7, 167, 0, 4, 3, 172]
abbrev dktX12_above_1 : List UInt8 := dkwX12_above_1 ++ []
def dkwX12_above_0 : List UInt8 := [26, 6, 160, 0, 7, 4, 167, 0, 23, 26, 8, 160, 0, 7, 5, 167, 0, 14, 26, 16, 6, 160, 0, 7]
abbrev dktX12_above_0 : List UInt8 := dkwX12_above_0 ++ dktX12_above_1
theorem dksX12_above_0 : cX12_above.data.toList.drop 0 = dktX12_above_0 := by decide +kernel
theorem dksX12_above_1 : cX12_above.data.toList.drop 24 = dktX12_above_1 := dk_seg dksX12_above_0 24 rfl rfl
theorem dX12_above_0 : decode cX12_above 0 = .ok (.iload_n 0, 1) := dk_26 (dk_at dksX12_above_0 0 rfl rfl)
theorem dX12_above_1 : decode cX12_above 1 = .ok (.iconst 3, 1) := dk_6 (dk_at dksX12_above_0 1 rfl rfl)
theorem dX12_above_2 : decode cX12_above 2 = .ok (.if_icmp .ne 7, 3) := dk_160 0 7 (dk_at dksX12_above_0 2 rfl rfl)
theorem dX12_above_5 : decode cX12_above 5 = .ok (.iconst 1, 1) := dk_4 (dk_at dksX12_above_0 5 rfl rfl)
theorem dX12_above_6 : decode cX12_above 6 = .ok (.goto 23, 3) := dk_167 0 23 (dk_at dksX12_above_0 6 rfl rfl)
theorem dX12_above_9 : decode cX12_above 9 = .ok (.iload_n 0, 1) := dk_26 (dk_at dksX12_above_0 9 rfl rfl)
theorem dX12_above_10 : decode cX12_above 10 = .ok (.iconst 5, 1) := dk_8 (dk_at dksX12_above_0 10 rfl rfl)
theorem dX12_above_11 : decode cX12_above 11 = .ok (.if_icmp .ne 7, 3) := dk_160 0 7 (dk_at dksX12_above_0 11 rfl rfl)
theorem dX12_above_14 : decode cX12_above 14 = .ok (.iconst 2, 1) := dk_5 (dk_at dksX12_above_0 14 rfl rfl)
theorem dX12_above_15 : decode cX12_above 15 = .ok (.goto 14, 3) := dk_167 0 14 (dk_at dksX12_above_0 15 rfl rfl)
theorem dX12_above_18 : decode cX12_above 18 = .ok (.iload_n 0, 1) := dk_26 (dk_at dksX12_above_0 18 rfl rfl)
theorem dX12_above_19 : decode cX12_above 19 = .ok (.bipush 6, 2) := dk_16 6 (dk_at dksX12_above_0 19 rfl rfl)
theorem dX12_above_21 : decode cX12_above 21 = .ok (.if_icmp .ne 7, 3) := dk_160 0 7 (dk_at dksX12_above_0 21 rfl rfl)
theorem dX12_above_24 : decode cX12_above 24 = .ok (.iconst 4, 1) := dk_7 (dk_at dksX12_above_1 0 rfl rfl)
theorem dX12_above_25 : decode cX12_above 25 = .ok (.goto 4, 3) := dk_167 0 4 (dk_at dksX12_above_1 1 rfl rfl)
theorem dX12_above_28 : decode cX12_above 28 = .ok (.iconst 0, 1) := dk_3 (dk_at dksX12_above_1 4 rfl rfl)
theorem dX12_above_29 : decode cX12_above 29 = .ok (.ireturn, 1) := dk_172 (dk_at dksX12_above_1 5 rfl rfl)
abbrev cX12_tune : ByteArray := prog_22_method_25_code
def yX12_tune : MethodName := ⟨RX12, "tune", "(I)I"⟩
def dkwX12_tune_1 : List UInt8 := [160, 0, 12, 42, 16, 249, 182, 0, 78, 167, 0, 8, 42, 27, 182, 0, 117, 172]
abbrev dktX12_tune_1 : List UInt8 := dkwX12_tune_1 ++ []
def dkwX12_tune_0 : List UInt8 := [27, 3, 16, 11, 184, 0, 85, 154, 0, 10, 42, 16, 250, 182, 0, 78, 172, 42, 180, 0, 89, 16, 6]
abbrev dktX12_tune_0 : List UInt8 := dkwX12_tune_0 ++ dktX12_tune_1
theorem dksX12_tune_0 : cX12_tune.data.toList.drop 0 = dktX12_tune_0 := by decide +kernel
theorem dksX12_tune_1 : cX12_tune.data.toList.drop 23 = dktX12_tune_1 := dk_seg dksX12_tune_0 23 rfl rfl
theorem dX12_tune_0 : decode cX12_tune 0 = .ok (.iload_n 1, 1) := dk_27 (dk_at dksX12_tune_0 0 rfl rfl)
theorem dX12_tune_1 : decode cX12_tune 1 = .ok (.iconst 0, 1) := dk_3 (dk_at dksX12_tune_0 1 rfl rfl)
theorem dX12_tune_2 : decode cX12_tune 2 = .ok (.bipush 11, 2) := dk_16 11 (dk_at dksX12_tune_0 2 rfl rfl)
theorem dX12_tune_4 : decode cX12_tune 4 = .ok (.invokestatic 85, 3) := dk_184 0 85 (dk_at dksX12_tune_0 4 rfl rfl)
theorem dX12_tune_7 : decode cX12_tune 7 = .ok (.ifCond .ne 10, 3) := dk_154 0 10 (dk_at dksX12_tune_0 7 rfl rfl)
theorem dX12_tune_10 : decode cX12_tune 10 = .ok (.aload_n 0, 1) := dk_42 (dk_at dksX12_tune_0 10 rfl rfl)
theorem dX12_tune_11 : decode cX12_tune 11 = .ok (.bipush (-6), 2) := dk_16 250 (dk_at dksX12_tune_0 11 rfl rfl)
theorem dX12_tune_13 : decode cX12_tune 13 = .ok (.invokevirtual 78, 3) := dk_182 0 78 (dk_at dksX12_tune_0 13 rfl rfl)
theorem dX12_tune_16 : decode cX12_tune 16 = .ok (.ireturn, 1) := dk_172 (dk_at dksX12_tune_0 16 rfl rfl)
theorem dX12_tune_17 : decode cX12_tune 17 = .ok (.aload_n 0, 1) := dk_42 (dk_at dksX12_tune_0 17 rfl rfl)
theorem dX12_tune_18 : decode cX12_tune 18 = .ok (.getfield 89, 3) := dk_180 0 89 (dk_at dksX12_tune_0 18 rfl rfl)
theorem dX12_tune_21 : decode cX12_tune 21 = .ok (.bipush 6, 2) := dk_16 6 (dk_at dksX12_tune_0 21 rfl rfl)
theorem dX12_tune_23 : decode cX12_tune 23 = .ok (.if_icmp .ne 12, 3) := dk_160 0 12 (dk_at dksX12_tune_1 0 rfl rfl)
theorem dX12_tune_26 : decode cX12_tune 26 = .ok (.aload_n 0, 1) := dk_42 (dk_at dksX12_tune_1 3 rfl rfl)
theorem dX12_tune_27 : decode cX12_tune 27 = .ok (.bipush (-7), 2) := dk_16 249 (dk_at dksX12_tune_1 4 rfl rfl)
theorem dX12_tune_29 : decode cX12_tune 29 = .ok (.invokevirtual 78, 3) := dk_182 0 78 (dk_at dksX12_tune_1 6 rfl rfl)
theorem dX12_tune_32 : decode cX12_tune 32 = .ok (.goto 8, 3) := dk_167 0 8 (dk_at dksX12_tune_1 9 rfl rfl)
theorem dX12_tune_35 : decode cX12_tune 35 = .ok (.aload_n 0, 1) := dk_42 (dk_at dksX12_tune_1 12 rfl rfl)
theorem dX12_tune_36 : decode cX12_tune 36 = .ok (.iload_n 1, 1) := dk_27 (dk_at dksX12_tune_1 13 rfl rfl)
theorem dX12_tune_37 : decode cX12_tune 37 = .ok (.invokevirtual 117, 3) := dk_182 0 117 (dk_at dksX12_tune_1 14 rfl rfl)
theorem dX12_tune_40 : decode cX12_tune 40 = .ok (.ireturn, 1) := dk_172 (dk_at dksX12_tune_1 17 rfl rfl)
abbrev cX12_newTune : ByteArray := prog_22_method_24_code
def yX12_newTune : MethodName := ⟨RX12, "newTune", "(I)I"⟩
def dkwX12_newTune_0 : List UInt8 := [42, 180, 0, 38, 42, 180, 0, 89, 27, 79, 42, 89, 180, 0, 89, 90, 4, 96, 181, 0, 89, 172]
abbrev dktX12_newTune_0 : List UInt8 := dkwX12_newTune_0 ++ []
theorem dksX12_newTune_0 : cX12_newTune.data.toList.drop 0 = dktX12_newTune_0 := by decide +kernel
theorem dX12_newTune_0 : decode cX12_newTune 0 = .ok (.aload_n 0, 1) := dk_42 (dk_at dksX12_newTune_0 0 rfl rfl)
theorem dX12_newTune_1 : decode cX12_newTune 1 = .ok (.getfield 38, 3) := dk_180 0 38 (dk_at dksX12_newTune_0 1 rfl rfl)
theorem dX12_newTune_4 : decode cX12_newTune 4 = .ok (.aload_n 0, 1) := dk_42 (dk_at dksX12_newTune_0 4 rfl rfl)
theorem dX12_newTune_5 : decode cX12_newTune 5 = .ok (.getfield 89, 3) := dk_180 0 89 (dk_at dksX12_newTune_0 5 rfl rfl)
theorem dX12_newTune_8 : decode cX12_newTune 8 = .ok (.iload_n 1, 1) := dk_27 (dk_at dksX12_newTune_0 8 rfl rfl)
theorem dX12_newTune_9 : decode cX12_newTune 9 = .ok (.iastore, 1) := dk_79 (dk_at dksX12_newTune_0 9 rfl rfl)
theorem dX12_newTune_10 : decode cX12_newTune 10 = .ok (.aload_n 0, 1) := dk_42 (dk_at dksX12_newTune_0 10 rfl rfl)
theorem dX12_newTune_11 : decode cX12_newTune 11 = .ok (.dup, 1) := dk_89 (dk_at dksX12_newTune_0 11 rfl rfl)
theorem dX12_newTune_12 : decode cX12_newTune 12 = .ok (.getfield 89, 3) := dk_180 0 89 (dk_at dksX12_newTune_0 12 rfl rfl)
theorem dX12_newTune_15 : decode cX12_newTune 15 = .ok (.dup_x1, 1) := dk_90 (dk_at dksX12_newTune_0 15 rfl rfl)
theorem dX12_newTune_16 : decode cX12_newTune 16 = .ok (.iconst 1, 1) := dk_4 (dk_at dksX12_newTune_0 16 rfl rfl)
theorem dX12_newTune_17 : decode cX12_newTune 17 = .ok (.iadd, 1) := dk_96 (dk_at dksX12_newTune_0 17 rfl rfl)
theorem dX12_newTune_18 : decode cX12_newTune 18 = .ok (.putfield 89, 3) := dk_181 0 89 (dk_at dksX12_newTune_0 18 rfl rfl)
theorem dX12_newTune_21 : decode cX12_newTune 21 = .ok (.ireturn, 1) := dk_172 (dk_at dksX12_newTune_0 21 rfl rfl)
abbrev cX12_voice : ByteArray := prog_22_method_26_code
def yX12_voice : MethodName := ⟨RX12, "voice", "(IIIII)I"⟩
def dkwX12_voice_3 : List UInt8 := [42, 16, 249, 182, 0, 78, 167, 0, 14, 42, 27, 28, 29, 21, 4, 21, 5, 182, 0, 123, 172]
abbrev dktX12_voice_3 : List UInt8 := dkwX12_voice_3 ++ []
def dkwX12_voice_2 : List UInt8 := [16, 11, 184, 0, 85, 154, 0, 10, 42, 16, 250, 182, 0, 78, 172, 42, 180, 0, 82, 16, 12, 160, 0, 12]
abbrev dktX12_voice_2 : List UInt8 := dkwX12_voice_2 ++ dktX12_voice_3
def dkwX12_voice_1 : List UInt8 := [153, 0, 32, 42, 29, 182, 0, 120, 153, 0, 24, 21, 4, 3, 8, 184, 0, 85, 153, 0, 14, 21, 5, 3]
abbrev dktX12_voice_1 : List UInt8 := dkwX12_voice_1 ++ dktX12_voice_2
def dkwX12_voice_0 : List UInt8 := [27, 3, 16, 6, 184, 0, 85, 154, 0, 9, 42, 2, 182, 0, 78, 172, 28, 3, 16, 9, 184, 0, 85]
abbrev dktX12_voice_0 : List UInt8 := dkwX12_voice_0 ++ dktX12_voice_1
theorem dksX12_voice_0 : cX12_voice.data.toList.drop 0 = dktX12_voice_0 := by decide +kernel
theorem dksX12_voice_1 : cX12_voice.data.toList.drop 23 = dktX12_voice_1 := dk_seg dksX12_voice_0 23 rfl rfl
theorem dksX12_voice_2 : cX12_voice.data.toList.drop 47 = dktX12_voice_2 := dk_seg dksX12_voice_1 24 rfl rfl
theorem dksX12_voice_3 : cX12_voice.data.toList.drop 71 = dktX12_voice_3 := dk_seg dksX12_voice_2 24 rfl rfl
theorem dX12_voice_0 : decode cX12_voice 0 = .ok (.iload_n 1, 1) := dk_27 (dk_at dksX12_voice_0 0 rfl rfl)
theorem dX12_voice_1 : decode cX12_voice 1 = .ok (.iconst 0, 1) := dk_3 (dk_at dksX12_voice_0 1 rfl rfl)
theorem dX12_voice_2 : decode cX12_voice 2 = .ok (.bipush 6, 2) := dk_16 6 (dk_at dksX12_voice_0 2 rfl rfl)
theorem dX12_voice_4 : decode cX12_voice 4 = .ok (.invokestatic 85, 3) := dk_184 0 85 (dk_at dksX12_voice_0 4 rfl rfl)
theorem dX12_voice_7 : decode cX12_voice 7 = .ok (.ifCond .ne 9, 3) := dk_154 0 9 (dk_at dksX12_voice_0 7 rfl rfl)
theorem dX12_voice_10 : decode cX12_voice 10 = .ok (.aload_n 0, 1) := dk_42 (dk_at dksX12_voice_0 10 rfl rfl)
theorem dX12_voice_11 : decode cX12_voice 11 = .ok (.iconst (-1), 1) := dk_2 (dk_at dksX12_voice_0 11 rfl rfl)
theorem dX12_voice_12 : decode cX12_voice 12 = .ok (.invokevirtual 78, 3) := dk_182 0 78 (dk_at dksX12_voice_0 12 rfl rfl)
theorem dX12_voice_15 : decode cX12_voice 15 = .ok (.ireturn, 1) := dk_172 (dk_at dksX12_voice_0 15 rfl rfl)
theorem dX12_voice_16 : decode cX12_voice 16 = .ok (.iload_n 2, 1) := dk_28 (dk_at dksX12_voice_0 16 rfl rfl)
theorem dX12_voice_17 : decode cX12_voice 17 = .ok (.iconst 0, 1) := dk_3 (dk_at dksX12_voice_0 17 rfl rfl)
theorem dX12_voice_18 : decode cX12_voice 18 = .ok (.bipush 9, 2) := dk_16 9 (dk_at dksX12_voice_0 18 rfl rfl)
theorem dX12_voice_20 : decode cX12_voice 20 = .ok (.invokestatic 85, 3) := dk_184 0 85 (dk_at dksX12_voice_0 20 rfl rfl)
theorem dX12_voice_23 : decode cX12_voice 23 = .ok (.ifCond .eq 32, 3) := dk_153 0 32 (dk_at dksX12_voice_1 0 rfl rfl)
theorem dX12_voice_26 : decode cX12_voice 26 = .ok (.aload_n 0, 1) := dk_42 (dk_at dksX12_voice_1 3 rfl rfl)
theorem dX12_voice_27 : decode cX12_voice 27 = .ok (.iload_n 3, 1) := dk_29 (dk_at dksX12_voice_1 4 rfl rfl)
theorem dX12_voice_28 : decode cX12_voice 28 = .ok (.invokevirtual 120, 3) := dk_182 0 120 (dk_at dksX12_voice_1 5 rfl rfl)
theorem dX12_voice_31 : decode cX12_voice 31 = .ok (.ifCond .eq 24, 3) := dk_153 0 24 (dk_at dksX12_voice_1 8 rfl rfl)
theorem dX12_voice_34 : decode cX12_voice 34 = .ok (.iload 4, 2) := dk_21 4 (dk_at dksX12_voice_1 11 rfl rfl)
theorem dX12_voice_36 : decode cX12_voice 36 = .ok (.iconst 0, 1) := dk_3 (dk_at dksX12_voice_1 13 rfl rfl)
theorem dX12_voice_37 : decode cX12_voice 37 = .ok (.iconst 5, 1) := dk_8 (dk_at dksX12_voice_1 14 rfl rfl)
theorem dX12_voice_38 : decode cX12_voice 38 = .ok (.invokestatic 85, 3) := dk_184 0 85 (dk_at dksX12_voice_1 15 rfl rfl)
theorem dX12_voice_41 : decode cX12_voice 41 = .ok (.ifCond .eq 14, 3) := dk_153 0 14 (dk_at dksX12_voice_1 18 rfl rfl)
theorem dX12_voice_44 : decode cX12_voice 44 = .ok (.iload 5, 2) := dk_21 5 (dk_at dksX12_voice_1 21 rfl rfl)
theorem dX12_voice_46 : decode cX12_voice 46 = .ok (.iconst 0, 1) := dk_3 (dk_at dksX12_voice_1 23 rfl rfl)
theorem dX12_voice_47 : decode cX12_voice 47 = .ok (.bipush 11, 2) := dk_16 11 (dk_at dksX12_voice_2 0 rfl rfl)
theorem dX12_voice_49 : decode cX12_voice 49 = .ok (.invokestatic 85, 3) := dk_184 0 85 (dk_at dksX12_voice_2 2 rfl rfl)
theorem dX12_voice_52 : decode cX12_voice 52 = .ok (.ifCond .ne 10, 3) := dk_154 0 10 (dk_at dksX12_voice_2 5 rfl rfl)
theorem dX12_voice_55 : decode cX12_voice 55 = .ok (.aload_n 0, 1) := dk_42 (dk_at dksX12_voice_2 8 rfl rfl)
theorem dX12_voice_56 : decode cX12_voice 56 = .ok (.bipush (-6), 2) := dk_16 250 (dk_at dksX12_voice_2 9 rfl rfl)
theorem dX12_voice_58 : decode cX12_voice 58 = .ok (.invokevirtual 78, 3) := dk_182 0 78 (dk_at dksX12_voice_2 11 rfl rfl)
theorem dX12_voice_61 : decode cX12_voice 61 = .ok (.ireturn, 1) := dk_172 (dk_at dksX12_voice_2 14 rfl rfl)
theorem dX12_voice_62 : decode cX12_voice 62 = .ok (.aload_n 0, 1) := dk_42 (dk_at dksX12_voice_2 15 rfl rfl)
theorem dX12_voice_63 : decode cX12_voice 63 = .ok (.getfield 82, 3) := dk_180 0 82 (dk_at dksX12_voice_2 16 rfl rfl)
theorem dX12_voice_66 : decode cX12_voice 66 = .ok (.bipush 12, 2) := dk_16 12 (dk_at dksX12_voice_2 19 rfl rfl)
theorem dX12_voice_68 : decode cX12_voice 68 = .ok (.if_icmp .ne 12, 3) := dk_160 0 12 (dk_at dksX12_voice_2 21 rfl rfl)
theorem dX12_voice_71 : decode cX12_voice 71 = .ok (.aload_n 0, 1) := dk_42 (dk_at dksX12_voice_3 0 rfl rfl)
theorem dX12_voice_72 : decode cX12_voice 72 = .ok (.bipush (-7), 2) := dk_16 249 (dk_at dksX12_voice_3 1 rfl rfl)
theorem dX12_voice_74 : decode cX12_voice 74 = .ok (.invokevirtual 78, 3) := dk_182 0 78 (dk_at dksX12_voice_3 3 rfl rfl)
theorem dX12_voice_77 : decode cX12_voice 77 = .ok (.goto 14, 3) := dk_167 0 14 (dk_at dksX12_voice_3 6 rfl rfl)
theorem dX12_voice_80 : decode cX12_voice 80 = .ok (.aload_n 0, 1) := dk_42 (dk_at dksX12_voice_3 9 rfl rfl)
theorem dX12_voice_81 : decode cX12_voice 81 = .ok (.iload_n 1, 1) := dk_27 (dk_at dksX12_voice_3 10 rfl rfl)
theorem dX12_voice_82 : decode cX12_voice 82 = .ok (.iload_n 2, 1) := dk_28 (dk_at dksX12_voice_3 11 rfl rfl)
theorem dX12_voice_83 : decode cX12_voice 83 = .ok (.iload_n 3, 1) := dk_29 (dk_at dksX12_voice_3 12 rfl rfl)
theorem dX12_voice_84 : decode cX12_voice 84 = .ok (.iload 4, 2) := dk_21 4 (dk_at dksX12_voice_3 13 rfl rfl)
theorem dX12_voice_86 : decode cX12_voice 86 = .ok (.iload 5, 2) := dk_21 5 (dk_at dksX12_voice_3 15 rfl rfl)
theorem dX12_voice_88 : decode cX12_voice 88 = .ok (.invokevirtual 123, 3) := dk_182 0 123 (dk_at dksX12_voice_3 17 rfl rfl)
theorem dX12_voice_91 : decode cX12_voice 91 = .ok (.ireturn, 1) := dk_172 (dk_at dksX12_voice_3 20 rfl rfl)
abbrev cX12_isFree : ByteArray := prog_22_method_9_code
def yX12_isFree : MethodName := ⟨RX12, "isFree", "(I)Z"⟩
def dkwX12_isFree_0 : List UInt8 := [27, 3, 16, 23, 184, 0, 85, 153, 0, 15, 42, 27, 182, 0, 92, 154, 0, 7, 4, 167, 0, 4, 3, 172]
abbrev dktX12_isFree_0 : List UInt8 := dkwX12_isFree_0 ++ []
theorem dksX12_isFree_0 : cX12_isFree.data.toList.drop 0 = dktX12_isFree_0 := by decide +kernel
theorem dX12_isFree_0 : decode cX12_isFree 0 = .ok (.iload_n 1, 1) := dk_27 (dk_at dksX12_isFree_0 0 rfl rfl)
theorem dX12_isFree_1 : decode cX12_isFree 1 = .ok (.iconst 0, 1) := dk_3 (dk_at dksX12_isFree_0 1 rfl rfl)
theorem dX12_isFree_2 : decode cX12_isFree 2 = .ok (.bipush 23, 2) := dk_16 23 (dk_at dksX12_isFree_0 2 rfl rfl)
theorem dX12_isFree_4 : decode cX12_isFree 4 = .ok (.invokestatic 85, 3) := dk_184 0 85 (dk_at dksX12_isFree_0 4 rfl rfl)
theorem dX12_isFree_7 : decode cX12_isFree 7 = .ok (.ifCond .eq 15, 3) := dk_153 0 15 (dk_at dksX12_isFree_0 7 rfl rfl)
theorem dX12_isFree_10 : decode cX12_isFree 10 = .ok (.aload_n 0, 1) := dk_42 (dk_at dksX12_isFree_0 10 rfl rfl)
theorem dX12_isFree_11 : decode cX12_isFree 11 = .ok (.iload_n 1, 1) := dk_27 (dk_at dksX12_isFree_0 11 rfl rfl)
theorem dX12_isFree_12 : decode cX12_isFree 12 = .ok (.invokevirtual 92, 3) := dk_182 0 92 (dk_at dksX12_isFree_0 12 rfl rfl)
theorem dX12_isFree_15 : decode cX12_isFree 15 = .ok (.ifCond .ne 7, 3) := dk_154 0 7 (dk_at dksX12_isFree_0 15 rfl rfl)
theorem dX12_isFree_18 : decode cX12_isFree 18 = .ok (.iconst 1, 1) := dk_4 (dk_at dksX12_isFree_0 18 rfl rfl)
theorem dX12_isFree_19 : decode cX12_isFree 19 = .ok (.goto 4, 3) := dk_167 0 4 (dk_at dksX12_isFree_0 19 rfl rfl)
theorem dX12_isFree_22 : decode cX12_isFree 22 = .ok (.iconst 0, 1) := dk_3 (dk_at dksX12_isFree_0 22 rfl rfl)
theorem dX12_isFree_23 : decode cX12_isFree 23 = .ok (.ireturn, 1) := dk_172 (dk_at dksX12_isFree_0 23 rfl rfl)
abbrev cX12_isTaken : ByteArray := prog_22_method_8_code
def yX12_isTaken : MethodName := ⟨RX12, "isTaken", "(I)Z"⟩
def dkwX12_isTaken_1 : List UInt8 := [132, 2, 1, 167, 255, 233, 3, 172]
abbrev dktX12_isTaken_1 : List UInt8 := dkwX12_isTaken_1 ++ []
def dkwX12_isTaken_0 : List UInt8 := [3, 61, 28, 42, 180, 0, 82, 162, 0, 21, 42, 180, 0, 26, 28, 46, 27, 160, 0, 5, 4, 172]
abbrev dktX12_isTaken_0 : List UInt8 := dkwX12_isTaken_0 ++ dktX12_isTaken_1
theorem dksX12_isTaken_0 : cX12_isTaken.data.toList.drop 0 = dktX12_isTaken_0 := by decide +kernel
theorem dksX12_isTaken_1 : cX12_isTaken.data.toList.drop 22 = dktX12_isTaken_1 := dk_seg dksX12_isTaken_0 22 rfl rfl
theorem dX12_isTaken_0 : decode cX12_isTaken 0 = .ok (.iconst 0, 1) := dk_3 (dk_at dksX12_isTaken_0 0 rfl rfl)
theorem dX12_isTaken_1 : decode cX12_isTaken 1 = .ok (.istore_n 2, 1) := dk_61 (dk_at dksX12_isTaken_0 1 rfl rfl)
theorem dX12_isTaken_2 : decode cX12_isTaken 2 = .ok (.iload_n 2, 1) := dk_28 (dk_at dksX12_isTaken_0 2 rfl rfl)
theorem dX12_isTaken_3 : decode cX12_isTaken 3 = .ok (.aload_n 0, 1) := dk_42 (dk_at dksX12_isTaken_0 3 rfl rfl)
theorem dX12_isTaken_4 : decode cX12_isTaken 4 = .ok (.getfield 82, 3) := dk_180 0 82 (dk_at dksX12_isTaken_0 4 rfl rfl)
theorem dX12_isTaken_7 : decode cX12_isTaken 7 = .ok (.if_icmp .ge 21, 3) := dk_162 0 21 (dk_at dksX12_isTaken_0 7 rfl rfl)
theorem dX12_isTaken_10 : decode cX12_isTaken 10 = .ok (.aload_n 0, 1) := dk_42 (dk_at dksX12_isTaken_0 10 rfl rfl)
theorem dX12_isTaken_11 : decode cX12_isTaken 11 = .ok (.getfield 26, 3) := dk_180 0 26 (dk_at dksX12_isTaken_0 11 rfl rfl)
theorem dX12_isTaken_14 : decode cX12_isTaken 14 = .ok (.iload_n 2, 1) := dk_28 (dk_at dksX12_isTaken_0 14 rfl rfl)
theorem dX12_isTaken_15 : decode cX12_isTaken 15 = .ok (.iaload, 1) := dk_46 (dk_at dksX12_isTaken_0 15 rfl rfl)
theorem dX12_isTaken_16 : decode cX12_isTaken 16 = .ok (.iload_n 1, 1) := dk_27 (dk_at dksX12_isTaken_0 16 rfl rfl)
theorem dX12_isTaken_17 : decode cX12_isTaken 17 = .ok (.if_icmp .ne 5, 3) := dk_160 0 5 (dk_at dksX12_isTaken_0 17 rfl rfl)
theorem dX12_isTaken_20 : decode cX12_isTaken 20 = .ok (.iconst 1, 1) := dk_4 (dk_at dksX12_isTaken_0 20 rfl rfl)
theorem dX12_isTaken_21 : decode cX12_isTaken 21 = .ok (.ireturn, 1) := dk_172 (dk_at dksX12_isTaken_0 21 rfl rfl)
theorem dX12_isTaken_22 : decode cX12_isTaken 22 = .ok (.iinc 2 1, 3) := dk_132 2 1 (dk_at dksX12_isTaken_1 0 rfl rfl)
theorem dX12_isTaken_25 : decode cX12_isTaken 25 = .ok (.goto (-23), 3) := dk_167 255 233 (dk_at dksX12_isTaken_1 3 rfl rfl)
theorem dX12_isTaken_28 : decode cX12_isTaken 28 = .ok (.iconst 0, 1) := dk_3 (dk_at dksX12_isTaken_1 6 rfl rfl)
theorem dX12_isTaken_29 : decode cX12_isTaken 29 = .ok (.ireturn, 1) := dk_172 (dk_at dksX12_isTaken_1 7 rfl rfl)
abbrev cX12_newVoice : ByteArray := prog_22_method_23_code
def yX12_newVoice : MethodName := ⟨RX12, "newVoice", "(IIIII)I"⟩
def dkwX12_newVoice_3 : List UInt8 := [181, 0, 82, 172]
abbrev dktX12_newVoice_3 : List UInt8 := dkwX12_newVoice_3 ++ []
def dkwX12_newVoice_2 : List UInt8 := [180, 0, 82, 21, 5, 79, 42, 180, 0, 35, 42, 180, 0, 82, 3, 79, 42, 89, 180, 0, 82, 90, 4, 96]
abbrev dktX12_newVoice_2 : List UInt8 := dkwX12_newVoice_2 ++ dktX12_newVoice_3
def dkwX12_newVoice_1 : List UInt8 := [42, 180, 0, 82, 29, 79, 42, 180, 0, 29, 42, 180, 0, 82, 21, 4, 79, 42, 180, 0, 32, 42]
abbrev dktX12_newVoice_1 : List UInt8 := dkwX12_newVoice_1 ++ dktX12_newVoice_2
def dkwX12_newVoice_0 : List UInt8 := [42, 180, 0, 20, 42, 180, 0, 82, 27, 79, 42, 180, 0, 23, 42, 180, 0, 82, 28, 79, 42, 180, 0, 26]
abbrev dktX12_newVoice_0 : List UInt8 := dkwX12_newVoice_0 ++ dktX12_newVoice_1
theorem dksX12_newVoice_0 : cX12_newVoice.data.toList.drop 0 = dktX12_newVoice_0 := by decide +kernel
theorem dksX12_newVoice_1 : cX12_newVoice.data.toList.drop 24 = dktX12_newVoice_1 := dk_seg dksX12_newVoice_0 24 rfl rfl
theorem dksX12_newVoice_2 : cX12_newVoice.data.toList.drop 46 = dktX12_newVoice_2 := dk_seg dksX12_newVoice_1 22 rfl rfl
theorem dksX12_newVoice_3 : cX12_newVoice.data.toList.drop 70 = dktX12_newVoice_3 := dk_seg dksX12_newVoice_2 24 rfl rfl
theorem dX12_newVoice_0 : decode cX12_newVoice 0 = .ok (.aload_n 0, 1) := dk_42 (dk_at dksX12_newVoice_0 0 rfl rfl)
theorem dX12_newVoice_1 : decode cX12_newVoice 1 = .ok (.getfield 20, 3) := dk_180 0 20 (dk_at dksX12_newVoice_0 1 rfl rfl)
theorem dX12_newVoice_4 : decode cX12_newVoice 4 = .ok (.aload_n 0, 1) := dk_42 (dk_at dksX12_newVoice_0 4 rfl rfl)
theorem dX12_newVoice_5 : decode cX12_newVoice 5 = .ok (.getfield 82, 3) := dk_180 0 82 (dk_at dksX12_newVoice_0 5 rfl rfl)
theorem dX12_newVoice_8 : decode cX12_newVoice 8 = .ok (.iload_n 1, 1) := dk_27 (dk_at dksX12_newVoice_0 8 rfl rfl)
theorem dX12_newVoice_9 : decode cX12_newVoice 9 = .ok (.iastore, 1) := dk_79 (dk_at dksX12_newVoice_0 9 rfl rfl)
theorem dX12_newVoice_10 : decode cX12_newVoice 10 = .ok (.aload_n 0, 1) := dk_42 (dk_at dksX12_newVoice_0 10 rfl rfl)
theorem dX12_newVoice_11 : decode cX12_newVoice 11 = .ok (.getfield 23, 3) := dk_180 0 23 (dk_at dksX12_newVoice_0 11 rfl rfl)
theorem dX12_newVoice_14 : decode cX12_newVoice 14 = .ok (.aload_n 0, 1) := dk_42 (dk_at dksX12_newVoice_0 14 rfl rfl)
theorem dX12_newVoice_15 : decode cX12_newVoice 15 = .ok (.getfield 82, 3) := dk_180 0 82 (dk_at dksX12_newVoice_0 15 rfl rfl)
theorem dX12_newVoice_18 : decode cX12_newVoice 18 = .ok (.iload_n 2, 1) := dk_28 (dk_at dksX12_newVoice_0 18 rfl rfl)
theorem dX12_newVoice_19 : decode cX12_newVoice 19 = .ok (.iastore, 1) := dk_79 (dk_at dksX12_newVoice_0 19 rfl rfl)
theorem dX12_newVoice_20 : decode cX12_newVoice 20 = .ok (.aload_n 0, 1) := dk_42 (dk_at dksX12_newVoice_0 20 rfl rfl)
theorem dX12_newVoice_21 : decode cX12_newVoice 21 = .ok (.getfield 26, 3) := dk_180 0 26 (dk_at dksX12_newVoice_0 21 rfl rfl)
theorem dX12_newVoice_24 : decode cX12_newVoice 24 = .ok (.aload_n 0, 1) := dk_42 (dk_at dksX12_newVoice_1 0 rfl rfl)
theorem dX12_newVoice_25 : decode cX12_newVoice 25 = .ok (.getfield 82, 3) := dk_180 0 82 (dk_at dksX12_newVoice_1 1 rfl rfl)
theorem dX12_newVoice_28 : decode cX12_newVoice 28 = .ok (.iload_n 3, 1) := dk_29 (dk_at dksX12_newVoice_1 4 rfl rfl)
theorem dX12_newVoice_29 : decode cX12_newVoice 29 = .ok (.iastore, 1) := dk_79 (dk_at dksX12_newVoice_1 5 rfl rfl)
theorem dX12_newVoice_30 : decode cX12_newVoice 30 = .ok (.aload_n 0, 1) := dk_42 (dk_at dksX12_newVoice_1 6 rfl rfl)
theorem dX12_newVoice_31 : decode cX12_newVoice 31 = .ok (.getfield 29, 3) := dk_180 0 29 (dk_at dksX12_newVoice_1 7 rfl rfl)
theorem dX12_newVoice_34 : decode cX12_newVoice 34 = .ok (.aload_n 0, 1) := dk_42 (dk_at dksX12_newVoice_1 10 rfl rfl)
theorem dX12_newVoice_35 : decode cX12_newVoice 35 = .ok (.getfield 82, 3) := dk_180 0 82 (dk_at dksX12_newVoice_1 11 rfl rfl)
theorem dX12_newVoice_38 : decode cX12_newVoice 38 = .ok (.iload 4, 2) := dk_21 4 (dk_at dksX12_newVoice_1 14 rfl rfl)
theorem dX12_newVoice_40 : decode cX12_newVoice 40 = .ok (.iastore, 1) := dk_79 (dk_at dksX12_newVoice_1 16 rfl rfl)
theorem dX12_newVoice_41 : decode cX12_newVoice 41 = .ok (.aload_n 0, 1) := dk_42 (dk_at dksX12_newVoice_1 17 rfl rfl)
theorem dX12_newVoice_42 : decode cX12_newVoice 42 = .ok (.getfield 32, 3) := dk_180 0 32 (dk_at dksX12_newVoice_1 18 rfl rfl)
theorem dX12_newVoice_45 : decode cX12_newVoice 45 = .ok (.aload_n 0, 1) := dk_42 (dk_at dksX12_newVoice_1 21 rfl rfl)
theorem dX12_newVoice_46 : decode cX12_newVoice 46 = .ok (.getfield 82, 3) := dk_180 0 82 (dk_at dksX12_newVoice_2 0 rfl rfl)
theorem dX12_newVoice_49 : decode cX12_newVoice 49 = .ok (.iload 5, 2) := dk_21 5 (dk_at dksX12_newVoice_2 3 rfl rfl)
theorem dX12_newVoice_51 : decode cX12_newVoice 51 = .ok (.iastore, 1) := dk_79 (dk_at dksX12_newVoice_2 5 rfl rfl)
theorem dX12_newVoice_52 : decode cX12_newVoice 52 = .ok (.aload_n 0, 1) := dk_42 (dk_at dksX12_newVoice_2 6 rfl rfl)
theorem dX12_newVoice_53 : decode cX12_newVoice 53 = .ok (.getfield 35, 3) := dk_180 0 35 (dk_at dksX12_newVoice_2 7 rfl rfl)
theorem dX12_newVoice_56 : decode cX12_newVoice 56 = .ok (.aload_n 0, 1) := dk_42 (dk_at dksX12_newVoice_2 10 rfl rfl)
theorem dX12_newVoice_57 : decode cX12_newVoice 57 = .ok (.getfield 82, 3) := dk_180 0 82 (dk_at dksX12_newVoice_2 11 rfl rfl)
theorem dX12_newVoice_60 : decode cX12_newVoice 60 = .ok (.iconst 0, 1) := dk_3 (dk_at dksX12_newVoice_2 14 rfl rfl)
theorem dX12_newVoice_61 : decode cX12_newVoice 61 = .ok (.iastore, 1) := dk_79 (dk_at dksX12_newVoice_2 15 rfl rfl)
theorem dX12_newVoice_62 : decode cX12_newVoice 62 = .ok (.aload_n 0, 1) := dk_42 (dk_at dksX12_newVoice_2 16 rfl rfl)
theorem dX12_newVoice_63 : decode cX12_newVoice 63 = .ok (.dup, 1) := dk_89 (dk_at dksX12_newVoice_2 17 rfl rfl)
theorem dX12_newVoice_64 : decode cX12_newVoice 64 = .ok (.getfield 82, 3) := dk_180 0 82 (dk_at dksX12_newVoice_2 18 rfl rfl)
theorem dX12_newVoice_67 : decode cX12_newVoice 67 = .ok (.dup_x1, 1) := dk_90 (dk_at dksX12_newVoice_2 21 rfl rfl)
theorem dX12_newVoice_68 : decode cX12_newVoice 68 = .ok (.iconst 1, 1) := dk_4 (dk_at dksX12_newVoice_2 22 rfl rfl)
theorem dX12_newVoice_69 : decode cX12_newVoice 69 = .ok (.iadd, 1) := dk_96 (dk_at dksX12_newVoice_2 23 rfl rfl)
theorem dX12_newVoice_70 : decode cX12_newVoice 70 = .ok (.putfield 82, 3) := dk_181 0 82 (dk_at dksX12_newVoice_3 0 rfl rfl)
theorem dX12_newVoice_73 : decode cX12_newVoice 73 = .ok (.ireturn, 1) := dk_172 (dk_at dksX12_newVoice_3 3 rfl rfl)
abbrev cX12_knows : ByteArray := prog_22_method_27_code
def yX12_knows : MethodName := ⟨RX12, "knows", "(IIZ)I"⟩
def dkwX12_knows_3 : List UInt8 := [172]
abbrev dktX12_knows_3 : List UInt8 := dkwX12_knows_3 ++ []
def dkwX12_knows_2 : List UInt8 := [27, 46, 4, 28, 120, 128, 167, 0, 15, 42, 180, 0, 35, 27, 46, 4, 28, 120, 2, 130, 126, 79, 21, 4]
abbrev dktX12_knows_2 : List UInt8 := dkwX12_knows_2 ++ dktX12_knows_3
def dkwX12_knows_1 : List UInt8 := [180, 0, 35, 27, 46, 28, 122, 4, 126, 54, 4, 42, 180, 0, 35, 27, 29, 153, 0, 16, 42, 180, 0, 35]
abbrev dktX12_knows_1 : List UInt8 := dkwX12_knows_1 ++ dktX12_knows_2
def dkwX12_knows_0 : List UInt8 := [42, 27, 182, 0, 102, 153, 0, 11, 42, 28, 182, 0, 127, 154, 0, 9, 42, 2, 182, 0, 78, 172, 42]
abbrev dktX12_knows_0 : List UInt8 := dkwX12_knows_0 ++ dktX12_knows_1
theorem dksX12_knows_0 : cX12_knows.data.toList.drop 0 = dktX12_knows_0 := by decide +kernel
theorem dksX12_knows_1 : cX12_knows.data.toList.drop 23 = dktX12_knows_1 := dk_seg dksX12_knows_0 23 rfl rfl
theorem dksX12_knows_2 : cX12_knows.data.toList.drop 47 = dktX12_knows_2 := dk_seg dksX12_knows_1 24 rfl rfl
theorem dksX12_knows_3 : cX12_knows.data.toList.drop 71 = dktX12_knows_3 := dk_seg dksX12_knows_2 24 rfl rfl
theorem dX12_knows_0 : decode cX12_knows 0 = .ok (.aload_n 0, 1) := dk_42 (dk_at dksX12_knows_0 0 rfl rfl)
theorem dX12_knows_1 : decode cX12_knows 1 = .ok (.iload_n 1, 1) := dk_27 (dk_at dksX12_knows_0 1 rfl rfl)
theorem dX12_knows_2 : decode cX12_knows 2 = .ok (.invokevirtual 102, 3) := dk_182 0 102 (dk_at dksX12_knows_0 2 rfl rfl)
theorem dX12_knows_5 : decode cX12_knows 5 = .ok (.ifCond .eq 11, 3) := dk_153 0 11 (dk_at dksX12_knows_0 5 rfl rfl)
theorem dX12_knows_8 : decode cX12_knows 8 = .ok (.aload_n 0, 1) := dk_42 (dk_at dksX12_knows_0 8 rfl rfl)
theorem dX12_knows_9 : decode cX12_knows 9 = .ok (.iload_n 2, 1) := dk_28 (dk_at dksX12_knows_0 9 rfl rfl)
theorem dX12_knows_10 : decode cX12_knows 10 = .ok (.invokevirtual 127, 3) := dk_182 0 127 (dk_at dksX12_knows_0 10 rfl rfl)
theorem dX12_knows_13 : decode cX12_knows 13 = .ok (.ifCond .ne 9, 3) := dk_154 0 9 (dk_at dksX12_knows_0 13 rfl rfl)
theorem dX12_knows_16 : decode cX12_knows 16 = .ok (.aload_n 0, 1) := dk_42 (dk_at dksX12_knows_0 16 rfl rfl)
theorem dX12_knows_17 : decode cX12_knows 17 = .ok (.iconst (-1), 1) := dk_2 (dk_at dksX12_knows_0 17 rfl rfl)
theorem dX12_knows_18 : decode cX12_knows 18 = .ok (.invokevirtual 78, 3) := dk_182 0 78 (dk_at dksX12_knows_0 18 rfl rfl)
theorem dX12_knows_21 : decode cX12_knows 21 = .ok (.ireturn, 1) := dk_172 (dk_at dksX12_knows_0 21 rfl rfl)
theorem dX12_knows_22 : decode cX12_knows 22 = .ok (.aload_n 0, 1) := dk_42 (dk_at dksX12_knows_0 22 rfl rfl)
theorem dX12_knows_23 : decode cX12_knows 23 = .ok (.getfield 35, 3) := dk_180 0 35 (dk_at dksX12_knows_1 0 rfl rfl)
theorem dX12_knows_26 : decode cX12_knows 26 = .ok (.iload_n 1, 1) := dk_27 (dk_at dksX12_knows_1 3 rfl rfl)
theorem dX12_knows_27 : decode cX12_knows 27 = .ok (.iaload, 1) := dk_46 (dk_at dksX12_knows_1 4 rfl rfl)
theorem dX12_knows_28 : decode cX12_knows 28 = .ok (.iload_n 2, 1) := dk_28 (dk_at dksX12_knows_1 5 rfl rfl)
theorem dX12_knows_29 : decode cX12_knows 29 = .ok (.ishr, 1) := dk_122 (dk_at dksX12_knows_1 6 rfl rfl)
theorem dX12_knows_30 : decode cX12_knows 30 = .ok (.iconst 1, 1) := dk_4 (dk_at dksX12_knows_1 7 rfl rfl)
theorem dX12_knows_31 : decode cX12_knows 31 = .ok (.iand, 1) := dk_126 (dk_at dksX12_knows_1 8 rfl rfl)
theorem dX12_knows_32 : decode cX12_knows 32 = .ok (.istore 4, 2) := dk_54 4 (dk_at dksX12_knows_1 9 rfl rfl)
theorem dX12_knows_34 : decode cX12_knows 34 = .ok (.aload_n 0, 1) := dk_42 (dk_at dksX12_knows_1 11 rfl rfl)
theorem dX12_knows_35 : decode cX12_knows 35 = .ok (.getfield 35, 3) := dk_180 0 35 (dk_at dksX12_knows_1 12 rfl rfl)
theorem dX12_knows_38 : decode cX12_knows 38 = .ok (.iload_n 1, 1) := dk_27 (dk_at dksX12_knows_1 15 rfl rfl)
theorem dX12_knows_39 : decode cX12_knows 39 = .ok (.iload_n 3, 1) := dk_29 (dk_at dksX12_knows_1 16 rfl rfl)
theorem dX12_knows_40 : decode cX12_knows 40 = .ok (.ifCond .eq 16, 3) := dk_153 0 16 (dk_at dksX12_knows_1 17 rfl rfl)
theorem dX12_knows_43 : decode cX12_knows 43 = .ok (.aload_n 0, 1) := dk_42 (dk_at dksX12_knows_1 20 rfl rfl)
theorem dX12_knows_44 : decode cX12_knows 44 = .ok (.getfield 35, 3) := dk_180 0 35 (dk_at dksX12_knows_1 21 rfl rfl)
theorem dX12_knows_47 : decode cX12_knows 47 = .ok (.iload_n 1, 1) := dk_27 (dk_at dksX12_knows_2 0 rfl rfl)
theorem dX12_knows_48 : decode cX12_knows 48 = .ok (.iaload, 1) := dk_46 (dk_at dksX12_knows_2 1 rfl rfl)
theorem dX12_knows_49 : decode cX12_knows 49 = .ok (.iconst 1, 1) := dk_4 (dk_at dksX12_knows_2 2 rfl rfl)
theorem dX12_knows_50 : decode cX12_knows 50 = .ok (.iload_n 2, 1) := dk_28 (dk_at dksX12_knows_2 3 rfl rfl)
theorem dX12_knows_51 : decode cX12_knows 51 = .ok (.ishl, 1) := dk_120 (dk_at dksX12_knows_2 4 rfl rfl)
theorem dX12_knows_52 : decode cX12_knows 52 = .ok (.ior, 1) := dk_128 (dk_at dksX12_knows_2 5 rfl rfl)
theorem dX12_knows_53 : decode cX12_knows 53 = .ok (.goto 15, 3) := dk_167 0 15 (dk_at dksX12_knows_2 6 rfl rfl)
theorem dX12_knows_56 : decode cX12_knows 56 = .ok (.aload_n 0, 1) := dk_42 (dk_at dksX12_knows_2 9 rfl rfl)
theorem dX12_knows_57 : decode cX12_knows 57 = .ok (.getfield 35, 3) := dk_180 0 35 (dk_at dksX12_knows_2 10 rfl rfl)
theorem dX12_knows_60 : decode cX12_knows 60 = .ok (.iload_n 1, 1) := dk_27 (dk_at dksX12_knows_2 13 rfl rfl)
theorem dX12_knows_61 : decode cX12_knows 61 = .ok (.iaload, 1) := dk_46 (dk_at dksX12_knows_2 14 rfl rfl)
theorem dX12_knows_62 : decode cX12_knows 62 = .ok (.iconst 1, 1) := dk_4 (dk_at dksX12_knows_2 15 rfl rfl)
theorem dX12_knows_63 : decode cX12_knows 63 = .ok (.iload_n 2, 1) := dk_28 (dk_at dksX12_knows_2 16 rfl rfl)
theorem dX12_knows_64 : decode cX12_knows 64 = .ok (.ishl, 1) := dk_120 (dk_at dksX12_knows_2 17 rfl rfl)
theorem dX12_knows_65 : decode cX12_knows 65 = .ok (.iconst (-1), 1) := dk_2 (dk_at dksX12_knows_2 18 rfl rfl)
theorem dX12_knows_66 : decode cX12_knows 66 = .ok (.ixor, 1) := dk_130 (dk_at dksX12_knows_2 19 rfl rfl)
theorem dX12_knows_67 : decode cX12_knows 67 = .ok (.iand, 1) := dk_126 (dk_at dksX12_knows_2 20 rfl rfl)
theorem dX12_knows_68 : decode cX12_knows 68 = .ok (.iastore, 1) := dk_79 (dk_at dksX12_knows_2 21 rfl rfl)
theorem dX12_knows_69 : decode cX12_knows 69 = .ok (.iload 4, 2) := dk_21 4 (dk_at dksX12_knows_2 22 rfl rfl)
theorem dX12_knows_71 : decode cX12_knows 71 = .ok (.ireturn, 1) := dk_172 (dk_at dksX12_knows_3 0 rfl rfl)
abbrev cX12_isTune : ByteArray := prog_22_method_7_code
def yX12_isTune : MethodName := ⟨RX12, "isTune", "(I)Z"⟩
def dkwX12_isTune_0 : List UInt8 := [27, 3, 42, 180, 0, 89, 4, 100, 184, 0, 85, 172]
abbrev dktX12_isTune_0 : List UInt8 := dkwX12_isTune_0 ++ []
theorem dksX12_isTune_0 : cX12_isTune.data.toList.drop 0 = dktX12_isTune_0 := by decide +kernel
theorem dX12_isTune_0 : decode cX12_isTune 0 = .ok (.iload_n 1, 1) := dk_27 (dk_at dksX12_isTune_0 0 rfl rfl)
theorem dX12_isTune_1 : decode cX12_isTune 1 = .ok (.iconst 0, 1) := dk_3 (dk_at dksX12_isTune_0 1 rfl rfl)
theorem dX12_isTune_2 : decode cX12_isTune 2 = .ok (.aload_n 0, 1) := dk_42 (dk_at dksX12_isTune_0 2 rfl rfl)
theorem dX12_isTune_3 : decode cX12_isTune 3 = .ok (.getfield 89, 3) := dk_180 0 89 (dk_at dksX12_isTune_0 3 rfl rfl)
theorem dX12_isTune_6 : decode cX12_isTune 6 = .ok (.iconst 1, 1) := dk_4 (dk_at dksX12_isTune_0 6 rfl rfl)
theorem dX12_isTune_7 : decode cX12_isTune 7 = .ok (.isub, 1) := dk_100 (dk_at dksX12_isTune_0 7 rfl rfl)
theorem dX12_isTune_8 : decode cX12_isTune 8 = .ok (.invokestatic 85, 3) := dk_184 0 85 (dk_at dksX12_isTune_0 8 rfl rfl)
theorem dX12_isTune_11 : decode cX12_isTune 11 = .ok (.ireturn, 1) := dk_172 (dk_at dksX12_isTune_0 11 rfl rfl)
abbrev cX12_move : ByteArray := prog_22_method_28_code
def yX12_move : MethodName := ⟨RX12, "move", "(II)I"⟩
def dkwX12_move_1 : List UInt8 := [16, 250, 182, 0, 78, 172, 42, 180, 0, 26, 27, 46, 62, 42, 180, 0, 26, 27, 28, 79, 29, 172]
abbrev dktX12_move_1 : List UInt8 := dkwX12_move_1 ++ []
def dkwX12_move_0 : List UInt8 := [42, 27, 182, 0, 102, 154, 0, 9, 42, 2, 182, 0, 78, 172, 42, 28, 182, 0, 120, 154, 0, 10, 42]
abbrev dktX12_move_0 : List UInt8 := dkwX12_move_0 ++ dktX12_move_1
theorem dksX12_move_0 : cX12_move.data.toList.drop 0 = dktX12_move_0 := by decide +kernel
theorem dksX12_move_1 : cX12_move.data.toList.drop 23 = dktX12_move_1 := dk_seg dksX12_move_0 23 rfl rfl
theorem dX12_move_0 : decode cX12_move 0 = .ok (.aload_n 0, 1) := dk_42 (dk_at dksX12_move_0 0 rfl rfl)
theorem dX12_move_1 : decode cX12_move 1 = .ok (.iload_n 1, 1) := dk_27 (dk_at dksX12_move_0 1 rfl rfl)
theorem dX12_move_2 : decode cX12_move 2 = .ok (.invokevirtual 102, 3) := dk_182 0 102 (dk_at dksX12_move_0 2 rfl rfl)
theorem dX12_move_5 : decode cX12_move 5 = .ok (.ifCond .ne 9, 3) := dk_154 0 9 (dk_at dksX12_move_0 5 rfl rfl)
theorem dX12_move_8 : decode cX12_move 8 = .ok (.aload_n 0, 1) := dk_42 (dk_at dksX12_move_0 8 rfl rfl)
theorem dX12_move_9 : decode cX12_move 9 = .ok (.iconst (-1), 1) := dk_2 (dk_at dksX12_move_0 9 rfl rfl)
theorem dX12_move_10 : decode cX12_move 10 = .ok (.invokevirtual 78, 3) := dk_182 0 78 (dk_at dksX12_move_0 10 rfl rfl)
theorem dX12_move_13 : decode cX12_move 13 = .ok (.ireturn, 1) := dk_172 (dk_at dksX12_move_0 13 rfl rfl)
theorem dX12_move_14 : decode cX12_move 14 = .ok (.aload_n 0, 1) := dk_42 (dk_at dksX12_move_0 14 rfl rfl)
theorem dX12_move_15 : decode cX12_move 15 = .ok (.iload_n 2, 1) := dk_28 (dk_at dksX12_move_0 15 rfl rfl)
theorem dX12_move_16 : decode cX12_move 16 = .ok (.invokevirtual 120, 3) := dk_182 0 120 (dk_at dksX12_move_0 16 rfl rfl)
theorem dX12_move_19 : decode cX12_move 19 = .ok (.ifCond .ne 10, 3) := dk_154 0 10 (dk_at dksX12_move_0 19 rfl rfl)
theorem dX12_move_22 : decode cX12_move 22 = .ok (.aload_n 0, 1) := dk_42 (dk_at dksX12_move_0 22 rfl rfl)
theorem dX12_move_23 : decode cX12_move 23 = .ok (.bipush (-6), 2) := dk_16 250 (dk_at dksX12_move_1 0 rfl rfl)
theorem dX12_move_25 : decode cX12_move 25 = .ok (.invokevirtual 78, 3) := dk_182 0 78 (dk_at dksX12_move_1 2 rfl rfl)
theorem dX12_move_28 : decode cX12_move 28 = .ok (.ireturn, 1) := dk_172 (dk_at dksX12_move_1 5 rfl rfl)
theorem dX12_move_29 : decode cX12_move 29 = .ok (.aload_n 0, 1) := dk_42 (dk_at dksX12_move_1 6 rfl rfl)
theorem dX12_move_30 : decode cX12_move 30 = .ok (.getfield 26, 3) := dk_180 0 26 (dk_at dksX12_move_1 7 rfl rfl)
theorem dX12_move_33 : decode cX12_move 33 = .ok (.iload_n 1, 1) := dk_27 (dk_at dksX12_move_1 10 rfl rfl)
theorem dX12_move_34 : decode cX12_move 34 = .ok (.iaload, 1) := dk_46 (dk_at dksX12_move_1 11 rfl rfl)
theorem dX12_move_35 : decode cX12_move 35 = .ok (.istore_n 3, 1) := dk_62 (dk_at dksX12_move_1 12 rfl rfl)
theorem dX12_move_36 : decode cX12_move 36 = .ok (.aload_n 0, 1) := dk_42 (dk_at dksX12_move_1 13 rfl rfl)
theorem dX12_move_37 : decode cX12_move 37 = .ok (.getfield 26, 3) := dk_180 0 26 (dk_at dksX12_move_1 14 rfl rfl)
theorem dX12_move_40 : decode cX12_move 40 = .ok (.iload_n 1, 1) := dk_27 (dk_at dksX12_move_1 17 rfl rfl)
theorem dX12_move_41 : decode cX12_move 41 = .ok (.iload_n 2, 1) := dk_28 (dk_at dksX12_move_1 18 rfl rfl)
theorem dX12_move_42 : decode cX12_move 42 = .ok (.iastore, 1) := dk_79 (dk_at dksX12_move_1 19 rfl rfl)
theorem dX12_move_43 : decode cX12_move 43 = .ok (.iload_n 3, 1) := dk_29 (dk_at dksX12_move_1 20 rfl rfl)
theorem dX12_move_44 : decode cX12_move 44 = .ok (.ireturn, 1) := dk_172 (dk_at dksX12_move_1 21 rfl rfl)
abbrev cX12_ask : ByteArray := prog_22_method_29_code
def yX12_ask : MethodName := ⟨RX12, "ask", "(I)I"⟩
def dkwX12_ask_1 : List UInt8 := [181, 0, 65, 28, 172]
abbrev dktX12_ask_1 : List UInt8 := dkwX12_ask_1 ++ []
def dkwX12_ask_0 : List UInt8 := [27, 3, 16, 9, 184, 0, 85, 154, 0, 10, 42, 16, 250, 182, 0, 78, 172, 42, 180, 0, 65, 61, 42, 27]
abbrev dktX12_ask_0 : List UInt8 := dkwX12_ask_0 ++ dktX12_ask_1
theorem dksX12_ask_0 : cX12_ask.data.toList.drop 0 = dktX12_ask_0 := by decide +kernel
theorem dksX12_ask_1 : cX12_ask.data.toList.drop 24 = dktX12_ask_1 := dk_seg dksX12_ask_0 24 rfl rfl
theorem dX12_ask_0 : decode cX12_ask 0 = .ok (.iload_n 1, 1) := dk_27 (dk_at dksX12_ask_0 0 rfl rfl)
theorem dX12_ask_1 : decode cX12_ask 1 = .ok (.iconst 0, 1) := dk_3 (dk_at dksX12_ask_0 1 rfl rfl)
theorem dX12_ask_2 : decode cX12_ask 2 = .ok (.bipush 9, 2) := dk_16 9 (dk_at dksX12_ask_0 2 rfl rfl)
theorem dX12_ask_4 : decode cX12_ask 4 = .ok (.invokestatic 85, 3) := dk_184 0 85 (dk_at dksX12_ask_0 4 rfl rfl)
theorem dX12_ask_7 : decode cX12_ask 7 = .ok (.ifCond .ne 10, 3) := dk_154 0 10 (dk_at dksX12_ask_0 7 rfl rfl)
theorem dX12_ask_10 : decode cX12_ask 10 = .ok (.aload_n 0, 1) := dk_42 (dk_at dksX12_ask_0 10 rfl rfl)
theorem dX12_ask_11 : decode cX12_ask 11 = .ok (.bipush (-6), 2) := dk_16 250 (dk_at dksX12_ask_0 11 rfl rfl)
theorem dX12_ask_13 : decode cX12_ask 13 = .ok (.invokevirtual 78, 3) := dk_182 0 78 (dk_at dksX12_ask_0 13 rfl rfl)
theorem dX12_ask_16 : decode cX12_ask 16 = .ok (.ireturn, 1) := dk_172 (dk_at dksX12_ask_0 16 rfl rfl)
theorem dX12_ask_17 : decode cX12_ask 17 = .ok (.aload_n 0, 1) := dk_42 (dk_at dksX12_ask_0 17 rfl rfl)
theorem dX12_ask_18 : decode cX12_ask 18 = .ok (.getfield 65, 3) := dk_180 0 65 (dk_at dksX12_ask_0 18 rfl rfl)
theorem dX12_ask_21 : decode cX12_ask 21 = .ok (.istore_n 2, 1) := dk_61 (dk_at dksX12_ask_0 21 rfl rfl)
theorem dX12_ask_22 : decode cX12_ask 22 = .ok (.aload_n 0, 1) := dk_42 (dk_at dksX12_ask_0 22 rfl rfl)
theorem dX12_ask_23 : decode cX12_ask 23 = .ok (.iload_n 1, 1) := dk_27 (dk_at dksX12_ask_0 23 rfl rfl)
theorem dX12_ask_24 : decode cX12_ask 24 = .ok (.putfield 65, 3) := dk_181 0 65 (dk_at dksX12_ask_1 0 rfl rfl)
theorem dX12_ask_27 : decode cX12_ask 27 = .ok (.iload_n 2, 1) := dk_28 (dk_at dksX12_ask_1 3 rfl rfl)
theorem dX12_ask_28 : decode cX12_ask 28 = .ok (.ireturn, 1) := dk_172 (dk_at dksX12_ask_1 4 rfl rfl)
abbrev cX12_voiceOf : ByteArray := prog_22_method_30_code
def yX12_voiceOf : MethodName := ⟨RX12, "voiceOf", "(II)I"⟩
def dkwX12_voiceOf_4 : List UInt8 := [182, 0, 78, 172]
abbrev dktX12_voiceOf_4 : List UInt8 := dkwX12_voiceOf_4 ++ []
def dkwX12_voiceOf_3 : List UInt8 := [180, 0, 29, 27, 46, 172, 42, 180, 0, 32, 27, 46, 172, 42, 180, 0, 35, 27, 46, 172, 42, 16, 251]
abbrev dktX12_voiceOf_3 : List UInt8 := dkwX12_voiceOf_3 ++ dktX12_voiceOf_4
def dkwX12_voiceOf_2 : List UInt8 := [42, 180, 0, 20, 27, 46, 172, 42, 180, 0, 23, 27, 46, 172, 42, 180, 0, 26, 27, 46, 172, 42]
abbrev dktX12_voiceOf_2 : List UInt8 := dkwX12_voiceOf_2 ++ dktX12_voiceOf_3
def dkwX12_voiceOf_1 : List UInt8 := [170, 0, 0, 0, 0, 0, 0, 82, 0, 0, 0, 0, 0, 0, 0, 5, 0, 0, 0, 40, 0, 0, 0, 47, 0, 0, 0, 54, 0, 0, 0, 61, 0, 0, 0, 68, 0, 0, 0, 75]
abbrev dktX12_voiceOf_1 : List UInt8 := dkwX12_voiceOf_1 ++ dktX12_voiceOf_2
def dkwX12_voiceOf_0 : List UInt8 := [42, 27, 182, 0, 102, 154, 0, 10, 42, 16, 251, 182, 0, 78, 172, 28]
abbrev dktX12_voiceOf_0 : List UInt8 := dkwX12_voiceOf_0 ++ dktX12_voiceOf_1
theorem dksX12_voiceOf_0 : cX12_voiceOf.data.toList.drop 0 = dktX12_voiceOf_0 := by decide +kernel
theorem dksX12_voiceOf_1 : cX12_voiceOf.data.toList.drop 16 = dktX12_voiceOf_1 := dk_seg dksX12_voiceOf_0 16 rfl rfl
theorem dksX12_voiceOf_2 : cX12_voiceOf.data.toList.drop 56 = dktX12_voiceOf_2 := dk_seg dksX12_voiceOf_1 40 rfl rfl
theorem dksX12_voiceOf_3 : cX12_voiceOf.data.toList.drop 78 = dktX12_voiceOf_3 := dk_seg dksX12_voiceOf_2 22 rfl rfl
theorem dksX12_voiceOf_4 : cX12_voiceOf.data.toList.drop 101 = dktX12_voiceOf_4 := dk_seg dksX12_voiceOf_3 23 rfl rfl
theorem dX12_voiceOf_0 : decode cX12_voiceOf 0 = .ok (.aload_n 0, 1) := dk_42 (dk_at dksX12_voiceOf_0 0 rfl rfl)
theorem dX12_voiceOf_1 : decode cX12_voiceOf 1 = .ok (.iload_n 1, 1) := dk_27 (dk_at dksX12_voiceOf_0 1 rfl rfl)
theorem dX12_voiceOf_2 : decode cX12_voiceOf 2 = .ok (.invokevirtual 102, 3) := dk_182 0 102 (dk_at dksX12_voiceOf_0 2 rfl rfl)
theorem dX12_voiceOf_5 : decode cX12_voiceOf 5 = .ok (.ifCond .ne 10, 3) := dk_154 0 10 (dk_at dksX12_voiceOf_0 5 rfl rfl)
theorem dX12_voiceOf_8 : decode cX12_voiceOf 8 = .ok (.aload_n 0, 1) := dk_42 (dk_at dksX12_voiceOf_0 8 rfl rfl)
theorem dX12_voiceOf_9 : decode cX12_voiceOf 9 = .ok (.bipush (-5), 2) := dk_16 251 (dk_at dksX12_voiceOf_0 9 rfl rfl)
theorem dX12_voiceOf_11 : decode cX12_voiceOf 11 = .ok (.invokevirtual 78, 3) := dk_182 0 78 (dk_at dksX12_voiceOf_0 11 rfl rfl)
theorem dX12_voiceOf_14 : decode cX12_voiceOf 14 = .ok (.ireturn, 1) := dk_172 (dk_at dksX12_voiceOf_0 14 rfl rfl)
theorem dX12_voiceOf_15 : decode cX12_voiceOf 15 = .ok (.iload_n 2, 1) := dk_28 (dk_at dksX12_voiceOf_0 15 rfl rfl)
theorem dX12_voiceOf_16 : decode cX12_voiceOf 16 = .ok (.tableswitch 82 0 5 #[40, 47, 54, 61, 68, 75], 40) := by decide +kernel
theorem dX12_voiceOf_56 : decode cX12_voiceOf 56 = .ok (.aload_n 0, 1) := dk_42 (dk_at dksX12_voiceOf_2 0 rfl rfl)
theorem dX12_voiceOf_57 : decode cX12_voiceOf 57 = .ok (.getfield 20, 3) := dk_180 0 20 (dk_at dksX12_voiceOf_2 1 rfl rfl)
theorem dX12_voiceOf_60 : decode cX12_voiceOf 60 = .ok (.iload_n 1, 1) := dk_27 (dk_at dksX12_voiceOf_2 4 rfl rfl)
theorem dX12_voiceOf_61 : decode cX12_voiceOf 61 = .ok (.iaload, 1) := dk_46 (dk_at dksX12_voiceOf_2 5 rfl rfl)
theorem dX12_voiceOf_62 : decode cX12_voiceOf 62 = .ok (.ireturn, 1) := dk_172 (dk_at dksX12_voiceOf_2 6 rfl rfl)
theorem dX12_voiceOf_63 : decode cX12_voiceOf 63 = .ok (.aload_n 0, 1) := dk_42 (dk_at dksX12_voiceOf_2 7 rfl rfl)
theorem dX12_voiceOf_64 : decode cX12_voiceOf 64 = .ok (.getfield 23, 3) := dk_180 0 23 (dk_at dksX12_voiceOf_2 8 rfl rfl)
theorem dX12_voiceOf_67 : decode cX12_voiceOf 67 = .ok (.iload_n 1, 1) := dk_27 (dk_at dksX12_voiceOf_2 11 rfl rfl)
theorem dX12_voiceOf_68 : decode cX12_voiceOf 68 = .ok (.iaload, 1) := dk_46 (dk_at dksX12_voiceOf_2 12 rfl rfl)
theorem dX12_voiceOf_69 : decode cX12_voiceOf 69 = .ok (.ireturn, 1) := dk_172 (dk_at dksX12_voiceOf_2 13 rfl rfl)
theorem dX12_voiceOf_70 : decode cX12_voiceOf 70 = .ok (.aload_n 0, 1) := dk_42 (dk_at dksX12_voiceOf_2 14 rfl rfl)
theorem dX12_voiceOf_71 : decode cX12_voiceOf 71 = .ok (.getfield 26, 3) := dk_180 0 26 (dk_at dksX12_voiceOf_2 15 rfl rfl)
theorem dX12_voiceOf_74 : decode cX12_voiceOf 74 = .ok (.iload_n 1, 1) := dk_27 (dk_at dksX12_voiceOf_2 18 rfl rfl)
theorem dX12_voiceOf_75 : decode cX12_voiceOf 75 = .ok (.iaload, 1) := dk_46 (dk_at dksX12_voiceOf_2 19 rfl rfl)
theorem dX12_voiceOf_76 : decode cX12_voiceOf 76 = .ok (.ireturn, 1) := dk_172 (dk_at dksX12_voiceOf_2 20 rfl rfl)
theorem dX12_voiceOf_77 : decode cX12_voiceOf 77 = .ok (.aload_n 0, 1) := dk_42 (dk_at dksX12_voiceOf_2 21 rfl rfl)
theorem dX12_voiceOf_78 : decode cX12_voiceOf 78 = .ok (.getfield 29, 3) := dk_180 0 29 (dk_at dksX12_voiceOf_3 0 rfl rfl)
theorem dX12_voiceOf_81 : decode cX12_voiceOf 81 = .ok (.iload_n 1, 1) := dk_27 (dk_at dksX12_voiceOf_3 3 rfl rfl)
theorem dX12_voiceOf_82 : decode cX12_voiceOf 82 = .ok (.iaload, 1) := dk_46 (dk_at dksX12_voiceOf_3 4 rfl rfl)
theorem dX12_voiceOf_83 : decode cX12_voiceOf 83 = .ok (.ireturn, 1) := dk_172 (dk_at dksX12_voiceOf_3 5 rfl rfl)
theorem dX12_voiceOf_84 : decode cX12_voiceOf 84 = .ok (.aload_n 0, 1) := dk_42 (dk_at dksX12_voiceOf_3 6 rfl rfl)
theorem dX12_voiceOf_85 : decode cX12_voiceOf 85 = .ok (.getfield 32, 3) := dk_180 0 32 (dk_at dksX12_voiceOf_3 7 rfl rfl)
theorem dX12_voiceOf_88 : decode cX12_voiceOf 88 = .ok (.iload_n 1, 1) := dk_27 (dk_at dksX12_voiceOf_3 10 rfl rfl)
theorem dX12_voiceOf_89 : decode cX12_voiceOf 89 = .ok (.iaload, 1) := dk_46 (dk_at dksX12_voiceOf_3 11 rfl rfl)
theorem dX12_voiceOf_90 : decode cX12_voiceOf 90 = .ok (.ireturn, 1) := dk_172 (dk_at dksX12_voiceOf_3 12 rfl rfl)
theorem dX12_voiceOf_91 : decode cX12_voiceOf 91 = .ok (.aload_n 0, 1) := dk_42 (dk_at dksX12_voiceOf_3 13 rfl rfl)
theorem dX12_voiceOf_92 : decode cX12_voiceOf 92 = .ok (.getfield 35, 3) := dk_180 0 35 (dk_at dksX12_voiceOf_3 14 rfl rfl)
theorem dX12_voiceOf_95 : decode cX12_voiceOf 95 = .ok (.iload_n 1, 1) := dk_27 (dk_at dksX12_voiceOf_3 17 rfl rfl)
theorem dX12_voiceOf_96 : decode cX12_voiceOf 96 = .ok (.iaload, 1) := dk_46 (dk_at dksX12_voiceOf_3 18 rfl rfl)
theorem dX12_voiceOf_97 : decode cX12_voiceOf 97 = .ok (.ireturn, 1) := dk_172 (dk_at dksX12_voiceOf_3 19 rfl rfl)
theorem dX12_voiceOf_98 : decode cX12_voiceOf 98 = .ok (.aload_n 0, 1) := dk_42 (dk_at dksX12_voiceOf_3 20 rfl rfl)
theorem dX12_voiceOf_99 : decode cX12_voiceOf 99 = .ok (.bipush (-5), 2) := dk_16 251 (dk_at dksX12_voiceOf_3 21 rfl rfl)
theorem dX12_voiceOf_101 : decode cX12_voiceOf 101 = .ok (.invokevirtual 78, 3) := dk_182 0 78 (dk_at dksX12_voiceOf_4 0 rfl rfl)
theorem dX12_voiceOf_104 : decode cX12_voiceOf 104 = .ok (.ireturn, 1) := dk_172 (dk_at dksX12_voiceOf_4 3 rfl rfl)
abbrev cX12_highOf : ByteArray := prog_22_method_31_code
def yX12_highOf : MethodName := ⟨RX12, "highOf", "(I)I"⟩
def dkwX12_highOf_0 : List UInt8 := [42, 27, 182, 0, 127, 153, 0, 12, 42, 180, 0, 38, 27, 46, 167, 0, 9, 42, 16, 251, 182, 0, 78, 172]
abbrev dktX12_highOf_0 : List UInt8 := dkwX12_highOf_0 ++ []
theorem dksX12_highOf_0 : cX12_highOf.data.toList.drop 0 = dktX12_highOf_0 := by decide +kernel
theorem dX12_highOf_0 : decode cX12_highOf 0 = .ok (.aload_n 0, 1) := dk_42 (dk_at dksX12_highOf_0 0 rfl rfl)
theorem dX12_highOf_1 : decode cX12_highOf 1 = .ok (.iload_n 1, 1) := dk_27 (dk_at dksX12_highOf_0 1 rfl rfl)
theorem dX12_highOf_2 : decode cX12_highOf 2 = .ok (.invokevirtual 127, 3) := dk_182 0 127 (dk_at dksX12_highOf_0 2 rfl rfl)
theorem dX12_highOf_5 : decode cX12_highOf 5 = .ok (.ifCond .eq 12, 3) := dk_153 0 12 (dk_at dksX12_highOf_0 5 rfl rfl)
theorem dX12_highOf_8 : decode cX12_highOf 8 = .ok (.aload_n 0, 1) := dk_42 (dk_at dksX12_highOf_0 8 rfl rfl)
theorem dX12_highOf_9 : decode cX12_highOf 9 = .ok (.getfield 38, 3) := dk_180 0 38 (dk_at dksX12_highOf_0 9 rfl rfl)
theorem dX12_highOf_12 : decode cX12_highOf 12 = .ok (.iload_n 1, 1) := dk_27 (dk_at dksX12_highOf_0 12 rfl rfl)
theorem dX12_highOf_13 : decode cX12_highOf 13 = .ok (.iaload, 1) := dk_46 (dk_at dksX12_highOf_0 13 rfl rfl)
theorem dX12_highOf_14 : decode cX12_highOf 14 = .ok (.goto 9, 3) := dk_167 0 9 (dk_at dksX12_highOf_0 14 rfl rfl)
theorem dX12_highOf_17 : decode cX12_highOf 17 = .ok (.aload_n 0, 1) := dk_42 (dk_at dksX12_highOf_0 17 rfl rfl)
theorem dX12_highOf_18 : decode cX12_highOf 18 = .ok (.bipush (-5), 2) := dk_16 251 (dk_at dksX12_highOf_0 18 rfl rfl)
theorem dX12_highOf_20 : decode cX12_highOf 20 = .ok (.invokevirtual 78, 3) := dk_182 0 78 (dk_at dksX12_highOf_0 20 rfl rfl)
theorem dX12_highOf_23 : decode cX12_highOf 23 = .ok (.ireturn, 1) := dk_172 (dk_at dksX12_highOf_0 23 rfl rfl)
abbrev cX12_church : ByteArray := prog_22_method_39_code
def yX12_church : MethodName := ⟨RX12, "church", "(I)I"⟩
def dkwX12_church_5 : List UInt8 := [182, 0, 78, 172]
abbrev dktX12_church_5 : List UInt8 := dkwX12_church_5 ++ []
def dkwX12_church_4 : List UInt8 := [167, 255, 199, 42, 42, 180, 0, 130, 181, 0, 72, 42, 42, 180, 0, 53, 182, 0, 184, 42, 16, 250]
abbrev dktX12_church_4 : List UInt8 := dkwX12_church_4 ++ dktX12_church_5
def dkwX12_church_3 : List UInt8 := [46, 160, 0, 10, 42, 2, 181, 0, 72, 29, 172, 21, 4, 153, 255, 210, 42, 16, 59, 182, 0, 149, 54, 4]
abbrev dktX12_church_3 : List UInt8 := dkwX12_church_3 ++ dktX12_church_4
def dkwX12_church_2 : List UInt8 := [54, 4, 21, 4, 153, 0, 6, 132, 3, 1, 21, 4, 153, 0, 23, 42, 180, 0, 130, 42, 180, 0, 13, 27]
abbrev dktX12_church_2 : List UInt8 := dkwX12_church_2 ++ dktX12_church_3
def dkwX12_church_1 : List UInt8 := [42, 27, 181, 0, 133, 42, 3, 181, 0, 130, 3, 62, 4, 54, 4, 21, 4, 153, 0, 58, 42, 182, 0, 180]
abbrev dktX12_church_1 : List UInt8 := dkwX12_church_1 ++ dktX12_church_2
def dkwX12_church_0 : List UInt8 := [42, 27, 182, 0, 99, 61, 28, 156, 0, 9, 42, 28, 182, 0, 78, 172, 42, 42, 180, 0, 53, 182, 0, 176]
abbrev dktX12_church_0 : List UInt8 := dkwX12_church_0 ++ dktX12_church_1
theorem dksX12_church_0 : cX12_church.data.toList.drop 0 = dktX12_church_0 := by decide +kernel
theorem dksX12_church_1 : cX12_church.data.toList.drop 24 = dktX12_church_1 := dk_seg dksX12_church_0 24 rfl rfl
theorem dksX12_church_2 : cX12_church.data.toList.drop 48 = dktX12_church_2 := dk_seg dksX12_church_1 24 rfl rfl
theorem dksX12_church_3 : cX12_church.data.toList.drop 72 = dktX12_church_3 := dk_seg dksX12_church_2 24 rfl rfl
theorem dksX12_church_4 : cX12_church.data.toList.drop 96 = dktX12_church_4 := dk_seg dksX12_church_3 24 rfl rfl
theorem dksX12_church_5 : cX12_church.data.toList.drop 118 = dktX12_church_5 := dk_seg dksX12_church_4 22 rfl rfl
theorem dX12_church_0 : decode cX12_church 0 = .ok (.aload_n 0, 1) := dk_42 (dk_at dksX12_church_0 0 rfl rfl)
theorem dX12_church_1 : decode cX12_church 1 = .ok (.iload_n 1, 1) := dk_27 (dk_at dksX12_church_0 1 rfl rfl)
theorem dX12_church_2 : decode cX12_church 2 = .ok (.invokevirtual 99, 3) := dk_182 0 99 (dk_at dksX12_church_0 2 rfl rfl)
theorem dX12_church_5 : decode cX12_church 5 = .ok (.istore_n 2, 1) := dk_61 (dk_at dksX12_church_0 5 rfl rfl)
theorem dX12_church_6 : decode cX12_church 6 = .ok (.iload_n 2, 1) := dk_28 (dk_at dksX12_church_0 6 rfl rfl)
theorem dX12_church_7 : decode cX12_church 7 = .ok (.ifCond .ge 9, 3) := dk_156 0 9 (dk_at dksX12_church_0 7 rfl rfl)
theorem dX12_church_10 : decode cX12_church 10 = .ok (.aload_n 0, 1) := dk_42 (dk_at dksX12_church_0 10 rfl rfl)
theorem dX12_church_11 : decode cX12_church 11 = .ok (.iload_n 2, 1) := dk_28 (dk_at dksX12_church_0 11 rfl rfl)
theorem dX12_church_12 : decode cX12_church 12 = .ok (.invokevirtual 78, 3) := dk_182 0 78 (dk_at dksX12_church_0 12 rfl rfl)
theorem dX12_church_15 : decode cX12_church 15 = .ok (.ireturn, 1) := dk_172 (dk_at dksX12_church_0 15 rfl rfl)
theorem dX12_church_16 : decode cX12_church 16 = .ok (.aload_n 0, 1) := dk_42 (dk_at dksX12_church_0 16 rfl rfl)
theorem dX12_church_17 : decode cX12_church 17 = .ok (.aload_n 0, 1) := dk_42 (dk_at dksX12_church_0 17 rfl rfl)
theorem dX12_church_18 : decode cX12_church 18 = .ok (.getfield 53, 3) := dk_180 0 53 (dk_at dksX12_church_0 18 rfl rfl)
theorem dX12_church_21 : decode cX12_church 21 = .ok (.invokevirtual 176, 3) := dk_182 0 176 (dk_at dksX12_church_0 21 rfl rfl)
theorem dX12_church_24 : decode cX12_church 24 = .ok (.aload_n 0, 1) := dk_42 (dk_at dksX12_church_1 0 rfl rfl)
theorem dX12_church_25 : decode cX12_church 25 = .ok (.iload_n 1, 1) := dk_27 (dk_at dksX12_church_1 1 rfl rfl)
theorem dX12_church_26 : decode cX12_church 26 = .ok (.putfield 133, 3) := dk_181 0 133 (dk_at dksX12_church_1 2 rfl rfl)
theorem dX12_church_29 : decode cX12_church 29 = .ok (.aload_n 0, 1) := dk_42 (dk_at dksX12_church_1 5 rfl rfl)
theorem dX12_church_30 : decode cX12_church 30 = .ok (.iconst 0, 1) := dk_3 (dk_at dksX12_church_1 6 rfl rfl)
theorem dX12_church_31 : decode cX12_church 31 = .ok (.putfield 130, 3) := dk_181 0 130 (dk_at dksX12_church_1 7 rfl rfl)
theorem dX12_church_34 : decode cX12_church 34 = .ok (.iconst 0, 1) := dk_3 (dk_at dksX12_church_1 10 rfl rfl)
theorem dX12_church_35 : decode cX12_church 35 = .ok (.istore_n 3, 1) := dk_62 (dk_at dksX12_church_1 11 rfl rfl)
theorem dX12_church_36 : decode cX12_church 36 = .ok (.iconst 1, 1) := dk_4 (dk_at dksX12_church_1 12 rfl rfl)
theorem dX12_church_37 : decode cX12_church 37 = .ok (.istore 4, 2) := dk_54 4 (dk_at dksX12_church_1 13 rfl rfl)
theorem dX12_church_39 : decode cX12_church 39 = .ok (.iload 4, 2) := dk_21 4 (dk_at dksX12_church_1 15 rfl rfl)
theorem dX12_church_41 : decode cX12_church 41 = .ok (.ifCond .eq 58, 3) := dk_153 0 58 (dk_at dksX12_church_1 17 rfl rfl)
theorem dX12_church_44 : decode cX12_church 44 = .ok (.aload_n 0, 1) := dk_42 (dk_at dksX12_church_1 20 rfl rfl)
theorem dX12_church_45 : decode cX12_church 45 = .ok (.invokevirtual 180, 3) := dk_182 0 180 (dk_at dksX12_church_1 21 rfl rfl)
theorem dX12_church_48 : decode cX12_church 48 = .ok (.istore 4, 2) := dk_54 4 (dk_at dksX12_church_2 0 rfl rfl)
theorem dX12_church_50 : decode cX12_church 50 = .ok (.iload 4, 2) := dk_21 4 (dk_at dksX12_church_2 2 rfl rfl)
theorem dX12_church_52 : decode cX12_church 52 = .ok (.ifCond .eq 6, 3) := dk_153 0 6 (dk_at dksX12_church_2 4 rfl rfl)
theorem dX12_church_55 : decode cX12_church 55 = .ok (.iinc 3 1, 3) := dk_132 3 1 (dk_at dksX12_church_2 7 rfl rfl)
theorem dX12_church_58 : decode cX12_church 58 = .ok (.iload 4, 2) := dk_21 4 (dk_at dksX12_church_2 10 rfl rfl)
theorem dX12_church_60 : decode cX12_church 60 = .ok (.ifCond .eq 23, 3) := dk_153 0 23 (dk_at dksX12_church_2 12 rfl rfl)
theorem dX12_church_63 : decode cX12_church 63 = .ok (.aload_n 0, 1) := dk_42 (dk_at dksX12_church_2 15 rfl rfl)
theorem dX12_church_64 : decode cX12_church 64 = .ok (.getfield 130, 3) := dk_180 0 130 (dk_at dksX12_church_2 16 rfl rfl)
theorem dX12_church_67 : decode cX12_church 67 = .ok (.aload_n 0, 1) := dk_42 (dk_at dksX12_church_2 19 rfl rfl)
theorem dX12_church_68 : decode cX12_church 68 = .ok (.getfield 13, 3) := dk_180 0 13 (dk_at dksX12_church_2 20 rfl rfl)
theorem dX12_church_71 : decode cX12_church 71 = .ok (.iload_n 1, 1) := dk_27 (dk_at dksX12_church_2 23 rfl rfl)
theorem dX12_church_72 : decode cX12_church 72 = .ok (.iaload, 1) := dk_46 (dk_at dksX12_church_3 0 rfl rfl)
theorem dX12_church_73 : decode cX12_church 73 = .ok (.if_icmp .ne 10, 3) := dk_160 0 10 (dk_at dksX12_church_3 1 rfl rfl)
theorem dX12_church_76 : decode cX12_church 76 = .ok (.aload_n 0, 1) := dk_42 (dk_at dksX12_church_3 4 rfl rfl)
theorem dX12_church_77 : decode cX12_church 77 = .ok (.iconst (-1), 1) := dk_2 (dk_at dksX12_church_3 5 rfl rfl)
theorem dX12_church_78 : decode cX12_church 78 = .ok (.putfield 72, 3) := dk_181 0 72 (dk_at dksX12_church_3 6 rfl rfl)
theorem dX12_church_81 : decode cX12_church 81 = .ok (.iload_n 3, 1) := dk_29 (dk_at dksX12_church_3 9 rfl rfl)
theorem dX12_church_82 : decode cX12_church 82 = .ok (.ireturn, 1) := dk_172 (dk_at dksX12_church_3 10 rfl rfl)
theorem dX12_church_83 : decode cX12_church 83 = .ok (.iload 4, 2) := dk_21 4 (dk_at dksX12_church_3 11 rfl rfl)
theorem dX12_church_85 : decode cX12_church 85 = .ok (.ifCond .eq (-46), 3) := dk_153 255 210 (dk_at dksX12_church_3 13 rfl rfl)
theorem dX12_church_88 : decode cX12_church 88 = .ok (.aload_n 0, 1) := dk_42 (dk_at dksX12_church_3 16 rfl rfl)
theorem dX12_church_89 : decode cX12_church 89 = .ok (.bipush 59, 2) := dk_16 59 (dk_at dksX12_church_3 17 rfl rfl)
theorem dX12_church_91 : decode cX12_church 91 = .ok (.invokevirtual 149, 3) := dk_182 0 149 (dk_at dksX12_church_3 19 rfl rfl)
theorem dX12_church_94 : decode cX12_church 94 = .ok (.istore 4, 2) := dk_54 4 (dk_at dksX12_church_3 22 rfl rfl)
theorem dX12_church_96 : decode cX12_church 96 = .ok (.goto (-57), 3) := dk_167 255 199 (dk_at dksX12_church_4 0 rfl rfl)
theorem dX12_church_99 : decode cX12_church 99 = .ok (.aload_n 0, 1) := dk_42 (dk_at dksX12_church_4 3 rfl rfl)
theorem dX12_church_100 : decode cX12_church 100 = .ok (.aload_n 0, 1) := dk_42 (dk_at dksX12_church_4 4 rfl rfl)
theorem dX12_church_101 : decode cX12_church 101 = .ok (.getfield 130, 3) := dk_180 0 130 (dk_at dksX12_church_4 5 rfl rfl)
theorem dX12_church_104 : decode cX12_church 104 = .ok (.putfield 72, 3) := dk_181 0 72 (dk_at dksX12_church_4 8 rfl rfl)
theorem dX12_church_107 : decode cX12_church 107 = .ok (.aload_n 0, 1) := dk_42 (dk_at dksX12_church_4 11 rfl rfl)
theorem dX12_church_108 : decode cX12_church 108 = .ok (.aload_n 0, 1) := dk_42 (dk_at dksX12_church_4 12 rfl rfl)
theorem dX12_church_109 : decode cX12_church 109 = .ok (.getfield 53, 3) := dk_180 0 53 (dk_at dksX12_church_4 13 rfl rfl)
theorem dX12_church_112 : decode cX12_church 112 = .ok (.invokevirtual 184, 3) := dk_182 0 184 (dk_at dksX12_church_4 16 rfl rfl)
theorem dX12_church_115 : decode cX12_church 115 = .ok (.aload_n 0, 1) := dk_42 (dk_at dksX12_church_4 19 rfl rfl)
theorem dX12_church_116 : decode cX12_church 116 = .ok (.bipush (-6), 2) := dk_16 250 (dk_at dksX12_church_4 20 rfl rfl)
theorem dX12_church_118 : decode cX12_church 118 = .ok (.invokevirtual 78, 3) := dk_182 0 78 (dk_at dksX12_church_5 0 rfl rfl)
theorem dX12_church_121 : decode cX12_church 121 = .ok (.ireturn, 1) := dk_172 (dk_at dksX12_church_5 3 rfl rfl)
abbrev cX12_keep : ByteArray := prog_22_method_91_code
def yX12_keep : MethodName := ⟨RX12, "keep", "([I)V"⟩
def dkwX12_keep_6 : List UInt8 := [16, 82, 42, 180, 0, 69, 79, 177]
abbrev dktX12_keep_6 : List UInt8 := dkwX12_keep_6 ++ []
def dkwX12_keep_5 : List UInt8 := [16, 79, 42, 180, 0, 89, 79, 43, 16, 80, 42, 180, 0, 65, 79, 43, 16, 81, 42, 180, 1, 24, 79, 43]
abbrev dktX12_keep_5 : List UInt8 := dkwX12_keep_5 ++ dktX12_keep_6
def dkwX12_keep_4 : List UInt8 := [96, 42, 180, 0, 38, 28, 46, 79, 132, 2, 1, 167, 255, 235, 43, 16, 78, 42, 180, 0, 82, 79, 43]
abbrev dktX12_keep_4 : List UInt8 := dkwX12_keep_4 ++ dktX12_keep_5
def dkwX12_keep_3 : List UInt8 := [180, 0, 35, 28, 46, 79, 132, 2, 1, 167, 255, 178, 3, 61, 28, 16, 6, 162, 0, 21, 43, 16, 72, 28]
abbrev dktX12_keep_3 : List UInt8 := dkwX12_keep_3 ++ dktX12_keep_4
def dkwX12_keep_2 : List UInt8 := [180, 0, 29, 28, 46, 79, 43, 16, 48, 28, 96, 42, 180, 0, 32, 28, 46, 79, 43, 16, 60, 28, 96, 42]
abbrev dktX12_keep_2 : List UInt8 := dkwX12_keep_2 ++ dktX12_keep_3
def dkwX12_keep_1 : List UInt8 := [180, 0, 23, 28, 46, 79, 43, 16, 24, 28, 96, 42, 180, 0, 26, 28, 46, 79, 43, 16, 36, 28, 96, 42]
abbrev dktX12_keep_1 : List UInt8 := dkwX12_keep_1 ++ dktX12_keep_2
def dkwX12_keep_0 : List UInt8 := [3, 61, 28, 16, 12, 162, 0, 78, 43, 28, 42, 180, 0, 20, 28, 46, 79, 43, 16, 12, 28, 96, 42]
abbrev dktX12_keep_0 : List UInt8 := dkwX12_keep_0 ++ dktX12_keep_1
theorem dksX12_keep_0 : cX12_keep.data.toList.drop 0 = dktX12_keep_0 := by decide +kernel
theorem dksX12_keep_1 : cX12_keep.data.toList.drop 23 = dktX12_keep_1 := dk_seg dksX12_keep_0 23 rfl rfl
theorem dksX12_keep_2 : cX12_keep.data.toList.drop 47 = dktX12_keep_2 := dk_seg dksX12_keep_1 24 rfl rfl
theorem dksX12_keep_3 : cX12_keep.data.toList.drop 71 = dktX12_keep_3 := dk_seg dksX12_keep_2 24 rfl rfl
theorem dksX12_keep_4 : cX12_keep.data.toList.drop 95 = dktX12_keep_4 := dk_seg dksX12_keep_3 24 rfl rfl
theorem dksX12_keep_5 : cX12_keep.data.toList.drop 118 = dktX12_keep_5 := dk_seg dksX12_keep_4 23 rfl rfl
theorem dksX12_keep_6 : cX12_keep.data.toList.drop 142 = dktX12_keep_6 := dk_seg dksX12_keep_5 24 rfl rfl
theorem dX12_keep_0 : decode cX12_keep 0 = .ok (.iconst 0, 1) := dk_3 (dk_at dksX12_keep_0 0 rfl rfl)
theorem dX12_keep_1 : decode cX12_keep 1 = .ok (.istore_n 2, 1) := dk_61 (dk_at dksX12_keep_0 1 rfl rfl)
theorem dX12_keep_2 : decode cX12_keep 2 = .ok (.iload_n 2, 1) := dk_28 (dk_at dksX12_keep_0 2 rfl rfl)
theorem dX12_keep_3 : decode cX12_keep 3 = .ok (.bipush 12, 2) := dk_16 12 (dk_at dksX12_keep_0 3 rfl rfl)
theorem dX12_keep_5 : decode cX12_keep 5 = .ok (.if_icmp .ge 78, 3) := dk_162 0 78 (dk_at dksX12_keep_0 5 rfl rfl)
theorem dX12_keep_8 : decode cX12_keep 8 = .ok (.aload_n 1, 1) := dk_43 (dk_at dksX12_keep_0 8 rfl rfl)
theorem dX12_keep_9 : decode cX12_keep 9 = .ok (.iload_n 2, 1) := dk_28 (dk_at dksX12_keep_0 9 rfl rfl)
theorem dX12_keep_10 : decode cX12_keep 10 = .ok (.aload_n 0, 1) := dk_42 (dk_at dksX12_keep_0 10 rfl rfl)
theorem dX12_keep_11 : decode cX12_keep 11 = .ok (.getfield 20, 3) := dk_180 0 20 (dk_at dksX12_keep_0 11 rfl rfl)
theorem dX12_keep_14 : decode cX12_keep 14 = .ok (.iload_n 2, 1) := dk_28 (dk_at dksX12_keep_0 14 rfl rfl)
theorem dX12_keep_15 : decode cX12_keep 15 = .ok (.iaload, 1) := dk_46 (dk_at dksX12_keep_0 15 rfl rfl)
theorem dX12_keep_16 : decode cX12_keep 16 = .ok (.iastore, 1) := dk_79 (dk_at dksX12_keep_0 16 rfl rfl)
theorem dX12_keep_17 : decode cX12_keep 17 = .ok (.aload_n 1, 1) := dk_43 (dk_at dksX12_keep_0 17 rfl rfl)
theorem dX12_keep_18 : decode cX12_keep 18 = .ok (.bipush 12, 2) := dk_16 12 (dk_at dksX12_keep_0 18 rfl rfl)
theorem dX12_keep_20 : decode cX12_keep 20 = .ok (.iload_n 2, 1) := dk_28 (dk_at dksX12_keep_0 20 rfl rfl)
theorem dX12_keep_21 : decode cX12_keep 21 = .ok (.iadd, 1) := dk_96 (dk_at dksX12_keep_0 21 rfl rfl)
theorem dX12_keep_22 : decode cX12_keep 22 = .ok (.aload_n 0, 1) := dk_42 (dk_at dksX12_keep_0 22 rfl rfl)
theorem dX12_keep_23 : decode cX12_keep 23 = .ok (.getfield 23, 3) := dk_180 0 23 (dk_at dksX12_keep_1 0 rfl rfl)
theorem dX12_keep_26 : decode cX12_keep 26 = .ok (.iload_n 2, 1) := dk_28 (dk_at dksX12_keep_1 3 rfl rfl)
theorem dX12_keep_27 : decode cX12_keep 27 = .ok (.iaload, 1) := dk_46 (dk_at dksX12_keep_1 4 rfl rfl)
theorem dX12_keep_28 : decode cX12_keep 28 = .ok (.iastore, 1) := dk_79 (dk_at dksX12_keep_1 5 rfl rfl)
theorem dX12_keep_29 : decode cX12_keep 29 = .ok (.aload_n 1, 1) := dk_43 (dk_at dksX12_keep_1 6 rfl rfl)
theorem dX12_keep_30 : decode cX12_keep 30 = .ok (.bipush 24, 2) := dk_16 24 (dk_at dksX12_keep_1 7 rfl rfl)
theorem dX12_keep_32 : decode cX12_keep 32 = .ok (.iload_n 2, 1) := dk_28 (dk_at dksX12_keep_1 9 rfl rfl)
theorem dX12_keep_33 : decode cX12_keep 33 = .ok (.iadd, 1) := dk_96 (dk_at dksX12_keep_1 10 rfl rfl)
theorem dX12_keep_34 : decode cX12_keep 34 = .ok (.aload_n 0, 1) := dk_42 (dk_at dksX12_keep_1 11 rfl rfl)
theorem dX12_keep_35 : decode cX12_keep 35 = .ok (.getfield 26, 3) := dk_180 0 26 (dk_at dksX12_keep_1 12 rfl rfl)
theorem dX12_keep_38 : decode cX12_keep 38 = .ok (.iload_n 2, 1) := dk_28 (dk_at dksX12_keep_1 15 rfl rfl)
theorem dX12_keep_39 : decode cX12_keep 39 = .ok (.iaload, 1) := dk_46 (dk_at dksX12_keep_1 16 rfl rfl)
theorem dX12_keep_40 : decode cX12_keep 40 = .ok (.iastore, 1) := dk_79 (dk_at dksX12_keep_1 17 rfl rfl)
theorem dX12_keep_41 : decode cX12_keep 41 = .ok (.aload_n 1, 1) := dk_43 (dk_at dksX12_keep_1 18 rfl rfl)
theorem dX12_keep_42 : decode cX12_keep 42 = .ok (.bipush 36, 2) := dk_16 36 (dk_at dksX12_keep_1 19 rfl rfl)
theorem dX12_keep_44 : decode cX12_keep 44 = .ok (.iload_n 2, 1) := dk_28 (dk_at dksX12_keep_1 21 rfl rfl)
theorem dX12_keep_45 : decode cX12_keep 45 = .ok (.iadd, 1) := dk_96 (dk_at dksX12_keep_1 22 rfl rfl)
theorem dX12_keep_46 : decode cX12_keep 46 = .ok (.aload_n 0, 1) := dk_42 (dk_at dksX12_keep_1 23 rfl rfl)
theorem dX12_keep_47 : decode cX12_keep 47 = .ok (.getfield 29, 3) := dk_180 0 29 (dk_at dksX12_keep_2 0 rfl rfl)
theorem dX12_keep_50 : decode cX12_keep 50 = .ok (.iload_n 2, 1) := dk_28 (dk_at dksX12_keep_2 3 rfl rfl)
theorem dX12_keep_51 : decode cX12_keep 51 = .ok (.iaload, 1) := dk_46 (dk_at dksX12_keep_2 4 rfl rfl)
theorem dX12_keep_52 : decode cX12_keep 52 = .ok (.iastore, 1) := dk_79 (dk_at dksX12_keep_2 5 rfl rfl)
theorem dX12_keep_53 : decode cX12_keep 53 = .ok (.aload_n 1, 1) := dk_43 (dk_at dksX12_keep_2 6 rfl rfl)
theorem dX12_keep_54 : decode cX12_keep 54 = .ok (.bipush 48, 2) := dk_16 48 (dk_at dksX12_keep_2 7 rfl rfl)
theorem dX12_keep_56 : decode cX12_keep 56 = .ok (.iload_n 2, 1) := dk_28 (dk_at dksX12_keep_2 9 rfl rfl)
theorem dX12_keep_57 : decode cX12_keep 57 = .ok (.iadd, 1) := dk_96 (dk_at dksX12_keep_2 10 rfl rfl)
theorem dX12_keep_58 : decode cX12_keep 58 = .ok (.aload_n 0, 1) := dk_42 (dk_at dksX12_keep_2 11 rfl rfl)
theorem dX12_keep_59 : decode cX12_keep 59 = .ok (.getfield 32, 3) := dk_180 0 32 (dk_at dksX12_keep_2 12 rfl rfl)
theorem dX12_keep_62 : decode cX12_keep 62 = .ok (.iload_n 2, 1) := dk_28 (dk_at dksX12_keep_2 15 rfl rfl)
theorem dX12_keep_63 : decode cX12_keep 63 = .ok (.iaload, 1) := dk_46 (dk_at dksX12_keep_2 16 rfl rfl)
theorem dX12_keep_64 : decode cX12_keep 64 = .ok (.iastore, 1) := dk_79 (dk_at dksX12_keep_2 17 rfl rfl)
theorem dX12_keep_65 : decode cX12_keep 65 = .ok (.aload_n 1, 1) := dk_43 (dk_at dksX12_keep_2 18 rfl rfl)
theorem dX12_keep_66 : decode cX12_keep 66 = .ok (.bipush 60, 2) := dk_16 60 (dk_at dksX12_keep_2 19 rfl rfl)
theorem dX12_keep_68 : decode cX12_keep 68 = .ok (.iload_n 2, 1) := dk_28 (dk_at dksX12_keep_2 21 rfl rfl)
theorem dX12_keep_69 : decode cX12_keep 69 = .ok (.iadd, 1) := dk_96 (dk_at dksX12_keep_2 22 rfl rfl)
theorem dX12_keep_70 : decode cX12_keep 70 = .ok (.aload_n 0, 1) := dk_42 (dk_at dksX12_keep_2 23 rfl rfl)
theorem dX12_keep_71 : decode cX12_keep 71 = .ok (.getfield 35, 3) := dk_180 0 35 (dk_at dksX12_keep_3 0 rfl rfl)
theorem dX12_keep_74 : decode cX12_keep 74 = .ok (.iload_n 2, 1) := dk_28 (dk_at dksX12_keep_3 3 rfl rfl)
theorem dX12_keep_75 : decode cX12_keep 75 = .ok (.iaload, 1) := dk_46 (dk_at dksX12_keep_3 4 rfl rfl)
theorem dX12_keep_76 : decode cX12_keep 76 = .ok (.iastore, 1) := dk_79 (dk_at dksX12_keep_3 5 rfl rfl)
theorem dX12_keep_77 : decode cX12_keep 77 = .ok (.iinc 2 1, 3) := dk_132 2 1 (dk_at dksX12_keep_3 6 rfl rfl)
theorem dX12_keep_80 : decode cX12_keep 80 = .ok (.goto (-78), 3) := dk_167 255 178 (dk_at dksX12_keep_3 9 rfl rfl)
theorem dX12_keep_83 : decode cX12_keep 83 = .ok (.iconst 0, 1) := dk_3 (dk_at dksX12_keep_3 12 rfl rfl)
theorem dX12_keep_84 : decode cX12_keep 84 = .ok (.istore_n 2, 1) := dk_61 (dk_at dksX12_keep_3 13 rfl rfl)
theorem dX12_keep_85 : decode cX12_keep 85 = .ok (.iload_n 2, 1) := dk_28 (dk_at dksX12_keep_3 14 rfl rfl)
theorem dX12_keep_86 : decode cX12_keep 86 = .ok (.bipush 6, 2) := dk_16 6 (dk_at dksX12_keep_3 15 rfl rfl)
theorem dX12_keep_88 : decode cX12_keep 88 = .ok (.if_icmp .ge 21, 3) := dk_162 0 21 (dk_at dksX12_keep_3 17 rfl rfl)
theorem dX12_keep_91 : decode cX12_keep 91 = .ok (.aload_n 1, 1) := dk_43 (dk_at dksX12_keep_3 20 rfl rfl)
theorem dX12_keep_92 : decode cX12_keep 92 = .ok (.bipush 72, 2) := dk_16 72 (dk_at dksX12_keep_3 21 rfl rfl)
theorem dX12_keep_94 : decode cX12_keep 94 = .ok (.iload_n 2, 1) := dk_28 (dk_at dksX12_keep_3 23 rfl rfl)
theorem dX12_keep_95 : decode cX12_keep 95 = .ok (.iadd, 1) := dk_96 (dk_at dksX12_keep_4 0 rfl rfl)
theorem dX12_keep_96 : decode cX12_keep 96 = .ok (.aload_n 0, 1) := dk_42 (dk_at dksX12_keep_4 1 rfl rfl)
theorem dX12_keep_97 : decode cX12_keep 97 = .ok (.getfield 38, 3) := dk_180 0 38 (dk_at dksX12_keep_4 2 rfl rfl)
theorem dX12_keep_100 : decode cX12_keep 100 = .ok (.iload_n 2, 1) := dk_28 (dk_at dksX12_keep_4 5 rfl rfl)
theorem dX12_keep_101 : decode cX12_keep 101 = .ok (.iaload, 1) := dk_46 (dk_at dksX12_keep_4 6 rfl rfl)
theorem dX12_keep_102 : decode cX12_keep 102 = .ok (.iastore, 1) := dk_79 (dk_at dksX12_keep_4 7 rfl rfl)
theorem dX12_keep_103 : decode cX12_keep 103 = .ok (.iinc 2 1, 3) := dk_132 2 1 (dk_at dksX12_keep_4 8 rfl rfl)
theorem dX12_keep_106 : decode cX12_keep 106 = .ok (.goto (-21), 3) := dk_167 255 235 (dk_at dksX12_keep_4 11 rfl rfl)
theorem dX12_keep_109 : decode cX12_keep 109 = .ok (.aload_n 1, 1) := dk_43 (dk_at dksX12_keep_4 14 rfl rfl)
theorem dX12_keep_110 : decode cX12_keep 110 = .ok (.bipush 78, 2) := dk_16 78 (dk_at dksX12_keep_4 15 rfl rfl)
theorem dX12_keep_112 : decode cX12_keep 112 = .ok (.aload_n 0, 1) := dk_42 (dk_at dksX12_keep_4 17 rfl rfl)
theorem dX12_keep_113 : decode cX12_keep 113 = .ok (.getfield 82, 3) := dk_180 0 82 (dk_at dksX12_keep_4 18 rfl rfl)
theorem dX12_keep_116 : decode cX12_keep 116 = .ok (.iastore, 1) := dk_79 (dk_at dksX12_keep_4 21 rfl rfl)
theorem dX12_keep_117 : decode cX12_keep 117 = .ok (.aload_n 1, 1) := dk_43 (dk_at dksX12_keep_4 22 rfl rfl)
theorem dX12_keep_118 : decode cX12_keep 118 = .ok (.bipush 79, 2) := dk_16 79 (dk_at dksX12_keep_5 0 rfl rfl)
theorem dX12_keep_120 : decode cX12_keep 120 = .ok (.aload_n 0, 1) := dk_42 (dk_at dksX12_keep_5 2 rfl rfl)
theorem dX12_keep_121 : decode cX12_keep 121 = .ok (.getfield 89, 3) := dk_180 0 89 (dk_at dksX12_keep_5 3 rfl rfl)
theorem dX12_keep_124 : decode cX12_keep 124 = .ok (.iastore, 1) := dk_79 (dk_at dksX12_keep_5 6 rfl rfl)
theorem dX12_keep_125 : decode cX12_keep 125 = .ok (.aload_n 1, 1) := dk_43 (dk_at dksX12_keep_5 7 rfl rfl)
theorem dX12_keep_126 : decode cX12_keep 126 = .ok (.bipush 80, 2) := dk_16 80 (dk_at dksX12_keep_5 8 rfl rfl)
theorem dX12_keep_128 : decode cX12_keep 128 = .ok (.aload_n 0, 1) := dk_42 (dk_at dksX12_keep_5 10 rfl rfl)
theorem dX12_keep_129 : decode cX12_keep 129 = .ok (.getfield 65, 3) := dk_180 0 65 (dk_at dksX12_keep_5 11 rfl rfl)
theorem dX12_keep_132 : decode cX12_keep 132 = .ok (.iastore, 1) := dk_79 (dk_at dksX12_keep_5 14 rfl rfl)
theorem dX12_keep_133 : decode cX12_keep 133 = .ok (.aload_n 1, 1) := dk_43 (dk_at dksX12_keep_5 15 rfl rfl)
theorem dX12_keep_134 : decode cX12_keep 134 = .ok (.bipush 81, 2) := dk_16 81 (dk_at dksX12_keep_5 16 rfl rfl)
theorem dX12_keep_136 : decode cX12_keep 136 = .ok (.aload_n 0, 1) := dk_42 (dk_at dksX12_keep_5 18 rfl rfl)
theorem dX12_keep_137 : decode cX12_keep 137 = .ok (.getfield 280, 3) := dk_180 1 24 (dk_at dksX12_keep_5 19 rfl rfl)
theorem dX12_keep_140 : decode cX12_keep 140 = .ok (.iastore, 1) := dk_79 (dk_at dksX12_keep_5 22 rfl rfl)
theorem dX12_keep_141 : decode cX12_keep 141 = .ok (.aload_n 1, 1) := dk_43 (dk_at dksX12_keep_5 23 rfl rfl)
theorem dX12_keep_142 : decode cX12_keep 142 = .ok (.bipush 82, 2) := dk_16 82 (dk_at dksX12_keep_6 0 rfl rfl)
theorem dX12_keep_144 : decode cX12_keep 144 = .ok (.aload_n 0, 1) := dk_42 (dk_at dksX12_keep_6 2 rfl rfl)
theorem dX12_keep_145 : decode cX12_keep 145 = .ok (.getfield 69, 3) := dk_180 0 69 (dk_at dksX12_keep_6 3 rfl rfl)
theorem dX12_keep_148 : decode cX12_keep 148 = .ok (.iastore, 1) := dk_79 (dk_at dksX12_keep_6 6 rfl rfl)
theorem dX12_keep_149 : decode cX12_keep 149 = .ok (.return_, 1) := dk_177 (dk_at dksX12_keep_6 7 rfl rfl)
abbrev cX12_item : ByteArray := prog_22_method_38_code
def yX12_item : MethodName := ⟨RX12, "item", "()Z"⟩
def dkwX12_item_18 : List UInt8 := [172, 42, 42, 180, 0, 41, 3, 46, 181, 0, 65, 4, 172, 3, 172]
abbrev dktX12_item_18 : List UInt8 := dkwX12_item_18 ++ []
def dkwX12_item_17 : List UInt8 := [79, 4, 172, 42, 18, 175, 182, 0, 153, 153, 0, 14, 42, 3, 3, 16, 9, 182, 0, 162, 154, 0, 5, 3]
abbrev dktX12_item_17 : List UInt8 := dkwX12_item_17 ++ dktX12_item_18
def dkwX12_item_16 : List UInt8 := [182, 0, 167, 154, 0, 5, 3, 172, 42, 180, 0, 26, 42, 180, 0, 41, 3, 46, 42, 180, 0, 41, 4, 46]
abbrev dktX12_item_16 : List UInt8 := dkwX12_item_16 ++ dktX12_item_17
def dkwX12_item_15 : List UInt8 := [153, 0, 29, 42, 27, 42, 42, 180, 0, 41, 4, 46, 182, 0, 92, 154, 0, 7, 4, 167, 0, 4, 3]
abbrev dktX12_item_15 : List UInt8 := dkwX12_item_15 ++ dktX12_item_16
def dkwX12_item_14 : List UInt8 := [182, 0, 162, 154, 0, 5, 3, 172, 42, 180, 0, 130, 4, 96, 60, 42, 4, 3, 16, 23, 182, 0, 162]
abbrev dktX12_item_14 : List UInt8 := dkwX12_item_14 ++ dktX12_item_15
def dkwX12_item_13 : List UInt8 := [120, 128, 79, 4, 172, 42, 18, 173, 182, 0, 153, 153, 0, 18, 42, 3, 3, 42, 180, 0, 82, 4, 100]
abbrev dktX12_item_13 : List UInt8 := dkwX12_item_13 ++ dktX12_item_14
def dkwX12_item_12 : List UInt8 := [154, 0, 5, 3, 172, 42, 180, 0, 35, 42, 180, 0, 41, 3, 46, 92, 46, 4, 42, 180, 0, 41, 4, 46]
abbrev dktX12_item_12 : List UInt8 := dkwX12_item_12 ++ dktX12_item_13
def dkwX12_item_11 : List UInt8 := [180, 0, 82, 4, 100, 182, 0, 162, 153, 0, 18, 42, 4, 3, 42, 180, 0, 89, 4, 100, 182, 0, 162]
abbrev dktX12_item_11 : List UInt8 := dkwX12_item_11 ++ dktX12_item_12
def dkwX12_item_10 : List UInt8 := [180, 0, 41, 7, 46, 182, 0, 123, 87, 4, 172, 42, 18, 171, 182, 0, 153, 153, 0, 33, 42, 3, 3, 42]
abbrev dktX12_item_10 : List UInt8 := dkwX12_item_10 ++ dktX12_item_11
def dkwX12_item_9 : List UInt8 := [180, 0, 41, 3, 46, 42, 180, 0, 41, 4, 46, 42, 180, 0, 41, 5, 46, 42, 180, 0, 41, 6, 46, 42]
abbrev dktX12_item_9 : List UInt8 := dkwX12_item_9 ++ dktX12_item_10
def dkwX12_item_8 : List UInt8 := [3, 8, 182, 0, 162, 153, 0, 14, 42, 7, 3, 16, 11, 182, 0, 162, 154, 0, 5, 3, 172, 42, 42]
abbrev dktX12_item_8 : List UInt8 := dkwX12_item_8 ++ dktX12_item_9
def dkwX12_item_7 : List UInt8 := [180, 0, 41, 5, 46, 182, 0, 92, 154, 0, 7, 4, 167, 0, 4, 3, 182, 0, 167, 153, 0, 24, 42, 6]
abbrev dktX12_item_7 : List UInt8 := dkwX12_item_7 ++ dktX12_item_8
def dkwX12_item_6 : List UInt8 := [42, 180, 0, 130, 4, 96, 60, 42, 5, 3, 16, 23, 182, 0, 162, 153, 0, 50, 42, 27, 42, 42]
abbrev dktX12_item_6 : List UInt8 := dkwX12_item_6 ++ dktX12_item_7
def dkwX12_item_5 : List UInt8 := [42, 3, 3, 16, 6, 182, 0, 162, 153, 0, 14, 42, 4, 3, 16, 9, 182, 0, 162, 154, 0, 5, 3, 172]
abbrev dktX12_item_5 : List UInt8 := dkwX12_item_5 ++ dktX12_item_6
def dkwX12_item_4 : List UInt8 := [172, 42, 18, 165, 42, 180, 0, 82, 16, 12, 162, 0, 7, 4, 167, 0, 4, 3, 182, 0, 159, 153, 0, 25]
abbrev dktX12_item_4 : List UInt8 := dkwX12_item_4 ++ dktX12_item_5
def dkwX12_item_3 : List UInt8 := [3, 3, 16, 11, 182, 0, 162, 154, 0, 5, 3, 172, 42, 42, 180, 0, 41, 3, 46, 182, 0, 117, 87, 4]
abbrev dktX12_item_3 : List UInt8 := dkwX12_item_3 ++ dktX12_item_4
def dkwX12_item_2 : List UInt8 := [42, 18, 157, 42, 180, 0, 89, 16, 6, 162, 0, 7, 4, 167, 0, 4, 3, 182, 0, 159, 153, 0, 14, 42]
abbrev dktX12_item_2 : List UInt8 := dkwX12_item_2 ++ dktX12_item_3
def dkwX12_item_1 : List UInt8 := [170, 0, 0, 0, 0, 0, 1, 202, 0, 0, 0, 107, 0, 0, 0, 119, 0, 0, 1, 12, 0, 0, 1, 202, 0, 0, 1, 77, 0, 0, 1, 202, 0, 0, 1, 202, 0, 0, 1, 202, 0, 0, 1, 202, 0, 0, 1, 202, 0, 0, 1, 202, 0, 0, 0, 68, 0, 0, 1, 202, 0, 0, 0, 117, 0, 0, 1, 168]
abbrev dktX12_item_1 : List UInt8 := dkwX12_item_1 ++ dktX12_item_2
def dkwX12_item_0 : List UInt8 := [42, 182, 0, 136]
abbrev dktX12_item_0 : List UInt8 := dkwX12_item_0 ++ dktX12_item_1
theorem dksX12_item_0 : cX12_item.data.toList.drop 0 = dktX12_item_0 := by decide +kernel
theorem dksX12_item_1 : cX12_item.data.toList.drop 4 = dktX12_item_1 := dk_seg dksX12_item_0 4 rfl rfl
theorem dksX12_item_2 : cX12_item.data.toList.drop 72 = dktX12_item_2 := dk_seg dksX12_item_1 68 rfl rfl
theorem dksX12_item_3 : cX12_item.data.toList.drop 96 = dktX12_item_3 := dk_seg dksX12_item_2 24 rfl rfl
theorem dksX12_item_4 : cX12_item.data.toList.drop 120 = dktX12_item_4 := dk_seg dksX12_item_3 24 rfl rfl
theorem dksX12_item_5 : cX12_item.data.toList.drop 144 = dktX12_item_5 := dk_seg dksX12_item_4 24 rfl rfl
theorem dksX12_item_6 : cX12_item.data.toList.drop 168 = dktX12_item_6 := dk_seg dksX12_item_5 24 rfl rfl
theorem dksX12_item_7 : cX12_item.data.toList.drop 190 = dktX12_item_7 := dk_seg dksX12_item_6 22 rfl rfl
theorem dksX12_item_8 : cX12_item.data.toList.drop 214 = dktX12_item_8 := dk_seg dksX12_item_7 24 rfl rfl
theorem dksX12_item_9 : cX12_item.data.toList.drop 237 = dktX12_item_9 := dk_seg dksX12_item_8 23 rfl rfl
theorem dksX12_item_10 : cX12_item.data.toList.drop 261 = dktX12_item_10 := dk_seg dksX12_item_9 24 rfl rfl
theorem dksX12_item_11 : cX12_item.data.toList.drop 285 = dktX12_item_11 := dk_seg dksX12_item_10 24 rfl rfl
theorem dksX12_item_12 : cX12_item.data.toList.drop 308 = dktX12_item_12 := dk_seg dksX12_item_11 23 rfl rfl
theorem dksX12_item_13 : cX12_item.data.toList.drop 332 = dktX12_item_13 := dk_seg dksX12_item_12 24 rfl rfl
theorem dksX12_item_14 : cX12_item.data.toList.drop 355 = dktX12_item_14 := dk_seg dksX12_item_13 23 rfl rfl
theorem dksX12_item_15 : cX12_item.data.toList.drop 378 = dktX12_item_15 := dk_seg dksX12_item_14 23 rfl rfl
theorem dksX12_item_16 : cX12_item.data.toList.drop 401 = dktX12_item_16 := dk_seg dksX12_item_15 23 rfl rfl
theorem dksX12_item_17 : cX12_item.data.toList.drop 425 = dktX12_item_17 := dk_seg dksX12_item_16 24 rfl rfl
theorem dksX12_item_18 : cX12_item.data.toList.drop 449 = dktX12_item_18 := dk_seg dksX12_item_17 24 rfl rfl
theorem dX12_item_0 : decode cX12_item 0 = .ok (.aload_n 0, 1) := dk_42 (dk_at dksX12_item_0 0 rfl rfl)
theorem dX12_item_1 : decode cX12_item 1 = .ok (.invokevirtual 136, 3) := dk_182 0 136 (dk_at dksX12_item_0 1 rfl rfl)
theorem dX12_item_4 : decode cX12_item 4 = .ok (.tableswitch 458 107 119 #[268, 458, 333, 458, 458, 458, 458, 458, 458, 68, 458, 117, 424], 68) := by decide +kernel
theorem dX12_item_72 : decode cX12_item 72 = .ok (.aload_n 0, 1) := dk_42 (dk_at dksX12_item_2 0 rfl rfl)
theorem dX12_item_73 : decode cX12_item 73 = .ok (.ldc 157, 2) := dk_18 157 (dk_at dksX12_item_2 1 rfl rfl)
theorem dX12_item_75 : decode cX12_item 75 = .ok (.aload_n 0, 1) := dk_42 (dk_at dksX12_item_2 3 rfl rfl)
theorem dX12_item_76 : decode cX12_item 76 = .ok (.getfield 89, 3) := dk_180 0 89 (dk_at dksX12_item_2 4 rfl rfl)
theorem dX12_item_79 : decode cX12_item 79 = .ok (.bipush 6, 2) := dk_16 6 (dk_at dksX12_item_2 7 rfl rfl)
theorem dX12_item_81 : decode cX12_item 81 = .ok (.if_icmp .ge 7, 3) := dk_162 0 7 (dk_at dksX12_item_2 9 rfl rfl)
theorem dX12_item_84 : decode cX12_item 84 = .ok (.iconst 1, 1) := dk_4 (dk_at dksX12_item_2 12 rfl rfl)
theorem dX12_item_85 : decode cX12_item 85 = .ok (.goto 4, 3) := dk_167 0 4 (dk_at dksX12_item_2 13 rfl rfl)
theorem dX12_item_88 : decode cX12_item 88 = .ok (.iconst 0, 1) := dk_3 (dk_at dksX12_item_2 16 rfl rfl)
theorem dX12_item_89 : decode cX12_item 89 = .ok (.invokevirtual 159, 3) := dk_182 0 159 (dk_at dksX12_item_2 17 rfl rfl)
theorem dX12_item_92 : decode cX12_item 92 = .ok (.ifCond .eq 14, 3) := dk_153 0 14 (dk_at dksX12_item_2 20 rfl rfl)
theorem dX12_item_95 : decode cX12_item 95 = .ok (.aload_n 0, 1) := dk_42 (dk_at dksX12_item_2 23 rfl rfl)
theorem dX12_item_96 : decode cX12_item 96 = .ok (.iconst 0, 1) := dk_3 (dk_at dksX12_item_3 0 rfl rfl)
theorem dX12_item_97 : decode cX12_item 97 = .ok (.iconst 0, 1) := dk_3 (dk_at dksX12_item_3 1 rfl rfl)
theorem dX12_item_98 : decode cX12_item 98 = .ok (.bipush 11, 2) := dk_16 11 (dk_at dksX12_item_3 2 rfl rfl)
theorem dX12_item_100 : decode cX12_item 100 = .ok (.invokevirtual 162, 3) := dk_182 0 162 (dk_at dksX12_item_3 4 rfl rfl)
theorem dX12_item_103 : decode cX12_item 103 = .ok (.ifCond .ne 5, 3) := dk_154 0 5 (dk_at dksX12_item_3 7 rfl rfl)
theorem dX12_item_106 : decode cX12_item 106 = .ok (.iconst 0, 1) := dk_3 (dk_at dksX12_item_3 10 rfl rfl)
theorem dX12_item_107 : decode cX12_item 107 = .ok (.ireturn, 1) := dk_172 (dk_at dksX12_item_3 11 rfl rfl)
theorem dX12_item_108 : decode cX12_item 108 = .ok (.aload_n 0, 1) := dk_42 (dk_at dksX12_item_3 12 rfl rfl)
theorem dX12_item_109 : decode cX12_item 109 = .ok (.aload_n 0, 1) := dk_42 (dk_at dksX12_item_3 13 rfl rfl)
theorem dX12_item_110 : decode cX12_item 110 = .ok (.getfield 41, 3) := dk_180 0 41 (dk_at dksX12_item_3 14 rfl rfl)
theorem dX12_item_113 : decode cX12_item 113 = .ok (.iconst 0, 1) := dk_3 (dk_at dksX12_item_3 17 rfl rfl)
theorem dX12_item_114 : decode cX12_item 114 = .ok (.iaload, 1) := dk_46 (dk_at dksX12_item_3 18 rfl rfl)
theorem dX12_item_115 : decode cX12_item 115 = .ok (.invokevirtual 117, 3) := dk_182 0 117 (dk_at dksX12_item_3 19 rfl rfl)
theorem dX12_item_118 : decode cX12_item 118 = .ok (.pop, 1) := dk_87 (dk_at dksX12_item_3 22 rfl rfl)
theorem dX12_item_119 : decode cX12_item 119 = .ok (.iconst 1, 1) := dk_4 (dk_at dksX12_item_3 23 rfl rfl)
theorem dX12_item_120 : decode cX12_item 120 = .ok (.ireturn, 1) := dk_172 (dk_at dksX12_item_4 0 rfl rfl)
theorem dX12_item_121 : decode cX12_item 121 = .ok (.aload_n 0, 1) := dk_42 (dk_at dksX12_item_4 1 rfl rfl)
theorem dX12_item_122 : decode cX12_item 122 = .ok (.ldc 165, 2) := dk_18 165 (dk_at dksX12_item_4 2 rfl rfl)
theorem dX12_item_124 : decode cX12_item 124 = .ok (.aload_n 0, 1) := dk_42 (dk_at dksX12_item_4 4 rfl rfl)
theorem dX12_item_125 : decode cX12_item 125 = .ok (.getfield 82, 3) := dk_180 0 82 (dk_at dksX12_item_4 5 rfl rfl)
theorem dX12_item_128 : decode cX12_item 128 = .ok (.bipush 12, 2) := dk_16 12 (dk_at dksX12_item_4 8 rfl rfl)
theorem dX12_item_130 : decode cX12_item 130 = .ok (.if_icmp .ge 7, 3) := dk_162 0 7 (dk_at dksX12_item_4 10 rfl rfl)
theorem dX12_item_133 : decode cX12_item 133 = .ok (.iconst 1, 1) := dk_4 (dk_at dksX12_item_4 13 rfl rfl)
theorem dX12_item_134 : decode cX12_item 134 = .ok (.goto 4, 3) := dk_167 0 4 (dk_at dksX12_item_4 14 rfl rfl)
theorem dX12_item_137 : decode cX12_item 137 = .ok (.iconst 0, 1) := dk_3 (dk_at dksX12_item_4 17 rfl rfl)
theorem dX12_item_138 : decode cX12_item 138 = .ok (.invokevirtual 159, 3) := dk_182 0 159 (dk_at dksX12_item_4 18 rfl rfl)
theorem dX12_item_141 : decode cX12_item 141 = .ok (.ifCond .eq 25, 3) := dk_153 0 25 (dk_at dksX12_item_4 21 rfl rfl)
theorem dX12_item_144 : decode cX12_item 144 = .ok (.aload_n 0, 1) := dk_42 (dk_at dksX12_item_5 0 rfl rfl)
theorem dX12_item_145 : decode cX12_item 145 = .ok (.iconst 0, 1) := dk_3 (dk_at dksX12_item_5 1 rfl rfl)
theorem dX12_item_146 : decode cX12_item 146 = .ok (.iconst 0, 1) := dk_3 (dk_at dksX12_item_5 2 rfl rfl)
theorem dX12_item_147 : decode cX12_item 147 = .ok (.bipush 6, 2) := dk_16 6 (dk_at dksX12_item_5 3 rfl rfl)
theorem dX12_item_149 : decode cX12_item 149 = .ok (.invokevirtual 162, 3) := dk_182 0 162 (dk_at dksX12_item_5 5 rfl rfl)
theorem dX12_item_152 : decode cX12_item 152 = .ok (.ifCond .eq 14, 3) := dk_153 0 14 (dk_at dksX12_item_5 8 rfl rfl)
theorem dX12_item_155 : decode cX12_item 155 = .ok (.aload_n 0, 1) := dk_42 (dk_at dksX12_item_5 11 rfl rfl)
theorem dX12_item_156 : decode cX12_item 156 = .ok (.iconst 1, 1) := dk_4 (dk_at dksX12_item_5 12 rfl rfl)
theorem dX12_item_157 : decode cX12_item 157 = .ok (.iconst 0, 1) := dk_3 (dk_at dksX12_item_5 13 rfl rfl)
theorem dX12_item_158 : decode cX12_item 158 = .ok (.bipush 9, 2) := dk_16 9 (dk_at dksX12_item_5 14 rfl rfl)
theorem dX12_item_160 : decode cX12_item 160 = .ok (.invokevirtual 162, 3) := dk_182 0 162 (dk_at dksX12_item_5 16 rfl rfl)
theorem dX12_item_163 : decode cX12_item 163 = .ok (.ifCond .ne 5, 3) := dk_154 0 5 (dk_at dksX12_item_5 19 rfl rfl)
theorem dX12_item_166 : decode cX12_item 166 = .ok (.iconst 0, 1) := dk_3 (dk_at dksX12_item_5 22 rfl rfl)
theorem dX12_item_167 : decode cX12_item 167 = .ok (.ireturn, 1) := dk_172 (dk_at dksX12_item_5 23 rfl rfl)
theorem dX12_item_168 : decode cX12_item 168 = .ok (.aload_n 0, 1) := dk_42 (dk_at dksX12_item_6 0 rfl rfl)
theorem dX12_item_169 : decode cX12_item 169 = .ok (.getfield 130, 3) := dk_180 0 130 (dk_at dksX12_item_6 1 rfl rfl)
theorem dX12_item_172 : decode cX12_item 172 = .ok (.iconst 1, 1) := dk_4 (dk_at dksX12_item_6 4 rfl rfl)
theorem dX12_item_173 : decode cX12_item 173 = .ok (.iadd, 1) := dk_96 (dk_at dksX12_item_6 5 rfl rfl)
theorem dX12_item_174 : decode cX12_item 174 = .ok (.istore_n 1, 1) := dk_60 (dk_at dksX12_item_6 6 rfl rfl)
theorem dX12_item_175 : decode cX12_item 175 = .ok (.aload_n 0, 1) := dk_42 (dk_at dksX12_item_6 7 rfl rfl)
theorem dX12_item_176 : decode cX12_item 176 = .ok (.iconst 2, 1) := dk_5 (dk_at dksX12_item_6 8 rfl rfl)
theorem dX12_item_177 : decode cX12_item 177 = .ok (.iconst 0, 1) := dk_3 (dk_at dksX12_item_6 9 rfl rfl)
theorem dX12_item_178 : decode cX12_item 178 = .ok (.bipush 23, 2) := dk_16 23 (dk_at dksX12_item_6 10 rfl rfl)
theorem dX12_item_180 : decode cX12_item 180 = .ok (.invokevirtual 162, 3) := dk_182 0 162 (dk_at dksX12_item_6 12 rfl rfl)
theorem dX12_item_183 : decode cX12_item 183 = .ok (.ifCond .eq 50, 3) := dk_153 0 50 (dk_at dksX12_item_6 15 rfl rfl)
theorem dX12_item_186 : decode cX12_item 186 = .ok (.aload_n 0, 1) := dk_42 (dk_at dksX12_item_6 18 rfl rfl)
theorem dX12_item_187 : decode cX12_item 187 = .ok (.iload_n 1, 1) := dk_27 (dk_at dksX12_item_6 19 rfl rfl)
theorem dX12_item_188 : decode cX12_item 188 = .ok (.aload_n 0, 1) := dk_42 (dk_at dksX12_item_6 20 rfl rfl)
theorem dX12_item_189 : decode cX12_item 189 = .ok (.aload_n 0, 1) := dk_42 (dk_at dksX12_item_6 21 rfl rfl)
theorem dX12_item_190 : decode cX12_item 190 = .ok (.getfield 41, 3) := dk_180 0 41 (dk_at dksX12_item_7 0 rfl rfl)
theorem dX12_item_193 : decode cX12_item 193 = .ok (.iconst 2, 1) := dk_5 (dk_at dksX12_item_7 3 rfl rfl)
theorem dX12_item_194 : decode cX12_item 194 = .ok (.iaload, 1) := dk_46 (dk_at dksX12_item_7 4 rfl rfl)
theorem dX12_item_195 : decode cX12_item 195 = .ok (.invokevirtual 92, 3) := dk_182 0 92 (dk_at dksX12_item_7 5 rfl rfl)
theorem dX12_item_198 : decode cX12_item 198 = .ok (.ifCond .ne 7, 3) := dk_154 0 7 (dk_at dksX12_item_7 8 rfl rfl)
theorem dX12_item_201 : decode cX12_item 201 = .ok (.iconst 1, 1) := dk_4 (dk_at dksX12_item_7 11 rfl rfl)
theorem dX12_item_202 : decode cX12_item 202 = .ok (.goto 4, 3) := dk_167 0 4 (dk_at dksX12_item_7 12 rfl rfl)
theorem dX12_item_205 : decode cX12_item 205 = .ok (.iconst 0, 1) := dk_3 (dk_at dksX12_item_7 15 rfl rfl)
theorem dX12_item_206 : decode cX12_item 206 = .ok (.invokevirtual 167, 3) := dk_182 0 167 (dk_at dksX12_item_7 16 rfl rfl)
theorem dX12_item_209 : decode cX12_item 209 = .ok (.ifCond .eq 24, 3) := dk_153 0 24 (dk_at dksX12_item_7 19 rfl rfl)
theorem dX12_item_212 : decode cX12_item 212 = .ok (.aload_n 0, 1) := dk_42 (dk_at dksX12_item_7 22 rfl rfl)
theorem dX12_item_213 : decode cX12_item 213 = .ok (.iconst 3, 1) := dk_6 (dk_at dksX12_item_7 23 rfl rfl)
theorem dX12_item_214 : decode cX12_item 214 = .ok (.iconst 0, 1) := dk_3 (dk_at dksX12_item_8 0 rfl rfl)
theorem dX12_item_215 : decode cX12_item 215 = .ok (.iconst 5, 1) := dk_8 (dk_at dksX12_item_8 1 rfl rfl)
theorem dX12_item_216 : decode cX12_item 216 = .ok (.invokevirtual 162, 3) := dk_182 0 162 (dk_at dksX12_item_8 2 rfl rfl)
theorem dX12_item_219 : decode cX12_item 219 = .ok (.ifCond .eq 14, 3) := dk_153 0 14 (dk_at dksX12_item_8 5 rfl rfl)
theorem dX12_item_222 : decode cX12_item 222 = .ok (.aload_n 0, 1) := dk_42 (dk_at dksX12_item_8 8 rfl rfl)
theorem dX12_item_223 : decode cX12_item 223 = .ok (.iconst 4, 1) := dk_7 (dk_at dksX12_item_8 9 rfl rfl)
theorem dX12_item_224 : decode cX12_item 224 = .ok (.iconst 0, 1) := dk_3 (dk_at dksX12_item_8 10 rfl rfl)
theorem dX12_item_225 : decode cX12_item 225 = .ok (.bipush 11, 2) := dk_16 11 (dk_at dksX12_item_8 11 rfl rfl)
theorem dX12_item_227 : decode cX12_item 227 = .ok (.invokevirtual 162, 3) := dk_182 0 162 (dk_at dksX12_item_8 13 rfl rfl)
theorem dX12_item_230 : decode cX12_item 230 = .ok (.ifCond .ne 5, 3) := dk_154 0 5 (dk_at dksX12_item_8 16 rfl rfl)
theorem dX12_item_233 : decode cX12_item 233 = .ok (.iconst 0, 1) := dk_3 (dk_at dksX12_item_8 19 rfl rfl)
theorem dX12_item_234 : decode cX12_item 234 = .ok (.ireturn, 1) := dk_172 (dk_at dksX12_item_8 20 rfl rfl)
theorem dX12_item_235 : decode cX12_item 235 = .ok (.aload_n 0, 1) := dk_42 (dk_at dksX12_item_8 21 rfl rfl)
theorem dX12_item_236 : decode cX12_item 236 = .ok (.aload_n 0, 1) := dk_42 (dk_at dksX12_item_8 22 rfl rfl)
theorem dX12_item_237 : decode cX12_item 237 = .ok (.getfield 41, 3) := dk_180 0 41 (dk_at dksX12_item_9 0 rfl rfl)
theorem dX12_item_240 : decode cX12_item 240 = .ok (.iconst 0, 1) := dk_3 (dk_at dksX12_item_9 3 rfl rfl)
theorem dX12_item_241 : decode cX12_item 241 = .ok (.iaload, 1) := dk_46 (dk_at dksX12_item_9 4 rfl rfl)
theorem dX12_item_242 : decode cX12_item 242 = .ok (.aload_n 0, 1) := dk_42 (dk_at dksX12_item_9 5 rfl rfl)
theorem dX12_item_243 : decode cX12_item 243 = .ok (.getfield 41, 3) := dk_180 0 41 (dk_at dksX12_item_9 6 rfl rfl)
theorem dX12_item_246 : decode cX12_item 246 = .ok (.iconst 1, 1) := dk_4 (dk_at dksX12_item_9 9 rfl rfl)
theorem dX12_item_247 : decode cX12_item 247 = .ok (.iaload, 1) := dk_46 (dk_at dksX12_item_9 10 rfl rfl)
theorem dX12_item_248 : decode cX12_item 248 = .ok (.aload_n 0, 1) := dk_42 (dk_at dksX12_item_9 11 rfl rfl)
theorem dX12_item_249 : decode cX12_item 249 = .ok (.getfield 41, 3) := dk_180 0 41 (dk_at dksX12_item_9 12 rfl rfl)
theorem dX12_item_252 : decode cX12_item 252 = .ok (.iconst 2, 1) := dk_5 (dk_at dksX12_item_9 15 rfl rfl)
theorem dX12_item_253 : decode cX12_item 253 = .ok (.iaload, 1) := dk_46 (dk_at dksX12_item_9 16 rfl rfl)
theorem dX12_item_254 : decode cX12_item 254 = .ok (.aload_n 0, 1) := dk_42 (dk_at dksX12_item_9 17 rfl rfl)
theorem dX12_item_255 : decode cX12_item 255 = .ok (.getfield 41, 3) := dk_180 0 41 (dk_at dksX12_item_9 18 rfl rfl)
theorem dX12_item_258 : decode cX12_item 258 = .ok (.iconst 3, 1) := dk_6 (dk_at dksX12_item_9 21 rfl rfl)
theorem dX12_item_259 : decode cX12_item 259 = .ok (.iaload, 1) := dk_46 (dk_at dksX12_item_9 22 rfl rfl)
theorem dX12_item_260 : decode cX12_item 260 = .ok (.aload_n 0, 1) := dk_42 (dk_at dksX12_item_9 23 rfl rfl)
theorem dX12_item_261 : decode cX12_item 261 = .ok (.getfield 41, 3) := dk_180 0 41 (dk_at dksX12_item_10 0 rfl rfl)
theorem dX12_item_264 : decode cX12_item 264 = .ok (.iconst 4, 1) := dk_7 (dk_at dksX12_item_10 3 rfl rfl)
theorem dX12_item_265 : decode cX12_item 265 = .ok (.iaload, 1) := dk_46 (dk_at dksX12_item_10 4 rfl rfl)
theorem dX12_item_266 : decode cX12_item 266 = .ok (.invokevirtual 123, 3) := dk_182 0 123 (dk_at dksX12_item_10 5 rfl rfl)
theorem dX12_item_269 : decode cX12_item 269 = .ok (.pop, 1) := dk_87 (dk_at dksX12_item_10 8 rfl rfl)
theorem dX12_item_270 : decode cX12_item 270 = .ok (.iconst 1, 1) := dk_4 (dk_at dksX12_item_10 9 rfl rfl)
theorem dX12_item_271 : decode cX12_item 271 = .ok (.ireturn, 1) := dk_172 (dk_at dksX12_item_10 10 rfl rfl)
theorem dX12_item_272 : decode cX12_item 272 = .ok (.aload_n 0, 1) := dk_42 (dk_at dksX12_item_10 11 rfl rfl)
theorem dX12_item_273 : decode cX12_item 273 = .ok (.ldc 171, 2) := dk_18 171 (dk_at dksX12_item_10 12 rfl rfl)
theorem dX12_item_275 : decode cX12_item 275 = .ok (.invokevirtual 153, 3) := dk_182 0 153 (dk_at dksX12_item_10 14 rfl rfl)
theorem dX12_item_278 : decode cX12_item 278 = .ok (.ifCond .eq 33, 3) := dk_153 0 33 (dk_at dksX12_item_10 17 rfl rfl)
theorem dX12_item_281 : decode cX12_item 281 = .ok (.aload_n 0, 1) := dk_42 (dk_at dksX12_item_10 20 rfl rfl)
theorem dX12_item_282 : decode cX12_item 282 = .ok (.iconst 0, 1) := dk_3 (dk_at dksX12_item_10 21 rfl rfl)
theorem dX12_item_283 : decode cX12_item 283 = .ok (.iconst 0, 1) := dk_3 (dk_at dksX12_item_10 22 rfl rfl)
theorem dX12_item_284 : decode cX12_item 284 = .ok (.aload_n 0, 1) := dk_42 (dk_at dksX12_item_10 23 rfl rfl)
theorem dX12_item_285 : decode cX12_item 285 = .ok (.getfield 82, 3) := dk_180 0 82 (dk_at dksX12_item_11 0 rfl rfl)
theorem dX12_item_288 : decode cX12_item 288 = .ok (.iconst 1, 1) := dk_4 (dk_at dksX12_item_11 3 rfl rfl)
theorem dX12_item_289 : decode cX12_item 289 = .ok (.isub, 1) := dk_100 (dk_at dksX12_item_11 4 rfl rfl)
theorem dX12_item_290 : decode cX12_item 290 = .ok (.invokevirtual 162, 3) := dk_182 0 162 (dk_at dksX12_item_11 5 rfl rfl)
theorem dX12_item_293 : decode cX12_item 293 = .ok (.ifCond .eq 18, 3) := dk_153 0 18 (dk_at dksX12_item_11 8 rfl rfl)
theorem dX12_item_296 : decode cX12_item 296 = .ok (.aload_n 0, 1) := dk_42 (dk_at dksX12_item_11 11 rfl rfl)
theorem dX12_item_297 : decode cX12_item 297 = .ok (.iconst 1, 1) := dk_4 (dk_at dksX12_item_11 12 rfl rfl)
theorem dX12_item_298 : decode cX12_item 298 = .ok (.iconst 0, 1) := dk_3 (dk_at dksX12_item_11 13 rfl rfl)
theorem dX12_item_299 : decode cX12_item 299 = .ok (.aload_n 0, 1) := dk_42 (dk_at dksX12_item_11 14 rfl rfl)
theorem dX12_item_300 : decode cX12_item 300 = .ok (.getfield 89, 3) := dk_180 0 89 (dk_at dksX12_item_11 15 rfl rfl)
theorem dX12_item_303 : decode cX12_item 303 = .ok (.iconst 1, 1) := dk_4 (dk_at dksX12_item_11 18 rfl rfl)
theorem dX12_item_304 : decode cX12_item 304 = .ok (.isub, 1) := dk_100 (dk_at dksX12_item_11 19 rfl rfl)
theorem dX12_item_305 : decode cX12_item 305 = .ok (.invokevirtual 162, 3) := dk_182 0 162 (dk_at dksX12_item_11 20 rfl rfl)
theorem dX12_item_308 : decode cX12_item 308 = .ok (.ifCond .ne 5, 3) := dk_154 0 5 (dk_at dksX12_item_12 0 rfl rfl)
theorem dX12_item_311 : decode cX12_item 311 = .ok (.iconst 0, 1) := dk_3 (dk_at dksX12_item_12 3 rfl rfl)
theorem dX12_item_312 : decode cX12_item 312 = .ok (.ireturn, 1) := dk_172 (dk_at dksX12_item_12 4 rfl rfl)
theorem dX12_item_313 : decode cX12_item 313 = .ok (.aload_n 0, 1) := dk_42 (dk_at dksX12_item_12 5 rfl rfl)
theorem dX12_item_314 : decode cX12_item 314 = .ok (.getfield 35, 3) := dk_180 0 35 (dk_at dksX12_item_12 6 rfl rfl)
theorem dX12_item_317 : decode cX12_item 317 = .ok (.aload_n 0, 1) := dk_42 (dk_at dksX12_item_12 9 rfl rfl)
theorem dX12_item_318 : decode cX12_item 318 = .ok (.getfield 41, 3) := dk_180 0 41 (dk_at dksX12_item_12 10 rfl rfl)
theorem dX12_item_321 : decode cX12_item 321 = .ok (.iconst 0, 1) := dk_3 (dk_at dksX12_item_12 13 rfl rfl)
theorem dX12_item_322 : decode cX12_item 322 = .ok (.iaload, 1) := dk_46 (dk_at dksX12_item_12 14 rfl rfl)
theorem dX12_item_323 : decode cX12_item 323 = .ok (.dup2, 1) := dk_92 (dk_at dksX12_item_12 15 rfl rfl)
theorem dX12_item_324 : decode cX12_item 324 = .ok (.iaload, 1) := dk_46 (dk_at dksX12_item_12 16 rfl rfl)
theorem dX12_item_325 : decode cX12_item 325 = .ok (.iconst 1, 1) := dk_4 (dk_at dksX12_item_12 17 rfl rfl)
theorem dX12_item_326 : decode cX12_item 326 = .ok (.aload_n 0, 1) := dk_42 (dk_at dksX12_item_12 18 rfl rfl)
theorem dX12_item_327 : decode cX12_item 327 = .ok (.getfield 41, 3) := dk_180 0 41 (dk_at dksX12_item_12 19 rfl rfl)
theorem dX12_item_330 : decode cX12_item 330 = .ok (.iconst 1, 1) := dk_4 (dk_at dksX12_item_12 22 rfl rfl)
theorem dX12_item_331 : decode cX12_item 331 = .ok (.iaload, 1) := dk_46 (dk_at dksX12_item_12 23 rfl rfl)
theorem dX12_item_332 : decode cX12_item 332 = .ok (.ishl, 1) := dk_120 (dk_at dksX12_item_13 0 rfl rfl)
theorem dX12_item_333 : decode cX12_item 333 = .ok (.ior, 1) := dk_128 (dk_at dksX12_item_13 1 rfl rfl)
theorem dX12_item_334 : decode cX12_item 334 = .ok (.iastore, 1) := dk_79 (dk_at dksX12_item_13 2 rfl rfl)
theorem dX12_item_335 : decode cX12_item 335 = .ok (.iconst 1, 1) := dk_4 (dk_at dksX12_item_13 3 rfl rfl)
theorem dX12_item_336 : decode cX12_item 336 = .ok (.ireturn, 1) := dk_172 (dk_at dksX12_item_13 4 rfl rfl)
theorem dX12_item_337 : decode cX12_item 337 = .ok (.aload_n 0, 1) := dk_42 (dk_at dksX12_item_13 5 rfl rfl)
theorem dX12_item_338 : decode cX12_item 338 = .ok (.ldc 173, 2) := dk_18 173 (dk_at dksX12_item_13 6 rfl rfl)
theorem dX12_item_340 : decode cX12_item 340 = .ok (.invokevirtual 153, 3) := dk_182 0 153 (dk_at dksX12_item_13 8 rfl rfl)
theorem dX12_item_343 : decode cX12_item 343 = .ok (.ifCond .eq 18, 3) := dk_153 0 18 (dk_at dksX12_item_13 11 rfl rfl)
theorem dX12_item_346 : decode cX12_item 346 = .ok (.aload_n 0, 1) := dk_42 (dk_at dksX12_item_13 14 rfl rfl)
theorem dX12_item_347 : decode cX12_item 347 = .ok (.iconst 0, 1) := dk_3 (dk_at dksX12_item_13 15 rfl rfl)
theorem dX12_item_348 : decode cX12_item 348 = .ok (.iconst 0, 1) := dk_3 (dk_at dksX12_item_13 16 rfl rfl)
theorem dX12_item_349 : decode cX12_item 349 = .ok (.aload_n 0, 1) := dk_42 (dk_at dksX12_item_13 17 rfl rfl)
theorem dX12_item_350 : decode cX12_item 350 = .ok (.getfield 82, 3) := dk_180 0 82 (dk_at dksX12_item_13 18 rfl rfl)
theorem dX12_item_353 : decode cX12_item 353 = .ok (.iconst 1, 1) := dk_4 (dk_at dksX12_item_13 21 rfl rfl)
theorem dX12_item_354 : decode cX12_item 354 = .ok (.isub, 1) := dk_100 (dk_at dksX12_item_13 22 rfl rfl)
theorem dX12_item_355 : decode cX12_item 355 = .ok (.invokevirtual 162, 3) := dk_182 0 162 (dk_at dksX12_item_14 0 rfl rfl)
theorem dX12_item_358 : decode cX12_item 358 = .ok (.ifCond .ne 5, 3) := dk_154 0 5 (dk_at dksX12_item_14 3 rfl rfl)
theorem dX12_item_361 : decode cX12_item 361 = .ok (.iconst 0, 1) := dk_3 (dk_at dksX12_item_14 6 rfl rfl)
theorem dX12_item_362 : decode cX12_item 362 = .ok (.ireturn, 1) := dk_172 (dk_at dksX12_item_14 7 rfl rfl)
theorem dX12_item_363 : decode cX12_item 363 = .ok (.aload_n 0, 1) := dk_42 (dk_at dksX12_item_14 8 rfl rfl)
theorem dX12_item_364 : decode cX12_item 364 = .ok (.getfield 130, 3) := dk_180 0 130 (dk_at dksX12_item_14 9 rfl rfl)
theorem dX12_item_367 : decode cX12_item 367 = .ok (.iconst 1, 1) := dk_4 (dk_at dksX12_item_14 12 rfl rfl)
theorem dX12_item_368 : decode cX12_item 368 = .ok (.iadd, 1) := dk_96 (dk_at dksX12_item_14 13 rfl rfl)
theorem dX12_item_369 : decode cX12_item 369 = .ok (.istore_n 1, 1) := dk_60 (dk_at dksX12_item_14 14 rfl rfl)
theorem dX12_item_370 : decode cX12_item 370 = .ok (.aload_n 0, 1) := dk_42 (dk_at dksX12_item_14 15 rfl rfl)
theorem dX12_item_371 : decode cX12_item 371 = .ok (.iconst 1, 1) := dk_4 (dk_at dksX12_item_14 16 rfl rfl)
theorem dX12_item_372 : decode cX12_item 372 = .ok (.iconst 0, 1) := dk_3 (dk_at dksX12_item_14 17 rfl rfl)
theorem dX12_item_373 : decode cX12_item 373 = .ok (.bipush 23, 2) := dk_16 23 (dk_at dksX12_item_14 18 rfl rfl)
theorem dX12_item_375 : decode cX12_item 375 = .ok (.invokevirtual 162, 3) := dk_182 0 162 (dk_at dksX12_item_14 20 rfl rfl)
theorem dX12_item_378 : decode cX12_item 378 = .ok (.ifCond .eq 29, 3) := dk_153 0 29 (dk_at dksX12_item_15 0 rfl rfl)
theorem dX12_item_381 : decode cX12_item 381 = .ok (.aload_n 0, 1) := dk_42 (dk_at dksX12_item_15 3 rfl rfl)
theorem dX12_item_382 : decode cX12_item 382 = .ok (.iload_n 1, 1) := dk_27 (dk_at dksX12_item_15 4 rfl rfl)
theorem dX12_item_383 : decode cX12_item 383 = .ok (.aload_n 0, 1) := dk_42 (dk_at dksX12_item_15 5 rfl rfl)
theorem dX12_item_384 : decode cX12_item 384 = .ok (.aload_n 0, 1) := dk_42 (dk_at dksX12_item_15 6 rfl rfl)
theorem dX12_item_385 : decode cX12_item 385 = .ok (.getfield 41, 3) := dk_180 0 41 (dk_at dksX12_item_15 7 rfl rfl)
theorem dX12_item_388 : decode cX12_item 388 = .ok (.iconst 1, 1) := dk_4 (dk_at dksX12_item_15 10 rfl rfl)
theorem dX12_item_389 : decode cX12_item 389 = .ok (.iaload, 1) := dk_46 (dk_at dksX12_item_15 11 rfl rfl)
theorem dX12_item_390 : decode cX12_item 390 = .ok (.invokevirtual 92, 3) := dk_182 0 92 (dk_at dksX12_item_15 12 rfl rfl)
theorem dX12_item_393 : decode cX12_item 393 = .ok (.ifCond .ne 7, 3) := dk_154 0 7 (dk_at dksX12_item_15 15 rfl rfl)
theorem dX12_item_396 : decode cX12_item 396 = .ok (.iconst 1, 1) := dk_4 (dk_at dksX12_item_15 18 rfl rfl)
theorem dX12_item_397 : decode cX12_item 397 = .ok (.goto 4, 3) := dk_167 0 4 (dk_at dksX12_item_15 19 rfl rfl)
theorem dX12_item_400 : decode cX12_item 400 = .ok (.iconst 0, 1) := dk_3 (dk_at dksX12_item_15 22 rfl rfl)
theorem dX12_item_401 : decode cX12_item 401 = .ok (.invokevirtual 167, 3) := dk_182 0 167 (dk_at dksX12_item_16 0 rfl rfl)
theorem dX12_item_404 : decode cX12_item 404 = .ok (.ifCond .ne 5, 3) := dk_154 0 5 (dk_at dksX12_item_16 3 rfl rfl)
theorem dX12_item_407 : decode cX12_item 407 = .ok (.iconst 0, 1) := dk_3 (dk_at dksX12_item_16 6 rfl rfl)
theorem dX12_item_408 : decode cX12_item 408 = .ok (.ireturn, 1) := dk_172 (dk_at dksX12_item_16 7 rfl rfl)
theorem dX12_item_409 : decode cX12_item 409 = .ok (.aload_n 0, 1) := dk_42 (dk_at dksX12_item_16 8 rfl rfl)
theorem dX12_item_410 : decode cX12_item 410 = .ok (.getfield 26, 3) := dk_180 0 26 (dk_at dksX12_item_16 9 rfl rfl)
theorem dX12_item_413 : decode cX12_item 413 = .ok (.aload_n 0, 1) := dk_42 (dk_at dksX12_item_16 12 rfl rfl)
theorem dX12_item_414 : decode cX12_item 414 = .ok (.getfield 41, 3) := dk_180 0 41 (dk_at dksX12_item_16 13 rfl rfl)
theorem dX12_item_417 : decode cX12_item 417 = .ok (.iconst 0, 1) := dk_3 (dk_at dksX12_item_16 16 rfl rfl)
theorem dX12_item_418 : decode cX12_item 418 = .ok (.iaload, 1) := dk_46 (dk_at dksX12_item_16 17 rfl rfl)
theorem dX12_item_419 : decode cX12_item 419 = .ok (.aload_n 0, 1) := dk_42 (dk_at dksX12_item_16 18 rfl rfl)
theorem dX12_item_420 : decode cX12_item 420 = .ok (.getfield 41, 3) := dk_180 0 41 (dk_at dksX12_item_16 19 rfl rfl)
theorem dX12_item_423 : decode cX12_item 423 = .ok (.iconst 1, 1) := dk_4 (dk_at dksX12_item_16 22 rfl rfl)
theorem dX12_item_424 : decode cX12_item 424 = .ok (.iaload, 1) := dk_46 (dk_at dksX12_item_16 23 rfl rfl)
theorem dX12_item_425 : decode cX12_item 425 = .ok (.iastore, 1) := dk_79 (dk_at dksX12_item_17 0 rfl rfl)
theorem dX12_item_426 : decode cX12_item 426 = .ok (.iconst 1, 1) := dk_4 (dk_at dksX12_item_17 1 rfl rfl)
theorem dX12_item_427 : decode cX12_item 427 = .ok (.ireturn, 1) := dk_172 (dk_at dksX12_item_17 2 rfl rfl)
theorem dX12_item_428 : decode cX12_item 428 = .ok (.aload_n 0, 1) := dk_42 (dk_at dksX12_item_17 3 rfl rfl)
theorem dX12_item_429 : decode cX12_item 429 = .ok (.ldc 175, 2) := dk_18 175 (dk_at dksX12_item_17 4 rfl rfl)
theorem dX12_item_431 : decode cX12_item 431 = .ok (.invokevirtual 153, 3) := dk_182 0 153 (dk_at dksX12_item_17 6 rfl rfl)
theorem dX12_item_434 : decode cX12_item 434 = .ok (.ifCond .eq 14, 3) := dk_153 0 14 (dk_at dksX12_item_17 9 rfl rfl)
theorem dX12_item_437 : decode cX12_item 437 = .ok (.aload_n 0, 1) := dk_42 (dk_at dksX12_item_17 12 rfl rfl)
theorem dX12_item_438 : decode cX12_item 438 = .ok (.iconst 0, 1) := dk_3 (dk_at dksX12_item_17 13 rfl rfl)
theorem dX12_item_439 : decode cX12_item 439 = .ok (.iconst 0, 1) := dk_3 (dk_at dksX12_item_17 14 rfl rfl)
theorem dX12_item_440 : decode cX12_item 440 = .ok (.bipush 9, 2) := dk_16 9 (dk_at dksX12_item_17 15 rfl rfl)
theorem dX12_item_442 : decode cX12_item 442 = .ok (.invokevirtual 162, 3) := dk_182 0 162 (dk_at dksX12_item_17 17 rfl rfl)
theorem dX12_item_445 : decode cX12_item 445 = .ok (.ifCond .ne 5, 3) := dk_154 0 5 (dk_at dksX12_item_17 20 rfl rfl)
theorem dX12_item_448 : decode cX12_item 448 = .ok (.iconst 0, 1) := dk_3 (dk_at dksX12_item_17 23 rfl rfl)
theorem dX12_item_449 : decode cX12_item 449 = .ok (.ireturn, 1) := dk_172 (dk_at dksX12_item_18 0 rfl rfl)
theorem dX12_item_450 : decode cX12_item 450 = .ok (.aload_n 0, 1) := dk_42 (dk_at dksX12_item_18 1 rfl rfl)
theorem dX12_item_451 : decode cX12_item 451 = .ok (.aload_n 0, 1) := dk_42 (dk_at dksX12_item_18 2 rfl rfl)
theorem dX12_item_452 : decode cX12_item 452 = .ok (.getfield 41, 3) := dk_180 0 41 (dk_at dksX12_item_18 3 rfl rfl)
theorem dX12_item_455 : decode cX12_item 455 = .ok (.iconst 0, 1) := dk_3 (dk_at dksX12_item_18 6 rfl rfl)
theorem dX12_item_456 : decode cX12_item 456 = .ok (.iaload, 1) := dk_46 (dk_at dksX12_item_18 7 rfl rfl)
theorem dX12_item_457 : decode cX12_item 457 = .ok (.putfield 65, 3) := dk_181 0 65 (dk_at dksX12_item_18 8 rfl rfl)
theorem dX12_item_460 : decode cX12_item 460 = .ok (.iconst 1, 1) := dk_4 (dk_at dksX12_item_18 11 rfl rfl)
theorem dX12_item_461 : decode cX12_item 461 = .ok (.ireturn, 1) := dk_172 (dk_at dksX12_item_18 12 rfl rfl)
theorem dX12_item_462 : decode cX12_item 462 = .ok (.iconst 0, 1) := dk_3 (dk_at dksX12_item_18 13 rfl rfl)
theorem dX12_item_463 : decode cX12_item 463 = .ok (.ireturn, 1) := dk_172 (dk_at dksX12_item_18 14 rfl rfl)
abbrev cX12_sign : ByteArray := prog_22_method_32_code
def yX12_sign : MethodName := ⟨RX12, "sign", "()I"⟩
def dkwX12_sign_1 : List UInt8 := [180, 0, 133, 104, 42, 180, 0, 130, 96, 47, 136, 167, 0, 4, 2, 172]
abbrev dktX12_sign_1 : List UInt8 := dkwX12_sign_1 ++ []
def dkwX12_sign_0 : List UInt8 := [42, 180, 0, 130, 42, 180, 0, 13, 42, 180, 0, 133, 46, 162, 0, 25, 42, 180, 0, 16, 17, 0, 160, 42]
abbrev dktX12_sign_0 : List UInt8 := dkwX12_sign_0 ++ dktX12_sign_1
theorem dksX12_sign_0 : cX12_sign.data.toList.drop 0 = dktX12_sign_0 := by decide +kernel
theorem dksX12_sign_1 : cX12_sign.data.toList.drop 24 = dktX12_sign_1 := dk_seg dksX12_sign_0 24 rfl rfl
theorem dX12_sign_0 : decode cX12_sign 0 = .ok (.aload_n 0, 1) := dk_42 (dk_at dksX12_sign_0 0 rfl rfl)
theorem dX12_sign_1 : decode cX12_sign 1 = .ok (.getfield 130, 3) := dk_180 0 130 (dk_at dksX12_sign_0 1 rfl rfl)
theorem dX12_sign_4 : decode cX12_sign 4 = .ok (.aload_n 0, 1) := dk_42 (dk_at dksX12_sign_0 4 rfl rfl)
theorem dX12_sign_5 : decode cX12_sign 5 = .ok (.getfield 13, 3) := dk_180 0 13 (dk_at dksX12_sign_0 5 rfl rfl)
theorem dX12_sign_8 : decode cX12_sign 8 = .ok (.aload_n 0, 1) := dk_42 (dk_at dksX12_sign_0 8 rfl rfl)
theorem dX12_sign_9 : decode cX12_sign 9 = .ok (.getfield 133, 3) := dk_180 0 133 (dk_at dksX12_sign_0 9 rfl rfl)
theorem dX12_sign_12 : decode cX12_sign 12 = .ok (.iaload, 1) := dk_46 (dk_at dksX12_sign_0 12 rfl rfl)
theorem dX12_sign_13 : decode cX12_sign 13 = .ok (.if_icmp .ge 25, 3) := dk_162 0 25 (dk_at dksX12_sign_0 13 rfl rfl)
theorem dX12_sign_16 : decode cX12_sign 16 = .ok (.aload_n 0, 1) := dk_42 (dk_at dksX12_sign_0 16 rfl rfl)
theorem dX12_sign_17 : decode cX12_sign 17 = .ok (.getfield 16, 3) := dk_180 0 16 (dk_at dksX12_sign_0 17 rfl rfl)
theorem dX12_sign_20 : decode cX12_sign 20 = .ok (.sipush 160, 3) := dk_17 0 160 (dk_at dksX12_sign_0 20 rfl rfl)
theorem dX12_sign_23 : decode cX12_sign 23 = .ok (.aload_n 0, 1) := dk_42 (dk_at dksX12_sign_0 23 rfl rfl)
theorem dX12_sign_24 : decode cX12_sign 24 = .ok (.getfield 133, 3) := dk_180 0 133 (dk_at dksX12_sign_1 0 rfl rfl)
theorem dX12_sign_27 : decode cX12_sign 27 = .ok (.imul, 1) := dk_104 (dk_at dksX12_sign_1 3 rfl rfl)
theorem dX12_sign_28 : decode cX12_sign 28 = .ok (.aload_n 0, 1) := dk_42 (dk_at dksX12_sign_1 4 rfl rfl)
theorem dX12_sign_29 : decode cX12_sign 29 = .ok (.getfield 130, 3) := dk_180 0 130 (dk_at dksX12_sign_1 5 rfl rfl)
theorem dX12_sign_32 : decode cX12_sign 32 = .ok (.iadd, 1) := dk_96 (dk_at dksX12_sign_1 8 rfl rfl)
theorem dX12_sign_33 : decode cX12_sign 33 = .ok (.laload, 1) := dk_47 (dk_at dksX12_sign_1 9 rfl rfl)
theorem dX12_sign_34 : decode cX12_sign 34 = .ok (.l2i, 1) := dk_136 (dk_at dksX12_sign_1 10 rfl rfl)
theorem dX12_sign_35 : decode cX12_sign 35 = .ok (.goto 4, 3) := dk_167 0 4 (dk_at dksX12_sign_1 11 rfl rfl)
theorem dX12_sign_38 : decode cX12_sign 38 = .ok (.iconst (-1), 1) := dk_2 (dk_at dksX12_sign_1 14 rfl rfl)
theorem dX12_sign_39 : decode cX12_sign 39 = .ok (.ireturn, 1) := dk_172 (dk_at dksX12_sign_1 15 rfl rfl)
abbrev cX12_word : ByteArray := prog_22_method_35_code
def yX12_word : MethodName := ⟨RX12, "word", "(Ljava/lang/String;Z)Z"⟩
def dkwX12_word_1 : List UInt8 := [181, 0, 130, 21, 4, 153, 0, 11, 28, 153, 0, 7, 4, 167, 0, 4, 3, 172]
abbrev dktX12_word_1 : List UInt8 := dkwX12_word_1 ++ []
def dkwX12_word_0 : List UInt8 := [42, 180, 0, 130, 62, 42, 43, 182, 0, 153, 54, 4, 21, 4, 153, 0, 12, 28, 154, 0, 8, 42, 29]
abbrev dktX12_word_0 : List UInt8 := dkwX12_word_0 ++ dktX12_word_1
theorem dksX12_word_0 : cX12_word.data.toList.drop 0 = dktX12_word_0 := by decide +kernel
theorem dksX12_word_1 : cX12_word.data.toList.drop 23 = dktX12_word_1 := dk_seg dksX12_word_0 23 rfl rfl
theorem dX12_word_0 : decode cX12_word 0 = .ok (.aload_n 0, 1) := dk_42 (dk_at dksX12_word_0 0 rfl rfl)
theorem dX12_word_1 : decode cX12_word 1 = .ok (.getfield 130, 3) := dk_180 0 130 (dk_at dksX12_word_0 1 rfl rfl)
theorem dX12_word_4 : decode cX12_word 4 = .ok (.istore_n 3, 1) := dk_62 (dk_at dksX12_word_0 4 rfl rfl)
theorem dX12_word_5 : decode cX12_word 5 = .ok (.aload_n 0, 1) := dk_42 (dk_at dksX12_word_0 5 rfl rfl)
theorem dX12_word_6 : decode cX12_word 6 = .ok (.aload_n 1, 1) := dk_43 (dk_at dksX12_word_0 6 rfl rfl)
theorem dX12_word_7 : decode cX12_word 7 = .ok (.invokevirtual 153, 3) := dk_182 0 153 (dk_at dksX12_word_0 7 rfl rfl)
theorem dX12_word_10 : decode cX12_word 10 = .ok (.istore 4, 2) := dk_54 4 (dk_at dksX12_word_0 10 rfl rfl)
theorem dX12_word_12 : decode cX12_word 12 = .ok (.iload 4, 2) := dk_21 4 (dk_at dksX12_word_0 12 rfl rfl)
theorem dX12_word_14 : decode cX12_word 14 = .ok (.ifCond .eq 12, 3) := dk_153 0 12 (dk_at dksX12_word_0 14 rfl rfl)
theorem dX12_word_17 : decode cX12_word 17 = .ok (.iload_n 2, 1) := dk_28 (dk_at dksX12_word_0 17 rfl rfl)
theorem dX12_word_18 : decode cX12_word 18 = .ok (.ifCond .ne 8, 3) := dk_154 0 8 (dk_at dksX12_word_0 18 rfl rfl)
theorem dX12_word_21 : decode cX12_word 21 = .ok (.aload_n 0, 1) := dk_42 (dk_at dksX12_word_0 21 rfl rfl)
theorem dX12_word_22 : decode cX12_word 22 = .ok (.iload_n 3, 1) := dk_29 (dk_at dksX12_word_0 22 rfl rfl)
theorem dX12_word_23 : decode cX12_word 23 = .ok (.putfield 130, 3) := dk_181 0 130 (dk_at dksX12_word_1 0 rfl rfl)
theorem dX12_word_26 : decode cX12_word 26 = .ok (.iload 4, 2) := dk_21 4 (dk_at dksX12_word_1 3 rfl rfl)
theorem dX12_word_28 : decode cX12_word 28 = .ok (.ifCond .eq 11, 3) := dk_153 0 11 (dk_at dksX12_word_1 5 rfl rfl)
theorem dX12_word_31 : decode cX12_word 31 = .ok (.iload_n 2, 1) := dk_28 (dk_at dksX12_word_1 8 rfl rfl)
theorem dX12_word_32 : decode cX12_word 32 = .ok (.ifCond .eq 7, 3) := dk_153 0 7 (dk_at dksX12_word_1 9 rfl rfl)
theorem dX12_word_35 : decode cX12_word 35 = .ok (.iconst 1, 1) := dk_4 (dk_at dksX12_word_1 12 rfl rfl)
theorem dX12_word_36 : decode cX12_word 36 = .ok (.goto 4, 3) := dk_167 0 4 (dk_at dksX12_word_1 13 rfl rfl)
theorem dX12_word_39 : decode cX12_word 39 = .ok (.iconst 0, 1) := dk_3 (dk_at dksX12_word_1 16 rfl rfl)
theorem dX12_word_40 : decode cX12_word 40 = .ok (.ireturn, 1) := dk_172 (dk_at dksX12_word_1 17 rfl rfl)
abbrev cX12_word_2 : ByteArray := prog_22_method_34_code
def yX12_word_2 : MethodName := ⟨RX12, "word", "(Ljava/lang/String;)Z"⟩
def dkwX12_word_2_1 : List UInt8 := [132, 2, 1, 167, 255, 231, 4, 172]
abbrev dktX12_word_2_1 : List UInt8 := dkwX12_word_2_1 ++ []
def dkwX12_word_2_0 : List UInt8 := [3, 61, 28, 43, 182, 0, 140, 162, 0, 23, 42, 43, 28, 182, 0, 145, 182, 0, 149, 154, 0, 5, 3, 172]
abbrev dktX12_word_2_0 : List UInt8 := dkwX12_word_2_0 ++ dktX12_word_2_1
theorem dksX12_word_2_0 : cX12_word_2.data.toList.drop 0 = dktX12_word_2_0 := by decide +kernel
theorem dksX12_word_2_1 : cX12_word_2.data.toList.drop 24 = dktX12_word_2_1 := dk_seg dksX12_word_2_0 24 rfl rfl
theorem dX12_word_2_0 : decode cX12_word_2 0 = .ok (.iconst 0, 1) := dk_3 (dk_at dksX12_word_2_0 0 rfl rfl)
theorem dX12_word_2_1 : decode cX12_word_2 1 = .ok (.istore_n 2, 1) := dk_61 (dk_at dksX12_word_2_0 1 rfl rfl)
theorem dX12_word_2_2 : decode cX12_word_2 2 = .ok (.iload_n 2, 1) := dk_28 (dk_at dksX12_word_2_0 2 rfl rfl)
theorem dX12_word_2_3 : decode cX12_word_2 3 = .ok (.aload_n 1, 1) := dk_43 (dk_at dksX12_word_2_0 3 rfl rfl)
theorem dX12_word_2_4 : decode cX12_word_2 4 = .ok (.invokevirtual 140, 3) := dk_182 0 140 (dk_at dksX12_word_2_0 4 rfl rfl)
theorem dX12_word_2_7 : decode cX12_word_2 7 = .ok (.if_icmp .ge 23, 3) := dk_162 0 23 (dk_at dksX12_word_2_0 7 rfl rfl)
theorem dX12_word_2_10 : decode cX12_word_2 10 = .ok (.aload_n 0, 1) := dk_42 (dk_at dksX12_word_2_0 10 rfl rfl)
theorem dX12_word_2_11 : decode cX12_word_2 11 = .ok (.aload_n 1, 1) := dk_43 (dk_at dksX12_word_2_0 11 rfl rfl)
theorem dX12_word_2_12 : decode cX12_word_2 12 = .ok (.iload_n 2, 1) := dk_28 (dk_at dksX12_word_2_0 12 rfl rfl)
theorem dX12_word_2_13 : decode cX12_word_2 13 = .ok (.invokevirtual 145, 3) := dk_182 0 145 (dk_at dksX12_word_2_0 13 rfl rfl)
theorem dX12_word_2_16 : decode cX12_word_2 16 = .ok (.invokevirtual 149, 3) := dk_182 0 149 (dk_at dksX12_word_2_0 16 rfl rfl)
theorem dX12_word_2_19 : decode cX12_word_2 19 = .ok (.ifCond .ne 5, 3) := dk_154 0 5 (dk_at dksX12_word_2_0 19 rfl rfl)
theorem dX12_word_2_22 : decode cX12_word_2 22 = .ok (.iconst 0, 1) := dk_3 (dk_at dksX12_word_2_0 22 rfl rfl)
theorem dX12_word_2_23 : decode cX12_word_2 23 = .ok (.ireturn, 1) := dk_172 (dk_at dksX12_word_2_0 23 rfl rfl)
theorem dX12_word_2_24 : decode cX12_word_2 24 = .ok (.iinc 2 1, 3) := dk_132 2 1 (dk_at dksX12_word_2_1 0 rfl rfl)
theorem dX12_word_2_27 : decode cX12_word_2 27 = .ok (.goto (-25), 3) := dk_167 255 231 (dk_at dksX12_word_2_1 3 rfl rfl)
theorem dX12_word_2_30 : decode cX12_word_2 30 = .ok (.iconst 1, 1) := dk_4 (dk_at dksX12_word_2_1 6 rfl rfl)
theorem dX12_word_2_31 : decode cX12_word_2 31 = .ok (.ireturn, 1) := dk_172 (dk_at dksX12_word_2_1 7 rfl rfl)
abbrev cX12_is : ByteArray := prog_22_method_33_code
def yX12_is : MethodName := ⟨RX12, "is", "(C)Z"⟩
def dkwX12_is_0 : List UInt8 := [42, 182, 0, 136, 27, 159, 0, 5, 3, 172, 42, 89, 180, 0, 130, 4, 96, 181, 0, 130, 4, 172]
abbrev dktX12_is_0 : List UInt8 := dkwX12_is_0 ++ []
theorem dksX12_is_0 : cX12_is.data.toList.drop 0 = dktX12_is_0 := by decide +kernel
theorem dX12_is_0 : decode cX12_is 0 = .ok (.aload_n 0, 1) := dk_42 (dk_at dksX12_is_0 0 rfl rfl)
theorem dX12_is_1 : decode cX12_is 1 = .ok (.invokevirtual 136, 3) := dk_182 0 136 (dk_at dksX12_is_0 1 rfl rfl)
theorem dX12_is_4 : decode cX12_is 4 = .ok (.iload_n 1, 1) := dk_27 (dk_at dksX12_is_0 4 rfl rfl)
theorem dX12_is_5 : decode cX12_is 5 = .ok (.if_icmp .eq 5, 3) := dk_159 0 5 (dk_at dksX12_is_0 5 rfl rfl)
theorem dX12_is_8 : decode cX12_is 8 = .ok (.iconst 0, 1) := dk_3 (dk_at dksX12_is_0 8 rfl rfl)
theorem dX12_is_9 : decode cX12_is 9 = .ok (.ireturn, 1) := dk_172 (dk_at dksX12_is_0 9 rfl rfl)
theorem dX12_is_10 : decode cX12_is 10 = .ok (.aload_n 0, 1) := dk_42 (dk_at dksX12_is_0 10 rfl rfl)
theorem dX12_is_11 : decode cX12_is 11 = .ok (.dup, 1) := dk_89 (dk_at dksX12_is_0 11 rfl rfl)
theorem dX12_is_12 : decode cX12_is 12 = .ok (.getfield 130, 3) := dk_180 0 130 (dk_at dksX12_is_0 12 rfl rfl)
theorem dX12_is_15 : decode cX12_is 15 = .ok (.iconst 1, 1) := dk_4 (dk_at dksX12_is_0 15 rfl rfl)
theorem dX12_is_16 : decode cX12_is 16 = .ok (.iadd, 1) := dk_96 (dk_at dksX12_is_0 16 rfl rfl)
theorem dX12_is_17 : decode cX12_is 17 = .ok (.putfield 130, 3) := dk_181 0 130 (dk_at dksX12_is_0 17 rfl rfl)
theorem dX12_is_20 : decode cX12_is 20 = .ok (.iconst 1, 1) := dk_4 (dk_at dksX12_is_0 20 rfl rfl)
theorem dX12_is_21 : decode cX12_is 21 = .ok (.ireturn, 1) := dk_172 (dk_at dksX12_is_0 21 rfl rfl)
abbrev cX12_number : ByteArray := prog_22_method_36_code
def yX12_number : MethodName := ⟨RX12, "number", "(III)Z"⟩
def dkwX12_number_5 : List UInt8 := [21, 6, 172]
abbrev dktX12_number_5 : List UInt8 := dkwX12_number_5 ++ []
def dkwX12_number_4 : List UInt8 := [21, 5, 79, 21, 5, 28, 29, 184, 0, 85, 54, 6, 21, 6, 154, 0, 9, 42, 21, 4, 181, 0, 130]
abbrev dktX12_number_4 : List UInt8 := dkwX12_number_4 ++ dktX12_number_5
def dkwX12_number_3 : List UInt8 := [96, 181, 0, 130, 167, 255, 202, 42, 180, 0, 130, 21, 4, 160, 0, 5, 3, 172, 42, 180, 0, 41, 27]
abbrev dktX12_number_3 : List UInt8 := dkwX12_number_3 ++ dktX12_number_4
def dkwX12_number_2 : List UInt8 := [163, 0, 31, 16, 10, 21, 5, 104, 42, 182, 0, 136, 96, 16, 48, 100, 54, 5, 42, 89, 180, 0, 130, 4]
abbrev dktX12_number_2 : List UInt8 := dkwX12_number_2 ++ dktX12_number_3
def dkwX12_number_1 : List UInt8 := [21, 4, 100, 5, 162, 0, 49, 42, 182, 0, 136, 16, 48, 161, 0, 40, 42, 182, 0, 136, 16, 57]
abbrev dktX12_number_1 : List UInt8 := dkwX12_number_1 ++ dktX12_number_2
def dkwX12_number_0 : List UInt8 := [42, 16, 32, 182, 0, 149, 154, 0, 5, 3, 172, 42, 180, 0, 130, 54, 4, 3, 54, 5, 42, 180, 0, 130]
abbrev dktX12_number_0 : List UInt8 := dkwX12_number_0 ++ dktX12_number_1
theorem dksX12_number_0 : cX12_number.data.toList.drop 0 = dktX12_number_0 := by decide +kernel
theorem dksX12_number_1 : cX12_number.data.toList.drop 24 = dktX12_number_1 := dk_seg dksX12_number_0 24 rfl rfl
theorem dksX12_number_2 : cX12_number.data.toList.drop 46 = dktX12_number_2 := dk_seg dksX12_number_1 22 rfl rfl
theorem dksX12_number_3 : cX12_number.data.toList.drop 70 = dktX12_number_3 := dk_seg dksX12_number_2 24 rfl rfl
theorem dksX12_number_4 : cX12_number.data.toList.drop 93 = dktX12_number_4 := dk_seg dksX12_number_3 23 rfl rfl
theorem dksX12_number_5 : cX12_number.data.toList.drop 116 = dktX12_number_5 := dk_seg dksX12_number_4 23 rfl rfl
theorem dX12_number_0 : decode cX12_number 0 = .ok (.aload_n 0, 1) := dk_42 (dk_at dksX12_number_0 0 rfl rfl)
theorem dX12_number_1 : decode cX12_number 1 = .ok (.bipush 32, 2) := dk_16 32 (dk_at dksX12_number_0 1 rfl rfl)
theorem dX12_number_3 : decode cX12_number 3 = .ok (.invokevirtual 149, 3) := dk_182 0 149 (dk_at dksX12_number_0 3 rfl rfl)
theorem dX12_number_6 : decode cX12_number 6 = .ok (.ifCond .ne 5, 3) := dk_154 0 5 (dk_at dksX12_number_0 6 rfl rfl)
theorem dX12_number_9 : decode cX12_number 9 = .ok (.iconst 0, 1) := dk_3 (dk_at dksX12_number_0 9 rfl rfl)
theorem dX12_number_10 : decode cX12_number 10 = .ok (.ireturn, 1) := dk_172 (dk_at dksX12_number_0 10 rfl rfl)
theorem dX12_number_11 : decode cX12_number 11 = .ok (.aload_n 0, 1) := dk_42 (dk_at dksX12_number_0 11 rfl rfl)
theorem dX12_number_12 : decode cX12_number 12 = .ok (.getfield 130, 3) := dk_180 0 130 (dk_at dksX12_number_0 12 rfl rfl)
theorem dX12_number_15 : decode cX12_number 15 = .ok (.istore 4, 2) := dk_54 4 (dk_at dksX12_number_0 15 rfl rfl)
theorem dX12_number_17 : decode cX12_number 17 = .ok (.iconst 0, 1) := dk_3 (dk_at dksX12_number_0 17 rfl rfl)
theorem dX12_number_18 : decode cX12_number 18 = .ok (.istore 5, 2) := dk_54 5 (dk_at dksX12_number_0 18 rfl rfl)
theorem dX12_number_20 : decode cX12_number 20 = .ok (.aload_n 0, 1) := dk_42 (dk_at dksX12_number_0 20 rfl rfl)
theorem dX12_number_21 : decode cX12_number 21 = .ok (.getfield 130, 3) := dk_180 0 130 (dk_at dksX12_number_0 21 rfl rfl)
theorem dX12_number_24 : decode cX12_number 24 = .ok (.iload 4, 2) := dk_21 4 (dk_at dksX12_number_1 0 rfl rfl)
theorem dX12_number_26 : decode cX12_number 26 = .ok (.isub, 1) := dk_100 (dk_at dksX12_number_1 2 rfl rfl)
theorem dX12_number_27 : decode cX12_number 27 = .ok (.iconst 2, 1) := dk_5 (dk_at dksX12_number_1 3 rfl rfl)
theorem dX12_number_28 : decode cX12_number 28 = .ok (.if_icmp .ge 49, 3) := dk_162 0 49 (dk_at dksX12_number_1 4 rfl rfl)
theorem dX12_number_31 : decode cX12_number 31 = .ok (.aload_n 0, 1) := dk_42 (dk_at dksX12_number_1 7 rfl rfl)
theorem dX12_number_32 : decode cX12_number 32 = .ok (.invokevirtual 136, 3) := dk_182 0 136 (dk_at dksX12_number_1 8 rfl rfl)
theorem dX12_number_35 : decode cX12_number 35 = .ok (.bipush 48, 2) := dk_16 48 (dk_at dksX12_number_1 11 rfl rfl)
theorem dX12_number_37 : decode cX12_number 37 = .ok (.if_icmp .lt 40, 3) := dk_161 0 40 (dk_at dksX12_number_1 13 rfl rfl)
theorem dX12_number_40 : decode cX12_number 40 = .ok (.aload_n 0, 1) := dk_42 (dk_at dksX12_number_1 16 rfl rfl)
theorem dX12_number_41 : decode cX12_number 41 = .ok (.invokevirtual 136, 3) := dk_182 0 136 (dk_at dksX12_number_1 17 rfl rfl)
theorem dX12_number_44 : decode cX12_number 44 = .ok (.bipush 57, 2) := dk_16 57 (dk_at dksX12_number_1 20 rfl rfl)
theorem dX12_number_46 : decode cX12_number 46 = .ok (.if_icmp .gt 31, 3) := dk_163 0 31 (dk_at dksX12_number_2 0 rfl rfl)
theorem dX12_number_49 : decode cX12_number 49 = .ok (.bipush 10, 2) := dk_16 10 (dk_at dksX12_number_2 3 rfl rfl)
theorem dX12_number_51 : decode cX12_number 51 = .ok (.iload 5, 2) := dk_21 5 (dk_at dksX12_number_2 5 rfl rfl)
theorem dX12_number_53 : decode cX12_number 53 = .ok (.imul, 1) := dk_104 (dk_at dksX12_number_2 7 rfl rfl)
theorem dX12_number_54 : decode cX12_number 54 = .ok (.aload_n 0, 1) := dk_42 (dk_at dksX12_number_2 8 rfl rfl)
theorem dX12_number_55 : decode cX12_number 55 = .ok (.invokevirtual 136, 3) := dk_182 0 136 (dk_at dksX12_number_2 9 rfl rfl)
theorem dX12_number_58 : decode cX12_number 58 = .ok (.iadd, 1) := dk_96 (dk_at dksX12_number_2 12 rfl rfl)
theorem dX12_number_59 : decode cX12_number 59 = .ok (.bipush 48, 2) := dk_16 48 (dk_at dksX12_number_2 13 rfl rfl)
theorem dX12_number_61 : decode cX12_number 61 = .ok (.isub, 1) := dk_100 (dk_at dksX12_number_2 15 rfl rfl)
theorem dX12_number_62 : decode cX12_number 62 = .ok (.istore 5, 2) := dk_54 5 (dk_at dksX12_number_2 16 rfl rfl)
theorem dX12_number_64 : decode cX12_number 64 = .ok (.aload_n 0, 1) := dk_42 (dk_at dksX12_number_2 18 rfl rfl)
theorem dX12_number_65 : decode cX12_number 65 = .ok (.dup, 1) := dk_89 (dk_at dksX12_number_2 19 rfl rfl)
theorem dX12_number_66 : decode cX12_number 66 = .ok (.getfield 130, 3) := dk_180 0 130 (dk_at dksX12_number_2 20 rfl rfl)
theorem dX12_number_69 : decode cX12_number 69 = .ok (.iconst 1, 1) := dk_4 (dk_at dksX12_number_2 23 rfl rfl)
theorem dX12_number_70 : decode cX12_number 70 = .ok (.iadd, 1) := dk_96 (dk_at dksX12_number_3 0 rfl rfl)
theorem dX12_number_71 : decode cX12_number 71 = .ok (.putfield 130, 3) := dk_181 0 130 (dk_at dksX12_number_3 1 rfl rfl)
theorem dX12_number_74 : decode cX12_number 74 = .ok (.goto (-54), 3) := dk_167 255 202 (dk_at dksX12_number_3 4 rfl rfl)
theorem dX12_number_77 : decode cX12_number 77 = .ok (.aload_n 0, 1) := dk_42 (dk_at dksX12_number_3 7 rfl rfl)
theorem dX12_number_78 : decode cX12_number 78 = .ok (.getfield 130, 3) := dk_180 0 130 (dk_at dksX12_number_3 8 rfl rfl)
theorem dX12_number_81 : decode cX12_number 81 = .ok (.iload 4, 2) := dk_21 4 (dk_at dksX12_number_3 11 rfl rfl)
theorem dX12_number_83 : decode cX12_number 83 = .ok (.if_icmp .ne 5, 3) := dk_160 0 5 (dk_at dksX12_number_3 13 rfl rfl)
theorem dX12_number_86 : decode cX12_number 86 = .ok (.iconst 0, 1) := dk_3 (dk_at dksX12_number_3 16 rfl rfl)
theorem dX12_number_87 : decode cX12_number 87 = .ok (.ireturn, 1) := dk_172 (dk_at dksX12_number_3 17 rfl rfl)
theorem dX12_number_88 : decode cX12_number 88 = .ok (.aload_n 0, 1) := dk_42 (dk_at dksX12_number_3 18 rfl rfl)
theorem dX12_number_89 : decode cX12_number 89 = .ok (.getfield 41, 3) := dk_180 0 41 (dk_at dksX12_number_3 19 rfl rfl)
theorem dX12_number_92 : decode cX12_number 92 = .ok (.iload_n 1, 1) := dk_27 (dk_at dksX12_number_3 22 rfl rfl)
theorem dX12_number_93 : decode cX12_number 93 = .ok (.iload 5, 2) := dk_21 5 (dk_at dksX12_number_4 0 rfl rfl)
theorem dX12_number_95 : decode cX12_number 95 = .ok (.iastore, 1) := dk_79 (dk_at dksX12_number_4 2 rfl rfl)
theorem dX12_number_96 : decode cX12_number 96 = .ok (.iload 5, 2) := dk_21 5 (dk_at dksX12_number_4 3 rfl rfl)
theorem dX12_number_98 : decode cX12_number 98 = .ok (.iload_n 2, 1) := dk_28 (dk_at dksX12_number_4 5 rfl rfl)
theorem dX12_number_99 : decode cX12_number 99 = .ok (.iload_n 3, 1) := dk_29 (dk_at dksX12_number_4 6 rfl rfl)
theorem dX12_number_100 : decode cX12_number 100 = .ok (.invokestatic 85, 3) := dk_184 0 85 (dk_at dksX12_number_4 7 rfl rfl)
theorem dX12_number_103 : decode cX12_number 103 = .ok (.istore 6, 2) := dk_54 6 (dk_at dksX12_number_4 10 rfl rfl)
theorem dX12_number_105 : decode cX12_number 105 = .ok (.iload 6, 2) := dk_21 6 (dk_at dksX12_number_4 12 rfl rfl)
theorem dX12_number_107 : decode cX12_number 107 = .ok (.ifCond .ne 9, 3) := dk_154 0 9 (dk_at dksX12_number_4 14 rfl rfl)
theorem dX12_number_110 : decode cX12_number 110 = .ok (.aload_n 0, 1) := dk_42 (dk_at dksX12_number_4 17 rfl rfl)
theorem dX12_number_111 : decode cX12_number 111 = .ok (.iload 4, 2) := dk_21 4 (dk_at dksX12_number_4 18 rfl rfl)
theorem dX12_number_113 : decode cX12_number 113 = .ok (.putfield 130, 3) := dk_181 0 130 (dk_at dksX12_number_4 20 rfl rfl)
theorem dX12_number_116 : decode cX12_number 116 = .ok (.iload 6, 2) := dk_21 6 (dk_at dksX12_number_5 0 rfl rfl)
theorem dX12_number_118 : decode cX12_number 118 = .ok (.ireturn, 1) := dk_172 (dk_at dksX12_number_5 2 rfl rfl)
abbrev cX12_stands : ByteArray := prog_22_method_37_code
def yX12_stands : MethodName := ⟨RX12, "stands", "(IZ)Z"⟩
def dkwX12_stands_0 : List UInt8 := [28, 154, 0, 8, 42, 27, 181, 0, 130, 28, 172]
abbrev dktX12_stands_0 : List UInt8 := dkwX12_stands_0 ++ []
theorem dksX12_stands_0 : cX12_stands.data.toList.drop 0 = dktX12_stands_0 := by decide +kernel
theorem dX12_stands_0 : decode cX12_stands 0 = .ok (.iload_n 2, 1) := dk_28 (dk_at dksX12_stands_0 0 rfl rfl)
theorem dX12_stands_1 : decode cX12_stands 1 = .ok (.ifCond .ne 8, 3) := dk_154 0 8 (dk_at dksX12_stands_0 1 rfl rfl)
theorem dX12_stands_4 : decode cX12_stands 4 = .ok (.aload_n 0, 1) := dk_42 (dk_at dksX12_stands_0 4 rfl rfl)
theorem dX12_stands_5 : decode cX12_stands 5 = .ok (.iload_n 1, 1) := dk_27 (dk_at dksX12_stands_0 5 rfl rfl)
theorem dX12_stands_6 : decode cX12_stands 6 = .ok (.putfield 130, 3) := dk_181 0 130 (dk_at dksX12_stands_0 6 rfl rfl)
theorem dX12_stands_9 : decode cX12_stands 9 = .ok (.iload_n 2, 1) := dk_28 (dk_at dksX12_stands_0 9 rfl rfl)
theorem dX12_stands_10 : decode cX12_stands 10 = .ok (.ireturn, 1) := dk_172 (dk_at dksX12_stands_0 10 rfl rfl)
abbrev cX12_again : ByteArray := prog_22_method_92_code
def yX12_again : MethodName := ⟨RX12, "again", "([I)V"⟩
def dkwX12_again_6 : List UInt8 := [16, 82, 46, 181, 0, 69, 177]
abbrev dktX12_again_6 : List UInt8 := dkwX12_again_6 ++ []
def dkwX12_again_5 : List UInt8 := [16, 79, 46, 181, 0, 89, 42, 43, 16, 80, 46, 181, 0, 65, 42, 43, 16, 81, 46, 181, 1, 24, 42, 43]
abbrev dktX12_again_5 : List UInt8 := dkwX12_again_5 ++ dktX12_again_6
def dkwX12_again_4 : List UInt8 := [28, 43, 16, 72, 28, 96, 46, 79, 132, 2, 1, 167, 255, 235, 42, 43, 16, 78, 46, 181, 0, 82, 42, 43]
abbrev dktX12_again_4 : List UInt8 := dkwX12_again_4 ++ dktX12_again_5
def dkwX12_again_3 : List UInt8 := [16, 60, 28, 96, 46, 79, 132, 2, 1, 167, 255, 178, 3, 61, 28, 16, 6, 162, 0, 21, 42, 180, 0, 38]
abbrev dktX12_again_3 : List UInt8 := dkwX12_again_3 ++ dktX12_again_4
def dkwX12_again_2 : List UInt8 := [16, 36, 28, 96, 46, 79, 42, 180, 0, 32, 28, 43, 16, 48, 28, 96, 46, 79, 42, 180, 0, 35, 28, 43]
abbrev dktX12_again_2 : List UInt8 := dkwX12_again_2 ++ dktX12_again_3
def dkwX12_again_1 : List UInt8 := [16, 12, 28, 96, 46, 79, 42, 180, 0, 26, 28, 43, 16, 24, 28, 96, 46, 79, 42, 180, 0, 29, 28, 43]
abbrev dktX12_again_1 : List UInt8 := dkwX12_again_1 ++ dktX12_again_2
def dkwX12_again_0 : List UInt8 := [3, 61, 28, 16, 12, 162, 0, 78, 42, 180, 0, 20, 28, 43, 28, 46, 79, 42, 180, 0, 23, 28, 43]
abbrev dktX12_again_0 : List UInt8 := dkwX12_again_0 ++ dktX12_again_1
theorem dksX12_again_0 : cX12_again.data.toList.drop 0 = dktX12_again_0 := by decide +kernel
theorem dksX12_again_1 : cX12_again.data.toList.drop 23 = dktX12_again_1 := dk_seg dksX12_again_0 23 rfl rfl
theorem dksX12_again_2 : cX12_again.data.toList.drop 47 = dktX12_again_2 := dk_seg dksX12_again_1 24 rfl rfl
theorem dksX12_again_3 : cX12_again.data.toList.drop 71 = dktX12_again_3 := dk_seg dksX12_again_2 24 rfl rfl
theorem dksX12_again_4 : cX12_again.data.toList.drop 95 = dktX12_again_4 := dk_seg dksX12_again_3 24 rfl rfl
theorem dksX12_again_5 : cX12_again.data.toList.drop 119 = dktX12_again_5 := dk_seg dksX12_again_4 24 rfl rfl
theorem dksX12_again_6 : cX12_again.data.toList.drop 143 = dktX12_again_6 := dk_seg dksX12_again_5 24 rfl rfl
theorem dX12_again_0 : decode cX12_again 0 = .ok (.iconst 0, 1) := dk_3 (dk_at dksX12_again_0 0 rfl rfl)
theorem dX12_again_1 : decode cX12_again 1 = .ok (.istore_n 2, 1) := dk_61 (dk_at dksX12_again_0 1 rfl rfl)
theorem dX12_again_2 : decode cX12_again 2 = .ok (.iload_n 2, 1) := dk_28 (dk_at dksX12_again_0 2 rfl rfl)
theorem dX12_again_3 : decode cX12_again 3 = .ok (.bipush 12, 2) := dk_16 12 (dk_at dksX12_again_0 3 rfl rfl)
theorem dX12_again_5 : decode cX12_again 5 = .ok (.if_icmp .ge 78, 3) := dk_162 0 78 (dk_at dksX12_again_0 5 rfl rfl)
theorem dX12_again_8 : decode cX12_again 8 = .ok (.aload_n 0, 1) := dk_42 (dk_at dksX12_again_0 8 rfl rfl)
theorem dX12_again_9 : decode cX12_again 9 = .ok (.getfield 20, 3) := dk_180 0 20 (dk_at dksX12_again_0 9 rfl rfl)
theorem dX12_again_12 : decode cX12_again 12 = .ok (.iload_n 2, 1) := dk_28 (dk_at dksX12_again_0 12 rfl rfl)
theorem dX12_again_13 : decode cX12_again 13 = .ok (.aload_n 1, 1) := dk_43 (dk_at dksX12_again_0 13 rfl rfl)
theorem dX12_again_14 : decode cX12_again 14 = .ok (.iload_n 2, 1) := dk_28 (dk_at dksX12_again_0 14 rfl rfl)
theorem dX12_again_15 : decode cX12_again 15 = .ok (.iaload, 1) := dk_46 (dk_at dksX12_again_0 15 rfl rfl)
theorem dX12_again_16 : decode cX12_again 16 = .ok (.iastore, 1) := dk_79 (dk_at dksX12_again_0 16 rfl rfl)
theorem dX12_again_17 : decode cX12_again 17 = .ok (.aload_n 0, 1) := dk_42 (dk_at dksX12_again_0 17 rfl rfl)
theorem dX12_again_18 : decode cX12_again 18 = .ok (.getfield 23, 3) := dk_180 0 23 (dk_at dksX12_again_0 18 rfl rfl)
theorem dX12_again_21 : decode cX12_again 21 = .ok (.iload_n 2, 1) := dk_28 (dk_at dksX12_again_0 21 rfl rfl)
theorem dX12_again_22 : decode cX12_again 22 = .ok (.aload_n 1, 1) := dk_43 (dk_at dksX12_again_0 22 rfl rfl)
theorem dX12_again_23 : decode cX12_again 23 = .ok (.bipush 12, 2) := dk_16 12 (dk_at dksX12_again_1 0 rfl rfl)
theorem dX12_again_25 : decode cX12_again 25 = .ok (.iload_n 2, 1) := dk_28 (dk_at dksX12_again_1 2 rfl rfl)
theorem dX12_again_26 : decode cX12_again 26 = .ok (.iadd, 1) := dk_96 (dk_at dksX12_again_1 3 rfl rfl)
theorem dX12_again_27 : decode cX12_again 27 = .ok (.iaload, 1) := dk_46 (dk_at dksX12_again_1 4 rfl rfl)
theorem dX12_again_28 : decode cX12_again 28 = .ok (.iastore, 1) := dk_79 (dk_at dksX12_again_1 5 rfl rfl)
theorem dX12_again_29 : decode cX12_again 29 = .ok (.aload_n 0, 1) := dk_42 (dk_at dksX12_again_1 6 rfl rfl)
theorem dX12_again_30 : decode cX12_again 30 = .ok (.getfield 26, 3) := dk_180 0 26 (dk_at dksX12_again_1 7 rfl rfl)
theorem dX12_again_33 : decode cX12_again 33 = .ok (.iload_n 2, 1) := dk_28 (dk_at dksX12_again_1 10 rfl rfl)
theorem dX12_again_34 : decode cX12_again 34 = .ok (.aload_n 1, 1) := dk_43 (dk_at dksX12_again_1 11 rfl rfl)
theorem dX12_again_35 : decode cX12_again 35 = .ok (.bipush 24, 2) := dk_16 24 (dk_at dksX12_again_1 12 rfl rfl)
theorem dX12_again_37 : decode cX12_again 37 = .ok (.iload_n 2, 1) := dk_28 (dk_at dksX12_again_1 14 rfl rfl)
theorem dX12_again_38 : decode cX12_again 38 = .ok (.iadd, 1) := dk_96 (dk_at dksX12_again_1 15 rfl rfl)
theorem dX12_again_39 : decode cX12_again 39 = .ok (.iaload, 1) := dk_46 (dk_at dksX12_again_1 16 rfl rfl)
theorem dX12_again_40 : decode cX12_again 40 = .ok (.iastore, 1) := dk_79 (dk_at dksX12_again_1 17 rfl rfl)
theorem dX12_again_41 : decode cX12_again 41 = .ok (.aload_n 0, 1) := dk_42 (dk_at dksX12_again_1 18 rfl rfl)
theorem dX12_again_42 : decode cX12_again 42 = .ok (.getfield 29, 3) := dk_180 0 29 (dk_at dksX12_again_1 19 rfl rfl)
theorem dX12_again_45 : decode cX12_again 45 = .ok (.iload_n 2, 1) := dk_28 (dk_at dksX12_again_1 22 rfl rfl)
theorem dX12_again_46 : decode cX12_again 46 = .ok (.aload_n 1, 1) := dk_43 (dk_at dksX12_again_1 23 rfl rfl)
theorem dX12_again_47 : decode cX12_again 47 = .ok (.bipush 36, 2) := dk_16 36 (dk_at dksX12_again_2 0 rfl rfl)
theorem dX12_again_49 : decode cX12_again 49 = .ok (.iload_n 2, 1) := dk_28 (dk_at dksX12_again_2 2 rfl rfl)
theorem dX12_again_50 : decode cX12_again 50 = .ok (.iadd, 1) := dk_96 (dk_at dksX12_again_2 3 rfl rfl)
theorem dX12_again_51 : decode cX12_again 51 = .ok (.iaload, 1) := dk_46 (dk_at dksX12_again_2 4 rfl rfl)
theorem dX12_again_52 : decode cX12_again 52 = .ok (.iastore, 1) := dk_79 (dk_at dksX12_again_2 5 rfl rfl)
theorem dX12_again_53 : decode cX12_again 53 = .ok (.aload_n 0, 1) := dk_42 (dk_at dksX12_again_2 6 rfl rfl)
theorem dX12_again_54 : decode cX12_again 54 = .ok (.getfield 32, 3) := dk_180 0 32 (dk_at dksX12_again_2 7 rfl rfl)
theorem dX12_again_57 : decode cX12_again 57 = .ok (.iload_n 2, 1) := dk_28 (dk_at dksX12_again_2 10 rfl rfl)
theorem dX12_again_58 : decode cX12_again 58 = .ok (.aload_n 1, 1) := dk_43 (dk_at dksX12_again_2 11 rfl rfl)
theorem dX12_again_59 : decode cX12_again 59 = .ok (.bipush 48, 2) := dk_16 48 (dk_at dksX12_again_2 12 rfl rfl)
theorem dX12_again_61 : decode cX12_again 61 = .ok (.iload_n 2, 1) := dk_28 (dk_at dksX12_again_2 14 rfl rfl)
theorem dX12_again_62 : decode cX12_again 62 = .ok (.iadd, 1) := dk_96 (dk_at dksX12_again_2 15 rfl rfl)
theorem dX12_again_63 : decode cX12_again 63 = .ok (.iaload, 1) := dk_46 (dk_at dksX12_again_2 16 rfl rfl)
theorem dX12_again_64 : decode cX12_again 64 = .ok (.iastore, 1) := dk_79 (dk_at dksX12_again_2 17 rfl rfl)
theorem dX12_again_65 : decode cX12_again 65 = .ok (.aload_n 0, 1) := dk_42 (dk_at dksX12_again_2 18 rfl rfl)
theorem dX12_again_66 : decode cX12_again 66 = .ok (.getfield 35, 3) := dk_180 0 35 (dk_at dksX12_again_2 19 rfl rfl)
theorem dX12_again_69 : decode cX12_again 69 = .ok (.iload_n 2, 1) := dk_28 (dk_at dksX12_again_2 22 rfl rfl)
theorem dX12_again_70 : decode cX12_again 70 = .ok (.aload_n 1, 1) := dk_43 (dk_at dksX12_again_2 23 rfl rfl)
theorem dX12_again_71 : decode cX12_again 71 = .ok (.bipush 60, 2) := dk_16 60 (dk_at dksX12_again_3 0 rfl rfl)
theorem dX12_again_73 : decode cX12_again 73 = .ok (.iload_n 2, 1) := dk_28 (dk_at dksX12_again_3 2 rfl rfl)
theorem dX12_again_74 : decode cX12_again 74 = .ok (.iadd, 1) := dk_96 (dk_at dksX12_again_3 3 rfl rfl)
theorem dX12_again_75 : decode cX12_again 75 = .ok (.iaload, 1) := dk_46 (dk_at dksX12_again_3 4 rfl rfl)
theorem dX12_again_76 : decode cX12_again 76 = .ok (.iastore, 1) := dk_79 (dk_at dksX12_again_3 5 rfl rfl)
theorem dX12_again_77 : decode cX12_again 77 = .ok (.iinc 2 1, 3) := dk_132 2 1 (dk_at dksX12_again_3 6 rfl rfl)
theorem dX12_again_80 : decode cX12_again 80 = .ok (.goto (-78), 3) := dk_167 255 178 (dk_at dksX12_again_3 9 rfl rfl)
theorem dX12_again_83 : decode cX12_again 83 = .ok (.iconst 0, 1) := dk_3 (dk_at dksX12_again_3 12 rfl rfl)
theorem dX12_again_84 : decode cX12_again 84 = .ok (.istore_n 2, 1) := dk_61 (dk_at dksX12_again_3 13 rfl rfl)
theorem dX12_again_85 : decode cX12_again 85 = .ok (.iload_n 2, 1) := dk_28 (dk_at dksX12_again_3 14 rfl rfl)
theorem dX12_again_86 : decode cX12_again 86 = .ok (.bipush 6, 2) := dk_16 6 (dk_at dksX12_again_3 15 rfl rfl)
theorem dX12_again_88 : decode cX12_again 88 = .ok (.if_icmp .ge 21, 3) := dk_162 0 21 (dk_at dksX12_again_3 17 rfl rfl)
theorem dX12_again_91 : decode cX12_again 91 = .ok (.aload_n 0, 1) := dk_42 (dk_at dksX12_again_3 20 rfl rfl)
theorem dX12_again_92 : decode cX12_again 92 = .ok (.getfield 38, 3) := dk_180 0 38 (dk_at dksX12_again_3 21 rfl rfl)
theorem dX12_again_95 : decode cX12_again 95 = .ok (.iload_n 2, 1) := dk_28 (dk_at dksX12_again_4 0 rfl rfl)
theorem dX12_again_96 : decode cX12_again 96 = .ok (.aload_n 1, 1) := dk_43 (dk_at dksX12_again_4 1 rfl rfl)
theorem dX12_again_97 : decode cX12_again 97 = .ok (.bipush 72, 2) := dk_16 72 (dk_at dksX12_again_4 2 rfl rfl)
theorem dX12_again_99 : decode cX12_again 99 = .ok (.iload_n 2, 1) := dk_28 (dk_at dksX12_again_4 4 rfl rfl)
theorem dX12_again_100 : decode cX12_again 100 = .ok (.iadd, 1) := dk_96 (dk_at dksX12_again_4 5 rfl rfl)
theorem dX12_again_101 : decode cX12_again 101 = .ok (.iaload, 1) := dk_46 (dk_at dksX12_again_4 6 rfl rfl)
theorem dX12_again_102 : decode cX12_again 102 = .ok (.iastore, 1) := dk_79 (dk_at dksX12_again_4 7 rfl rfl)
theorem dX12_again_103 : decode cX12_again 103 = .ok (.iinc 2 1, 3) := dk_132 2 1 (dk_at dksX12_again_4 8 rfl rfl)
theorem dX12_again_106 : decode cX12_again 106 = .ok (.goto (-21), 3) := dk_167 255 235 (dk_at dksX12_again_4 11 rfl rfl)
theorem dX12_again_109 : decode cX12_again 109 = .ok (.aload_n 0, 1) := dk_42 (dk_at dksX12_again_4 14 rfl rfl)
theorem dX12_again_110 : decode cX12_again 110 = .ok (.aload_n 1, 1) := dk_43 (dk_at dksX12_again_4 15 rfl rfl)
theorem dX12_again_111 : decode cX12_again 111 = .ok (.bipush 78, 2) := dk_16 78 (dk_at dksX12_again_4 16 rfl rfl)
theorem dX12_again_113 : decode cX12_again 113 = .ok (.iaload, 1) := dk_46 (dk_at dksX12_again_4 18 rfl rfl)
theorem dX12_again_114 : decode cX12_again 114 = .ok (.putfield 82, 3) := dk_181 0 82 (dk_at dksX12_again_4 19 rfl rfl)
theorem dX12_again_117 : decode cX12_again 117 = .ok (.aload_n 0, 1) := dk_42 (dk_at dksX12_again_4 22 rfl rfl)
theorem dX12_again_118 : decode cX12_again 118 = .ok (.aload_n 1, 1) := dk_43 (dk_at dksX12_again_4 23 rfl rfl)
theorem dX12_again_119 : decode cX12_again 119 = .ok (.bipush 79, 2) := dk_16 79 (dk_at dksX12_again_5 0 rfl rfl)
theorem dX12_again_121 : decode cX12_again 121 = .ok (.iaload, 1) := dk_46 (dk_at dksX12_again_5 2 rfl rfl)
theorem dX12_again_122 : decode cX12_again 122 = .ok (.putfield 89, 3) := dk_181 0 89 (dk_at dksX12_again_5 3 rfl rfl)
theorem dX12_again_125 : decode cX12_again 125 = .ok (.aload_n 0, 1) := dk_42 (dk_at dksX12_again_5 6 rfl rfl)
theorem dX12_again_126 : decode cX12_again 126 = .ok (.aload_n 1, 1) := dk_43 (dk_at dksX12_again_5 7 rfl rfl)
theorem dX12_again_127 : decode cX12_again 127 = .ok (.bipush 80, 2) := dk_16 80 (dk_at dksX12_again_5 8 rfl rfl)
theorem dX12_again_129 : decode cX12_again 129 = .ok (.iaload, 1) := dk_46 (dk_at dksX12_again_5 10 rfl rfl)
theorem dX12_again_130 : decode cX12_again 130 = .ok (.putfield 65, 3) := dk_181 0 65 (dk_at dksX12_again_5 11 rfl rfl)
theorem dX12_again_133 : decode cX12_again 133 = .ok (.aload_n 0, 1) := dk_42 (dk_at dksX12_again_5 14 rfl rfl)
theorem dX12_again_134 : decode cX12_again 134 = .ok (.aload_n 1, 1) := dk_43 (dk_at dksX12_again_5 15 rfl rfl)
theorem dX12_again_135 : decode cX12_again 135 = .ok (.bipush 81, 2) := dk_16 81 (dk_at dksX12_again_5 16 rfl rfl)
theorem dX12_again_137 : decode cX12_again 137 = .ok (.iaload, 1) := dk_46 (dk_at dksX12_again_5 18 rfl rfl)
theorem dX12_again_138 : decode cX12_again 138 = .ok (.putfield 280, 3) := dk_181 1 24 (dk_at dksX12_again_5 19 rfl rfl)
theorem dX12_again_141 : decode cX12_again 141 = .ok (.aload_n 0, 1) := dk_42 (dk_at dksX12_again_5 22 rfl rfl)
theorem dX12_again_142 : decode cX12_again 142 = .ok (.aload_n 1, 1) := dk_43 (dk_at dksX12_again_5 23 rfl rfl)
theorem dX12_again_143 : decode cX12_again 143 = .ok (.bipush 82, 2) := dk_16 82 (dk_at dksX12_again_6 0 rfl rfl)
theorem dX12_again_145 : decode cX12_again 145 = .ok (.iaload, 1) := dk_46 (dk_at dksX12_again_6 2 rfl rfl)
theorem dX12_again_146 : decode cX12_again 146 = .ok (.putfield 69, 3) := dk_181 0 69 (dk_at dksX12_again_6 3 rfl rfl)
theorem dX12_again_149 : decode cX12_again 149 = .ok (.return_, 1) := dk_177 (dk_at dksX12_again_6 6 rfl rfl)
abbrev cX12_fault : ByteArray := prog_22_method_40_code
def yX12_fault : MethodName := ⟨RX12, "fault", "()I"⟩
theorem dX12_fault_0 : decode cX12_fault 0 = .ok (.aload_n 0, 1) := by decide +kernel
theorem dX12_fault_1 : decode cX12_fault 1 = .ok (.getfield 72, 3) := by decide +kernel
theorem dX12_fault_4 : decode cX12_fault 4 = .ok (.ireturn, 1) := by decide +kernel
abbrev cX12_sung : ByteArray := prog_22_method_47_code
def yX12_sung : MethodName := ⟨RX12, "sung", "(IIII)I"⟩
def dkwX12_sung_6 : List UInt8 := [167, 255, 220, 21, 5, 172]
abbrev dktX12_sung_6 : List UInt8 := dkwX12_sung_6 ++ []
def dkwX12_sung_5 : List UInt8 := [42, 180, 0, 56, 29, 46, 182, 0, 202, 158, 0, 12, 21, 5, 4, 21, 6, 120, 128, 54, 5, 132, 6, 1]
abbrev dktX12_sung_5 : List UInt8 := dkwX12_sung_5 ++ dktX12_sung_6
def dkwX12_sung_4 : List UInt8 := [180, 0, 62, 29, 46, 172, 3, 54, 5, 3, 54, 6, 21, 6, 42, 180, 0, 82, 162, 0, 33, 42, 21, 6]
abbrev dktX12_sung_4 : List UInt8 := dkwX12_sung_4 ++ dktX12_sung_5
def dkwX12_sung_3 : List UInt8 := [180, 0, 56, 29, 46, 167, 0, 24, 21, 4, 4, 160, 0, 12, 42, 180, 0, 59, 29, 46, 167, 0, 9, 42]
abbrev dktX12_sung_3 : List UInt8 := dkwX12_sung_3 ++ dktX12_sung_4
def dkwX12_sung_2 : List UInt8 := [182, 0, 78, 172, 42, 27, 28, 29, 182, 0, 221, 21, 4, 6, 162, 0, 39, 21, 4, 154, 0, 12, 42]
abbrev dktX12_sung_2 : List UInt8 := dkwX12_sung_2 ++ dktX12_sung_3
def dkwX12_sung_1 : List UInt8 := [42, 16, 251, 182, 0, 78, 172, 28, 184, 0, 215, 153, 0, 10, 29, 184, 0, 218, 154, 0, 10, 42, 16, 250]
abbrev dktX12_sung_1 : List UInt8 := dkwX12_sung_1 ++ dktX12_sung_2
def dkwX12_sung_0 : List UInt8 := [42, 27, 182, 0, 127, 154, 0, 9, 42, 2, 182, 0, 78, 172, 21, 4, 3, 6, 184, 0, 85, 154, 0, 10]
abbrev dktX12_sung_0 : List UInt8 := dkwX12_sung_0 ++ dktX12_sung_1
theorem dksX12_sung_0 : cX12_sung.data.toList.drop 0 = dktX12_sung_0 := by decide +kernel
theorem dksX12_sung_1 : cX12_sung.data.toList.drop 24 = dktX12_sung_1 := dk_seg dksX12_sung_0 24 rfl rfl
theorem dksX12_sung_2 : cX12_sung.data.toList.drop 48 = dktX12_sung_2 := dk_seg dksX12_sung_1 24 rfl rfl
theorem dksX12_sung_3 : cX12_sung.data.toList.drop 71 = dktX12_sung_3 := dk_seg dksX12_sung_2 23 rfl rfl
theorem dksX12_sung_4 : cX12_sung.data.toList.drop 95 = dktX12_sung_4 := dk_seg dksX12_sung_3 24 rfl rfl
theorem dksX12_sung_5 : cX12_sung.data.toList.drop 119 = dktX12_sung_5 := dk_seg dksX12_sung_4 24 rfl rfl
theorem dksX12_sung_6 : cX12_sung.data.toList.drop 143 = dktX12_sung_6 := dk_seg dksX12_sung_5 24 rfl rfl
theorem dX12_sung_0 : decode cX12_sung 0 = .ok (.aload_n 0, 1) := dk_42 (dk_at dksX12_sung_0 0 rfl rfl)
theorem dX12_sung_1 : decode cX12_sung 1 = .ok (.iload_n 1, 1) := dk_27 (dk_at dksX12_sung_0 1 rfl rfl)
theorem dX12_sung_2 : decode cX12_sung 2 = .ok (.invokevirtual 127, 3) := dk_182 0 127 (dk_at dksX12_sung_0 2 rfl rfl)
theorem dX12_sung_5 : decode cX12_sung 5 = .ok (.ifCond .ne 9, 3) := dk_154 0 9 (dk_at dksX12_sung_0 5 rfl rfl)
theorem dX12_sung_8 : decode cX12_sung 8 = .ok (.aload_n 0, 1) := dk_42 (dk_at dksX12_sung_0 8 rfl rfl)
theorem dX12_sung_9 : decode cX12_sung 9 = .ok (.iconst (-1), 1) := dk_2 (dk_at dksX12_sung_0 9 rfl rfl)
theorem dX12_sung_10 : decode cX12_sung 10 = .ok (.invokevirtual 78, 3) := dk_182 0 78 (dk_at dksX12_sung_0 10 rfl rfl)
theorem dX12_sung_13 : decode cX12_sung 13 = .ok (.ireturn, 1) := dk_172 (dk_at dksX12_sung_0 13 rfl rfl)
theorem dX12_sung_14 : decode cX12_sung 14 = .ok (.iload 4, 2) := dk_21 4 (dk_at dksX12_sung_0 14 rfl rfl)
theorem dX12_sung_16 : decode cX12_sung 16 = .ok (.iconst 0, 1) := dk_3 (dk_at dksX12_sung_0 16 rfl rfl)
theorem dX12_sung_17 : decode cX12_sung 17 = .ok (.iconst 3, 1) := dk_6 (dk_at dksX12_sung_0 17 rfl rfl)
theorem dX12_sung_18 : decode cX12_sung 18 = .ok (.invokestatic 85, 3) := dk_184 0 85 (dk_at dksX12_sung_0 18 rfl rfl)
theorem dX12_sung_21 : decode cX12_sung 21 = .ok (.ifCond .ne 10, 3) := dk_154 0 10 (dk_at dksX12_sung_0 21 rfl rfl)
theorem dX12_sung_24 : decode cX12_sung 24 = .ok (.aload_n 0, 1) := dk_42 (dk_at dksX12_sung_1 0 rfl rfl)
theorem dX12_sung_25 : decode cX12_sung 25 = .ok (.bipush (-5), 2) := dk_16 251 (dk_at dksX12_sung_1 1 rfl rfl)
theorem dX12_sung_27 : decode cX12_sung 27 = .ok (.invokevirtual 78, 3) := dk_182 0 78 (dk_at dksX12_sung_1 3 rfl rfl)
theorem dX12_sung_30 : decode cX12_sung 30 = .ok (.ireturn, 1) := dk_172 (dk_at dksX12_sung_1 6 rfl rfl)
theorem dX12_sung_31 : decode cX12_sung 31 = .ok (.iload_n 2, 1) := dk_28 (dk_at dksX12_sung_1 7 rfl rfl)
theorem dX12_sung_32 : decode cX12_sung 32 = .ok (.invokestatic 215, 3) := dk_184 0 215 (dk_at dksX12_sung_1 8 rfl rfl)
theorem dX12_sung_35 : decode cX12_sung 35 = .ok (.ifCond .eq 10, 3) := dk_153 0 10 (dk_at dksX12_sung_1 11 rfl rfl)
theorem dX12_sung_38 : decode cX12_sung 38 = .ok (.iload_n 3, 1) := dk_29 (dk_at dksX12_sung_1 14 rfl rfl)
theorem dX12_sung_39 : decode cX12_sung 39 = .ok (.invokestatic 218, 3) := dk_184 0 218 (dk_at dksX12_sung_1 15 rfl rfl)
theorem dX12_sung_42 : decode cX12_sung 42 = .ok (.ifCond .ne 10, 3) := dk_154 0 10 (dk_at dksX12_sung_1 18 rfl rfl)
theorem dX12_sung_45 : decode cX12_sung 45 = .ok (.aload_n 0, 1) := dk_42 (dk_at dksX12_sung_1 21 rfl rfl)
theorem dX12_sung_46 : decode cX12_sung 46 = .ok (.bipush (-6), 2) := dk_16 250 (dk_at dksX12_sung_1 22 rfl rfl)
theorem dX12_sung_48 : decode cX12_sung 48 = .ok (.invokevirtual 78, 3) := dk_182 0 78 (dk_at dksX12_sung_2 0 rfl rfl)
theorem dX12_sung_51 : decode cX12_sung 51 = .ok (.ireturn, 1) := dk_172 (dk_at dksX12_sung_2 3 rfl rfl)
theorem dX12_sung_52 : decode cX12_sung 52 = .ok (.aload_n 0, 1) := dk_42 (dk_at dksX12_sung_2 4 rfl rfl)
theorem dX12_sung_53 : decode cX12_sung 53 = .ok (.iload_n 1, 1) := dk_27 (dk_at dksX12_sung_2 5 rfl rfl)
theorem dX12_sung_54 : decode cX12_sung 54 = .ok (.iload_n 2, 1) := dk_28 (dk_at dksX12_sung_2 6 rfl rfl)
theorem dX12_sung_55 : decode cX12_sung 55 = .ok (.iload_n 3, 1) := dk_29 (dk_at dksX12_sung_2 7 rfl rfl)
theorem dX12_sung_56 : decode cX12_sung 56 = .ok (.invokevirtual 221, 3) := dk_182 0 221 (dk_at dksX12_sung_2 8 rfl rfl)
theorem dX12_sung_59 : decode cX12_sung 59 = .ok (.iload 4, 2) := dk_21 4 (dk_at dksX12_sung_2 11 rfl rfl)
theorem dX12_sung_61 : decode cX12_sung 61 = .ok (.iconst 3, 1) := dk_6 (dk_at dksX12_sung_2 13 rfl rfl)
theorem dX12_sung_62 : decode cX12_sung 62 = .ok (.if_icmp .ge 39, 3) := dk_162 0 39 (dk_at dksX12_sung_2 14 rfl rfl)
theorem dX12_sung_65 : decode cX12_sung 65 = .ok (.iload 4, 2) := dk_21 4 (dk_at dksX12_sung_2 17 rfl rfl)
theorem dX12_sung_67 : decode cX12_sung 67 = .ok (.ifCond .ne 12, 3) := dk_154 0 12 (dk_at dksX12_sung_2 19 rfl rfl)
theorem dX12_sung_70 : decode cX12_sung 70 = .ok (.aload_n 0, 1) := dk_42 (dk_at dksX12_sung_2 22 rfl rfl)
theorem dX12_sung_71 : decode cX12_sung 71 = .ok (.getfield 56, 3) := dk_180 0 56 (dk_at dksX12_sung_3 0 rfl rfl)
theorem dX12_sung_74 : decode cX12_sung 74 = .ok (.iload_n 3, 1) := dk_29 (dk_at dksX12_sung_3 3 rfl rfl)
theorem dX12_sung_75 : decode cX12_sung 75 = .ok (.iaload, 1) := dk_46 (dk_at dksX12_sung_3 4 rfl rfl)
theorem dX12_sung_76 : decode cX12_sung 76 = .ok (.goto 24, 3) := dk_167 0 24 (dk_at dksX12_sung_3 5 rfl rfl)
theorem dX12_sung_79 : decode cX12_sung 79 = .ok (.iload 4, 2) := dk_21 4 (dk_at dksX12_sung_3 8 rfl rfl)
theorem dX12_sung_81 : decode cX12_sung 81 = .ok (.iconst 1, 1) := dk_4 (dk_at dksX12_sung_3 10 rfl rfl)
theorem dX12_sung_82 : decode cX12_sung 82 = .ok (.if_icmp .ne 12, 3) := dk_160 0 12 (dk_at dksX12_sung_3 11 rfl rfl)
theorem dX12_sung_85 : decode cX12_sung 85 = .ok (.aload_n 0, 1) := dk_42 (dk_at dksX12_sung_3 14 rfl rfl)
theorem dX12_sung_86 : decode cX12_sung 86 = .ok (.getfield 59, 3) := dk_180 0 59 (dk_at dksX12_sung_3 15 rfl rfl)
theorem dX12_sung_89 : decode cX12_sung 89 = .ok (.iload_n 3, 1) := dk_29 (dk_at dksX12_sung_3 18 rfl rfl)
theorem dX12_sung_90 : decode cX12_sung 90 = .ok (.iaload, 1) := dk_46 (dk_at dksX12_sung_3 19 rfl rfl)
theorem dX12_sung_91 : decode cX12_sung 91 = .ok (.goto 9, 3) := dk_167 0 9 (dk_at dksX12_sung_3 20 rfl rfl)
theorem dX12_sung_94 : decode cX12_sung 94 = .ok (.aload_n 0, 1) := dk_42 (dk_at dksX12_sung_3 23 rfl rfl)
theorem dX12_sung_95 : decode cX12_sung 95 = .ok (.getfield 62, 3) := dk_180 0 62 (dk_at dksX12_sung_4 0 rfl rfl)
theorem dX12_sung_98 : decode cX12_sung 98 = .ok (.iload_n 3, 1) := dk_29 (dk_at dksX12_sung_4 3 rfl rfl)
theorem dX12_sung_99 : decode cX12_sung 99 = .ok (.iaload, 1) := dk_46 (dk_at dksX12_sung_4 4 rfl rfl)
theorem dX12_sung_100 : decode cX12_sung 100 = .ok (.ireturn, 1) := dk_172 (dk_at dksX12_sung_4 5 rfl rfl)
theorem dX12_sung_101 : decode cX12_sung 101 = .ok (.iconst 0, 1) := dk_3 (dk_at dksX12_sung_4 6 rfl rfl)
theorem dX12_sung_102 : decode cX12_sung 102 = .ok (.istore 5, 2) := dk_54 5 (dk_at dksX12_sung_4 7 rfl rfl)
theorem dX12_sung_104 : decode cX12_sung 104 = .ok (.iconst 0, 1) := dk_3 (dk_at dksX12_sung_4 9 rfl rfl)
theorem dX12_sung_105 : decode cX12_sung 105 = .ok (.istore 6, 2) := dk_54 6 (dk_at dksX12_sung_4 10 rfl rfl)
theorem dX12_sung_107 : decode cX12_sung 107 = .ok (.iload 6, 2) := dk_21 6 (dk_at dksX12_sung_4 12 rfl rfl)
theorem dX12_sung_109 : decode cX12_sung 109 = .ok (.aload_n 0, 1) := dk_42 (dk_at dksX12_sung_4 14 rfl rfl)
theorem dX12_sung_110 : decode cX12_sung 110 = .ok (.getfield 82, 3) := dk_180 0 82 (dk_at dksX12_sung_4 15 rfl rfl)
theorem dX12_sung_113 : decode cX12_sung 113 = .ok (.if_icmp .ge 33, 3) := dk_162 0 33 (dk_at dksX12_sung_4 18 rfl rfl)
theorem dX12_sung_116 : decode cX12_sung 116 = .ok (.aload_n 0, 1) := dk_42 (dk_at dksX12_sung_4 21 rfl rfl)
theorem dX12_sung_117 : decode cX12_sung 117 = .ok (.iload 6, 2) := dk_21 6 (dk_at dksX12_sung_4 22 rfl rfl)
theorem dX12_sung_119 : decode cX12_sung 119 = .ok (.aload_n 0, 1) := dk_42 (dk_at dksX12_sung_5 0 rfl rfl)
theorem dX12_sung_120 : decode cX12_sung 120 = .ok (.getfield 56, 3) := dk_180 0 56 (dk_at dksX12_sung_5 1 rfl rfl)
theorem dX12_sung_123 : decode cX12_sung 123 = .ok (.iload_n 3, 1) := dk_29 (dk_at dksX12_sung_5 4 rfl rfl)
theorem dX12_sung_124 : decode cX12_sung 124 = .ok (.iaload, 1) := dk_46 (dk_at dksX12_sung_5 5 rfl rfl)
theorem dX12_sung_125 : decode cX12_sung 125 = .ok (.invokevirtual 202, 3) := dk_182 0 202 (dk_at dksX12_sung_5 6 rfl rfl)
theorem dX12_sung_128 : decode cX12_sung 128 = .ok (.ifCond .le 12, 3) := dk_158 0 12 (dk_at dksX12_sung_5 9 rfl rfl)
theorem dX12_sung_131 : decode cX12_sung 131 = .ok (.iload 5, 2) := dk_21 5 (dk_at dksX12_sung_5 12 rfl rfl)
theorem dX12_sung_133 : decode cX12_sung 133 = .ok (.iconst 1, 1) := dk_4 (dk_at dksX12_sung_5 14 rfl rfl)
theorem dX12_sung_134 : decode cX12_sung 134 = .ok (.iload 6, 2) := dk_21 6 (dk_at dksX12_sung_5 15 rfl rfl)
theorem dX12_sung_136 : decode cX12_sung 136 = .ok (.ishl, 1) := dk_120 (dk_at dksX12_sung_5 17 rfl rfl)
theorem dX12_sung_137 : decode cX12_sung 137 = .ok (.ior, 1) := dk_128 (dk_at dksX12_sung_5 18 rfl rfl)
theorem dX12_sung_138 : decode cX12_sung 138 = .ok (.istore 5, 2) := dk_54 5 (dk_at dksX12_sung_5 19 rfl rfl)
theorem dX12_sung_140 : decode cX12_sung 140 = .ok (.iinc 6 1, 3) := dk_132 6 1 (dk_at dksX12_sung_5 21 rfl rfl)
theorem dX12_sung_143 : decode cX12_sung 143 = .ok (.goto (-36), 3) := dk_167 255 220 (dk_at dksX12_sung_6 0 rfl rfl)
theorem dX12_sung_146 : decode cX12_sung 146 = .ok (.iload 5, 2) := dk_21 5 (dk_at dksX12_sung_6 3 rfl rfl)
theorem dX12_sung_148 : decode cX12_sung 148 = .ok (.ireturn, 1) := dk_172 (dk_at dksX12_sung_6 5 rfl rfl)
abbrev cX12_isPitch : ByteArray := prog_22_method_10_code
def yX12_isPitch : MethodName := ⟨RX12, "isPitch", "(I)Z"⟩
def dkwX12_isPitch_0 : List UInt8 := [26, 3, 8, 184, 0, 85, 172]
abbrev dktX12_isPitch_0 : List UInt8 := dkwX12_isPitch_0 ++ []
theorem dksX12_isPitch_0 : cX12_isPitch.data.toList.drop 0 = dktX12_isPitch_0 := by decide +kernel
theorem dX12_isPitch_0 : decode cX12_isPitch 0 = .ok (.iload_n 0, 1) := dk_26 (dk_at dksX12_isPitch_0 0 rfl rfl)
theorem dX12_isPitch_1 : decode cX12_isPitch 1 = .ok (.iconst 0, 1) := dk_3 (dk_at dksX12_isPitch_0 1 rfl rfl)
theorem dX12_isPitch_2 : decode cX12_isPitch 2 = .ok (.iconst 5, 1) := dk_8 (dk_at dksX12_isPitch_0 2 rfl rfl)
theorem dX12_isPitch_3 : decode cX12_isPitch 3 = .ok (.invokestatic 85, 3) := dk_184 0 85 (dk_at dksX12_isPitch_0 3 rfl rfl)
theorem dX12_isPitch_6 : decode cX12_isPitch 6 = .ok (.ireturn, 1) := dk_172 (dk_at dksX12_isPitch_0 6 rfl rfl)
abbrev cX12_isVerse : ByteArray := prog_22_method_11_code
def yX12_isVerse : MethodName := ⟨RX12, "isVerse", "(I)Z"⟩
def dkwX12_isVerse_0 : List UInt8 := [26, 3, 16, 40, 184, 0, 85, 172]
abbrev dktX12_isVerse_0 : List UInt8 := dkwX12_isVerse_0 ++ []
theorem dksX12_isVerse_0 : cX12_isVerse.data.toList.drop 0 = dktX12_isVerse_0 := by decide +kernel
theorem dX12_isVerse_0 : decode cX12_isVerse 0 = .ok (.iload_n 0, 1) := dk_26 (dk_at dksX12_isVerse_0 0 rfl rfl)
theorem dX12_isVerse_1 : decode cX12_isVerse 1 = .ok (.iconst 0, 1) := dk_3 (dk_at dksX12_isVerse_0 1 rfl rfl)
theorem dX12_isVerse_2 : decode cX12_isVerse 2 = .ok (.bipush 40, 2) := dk_16 40 (dk_at dksX12_isVerse_0 2 rfl rfl)
theorem dX12_isVerse_4 : decode cX12_isVerse 4 = .ok (.invokestatic 85, 3) := dk_184 0 85 (dk_at dksX12_isVerse_0 4 rfl rfl)
theorem dX12_isVerse_7 : decode cX12_isVerse 7 = .ok (.ireturn, 1) := dk_172 (dk_at dksX12_isVerse_0 7 rfl rfl)
abbrev cX12_hears : ByteArray := prog_22_method_46_code
def yX12_hears : MethodName := ⟨RX12, "hears", "(III)V"⟩
def dkwX12_hears_3 : List UInt8 := [42, 21, 5, 27, 21, 4, 182, 0, 211, 132, 5, 1, 167, 255, 208, 132, 4, 1, 167, 255, 169, 177]
abbrev dktX12_hears_3 : List UInt8 := dkwX12_hears_3 ++ []
def dkwX12_hears_2 : List UInt8 := [180, 0, 75, 159, 0, 30, 42, 180, 0, 38, 27, 46, 28, 96, 42, 180, 0, 32, 21, 5, 46, 163, 0, 12]
abbrev dktX12_hears_2 : List UInt8 := dkwX12_hears_2 ++ dktX12_hears_3
def dkwX12_hears_1 : List UInt8 := [79, 42, 180, 0, 62, 21, 4, 3, 79, 3, 54, 5, 21, 5, 42, 180, 0, 82, 162, 0, 45, 21, 5, 42]
abbrev dktX12_hears_1 : List UInt8 := dkwX12_hears_1 ++ dktX12_hears_2
def dkwX12_hears_0 : List UInt8 := [3, 54, 4, 21, 4, 29, 163, 0, 87, 42, 180, 0, 56, 21, 4, 3, 79, 42, 180, 0, 59, 21, 4, 3]
abbrev dktX12_hears_0 : List UInt8 := dkwX12_hears_0 ++ dktX12_hears_1
theorem dksX12_hears_0 : cX12_hears.data.toList.drop 0 = dktX12_hears_0 := by decide +kernel
theorem dksX12_hears_1 : cX12_hears.data.toList.drop 24 = dktX12_hears_1 := dk_seg dksX12_hears_0 24 rfl rfl
theorem dksX12_hears_2 : cX12_hears.data.toList.drop 48 = dktX12_hears_2 := dk_seg dksX12_hears_1 24 rfl rfl
theorem dksX12_hears_3 : cX12_hears.data.toList.drop 72 = dktX12_hears_3 := dk_seg dksX12_hears_2 24 rfl rfl
theorem dX12_hears_0 : decode cX12_hears 0 = .ok (.iconst 0, 1) := dk_3 (dk_at dksX12_hears_0 0 rfl rfl)
theorem dX12_hears_1 : decode cX12_hears 1 = .ok (.istore 4, 2) := dk_54 4 (dk_at dksX12_hears_0 1 rfl rfl)
theorem dX12_hears_3 : decode cX12_hears 3 = .ok (.iload 4, 2) := dk_21 4 (dk_at dksX12_hears_0 3 rfl rfl)
theorem dX12_hears_5 : decode cX12_hears 5 = .ok (.iload_n 3, 1) := dk_29 (dk_at dksX12_hears_0 5 rfl rfl)
theorem dX12_hears_6 : decode cX12_hears 6 = .ok (.if_icmp .gt 87, 3) := dk_163 0 87 (dk_at dksX12_hears_0 6 rfl rfl)
theorem dX12_hears_9 : decode cX12_hears 9 = .ok (.aload_n 0, 1) := dk_42 (dk_at dksX12_hears_0 9 rfl rfl)
theorem dX12_hears_10 : decode cX12_hears 10 = .ok (.getfield 56, 3) := dk_180 0 56 (dk_at dksX12_hears_0 10 rfl rfl)
theorem dX12_hears_13 : decode cX12_hears 13 = .ok (.iload 4, 2) := dk_21 4 (dk_at dksX12_hears_0 13 rfl rfl)
theorem dX12_hears_15 : decode cX12_hears 15 = .ok (.iconst 0, 1) := dk_3 (dk_at dksX12_hears_0 15 rfl rfl)
theorem dX12_hears_16 : decode cX12_hears 16 = .ok (.iastore, 1) := dk_79 (dk_at dksX12_hears_0 16 rfl rfl)
theorem dX12_hears_17 : decode cX12_hears 17 = .ok (.aload_n 0, 1) := dk_42 (dk_at dksX12_hears_0 17 rfl rfl)
theorem dX12_hears_18 : decode cX12_hears 18 = .ok (.getfield 59, 3) := dk_180 0 59 (dk_at dksX12_hears_0 18 rfl rfl)
theorem dX12_hears_21 : decode cX12_hears 21 = .ok (.iload 4, 2) := dk_21 4 (dk_at dksX12_hears_0 21 rfl rfl)
theorem dX12_hears_23 : decode cX12_hears 23 = .ok (.iconst 0, 1) := dk_3 (dk_at dksX12_hears_0 23 rfl rfl)
theorem dX12_hears_24 : decode cX12_hears 24 = .ok (.iastore, 1) := dk_79 (dk_at dksX12_hears_1 0 rfl rfl)
theorem dX12_hears_25 : decode cX12_hears 25 = .ok (.aload_n 0, 1) := dk_42 (dk_at dksX12_hears_1 1 rfl rfl)
theorem dX12_hears_26 : decode cX12_hears 26 = .ok (.getfield 62, 3) := dk_180 0 62 (dk_at dksX12_hears_1 2 rfl rfl)
theorem dX12_hears_29 : decode cX12_hears 29 = .ok (.iload 4, 2) := dk_21 4 (dk_at dksX12_hears_1 5 rfl rfl)
theorem dX12_hears_31 : decode cX12_hears 31 = .ok (.iconst 0, 1) := dk_3 (dk_at dksX12_hears_1 7 rfl rfl)
theorem dX12_hears_32 : decode cX12_hears 32 = .ok (.iastore, 1) := dk_79 (dk_at dksX12_hears_1 8 rfl rfl)
theorem dX12_hears_33 : decode cX12_hears 33 = .ok (.iconst 0, 1) := dk_3 (dk_at dksX12_hears_1 9 rfl rfl)
theorem dX12_hears_34 : decode cX12_hears 34 = .ok (.istore 5, 2) := dk_54 5 (dk_at dksX12_hears_1 10 rfl rfl)
theorem dX12_hears_36 : decode cX12_hears 36 = .ok (.iload 5, 2) := dk_21 5 (dk_at dksX12_hears_1 12 rfl rfl)
theorem dX12_hears_38 : decode cX12_hears 38 = .ok (.aload_n 0, 1) := dk_42 (dk_at dksX12_hears_1 14 rfl rfl)
theorem dX12_hears_39 : decode cX12_hears 39 = .ok (.getfield 82, 3) := dk_180 0 82 (dk_at dksX12_hears_1 15 rfl rfl)
theorem dX12_hears_42 : decode cX12_hears 42 = .ok (.if_icmp .ge 45, 3) := dk_162 0 45 (dk_at dksX12_hears_1 18 rfl rfl)
theorem dX12_hears_45 : decode cX12_hears 45 = .ok (.iload 5, 2) := dk_21 5 (dk_at dksX12_hears_1 21 rfl rfl)
theorem dX12_hears_47 : decode cX12_hears 47 = .ok (.aload_n 0, 1) := dk_42 (dk_at dksX12_hears_1 23 rfl rfl)
theorem dX12_hears_48 : decode cX12_hears 48 = .ok (.getfield 75, 3) := dk_180 0 75 (dk_at dksX12_hears_2 0 rfl rfl)
theorem dX12_hears_51 : decode cX12_hears 51 = .ok (.if_icmp .eq 30, 3) := dk_159 0 30 (dk_at dksX12_hears_2 3 rfl rfl)
theorem dX12_hears_54 : decode cX12_hears 54 = .ok (.aload_n 0, 1) := dk_42 (dk_at dksX12_hears_2 6 rfl rfl)
theorem dX12_hears_55 : decode cX12_hears 55 = .ok (.getfield 38, 3) := dk_180 0 38 (dk_at dksX12_hears_2 7 rfl rfl)
theorem dX12_hears_58 : decode cX12_hears 58 = .ok (.iload_n 1, 1) := dk_27 (dk_at dksX12_hears_2 10 rfl rfl)
theorem dX12_hears_59 : decode cX12_hears 59 = .ok (.iaload, 1) := dk_46 (dk_at dksX12_hears_2 11 rfl rfl)
theorem dX12_hears_60 : decode cX12_hears 60 = .ok (.iload_n 2, 1) := dk_28 (dk_at dksX12_hears_2 12 rfl rfl)
theorem dX12_hears_61 : decode cX12_hears 61 = .ok (.iadd, 1) := dk_96 (dk_at dksX12_hears_2 13 rfl rfl)
theorem dX12_hears_62 : decode cX12_hears 62 = .ok (.aload_n 0, 1) := dk_42 (dk_at dksX12_hears_2 14 rfl rfl)
theorem dX12_hears_63 : decode cX12_hears 63 = .ok (.getfield 32, 3) := dk_180 0 32 (dk_at dksX12_hears_2 15 rfl rfl)
theorem dX12_hears_66 : decode cX12_hears 66 = .ok (.iload 5, 2) := dk_21 5 (dk_at dksX12_hears_2 18 rfl rfl)
theorem dX12_hears_68 : decode cX12_hears 68 = .ok (.iaload, 1) := dk_46 (dk_at dksX12_hears_2 20 rfl rfl)
theorem dX12_hears_69 : decode cX12_hears 69 = .ok (.if_icmp .gt 12, 3) := dk_163 0 12 (dk_at dksX12_hears_2 21 rfl rfl)
theorem dX12_hears_72 : decode cX12_hears 72 = .ok (.aload_n 0, 1) := dk_42 (dk_at dksX12_hears_3 0 rfl rfl)
theorem dX12_hears_73 : decode cX12_hears 73 = .ok (.iload 5, 2) := dk_21 5 (dk_at dksX12_hears_3 1 rfl rfl)
theorem dX12_hears_75 : decode cX12_hears 75 = .ok (.iload_n 1, 1) := dk_27 (dk_at dksX12_hears_3 3 rfl rfl)
theorem dX12_hears_76 : decode cX12_hears 76 = .ok (.iload 4, 2) := dk_21 4 (dk_at dksX12_hears_3 4 rfl rfl)
theorem dX12_hears_78 : decode cX12_hears 78 = .ok (.invokevirtual 211, 3) := dk_182 0 211 (dk_at dksX12_hears_3 6 rfl rfl)
theorem dX12_hears_81 : decode cX12_hears 81 = .ok (.iinc 5 1, 3) := dk_132 5 1 (dk_at dksX12_hears_3 9 rfl rfl)
theorem dX12_hears_84 : decode cX12_hears 84 = .ok (.goto (-48), 3) := dk_167 255 208 (dk_at dksX12_hears_3 12 rfl rfl)
theorem dX12_hears_87 : decode cX12_hears 87 = .ok (.iinc 4 1, 3) := dk_132 4 1 (dk_at dksX12_hears_3 15 rfl rfl)
theorem dX12_hears_90 : decode cX12_hears 90 = .ok (.goto (-87), 3) := dk_167 255 169 (dk_at dksX12_hears_3 18 rfl rfl)
theorem dX12_hears_93 : decode cX12_hears 93 = .ok (.return_, 1) := dk_177 (dk_at dksX12_hears_3 21 rfl rfl)
abbrev cX12_sings : ByteArray := prog_22_method_45_code
def yX12_sings : MethodName := ⟨RX12, "sings", "(III)V"⟩
def dkwX12_sings_8 : List UInt8 := [120, 128, 79, 167, 0, 15, 42, 180, 0, 59, 29, 92, 46, 4, 27, 120, 128, 79, 177]
abbrev dktX12_sings_8 : List UInt8 := dkwX12_sings_8 ++ []
def dkwX12_sings_7 : List UInt8 := [154, 0, 7, 4, 167, 0, 4, 3, 54, 6, 21, 6, 153, 0, 18, 42, 180, 0, 56, 29, 92, 46, 4, 27]
abbrev dktX12_sings_7 : List UInt8 := dkwX12_sings_7 ++ dktX12_sings_8
def dkwX12_sings_6 : List UInt8 := [154, 0, 7, 4, 167, 0, 27, 3, 167, 0, 23, 42, 180, 0, 20, 27, 46, 6, 159, 0, 12, 21, 5]
abbrev dktX12_sings_6 : List UInt8 := dkwX12_sings_6 ++ dktX12_sings_7
def dkwX12_sings_5 : List UInt8 := [180, 0, 20, 27, 46, 7, 159, 0, 14, 42, 180, 0, 20, 27, 46, 16, 6, 160, 0, 8, 21, 5]
abbrev dktX12_sings_5 : List UInt8 := dkwX12_sings_5 ++ dktX12_sings_6
def dkwX12_sings_4 : List UInt8 := [4, 100, 46, 182, 0, 202, 164, 0, 7, 4, 167, 0, 4, 3, 54, 5, 21, 4, 153, 0, 37, 42]
abbrev dktX12_sings_4 : List UInt8 := dkwX12_sings_4 ++ dktX12_sings_5
def dkwX12_sings_3 : List UInt8 := [29, 158, 0, 36, 42, 27, 42, 180, 0, 59, 29, 4, 100, 46, 182, 0, 202, 42, 27, 42, 180, 0, 56, 29]
abbrev dktX12_sings_3 : List UInt8 := dkwX12_sings_3 ++ dktX12_sings_4
def dkwX12_sings_2 : List UInt8 := [180, 0, 62, 29, 92, 46, 4, 27, 120, 128, 79, 177, 42, 180, 0, 35, 27, 46, 28, 184, 0, 187, 54, 4]
abbrev dktX12_sings_2 : List UInt8 := dkwX12_sings_2 ++ dktX12_sings_3
def dkwX12_sings_1 : List UInt8 := [27, 28, 29, 5, 100, 182, 0, 208, 154, 0, 4, 177, 42, 180, 0, 20, 27, 46, 8, 160, 0, 16, 42]
abbrev dktX12_sings_1 : List UInt8 := dkwX12_sings_1 ++ dktX12_sings_2
def dkwX12_sings_0 : List UInt8 := [42, 27, 28, 29, 4, 100, 182, 0, 208, 153, 0, 26, 42, 180, 0, 20, 27, 46, 16, 6, 160, 0, 16, 42]
abbrev dktX12_sings_0 : List UInt8 := dkwX12_sings_0 ++ dktX12_sings_1
theorem dksX12_sings_0 : cX12_sings.data.toList.drop 0 = dktX12_sings_0 := by decide +kernel
theorem dksX12_sings_1 : cX12_sings.data.toList.drop 24 = dktX12_sings_1 := dk_seg dksX12_sings_0 24 rfl rfl
theorem dksX12_sings_2 : cX12_sings.data.toList.drop 47 = dktX12_sings_2 := dk_seg dksX12_sings_1 23 rfl rfl
theorem dksX12_sings_3 : cX12_sings.data.toList.drop 71 = dktX12_sings_3 := dk_seg dksX12_sings_2 24 rfl rfl
theorem dksX12_sings_4 : cX12_sings.data.toList.drop 95 = dktX12_sings_4 := dk_seg dksX12_sings_3 24 rfl rfl
theorem dksX12_sings_5 : cX12_sings.data.toList.drop 117 = dktX12_sings_5 := dk_seg dksX12_sings_4 22 rfl rfl
theorem dksX12_sings_6 : cX12_sings.data.toList.drop 139 = dktX12_sings_6 := dk_seg dksX12_sings_5 22 rfl rfl
theorem dksX12_sings_7 : cX12_sings.data.toList.drop 162 = dktX12_sings_7 := dk_seg dksX12_sings_6 23 rfl rfl
theorem dksX12_sings_8 : cX12_sings.data.toList.drop 186 = dktX12_sings_8 := dk_seg dksX12_sings_7 24 rfl rfl
theorem dX12_sings_0 : decode cX12_sings 0 = .ok (.aload_n 0, 1) := dk_42 (dk_at dksX12_sings_0 0 rfl rfl)
theorem dX12_sings_1 : decode cX12_sings 1 = .ok (.iload_n 1, 1) := dk_27 (dk_at dksX12_sings_0 1 rfl rfl)
theorem dX12_sings_2 : decode cX12_sings 2 = .ok (.iload_n 2, 1) := dk_28 (dk_at dksX12_sings_0 2 rfl rfl)
theorem dX12_sings_3 : decode cX12_sings 3 = .ok (.iload_n 3, 1) := dk_29 (dk_at dksX12_sings_0 3 rfl rfl)
theorem dX12_sings_4 : decode cX12_sings 4 = .ok (.iconst 1, 1) := dk_4 (dk_at dksX12_sings_0 4 rfl rfl)
theorem dX12_sings_5 : decode cX12_sings 5 = .ok (.isub, 1) := dk_100 (dk_at dksX12_sings_0 5 rfl rfl)
theorem dX12_sings_6 : decode cX12_sings 6 = .ok (.invokevirtual 208, 3) := dk_182 0 208 (dk_at dksX12_sings_0 6 rfl rfl)
theorem dX12_sings_9 : decode cX12_sings 9 = .ok (.ifCond .eq 26, 3) := dk_153 0 26 (dk_at dksX12_sings_0 9 rfl rfl)
theorem dX12_sings_12 : decode cX12_sings 12 = .ok (.aload_n 0, 1) := dk_42 (dk_at dksX12_sings_0 12 rfl rfl)
theorem dX12_sings_13 : decode cX12_sings 13 = .ok (.getfield 20, 3) := dk_180 0 20 (dk_at dksX12_sings_0 13 rfl rfl)
theorem dX12_sings_16 : decode cX12_sings 16 = .ok (.iload_n 1, 1) := dk_27 (dk_at dksX12_sings_0 16 rfl rfl)
theorem dX12_sings_17 : decode cX12_sings 17 = .ok (.iaload, 1) := dk_46 (dk_at dksX12_sings_0 17 rfl rfl)
theorem dX12_sings_18 : decode cX12_sings 18 = .ok (.bipush 6, 2) := dk_16 6 (dk_at dksX12_sings_0 18 rfl rfl)
theorem dX12_sings_20 : decode cX12_sings 20 = .ok (.if_icmp .ne 16, 3) := dk_160 0 16 (dk_at dksX12_sings_0 20 rfl rfl)
theorem dX12_sings_23 : decode cX12_sings 23 = .ok (.aload_n 0, 1) := dk_42 (dk_at dksX12_sings_0 23 rfl rfl)
theorem dX12_sings_24 : decode cX12_sings 24 = .ok (.iload_n 1, 1) := dk_27 (dk_at dksX12_sings_1 0 rfl rfl)
theorem dX12_sings_25 : decode cX12_sings 25 = .ok (.iload_n 2, 1) := dk_28 (dk_at dksX12_sings_1 1 rfl rfl)
theorem dX12_sings_26 : decode cX12_sings 26 = .ok (.iload_n 3, 1) := dk_29 (dk_at dksX12_sings_1 2 rfl rfl)
theorem dX12_sings_27 : decode cX12_sings 27 = .ok (.iconst 2, 1) := dk_5 (dk_at dksX12_sings_1 3 rfl rfl)
theorem dX12_sings_28 : decode cX12_sings 28 = .ok (.isub, 1) := dk_100 (dk_at dksX12_sings_1 4 rfl rfl)
theorem dX12_sings_29 : decode cX12_sings 29 = .ok (.invokevirtual 208, 3) := dk_182 0 208 (dk_at dksX12_sings_1 5 rfl rfl)
theorem dX12_sings_32 : decode cX12_sings 32 = .ok (.ifCond .ne 4, 3) := dk_154 0 4 (dk_at dksX12_sings_1 8 rfl rfl)
theorem dX12_sings_35 : decode cX12_sings 35 = .ok (.return_, 1) := dk_177 (dk_at dksX12_sings_1 11 rfl rfl)
theorem dX12_sings_36 : decode cX12_sings 36 = .ok (.aload_n 0, 1) := dk_42 (dk_at dksX12_sings_1 12 rfl rfl)
theorem dX12_sings_37 : decode cX12_sings 37 = .ok (.getfield 20, 3) := dk_180 0 20 (dk_at dksX12_sings_1 13 rfl rfl)
theorem dX12_sings_40 : decode cX12_sings 40 = .ok (.iload_n 1, 1) := dk_27 (dk_at dksX12_sings_1 16 rfl rfl)
theorem dX12_sings_41 : decode cX12_sings 41 = .ok (.iaload, 1) := dk_46 (dk_at dksX12_sings_1 17 rfl rfl)
theorem dX12_sings_42 : decode cX12_sings 42 = .ok (.iconst 5, 1) := dk_8 (dk_at dksX12_sings_1 18 rfl rfl)
theorem dX12_sings_43 : decode cX12_sings 43 = .ok (.if_icmp .ne 16, 3) := dk_160 0 16 (dk_at dksX12_sings_1 19 rfl rfl)
theorem dX12_sings_46 : decode cX12_sings 46 = .ok (.aload_n 0, 1) := dk_42 (dk_at dksX12_sings_1 22 rfl rfl)
theorem dX12_sings_47 : decode cX12_sings 47 = .ok (.getfield 62, 3) := dk_180 0 62 (dk_at dksX12_sings_2 0 rfl rfl)
theorem dX12_sings_50 : decode cX12_sings 50 = .ok (.iload_n 3, 1) := dk_29 (dk_at dksX12_sings_2 3 rfl rfl)
theorem dX12_sings_51 : decode cX12_sings 51 = .ok (.dup2, 1) := dk_92 (dk_at dksX12_sings_2 4 rfl rfl)
theorem dX12_sings_52 : decode cX12_sings 52 = .ok (.iaload, 1) := dk_46 (dk_at dksX12_sings_2 5 rfl rfl)
theorem dX12_sings_53 : decode cX12_sings 53 = .ok (.iconst 1, 1) := dk_4 (dk_at dksX12_sings_2 6 rfl rfl)
theorem dX12_sings_54 : decode cX12_sings 54 = .ok (.iload_n 1, 1) := dk_27 (dk_at dksX12_sings_2 7 rfl rfl)
theorem dX12_sings_55 : decode cX12_sings 55 = .ok (.ishl, 1) := dk_120 (dk_at dksX12_sings_2 8 rfl rfl)
theorem dX12_sings_56 : decode cX12_sings 56 = .ok (.ior, 1) := dk_128 (dk_at dksX12_sings_2 9 rfl rfl)
theorem dX12_sings_57 : decode cX12_sings 57 = .ok (.iastore, 1) := dk_79 (dk_at dksX12_sings_2 10 rfl rfl)
theorem dX12_sings_58 : decode cX12_sings 58 = .ok (.return_, 1) := dk_177 (dk_at dksX12_sings_2 11 rfl rfl)
theorem dX12_sings_59 : decode cX12_sings 59 = .ok (.aload_n 0, 1) := dk_42 (dk_at dksX12_sings_2 12 rfl rfl)
theorem dX12_sings_60 : decode cX12_sings 60 = .ok (.getfield 35, 3) := dk_180 0 35 (dk_at dksX12_sings_2 13 rfl rfl)
theorem dX12_sings_63 : decode cX12_sings 63 = .ok (.iload_n 1, 1) := dk_27 (dk_at dksX12_sings_2 16 rfl rfl)
theorem dX12_sings_64 : decode cX12_sings 64 = .ok (.iaload, 1) := dk_46 (dk_at dksX12_sings_2 17 rfl rfl)
theorem dX12_sings_65 : decode cX12_sings 65 = .ok (.iload_n 2, 1) := dk_28 (dk_at dksX12_sings_2 18 rfl rfl)
theorem dX12_sings_66 : decode cX12_sings 66 = .ok (.invokestatic 187, 3) := dk_184 0 187 (dk_at dksX12_sings_2 19 rfl rfl)
theorem dX12_sings_69 : decode cX12_sings 69 = .ok (.istore 4, 2) := dk_54 4 (dk_at dksX12_sings_2 22 rfl rfl)
theorem dX12_sings_71 : decode cX12_sings 71 = .ok (.iload_n 3, 1) := dk_29 (dk_at dksX12_sings_3 0 rfl rfl)
theorem dX12_sings_72 : decode cX12_sings 72 = .ok (.ifCond .le 36, 3) := dk_158 0 36 (dk_at dksX12_sings_3 1 rfl rfl)
theorem dX12_sings_75 : decode cX12_sings 75 = .ok (.aload_n 0, 1) := dk_42 (dk_at dksX12_sings_3 4 rfl rfl)
theorem dX12_sings_76 : decode cX12_sings 76 = .ok (.iload_n 1, 1) := dk_27 (dk_at dksX12_sings_3 5 rfl rfl)
theorem dX12_sings_77 : decode cX12_sings 77 = .ok (.aload_n 0, 1) := dk_42 (dk_at dksX12_sings_3 6 rfl rfl)
theorem dX12_sings_78 : decode cX12_sings 78 = .ok (.getfield 59, 3) := dk_180 0 59 (dk_at dksX12_sings_3 7 rfl rfl)
theorem dX12_sings_81 : decode cX12_sings 81 = .ok (.iload_n 3, 1) := dk_29 (dk_at dksX12_sings_3 10 rfl rfl)
theorem dX12_sings_82 : decode cX12_sings 82 = .ok (.iconst 1, 1) := dk_4 (dk_at dksX12_sings_3 11 rfl rfl)
theorem dX12_sings_83 : decode cX12_sings 83 = .ok (.isub, 1) := dk_100 (dk_at dksX12_sings_3 12 rfl rfl)
theorem dX12_sings_84 : decode cX12_sings 84 = .ok (.iaload, 1) := dk_46 (dk_at dksX12_sings_3 13 rfl rfl)
theorem dX12_sings_85 : decode cX12_sings 85 = .ok (.invokevirtual 202, 3) := dk_182 0 202 (dk_at dksX12_sings_3 14 rfl rfl)
theorem dX12_sings_88 : decode cX12_sings 88 = .ok (.aload_n 0, 1) := dk_42 (dk_at dksX12_sings_3 17 rfl rfl)
theorem dX12_sings_89 : decode cX12_sings 89 = .ok (.iload_n 1, 1) := dk_27 (dk_at dksX12_sings_3 18 rfl rfl)
theorem dX12_sings_90 : decode cX12_sings 90 = .ok (.aload_n 0, 1) := dk_42 (dk_at dksX12_sings_3 19 rfl rfl)
theorem dX12_sings_91 : decode cX12_sings 91 = .ok (.getfield 56, 3) := dk_180 0 56 (dk_at dksX12_sings_3 20 rfl rfl)
theorem dX12_sings_94 : decode cX12_sings 94 = .ok (.iload_n 3, 1) := dk_29 (dk_at dksX12_sings_3 23 rfl rfl)
theorem dX12_sings_95 : decode cX12_sings 95 = .ok (.iconst 1, 1) := dk_4 (dk_at dksX12_sings_4 0 rfl rfl)
theorem dX12_sings_96 : decode cX12_sings 96 = .ok (.isub, 1) := dk_100 (dk_at dksX12_sings_4 1 rfl rfl)
theorem dX12_sings_97 : decode cX12_sings 97 = .ok (.iaload, 1) := dk_46 (dk_at dksX12_sings_4 2 rfl rfl)
theorem dX12_sings_98 : decode cX12_sings 98 = .ok (.invokevirtual 202, 3) := dk_182 0 202 (dk_at dksX12_sings_4 3 rfl rfl)
theorem dX12_sings_101 : decode cX12_sings 101 = .ok (.if_icmp .le 7, 3) := dk_164 0 7 (dk_at dksX12_sings_4 6 rfl rfl)
theorem dX12_sings_104 : decode cX12_sings 104 = .ok (.iconst 1, 1) := dk_4 (dk_at dksX12_sings_4 9 rfl rfl)
theorem dX12_sings_105 : decode cX12_sings 105 = .ok (.goto 4, 3) := dk_167 0 4 (dk_at dksX12_sings_4 10 rfl rfl)
theorem dX12_sings_108 : decode cX12_sings 108 = .ok (.iconst 0, 1) := dk_3 (dk_at dksX12_sings_4 13 rfl rfl)
theorem dX12_sings_109 : decode cX12_sings 109 = .ok (.istore 5, 2) := dk_54 5 (dk_at dksX12_sings_4 14 rfl rfl)
theorem dX12_sings_111 : decode cX12_sings 111 = .ok (.iload 4, 2) := dk_21 4 (dk_at dksX12_sings_4 16 rfl rfl)
theorem dX12_sings_113 : decode cX12_sings 113 = .ok (.ifCond .eq 37, 3) := dk_153 0 37 (dk_at dksX12_sings_4 18 rfl rfl)
theorem dX12_sings_116 : decode cX12_sings 116 = .ok (.aload_n 0, 1) := dk_42 (dk_at dksX12_sings_4 21 rfl rfl)
theorem dX12_sings_117 : decode cX12_sings 117 = .ok (.getfield 20, 3) := dk_180 0 20 (dk_at dksX12_sings_5 0 rfl rfl)
theorem dX12_sings_120 : decode cX12_sings 120 = .ok (.iload_n 1, 1) := dk_27 (dk_at dksX12_sings_5 3 rfl rfl)
theorem dX12_sings_121 : decode cX12_sings 121 = .ok (.iaload, 1) := dk_46 (dk_at dksX12_sings_5 4 rfl rfl)
theorem dX12_sings_122 : decode cX12_sings 122 = .ok (.iconst 4, 1) := dk_7 (dk_at dksX12_sings_5 5 rfl rfl)
theorem dX12_sings_123 : decode cX12_sings 123 = .ok (.if_icmp .eq 14, 3) := dk_159 0 14 (dk_at dksX12_sings_5 6 rfl rfl)
theorem dX12_sings_126 : decode cX12_sings 126 = .ok (.aload_n 0, 1) := dk_42 (dk_at dksX12_sings_5 9 rfl rfl)
theorem dX12_sings_127 : decode cX12_sings 127 = .ok (.getfield 20, 3) := dk_180 0 20 (dk_at dksX12_sings_5 10 rfl rfl)
theorem dX12_sings_130 : decode cX12_sings 130 = .ok (.iload_n 1, 1) := dk_27 (dk_at dksX12_sings_5 13 rfl rfl)
theorem dX12_sings_131 : decode cX12_sings 131 = .ok (.iaload, 1) := dk_46 (dk_at dksX12_sings_5 14 rfl rfl)
theorem dX12_sings_132 : decode cX12_sings 132 = .ok (.bipush 6, 2) := dk_16 6 (dk_at dksX12_sings_5 15 rfl rfl)
theorem dX12_sings_134 : decode cX12_sings 134 = .ok (.if_icmp .ne 8, 3) := dk_160 0 8 (dk_at dksX12_sings_5 17 rfl rfl)
theorem dX12_sings_137 : decode cX12_sings 137 = .ok (.iload 5, 2) := dk_21 5 (dk_at dksX12_sings_5 20 rfl rfl)
theorem dX12_sings_139 : decode cX12_sings 139 = .ok (.ifCond .ne 7, 3) := dk_154 0 7 (dk_at dksX12_sings_6 0 rfl rfl)
theorem dX12_sings_142 : decode cX12_sings 142 = .ok (.iconst 1, 1) := dk_4 (dk_at dksX12_sings_6 3 rfl rfl)
theorem dX12_sings_143 : decode cX12_sings 143 = .ok (.goto 27, 3) := dk_167 0 27 (dk_at dksX12_sings_6 4 rfl rfl)
theorem dX12_sings_146 : decode cX12_sings 146 = .ok (.iconst 0, 1) := dk_3 (dk_at dksX12_sings_6 7 rfl rfl)
theorem dX12_sings_147 : decode cX12_sings 147 = .ok (.goto 23, 3) := dk_167 0 23 (dk_at dksX12_sings_6 8 rfl rfl)
theorem dX12_sings_150 : decode cX12_sings 150 = .ok (.aload_n 0, 1) := dk_42 (dk_at dksX12_sings_6 11 rfl rfl)
theorem dX12_sings_151 : decode cX12_sings 151 = .ok (.getfield 20, 3) := dk_180 0 20 (dk_at dksX12_sings_6 12 rfl rfl)
theorem dX12_sings_154 : decode cX12_sings 154 = .ok (.iload_n 1, 1) := dk_27 (dk_at dksX12_sings_6 15 rfl rfl)
theorem dX12_sings_155 : decode cX12_sings 155 = .ok (.iaload, 1) := dk_46 (dk_at dksX12_sings_6 16 rfl rfl)
theorem dX12_sings_156 : decode cX12_sings 156 = .ok (.iconst 3, 1) := dk_6 (dk_at dksX12_sings_6 17 rfl rfl)
theorem dX12_sings_157 : decode cX12_sings 157 = .ok (.if_icmp .eq 12, 3) := dk_159 0 12 (dk_at dksX12_sings_6 18 rfl rfl)
theorem dX12_sings_160 : decode cX12_sings 160 = .ok (.iload 5, 2) := dk_21 5 (dk_at dksX12_sings_6 21 rfl rfl)
theorem dX12_sings_162 : decode cX12_sings 162 = .ok (.ifCond .ne 7, 3) := dk_154 0 7 (dk_at dksX12_sings_7 0 rfl rfl)
theorem dX12_sings_165 : decode cX12_sings 165 = .ok (.iconst 1, 1) := dk_4 (dk_at dksX12_sings_7 3 rfl rfl)
theorem dX12_sings_166 : decode cX12_sings 166 = .ok (.goto 4, 3) := dk_167 0 4 (dk_at dksX12_sings_7 4 rfl rfl)
theorem dX12_sings_169 : decode cX12_sings 169 = .ok (.iconst 0, 1) := dk_3 (dk_at dksX12_sings_7 7 rfl rfl)
theorem dX12_sings_170 : decode cX12_sings 170 = .ok (.istore 6, 2) := dk_54 6 (dk_at dksX12_sings_7 8 rfl rfl)
theorem dX12_sings_172 : decode cX12_sings 172 = .ok (.iload 6, 2) := dk_21 6 (dk_at dksX12_sings_7 10 rfl rfl)
theorem dX12_sings_174 : decode cX12_sings 174 = .ok (.ifCond .eq 18, 3) := dk_153 0 18 (dk_at dksX12_sings_7 12 rfl rfl)
theorem dX12_sings_177 : decode cX12_sings 177 = .ok (.aload_n 0, 1) := dk_42 (dk_at dksX12_sings_7 15 rfl rfl)
theorem dX12_sings_178 : decode cX12_sings 178 = .ok (.getfield 56, 3) := dk_180 0 56 (dk_at dksX12_sings_7 16 rfl rfl)
theorem dX12_sings_181 : decode cX12_sings 181 = .ok (.iload_n 3, 1) := dk_29 (dk_at dksX12_sings_7 19 rfl rfl)
theorem dX12_sings_182 : decode cX12_sings 182 = .ok (.dup2, 1) := dk_92 (dk_at dksX12_sings_7 20 rfl rfl)
theorem dX12_sings_183 : decode cX12_sings 183 = .ok (.iaload, 1) := dk_46 (dk_at dksX12_sings_7 21 rfl rfl)
theorem dX12_sings_184 : decode cX12_sings 184 = .ok (.iconst 1, 1) := dk_4 (dk_at dksX12_sings_7 22 rfl rfl)
theorem dX12_sings_185 : decode cX12_sings 185 = .ok (.iload_n 1, 1) := dk_27 (dk_at dksX12_sings_7 23 rfl rfl)
theorem dX12_sings_186 : decode cX12_sings 186 = .ok (.ishl, 1) := dk_120 (dk_at dksX12_sings_8 0 rfl rfl)
theorem dX12_sings_187 : decode cX12_sings 187 = .ok (.ior, 1) := dk_128 (dk_at dksX12_sings_8 1 rfl rfl)
theorem dX12_sings_188 : decode cX12_sings 188 = .ok (.iastore, 1) := dk_79 (dk_at dksX12_sings_8 2 rfl rfl)
theorem dX12_sings_189 : decode cX12_sings 189 = .ok (.goto 15, 3) := dk_167 0 15 (dk_at dksX12_sings_8 3 rfl rfl)
theorem dX12_sings_192 : decode cX12_sings 192 = .ok (.aload_n 0, 1) := dk_42 (dk_at dksX12_sings_8 6 rfl rfl)
theorem dX12_sings_193 : decode cX12_sings 193 = .ok (.getfield 59, 3) := dk_180 0 59 (dk_at dksX12_sings_8 7 rfl rfl)
theorem dX12_sings_196 : decode cX12_sings 196 = .ok (.iload_n 3, 1) := dk_29 (dk_at dksX12_sings_8 10 rfl rfl)
theorem dX12_sings_197 : decode cX12_sings 197 = .ok (.dup2, 1) := dk_92 (dk_at dksX12_sings_8 11 rfl rfl)
theorem dX12_sings_198 : decode cX12_sings 198 = .ok (.iaload, 1) := dk_46 (dk_at dksX12_sings_8 12 rfl rfl)
theorem dX12_sings_199 : decode cX12_sings 199 = .ok (.iconst 1, 1) := dk_4 (dk_at dksX12_sings_8 13 rfl rfl)
theorem dX12_sings_200 : decode cX12_sings 200 = .ok (.iload_n 1, 1) := dk_27 (dk_at dksX12_sings_8 14 rfl rfl)
theorem dX12_sings_201 : decode cX12_sings 201 = .ok (.ishl, 1) := dk_120 (dk_at dksX12_sings_8 15 rfl rfl)
theorem dX12_sings_202 : decode cX12_sings 202 = .ok (.ior, 1) := dk_128 (dk_at dksX12_sings_8 16 rfl rfl)
theorem dX12_sings_203 : decode cX12_sings 203 = .ok (.iastore, 1) := dk_79 (dk_at dksX12_sings_8 17 rfl rfl)
theorem dX12_sings_204 : decode cX12_sings 204 = .ok (.return_, 1) := dk_177 (dk_at dksX12_sings_8 18 rfl rfl)
abbrev cX12_isEnough : ByteArray := prog_22_method_44_code
def yX12_isEnough : MethodName := ⟨RX12, "isEnough", "(III)Z"⟩
def dkwX12_isEnough_1 : List UInt8 := [180, 0, 62, 29, 46, 128, 182, 0, 202, 42, 27, 28, 182, 0, 205, 161, 0, 7, 4, 167, 0, 4, 3, 172]
abbrev dktX12_isEnough_1 : List UInt8 := dkwX12_isEnough_1 ++ []
def dkwX12_isEnough_0 : List UInt8 := [29, 156, 0, 7, 3, 167, 0, 28, 42, 27, 42, 180, 0, 56, 29, 46, 42, 180, 0, 59, 29, 46, 128, 42]
abbrev dktX12_isEnough_0 : List UInt8 := dkwX12_isEnough_0 ++ dktX12_isEnough_1
theorem dksX12_isEnough_0 : cX12_isEnough.data.toList.drop 0 = dktX12_isEnough_0 := by decide +kernel
theorem dksX12_isEnough_1 : cX12_isEnough.data.toList.drop 24 = dktX12_isEnough_1 := dk_seg dksX12_isEnough_0 24 rfl rfl
theorem dX12_isEnough_0 : decode cX12_isEnough 0 = .ok (.iload_n 3, 1) := dk_29 (dk_at dksX12_isEnough_0 0 rfl rfl)
theorem dX12_isEnough_1 : decode cX12_isEnough 1 = .ok (.ifCond .ge 7, 3) := dk_156 0 7 (dk_at dksX12_isEnough_0 1 rfl rfl)
theorem dX12_isEnough_4 : decode cX12_isEnough 4 = .ok (.iconst 0, 1) := dk_3 (dk_at dksX12_isEnough_0 4 rfl rfl)
theorem dX12_isEnough_5 : decode cX12_isEnough 5 = .ok (.goto 28, 3) := dk_167 0 28 (dk_at dksX12_isEnough_0 5 rfl rfl)
theorem dX12_isEnough_8 : decode cX12_isEnough 8 = .ok (.aload_n 0, 1) := dk_42 (dk_at dksX12_isEnough_0 8 rfl rfl)
theorem dX12_isEnough_9 : decode cX12_isEnough 9 = .ok (.iload_n 1, 1) := dk_27 (dk_at dksX12_isEnough_0 9 rfl rfl)
theorem dX12_isEnough_10 : decode cX12_isEnough 10 = .ok (.aload_n 0, 1) := dk_42 (dk_at dksX12_isEnough_0 10 rfl rfl)
theorem dX12_isEnough_11 : decode cX12_isEnough 11 = .ok (.getfield 56, 3) := dk_180 0 56 (dk_at dksX12_isEnough_0 11 rfl rfl)
theorem dX12_isEnough_14 : decode cX12_isEnough 14 = .ok (.iload_n 3, 1) := dk_29 (dk_at dksX12_isEnough_0 14 rfl rfl)
theorem dX12_isEnough_15 : decode cX12_isEnough 15 = .ok (.iaload, 1) := dk_46 (dk_at dksX12_isEnough_0 15 rfl rfl)
theorem dX12_isEnough_16 : decode cX12_isEnough 16 = .ok (.aload_n 0, 1) := dk_42 (dk_at dksX12_isEnough_0 16 rfl rfl)
theorem dX12_isEnough_17 : decode cX12_isEnough 17 = .ok (.getfield 59, 3) := dk_180 0 59 (dk_at dksX12_isEnough_0 17 rfl rfl)
theorem dX12_isEnough_20 : decode cX12_isEnough 20 = .ok (.iload_n 3, 1) := dk_29 (dk_at dksX12_isEnough_0 20 rfl rfl)
theorem dX12_isEnough_21 : decode cX12_isEnough 21 = .ok (.iaload, 1) := dk_46 (dk_at dksX12_isEnough_0 21 rfl rfl)
theorem dX12_isEnough_22 : decode cX12_isEnough 22 = .ok (.ior, 1) := dk_128 (dk_at dksX12_isEnough_0 22 rfl rfl)
theorem dX12_isEnough_23 : decode cX12_isEnough 23 = .ok (.aload_n 0, 1) := dk_42 (dk_at dksX12_isEnough_0 23 rfl rfl)
theorem dX12_isEnough_24 : decode cX12_isEnough 24 = .ok (.getfield 62, 3) := dk_180 0 62 (dk_at dksX12_isEnough_1 0 rfl rfl)
theorem dX12_isEnough_27 : decode cX12_isEnough 27 = .ok (.iload_n 3, 1) := dk_29 (dk_at dksX12_isEnough_1 3 rfl rfl)
theorem dX12_isEnough_28 : decode cX12_isEnough 28 = .ok (.iaload, 1) := dk_46 (dk_at dksX12_isEnough_1 4 rfl rfl)
theorem dX12_isEnough_29 : decode cX12_isEnough 29 = .ok (.ior, 1) := dk_128 (dk_at dksX12_isEnough_1 5 rfl rfl)
theorem dX12_isEnough_30 : decode cX12_isEnough 30 = .ok (.invokevirtual 202, 3) := dk_182 0 202 (dk_at dksX12_isEnough_1 6 rfl rfl)
theorem dX12_isEnough_33 : decode cX12_isEnough 33 = .ok (.aload_n 0, 1) := dk_42 (dk_at dksX12_isEnough_1 9 rfl rfl)
theorem dX12_isEnough_34 : decode cX12_isEnough 34 = .ok (.iload_n 1, 1) := dk_27 (dk_at dksX12_isEnough_1 10 rfl rfl)
theorem dX12_isEnough_35 : decode cX12_isEnough 35 = .ok (.iload_n 2, 1) := dk_28 (dk_at dksX12_isEnough_1 11 rfl rfl)
theorem dX12_isEnough_36 : decode cX12_isEnough 36 = .ok (.invokevirtual 205, 3) := dk_182 0 205 (dk_at dksX12_isEnough_1 12 rfl rfl)
theorem dX12_isEnough_39 : decode cX12_isEnough 39 = .ok (.if_icmp .lt 7, 3) := dk_161 0 7 (dk_at dksX12_isEnough_1 15 rfl rfl)
theorem dX12_isEnough_42 : decode cX12_isEnough 42 = .ok (.iconst 1, 1) := dk_4 (dk_at dksX12_isEnough_1 18 rfl rfl)
theorem dX12_isEnough_43 : decode cX12_isEnough 43 = .ok (.goto 4, 3) := dk_167 0 4 (dk_at dksX12_isEnough_1 19 rfl rfl)
theorem dX12_isEnough_46 : decode cX12_isEnough 46 = .ok (.iconst 0, 1) := dk_3 (dk_at dksX12_isEnough_1 22 rfl rfl)
theorem dX12_isEnough_47 : decode cX12_isEnough 47 = .ok (.ireturn, 1) := dk_172 (dk_at dksX12_isEnough_1 23 rfl rfl)
abbrev cX12_near : ByteArray := prog_22_method_43_code
def yX12_near : MethodName := ⟨RX12, "near", "(II)I"⟩
def dkwX12_near_1 : List UInt8 := [27, 21, 4, 182, 0, 199, 153, 0, 6, 132, 3, 1, 132, 4, 1, 167, 255, 222, 29, 172]
abbrev dktX12_near_1 : List UInt8 := dkwX12_near_1 ++ []
def dkwX12_near_0 : List UInt8 := [3, 62, 3, 54, 4, 21, 4, 42, 180, 0, 82, 162, 0, 31, 28, 21, 4, 184, 0, 187, 153, 0, 16, 42]
abbrev dktX12_near_0 : List UInt8 := dkwX12_near_0 ++ dktX12_near_1
theorem dksX12_near_0 : cX12_near.data.toList.drop 0 = dktX12_near_0 := by decide +kernel
theorem dksX12_near_1 : cX12_near.data.toList.drop 24 = dktX12_near_1 := dk_seg dksX12_near_0 24 rfl rfl
theorem dX12_near_0 : decode cX12_near 0 = .ok (.iconst 0, 1) := dk_3 (dk_at dksX12_near_0 0 rfl rfl)
theorem dX12_near_1 : decode cX12_near 1 = .ok (.istore_n 3, 1) := dk_62 (dk_at dksX12_near_0 1 rfl rfl)
theorem dX12_near_2 : decode cX12_near 2 = .ok (.iconst 0, 1) := dk_3 (dk_at dksX12_near_0 2 rfl rfl)
theorem dX12_near_3 : decode cX12_near 3 = .ok (.istore 4, 2) := dk_54 4 (dk_at dksX12_near_0 3 rfl rfl)
theorem dX12_near_5 : decode cX12_near 5 = .ok (.iload 4, 2) := dk_21 4 (dk_at dksX12_near_0 5 rfl rfl)
theorem dX12_near_7 : decode cX12_near 7 = .ok (.aload_n 0, 1) := dk_42 (dk_at dksX12_near_0 7 rfl rfl)
theorem dX12_near_8 : decode cX12_near 8 = .ok (.getfield 82, 3) := dk_180 0 82 (dk_at dksX12_near_0 8 rfl rfl)
theorem dX12_near_11 : decode cX12_near 11 = .ok (.if_icmp .ge 31, 3) := dk_162 0 31 (dk_at dksX12_near_0 11 rfl rfl)
theorem dX12_near_14 : decode cX12_near 14 = .ok (.iload_n 2, 1) := dk_28 (dk_at dksX12_near_0 14 rfl rfl)
theorem dX12_near_15 : decode cX12_near 15 = .ok (.iload 4, 2) := dk_21 4 (dk_at dksX12_near_0 15 rfl rfl)
theorem dX12_near_17 : decode cX12_near 17 = .ok (.invokestatic 187, 3) := dk_184 0 187 (dk_at dksX12_near_0 17 rfl rfl)
theorem dX12_near_20 : decode cX12_near 20 = .ok (.ifCond .eq 16, 3) := dk_153 0 16 (dk_at dksX12_near_0 20 rfl rfl)
theorem dX12_near_23 : decode cX12_near 23 = .ok (.aload_n 0, 1) := dk_42 (dk_at dksX12_near_0 23 rfl rfl)
theorem dX12_near_24 : decode cX12_near 24 = .ok (.iload_n 1, 1) := dk_27 (dk_at dksX12_near_1 0 rfl rfl)
theorem dX12_near_25 : decode cX12_near 25 = .ok (.iload 4, 2) := dk_21 4 (dk_at dksX12_near_1 1 rfl rfl)
theorem dX12_near_27 : decode cX12_near 27 = .ok (.invokevirtual 199, 3) := dk_182 0 199 (dk_at dksX12_near_1 3 rfl rfl)
theorem dX12_near_30 : decode cX12_near 30 = .ok (.ifCond .eq 6, 3) := dk_153 0 6 (dk_at dksX12_near_1 6 rfl rfl)
theorem dX12_near_33 : decode cX12_near 33 = .ok (.iinc 3 1, 3) := dk_132 3 1 (dk_at dksX12_near_1 9 rfl rfl)
theorem dX12_near_36 : decode cX12_near 36 = .ok (.iinc 4 1, 3) := dk_132 4 1 (dk_at dksX12_near_1 12 rfl rfl)
theorem dX12_near_39 : decode cX12_near 39 = .ok (.goto (-34), 3) := dk_167 255 222 (dk_at dksX12_near_1 15 rfl rfl)
theorem dX12_near_42 : decode cX12_near 42 = .ok (.iload_n 3, 1) := dk_29 (dk_at dksX12_near_1 18 rfl rfl)
theorem dX12_near_43 : decode cX12_near 43 = .ok (.ireturn, 1) := dk_172 (dk_at dksX12_near_1 19 rfl rfl)
abbrev cX12_has : ByteArray := prog_22_method_5_code
def yX12_has : MethodName := ⟨RX12, "has", "(II)Z"⟩
def dkwX12_has_0 : List UInt8 := [26, 27, 122, 4, 126, 4, 160, 0, 7, 4, 167, 0, 4, 3, 172]
abbrev dktX12_has_0 : List UInt8 := dkwX12_has_0 ++ []
theorem dksX12_has_0 : cX12_has.data.toList.drop 0 = dktX12_has_0 := by decide +kernel
theorem dX12_has_0 : decode cX12_has 0 = .ok (.iload_n 0, 1) := dk_26 (dk_at dksX12_has_0 0 rfl rfl)
theorem dX12_has_1 : decode cX12_has 1 = .ok (.iload_n 1, 1) := dk_27 (dk_at dksX12_has_0 1 rfl rfl)
theorem dX12_has_2 : decode cX12_has 2 = .ok (.ishr, 1) := dk_122 (dk_at dksX12_has_0 2 rfl rfl)
theorem dX12_has_3 : decode cX12_has 3 = .ok (.iconst 1, 1) := dk_4 (dk_at dksX12_has_0 3 rfl rfl)
theorem dX12_has_4 : decode cX12_has 4 = .ok (.iand, 1) := dk_126 (dk_at dksX12_has_0 4 rfl rfl)
theorem dX12_has_5 : decode cX12_has 5 = .ok (.iconst 1, 1) := dk_4 (dk_at dksX12_has_0 5 rfl rfl)
theorem dX12_has_6 : decode cX12_has 6 = .ok (.if_icmp .ne 7, 3) := dk_160 0 7 (dk_at dksX12_has_0 6 rfl rfl)
theorem dX12_has_9 : decode cX12_has 9 = .ok (.iconst 1, 1) := dk_4 (dk_at dksX12_has_0 9 rfl rfl)
theorem dX12_has_10 : decode cX12_has 10 = .ok (.goto 4, 3) := dk_167 0 4 (dk_at dksX12_has_0 10 rfl rfl)
theorem dX12_has_13 : decode cX12_has 13 = .ok (.iconst 0, 1) := dk_3 (dk_at dksX12_has_0 13 rfl rfl)
theorem dX12_has_14 : decode cX12_has 14 = .ok (.ireturn, 1) := dk_172 (dk_at dksX12_has_0 14 rfl rfl)
abbrev cX12_areNear : ByteArray := prog_22_method_42_code
def yX12_areNear : MethodName := ⟨RX12, "areNear", "(II)Z"⟩
def dkwX12_areNear_2 : List UInt8 := [28, 159, 0, 18, 29, 5, 162, 0, 13, 21, 4, 5, 162, 0, 7, 4, 167, 0, 4, 3, 172]
abbrev dktX12_areNear_2 : List UInt8 := dkwX12_areNear_2 ++ []
def dkwX12_areNear_1 : List UInt8 := [180, 0, 26, 27, 46, 16, 6, 112, 42, 180, 0, 26, 28, 46, 16, 6, 112, 100, 184, 0, 196, 54, 4, 27]
abbrev dktX12_areNear_1 : List UInt8 := dkwX12_areNear_1 ++ dktX12_areNear_2
def dkwX12_areNear_0 : List UInt8 := [42, 180, 0, 26, 27, 46, 16, 6, 108, 42, 180, 0, 26, 28, 46, 16, 6, 108, 100, 184, 0, 196, 62, 42]
abbrev dktX12_areNear_0 : List UInt8 := dkwX12_areNear_0 ++ dktX12_areNear_1
theorem dksX12_areNear_0 : cX12_areNear.data.toList.drop 0 = dktX12_areNear_0 := by decide +kernel
theorem dksX12_areNear_1 : cX12_areNear.data.toList.drop 24 = dktX12_areNear_1 := dk_seg dksX12_areNear_0 24 rfl rfl
theorem dksX12_areNear_2 : cX12_areNear.data.toList.drop 48 = dktX12_areNear_2 := dk_seg dksX12_areNear_1 24 rfl rfl
theorem dX12_areNear_0 : decode cX12_areNear 0 = .ok (.aload_n 0, 1) := dk_42 (dk_at dksX12_areNear_0 0 rfl rfl)
theorem dX12_areNear_1 : decode cX12_areNear 1 = .ok (.getfield 26, 3) := dk_180 0 26 (dk_at dksX12_areNear_0 1 rfl rfl)
theorem dX12_areNear_4 : decode cX12_areNear 4 = .ok (.iload_n 1, 1) := dk_27 (dk_at dksX12_areNear_0 4 rfl rfl)
theorem dX12_areNear_5 : decode cX12_areNear 5 = .ok (.iaload, 1) := dk_46 (dk_at dksX12_areNear_0 5 rfl rfl)
theorem dX12_areNear_6 : decode cX12_areNear 6 = .ok (.bipush 6, 2) := dk_16 6 (dk_at dksX12_areNear_0 6 rfl rfl)
theorem dX12_areNear_8 : decode cX12_areNear 8 = .ok (.idiv, 1) := dk_108 (dk_at dksX12_areNear_0 8 rfl rfl)
theorem dX12_areNear_9 : decode cX12_areNear 9 = .ok (.aload_n 0, 1) := dk_42 (dk_at dksX12_areNear_0 9 rfl rfl)
theorem dX12_areNear_10 : decode cX12_areNear 10 = .ok (.getfield 26, 3) := dk_180 0 26 (dk_at dksX12_areNear_0 10 rfl rfl)
theorem dX12_areNear_13 : decode cX12_areNear 13 = .ok (.iload_n 2, 1) := dk_28 (dk_at dksX12_areNear_0 13 rfl rfl)
theorem dX12_areNear_14 : decode cX12_areNear 14 = .ok (.iaload, 1) := dk_46 (dk_at dksX12_areNear_0 14 rfl rfl)
theorem dX12_areNear_15 : decode cX12_areNear 15 = .ok (.bipush 6, 2) := dk_16 6 (dk_at dksX12_areNear_0 15 rfl rfl)
theorem dX12_areNear_17 : decode cX12_areNear 17 = .ok (.idiv, 1) := dk_108 (dk_at dksX12_areNear_0 17 rfl rfl)
theorem dX12_areNear_18 : decode cX12_areNear 18 = .ok (.isub, 1) := dk_100 (dk_at dksX12_areNear_0 18 rfl rfl)
theorem dX12_areNear_19 : decode cX12_areNear 19 = .ok (.invokestatic 196, 3) := dk_184 0 196 (dk_at dksX12_areNear_0 19 rfl rfl)
theorem dX12_areNear_22 : decode cX12_areNear 22 = .ok (.istore_n 3, 1) := dk_62 (dk_at dksX12_areNear_0 22 rfl rfl)
theorem dX12_areNear_23 : decode cX12_areNear 23 = .ok (.aload_n 0, 1) := dk_42 (dk_at dksX12_areNear_0 23 rfl rfl)
theorem dX12_areNear_24 : decode cX12_areNear 24 = .ok (.getfield 26, 3) := dk_180 0 26 (dk_at dksX12_areNear_1 0 rfl rfl)
theorem dX12_areNear_27 : decode cX12_areNear 27 = .ok (.iload_n 1, 1) := dk_27 (dk_at dksX12_areNear_1 3 rfl rfl)
theorem dX12_areNear_28 : decode cX12_areNear 28 = .ok (.iaload, 1) := dk_46 (dk_at dksX12_areNear_1 4 rfl rfl)
theorem dX12_areNear_29 : decode cX12_areNear 29 = .ok (.bipush 6, 2) := dk_16 6 (dk_at dksX12_areNear_1 5 rfl rfl)
theorem dX12_areNear_31 : decode cX12_areNear 31 = .ok (.irem, 1) := dk_112 (dk_at dksX12_areNear_1 7 rfl rfl)
theorem dX12_areNear_32 : decode cX12_areNear 32 = .ok (.aload_n 0, 1) := dk_42 (dk_at dksX12_areNear_1 8 rfl rfl)
theorem dX12_areNear_33 : decode cX12_areNear 33 = .ok (.getfield 26, 3) := dk_180 0 26 (dk_at dksX12_areNear_1 9 rfl rfl)
theorem dX12_areNear_36 : decode cX12_areNear 36 = .ok (.iload_n 2, 1) := dk_28 (dk_at dksX12_areNear_1 12 rfl rfl)
theorem dX12_areNear_37 : decode cX12_areNear 37 = .ok (.iaload, 1) := dk_46 (dk_at dksX12_areNear_1 13 rfl rfl)
theorem dX12_areNear_38 : decode cX12_areNear 38 = .ok (.bipush 6, 2) := dk_16 6 (dk_at dksX12_areNear_1 14 rfl rfl)
theorem dX12_areNear_40 : decode cX12_areNear 40 = .ok (.irem, 1) := dk_112 (dk_at dksX12_areNear_1 16 rfl rfl)
theorem dX12_areNear_41 : decode cX12_areNear 41 = .ok (.isub, 1) := dk_100 (dk_at dksX12_areNear_1 17 rfl rfl)
theorem dX12_areNear_42 : decode cX12_areNear 42 = .ok (.invokestatic 196, 3) := dk_184 0 196 (dk_at dksX12_areNear_1 18 rfl rfl)
theorem dX12_areNear_45 : decode cX12_areNear 45 = .ok (.istore 4, 2) := dk_54 4 (dk_at dksX12_areNear_1 21 rfl rfl)
theorem dX12_areNear_47 : decode cX12_areNear 47 = .ok (.iload_n 1, 1) := dk_27 (dk_at dksX12_areNear_1 23 rfl rfl)
theorem dX12_areNear_48 : decode cX12_areNear 48 = .ok (.iload_n 2, 1) := dk_28 (dk_at dksX12_areNear_2 0 rfl rfl)
theorem dX12_areNear_49 : decode cX12_areNear 49 = .ok (.if_icmp .eq 18, 3) := dk_159 0 18 (dk_at dksX12_areNear_2 1 rfl rfl)
theorem dX12_areNear_52 : decode cX12_areNear 52 = .ok (.iload_n 3, 1) := dk_29 (dk_at dksX12_areNear_2 4 rfl rfl)
theorem dX12_areNear_53 : decode cX12_areNear 53 = .ok (.iconst 2, 1) := dk_5 (dk_at dksX12_areNear_2 5 rfl rfl)
theorem dX12_areNear_54 : decode cX12_areNear 54 = .ok (.if_icmp .ge 13, 3) := dk_162 0 13 (dk_at dksX12_areNear_2 6 rfl rfl)
theorem dX12_areNear_57 : decode cX12_areNear 57 = .ok (.iload 4, 2) := dk_21 4 (dk_at dksX12_areNear_2 9 rfl rfl)
theorem dX12_areNear_59 : decode cX12_areNear 59 = .ok (.iconst 2, 1) := dk_5 (dk_at dksX12_areNear_2 11 rfl rfl)
theorem dX12_areNear_60 : decode cX12_areNear 60 = .ok (.if_icmp .ge 7, 3) := dk_162 0 7 (dk_at dksX12_areNear_2 12 rfl rfl)
theorem dX12_areNear_63 : decode cX12_areNear 63 = .ok (.iconst 1, 1) := dk_4 (dk_at dksX12_areNear_2 15 rfl rfl)
theorem dX12_areNear_64 : decode cX12_areNear 64 = .ok (.goto 4, 3) := dk_167 0 4 (dk_at dksX12_areNear_2 16 rfl rfl)
theorem dX12_areNear_67 : decode cX12_areNear 67 = .ok (.iconst 0, 1) := dk_3 (dk_at dksX12_areNear_2 19 rfl rfl)
theorem dX12_areNear_68 : decode cX12_areNear 68 = .ok (.ireturn, 1) := dk_172 (dk_at dksX12_areNear_2 20 rfl rfl)
abbrev cX12_need : ByteArray := prog_22_method_41_code
def yX12_need : MethodName := ⟨RX12, "need", "(II)I"⟩
def dkwX12_need_4 : List UInt8 := [180, 0, 29, 27, 46, 100, 184, 0, 190, 172]
abbrev dktX12_need_4 : List UInt8 := dkwX12_need_4 ++ []
def dkwX12_need_3 : List UInt8 := [172, 29, 153, 0, 18, 3, 5, 42, 180, 0, 29, 27, 46, 100, 184, 0, 190, 167, 0, 15, 4, 7, 42]
abbrev dktX12_need_3 : List UInt8 := dkwX12_need_3 ++ dktX12_need_4
def dkwX12_need_2 : List UInt8 := [42, 180, 0, 23, 27, 46, 172, 3, 172, 42, 180, 0, 20, 27, 46, 4, 160, 0, 9, 29, 153, 0, 5, 3]
abbrev dktX12_need_2 : List UInt8 := dkwX12_need_2 ++ dktX12_need_3
def dkwX12_need_1 : List UInt8 := [170, 0, 0, 0, 0, 0, 40, 0, 0, 0, 2, 0, 0, 0, 5, 0, 0, 0, 31, 0, 0, 0, 38, 0, 0, 0, 40, 0, 0, 0, 31]
abbrev dktX12_need_1 : List UInt8 := dkwX12_need_1 ++ dktX12_need_2
def dkwX12_need_0 : List UInt8 := [42, 180, 0, 35, 27, 46, 28, 184, 0, 187, 62, 42, 180, 0, 20, 27, 46]
abbrev dktX12_need_0 : List UInt8 := dkwX12_need_0 ++ dktX12_need_1
theorem dksX12_need_0 : cX12_need.data.toList.drop 0 = dktX12_need_0 := by decide +kernel
theorem dksX12_need_1 : cX12_need.data.toList.drop 17 = dktX12_need_1 := dk_seg dksX12_need_0 17 rfl rfl
theorem dksX12_need_2 : cX12_need.data.toList.drop 48 = dktX12_need_2 := dk_seg dksX12_need_1 31 rfl rfl
theorem dksX12_need_3 : cX12_need.data.toList.drop 72 = dktX12_need_3 := dk_seg dksX12_need_2 24 rfl rfl
theorem dksX12_need_4 : cX12_need.data.toList.drop 95 = dktX12_need_4 := dk_seg dksX12_need_3 23 rfl rfl
theorem dX12_need_0 : decode cX12_need 0 = .ok (.aload_n 0, 1) := dk_42 (dk_at dksX12_need_0 0 rfl rfl)
theorem dX12_need_1 : decode cX12_need 1 = .ok (.getfield 35, 3) := dk_180 0 35 (dk_at dksX12_need_0 1 rfl rfl)
theorem dX12_need_4 : decode cX12_need 4 = .ok (.iload_n 1, 1) := dk_27 (dk_at dksX12_need_0 4 rfl rfl)
theorem dX12_need_5 : decode cX12_need 5 = .ok (.iaload, 1) := dk_46 (dk_at dksX12_need_0 5 rfl rfl)
theorem dX12_need_6 : decode cX12_need 6 = .ok (.iload_n 2, 1) := dk_28 (dk_at dksX12_need_0 6 rfl rfl)
theorem dX12_need_7 : decode cX12_need 7 = .ok (.invokestatic 187, 3) := dk_184 0 187 (dk_at dksX12_need_0 7 rfl rfl)
theorem dX12_need_10 : decode cX12_need 10 = .ok (.istore_n 3, 1) := dk_62 (dk_at dksX12_need_0 10 rfl rfl)
theorem dX12_need_11 : decode cX12_need 11 = .ok (.aload_n 0, 1) := dk_42 (dk_at dksX12_need_0 11 rfl rfl)
theorem dX12_need_12 : decode cX12_need 12 = .ok (.getfield 20, 3) := dk_180 0 20 (dk_at dksX12_need_0 12 rfl rfl)
theorem dX12_need_15 : decode cX12_need 15 = .ok (.iload_n 1, 1) := dk_27 (dk_at dksX12_need_0 15 rfl rfl)
theorem dX12_need_16 : decode cX12_need 16 = .ok (.iaload, 1) := dk_46 (dk_at dksX12_need_0 16 rfl rfl)
theorem dX12_need_17 : decode cX12_need 17 = .ok (.tableswitch 40 2 5 #[31, 38, 40, 31], 31) := by decide +kernel
theorem dX12_need_48 : decode cX12_need 48 = .ok (.aload_n 0, 1) := dk_42 (dk_at dksX12_need_2 0 rfl rfl)
theorem dX12_need_49 : decode cX12_need 49 = .ok (.getfield 23, 3) := dk_180 0 23 (dk_at dksX12_need_2 1 rfl rfl)
theorem dX12_need_52 : decode cX12_need 52 = .ok (.iload_n 1, 1) := dk_27 (dk_at dksX12_need_2 4 rfl rfl)
theorem dX12_need_53 : decode cX12_need 53 = .ok (.iaload, 1) := dk_46 (dk_at dksX12_need_2 5 rfl rfl)
theorem dX12_need_54 : decode cX12_need 54 = .ok (.ireturn, 1) := dk_172 (dk_at dksX12_need_2 6 rfl rfl)
theorem dX12_need_55 : decode cX12_need 55 = .ok (.iconst 0, 1) := dk_3 (dk_at dksX12_need_2 7 rfl rfl)
theorem dX12_need_56 : decode cX12_need 56 = .ok (.ireturn, 1) := dk_172 (dk_at dksX12_need_2 8 rfl rfl)
theorem dX12_need_57 : decode cX12_need 57 = .ok (.aload_n 0, 1) := dk_42 (dk_at dksX12_need_2 9 rfl rfl)
theorem dX12_need_58 : decode cX12_need 58 = .ok (.getfield 20, 3) := dk_180 0 20 (dk_at dksX12_need_2 10 rfl rfl)
theorem dX12_need_61 : decode cX12_need 61 = .ok (.iload_n 1, 1) := dk_27 (dk_at dksX12_need_2 13 rfl rfl)
theorem dX12_need_62 : decode cX12_need 62 = .ok (.iaload, 1) := dk_46 (dk_at dksX12_need_2 14 rfl rfl)
theorem dX12_need_63 : decode cX12_need 63 = .ok (.iconst 1, 1) := dk_4 (dk_at dksX12_need_2 15 rfl rfl)
theorem dX12_need_64 : decode cX12_need 64 = .ok (.if_icmp .ne 9, 3) := dk_160 0 9 (dk_at dksX12_need_2 16 rfl rfl)
theorem dX12_need_67 : decode cX12_need 67 = .ok (.iload_n 3, 1) := dk_29 (dk_at dksX12_need_2 19 rfl rfl)
theorem dX12_need_68 : decode cX12_need 68 = .ok (.ifCond .eq 5, 3) := dk_153 0 5 (dk_at dksX12_need_2 20 rfl rfl)
theorem dX12_need_71 : decode cX12_need 71 = .ok (.iconst 0, 1) := dk_3 (dk_at dksX12_need_2 23 rfl rfl)
theorem dX12_need_72 : decode cX12_need 72 = .ok (.ireturn, 1) := dk_172 (dk_at dksX12_need_3 0 rfl rfl)
theorem dX12_need_73 : decode cX12_need 73 = .ok (.iload_n 3, 1) := dk_29 (dk_at dksX12_need_3 1 rfl rfl)
theorem dX12_need_74 : decode cX12_need 74 = .ok (.ifCond .eq 18, 3) := dk_153 0 18 (dk_at dksX12_need_3 2 rfl rfl)
theorem dX12_need_77 : decode cX12_need 77 = .ok (.iconst 0, 1) := dk_3 (dk_at dksX12_need_3 5 rfl rfl)
theorem dX12_need_78 : decode cX12_need 78 = .ok (.iconst 2, 1) := dk_5 (dk_at dksX12_need_3 6 rfl rfl)
theorem dX12_need_79 : decode cX12_need 79 = .ok (.aload_n 0, 1) := dk_42 (dk_at dksX12_need_3 7 rfl rfl)
theorem dX12_need_80 : decode cX12_need 80 = .ok (.getfield 29, 3) := dk_180 0 29 (dk_at dksX12_need_3 8 rfl rfl)
theorem dX12_need_83 : decode cX12_need 83 = .ok (.iload_n 1, 1) := dk_27 (dk_at dksX12_need_3 11 rfl rfl)
theorem dX12_need_84 : decode cX12_need 84 = .ok (.iaload, 1) := dk_46 (dk_at dksX12_need_3 12 rfl rfl)
theorem dX12_need_85 : decode cX12_need 85 = .ok (.isub, 1) := dk_100 (dk_at dksX12_need_3 13 rfl rfl)
theorem dX12_need_86 : decode cX12_need 86 = .ok (.invokestatic 190, 3) := dk_184 0 190 (dk_at dksX12_need_3 14 rfl rfl)
theorem dX12_need_89 : decode cX12_need 89 = .ok (.goto 15, 3) := dk_167 0 15 (dk_at dksX12_need_3 17 rfl rfl)
theorem dX12_need_92 : decode cX12_need 92 = .ok (.iconst 1, 1) := dk_4 (dk_at dksX12_need_3 20 rfl rfl)
theorem dX12_need_93 : decode cX12_need 93 = .ok (.iconst 4, 1) := dk_7 (dk_at dksX12_need_3 21 rfl rfl)
theorem dX12_need_94 : decode cX12_need 94 = .ok (.aload_n 0, 1) := dk_42 (dk_at dksX12_need_3 22 rfl rfl)
theorem dX12_need_95 : decode cX12_need 95 = .ok (.getfield 29, 3) := dk_180 0 29 (dk_at dksX12_need_4 0 rfl rfl)
theorem dX12_need_98 : decode cX12_need 98 = .ok (.iload_n 1, 1) := dk_27 (dk_at dksX12_need_4 3 rfl rfl)
theorem dX12_need_99 : decode cX12_need 99 = .ok (.iaload, 1) := dk_46 (dk_at dksX12_need_4 4 rfl rfl)
theorem dX12_need_100 : decode cX12_need 100 = .ok (.isub, 1) := dk_100 (dk_at dksX12_need_4 5 rfl rfl)
theorem dX12_need_101 : decode cX12_need 101 = .ok (.invokestatic 190, 3) := dk_184 0 190 (dk_at dksX12_need_4 6 rfl rfl)
theorem dX12_need_104 : decode cX12_need 104 = .ok (.ireturn, 1) := dk_172 (dk_at dksX12_need_4 9 rfl rfl)
abbrev cX12_needs : ByteArray := prog_22_method_48_code
def yX12_needs : MethodName := ⟨RX12, "needs", "(II)I"⟩
def dkwX12_needs_1 : List UInt8 := [167, 0, 8, 42, 2, 182, 0, 78, 172]
abbrev dktX12_needs_1 : List UInt8 := dkwX12_needs_1 ++ []
def dkwX12_needs_0 : List UInt8 := [42, 27, 182, 0, 102, 153, 0, 20, 42, 28, 182, 0, 127, 153, 0, 12, 42, 27, 28, 182, 0, 205]
abbrev dktX12_needs_0 : List UInt8 := dkwX12_needs_0 ++ dktX12_needs_1
theorem dksX12_needs_0 : cX12_needs.data.toList.drop 0 = dktX12_needs_0 := by decide +kernel
theorem dksX12_needs_1 : cX12_needs.data.toList.drop 22 = dktX12_needs_1 := dk_seg dksX12_needs_0 22 rfl rfl
theorem dX12_needs_0 : decode cX12_needs 0 = .ok (.aload_n 0, 1) := dk_42 (dk_at dksX12_needs_0 0 rfl rfl)
theorem dX12_needs_1 : decode cX12_needs 1 = .ok (.iload_n 1, 1) := dk_27 (dk_at dksX12_needs_0 1 rfl rfl)
theorem dX12_needs_2 : decode cX12_needs 2 = .ok (.invokevirtual 102, 3) := dk_182 0 102 (dk_at dksX12_needs_0 2 rfl rfl)
theorem dX12_needs_5 : decode cX12_needs 5 = .ok (.ifCond .eq 20, 3) := dk_153 0 20 (dk_at dksX12_needs_0 5 rfl rfl)
theorem dX12_needs_8 : decode cX12_needs 8 = .ok (.aload_n 0, 1) := dk_42 (dk_at dksX12_needs_0 8 rfl rfl)
theorem dX12_needs_9 : decode cX12_needs 9 = .ok (.iload_n 2, 1) := dk_28 (dk_at dksX12_needs_0 9 rfl rfl)
theorem dX12_needs_10 : decode cX12_needs 10 = .ok (.invokevirtual 127, 3) := dk_182 0 127 (dk_at dksX12_needs_0 10 rfl rfl)
theorem dX12_needs_13 : decode cX12_needs 13 = .ok (.ifCond .eq 12, 3) := dk_153 0 12 (dk_at dksX12_needs_0 13 rfl rfl)
theorem dX12_needs_16 : decode cX12_needs 16 = .ok (.aload_n 0, 1) := dk_42 (dk_at dksX12_needs_0 16 rfl rfl)
theorem dX12_needs_17 : decode cX12_needs 17 = .ok (.iload_n 1, 1) := dk_27 (dk_at dksX12_needs_0 17 rfl rfl)
theorem dX12_needs_18 : decode cX12_needs 18 = .ok (.iload_n 2, 1) := dk_28 (dk_at dksX12_needs_0 18 rfl rfl)
theorem dX12_needs_19 : decode cX12_needs 19 = .ok (.invokevirtual 205, 3) := dk_182 0 205 (dk_at dksX12_needs_0 19 rfl rfl)
theorem dX12_needs_22 : decode cX12_needs 22 = .ok (.goto 8, 3) := dk_167 0 8 (dk_at dksX12_needs_1 0 rfl rfl)
theorem dX12_needs_25 : decode cX12_needs 25 = .ok (.aload_n 0, 1) := dk_42 (dk_at dksX12_needs_1 3 rfl rfl)
theorem dX12_needs_26 : decode cX12_needs 26 = .ok (.iconst (-1), 1) := dk_2 (dk_at dksX12_needs_1 4 rfl rfl)
theorem dX12_needs_27 : decode cX12_needs 27 = .ok (.invokevirtual 78, 3) := dk_182 0 78 (dk_at dksX12_needs_1 5 rfl rfl)
theorem dX12_needs_30 : decode cX12_needs 30 = .ok (.ireturn, 1) := dk_172 (dk_at dksX12_needs_1 8 rfl rfl)
abbrev cX12_verse : ByteArray := prog_22_method_52_code
def yX12_verse : MethodName := ⟨RX12, "verse", "(III)I"⟩
def dkwX12_verse_2 : List UInt8 := [42, 27, 28, 182, 0, 230, 167, 0, 9, 42, 27, 28, 182, 0, 233, 172]
abbrev dktX12_verse_2 : List UInt8 := dkwX12_verse_2 ++ []
def dkwX12_verse_1 : List UInt8 := [16, 251, 182, 0, 227, 172, 28, 184, 0, 215, 154, 0, 10, 42, 16, 250, 182, 0, 227, 172, 29, 154, 0, 12]
abbrev dktX12_verse_1 : List UInt8 := dkwX12_verse_1 ++ dktX12_verse_2
def dkwX12_verse_0 : List UInt8 := [42, 27, 182, 0, 127, 154, 0, 9, 42, 2, 182, 0, 227, 172, 29, 3, 4, 184, 0, 85, 154, 0, 10, 42]
abbrev dktX12_verse_0 : List UInt8 := dkwX12_verse_0 ++ dktX12_verse_1
theorem dksX12_verse_0 : cX12_verse.data.toList.drop 0 = dktX12_verse_0 := by decide +kernel
theorem dksX12_verse_1 : cX12_verse.data.toList.drop 24 = dktX12_verse_1 := dk_seg dksX12_verse_0 24 rfl rfl
theorem dksX12_verse_2 : cX12_verse.data.toList.drop 48 = dktX12_verse_2 := dk_seg dksX12_verse_1 24 rfl rfl
theorem dX12_verse_0 : decode cX12_verse 0 = .ok (.aload_n 0, 1) := dk_42 (dk_at dksX12_verse_0 0 rfl rfl)
theorem dX12_verse_1 : decode cX12_verse 1 = .ok (.iload_n 1, 1) := dk_27 (dk_at dksX12_verse_0 1 rfl rfl)
theorem dX12_verse_2 : decode cX12_verse 2 = .ok (.invokevirtual 127, 3) := dk_182 0 127 (dk_at dksX12_verse_0 2 rfl rfl)
theorem dX12_verse_5 : decode cX12_verse 5 = .ok (.ifCond .ne 9, 3) := dk_154 0 9 (dk_at dksX12_verse_0 5 rfl rfl)
theorem dX12_verse_8 : decode cX12_verse 8 = .ok (.aload_n 0, 1) := dk_42 (dk_at dksX12_verse_0 8 rfl rfl)
theorem dX12_verse_9 : decode cX12_verse 9 = .ok (.iconst (-1), 1) := dk_2 (dk_at dksX12_verse_0 9 rfl rfl)
theorem dX12_verse_10 : decode cX12_verse 10 = .ok (.invokevirtual 227, 3) := dk_182 0 227 (dk_at dksX12_verse_0 10 rfl rfl)
theorem dX12_verse_13 : decode cX12_verse 13 = .ok (.ireturn, 1) := dk_172 (dk_at dksX12_verse_0 13 rfl rfl)
theorem dX12_verse_14 : decode cX12_verse 14 = .ok (.iload_n 3, 1) := dk_29 (dk_at dksX12_verse_0 14 rfl rfl)
theorem dX12_verse_15 : decode cX12_verse 15 = .ok (.iconst 0, 1) := dk_3 (dk_at dksX12_verse_0 15 rfl rfl)
theorem dX12_verse_16 : decode cX12_verse 16 = .ok (.iconst 1, 1) := dk_4 (dk_at dksX12_verse_0 16 rfl rfl)
theorem dX12_verse_17 : decode cX12_verse 17 = .ok (.invokestatic 85, 3) := dk_184 0 85 (dk_at dksX12_verse_0 17 rfl rfl)
theorem dX12_verse_20 : decode cX12_verse 20 = .ok (.ifCond .ne 10, 3) := dk_154 0 10 (dk_at dksX12_verse_0 20 rfl rfl)
theorem dX12_verse_23 : decode cX12_verse 23 = .ok (.aload_n 0, 1) := dk_42 (dk_at dksX12_verse_0 23 rfl rfl)
theorem dX12_verse_24 : decode cX12_verse 24 = .ok (.bipush (-5), 2) := dk_16 251 (dk_at dksX12_verse_1 0 rfl rfl)
theorem dX12_verse_26 : decode cX12_verse 26 = .ok (.invokevirtual 227, 3) := dk_182 0 227 (dk_at dksX12_verse_1 2 rfl rfl)
theorem dX12_verse_29 : decode cX12_verse 29 = .ok (.ireturn, 1) := dk_172 (dk_at dksX12_verse_1 5 rfl rfl)
theorem dX12_verse_30 : decode cX12_verse 30 = .ok (.iload_n 2, 1) := dk_28 (dk_at dksX12_verse_1 6 rfl rfl)
theorem dX12_verse_31 : decode cX12_verse 31 = .ok (.invokestatic 215, 3) := dk_184 0 215 (dk_at dksX12_verse_1 7 rfl rfl)
theorem dX12_verse_34 : decode cX12_verse 34 = .ok (.ifCond .ne 10, 3) := dk_154 0 10 (dk_at dksX12_verse_1 10 rfl rfl)
theorem dX12_verse_37 : decode cX12_verse 37 = .ok (.aload_n 0, 1) := dk_42 (dk_at dksX12_verse_1 13 rfl rfl)
theorem dX12_verse_38 : decode cX12_verse 38 = .ok (.bipush (-6), 2) := dk_16 250 (dk_at dksX12_verse_1 14 rfl rfl)
theorem dX12_verse_40 : decode cX12_verse 40 = .ok (.invokevirtual 227, 3) := dk_182 0 227 (dk_at dksX12_verse_1 16 rfl rfl)
theorem dX12_verse_43 : decode cX12_verse 43 = .ok (.ireturn, 1) := dk_172 (dk_at dksX12_verse_1 19 rfl rfl)
theorem dX12_verse_44 : decode cX12_verse 44 = .ok (.iload_n 3, 1) := dk_29 (dk_at dksX12_verse_1 20 rfl rfl)
theorem dX12_verse_45 : decode cX12_verse 45 = .ok (.ifCond .ne 12, 3) := dk_154 0 12 (dk_at dksX12_verse_1 21 rfl rfl)
theorem dX12_verse_48 : decode cX12_verse 48 = .ok (.aload_n 0, 1) := dk_42 (dk_at dksX12_verse_2 0 rfl rfl)
theorem dX12_verse_49 : decode cX12_verse 49 = .ok (.iload_n 1, 1) := dk_27 (dk_at dksX12_verse_2 1 rfl rfl)
theorem dX12_verse_50 : decode cX12_verse 50 = .ok (.iload_n 2, 1) := dk_28 (dk_at dksX12_verse_2 2 rfl rfl)
theorem dX12_verse_51 : decode cX12_verse 51 = .ok (.invokevirtual 230, 3) := dk_182 0 230 (dk_at dksX12_verse_2 3 rfl rfl)
theorem dX12_verse_54 : decode cX12_verse 54 = .ok (.goto 9, 3) := dk_167 0 9 (dk_at dksX12_verse_2 6 rfl rfl)
theorem dX12_verse_57 : decode cX12_verse 57 = .ok (.aload_n 0, 1) := dk_42 (dk_at dksX12_verse_2 9 rfl rfl)
theorem dX12_verse_58 : decode cX12_verse 58 = .ok (.iload_n 1, 1) := dk_27 (dk_at dksX12_verse_2 10 rfl rfl)
theorem dX12_verse_59 : decode cX12_verse 59 = .ok (.iload_n 2, 1) := dk_28 (dk_at dksX12_verse_2 11 rfl rfl)
theorem dX12_verse_60 : decode cX12_verse 60 = .ok (.invokevirtual 233, 3) := dk_182 0 233 (dk_at dksX12_verse_2 12 rfl rfl)
theorem dX12_verse_63 : decode cX12_verse 63 = .ok (.ireturn, 1) := dk_172 (dk_at dksX12_verse_2 15 rfl rfl)
abbrev cX12_no10 : ByteArray := prog_22_method_3_code
def yX12_no10 : MethodName := ⟨RX12, "no10", "(I)I"⟩
def dkwX12_no10_0 : List UInt8 := [42, 27, 182, 0, 78, 16, 10, 100, 172]
abbrev dktX12_no10_0 : List UInt8 := dkwX12_no10_0 ++ []
theorem dksX12_no10_0 : cX12_no10.data.toList.drop 0 = dktX12_no10_0 := by decide +kernel
theorem dX12_no10_0 : decode cX12_no10 0 = .ok (.aload_n 0, 1) := dk_42 (dk_at dksX12_no10_0 0 rfl rfl)
theorem dX12_no10_1 : decode cX12_no10 1 = .ok (.iload_n 1, 1) := dk_27 (dk_at dksX12_no10_0 1 rfl rfl)
theorem dX12_no10_2 : decode cX12_no10 2 = .ok (.invokevirtual 78, 3) := dk_182 0 78 (dk_at dksX12_no10_0 2 rfl rfl)
theorem dX12_no10_5 : decode cX12_no10 5 = .ok (.bipush 10, 2) := dk_16 10 (dk_at dksX12_no10_0 5 rfl rfl)
theorem dX12_no10_7 : decode cX12_no10 7 = .ok (.isub, 1) := dk_100 (dk_at dksX12_no10_0 7 rfl rfl)
theorem dX12_no10_8 : decode cX12_no10 8 = .ok (.ireturn, 1) := dk_172 (dk_at dksX12_no10_0 8 rfl rfl)
abbrev cX12_catches : ByteArray := prog_22_method_49_code
def yX12_catches : MethodName := ⟨RX12, "catches", "(II)I"⟩
def dkwX12_catches_1 : List UInt8 := [184, 0, 112, 104, 42, 180, 0, 82, 161, 0, 5, 29, 172, 132, 3, 1, 167, 255, 227, 2, 172]
abbrev dktX12_catches_1 : List UInt8 := dkwX12_catches_1 ++ []
def dkwX12_catches_0 : List UInt8 := [42, 27, 28, 16, 40, 182, 0, 221, 3, 62, 29, 16, 41, 162, 0, 29, 5, 42, 180, 0, 56, 29, 46]
abbrev dktX12_catches_0 : List UInt8 := dkwX12_catches_0 ++ dktX12_catches_1
theorem dksX12_catches_0 : cX12_catches.data.toList.drop 0 = dktX12_catches_0 := by decide +kernel
theorem dksX12_catches_1 : cX12_catches.data.toList.drop 23 = dktX12_catches_1 := dk_seg dksX12_catches_0 23 rfl rfl
theorem dX12_catches_0 : decode cX12_catches 0 = .ok (.aload_n 0, 1) := dk_42 (dk_at dksX12_catches_0 0 rfl rfl)
theorem dX12_catches_1 : decode cX12_catches 1 = .ok (.iload_n 1, 1) := dk_27 (dk_at dksX12_catches_0 1 rfl rfl)
theorem dX12_catches_2 : decode cX12_catches 2 = .ok (.iload_n 2, 1) := dk_28 (dk_at dksX12_catches_0 2 rfl rfl)
theorem dX12_catches_3 : decode cX12_catches 3 = .ok (.bipush 40, 2) := dk_16 40 (dk_at dksX12_catches_0 3 rfl rfl)
theorem dX12_catches_5 : decode cX12_catches 5 = .ok (.invokevirtual 221, 3) := dk_182 0 221 (dk_at dksX12_catches_0 5 rfl rfl)
theorem dX12_catches_8 : decode cX12_catches 8 = .ok (.iconst 0, 1) := dk_3 (dk_at dksX12_catches_0 8 rfl rfl)
theorem dX12_catches_9 : decode cX12_catches 9 = .ok (.istore_n 3, 1) := dk_62 (dk_at dksX12_catches_0 9 rfl rfl)
theorem dX12_catches_10 : decode cX12_catches 10 = .ok (.iload_n 3, 1) := dk_29 (dk_at dksX12_catches_0 10 rfl rfl)
theorem dX12_catches_11 : decode cX12_catches 11 = .ok (.bipush 41, 2) := dk_16 41 (dk_at dksX12_catches_0 11 rfl rfl)
theorem dX12_catches_13 : decode cX12_catches 13 = .ok (.if_icmp .ge 29, 3) := dk_162 0 29 (dk_at dksX12_catches_0 13 rfl rfl)
theorem dX12_catches_16 : decode cX12_catches 16 = .ok (.iconst 2, 1) := dk_5 (dk_at dksX12_catches_0 16 rfl rfl)
theorem dX12_catches_17 : decode cX12_catches 17 = .ok (.aload_n 0, 1) := dk_42 (dk_at dksX12_catches_0 17 rfl rfl)
theorem dX12_catches_18 : decode cX12_catches 18 = .ok (.getfield 56, 3) := dk_180 0 56 (dk_at dksX12_catches_0 18 rfl rfl)
theorem dX12_catches_21 : decode cX12_catches 21 = .ok (.iload_n 3, 1) := dk_29 (dk_at dksX12_catches_0 21 rfl rfl)
theorem dX12_catches_22 : decode cX12_catches 22 = .ok (.iaload, 1) := dk_46 (dk_at dksX12_catches_0 22 rfl rfl)
theorem dX12_catches_23 : decode cX12_catches 23 = .ok (.invokestatic 112, 3) := dk_184 0 112 (dk_at dksX12_catches_1 0 rfl rfl)
theorem dX12_catches_26 : decode cX12_catches 26 = .ok (.imul, 1) := dk_104 (dk_at dksX12_catches_1 3 rfl rfl)
theorem dX12_catches_27 : decode cX12_catches 27 = .ok (.aload_n 0, 1) := dk_42 (dk_at dksX12_catches_1 4 rfl rfl)
theorem dX12_catches_28 : decode cX12_catches 28 = .ok (.getfield 82, 3) := dk_180 0 82 (dk_at dksX12_catches_1 5 rfl rfl)
theorem dX12_catches_31 : decode cX12_catches 31 = .ok (.if_icmp .lt 5, 3) := dk_161 0 5 (dk_at dksX12_catches_1 8 rfl rfl)
theorem dX12_catches_34 : decode cX12_catches 34 = .ok (.iload_n 3, 1) := dk_29 (dk_at dksX12_catches_1 11 rfl rfl)
theorem dX12_catches_35 : decode cX12_catches 35 = .ok (.ireturn, 1) := dk_172 (dk_at dksX12_catches_1 12 rfl rfl)
theorem dX12_catches_36 : decode cX12_catches 36 = .ok (.iinc 3 1, 3) := dk_132 3 1 (dk_at dksX12_catches_1 13 rfl rfl)
theorem dX12_catches_39 : decode cX12_catches 39 = .ok (.goto (-29), 3) := dk_167 255 227 (dk_at dksX12_catches_1 16 rfl rfl)
theorem dX12_catches_42 : decode cX12_catches 42 = .ok (.iconst (-1), 1) := dk_2 (dk_at dksX12_catches_1 19 rfl rfl)
theorem dX12_catches_43 : decode cX12_catches 43 = .ok (.ireturn, 1) := dk_172 (dk_at dksX12_catches_1 20 rfl rfl)
abbrev cX12_settles : ByteArray := prog_22_method_51_code
def yX12_settles : MethodName := ⟨RX12, "settles", "(II)I"⟩
def dkwX12_settles_2 : List UInt8 := [153, 0, 5, 29, 172, 132, 3, 1, 167, 255, 212, 2, 172]
abbrev dktX12_settles_2 : List UInt8 := dkwX12_settles_2 ++ []
def dkwX12_settles_1 : List UInt8 := [153, 0, 27, 42, 29, 29, 5, 96, 182, 0, 224, 153, 0, 16, 42, 29, 29, 6, 96, 182, 0, 224]
abbrev dktX12_settles_1 : List UInt8 := dkwX12_settles_1 ++ dktX12_settles_2
def dkwX12_settles_0 : List UInt8 := [42, 27, 28, 16, 43, 182, 0, 221, 3, 62, 29, 16, 41, 162, 0, 44, 42, 29, 29, 4, 96, 182, 0, 224]
abbrev dktX12_settles_0 : List UInt8 := dkwX12_settles_0 ++ dktX12_settles_1
theorem dksX12_settles_0 : cX12_settles.data.toList.drop 0 = dktX12_settles_0 := by decide +kernel
theorem dksX12_settles_1 : cX12_settles.data.toList.drop 24 = dktX12_settles_1 := dk_seg dksX12_settles_0 24 rfl rfl
theorem dksX12_settles_2 : cX12_settles.data.toList.drop 46 = dktX12_settles_2 := dk_seg dksX12_settles_1 22 rfl rfl
theorem dX12_settles_0 : decode cX12_settles 0 = .ok (.aload_n 0, 1) := dk_42 (dk_at dksX12_settles_0 0 rfl rfl)
theorem dX12_settles_1 : decode cX12_settles 1 = .ok (.iload_n 1, 1) := dk_27 (dk_at dksX12_settles_0 1 rfl rfl)
theorem dX12_settles_2 : decode cX12_settles 2 = .ok (.iload_n 2, 1) := dk_28 (dk_at dksX12_settles_0 2 rfl rfl)
theorem dX12_settles_3 : decode cX12_settles 3 = .ok (.bipush 43, 2) := dk_16 43 (dk_at dksX12_settles_0 3 rfl rfl)
theorem dX12_settles_5 : decode cX12_settles 5 = .ok (.invokevirtual 221, 3) := dk_182 0 221 (dk_at dksX12_settles_0 5 rfl rfl)
theorem dX12_settles_8 : decode cX12_settles 8 = .ok (.iconst 0, 1) := dk_3 (dk_at dksX12_settles_0 8 rfl rfl)
theorem dX12_settles_9 : decode cX12_settles 9 = .ok (.istore_n 3, 1) := dk_62 (dk_at dksX12_settles_0 9 rfl rfl)
theorem dX12_settles_10 : decode cX12_settles 10 = .ok (.iload_n 3, 1) := dk_29 (dk_at dksX12_settles_0 10 rfl rfl)
theorem dX12_settles_11 : decode cX12_settles 11 = .ok (.bipush 41, 2) := dk_16 41 (dk_at dksX12_settles_0 11 rfl rfl)
theorem dX12_settles_13 : decode cX12_settles 13 = .ok (.if_icmp .ge 44, 3) := dk_162 0 44 (dk_at dksX12_settles_0 13 rfl rfl)
theorem dX12_settles_16 : decode cX12_settles 16 = .ok (.aload_n 0, 1) := dk_42 (dk_at dksX12_settles_0 16 rfl rfl)
theorem dX12_settles_17 : decode cX12_settles 17 = .ok (.iload_n 3, 1) := dk_29 (dk_at dksX12_settles_0 17 rfl rfl)
theorem dX12_settles_18 : decode cX12_settles 18 = .ok (.iload_n 3, 1) := dk_29 (dk_at dksX12_settles_0 18 rfl rfl)
theorem dX12_settles_19 : decode cX12_settles 19 = .ok (.iconst 1, 1) := dk_4 (dk_at dksX12_settles_0 19 rfl rfl)
theorem dX12_settles_20 : decode cX12_settles 20 = .ok (.iadd, 1) := dk_96 (dk_at dksX12_settles_0 20 rfl rfl)
theorem dX12_settles_21 : decode cX12_settles 21 = .ok (.invokevirtual 224, 3) := dk_182 0 224 (dk_at dksX12_settles_0 21 rfl rfl)
theorem dX12_settles_24 : decode cX12_settles 24 = .ok (.ifCond .eq 27, 3) := dk_153 0 27 (dk_at dksX12_settles_1 0 rfl rfl)
theorem dX12_settles_27 : decode cX12_settles 27 = .ok (.aload_n 0, 1) := dk_42 (dk_at dksX12_settles_1 3 rfl rfl)
theorem dX12_settles_28 : decode cX12_settles 28 = .ok (.iload_n 3, 1) := dk_29 (dk_at dksX12_settles_1 4 rfl rfl)
theorem dX12_settles_29 : decode cX12_settles 29 = .ok (.iload_n 3, 1) := dk_29 (dk_at dksX12_settles_1 5 rfl rfl)
theorem dX12_settles_30 : decode cX12_settles 30 = .ok (.iconst 2, 1) := dk_5 (dk_at dksX12_settles_1 6 rfl rfl)
theorem dX12_settles_31 : decode cX12_settles 31 = .ok (.iadd, 1) := dk_96 (dk_at dksX12_settles_1 7 rfl rfl)
theorem dX12_settles_32 : decode cX12_settles 32 = .ok (.invokevirtual 224, 3) := dk_182 0 224 (dk_at dksX12_settles_1 8 rfl rfl)
theorem dX12_settles_35 : decode cX12_settles 35 = .ok (.ifCond .eq 16, 3) := dk_153 0 16 (dk_at dksX12_settles_1 11 rfl rfl)
theorem dX12_settles_38 : decode cX12_settles 38 = .ok (.aload_n 0, 1) := dk_42 (dk_at dksX12_settles_1 14 rfl rfl)
theorem dX12_settles_39 : decode cX12_settles 39 = .ok (.iload_n 3, 1) := dk_29 (dk_at dksX12_settles_1 15 rfl rfl)
theorem dX12_settles_40 : decode cX12_settles 40 = .ok (.iload_n 3, 1) := dk_29 (dk_at dksX12_settles_1 16 rfl rfl)
theorem dX12_settles_41 : decode cX12_settles 41 = .ok (.iconst 3, 1) := dk_6 (dk_at dksX12_settles_1 17 rfl rfl)
theorem dX12_settles_42 : decode cX12_settles 42 = .ok (.iadd, 1) := dk_96 (dk_at dksX12_settles_1 18 rfl rfl)
theorem dX12_settles_43 : decode cX12_settles 43 = .ok (.invokevirtual 224, 3) := dk_182 0 224 (dk_at dksX12_settles_1 19 rfl rfl)
theorem dX12_settles_46 : decode cX12_settles 46 = .ok (.ifCond .eq 5, 3) := dk_153 0 5 (dk_at dksX12_settles_2 0 rfl rfl)
theorem dX12_settles_49 : decode cX12_settles 49 = .ok (.iload_n 3, 1) := dk_29 (dk_at dksX12_settles_2 3 rfl rfl)
theorem dX12_settles_50 : decode cX12_settles 50 = .ok (.ireturn, 1) := dk_172 (dk_at dksX12_settles_2 4 rfl rfl)
theorem dX12_settles_51 : decode cX12_settles 51 = .ok (.iinc 3 1, 3) := dk_132 3 1 (dk_at dksX12_settles_2 5 rfl rfl)
theorem dX12_settles_54 : decode cX12_settles 54 = .ok (.goto (-44), 3) := dk_167 255 212 (dk_at dksX12_settles_2 8 rfl rfl)
theorem dX12_settles_57 : decode cX12_settles 57 = .ok (.iconst (-1), 1) := dk_2 (dk_at dksX12_settles_2 11 rfl rfl)
theorem dX12_settles_58 : decode cX12_settles 58 = .ok (.ireturn, 1) := dk_172 (dk_at dksX12_settles_2 12 rfl rfl)
abbrev cX12_isSame : ByteArray := prog_22_method_50_code
def yX12_isSame : MethodName := ⟨RX12, "isSame", "(II)Z"⟩
def dkwX12_isSame_2 : List UInt8 := [167, 0, 4, 3, 172]
abbrev dktX12_isSame_2 : List UInt8 := dkwX12_isSame_2 ++ []
def dkwX12_isSame_1 : List UInt8 := [180, 0, 59, 28, 46, 160, 0, 22, 42, 180, 0, 62, 27, 46, 42, 180, 0, 62, 28, 46, 160, 0, 7, 4]
abbrev dktX12_isSame_1 : List UInt8 := dkwX12_isSame_1 ++ dktX12_isSame_2
def dkwX12_isSame_0 : List UInt8 := [42, 180, 0, 56, 27, 46, 42, 180, 0, 56, 28, 46, 160, 0, 37, 42, 180, 0, 59, 27, 46, 42]
abbrev dktX12_isSame_0 : List UInt8 := dkwX12_isSame_0 ++ dktX12_isSame_1
theorem dksX12_isSame_0 : cX12_isSame.data.toList.drop 0 = dktX12_isSame_0 := by decide +kernel
theorem dksX12_isSame_1 : cX12_isSame.data.toList.drop 22 = dktX12_isSame_1 := dk_seg dksX12_isSame_0 22 rfl rfl
theorem dksX12_isSame_2 : cX12_isSame.data.toList.drop 46 = dktX12_isSame_2 := dk_seg dksX12_isSame_1 24 rfl rfl
theorem dX12_isSame_0 : decode cX12_isSame 0 = .ok (.aload_n 0, 1) := dk_42 (dk_at dksX12_isSame_0 0 rfl rfl)
theorem dX12_isSame_1 : decode cX12_isSame 1 = .ok (.getfield 56, 3) := dk_180 0 56 (dk_at dksX12_isSame_0 1 rfl rfl)
theorem dX12_isSame_4 : decode cX12_isSame 4 = .ok (.iload_n 1, 1) := dk_27 (dk_at dksX12_isSame_0 4 rfl rfl)
theorem dX12_isSame_5 : decode cX12_isSame 5 = .ok (.iaload, 1) := dk_46 (dk_at dksX12_isSame_0 5 rfl rfl)
theorem dX12_isSame_6 : decode cX12_isSame 6 = .ok (.aload_n 0, 1) := dk_42 (dk_at dksX12_isSame_0 6 rfl rfl)
theorem dX12_isSame_7 : decode cX12_isSame 7 = .ok (.getfield 56, 3) := dk_180 0 56 (dk_at dksX12_isSame_0 7 rfl rfl)
theorem dX12_isSame_10 : decode cX12_isSame 10 = .ok (.iload_n 2, 1) := dk_28 (dk_at dksX12_isSame_0 10 rfl rfl)
theorem dX12_isSame_11 : decode cX12_isSame 11 = .ok (.iaload, 1) := dk_46 (dk_at dksX12_isSame_0 11 rfl rfl)
theorem dX12_isSame_12 : decode cX12_isSame 12 = .ok (.if_icmp .ne 37, 3) := dk_160 0 37 (dk_at dksX12_isSame_0 12 rfl rfl)
theorem dX12_isSame_15 : decode cX12_isSame 15 = .ok (.aload_n 0, 1) := dk_42 (dk_at dksX12_isSame_0 15 rfl rfl)
theorem dX12_isSame_16 : decode cX12_isSame 16 = .ok (.getfield 59, 3) := dk_180 0 59 (dk_at dksX12_isSame_0 16 rfl rfl)
theorem dX12_isSame_19 : decode cX12_isSame 19 = .ok (.iload_n 1, 1) := dk_27 (dk_at dksX12_isSame_0 19 rfl rfl)
theorem dX12_isSame_20 : decode cX12_isSame 20 = .ok (.iaload, 1) := dk_46 (dk_at dksX12_isSame_0 20 rfl rfl)
theorem dX12_isSame_21 : decode cX12_isSame 21 = .ok (.aload_n 0, 1) := dk_42 (dk_at dksX12_isSame_0 21 rfl rfl)
theorem dX12_isSame_22 : decode cX12_isSame 22 = .ok (.getfield 59, 3) := dk_180 0 59 (dk_at dksX12_isSame_1 0 rfl rfl)
theorem dX12_isSame_25 : decode cX12_isSame 25 = .ok (.iload_n 2, 1) := dk_28 (dk_at dksX12_isSame_1 3 rfl rfl)
theorem dX12_isSame_26 : decode cX12_isSame 26 = .ok (.iaload, 1) := dk_46 (dk_at dksX12_isSame_1 4 rfl rfl)
theorem dX12_isSame_27 : decode cX12_isSame 27 = .ok (.if_icmp .ne 22, 3) := dk_160 0 22 (dk_at dksX12_isSame_1 5 rfl rfl)
theorem dX12_isSame_30 : decode cX12_isSame 30 = .ok (.aload_n 0, 1) := dk_42 (dk_at dksX12_isSame_1 8 rfl rfl)
theorem dX12_isSame_31 : decode cX12_isSame 31 = .ok (.getfield 62, 3) := dk_180 0 62 (dk_at dksX12_isSame_1 9 rfl rfl)
theorem dX12_isSame_34 : decode cX12_isSame 34 = .ok (.iload_n 1, 1) := dk_27 (dk_at dksX12_isSame_1 12 rfl rfl)
theorem dX12_isSame_35 : decode cX12_isSame 35 = .ok (.iaload, 1) := dk_46 (dk_at dksX12_isSame_1 13 rfl rfl)
theorem dX12_isSame_36 : decode cX12_isSame 36 = .ok (.aload_n 0, 1) := dk_42 (dk_at dksX12_isSame_1 14 rfl rfl)
theorem dX12_isSame_37 : decode cX12_isSame 37 = .ok (.getfield 62, 3) := dk_180 0 62 (dk_at dksX12_isSame_1 15 rfl rfl)
theorem dX12_isSame_40 : decode cX12_isSame 40 = .ok (.iload_n 2, 1) := dk_28 (dk_at dksX12_isSame_1 18 rfl rfl)
theorem dX12_isSame_41 : decode cX12_isSame 41 = .ok (.iaload, 1) := dk_46 (dk_at dksX12_isSame_1 19 rfl rfl)
theorem dX12_isSame_42 : decode cX12_isSame 42 = .ok (.if_icmp .ne 7, 3) := dk_160 0 7 (dk_at dksX12_isSame_1 20 rfl rfl)
theorem dX12_isSame_45 : decode cX12_isSame 45 = .ok (.iconst 1, 1) := dk_4 (dk_at dksX12_isSame_1 23 rfl rfl)
theorem dX12_isSame_46 : decode cX12_isSame 46 = .ok (.goto 4, 3) := dk_167 0 4 (dk_at dksX12_isSame_2 0 rfl rfl)
theorem dX12_isSame_49 : decode cX12_isSame 49 = .ok (.iconst 0, 1) := dk_3 (dk_at dksX12_isSame_2 3 rfl rfl)
theorem dX12_isSame_50 : decode cX12_isSame 50 = .ok (.ireturn, 1) := dk_172 (dk_at dksX12_isSame_2 4 rfl rfl)
abbrev cX12_best : ByteArray := prog_22_method_55_code
def yX12_best : MethodName := ⟨RX12, "best", "(II)I"⟩
def dkwX12_best_3 : List UInt8 := [167, 0, 10, 21, 6, 54, 4, 21, 5, 62, 132, 5, 1, 167, 255, 217, 29, 172]
abbrev dktX12_best_3 : List UInt8 := dkwX12_best_3 ++ []
def dkwX12_best_2 : List UInt8 := [180, 0, 89, 162, 0, 36, 42, 21, 5, 27, 28, 182, 0, 240, 54, 6, 21, 6, 21, 4, 163, 0, 6]
abbrev dktX12_best_2 : List UInt8 := dkwX12_best_2 ++ dktX12_best_3
def dkwX12_best_1 : List UInt8 := [184, 0, 218, 154, 0, 10, 42, 16, 250, 182, 0, 78, 172, 3, 62, 2, 54, 4, 3, 54, 5, 21, 5, 42]
abbrev dktX12_best_1 : List UInt8 := dkwX12_best_1 ++ dktX12_best_2
def dkwX12_best_0 : List UInt8 := [42, 180, 0, 89, 154, 0, 10, 42, 16, 251, 182, 0, 78, 172, 27, 184, 0, 215, 153, 0, 10, 28]
abbrev dktX12_best_0 : List UInt8 := dkwX12_best_0 ++ dktX12_best_1
theorem dksX12_best_0 : cX12_best.data.toList.drop 0 = dktX12_best_0 := by decide +kernel
theorem dksX12_best_1 : cX12_best.data.toList.drop 22 = dktX12_best_1 := dk_seg dksX12_best_0 22 rfl rfl
theorem dksX12_best_2 : cX12_best.data.toList.drop 46 = dktX12_best_2 := dk_seg dksX12_best_1 24 rfl rfl
theorem dksX12_best_3 : cX12_best.data.toList.drop 69 = dktX12_best_3 := dk_seg dksX12_best_2 23 rfl rfl
theorem dX12_best_0 : decode cX12_best 0 = .ok (.aload_n 0, 1) := dk_42 (dk_at dksX12_best_0 0 rfl rfl)
theorem dX12_best_1 : decode cX12_best 1 = .ok (.getfield 89, 3) := dk_180 0 89 (dk_at dksX12_best_0 1 rfl rfl)
theorem dX12_best_4 : decode cX12_best 4 = .ok (.ifCond .ne 10, 3) := dk_154 0 10 (dk_at dksX12_best_0 4 rfl rfl)
theorem dX12_best_7 : decode cX12_best 7 = .ok (.aload_n 0, 1) := dk_42 (dk_at dksX12_best_0 7 rfl rfl)
theorem dX12_best_8 : decode cX12_best 8 = .ok (.bipush (-5), 2) := dk_16 251 (dk_at dksX12_best_0 8 rfl rfl)
theorem dX12_best_10 : decode cX12_best 10 = .ok (.invokevirtual 78, 3) := dk_182 0 78 (dk_at dksX12_best_0 10 rfl rfl)
theorem dX12_best_13 : decode cX12_best 13 = .ok (.ireturn, 1) := dk_172 (dk_at dksX12_best_0 13 rfl rfl)
theorem dX12_best_14 : decode cX12_best 14 = .ok (.iload_n 1, 1) := dk_27 (dk_at dksX12_best_0 14 rfl rfl)
theorem dX12_best_15 : decode cX12_best 15 = .ok (.invokestatic 215, 3) := dk_184 0 215 (dk_at dksX12_best_0 15 rfl rfl)
theorem dX12_best_18 : decode cX12_best 18 = .ok (.ifCond .eq 10, 3) := dk_153 0 10 (dk_at dksX12_best_0 18 rfl rfl)
theorem dX12_best_21 : decode cX12_best 21 = .ok (.iload_n 2, 1) := dk_28 (dk_at dksX12_best_0 21 rfl rfl)
theorem dX12_best_22 : decode cX12_best 22 = .ok (.invokestatic 218, 3) := dk_184 0 218 (dk_at dksX12_best_1 0 rfl rfl)
theorem dX12_best_25 : decode cX12_best 25 = .ok (.ifCond .ne 10, 3) := dk_154 0 10 (dk_at dksX12_best_1 3 rfl rfl)
theorem dX12_best_28 : decode cX12_best 28 = .ok (.aload_n 0, 1) := dk_42 (dk_at dksX12_best_1 6 rfl rfl)
theorem dX12_best_29 : decode cX12_best 29 = .ok (.bipush (-6), 2) := dk_16 250 (dk_at dksX12_best_1 7 rfl rfl)
theorem dX12_best_31 : decode cX12_best 31 = .ok (.invokevirtual 78, 3) := dk_182 0 78 (dk_at dksX12_best_1 9 rfl rfl)
theorem dX12_best_34 : decode cX12_best 34 = .ok (.ireturn, 1) := dk_172 (dk_at dksX12_best_1 12 rfl rfl)
theorem dX12_best_35 : decode cX12_best 35 = .ok (.iconst 0, 1) := dk_3 (dk_at dksX12_best_1 13 rfl rfl)
theorem dX12_best_36 : decode cX12_best 36 = .ok (.istore_n 3, 1) := dk_62 (dk_at dksX12_best_1 14 rfl rfl)
theorem dX12_best_37 : decode cX12_best 37 = .ok (.iconst (-1), 1) := dk_2 (dk_at dksX12_best_1 15 rfl rfl)
theorem dX12_best_38 : decode cX12_best 38 = .ok (.istore 4, 2) := dk_54 4 (dk_at dksX12_best_1 16 rfl rfl)
theorem dX12_best_40 : decode cX12_best 40 = .ok (.iconst 0, 1) := dk_3 (dk_at dksX12_best_1 18 rfl rfl)
theorem dX12_best_41 : decode cX12_best 41 = .ok (.istore 5, 2) := dk_54 5 (dk_at dksX12_best_1 19 rfl rfl)
theorem dX12_best_43 : decode cX12_best 43 = .ok (.iload 5, 2) := dk_21 5 (dk_at dksX12_best_1 21 rfl rfl)
theorem dX12_best_45 : decode cX12_best 45 = .ok (.aload_n 0, 1) := dk_42 (dk_at dksX12_best_1 23 rfl rfl)
theorem dX12_best_46 : decode cX12_best 46 = .ok (.getfield 89, 3) := dk_180 0 89 (dk_at dksX12_best_2 0 rfl rfl)
theorem dX12_best_49 : decode cX12_best 49 = .ok (.if_icmp .ge 36, 3) := dk_162 0 36 (dk_at dksX12_best_2 3 rfl rfl)
theorem dX12_best_52 : decode cX12_best 52 = .ok (.aload_n 0, 1) := dk_42 (dk_at dksX12_best_2 6 rfl rfl)
theorem dX12_best_53 : decode cX12_best 53 = .ok (.iload 5, 2) := dk_21 5 (dk_at dksX12_best_2 7 rfl rfl)
theorem dX12_best_55 : decode cX12_best 55 = .ok (.iload_n 1, 1) := dk_27 (dk_at dksX12_best_2 9 rfl rfl)
theorem dX12_best_56 : decode cX12_best 56 = .ok (.iload_n 2, 1) := dk_28 (dk_at dksX12_best_2 10 rfl rfl)
theorem dX12_best_57 : decode cX12_best 57 = .ok (.invokevirtual 240, 3) := dk_182 0 240 (dk_at dksX12_best_2 11 rfl rfl)
theorem dX12_best_60 : decode cX12_best 60 = .ok (.istore 6, 2) := dk_54 6 (dk_at dksX12_best_2 14 rfl rfl)
theorem dX12_best_62 : decode cX12_best 62 = .ok (.iload 6, 2) := dk_21 6 (dk_at dksX12_best_2 16 rfl rfl)
theorem dX12_best_64 : decode cX12_best 64 = .ok (.iload 4, 2) := dk_21 4 (dk_at dksX12_best_2 18 rfl rfl)
theorem dX12_best_66 : decode cX12_best 66 = .ok (.if_icmp .gt 6, 3) := dk_163 0 6 (dk_at dksX12_best_2 20 rfl rfl)
theorem dX12_best_69 : decode cX12_best 69 = .ok (.goto 10, 3) := dk_167 0 10 (dk_at dksX12_best_3 0 rfl rfl)
theorem dX12_best_72 : decode cX12_best 72 = .ok (.iload 6, 2) := dk_21 6 (dk_at dksX12_best_3 3 rfl rfl)
theorem dX12_best_74 : decode cX12_best 74 = .ok (.istore 4, 2) := dk_54 4 (dk_at dksX12_best_3 5 rfl rfl)
theorem dX12_best_76 : decode cX12_best 76 = .ok (.iload 5, 2) := dk_21 5 (dk_at dksX12_best_3 7 rfl rfl)
theorem dX12_best_78 : decode cX12_best 78 = .ok (.istore_n 3, 1) := dk_62 (dk_at dksX12_best_3 9 rfl rfl)
theorem dX12_best_79 : decode cX12_best 79 = .ok (.iinc 5 1, 3) := dk_132 5 1 (dk_at dksX12_best_3 10 rfl rfl)
theorem dX12_best_82 : decode cX12_best 82 = .ok (.goto (-39), 3) := dk_167 255 217 (dk_at dksX12_best_3 13 rfl rfl)
theorem dX12_best_85 : decode cX12_best 85 = .ok (.iload_n 3, 1) := dk_29 (dk_at dksX12_best_3 16 rfl rfl)
theorem dX12_best_86 : decode cX12_best 86 = .ok (.ireturn, 1) := dk_172 (dk_at dksX12_best_3 17 rfl rfl)
abbrev cX12_manyAt : ByteArray := prog_22_method_54_code
def yX12_manyAt : MethodName := ⟨RX12, "manyAt", "(III)I"⟩
def dkwX12_manyAt_0 : List UInt8 := [42, 27, 28, 29, 182, 0, 236, 184, 0, 112, 172]
abbrev dktX12_manyAt_0 : List UInt8 := dkwX12_manyAt_0 ++ []
theorem dksX12_manyAt_0 : cX12_manyAt.data.toList.drop 0 = dktX12_manyAt_0 := by decide +kernel
theorem dX12_manyAt_0 : decode cX12_manyAt 0 = .ok (.aload_n 0, 1) := dk_42 (dk_at dksX12_manyAt_0 0 rfl rfl)
theorem dX12_manyAt_1 : decode cX12_manyAt 1 = .ok (.iload_n 1, 1) := dk_27 (dk_at dksX12_manyAt_0 1 rfl rfl)
theorem dX12_manyAt_2 : decode cX12_manyAt 2 = .ok (.iload_n 2, 1) := dk_28 (dk_at dksX12_manyAt_0 2 rfl rfl)
theorem dX12_manyAt_3 : decode cX12_manyAt 3 = .ok (.iload_n 3, 1) := dk_29 (dk_at dksX12_manyAt_0 3 rfl rfl)
theorem dX12_manyAt_4 : decode cX12_manyAt 4 = .ok (.invokevirtual 236, 3) := dk_182 0 236 (dk_at dksX12_manyAt_0 4 rfl rfl)
theorem dX12_manyAt_7 : decode cX12_manyAt 7 = .ok (.invokestatic 112, 3) := dk_184 0 112 (dk_at dksX12_manyAt_0 7 rfl rfl)
theorem dX12_manyAt_10 : decode cX12_manyAt 10 = .ok (.ireturn, 1) := dk_172 (dk_at dksX12_manyAt_0 10 rfl rfl)
abbrev cX12_rightAt : ByteArray := prog_22_method_53_code
def yX12_rightAt : MethodName := ⟨RX12, "rightAt", "(III)I"⟩
def dkwX12_rightAt_0 : List UInt8 := [42, 27, 28, 29, 182, 0, 221, 42, 180, 0, 56, 29, 46, 172]
abbrev dktX12_rightAt_0 : List UInt8 := dkwX12_rightAt_0 ++ []
theorem dksX12_rightAt_0 : cX12_rightAt.data.toList.drop 0 = dktX12_rightAt_0 := by decide +kernel
theorem dX12_rightAt_0 : decode cX12_rightAt 0 = .ok (.aload_n 0, 1) := dk_42 (dk_at dksX12_rightAt_0 0 rfl rfl)
theorem dX12_rightAt_1 : decode cX12_rightAt 1 = .ok (.iload_n 1, 1) := dk_27 (dk_at dksX12_rightAt_0 1 rfl rfl)
theorem dX12_rightAt_2 : decode cX12_rightAt 2 = .ok (.iload_n 2, 1) := dk_28 (dk_at dksX12_rightAt_0 2 rfl rfl)
theorem dX12_rightAt_3 : decode cX12_rightAt 3 = .ok (.iload_n 3, 1) := dk_29 (dk_at dksX12_rightAt_0 3 rfl rfl)
theorem dX12_rightAt_4 : decode cX12_rightAt 4 = .ok (.invokevirtual 221, 3) := dk_182 0 221 (dk_at dksX12_rightAt_0 4 rfl rfl)
theorem dX12_rightAt_7 : decode cX12_rightAt 7 = .ok (.aload_n 0, 1) := dk_42 (dk_at dksX12_rightAt_0 7 rfl rfl)
theorem dX12_rightAt_8 : decode cX12_rightAt 8 = .ok (.getfield 56, 3) := dk_180 0 56 (dk_at dksX12_rightAt_0 8 rfl rfl)
theorem dX12_rightAt_11 : decode cX12_rightAt 11 = .ok (.iload_n 3, 1) := dk_29 (dk_at dksX12_rightAt_0 11 rfl rfl)
theorem dX12_rightAt_12 : decode cX12_rightAt 12 = .ok (.iaload, 1) := dk_46 (dk_at dksX12_rightAt_0 12 rfl rfl)
theorem dX12_rightAt_13 : decode cX12_rightAt 13 = .ok (.ireturn, 1) := dk_172 (dk_at dksX12_rightAt_0 13 rfl rfl)
abbrev cX12_pitch : ByteArray := prog_22_method_56_code
def yX12_pitch : MethodName := ⟨RX12, "pitch", "(II)I"⟩
def dkwX12_pitch_3 : List UInt8 := [132, 5, 1, 167, 255, 219, 29, 172]
abbrev dktX12_pitch_3 : List UInt8 := dkwX12_pitch_3 ++ []
def dkwX12_pitch_2 : List UInt8 := [182, 0, 240, 54, 6, 21, 6, 21, 4, 162, 0, 6, 167, 0, 10, 21, 6, 54, 4, 21, 5, 62]
abbrev dktX12_pitch_2 : List UInt8 := dkwX12_pitch_2 ++ dktX12_pitch_3
def dkwX12_pitch_1 : List UInt8 := [182, 0, 78, 172, 3, 62, 2, 54, 4, 3, 54, 5, 21, 5, 16, 6, 162, 0, 36, 42, 27, 21, 5, 28]
abbrev dktX12_pitch_1 : List UInt8 := dkwX12_pitch_1 ++ dktX12_pitch_2
def dkwX12_pitch_0 : List UInt8 := [42, 27, 182, 0, 127, 154, 0, 9, 42, 2, 182, 0, 78, 172, 28, 184, 0, 218, 154, 0, 10, 42, 16, 250]
abbrev dktX12_pitch_0 : List UInt8 := dkwX12_pitch_0 ++ dktX12_pitch_1
theorem dksX12_pitch_0 : cX12_pitch.data.toList.drop 0 = dktX12_pitch_0 := by decide +kernel
theorem dksX12_pitch_1 : cX12_pitch.data.toList.drop 24 = dktX12_pitch_1 := dk_seg dksX12_pitch_0 24 rfl rfl
theorem dksX12_pitch_2 : cX12_pitch.data.toList.drop 48 = dktX12_pitch_2 := dk_seg dksX12_pitch_1 24 rfl rfl
theorem dksX12_pitch_3 : cX12_pitch.data.toList.drop 70 = dktX12_pitch_3 := dk_seg dksX12_pitch_2 22 rfl rfl
theorem dX12_pitch_0 : decode cX12_pitch 0 = .ok (.aload_n 0, 1) := dk_42 (dk_at dksX12_pitch_0 0 rfl rfl)
theorem dX12_pitch_1 : decode cX12_pitch 1 = .ok (.iload_n 1, 1) := dk_27 (dk_at dksX12_pitch_0 1 rfl rfl)
theorem dX12_pitch_2 : decode cX12_pitch 2 = .ok (.invokevirtual 127, 3) := dk_182 0 127 (dk_at dksX12_pitch_0 2 rfl rfl)
theorem dX12_pitch_5 : decode cX12_pitch 5 = .ok (.ifCond .ne 9, 3) := dk_154 0 9 (dk_at dksX12_pitch_0 5 rfl rfl)
theorem dX12_pitch_8 : decode cX12_pitch 8 = .ok (.aload_n 0, 1) := dk_42 (dk_at dksX12_pitch_0 8 rfl rfl)
theorem dX12_pitch_9 : decode cX12_pitch 9 = .ok (.iconst (-1), 1) := dk_2 (dk_at dksX12_pitch_0 9 rfl rfl)
theorem dX12_pitch_10 : decode cX12_pitch 10 = .ok (.invokevirtual 78, 3) := dk_182 0 78 (dk_at dksX12_pitch_0 10 rfl rfl)
theorem dX12_pitch_13 : decode cX12_pitch 13 = .ok (.ireturn, 1) := dk_172 (dk_at dksX12_pitch_0 13 rfl rfl)
theorem dX12_pitch_14 : decode cX12_pitch 14 = .ok (.iload_n 2, 1) := dk_28 (dk_at dksX12_pitch_0 14 rfl rfl)
theorem dX12_pitch_15 : decode cX12_pitch 15 = .ok (.invokestatic 218, 3) := dk_184 0 218 (dk_at dksX12_pitch_0 15 rfl rfl)
theorem dX12_pitch_18 : decode cX12_pitch 18 = .ok (.ifCond .ne 10, 3) := dk_154 0 10 (dk_at dksX12_pitch_0 18 rfl rfl)
theorem dX12_pitch_21 : decode cX12_pitch 21 = .ok (.aload_n 0, 1) := dk_42 (dk_at dksX12_pitch_0 21 rfl rfl)
theorem dX12_pitch_22 : decode cX12_pitch 22 = .ok (.bipush (-6), 2) := dk_16 250 (dk_at dksX12_pitch_0 22 rfl rfl)
theorem dX12_pitch_24 : decode cX12_pitch 24 = .ok (.invokevirtual 78, 3) := dk_182 0 78 (dk_at dksX12_pitch_1 0 rfl rfl)
theorem dX12_pitch_27 : decode cX12_pitch 27 = .ok (.ireturn, 1) := dk_172 (dk_at dksX12_pitch_1 3 rfl rfl)
theorem dX12_pitch_28 : decode cX12_pitch 28 = .ok (.iconst 0, 1) := dk_3 (dk_at dksX12_pitch_1 4 rfl rfl)
theorem dX12_pitch_29 : decode cX12_pitch 29 = .ok (.istore_n 3, 1) := dk_62 (dk_at dksX12_pitch_1 5 rfl rfl)
theorem dX12_pitch_30 : decode cX12_pitch 30 = .ok (.iconst (-1), 1) := dk_2 (dk_at dksX12_pitch_1 6 rfl rfl)
theorem dX12_pitch_31 : decode cX12_pitch 31 = .ok (.istore 4, 2) := dk_54 4 (dk_at dksX12_pitch_1 7 rfl rfl)
theorem dX12_pitch_33 : decode cX12_pitch 33 = .ok (.iconst 0, 1) := dk_3 (dk_at dksX12_pitch_1 9 rfl rfl)
theorem dX12_pitch_34 : decode cX12_pitch 34 = .ok (.istore 5, 2) := dk_54 5 (dk_at dksX12_pitch_1 10 rfl rfl)
theorem dX12_pitch_36 : decode cX12_pitch 36 = .ok (.iload 5, 2) := dk_21 5 (dk_at dksX12_pitch_1 12 rfl rfl)
theorem dX12_pitch_38 : decode cX12_pitch 38 = .ok (.bipush 6, 2) := dk_16 6 (dk_at dksX12_pitch_1 14 rfl rfl)
theorem dX12_pitch_40 : decode cX12_pitch 40 = .ok (.if_icmp .ge 36, 3) := dk_162 0 36 (dk_at dksX12_pitch_1 16 rfl rfl)
theorem dX12_pitch_43 : decode cX12_pitch 43 = .ok (.aload_n 0, 1) := dk_42 (dk_at dksX12_pitch_1 19 rfl rfl)
theorem dX12_pitch_44 : decode cX12_pitch 44 = .ok (.iload_n 1, 1) := dk_27 (dk_at dksX12_pitch_1 20 rfl rfl)
theorem dX12_pitch_45 : decode cX12_pitch 45 = .ok (.iload 5, 2) := dk_21 5 (dk_at dksX12_pitch_1 21 rfl rfl)
theorem dX12_pitch_47 : decode cX12_pitch 47 = .ok (.iload_n 2, 1) := dk_28 (dk_at dksX12_pitch_1 23 rfl rfl)
theorem dX12_pitch_48 : decode cX12_pitch 48 = .ok (.invokevirtual 240, 3) := dk_182 0 240 (dk_at dksX12_pitch_2 0 rfl rfl)
theorem dX12_pitch_51 : decode cX12_pitch 51 = .ok (.istore 6, 2) := dk_54 6 (dk_at dksX12_pitch_2 3 rfl rfl)
theorem dX12_pitch_53 : decode cX12_pitch 53 = .ok (.iload 6, 2) := dk_21 6 (dk_at dksX12_pitch_2 5 rfl rfl)
theorem dX12_pitch_55 : decode cX12_pitch 55 = .ok (.iload 4, 2) := dk_21 4 (dk_at dksX12_pitch_2 7 rfl rfl)
theorem dX12_pitch_57 : decode cX12_pitch 57 = .ok (.if_icmp .ge 6, 3) := dk_162 0 6 (dk_at dksX12_pitch_2 9 rfl rfl)
theorem dX12_pitch_60 : decode cX12_pitch 60 = .ok (.goto 10, 3) := dk_167 0 10 (dk_at dksX12_pitch_2 12 rfl rfl)
theorem dX12_pitch_63 : decode cX12_pitch 63 = .ok (.iload 6, 2) := dk_21 6 (dk_at dksX12_pitch_2 15 rfl rfl)
theorem dX12_pitch_65 : decode cX12_pitch 65 = .ok (.istore 4, 2) := dk_54 4 (dk_at dksX12_pitch_2 17 rfl rfl)
theorem dX12_pitch_67 : decode cX12_pitch 67 = .ok (.iload 5, 2) := dk_21 5 (dk_at dksX12_pitch_2 19 rfl rfl)
theorem dX12_pitch_69 : decode cX12_pitch 69 = .ok (.istore_n 3, 1) := dk_62 (dk_at dksX12_pitch_2 21 rfl rfl)
theorem dX12_pitch_70 : decode cX12_pitch 70 = .ok (.iinc 5 1, 3) := dk_132 5 1 (dk_at dksX12_pitch_3 0 rfl rfl)
theorem dX12_pitch_73 : decode cX12_pitch 73 = .ok (.goto (-37), 3) := dk_167 255 219 (dk_at dksX12_pitch_3 3 rfl rfl)
theorem dX12_pitch_76 : decode cX12_pitch 76 = .ok (.iload_n 3, 1) := dk_29 (dk_at dksX12_pitch_3 6 rfl rfl)
theorem dX12_pitch_77 : decode cX12_pitch 77 = .ok (.ireturn, 1) := dk_172 (dk_at dksX12_pitch_3 7 rfl rfl)
abbrev cX12_two : ByteArray := prog_22_method_57_code
def yX12_two : MethodName := ⟨RX12, "two", "(I)I"⟩
def dkwX12_two_4 : List UInt8 := [167, 255, 197, 132, 4, 1, 167, 255, 176, 28, 172]
abbrev dktX12_two_4 : List UInt8 := dkwX12_two_4 ++ []
def dkwX12_two_3 : List UInt8 := [21, 7, 29, 163, 0, 6, 167, 0, 15, 21, 7, 62, 16, 10, 21, 4, 104, 21, 5, 96, 61, 132, 5, 1]
abbrev dktX12_two_3 : List UInt8 := dkwX12_two_3 ++ dktX12_two_4
def dkwX12_two_2 : List UInt8 := [3, 27, 182, 0, 236, 54, 6, 21, 6, 42, 21, 5, 3, 27, 182, 0, 236, 128, 184, 0, 112, 54, 7]
abbrev dktX12_two_2 : List UInt8 := dkwX12_two_2 ++ dktX12_two_3
def dkwX12_two_1 : List UInt8 := [180, 0, 89, 162, 0, 77, 21, 4, 4, 96, 54, 5, 21, 5, 42, 180, 0, 89, 162, 0, 56, 42, 21, 4]
abbrev dktX12_two_1 : List UInt8 := dkwX12_two_1 ++ dktX12_two_2
def dkwX12_two_0 : List UInt8 := [27, 184, 0, 218, 154, 0, 10, 42, 16, 250, 182, 0, 227, 172, 2, 61, 2, 62, 3, 54, 4, 21, 4, 42]
abbrev dktX12_two_0 : List UInt8 := dkwX12_two_0 ++ dktX12_two_1
theorem dksX12_two_0 : cX12_two.data.toList.drop 0 = dktX12_two_0 := by decide +kernel
theorem dksX12_two_1 : cX12_two.data.toList.drop 24 = dktX12_two_1 := dk_seg dksX12_two_0 24 rfl rfl
theorem dksX12_two_2 : cX12_two.data.toList.drop 48 = dktX12_two_2 := dk_seg dksX12_two_1 24 rfl rfl
theorem dksX12_two_3 : cX12_two.data.toList.drop 71 = dktX12_two_3 := dk_seg dksX12_two_2 23 rfl rfl
theorem dksX12_two_4 : cX12_two.data.toList.drop 95 = dktX12_two_4 := dk_seg dksX12_two_3 24 rfl rfl
theorem dX12_two_0 : decode cX12_two 0 = .ok (.iload_n 1, 1) := dk_27 (dk_at dksX12_two_0 0 rfl rfl)
theorem dX12_two_1 : decode cX12_two 1 = .ok (.invokestatic 218, 3) := dk_184 0 218 (dk_at dksX12_two_0 1 rfl rfl)
theorem dX12_two_4 : decode cX12_two 4 = .ok (.ifCond .ne 10, 3) := dk_154 0 10 (dk_at dksX12_two_0 4 rfl rfl)
theorem dX12_two_7 : decode cX12_two 7 = .ok (.aload_n 0, 1) := dk_42 (dk_at dksX12_two_0 7 rfl rfl)
theorem dX12_two_8 : decode cX12_two 8 = .ok (.bipush (-6), 2) := dk_16 250 (dk_at dksX12_two_0 8 rfl rfl)
theorem dX12_two_10 : decode cX12_two 10 = .ok (.invokevirtual 227, 3) := dk_182 0 227 (dk_at dksX12_two_0 10 rfl rfl)
theorem dX12_two_13 : decode cX12_two 13 = .ok (.ireturn, 1) := dk_172 (dk_at dksX12_two_0 13 rfl rfl)
theorem dX12_two_14 : decode cX12_two 14 = .ok (.iconst (-1), 1) := dk_2 (dk_at dksX12_two_0 14 rfl rfl)
theorem dX12_two_15 : decode cX12_two 15 = .ok (.istore_n 2, 1) := dk_61 (dk_at dksX12_two_0 15 rfl rfl)
theorem dX12_two_16 : decode cX12_two 16 = .ok (.iconst (-1), 1) := dk_2 (dk_at dksX12_two_0 16 rfl rfl)
theorem dX12_two_17 : decode cX12_two 17 = .ok (.istore_n 3, 1) := dk_62 (dk_at dksX12_two_0 17 rfl rfl)
theorem dX12_two_18 : decode cX12_two 18 = .ok (.iconst 0, 1) := dk_3 (dk_at dksX12_two_0 18 rfl rfl)
theorem dX12_two_19 : decode cX12_two 19 = .ok (.istore 4, 2) := dk_54 4 (dk_at dksX12_two_0 19 rfl rfl)
theorem dX12_two_21 : decode cX12_two 21 = .ok (.iload 4, 2) := dk_21 4 (dk_at dksX12_two_0 21 rfl rfl)
theorem dX12_two_23 : decode cX12_two 23 = .ok (.aload_n 0, 1) := dk_42 (dk_at dksX12_two_0 23 rfl rfl)
theorem dX12_two_24 : decode cX12_two 24 = .ok (.getfield 89, 3) := dk_180 0 89 (dk_at dksX12_two_1 0 rfl rfl)
theorem dX12_two_27 : decode cX12_two 27 = .ok (.if_icmp .ge 77, 3) := dk_162 0 77 (dk_at dksX12_two_1 3 rfl rfl)
theorem dX12_two_30 : decode cX12_two 30 = .ok (.iload 4, 2) := dk_21 4 (dk_at dksX12_two_1 6 rfl rfl)
theorem dX12_two_32 : decode cX12_two 32 = .ok (.iconst 1, 1) := dk_4 (dk_at dksX12_two_1 8 rfl rfl)
theorem dX12_two_33 : decode cX12_two 33 = .ok (.iadd, 1) := dk_96 (dk_at dksX12_two_1 9 rfl rfl)
theorem dX12_two_34 : decode cX12_two 34 = .ok (.istore 5, 2) := dk_54 5 (dk_at dksX12_two_1 10 rfl rfl)
theorem dX12_two_36 : decode cX12_two 36 = .ok (.iload 5, 2) := dk_21 5 (dk_at dksX12_two_1 12 rfl rfl)
theorem dX12_two_38 : decode cX12_two 38 = .ok (.aload_n 0, 1) := dk_42 (dk_at dksX12_two_1 14 rfl rfl)
theorem dX12_two_39 : decode cX12_two 39 = .ok (.getfield 89, 3) := dk_180 0 89 (dk_at dksX12_two_1 15 rfl rfl)
theorem dX12_two_42 : decode cX12_two 42 = .ok (.if_icmp .ge 56, 3) := dk_162 0 56 (dk_at dksX12_two_1 18 rfl rfl)
theorem dX12_two_45 : decode cX12_two 45 = .ok (.aload_n 0, 1) := dk_42 (dk_at dksX12_two_1 21 rfl rfl)
theorem dX12_two_46 : decode cX12_two 46 = .ok (.iload 4, 2) := dk_21 4 (dk_at dksX12_two_1 22 rfl rfl)
theorem dX12_two_48 : decode cX12_two 48 = .ok (.iconst 0, 1) := dk_3 (dk_at dksX12_two_2 0 rfl rfl)
theorem dX12_two_49 : decode cX12_two 49 = .ok (.iload_n 1, 1) := dk_27 (dk_at dksX12_two_2 1 rfl rfl)
theorem dX12_two_50 : decode cX12_two 50 = .ok (.invokevirtual 236, 3) := dk_182 0 236 (dk_at dksX12_two_2 2 rfl rfl)
theorem dX12_two_53 : decode cX12_two 53 = .ok (.istore 6, 2) := dk_54 6 (dk_at dksX12_two_2 5 rfl rfl)
theorem dX12_two_55 : decode cX12_two 55 = .ok (.iload 6, 2) := dk_21 6 (dk_at dksX12_two_2 7 rfl rfl)
theorem dX12_two_57 : decode cX12_two 57 = .ok (.aload_n 0, 1) := dk_42 (dk_at dksX12_two_2 9 rfl rfl)
theorem dX12_two_58 : decode cX12_two 58 = .ok (.iload 5, 2) := dk_21 5 (dk_at dksX12_two_2 10 rfl rfl)
theorem dX12_two_60 : decode cX12_two 60 = .ok (.iconst 0, 1) := dk_3 (dk_at dksX12_two_2 12 rfl rfl)
theorem dX12_two_61 : decode cX12_two 61 = .ok (.iload_n 1, 1) := dk_27 (dk_at dksX12_two_2 13 rfl rfl)
theorem dX12_two_62 : decode cX12_two 62 = .ok (.invokevirtual 236, 3) := dk_182 0 236 (dk_at dksX12_two_2 14 rfl rfl)
theorem dX12_two_65 : decode cX12_two 65 = .ok (.ior, 1) := dk_128 (dk_at dksX12_two_2 17 rfl rfl)
theorem dX12_two_66 : decode cX12_two 66 = .ok (.invokestatic 112, 3) := dk_184 0 112 (dk_at dksX12_two_2 18 rfl rfl)
theorem dX12_two_69 : decode cX12_two 69 = .ok (.istore 7, 2) := dk_54 7 (dk_at dksX12_two_2 21 rfl rfl)
theorem dX12_two_71 : decode cX12_two 71 = .ok (.iload 7, 2) := dk_21 7 (dk_at dksX12_two_3 0 rfl rfl)
theorem dX12_two_73 : decode cX12_two 73 = .ok (.iload_n 3, 1) := dk_29 (dk_at dksX12_two_3 2 rfl rfl)
theorem dX12_two_74 : decode cX12_two 74 = .ok (.if_icmp .gt 6, 3) := dk_163 0 6 (dk_at dksX12_two_3 3 rfl rfl)
theorem dX12_two_77 : decode cX12_two 77 = .ok (.goto 15, 3) := dk_167 0 15 (dk_at dksX12_two_3 6 rfl rfl)
theorem dX12_two_80 : decode cX12_two 80 = .ok (.iload 7, 2) := dk_21 7 (dk_at dksX12_two_3 9 rfl rfl)
theorem dX12_two_82 : decode cX12_two 82 = .ok (.istore_n 3, 1) := dk_62 (dk_at dksX12_two_3 11 rfl rfl)
theorem dX12_two_83 : decode cX12_two 83 = .ok (.bipush 10, 2) := dk_16 10 (dk_at dksX12_two_3 12 rfl rfl)
theorem dX12_two_85 : decode cX12_two 85 = .ok (.iload 4, 2) := dk_21 4 (dk_at dksX12_two_3 14 rfl rfl)
theorem dX12_two_87 : decode cX12_two 87 = .ok (.imul, 1) := dk_104 (dk_at dksX12_two_3 16 rfl rfl)
theorem dX12_two_88 : decode cX12_two 88 = .ok (.iload 5, 2) := dk_21 5 (dk_at dksX12_two_3 17 rfl rfl)
theorem dX12_two_90 : decode cX12_two 90 = .ok (.iadd, 1) := dk_96 (dk_at dksX12_two_3 19 rfl rfl)
theorem dX12_two_91 : decode cX12_two 91 = .ok (.istore_n 2, 1) := dk_61 (dk_at dksX12_two_3 20 rfl rfl)
theorem dX12_two_92 : decode cX12_two 92 = .ok (.iinc 5 1, 3) := dk_132 5 1 (dk_at dksX12_two_3 21 rfl rfl)
theorem dX12_two_95 : decode cX12_two 95 = .ok (.goto (-59), 3) := dk_167 255 197 (dk_at dksX12_two_4 0 rfl rfl)
theorem dX12_two_98 : decode cX12_two 98 = .ok (.iinc 4 1, 3) := dk_132 4 1 (dk_at dksX12_two_4 3 rfl rfl)
theorem dX12_two_101 : decode cX12_two 101 = .ok (.goto (-80), 3) := dk_167 255 176 (dk_at dksX12_two_4 6 rfl rfl)
theorem dX12_two_104 : decode cX12_two 104 = .ok (.iload_n 2, 1) := dk_28 (dk_at dksX12_two_4 9 rfl rfl)
theorem dX12_two_105 : decode cX12_two 105 = .ok (.ireturn, 1) := dk_172 (dk_at dksX12_two_4 10 rfl rfl)
abbrev cX12_leaders : ByteArray := prog_22_method_61_code
def yX12_leaders : MethodName := ⟨RX12, "leaders", "(IIIII)I"⟩
def dkwX12_leaders_5 : List UInt8 := [17, 3, 232, 112, 16, 24, 112, 172]
abbrev dktX12_leaders_5 : List UInt8 := dkwX12_leaders_5 ++ []
def dkwX12_leaders_4 : List UInt8 := [167, 0, 29, 21, 5, 154, 0, 15, 21, 6, 17, 3, 232, 112, 16, 24, 108, 167, 0, 12, 21, 6]
abbrev dktX12_leaders_4 : List UInt8 := dkwX12_leaders_4 ++ dktX12_leaders_5
def dkwX12_leaders_3 : List UInt8 := [172, 42, 27, 28, 29, 21, 4, 182, 0, 251, 54, 6, 21, 5, 2, 160, 0, 12, 21, 6, 17, 3, 232, 108]
abbrev dktX12_leaders_3 : List UInt8 := dkwX12_leaders_3 ++ dktX12_leaders_4
def dkwX12_leaders_2 : List UInt8 := [182, 0, 78, 172, 28, 184, 0, 215, 153, 0, 10, 29, 184, 0, 218, 154, 0, 10, 42, 16, 250, 182, 0, 78]
abbrev dktX12_leaders_2 : List UInt8 := dkwX12_leaders_2 ++ dktX12_leaders_3
def dkwX12_leaders_1 : List UInt8 := [42, 16, 250, 182, 0, 78, 172, 21, 5, 2, 21, 4, 4, 100, 184, 0, 85, 154, 0, 10, 42, 16, 251]
abbrev dktX12_leaders_1 : List UInt8 := dkwX12_leaders_1 ++ dktX12_leaders_2
def dkwX12_leaders_0 : List UInt8 := [42, 27, 182, 0, 127, 154, 0, 9, 42, 2, 182, 0, 78, 172, 21, 4, 4, 5, 184, 0, 85, 154, 0, 10]
abbrev dktX12_leaders_0 : List UInt8 := dkwX12_leaders_0 ++ dktX12_leaders_1
theorem dksX12_leaders_0 : cX12_leaders.data.toList.drop 0 = dktX12_leaders_0 := by decide +kernel
theorem dksX12_leaders_1 : cX12_leaders.data.toList.drop 24 = dktX12_leaders_1 := dk_seg dksX12_leaders_0 24 rfl rfl
theorem dksX12_leaders_2 : cX12_leaders.data.toList.drop 47 = dktX12_leaders_2 := dk_seg dksX12_leaders_1 23 rfl rfl
theorem dksX12_leaders_3 : cX12_leaders.data.toList.drop 71 = dktX12_leaders_3 := dk_seg dksX12_leaders_2 24 rfl rfl
theorem dksX12_leaders_4 : cX12_leaders.data.toList.drop 95 = dktX12_leaders_4 := dk_seg dksX12_leaders_3 24 rfl rfl
theorem dksX12_leaders_5 : cX12_leaders.data.toList.drop 117 = dktX12_leaders_5 := dk_seg dksX12_leaders_4 22 rfl rfl
theorem dX12_leaders_0 : decode cX12_leaders 0 = .ok (.aload_n 0, 1) := dk_42 (dk_at dksX12_leaders_0 0 rfl rfl)
theorem dX12_leaders_1 : decode cX12_leaders 1 = .ok (.iload_n 1, 1) := dk_27 (dk_at dksX12_leaders_0 1 rfl rfl)
theorem dX12_leaders_2 : decode cX12_leaders 2 = .ok (.invokevirtual 127, 3) := dk_182 0 127 (dk_at dksX12_leaders_0 2 rfl rfl)
theorem dX12_leaders_5 : decode cX12_leaders 5 = .ok (.ifCond .ne 9, 3) := dk_154 0 9 (dk_at dksX12_leaders_0 5 rfl rfl)
theorem dX12_leaders_8 : decode cX12_leaders 8 = .ok (.aload_n 0, 1) := dk_42 (dk_at dksX12_leaders_0 8 rfl rfl)
theorem dX12_leaders_9 : decode cX12_leaders 9 = .ok (.iconst (-1), 1) := dk_2 (dk_at dksX12_leaders_0 9 rfl rfl)
theorem dX12_leaders_10 : decode cX12_leaders 10 = .ok (.invokevirtual 78, 3) := dk_182 0 78 (dk_at dksX12_leaders_0 10 rfl rfl)
theorem dX12_leaders_13 : decode cX12_leaders 13 = .ok (.ireturn, 1) := dk_172 (dk_at dksX12_leaders_0 13 rfl rfl)
theorem dX12_leaders_14 : decode cX12_leaders 14 = .ok (.iload 4, 2) := dk_21 4 (dk_at dksX12_leaders_0 14 rfl rfl)
theorem dX12_leaders_16 : decode cX12_leaders 16 = .ok (.iconst 1, 1) := dk_4 (dk_at dksX12_leaders_0 16 rfl rfl)
theorem dX12_leaders_17 : decode cX12_leaders 17 = .ok (.iconst 2, 1) := dk_5 (dk_at dksX12_leaders_0 17 rfl rfl)
theorem dX12_leaders_18 : decode cX12_leaders 18 = .ok (.invokestatic 85, 3) := dk_184 0 85 (dk_at dksX12_leaders_0 18 rfl rfl)
theorem dX12_leaders_21 : decode cX12_leaders 21 = .ok (.ifCond .ne 10, 3) := dk_154 0 10 (dk_at dksX12_leaders_0 21 rfl rfl)
theorem dX12_leaders_24 : decode cX12_leaders 24 = .ok (.aload_n 0, 1) := dk_42 (dk_at dksX12_leaders_1 0 rfl rfl)
theorem dX12_leaders_25 : decode cX12_leaders 25 = .ok (.bipush (-6), 2) := dk_16 250 (dk_at dksX12_leaders_1 1 rfl rfl)
theorem dX12_leaders_27 : decode cX12_leaders 27 = .ok (.invokevirtual 78, 3) := dk_182 0 78 (dk_at dksX12_leaders_1 3 rfl rfl)
theorem dX12_leaders_30 : decode cX12_leaders 30 = .ok (.ireturn, 1) := dk_172 (dk_at dksX12_leaders_1 6 rfl rfl)
theorem dX12_leaders_31 : decode cX12_leaders 31 = .ok (.iload 5, 2) := dk_21 5 (dk_at dksX12_leaders_1 7 rfl rfl)
theorem dX12_leaders_33 : decode cX12_leaders 33 = .ok (.iconst (-1), 1) := dk_2 (dk_at dksX12_leaders_1 9 rfl rfl)
theorem dX12_leaders_34 : decode cX12_leaders 34 = .ok (.iload 4, 2) := dk_21 4 (dk_at dksX12_leaders_1 10 rfl rfl)
theorem dX12_leaders_36 : decode cX12_leaders 36 = .ok (.iconst 1, 1) := dk_4 (dk_at dksX12_leaders_1 12 rfl rfl)
theorem dX12_leaders_37 : decode cX12_leaders 37 = .ok (.isub, 1) := dk_100 (dk_at dksX12_leaders_1 13 rfl rfl)
theorem dX12_leaders_38 : decode cX12_leaders 38 = .ok (.invokestatic 85, 3) := dk_184 0 85 (dk_at dksX12_leaders_1 14 rfl rfl)
theorem dX12_leaders_41 : decode cX12_leaders 41 = .ok (.ifCond .ne 10, 3) := dk_154 0 10 (dk_at dksX12_leaders_1 17 rfl rfl)
theorem dX12_leaders_44 : decode cX12_leaders 44 = .ok (.aload_n 0, 1) := dk_42 (dk_at dksX12_leaders_1 20 rfl rfl)
theorem dX12_leaders_45 : decode cX12_leaders 45 = .ok (.bipush (-5), 2) := dk_16 251 (dk_at dksX12_leaders_1 21 rfl rfl)
theorem dX12_leaders_47 : decode cX12_leaders 47 = .ok (.invokevirtual 78, 3) := dk_182 0 78 (dk_at dksX12_leaders_2 0 rfl rfl)
theorem dX12_leaders_50 : decode cX12_leaders 50 = .ok (.ireturn, 1) := dk_172 (dk_at dksX12_leaders_2 3 rfl rfl)
theorem dX12_leaders_51 : decode cX12_leaders 51 = .ok (.iload_n 2, 1) := dk_28 (dk_at dksX12_leaders_2 4 rfl rfl)
theorem dX12_leaders_52 : decode cX12_leaders 52 = .ok (.invokestatic 215, 3) := dk_184 0 215 (dk_at dksX12_leaders_2 5 rfl rfl)
theorem dX12_leaders_55 : decode cX12_leaders 55 = .ok (.ifCond .eq 10, 3) := dk_153 0 10 (dk_at dksX12_leaders_2 8 rfl rfl)
theorem dX12_leaders_58 : decode cX12_leaders 58 = .ok (.iload_n 3, 1) := dk_29 (dk_at dksX12_leaders_2 11 rfl rfl)
theorem dX12_leaders_59 : decode cX12_leaders 59 = .ok (.invokestatic 218, 3) := dk_184 0 218 (dk_at dksX12_leaders_2 12 rfl rfl)
theorem dX12_leaders_62 : decode cX12_leaders 62 = .ok (.ifCond .ne 10, 3) := dk_154 0 10 (dk_at dksX12_leaders_2 15 rfl rfl)
theorem dX12_leaders_65 : decode cX12_leaders 65 = .ok (.aload_n 0, 1) := dk_42 (dk_at dksX12_leaders_2 18 rfl rfl)
theorem dX12_leaders_66 : decode cX12_leaders 66 = .ok (.bipush (-6), 2) := dk_16 250 (dk_at dksX12_leaders_2 19 rfl rfl)
theorem dX12_leaders_68 : decode cX12_leaders 68 = .ok (.invokevirtual 78, 3) := dk_182 0 78 (dk_at dksX12_leaders_2 21 rfl rfl)
theorem dX12_leaders_71 : decode cX12_leaders 71 = .ok (.ireturn, 1) := dk_172 (dk_at dksX12_leaders_3 0 rfl rfl)
theorem dX12_leaders_72 : decode cX12_leaders 72 = .ok (.aload_n 0, 1) := dk_42 (dk_at dksX12_leaders_3 1 rfl rfl)
theorem dX12_leaders_73 : decode cX12_leaders 73 = .ok (.iload_n 1, 1) := dk_27 (dk_at dksX12_leaders_3 2 rfl rfl)
theorem dX12_leaders_74 : decode cX12_leaders 74 = .ok (.iload_n 2, 1) := dk_28 (dk_at dksX12_leaders_3 3 rfl rfl)
theorem dX12_leaders_75 : decode cX12_leaders 75 = .ok (.iload_n 3, 1) := dk_29 (dk_at dksX12_leaders_3 4 rfl rfl)
theorem dX12_leaders_76 : decode cX12_leaders 76 = .ok (.iload 4, 2) := dk_21 4 (dk_at dksX12_leaders_3 5 rfl rfl)
theorem dX12_leaders_78 : decode cX12_leaders 78 = .ok (.invokevirtual 251, 3) := dk_182 0 251 (dk_at dksX12_leaders_3 7 rfl rfl)
theorem dX12_leaders_81 : decode cX12_leaders 81 = .ok (.istore 6, 2) := dk_54 6 (dk_at dksX12_leaders_3 10 rfl rfl)
theorem dX12_leaders_83 : decode cX12_leaders 83 = .ok (.iload 5, 2) := dk_21 5 (dk_at dksX12_leaders_3 12 rfl rfl)
theorem dX12_leaders_85 : decode cX12_leaders 85 = .ok (.iconst (-1), 1) := dk_2 (dk_at dksX12_leaders_3 14 rfl rfl)
theorem dX12_leaders_86 : decode cX12_leaders 86 = .ok (.if_icmp .ne 12, 3) := dk_160 0 12 (dk_at dksX12_leaders_3 15 rfl rfl)
theorem dX12_leaders_89 : decode cX12_leaders 89 = .ok (.iload 6, 2) := dk_21 6 (dk_at dksX12_leaders_3 18 rfl rfl)
theorem dX12_leaders_91 : decode cX12_leaders 91 = .ok (.sipush 1000, 3) := dk_17 3 232 (dk_at dksX12_leaders_3 20 rfl rfl)
theorem dX12_leaders_94 : decode cX12_leaders 94 = .ok (.idiv, 1) := dk_108 (dk_at dksX12_leaders_3 23 rfl rfl)
theorem dX12_leaders_95 : decode cX12_leaders 95 = .ok (.goto 29, 3) := dk_167 0 29 (dk_at dksX12_leaders_4 0 rfl rfl)
theorem dX12_leaders_98 : decode cX12_leaders 98 = .ok (.iload 5, 2) := dk_21 5 (dk_at dksX12_leaders_4 3 rfl rfl)
theorem dX12_leaders_100 : decode cX12_leaders 100 = .ok (.ifCond .ne 15, 3) := dk_154 0 15 (dk_at dksX12_leaders_4 5 rfl rfl)
theorem dX12_leaders_103 : decode cX12_leaders 103 = .ok (.iload 6, 2) := dk_21 6 (dk_at dksX12_leaders_4 8 rfl rfl)
theorem dX12_leaders_105 : decode cX12_leaders 105 = .ok (.sipush 1000, 3) := dk_17 3 232 (dk_at dksX12_leaders_4 10 rfl rfl)
theorem dX12_leaders_108 : decode cX12_leaders 108 = .ok (.irem, 1) := dk_112 (dk_at dksX12_leaders_4 13 rfl rfl)
theorem dX12_leaders_109 : decode cX12_leaders 109 = .ok (.bipush 24, 2) := dk_16 24 (dk_at dksX12_leaders_4 14 rfl rfl)
theorem dX12_leaders_111 : decode cX12_leaders 111 = .ok (.idiv, 1) := dk_108 (dk_at dksX12_leaders_4 16 rfl rfl)
theorem dX12_leaders_112 : decode cX12_leaders 112 = .ok (.goto 12, 3) := dk_167 0 12 (dk_at dksX12_leaders_4 17 rfl rfl)
theorem dX12_leaders_115 : decode cX12_leaders 115 = .ok (.iload 6, 2) := dk_21 6 (dk_at dksX12_leaders_4 20 rfl rfl)
theorem dX12_leaders_117 : decode cX12_leaders 117 = .ok (.sipush 1000, 3) := dk_17 3 232 (dk_at dksX12_leaders_5 0 rfl rfl)
theorem dX12_leaders_120 : decode cX12_leaders 120 = .ok (.irem, 1) := dk_112 (dk_at dksX12_leaders_5 3 rfl rfl)
theorem dX12_leaders_121 : decode cX12_leaders 121 = .ok (.bipush 24, 2) := dk_16 24 (dk_at dksX12_leaders_5 4 rfl rfl)
theorem dX12_leaders_123 : decode cX12_leaders 123 = .ok (.irem, 1) := dk_112 (dk_at dksX12_leaders_5 6 rfl rfl)
theorem dX12_leaders_124 : decode cX12_leaders 124 = .ok (.ireturn, 1) := dk_172 (dk_at dksX12_leaders_5 7 rfl rfl)
abbrev cX12_bestLeaders : ByteArray := prog_22_method_60_code
def yX12_bestLeaders : MethodName := ⟨RX12, "bestLeaders", "(IIII)I"⟩
def dkwX12_bestLeaders_7 : List UInt8 := [172]
abbrev dktX12_bestLeaders_7 : List UInt8 := dkwX12_bestLeaders_7 ++ []
def dkwX12_bestLeaders_6 : List UInt8 := [167, 255, 173, 42, 21, 5, 181, 0, 82, 132, 8, 1, 167, 255, 119, 17, 3, 232, 21, 6, 104, 21, 7, 96]
abbrev dktX12_bestLeaders_6 : List UInt8 := dkwX12_bestLeaders_6 ++ dktX12_bestLeaders_7
def dkwX12_bestLeaders_5 : List UInt8 := [163, 0, 6, 167, 0, 17, 21, 10, 54, 6, 16, 24, 21, 8, 104, 21, 9, 96, 54, 7, 132, 9, 1]
abbrev dktX12_bestLeaders_5 : List UInt8 := dkwX12_bestLeaders_5 ++ dktX12_bestLeaders_6
def dkwX12_bestLeaders_4 : List UInt8 := [42, 27, 28, 29, 21, 5, 182, 0, 247, 54, 10, 42, 21, 5, 4, 96, 181, 0, 82, 21, 10, 21, 6]
abbrev dktX12_bestLeaders_4 : List UInt8 := dkwX12_bestLeaders_4 ++ dktX12_bestLeaders_5
def dkwX12_bestLeaders_3 : List UInt8 := [42, 21, 9, 182, 0, 92, 153, 0, 6, 167, 0, 58, 21, 4, 5, 160, 0, 9, 42, 21, 9, 182, 0, 243]
abbrev dktX12_bestLeaders_3 : List UInt8 := dkwX12_bestLeaders_3 ++ dktX12_bestLeaders_4
def dkwX12_bestLeaders_2 : List UInt8 := [16, 23, 167, 0, 7, 21, 8, 4, 96, 54, 9, 21, 9, 16, 24, 162, 0, 82, 21, 4, 5, 160, 0, 15]
abbrev dktX12_bestLeaders_2 : List UInt8 := dkwX12_bestLeaders_2 ++ dktX12_bestLeaders_3
def dkwX12_bestLeaders_1 : List UInt8 := [21, 8, 182, 0, 92, 153, 0, 6, 167, 0, 118, 42, 21, 8, 182, 0, 243, 21, 4, 4, 160, 0, 8]
abbrev dktX12_bestLeaders_1 : List UInt8 := dkwX12_bestLeaders_1 ++ dktX12_bestLeaders_2
def dkwX12_bestLeaders_0 : List UInt8 := [42, 180, 0, 82, 54, 5, 2, 54, 6, 3, 54, 7, 3, 54, 8, 21, 8, 16, 24, 162, 0, 136, 42]
abbrev dktX12_bestLeaders_0 : List UInt8 := dkwX12_bestLeaders_0 ++ dktX12_bestLeaders_1
theorem dksX12_bestLeaders_0 : cX12_bestLeaders.data.toList.drop 0 = dktX12_bestLeaders_0 := by decide +kernel
theorem dksX12_bestLeaders_1 : cX12_bestLeaders.data.toList.drop 23 = dktX12_bestLeaders_1 := dk_seg dksX12_bestLeaders_0 23 rfl rfl
theorem dksX12_bestLeaders_2 : cX12_bestLeaders.data.toList.drop 46 = dktX12_bestLeaders_2 := dk_seg dksX12_bestLeaders_1 23 rfl rfl
theorem dksX12_bestLeaders_3 : cX12_bestLeaders.data.toList.drop 70 = dktX12_bestLeaders_3 := dk_seg dksX12_bestLeaders_2 24 rfl rfl
theorem dksX12_bestLeaders_4 : cX12_bestLeaders.data.toList.drop 94 = dktX12_bestLeaders_4 := dk_seg dksX12_bestLeaders_3 24 rfl rfl
theorem dksX12_bestLeaders_5 : cX12_bestLeaders.data.toList.drop 117 = dktX12_bestLeaders_5 := dk_seg dksX12_bestLeaders_4 23 rfl rfl
theorem dksX12_bestLeaders_6 : cX12_bestLeaders.data.toList.drop 140 = dktX12_bestLeaders_6 := dk_seg dksX12_bestLeaders_5 23 rfl rfl
theorem dksX12_bestLeaders_7 : cX12_bestLeaders.data.toList.drop 164 = dktX12_bestLeaders_7 := dk_seg dksX12_bestLeaders_6 24 rfl rfl
theorem dX12_bestLeaders_0 : decode cX12_bestLeaders 0 = .ok (.aload_n 0, 1) := dk_42 (dk_at dksX12_bestLeaders_0 0 rfl rfl)
theorem dX12_bestLeaders_1 : decode cX12_bestLeaders 1 = .ok (.getfield 82, 3) := dk_180 0 82 (dk_at dksX12_bestLeaders_0 1 rfl rfl)
theorem dX12_bestLeaders_4 : decode cX12_bestLeaders 4 = .ok (.istore 5, 2) := dk_54 5 (dk_at dksX12_bestLeaders_0 4 rfl rfl)
theorem dX12_bestLeaders_6 : decode cX12_bestLeaders 6 = .ok (.iconst (-1), 1) := dk_2 (dk_at dksX12_bestLeaders_0 6 rfl rfl)
theorem dX12_bestLeaders_7 : decode cX12_bestLeaders 7 = .ok (.istore 6, 2) := dk_54 6 (dk_at dksX12_bestLeaders_0 7 rfl rfl)
theorem dX12_bestLeaders_9 : decode cX12_bestLeaders 9 = .ok (.iconst 0, 1) := dk_3 (dk_at dksX12_bestLeaders_0 9 rfl rfl)
theorem dX12_bestLeaders_10 : decode cX12_bestLeaders 10 = .ok (.istore 7, 2) := dk_54 7 (dk_at dksX12_bestLeaders_0 10 rfl rfl)
theorem dX12_bestLeaders_12 : decode cX12_bestLeaders 12 = .ok (.iconst 0, 1) := dk_3 (dk_at dksX12_bestLeaders_0 12 rfl rfl)
theorem dX12_bestLeaders_13 : decode cX12_bestLeaders 13 = .ok (.istore 8, 2) := dk_54 8 (dk_at dksX12_bestLeaders_0 13 rfl rfl)
theorem dX12_bestLeaders_15 : decode cX12_bestLeaders 15 = .ok (.iload 8, 2) := dk_21 8 (dk_at dksX12_bestLeaders_0 15 rfl rfl)
theorem dX12_bestLeaders_17 : decode cX12_bestLeaders 17 = .ok (.bipush 24, 2) := dk_16 24 (dk_at dksX12_bestLeaders_0 17 rfl rfl)
theorem dX12_bestLeaders_19 : decode cX12_bestLeaders 19 = .ok (.if_icmp .ge 136, 3) := dk_162 0 136 (dk_at dksX12_bestLeaders_0 19 rfl rfl)
theorem dX12_bestLeaders_22 : decode cX12_bestLeaders 22 = .ok (.aload_n 0, 1) := dk_42 (dk_at dksX12_bestLeaders_0 22 rfl rfl)
theorem dX12_bestLeaders_23 : decode cX12_bestLeaders 23 = .ok (.iload 8, 2) := dk_21 8 (dk_at dksX12_bestLeaders_1 0 rfl rfl)
theorem dX12_bestLeaders_25 : decode cX12_bestLeaders 25 = .ok (.invokevirtual 92, 3) := dk_182 0 92 (dk_at dksX12_bestLeaders_1 2 rfl rfl)
theorem dX12_bestLeaders_28 : decode cX12_bestLeaders 28 = .ok (.ifCond .eq 6, 3) := dk_153 0 6 (dk_at dksX12_bestLeaders_1 5 rfl rfl)
theorem dX12_bestLeaders_31 : decode cX12_bestLeaders 31 = .ok (.goto 118, 3) := dk_167 0 118 (dk_at dksX12_bestLeaders_1 8 rfl rfl)
theorem dX12_bestLeaders_34 : decode cX12_bestLeaders 34 = .ok (.aload_n 0, 1) := dk_42 (dk_at dksX12_bestLeaders_1 11 rfl rfl)
theorem dX12_bestLeaders_35 : decode cX12_bestLeaders 35 = .ok (.iload 8, 2) := dk_21 8 (dk_at dksX12_bestLeaders_1 12 rfl rfl)
theorem dX12_bestLeaders_37 : decode cX12_bestLeaders 37 = .ok (.invokevirtual 243, 3) := dk_182 0 243 (dk_at dksX12_bestLeaders_1 14 rfl rfl)
theorem dX12_bestLeaders_40 : decode cX12_bestLeaders 40 = .ok (.iload 4, 2) := dk_21 4 (dk_at dksX12_bestLeaders_1 17 rfl rfl)
theorem dX12_bestLeaders_42 : decode cX12_bestLeaders 42 = .ok (.iconst 1, 1) := dk_4 (dk_at dksX12_bestLeaders_1 19 rfl rfl)
theorem dX12_bestLeaders_43 : decode cX12_bestLeaders 43 = .ok (.if_icmp .ne 8, 3) := dk_160 0 8 (dk_at dksX12_bestLeaders_1 20 rfl rfl)
theorem dX12_bestLeaders_46 : decode cX12_bestLeaders 46 = .ok (.bipush 23, 2) := dk_16 23 (dk_at dksX12_bestLeaders_2 0 rfl rfl)
theorem dX12_bestLeaders_48 : decode cX12_bestLeaders 48 = .ok (.goto 7, 3) := dk_167 0 7 (dk_at dksX12_bestLeaders_2 2 rfl rfl)
theorem dX12_bestLeaders_51 : decode cX12_bestLeaders 51 = .ok (.iload 8, 2) := dk_21 8 (dk_at dksX12_bestLeaders_2 5 rfl rfl)
theorem dX12_bestLeaders_53 : decode cX12_bestLeaders 53 = .ok (.iconst 1, 1) := dk_4 (dk_at dksX12_bestLeaders_2 7 rfl rfl)
theorem dX12_bestLeaders_54 : decode cX12_bestLeaders 54 = .ok (.iadd, 1) := dk_96 (dk_at dksX12_bestLeaders_2 8 rfl rfl)
theorem dX12_bestLeaders_55 : decode cX12_bestLeaders 55 = .ok (.istore 9, 2) := dk_54 9 (dk_at dksX12_bestLeaders_2 9 rfl rfl)
theorem dX12_bestLeaders_57 : decode cX12_bestLeaders 57 = .ok (.iload 9, 2) := dk_21 9 (dk_at dksX12_bestLeaders_2 11 rfl rfl)
theorem dX12_bestLeaders_59 : decode cX12_bestLeaders 59 = .ok (.bipush 24, 2) := dk_16 24 (dk_at dksX12_bestLeaders_2 13 rfl rfl)
theorem dX12_bestLeaders_61 : decode cX12_bestLeaders 61 = .ok (.if_icmp .ge 82, 3) := dk_162 0 82 (dk_at dksX12_bestLeaders_2 15 rfl rfl)
theorem dX12_bestLeaders_64 : decode cX12_bestLeaders 64 = .ok (.iload 4, 2) := dk_21 4 (dk_at dksX12_bestLeaders_2 18 rfl rfl)
theorem dX12_bestLeaders_66 : decode cX12_bestLeaders 66 = .ok (.iconst 2, 1) := dk_5 (dk_at dksX12_bestLeaders_2 20 rfl rfl)
theorem dX12_bestLeaders_67 : decode cX12_bestLeaders 67 = .ok (.if_icmp .ne 15, 3) := dk_160 0 15 (dk_at dksX12_bestLeaders_2 21 rfl rfl)
theorem dX12_bestLeaders_70 : decode cX12_bestLeaders 70 = .ok (.aload_n 0, 1) := dk_42 (dk_at dksX12_bestLeaders_3 0 rfl rfl)
theorem dX12_bestLeaders_71 : decode cX12_bestLeaders 71 = .ok (.iload 9, 2) := dk_21 9 (dk_at dksX12_bestLeaders_3 1 rfl rfl)
theorem dX12_bestLeaders_73 : decode cX12_bestLeaders 73 = .ok (.invokevirtual 92, 3) := dk_182 0 92 (dk_at dksX12_bestLeaders_3 3 rfl rfl)
theorem dX12_bestLeaders_76 : decode cX12_bestLeaders 76 = .ok (.ifCond .eq 6, 3) := dk_153 0 6 (dk_at dksX12_bestLeaders_3 6 rfl rfl)
theorem dX12_bestLeaders_79 : decode cX12_bestLeaders 79 = .ok (.goto 58, 3) := dk_167 0 58 (dk_at dksX12_bestLeaders_3 9 rfl rfl)
theorem dX12_bestLeaders_82 : decode cX12_bestLeaders 82 = .ok (.iload 4, 2) := dk_21 4 (dk_at dksX12_bestLeaders_3 12 rfl rfl)
theorem dX12_bestLeaders_84 : decode cX12_bestLeaders 84 = .ok (.iconst 2, 1) := dk_5 (dk_at dksX12_bestLeaders_3 14 rfl rfl)
theorem dX12_bestLeaders_85 : decode cX12_bestLeaders 85 = .ok (.if_icmp .ne 9, 3) := dk_160 0 9 (dk_at dksX12_bestLeaders_3 15 rfl rfl)
theorem dX12_bestLeaders_88 : decode cX12_bestLeaders 88 = .ok (.aload_n 0, 1) := dk_42 (dk_at dksX12_bestLeaders_3 18 rfl rfl)
theorem dX12_bestLeaders_89 : decode cX12_bestLeaders 89 = .ok (.iload 9, 2) := dk_21 9 (dk_at dksX12_bestLeaders_3 19 rfl rfl)
theorem dX12_bestLeaders_91 : decode cX12_bestLeaders 91 = .ok (.invokevirtual 243, 3) := dk_182 0 243 (dk_at dksX12_bestLeaders_3 21 rfl rfl)
theorem dX12_bestLeaders_94 : decode cX12_bestLeaders 94 = .ok (.aload_n 0, 1) := dk_42 (dk_at dksX12_bestLeaders_4 0 rfl rfl)
theorem dX12_bestLeaders_95 : decode cX12_bestLeaders 95 = .ok (.iload_n 1, 1) := dk_27 (dk_at dksX12_bestLeaders_4 1 rfl rfl)
theorem dX12_bestLeaders_96 : decode cX12_bestLeaders 96 = .ok (.iload_n 2, 1) := dk_28 (dk_at dksX12_bestLeaders_4 2 rfl rfl)
theorem dX12_bestLeaders_97 : decode cX12_bestLeaders 97 = .ok (.iload_n 3, 1) := dk_29 (dk_at dksX12_bestLeaders_4 3 rfl rfl)
theorem dX12_bestLeaders_98 : decode cX12_bestLeaders 98 = .ok (.iload 5, 2) := dk_21 5 (dk_at dksX12_bestLeaders_4 4 rfl rfl)
theorem dX12_bestLeaders_100 : decode cX12_bestLeaders 100 = .ok (.invokevirtual 247, 3) := dk_182 0 247 (dk_at dksX12_bestLeaders_4 6 rfl rfl)
theorem dX12_bestLeaders_103 : decode cX12_bestLeaders 103 = .ok (.istore 10, 2) := dk_54 10 (dk_at dksX12_bestLeaders_4 9 rfl rfl)
theorem dX12_bestLeaders_105 : decode cX12_bestLeaders 105 = .ok (.aload_n 0, 1) := dk_42 (dk_at dksX12_bestLeaders_4 11 rfl rfl)
theorem dX12_bestLeaders_106 : decode cX12_bestLeaders 106 = .ok (.iload 5, 2) := dk_21 5 (dk_at dksX12_bestLeaders_4 12 rfl rfl)
theorem dX12_bestLeaders_108 : decode cX12_bestLeaders 108 = .ok (.iconst 1, 1) := dk_4 (dk_at dksX12_bestLeaders_4 14 rfl rfl)
theorem dX12_bestLeaders_109 : decode cX12_bestLeaders 109 = .ok (.iadd, 1) := dk_96 (dk_at dksX12_bestLeaders_4 15 rfl rfl)
theorem dX12_bestLeaders_110 : decode cX12_bestLeaders 110 = .ok (.putfield 82, 3) := dk_181 0 82 (dk_at dksX12_bestLeaders_4 16 rfl rfl)
theorem dX12_bestLeaders_113 : decode cX12_bestLeaders 113 = .ok (.iload 10, 2) := dk_21 10 (dk_at dksX12_bestLeaders_4 19 rfl rfl)
theorem dX12_bestLeaders_115 : decode cX12_bestLeaders 115 = .ok (.iload 6, 2) := dk_21 6 (dk_at dksX12_bestLeaders_4 21 rfl rfl)
theorem dX12_bestLeaders_117 : decode cX12_bestLeaders 117 = .ok (.if_icmp .gt 6, 3) := dk_163 0 6 (dk_at dksX12_bestLeaders_5 0 rfl rfl)
theorem dX12_bestLeaders_120 : decode cX12_bestLeaders 120 = .ok (.goto 17, 3) := dk_167 0 17 (dk_at dksX12_bestLeaders_5 3 rfl rfl)
theorem dX12_bestLeaders_123 : decode cX12_bestLeaders 123 = .ok (.iload 10, 2) := dk_21 10 (dk_at dksX12_bestLeaders_5 6 rfl rfl)
theorem dX12_bestLeaders_125 : decode cX12_bestLeaders 125 = .ok (.istore 6, 2) := dk_54 6 (dk_at dksX12_bestLeaders_5 8 rfl rfl)
theorem dX12_bestLeaders_127 : decode cX12_bestLeaders 127 = .ok (.bipush 24, 2) := dk_16 24 (dk_at dksX12_bestLeaders_5 10 rfl rfl)
theorem dX12_bestLeaders_129 : decode cX12_bestLeaders 129 = .ok (.iload 8, 2) := dk_21 8 (dk_at dksX12_bestLeaders_5 12 rfl rfl)
theorem dX12_bestLeaders_131 : decode cX12_bestLeaders 131 = .ok (.imul, 1) := dk_104 (dk_at dksX12_bestLeaders_5 14 rfl rfl)
theorem dX12_bestLeaders_132 : decode cX12_bestLeaders 132 = .ok (.iload 9, 2) := dk_21 9 (dk_at dksX12_bestLeaders_5 15 rfl rfl)
theorem dX12_bestLeaders_134 : decode cX12_bestLeaders 134 = .ok (.iadd, 1) := dk_96 (dk_at dksX12_bestLeaders_5 17 rfl rfl)
theorem dX12_bestLeaders_135 : decode cX12_bestLeaders 135 = .ok (.istore 7, 2) := dk_54 7 (dk_at dksX12_bestLeaders_5 18 rfl rfl)
theorem dX12_bestLeaders_137 : decode cX12_bestLeaders 137 = .ok (.iinc 9 1, 3) := dk_132 9 1 (dk_at dksX12_bestLeaders_5 20 rfl rfl)
theorem dX12_bestLeaders_140 : decode cX12_bestLeaders 140 = .ok (.goto (-83), 3) := dk_167 255 173 (dk_at dksX12_bestLeaders_6 0 rfl rfl)
theorem dX12_bestLeaders_143 : decode cX12_bestLeaders 143 = .ok (.aload_n 0, 1) := dk_42 (dk_at dksX12_bestLeaders_6 3 rfl rfl)
theorem dX12_bestLeaders_144 : decode cX12_bestLeaders 144 = .ok (.iload 5, 2) := dk_21 5 (dk_at dksX12_bestLeaders_6 4 rfl rfl)
theorem dX12_bestLeaders_146 : decode cX12_bestLeaders 146 = .ok (.putfield 82, 3) := dk_181 0 82 (dk_at dksX12_bestLeaders_6 6 rfl rfl)
theorem dX12_bestLeaders_149 : decode cX12_bestLeaders 149 = .ok (.iinc 8 1, 3) := dk_132 8 1 (dk_at dksX12_bestLeaders_6 9 rfl rfl)
theorem dX12_bestLeaders_152 : decode cX12_bestLeaders 152 = .ok (.goto (-137), 3) := dk_167 255 119 (dk_at dksX12_bestLeaders_6 12 rfl rfl)
theorem dX12_bestLeaders_155 : decode cX12_bestLeaders 155 = .ok (.sipush 1000, 3) := dk_17 3 232 (dk_at dksX12_bestLeaders_6 15 rfl rfl)
theorem dX12_bestLeaders_158 : decode cX12_bestLeaders 158 = .ok (.iload 6, 2) := dk_21 6 (dk_at dksX12_bestLeaders_6 18 rfl rfl)
theorem dX12_bestLeaders_160 : decode cX12_bestLeaders 160 = .ok (.imul, 1) := dk_104 (dk_at dksX12_bestLeaders_6 20 rfl rfl)
theorem dX12_bestLeaders_161 : decode cX12_bestLeaders 161 = .ok (.iload 7, 2) := dk_21 7 (dk_at dksX12_bestLeaders_6 21 rfl rfl)
theorem dX12_bestLeaders_163 : decode cX12_bestLeaders 163 = .ok (.iadd, 1) := dk_96 (dk_at dksX12_bestLeaders_6 23 rfl rfl)
theorem dX12_bestLeaders_164 : decode cX12_bestLeaders 164 = .ok (.ireturn, 1) := dk_172 (dk_at dksX12_bestLeaders_7 0 rfl rfl)
abbrev cX12_leads : ByteArray := prog_22_method_58_code
def yX12_leads : MethodName := ⟨RX12, "leads", "(I)V"⟩
def dkwX12_leads_1 : List UInt8 := [180, 0, 89, 120, 4, 100, 79, 177]
abbrev dktX12_leads_1 : List UInt8 := dkwX12_leads_1 ++ []
def dkwX12_leads_0 : List UInt8 := [42, 4, 3, 27, 8, 16, 11, 182, 0, 123, 87, 42, 180, 0, 35, 42, 180, 0, 82, 4, 100, 4, 42]
abbrev dktX12_leads_0 : List UInt8 := dkwX12_leads_0 ++ dktX12_leads_1
theorem dksX12_leads_0 : cX12_leads.data.toList.drop 0 = dktX12_leads_0 := by decide +kernel
theorem dksX12_leads_1 : cX12_leads.data.toList.drop 23 = dktX12_leads_1 := dk_seg dksX12_leads_0 23 rfl rfl
theorem dX12_leads_0 : decode cX12_leads 0 = .ok (.aload_n 0, 1) := dk_42 (dk_at dksX12_leads_0 0 rfl rfl)
theorem dX12_leads_1 : decode cX12_leads 1 = .ok (.iconst 1, 1) := dk_4 (dk_at dksX12_leads_0 1 rfl rfl)
theorem dX12_leads_2 : decode cX12_leads 2 = .ok (.iconst 0, 1) := dk_3 (dk_at dksX12_leads_0 2 rfl rfl)
theorem dX12_leads_3 : decode cX12_leads 3 = .ok (.iload_n 1, 1) := dk_27 (dk_at dksX12_leads_0 3 rfl rfl)
theorem dX12_leads_4 : decode cX12_leads 4 = .ok (.iconst 5, 1) := dk_8 (dk_at dksX12_leads_0 4 rfl rfl)
theorem dX12_leads_5 : decode cX12_leads 5 = .ok (.bipush 11, 2) := dk_16 11 (dk_at dksX12_leads_0 5 rfl rfl)
theorem dX12_leads_7 : decode cX12_leads 7 = .ok (.invokevirtual 123, 3) := dk_182 0 123 (dk_at dksX12_leads_0 7 rfl rfl)
theorem dX12_leads_10 : decode cX12_leads 10 = .ok (.pop, 1) := dk_87 (dk_at dksX12_leads_0 10 rfl rfl)
theorem dX12_leads_11 : decode cX12_leads 11 = .ok (.aload_n 0, 1) := dk_42 (dk_at dksX12_leads_0 11 rfl rfl)
theorem dX12_leads_12 : decode cX12_leads 12 = .ok (.getfield 35, 3) := dk_180 0 35 (dk_at dksX12_leads_0 12 rfl rfl)
theorem dX12_leads_15 : decode cX12_leads 15 = .ok (.aload_n 0, 1) := dk_42 (dk_at dksX12_leads_0 15 rfl rfl)
theorem dX12_leads_16 : decode cX12_leads 16 = .ok (.getfield 82, 3) := dk_180 0 82 (dk_at dksX12_leads_0 16 rfl rfl)
theorem dX12_leads_19 : decode cX12_leads 19 = .ok (.iconst 1, 1) := dk_4 (dk_at dksX12_leads_0 19 rfl rfl)
theorem dX12_leads_20 : decode cX12_leads 20 = .ok (.isub, 1) := dk_100 (dk_at dksX12_leads_0 20 rfl rfl)
theorem dX12_leads_21 : decode cX12_leads 21 = .ok (.iconst 1, 1) := dk_4 (dk_at dksX12_leads_0 21 rfl rfl)
theorem dX12_leads_22 : decode cX12_leads 22 = .ok (.aload_n 0, 1) := dk_42 (dk_at dksX12_leads_0 22 rfl rfl)
theorem dX12_leads_23 : decode cX12_leads 23 = .ok (.getfield 89, 3) := dk_180 0 89 (dk_at dksX12_leads_1 0 rfl rfl)
theorem dX12_leads_26 : decode cX12_leads 26 = .ok (.ishl, 1) := dk_120 (dk_at dksX12_leads_1 3 rfl rfl)
theorem dX12_leads_27 : decode cX12_leads 27 = .ok (.iconst 1, 1) := dk_4 (dk_at dksX12_leads_1 4 rfl rfl)
theorem dX12_leads_28 : decode cX12_leads 28 = .ok (.isub, 1) := dk_100 (dk_at dksX12_leads_1 5 rfl rfl)
theorem dX12_leads_29 : decode cX12_leads 29 = .ok (.iastore, 1) := dk_79 (dk_at dksX12_leads_1 6 rfl rfl)
theorem dX12_leads_30 : decode cX12_leads 30 = .ok (.return_, 1) := dk_177 (dk_at dksX12_leads_1 7 rfl rfl)
abbrev cX12_ledAt : ByteArray := prog_22_method_59_code
def yX12_ledAt : MethodName := ⟨RX12, "ledAt", "(IIII)I"⟩
def dkwX12_ledAt_0 : List UInt8 := [42, 27, 28, 29, 182, 0, 236, 4, 21, 4, 120, 4, 100, 126, 184, 0, 112, 172]
abbrev dktX12_ledAt_0 : List UInt8 := dkwX12_ledAt_0 ++ []
theorem dksX12_ledAt_0 : cX12_ledAt.data.toList.drop 0 = dktX12_ledAt_0 := by decide +kernel
theorem dX12_ledAt_0 : decode cX12_ledAt 0 = .ok (.aload_n 0, 1) := dk_42 (dk_at dksX12_ledAt_0 0 rfl rfl)
theorem dX12_ledAt_1 : decode cX12_ledAt 1 = .ok (.iload_n 1, 1) := dk_27 (dk_at dksX12_ledAt_0 1 rfl rfl)
theorem dX12_ledAt_2 : decode cX12_ledAt 2 = .ok (.iload_n 2, 1) := dk_28 (dk_at dksX12_ledAt_0 2 rfl rfl)
theorem dX12_ledAt_3 : decode cX12_ledAt 3 = .ok (.iload_n 3, 1) := dk_29 (dk_at dksX12_ledAt_0 3 rfl rfl)
theorem dX12_ledAt_4 : decode cX12_ledAt 4 = .ok (.invokevirtual 236, 3) := dk_182 0 236 (dk_at dksX12_ledAt_0 4 rfl rfl)
theorem dX12_ledAt_7 : decode cX12_ledAt 7 = .ok (.iconst 1, 1) := dk_4 (dk_at dksX12_ledAt_0 7 rfl rfl)
theorem dX12_ledAt_8 : decode cX12_ledAt 8 = .ok (.iload 4, 2) := dk_21 4 (dk_at dksX12_ledAt_0 8 rfl rfl)
theorem dX12_ledAt_10 : decode cX12_ledAt 10 = .ok (.ishl, 1) := dk_120 (dk_at dksX12_ledAt_0 10 rfl rfl)
theorem dX12_ledAt_11 : decode cX12_ledAt 11 = .ok (.iconst 1, 1) := dk_4 (dk_at dksX12_ledAt_0 11 rfl rfl)
theorem dX12_ledAt_12 : decode cX12_ledAt 12 = .ok (.isub, 1) := dk_100 (dk_at dksX12_ledAt_0 12 rfl rfl)
theorem dX12_ledAt_13 : decode cX12_ledAt 13 = .ok (.iand, 1) := dk_126 (dk_at dksX12_ledAt_0 13 rfl rfl)
theorem dX12_ledAt_14 : decode cX12_ledAt 14 = .ok (.invokestatic 112, 3) := dk_184 0 112 (dk_at dksX12_ledAt_0 14 rfl rfl)
theorem dX12_ledAt_17 : decode cX12_ledAt 17 = .ok (.ireturn, 1) := dk_172 (dk_at dksX12_ledAt_0 17 rfl rfl)
abbrev cX12_taught : ByteArray := prog_22_method_62_code
def yX12_taught : MethodName := ⟨RX12, "taught", "(II)I"⟩
def dkwX12_taught_9 : List UInt8 := [172]
abbrev dktX12_taught_9 : List UInt8 := dkwX12_taught_9 ++ []
def dkwX12_taught_8 : List UInt8 := [21, 6, 92, 46, 4, 27, 120, 2, 130, 126, 79, 132, 6, 1, 167, 255, 209, 132, 4, 1, 167, 255, 81, 29]
abbrev dktX12_taught_8 : List UInt8 := dkwX12_taught_8 ++ dktX12_taught_9
def dkwX12_taught_7 : List UInt8 := [21, 4, 21, 6, 184, 0, 187, 153, 0, 28, 21, 5, 21, 6, 184, 0, 187, 154, 0, 18, 42, 180, 0, 35]
abbrev dktX12_taught_7 : List UInt8 := dkwX12_taught_7 ++ dktX12_taught_8
def dkwX12_taught_6 : List UInt8 := [27, 28, 182, 0, 230, 2, 159, 0, 6, 21, 4, 62, 3, 54, 6, 21, 6, 42, 180, 0, 82, 162, 0, 44]
abbrev dktX12_taught_6 : List UInt8 := dkwX12_taught_6 ++ dktX12_taught_7
def dkwX12_taught_5 : List UInt8 := [120, 128, 54, 5, 42, 180, 0, 35, 21, 6, 92, 46, 4, 27, 120, 128, 79, 132, 6, 1, 167, 255, 199, 42]
abbrev dktX12_taught_5 : List UInt8 := dkwX12_taught_5 ++ dktX12_taught_6
def dkwX12_taught_4 : List UInt8 := [184, 0, 187, 154, 0, 6, 167, 0, 35, 21, 5, 42, 180, 0, 35, 21, 6, 46, 27, 122, 4, 126, 21, 6]
abbrev dktX12_taught_4 : List UInt8 := dkwX12_taught_4 ++ dktX12_taught_5
def dkwX12_taught_3 : List UInt8 := [167, 0, 135, 3, 54, 5, 3, 54, 6, 21, 6, 42, 180, 0, 82, 162, 0, 54, 21, 4, 21, 6]
abbrev dktX12_taught_3 : List UInt8 := dkwX12_taught_3 ++ dktX12_taught_4
def dkwX12_taught_2 : List UInt8 := [184, 0, 112, 6, 163, 0, 155, 29, 2, 159, 0, 18, 21, 4, 184, 0, 112, 29, 184, 0, 112, 161, 0, 6]
abbrev dktX12_taught_2 : List UInt8 := dkwX12_taught_2 ++ dktX12_taught_3
def dkwX12_taught_1 : List UInt8 := [182, 0, 227, 172, 2, 62, 3, 54, 4, 21, 4, 4, 42, 180, 0, 82, 120, 162, 0, 170, 21, 4]
abbrev dktX12_taught_1 : List UInt8 := dkwX12_taught_1 ++ dktX12_taught_2
def dkwX12_taught_0 : List UInt8 := [42, 27, 182, 0, 127, 154, 0, 9, 42, 2, 182, 0, 227, 172, 28, 184, 0, 215, 154, 0, 10, 42, 16, 250]
abbrev dktX12_taught_0 : List UInt8 := dkwX12_taught_0 ++ dktX12_taught_1
theorem dksX12_taught_0 : cX12_taught.data.toList.drop 0 = dktX12_taught_0 := by decide +kernel
theorem dksX12_taught_1 : cX12_taught.data.toList.drop 24 = dktX12_taught_1 := dk_seg dksX12_taught_0 24 rfl rfl
theorem dksX12_taught_2 : cX12_taught.data.toList.drop 46 = dktX12_taught_2 := dk_seg dksX12_taught_1 22 rfl rfl
theorem dksX12_taught_3 : cX12_taught.data.toList.drop 70 = dktX12_taught_3 := dk_seg dksX12_taught_2 24 rfl rfl
theorem dksX12_taught_4 : cX12_taught.data.toList.drop 92 = dktX12_taught_4 := dk_seg dksX12_taught_3 22 rfl rfl
theorem dksX12_taught_5 : cX12_taught.data.toList.drop 116 = dktX12_taught_5 := dk_seg dksX12_taught_4 24 rfl rfl
theorem dksX12_taught_6 : cX12_taught.data.toList.drop 140 = dktX12_taught_6 := dk_seg dksX12_taught_5 24 rfl rfl
theorem dksX12_taught_7 : cX12_taught.data.toList.drop 164 = dktX12_taught_7 := dk_seg dksX12_taught_6 24 rfl rfl
theorem dksX12_taught_8 : cX12_taught.data.toList.drop 188 = dktX12_taught_8 := dk_seg dksX12_taught_7 24 rfl rfl
theorem dksX12_taught_9 : cX12_taught.data.toList.drop 212 = dktX12_taught_9 := dk_seg dksX12_taught_8 24 rfl rfl
theorem dX12_taught_0 : decode cX12_taught 0 = .ok (.aload_n 0, 1) := dk_42 (dk_at dksX12_taught_0 0 rfl rfl)
theorem dX12_taught_1 : decode cX12_taught 1 = .ok (.iload_n 1, 1) := dk_27 (dk_at dksX12_taught_0 1 rfl rfl)
theorem dX12_taught_2 : decode cX12_taught 2 = .ok (.invokevirtual 127, 3) := dk_182 0 127 (dk_at dksX12_taught_0 2 rfl rfl)
theorem dX12_taught_5 : decode cX12_taught 5 = .ok (.ifCond .ne 9, 3) := dk_154 0 9 (dk_at dksX12_taught_0 5 rfl rfl)
theorem dX12_taught_8 : decode cX12_taught 8 = .ok (.aload_n 0, 1) := dk_42 (dk_at dksX12_taught_0 8 rfl rfl)
theorem dX12_taught_9 : decode cX12_taught 9 = .ok (.iconst (-1), 1) := dk_2 (dk_at dksX12_taught_0 9 rfl rfl)
theorem dX12_taught_10 : decode cX12_taught 10 = .ok (.invokevirtual 227, 3) := dk_182 0 227 (dk_at dksX12_taught_0 10 rfl rfl)
theorem dX12_taught_13 : decode cX12_taught 13 = .ok (.ireturn, 1) := dk_172 (dk_at dksX12_taught_0 13 rfl rfl)
theorem dX12_taught_14 : decode cX12_taught 14 = .ok (.iload_n 2, 1) := dk_28 (dk_at dksX12_taught_0 14 rfl rfl)
theorem dX12_taught_15 : decode cX12_taught 15 = .ok (.invokestatic 215, 3) := dk_184 0 215 (dk_at dksX12_taught_0 15 rfl rfl)
theorem dX12_taught_18 : decode cX12_taught 18 = .ok (.ifCond .ne 10, 3) := dk_154 0 10 (dk_at dksX12_taught_0 18 rfl rfl)
theorem dX12_taught_21 : decode cX12_taught 21 = .ok (.aload_n 0, 1) := dk_42 (dk_at dksX12_taught_0 21 rfl rfl)
theorem dX12_taught_22 : decode cX12_taught 22 = .ok (.bipush (-6), 2) := dk_16 250 (dk_at dksX12_taught_0 22 rfl rfl)
theorem dX12_taught_24 : decode cX12_taught 24 = .ok (.invokevirtual 227, 3) := dk_182 0 227 (dk_at dksX12_taught_1 0 rfl rfl)
theorem dX12_taught_27 : decode cX12_taught 27 = .ok (.ireturn, 1) := dk_172 (dk_at dksX12_taught_1 3 rfl rfl)
theorem dX12_taught_28 : decode cX12_taught 28 = .ok (.iconst (-1), 1) := dk_2 (dk_at dksX12_taught_1 4 rfl rfl)
theorem dX12_taught_29 : decode cX12_taught 29 = .ok (.istore_n 3, 1) := dk_62 (dk_at dksX12_taught_1 5 rfl rfl)
theorem dX12_taught_30 : decode cX12_taught 30 = .ok (.iconst 0, 1) := dk_3 (dk_at dksX12_taught_1 6 rfl rfl)
theorem dX12_taught_31 : decode cX12_taught 31 = .ok (.istore 4, 2) := dk_54 4 (dk_at dksX12_taught_1 7 rfl rfl)
theorem dX12_taught_33 : decode cX12_taught 33 = .ok (.iload 4, 2) := dk_21 4 (dk_at dksX12_taught_1 9 rfl rfl)
theorem dX12_taught_35 : decode cX12_taught 35 = .ok (.iconst 1, 1) := dk_4 (dk_at dksX12_taught_1 11 rfl rfl)
theorem dX12_taught_36 : decode cX12_taught 36 = .ok (.aload_n 0, 1) := dk_42 (dk_at dksX12_taught_1 12 rfl rfl)
theorem dX12_taught_37 : decode cX12_taught 37 = .ok (.getfield 82, 3) := dk_180 0 82 (dk_at dksX12_taught_1 13 rfl rfl)
theorem dX12_taught_40 : decode cX12_taught 40 = .ok (.ishl, 1) := dk_120 (dk_at dksX12_taught_1 16 rfl rfl)
theorem dX12_taught_41 : decode cX12_taught 41 = .ok (.if_icmp .ge 170, 3) := dk_162 0 170 (dk_at dksX12_taught_1 17 rfl rfl)
theorem dX12_taught_44 : decode cX12_taught 44 = .ok (.iload 4, 2) := dk_21 4 (dk_at dksX12_taught_1 20 rfl rfl)
theorem dX12_taught_46 : decode cX12_taught 46 = .ok (.invokestatic 112, 3) := dk_184 0 112 (dk_at dksX12_taught_2 0 rfl rfl)
theorem dX12_taught_49 : decode cX12_taught 49 = .ok (.iconst 3, 1) := dk_6 (dk_at dksX12_taught_2 3 rfl rfl)
theorem dX12_taught_50 : decode cX12_taught 50 = .ok (.if_icmp .gt 155, 3) := dk_163 0 155 (dk_at dksX12_taught_2 4 rfl rfl)
theorem dX12_taught_53 : decode cX12_taught 53 = .ok (.iload_n 3, 1) := dk_29 (dk_at dksX12_taught_2 7 rfl rfl)
theorem dX12_taught_54 : decode cX12_taught 54 = .ok (.iconst (-1), 1) := dk_2 (dk_at dksX12_taught_2 8 rfl rfl)
theorem dX12_taught_55 : decode cX12_taught 55 = .ok (.if_icmp .eq 18, 3) := dk_159 0 18 (dk_at dksX12_taught_2 9 rfl rfl)
theorem dX12_taught_58 : decode cX12_taught 58 = .ok (.iload 4, 2) := dk_21 4 (dk_at dksX12_taught_2 12 rfl rfl)
theorem dX12_taught_60 : decode cX12_taught 60 = .ok (.invokestatic 112, 3) := dk_184 0 112 (dk_at dksX12_taught_2 14 rfl rfl)
theorem dX12_taught_63 : decode cX12_taught 63 = .ok (.iload_n 3, 1) := dk_29 (dk_at dksX12_taught_2 17 rfl rfl)
theorem dX12_taught_64 : decode cX12_taught 64 = .ok (.invokestatic 112, 3) := dk_184 0 112 (dk_at dksX12_taught_2 18 rfl rfl)
theorem dX12_taught_67 : decode cX12_taught 67 = .ok (.if_icmp .lt 6, 3) := dk_161 0 6 (dk_at dksX12_taught_2 21 rfl rfl)
theorem dX12_taught_70 : decode cX12_taught 70 = .ok (.goto 135, 3) := dk_167 0 135 (dk_at dksX12_taught_3 0 rfl rfl)
theorem dX12_taught_73 : decode cX12_taught 73 = .ok (.iconst 0, 1) := dk_3 (dk_at dksX12_taught_3 3 rfl rfl)
theorem dX12_taught_74 : decode cX12_taught 74 = .ok (.istore 5, 2) := dk_54 5 (dk_at dksX12_taught_3 4 rfl rfl)
theorem dX12_taught_76 : decode cX12_taught 76 = .ok (.iconst 0, 1) := dk_3 (dk_at dksX12_taught_3 6 rfl rfl)
theorem dX12_taught_77 : decode cX12_taught 77 = .ok (.istore 6, 2) := dk_54 6 (dk_at dksX12_taught_3 7 rfl rfl)
theorem dX12_taught_79 : decode cX12_taught 79 = .ok (.iload 6, 2) := dk_21 6 (dk_at dksX12_taught_3 9 rfl rfl)
theorem dX12_taught_81 : decode cX12_taught 81 = .ok (.aload_n 0, 1) := dk_42 (dk_at dksX12_taught_3 11 rfl rfl)
theorem dX12_taught_82 : decode cX12_taught 82 = .ok (.getfield 82, 3) := dk_180 0 82 (dk_at dksX12_taught_3 12 rfl rfl)
theorem dX12_taught_85 : decode cX12_taught 85 = .ok (.if_icmp .ge 54, 3) := dk_162 0 54 (dk_at dksX12_taught_3 15 rfl rfl)
theorem dX12_taught_88 : decode cX12_taught 88 = .ok (.iload 4, 2) := dk_21 4 (dk_at dksX12_taught_3 18 rfl rfl)
theorem dX12_taught_90 : decode cX12_taught 90 = .ok (.iload 6, 2) := dk_21 6 (dk_at dksX12_taught_3 20 rfl rfl)
theorem dX12_taught_92 : decode cX12_taught 92 = .ok (.invokestatic 187, 3) := dk_184 0 187 (dk_at dksX12_taught_4 0 rfl rfl)
theorem dX12_taught_95 : decode cX12_taught 95 = .ok (.ifCond .ne 6, 3) := dk_154 0 6 (dk_at dksX12_taught_4 3 rfl rfl)
theorem dX12_taught_98 : decode cX12_taught 98 = .ok (.goto 35, 3) := dk_167 0 35 (dk_at dksX12_taught_4 6 rfl rfl)
theorem dX12_taught_101 : decode cX12_taught 101 = .ok (.iload 5, 2) := dk_21 5 (dk_at dksX12_taught_4 9 rfl rfl)
theorem dX12_taught_103 : decode cX12_taught 103 = .ok (.aload_n 0, 1) := dk_42 (dk_at dksX12_taught_4 11 rfl rfl)
theorem dX12_taught_104 : decode cX12_taught 104 = .ok (.getfield 35, 3) := dk_180 0 35 (dk_at dksX12_taught_4 12 rfl rfl)
theorem dX12_taught_107 : decode cX12_taught 107 = .ok (.iload 6, 2) := dk_21 6 (dk_at dksX12_taught_4 15 rfl rfl)
theorem dX12_taught_109 : decode cX12_taught 109 = .ok (.iaload, 1) := dk_46 (dk_at dksX12_taught_4 17 rfl rfl)
theorem dX12_taught_110 : decode cX12_taught 110 = .ok (.iload_n 1, 1) := dk_27 (dk_at dksX12_taught_4 18 rfl rfl)
theorem dX12_taught_111 : decode cX12_taught 111 = .ok (.ishr, 1) := dk_122 (dk_at dksX12_taught_4 19 rfl rfl)
theorem dX12_taught_112 : decode cX12_taught 112 = .ok (.iconst 1, 1) := dk_4 (dk_at dksX12_taught_4 20 rfl rfl)
theorem dX12_taught_113 : decode cX12_taught 113 = .ok (.iand, 1) := dk_126 (dk_at dksX12_taught_4 21 rfl rfl)
theorem dX12_taught_114 : decode cX12_taught 114 = .ok (.iload 6, 2) := dk_21 6 (dk_at dksX12_taught_4 22 rfl rfl)
theorem dX12_taught_116 : decode cX12_taught 116 = .ok (.ishl, 1) := dk_120 (dk_at dksX12_taught_5 0 rfl rfl)
theorem dX12_taught_117 : decode cX12_taught 117 = .ok (.ior, 1) := dk_128 (dk_at dksX12_taught_5 1 rfl rfl)
theorem dX12_taught_118 : decode cX12_taught 118 = .ok (.istore 5, 2) := dk_54 5 (dk_at dksX12_taught_5 2 rfl rfl)
theorem dX12_taught_120 : decode cX12_taught 120 = .ok (.aload_n 0, 1) := dk_42 (dk_at dksX12_taught_5 4 rfl rfl)
theorem dX12_taught_121 : decode cX12_taught 121 = .ok (.getfield 35, 3) := dk_180 0 35 (dk_at dksX12_taught_5 5 rfl rfl)
theorem dX12_taught_124 : decode cX12_taught 124 = .ok (.iload 6, 2) := dk_21 6 (dk_at dksX12_taught_5 8 rfl rfl)
theorem dX12_taught_126 : decode cX12_taught 126 = .ok (.dup2, 1) := dk_92 (dk_at dksX12_taught_5 10 rfl rfl)
theorem dX12_taught_127 : decode cX12_taught 127 = .ok (.iaload, 1) := dk_46 (dk_at dksX12_taught_5 11 rfl rfl)
theorem dX12_taught_128 : decode cX12_taught 128 = .ok (.iconst 1, 1) := dk_4 (dk_at dksX12_taught_5 12 rfl rfl)
theorem dX12_taught_129 : decode cX12_taught 129 = .ok (.iload_n 1, 1) := dk_27 (dk_at dksX12_taught_5 13 rfl rfl)
theorem dX12_taught_130 : decode cX12_taught 130 = .ok (.ishl, 1) := dk_120 (dk_at dksX12_taught_5 14 rfl rfl)
theorem dX12_taught_131 : decode cX12_taught 131 = .ok (.ior, 1) := dk_128 (dk_at dksX12_taught_5 15 rfl rfl)
theorem dX12_taught_132 : decode cX12_taught 132 = .ok (.iastore, 1) := dk_79 (dk_at dksX12_taught_5 16 rfl rfl)
theorem dX12_taught_133 : decode cX12_taught 133 = .ok (.iinc 6 1, 3) := dk_132 6 1 (dk_at dksX12_taught_5 17 rfl rfl)
theorem dX12_taught_136 : decode cX12_taught 136 = .ok (.goto (-57), 3) := dk_167 255 199 (dk_at dksX12_taught_5 20 rfl rfl)
theorem dX12_taught_139 : decode cX12_taught 139 = .ok (.aload_n 0, 1) := dk_42 (dk_at dksX12_taught_5 23 rfl rfl)
theorem dX12_taught_140 : decode cX12_taught 140 = .ok (.iload_n 1, 1) := dk_27 (dk_at dksX12_taught_6 0 rfl rfl)
theorem dX12_taught_141 : decode cX12_taught 141 = .ok (.iload_n 2, 1) := dk_28 (dk_at dksX12_taught_6 1 rfl rfl)
theorem dX12_taught_142 : decode cX12_taught 142 = .ok (.invokevirtual 230, 3) := dk_182 0 230 (dk_at dksX12_taught_6 2 rfl rfl)
theorem dX12_taught_145 : decode cX12_taught 145 = .ok (.iconst (-1), 1) := dk_2 (dk_at dksX12_taught_6 5 rfl rfl)
theorem dX12_taught_146 : decode cX12_taught 146 = .ok (.if_icmp .eq 6, 3) := dk_159 0 6 (dk_at dksX12_taught_6 6 rfl rfl)
theorem dX12_taught_149 : decode cX12_taught 149 = .ok (.iload 4, 2) := dk_21 4 (dk_at dksX12_taught_6 9 rfl rfl)
theorem dX12_taught_151 : decode cX12_taught 151 = .ok (.istore_n 3, 1) := dk_62 (dk_at dksX12_taught_6 11 rfl rfl)
theorem dX12_taught_152 : decode cX12_taught 152 = .ok (.iconst 0, 1) := dk_3 (dk_at dksX12_taught_6 12 rfl rfl)
theorem dX12_taught_153 : decode cX12_taught 153 = .ok (.istore 6, 2) := dk_54 6 (dk_at dksX12_taught_6 13 rfl rfl)
theorem dX12_taught_155 : decode cX12_taught 155 = .ok (.iload 6, 2) := dk_21 6 (dk_at dksX12_taught_6 15 rfl rfl)
theorem dX12_taught_157 : decode cX12_taught 157 = .ok (.aload_n 0, 1) := dk_42 (dk_at dksX12_taught_6 17 rfl rfl)
theorem dX12_taught_158 : decode cX12_taught 158 = .ok (.getfield 82, 3) := dk_180 0 82 (dk_at dksX12_taught_6 18 rfl rfl)
theorem dX12_taught_161 : decode cX12_taught 161 = .ok (.if_icmp .ge 44, 3) := dk_162 0 44 (dk_at dksX12_taught_6 21 rfl rfl)
theorem dX12_taught_164 : decode cX12_taught 164 = .ok (.iload 4, 2) := dk_21 4 (dk_at dksX12_taught_7 0 rfl rfl)
theorem dX12_taught_166 : decode cX12_taught 166 = .ok (.iload 6, 2) := dk_21 6 (dk_at dksX12_taught_7 2 rfl rfl)
theorem dX12_taught_168 : decode cX12_taught 168 = .ok (.invokestatic 187, 3) := dk_184 0 187 (dk_at dksX12_taught_7 4 rfl rfl)
theorem dX12_taught_171 : decode cX12_taught 171 = .ok (.ifCond .eq 28, 3) := dk_153 0 28 (dk_at dksX12_taught_7 7 rfl rfl)
theorem dX12_taught_174 : decode cX12_taught 174 = .ok (.iload 5, 2) := dk_21 5 (dk_at dksX12_taught_7 10 rfl rfl)
theorem dX12_taught_176 : decode cX12_taught 176 = .ok (.iload 6, 2) := dk_21 6 (dk_at dksX12_taught_7 12 rfl rfl)
theorem dX12_taught_178 : decode cX12_taught 178 = .ok (.invokestatic 187, 3) := dk_184 0 187 (dk_at dksX12_taught_7 14 rfl rfl)
theorem dX12_taught_181 : decode cX12_taught 181 = .ok (.ifCond .ne 18, 3) := dk_154 0 18 (dk_at dksX12_taught_7 17 rfl rfl)
theorem dX12_taught_184 : decode cX12_taught 184 = .ok (.aload_n 0, 1) := dk_42 (dk_at dksX12_taught_7 20 rfl rfl)
theorem dX12_taught_185 : decode cX12_taught 185 = .ok (.getfield 35, 3) := dk_180 0 35 (dk_at dksX12_taught_7 21 rfl rfl)
theorem dX12_taught_188 : decode cX12_taught 188 = .ok (.iload 6, 2) := dk_21 6 (dk_at dksX12_taught_8 0 rfl rfl)
theorem dX12_taught_190 : decode cX12_taught 190 = .ok (.dup2, 1) := dk_92 (dk_at dksX12_taught_8 2 rfl rfl)
theorem dX12_taught_191 : decode cX12_taught 191 = .ok (.iaload, 1) := dk_46 (dk_at dksX12_taught_8 3 rfl rfl)
theorem dX12_taught_192 : decode cX12_taught 192 = .ok (.iconst 1, 1) := dk_4 (dk_at dksX12_taught_8 4 rfl rfl)
theorem dX12_taught_193 : decode cX12_taught 193 = .ok (.iload_n 1, 1) := dk_27 (dk_at dksX12_taught_8 5 rfl rfl)
theorem dX12_taught_194 : decode cX12_taught 194 = .ok (.ishl, 1) := dk_120 (dk_at dksX12_taught_8 6 rfl rfl)
theorem dX12_taught_195 : decode cX12_taught 195 = .ok (.iconst (-1), 1) := dk_2 (dk_at dksX12_taught_8 7 rfl rfl)
theorem dX12_taught_196 : decode cX12_taught 196 = .ok (.ixor, 1) := dk_130 (dk_at dksX12_taught_8 8 rfl rfl)
theorem dX12_taught_197 : decode cX12_taught 197 = .ok (.iand, 1) := dk_126 (dk_at dksX12_taught_8 9 rfl rfl)
theorem dX12_taught_198 : decode cX12_taught 198 = .ok (.iastore, 1) := dk_79 (dk_at dksX12_taught_8 10 rfl rfl)
theorem dX12_taught_199 : decode cX12_taught 199 = .ok (.iinc 6 1, 3) := dk_132 6 1 (dk_at dksX12_taught_8 11 rfl rfl)
theorem dX12_taught_202 : decode cX12_taught 202 = .ok (.goto (-47), 3) := dk_167 255 209 (dk_at dksX12_taught_8 14 rfl rfl)
theorem dX12_taught_205 : decode cX12_taught 205 = .ok (.iinc 4 1, 3) := dk_132 4 1 (dk_at dksX12_taught_8 17 rfl rfl)
theorem dX12_taught_208 : decode cX12_taught 208 = .ok (.goto (-175), 3) := dk_167 255 81 (dk_at dksX12_taught_8 20 rfl rfl)
theorem dX12_taught_211 : decode cX12_taught 211 = .ok (.iload_n 3, 1) := dk_29 (dk_at dksX12_taught_8 23 rfl rfl)
theorem dX12_taught_212 : decode cX12_taught 212 = .ok (.ireturn, 1) := dk_172 (dk_at dksX12_taught_9 0 rfl rfl)
abbrev cX12_helps : ByteArray := prog_22_method_63_code
def yX12_helps : MethodName := ⟨RX12, "helps", "(IIII)I"⟩
def dkwX12_helps_3 : List UInt8 := [181, 0, 75, 42, 28, 29, 21, 4, 182, 0, 240, 54, 6, 42, 2, 181, 0, 75, 21, 5, 21, 6, 100, 172]
abbrev dktX12_helps_3 : List UInt8 := dkwX12_helps_3 ++ []
def dkwX12_helps_2 : List UInt8 := [100, 172, 42, 28, 29, 21, 4, 182, 0, 236, 4, 27, 120, 2, 130, 126, 184, 0, 112, 54, 5, 42, 27]
abbrev dktX12_helps_2 : List UInt8 := dkwX12_helps_2 ++ dktX12_helps_3
def dkwX12_helps_1 : List UInt8 := [172, 29, 184, 0, 215, 153, 0, 11, 21, 4, 184, 0, 218, 154, 0, 13, 42, 16, 250, 182, 0, 78, 16, 100]
abbrev dktX12_helps_1 : List UInt8 := dkwX12_helps_1 ++ dktX12_helps_2
def dkwX12_helps_0 : List UInt8 := [42, 27, 182, 0, 102, 153, 0, 11, 42, 28, 182, 0, 127, 154, 0, 12, 42, 2, 182, 0, 78, 16, 100, 100]
abbrev dktX12_helps_0 : List UInt8 := dkwX12_helps_0 ++ dktX12_helps_1
theorem dksX12_helps_0 : cX12_helps.data.toList.drop 0 = dktX12_helps_0 := by decide +kernel
theorem dksX12_helps_1 : cX12_helps.data.toList.drop 24 = dktX12_helps_1 := dk_seg dksX12_helps_0 24 rfl rfl
theorem dksX12_helps_2 : cX12_helps.data.toList.drop 48 = dktX12_helps_2 := dk_seg dksX12_helps_1 24 rfl rfl
theorem dksX12_helps_3 : cX12_helps.data.toList.drop 71 = dktX12_helps_3 := dk_seg dksX12_helps_2 23 rfl rfl
theorem dX12_helps_0 : decode cX12_helps 0 = .ok (.aload_n 0, 1) := dk_42 (dk_at dksX12_helps_0 0 rfl rfl)
theorem dX12_helps_1 : decode cX12_helps 1 = .ok (.iload_n 1, 1) := dk_27 (dk_at dksX12_helps_0 1 rfl rfl)
theorem dX12_helps_2 : decode cX12_helps 2 = .ok (.invokevirtual 102, 3) := dk_182 0 102 (dk_at dksX12_helps_0 2 rfl rfl)
theorem dX12_helps_5 : decode cX12_helps 5 = .ok (.ifCond .eq 11, 3) := dk_153 0 11 (dk_at dksX12_helps_0 5 rfl rfl)
theorem dX12_helps_8 : decode cX12_helps 8 = .ok (.aload_n 0, 1) := dk_42 (dk_at dksX12_helps_0 8 rfl rfl)
theorem dX12_helps_9 : decode cX12_helps 9 = .ok (.iload_n 2, 1) := dk_28 (dk_at dksX12_helps_0 9 rfl rfl)
theorem dX12_helps_10 : decode cX12_helps 10 = .ok (.invokevirtual 127, 3) := dk_182 0 127 (dk_at dksX12_helps_0 10 rfl rfl)
theorem dX12_helps_13 : decode cX12_helps 13 = .ok (.ifCond .ne 12, 3) := dk_154 0 12 (dk_at dksX12_helps_0 13 rfl rfl)
theorem dX12_helps_16 : decode cX12_helps 16 = .ok (.aload_n 0, 1) := dk_42 (dk_at dksX12_helps_0 16 rfl rfl)
theorem dX12_helps_17 : decode cX12_helps 17 = .ok (.iconst (-1), 1) := dk_2 (dk_at dksX12_helps_0 17 rfl rfl)
theorem dX12_helps_18 : decode cX12_helps 18 = .ok (.invokevirtual 78, 3) := dk_182 0 78 (dk_at dksX12_helps_0 18 rfl rfl)
theorem dX12_helps_21 : decode cX12_helps 21 = .ok (.bipush 100, 2) := dk_16 100 (dk_at dksX12_helps_0 21 rfl rfl)
theorem dX12_helps_23 : decode cX12_helps 23 = .ok (.isub, 1) := dk_100 (dk_at dksX12_helps_0 23 rfl rfl)
theorem dX12_helps_24 : decode cX12_helps 24 = .ok (.ireturn, 1) := dk_172 (dk_at dksX12_helps_1 0 rfl rfl)
theorem dX12_helps_25 : decode cX12_helps 25 = .ok (.iload_n 3, 1) := dk_29 (dk_at dksX12_helps_1 1 rfl rfl)
theorem dX12_helps_26 : decode cX12_helps 26 = .ok (.invokestatic 215, 3) := dk_184 0 215 (dk_at dksX12_helps_1 2 rfl rfl)
theorem dX12_helps_29 : decode cX12_helps 29 = .ok (.ifCond .eq 11, 3) := dk_153 0 11 (dk_at dksX12_helps_1 5 rfl rfl)
theorem dX12_helps_32 : decode cX12_helps 32 = .ok (.iload 4, 2) := dk_21 4 (dk_at dksX12_helps_1 8 rfl rfl)
theorem dX12_helps_34 : decode cX12_helps 34 = .ok (.invokestatic 218, 3) := dk_184 0 218 (dk_at dksX12_helps_1 10 rfl rfl)
theorem dX12_helps_37 : decode cX12_helps 37 = .ok (.ifCond .ne 13, 3) := dk_154 0 13 (dk_at dksX12_helps_1 13 rfl rfl)
theorem dX12_helps_40 : decode cX12_helps 40 = .ok (.aload_n 0, 1) := dk_42 (dk_at dksX12_helps_1 16 rfl rfl)
theorem dX12_helps_41 : decode cX12_helps 41 = .ok (.bipush (-6), 2) := dk_16 250 (dk_at dksX12_helps_1 17 rfl rfl)
theorem dX12_helps_43 : decode cX12_helps 43 = .ok (.invokevirtual 78, 3) := dk_182 0 78 (dk_at dksX12_helps_1 19 rfl rfl)
theorem dX12_helps_46 : decode cX12_helps 46 = .ok (.bipush 100, 2) := dk_16 100 (dk_at dksX12_helps_1 22 rfl rfl)
theorem dX12_helps_48 : decode cX12_helps 48 = .ok (.isub, 1) := dk_100 (dk_at dksX12_helps_2 0 rfl rfl)
theorem dX12_helps_49 : decode cX12_helps 49 = .ok (.ireturn, 1) := dk_172 (dk_at dksX12_helps_2 1 rfl rfl)
theorem dX12_helps_50 : decode cX12_helps 50 = .ok (.aload_n 0, 1) := dk_42 (dk_at dksX12_helps_2 2 rfl rfl)
theorem dX12_helps_51 : decode cX12_helps 51 = .ok (.iload_n 2, 1) := dk_28 (dk_at dksX12_helps_2 3 rfl rfl)
theorem dX12_helps_52 : decode cX12_helps 52 = .ok (.iload_n 3, 1) := dk_29 (dk_at dksX12_helps_2 4 rfl rfl)
theorem dX12_helps_53 : decode cX12_helps 53 = .ok (.iload 4, 2) := dk_21 4 (dk_at dksX12_helps_2 5 rfl rfl)
theorem dX12_helps_55 : decode cX12_helps 55 = .ok (.invokevirtual 236, 3) := dk_182 0 236 (dk_at dksX12_helps_2 7 rfl rfl)
theorem dX12_helps_58 : decode cX12_helps 58 = .ok (.iconst 1, 1) := dk_4 (dk_at dksX12_helps_2 10 rfl rfl)
theorem dX12_helps_59 : decode cX12_helps 59 = .ok (.iload_n 1, 1) := dk_27 (dk_at dksX12_helps_2 11 rfl rfl)
theorem dX12_helps_60 : decode cX12_helps 60 = .ok (.ishl, 1) := dk_120 (dk_at dksX12_helps_2 12 rfl rfl)
theorem dX12_helps_61 : decode cX12_helps 61 = .ok (.iconst (-1), 1) := dk_2 (dk_at dksX12_helps_2 13 rfl rfl)
theorem dX12_helps_62 : decode cX12_helps 62 = .ok (.ixor, 1) := dk_130 (dk_at dksX12_helps_2 14 rfl rfl)
theorem dX12_helps_63 : decode cX12_helps 63 = .ok (.iand, 1) := dk_126 (dk_at dksX12_helps_2 15 rfl rfl)
theorem dX12_helps_64 : decode cX12_helps 64 = .ok (.invokestatic 112, 3) := dk_184 0 112 (dk_at dksX12_helps_2 16 rfl rfl)
theorem dX12_helps_67 : decode cX12_helps 67 = .ok (.istore 5, 2) := dk_54 5 (dk_at dksX12_helps_2 19 rfl rfl)
theorem dX12_helps_69 : decode cX12_helps 69 = .ok (.aload_n 0, 1) := dk_42 (dk_at dksX12_helps_2 21 rfl rfl)
theorem dX12_helps_70 : decode cX12_helps 70 = .ok (.iload_n 1, 1) := dk_27 (dk_at dksX12_helps_2 22 rfl rfl)
theorem dX12_helps_71 : decode cX12_helps 71 = .ok (.putfield 75, 3) := dk_181 0 75 (dk_at dksX12_helps_3 0 rfl rfl)
theorem dX12_helps_74 : decode cX12_helps 74 = .ok (.aload_n 0, 1) := dk_42 (dk_at dksX12_helps_3 3 rfl rfl)
theorem dX12_helps_75 : decode cX12_helps 75 = .ok (.iload_n 2, 1) := dk_28 (dk_at dksX12_helps_3 4 rfl rfl)
theorem dX12_helps_76 : decode cX12_helps 76 = .ok (.iload_n 3, 1) := dk_29 (dk_at dksX12_helps_3 5 rfl rfl)
theorem dX12_helps_77 : decode cX12_helps 77 = .ok (.iload 4, 2) := dk_21 4 (dk_at dksX12_helps_3 6 rfl rfl)
theorem dX12_helps_79 : decode cX12_helps 79 = .ok (.invokevirtual 240, 3) := dk_182 0 240 (dk_at dksX12_helps_3 8 rfl rfl)
theorem dX12_helps_82 : decode cX12_helps 82 = .ok (.istore 6, 2) := dk_54 6 (dk_at dksX12_helps_3 11 rfl rfl)
theorem dX12_helps_84 : decode cX12_helps 84 = .ok (.aload_n 0, 1) := dk_42 (dk_at dksX12_helps_3 13 rfl rfl)
theorem dX12_helps_85 : decode cX12_helps 85 = .ok (.iconst (-1), 1) := dk_2 (dk_at dksX12_helps_3 14 rfl rfl)
theorem dX12_helps_86 : decode cX12_helps 86 = .ok (.putfield 75, 3) := dk_181 0 75 (dk_at dksX12_helps_3 15 rfl rfl)
theorem dX12_helps_89 : decode cX12_helps 89 = .ok (.iload 5, 2) := dk_21 5 (dk_at dksX12_helps_3 18 rfl rfl)
theorem dX12_helps_91 : decode cX12_helps 91 = .ok (.iload 6, 2) := dk_21 6 (dk_at dksX12_helps_3 20 rfl rfl)
theorem dX12_helps_93 : decode cX12_helps 93 = .ok (.isub, 1) := dk_100 (dk_at dksX12_helps_3 22 rfl rfl)
theorem dX12_helps_94 : decode cX12_helps 94 = .ok (.ireturn, 1) := dk_172 (dk_at dksX12_helps_3 23 rfl rfl)
abbrev cX12_late : ByteArray := prog_22_method_65_code
def yX12_late : MethodName := ⟨RX12, "late", "(II)I"⟩
def dkwX12_late_2 : List UInt8 := [172]
abbrev dktX12_late_2 : List UInt8 := dkwX12_late_2 ++ []
def dkwX12_late_1 : List UInt8 := [182, 0, 78, 172, 28, 2, 160, 0, 12, 42, 180, 0, 65, 27, 104, 167, 0, 9, 42, 27, 28, 182, 0, 254]
abbrev dktX12_late_1 : List UInt8 := dkwX12_late_1 ++ dktX12_late_2
def dkwX12_late_0 : List UInt8 := [27, 3, 16, 99, 184, 0, 85, 153, 0, 13, 28, 2, 16, 9, 184, 0, 85, 154, 0, 10, 42, 16, 250]
abbrev dktX12_late_0 : List UInt8 := dkwX12_late_0 ++ dktX12_late_1
theorem dksX12_late_0 : cX12_late.data.toList.drop 0 = dktX12_late_0 := by decide +kernel
theorem dksX12_late_1 : cX12_late.data.toList.drop 23 = dktX12_late_1 := dk_seg dksX12_late_0 23 rfl rfl
theorem dksX12_late_2 : cX12_late.data.toList.drop 47 = dktX12_late_2 := dk_seg dksX12_late_1 24 rfl rfl
theorem dX12_late_0 : decode cX12_late 0 = .ok (.iload_n 1, 1) := dk_27 (dk_at dksX12_late_0 0 rfl rfl)
theorem dX12_late_1 : decode cX12_late 1 = .ok (.iconst 0, 1) := dk_3 (dk_at dksX12_late_0 1 rfl rfl)
theorem dX12_late_2 : decode cX12_late 2 = .ok (.bipush 99, 2) := dk_16 99 (dk_at dksX12_late_0 2 rfl rfl)
theorem dX12_late_4 : decode cX12_late 4 = .ok (.invokestatic 85, 3) := dk_184 0 85 (dk_at dksX12_late_0 4 rfl rfl)
theorem dX12_late_7 : decode cX12_late 7 = .ok (.ifCond .eq 13, 3) := dk_153 0 13 (dk_at dksX12_late_0 7 rfl rfl)
theorem dX12_late_10 : decode cX12_late 10 = .ok (.iload_n 2, 1) := dk_28 (dk_at dksX12_late_0 10 rfl rfl)
theorem dX12_late_11 : decode cX12_late 11 = .ok (.iconst (-1), 1) := dk_2 (dk_at dksX12_late_0 11 rfl rfl)
theorem dX12_late_12 : decode cX12_late 12 = .ok (.bipush 9, 2) := dk_16 9 (dk_at dksX12_late_0 12 rfl rfl)
theorem dX12_late_14 : decode cX12_late 14 = .ok (.invokestatic 85, 3) := dk_184 0 85 (dk_at dksX12_late_0 14 rfl rfl)
theorem dX12_late_17 : decode cX12_late 17 = .ok (.ifCond .ne 10, 3) := dk_154 0 10 (dk_at dksX12_late_0 17 rfl rfl)
theorem dX12_late_20 : decode cX12_late 20 = .ok (.aload_n 0, 1) := dk_42 (dk_at dksX12_late_0 20 rfl rfl)
theorem dX12_late_21 : decode cX12_late 21 = .ok (.bipush (-6), 2) := dk_16 250 (dk_at dksX12_late_0 21 rfl rfl)
theorem dX12_late_23 : decode cX12_late 23 = .ok (.invokevirtual 78, 3) := dk_182 0 78 (dk_at dksX12_late_1 0 rfl rfl)
theorem dX12_late_26 : decode cX12_late 26 = .ok (.ireturn, 1) := dk_172 (dk_at dksX12_late_1 3 rfl rfl)
theorem dX12_late_27 : decode cX12_late 27 = .ok (.iload_n 2, 1) := dk_28 (dk_at dksX12_late_1 4 rfl rfl)
theorem dX12_late_28 : decode cX12_late 28 = .ok (.iconst (-1), 1) := dk_2 (dk_at dksX12_late_1 5 rfl rfl)
theorem dX12_late_29 : decode cX12_late 29 = .ok (.if_icmp .ne 12, 3) := dk_160 0 12 (dk_at dksX12_late_1 6 rfl rfl)
theorem dX12_late_32 : decode cX12_late 32 = .ok (.aload_n 0, 1) := dk_42 (dk_at dksX12_late_1 9 rfl rfl)
theorem dX12_late_33 : decode cX12_late 33 = .ok (.getfield 65, 3) := dk_180 0 65 (dk_at dksX12_late_1 10 rfl rfl)
theorem dX12_late_36 : decode cX12_late 36 = .ok (.iload_n 1, 1) := dk_27 (dk_at dksX12_late_1 13 rfl rfl)
theorem dX12_late_37 : decode cX12_late 37 = .ok (.imul, 1) := dk_104 (dk_at dksX12_late_1 14 rfl rfl)
theorem dX12_late_38 : decode cX12_late 38 = .ok (.goto 9, 3) := dk_167 0 9 (dk_at dksX12_late_1 15 rfl rfl)
theorem dX12_late_41 : decode cX12_late 41 = .ok (.aload_n 0, 1) := dk_42 (dk_at dksX12_late_1 18 rfl rfl)
theorem dX12_late_42 : decode cX12_late 42 = .ok (.iload_n 1, 1) := dk_27 (dk_at dksX12_late_1 19 rfl rfl)
theorem dX12_late_43 : decode cX12_late 43 = .ok (.iload_n 2, 1) := dk_28 (dk_at dksX12_late_1 20 rfl rfl)
theorem dX12_late_44 : decode cX12_late 44 = .ok (.invokevirtual 254, 3) := dk_182 0 254 (dk_at dksX12_late_1 21 rfl rfl)
theorem dX12_late_47 : decode cX12_late 47 = .ok (.ireturn, 1) := dk_172 (dk_at dksX12_late_2 0 rfl rfl)
abbrev cX12_lateBy : ByteArray := prog_22_method_64_code
def yX12_lateBy : MethodName := ⟨RX12, "lateBy", "(II)I"⟩
def dkwX12_lateBy_1 : List UInt8 := [132, 4, 1, 167, 255, 234, 29, 172]
abbrev dktX12_lateBy_1 : List UInt8 := dkwX12_lateBy_1 ++ []
def dkwX12_lateBy_0 : List UInt8 := [3, 62, 3, 54, 4, 21, 4, 27, 162, 0, 22, 3, 29, 42, 180, 0, 65, 96, 28, 100, 184, 0, 190, 62]
abbrev dktX12_lateBy_0 : List UInt8 := dkwX12_lateBy_0 ++ dktX12_lateBy_1
theorem dksX12_lateBy_0 : cX12_lateBy.data.toList.drop 0 = dktX12_lateBy_0 := by decide +kernel
theorem dksX12_lateBy_1 : cX12_lateBy.data.toList.drop 24 = dktX12_lateBy_1 := dk_seg dksX12_lateBy_0 24 rfl rfl
theorem dX12_lateBy_0 : decode cX12_lateBy 0 = .ok (.iconst 0, 1) := dk_3 (dk_at dksX12_lateBy_0 0 rfl rfl)
theorem dX12_lateBy_1 : decode cX12_lateBy 1 = .ok (.istore_n 3, 1) := dk_62 (dk_at dksX12_lateBy_0 1 rfl rfl)
theorem dX12_lateBy_2 : decode cX12_lateBy 2 = .ok (.iconst 0, 1) := dk_3 (dk_at dksX12_lateBy_0 2 rfl rfl)
theorem dX12_lateBy_3 : decode cX12_lateBy 3 = .ok (.istore 4, 2) := dk_54 4 (dk_at dksX12_lateBy_0 3 rfl rfl)
theorem dX12_lateBy_5 : decode cX12_lateBy 5 = .ok (.iload 4, 2) := dk_21 4 (dk_at dksX12_lateBy_0 5 rfl rfl)
theorem dX12_lateBy_7 : decode cX12_lateBy 7 = .ok (.iload_n 1, 1) := dk_27 (dk_at dksX12_lateBy_0 7 rfl rfl)
theorem dX12_lateBy_8 : decode cX12_lateBy 8 = .ok (.if_icmp .ge 22, 3) := dk_162 0 22 (dk_at dksX12_lateBy_0 8 rfl rfl)
theorem dX12_lateBy_11 : decode cX12_lateBy 11 = .ok (.iconst 0, 1) := dk_3 (dk_at dksX12_lateBy_0 11 rfl rfl)
theorem dX12_lateBy_12 : decode cX12_lateBy 12 = .ok (.iload_n 3, 1) := dk_29 (dk_at dksX12_lateBy_0 12 rfl rfl)
theorem dX12_lateBy_13 : decode cX12_lateBy 13 = .ok (.aload_n 0, 1) := dk_42 (dk_at dksX12_lateBy_0 13 rfl rfl)
theorem dX12_lateBy_14 : decode cX12_lateBy 14 = .ok (.getfield 65, 3) := dk_180 0 65 (dk_at dksX12_lateBy_0 14 rfl rfl)
theorem dX12_lateBy_17 : decode cX12_lateBy 17 = .ok (.iadd, 1) := dk_96 (dk_at dksX12_lateBy_0 17 rfl rfl)
theorem dX12_lateBy_18 : decode cX12_lateBy 18 = .ok (.iload_n 2, 1) := dk_28 (dk_at dksX12_lateBy_0 18 rfl rfl)
theorem dX12_lateBy_19 : decode cX12_lateBy 19 = .ok (.isub, 1) := dk_100 (dk_at dksX12_lateBy_0 19 rfl rfl)
theorem dX12_lateBy_20 : decode cX12_lateBy 20 = .ok (.invokestatic 190, 3) := dk_184 0 190 (dk_at dksX12_lateBy_0 20 rfl rfl)
theorem dX12_lateBy_23 : decode cX12_lateBy 23 = .ok (.istore_n 3, 1) := dk_62 (dk_at dksX12_lateBy_0 23 rfl rfl)
theorem dX12_lateBy_24 : decode cX12_lateBy 24 = .ok (.iinc 4 1, 3) := dk_132 4 1 (dk_at dksX12_lateBy_1 0 rfl rfl)
theorem dX12_lateBy_27 : decode cX12_lateBy 27 = .ok (.goto (-22), 3) := dk_167 255 234 (dk_at dksX12_lateBy_1 3 rfl rfl)
theorem dX12_lateBy_30 : decode cX12_lateBy 30 = .ok (.iload_n 3, 1) := dk_29 (dk_at dksX12_lateBy_1 6 rfl rfl)
theorem dX12_lateBy_31 : decode cX12_lateBy 31 = .ok (.ireturn, 1) := dk_172 (dk_at dksX12_lateBy_1 7 rfl rfl)
abbrev cX12_ahead : ByteArray := prog_22_method_66_code
def yX12_ahead : MethodName := ⟨RX12, "ahead", "(II)I"⟩
def dkwX12_ahead_2 : List UInt8 := [132, 3, 1, 167, 255, 235, 2, 172]
abbrev dktX12_ahead_2 : List UInt8 := dkwX12_ahead_2 ++ []
def dkwX12_ahead_1 : List UInt8 := [182, 0, 227, 172, 3, 62, 29, 16, 10, 162, 0, 21, 42, 27, 29, 182, 0, 254, 28, 163, 0, 5, 29, 172]
abbrev dktX12_ahead_1 : List UInt8 := dkwX12_ahead_1 ++ dktX12_ahead_2
def dkwX12_ahead_0 : List UInt8 := [27, 3, 16, 99, 184, 0, 85, 153, 0, 13, 28, 3, 16, 99, 184, 0, 85, 154, 0, 10, 42, 16, 250]
abbrev dktX12_ahead_0 : List UInt8 := dkwX12_ahead_0 ++ dktX12_ahead_1
theorem dksX12_ahead_0 : cX12_ahead.data.toList.drop 0 = dktX12_ahead_0 := by decide +kernel
theorem dksX12_ahead_1 : cX12_ahead.data.toList.drop 23 = dktX12_ahead_1 := dk_seg dksX12_ahead_0 23 rfl rfl
theorem dksX12_ahead_2 : cX12_ahead.data.toList.drop 47 = dktX12_ahead_2 := dk_seg dksX12_ahead_1 24 rfl rfl
theorem dX12_ahead_0 : decode cX12_ahead 0 = .ok (.iload_n 1, 1) := dk_27 (dk_at dksX12_ahead_0 0 rfl rfl)
theorem dX12_ahead_1 : decode cX12_ahead 1 = .ok (.iconst 0, 1) := dk_3 (dk_at dksX12_ahead_0 1 rfl rfl)
theorem dX12_ahead_2 : decode cX12_ahead 2 = .ok (.bipush 99, 2) := dk_16 99 (dk_at dksX12_ahead_0 2 rfl rfl)
theorem dX12_ahead_4 : decode cX12_ahead 4 = .ok (.invokestatic 85, 3) := dk_184 0 85 (dk_at dksX12_ahead_0 4 rfl rfl)
theorem dX12_ahead_7 : decode cX12_ahead 7 = .ok (.ifCond .eq 13, 3) := dk_153 0 13 (dk_at dksX12_ahead_0 7 rfl rfl)
theorem dX12_ahead_10 : decode cX12_ahead 10 = .ok (.iload_n 2, 1) := dk_28 (dk_at dksX12_ahead_0 10 rfl rfl)
theorem dX12_ahead_11 : decode cX12_ahead 11 = .ok (.iconst 0, 1) := dk_3 (dk_at dksX12_ahead_0 11 rfl rfl)
theorem dX12_ahead_12 : decode cX12_ahead 12 = .ok (.bipush 99, 2) := dk_16 99 (dk_at dksX12_ahead_0 12 rfl rfl)
theorem dX12_ahead_14 : decode cX12_ahead 14 = .ok (.invokestatic 85, 3) := dk_184 0 85 (dk_at dksX12_ahead_0 14 rfl rfl)
theorem dX12_ahead_17 : decode cX12_ahead 17 = .ok (.ifCond .ne 10, 3) := dk_154 0 10 (dk_at dksX12_ahead_0 17 rfl rfl)
theorem dX12_ahead_20 : decode cX12_ahead 20 = .ok (.aload_n 0, 1) := dk_42 (dk_at dksX12_ahead_0 20 rfl rfl)
theorem dX12_ahead_21 : decode cX12_ahead 21 = .ok (.bipush (-6), 2) := dk_16 250 (dk_at dksX12_ahead_0 21 rfl rfl)
theorem dX12_ahead_23 : decode cX12_ahead 23 = .ok (.invokevirtual 227, 3) := dk_182 0 227 (dk_at dksX12_ahead_1 0 rfl rfl)
theorem dX12_ahead_26 : decode cX12_ahead 26 = .ok (.ireturn, 1) := dk_172 (dk_at dksX12_ahead_1 3 rfl rfl)
theorem dX12_ahead_27 : decode cX12_ahead 27 = .ok (.iconst 0, 1) := dk_3 (dk_at dksX12_ahead_1 4 rfl rfl)
theorem dX12_ahead_28 : decode cX12_ahead 28 = .ok (.istore_n 3, 1) := dk_62 (dk_at dksX12_ahead_1 5 rfl rfl)
theorem dX12_ahead_29 : decode cX12_ahead 29 = .ok (.iload_n 3, 1) := dk_29 (dk_at dksX12_ahead_1 6 rfl rfl)
theorem dX12_ahead_30 : decode cX12_ahead 30 = .ok (.bipush 10, 2) := dk_16 10 (dk_at dksX12_ahead_1 7 rfl rfl)
theorem dX12_ahead_32 : decode cX12_ahead 32 = .ok (.if_icmp .ge 21, 3) := dk_162 0 21 (dk_at dksX12_ahead_1 9 rfl rfl)
theorem dX12_ahead_35 : decode cX12_ahead 35 = .ok (.aload_n 0, 1) := dk_42 (dk_at dksX12_ahead_1 12 rfl rfl)
theorem dX12_ahead_36 : decode cX12_ahead 36 = .ok (.iload_n 1, 1) := dk_27 (dk_at dksX12_ahead_1 13 rfl rfl)
theorem dX12_ahead_37 : decode cX12_ahead 37 = .ok (.iload_n 3, 1) := dk_29 (dk_at dksX12_ahead_1 14 rfl rfl)
theorem dX12_ahead_38 : decode cX12_ahead 38 = .ok (.invokevirtual 254, 3) := dk_182 0 254 (dk_at dksX12_ahead_1 15 rfl rfl)
theorem dX12_ahead_41 : decode cX12_ahead 41 = .ok (.iload_n 2, 1) := dk_28 (dk_at dksX12_ahead_1 18 rfl rfl)
theorem dX12_ahead_42 : decode cX12_ahead 42 = .ok (.if_icmp .gt 5, 3) := dk_163 0 5 (dk_at dksX12_ahead_1 19 rfl rfl)
theorem dX12_ahead_45 : decode cX12_ahead 45 = .ok (.iload_n 3, 1) := dk_29 (dk_at dksX12_ahead_1 22 rfl rfl)
theorem dX12_ahead_46 : decode cX12_ahead 46 = .ok (.ireturn, 1) := dk_172 (dk_at dksX12_ahead_1 23 rfl rfl)
theorem dX12_ahead_47 : decode cX12_ahead 47 = .ok (.iinc 3 1, 3) := dk_132 3 1 (dk_at dksX12_ahead_2 0 rfl rfl)
theorem dX12_ahead_50 : decode cX12_ahead 50 = .ok (.goto (-21), 3) := dk_167 255 235 (dk_at dksX12_ahead_2 3 rfl rfl)
theorem dX12_ahead_53 : decode cX12_ahead 53 = .ok (.iconst (-1), 1) := dk_2 (dk_at dksX12_ahead_2 6 rfl rfl)
theorem dX12_ahead_54 : decode cX12_ahead 54 = .ok (.ireturn, 1) := dk_172 (dk_at dksX12_ahead_2 7 rfl rfl)
abbrev cX12_fits : ByteArray := prog_22_method_70_code
def yX12_fits : MethodName := ⟨RX12, "fits", "(III)I"⟩
def dkwX12_fits_2 : List UInt8 := [153, 0, 12, 21, 5, 4, 21, 6, 120, 128, 54, 5, 132, 6, 1, 167, 255, 223, 21, 5, 172]
abbrev dktX12_fits_2 : List UInt8 := dkwX12_fits_2 ++ []
def dkwX12_fits_1 : List UInt8 := [54, 5, 3, 54, 6, 21, 6, 42, 180, 0, 89, 162, 0, 30, 42, 27, 28, 21, 6, 29, 182, 1, 7]
abbrev dktX12_fits_1 : List UInt8 := dkwX12_fits_1 ++ dktX12_fits_2
def dkwX12_fits_0 : List UInt8 := [42, 27, 28, 4, 29, 182, 1, 4, 54, 4, 21, 4, 156, 0, 10, 42, 21, 4, 182, 0, 78, 172, 3]
abbrev dktX12_fits_0 : List UInt8 := dkwX12_fits_0 ++ dktX12_fits_1
theorem dksX12_fits_0 : cX12_fits.data.toList.drop 0 = dktX12_fits_0 := by decide +kernel
theorem dksX12_fits_1 : cX12_fits.data.toList.drop 23 = dktX12_fits_1 := dk_seg dksX12_fits_0 23 rfl rfl
theorem dksX12_fits_2 : cX12_fits.data.toList.drop 46 = dktX12_fits_2 := dk_seg dksX12_fits_1 23 rfl rfl
theorem dX12_fits_0 : decode cX12_fits 0 = .ok (.aload_n 0, 1) := dk_42 (dk_at dksX12_fits_0 0 rfl rfl)
theorem dX12_fits_1 : decode cX12_fits 1 = .ok (.iload_n 1, 1) := dk_27 (dk_at dksX12_fits_0 1 rfl rfl)
theorem dX12_fits_2 : decode cX12_fits 2 = .ok (.iload_n 2, 1) := dk_28 (dk_at dksX12_fits_0 2 rfl rfl)
theorem dX12_fits_3 : decode cX12_fits 3 = .ok (.iconst 1, 1) := dk_4 (dk_at dksX12_fits_0 3 rfl rfl)
theorem dX12_fits_4 : decode cX12_fits 4 = .ok (.iload_n 3, 1) := dk_29 (dk_at dksX12_fits_0 4 rfl rfl)
theorem dX12_fits_5 : decode cX12_fits 5 = .ok (.invokevirtual 260, 3) := dk_182 1 4 (dk_at dksX12_fits_0 5 rfl rfl)
theorem dX12_fits_8 : decode cX12_fits 8 = .ok (.istore 4, 2) := dk_54 4 (dk_at dksX12_fits_0 8 rfl rfl)
theorem dX12_fits_10 : decode cX12_fits 10 = .ok (.iload 4, 2) := dk_21 4 (dk_at dksX12_fits_0 10 rfl rfl)
theorem dX12_fits_12 : decode cX12_fits 12 = .ok (.ifCond .ge 10, 3) := dk_156 0 10 (dk_at dksX12_fits_0 12 rfl rfl)
theorem dX12_fits_15 : decode cX12_fits 15 = .ok (.aload_n 0, 1) := dk_42 (dk_at dksX12_fits_0 15 rfl rfl)
theorem dX12_fits_16 : decode cX12_fits 16 = .ok (.iload 4, 2) := dk_21 4 (dk_at dksX12_fits_0 16 rfl rfl)
theorem dX12_fits_18 : decode cX12_fits 18 = .ok (.invokevirtual 78, 3) := dk_182 0 78 (dk_at dksX12_fits_0 18 rfl rfl)
theorem dX12_fits_21 : decode cX12_fits 21 = .ok (.ireturn, 1) := dk_172 (dk_at dksX12_fits_0 21 rfl rfl)
theorem dX12_fits_22 : decode cX12_fits 22 = .ok (.iconst 0, 1) := dk_3 (dk_at dksX12_fits_0 22 rfl rfl)
theorem dX12_fits_23 : decode cX12_fits 23 = .ok (.istore 5, 2) := dk_54 5 (dk_at dksX12_fits_1 0 rfl rfl)
theorem dX12_fits_25 : decode cX12_fits 25 = .ok (.iconst 0, 1) := dk_3 (dk_at dksX12_fits_1 2 rfl rfl)
theorem dX12_fits_26 : decode cX12_fits 26 = .ok (.istore 6, 2) := dk_54 6 (dk_at dksX12_fits_1 3 rfl rfl)
theorem dX12_fits_28 : decode cX12_fits 28 = .ok (.iload 6, 2) := dk_21 6 (dk_at dksX12_fits_1 5 rfl rfl)
theorem dX12_fits_30 : decode cX12_fits 30 = .ok (.aload_n 0, 1) := dk_42 (dk_at dksX12_fits_1 7 rfl rfl)
theorem dX12_fits_31 : decode cX12_fits 31 = .ok (.getfield 89, 3) := dk_180 0 89 (dk_at dksX12_fits_1 8 rfl rfl)
theorem dX12_fits_34 : decode cX12_fits 34 = .ok (.if_icmp .ge 30, 3) := dk_162 0 30 (dk_at dksX12_fits_1 11 rfl rfl)
theorem dX12_fits_37 : decode cX12_fits 37 = .ok (.aload_n 0, 1) := dk_42 (dk_at dksX12_fits_1 14 rfl rfl)
theorem dX12_fits_38 : decode cX12_fits 38 = .ok (.iload_n 1, 1) := dk_27 (dk_at dksX12_fits_1 15 rfl rfl)
theorem dX12_fits_39 : decode cX12_fits 39 = .ok (.iload_n 2, 1) := dk_28 (dk_at dksX12_fits_1 16 rfl rfl)
theorem dX12_fits_40 : decode cX12_fits 40 = .ok (.iload 6, 2) := dk_21 6 (dk_at dksX12_fits_1 17 rfl rfl)
theorem dX12_fits_42 : decode cX12_fits 42 = .ok (.iload_n 3, 1) := dk_29 (dk_at dksX12_fits_1 19 rfl rfl)
theorem dX12_fits_43 : decode cX12_fits 43 = .ok (.invokevirtual 263, 3) := dk_182 1 7 (dk_at dksX12_fits_1 20 rfl rfl)
theorem dX12_fits_46 : decode cX12_fits 46 = .ok (.ifCond .eq 12, 3) := dk_153 0 12 (dk_at dksX12_fits_2 0 rfl rfl)
theorem dX12_fits_49 : decode cX12_fits 49 = .ok (.iload 5, 2) := dk_21 5 (dk_at dksX12_fits_2 3 rfl rfl)
theorem dX12_fits_51 : decode cX12_fits 51 = .ok (.iconst 1, 1) := dk_4 (dk_at dksX12_fits_2 5 rfl rfl)
theorem dX12_fits_52 : decode cX12_fits 52 = .ok (.iload 6, 2) := dk_21 6 (dk_at dksX12_fits_2 6 rfl rfl)
theorem dX12_fits_54 : decode cX12_fits 54 = .ok (.ishl, 1) := dk_120 (dk_at dksX12_fits_2 8 rfl rfl)
theorem dX12_fits_55 : decode cX12_fits 55 = .ok (.ior, 1) := dk_128 (dk_at dksX12_fits_2 9 rfl rfl)
theorem dX12_fits_56 : decode cX12_fits 56 = .ok (.istore 5, 2) := dk_54 5 (dk_at dksX12_fits_2 10 rfl rfl)
theorem dX12_fits_58 : decode cX12_fits 58 = .ok (.iinc 6 1, 3) := dk_132 6 1 (dk_at dksX12_fits_2 12 rfl rfl)
theorem dX12_fits_61 : decode cX12_fits 61 = .ok (.goto (-33), 3) := dk_167 255 223 (dk_at dksX12_fits_2 15 rfl rfl)
theorem dX12_fits_64 : decode cX12_fits 64 = .ok (.iload 5, 2) := dk_21 5 (dk_at dksX12_fits_2 18 rfl rfl)
theorem dX12_fits_66 : decode cX12_fits 66 = .ok (.ireturn, 1) := dk_172 (dk_at dksX12_fits_2 20 rfl rfl)
abbrev cX12_noTold : ByteArray := prog_22_method_68_code
def yX12_noTold : MethodName := ⟨RX12, "noTold", "(IIII)I"⟩
def dkwX12_noTold_2 : List UInt8 := [184, 0, 215, 153, 0, 7, 3, 167, 0, 5, 16, 250, 172]
abbrev dktX12_noTold_2 : List UInt8 := dkwX12_noTold_2 ++ []
def dkwX12_noTold_1 : List UInt8 := [180, 0, 13, 27, 46, 164, 0, 6, 16, 251, 172, 28, 29, 16, 40, 184, 0, 85, 153, 0, 15, 21, 4]
abbrev dktX12_noTold_1 : List UInt8 := dkwX12_noTold_1 ++ dktX12_noTold_2
def dkwX12_noTold_0 : List UInt8 := [42, 27, 182, 0, 99, 54, 5, 21, 5, 156, 0, 6, 21, 5, 172, 28, 156, 0, 6, 16, 252, 172, 28, 42]
abbrev dktX12_noTold_0 : List UInt8 := dkwX12_noTold_0 ++ dktX12_noTold_1
theorem dksX12_noTold_0 : cX12_noTold.data.toList.drop 0 = dktX12_noTold_0 := by decide +kernel
theorem dksX12_noTold_1 : cX12_noTold.data.toList.drop 24 = dktX12_noTold_1 := dk_seg dksX12_noTold_0 24 rfl rfl
theorem dksX12_noTold_2 : cX12_noTold.data.toList.drop 47 = dktX12_noTold_2 := dk_seg dksX12_noTold_1 23 rfl rfl
theorem dX12_noTold_0 : decode cX12_noTold 0 = .ok (.aload_n 0, 1) := dk_42 (dk_at dksX12_noTold_0 0 rfl rfl)
theorem dX12_noTold_1 : decode cX12_noTold 1 = .ok (.iload_n 1, 1) := dk_27 (dk_at dksX12_noTold_0 1 rfl rfl)
theorem dX12_noTold_2 : decode cX12_noTold 2 = .ok (.invokevirtual 99, 3) := dk_182 0 99 (dk_at dksX12_noTold_0 2 rfl rfl)
theorem dX12_noTold_5 : decode cX12_noTold 5 = .ok (.istore 5, 2) := dk_54 5 (dk_at dksX12_noTold_0 5 rfl rfl)
theorem dX12_noTold_7 : decode cX12_noTold 7 = .ok (.iload 5, 2) := dk_21 5 (dk_at dksX12_noTold_0 7 rfl rfl)
theorem dX12_noTold_9 : decode cX12_noTold 9 = .ok (.ifCond .ge 6, 3) := dk_156 0 6 (dk_at dksX12_noTold_0 9 rfl rfl)
theorem dX12_noTold_12 : decode cX12_noTold 12 = .ok (.iload 5, 2) := dk_21 5 (dk_at dksX12_noTold_0 12 rfl rfl)
theorem dX12_noTold_14 : decode cX12_noTold 14 = .ok (.ireturn, 1) := dk_172 (dk_at dksX12_noTold_0 14 rfl rfl)
theorem dX12_noTold_15 : decode cX12_noTold 15 = .ok (.iload_n 2, 1) := dk_28 (dk_at dksX12_noTold_0 15 rfl rfl)
theorem dX12_noTold_16 : decode cX12_noTold 16 = .ok (.ifCond .ge 6, 3) := dk_156 0 6 (dk_at dksX12_noTold_0 16 rfl rfl)
theorem dX12_noTold_19 : decode cX12_noTold 19 = .ok (.bipush (-4), 2) := dk_16 252 (dk_at dksX12_noTold_0 19 rfl rfl)
theorem dX12_noTold_21 : decode cX12_noTold 21 = .ok (.ireturn, 1) := dk_172 (dk_at dksX12_noTold_0 21 rfl rfl)
theorem dX12_noTold_22 : decode cX12_noTold 22 = .ok (.iload_n 2, 1) := dk_28 (dk_at dksX12_noTold_0 22 rfl rfl)
theorem dX12_noTold_23 : decode cX12_noTold 23 = .ok (.aload_n 0, 1) := dk_42 (dk_at dksX12_noTold_0 23 rfl rfl)
theorem dX12_noTold_24 : decode cX12_noTold 24 = .ok (.getfield 13, 3) := dk_180 0 13 (dk_at dksX12_noTold_1 0 rfl rfl)
theorem dX12_noTold_27 : decode cX12_noTold 27 = .ok (.iload_n 1, 1) := dk_27 (dk_at dksX12_noTold_1 3 rfl rfl)
theorem dX12_noTold_28 : decode cX12_noTold 28 = .ok (.iaload, 1) := dk_46 (dk_at dksX12_noTold_1 4 rfl rfl)
theorem dX12_noTold_29 : decode cX12_noTold 29 = .ok (.if_icmp .le 6, 3) := dk_164 0 6 (dk_at dksX12_noTold_1 5 rfl rfl)
theorem dX12_noTold_32 : decode cX12_noTold 32 = .ok (.bipush (-5), 2) := dk_16 251 (dk_at dksX12_noTold_1 8 rfl rfl)
theorem dX12_noTold_34 : decode cX12_noTold 34 = .ok (.ireturn, 1) := dk_172 (dk_at dksX12_noTold_1 10 rfl rfl)
theorem dX12_noTold_35 : decode cX12_noTold 35 = .ok (.iload_n 2, 1) := dk_28 (dk_at dksX12_noTold_1 11 rfl rfl)
theorem dX12_noTold_36 : decode cX12_noTold 36 = .ok (.iload_n 3, 1) := dk_29 (dk_at dksX12_noTold_1 12 rfl rfl)
theorem dX12_noTold_37 : decode cX12_noTold 37 = .ok (.bipush 40, 2) := dk_16 40 (dk_at dksX12_noTold_1 13 rfl rfl)
theorem dX12_noTold_39 : decode cX12_noTold 39 = .ok (.invokestatic 85, 3) := dk_184 0 85 (dk_at dksX12_noTold_1 15 rfl rfl)
theorem dX12_noTold_42 : decode cX12_noTold 42 = .ok (.ifCond .eq 15, 3) := dk_153 0 15 (dk_at dksX12_noTold_1 18 rfl rfl)
theorem dX12_noTold_45 : decode cX12_noTold 45 = .ok (.iload 4, 2) := dk_21 4 (dk_at dksX12_noTold_1 21 rfl rfl)
theorem dX12_noTold_47 : decode cX12_noTold 47 = .ok (.invokestatic 215, 3) := dk_184 0 215 (dk_at dksX12_noTold_2 0 rfl rfl)
theorem dX12_noTold_50 : decode cX12_noTold 50 = .ok (.ifCond .eq 7, 3) := dk_153 0 7 (dk_at dksX12_noTold_2 3 rfl rfl)
theorem dX12_noTold_53 : decode cX12_noTold 53 = .ok (.iconst 0, 1) := dk_3 (dk_at dksX12_noTold_2 6 rfl rfl)
theorem dX12_noTold_54 : decode cX12_noTold 54 = .ok (.goto 5, 3) := dk_167 0 5 (dk_at dksX12_noTold_2 7 rfl rfl)
theorem dX12_noTold_57 : decode cX12_noTold 57 = .ok (.bipush (-6), 2) := dk_16 250 (dk_at dksX12_noTold_2 10 rfl rfl)
theorem dX12_noTold_59 : decode cX12_noTold 59 = .ok (.ireturn, 1) := dk_172 (dk_at dksX12_noTold_2 12 rfl rfl)
abbrev cX12_isFit : ByteArray := prog_22_method_69_code
def yX12_isFit : MethodName := ⟨RX12, "isFit", "(IIII)Z"⟩
def dkwX12_isFit_2 : List UInt8 := [3, 172, 132, 5, 1, 167, 255, 217, 4, 172]
abbrev dktX12_isFit_2 : List UInt8 := dkwX12_isFit_2 ++ []
def dkwX12_isFit_1 : List UInt8 := [182, 1, 1, 42, 180, 0, 56, 21, 5, 46, 42, 180, 0, 59, 21, 5, 46, 128, 184, 0, 112, 159, 0, 5]
abbrev dktX12_isFit_1 : List UInt8 := dkwX12_isFit_1 ++ dktX12_isFit_2
def dkwX12_isFit_0 : List UInt8 := [42, 29, 21, 4, 28, 4, 100, 182, 0, 221, 3, 54, 5, 21, 5, 28, 162, 0, 39, 42, 27, 21, 5]
abbrev dktX12_isFit_0 : List UInt8 := dkwX12_isFit_0 ++ dktX12_isFit_1
theorem dksX12_isFit_0 : cX12_isFit.data.toList.drop 0 = dktX12_isFit_0 := by decide +kernel
theorem dksX12_isFit_1 : cX12_isFit.data.toList.drop 23 = dktX12_isFit_1 := dk_seg dksX12_isFit_0 23 rfl rfl
theorem dksX12_isFit_2 : cX12_isFit.data.toList.drop 47 = dktX12_isFit_2 := dk_seg dksX12_isFit_1 24 rfl rfl
theorem dX12_isFit_0 : decode cX12_isFit 0 = .ok (.aload_n 0, 1) := dk_42 (dk_at dksX12_isFit_0 0 rfl rfl)
theorem dX12_isFit_1 : decode cX12_isFit 1 = .ok (.iload_n 3, 1) := dk_29 (dk_at dksX12_isFit_0 1 rfl rfl)
theorem dX12_isFit_2 : decode cX12_isFit 2 = .ok (.iload 4, 2) := dk_21 4 (dk_at dksX12_isFit_0 2 rfl rfl)
theorem dX12_isFit_4 : decode cX12_isFit 4 = .ok (.iload_n 2, 1) := dk_28 (dk_at dksX12_isFit_0 4 rfl rfl)
theorem dX12_isFit_5 : decode cX12_isFit 5 = .ok (.iconst 1, 1) := dk_4 (dk_at dksX12_isFit_0 5 rfl rfl)
theorem dX12_isFit_6 : decode cX12_isFit 6 = .ok (.isub, 1) := dk_100 (dk_at dksX12_isFit_0 6 rfl rfl)
theorem dX12_isFit_7 : decode cX12_isFit 7 = .ok (.invokevirtual 221, 3) := dk_182 0 221 (dk_at dksX12_isFit_0 7 rfl rfl)
theorem dX12_isFit_10 : decode cX12_isFit 10 = .ok (.iconst 0, 1) := dk_3 (dk_at dksX12_isFit_0 10 rfl rfl)
theorem dX12_isFit_11 : decode cX12_isFit 11 = .ok (.istore 5, 2) := dk_54 5 (dk_at dksX12_isFit_0 11 rfl rfl)
theorem dX12_isFit_13 : decode cX12_isFit 13 = .ok (.iload 5, 2) := dk_21 5 (dk_at dksX12_isFit_0 13 rfl rfl)
theorem dX12_isFit_15 : decode cX12_isFit 15 = .ok (.iload_n 2, 1) := dk_28 (dk_at dksX12_isFit_0 15 rfl rfl)
theorem dX12_isFit_16 : decode cX12_isFit 16 = .ok (.if_icmp .ge 39, 3) := dk_162 0 39 (dk_at dksX12_isFit_0 16 rfl rfl)
theorem dX12_isFit_19 : decode cX12_isFit 19 = .ok (.aload_n 0, 1) := dk_42 (dk_at dksX12_isFit_0 19 rfl rfl)
theorem dX12_isFit_20 : decode cX12_isFit 20 = .ok (.iload_n 1, 1) := dk_27 (dk_at dksX12_isFit_0 20 rfl rfl)
theorem dX12_isFit_21 : decode cX12_isFit 21 = .ok (.iload 5, 2) := dk_21 5 (dk_at dksX12_isFit_0 21 rfl rfl)
theorem dX12_isFit_23 : decode cX12_isFit 23 = .ok (.invokevirtual 257, 3) := dk_182 1 1 (dk_at dksX12_isFit_1 0 rfl rfl)
theorem dX12_isFit_26 : decode cX12_isFit 26 = .ok (.aload_n 0, 1) := dk_42 (dk_at dksX12_isFit_1 3 rfl rfl)
theorem dX12_isFit_27 : decode cX12_isFit 27 = .ok (.getfield 56, 3) := dk_180 0 56 (dk_at dksX12_isFit_1 4 rfl rfl)
theorem dX12_isFit_30 : decode cX12_isFit 30 = .ok (.iload 5, 2) := dk_21 5 (dk_at dksX12_isFit_1 7 rfl rfl)
theorem dX12_isFit_32 : decode cX12_isFit 32 = .ok (.iaload, 1) := dk_46 (dk_at dksX12_isFit_1 9 rfl rfl)
theorem dX12_isFit_33 : decode cX12_isFit 33 = .ok (.aload_n 0, 1) := dk_42 (dk_at dksX12_isFit_1 10 rfl rfl)
theorem dX12_isFit_34 : decode cX12_isFit 34 = .ok (.getfield 59, 3) := dk_180 0 59 (dk_at dksX12_isFit_1 11 rfl rfl)
theorem dX12_isFit_37 : decode cX12_isFit 37 = .ok (.iload 5, 2) := dk_21 5 (dk_at dksX12_isFit_1 14 rfl rfl)
theorem dX12_isFit_39 : decode cX12_isFit 39 = .ok (.iaload, 1) := dk_46 (dk_at dksX12_isFit_1 16 rfl rfl)
theorem dX12_isFit_40 : decode cX12_isFit 40 = .ok (.ior, 1) := dk_128 (dk_at dksX12_isFit_1 17 rfl rfl)
theorem dX12_isFit_41 : decode cX12_isFit 41 = .ok (.invokestatic 112, 3) := dk_184 0 112 (dk_at dksX12_isFit_1 18 rfl rfl)
theorem dX12_isFit_44 : decode cX12_isFit 44 = .ok (.if_icmp .eq 5, 3) := dk_159 0 5 (dk_at dksX12_isFit_1 21 rfl rfl)
theorem dX12_isFit_47 : decode cX12_isFit 47 = .ok (.iconst 0, 1) := dk_3 (dk_at dksX12_isFit_2 0 rfl rfl)
theorem dX12_isFit_48 : decode cX12_isFit 48 = .ok (.ireturn, 1) := dk_172 (dk_at dksX12_isFit_2 1 rfl rfl)
theorem dX12_isFit_49 : decode cX12_isFit 49 = .ok (.iinc 5 1, 3) := dk_132 5 1 (dk_at dksX12_isFit_2 2 rfl rfl)
theorem dX12_isFit_52 : decode cX12_isFit 52 = .ok (.goto (-39), 3) := dk_167 255 217 (dk_at dksX12_isFit_2 5 rfl rfl)
theorem dX12_isFit_55 : decode cX12_isFit 55 = .ok (.iconst 1, 1) := dk_4 (dk_at dksX12_isFit_2 8 rfl rfl)
theorem dX12_isFit_56 : decode cX12_isFit 56 = .ok (.ireturn, 1) := dk_172 (dk_at dksX12_isFit_2 9 rfl rfl)
abbrev cX12_toldAt : ByteArray := prog_22_method_67_code
def yX12_toldAt : MethodName := ⟨RX12, "toldAt", "(II)I"⟩
def dkwX12_toldAt_0 : List UInt8 := [42, 180, 0, 16, 17, 0, 160, 27, 104, 28, 96, 47, 136, 172]
abbrev dktX12_toldAt_0 : List UInt8 := dkwX12_toldAt_0 ++ []
theorem dksX12_toldAt_0 : cX12_toldAt.data.toList.drop 0 = dktX12_toldAt_0 := by decide +kernel
theorem dX12_toldAt_0 : decode cX12_toldAt 0 = .ok (.aload_n 0, 1) := dk_42 (dk_at dksX12_toldAt_0 0 rfl rfl)
theorem dX12_toldAt_1 : decode cX12_toldAt 1 = .ok (.getfield 16, 3) := dk_180 0 16 (dk_at dksX12_toldAt_0 1 rfl rfl)
theorem dX12_toldAt_4 : decode cX12_toldAt 4 = .ok (.sipush 160, 3) := dk_17 0 160 (dk_at dksX12_toldAt_0 4 rfl rfl)
theorem dX12_toldAt_7 : decode cX12_toldAt 7 = .ok (.iload_n 1, 1) := dk_27 (dk_at dksX12_toldAt_0 7 rfl rfl)
theorem dX12_toldAt_8 : decode cX12_toldAt 8 = .ok (.imul, 1) := dk_104 (dk_at dksX12_toldAt_0 8 rfl rfl)
theorem dX12_toldAt_9 : decode cX12_toldAt 9 = .ok (.iload_n 2, 1) := dk_28 (dk_at dksX12_toldAt_0 9 rfl rfl)
theorem dX12_toldAt_10 : decode cX12_toldAt 10 = .ok (.iadd, 1) := dk_96 (dk_at dksX12_toldAt_0 10 rfl rfl)
theorem dX12_toldAt_11 : decode cX12_toldAt 11 = .ok (.laload, 1) := dk_47 (dk_at dksX12_toldAt_0 11 rfl rfl)
theorem dX12_toldAt_12 : decode cX12_toldAt 12 = .ok (.l2i, 1) := dk_136 (dk_at dksX12_toldAt_0 12 rfl rfl)
theorem dX12_toldAt_13 : decode cX12_toldAt 13 = .ok (.ireturn, 1) := dk_172 (dk_at dksX12_toldAt_0 13 rfl rfl)
abbrev cX12_changed : ByteArray := prog_22_method_72_code
def yX12_changed : MethodName := ⟨RX12, "changed", "(IIII)I"⟩
def dkwX12_changed_5 : List UInt8 := [167, 255, 203, 132, 6, 1, 167, 255, 182, 2, 172]
abbrev dktX12_changed_5 : List UInt8 := dkwX12_changed_5 ++ []
def dkwX12_changed_4 : List UInt8 := [21, 6, 21, 7, 182, 1, 11, 21, 8, 153, 0, 12, 16, 20, 21, 6, 104, 21, 7, 96, 172, 132, 7, 1]
abbrev dktX12_changed_4 : List UInt8 := dkwX12_changed_4 ++ dktX12_changed_5
def dkwX12_changed_3 : List UInt8 := [162, 0, 50, 42, 21, 6, 21, 7, 182, 1, 11, 42, 27, 28, 29, 21, 4, 182, 1, 7, 54, 8, 42]
abbrev dktX12_changed_3 : List UInt8 := dkwX12_changed_3 ++ dktX12_changed_4
def dkwX12_changed_2 : List UInt8 := [54, 6, 21, 6, 42, 180, 0, 82, 162, 0, 71, 21, 6, 4, 96, 54, 7, 21, 7, 42, 180, 0, 82]
abbrev dktX12_changed_2 : List UInt8 := dkwX12_changed_2 ++ dktX12_changed_3
def dkwX12_changed_1 : List UInt8 := [42, 27, 28, 4, 21, 4, 182, 1, 4, 54, 5, 21, 5, 156, 0, 10, 42, 21, 5, 182, 0, 227, 172, 3]
abbrev dktX12_changed_1 : List UInt8 := dkwX12_changed_1 ++ dktX12_changed_2
def dkwX12_changed_0 : List UInt8 := [27, 3, 16, 7, 184, 0, 85, 153, 0, 11, 42, 29, 182, 0, 127, 154, 0, 9, 42, 2, 182, 0, 227, 172]
abbrev dktX12_changed_0 : List UInt8 := dkwX12_changed_0 ++ dktX12_changed_1
theorem dksX12_changed_0 : cX12_changed.data.toList.drop 0 = dktX12_changed_0 := by decide +kernel
theorem dksX12_changed_1 : cX12_changed.data.toList.drop 24 = dktX12_changed_1 := dk_seg dksX12_changed_0 24 rfl rfl
theorem dksX12_changed_2 : cX12_changed.data.toList.drop 48 = dktX12_changed_2 := dk_seg dksX12_changed_1 24 rfl rfl
theorem dksX12_changed_3 : cX12_changed.data.toList.drop 71 = dktX12_changed_3 := dk_seg dksX12_changed_2 23 rfl rfl
theorem dksX12_changed_4 : cX12_changed.data.toList.drop 94 = dktX12_changed_4 := dk_seg dksX12_changed_3 23 rfl rfl
theorem dksX12_changed_5 : cX12_changed.data.toList.drop 118 = dktX12_changed_5 := dk_seg dksX12_changed_4 24 rfl rfl
theorem dX12_changed_0 : decode cX12_changed 0 = .ok (.iload_n 1, 1) := dk_27 (dk_at dksX12_changed_0 0 rfl rfl)
theorem dX12_changed_1 : decode cX12_changed 1 = .ok (.iconst 0, 1) := dk_3 (dk_at dksX12_changed_0 1 rfl rfl)
theorem dX12_changed_2 : decode cX12_changed 2 = .ok (.bipush 7, 2) := dk_16 7 (dk_at dksX12_changed_0 2 rfl rfl)
theorem dX12_changed_4 : decode cX12_changed 4 = .ok (.invokestatic 85, 3) := dk_184 0 85 (dk_at dksX12_changed_0 4 rfl rfl)
theorem dX12_changed_7 : decode cX12_changed 7 = .ok (.ifCond .eq 11, 3) := dk_153 0 11 (dk_at dksX12_changed_0 7 rfl rfl)
theorem dX12_changed_10 : decode cX12_changed 10 = .ok (.aload_n 0, 1) := dk_42 (dk_at dksX12_changed_0 10 rfl rfl)
theorem dX12_changed_11 : decode cX12_changed 11 = .ok (.iload_n 3, 1) := dk_29 (dk_at dksX12_changed_0 11 rfl rfl)
theorem dX12_changed_12 : decode cX12_changed 12 = .ok (.invokevirtual 127, 3) := dk_182 0 127 (dk_at dksX12_changed_0 12 rfl rfl)
theorem dX12_changed_15 : decode cX12_changed 15 = .ok (.ifCond .ne 9, 3) := dk_154 0 9 (dk_at dksX12_changed_0 15 rfl rfl)
theorem dX12_changed_18 : decode cX12_changed 18 = .ok (.aload_n 0, 1) := dk_42 (dk_at dksX12_changed_0 18 rfl rfl)
theorem dX12_changed_19 : decode cX12_changed 19 = .ok (.iconst (-1), 1) := dk_2 (dk_at dksX12_changed_0 19 rfl rfl)
theorem dX12_changed_20 : decode cX12_changed 20 = .ok (.invokevirtual 227, 3) := dk_182 0 227 (dk_at dksX12_changed_0 20 rfl rfl)
theorem dX12_changed_23 : decode cX12_changed 23 = .ok (.ireturn, 1) := dk_172 (dk_at dksX12_changed_0 23 rfl rfl)
theorem dX12_changed_24 : decode cX12_changed 24 = .ok (.aload_n 0, 1) := dk_42 (dk_at dksX12_changed_1 0 rfl rfl)
theorem dX12_changed_25 : decode cX12_changed 25 = .ok (.iload_n 1, 1) := dk_27 (dk_at dksX12_changed_1 1 rfl rfl)
theorem dX12_changed_26 : decode cX12_changed 26 = .ok (.iload_n 2, 1) := dk_28 (dk_at dksX12_changed_1 2 rfl rfl)
theorem dX12_changed_27 : decode cX12_changed 27 = .ok (.iconst 1, 1) := dk_4 (dk_at dksX12_changed_1 3 rfl rfl)
theorem dX12_changed_28 : decode cX12_changed 28 = .ok (.iload 4, 2) := dk_21 4 (dk_at dksX12_changed_1 4 rfl rfl)
theorem dX12_changed_30 : decode cX12_changed 30 = .ok (.invokevirtual 260, 3) := dk_182 1 4 (dk_at dksX12_changed_1 6 rfl rfl)
theorem dX12_changed_33 : decode cX12_changed 33 = .ok (.istore 5, 2) := dk_54 5 (dk_at dksX12_changed_1 9 rfl rfl)
theorem dX12_changed_35 : decode cX12_changed 35 = .ok (.iload 5, 2) := dk_21 5 (dk_at dksX12_changed_1 11 rfl rfl)
theorem dX12_changed_37 : decode cX12_changed 37 = .ok (.ifCond .ge 10, 3) := dk_156 0 10 (dk_at dksX12_changed_1 13 rfl rfl)
theorem dX12_changed_40 : decode cX12_changed 40 = .ok (.aload_n 0, 1) := dk_42 (dk_at dksX12_changed_1 16 rfl rfl)
theorem dX12_changed_41 : decode cX12_changed 41 = .ok (.iload 5, 2) := dk_21 5 (dk_at dksX12_changed_1 17 rfl rfl)
theorem dX12_changed_43 : decode cX12_changed 43 = .ok (.invokevirtual 227, 3) := dk_182 0 227 (dk_at dksX12_changed_1 19 rfl rfl)
theorem dX12_changed_46 : decode cX12_changed 46 = .ok (.ireturn, 1) := dk_172 (dk_at dksX12_changed_1 22 rfl rfl)
theorem dX12_changed_47 : decode cX12_changed 47 = .ok (.iconst 0, 1) := dk_3 (dk_at dksX12_changed_1 23 rfl rfl)
theorem dX12_changed_48 : decode cX12_changed 48 = .ok (.istore 6, 2) := dk_54 6 (dk_at dksX12_changed_2 0 rfl rfl)
theorem dX12_changed_50 : decode cX12_changed 50 = .ok (.iload 6, 2) := dk_21 6 (dk_at dksX12_changed_2 2 rfl rfl)
theorem dX12_changed_52 : decode cX12_changed 52 = .ok (.aload_n 0, 1) := dk_42 (dk_at dksX12_changed_2 4 rfl rfl)
theorem dX12_changed_53 : decode cX12_changed 53 = .ok (.getfield 82, 3) := dk_180 0 82 (dk_at dksX12_changed_2 5 rfl rfl)
theorem dX12_changed_56 : decode cX12_changed 56 = .ok (.if_icmp .ge 71, 3) := dk_162 0 71 (dk_at dksX12_changed_2 8 rfl rfl)
theorem dX12_changed_59 : decode cX12_changed 59 = .ok (.iload 6, 2) := dk_21 6 (dk_at dksX12_changed_2 11 rfl rfl)
theorem dX12_changed_61 : decode cX12_changed 61 = .ok (.iconst 1, 1) := dk_4 (dk_at dksX12_changed_2 13 rfl rfl)
theorem dX12_changed_62 : decode cX12_changed 62 = .ok (.iadd, 1) := dk_96 (dk_at dksX12_changed_2 14 rfl rfl)
theorem dX12_changed_63 : decode cX12_changed 63 = .ok (.istore 7, 2) := dk_54 7 (dk_at dksX12_changed_2 15 rfl rfl)
theorem dX12_changed_65 : decode cX12_changed 65 = .ok (.iload 7, 2) := dk_21 7 (dk_at dksX12_changed_2 17 rfl rfl)
theorem dX12_changed_67 : decode cX12_changed 67 = .ok (.aload_n 0, 1) := dk_42 (dk_at dksX12_changed_2 19 rfl rfl)
theorem dX12_changed_68 : decode cX12_changed 68 = .ok (.getfield 82, 3) := dk_180 0 82 (dk_at dksX12_changed_2 20 rfl rfl)
theorem dX12_changed_71 : decode cX12_changed 71 = .ok (.if_icmp .ge 50, 3) := dk_162 0 50 (dk_at dksX12_changed_3 0 rfl rfl)
theorem dX12_changed_74 : decode cX12_changed 74 = .ok (.aload_n 0, 1) := dk_42 (dk_at dksX12_changed_3 3 rfl rfl)
theorem dX12_changed_75 : decode cX12_changed 75 = .ok (.iload 6, 2) := dk_21 6 (dk_at dksX12_changed_3 4 rfl rfl)
theorem dX12_changed_77 : decode cX12_changed 77 = .ok (.iload 7, 2) := dk_21 7 (dk_at dksX12_changed_3 6 rfl rfl)
theorem dX12_changed_79 : decode cX12_changed 79 = .ok (.invokevirtual 267, 3) := dk_182 1 11 (dk_at dksX12_changed_3 8 rfl rfl)
theorem dX12_changed_82 : decode cX12_changed 82 = .ok (.aload_n 0, 1) := dk_42 (dk_at dksX12_changed_3 11 rfl rfl)
theorem dX12_changed_83 : decode cX12_changed 83 = .ok (.iload_n 1, 1) := dk_27 (dk_at dksX12_changed_3 12 rfl rfl)
theorem dX12_changed_84 : decode cX12_changed 84 = .ok (.iload_n 2, 1) := dk_28 (dk_at dksX12_changed_3 13 rfl rfl)
theorem dX12_changed_85 : decode cX12_changed 85 = .ok (.iload_n 3, 1) := dk_29 (dk_at dksX12_changed_3 14 rfl rfl)
theorem dX12_changed_86 : decode cX12_changed 86 = .ok (.iload 4, 2) := dk_21 4 (dk_at dksX12_changed_3 15 rfl rfl)
theorem dX12_changed_88 : decode cX12_changed 88 = .ok (.invokevirtual 263, 3) := dk_182 1 7 (dk_at dksX12_changed_3 17 rfl rfl)
theorem dX12_changed_91 : decode cX12_changed 91 = .ok (.istore 8, 2) := dk_54 8 (dk_at dksX12_changed_3 20 rfl rfl)
theorem dX12_changed_93 : decode cX12_changed 93 = .ok (.aload_n 0, 1) := dk_42 (dk_at dksX12_changed_3 22 rfl rfl)
theorem dX12_changed_94 : decode cX12_changed 94 = .ok (.iload 6, 2) := dk_21 6 (dk_at dksX12_changed_4 0 rfl rfl)
theorem dX12_changed_96 : decode cX12_changed 96 = .ok (.iload 7, 2) := dk_21 7 (dk_at dksX12_changed_4 2 rfl rfl)
theorem dX12_changed_98 : decode cX12_changed 98 = .ok (.invokevirtual 267, 3) := dk_182 1 11 (dk_at dksX12_changed_4 4 rfl rfl)
theorem dX12_changed_101 : decode cX12_changed 101 = .ok (.iload 8, 2) := dk_21 8 (dk_at dksX12_changed_4 7 rfl rfl)
theorem dX12_changed_103 : decode cX12_changed 103 = .ok (.ifCond .eq 12, 3) := dk_153 0 12 (dk_at dksX12_changed_4 9 rfl rfl)
theorem dX12_changed_106 : decode cX12_changed 106 = .ok (.bipush 20, 2) := dk_16 20 (dk_at dksX12_changed_4 12 rfl rfl)
theorem dX12_changed_108 : decode cX12_changed 108 = .ok (.iload 6, 2) := dk_21 6 (dk_at dksX12_changed_4 14 rfl rfl)
theorem dX12_changed_110 : decode cX12_changed 110 = .ok (.imul, 1) := dk_104 (dk_at dksX12_changed_4 16 rfl rfl)
theorem dX12_changed_111 : decode cX12_changed 111 = .ok (.iload 7, 2) := dk_21 7 (dk_at dksX12_changed_4 17 rfl rfl)
theorem dX12_changed_113 : decode cX12_changed 113 = .ok (.iadd, 1) := dk_96 (dk_at dksX12_changed_4 19 rfl rfl)
theorem dX12_changed_114 : decode cX12_changed 114 = .ok (.ireturn, 1) := dk_172 (dk_at dksX12_changed_4 20 rfl rfl)
theorem dX12_changed_115 : decode cX12_changed 115 = .ok (.iinc 7 1, 3) := dk_132 7 1 (dk_at dksX12_changed_4 21 rfl rfl)
theorem dX12_changed_118 : decode cX12_changed 118 = .ok (.goto (-53), 3) := dk_167 255 203 (dk_at dksX12_changed_5 0 rfl rfl)
theorem dX12_changed_121 : decode cX12_changed 121 = .ok (.iinc 6 1, 3) := dk_132 6 1 (dk_at dksX12_changed_5 3 rfl rfl)
theorem dX12_changed_124 : decode cX12_changed 124 = .ok (.goto (-74), 3) := dk_167 255 182 (dk_at dksX12_changed_5 6 rfl rfl)
theorem dX12_changed_127 : decode cX12_changed 127 = .ok (.iconst (-1), 1) := dk_2 (dk_at dksX12_changed_5 9 rfl rfl)
theorem dX12_changed_128 : decode cX12_changed 128 = .ok (.ireturn, 1) := dk_172 (dk_at dksX12_changed_5 10 rfl rfl)
abbrev cX12_change : ByteArray := prog_22_method_71_code
def yX12_change : MethodName := ⟨RX12, "change", "(II)V"⟩
def dkwX12_change_1 : List UInt8 := [29, 79, 177]
abbrev dktX12_change_1 : List UInt8 := dkwX12_change_1 ++ []
def dkwX12_change_0 : List UInt8 := [42, 180, 0, 26, 27, 46, 62, 42, 180, 0, 26, 27, 42, 180, 0, 26, 28, 46, 79, 42, 180, 0, 26, 28]
abbrev dktX12_change_0 : List UInt8 := dkwX12_change_0 ++ dktX12_change_1
theorem dksX12_change_0 : cX12_change.data.toList.drop 0 = dktX12_change_0 := by decide +kernel
theorem dksX12_change_1 : cX12_change.data.toList.drop 24 = dktX12_change_1 := dk_seg dksX12_change_0 24 rfl rfl
theorem dX12_change_0 : decode cX12_change 0 = .ok (.aload_n 0, 1) := dk_42 (dk_at dksX12_change_0 0 rfl rfl)
theorem dX12_change_1 : decode cX12_change 1 = .ok (.getfield 26, 3) := dk_180 0 26 (dk_at dksX12_change_0 1 rfl rfl)
theorem dX12_change_4 : decode cX12_change 4 = .ok (.iload_n 1, 1) := dk_27 (dk_at dksX12_change_0 4 rfl rfl)
theorem dX12_change_5 : decode cX12_change 5 = .ok (.iaload, 1) := dk_46 (dk_at dksX12_change_0 5 rfl rfl)
theorem dX12_change_6 : decode cX12_change 6 = .ok (.istore_n 3, 1) := dk_62 (dk_at dksX12_change_0 6 rfl rfl)
theorem dX12_change_7 : decode cX12_change 7 = .ok (.aload_n 0, 1) := dk_42 (dk_at dksX12_change_0 7 rfl rfl)
theorem dX12_change_8 : decode cX12_change 8 = .ok (.getfield 26, 3) := dk_180 0 26 (dk_at dksX12_change_0 8 rfl rfl)
theorem dX12_change_11 : decode cX12_change 11 = .ok (.iload_n 1, 1) := dk_27 (dk_at dksX12_change_0 11 rfl rfl)
theorem dX12_change_12 : decode cX12_change 12 = .ok (.aload_n 0, 1) := dk_42 (dk_at dksX12_change_0 12 rfl rfl)
theorem dX12_change_13 : decode cX12_change 13 = .ok (.getfield 26, 3) := dk_180 0 26 (dk_at dksX12_change_0 13 rfl rfl)
theorem dX12_change_16 : decode cX12_change 16 = .ok (.iload_n 2, 1) := dk_28 (dk_at dksX12_change_0 16 rfl rfl)
theorem dX12_change_17 : decode cX12_change 17 = .ok (.iaload, 1) := dk_46 (dk_at dksX12_change_0 17 rfl rfl)
theorem dX12_change_18 : decode cX12_change 18 = .ok (.iastore, 1) := dk_79 (dk_at dksX12_change_0 18 rfl rfl)
theorem dX12_change_19 : decode cX12_change 19 = .ok (.aload_n 0, 1) := dk_42 (dk_at dksX12_change_0 19 rfl rfl)
theorem dX12_change_20 : decode cX12_change 20 = .ok (.getfield 26, 3) := dk_180 0 26 (dk_at dksX12_change_0 20 rfl rfl)
theorem dX12_change_23 : decode cX12_change 23 = .ok (.iload_n 2, 1) := dk_28 (dk_at dksX12_change_0 23 rfl rfl)
theorem dX12_change_24 : decode cX12_change 24 = .ok (.iload_n 3, 1) := dk_29 (dk_at dksX12_change_1 0 rfl rfl)
theorem dX12_change_25 : decode cX12_change 25 = .ok (.iastore, 1) := dk_79 (dk_at dksX12_change_1 1 rfl rfl)
theorem dX12_change_26 : decode cX12_change 26 = .ok (.return_, 1) := dk_177 (dk_at dksX12_change_1 2 rfl rfl)
abbrev cX12_known : ByteArray := prog_22_method_75_code
def yX12_known : MethodName := ⟨RX12, "known", "(II)I"⟩
def dkwX12_known_4 : List UInt8 := [158, 0, 10, 42, 182, 1, 18, 167, 0, 9, 42, 16, 251, 182, 0, 78, 172]
abbrev dktX12_known_4 : List UInt8 := dkwX12_known_4 ++ []
def dkwX12_known_3 : List UInt8 := [21, 4, 46, 126, 62, 132, 4, 1, 167, 255, 234, 29, 172, 28, 6, 160, 0, 17, 42, 180, 0, 82]
abbrev dktX12_known_3 : List UInt8 := dkwX12_known_3 ++ dktX12_known_4
def dkwX12_known_2 : List UInt8 := [180, 0, 89, 120, 4, 100, 62, 3, 54, 4, 21, 4, 42, 180, 0, 82, 162, 0, 19, 29, 42, 180, 0, 35]
abbrev dktX12_known_2 : List UInt8 := dkwX12_known_2 ++ dktX12_known_3
def dkwX12_known_1 : List UInt8 := [42, 2, 182, 0, 78, 172, 28, 4, 160, 0, 8, 42, 182, 1, 15, 172, 28, 5, 160, 0, 42, 4, 42]
abbrev dktX12_known_1 : List UInt8 := dkwX12_known_1 ++ dktX12_known_2
def dkwX12_known_0 : List UInt8 := [28, 154, 0, 29, 42, 27, 182, 0, 102, 153, 0, 15, 42, 180, 0, 35, 27, 46, 184, 0, 112, 167, 0, 8]
abbrev dktX12_known_0 : List UInt8 := dkwX12_known_0 ++ dktX12_known_1
theorem dksX12_known_0 : cX12_known.data.toList.drop 0 = dktX12_known_0 := by decide +kernel
theorem dksX12_known_1 : cX12_known.data.toList.drop 24 = dktX12_known_1 := dk_seg dksX12_known_0 24 rfl rfl
theorem dksX12_known_2 : cX12_known.data.toList.drop 47 = dktX12_known_2 := dk_seg dksX12_known_1 23 rfl rfl
theorem dksX12_known_3 : cX12_known.data.toList.drop 71 = dktX12_known_3 := dk_seg dksX12_known_2 24 rfl rfl
theorem dksX12_known_4 : cX12_known.data.toList.drop 93 = dktX12_known_4 := dk_seg dksX12_known_3 22 rfl rfl
theorem dX12_known_0 : decode cX12_known 0 = .ok (.iload_n 2, 1) := dk_28 (dk_at dksX12_known_0 0 rfl rfl)
theorem dX12_known_1 : decode cX12_known 1 = .ok (.ifCond .ne 29, 3) := dk_154 0 29 (dk_at dksX12_known_0 1 rfl rfl)
theorem dX12_known_4 : decode cX12_known 4 = .ok (.aload_n 0, 1) := dk_42 (dk_at dksX12_known_0 4 rfl rfl)
theorem dX12_known_5 : decode cX12_known 5 = .ok (.iload_n 1, 1) := dk_27 (dk_at dksX12_known_0 5 rfl rfl)
theorem dX12_known_6 : decode cX12_known 6 = .ok (.invokevirtual 102, 3) := dk_182 0 102 (dk_at dksX12_known_0 6 rfl rfl)
theorem dX12_known_9 : decode cX12_known 9 = .ok (.ifCond .eq 15, 3) := dk_153 0 15 (dk_at dksX12_known_0 9 rfl rfl)
theorem dX12_known_12 : decode cX12_known 12 = .ok (.aload_n 0, 1) := dk_42 (dk_at dksX12_known_0 12 rfl rfl)
theorem dX12_known_13 : decode cX12_known 13 = .ok (.getfield 35, 3) := dk_180 0 35 (dk_at dksX12_known_0 13 rfl rfl)
theorem dX12_known_16 : decode cX12_known 16 = .ok (.iload_n 1, 1) := dk_27 (dk_at dksX12_known_0 16 rfl rfl)
theorem dX12_known_17 : decode cX12_known 17 = .ok (.iaload, 1) := dk_46 (dk_at dksX12_known_0 17 rfl rfl)
theorem dX12_known_18 : decode cX12_known 18 = .ok (.invokestatic 112, 3) := dk_184 0 112 (dk_at dksX12_known_0 18 rfl rfl)
theorem dX12_known_21 : decode cX12_known 21 = .ok (.goto 8, 3) := dk_167 0 8 (dk_at dksX12_known_0 21 rfl rfl)
theorem dX12_known_24 : decode cX12_known 24 = .ok (.aload_n 0, 1) := dk_42 (dk_at dksX12_known_1 0 rfl rfl)
theorem dX12_known_25 : decode cX12_known 25 = .ok (.iconst (-1), 1) := dk_2 (dk_at dksX12_known_1 1 rfl rfl)
theorem dX12_known_26 : decode cX12_known 26 = .ok (.invokevirtual 78, 3) := dk_182 0 78 (dk_at dksX12_known_1 2 rfl rfl)
theorem dX12_known_29 : decode cX12_known 29 = .ok (.ireturn, 1) := dk_172 (dk_at dksX12_known_1 5 rfl rfl)
theorem dX12_known_30 : decode cX12_known 30 = .ok (.iload_n 2, 1) := dk_28 (dk_at dksX12_known_1 6 rfl rfl)
theorem dX12_known_31 : decode cX12_known 31 = .ok (.iconst 1, 1) := dk_4 (dk_at dksX12_known_1 7 rfl rfl)
theorem dX12_known_32 : decode cX12_known 32 = .ok (.if_icmp .ne 8, 3) := dk_160 0 8 (dk_at dksX12_known_1 8 rfl rfl)
theorem dX12_known_35 : decode cX12_known 35 = .ok (.aload_n 0, 1) := dk_42 (dk_at dksX12_known_1 11 rfl rfl)
theorem dX12_known_36 : decode cX12_known 36 = .ok (.invokevirtual 271, 3) := dk_182 1 15 (dk_at dksX12_known_1 12 rfl rfl)
theorem dX12_known_39 : decode cX12_known 39 = .ok (.ireturn, 1) := dk_172 (dk_at dksX12_known_1 15 rfl rfl)
theorem dX12_known_40 : decode cX12_known 40 = .ok (.iload_n 2, 1) := dk_28 (dk_at dksX12_known_1 16 rfl rfl)
theorem dX12_known_41 : decode cX12_known 41 = .ok (.iconst 2, 1) := dk_5 (dk_at dksX12_known_1 17 rfl rfl)
theorem dX12_known_42 : decode cX12_known 42 = .ok (.if_icmp .ne 42, 3) := dk_160 0 42 (dk_at dksX12_known_1 18 rfl rfl)
theorem dX12_known_45 : decode cX12_known 45 = .ok (.iconst 1, 1) := dk_4 (dk_at dksX12_known_1 21 rfl rfl)
theorem dX12_known_46 : decode cX12_known 46 = .ok (.aload_n 0, 1) := dk_42 (dk_at dksX12_known_1 22 rfl rfl)
theorem dX12_known_47 : decode cX12_known 47 = .ok (.getfield 89, 3) := dk_180 0 89 (dk_at dksX12_known_2 0 rfl rfl)
theorem dX12_known_50 : decode cX12_known 50 = .ok (.ishl, 1) := dk_120 (dk_at dksX12_known_2 3 rfl rfl)
theorem dX12_known_51 : decode cX12_known 51 = .ok (.iconst 1, 1) := dk_4 (dk_at dksX12_known_2 4 rfl rfl)
theorem dX12_known_52 : decode cX12_known 52 = .ok (.isub, 1) := dk_100 (dk_at dksX12_known_2 5 rfl rfl)
theorem dX12_known_53 : decode cX12_known 53 = .ok (.istore_n 3, 1) := dk_62 (dk_at dksX12_known_2 6 rfl rfl)
theorem dX12_known_54 : decode cX12_known 54 = .ok (.iconst 0, 1) := dk_3 (dk_at dksX12_known_2 7 rfl rfl)
theorem dX12_known_55 : decode cX12_known 55 = .ok (.istore 4, 2) := dk_54 4 (dk_at dksX12_known_2 8 rfl rfl)
theorem dX12_known_57 : decode cX12_known 57 = .ok (.iload 4, 2) := dk_21 4 (dk_at dksX12_known_2 10 rfl rfl)
theorem dX12_known_59 : decode cX12_known 59 = .ok (.aload_n 0, 1) := dk_42 (dk_at dksX12_known_2 12 rfl rfl)
theorem dX12_known_60 : decode cX12_known 60 = .ok (.getfield 82, 3) := dk_180 0 82 (dk_at dksX12_known_2 13 rfl rfl)
theorem dX12_known_63 : decode cX12_known 63 = .ok (.if_icmp .ge 19, 3) := dk_162 0 19 (dk_at dksX12_known_2 16 rfl rfl)
theorem dX12_known_66 : decode cX12_known 66 = .ok (.iload_n 3, 1) := dk_29 (dk_at dksX12_known_2 19 rfl rfl)
theorem dX12_known_67 : decode cX12_known 67 = .ok (.aload_n 0, 1) := dk_42 (dk_at dksX12_known_2 20 rfl rfl)
theorem dX12_known_68 : decode cX12_known 68 = .ok (.getfield 35, 3) := dk_180 0 35 (dk_at dksX12_known_2 21 rfl rfl)
theorem dX12_known_71 : decode cX12_known 71 = .ok (.iload 4, 2) := dk_21 4 (dk_at dksX12_known_3 0 rfl rfl)
theorem dX12_known_73 : decode cX12_known 73 = .ok (.iaload, 1) := dk_46 (dk_at dksX12_known_3 2 rfl rfl)
theorem dX12_known_74 : decode cX12_known 74 = .ok (.iand, 1) := dk_126 (dk_at dksX12_known_3 3 rfl rfl)
theorem dX12_known_75 : decode cX12_known 75 = .ok (.istore_n 3, 1) := dk_62 (dk_at dksX12_known_3 4 rfl rfl)
theorem dX12_known_76 : decode cX12_known 76 = .ok (.iinc 4 1, 3) := dk_132 4 1 (dk_at dksX12_known_3 5 rfl rfl)
theorem dX12_known_79 : decode cX12_known 79 = .ok (.goto (-22), 3) := dk_167 255 234 (dk_at dksX12_known_3 8 rfl rfl)
theorem dX12_known_82 : decode cX12_known 82 = .ok (.iload_n 3, 1) := dk_29 (dk_at dksX12_known_3 11 rfl rfl)
theorem dX12_known_83 : decode cX12_known 83 = .ok (.ireturn, 1) := dk_172 (dk_at dksX12_known_3 12 rfl rfl)
theorem dX12_known_84 : decode cX12_known 84 = .ok (.iload_n 2, 1) := dk_28 (dk_at dksX12_known_3 13 rfl rfl)
theorem dX12_known_85 : decode cX12_known 85 = .ok (.iconst 3, 1) := dk_6 (dk_at dksX12_known_3 14 rfl rfl)
theorem dX12_known_86 : decode cX12_known 86 = .ok (.if_icmp .ne 17, 3) := dk_160 0 17 (dk_at dksX12_known_3 15 rfl rfl)
theorem dX12_known_89 : decode cX12_known 89 = .ok (.aload_n 0, 1) := dk_42 (dk_at dksX12_known_3 18 rfl rfl)
theorem dX12_known_90 : decode cX12_known 90 = .ok (.getfield 82, 3) := dk_180 0 82 (dk_at dksX12_known_3 19 rfl rfl)
theorem dX12_known_93 : decode cX12_known 93 = .ok (.ifCond .le 10, 3) := dk_158 0 10 (dk_at dksX12_known_4 0 rfl rfl)
theorem dX12_known_96 : decode cX12_known 96 = .ok (.aload_n 0, 1) := dk_42 (dk_at dksX12_known_4 3 rfl rfl)
theorem dX12_known_97 : decode cX12_known 97 = .ok (.invokevirtual 274, 3) := dk_182 1 18 (dk_at dksX12_known_4 4 rfl rfl)
theorem dX12_known_100 : decode cX12_known 100 = .ok (.goto 9, 3) := dk_167 0 9 (dk_at dksX12_known_4 7 rfl rfl)
theorem dX12_known_103 : decode cX12_known 103 = .ok (.aload_n 0, 1) := dk_42 (dk_at dksX12_known_4 10 rfl rfl)
theorem dX12_known_104 : decode cX12_known 104 = .ok (.bipush (-5), 2) := dk_16 251 (dk_at dksX12_known_4 11 rfl rfl)
theorem dX12_known_106 : decode cX12_known 106 = .ok (.invokevirtual 78, 3) := dk_182 0 78 (dk_at dksX12_known_4 13 rfl rfl)
theorem dX12_known_109 : decode cX12_known 109 = .ok (.ireturn, 1) := dk_172 (dk_at dksX12_known_4 16 rfl rfl)
abbrev cX12_knownAll : ByteArray := prog_22_method_73_code
def yX12_knownAll : MethodName := ⟨RX12, "knownAll", "()I"⟩
def dkwX12_knownAll_1 : List UInt8 := [132, 2, 1, 167, 255, 233, 27, 172]
abbrev dktX12_knownAll_1 : List UInt8 := dkwX12_knownAll_1 ++ []
def dkwX12_knownAll_0 : List UInt8 := [3, 60, 3, 61, 28, 42, 180, 0, 82, 162, 0, 21, 27, 42, 180, 0, 35, 28, 46, 184, 0, 112, 96, 60]
abbrev dktX12_knownAll_0 : List UInt8 := dkwX12_knownAll_0 ++ dktX12_knownAll_1
theorem dksX12_knownAll_0 : cX12_knownAll.data.toList.drop 0 = dktX12_knownAll_0 := by decide +kernel
theorem dksX12_knownAll_1 : cX12_knownAll.data.toList.drop 24 = dktX12_knownAll_1 := dk_seg dksX12_knownAll_0 24 rfl rfl
theorem dX12_knownAll_0 : decode cX12_knownAll 0 = .ok (.iconst 0, 1) := dk_3 (dk_at dksX12_knownAll_0 0 rfl rfl)
theorem dX12_knownAll_1 : decode cX12_knownAll 1 = .ok (.istore_n 1, 1) := dk_60 (dk_at dksX12_knownAll_0 1 rfl rfl)
theorem dX12_knownAll_2 : decode cX12_knownAll 2 = .ok (.iconst 0, 1) := dk_3 (dk_at dksX12_knownAll_0 2 rfl rfl)
theorem dX12_knownAll_3 : decode cX12_knownAll 3 = .ok (.istore_n 2, 1) := dk_61 (dk_at dksX12_knownAll_0 3 rfl rfl)
theorem dX12_knownAll_4 : decode cX12_knownAll 4 = .ok (.iload_n 2, 1) := dk_28 (dk_at dksX12_knownAll_0 4 rfl rfl)
theorem dX12_knownAll_5 : decode cX12_knownAll 5 = .ok (.aload_n 0, 1) := dk_42 (dk_at dksX12_knownAll_0 5 rfl rfl)
theorem dX12_knownAll_6 : decode cX12_knownAll 6 = .ok (.getfield 82, 3) := dk_180 0 82 (dk_at dksX12_knownAll_0 6 rfl rfl)
theorem dX12_knownAll_9 : decode cX12_knownAll 9 = .ok (.if_icmp .ge 21, 3) := dk_162 0 21 (dk_at dksX12_knownAll_0 9 rfl rfl)
theorem dX12_knownAll_12 : decode cX12_knownAll 12 = .ok (.iload_n 1, 1) := dk_27 (dk_at dksX12_knownAll_0 12 rfl rfl)
theorem dX12_knownAll_13 : decode cX12_knownAll 13 = .ok (.aload_n 0, 1) := dk_42 (dk_at dksX12_knownAll_0 13 rfl rfl)
theorem dX12_knownAll_14 : decode cX12_knownAll 14 = .ok (.getfield 35, 3) := dk_180 0 35 (dk_at dksX12_knownAll_0 14 rfl rfl)
theorem dX12_knownAll_17 : decode cX12_knownAll 17 = .ok (.iload_n 2, 1) := dk_28 (dk_at dksX12_knownAll_0 17 rfl rfl)
theorem dX12_knownAll_18 : decode cX12_knownAll 18 = .ok (.iaload, 1) := dk_46 (dk_at dksX12_knownAll_0 18 rfl rfl)
theorem dX12_knownAll_19 : decode cX12_knownAll 19 = .ok (.invokestatic 112, 3) := dk_184 0 112 (dk_at dksX12_knownAll_0 19 rfl rfl)
theorem dX12_knownAll_22 : decode cX12_knownAll 22 = .ok (.iadd, 1) := dk_96 (dk_at dksX12_knownAll_0 22 rfl rfl)
theorem dX12_knownAll_23 : decode cX12_knownAll 23 = .ok (.istore_n 1, 1) := dk_60 (dk_at dksX12_knownAll_0 23 rfl rfl)
theorem dX12_knownAll_24 : decode cX12_knownAll 24 = .ok (.iinc 2 1, 3) := dk_132 2 1 (dk_at dksX12_knownAll_1 0 rfl rfl)
theorem dX12_knownAll_27 : decode cX12_knownAll 27 = .ok (.goto (-23), 3) := dk_167 255 233 (dk_at dksX12_knownAll_1 3 rfl rfl)
theorem dX12_knownAll_30 : decode cX12_knownAll 30 = .ok (.iload_n 1, 1) := dk_27 (dk_at dksX12_knownAll_1 6 rfl rfl)
theorem dX12_knownAll_31 : decode cX12_knownAll 31 = .ok (.ireturn, 1) := dk_172 (dk_at dksX12_knownAll_1 7 rfl rfl)
abbrev cX12_whomToAsk : ByteArray := prog_22_method_74_code
def yX12_whomToAsk : MethodName := ⟨RX12, "whomToAsk", "()I"⟩
def dkwX12_whomToAsk_3 : List UInt8 := [61, 29, 60, 132, 3, 1, 167, 255, 185, 27, 172]
abbrev dktX12_whomToAsk_3 : List UInt8 := dkwX12_whomToAsk_3 ++ []
def dkwX12_whomToAsk_2 : List UInt8 := [46, 160, 0, 6, 132, 4, 1, 132, 5, 1, 167, 255, 219, 21, 4, 28, 163, 0, 6, 167, 0, 8, 21, 4]
abbrev dktX12_whomToAsk_2 : List UInt8 := dkwX12_whomToAsk_2 ++ dktX12_whomToAsk_3
def dkwX12_whomToAsk_1 : List UInt8 := [180, 0, 82, 162, 0, 34, 21, 5, 29, 159, 0, 22, 42, 180, 0, 35, 21, 5, 46, 42, 180, 0, 35, 29]
abbrev dktX12_whomToAsk_1 : List UInt8 := dkwX12_whomToAsk_1 ++ dktX12_whomToAsk_2
def dkwX12_whomToAsk_0 : List UInt8 := [2, 60, 2, 61, 3, 62, 29, 42, 180, 0, 82, 162, 0, 69, 3, 54, 4, 3, 54, 5, 21, 5, 42]
abbrev dktX12_whomToAsk_0 : List UInt8 := dkwX12_whomToAsk_0 ++ dktX12_whomToAsk_1
theorem dksX12_whomToAsk_0 : cX12_whomToAsk.data.toList.drop 0 = dktX12_whomToAsk_0 := by decide +kernel
theorem dksX12_whomToAsk_1 : cX12_whomToAsk.data.toList.drop 23 = dktX12_whomToAsk_1 := dk_seg dksX12_whomToAsk_0 23 rfl rfl
theorem dksX12_whomToAsk_2 : cX12_whomToAsk.data.toList.drop 47 = dktX12_whomToAsk_2 := dk_seg dksX12_whomToAsk_1 24 rfl rfl
theorem dksX12_whomToAsk_3 : cX12_whomToAsk.data.toList.drop 71 = dktX12_whomToAsk_3 := dk_seg dksX12_whomToAsk_2 24 rfl rfl
theorem dX12_whomToAsk_0 : decode cX12_whomToAsk 0 = .ok (.iconst (-1), 1) := dk_2 (dk_at dksX12_whomToAsk_0 0 rfl rfl)
theorem dX12_whomToAsk_1 : decode cX12_whomToAsk 1 = .ok (.istore_n 1, 1) := dk_60 (dk_at dksX12_whomToAsk_0 1 rfl rfl)
theorem dX12_whomToAsk_2 : decode cX12_whomToAsk 2 = .ok (.iconst (-1), 1) := dk_2 (dk_at dksX12_whomToAsk_0 2 rfl rfl)
theorem dX12_whomToAsk_3 : decode cX12_whomToAsk 3 = .ok (.istore_n 2, 1) := dk_61 (dk_at dksX12_whomToAsk_0 3 rfl rfl)
theorem dX12_whomToAsk_4 : decode cX12_whomToAsk 4 = .ok (.iconst 0, 1) := dk_3 (dk_at dksX12_whomToAsk_0 4 rfl rfl)
theorem dX12_whomToAsk_5 : decode cX12_whomToAsk 5 = .ok (.istore_n 3, 1) := dk_62 (dk_at dksX12_whomToAsk_0 5 rfl rfl)
theorem dX12_whomToAsk_6 : decode cX12_whomToAsk 6 = .ok (.iload_n 3, 1) := dk_29 (dk_at dksX12_whomToAsk_0 6 rfl rfl)
theorem dX12_whomToAsk_7 : decode cX12_whomToAsk 7 = .ok (.aload_n 0, 1) := dk_42 (dk_at dksX12_whomToAsk_0 7 rfl rfl)
theorem dX12_whomToAsk_8 : decode cX12_whomToAsk 8 = .ok (.getfield 82, 3) := dk_180 0 82 (dk_at dksX12_whomToAsk_0 8 rfl rfl)
theorem dX12_whomToAsk_11 : decode cX12_whomToAsk 11 = .ok (.if_icmp .ge 69, 3) := dk_162 0 69 (dk_at dksX12_whomToAsk_0 11 rfl rfl)
theorem dX12_whomToAsk_14 : decode cX12_whomToAsk 14 = .ok (.iconst 0, 1) := dk_3 (dk_at dksX12_whomToAsk_0 14 rfl rfl)
theorem dX12_whomToAsk_15 : decode cX12_whomToAsk 15 = .ok (.istore 4, 2) := dk_54 4 (dk_at dksX12_whomToAsk_0 15 rfl rfl)
theorem dX12_whomToAsk_17 : decode cX12_whomToAsk 17 = .ok (.iconst 0, 1) := dk_3 (dk_at dksX12_whomToAsk_0 17 rfl rfl)
theorem dX12_whomToAsk_18 : decode cX12_whomToAsk 18 = .ok (.istore 5, 2) := dk_54 5 (dk_at dksX12_whomToAsk_0 18 rfl rfl)
theorem dX12_whomToAsk_20 : decode cX12_whomToAsk 20 = .ok (.iload 5, 2) := dk_21 5 (dk_at dksX12_whomToAsk_0 20 rfl rfl)
theorem dX12_whomToAsk_22 : decode cX12_whomToAsk 22 = .ok (.aload_n 0, 1) := dk_42 (dk_at dksX12_whomToAsk_0 22 rfl rfl)
theorem dX12_whomToAsk_23 : decode cX12_whomToAsk 23 = .ok (.getfield 82, 3) := dk_180 0 82 (dk_at dksX12_whomToAsk_1 0 rfl rfl)
theorem dX12_whomToAsk_26 : decode cX12_whomToAsk 26 = .ok (.if_icmp .ge 34, 3) := dk_162 0 34 (dk_at dksX12_whomToAsk_1 3 rfl rfl)
theorem dX12_whomToAsk_29 : decode cX12_whomToAsk 29 = .ok (.iload 5, 2) := dk_21 5 (dk_at dksX12_whomToAsk_1 6 rfl rfl)
theorem dX12_whomToAsk_31 : decode cX12_whomToAsk 31 = .ok (.iload_n 3, 1) := dk_29 (dk_at dksX12_whomToAsk_1 8 rfl rfl)
theorem dX12_whomToAsk_32 : decode cX12_whomToAsk 32 = .ok (.if_icmp .eq 22, 3) := dk_159 0 22 (dk_at dksX12_whomToAsk_1 9 rfl rfl)
theorem dX12_whomToAsk_35 : decode cX12_whomToAsk 35 = .ok (.aload_n 0, 1) := dk_42 (dk_at dksX12_whomToAsk_1 12 rfl rfl)
theorem dX12_whomToAsk_36 : decode cX12_whomToAsk 36 = .ok (.getfield 35, 3) := dk_180 0 35 (dk_at dksX12_whomToAsk_1 13 rfl rfl)
theorem dX12_whomToAsk_39 : decode cX12_whomToAsk 39 = .ok (.iload 5, 2) := dk_21 5 (dk_at dksX12_whomToAsk_1 16 rfl rfl)
theorem dX12_whomToAsk_41 : decode cX12_whomToAsk 41 = .ok (.iaload, 1) := dk_46 (dk_at dksX12_whomToAsk_1 18 rfl rfl)
theorem dX12_whomToAsk_42 : decode cX12_whomToAsk 42 = .ok (.aload_n 0, 1) := dk_42 (dk_at dksX12_whomToAsk_1 19 rfl rfl)
theorem dX12_whomToAsk_43 : decode cX12_whomToAsk 43 = .ok (.getfield 35, 3) := dk_180 0 35 (dk_at dksX12_whomToAsk_1 20 rfl rfl)
theorem dX12_whomToAsk_46 : decode cX12_whomToAsk 46 = .ok (.iload_n 3, 1) := dk_29 (dk_at dksX12_whomToAsk_1 23 rfl rfl)
theorem dX12_whomToAsk_47 : decode cX12_whomToAsk 47 = .ok (.iaload, 1) := dk_46 (dk_at dksX12_whomToAsk_2 0 rfl rfl)
theorem dX12_whomToAsk_48 : decode cX12_whomToAsk 48 = .ok (.if_icmp .ne 6, 3) := dk_160 0 6 (dk_at dksX12_whomToAsk_2 1 rfl rfl)
theorem dX12_whomToAsk_51 : decode cX12_whomToAsk 51 = .ok (.iinc 4 1, 3) := dk_132 4 1 (dk_at dksX12_whomToAsk_2 4 rfl rfl)
theorem dX12_whomToAsk_54 : decode cX12_whomToAsk 54 = .ok (.iinc 5 1, 3) := dk_132 5 1 (dk_at dksX12_whomToAsk_2 7 rfl rfl)
theorem dX12_whomToAsk_57 : decode cX12_whomToAsk 57 = .ok (.goto (-37), 3) := dk_167 255 219 (dk_at dksX12_whomToAsk_2 10 rfl rfl)
theorem dX12_whomToAsk_60 : decode cX12_whomToAsk 60 = .ok (.iload 4, 2) := dk_21 4 (dk_at dksX12_whomToAsk_2 13 rfl rfl)
theorem dX12_whomToAsk_62 : decode cX12_whomToAsk 62 = .ok (.iload_n 2, 1) := dk_28 (dk_at dksX12_whomToAsk_2 15 rfl rfl)
theorem dX12_whomToAsk_63 : decode cX12_whomToAsk 63 = .ok (.if_icmp .gt 6, 3) := dk_163 0 6 (dk_at dksX12_whomToAsk_2 16 rfl rfl)
theorem dX12_whomToAsk_66 : decode cX12_whomToAsk 66 = .ok (.goto 8, 3) := dk_167 0 8 (dk_at dksX12_whomToAsk_2 19 rfl rfl)
theorem dX12_whomToAsk_69 : decode cX12_whomToAsk 69 = .ok (.iload 4, 2) := dk_21 4 (dk_at dksX12_whomToAsk_2 22 rfl rfl)
theorem dX12_whomToAsk_71 : decode cX12_whomToAsk 71 = .ok (.istore_n 2, 1) := dk_61 (dk_at dksX12_whomToAsk_3 0 rfl rfl)
theorem dX12_whomToAsk_72 : decode cX12_whomToAsk 72 = .ok (.iload_n 3, 1) := dk_29 (dk_at dksX12_whomToAsk_3 1 rfl rfl)
theorem dX12_whomToAsk_73 : decode cX12_whomToAsk 73 = .ok (.istore_n 1, 1) := dk_60 (dk_at dksX12_whomToAsk_3 2 rfl rfl)
theorem dX12_whomToAsk_74 : decode cX12_whomToAsk 74 = .ok (.iinc 3 1, 3) := dk_132 3 1 (dk_at dksX12_whomToAsk_3 3 rfl rfl)
theorem dX12_whomToAsk_77 : decode cX12_whomToAsk 77 = .ok (.goto (-71), 3) := dk_167 255 185 (dk_at dksX12_whomToAsk_3 6 rfl rfl)
theorem dX12_whomToAsk_80 : decode cX12_whomToAsk 80 = .ok (.iload_n 1, 1) := dk_27 (dk_at dksX12_whomToAsk_3 9 rfl rfl)
theorem dX12_whomToAsk_81 : decode cX12_whomToAsk 81 = .ok (.ireturn, 1) := dk_172 (dk_at dksX12_whomToAsk_3 10 rfl rfl)
abbrev cX12_judge : ByteArray := prog_22_method_77_code
def yX12_judge : MethodName := ⟨RX12, "judge", "(II)I"⟩
def dkwX12_judge_1 : List UInt8 := [182, 1, 21, 172]
abbrev dktX12_judge_1 : List UInt8 := dkwX12_judge_1 ++ []
def dkwX12_judge_0 : List UInt8 := [42, 27, 28, 3, 3, 182, 1, 4, 62, 29, 156, 0, 11, 42, 29, 182, 0, 227, 167, 0, 9, 42, 27, 28]
abbrev dktX12_judge_0 : List UInt8 := dkwX12_judge_0 ++ dktX12_judge_1
theorem dksX12_judge_0 : cX12_judge.data.toList.drop 0 = dktX12_judge_0 := by decide +kernel
theorem dksX12_judge_1 : cX12_judge.data.toList.drop 24 = dktX12_judge_1 := dk_seg dksX12_judge_0 24 rfl rfl
theorem dX12_judge_0 : decode cX12_judge 0 = .ok (.aload_n 0, 1) := dk_42 (dk_at dksX12_judge_0 0 rfl rfl)
theorem dX12_judge_1 : decode cX12_judge 1 = .ok (.iload_n 1, 1) := dk_27 (dk_at dksX12_judge_0 1 rfl rfl)
theorem dX12_judge_2 : decode cX12_judge 2 = .ok (.iload_n 2, 1) := dk_28 (dk_at dksX12_judge_0 2 rfl rfl)
theorem dX12_judge_3 : decode cX12_judge 3 = .ok (.iconst 0, 1) := dk_3 (dk_at dksX12_judge_0 3 rfl rfl)
theorem dX12_judge_4 : decode cX12_judge 4 = .ok (.iconst 0, 1) := dk_3 (dk_at dksX12_judge_0 4 rfl rfl)
theorem dX12_judge_5 : decode cX12_judge 5 = .ok (.invokevirtual 260, 3) := dk_182 1 4 (dk_at dksX12_judge_0 5 rfl rfl)
theorem dX12_judge_8 : decode cX12_judge 8 = .ok (.istore_n 3, 1) := dk_62 (dk_at dksX12_judge_0 8 rfl rfl)
theorem dX12_judge_9 : decode cX12_judge 9 = .ok (.iload_n 3, 1) := dk_29 (dk_at dksX12_judge_0 9 rfl rfl)
theorem dX12_judge_10 : decode cX12_judge 10 = .ok (.ifCond .ge 11, 3) := dk_156 0 11 (dk_at dksX12_judge_0 10 rfl rfl)
theorem dX12_judge_13 : decode cX12_judge 13 = .ok (.aload_n 0, 1) := dk_42 (dk_at dksX12_judge_0 13 rfl rfl)
theorem dX12_judge_14 : decode cX12_judge 14 = .ok (.iload_n 3, 1) := dk_29 (dk_at dksX12_judge_0 14 rfl rfl)
theorem dX12_judge_15 : decode cX12_judge 15 = .ok (.invokevirtual 227, 3) := dk_182 0 227 (dk_at dksX12_judge_0 15 rfl rfl)
theorem dX12_judge_18 : decode cX12_judge 18 = .ok (.goto 9, 3) := dk_167 0 9 (dk_at dksX12_judge_0 18 rfl rfl)
theorem dX12_judge_21 : decode cX12_judge 21 = .ok (.aload_n 0, 1) := dk_42 (dk_at dksX12_judge_0 21 rfl rfl)
theorem dX12_judge_22 : decode cX12_judge 22 = .ok (.iload_n 1, 1) := dk_27 (dk_at dksX12_judge_0 22 rfl rfl)
theorem dX12_judge_23 : decode cX12_judge 23 = .ok (.iload_n 2, 1) := dk_28 (dk_at dksX12_judge_0 23 rfl rfl)
theorem dX12_judge_24 : decode cX12_judge 24 = .ok (.invokevirtual 277, 3) := dk_182 1 21 (dk_at dksX12_judge_1 0 rfl rfl)
theorem dX12_judge_27 : decode cX12_judge 27 = .ok (.ireturn, 1) := dk_172 (dk_at dksX12_judge_1 3 rfl rfl)
abbrev cX12_wrongAt : ByteArray := prog_22_method_76_code
def yX12_wrongAt : MethodName := ⟨RX12, "wrongAt", "(II)I"⟩
def dkwX12_wrongAt_2 : List UInt8 := [16, 10, 112, 154, 0, 5, 29, 172, 132, 3, 1, 167, 255, 201, 2, 172]
abbrev dktX12_wrongAt_2 : List UInt8 := dkwX12_wrongAt_2 ++ []
def dkwX12_wrongAt_1 : List UInt8 := [16, 100, 108, 182, 0, 127, 153, 0, 23, 21, 4, 16, 10, 108, 16, 10, 112, 8, 163, 0, 11, 21, 4]
abbrev dktX12_wrongAt_1 : List UInt8 := dkwX12_wrongAt_1 ++ dktX12_wrongAt_2
def dkwX12_wrongAt_0 : List UInt8 := [3, 62, 29, 28, 162, 0, 56, 42, 27, 29, 182, 1, 1, 54, 4, 21, 4, 155, 0, 35, 42, 21, 4]
abbrev dktX12_wrongAt_0 : List UInt8 := dkwX12_wrongAt_0 ++ dktX12_wrongAt_1
theorem dksX12_wrongAt_0 : cX12_wrongAt.data.toList.drop 0 = dktX12_wrongAt_0 := by decide +kernel
theorem dksX12_wrongAt_1 : cX12_wrongAt.data.toList.drop 23 = dktX12_wrongAt_1 := dk_seg dksX12_wrongAt_0 23 rfl rfl
theorem dksX12_wrongAt_2 : cX12_wrongAt.data.toList.drop 46 = dktX12_wrongAt_2 := dk_seg dksX12_wrongAt_1 23 rfl rfl
theorem dX12_wrongAt_0 : decode cX12_wrongAt 0 = .ok (.iconst 0, 1) := dk_3 (dk_at dksX12_wrongAt_0 0 rfl rfl)
theorem dX12_wrongAt_1 : decode cX12_wrongAt 1 = .ok (.istore_n 3, 1) := dk_62 (dk_at dksX12_wrongAt_0 1 rfl rfl)
theorem dX12_wrongAt_2 : decode cX12_wrongAt 2 = .ok (.iload_n 3, 1) := dk_29 (dk_at dksX12_wrongAt_0 2 rfl rfl)
theorem dX12_wrongAt_3 : decode cX12_wrongAt 3 = .ok (.iload_n 2, 1) := dk_28 (dk_at dksX12_wrongAt_0 3 rfl rfl)
theorem dX12_wrongAt_4 : decode cX12_wrongAt 4 = .ok (.if_icmp .ge 56, 3) := dk_162 0 56 (dk_at dksX12_wrongAt_0 4 rfl rfl)
theorem dX12_wrongAt_7 : decode cX12_wrongAt 7 = .ok (.aload_n 0, 1) := dk_42 (dk_at dksX12_wrongAt_0 7 rfl rfl)
theorem dX12_wrongAt_8 : decode cX12_wrongAt 8 = .ok (.iload_n 1, 1) := dk_27 (dk_at dksX12_wrongAt_0 8 rfl rfl)
theorem dX12_wrongAt_9 : decode cX12_wrongAt 9 = .ok (.iload_n 3, 1) := dk_29 (dk_at dksX12_wrongAt_0 9 rfl rfl)
theorem dX12_wrongAt_10 : decode cX12_wrongAt 10 = .ok (.invokevirtual 257, 3) := dk_182 1 1 (dk_at dksX12_wrongAt_0 10 rfl rfl)
theorem dX12_wrongAt_13 : decode cX12_wrongAt 13 = .ok (.istore 4, 2) := dk_54 4 (dk_at dksX12_wrongAt_0 13 rfl rfl)
theorem dX12_wrongAt_15 : decode cX12_wrongAt 15 = .ok (.iload 4, 2) := dk_21 4 (dk_at dksX12_wrongAt_0 15 rfl rfl)
theorem dX12_wrongAt_17 : decode cX12_wrongAt 17 = .ok (.ifCond .lt 35, 3) := dk_155 0 35 (dk_at dksX12_wrongAt_0 17 rfl rfl)
theorem dX12_wrongAt_20 : decode cX12_wrongAt 20 = .ok (.aload_n 0, 1) := dk_42 (dk_at dksX12_wrongAt_0 20 rfl rfl)
theorem dX12_wrongAt_21 : decode cX12_wrongAt 21 = .ok (.iload 4, 2) := dk_21 4 (dk_at dksX12_wrongAt_0 21 rfl rfl)
theorem dX12_wrongAt_23 : decode cX12_wrongAt 23 = .ok (.bipush 100, 2) := dk_16 100 (dk_at dksX12_wrongAt_1 0 rfl rfl)
theorem dX12_wrongAt_25 : decode cX12_wrongAt 25 = .ok (.idiv, 1) := dk_108 (dk_at dksX12_wrongAt_1 2 rfl rfl)
theorem dX12_wrongAt_26 : decode cX12_wrongAt 26 = .ok (.invokevirtual 127, 3) := dk_182 0 127 (dk_at dksX12_wrongAt_1 3 rfl rfl)
theorem dX12_wrongAt_29 : decode cX12_wrongAt 29 = .ok (.ifCond .eq 23, 3) := dk_153 0 23 (dk_at dksX12_wrongAt_1 6 rfl rfl)
theorem dX12_wrongAt_32 : decode cX12_wrongAt 32 = .ok (.iload 4, 2) := dk_21 4 (dk_at dksX12_wrongAt_1 9 rfl rfl)
theorem dX12_wrongAt_34 : decode cX12_wrongAt 34 = .ok (.bipush 10, 2) := dk_16 10 (dk_at dksX12_wrongAt_1 11 rfl rfl)
theorem dX12_wrongAt_36 : decode cX12_wrongAt 36 = .ok (.idiv, 1) := dk_108 (dk_at dksX12_wrongAt_1 13 rfl rfl)
theorem dX12_wrongAt_37 : decode cX12_wrongAt 37 = .ok (.bipush 10, 2) := dk_16 10 (dk_at dksX12_wrongAt_1 14 rfl rfl)
theorem dX12_wrongAt_39 : decode cX12_wrongAt 39 = .ok (.irem, 1) := dk_112 (dk_at dksX12_wrongAt_1 16 rfl rfl)
theorem dX12_wrongAt_40 : decode cX12_wrongAt 40 = .ok (.iconst 5, 1) := dk_8 (dk_at dksX12_wrongAt_1 17 rfl rfl)
theorem dX12_wrongAt_41 : decode cX12_wrongAt 41 = .ok (.if_icmp .gt 11, 3) := dk_163 0 11 (dk_at dksX12_wrongAt_1 18 rfl rfl)
theorem dX12_wrongAt_44 : decode cX12_wrongAt 44 = .ok (.iload 4, 2) := dk_21 4 (dk_at dksX12_wrongAt_1 21 rfl rfl)
theorem dX12_wrongAt_46 : decode cX12_wrongAt 46 = .ok (.bipush 10, 2) := dk_16 10 (dk_at dksX12_wrongAt_2 0 rfl rfl)
theorem dX12_wrongAt_48 : decode cX12_wrongAt 48 = .ok (.irem, 1) := dk_112 (dk_at dksX12_wrongAt_2 2 rfl rfl)
theorem dX12_wrongAt_49 : decode cX12_wrongAt 49 = .ok (.ifCond .ne 5, 3) := dk_154 0 5 (dk_at dksX12_wrongAt_2 3 rfl rfl)
theorem dX12_wrongAt_52 : decode cX12_wrongAt 52 = .ok (.iload_n 3, 1) := dk_29 (dk_at dksX12_wrongAt_2 6 rfl rfl)
theorem dX12_wrongAt_53 : decode cX12_wrongAt 53 = .ok (.ireturn, 1) := dk_172 (dk_at dksX12_wrongAt_2 7 rfl rfl)
theorem dX12_wrongAt_54 : decode cX12_wrongAt 54 = .ok (.iinc 3 1, 3) := dk_132 3 1 (dk_at dksX12_wrongAt_2 8 rfl rfl)
theorem dX12_wrongAt_57 : decode cX12_wrongAt 57 = .ok (.goto (-55), 3) := dk_167 255 201 (dk_at dksX12_wrongAt_2 11 rfl rfl)
theorem dX12_wrongAt_60 : decode cX12_wrongAt 60 = .ok (.iconst (-1), 1) := dk_2 (dk_at dksX12_wrongAt_2 14 rfl rfl)
theorem dX12_wrongAt_61 : decode cX12_wrongAt 61 = .ok (.ireturn, 1) := dk_172 (dk_at dksX12_wrongAt_2 15 rfl rfl)
abbrev cX12_behind : ByteArray := prog_22_method_79_code
def yX12_behind : MethodName := ⟨RX12, "behind", "(III)I"⟩
def dkwX12_behind_7 : List UInt8 := [4, 160, 0, 8, 21, 5, 167, 0, 5, 21, 6, 54, 7, 42, 42, 180, 0, 53, 182, 0, 184, 21, 7, 172]
abbrev dktX12_behind_7 : List UInt8 := dkwX12_behind_7 ++ []
def dkwX12_behind_6 : List UInt8 := [161, 0, 6, 132, 6, 1, 132, 7, 1, 167, 255, 193, 29, 154, 0, 10, 42, 182, 1, 15, 167, 0, 15, 29]
abbrev dktX12_behind_6 : List UInt8 := dkwX12_behind_6 ++ dktX12_behind_7
def dkwX12_behind_5 : List UInt8 := [16, 10, 112, 182, 1, 27, 54, 9, 21, 5, 21, 9, 96, 54, 5, 5, 21, 9, 104, 42, 180, 0, 82]
abbrev dktX12_behind_5 : List UInt8 := dkwX12_behind_5 ++ dktX12_behind_6
def dkwX12_behind_4 : List UInt8 := [21, 7, 182, 1, 1, 54, 8, 42, 21, 8, 16, 100, 108, 21, 8, 16, 10, 108, 16, 10, 112, 21, 8]
abbrev dktX12_behind_4 : List UInt8 := dkwX12_behind_4 ++ dktX12_behind_5
def dkwX12_behind_3 : List UInt8 := [42, 180, 0, 53, 182, 0, 176, 3, 54, 5, 3, 54, 6, 3, 54, 7, 21, 7, 28, 162, 0, 63, 42, 27]
abbrev dktX12_behind_3 : List UInt8 := dkwX12_behind_3 ++ dktX12_behind_4
def dkwX12_behind_2 : List UInt8 := [182, 1, 21, 2, 159, 0, 7, 16, 250, 54, 4, 21, 4, 156, 0, 10, 42, 21, 4, 182, 0, 78, 172, 42]
abbrev dktX12_behind_2 : List UInt8 := dkwX12_behind_2 ++ dktX12_behind_3
def dkwX12_behind_1 : List UInt8 := [5, 184, 0, 85, 153, 0, 8, 21, 4, 167, 0, 5, 16, 251, 54, 4, 21, 4, 154, 0, 17, 42, 27, 28]
abbrev dktX12_behind_1 : List UInt8 := dkwX12_behind_1 ++ dktX12_behind_2
def dkwX12_behind_0 : List UInt8 := [42, 27, 28, 3, 3, 182, 1, 4, 54, 4, 21, 4, 153, 0, 10, 21, 4, 16, 250, 160, 0, 21, 29, 3]
abbrev dktX12_behind_0 : List UInt8 := dkwX12_behind_0 ++ dktX12_behind_1
theorem dksX12_behind_0 : cX12_behind.data.toList.drop 0 = dktX12_behind_0 := by decide +kernel
theorem dksX12_behind_1 : cX12_behind.data.toList.drop 24 = dktX12_behind_1 := dk_seg dksX12_behind_0 24 rfl rfl
theorem dksX12_behind_2 : cX12_behind.data.toList.drop 48 = dktX12_behind_2 := dk_seg dksX12_behind_1 24 rfl rfl
theorem dksX12_behind_3 : cX12_behind.data.toList.drop 72 = dktX12_behind_3 := dk_seg dksX12_behind_2 24 rfl rfl
theorem dksX12_behind_4 : cX12_behind.data.toList.drop 96 = dktX12_behind_4 := dk_seg dksX12_behind_3 24 rfl rfl
theorem dksX12_behind_5 : cX12_behind.data.toList.drop 119 = dktX12_behind_5 := dk_seg dksX12_behind_4 23 rfl rfl
theorem dksX12_behind_6 : cX12_behind.data.toList.drop 142 = dktX12_behind_6 := dk_seg dksX12_behind_5 23 rfl rfl
theorem dksX12_behind_7 : cX12_behind.data.toList.drop 166 = dktX12_behind_7 := dk_seg dksX12_behind_6 24 rfl rfl
theorem dX12_behind_0 : decode cX12_behind 0 = .ok (.aload_n 0, 1) := dk_42 (dk_at dksX12_behind_0 0 rfl rfl)
theorem dX12_behind_1 : decode cX12_behind 1 = .ok (.iload_n 1, 1) := dk_27 (dk_at dksX12_behind_0 1 rfl rfl)
theorem dX12_behind_2 : decode cX12_behind 2 = .ok (.iload_n 2, 1) := dk_28 (dk_at dksX12_behind_0 2 rfl rfl)
theorem dX12_behind_3 : decode cX12_behind 3 = .ok (.iconst 0, 1) := dk_3 (dk_at dksX12_behind_0 3 rfl rfl)
theorem dX12_behind_4 : decode cX12_behind 4 = .ok (.iconst 0, 1) := dk_3 (dk_at dksX12_behind_0 4 rfl rfl)
theorem dX12_behind_5 : decode cX12_behind 5 = .ok (.invokevirtual 260, 3) := dk_182 1 4 (dk_at dksX12_behind_0 5 rfl rfl)
theorem dX12_behind_8 : decode cX12_behind 8 = .ok (.istore 4, 2) := dk_54 4 (dk_at dksX12_behind_0 8 rfl rfl)
theorem dX12_behind_10 : decode cX12_behind 10 = .ok (.iload 4, 2) := dk_21 4 (dk_at dksX12_behind_0 10 rfl rfl)
theorem dX12_behind_12 : decode cX12_behind 12 = .ok (.ifCond .eq 10, 3) := dk_153 0 10 (dk_at dksX12_behind_0 12 rfl rfl)
theorem dX12_behind_15 : decode cX12_behind 15 = .ok (.iload 4, 2) := dk_21 4 (dk_at dksX12_behind_0 15 rfl rfl)
theorem dX12_behind_17 : decode cX12_behind 17 = .ok (.bipush (-6), 2) := dk_16 250 (dk_at dksX12_behind_0 17 rfl rfl)
theorem dX12_behind_19 : decode cX12_behind 19 = .ok (.if_icmp .ne 21, 3) := dk_160 0 21 (dk_at dksX12_behind_0 19 rfl rfl)
theorem dX12_behind_22 : decode cX12_behind 22 = .ok (.iload_n 3, 1) := dk_29 (dk_at dksX12_behind_0 22 rfl rfl)
theorem dX12_behind_23 : decode cX12_behind 23 = .ok (.iconst 0, 1) := dk_3 (dk_at dksX12_behind_0 23 rfl rfl)
theorem dX12_behind_24 : decode cX12_behind 24 = .ok (.iconst 2, 1) := dk_5 (dk_at dksX12_behind_1 0 rfl rfl)
theorem dX12_behind_25 : decode cX12_behind 25 = .ok (.invokestatic 85, 3) := dk_184 0 85 (dk_at dksX12_behind_1 1 rfl rfl)
theorem dX12_behind_28 : decode cX12_behind 28 = .ok (.ifCond .eq 8, 3) := dk_153 0 8 (dk_at dksX12_behind_1 4 rfl rfl)
theorem dX12_behind_31 : decode cX12_behind 31 = .ok (.iload 4, 2) := dk_21 4 (dk_at dksX12_behind_1 7 rfl rfl)
theorem dX12_behind_33 : decode cX12_behind 33 = .ok (.goto 5, 3) := dk_167 0 5 (dk_at dksX12_behind_1 9 rfl rfl)
theorem dX12_behind_36 : decode cX12_behind 36 = .ok (.bipush (-5), 2) := dk_16 251 (dk_at dksX12_behind_1 12 rfl rfl)
theorem dX12_behind_38 : decode cX12_behind 38 = .ok (.istore 4, 2) := dk_54 4 (dk_at dksX12_behind_1 14 rfl rfl)
theorem dX12_behind_40 : decode cX12_behind 40 = .ok (.iload 4, 2) := dk_21 4 (dk_at dksX12_behind_1 16 rfl rfl)
theorem dX12_behind_42 : decode cX12_behind 42 = .ok (.ifCond .ne 17, 3) := dk_154 0 17 (dk_at dksX12_behind_1 18 rfl rfl)
theorem dX12_behind_45 : decode cX12_behind 45 = .ok (.aload_n 0, 1) := dk_42 (dk_at dksX12_behind_1 21 rfl rfl)
theorem dX12_behind_46 : decode cX12_behind 46 = .ok (.iload_n 1, 1) := dk_27 (dk_at dksX12_behind_1 22 rfl rfl)
theorem dX12_behind_47 : decode cX12_behind 47 = .ok (.iload_n 2, 1) := dk_28 (dk_at dksX12_behind_1 23 rfl rfl)
theorem dX12_behind_48 : decode cX12_behind 48 = .ok (.invokevirtual 277, 3) := dk_182 1 21 (dk_at dksX12_behind_2 0 rfl rfl)
theorem dX12_behind_51 : decode cX12_behind 51 = .ok (.iconst (-1), 1) := dk_2 (dk_at dksX12_behind_2 3 rfl rfl)
theorem dX12_behind_52 : decode cX12_behind 52 = .ok (.if_icmp .eq 7, 3) := dk_159 0 7 (dk_at dksX12_behind_2 4 rfl rfl)
theorem dX12_behind_55 : decode cX12_behind 55 = .ok (.bipush (-6), 2) := dk_16 250 (dk_at dksX12_behind_2 7 rfl rfl)
theorem dX12_behind_57 : decode cX12_behind 57 = .ok (.istore 4, 2) := dk_54 4 (dk_at dksX12_behind_2 9 rfl rfl)
theorem dX12_behind_59 : decode cX12_behind 59 = .ok (.iload 4, 2) := dk_21 4 (dk_at dksX12_behind_2 11 rfl rfl)
theorem dX12_behind_61 : decode cX12_behind 61 = .ok (.ifCond .ge 10, 3) := dk_156 0 10 (dk_at dksX12_behind_2 13 rfl rfl)
theorem dX12_behind_64 : decode cX12_behind 64 = .ok (.aload_n 0, 1) := dk_42 (dk_at dksX12_behind_2 16 rfl rfl)
theorem dX12_behind_65 : decode cX12_behind 65 = .ok (.iload 4, 2) := dk_21 4 (dk_at dksX12_behind_2 17 rfl rfl)
theorem dX12_behind_67 : decode cX12_behind 67 = .ok (.invokevirtual 78, 3) := dk_182 0 78 (dk_at dksX12_behind_2 19 rfl rfl)
theorem dX12_behind_70 : decode cX12_behind 70 = .ok (.ireturn, 1) := dk_172 (dk_at dksX12_behind_2 22 rfl rfl)
theorem dX12_behind_71 : decode cX12_behind 71 = .ok (.aload_n 0, 1) := dk_42 (dk_at dksX12_behind_2 23 rfl rfl)
theorem dX12_behind_72 : decode cX12_behind 72 = .ok (.aload_n 0, 1) := dk_42 (dk_at dksX12_behind_3 0 rfl rfl)
theorem dX12_behind_73 : decode cX12_behind 73 = .ok (.getfield 53, 3) := dk_180 0 53 (dk_at dksX12_behind_3 1 rfl rfl)
theorem dX12_behind_76 : decode cX12_behind 76 = .ok (.invokevirtual 176, 3) := dk_182 0 176 (dk_at dksX12_behind_3 4 rfl rfl)
theorem dX12_behind_79 : decode cX12_behind 79 = .ok (.iconst 0, 1) := dk_3 (dk_at dksX12_behind_3 7 rfl rfl)
theorem dX12_behind_80 : decode cX12_behind 80 = .ok (.istore 5, 2) := dk_54 5 (dk_at dksX12_behind_3 8 rfl rfl)
theorem dX12_behind_82 : decode cX12_behind 82 = .ok (.iconst 0, 1) := dk_3 (dk_at dksX12_behind_3 10 rfl rfl)
theorem dX12_behind_83 : decode cX12_behind 83 = .ok (.istore 6, 2) := dk_54 6 (dk_at dksX12_behind_3 11 rfl rfl)
theorem dX12_behind_85 : decode cX12_behind 85 = .ok (.iconst 0, 1) := dk_3 (dk_at dksX12_behind_3 13 rfl rfl)
theorem dX12_behind_86 : decode cX12_behind 86 = .ok (.istore 7, 2) := dk_54 7 (dk_at dksX12_behind_3 14 rfl rfl)
theorem dX12_behind_88 : decode cX12_behind 88 = .ok (.iload 7, 2) := dk_21 7 (dk_at dksX12_behind_3 16 rfl rfl)
theorem dX12_behind_90 : decode cX12_behind 90 = .ok (.iload_n 2, 1) := dk_28 (dk_at dksX12_behind_3 18 rfl rfl)
theorem dX12_behind_91 : decode cX12_behind 91 = .ok (.if_icmp .ge 63, 3) := dk_162 0 63 (dk_at dksX12_behind_3 19 rfl rfl)
theorem dX12_behind_94 : decode cX12_behind 94 = .ok (.aload_n 0, 1) := dk_42 (dk_at dksX12_behind_3 22 rfl rfl)
theorem dX12_behind_95 : decode cX12_behind 95 = .ok (.iload_n 1, 1) := dk_27 (dk_at dksX12_behind_3 23 rfl rfl)
theorem dX12_behind_96 : decode cX12_behind 96 = .ok (.iload 7, 2) := dk_21 7 (dk_at dksX12_behind_4 0 rfl rfl)
theorem dX12_behind_98 : decode cX12_behind 98 = .ok (.invokevirtual 257, 3) := dk_182 1 1 (dk_at dksX12_behind_4 2 rfl rfl)
theorem dX12_behind_101 : decode cX12_behind 101 = .ok (.istore 8, 2) := dk_54 8 (dk_at dksX12_behind_4 5 rfl rfl)
theorem dX12_behind_103 : decode cX12_behind 103 = .ok (.aload_n 0, 1) := dk_42 (dk_at dksX12_behind_4 7 rfl rfl)
theorem dX12_behind_104 : decode cX12_behind 104 = .ok (.iload 8, 2) := dk_21 8 (dk_at dksX12_behind_4 8 rfl rfl)
theorem dX12_behind_106 : decode cX12_behind 106 = .ok (.bipush 100, 2) := dk_16 100 (dk_at dksX12_behind_4 10 rfl rfl)
theorem dX12_behind_108 : decode cX12_behind 108 = .ok (.idiv, 1) := dk_108 (dk_at dksX12_behind_4 12 rfl rfl)
theorem dX12_behind_109 : decode cX12_behind 109 = .ok (.iload 8, 2) := dk_21 8 (dk_at dksX12_behind_4 13 rfl rfl)
theorem dX12_behind_111 : decode cX12_behind 111 = .ok (.bipush 10, 2) := dk_16 10 (dk_at dksX12_behind_4 15 rfl rfl)
theorem dX12_behind_113 : decode cX12_behind 113 = .ok (.idiv, 1) := dk_108 (dk_at dksX12_behind_4 17 rfl rfl)
theorem dX12_behind_114 : decode cX12_behind 114 = .ok (.bipush 10, 2) := dk_16 10 (dk_at dksX12_behind_4 18 rfl rfl)
theorem dX12_behind_116 : decode cX12_behind 116 = .ok (.irem, 1) := dk_112 (dk_at dksX12_behind_4 20 rfl rfl)
theorem dX12_behind_117 : decode cX12_behind 117 = .ok (.iload 8, 2) := dk_21 8 (dk_at dksX12_behind_4 21 rfl rfl)
theorem dX12_behind_119 : decode cX12_behind 119 = .ok (.bipush 10, 2) := dk_16 10 (dk_at dksX12_behind_5 0 rfl rfl)
theorem dX12_behind_121 : decode cX12_behind 121 = .ok (.irem, 1) := dk_112 (dk_at dksX12_behind_5 2 rfl rfl)
theorem dX12_behind_122 : decode cX12_behind 122 = .ok (.invokevirtual 283, 3) := dk_182 1 27 (dk_at dksX12_behind_5 3 rfl rfl)
theorem dX12_behind_125 : decode cX12_behind 125 = .ok (.istore 9, 2) := dk_54 9 (dk_at dksX12_behind_5 6 rfl rfl)
theorem dX12_behind_127 : decode cX12_behind 127 = .ok (.iload 5, 2) := dk_21 5 (dk_at dksX12_behind_5 8 rfl rfl)
theorem dX12_behind_129 : decode cX12_behind 129 = .ok (.iload 9, 2) := dk_21 9 (dk_at dksX12_behind_5 10 rfl rfl)
theorem dX12_behind_131 : decode cX12_behind 131 = .ok (.iadd, 1) := dk_96 (dk_at dksX12_behind_5 12 rfl rfl)
theorem dX12_behind_132 : decode cX12_behind 132 = .ok (.istore 5, 2) := dk_54 5 (dk_at dksX12_behind_5 13 rfl rfl)
theorem dX12_behind_134 : decode cX12_behind 134 = .ok (.iconst 2, 1) := dk_5 (dk_at dksX12_behind_5 15 rfl rfl)
theorem dX12_behind_135 : decode cX12_behind 135 = .ok (.iload 9, 2) := dk_21 9 (dk_at dksX12_behind_5 16 rfl rfl)
theorem dX12_behind_137 : decode cX12_behind 137 = .ok (.imul, 1) := dk_104 (dk_at dksX12_behind_5 18 rfl rfl)
theorem dX12_behind_138 : decode cX12_behind 138 = .ok (.aload_n 0, 1) := dk_42 (dk_at dksX12_behind_5 19 rfl rfl)
theorem dX12_behind_139 : decode cX12_behind 139 = .ok (.getfield 82, 3) := dk_180 0 82 (dk_at dksX12_behind_5 20 rfl rfl)
theorem dX12_behind_142 : decode cX12_behind 142 = .ok (.if_icmp .lt 6, 3) := dk_161 0 6 (dk_at dksX12_behind_6 0 rfl rfl)
theorem dX12_behind_145 : decode cX12_behind 145 = .ok (.iinc 6 1, 3) := dk_132 6 1 (dk_at dksX12_behind_6 3 rfl rfl)
theorem dX12_behind_148 : decode cX12_behind 148 = .ok (.iinc 7 1, 3) := dk_132 7 1 (dk_at dksX12_behind_6 6 rfl rfl)
theorem dX12_behind_151 : decode cX12_behind 151 = .ok (.goto (-63), 3) := dk_167 255 193 (dk_at dksX12_behind_6 9 rfl rfl)
theorem dX12_behind_154 : decode cX12_behind 154 = .ok (.iload_n 3, 1) := dk_29 (dk_at dksX12_behind_6 12 rfl rfl)
theorem dX12_behind_155 : decode cX12_behind 155 = .ok (.ifCond .ne 10, 3) := dk_154 0 10 (dk_at dksX12_behind_6 13 rfl rfl)
theorem dX12_behind_158 : decode cX12_behind 158 = .ok (.aload_n 0, 1) := dk_42 (dk_at dksX12_behind_6 16 rfl rfl)
theorem dX12_behind_159 : decode cX12_behind 159 = .ok (.invokevirtual 271, 3) := dk_182 1 15 (dk_at dksX12_behind_6 17 rfl rfl)
theorem dX12_behind_162 : decode cX12_behind 162 = .ok (.goto 15, 3) := dk_167 0 15 (dk_at dksX12_behind_6 20 rfl rfl)
theorem dX12_behind_165 : decode cX12_behind 165 = .ok (.iload_n 3, 1) := dk_29 (dk_at dksX12_behind_6 23 rfl rfl)
theorem dX12_behind_166 : decode cX12_behind 166 = .ok (.iconst 1, 1) := dk_4 (dk_at dksX12_behind_7 0 rfl rfl)
theorem dX12_behind_167 : decode cX12_behind 167 = .ok (.if_icmp .ne 8, 3) := dk_160 0 8 (dk_at dksX12_behind_7 1 rfl rfl)
theorem dX12_behind_170 : decode cX12_behind 170 = .ok (.iload 5, 2) := dk_21 5 (dk_at dksX12_behind_7 4 rfl rfl)
theorem dX12_behind_172 : decode cX12_behind 172 = .ok (.goto 5, 3) := dk_167 0 5 (dk_at dksX12_behind_7 6 rfl rfl)
theorem dX12_behind_175 : decode cX12_behind 175 = .ok (.iload 6, 2) := dk_21 6 (dk_at dksX12_behind_7 9 rfl rfl)
theorem dX12_behind_177 : decode cX12_behind 177 = .ok (.istore 7, 2) := dk_54 7 (dk_at dksX12_behind_7 11 rfl rfl)
theorem dX12_behind_179 : decode cX12_behind 179 = .ok (.aload_n 0, 1) := dk_42 (dk_at dksX12_behind_7 13 rfl rfl)
theorem dX12_behind_180 : decode cX12_behind 180 = .ok (.aload_n 0, 1) := dk_42 (dk_at dksX12_behind_7 14 rfl rfl)
theorem dX12_behind_181 : decode cX12_behind 181 = .ok (.getfield 53, 3) := dk_180 0 53 (dk_at dksX12_behind_7 15 rfl rfl)
theorem dX12_behind_184 : decode cX12_behind 184 = .ok (.invokevirtual 184, 3) := dk_182 0 184 (dk_at dksX12_behind_7 18 rfl rfl)
theorem dX12_behind_187 : decode cX12_behind 187 = .ok (.iload 7, 2) := dk_21 7 (dk_at dksX12_behind_7 21 rfl rfl)
theorem dX12_behind_189 : decode cX12_behind 189 = .ok (.ireturn, 1) := dk_172 (dk_at dksX12_behind_7 23 rfl rfl)
abbrev cX12_isSung : ByteArray := prog_22_method_78_code
def yX12_isSung : MethodName := ⟨RX12, "isSung", "(III)I"⟩
def dkwX12_isSung_2 : List UInt8 := [132, 5, 1, 167, 255, 221, 42, 89, 180, 1, 24, 4, 96, 181, 1, 24, 21, 4, 184, 0, 112, 172]
abbrev dktX12_isSung_2 : List UInt8 := dkwX12_isSung_2 ++ []
def dkwX12_isSung_1 : List UInt8 := [21, 4, 21, 5, 184, 0, 187, 153, 0, 16, 42, 180, 0, 35, 21, 5, 92, 46, 4, 27, 120, 128, 79]
abbrev dktX12_isSung_1 : List UInt8 := dkwX12_isSung_1 ++ dktX12_isSung_2
def dkwX12_isSung_0 : List UInt8 := [42, 27, 28, 29, 4, 100, 182, 0, 236, 54, 4, 3, 54, 5, 21, 5, 42, 180, 0, 82, 162, 0, 32]
abbrev dktX12_isSung_0 : List UInt8 := dkwX12_isSung_0 ++ dktX12_isSung_1
theorem dksX12_isSung_0 : cX12_isSung.data.toList.drop 0 = dktX12_isSung_0 := by decide +kernel
theorem dksX12_isSung_1 : cX12_isSung.data.toList.drop 23 = dktX12_isSung_1 := dk_seg dksX12_isSung_0 23 rfl rfl
theorem dksX12_isSung_2 : cX12_isSung.data.toList.drop 46 = dktX12_isSung_2 := dk_seg dksX12_isSung_1 23 rfl rfl
theorem dX12_isSung_0 : decode cX12_isSung 0 = .ok (.aload_n 0, 1) := dk_42 (dk_at dksX12_isSung_0 0 rfl rfl)
theorem dX12_isSung_1 : decode cX12_isSung 1 = .ok (.iload_n 1, 1) := dk_27 (dk_at dksX12_isSung_0 1 rfl rfl)
theorem dX12_isSung_2 : decode cX12_isSung 2 = .ok (.iload_n 2, 1) := dk_28 (dk_at dksX12_isSung_0 2 rfl rfl)
theorem dX12_isSung_3 : decode cX12_isSung 3 = .ok (.iload_n 3, 1) := dk_29 (dk_at dksX12_isSung_0 3 rfl rfl)
theorem dX12_isSung_4 : decode cX12_isSung 4 = .ok (.iconst 1, 1) := dk_4 (dk_at dksX12_isSung_0 4 rfl rfl)
theorem dX12_isSung_5 : decode cX12_isSung 5 = .ok (.isub, 1) := dk_100 (dk_at dksX12_isSung_0 5 rfl rfl)
theorem dX12_isSung_6 : decode cX12_isSung 6 = .ok (.invokevirtual 236, 3) := dk_182 0 236 (dk_at dksX12_isSung_0 6 rfl rfl)
theorem dX12_isSung_9 : decode cX12_isSung 9 = .ok (.istore 4, 2) := dk_54 4 (dk_at dksX12_isSung_0 9 rfl rfl)
theorem dX12_isSung_11 : decode cX12_isSung 11 = .ok (.iconst 0, 1) := dk_3 (dk_at dksX12_isSung_0 11 rfl rfl)
theorem dX12_isSung_12 : decode cX12_isSung 12 = .ok (.istore 5, 2) := dk_54 5 (dk_at dksX12_isSung_0 12 rfl rfl)
theorem dX12_isSung_14 : decode cX12_isSung 14 = .ok (.iload 5, 2) := dk_21 5 (dk_at dksX12_isSung_0 14 rfl rfl)
theorem dX12_isSung_16 : decode cX12_isSung 16 = .ok (.aload_n 0, 1) := dk_42 (dk_at dksX12_isSung_0 16 rfl rfl)
theorem dX12_isSung_17 : decode cX12_isSung 17 = .ok (.getfield 82, 3) := dk_180 0 82 (dk_at dksX12_isSung_0 17 rfl rfl)
theorem dX12_isSung_20 : decode cX12_isSung 20 = .ok (.if_icmp .ge 32, 3) := dk_162 0 32 (dk_at dksX12_isSung_0 20 rfl rfl)
theorem dX12_isSung_23 : decode cX12_isSung 23 = .ok (.iload 4, 2) := dk_21 4 (dk_at dksX12_isSung_1 0 rfl rfl)
theorem dX12_isSung_25 : decode cX12_isSung 25 = .ok (.iload 5, 2) := dk_21 5 (dk_at dksX12_isSung_1 2 rfl rfl)
theorem dX12_isSung_27 : decode cX12_isSung 27 = .ok (.invokestatic 187, 3) := dk_184 0 187 (dk_at dksX12_isSung_1 4 rfl rfl)
theorem dX12_isSung_30 : decode cX12_isSung 30 = .ok (.ifCond .eq 16, 3) := dk_153 0 16 (dk_at dksX12_isSung_1 7 rfl rfl)
theorem dX12_isSung_33 : decode cX12_isSung 33 = .ok (.aload_n 0, 1) := dk_42 (dk_at dksX12_isSung_1 10 rfl rfl)
theorem dX12_isSung_34 : decode cX12_isSung 34 = .ok (.getfield 35, 3) := dk_180 0 35 (dk_at dksX12_isSung_1 11 rfl rfl)
theorem dX12_isSung_37 : decode cX12_isSung 37 = .ok (.iload 5, 2) := dk_21 5 (dk_at dksX12_isSung_1 14 rfl rfl)
theorem dX12_isSung_39 : decode cX12_isSung 39 = .ok (.dup2, 1) := dk_92 (dk_at dksX12_isSung_1 16 rfl rfl)
theorem dX12_isSung_40 : decode cX12_isSung 40 = .ok (.iaload, 1) := dk_46 (dk_at dksX12_isSung_1 17 rfl rfl)
theorem dX12_isSung_41 : decode cX12_isSung 41 = .ok (.iconst 1, 1) := dk_4 (dk_at dksX12_isSung_1 18 rfl rfl)
theorem dX12_isSung_42 : decode cX12_isSung 42 = .ok (.iload_n 1, 1) := dk_27 (dk_at dksX12_isSung_1 19 rfl rfl)
theorem dX12_isSung_43 : decode cX12_isSung 43 = .ok (.ishl, 1) := dk_120 (dk_at dksX12_isSung_1 20 rfl rfl)
theorem dX12_isSung_44 : decode cX12_isSung 44 = .ok (.ior, 1) := dk_128 (dk_at dksX12_isSung_1 21 rfl rfl)
theorem dX12_isSung_45 : decode cX12_isSung 45 = .ok (.iastore, 1) := dk_79 (dk_at dksX12_isSung_1 22 rfl rfl)
theorem dX12_isSung_46 : decode cX12_isSung 46 = .ok (.iinc 5 1, 3) := dk_132 5 1 (dk_at dksX12_isSung_2 0 rfl rfl)
theorem dX12_isSung_49 : decode cX12_isSung 49 = .ok (.goto (-35), 3) := dk_167 255 221 (dk_at dksX12_isSung_2 3 rfl rfl)
theorem dX12_isSung_52 : decode cX12_isSung 52 = .ok (.aload_n 0, 1) := dk_42 (dk_at dksX12_isSung_2 6 rfl rfl)
theorem dX12_isSung_53 : decode cX12_isSung 53 = .ok (.dup, 1) := dk_89 (dk_at dksX12_isSung_2 7 rfl rfl)
theorem dX12_isSung_54 : decode cX12_isSung 54 = .ok (.getfield 280, 3) := dk_180 1 24 (dk_at dksX12_isSung_2 8 rfl rfl)
theorem dX12_isSung_57 : decode cX12_isSung 57 = .ok (.iconst 1, 1) := dk_4 (dk_at dksX12_isSung_2 11 rfl rfl)
theorem dX12_isSung_58 : decode cX12_isSung 58 = .ok (.iadd, 1) := dk_96 (dk_at dksX12_isSung_2 12 rfl rfl)
theorem dX12_isSung_59 : decode cX12_isSung 59 = .ok (.putfield 280, 3) := dk_181 1 24 (dk_at dksX12_isSung_2 13 rfl rfl)
theorem dX12_isSung_62 : decode cX12_isSung 62 = .ok (.iload 4, 2) := dk_21 4 (dk_at dksX12_isSung_2 16 rfl rfl)
theorem dX12_isSung_64 : decode cX12_isSung 64 = .ok (.invokestatic 112, 3) := dk_184 0 112 (dk_at dksX12_isSung_2 18 rfl rfl)
theorem dX12_isSung_67 : decode cX12_isSung 67 = .ok (.ireturn, 1) := dk_172 (dk_at dksX12_isSung_2 21 rfl rfl)
abbrev cX12_done : ByteArray := prog_22_method_80_code
def yX12_done : MethodName := ⟨RX12, "done", "(II)I"⟩
def dkwX12_done_3 : List UInt8 := [21, 4, 182, 1, 1, 16, 10, 112, 182, 1, 27, 87, 132, 4, 1, 167, 255, 209, 42, 180, 1, 24, 172]
abbrev dktX12_done_3 : List UInt8 := dkwX12_done_3 ++ []
def dkwX12_done_2 : List UInt8 := [27, 21, 4, 182, 1, 1, 16, 100, 108, 42, 27, 21, 4, 182, 1, 1, 16, 10, 108, 16, 10, 112, 42, 27]
abbrev dktX12_done_2 : List UInt8 := dkwX12_done_2 ++ dktX12_done_3
def dkwX12_done_1 : List UInt8 := [16, 250, 62, 29, 156, 0, 9, 42, 29, 182, 0, 78, 172, 3, 54, 4, 21, 4, 28, 162, 0, 47, 42, 42]
abbrev dktX12_done_1 : List UInt8 := dkwX12_done_1 ++ dktX12_done_2
def dkwX12_done_0 : List UInt8 := [42, 27, 28, 3, 3, 182, 1, 4, 62, 29, 154, 0, 16, 42, 27, 28, 182, 1, 21, 2, 159, 0, 6]
abbrev dktX12_done_0 : List UInt8 := dkwX12_done_0 ++ dktX12_done_1
theorem dksX12_done_0 : cX12_done.data.toList.drop 0 = dktX12_done_0 := by decide +kernel
theorem dksX12_done_1 : cX12_done.data.toList.drop 23 = dktX12_done_1 := dk_seg dksX12_done_0 23 rfl rfl
theorem dksX12_done_2 : cX12_done.data.toList.drop 47 = dktX12_done_2 := dk_seg dksX12_done_1 24 rfl rfl
theorem dksX12_done_3 : cX12_done.data.toList.drop 71 = dktX12_done_3 := dk_seg dksX12_done_2 24 rfl rfl
theorem dX12_done_0 : decode cX12_done 0 = .ok (.aload_n 0, 1) := dk_42 (dk_at dksX12_done_0 0 rfl rfl)
theorem dX12_done_1 : decode cX12_done 1 = .ok (.iload_n 1, 1) := dk_27 (dk_at dksX12_done_0 1 rfl rfl)
theorem dX12_done_2 : decode cX12_done 2 = .ok (.iload_n 2, 1) := dk_28 (dk_at dksX12_done_0 2 rfl rfl)
theorem dX12_done_3 : decode cX12_done 3 = .ok (.iconst 0, 1) := dk_3 (dk_at dksX12_done_0 3 rfl rfl)
theorem dX12_done_4 : decode cX12_done 4 = .ok (.iconst 0, 1) := dk_3 (dk_at dksX12_done_0 4 rfl rfl)
theorem dX12_done_5 : decode cX12_done 5 = .ok (.invokevirtual 260, 3) := dk_182 1 4 (dk_at dksX12_done_0 5 rfl rfl)
theorem dX12_done_8 : decode cX12_done 8 = .ok (.istore_n 3, 1) := dk_62 (dk_at dksX12_done_0 8 rfl rfl)
theorem dX12_done_9 : decode cX12_done 9 = .ok (.iload_n 3, 1) := dk_29 (dk_at dksX12_done_0 9 rfl rfl)
theorem dX12_done_10 : decode cX12_done 10 = .ok (.ifCond .ne 16, 3) := dk_154 0 16 (dk_at dksX12_done_0 10 rfl rfl)
theorem dX12_done_13 : decode cX12_done 13 = .ok (.aload_n 0, 1) := dk_42 (dk_at dksX12_done_0 13 rfl rfl)
theorem dX12_done_14 : decode cX12_done 14 = .ok (.iload_n 1, 1) := dk_27 (dk_at dksX12_done_0 14 rfl rfl)
theorem dX12_done_15 : decode cX12_done 15 = .ok (.iload_n 2, 1) := dk_28 (dk_at dksX12_done_0 15 rfl rfl)
theorem dX12_done_16 : decode cX12_done 16 = .ok (.invokevirtual 277, 3) := dk_182 1 21 (dk_at dksX12_done_0 16 rfl rfl)
theorem dX12_done_19 : decode cX12_done 19 = .ok (.iconst (-1), 1) := dk_2 (dk_at dksX12_done_0 19 rfl rfl)
theorem dX12_done_20 : decode cX12_done 20 = .ok (.if_icmp .eq 6, 3) := dk_159 0 6 (dk_at dksX12_done_0 20 rfl rfl)
theorem dX12_done_23 : decode cX12_done 23 = .ok (.bipush (-6), 2) := dk_16 250 (dk_at dksX12_done_1 0 rfl rfl)
theorem dX12_done_25 : decode cX12_done 25 = .ok (.istore_n 3, 1) := dk_62 (dk_at dksX12_done_1 2 rfl rfl)
theorem dX12_done_26 : decode cX12_done 26 = .ok (.iload_n 3, 1) := dk_29 (dk_at dksX12_done_1 3 rfl rfl)
theorem dX12_done_27 : decode cX12_done 27 = .ok (.ifCond .ge 9, 3) := dk_156 0 9 (dk_at dksX12_done_1 4 rfl rfl)
theorem dX12_done_30 : decode cX12_done 30 = .ok (.aload_n 0, 1) := dk_42 (dk_at dksX12_done_1 7 rfl rfl)
theorem dX12_done_31 : decode cX12_done 31 = .ok (.iload_n 3, 1) := dk_29 (dk_at dksX12_done_1 8 rfl rfl)
theorem dX12_done_32 : decode cX12_done 32 = .ok (.invokevirtual 78, 3) := dk_182 0 78 (dk_at dksX12_done_1 9 rfl rfl)
theorem dX12_done_35 : decode cX12_done 35 = .ok (.ireturn, 1) := dk_172 (dk_at dksX12_done_1 12 rfl rfl)
theorem dX12_done_36 : decode cX12_done 36 = .ok (.iconst 0, 1) := dk_3 (dk_at dksX12_done_1 13 rfl rfl)
theorem dX12_done_37 : decode cX12_done 37 = .ok (.istore 4, 2) := dk_54 4 (dk_at dksX12_done_1 14 rfl rfl)
theorem dX12_done_39 : decode cX12_done 39 = .ok (.iload 4, 2) := dk_21 4 (dk_at dksX12_done_1 16 rfl rfl)
theorem dX12_done_41 : decode cX12_done 41 = .ok (.iload_n 2, 1) := dk_28 (dk_at dksX12_done_1 18 rfl rfl)
theorem dX12_done_42 : decode cX12_done 42 = .ok (.if_icmp .ge 47, 3) := dk_162 0 47 (dk_at dksX12_done_1 19 rfl rfl)
theorem dX12_done_45 : decode cX12_done 45 = .ok (.aload_n 0, 1) := dk_42 (dk_at dksX12_done_1 22 rfl rfl)
theorem dX12_done_46 : decode cX12_done 46 = .ok (.aload_n 0, 1) := dk_42 (dk_at dksX12_done_1 23 rfl rfl)
theorem dX12_done_47 : decode cX12_done 47 = .ok (.iload_n 1, 1) := dk_27 (dk_at dksX12_done_2 0 rfl rfl)
theorem dX12_done_48 : decode cX12_done 48 = .ok (.iload 4, 2) := dk_21 4 (dk_at dksX12_done_2 1 rfl rfl)
theorem dX12_done_50 : decode cX12_done 50 = .ok (.invokevirtual 257, 3) := dk_182 1 1 (dk_at dksX12_done_2 3 rfl rfl)
theorem dX12_done_53 : decode cX12_done 53 = .ok (.bipush 100, 2) := dk_16 100 (dk_at dksX12_done_2 6 rfl rfl)
theorem dX12_done_55 : decode cX12_done 55 = .ok (.idiv, 1) := dk_108 (dk_at dksX12_done_2 8 rfl rfl)
theorem dX12_done_56 : decode cX12_done 56 = .ok (.aload_n 0, 1) := dk_42 (dk_at dksX12_done_2 9 rfl rfl)
theorem dX12_done_57 : decode cX12_done 57 = .ok (.iload_n 1, 1) := dk_27 (dk_at dksX12_done_2 10 rfl rfl)
theorem dX12_done_58 : decode cX12_done 58 = .ok (.iload 4, 2) := dk_21 4 (dk_at dksX12_done_2 11 rfl rfl)
theorem dX12_done_60 : decode cX12_done 60 = .ok (.invokevirtual 257, 3) := dk_182 1 1 (dk_at dksX12_done_2 13 rfl rfl)
theorem dX12_done_63 : decode cX12_done 63 = .ok (.bipush 10, 2) := dk_16 10 (dk_at dksX12_done_2 16 rfl rfl)
theorem dX12_done_65 : decode cX12_done 65 = .ok (.idiv, 1) := dk_108 (dk_at dksX12_done_2 18 rfl rfl)
theorem dX12_done_66 : decode cX12_done 66 = .ok (.bipush 10, 2) := dk_16 10 (dk_at dksX12_done_2 19 rfl rfl)
theorem dX12_done_68 : decode cX12_done 68 = .ok (.irem, 1) := dk_112 (dk_at dksX12_done_2 21 rfl rfl)
theorem dX12_done_69 : decode cX12_done 69 = .ok (.aload_n 0, 1) := dk_42 (dk_at dksX12_done_2 22 rfl rfl)
theorem dX12_done_70 : decode cX12_done 70 = .ok (.iload_n 1, 1) := dk_27 (dk_at dksX12_done_2 23 rfl rfl)
theorem dX12_done_71 : decode cX12_done 71 = .ok (.iload 4, 2) := dk_21 4 (dk_at dksX12_done_3 0 rfl rfl)
theorem dX12_done_73 : decode cX12_done 73 = .ok (.invokevirtual 257, 3) := dk_182 1 1 (dk_at dksX12_done_3 2 rfl rfl)
theorem dX12_done_76 : decode cX12_done 76 = .ok (.bipush 10, 2) := dk_16 10 (dk_at dksX12_done_3 5 rfl rfl)
theorem dX12_done_78 : decode cX12_done 78 = .ok (.irem, 1) := dk_112 (dk_at dksX12_done_3 7 rfl rfl)
theorem dX12_done_79 : decode cX12_done 79 = .ok (.invokevirtual 283, 3) := dk_182 1 27 (dk_at dksX12_done_3 8 rfl rfl)
theorem dX12_done_82 : decode cX12_done 82 = .ok (.pop, 1) := dk_87 (dk_at dksX12_done_3 11 rfl rfl)
theorem dX12_done_83 : decode cX12_done 83 = .ok (.iinc 4 1, 3) := dk_132 4 1 (dk_at dksX12_done_3 12 rfl rfl)
theorem dX12_done_86 : decode cX12_done 86 = .ok (.goto (-47), 3) := dk_167 255 209 (dk_at dksX12_done_3 15 rfl rfl)
theorem dX12_done_89 : decode cX12_done 89 = .ok (.aload_n 0, 1) := dk_42 (dk_at dksX12_done_3 18 rfl rfl)
theorem dX12_done_90 : decode cX12_done 90 = .ok (.getfield 280, 3) := dk_180 1 24 (dk_at dksX12_done_3 19 rfl rfl)
theorem dX12_done_93 : decode cX12_done 93 = .ok (.ireturn, 1) := dk_172 (dk_at dksX12_done_3 22 rfl rfl)
abbrev cX12_hymn : ByteArray := prog_22_method_81_code
def yX12_hymn : MethodName := ⟨RX12, "hymn", "(III)I"⟩
def dkwX12_hymn_2 : List UInt8 := [172]
abbrev dktX12_hymn_2 : List UInt8 := dkwX12_hymn_2 ++ []
def dkwX12_hymn_1 : List UInt8 := [16, 9, 184, 0, 85, 153, 0, 13, 42, 27, 28, 29, 182, 1, 27, 167, 0, 9, 42, 16, 250, 182, 0, 78]
abbrev dktX12_hymn_1 : List UInt8 := dkwX12_hymn_1 ++ dktX12_hymn_2
def dkwX12_hymn_0 : List UInt8 := [42, 27, 182, 0, 127, 154, 0, 9, 42, 2, 182, 0, 78, 172, 28, 184, 0, 215, 153, 0, 23, 29, 4]
abbrev dktX12_hymn_0 : List UInt8 := dkwX12_hymn_0 ++ dktX12_hymn_1
theorem dksX12_hymn_0 : cX12_hymn.data.toList.drop 0 = dktX12_hymn_0 := by decide +kernel
theorem dksX12_hymn_1 : cX12_hymn.data.toList.drop 23 = dktX12_hymn_1 := dk_seg dksX12_hymn_0 23 rfl rfl
theorem dksX12_hymn_2 : cX12_hymn.data.toList.drop 47 = dktX12_hymn_2 := dk_seg dksX12_hymn_1 24 rfl rfl
theorem dX12_hymn_0 : decode cX12_hymn 0 = .ok (.aload_n 0, 1) := dk_42 (dk_at dksX12_hymn_0 0 rfl rfl)
theorem dX12_hymn_1 : decode cX12_hymn 1 = .ok (.iload_n 1, 1) := dk_27 (dk_at dksX12_hymn_0 1 rfl rfl)
theorem dX12_hymn_2 : decode cX12_hymn 2 = .ok (.invokevirtual 127, 3) := dk_182 0 127 (dk_at dksX12_hymn_0 2 rfl rfl)
theorem dX12_hymn_5 : decode cX12_hymn 5 = .ok (.ifCond .ne 9, 3) := dk_154 0 9 (dk_at dksX12_hymn_0 5 rfl rfl)
theorem dX12_hymn_8 : decode cX12_hymn 8 = .ok (.aload_n 0, 1) := dk_42 (dk_at dksX12_hymn_0 8 rfl rfl)
theorem dX12_hymn_9 : decode cX12_hymn 9 = .ok (.iconst (-1), 1) := dk_2 (dk_at dksX12_hymn_0 9 rfl rfl)
theorem dX12_hymn_10 : decode cX12_hymn 10 = .ok (.invokevirtual 78, 3) := dk_182 0 78 (dk_at dksX12_hymn_0 10 rfl rfl)
theorem dX12_hymn_13 : decode cX12_hymn 13 = .ok (.ireturn, 1) := dk_172 (dk_at dksX12_hymn_0 13 rfl rfl)
theorem dX12_hymn_14 : decode cX12_hymn 14 = .ok (.iload_n 2, 1) := dk_28 (dk_at dksX12_hymn_0 14 rfl rfl)
theorem dX12_hymn_15 : decode cX12_hymn 15 = .ok (.invokestatic 215, 3) := dk_184 0 215 (dk_at dksX12_hymn_0 15 rfl rfl)
theorem dX12_hymn_18 : decode cX12_hymn 18 = .ok (.ifCond .eq 23, 3) := dk_153 0 23 (dk_at dksX12_hymn_0 18 rfl rfl)
theorem dX12_hymn_21 : decode cX12_hymn 21 = .ok (.iload_n 3, 1) := dk_29 (dk_at dksX12_hymn_0 21 rfl rfl)
theorem dX12_hymn_22 : decode cX12_hymn 22 = .ok (.iconst 1, 1) := dk_4 (dk_at dksX12_hymn_0 22 rfl rfl)
theorem dX12_hymn_23 : decode cX12_hymn 23 = .ok (.bipush 9, 2) := dk_16 9 (dk_at dksX12_hymn_1 0 rfl rfl)
theorem dX12_hymn_25 : decode cX12_hymn 25 = .ok (.invokestatic 85, 3) := dk_184 0 85 (dk_at dksX12_hymn_1 2 rfl rfl)
theorem dX12_hymn_28 : decode cX12_hymn 28 = .ok (.ifCond .eq 13, 3) := dk_153 0 13 (dk_at dksX12_hymn_1 5 rfl rfl)
theorem dX12_hymn_31 : decode cX12_hymn 31 = .ok (.aload_n 0, 1) := dk_42 (dk_at dksX12_hymn_1 8 rfl rfl)
theorem dX12_hymn_32 : decode cX12_hymn 32 = .ok (.iload_n 1, 1) := dk_27 (dk_at dksX12_hymn_1 9 rfl rfl)
theorem dX12_hymn_33 : decode cX12_hymn 33 = .ok (.iload_n 2, 1) := dk_28 (dk_at dksX12_hymn_1 10 rfl rfl)
theorem dX12_hymn_34 : decode cX12_hymn 34 = .ok (.iload_n 3, 1) := dk_29 (dk_at dksX12_hymn_1 11 rfl rfl)
theorem dX12_hymn_35 : decode cX12_hymn 35 = .ok (.invokevirtual 283, 3) := dk_182 1 27 (dk_at dksX12_hymn_1 12 rfl rfl)
theorem dX12_hymn_38 : decode cX12_hymn 38 = .ok (.goto 9, 3) := dk_167 0 9 (dk_at dksX12_hymn_1 15 rfl rfl)
theorem dX12_hymn_41 : decode cX12_hymn 41 = .ok (.aload_n 0, 1) := dk_42 (dk_at dksX12_hymn_1 18 rfl rfl)
theorem dX12_hymn_42 : decode cX12_hymn 42 = .ok (.bipush (-6), 2) := dk_16 250 (dk_at dksX12_hymn_1 19 rfl rfl)
theorem dX12_hymn_44 : decode cX12_hymn 44 = .ok (.invokevirtual 78, 3) := dk_182 0 78 (dk_at dksX12_hymn_1 21 rfl rfl)
theorem dX12_hymn_47 : decode cX12_hymn 47 = .ok (.ireturn, 1) := dk_172 (dk_at dksX12_hymn_2 0 rfl rfl)
abbrev cX12_years : ByteArray := prog_22_method_83_code
def yX12_years : MethodName := ⟨RX12, "years", "(I)I"⟩
def dkwX12_years_3 : List UInt8 := [132, 2, 1, 167, 255, 215, 42, 182, 1, 15, 172]
abbrev dktX12_years_3 : List UInt8 := dkwX12_years_3 ++ []
def dkwX12_years_2 : List UInt8 := [16, 6, 182, 1, 31, 54, 4, 42, 29, 21, 4, 4, 42, 16, 9, 182, 1, 31, 96, 182, 1, 27, 87]
abbrev dktX12_years_2 : List UInt8 := dkwX12_years_2 ++ dktX12_years_3
def dkwX12_years_1 : List UInt8 := [42, 16, 250, 182, 0, 78, 172, 3, 61, 28, 27, 162, 0, 42, 42, 42, 180, 0, 89, 182, 1, 31, 62, 42]
abbrev dktX12_years_1 : List UInt8 := dkwX12_years_1 ++ dktX12_years_2
def dkwX12_years_0 : List UInt8 := [42, 180, 0, 89, 154, 0, 10, 42, 16, 251, 182, 0, 78, 172, 27, 4, 16, 60, 184, 0, 85, 154, 0, 10]
abbrev dktX12_years_0 : List UInt8 := dkwX12_years_0 ++ dktX12_years_1
theorem dksX12_years_0 : cX12_years.data.toList.drop 0 = dktX12_years_0 := by decide +kernel
theorem dksX12_years_1 : cX12_years.data.toList.drop 24 = dktX12_years_1 := dk_seg dksX12_years_0 24 rfl rfl
theorem dksX12_years_2 : cX12_years.data.toList.drop 48 = dktX12_years_2 := dk_seg dksX12_years_1 24 rfl rfl
theorem dksX12_years_3 : cX12_years.data.toList.drop 71 = dktX12_years_3 := dk_seg dksX12_years_2 23 rfl rfl
theorem dX12_years_0 : decode cX12_years 0 = .ok (.aload_n 0, 1) := dk_42 (dk_at dksX12_years_0 0 rfl rfl)
theorem dX12_years_1 : decode cX12_years 1 = .ok (.getfield 89, 3) := dk_180 0 89 (dk_at dksX12_years_0 1 rfl rfl)
theorem dX12_years_4 : decode cX12_years 4 = .ok (.ifCond .ne 10, 3) := dk_154 0 10 (dk_at dksX12_years_0 4 rfl rfl)
theorem dX12_years_7 : decode cX12_years 7 = .ok (.aload_n 0, 1) := dk_42 (dk_at dksX12_years_0 7 rfl rfl)
theorem dX12_years_8 : decode cX12_years 8 = .ok (.bipush (-5), 2) := dk_16 251 (dk_at dksX12_years_0 8 rfl rfl)
theorem dX12_years_10 : decode cX12_years 10 = .ok (.invokevirtual 78, 3) := dk_182 0 78 (dk_at dksX12_years_0 10 rfl rfl)
theorem dX12_years_13 : decode cX12_years 13 = .ok (.ireturn, 1) := dk_172 (dk_at dksX12_years_0 13 rfl rfl)
theorem dX12_years_14 : decode cX12_years 14 = .ok (.iload_n 1, 1) := dk_27 (dk_at dksX12_years_0 14 rfl rfl)
theorem dX12_years_15 : decode cX12_years 15 = .ok (.iconst 1, 1) := dk_4 (dk_at dksX12_years_0 15 rfl rfl)
theorem dX12_years_16 : decode cX12_years 16 = .ok (.bipush 60, 2) := dk_16 60 (dk_at dksX12_years_0 16 rfl rfl)
theorem dX12_years_18 : decode cX12_years 18 = .ok (.invokestatic 85, 3) := dk_184 0 85 (dk_at dksX12_years_0 18 rfl rfl)
theorem dX12_years_21 : decode cX12_years 21 = .ok (.ifCond .ne 10, 3) := dk_154 0 10 (dk_at dksX12_years_0 21 rfl rfl)
theorem dX12_years_24 : decode cX12_years 24 = .ok (.aload_n 0, 1) := dk_42 (dk_at dksX12_years_1 0 rfl rfl)
theorem dX12_years_25 : decode cX12_years 25 = .ok (.bipush (-6), 2) := dk_16 250 (dk_at dksX12_years_1 1 rfl rfl)
theorem dX12_years_27 : decode cX12_years 27 = .ok (.invokevirtual 78, 3) := dk_182 0 78 (dk_at dksX12_years_1 3 rfl rfl)
theorem dX12_years_30 : decode cX12_years 30 = .ok (.ireturn, 1) := dk_172 (dk_at dksX12_years_1 6 rfl rfl)
theorem dX12_years_31 : decode cX12_years 31 = .ok (.iconst 0, 1) := dk_3 (dk_at dksX12_years_1 7 rfl rfl)
theorem dX12_years_32 : decode cX12_years 32 = .ok (.istore_n 2, 1) := dk_61 (dk_at dksX12_years_1 8 rfl rfl)
theorem dX12_years_33 : decode cX12_years 33 = .ok (.iload_n 2, 1) := dk_28 (dk_at dksX12_years_1 9 rfl rfl)
theorem dX12_years_34 : decode cX12_years 34 = .ok (.iload_n 1, 1) := dk_27 (dk_at dksX12_years_1 10 rfl rfl)
theorem dX12_years_35 : decode cX12_years 35 = .ok (.if_icmp .ge 42, 3) := dk_162 0 42 (dk_at dksX12_years_1 11 rfl rfl)
theorem dX12_years_38 : decode cX12_years 38 = .ok (.aload_n 0, 1) := dk_42 (dk_at dksX12_years_1 14 rfl rfl)
theorem dX12_years_39 : decode cX12_years 39 = .ok (.aload_n 0, 1) := dk_42 (dk_at dksX12_years_1 15 rfl rfl)
theorem dX12_years_40 : decode cX12_years 40 = .ok (.getfield 89, 3) := dk_180 0 89 (dk_at dksX12_years_1 16 rfl rfl)
theorem dX12_years_43 : decode cX12_years 43 = .ok (.invokevirtual 287, 3) := dk_182 1 31 (dk_at dksX12_years_1 19 rfl rfl)
theorem dX12_years_46 : decode cX12_years 46 = .ok (.istore_n 3, 1) := dk_62 (dk_at dksX12_years_1 22 rfl rfl)
theorem dX12_years_47 : decode cX12_years 47 = .ok (.aload_n 0, 1) := dk_42 (dk_at dksX12_years_1 23 rfl rfl)
theorem dX12_years_48 : decode cX12_years 48 = .ok (.bipush 6, 2) := dk_16 6 (dk_at dksX12_years_2 0 rfl rfl)
theorem dX12_years_50 : decode cX12_years 50 = .ok (.invokevirtual 287, 3) := dk_182 1 31 (dk_at dksX12_years_2 2 rfl rfl)
theorem dX12_years_53 : decode cX12_years 53 = .ok (.istore 4, 2) := dk_54 4 (dk_at dksX12_years_2 5 rfl rfl)
theorem dX12_years_55 : decode cX12_years 55 = .ok (.aload_n 0, 1) := dk_42 (dk_at dksX12_years_2 7 rfl rfl)
theorem dX12_years_56 : decode cX12_years 56 = .ok (.iload_n 3, 1) := dk_29 (dk_at dksX12_years_2 8 rfl rfl)
theorem dX12_years_57 : decode cX12_years 57 = .ok (.iload 4, 2) := dk_21 4 (dk_at dksX12_years_2 9 rfl rfl)
theorem dX12_years_59 : decode cX12_years 59 = .ok (.iconst 1, 1) := dk_4 (dk_at dksX12_years_2 11 rfl rfl)
theorem dX12_years_60 : decode cX12_years 60 = .ok (.aload_n 0, 1) := dk_42 (dk_at dksX12_years_2 12 rfl rfl)
theorem dX12_years_61 : decode cX12_years 61 = .ok (.bipush 9, 2) := dk_16 9 (dk_at dksX12_years_2 13 rfl rfl)
theorem dX12_years_63 : decode cX12_years 63 = .ok (.invokevirtual 287, 3) := dk_182 1 31 (dk_at dksX12_years_2 15 rfl rfl)
theorem dX12_years_66 : decode cX12_years 66 = .ok (.iadd, 1) := dk_96 (dk_at dksX12_years_2 18 rfl rfl)
theorem dX12_years_67 : decode cX12_years 67 = .ok (.invokevirtual 283, 3) := dk_182 1 27 (dk_at dksX12_years_2 19 rfl rfl)
theorem dX12_years_70 : decode cX12_years 70 = .ok (.pop, 1) := dk_87 (dk_at dksX12_years_2 22 rfl rfl)
theorem dX12_years_71 : decode cX12_years 71 = .ok (.iinc 2 1, 3) := dk_132 2 1 (dk_at dksX12_years_3 0 rfl rfl)
theorem dX12_years_74 : decode cX12_years 74 = .ok (.goto (-41), 3) := dk_167 255 215 (dk_at dksX12_years_3 3 rfl rfl)
theorem dX12_years_77 : decode cX12_years 77 = .ok (.aload_n 0, 1) := dk_42 (dk_at dksX12_years_3 6 rfl rfl)
theorem dX12_years_78 : decode cX12_years 78 = .ok (.invokevirtual 271, 3) := dk_182 1 15 (dk_at dksX12_years_3 7 rfl rfl)
theorem dX12_years_81 : decode cX12_years 81 = .ok (.ireturn, 1) := dk_172 (dk_at dksX12_years_3 10 rfl rfl)
abbrev cX12_draw : ByteArray := prog_22_method_82_code
def yX12_draw : MethodName := ⟨RX12, "draw", "(I)I"⟩
def dkwX12_draw_1 : List UInt8 := [112, 172]
abbrev dktX12_draw_1 : List UInt8 := dkwX12_draw_1 ++ []
def dkwX12_draw_0 : List UInt8 := [42, 42, 180, 0, 69, 19, 1, 30, 104, 17, 48, 57, 96, 181, 0, 69, 42, 180, 0, 69, 16, 16, 124, 27]
abbrev dktX12_draw_0 : List UInt8 := dkwX12_draw_0 ++ dktX12_draw_1
theorem dksX12_draw_0 : cX12_draw.data.toList.drop 0 = dktX12_draw_0 := by decide +kernel
theorem dksX12_draw_1 : cX12_draw.data.toList.drop 24 = dktX12_draw_1 := dk_seg dksX12_draw_0 24 rfl rfl
theorem dX12_draw_0 : decode cX12_draw 0 = .ok (.aload_n 0, 1) := dk_42 (dk_at dksX12_draw_0 0 rfl rfl)
theorem dX12_draw_1 : decode cX12_draw 1 = .ok (.aload_n 0, 1) := dk_42 (dk_at dksX12_draw_0 1 rfl rfl)
theorem dX12_draw_2 : decode cX12_draw 2 = .ok (.getfield 69, 3) := dk_180 0 69 (dk_at dksX12_draw_0 2 rfl rfl)
theorem dX12_draw_5 : decode cX12_draw 5 = .ok (.ldc_w 286, 3) := dk_19 1 30 (dk_at dksX12_draw_0 5 rfl rfl)
theorem dX12_draw_8 : decode cX12_draw 8 = .ok (.imul, 1) := dk_104 (dk_at dksX12_draw_0 8 rfl rfl)
theorem dX12_draw_9 : decode cX12_draw 9 = .ok (.sipush 12345, 3) := dk_17 48 57 (dk_at dksX12_draw_0 9 rfl rfl)
theorem dX12_draw_12 : decode cX12_draw 12 = .ok (.iadd, 1) := dk_96 (dk_at dksX12_draw_0 12 rfl rfl)
theorem dX12_draw_13 : decode cX12_draw 13 = .ok (.putfield 69, 3) := dk_181 0 69 (dk_at dksX12_draw_0 13 rfl rfl)
theorem dX12_draw_16 : decode cX12_draw 16 = .ok (.aload_n 0, 1) := dk_42 (dk_at dksX12_draw_0 16 rfl rfl)
theorem dX12_draw_17 : decode cX12_draw 17 = .ok (.getfield 69, 3) := dk_180 0 69 (dk_at dksX12_draw_0 17 rfl rfl)
theorem dX12_draw_20 : decode cX12_draw 20 = .ok (.bipush 16, 2) := dk_16 16 (dk_at dksX12_draw_0 20 rfl rfl)
theorem dX12_draw_22 : decode cX12_draw 22 = .ok (.iushr, 1) := dk_124 (dk_at dksX12_draw_0 22 rfl rfl)
theorem dX12_draw_23 : decode cX12_draw 23 = .ok (.iload_n 1, 1) := dk_27 (dk_at dksX12_draw_0 23 rfl rfl)
theorem dX12_draw_24 : decode cX12_draw 24 = .ok (.irem, 1) := dk_112 (dk_at dksX12_draw_1 0 rfl rfl)
theorem dX12_draw_25 : decode cX12_draw 25 = .ok (.ireturn, 1) := dk_172 (dk_at dksX12_draw_1 1 rfl rfl)
abbrev cX12_seed : ByteArray := prog_22_method_84_code
def yX12_seed : MethodName := ⟨RX12, "seed", "(I)I"⟩
def dkwX12_seed_0 : List UInt8 := [42, 180, 0, 69, 61, 42, 27, 181, 0, 69, 28, 172]
abbrev dktX12_seed_0 : List UInt8 := dkwX12_seed_0 ++ []
theorem dksX12_seed_0 : cX12_seed.data.toList.drop 0 = dktX12_seed_0 := by decide +kernel
theorem dX12_seed_0 : decode cX12_seed 0 = .ok (.aload_n 0, 1) := dk_42 (dk_at dksX12_seed_0 0 rfl rfl)
theorem dX12_seed_1 : decode cX12_seed 1 = .ok (.getfield 69, 3) := dk_180 0 69 (dk_at dksX12_seed_0 1 rfl rfl)
theorem dX12_seed_4 : decode cX12_seed 4 = .ok (.istore_n 2, 1) := dk_61 (dk_at dksX12_seed_0 4 rfl rfl)
theorem dX12_seed_5 : decode cX12_seed 5 = .ok (.aload_n 0, 1) := dk_42 (dk_at dksX12_seed_0 5 rfl rfl)
theorem dX12_seed_6 : decode cX12_seed 6 = .ok (.iload_n 1, 1) := dk_27 (dk_at dksX12_seed_0 6 rfl rfl)
theorem dX12_seed_7 : decode cX12_seed 7 = .ok (.putfield 69, 3) := dk_181 0 69 (dk_at dksX12_seed_0 7 rfl rfl)
theorem dX12_seed_10 : decode cX12_seed 10 = .ok (.iload_n 2, 1) := dk_28 (dk_at dksX12_seed_0 10 rfl rfl)
theorem dX12_seed_11 : decode cX12_seed 11 = .ok (.ireturn, 1) := dk_172 (dk_at dksX12_seed_0 11 rfl rfl)
abbrev cX12_act : ByteArray := prog_22_method_89_code
def yX12_act : MethodName := ⟨RX12, "act", "(III)I"⟩
def dkwX12_act_2 : List UInt8 := [167, 0, 9, 42, 27, 29, 182, 1, 46, 172]
abbrev dktX12_act_2 : List UInt8 := dkwX12_act_2 ++ []
def dkwX12_act_1 : List UInt8 := [28, 154, 0, 12, 42, 27, 29, 182, 1, 40, 167, 0, 23, 28, 4, 160, 0, 12, 42, 27, 29, 182, 1, 43]
abbrev dktX12_act_1 : List UInt8 := dkwX12_act_1 ++ dktX12_act_2
def dkwX12_act_0 : List UInt8 := [42, 3, 181, 1, 34, 42, 27, 182, 0, 102, 153, 0, 12, 28, 3, 5, 184, 0, 85, 154, 0, 5, 3, 172]
abbrev dktX12_act_0 : List UInt8 := dkwX12_act_0 ++ dktX12_act_1
theorem dksX12_act_0 : cX12_act.data.toList.drop 0 = dktX12_act_0 := by decide +kernel
theorem dksX12_act_1 : cX12_act.data.toList.drop 24 = dktX12_act_1 := dk_seg dksX12_act_0 24 rfl rfl
theorem dksX12_act_2 : cX12_act.data.toList.drop 48 = dktX12_act_2 := dk_seg dksX12_act_1 24 rfl rfl
theorem dX12_act_0 : decode cX12_act 0 = .ok (.aload_n 0, 1) := dk_42 (dk_at dksX12_act_0 0 rfl rfl)
theorem dX12_act_1 : decode cX12_act 1 = .ok (.iconst 0, 1) := dk_3 (dk_at dksX12_act_0 1 rfl rfl)
theorem dX12_act_2 : decode cX12_act 2 = .ok (.putfield 290, 3) := dk_181 1 34 (dk_at dksX12_act_0 2 rfl rfl)
theorem dX12_act_5 : decode cX12_act 5 = .ok (.aload_n 0, 1) := dk_42 (dk_at dksX12_act_0 5 rfl rfl)
theorem dX12_act_6 : decode cX12_act 6 = .ok (.iload_n 1, 1) := dk_27 (dk_at dksX12_act_0 6 rfl rfl)
theorem dX12_act_7 : decode cX12_act 7 = .ok (.invokevirtual 102, 3) := dk_182 0 102 (dk_at dksX12_act_0 7 rfl rfl)
theorem dX12_act_10 : decode cX12_act 10 = .ok (.ifCond .eq 12, 3) := dk_153 0 12 (dk_at dksX12_act_0 10 rfl rfl)
theorem dX12_act_13 : decode cX12_act 13 = .ok (.iload_n 2, 1) := dk_28 (dk_at dksX12_act_0 13 rfl rfl)
theorem dX12_act_14 : decode cX12_act 14 = .ok (.iconst 0, 1) := dk_3 (dk_at dksX12_act_0 14 rfl rfl)
theorem dX12_act_15 : decode cX12_act 15 = .ok (.iconst 2, 1) := dk_5 (dk_at dksX12_act_0 15 rfl rfl)
theorem dX12_act_16 : decode cX12_act 16 = .ok (.invokestatic 85, 3) := dk_184 0 85 (dk_at dksX12_act_0 16 rfl rfl)
theorem dX12_act_19 : decode cX12_act 19 = .ok (.ifCond .ne 5, 3) := dk_154 0 5 (dk_at dksX12_act_0 19 rfl rfl)
theorem dX12_act_22 : decode cX12_act 22 = .ok (.iconst 0, 1) := dk_3 (dk_at dksX12_act_0 22 rfl rfl)
theorem dX12_act_23 : decode cX12_act 23 = .ok (.ireturn, 1) := dk_172 (dk_at dksX12_act_0 23 rfl rfl)
theorem dX12_act_24 : decode cX12_act 24 = .ok (.iload_n 2, 1) := dk_28 (dk_at dksX12_act_1 0 rfl rfl)
theorem dX12_act_25 : decode cX12_act 25 = .ok (.ifCond .ne 12, 3) := dk_154 0 12 (dk_at dksX12_act_1 1 rfl rfl)
theorem dX12_act_28 : decode cX12_act 28 = .ok (.aload_n 0, 1) := dk_42 (dk_at dksX12_act_1 4 rfl rfl)
theorem dX12_act_29 : decode cX12_act 29 = .ok (.iload_n 1, 1) := dk_27 (dk_at dksX12_act_1 5 rfl rfl)
theorem dX12_act_30 : decode cX12_act 30 = .ok (.iload_n 3, 1) := dk_29 (dk_at dksX12_act_1 6 rfl rfl)
theorem dX12_act_31 : decode cX12_act 31 = .ok (.invokevirtual 296, 3) := dk_182 1 40 (dk_at dksX12_act_1 7 rfl rfl)
theorem dX12_act_34 : decode cX12_act 34 = .ok (.goto 23, 3) := dk_167 0 23 (dk_at dksX12_act_1 10 rfl rfl)
theorem dX12_act_37 : decode cX12_act 37 = .ok (.iload_n 2, 1) := dk_28 (dk_at dksX12_act_1 13 rfl rfl)
theorem dX12_act_38 : decode cX12_act 38 = .ok (.iconst 1, 1) := dk_4 (dk_at dksX12_act_1 14 rfl rfl)
theorem dX12_act_39 : decode cX12_act 39 = .ok (.if_icmp .ne 12, 3) := dk_160 0 12 (dk_at dksX12_act_1 15 rfl rfl)
theorem dX12_act_42 : decode cX12_act 42 = .ok (.aload_n 0, 1) := dk_42 (dk_at dksX12_act_1 18 rfl rfl)
theorem dX12_act_43 : decode cX12_act 43 = .ok (.iload_n 1, 1) := dk_27 (dk_at dksX12_act_1 19 rfl rfl)
theorem dX12_act_44 : decode cX12_act 44 = .ok (.iload_n 3, 1) := dk_29 (dk_at dksX12_act_1 20 rfl rfl)
theorem dX12_act_45 : decode cX12_act 45 = .ok (.invokevirtual 299, 3) := dk_182 1 43 (dk_at dksX12_act_1 21 rfl rfl)
theorem dX12_act_48 : decode cX12_act 48 = .ok (.goto 9, 3) := dk_167 0 9 (dk_at dksX12_act_2 0 rfl rfl)
theorem dX12_act_51 : decode cX12_act 51 = .ok (.aload_n 0, 1) := dk_42 (dk_at dksX12_act_2 3 rfl rfl)
theorem dX12_act_52 : decode cX12_act 52 = .ok (.iload_n 1, 1) := dk_27 (dk_at dksX12_act_2 4 rfl rfl)
theorem dX12_act_53 : decode cX12_act 53 = .ok (.iload_n 3, 1) := dk_29 (dk_at dksX12_act_2 5 rfl rfl)
theorem dX12_act_54 : decode cX12_act 54 = .ok (.invokevirtual 302, 3) := dk_182 1 46 (dk_at dksX12_act_2 6 rfl rfl)
theorem dX12_act_57 : decode cX12_act 57 = .ok (.ireturn, 1) := dk_172 (dk_at dksX12_act_2 9 rfl rfl)
abbrev cX12_breathesBy : ByteArray := prog_22_method_86_code
def yX12_breathesBy : MethodName := ⟨RX12, "breathesBy", "(II)I"⟩
def dkwX12_breathesBy_4 : List UInt8 := [167, 0, 20, 29, 16, 6, 160, 0, 12, 21, 4, 27, 100, 5, 104, 167, 0, 5, 21, 4, 172]
abbrev dktX12_breathesBy_4 : List UInt8 := dkwX12_breathesBy_4 ++ []
def dkwX12_breathesBy_3 : List UInt8 := [160, 0, 13, 21, 4, 42, 180, 0, 23, 27, 46, 96, 172, 29, 7, 160, 0, 10, 21, 4, 27, 100]
abbrev dktX12_breathesBy_3 : List UInt8 := dkwX12_breathesBy_3 ++ dktX12_breathesBy_4
def dkwX12_breathesBy_2 : List UInt8 := [16, 20, 182, 1, 37, 42, 16, 10, 182, 1, 37, 28, 27, 96, 54, 4, 29, 4, 159, 0, 8, 29, 6]
abbrev dktX12_breathesBy_2 : List UInt8 := dkwX12_breathesBy_2 ++ dktX12_breathesBy_3
def dkwX12_breathesBy_1 : List UInt8 := [29, 16, 6, 160, 0, 9, 42, 16, 51, 182, 1, 37, 29, 4, 159, 0, 8, 29, 6, 160, 0, 9, 42]
abbrev dktX12_breathesBy_1 : List UInt8 := dkwX12_breathesBy_1 ++ dktX12_breathesBy_2
def dkwX12_breathesBy_0 : List UInt8 := [42, 180, 0, 20, 27, 46, 62, 29, 16, 6, 160, 0, 9, 42, 16, 70, 182, 1, 37, 29, 7, 159, 0, 9]
abbrev dktX12_breathesBy_0 : List UInt8 := dkwX12_breathesBy_0 ++ dktX12_breathesBy_1
theorem dksX12_breathesBy_0 : cX12_breathesBy.data.toList.drop 0 = dktX12_breathesBy_0 := by decide +kernel
theorem dksX12_breathesBy_1 : cX12_breathesBy.data.toList.drop 24 = dktX12_breathesBy_1 := dk_seg dksX12_breathesBy_0 24 rfl rfl
theorem dksX12_breathesBy_2 : cX12_breathesBy.data.toList.drop 47 = dktX12_breathesBy_2 := dk_seg dksX12_breathesBy_1 23 rfl rfl
theorem dksX12_breathesBy_3 : cX12_breathesBy.data.toList.drop 70 = dktX12_breathesBy_3 := dk_seg dksX12_breathesBy_2 23 rfl rfl
theorem dksX12_breathesBy_4 : cX12_breathesBy.data.toList.drop 92 = dktX12_breathesBy_4 := dk_seg dksX12_breathesBy_3 22 rfl rfl
theorem dX12_breathesBy_0 : decode cX12_breathesBy 0 = .ok (.aload_n 0, 1) := dk_42 (dk_at dksX12_breathesBy_0 0 rfl rfl)
theorem dX12_breathesBy_1 : decode cX12_breathesBy 1 = .ok (.getfield 20, 3) := dk_180 0 20 (dk_at dksX12_breathesBy_0 1 rfl rfl)
theorem dX12_breathesBy_4 : decode cX12_breathesBy 4 = .ok (.iload_n 1, 1) := dk_27 (dk_at dksX12_breathesBy_0 4 rfl rfl)
theorem dX12_breathesBy_5 : decode cX12_breathesBy 5 = .ok (.iaload, 1) := dk_46 (dk_at dksX12_breathesBy_0 5 rfl rfl)
theorem dX12_breathesBy_6 : decode cX12_breathesBy 6 = .ok (.istore_n 3, 1) := dk_62 (dk_at dksX12_breathesBy_0 6 rfl rfl)
theorem dX12_breathesBy_7 : decode cX12_breathesBy 7 = .ok (.iload_n 3, 1) := dk_29 (dk_at dksX12_breathesBy_0 7 rfl rfl)
theorem dX12_breathesBy_8 : decode cX12_breathesBy 8 = .ok (.bipush 6, 2) := dk_16 6 (dk_at dksX12_breathesBy_0 8 rfl rfl)
theorem dX12_breathesBy_10 : decode cX12_breathesBy 10 = .ok (.if_icmp .ne 9, 3) := dk_160 0 9 (dk_at dksX12_breathesBy_0 10 rfl rfl)
theorem dX12_breathesBy_13 : decode cX12_breathesBy 13 = .ok (.aload_n 0, 1) := dk_42 (dk_at dksX12_breathesBy_0 13 rfl rfl)
theorem dX12_breathesBy_14 : decode cX12_breathesBy 14 = .ok (.bipush 70, 2) := dk_16 70 (dk_at dksX12_breathesBy_0 14 rfl rfl)
theorem dX12_breathesBy_16 : decode cX12_breathesBy 16 = .ok (.invokevirtual 293, 3) := dk_182 1 37 (dk_at dksX12_breathesBy_0 16 rfl rfl)
theorem dX12_breathesBy_19 : decode cX12_breathesBy 19 = .ok (.iload_n 3, 1) := dk_29 (dk_at dksX12_breathesBy_0 19 rfl rfl)
theorem dX12_breathesBy_20 : decode cX12_breathesBy 20 = .ok (.iconst 4, 1) := dk_7 (dk_at dksX12_breathesBy_0 20 rfl rfl)
theorem dX12_breathesBy_21 : decode cX12_breathesBy 21 = .ok (.if_icmp .eq 9, 3) := dk_159 0 9 (dk_at dksX12_breathesBy_0 21 rfl rfl)
theorem dX12_breathesBy_24 : decode cX12_breathesBy 24 = .ok (.iload_n 3, 1) := dk_29 (dk_at dksX12_breathesBy_1 0 rfl rfl)
theorem dX12_breathesBy_25 : decode cX12_breathesBy 25 = .ok (.bipush 6, 2) := dk_16 6 (dk_at dksX12_breathesBy_1 1 rfl rfl)
theorem dX12_breathesBy_27 : decode cX12_breathesBy 27 = .ok (.if_icmp .ne 9, 3) := dk_160 0 9 (dk_at dksX12_breathesBy_1 3 rfl rfl)
theorem dX12_breathesBy_30 : decode cX12_breathesBy 30 = .ok (.aload_n 0, 1) := dk_42 (dk_at dksX12_breathesBy_1 6 rfl rfl)
theorem dX12_breathesBy_31 : decode cX12_breathesBy 31 = .ok (.bipush 51, 2) := dk_16 51 (dk_at dksX12_breathesBy_1 7 rfl rfl)
theorem dX12_breathesBy_33 : decode cX12_breathesBy 33 = .ok (.invokevirtual 293, 3) := dk_182 1 37 (dk_at dksX12_breathesBy_1 9 rfl rfl)
theorem dX12_breathesBy_36 : decode cX12_breathesBy 36 = .ok (.iload_n 3, 1) := dk_29 (dk_at dksX12_breathesBy_1 12 rfl rfl)
theorem dX12_breathesBy_37 : decode cX12_breathesBy 37 = .ok (.iconst 1, 1) := dk_4 (dk_at dksX12_breathesBy_1 13 rfl rfl)
theorem dX12_breathesBy_38 : decode cX12_breathesBy 38 = .ok (.if_icmp .eq 8, 3) := dk_159 0 8 (dk_at dksX12_breathesBy_1 14 rfl rfl)
theorem dX12_breathesBy_41 : decode cX12_breathesBy 41 = .ok (.iload_n 3, 1) := dk_29 (dk_at dksX12_breathesBy_1 17 rfl rfl)
theorem dX12_breathesBy_42 : decode cX12_breathesBy 42 = .ok (.iconst 3, 1) := dk_6 (dk_at dksX12_breathesBy_1 18 rfl rfl)
theorem dX12_breathesBy_43 : decode cX12_breathesBy 43 = .ok (.if_icmp .ne 9, 3) := dk_160 0 9 (dk_at dksX12_breathesBy_1 19 rfl rfl)
theorem dX12_breathesBy_46 : decode cX12_breathesBy 46 = .ok (.aload_n 0, 1) := dk_42 (dk_at dksX12_breathesBy_1 22 rfl rfl)
theorem dX12_breathesBy_47 : decode cX12_breathesBy 47 = .ok (.bipush 20, 2) := dk_16 20 (dk_at dksX12_breathesBy_2 0 rfl rfl)
theorem dX12_breathesBy_49 : decode cX12_breathesBy 49 = .ok (.invokevirtual 293, 3) := dk_182 1 37 (dk_at dksX12_breathesBy_2 2 rfl rfl)
theorem dX12_breathesBy_52 : decode cX12_breathesBy 52 = .ok (.aload_n 0, 1) := dk_42 (dk_at dksX12_breathesBy_2 5 rfl rfl)
theorem dX12_breathesBy_53 : decode cX12_breathesBy 53 = .ok (.bipush 10, 2) := dk_16 10 (dk_at dksX12_breathesBy_2 6 rfl rfl)
theorem dX12_breathesBy_55 : decode cX12_breathesBy 55 = .ok (.invokevirtual 293, 3) := dk_182 1 37 (dk_at dksX12_breathesBy_2 8 rfl rfl)
theorem dX12_breathesBy_58 : decode cX12_breathesBy 58 = .ok (.iload_n 2, 1) := dk_28 (dk_at dksX12_breathesBy_2 11 rfl rfl)
theorem dX12_breathesBy_59 : decode cX12_breathesBy 59 = .ok (.iload_n 1, 1) := dk_27 (dk_at dksX12_breathesBy_2 12 rfl rfl)
theorem dX12_breathesBy_60 : decode cX12_breathesBy 60 = .ok (.iadd, 1) := dk_96 (dk_at dksX12_breathesBy_2 13 rfl rfl)
theorem dX12_breathesBy_61 : decode cX12_breathesBy 61 = .ok (.istore 4, 2) := dk_54 4 (dk_at dksX12_breathesBy_2 14 rfl rfl)
theorem dX12_breathesBy_63 : decode cX12_breathesBy 63 = .ok (.iload_n 3, 1) := dk_29 (dk_at dksX12_breathesBy_2 16 rfl rfl)
theorem dX12_breathesBy_64 : decode cX12_breathesBy 64 = .ok (.iconst 1, 1) := dk_4 (dk_at dksX12_breathesBy_2 17 rfl rfl)
theorem dX12_breathesBy_65 : decode cX12_breathesBy 65 = .ok (.if_icmp .eq 8, 3) := dk_159 0 8 (dk_at dksX12_breathesBy_2 18 rfl rfl)
theorem dX12_breathesBy_68 : decode cX12_breathesBy 68 = .ok (.iload_n 3, 1) := dk_29 (dk_at dksX12_breathesBy_2 21 rfl rfl)
theorem dX12_breathesBy_69 : decode cX12_breathesBy 69 = .ok (.iconst 3, 1) := dk_6 (dk_at dksX12_breathesBy_2 22 rfl rfl)
theorem dX12_breathesBy_70 : decode cX12_breathesBy 70 = .ok (.if_icmp .ne 13, 3) := dk_160 0 13 (dk_at dksX12_breathesBy_3 0 rfl rfl)
theorem dX12_breathesBy_73 : decode cX12_breathesBy 73 = .ok (.iload 4, 2) := dk_21 4 (dk_at dksX12_breathesBy_3 3 rfl rfl)
theorem dX12_breathesBy_75 : decode cX12_breathesBy 75 = .ok (.aload_n 0, 1) := dk_42 (dk_at dksX12_breathesBy_3 5 rfl rfl)
theorem dX12_breathesBy_76 : decode cX12_breathesBy 76 = .ok (.getfield 23, 3) := dk_180 0 23 (dk_at dksX12_breathesBy_3 6 rfl rfl)
theorem dX12_breathesBy_79 : decode cX12_breathesBy 79 = .ok (.iload_n 1, 1) := dk_27 (dk_at dksX12_breathesBy_3 9 rfl rfl)
theorem dX12_breathesBy_80 : decode cX12_breathesBy 80 = .ok (.iaload, 1) := dk_46 (dk_at dksX12_breathesBy_3 10 rfl rfl)
theorem dX12_breathesBy_81 : decode cX12_breathesBy 81 = .ok (.iadd, 1) := dk_96 (dk_at dksX12_breathesBy_3 11 rfl rfl)
theorem dX12_breathesBy_82 : decode cX12_breathesBy 82 = .ok (.ireturn, 1) := dk_172 (dk_at dksX12_breathesBy_3 12 rfl rfl)
theorem dX12_breathesBy_83 : decode cX12_breathesBy 83 = .ok (.iload_n 3, 1) := dk_29 (dk_at dksX12_breathesBy_3 13 rfl rfl)
theorem dX12_breathesBy_84 : decode cX12_breathesBy 84 = .ok (.iconst 4, 1) := dk_7 (dk_at dksX12_breathesBy_3 14 rfl rfl)
theorem dX12_breathesBy_85 : decode cX12_breathesBy 85 = .ok (.if_icmp .ne 10, 3) := dk_160 0 10 (dk_at dksX12_breathesBy_3 15 rfl rfl)
theorem dX12_breathesBy_88 : decode cX12_breathesBy 88 = .ok (.iload 4, 2) := dk_21 4 (dk_at dksX12_breathesBy_3 18 rfl rfl)
theorem dX12_breathesBy_90 : decode cX12_breathesBy 90 = .ok (.iload_n 1, 1) := dk_27 (dk_at dksX12_breathesBy_3 20 rfl rfl)
theorem dX12_breathesBy_91 : decode cX12_breathesBy 91 = .ok (.isub, 1) := dk_100 (dk_at dksX12_breathesBy_3 21 rfl rfl)
theorem dX12_breathesBy_92 : decode cX12_breathesBy 92 = .ok (.goto 20, 3) := dk_167 0 20 (dk_at dksX12_breathesBy_4 0 rfl rfl)
theorem dX12_breathesBy_95 : decode cX12_breathesBy 95 = .ok (.iload_n 3, 1) := dk_29 (dk_at dksX12_breathesBy_4 3 rfl rfl)
theorem dX12_breathesBy_96 : decode cX12_breathesBy 96 = .ok (.bipush 6, 2) := dk_16 6 (dk_at dksX12_breathesBy_4 4 rfl rfl)
theorem dX12_breathesBy_98 : decode cX12_breathesBy 98 = .ok (.if_icmp .ne 12, 3) := dk_160 0 12 (dk_at dksX12_breathesBy_4 6 rfl rfl)
theorem dX12_breathesBy_101 : decode cX12_breathesBy 101 = .ok (.iload 4, 2) := dk_21 4 (dk_at dksX12_breathesBy_4 9 rfl rfl)
theorem dX12_breathesBy_103 : decode cX12_breathesBy 103 = .ok (.iload_n 1, 1) := dk_27 (dk_at dksX12_breathesBy_4 11 rfl rfl)
theorem dX12_breathesBy_104 : decode cX12_breathesBy 104 = .ok (.isub, 1) := dk_100 (dk_at dksX12_breathesBy_4 12 rfl rfl)
theorem dX12_breathesBy_105 : decode cX12_breathesBy 105 = .ok (.iconst 2, 1) := dk_5 (dk_at dksX12_breathesBy_4 13 rfl rfl)
theorem dX12_breathesBy_106 : decode cX12_breathesBy 106 = .ok (.imul, 1) := dk_104 (dk_at dksX12_breathesBy_4 14 rfl rfl)
theorem dX12_breathesBy_107 : decode cX12_breathesBy 107 = .ok (.goto 5, 3) := dk_167 0 5 (dk_at dksX12_breathesBy_4 15 rfl rfl)
theorem dX12_breathesBy_110 : decode cX12_breathesBy 110 = .ok (.iload 4, 2) := dk_21 4 (dk_at dksX12_breathesBy_4 18 rfl rfl)
theorem dX12_breathesBy_112 : decode cX12_breathesBy 112 = .ok (.ireturn, 1) := dk_172 (dk_at dksX12_breathesBy_4 20 rfl rfl)
abbrev cX12_ran : ByteArray := prog_22_method_85_code
def yX12_ran : MethodName := ⟨RX12, "ran", "(I)V"⟩
def dkwX12_ran_1 : List UInt8 := [4, 96, 181, 1, 34, 177]
abbrev dktX12_ran_1 : List UInt8 := dkwX12_ran_1 ++ []
def dkwX12_ran_0 : List UInt8 := [42, 180, 1, 34, 16, 20, 162, 0, 13, 42, 180, 0, 44, 42, 180, 1, 34, 27, 79, 42, 89, 180, 1, 34]
abbrev dktX12_ran_0 : List UInt8 := dkwX12_ran_0 ++ dktX12_ran_1
theorem dksX12_ran_0 : cX12_ran.data.toList.drop 0 = dktX12_ran_0 := by decide +kernel
theorem dksX12_ran_1 : cX12_ran.data.toList.drop 24 = dktX12_ran_1 := dk_seg dksX12_ran_0 24 rfl rfl
theorem dX12_ran_0 : decode cX12_ran 0 = .ok (.aload_n 0, 1) := dk_42 (dk_at dksX12_ran_0 0 rfl rfl)
theorem dX12_ran_1 : decode cX12_ran 1 = .ok (.getfield 290, 3) := dk_180 1 34 (dk_at dksX12_ran_0 1 rfl rfl)
theorem dX12_ran_4 : decode cX12_ran 4 = .ok (.bipush 20, 2) := dk_16 20 (dk_at dksX12_ran_0 4 rfl rfl)
theorem dX12_ran_6 : decode cX12_ran 6 = .ok (.if_icmp .ge 13, 3) := dk_162 0 13 (dk_at dksX12_ran_0 6 rfl rfl)
theorem dX12_ran_9 : decode cX12_ran 9 = .ok (.aload_n 0, 1) := dk_42 (dk_at dksX12_ran_0 9 rfl rfl)
theorem dX12_ran_10 : decode cX12_ran 10 = .ok (.getfield 44, 3) := dk_180 0 44 (dk_at dksX12_ran_0 10 rfl rfl)
theorem dX12_ran_13 : decode cX12_ran 13 = .ok (.aload_n 0, 1) := dk_42 (dk_at dksX12_ran_0 13 rfl rfl)
theorem dX12_ran_14 : decode cX12_ran 14 = .ok (.getfield 290, 3) := dk_180 1 34 (dk_at dksX12_ran_0 14 rfl rfl)
theorem dX12_ran_17 : decode cX12_ran 17 = .ok (.iload_n 1, 1) := dk_27 (dk_at dksX12_ran_0 17 rfl rfl)
theorem dX12_ran_18 : decode cX12_ran 18 = .ok (.iastore, 1) := dk_79 (dk_at dksX12_ran_0 18 rfl rfl)
theorem dX12_ran_19 : decode cX12_ran 19 = .ok (.aload_n 0, 1) := dk_42 (dk_at dksX12_ran_0 19 rfl rfl)
theorem dX12_ran_20 : decode cX12_ran 20 = .ok (.dup, 1) := dk_89 (dk_at dksX12_ran_0 20 rfl rfl)
theorem dX12_ran_21 : decode cX12_ran 21 = .ok (.getfield 290, 3) := dk_180 1 34 (dk_at dksX12_ran_0 21 rfl rfl)
theorem dX12_ran_24 : decode cX12_ran 24 = .ok (.iconst 1, 1) := dk_4 (dk_at dksX12_ran_1 0 rfl rfl)
theorem dX12_ran_25 : decode cX12_ran 25 = .ok (.iadd, 1) := dk_96 (dk_at dksX12_ran_1 1 rfl rfl)
theorem dX12_ran_26 : decode cX12_ran 26 = .ok (.putfield 290, 3) := dk_181 1 34 (dk_at dksX12_ran_1 2 rfl rfl)
theorem dX12_ran_29 : decode cX12_ran 29 = .ok (.return_, 1) := dk_177 (dk_at dksX12_ran_1 5 rfl rfl)
abbrev cX12_singsBy : ByteArray := prog_22_method_87_code
def yX12_singsBy : MethodName := ⟨RX12, "singsBy", "(II)I"⟩
def dkwX12_singsBy_4 : List UInt8 := [167, 0, 5, 21, 5, 172]
abbrev dktX12_singsBy_4 : List UInt8 := dkwX12_singsBy_4 ++ []
def dkwX12_singsBy_3 : List UInt8 := [21, 4, 182, 1, 40, 5, 104, 54, 5, 29, 5, 159, 0, 8, 29, 8, 160, 0, 10, 21, 5, 6, 104]
abbrev dktX12_singsBy_3 : List UInt8 := dkwX12_singsBy_3 ++ dktX12_singsBy_4
def dkwX12_singsBy_2 : List UInt8 := [29, 5, 159, 0, 8, 29, 8, 160, 0, 9, 42, 16, 30, 182, 1, 37, 42, 16, 11, 182, 1, 37, 42, 27]
abbrev dktX12_singsBy_2 : List UInt8 := dkwX12_singsBy_2 ++ dktX12_singsBy_3
def dkwX12_singsBy_1 : List UInt8 := [180, 0, 23, 27, 46, 100, 54, 4, 29, 6, 160, 0, 14, 42, 16, 40, 182, 1, 37, 28, 4, 96, 54, 4]
abbrev dktX12_singsBy_1 : List UInt8 := dkwX12_singsBy_1 ++ dktX12_singsBy_2
def dkwX12_singsBy_0 : List UInt8 := [42, 180, 0, 20, 27, 46, 62, 28, 54, 4, 29, 16, 6, 160, 0, 19, 42, 16, 71, 182, 1, 37, 28, 42]
abbrev dktX12_singsBy_0 : List UInt8 := dkwX12_singsBy_0 ++ dktX12_singsBy_1
theorem dksX12_singsBy_0 : cX12_singsBy.data.toList.drop 0 = dktX12_singsBy_0 := by decide +kernel
theorem dksX12_singsBy_1 : cX12_singsBy.data.toList.drop 24 = dktX12_singsBy_1 := dk_seg dksX12_singsBy_0 24 rfl rfl
theorem dksX12_singsBy_2 : cX12_singsBy.data.toList.drop 48 = dktX12_singsBy_2 := dk_seg dksX12_singsBy_1 24 rfl rfl
theorem dksX12_singsBy_3 : cX12_singsBy.data.toList.drop 72 = dktX12_singsBy_3 := dk_seg dksX12_singsBy_2 24 rfl rfl
theorem dksX12_singsBy_4 : cX12_singsBy.data.toList.drop 95 = dktX12_singsBy_4 := dk_seg dksX12_singsBy_3 23 rfl rfl
theorem dX12_singsBy_0 : decode cX12_singsBy 0 = .ok (.aload_n 0, 1) := dk_42 (dk_at dksX12_singsBy_0 0 rfl rfl)
theorem dX12_singsBy_1 : decode cX12_singsBy 1 = .ok (.getfield 20, 3) := dk_180 0 20 (dk_at dksX12_singsBy_0 1 rfl rfl)
theorem dX12_singsBy_4 : decode cX12_singsBy 4 = .ok (.iload_n 1, 1) := dk_27 (dk_at dksX12_singsBy_0 4 rfl rfl)
theorem dX12_singsBy_5 : decode cX12_singsBy 5 = .ok (.iaload, 1) := dk_46 (dk_at dksX12_singsBy_0 5 rfl rfl)
theorem dX12_singsBy_6 : decode cX12_singsBy 6 = .ok (.istore_n 3, 1) := dk_62 (dk_at dksX12_singsBy_0 6 rfl rfl)
theorem dX12_singsBy_7 : decode cX12_singsBy 7 = .ok (.iload_n 2, 1) := dk_28 (dk_at dksX12_singsBy_0 7 rfl rfl)
theorem dX12_singsBy_8 : decode cX12_singsBy 8 = .ok (.istore 4, 2) := dk_54 4 (dk_at dksX12_singsBy_0 8 rfl rfl)
theorem dX12_singsBy_10 : decode cX12_singsBy 10 = .ok (.iload_n 3, 1) := dk_29 (dk_at dksX12_singsBy_0 10 rfl rfl)
theorem dX12_singsBy_11 : decode cX12_singsBy 11 = .ok (.bipush 6, 2) := dk_16 6 (dk_at dksX12_singsBy_0 11 rfl rfl)
theorem dX12_singsBy_13 : decode cX12_singsBy 13 = .ok (.if_icmp .ne 19, 3) := dk_160 0 19 (dk_at dksX12_singsBy_0 13 rfl rfl)
theorem dX12_singsBy_16 : decode cX12_singsBy 16 = .ok (.aload_n 0, 1) := dk_42 (dk_at dksX12_singsBy_0 16 rfl rfl)
theorem dX12_singsBy_17 : decode cX12_singsBy 17 = .ok (.bipush 71, 2) := dk_16 71 (dk_at dksX12_singsBy_0 17 rfl rfl)
theorem dX12_singsBy_19 : decode cX12_singsBy 19 = .ok (.invokevirtual 293, 3) := dk_182 1 37 (dk_at dksX12_singsBy_0 19 rfl rfl)
theorem dX12_singsBy_22 : decode cX12_singsBy 22 = .ok (.iload_n 2, 1) := dk_28 (dk_at dksX12_singsBy_0 22 rfl rfl)
theorem dX12_singsBy_23 : decode cX12_singsBy 23 = .ok (.aload_n 0, 1) := dk_42 (dk_at dksX12_singsBy_0 23 rfl rfl)
theorem dX12_singsBy_24 : decode cX12_singsBy 24 = .ok (.getfield 23, 3) := dk_180 0 23 (dk_at dksX12_singsBy_1 0 rfl rfl)
theorem dX12_singsBy_27 : decode cX12_singsBy 27 = .ok (.iload_n 1, 1) := dk_27 (dk_at dksX12_singsBy_1 3 rfl rfl)
theorem dX12_singsBy_28 : decode cX12_singsBy 28 = .ok (.iaload, 1) := dk_46 (dk_at dksX12_singsBy_1 4 rfl rfl)
theorem dX12_singsBy_29 : decode cX12_singsBy 29 = .ok (.isub, 1) := dk_100 (dk_at dksX12_singsBy_1 5 rfl rfl)
theorem dX12_singsBy_30 : decode cX12_singsBy 30 = .ok (.istore 4, 2) := dk_54 4 (dk_at dksX12_singsBy_1 6 rfl rfl)
theorem dX12_singsBy_32 : decode cX12_singsBy 32 = .ok (.iload_n 3, 1) := dk_29 (dk_at dksX12_singsBy_1 8 rfl rfl)
theorem dX12_singsBy_33 : decode cX12_singsBy 33 = .ok (.iconst 3, 1) := dk_6 (dk_at dksX12_singsBy_1 9 rfl rfl)
theorem dX12_singsBy_34 : decode cX12_singsBy 34 = .ok (.if_icmp .ne 14, 3) := dk_160 0 14 (dk_at dksX12_singsBy_1 10 rfl rfl)
theorem dX12_singsBy_37 : decode cX12_singsBy 37 = .ok (.aload_n 0, 1) := dk_42 (dk_at dksX12_singsBy_1 13 rfl rfl)
theorem dX12_singsBy_38 : decode cX12_singsBy 38 = .ok (.bipush 40, 2) := dk_16 40 (dk_at dksX12_singsBy_1 14 rfl rfl)
theorem dX12_singsBy_40 : decode cX12_singsBy 40 = .ok (.invokevirtual 293, 3) := dk_182 1 37 (dk_at dksX12_singsBy_1 16 rfl rfl)
theorem dX12_singsBy_43 : decode cX12_singsBy 43 = .ok (.iload_n 2, 1) := dk_28 (dk_at dksX12_singsBy_1 19 rfl rfl)
theorem dX12_singsBy_44 : decode cX12_singsBy 44 = .ok (.iconst 1, 1) := dk_4 (dk_at dksX12_singsBy_1 20 rfl rfl)
theorem dX12_singsBy_45 : decode cX12_singsBy 45 = .ok (.iadd, 1) := dk_96 (dk_at dksX12_singsBy_1 21 rfl rfl)
theorem dX12_singsBy_46 : decode cX12_singsBy 46 = .ok (.istore 4, 2) := dk_54 4 (dk_at dksX12_singsBy_1 22 rfl rfl)
theorem dX12_singsBy_48 : decode cX12_singsBy 48 = .ok (.iload_n 3, 1) := dk_29 (dk_at dksX12_singsBy_2 0 rfl rfl)
theorem dX12_singsBy_49 : decode cX12_singsBy 49 = .ok (.iconst 2, 1) := dk_5 (dk_at dksX12_singsBy_2 1 rfl rfl)
theorem dX12_singsBy_50 : decode cX12_singsBy 50 = .ok (.if_icmp .eq 8, 3) := dk_159 0 8 (dk_at dksX12_singsBy_2 2 rfl rfl)
theorem dX12_singsBy_53 : decode cX12_singsBy 53 = .ok (.iload_n 3, 1) := dk_29 (dk_at dksX12_singsBy_2 5 rfl rfl)
theorem dX12_singsBy_54 : decode cX12_singsBy 54 = .ok (.iconst 5, 1) := dk_8 (dk_at dksX12_singsBy_2 6 rfl rfl)
theorem dX12_singsBy_55 : decode cX12_singsBy 55 = .ok (.if_icmp .ne 9, 3) := dk_160 0 9 (dk_at dksX12_singsBy_2 7 rfl rfl)
theorem dX12_singsBy_58 : decode cX12_singsBy 58 = .ok (.aload_n 0, 1) := dk_42 (dk_at dksX12_singsBy_2 10 rfl rfl)
theorem dX12_singsBy_59 : decode cX12_singsBy 59 = .ok (.bipush 30, 2) := dk_16 30 (dk_at dksX12_singsBy_2 11 rfl rfl)
theorem dX12_singsBy_61 : decode cX12_singsBy 61 = .ok (.invokevirtual 293, 3) := dk_182 1 37 (dk_at dksX12_singsBy_2 13 rfl rfl)
theorem dX12_singsBy_64 : decode cX12_singsBy 64 = .ok (.aload_n 0, 1) := dk_42 (dk_at dksX12_singsBy_2 16 rfl rfl)
theorem dX12_singsBy_65 : decode cX12_singsBy 65 = .ok (.bipush 11, 2) := dk_16 11 (dk_at dksX12_singsBy_2 17 rfl rfl)
theorem dX12_singsBy_67 : decode cX12_singsBy 67 = .ok (.invokevirtual 293, 3) := dk_182 1 37 (dk_at dksX12_singsBy_2 19 rfl rfl)
theorem dX12_singsBy_70 : decode cX12_singsBy 70 = .ok (.aload_n 0, 1) := dk_42 (dk_at dksX12_singsBy_2 22 rfl rfl)
theorem dX12_singsBy_71 : decode cX12_singsBy 71 = .ok (.iload_n 1, 1) := dk_27 (dk_at dksX12_singsBy_2 23 rfl rfl)
theorem dX12_singsBy_72 : decode cX12_singsBy 72 = .ok (.iload 4, 2) := dk_21 4 (dk_at dksX12_singsBy_3 0 rfl rfl)
theorem dX12_singsBy_74 : decode cX12_singsBy 74 = .ok (.invokevirtual 296, 3) := dk_182 1 40 (dk_at dksX12_singsBy_3 2 rfl rfl)
theorem dX12_singsBy_77 : decode cX12_singsBy 77 = .ok (.iconst 2, 1) := dk_5 (dk_at dksX12_singsBy_3 5 rfl rfl)
theorem dX12_singsBy_78 : decode cX12_singsBy 78 = .ok (.imul, 1) := dk_104 (dk_at dksX12_singsBy_3 6 rfl rfl)
theorem dX12_singsBy_79 : decode cX12_singsBy 79 = .ok (.istore 5, 2) := dk_54 5 (dk_at dksX12_singsBy_3 7 rfl rfl)
theorem dX12_singsBy_81 : decode cX12_singsBy 81 = .ok (.iload_n 3, 1) := dk_29 (dk_at dksX12_singsBy_3 9 rfl rfl)
theorem dX12_singsBy_82 : decode cX12_singsBy 82 = .ok (.iconst 2, 1) := dk_5 (dk_at dksX12_singsBy_3 10 rfl rfl)
theorem dX12_singsBy_83 : decode cX12_singsBy 83 = .ok (.if_icmp .eq 8, 3) := dk_159 0 8 (dk_at dksX12_singsBy_3 11 rfl rfl)
theorem dX12_singsBy_86 : decode cX12_singsBy 86 = .ok (.iload_n 3, 1) := dk_29 (dk_at dksX12_singsBy_3 14 rfl rfl)
theorem dX12_singsBy_87 : decode cX12_singsBy 87 = .ok (.iconst 5, 1) := dk_8 (dk_at dksX12_singsBy_3 15 rfl rfl)
theorem dX12_singsBy_88 : decode cX12_singsBy 88 = .ok (.if_icmp .ne 10, 3) := dk_160 0 10 (dk_at dksX12_singsBy_3 16 rfl rfl)
theorem dX12_singsBy_91 : decode cX12_singsBy 91 = .ok (.iload 5, 2) := dk_21 5 (dk_at dksX12_singsBy_3 19 rfl rfl)
theorem dX12_singsBy_93 : decode cX12_singsBy 93 = .ok (.iconst 3, 1) := dk_6 (dk_at dksX12_singsBy_3 21 rfl rfl)
theorem dX12_singsBy_94 : decode cX12_singsBy 94 = .ok (.imul, 1) := dk_104 (dk_at dksX12_singsBy_3 22 rfl rfl)
theorem dX12_singsBy_95 : decode cX12_singsBy 95 = .ok (.goto 5, 3) := dk_167 0 5 (dk_at dksX12_singsBy_4 0 rfl rfl)
theorem dX12_singsBy_98 : decode cX12_singsBy 98 = .ok (.iload 5, 2) := dk_21 5 (dk_at dksX12_singsBy_4 3 rfl rfl)
theorem dX12_singsBy_100 : decode cX12_singsBy 100 = .ok (.ireturn, 1) := dk_172 (dk_at dksX12_singsBy_4 5 rfl rfl)
abbrev cX12_sitsBy : ByteArray := prog_22_method_88_code
def yX12_sitsBy : MethodName := ⟨RX12, "sitsBy", "(II)I"⟩
def dkwX12_sitsBy_4 : List UInt8 := [167, 0, 5, 21, 5, 172]
abbrev dktX12_sitsBy_4 : List UInt8 := dkwX12_sitsBy_4 ++ []
def dkwX12_sitsBy_3 : List UInt8 := [159, 0, 9, 29, 16, 6, 160, 0, 9, 21, 5, 116, 167, 0, 17, 29, 8, 160, 0, 10, 21, 5, 8, 130]
abbrev dktX12_sitsBy_3 : List UInt8 := dkwX12_sitsBy_3 ++ dktX12_sitsBy_4
def dkwX12_sitsBy_2 : List UInt8 := [54, 4, 21, 4, 42, 27, 28, 42, 180, 0, 23, 27, 46, 100, 182, 1, 40, 130, 54, 5, 29, 7]
abbrev dktX12_sitsBy_2 : List UInt8 := dkwX12_sitsBy_2 ++ dktX12_sitsBy_3
def dkwX12_sitsBy_1 : List UInt8 := [29, 8, 160, 0, 9, 42, 16, 60, 182, 1, 37, 42, 16, 12, 182, 1, 37, 42, 27, 28, 182, 1, 43]
abbrev dktX12_sitsBy_1 : List UInt8 := dkwX12_sitsBy_1 ++ dktX12_sitsBy_2
def dkwX12_sitsBy_0 : List UInt8 := [42, 180, 0, 20, 27, 46, 62, 29, 7, 159, 0, 9, 29, 16, 6, 160, 0, 9, 42, 16, 50, 182, 1, 37]
abbrev dktX12_sitsBy_0 : List UInt8 := dkwX12_sitsBy_0 ++ dktX12_sitsBy_1
theorem dksX12_sitsBy_0 : cX12_sitsBy.data.toList.drop 0 = dktX12_sitsBy_0 := by decide +kernel
theorem dksX12_sitsBy_1 : cX12_sitsBy.data.toList.drop 24 = dktX12_sitsBy_1 := dk_seg dksX12_sitsBy_0 24 rfl rfl
theorem dksX12_sitsBy_2 : cX12_sitsBy.data.toList.drop 47 = dktX12_sitsBy_2 := dk_seg dksX12_sitsBy_1 23 rfl rfl
theorem dksX12_sitsBy_3 : cX12_sitsBy.data.toList.drop 69 = dktX12_sitsBy_3 := dk_seg dksX12_sitsBy_2 22 rfl rfl
theorem dksX12_sitsBy_4 : cX12_sitsBy.data.toList.drop 93 = dktX12_sitsBy_4 := dk_seg dksX12_sitsBy_3 24 rfl rfl
theorem dX12_sitsBy_0 : decode cX12_sitsBy 0 = .ok (.aload_n 0, 1) := dk_42 (dk_at dksX12_sitsBy_0 0 rfl rfl)
theorem dX12_sitsBy_1 : decode cX12_sitsBy 1 = .ok (.getfield 20, 3) := dk_180 0 20 (dk_at dksX12_sitsBy_0 1 rfl rfl)
theorem dX12_sitsBy_4 : decode cX12_sitsBy 4 = .ok (.iload_n 1, 1) := dk_27 (dk_at dksX12_sitsBy_0 4 rfl rfl)
theorem dX12_sitsBy_5 : decode cX12_sitsBy 5 = .ok (.iaload, 1) := dk_46 (dk_at dksX12_sitsBy_0 5 rfl rfl)
theorem dX12_sitsBy_6 : decode cX12_sitsBy 6 = .ok (.istore_n 3, 1) := dk_62 (dk_at dksX12_sitsBy_0 6 rfl rfl)
theorem dX12_sitsBy_7 : decode cX12_sitsBy 7 = .ok (.iload_n 3, 1) := dk_29 (dk_at dksX12_sitsBy_0 7 rfl rfl)
theorem dX12_sitsBy_8 : decode cX12_sitsBy 8 = .ok (.iconst 4, 1) := dk_7 (dk_at dksX12_sitsBy_0 8 rfl rfl)
theorem dX12_sitsBy_9 : decode cX12_sitsBy 9 = .ok (.if_icmp .eq 9, 3) := dk_159 0 9 (dk_at dksX12_sitsBy_0 9 rfl rfl)
theorem dX12_sitsBy_12 : decode cX12_sitsBy 12 = .ok (.iload_n 3, 1) := dk_29 (dk_at dksX12_sitsBy_0 12 rfl rfl)
theorem dX12_sitsBy_13 : decode cX12_sitsBy 13 = .ok (.bipush 6, 2) := dk_16 6 (dk_at dksX12_sitsBy_0 13 rfl rfl)
theorem dX12_sitsBy_15 : decode cX12_sitsBy 15 = .ok (.if_icmp .ne 9, 3) := dk_160 0 9 (dk_at dksX12_sitsBy_0 15 rfl rfl)
theorem dX12_sitsBy_18 : decode cX12_sitsBy 18 = .ok (.aload_n 0, 1) := dk_42 (dk_at dksX12_sitsBy_0 18 rfl rfl)
theorem dX12_sitsBy_19 : decode cX12_sitsBy 19 = .ok (.bipush 50, 2) := dk_16 50 (dk_at dksX12_sitsBy_0 19 rfl rfl)
theorem dX12_sitsBy_21 : decode cX12_sitsBy 21 = .ok (.invokevirtual 293, 3) := dk_182 1 37 (dk_at dksX12_sitsBy_0 21 rfl rfl)
theorem dX12_sitsBy_24 : decode cX12_sitsBy 24 = .ok (.iload_n 3, 1) := dk_29 (dk_at dksX12_sitsBy_1 0 rfl rfl)
theorem dX12_sitsBy_25 : decode cX12_sitsBy 25 = .ok (.iconst 5, 1) := dk_8 (dk_at dksX12_sitsBy_1 1 rfl rfl)
theorem dX12_sitsBy_26 : decode cX12_sitsBy 26 = .ok (.if_icmp .ne 9, 3) := dk_160 0 9 (dk_at dksX12_sitsBy_1 2 rfl rfl)
theorem dX12_sitsBy_29 : decode cX12_sitsBy 29 = .ok (.aload_n 0, 1) := dk_42 (dk_at dksX12_sitsBy_1 5 rfl rfl)
theorem dX12_sitsBy_30 : decode cX12_sitsBy 30 = .ok (.bipush 60, 2) := dk_16 60 (dk_at dksX12_sitsBy_1 6 rfl rfl)
theorem dX12_sitsBy_32 : decode cX12_sitsBy 32 = .ok (.invokevirtual 293, 3) := dk_182 1 37 (dk_at dksX12_sitsBy_1 8 rfl rfl)
theorem dX12_sitsBy_35 : decode cX12_sitsBy 35 = .ok (.aload_n 0, 1) := dk_42 (dk_at dksX12_sitsBy_1 11 rfl rfl)
theorem dX12_sitsBy_36 : decode cX12_sitsBy 36 = .ok (.bipush 12, 2) := dk_16 12 (dk_at dksX12_sitsBy_1 12 rfl rfl)
theorem dX12_sitsBy_38 : decode cX12_sitsBy 38 = .ok (.invokevirtual 293, 3) := dk_182 1 37 (dk_at dksX12_sitsBy_1 14 rfl rfl)
theorem dX12_sitsBy_41 : decode cX12_sitsBy 41 = .ok (.aload_n 0, 1) := dk_42 (dk_at dksX12_sitsBy_1 17 rfl rfl)
theorem dX12_sitsBy_42 : decode cX12_sitsBy 42 = .ok (.iload_n 1, 1) := dk_27 (dk_at dksX12_sitsBy_1 18 rfl rfl)
theorem dX12_sitsBy_43 : decode cX12_sitsBy 43 = .ok (.iload_n 2, 1) := dk_28 (dk_at dksX12_sitsBy_1 19 rfl rfl)
theorem dX12_sitsBy_44 : decode cX12_sitsBy 44 = .ok (.invokevirtual 299, 3) := dk_182 1 43 (dk_at dksX12_sitsBy_1 20 rfl rfl)
theorem dX12_sitsBy_47 : decode cX12_sitsBy 47 = .ok (.istore 4, 2) := dk_54 4 (dk_at dksX12_sitsBy_2 0 rfl rfl)
theorem dX12_sitsBy_49 : decode cX12_sitsBy 49 = .ok (.iload 4, 2) := dk_21 4 (dk_at dksX12_sitsBy_2 2 rfl rfl)
theorem dX12_sitsBy_51 : decode cX12_sitsBy 51 = .ok (.aload_n 0, 1) := dk_42 (dk_at dksX12_sitsBy_2 4 rfl rfl)
theorem dX12_sitsBy_52 : decode cX12_sitsBy 52 = .ok (.iload_n 1, 1) := dk_27 (dk_at dksX12_sitsBy_2 5 rfl rfl)
theorem dX12_sitsBy_53 : decode cX12_sitsBy 53 = .ok (.iload_n 2, 1) := dk_28 (dk_at dksX12_sitsBy_2 6 rfl rfl)
theorem dX12_sitsBy_54 : decode cX12_sitsBy 54 = .ok (.aload_n 0, 1) := dk_42 (dk_at dksX12_sitsBy_2 7 rfl rfl)
theorem dX12_sitsBy_55 : decode cX12_sitsBy 55 = .ok (.getfield 23, 3) := dk_180 0 23 (dk_at dksX12_sitsBy_2 8 rfl rfl)
theorem dX12_sitsBy_58 : decode cX12_sitsBy 58 = .ok (.iload_n 1, 1) := dk_27 (dk_at dksX12_sitsBy_2 11 rfl rfl)
theorem dX12_sitsBy_59 : decode cX12_sitsBy 59 = .ok (.iaload, 1) := dk_46 (dk_at dksX12_sitsBy_2 12 rfl rfl)
theorem dX12_sitsBy_60 : decode cX12_sitsBy 60 = .ok (.isub, 1) := dk_100 (dk_at dksX12_sitsBy_2 13 rfl rfl)
theorem dX12_sitsBy_61 : decode cX12_sitsBy 61 = .ok (.invokevirtual 296, 3) := dk_182 1 40 (dk_at dksX12_sitsBy_2 14 rfl rfl)
theorem dX12_sitsBy_64 : decode cX12_sitsBy 64 = .ok (.ixor, 1) := dk_130 (dk_at dksX12_sitsBy_2 17 rfl rfl)
theorem dX12_sitsBy_65 : decode cX12_sitsBy 65 = .ok (.istore 5, 2) := dk_54 5 (dk_at dksX12_sitsBy_2 18 rfl rfl)
theorem dX12_sitsBy_67 : decode cX12_sitsBy 67 = .ok (.iload_n 3, 1) := dk_29 (dk_at dksX12_sitsBy_2 20 rfl rfl)
theorem dX12_sitsBy_68 : decode cX12_sitsBy 68 = .ok (.iconst 4, 1) := dk_7 (dk_at dksX12_sitsBy_2 21 rfl rfl)
theorem dX12_sitsBy_69 : decode cX12_sitsBy 69 = .ok (.if_icmp .eq 9, 3) := dk_159 0 9 (dk_at dksX12_sitsBy_3 0 rfl rfl)
theorem dX12_sitsBy_72 : decode cX12_sitsBy 72 = .ok (.iload_n 3, 1) := dk_29 (dk_at dksX12_sitsBy_3 3 rfl rfl)
theorem dX12_sitsBy_73 : decode cX12_sitsBy 73 = .ok (.bipush 6, 2) := dk_16 6 (dk_at dksX12_sitsBy_3 4 rfl rfl)
theorem dX12_sitsBy_75 : decode cX12_sitsBy 75 = .ok (.if_icmp .ne 9, 3) := dk_160 0 9 (dk_at dksX12_sitsBy_3 6 rfl rfl)
theorem dX12_sitsBy_78 : decode cX12_sitsBy 78 = .ok (.iload 5, 2) := dk_21 5 (dk_at dksX12_sitsBy_3 9 rfl rfl)
theorem dX12_sitsBy_80 : decode cX12_sitsBy 80 = .ok (.ineg, 1) := dk_116 (dk_at dksX12_sitsBy_3 11 rfl rfl)
theorem dX12_sitsBy_81 : decode cX12_sitsBy 81 = .ok (.goto 17, 3) := dk_167 0 17 (dk_at dksX12_sitsBy_3 12 rfl rfl)
theorem dX12_sitsBy_84 : decode cX12_sitsBy 84 = .ok (.iload_n 3, 1) := dk_29 (dk_at dksX12_sitsBy_3 15 rfl rfl)
theorem dX12_sitsBy_85 : decode cX12_sitsBy 85 = .ok (.iconst 5, 1) := dk_8 (dk_at dksX12_sitsBy_3 16 rfl rfl)
theorem dX12_sitsBy_86 : decode cX12_sitsBy 86 = .ok (.if_icmp .ne 10, 3) := dk_160 0 10 (dk_at dksX12_sitsBy_3 17 rfl rfl)
theorem dX12_sitsBy_89 : decode cX12_sitsBy 89 = .ok (.iload 5, 2) := dk_21 5 (dk_at dksX12_sitsBy_3 20 rfl rfl)
theorem dX12_sitsBy_91 : decode cX12_sitsBy 91 = .ok (.iconst 5, 1) := dk_8 (dk_at dksX12_sitsBy_3 22 rfl rfl)
theorem dX12_sitsBy_92 : decode cX12_sitsBy 92 = .ok (.ixor, 1) := dk_130 (dk_at dksX12_sitsBy_3 23 rfl rfl)
theorem dX12_sitsBy_93 : decode cX12_sitsBy 93 = .ok (.goto 5, 3) := dk_167 0 5 (dk_at dksX12_sitsBy_4 0 rfl rfl)
theorem dX12_sitsBy_96 : decode cX12_sitsBy 96 = .ok (.iload 5, 2) := dk_21 5 (dk_at dksX12_sitsBy_4 3 rfl rfl)
theorem dX12_sitsBy_98 : decode cX12_sitsBy 98 = .ok (.ireturn, 1) := dk_172 (dk_at dksX12_sitsBy_4 5 rfl rfl)
abbrev cX12_trace : ByteArray := prog_22_method_90_code
def yX12_trace : MethodName := ⟨RX12, "trace", "(I)I"⟩
def dkwX12_trace_1 : List UInt8 := [167, 0, 4, 2, 172]
abbrev dktX12_trace_1 : List UInt8 := dkwX12_trace_1 ++ []
def dkwX12_trace_0 : List UInt8 := [27, 155, 0, 26, 27, 42, 180, 1, 34, 162, 0, 18, 27, 16, 20, 162, 0, 12, 42, 180, 0, 44, 27, 46]
abbrev dktX12_trace_0 : List UInt8 := dkwX12_trace_0 ++ dktX12_trace_1
theorem dksX12_trace_0 : cX12_trace.data.toList.drop 0 = dktX12_trace_0 := by decide +kernel
theorem dksX12_trace_1 : cX12_trace.data.toList.drop 24 = dktX12_trace_1 := dk_seg dksX12_trace_0 24 rfl rfl
theorem dX12_trace_0 : decode cX12_trace 0 = .ok (.iload_n 1, 1) := dk_27 (dk_at dksX12_trace_0 0 rfl rfl)
theorem dX12_trace_1 : decode cX12_trace 1 = .ok (.ifCond .lt 26, 3) := dk_155 0 26 (dk_at dksX12_trace_0 1 rfl rfl)
theorem dX12_trace_4 : decode cX12_trace 4 = .ok (.iload_n 1, 1) := dk_27 (dk_at dksX12_trace_0 4 rfl rfl)
theorem dX12_trace_5 : decode cX12_trace 5 = .ok (.aload_n 0, 1) := dk_42 (dk_at dksX12_trace_0 5 rfl rfl)
theorem dX12_trace_6 : decode cX12_trace 6 = .ok (.getfield 290, 3) := dk_180 1 34 (dk_at dksX12_trace_0 6 rfl rfl)
theorem dX12_trace_9 : decode cX12_trace 9 = .ok (.if_icmp .ge 18, 3) := dk_162 0 18 (dk_at dksX12_trace_0 9 rfl rfl)
theorem dX12_trace_12 : decode cX12_trace 12 = .ok (.iload_n 1, 1) := dk_27 (dk_at dksX12_trace_0 12 rfl rfl)
theorem dX12_trace_13 : decode cX12_trace 13 = .ok (.bipush 20, 2) := dk_16 20 (dk_at dksX12_trace_0 13 rfl rfl)
theorem dX12_trace_15 : decode cX12_trace 15 = .ok (.if_icmp .ge 12, 3) := dk_162 0 12 (dk_at dksX12_trace_0 15 rfl rfl)
theorem dX12_trace_18 : decode cX12_trace 18 = .ok (.aload_n 0, 1) := dk_42 (dk_at dksX12_trace_0 18 rfl rfl)
theorem dX12_trace_19 : decode cX12_trace 19 = .ok (.getfield 44, 3) := dk_180 0 44 (dk_at dksX12_trace_0 19 rfl rfl)
theorem dX12_trace_22 : decode cX12_trace 22 = .ok (.iload_n 1, 1) := dk_27 (dk_at dksX12_trace_0 22 rfl rfl)
theorem dX12_trace_23 : decode cX12_trace 23 = .ok (.iaload, 1) := dk_46 (dk_at dksX12_trace_0 23 rfl rfl)
theorem dX12_trace_24 : decode cX12_trace 24 = .ok (.goto 4, 3) := dk_167 0 4 (dk_at dksX12_trace_1 0 rfl rfl)
theorem dX12_trace_27 : decode cX12_trace 27 = .ok (.iconst (-1), 1) := dk_2 (dk_at dksX12_trace_1 3 rfl rfl)
theorem dX12_trace_28 : decode cX12_trace 28 = .ok (.ireturn, 1) := dk_172 (dk_at dksX12_trace_1 4 rfl rfl)
abbrev cX12_image : ByteArray := prog_22_method_93_code
def yX12_image : MethodName := ⟨RX12, "image", "()I"⟩
def dkwX12_image_0 : List UInt8 := [42, 4, 181, 1, 49, 42, 42, 180, 0, 50, 182, 0, 176, 42, 180, 0, 82, 172]
abbrev dktX12_image_0 : List UInt8 := dkwX12_image_0 ++ []
theorem dksX12_image_0 : cX12_image.data.toList.drop 0 = dktX12_image_0 := by decide +kernel
theorem dX12_image_0 : decode cX12_image 0 = .ok (.aload_n 0, 1) := dk_42 (dk_at dksX12_image_0 0 rfl rfl)
theorem dX12_image_1 : decode cX12_image 1 = .ok (.iconst 1, 1) := dk_4 (dk_at dksX12_image_0 1 rfl rfl)
theorem dX12_image_2 : decode cX12_image 2 = .ok (.putfield 305, 3) := dk_181 1 49 (dk_at dksX12_image_0 2 rfl rfl)
theorem dX12_image_5 : decode cX12_image 5 = .ok (.aload_n 0, 1) := dk_42 (dk_at dksX12_image_0 5 rfl rfl)
theorem dX12_image_6 : decode cX12_image 6 = .ok (.aload_n 0, 1) := dk_42 (dk_at dksX12_image_0 6 rfl rfl)
theorem dX12_image_7 : decode cX12_image 7 = .ok (.getfield 50, 3) := dk_180 0 50 (dk_at dksX12_image_0 7 rfl rfl)
theorem dX12_image_10 : decode cX12_image 10 = .ok (.invokevirtual 176, 3) := dk_182 0 176 (dk_at dksX12_image_0 10 rfl rfl)
theorem dX12_image_13 : decode cX12_image 13 = .ok (.aload_n 0, 1) := dk_42 (dk_at dksX12_image_0 13 rfl rfl)
theorem dX12_image_14 : decode cX12_image 14 = .ok (.getfield 82, 3) := dk_180 0 82 (dk_at dksX12_image_0 14 rfl rfl)
theorem dX12_image_17 : decode cX12_image 17 = .ok (.ireturn, 1) := dk_172 (dk_at dksX12_image_0 17 rfl rfl)
abbrev cX12_restore : ByteArray := prog_22_method_94_code
def yX12_restore : MethodName := ⟨RX12, "restore", "()I"⟩
def dkwX12_restore_2 : List UInt8 := [161, 0, 10, 42, 180, 0, 7, 27, 2, 79, 132, 1, 1, 167, 255, 219, 42, 180, 0, 82, 172]
abbrev dktX12_restore_2 : List UInt8 := dkwX12_restore_2 ++ []
def dkwX12_restore_1 : List UInt8 := [27, 16, 8, 162, 0, 37, 42, 27, 182, 0, 96, 154, 0, 23, 42, 180, 0, 7, 27, 46, 42, 180, 0, 82]
abbrev dktX12_restore_1 : List UInt8 := dkwX12_restore_1 ++ dktX12_restore_2
def dkwX12_restore_0 : List UInt8 := [42, 180, 1, 49, 154, 0, 10, 42, 16, 250, 182, 0, 78, 172, 42, 42, 180, 0, 50, 182, 0, 184, 3, 60]
abbrev dktX12_restore_0 : List UInt8 := dkwX12_restore_0 ++ dktX12_restore_1
theorem dksX12_restore_0 : cX12_restore.data.toList.drop 0 = dktX12_restore_0 := by decide +kernel
theorem dksX12_restore_1 : cX12_restore.data.toList.drop 24 = dktX12_restore_1 := dk_seg dksX12_restore_0 24 rfl rfl
theorem dksX12_restore_2 : cX12_restore.data.toList.drop 48 = dktX12_restore_2 := dk_seg dksX12_restore_1 24 rfl rfl
theorem dX12_restore_0 : decode cX12_restore 0 = .ok (.aload_n 0, 1) := dk_42 (dk_at dksX12_restore_0 0 rfl rfl)
theorem dX12_restore_1 : decode cX12_restore 1 = .ok (.getfield 305, 3) := dk_180 1 49 (dk_at dksX12_restore_0 1 rfl rfl)
theorem dX12_restore_4 : decode cX12_restore 4 = .ok (.ifCond .ne 10, 3) := dk_154 0 10 (dk_at dksX12_restore_0 4 rfl rfl)
theorem dX12_restore_7 : decode cX12_restore 7 = .ok (.aload_n 0, 1) := dk_42 (dk_at dksX12_restore_0 7 rfl rfl)
theorem dX12_restore_8 : decode cX12_restore 8 = .ok (.bipush (-6), 2) := dk_16 250 (dk_at dksX12_restore_0 8 rfl rfl)
theorem dX12_restore_10 : decode cX12_restore 10 = .ok (.invokevirtual 78, 3) := dk_182 0 78 (dk_at dksX12_restore_0 10 rfl rfl)
theorem dX12_restore_13 : decode cX12_restore 13 = .ok (.ireturn, 1) := dk_172 (dk_at dksX12_restore_0 13 rfl rfl)
theorem dX12_restore_14 : decode cX12_restore 14 = .ok (.aload_n 0, 1) := dk_42 (dk_at dksX12_restore_0 14 rfl rfl)
theorem dX12_restore_15 : decode cX12_restore 15 = .ok (.aload_n 0, 1) := dk_42 (dk_at dksX12_restore_0 15 rfl rfl)
theorem dX12_restore_16 : decode cX12_restore 16 = .ok (.getfield 50, 3) := dk_180 0 50 (dk_at dksX12_restore_0 16 rfl rfl)
theorem dX12_restore_19 : decode cX12_restore 19 = .ok (.invokevirtual 184, 3) := dk_182 0 184 (dk_at dksX12_restore_0 19 rfl rfl)
theorem dX12_restore_22 : decode cX12_restore 22 = .ok (.iconst 0, 1) := dk_3 (dk_at dksX12_restore_0 22 rfl rfl)
theorem dX12_restore_23 : decode cX12_restore 23 = .ok (.istore_n 1, 1) := dk_60 (dk_at dksX12_restore_0 23 rfl rfl)
theorem dX12_restore_24 : decode cX12_restore 24 = .ok (.iload_n 1, 1) := dk_27 (dk_at dksX12_restore_1 0 rfl rfl)
theorem dX12_restore_25 : decode cX12_restore 25 = .ok (.bipush 8, 2) := dk_16 8 (dk_at dksX12_restore_1 1 rfl rfl)
theorem dX12_restore_27 : decode cX12_restore 27 = .ok (.if_icmp .ge 37, 3) := dk_162 0 37 (dk_at dksX12_restore_1 3 rfl rfl)
theorem dX12_restore_30 : decode cX12_restore 30 = .ok (.aload_n 0, 1) := dk_42 (dk_at dksX12_restore_1 6 rfl rfl)
theorem dX12_restore_31 : decode cX12_restore 31 = .ok (.iload_n 1, 1) := dk_27 (dk_at dksX12_restore_1 7 rfl rfl)
theorem dX12_restore_32 : decode cX12_restore 32 = .ok (.invokevirtual 96, 3) := dk_182 0 96 (dk_at dksX12_restore_1 8 rfl rfl)
theorem dX12_restore_35 : decode cX12_restore 35 = .ok (.ifCond .ne 23, 3) := dk_154 0 23 (dk_at dksX12_restore_1 11 rfl rfl)
theorem dX12_restore_38 : decode cX12_restore 38 = .ok (.aload_n 0, 1) := dk_42 (dk_at dksX12_restore_1 14 rfl rfl)
theorem dX12_restore_39 : decode cX12_restore 39 = .ok (.getfield 7, 3) := dk_180 0 7 (dk_at dksX12_restore_1 15 rfl rfl)
theorem dX12_restore_42 : decode cX12_restore 42 = .ok (.iload_n 1, 1) := dk_27 (dk_at dksX12_restore_1 18 rfl rfl)
theorem dX12_restore_43 : decode cX12_restore 43 = .ok (.iaload, 1) := dk_46 (dk_at dksX12_restore_1 19 rfl rfl)
theorem dX12_restore_44 : decode cX12_restore 44 = .ok (.aload_n 0, 1) := dk_42 (dk_at dksX12_restore_1 20 rfl rfl)
theorem dX12_restore_45 : decode cX12_restore 45 = .ok (.getfield 82, 3) := dk_180 0 82 (dk_at dksX12_restore_1 21 rfl rfl)
theorem dX12_restore_48 : decode cX12_restore 48 = .ok (.if_icmp .lt 10, 3) := dk_161 0 10 (dk_at dksX12_restore_2 0 rfl rfl)
theorem dX12_restore_51 : decode cX12_restore 51 = .ok (.aload_n 0, 1) := dk_42 (dk_at dksX12_restore_2 3 rfl rfl)
theorem dX12_restore_52 : decode cX12_restore 52 = .ok (.getfield 7, 3) := dk_180 0 7 (dk_at dksX12_restore_2 4 rfl rfl)
theorem dX12_restore_55 : decode cX12_restore 55 = .ok (.iload_n 1, 1) := dk_27 (dk_at dksX12_restore_2 7 rfl rfl)
theorem dX12_restore_56 : decode cX12_restore 56 = .ok (.iconst (-1), 1) := dk_2 (dk_at dksX12_restore_2 8 rfl rfl)
theorem dX12_restore_57 : decode cX12_restore 57 = .ok (.iastore, 1) := dk_79 (dk_at dksX12_restore_2 9 rfl rfl)
theorem dX12_restore_58 : decode cX12_restore 58 = .ok (.iinc 1 1, 3) := dk_132 1 1 (dk_at dksX12_restore_2 10 rfl rfl)
theorem dX12_restore_61 : decode cX12_restore 61 = .ok (.goto (-37), 3) := dk_167 255 219 (dk_at dksX12_restore_2 13 rfl rfl)
theorem dX12_restore_64 : decode cX12_restore 64 = .ok (.aload_n 0, 1) := dk_42 (dk_at dksX12_restore_2 16 rfl rfl)
theorem dX12_restore_65 : decode cX12_restore 65 = .ok (.getfield 82, 3) := dk_180 0 82 (dk_at dksX12_restore_2 17 rfl rfl)
theorem dX12_restore_68 : decode cX12_restore 68 = .ok (.ireturn, 1) := dk_172 (dk_at dksX12_restore_2 20 rfl rfl)
abbrev cX12_status : ByteArray := prog_22_method_95_code
def yX12_status : MethodName := ⟨RX12, "status", "(I)I"⟩
def dkwX12_status_4 : List UInt8 := [184, 0, 85, 153, 0, 15, 42, 180, 0, 47, 27, 16, 10, 100, 46, 167, 0, 4, 2, 172]
abbrev dktX12_status_4 : List UInt8 := dkwX12_status_4 ++ []
def dkwX12_status_3 : List UInt8 := [172, 16, 24, 42, 180, 0, 82, 100, 172, 42, 180, 0, 69, 172, 42, 180, 1, 34, 172, 27, 16, 11, 16, 17]
abbrev dktX12_status_3 : List UInt8 := dkwX12_status_3 ++ dktX12_status_4
def dkwX12_status_2 : List UInt8 := [42, 180, 0, 82, 172, 42, 180, 0, 89, 172, 42, 180, 1, 24, 172, 42, 180, 0, 65, 172, 42, 182, 1, 15]
abbrev dktX12_status_2 : List UInt8 := dkwX12_status_2 ++ dktX12_status_3
def dkwX12_status_1 : List UInt8 := [170, 0, 0, 0, 0, 0, 90, 0, 0, 0, 0, 0, 0, 0, 7, 0, 0, 0, 47, 0, 0, 0, 52, 0, 0, 0, 57, 0, 0, 0, 62, 0, 0, 0, 67, 0, 0, 0, 72, 0, 0, 0, 80, 0, 0, 0, 85]
abbrev dktX12_status_1 : List UInt8 := dkwX12_status_1 ++ dktX12_status_2
def dkwX12_status_0 : List UInt8 := [27]
abbrev dktX12_status_0 : List UInt8 := dkwX12_status_0 ++ dktX12_status_1
theorem dksX12_status_0 : cX12_status.data.toList.drop 0 = dktX12_status_0 := by decide +kernel
theorem dksX12_status_1 : cX12_status.data.toList.drop 1 = dktX12_status_1 := dk_seg dksX12_status_0 1 rfl rfl
theorem dksX12_status_2 : cX12_status.data.toList.drop 48 = dktX12_status_2 := dk_seg dksX12_status_1 47 rfl rfl
theorem dksX12_status_3 : cX12_status.data.toList.drop 72 = dktX12_status_3 := dk_seg dksX12_status_2 24 rfl rfl
theorem dksX12_status_4 : cX12_status.data.toList.drop 96 = dktX12_status_4 := dk_seg dksX12_status_3 24 rfl rfl
theorem dX12_status_0 : decode cX12_status 0 = .ok (.iload_n 1, 1) := dk_27 (dk_at dksX12_status_0 0 rfl rfl)
theorem dX12_status_1 : decode cX12_status 1 = .ok (.tableswitch 90 0 7 #[47, 52, 57, 62, 67, 72, 80, 85], 47) := by decide +kernel
theorem dX12_status_48 : decode cX12_status 48 = .ok (.aload_n 0, 1) := dk_42 (dk_at dksX12_status_2 0 rfl rfl)
theorem dX12_status_49 : decode cX12_status 49 = .ok (.getfield 82, 3) := dk_180 0 82 (dk_at dksX12_status_2 1 rfl rfl)
theorem dX12_status_52 : decode cX12_status 52 = .ok (.ireturn, 1) := dk_172 (dk_at dksX12_status_2 4 rfl rfl)
theorem dX12_status_53 : decode cX12_status 53 = .ok (.aload_n 0, 1) := dk_42 (dk_at dksX12_status_2 5 rfl rfl)
theorem dX12_status_54 : decode cX12_status 54 = .ok (.getfield 89, 3) := dk_180 0 89 (dk_at dksX12_status_2 6 rfl rfl)
theorem dX12_status_57 : decode cX12_status 57 = .ok (.ireturn, 1) := dk_172 (dk_at dksX12_status_2 9 rfl rfl)
theorem dX12_status_58 : decode cX12_status 58 = .ok (.aload_n 0, 1) := dk_42 (dk_at dksX12_status_2 10 rfl rfl)
theorem dX12_status_59 : decode cX12_status 59 = .ok (.getfield 280, 3) := dk_180 1 24 (dk_at dksX12_status_2 11 rfl rfl)
theorem dX12_status_62 : decode cX12_status 62 = .ok (.ireturn, 1) := dk_172 (dk_at dksX12_status_2 14 rfl rfl)
theorem dX12_status_63 : decode cX12_status 63 = .ok (.aload_n 0, 1) := dk_42 (dk_at dksX12_status_2 15 rfl rfl)
theorem dX12_status_64 : decode cX12_status 64 = .ok (.getfield 65, 3) := dk_180 0 65 (dk_at dksX12_status_2 16 rfl rfl)
theorem dX12_status_67 : decode cX12_status 67 = .ok (.ireturn, 1) := dk_172 (dk_at dksX12_status_2 19 rfl rfl)
theorem dX12_status_68 : decode cX12_status 68 = .ok (.aload_n 0, 1) := dk_42 (dk_at dksX12_status_2 20 rfl rfl)
theorem dX12_status_69 : decode cX12_status 69 = .ok (.invokevirtual 271, 3) := dk_182 1 15 (dk_at dksX12_status_2 21 rfl rfl)
theorem dX12_status_72 : decode cX12_status 72 = .ok (.ireturn, 1) := dk_172 (dk_at dksX12_status_3 0 rfl rfl)
theorem dX12_status_73 : decode cX12_status 73 = .ok (.bipush 24, 2) := dk_16 24 (dk_at dksX12_status_3 1 rfl rfl)
theorem dX12_status_75 : decode cX12_status 75 = .ok (.aload_n 0, 1) := dk_42 (dk_at dksX12_status_3 3 rfl rfl)
theorem dX12_status_76 : decode cX12_status 76 = .ok (.getfield 82, 3) := dk_180 0 82 (dk_at dksX12_status_3 4 rfl rfl)
theorem dX12_status_79 : decode cX12_status 79 = .ok (.isub, 1) := dk_100 (dk_at dksX12_status_3 7 rfl rfl)
theorem dX12_status_80 : decode cX12_status 80 = .ok (.ireturn, 1) := dk_172 (dk_at dksX12_status_3 8 rfl rfl)
theorem dX12_status_81 : decode cX12_status 81 = .ok (.aload_n 0, 1) := dk_42 (dk_at dksX12_status_3 9 rfl rfl)
theorem dX12_status_82 : decode cX12_status 82 = .ok (.getfield 69, 3) := dk_180 0 69 (dk_at dksX12_status_3 10 rfl rfl)
theorem dX12_status_85 : decode cX12_status 85 = .ok (.ireturn, 1) := dk_172 (dk_at dksX12_status_3 13 rfl rfl)
theorem dX12_status_86 : decode cX12_status 86 = .ok (.aload_n 0, 1) := dk_42 (dk_at dksX12_status_3 14 rfl rfl)
theorem dX12_status_87 : decode cX12_status 87 = .ok (.getfield 290, 3) := dk_180 1 34 (dk_at dksX12_status_3 15 rfl rfl)
theorem dX12_status_90 : decode cX12_status 90 = .ok (.ireturn, 1) := dk_172 (dk_at dksX12_status_3 18 rfl rfl)
theorem dX12_status_91 : decode cX12_status 91 = .ok (.iload_n 1, 1) := dk_27 (dk_at dksX12_status_3 19 rfl rfl)
theorem dX12_status_92 : decode cX12_status 92 = .ok (.bipush 11, 2) := dk_16 11 (dk_at dksX12_status_3 20 rfl rfl)
theorem dX12_status_94 : decode cX12_status 94 = .ok (.bipush 17, 2) := dk_16 17 (dk_at dksX12_status_3 22 rfl rfl)
theorem dX12_status_96 : decode cX12_status 96 = .ok (.invokestatic 85, 3) := dk_184 0 85 (dk_at dksX12_status_4 0 rfl rfl)
theorem dX12_status_99 : decode cX12_status 99 = .ok (.ifCond .eq 15, 3) := dk_153 0 15 (dk_at dksX12_status_4 3 rfl rfl)
theorem dX12_status_102 : decode cX12_status 102 = .ok (.aload_n 0, 1) := dk_42 (dk_at dksX12_status_4 6 rfl rfl)
theorem dX12_status_103 : decode cX12_status 103 = .ok (.getfield 47, 3) := dk_180 0 47 (dk_at dksX12_status_4 7 rfl rfl)
theorem dX12_status_106 : decode cX12_status 106 = .ok (.iload_n 1, 1) := dk_27 (dk_at dksX12_status_4 10 rfl rfl)
theorem dX12_status_107 : decode cX12_status 107 = .ok (.bipush 10, 2) := dk_16 10 (dk_at dksX12_status_4 11 rfl rfl)
theorem dX12_status_109 : decode cX12_status 109 = .ok (.isub, 1) := dk_100 (dk_at dksX12_status_4 13 rfl rfl)
theorem dX12_status_110 : decode cX12_status 110 = .ok (.iaload, 1) := dk_46 (dk_at dksX12_status_4 14 rfl rfl)
theorem dX12_status_111 : decode cX12_status 111 = .ok (.goto 4, 3) := dk_167 0 4 (dk_at dksX12_status_4 15 rfl rfl)
theorem dX12_status_114 : decode cX12_status 114 = .ok (.iconst (-1), 1) := dk_2 (dk_at dksX12_status_4 18 rfl rfl)
theorem dX12_status_115 : decode cX12_status 115 = .ok (.ireturn, 1) := dk_172 (dk_at dksX12_status_4 19 rfl rfl)
theorem q95 : (Jvm.Cond.initialized "WhichOneAllKnowModel") ∈ lw_all := lw_g (lw_at lw_m1 13 rfl) rfl
theorem q1358 : (Jvm.Cond.instantiable "WhichOneAllKnowModel" (29 : Nat)) ∈ lw_all := lw_g (lw_at lw_m6 76 rfl) rfl
theorem q1360 : (Jvm.Cond.instanceMethod ({ cls := "WhichOneAllKnowModel", name := "<init>", desc := "()V" } : Jvm.MethodName)) ∈ lw_all := lw_g (lw_at lw_m6 78 rfl) rfl
theorem q1361 : (Jvm.Cond.code ({ cls := "WhichOneAllKnowModel", name := "<init>", desc := "()V" } : Jvm.MethodName) prog_22_method_1_code (2 : Nat) (Option.none : Option Jvm.ClassFile.FieldType)) ∈ lw_all := lw_g (lw_at lw_m6 79 rfl) rfl
theorem q1362 : (Jvm.Cond.methodLink "WhichOneAllKnowModel" (1 : Nat) ({ cls := "java/lang/Object", name := "<init>", desc := "()V" } : Jvm.MethodName)) ∈ lw_all := lw_g (lw_at lw_m6 80 rfl) rfl
theorem q1363 : (Jvm.Cond.fieldLink "WhichOneAllKnowModel" (7 : Nat) "WhichOneAllKnowModel" "holding" "[I") ∈ lw_all := lw_g (lw_at lw_m6 81 rfl) rfl
theorem q1364 : (Jvm.Cond.fieldLink "WhichOneAllKnowModel" (13 : Nat) "WhichOneAllKnowModel" "rowLength" "[I") ∈ lw_all := lw_g (lw_at lw_m6 82 rfl) rfl
theorem q1365 : (Jvm.Cond.fieldLink "WhichOneAllKnowModel" (16 : Nat) "WhichOneAllKnowModel" "rowOf" "[J") ∈ lw_all := lw_g (lw_at lw_m6 83 rfl) rfl
theorem q1366 : (Jvm.Cond.fieldLink "WhichOneAllKnowModel" (82 : Nat) "WhichOneAllKnowModel" "voices" "I") ∈ lw_all := lw_g (lw_at lw_m6 84 rfl) rfl
theorem q1367 : (Jvm.Cond.fieldLink "WhichOneAllKnowModel" (20 : Nat) "WhichOneAllKnowModel" "kind" "[I") ∈ lw_all := lw_g (lw_at lw_m6 85 rfl) rfl
theorem q1368 : (Jvm.Cond.fieldLink "WhichOneAllKnowModel" (23 : Nat) "WhichOneAllKnowModel" "a" "[I") ∈ lw_all := lw_g (lw_at lw_m6 86 rfl) rfl
theorem q1369 : (Jvm.Cond.fieldLink "WhichOneAllKnowModel" (26 : Nat) "WhichOneAllKnowModel" "place" "[I") ∈ lw_all := lw_g (lw_at lw_m6 87 rfl) rfl
theorem q1370 : (Jvm.Cond.fieldLink "WhichOneAllKnowModel" (29 : Nat) "WhichOneAllKnowModel" "bold" "[I") ∈ lw_all := lw_g (lw_at lw_m6 88 rfl) rfl
theorem q1371 : (Jvm.Cond.fieldLink "WhichOneAllKnowModel" (32 : Nat) "WhichOneAllKnowModel" "top" "[I") ∈ lw_all := lw_g (lw_at lw_m6 89 rfl) rfl
theorem q1372 : (Jvm.Cond.fieldLink "WhichOneAllKnowModel" (35 : Nat) "WhichOneAllKnowModel" "known" "[I") ∈ lw_all := lw_g (lw_at lw_m6 90 rfl) rfl
theorem q1373 : (Jvm.Cond.fieldLink "WhichOneAllKnowModel" (89 : Nat) "WhichOneAllKnowModel" "tunes" "I") ∈ lw_all := lw_g (lw_at lw_m6 91 rfl) rfl
theorem q1374 : (Jvm.Cond.fieldLink "WhichOneAllKnowModel" (38 : Nat) "WhichOneAllKnowModel" "high" "[I") ∈ lw_all := lw_g (lw_at lw_m6 92 rfl) rfl
theorem q1375 : (Jvm.Cond.fieldLink "WhichOneAllKnowModel" (65 : Nat) "WhichOneAllKnowModel" "wait" "I") ∈ lw_all := lw_g (lw_at lw_m6 93 rfl) rfl
theorem q1376 : (Jvm.Cond.fieldLink "WhichOneAllKnowModel" (280 : Nat) "WhichOneAllKnowModel" "hymns" "I") ∈ lw_all := lw_g (lw_at lw_m6 94 rfl) rfl
theorem q1377 : (Jvm.Cond.fieldLink "WhichOneAllKnowModel" (69 : Nat) "WhichOneAllKnowModel" "seed" "I") ∈ lw_all := lw_g (lw_at lw_m6 95 rfl) rfl
theorem q1378 : (Jvm.Cond.fieldLink "WhichOneAllKnowModel" (133 : Nat) "WhichOneAllKnowModel" "reading" "I") ∈ lw_all := lw_g (lw_at lw_m6 96 rfl) rfl
theorem q1379 : (Jvm.Cond.fieldLink "WhichOneAllKnowModel" (130 : Nat) "WhichOneAllKnowModel" "at" "I") ∈ lw_all := lw_g (lw_at lw_m6 97 rfl) rfl
theorem q1380 : (Jvm.Cond.fieldLink "WhichOneAllKnowModel" (72 : Nat) "WhichOneAllKnowModel" "fault" "I") ∈ lw_all := lw_g (lw_at lw_m6 98 rfl) rfl
theorem q1381 : (Jvm.Cond.fieldLink "WhichOneAllKnowModel" (41 : Nat) "WhichOneAllKnowModel" "numbers" "[I") ∈ lw_all := lw_g (lw_at lw_m6 99 rfl) rfl
theorem q1382 : (Jvm.Cond.fieldLink "WhichOneAllKnowModel" (290 : Nat) "WhichOneAllKnowModel" "traced" "I") ∈ lw_all := lw_g (lw_at lw_m6 100 rfl) rfl
theorem q1383 : (Jvm.Cond.fieldLink "WhichOneAllKnowModel" (44 : Nat) "WhichOneAllKnowModel" "traces" "[I") ∈ lw_all := lw_g (lw_at lw_m6 101 rfl) rfl
theorem q1384 : (Jvm.Cond.fieldLink "WhichOneAllKnowModel" (47 : Nat) "WhichOneAllKnowModel" "refusals" "[I") ∈ lw_all := lw_g (lw_at lw_m6 102 rfl) rfl
theorem q1385 : (Jvm.Cond.fieldLink "WhichOneAllKnowModel" (305 : Nat) "WhichOneAllKnowModel" "imaged" "Z") ∈ lw_all := lw_g (lw_at lw_m6 103 rfl) rfl
theorem q1386 : (Jvm.Cond.fieldLink "WhichOneAllKnowModel" (50 : Nat) "WhichOneAllKnowModel" "old" "[I") ∈ lw_all := lw_g (lw_at lw_m6 104 rfl) rfl
theorem q1387 : (Jvm.Cond.fieldLink "WhichOneAllKnowModel" (53 : Nat) "WhichOneAllKnowModel" "ahead" "[I") ∈ lw_all := lw_g (lw_at lw_m6 105 rfl) rfl
theorem q1388 : (Jvm.Cond.fieldLink "WhichOneAllKnowModel" (56 : Nat) "WhichOneAllKnowModel" "right" "[I") ∈ lw_all := lw_g (lw_at lw_m6 106 rfl) rfl
theorem q1389 : (Jvm.Cond.fieldLink "WhichOneAllKnowModel" (59 : Nat) "WhichOneAllKnowModel" "wrong" "[I") ∈ lw_all := lw_g (lw_at lw_m6 107 rfl) rfl
theorem q1390 : (Jvm.Cond.fieldLink "WhichOneAllKnowModel" (62 : Nat) "WhichOneAllKnowModel" "mimes" "[I") ∈ lw_all := lw_g (lw_at lw_m6 108 rfl) rfl
theorem q1391 : (Jvm.Cond.fieldLink "WhichOneAllKnowModel" (75 : Nat) "WhichOneAllKnowModel" "missing" "I") ∈ lw_all := lw_g (lw_at lw_m6 109 rfl) rfl
theorem q1392 : (Jvm.Cond.laysFinal "WhichOneAllKnowModel" "WhichOneAllKnowModel" "holding" "[I") ∈ lw_all := lw_g (lw_at lw_m6 110 rfl) rfl
theorem q1393 : (Jvm.Cond.soleField "WhichOneAllKnowModel" "holding") ∈ lw_all := lw_g (lw_at lw_m6 111 rfl) rfl
theorem q1394 : (Jvm.Cond.laysFinal "WhichOneAllKnowModel" "WhichOneAllKnowModel" "rowLength" "[I") ∈ lw_all := lw_g (lw_at lw_m6 112 rfl) rfl
theorem q1395 : (Jvm.Cond.soleField "WhichOneAllKnowModel" "rowLength") ∈ lw_all := lw_g (lw_at lw_m6 113 rfl) rfl
theorem q1396 : (Jvm.Cond.laysFinal "WhichOneAllKnowModel" "WhichOneAllKnowModel" "rowOf" "[J") ∈ lw_all := lw_g (lw_at lw_m6 114 rfl) rfl
theorem q1397 : (Jvm.Cond.soleField "WhichOneAllKnowModel" "rowOf") ∈ lw_all := lw_g (lw_at lw_m6 115 rfl) rfl
theorem q1398 : (Jvm.Cond.lays "WhichOneAllKnowModel" "WhichOneAllKnowModel" "voices" "I") ∈ lw_all := lw_g (lw_at lw_m6 116 rfl) rfl
theorem q1399 : (Jvm.Cond.soleField "WhichOneAllKnowModel" "voices") ∈ lw_all := lw_g (lw_at lw_m6 117 rfl) rfl
theorem q1400 : (Jvm.Cond.laysFinal "WhichOneAllKnowModel" "WhichOneAllKnowModel" "kind" "[I") ∈ lw_all := lw_g (lw_at lw_m6 118 rfl) rfl
theorem q1401 : (Jvm.Cond.soleField "WhichOneAllKnowModel" "kind") ∈ lw_all := lw_g (lw_at lw_m6 119 rfl) rfl
theorem q1402 : (Jvm.Cond.laysFinal "WhichOneAllKnowModel" "WhichOneAllKnowModel" "a" "[I") ∈ lw_all := lw_g (lw_at lw_m6 120 rfl) rfl
theorem q1403 : (Jvm.Cond.soleField "WhichOneAllKnowModel" "a") ∈ lw_all := lw_g (lw_at lw_m6 121 rfl) rfl
theorem q1404 : (Jvm.Cond.laysFinal "WhichOneAllKnowModel" "WhichOneAllKnowModel" "place" "[I") ∈ lw_all := lw_g (lw_at lw_m6 122 rfl) rfl
theorem q1405 : (Jvm.Cond.soleField "WhichOneAllKnowModel" "place") ∈ lw_all := lw_g (lw_at lw_m6 123 rfl) rfl
theorem q1406 : (Jvm.Cond.laysFinal "WhichOneAllKnowModel" "WhichOneAllKnowModel" "bold" "[I") ∈ lw_all := lw_g (lw_at lw_m6 124 rfl) rfl
theorem q1407 : (Jvm.Cond.soleField "WhichOneAllKnowModel" "bold") ∈ lw_all := lw_g (lw_at lw_m6 125 rfl) rfl
theorem q1408 : (Jvm.Cond.laysFinal "WhichOneAllKnowModel" "WhichOneAllKnowModel" "top" "[I") ∈ lw_all := lw_g (lw_at lw_m6 126 rfl) rfl
theorem q1409 : (Jvm.Cond.soleField "WhichOneAllKnowModel" "top") ∈ lw_all := lw_g (lw_at lw_m6 127 rfl) rfl
theorem q1410 : (Jvm.Cond.laysFinal "WhichOneAllKnowModel" "WhichOneAllKnowModel" "known" "[I") ∈ lw_all := lw_g (lw_at lw_m6 128 rfl) rfl
theorem q1411 : (Jvm.Cond.soleField "WhichOneAllKnowModel" "known") ∈ lw_all := lw_g (lw_at lw_m6 129 rfl) rfl
theorem q1412 : (Jvm.Cond.lays "WhichOneAllKnowModel" "WhichOneAllKnowModel" "tunes" "I") ∈ lw_all := lw_g (lw_at lw_m6 130 rfl) rfl
theorem q1413 : (Jvm.Cond.soleField "WhichOneAllKnowModel" "tunes") ∈ lw_all := lw_g (lw_at lw_m6 131 rfl) rfl
theorem q1414 : (Jvm.Cond.laysFinal "WhichOneAllKnowModel" "WhichOneAllKnowModel" "high" "[I") ∈ lw_all := lw_g (lw_at lw_m6 132 rfl) rfl
theorem q1415 : (Jvm.Cond.soleField "WhichOneAllKnowModel" "high") ∈ lw_all := lw_g (lw_at lw_m6 133 rfl) rfl
theorem q1416 : (Jvm.Cond.lays "WhichOneAllKnowModel" "WhichOneAllKnowModel" "wait" "I") ∈ lw_all := lw_g (lw_at lw_m6 134 rfl) rfl
theorem q1417 : (Jvm.Cond.soleField "WhichOneAllKnowModel" "wait") ∈ lw_all := lw_g (lw_at lw_m6 135 rfl) rfl
theorem q1418 : (Jvm.Cond.lays "WhichOneAllKnowModel" "WhichOneAllKnowModel" "hymns" "I") ∈ lw_all := lw_g (lw_at lw_m6 136 rfl) rfl
theorem q1419 : (Jvm.Cond.soleField "WhichOneAllKnowModel" "hymns") ∈ lw_all := lw_g (lw_at lw_m6 137 rfl) rfl
theorem q1420 : (Jvm.Cond.lays "WhichOneAllKnowModel" "WhichOneAllKnowModel" "seed" "I") ∈ lw_all := lw_g (lw_at lw_m6 138 rfl) rfl
theorem q1421 : (Jvm.Cond.soleField "WhichOneAllKnowModel" "seed") ∈ lw_all := lw_g (lw_at lw_m6 139 rfl) rfl
theorem q1422 : (Jvm.Cond.lays "WhichOneAllKnowModel" "WhichOneAllKnowModel" "reading" "I") ∈ lw_all := lw_g (lw_at lw_m6 140 rfl) rfl
theorem q1423 : (Jvm.Cond.soleField "WhichOneAllKnowModel" "reading") ∈ lw_all := lw_g (lw_at lw_m6 141 rfl) rfl
theorem q1424 : (Jvm.Cond.lays "WhichOneAllKnowModel" "WhichOneAllKnowModel" "at" "I") ∈ lw_all := lw_g (lw_at lw_m6 142 rfl) rfl
theorem q1425 : (Jvm.Cond.soleField "WhichOneAllKnowModel" "at") ∈ lw_all := lw_g (lw_at lw_m6 143 rfl) rfl
theorem q1426 : (Jvm.Cond.lays "WhichOneAllKnowModel" "WhichOneAllKnowModel" "fault" "I") ∈ lw_all := lw_g (lw_at lw_m6 144 rfl) rfl
theorem q1427 : (Jvm.Cond.soleField "WhichOneAllKnowModel" "fault") ∈ lw_all := lw_g (lw_at lw_m6 145 rfl) rfl
theorem q1428 : (Jvm.Cond.laysFinal "WhichOneAllKnowModel" "WhichOneAllKnowModel" "numbers" "[I") ∈ lw_all := lw_g (lw_at lw_m6 146 rfl) rfl
theorem q1429 : (Jvm.Cond.soleField "WhichOneAllKnowModel" "numbers") ∈ lw_all := lw_g (lw_at lw_m6 147 rfl) rfl
theorem q1430 : (Jvm.Cond.lays "WhichOneAllKnowModel" "WhichOneAllKnowModel" "traced" "I") ∈ lw_all := lw_g (lw_at lw_m6 148 rfl) rfl
theorem q1431 : (Jvm.Cond.soleField "WhichOneAllKnowModel" "traced") ∈ lw_all := lw_g (lw_at lw_m6 149 rfl) rfl
theorem q1432 : (Jvm.Cond.laysFinal "WhichOneAllKnowModel" "WhichOneAllKnowModel" "traces" "[I") ∈ lw_all := lw_g (lw_at lw_m6 150 rfl) rfl
theorem q1433 : (Jvm.Cond.soleField "WhichOneAllKnowModel" "traces") ∈ lw_all := lw_g (lw_at lw_m6 151 rfl) rfl
theorem q1434 : (Jvm.Cond.laysFinal "WhichOneAllKnowModel" "WhichOneAllKnowModel" "refusals" "[I") ∈ lw_all := lw_g (lw_at lw_m6 152 rfl) rfl
theorem q1435 : (Jvm.Cond.soleField "WhichOneAllKnowModel" "refusals") ∈ lw_all := lw_g (lw_at lw_m6 153 rfl) rfl
theorem q1436 : (Jvm.Cond.lays "WhichOneAllKnowModel" "WhichOneAllKnowModel" "imaged" "Z") ∈ lw_all := lw_g (lw_at lw_m6 154 rfl) rfl
theorem q1437 : (Jvm.Cond.soleField "WhichOneAllKnowModel" "imaged") ∈ lw_all := lw_g (lw_at lw_m6 155 rfl) rfl
theorem q1438 : (Jvm.Cond.laysFinal "WhichOneAllKnowModel" "WhichOneAllKnowModel" "old" "[I") ∈ lw_all := lw_g (lw_at lw_m6 156 rfl) rfl
theorem q1439 : (Jvm.Cond.soleField "WhichOneAllKnowModel" "old") ∈ lw_all := lw_g (lw_at lw_m6 157 rfl) rfl
theorem q1440 : (Jvm.Cond.laysFinal "WhichOneAllKnowModel" "WhichOneAllKnowModel" "ahead" "[I") ∈ lw_all := lw_g (lw_at lw_m6 158 rfl) rfl
theorem q1441 : (Jvm.Cond.soleField "WhichOneAllKnowModel" "ahead") ∈ lw_all := lw_g (lw_at lw_m6 159 rfl) rfl
theorem q1442 : (Jvm.Cond.laysFinal "WhichOneAllKnowModel" "WhichOneAllKnowModel" "right" "[I") ∈ lw_all := lw_g (lw_at lw_m6 160 rfl) rfl
theorem q1443 : (Jvm.Cond.soleField "WhichOneAllKnowModel" "right") ∈ lw_all := lw_g (lw_at lw_m6 161 rfl) rfl
theorem q1444 : (Jvm.Cond.laysFinal "WhichOneAllKnowModel" "WhichOneAllKnowModel" "wrong" "[I") ∈ lw_all := lw_g (lw_at lw_m6 162 rfl) rfl
theorem q1445 : (Jvm.Cond.soleField "WhichOneAllKnowModel" "wrong") ∈ lw_all := lw_g (lw_at lw_m6 163 rfl) rfl
theorem q1446 : (Jvm.Cond.laysFinal "WhichOneAllKnowModel" "WhichOneAllKnowModel" "mimes" "[I") ∈ lw_all := lw_g (lw_at lw_m6 164 rfl) rfl
theorem q1447 : (Jvm.Cond.soleField "WhichOneAllKnowModel" "mimes") ∈ lw_all := lw_g (lw_at lw_m6 165 rfl) rfl
theorem q1448 : (Jvm.Cond.lays "WhichOneAllKnowModel" "WhichOneAllKnowModel" "missing" "I") ∈ lw_all := lw_g (lw_at lw_m6 166 rfl) rfl
theorem q1449 : (Jvm.Cond.soleField "WhichOneAllKnowModel" "missing") ∈ lw_all := lw_g (lw_at lw_m6 167 rfl) rfl
theorem q1450 : (Jvm.Cond.superclass "WhichOneAllKnowModel" "java/lang/Object") ∈ lw_all := lw_g (lw_at lw_m6 168 rfl) rfl
theorem q1452 : (Jvm.Cond.instanceMethod ({ cls := "WhichOneAllKnowModel", name := "row", desc := "(III)I" } : Jvm.MethodName)) ∈ lw_all := lw_g (lw_at lw_m6 170 rfl) rfl
theorem q1453 : (Jvm.Cond.selects "WhichOneAllKnowModel" ({ cls := "WhichOneAllKnowModel", name := "row", desc := "(III)I" } : Jvm.MethodName) ({ cls := "WhichOneAllKnowModel", name := "row", desc := "(III)I" } : Jvm.MethodName)) ∈ lw_all := lw_g (lw_at lw_m6 171 rfl) rfl
theorem q1454 : (Jvm.Cond.code ({ cls := "WhichOneAllKnowModel", name := "row", desc := "(III)I" } : Jvm.MethodName) prog_22_method_13_code (5 : Nat) (Option.some Jvm.ClassFile.FieldType.int)) ∈ lw_all := lw_g (lw_at lw_m6 172 rfl) rfl
theorem q1455 : (Jvm.Cond.methodLink "WhichOneAllKnowModel" (85 : Nat) ({ cls := "WhichOneAllKnowModel", name := "within", desc := "(III)Z" } : Jvm.MethodName)) ∈ lw_all := lw_g (lw_at lw_m6 173 rfl) rfl
theorem q1456 : (Jvm.Cond.static ({ cls := "WhichOneAllKnowModel", name := "within", desc := "(III)Z" } : Jvm.MethodName)) ∈ lw_all := lw_g (lw_at lw_m6 174 rfl) rfl
theorem q1457 : (Jvm.Cond.code ({ cls := "WhichOneAllKnowModel", name := "within", desc := "(III)Z" } : Jvm.MethodName) prog_22_method_4_code (3 : Nat) (Option.some Jvm.ClassFile.FieldType.boolean)) ∈ lw_all := lw_g (lw_at lw_m6 175 rfl) rfl
theorem q1458 : (Jvm.Cond.methodLink "WhichOneAllKnowModel" (78 : Nat) ({ cls := "WhichOneAllKnowModel", name := "no", desc := "(I)I" } : Jvm.MethodName)) ∈ lw_all := lw_g (lw_at lw_m6 176 rfl) rfl
theorem q1459 : (Jvm.Cond.privateMethod ({ cls := "WhichOneAllKnowModel", name := "no", desc := "(I)I" } : Jvm.MethodName)) ∈ lw_tbl := lw_at lw_m6 177 rfl
theorem q1460 : (Jvm.Cond.instanceMethod ({ cls := "WhichOneAllKnowModel", name := "no", desc := "(I)I" } : Jvm.MethodName)) ∈ lw_all := lw_g (lw_at lw_m6 178 rfl) rfl
theorem q1461 : (Jvm.Cond.code ({ cls := "WhichOneAllKnowModel", name := "no", desc := "(I)I" } : Jvm.MethodName) prog_22_method_2_code (2 : Nat) (Option.some Jvm.ClassFile.FieldType.int)) ∈ lw_all := lw_g (lw_at lw_m6 179 rfl) rfl
theorem q1463 : (Jvm.Cond.instanceMethod ({ cls := "WhichOneAllKnowModel", name := "set", desc := "(IIJ)I" } : Jvm.MethodName)) ∈ lw_all := lw_g (lw_at lw_m6 181 rfl) rfl
theorem q1464 : (Jvm.Cond.selects "WhichOneAllKnowModel" ({ cls := "WhichOneAllKnowModel", name := "set", desc := "(IIJ)I" } : Jvm.MethodName) ({ cls := "WhichOneAllKnowModel", name := "set", desc := "(IIJ)I" } : Jvm.MethodName)) ∈ lw_all := lw_g (lw_at lw_m6 182 rfl) rfl
theorem q1465 : (Jvm.Cond.code ({ cls := "WhichOneAllKnowModel", name := "set", desc := "(IIJ)I" } : Jvm.MethodName) prog_22_method_15_code (7 : Nat) (Option.some Jvm.ClassFile.FieldType.int)) ∈ lw_all := lw_g (lw_at lw_m6 183 rfl) rfl
theorem q1466 : (Jvm.Cond.methodLink "WhichOneAllKnowModel" (99 : Nat) ({ cls := "WhichOneAllKnowModel", name := "noRow", desc := "(I)I" } : Jvm.MethodName)) ∈ lw_all := lw_g (lw_at lw_m6 184 rfl) rfl
theorem q1467 : (Jvm.Cond.privateMethod ({ cls := "WhichOneAllKnowModel", name := "noRow", desc := "(I)I" } : Jvm.MethodName)) ∈ lw_tbl := lw_at lw_m6 185 rfl
theorem q1468 : (Jvm.Cond.instanceMethod ({ cls := "WhichOneAllKnowModel", name := "noRow", desc := "(I)I" } : Jvm.MethodName)) ∈ lw_all := lw_g (lw_at lw_m6 186 rfl) rfl
theorem q1469 : (Jvm.Cond.code ({ cls := "WhichOneAllKnowModel", name := "noRow", desc := "(I)I" } : Jvm.MethodName) prog_22_method_14_code (2 : Nat) (Option.some Jvm.ClassFile.FieldType.int)) ∈ lw_all := lw_g (lw_at lw_m6 187 rfl) rfl
theorem q1470 : (Jvm.Cond.methodLink "WhichOneAllKnowModel" (96 : Nat) ({ cls := "WhichOneAllKnowModel", name := "isRow", desc := "(I)Z" } : Jvm.MethodName)) ∈ lw_all := lw_g (lw_at lw_m6 188 rfl) rfl
theorem q1471 : (Jvm.Cond.privateMethod ({ cls := "WhichOneAllKnowModel", name := "isRow", desc := "(I)Z" } : Jvm.MethodName)) ∈ lw_tbl := lw_at lw_m6 189 rfl
theorem q1472 : (Jvm.Cond.instanceMethod ({ cls := "WhichOneAllKnowModel", name := "isRow", desc := "(I)Z" } : Jvm.MethodName)) ∈ lw_all := lw_g (lw_at lw_m6 190 rfl) rfl
theorem q1473 : (Jvm.Cond.code ({ cls := "WhichOneAllKnowModel", name := "isRow", desc := "(I)Z" } : Jvm.MethodName) prog_22_method_12_code (2 : Nat) (Option.some Jvm.ClassFile.FieldType.boolean)) ∈ lw_all := lw_g (lw_at lw_m6 191 rfl) rfl
theorem q1475 : (Jvm.Cond.instanceMethod ({ cls := "WhichOneAllKnowModel", name := "copy", desc := "(IIIII)I" } : Jvm.MethodName)) ∈ lw_all := lw_g (lw_at lw_m6 193 rfl) rfl
theorem q1476 : (Jvm.Cond.selects "WhichOneAllKnowModel" ({ cls := "WhichOneAllKnowModel", name := "copy", desc := "(IIIII)I" } : Jvm.MethodName) ({ cls := "WhichOneAllKnowModel", name := "copy", desc := "(IIIII)I" } : Jvm.MethodName)) ∈ lw_all := lw_g (lw_at lw_m6 194 rfl) rfl
theorem q1477 : (Jvm.Cond.code ({ cls := "WhichOneAllKnowModel", name := "copy", desc := "(IIIII)I" } : Jvm.MethodName) prog_22_method_16_code (7 : Nat) (Option.some Jvm.ClassFile.FieldType.int)) ∈ lw_all := lw_g (lw_at lw_m6 195 rfl) rfl
theorem q1479 : (Jvm.Cond.instanceMethod ({ cls := "WhichOneAllKnowModel", name := "element", desc := "(II)J" } : Jvm.MethodName)) ∈ lw_all := lw_g (lw_at lw_m6 197 rfl) rfl
theorem q1480 : (Jvm.Cond.selects "WhichOneAllKnowModel" ({ cls := "WhichOneAllKnowModel", name := "element", desc := "(II)J" } : Jvm.MethodName) ({ cls := "WhichOneAllKnowModel", name := "element", desc := "(II)J" } : Jvm.MethodName)) ∈ lw_all := lw_g (lw_at lw_m6 198 rfl) rfl
theorem q1481 : (Jvm.Cond.code ({ cls := "WhichOneAllKnowModel", name := "element", desc := "(II)J" } : Jvm.MethodName) prog_22_method_17_code (3 : Nat) (Option.some Jvm.ClassFile.FieldType.long)) ∈ lw_all := lw_g (lw_at lw_m6 199 rfl) rfl
theorem q1483 : (Jvm.Cond.instanceMethod ({ cls := "WhichOneAllKnowModel", name := "show", desc := "(II)I" } : Jvm.MethodName)) ∈ lw_all := lw_g (lw_at lw_m6 201 rfl) rfl
theorem q1484 : (Jvm.Cond.selects "WhichOneAllKnowModel" ({ cls := "WhichOneAllKnowModel", name := "show", desc := "(II)I" } : Jvm.MethodName) ({ cls := "WhichOneAllKnowModel", name := "show", desc := "(II)I" } : Jvm.MethodName)) ∈ lw_all := lw_g (lw_at lw_m6 202 rfl) rfl
theorem q1485 : (Jvm.Cond.code ({ cls := "WhichOneAllKnowModel", name := "show", desc := "(II)I" } : Jvm.MethodName) prog_22_method_18_code (3 : Nat) (Option.some Jvm.ClassFile.FieldType.int)) ∈ lw_all := lw_g (lw_at lw_m6 203 rfl) rfl
theorem q1486 : (Jvm.Cond.methodLink "WhichOneAllKnowModel" (102 : Nat) ({ cls := "WhichOneAllKnowModel", name := "isVoice", desc := "(I)Z" } : Jvm.MethodName)) ∈ lw_all := lw_g (lw_at lw_m6 204 rfl) rfl
theorem q1487 : (Jvm.Cond.privateMethod ({ cls := "WhichOneAllKnowModel", name := "isVoice", desc := "(I)Z" } : Jvm.MethodName)) ∈ lw_tbl := lw_at lw_m6 205 rfl
theorem q1488 : (Jvm.Cond.instanceMethod ({ cls := "WhichOneAllKnowModel", name := "isVoice", desc := "(I)Z" } : Jvm.MethodName)) ∈ lw_all := lw_g (lw_at lw_m6 206 rfl) rfl
theorem q1489 : (Jvm.Cond.code ({ cls := "WhichOneAllKnowModel", name := "isVoice", desc := "(I)Z" } : Jvm.MethodName) prog_22_method_6_code (2 : Nat) (Option.some Jvm.ClassFile.FieldType.boolean)) ∈ lw_all := lw_g (lw_at lw_m6 207 rfl) rfl
theorem q1491 : (Jvm.Cond.instanceMethod ({ cls := "WhichOneAllKnowModel", name := "holds", desc := "(I)I" } : Jvm.MethodName)) ∈ lw_all := lw_g (lw_at lw_m6 209 rfl) rfl
theorem q1492 : (Jvm.Cond.selects "WhichOneAllKnowModel" ({ cls := "WhichOneAllKnowModel", name := "holds", desc := "(I)I" } : Jvm.MethodName) ({ cls := "WhichOneAllKnowModel", name := "holds", desc := "(I)I" } : Jvm.MethodName)) ∈ lw_all := lw_g (lw_at lw_m6 210 rfl) rfl
theorem q1493 : (Jvm.Cond.code ({ cls := "WhichOneAllKnowModel", name := "holds", desc := "(I)I" } : Jvm.MethodName) prog_22_method_19_code (2 : Nat) (Option.some Jvm.ClassFile.FieldType.int)) ∈ lw_all := lw_g (lw_at lw_m6 211 rfl) rfl
theorem q1495 : (Jvm.Cond.instanceMethod ({ cls := "WhichOneAllKnowModel", name := "says", desc := "(II)I" } : Jvm.MethodName)) ∈ lw_all := lw_g (lw_at lw_m6 213 rfl) rfl
theorem q1496 : (Jvm.Cond.selects "WhichOneAllKnowModel" ({ cls := "WhichOneAllKnowModel", name := "says", desc := "(II)I" } : Jvm.MethodName) ({ cls := "WhichOneAllKnowModel", name := "says", desc := "(II)I" } : Jvm.MethodName)) ∈ lw_all := lw_g (lw_at lw_m6 214 rfl) rfl
theorem q1497 : (Jvm.Cond.code ({ cls := "WhichOneAllKnowModel", name := "says", desc := "(II)I" } : Jvm.MethodName) prog_22_method_22_code (4 : Nat) (Option.some Jvm.ClassFile.FieldType.int)) ∈ lw_all := lw_g (lw_at lw_m6 215 rfl) rfl
theorem q1498 : (Jvm.Cond.methodLink "WhichOneAllKnowModel" (108 : Nat) ({ cls := "WhichOneAllKnowModel", name := "isUnder", desc := "(II)Z" } : Jvm.MethodName)) ∈ lw_all := lw_g (lw_at lw_m6 216 rfl) rfl
theorem q1499 : (Jvm.Cond.static ({ cls := "WhichOneAllKnowModel", name := "isUnder", desc := "(II)Z" } : Jvm.MethodName)) ∈ lw_all := lw_g (lw_at lw_m6 217 rfl) rfl
theorem q1500 : (Jvm.Cond.code ({ cls := "WhichOneAllKnowModel", name := "isUnder", desc := "(II)Z" } : Jvm.MethodName) prog_22_method_21_code (3 : Nat) (Option.some Jvm.ClassFile.FieldType.boolean)) ∈ lw_all := lw_g (lw_at lw_m6 218 rfl) rfl
theorem q1501 : (Jvm.Cond.methodLink "WhichOneAllKnowModel" (105 : Nat) ({ cls := "WhichOneAllKnowModel", name := "above", desc := "(I)I" } : Jvm.MethodName)) ∈ lw_all := lw_g (lw_at lw_m6 219 rfl) rfl
theorem q1502 : (Jvm.Cond.static ({ cls := "WhichOneAllKnowModel", name := "above", desc := "(I)I" } : Jvm.MethodName)) ∈ lw_all := lw_g (lw_at lw_m6 220 rfl) rfl
theorem q1503 : (Jvm.Cond.code ({ cls := "WhichOneAllKnowModel", name := "above", desc := "(I)I" } : Jvm.MethodName) prog_22_method_20_code (1 : Nat) (Option.some Jvm.ClassFile.FieldType.int)) ∈ lw_all := lw_g (lw_at lw_m6 221 rfl) rfl
theorem q1504 : (Jvm.Cond.methodLink "WhichOneAllKnowModel" (112 : Nat) ({ cls := "java/lang/Integer", name := "bitCount", desc := "(I)I" } : Jvm.MethodName)) ∈ lw_all := lw_g (lw_at lw_m6 222 rfl) rfl
theorem q1506 : (Jvm.Cond.instanceMethod ({ cls := "WhichOneAllKnowModel", name := "tune", desc := "(I)I" } : Jvm.MethodName)) ∈ lw_all := lw_g (lw_at lw_m6 224 rfl) rfl
theorem q1507 : (Jvm.Cond.selects "WhichOneAllKnowModel" ({ cls := "WhichOneAllKnowModel", name := "tune", desc := "(I)I" } : Jvm.MethodName) ({ cls := "WhichOneAllKnowModel", name := "tune", desc := "(I)I" } : Jvm.MethodName)) ∈ lw_all := lw_g (lw_at lw_m6 225 rfl) rfl
theorem q1508 : (Jvm.Cond.code ({ cls := "WhichOneAllKnowModel", name := "tune", desc := "(I)I" } : Jvm.MethodName) prog_22_method_25_code (2 : Nat) (Option.some Jvm.ClassFile.FieldType.int)) ∈ lw_all := lw_g (lw_at lw_m6 226 rfl) rfl
theorem q1509 : (Jvm.Cond.methodLink "WhichOneAllKnowModel" (117 : Nat) ({ cls := "WhichOneAllKnowModel", name := "newTune", desc := "(I)I" } : Jvm.MethodName)) ∈ lw_all := lw_g (lw_at lw_m6 227 rfl) rfl
theorem q1510 : (Jvm.Cond.privateMethod ({ cls := "WhichOneAllKnowModel", name := "newTune", desc := "(I)I" } : Jvm.MethodName)) ∈ lw_tbl := lw_at lw_m6 228 rfl
theorem q1511 : (Jvm.Cond.instanceMethod ({ cls := "WhichOneAllKnowModel", name := "newTune", desc := "(I)I" } : Jvm.MethodName)) ∈ lw_all := lw_g (lw_at lw_m6 229 rfl) rfl
theorem q1512 : (Jvm.Cond.code ({ cls := "WhichOneAllKnowModel", name := "newTune", desc := "(I)I" } : Jvm.MethodName) prog_22_method_24_code (2 : Nat) (Option.some Jvm.ClassFile.FieldType.int)) ∈ lw_all := lw_g (lw_at lw_m6 230 rfl) rfl
theorem q1514 : (Jvm.Cond.instanceMethod ({ cls := "WhichOneAllKnowModel", name := "voice", desc := "(IIIII)I" } : Jvm.MethodName)) ∈ lw_all := lw_g (lw_at lw_m6 232 rfl) rfl
theorem q1515 : (Jvm.Cond.selects "WhichOneAllKnowModel" ({ cls := "WhichOneAllKnowModel", name := "voice", desc := "(IIIII)I" } : Jvm.MethodName) ({ cls := "WhichOneAllKnowModel", name := "voice", desc := "(IIIII)I" } : Jvm.MethodName)) ∈ lw_all := lw_g (lw_at lw_m6 233 rfl) rfl
theorem q1516 : (Jvm.Cond.code ({ cls := "WhichOneAllKnowModel", name := "voice", desc := "(IIIII)I" } : Jvm.MethodName) prog_22_method_26_code (6 : Nat) (Option.some Jvm.ClassFile.FieldType.int)) ∈ lw_all := lw_g (lw_at lw_m6 234 rfl) rfl
theorem q1517 : (Jvm.Cond.methodLink "WhichOneAllKnowModel" (120 : Nat) ({ cls := "WhichOneAllKnowModel", name := "isFree", desc := "(I)Z" } : Jvm.MethodName)) ∈ lw_all := lw_g (lw_at lw_m6 235 rfl) rfl
theorem q1518 : (Jvm.Cond.privateMethod ({ cls := "WhichOneAllKnowModel", name := "isFree", desc := "(I)Z" } : Jvm.MethodName)) ∈ lw_tbl := lw_at lw_m6 236 rfl
theorem q1519 : (Jvm.Cond.instanceMethod ({ cls := "WhichOneAllKnowModel", name := "isFree", desc := "(I)Z" } : Jvm.MethodName)) ∈ lw_all := lw_g (lw_at lw_m6 237 rfl) rfl
theorem q1520 : (Jvm.Cond.code ({ cls := "WhichOneAllKnowModel", name := "isFree", desc := "(I)Z" } : Jvm.MethodName) prog_22_method_9_code (2 : Nat) (Option.some Jvm.ClassFile.FieldType.boolean)) ∈ lw_all := lw_g (lw_at lw_m6 238 rfl) rfl
theorem q1521 : (Jvm.Cond.methodLink "WhichOneAllKnowModel" (92 : Nat) ({ cls := "WhichOneAllKnowModel", name := "isTaken", desc := "(I)Z" } : Jvm.MethodName)) ∈ lw_all := lw_g (lw_at lw_m6 239 rfl) rfl
theorem q1522 : (Jvm.Cond.privateMethod ({ cls := "WhichOneAllKnowModel", name := "isTaken", desc := "(I)Z" } : Jvm.MethodName)) ∈ lw_tbl := lw_at lw_m7 0 rfl
theorem q1523 : (Jvm.Cond.instanceMethod ({ cls := "WhichOneAllKnowModel", name := "isTaken", desc := "(I)Z" } : Jvm.MethodName)) ∈ lw_all := lw_g (lw_at lw_m7 1 rfl) rfl
theorem q1524 : (Jvm.Cond.code ({ cls := "WhichOneAllKnowModel", name := "isTaken", desc := "(I)Z" } : Jvm.MethodName) prog_22_method_8_code (3 : Nat) (Option.some Jvm.ClassFile.FieldType.boolean)) ∈ lw_all := lw_g (lw_at lw_m7 2 rfl) rfl
theorem q1525 : (Jvm.Cond.methodLink "WhichOneAllKnowModel" (123 : Nat) ({ cls := "WhichOneAllKnowModel", name := "newVoice", desc := "(IIIII)I" } : Jvm.MethodName)) ∈ lw_all := lw_g (lw_at lw_m7 3 rfl) rfl
theorem q1526 : (Jvm.Cond.privateMethod ({ cls := "WhichOneAllKnowModel", name := "newVoice", desc := "(IIIII)I" } : Jvm.MethodName)) ∈ lw_tbl := lw_at lw_m7 4 rfl
theorem q1527 : (Jvm.Cond.instanceMethod ({ cls := "WhichOneAllKnowModel", name := "newVoice", desc := "(IIIII)I" } : Jvm.MethodName)) ∈ lw_all := lw_g (lw_at lw_m7 5 rfl) rfl
theorem q1528 : (Jvm.Cond.code ({ cls := "WhichOneAllKnowModel", name := "newVoice", desc := "(IIIII)I" } : Jvm.MethodName) prog_22_method_23_code (6 : Nat) (Option.some Jvm.ClassFile.FieldType.int)) ∈ lw_all := lw_g (lw_at lw_m7 6 rfl) rfl
theorem q1530 : (Jvm.Cond.instanceMethod ({ cls := "WhichOneAllKnowModel", name := "knows", desc := "(IIZ)I" } : Jvm.MethodName)) ∈ lw_all := lw_g (lw_at lw_m7 8 rfl) rfl
theorem q1531 : (Jvm.Cond.selects "WhichOneAllKnowModel" ({ cls := "WhichOneAllKnowModel", name := "knows", desc := "(IIZ)I" } : Jvm.MethodName) ({ cls := "WhichOneAllKnowModel", name := "knows", desc := "(IIZ)I" } : Jvm.MethodName)) ∈ lw_all := lw_g (lw_at lw_m7 9 rfl) rfl
theorem q1532 : (Jvm.Cond.code ({ cls := "WhichOneAllKnowModel", name := "knows", desc := "(IIZ)I" } : Jvm.MethodName) prog_22_method_27_code (5 : Nat) (Option.some Jvm.ClassFile.FieldType.int)) ∈ lw_all := lw_g (lw_at lw_m7 10 rfl) rfl
theorem q1533 : (Jvm.Cond.methodLink "WhichOneAllKnowModel" (127 : Nat) ({ cls := "WhichOneAllKnowModel", name := "isTune", desc := "(I)Z" } : Jvm.MethodName)) ∈ lw_all := lw_g (lw_at lw_m7 11 rfl) rfl
theorem q1534 : (Jvm.Cond.privateMethod ({ cls := "WhichOneAllKnowModel", name := "isTune", desc := "(I)Z" } : Jvm.MethodName)) ∈ lw_tbl := lw_at lw_m7 12 rfl
theorem q1535 : (Jvm.Cond.instanceMethod ({ cls := "WhichOneAllKnowModel", name := "isTune", desc := "(I)Z" } : Jvm.MethodName)) ∈ lw_all := lw_g (lw_at lw_m7 13 rfl) rfl
theorem q1536 : (Jvm.Cond.code ({ cls := "WhichOneAllKnowModel", name := "isTune", desc := "(I)Z" } : Jvm.MethodName) prog_22_method_7_code (2 : Nat) (Option.some Jvm.ClassFile.FieldType.boolean)) ∈ lw_all := lw_g (lw_at lw_m7 14 rfl) rfl
theorem q1538 : (Jvm.Cond.instanceMethod ({ cls := "WhichOneAllKnowModel", name := "move", desc := "(II)I" } : Jvm.MethodName)) ∈ lw_all := lw_g (lw_at lw_m7 16 rfl) rfl
theorem q1539 : (Jvm.Cond.selects "WhichOneAllKnowModel" ({ cls := "WhichOneAllKnowModel", name := "move", desc := "(II)I" } : Jvm.MethodName) ({ cls := "WhichOneAllKnowModel", name := "move", desc := "(II)I" } : Jvm.MethodName)) ∈ lw_all := lw_g (lw_at lw_m7 17 rfl) rfl
theorem q1540 : (Jvm.Cond.code ({ cls := "WhichOneAllKnowModel", name := "move", desc := "(II)I" } : Jvm.MethodName) prog_22_method_28_code (4 : Nat) (Option.some Jvm.ClassFile.FieldType.int)) ∈ lw_all := lw_g (lw_at lw_m7 18 rfl) rfl
theorem q1542 : (Jvm.Cond.instanceMethod ({ cls := "WhichOneAllKnowModel", name := "ask", desc := "(I)I" } : Jvm.MethodName)) ∈ lw_all := lw_g (lw_at lw_m7 20 rfl) rfl
theorem q1543 : (Jvm.Cond.selects "WhichOneAllKnowModel" ({ cls := "WhichOneAllKnowModel", name := "ask", desc := "(I)I" } : Jvm.MethodName) ({ cls := "WhichOneAllKnowModel", name := "ask", desc := "(I)I" } : Jvm.MethodName)) ∈ lw_all := lw_g (lw_at lw_m7 21 rfl) rfl
theorem q1544 : (Jvm.Cond.code ({ cls := "WhichOneAllKnowModel", name := "ask", desc := "(I)I" } : Jvm.MethodName) prog_22_method_29_code (3 : Nat) (Option.some Jvm.ClassFile.FieldType.int)) ∈ lw_all := lw_g (lw_at lw_m7 22 rfl) rfl
theorem q1546 : (Jvm.Cond.instanceMethod ({ cls := "WhichOneAllKnowModel", name := "voiceOf", desc := "(II)I" } : Jvm.MethodName)) ∈ lw_all := lw_g (lw_at lw_m7 24 rfl) rfl
theorem q1547 : (Jvm.Cond.selects "WhichOneAllKnowModel" ({ cls := "WhichOneAllKnowModel", name := "voiceOf", desc := "(II)I" } : Jvm.MethodName) ({ cls := "WhichOneAllKnowModel", name := "voiceOf", desc := "(II)I" } : Jvm.MethodName)) ∈ lw_all := lw_g (lw_at lw_m7 25 rfl) rfl
theorem q1548 : (Jvm.Cond.code ({ cls := "WhichOneAllKnowModel", name := "voiceOf", desc := "(II)I" } : Jvm.MethodName) prog_22_method_30_code (3 : Nat) (Option.some Jvm.ClassFile.FieldType.int)) ∈ lw_all := lw_g (lw_at lw_m7 26 rfl) rfl
theorem q1550 : (Jvm.Cond.instanceMethod ({ cls := "WhichOneAllKnowModel", name := "highOf", desc := "(I)I" } : Jvm.MethodName)) ∈ lw_all := lw_g (lw_at lw_m7 28 rfl) rfl
theorem q1551 : (Jvm.Cond.selects "WhichOneAllKnowModel" ({ cls := "WhichOneAllKnowModel", name := "highOf", desc := "(I)I" } : Jvm.MethodName) ({ cls := "WhichOneAllKnowModel", name := "highOf", desc := "(I)I" } : Jvm.MethodName)) ∈ lw_all := lw_g (lw_at lw_m7 29 rfl) rfl
theorem q1552 : (Jvm.Cond.code ({ cls := "WhichOneAllKnowModel", name := "highOf", desc := "(I)I" } : Jvm.MethodName) prog_22_method_31_code (2 : Nat) (Option.some Jvm.ClassFile.FieldType.int)) ∈ lw_all := lw_g (lw_at lw_m7 30 rfl) rfl
theorem q1554 : (Jvm.Cond.instanceMethod ({ cls := "WhichOneAllKnowModel", name := "church", desc := "(I)I" } : Jvm.MethodName)) ∈ lw_all := lw_g (lw_at lw_m7 32 rfl) rfl
theorem q1555 : (Jvm.Cond.selects "WhichOneAllKnowModel" ({ cls := "WhichOneAllKnowModel", name := "church", desc := "(I)I" } : Jvm.MethodName) ({ cls := "WhichOneAllKnowModel", name := "church", desc := "(I)I" } : Jvm.MethodName)) ∈ lw_all := lw_g (lw_at lw_m7 33 rfl) rfl
theorem q1556 : (Jvm.Cond.code ({ cls := "WhichOneAllKnowModel", name := "church", desc := "(I)I" } : Jvm.MethodName) prog_22_method_39_code (5 : Nat) (Option.some Jvm.ClassFile.FieldType.int)) ∈ lw_all := lw_g (lw_at lw_m7 34 rfl) rfl
theorem q1557 : (Jvm.Cond.methodLink "WhichOneAllKnowModel" (176 : Nat) ({ cls := "WhichOneAllKnowModel", name := "keep", desc := "([I)V" } : Jvm.MethodName)) ∈ lw_all := lw_g (lw_at lw_m7 35 rfl) rfl
theorem q1558 : (Jvm.Cond.privateMethod ({ cls := "WhichOneAllKnowModel", name := "keep", desc := "([I)V" } : Jvm.MethodName)) ∈ lw_tbl := lw_at lw_m7 36 rfl
theorem q1559 : (Jvm.Cond.instanceMethod ({ cls := "WhichOneAllKnowModel", name := "keep", desc := "([I)V" } : Jvm.MethodName)) ∈ lw_all := lw_g (lw_at lw_m7 37 rfl) rfl
theorem q1560 : (Jvm.Cond.code ({ cls := "WhichOneAllKnowModel", name := "keep", desc := "([I)V" } : Jvm.MethodName) prog_22_method_91_code (3 : Nat) (Option.none : Option Jvm.ClassFile.FieldType)) ∈ lw_all := lw_g (lw_at lw_m7 38 rfl) rfl
theorem q1561 : (Jvm.Cond.methodLink "WhichOneAllKnowModel" (180 : Nat) ({ cls := "WhichOneAllKnowModel", name := "item", desc := "()Z" } : Jvm.MethodName)) ∈ lw_all := lw_g (lw_at lw_m7 39 rfl) rfl
theorem q1562 : (Jvm.Cond.privateMethod ({ cls := "WhichOneAllKnowModel", name := "item", desc := "()Z" } : Jvm.MethodName)) ∈ lw_tbl := lw_at lw_m7 40 rfl
theorem q1563 : (Jvm.Cond.instanceMethod ({ cls := "WhichOneAllKnowModel", name := "item", desc := "()Z" } : Jvm.MethodName)) ∈ lw_all := lw_g (lw_at lw_m7 41 rfl) rfl
theorem q1564 : (Jvm.Cond.code ({ cls := "WhichOneAllKnowModel", name := "item", desc := "()Z" } : Jvm.MethodName) prog_22_method_38_code (2 : Nat) (Option.some Jvm.ClassFile.FieldType.boolean)) ∈ lw_all := lw_g (lw_at lw_m7 42 rfl) rfl
theorem q1565 : (Jvm.Cond.methodLink "WhichOneAllKnowModel" (136 : Nat) ({ cls := "WhichOneAllKnowModel", name := "sign", desc := "()I" } : Jvm.MethodName)) ∈ lw_all := lw_g (lw_at lw_m7 43 rfl) rfl
theorem q1566 : (Jvm.Cond.privateMethod ({ cls := "WhichOneAllKnowModel", name := "sign", desc := "()I" } : Jvm.MethodName)) ∈ lw_tbl := lw_at lw_m7 44 rfl
theorem q1567 : (Jvm.Cond.instanceMethod ({ cls := "WhichOneAllKnowModel", name := "sign", desc := "()I" } : Jvm.MethodName)) ∈ lw_all := lw_g (lw_at lw_m7 45 rfl) rfl
theorem q1568 : (Jvm.Cond.code ({ cls := "WhichOneAllKnowModel", name := "sign", desc := "()I" } : Jvm.MethodName) prog_22_method_32_code (1 : Nat) (Option.some Jvm.ClassFile.FieldType.int)) ∈ lw_all := lw_g (lw_at lw_m7 46 rfl) rfl
theorem q1569 : (Jvm.Cond.stringRef "WhichOneAllKnowModel" (157 : Nat) "tune") ∈ lw_tbl := lw_at lw_m7 47 rfl
theorem q1570 : (Jvm.Cond.methodLink "WhichOneAllKnowModel" (159 : Nat) ({ cls := "WhichOneAllKnowModel", name := "word", desc := "(Ljava/lang/String;Z)Z" } : Jvm.MethodName)) ∈ lw_all := lw_g (lw_at lw_m7 48 rfl) rfl
theorem q1571 : (Jvm.Cond.privateMethod ({ cls := "WhichOneAllKnowModel", name := "word", desc := "(Ljava/lang/String;Z)Z" } : Jvm.MethodName)) ∈ lw_tbl := lw_at lw_m7 49 rfl
theorem q1572 : (Jvm.Cond.instanceMethod ({ cls := "WhichOneAllKnowModel", name := "word", desc := "(Ljava/lang/String;Z)Z" } : Jvm.MethodName)) ∈ lw_all := lw_g (lw_at lw_m7 50 rfl) rfl
theorem q1573 : (Jvm.Cond.code ({ cls := "WhichOneAllKnowModel", name := "word", desc := "(Ljava/lang/String;Z)Z" } : Jvm.MethodName) prog_22_method_35_code (5 : Nat) (Option.some Jvm.ClassFile.FieldType.boolean)) ∈ lw_all := lw_g (lw_at lw_m7 51 rfl) rfl
theorem q1574 : (Jvm.Cond.methodLink "WhichOneAllKnowModel" (153 : Nat) ({ cls := "WhichOneAllKnowModel", name := "word", desc := "(Ljava/lang/String;)Z" } : Jvm.MethodName)) ∈ lw_all := lw_g (lw_at lw_m7 52 rfl) rfl
theorem q1575 : (Jvm.Cond.privateMethod ({ cls := "WhichOneAllKnowModel", name := "word", desc := "(Ljava/lang/String;)Z" } : Jvm.MethodName)) ∈ lw_tbl := lw_at lw_m7 53 rfl
theorem q1576 : (Jvm.Cond.instanceMethod ({ cls := "WhichOneAllKnowModel", name := "word", desc := "(Ljava/lang/String;)Z" } : Jvm.MethodName)) ∈ lw_all := lw_g (lw_at lw_m7 54 rfl) rfl
theorem q1577 : (Jvm.Cond.code ({ cls := "WhichOneAllKnowModel", name := "word", desc := "(Ljava/lang/String;)Z" } : Jvm.MethodName) prog_22_method_34_code (3 : Nat) (Option.some Jvm.ClassFile.FieldType.boolean)) ∈ lw_all := lw_g (lw_at lw_m7 55 rfl) rfl
theorem q1578 : (Jvm.Cond.methodLink "WhichOneAllKnowModel" (140 : Nat) ({ cls := "java/lang/String", name := "length", desc := "()I" } : Jvm.MethodName)) ∈ lw_all := lw_g (lw_at lw_m7 56 rfl) rfl
theorem q1579 : (Jvm.Cond.methodLink "WhichOneAllKnowModel" (145 : Nat) ({ cls := "java/lang/String", name := "charAt", desc := "(I)C" } : Jvm.MethodName)) ∈ lw_all := lw_g (lw_at lw_m7 57 rfl) rfl
theorem q1580 : (Jvm.Cond.methodLink "WhichOneAllKnowModel" (149 : Nat) ({ cls := "WhichOneAllKnowModel", name := "is", desc := "(C)Z" } : Jvm.MethodName)) ∈ lw_all := lw_g (lw_at lw_m7 58 rfl) rfl
theorem q1581 : (Jvm.Cond.privateMethod ({ cls := "WhichOneAllKnowModel", name := "is", desc := "(C)Z" } : Jvm.MethodName)) ∈ lw_tbl := lw_at lw_m7 59 rfl
theorem q1582 : (Jvm.Cond.instanceMethod ({ cls := "WhichOneAllKnowModel", name := "is", desc := "(C)Z" } : Jvm.MethodName)) ∈ lw_all := lw_g (lw_at lw_m7 60 rfl) rfl
theorem q1583 : (Jvm.Cond.code ({ cls := "WhichOneAllKnowModel", name := "is", desc := "(C)Z" } : Jvm.MethodName) prog_22_method_33_code (2 : Nat) (Option.some Jvm.ClassFile.FieldType.boolean)) ∈ lw_all := lw_g (lw_at lw_m7 61 rfl) rfl
theorem q1584 : (Jvm.Cond.methodLink "WhichOneAllKnowModel" (162 : Nat) ({ cls := "WhichOneAllKnowModel", name := "number", desc := "(III)Z" } : Jvm.MethodName)) ∈ lw_all := lw_g (lw_at lw_m7 62 rfl) rfl
theorem q1585 : (Jvm.Cond.privateMethod ({ cls := "WhichOneAllKnowModel", name := "number", desc := "(III)Z" } : Jvm.MethodName)) ∈ lw_tbl := lw_at lw_m7 63 rfl
theorem q1586 : (Jvm.Cond.instanceMethod ({ cls := "WhichOneAllKnowModel", name := "number", desc := "(III)Z" } : Jvm.MethodName)) ∈ lw_all := lw_g (lw_at lw_m7 64 rfl) rfl
theorem q1587 : (Jvm.Cond.code ({ cls := "WhichOneAllKnowModel", name := "number", desc := "(III)Z" } : Jvm.MethodName) prog_22_method_36_code (7 : Nat) (Option.some Jvm.ClassFile.FieldType.boolean)) ∈ lw_all := lw_g (lw_at lw_m7 65 rfl) rfl
theorem q1588 : (Jvm.Cond.stringRef "WhichOneAllKnowModel" (165 : Nat) "voice") ∈ lw_tbl := lw_at lw_m7 66 rfl
theorem q1589 : (Jvm.Cond.methodLink "WhichOneAllKnowModel" (167 : Nat) ({ cls := "WhichOneAllKnowModel", name := "stands", desc := "(IZ)Z" } : Jvm.MethodName)) ∈ lw_all := lw_g (lw_at lw_m7 67 rfl) rfl
theorem q1590 : (Jvm.Cond.privateMethod ({ cls := "WhichOneAllKnowModel", name := "stands", desc := "(IZ)Z" } : Jvm.MethodName)) ∈ lw_tbl := lw_at lw_m7 68 rfl
theorem q1591 : (Jvm.Cond.instanceMethod ({ cls := "WhichOneAllKnowModel", name := "stands", desc := "(IZ)Z" } : Jvm.MethodName)) ∈ lw_all := lw_g (lw_at lw_m7 69 rfl) rfl
theorem q1592 : (Jvm.Cond.code ({ cls := "WhichOneAllKnowModel", name := "stands", desc := "(IZ)Z" } : Jvm.MethodName) prog_22_method_37_code (3 : Nat) (Option.some Jvm.ClassFile.FieldType.boolean)) ∈ lw_all := lw_g (lw_at lw_m7 70 rfl) rfl
theorem q1593 : (Jvm.Cond.stringRef "WhichOneAllKnowModel" (171 : Nat) "knows") ∈ lw_tbl := lw_at lw_m7 71 rfl
theorem q1594 : (Jvm.Cond.stringRef "WhichOneAllKnowModel" (173 : Nat) "moves") ∈ lw_tbl := lw_at lw_m7 72 rfl
theorem q1595 : (Jvm.Cond.stringRef "WhichOneAllKnowModel" (175 : Nat) "wait") ∈ lw_tbl := lw_at lw_m7 73 rfl
theorem q1596 : (Jvm.Cond.methodLink "WhichOneAllKnowModel" (184 : Nat) ({ cls := "WhichOneAllKnowModel", name := "again", desc := "([I)V" } : Jvm.MethodName)) ∈ lw_all := lw_g (lw_at lw_m7 74 rfl) rfl
theorem q1597 : (Jvm.Cond.privateMethod ({ cls := "WhichOneAllKnowModel", name := "again", desc := "([I)V" } : Jvm.MethodName)) ∈ lw_tbl := lw_at lw_m7 75 rfl
theorem q1598 : (Jvm.Cond.instanceMethod ({ cls := "WhichOneAllKnowModel", name := "again", desc := "([I)V" } : Jvm.MethodName)) ∈ lw_all := lw_g (lw_at lw_m7 76 rfl) rfl
theorem q1599 : (Jvm.Cond.code ({ cls := "WhichOneAllKnowModel", name := "again", desc := "([I)V" } : Jvm.MethodName) prog_22_method_92_code (3 : Nat) (Option.none : Option Jvm.ClassFile.FieldType)) ∈ lw_all := lw_g (lw_at lw_m7 77 rfl) rfl
theorem q1601 : (Jvm.Cond.instanceMethod ({ cls := "WhichOneAllKnowModel", name := "fault", desc := "()I" } : Jvm.MethodName)) ∈ lw_all := lw_g (lw_at lw_m7 79 rfl) rfl
theorem q1602 : (Jvm.Cond.selects "WhichOneAllKnowModel" ({ cls := "WhichOneAllKnowModel", name := "fault", desc := "()I" } : Jvm.MethodName) ({ cls := "WhichOneAllKnowModel", name := "fault", desc := "()I" } : Jvm.MethodName)) ∈ lw_all := lw_g (lw_at lw_m7 80 rfl) rfl
theorem q1603 : (Jvm.Cond.code ({ cls := "WhichOneAllKnowModel", name := "fault", desc := "()I" } : Jvm.MethodName) prog_22_method_40_code (1 : Nat) (Option.some Jvm.ClassFile.FieldType.int)) ∈ lw_all := lw_g (lw_at lw_m7 81 rfl) rfl
theorem q1605 : (Jvm.Cond.instanceMethod ({ cls := "WhichOneAllKnowModel", name := "sung", desc := "(IIII)I" } : Jvm.MethodName)) ∈ lw_all := lw_g (lw_at lw_m7 83 rfl) rfl
theorem q1606 : (Jvm.Cond.selects "WhichOneAllKnowModel" ({ cls := "WhichOneAllKnowModel", name := "sung", desc := "(IIII)I" } : Jvm.MethodName) ({ cls := "WhichOneAllKnowModel", name := "sung", desc := "(IIII)I" } : Jvm.MethodName)) ∈ lw_all := lw_g (lw_at lw_m7 84 rfl) rfl
theorem q1607 : (Jvm.Cond.code ({ cls := "WhichOneAllKnowModel", name := "sung", desc := "(IIII)I" } : Jvm.MethodName) prog_22_method_47_code (7 : Nat) (Option.some Jvm.ClassFile.FieldType.int)) ∈ lw_all := lw_g (lw_at lw_m7 85 rfl) rfl
theorem q1608 : (Jvm.Cond.methodLink "WhichOneAllKnowModel" (215 : Nat) ({ cls := "WhichOneAllKnowModel", name := "isPitch", desc := "(I)Z" } : Jvm.MethodName)) ∈ lw_all := lw_g (lw_at lw_m7 86 rfl) rfl
theorem q1609 : (Jvm.Cond.static ({ cls := "WhichOneAllKnowModel", name := "isPitch", desc := "(I)Z" } : Jvm.MethodName)) ∈ lw_all := lw_g (lw_at lw_m7 87 rfl) rfl
theorem q1610 : (Jvm.Cond.code ({ cls := "WhichOneAllKnowModel", name := "isPitch", desc := "(I)Z" } : Jvm.MethodName) prog_22_method_10_code (1 : Nat) (Option.some Jvm.ClassFile.FieldType.boolean)) ∈ lw_all := lw_g (lw_at lw_m7 88 rfl) rfl
theorem q1611 : (Jvm.Cond.methodLink "WhichOneAllKnowModel" (218 : Nat) ({ cls := "WhichOneAllKnowModel", name := "isVerse", desc := "(I)Z" } : Jvm.MethodName)) ∈ lw_all := lw_g (lw_at lw_m7 89 rfl) rfl
theorem q1612 : (Jvm.Cond.static ({ cls := "WhichOneAllKnowModel", name := "isVerse", desc := "(I)Z" } : Jvm.MethodName)) ∈ lw_all := lw_g (lw_at lw_m7 90 rfl) rfl
theorem q1613 : (Jvm.Cond.code ({ cls := "WhichOneAllKnowModel", name := "isVerse", desc := "(I)Z" } : Jvm.MethodName) prog_22_method_11_code (1 : Nat) (Option.some Jvm.ClassFile.FieldType.boolean)) ∈ lw_all := lw_g (lw_at lw_m7 91 rfl) rfl
theorem q1614 : (Jvm.Cond.methodLink "WhichOneAllKnowModel" (221 : Nat) ({ cls := "WhichOneAllKnowModel", name := "hears", desc := "(III)V" } : Jvm.MethodName)) ∈ lw_all := lw_g (lw_at lw_m7 92 rfl) rfl
theorem q1615 : (Jvm.Cond.privateMethod ({ cls := "WhichOneAllKnowModel", name := "hears", desc := "(III)V" } : Jvm.MethodName)) ∈ lw_tbl := lw_at lw_m7 93 rfl
theorem q1616 : (Jvm.Cond.instanceMethod ({ cls := "WhichOneAllKnowModel", name := "hears", desc := "(III)V" } : Jvm.MethodName)) ∈ lw_all := lw_g (lw_at lw_m7 94 rfl) rfl
theorem q1617 : (Jvm.Cond.code ({ cls := "WhichOneAllKnowModel", name := "hears", desc := "(III)V" } : Jvm.MethodName) prog_22_method_46_code (6 : Nat) (Option.none : Option Jvm.ClassFile.FieldType)) ∈ lw_all := lw_g (lw_at lw_m7 95 rfl) rfl
theorem q1618 : (Jvm.Cond.methodLink "WhichOneAllKnowModel" (211 : Nat) ({ cls := "WhichOneAllKnowModel", name := "sings", desc := "(III)V" } : Jvm.MethodName)) ∈ lw_all := lw_g (lw_at lw_m7 96 rfl) rfl
theorem q1619 : (Jvm.Cond.privateMethod ({ cls := "WhichOneAllKnowModel", name := "sings", desc := "(III)V" } : Jvm.MethodName)) ∈ lw_tbl := lw_at lw_m7 97 rfl
theorem q1620 : (Jvm.Cond.instanceMethod ({ cls := "WhichOneAllKnowModel", name := "sings", desc := "(III)V" } : Jvm.MethodName)) ∈ lw_all := lw_g (lw_at lw_m7 98 rfl) rfl
theorem q1621 : (Jvm.Cond.code ({ cls := "WhichOneAllKnowModel", name := "sings", desc := "(III)V" } : Jvm.MethodName) prog_22_method_45_code (7 : Nat) (Option.none : Option Jvm.ClassFile.FieldType)) ∈ lw_all := lw_g (lw_at lw_m7 99 rfl) rfl
theorem q1622 : (Jvm.Cond.methodLink "WhichOneAllKnowModel" (208 : Nat) ({ cls := "WhichOneAllKnowModel", name := "isEnough", desc := "(III)Z" } : Jvm.MethodName)) ∈ lw_all := lw_g (lw_at lw_m7 100 rfl) rfl
theorem q1623 : (Jvm.Cond.privateMethod ({ cls := "WhichOneAllKnowModel", name := "isEnough", desc := "(III)Z" } : Jvm.MethodName)) ∈ lw_tbl := lw_at lw_m7 101 rfl
theorem q1624 : (Jvm.Cond.instanceMethod ({ cls := "WhichOneAllKnowModel", name := "isEnough", desc := "(III)Z" } : Jvm.MethodName)) ∈ lw_all := lw_g (lw_at lw_m7 102 rfl) rfl
theorem q1625 : (Jvm.Cond.code ({ cls := "WhichOneAllKnowModel", name := "isEnough", desc := "(III)Z" } : Jvm.MethodName) prog_22_method_44_code (4 : Nat) (Option.some Jvm.ClassFile.FieldType.boolean)) ∈ lw_all := lw_g (lw_at lw_m7 103 rfl) rfl
theorem q1626 : (Jvm.Cond.methodLink "WhichOneAllKnowModel" (202 : Nat) ({ cls := "WhichOneAllKnowModel", name := "near", desc := "(II)I" } : Jvm.MethodName)) ∈ lw_all := lw_g (lw_at lw_m7 104 rfl) rfl
theorem q1627 : (Jvm.Cond.privateMethod ({ cls := "WhichOneAllKnowModel", name := "near", desc := "(II)I" } : Jvm.MethodName)) ∈ lw_tbl := lw_at lw_m7 105 rfl
theorem q1628 : (Jvm.Cond.instanceMethod ({ cls := "WhichOneAllKnowModel", name := "near", desc := "(II)I" } : Jvm.MethodName)) ∈ lw_all := lw_g (lw_at lw_m7 106 rfl) rfl
theorem q1629 : (Jvm.Cond.code ({ cls := "WhichOneAllKnowModel", name := "near", desc := "(II)I" } : Jvm.MethodName) prog_22_method_43_code (5 : Nat) (Option.some Jvm.ClassFile.FieldType.int)) ∈ lw_all := lw_g (lw_at lw_m7 107 rfl) rfl
theorem q1630 : (Jvm.Cond.methodLink "WhichOneAllKnowModel" (187 : Nat) ({ cls := "WhichOneAllKnowModel", name := "has", desc := "(II)Z" } : Jvm.MethodName)) ∈ lw_all := lw_g (lw_at lw_m7 108 rfl) rfl
theorem q1631 : (Jvm.Cond.static ({ cls := "WhichOneAllKnowModel", name := "has", desc := "(II)Z" } : Jvm.MethodName)) ∈ lw_all := lw_g (lw_at lw_m7 109 rfl) rfl
theorem q1632 : (Jvm.Cond.code ({ cls := "WhichOneAllKnowModel", name := "has", desc := "(II)Z" } : Jvm.MethodName) prog_22_method_5_code (2 : Nat) (Option.some Jvm.ClassFile.FieldType.boolean)) ∈ lw_all := lw_g (lw_at lw_m7 110 rfl) rfl
theorem q1633 : (Jvm.Cond.methodLink "WhichOneAllKnowModel" (199 : Nat) ({ cls := "WhichOneAllKnowModel", name := "areNear", desc := "(II)Z" } : Jvm.MethodName)) ∈ lw_all := lw_g (lw_at lw_m7 111 rfl) rfl
theorem q1634 : (Jvm.Cond.privateMethod ({ cls := "WhichOneAllKnowModel", name := "areNear", desc := "(II)Z" } : Jvm.MethodName)) ∈ lw_tbl := lw_at lw_m7 112 rfl
theorem q1635 : (Jvm.Cond.instanceMethod ({ cls := "WhichOneAllKnowModel", name := "areNear", desc := "(II)Z" } : Jvm.MethodName)) ∈ lw_all := lw_g (lw_at lw_m7 113 rfl) rfl
theorem q1636 : (Jvm.Cond.code ({ cls := "WhichOneAllKnowModel", name := "areNear", desc := "(II)Z" } : Jvm.MethodName) prog_22_method_42_code (5 : Nat) (Option.some Jvm.ClassFile.FieldType.boolean)) ∈ lw_all := lw_g (lw_at lw_m7 114 rfl) rfl
theorem q1637 : (Jvm.Cond.methodLink "WhichOneAllKnowModel" (196 : Nat) ({ cls := "java/lang/Math", name := "abs", desc := "(I)I" } : Jvm.MethodName)) ∈ lw_all := lw_g (lw_at lw_m7 115 rfl) rfl
theorem q1638 : (Jvm.Cond.methodLink "WhichOneAllKnowModel" (205 : Nat) ({ cls := "WhichOneAllKnowModel", name := "need", desc := "(II)I" } : Jvm.MethodName)) ∈ lw_all := lw_g (lw_at lw_m7 116 rfl) rfl
theorem q1639 : (Jvm.Cond.privateMethod ({ cls := "WhichOneAllKnowModel", name := "need", desc := "(II)I" } : Jvm.MethodName)) ∈ lw_tbl := lw_at lw_m7 117 rfl
theorem q1640 : (Jvm.Cond.instanceMethod ({ cls := "WhichOneAllKnowModel", name := "need", desc := "(II)I" } : Jvm.MethodName)) ∈ lw_all := lw_g (lw_at lw_m7 118 rfl) rfl
theorem q1641 : (Jvm.Cond.code ({ cls := "WhichOneAllKnowModel", name := "need", desc := "(II)I" } : Jvm.MethodName) prog_22_method_41_code (4 : Nat) (Option.some Jvm.ClassFile.FieldType.int)) ∈ lw_all := lw_g (lw_at lw_m7 119 rfl) rfl
theorem q1642 : (Jvm.Cond.methodLink "WhichOneAllKnowModel" (190 : Nat) ({ cls := "java/lang/Math", name := "max", desc := "(II)I" } : Jvm.MethodName)) ∈ lw_all := lw_g (lw_at lw_m7 120 rfl) rfl
theorem q1644 : (Jvm.Cond.instanceMethod ({ cls := "WhichOneAllKnowModel", name := "needs", desc := "(II)I" } : Jvm.MethodName)) ∈ lw_all := lw_g (lw_at lw_m7 122 rfl) rfl
theorem q1645 : (Jvm.Cond.selects "WhichOneAllKnowModel" ({ cls := "WhichOneAllKnowModel", name := "needs", desc := "(II)I" } : Jvm.MethodName) ({ cls := "WhichOneAllKnowModel", name := "needs", desc := "(II)I" } : Jvm.MethodName)) ∈ lw_all := lw_g (lw_at lw_m7 123 rfl) rfl
theorem q1646 : (Jvm.Cond.code ({ cls := "WhichOneAllKnowModel", name := "needs", desc := "(II)I" } : Jvm.MethodName) prog_22_method_48_code (3 : Nat) (Option.some Jvm.ClassFile.FieldType.int)) ∈ lw_all := lw_g (lw_at lw_m7 124 rfl) rfl
theorem q1648 : (Jvm.Cond.instanceMethod ({ cls := "WhichOneAllKnowModel", name := "verse", desc := "(III)I" } : Jvm.MethodName)) ∈ lw_all := lw_g (lw_at lw_m7 126 rfl) rfl
theorem q1649 : (Jvm.Cond.selects "WhichOneAllKnowModel" ({ cls := "WhichOneAllKnowModel", name := "verse", desc := "(III)I" } : Jvm.MethodName) ({ cls := "WhichOneAllKnowModel", name := "verse", desc := "(III)I" } : Jvm.MethodName)) ∈ lw_all := lw_g (lw_at lw_m7 127 rfl) rfl
theorem q1650 : (Jvm.Cond.code ({ cls := "WhichOneAllKnowModel", name := "verse", desc := "(III)I" } : Jvm.MethodName) prog_22_method_52_code (4 : Nat) (Option.some Jvm.ClassFile.FieldType.int)) ∈ lw_all := lw_g (lw_at lw_m7 128 rfl) rfl
theorem q1651 : (Jvm.Cond.methodLink "WhichOneAllKnowModel" (227 : Nat) ({ cls := "WhichOneAllKnowModel", name := "no10", desc := "(I)I" } : Jvm.MethodName)) ∈ lw_all := lw_g (lw_at lw_m7 129 rfl) rfl
theorem q1652 : (Jvm.Cond.privateMethod ({ cls := "WhichOneAllKnowModel", name := "no10", desc := "(I)I" } : Jvm.MethodName)) ∈ lw_tbl := lw_at lw_m7 130 rfl
theorem q1653 : (Jvm.Cond.instanceMethod ({ cls := "WhichOneAllKnowModel", name := "no10", desc := "(I)I" } : Jvm.MethodName)) ∈ lw_all := lw_g (lw_at lw_m7 131 rfl) rfl
theorem q1654 : (Jvm.Cond.code ({ cls := "WhichOneAllKnowModel", name := "no10", desc := "(I)I" } : Jvm.MethodName) prog_22_method_3_code (2 : Nat) (Option.some Jvm.ClassFile.FieldType.int)) ∈ lw_all := lw_g (lw_at lw_m7 132 rfl) rfl
theorem q1655 : (Jvm.Cond.methodLink "WhichOneAllKnowModel" (230 : Nat) ({ cls := "WhichOneAllKnowModel", name := "catches", desc := "(II)I" } : Jvm.MethodName)) ∈ lw_all := lw_g (lw_at lw_m7 133 rfl) rfl
theorem q1656 : (Jvm.Cond.privateMethod ({ cls := "WhichOneAllKnowModel", name := "catches", desc := "(II)I" } : Jvm.MethodName)) ∈ lw_tbl := lw_at lw_m7 134 rfl
theorem q1657 : (Jvm.Cond.instanceMethod ({ cls := "WhichOneAllKnowModel", name := "catches", desc := "(II)I" } : Jvm.MethodName)) ∈ lw_all := lw_g (lw_at lw_m7 135 rfl) rfl
theorem q1658 : (Jvm.Cond.code ({ cls := "WhichOneAllKnowModel", name := "catches", desc := "(II)I" } : Jvm.MethodName) prog_22_method_49_code (4 : Nat) (Option.some Jvm.ClassFile.FieldType.int)) ∈ lw_all := lw_g (lw_at lw_m7 136 rfl) rfl
theorem q1659 : (Jvm.Cond.methodLink "WhichOneAllKnowModel" (233 : Nat) ({ cls := "WhichOneAllKnowModel", name := "settles", desc := "(II)I" } : Jvm.MethodName)) ∈ lw_all := lw_g (lw_at lw_m7 137 rfl) rfl
theorem q1660 : (Jvm.Cond.privateMethod ({ cls := "WhichOneAllKnowModel", name := "settles", desc := "(II)I" } : Jvm.MethodName)) ∈ lw_tbl := lw_at lw_m7 138 rfl
theorem q1661 : (Jvm.Cond.instanceMethod ({ cls := "WhichOneAllKnowModel", name := "settles", desc := "(II)I" } : Jvm.MethodName)) ∈ lw_all := lw_g (lw_at lw_m7 139 rfl) rfl
theorem q1662 : (Jvm.Cond.code ({ cls := "WhichOneAllKnowModel", name := "settles", desc := "(II)I" } : Jvm.MethodName) prog_22_method_51_code (4 : Nat) (Option.some Jvm.ClassFile.FieldType.int)) ∈ lw_all := lw_g (lw_at lw_m7 140 rfl) rfl
theorem q1663 : (Jvm.Cond.methodLink "WhichOneAllKnowModel" (224 : Nat) ({ cls := "WhichOneAllKnowModel", name := "isSame", desc := "(II)Z" } : Jvm.MethodName)) ∈ lw_all := lw_g (lw_at lw_m7 141 rfl) rfl
theorem q1664 : (Jvm.Cond.privateMethod ({ cls := "WhichOneAllKnowModel", name := "isSame", desc := "(II)Z" } : Jvm.MethodName)) ∈ lw_tbl := lw_at lw_m7 142 rfl
theorem q1665 : (Jvm.Cond.instanceMethod ({ cls := "WhichOneAllKnowModel", name := "isSame", desc := "(II)Z" } : Jvm.MethodName)) ∈ lw_all := lw_g (lw_at lw_m7 143 rfl) rfl
theorem q1666 : (Jvm.Cond.code ({ cls := "WhichOneAllKnowModel", name := "isSame", desc := "(II)Z" } : Jvm.MethodName) prog_22_method_50_code (3 : Nat) (Option.some Jvm.ClassFile.FieldType.boolean)) ∈ lw_all := lw_g (lw_at lw_m7 144 rfl) rfl
theorem q1668 : (Jvm.Cond.instanceMethod ({ cls := "WhichOneAllKnowModel", name := "best", desc := "(II)I" } : Jvm.MethodName)) ∈ lw_all := lw_g (lw_at lw_m7 146 rfl) rfl
theorem q1669 : (Jvm.Cond.selects "WhichOneAllKnowModel" ({ cls := "WhichOneAllKnowModel", name := "best", desc := "(II)I" } : Jvm.MethodName) ({ cls := "WhichOneAllKnowModel", name := "best", desc := "(II)I" } : Jvm.MethodName)) ∈ lw_all := lw_g (lw_at lw_m7 147 rfl) rfl
theorem q1670 : (Jvm.Cond.code ({ cls := "WhichOneAllKnowModel", name := "best", desc := "(II)I" } : Jvm.MethodName) prog_22_method_55_code (7 : Nat) (Option.some Jvm.ClassFile.FieldType.int)) ∈ lw_all := lw_g (lw_at lw_m7 148 rfl) rfl
theorem q1671 : (Jvm.Cond.methodLink "WhichOneAllKnowModel" (240 : Nat) ({ cls := "WhichOneAllKnowModel", name := "manyAt", desc := "(III)I" } : Jvm.MethodName)) ∈ lw_all := lw_g (lw_at lw_m7 149 rfl) rfl
theorem q1672 : (Jvm.Cond.privateMethod ({ cls := "WhichOneAllKnowModel", name := "manyAt", desc := "(III)I" } : Jvm.MethodName)) ∈ lw_tbl := lw_at lw_m7 150 rfl
theorem q1673 : (Jvm.Cond.instanceMethod ({ cls := "WhichOneAllKnowModel", name := "manyAt", desc := "(III)I" } : Jvm.MethodName)) ∈ lw_all := lw_g (lw_at lw_m7 151 rfl) rfl
theorem q1674 : (Jvm.Cond.code ({ cls := "WhichOneAllKnowModel", name := "manyAt", desc := "(III)I" } : Jvm.MethodName) prog_22_method_54_code (4 : Nat) (Option.some Jvm.ClassFile.FieldType.int)) ∈ lw_all := lw_g (lw_at lw_m7 152 rfl) rfl
theorem q1675 : (Jvm.Cond.methodLink "WhichOneAllKnowModel" (236 : Nat) ({ cls := "WhichOneAllKnowModel", name := "rightAt", desc := "(III)I" } : Jvm.MethodName)) ∈ lw_all := lw_g (lw_at lw_m7 153 rfl) rfl
theorem q1676 : (Jvm.Cond.privateMethod ({ cls := "WhichOneAllKnowModel", name := "rightAt", desc := "(III)I" } : Jvm.MethodName)) ∈ lw_tbl := lw_at lw_m7 154 rfl
theorem q1677 : (Jvm.Cond.instanceMethod ({ cls := "WhichOneAllKnowModel", name := "rightAt", desc := "(III)I" } : Jvm.MethodName)) ∈ lw_all := lw_g (lw_at lw_m7 155 rfl) rfl
theorem q1678 : (Jvm.Cond.code ({ cls := "WhichOneAllKnowModel", name := "rightAt", desc := "(III)I" } : Jvm.MethodName) prog_22_method_53_code (4 : Nat) (Option.some Jvm.ClassFile.FieldType.int)) ∈ lw_all := lw_g (lw_at lw_m7 156 rfl) rfl
theorem q1680 : (Jvm.Cond.instanceMethod ({ cls := "WhichOneAllKnowModel", name := "pitch", desc := "(II)I" } : Jvm.MethodName)) ∈ lw_all := lw_g (lw_at lw_m7 158 rfl) rfl
theorem q1681 : (Jvm.Cond.selects "WhichOneAllKnowModel" ({ cls := "WhichOneAllKnowModel", name := "pitch", desc := "(II)I" } : Jvm.MethodName) ({ cls := "WhichOneAllKnowModel", name := "pitch", desc := "(II)I" } : Jvm.MethodName)) ∈ lw_all := lw_g (lw_at lw_m7 159 rfl) rfl
theorem q1682 : (Jvm.Cond.code ({ cls := "WhichOneAllKnowModel", name := "pitch", desc := "(II)I" } : Jvm.MethodName) prog_22_method_56_code (7 : Nat) (Option.some Jvm.ClassFile.FieldType.int)) ∈ lw_all := lw_g (lw_at lw_m7 160 rfl) rfl
theorem q1684 : (Jvm.Cond.instanceMethod ({ cls := "WhichOneAllKnowModel", name := "two", desc := "(I)I" } : Jvm.MethodName)) ∈ lw_all := lw_g (lw_at lw_m7 162 rfl) rfl
theorem q1685 : (Jvm.Cond.selects "WhichOneAllKnowModel" ({ cls := "WhichOneAllKnowModel", name := "two", desc := "(I)I" } : Jvm.MethodName) ({ cls := "WhichOneAllKnowModel", name := "two", desc := "(I)I" } : Jvm.MethodName)) ∈ lw_all := lw_g (lw_at lw_m7 163 rfl) rfl
theorem q1686 : (Jvm.Cond.code ({ cls := "WhichOneAllKnowModel", name := "two", desc := "(I)I" } : Jvm.MethodName) prog_22_method_57_code (8 : Nat) (Option.some Jvm.ClassFile.FieldType.int)) ∈ lw_all := lw_g (lw_at lw_m7 164 rfl) rfl
theorem q1688 : (Jvm.Cond.instanceMethod ({ cls := "WhichOneAllKnowModel", name := "leaders", desc := "(IIIII)I" } : Jvm.MethodName)) ∈ lw_all := lw_g (lw_at lw_m7 166 rfl) rfl
theorem q1689 : (Jvm.Cond.selects "WhichOneAllKnowModel" ({ cls := "WhichOneAllKnowModel", name := "leaders", desc := "(IIIII)I" } : Jvm.MethodName) ({ cls := "WhichOneAllKnowModel", name := "leaders", desc := "(IIIII)I" } : Jvm.MethodName)) ∈ lw_all := lw_g (lw_at lw_m7 167 rfl) rfl
theorem q1690 : (Jvm.Cond.code ({ cls := "WhichOneAllKnowModel", name := "leaders", desc := "(IIIII)I" } : Jvm.MethodName) prog_22_method_61_code (7 : Nat) (Option.some Jvm.ClassFile.FieldType.int)) ∈ lw_all := lw_g (lw_at lw_m7 168 rfl) rfl
theorem q1691 : (Jvm.Cond.methodLink "WhichOneAllKnowModel" (251 : Nat) ({ cls := "WhichOneAllKnowModel", name := "bestLeaders", desc := "(IIII)I" } : Jvm.MethodName)) ∈ lw_all := lw_g (lw_at lw_m7 169 rfl) rfl
theorem q1692 : (Jvm.Cond.privateMethod ({ cls := "WhichOneAllKnowModel", name := "bestLeaders", desc := "(IIII)I" } : Jvm.MethodName)) ∈ lw_tbl := lw_at lw_m7 170 rfl
theorem q1693 : (Jvm.Cond.instanceMethod ({ cls := "WhichOneAllKnowModel", name := "bestLeaders", desc := "(IIII)I" } : Jvm.MethodName)) ∈ lw_all := lw_g (lw_at lw_m7 171 rfl) rfl
theorem q1694 : (Jvm.Cond.code ({ cls := "WhichOneAllKnowModel", name := "bestLeaders", desc := "(IIII)I" } : Jvm.MethodName) prog_22_method_60_code (11 : Nat) (Option.some Jvm.ClassFile.FieldType.int)) ∈ lw_all := lw_g (lw_at lw_m7 172 rfl) rfl
theorem q1695 : (Jvm.Cond.methodLink "WhichOneAllKnowModel" (243 : Nat) ({ cls := "WhichOneAllKnowModel", name := "leads", desc := "(I)V" } : Jvm.MethodName)) ∈ lw_all := lw_g (lw_at lw_m7 173 rfl) rfl
theorem q1696 : (Jvm.Cond.privateMethod ({ cls := "WhichOneAllKnowModel", name := "leads", desc := "(I)V" } : Jvm.MethodName)) ∈ lw_tbl := lw_at lw_m7 174 rfl
theorem q1697 : (Jvm.Cond.instanceMethod ({ cls := "WhichOneAllKnowModel", name := "leads", desc := "(I)V" } : Jvm.MethodName)) ∈ lw_all := lw_g (lw_at lw_m7 175 rfl) rfl
theorem q1698 : (Jvm.Cond.code ({ cls := "WhichOneAllKnowModel", name := "leads", desc := "(I)V" } : Jvm.MethodName) prog_22_method_58_code (2 : Nat) (Option.none : Option Jvm.ClassFile.FieldType)) ∈ lw_all := lw_g (lw_at lw_m7 176 rfl) rfl
theorem q1699 : (Jvm.Cond.methodLink "WhichOneAllKnowModel" (247 : Nat) ({ cls := "WhichOneAllKnowModel", name := "ledAt", desc := "(IIII)I" } : Jvm.MethodName)) ∈ lw_all := lw_g (lw_at lw_m7 177 rfl) rfl
theorem q1700 : (Jvm.Cond.privateMethod ({ cls := "WhichOneAllKnowModel", name := "ledAt", desc := "(IIII)I" } : Jvm.MethodName)) ∈ lw_tbl := lw_at lw_m7 178 rfl
theorem q1701 : (Jvm.Cond.instanceMethod ({ cls := "WhichOneAllKnowModel", name := "ledAt", desc := "(IIII)I" } : Jvm.MethodName)) ∈ lw_all := lw_g (lw_at lw_m7 179 rfl) rfl
theorem q1702 : (Jvm.Cond.code ({ cls := "WhichOneAllKnowModel", name := "ledAt", desc := "(IIII)I" } : Jvm.MethodName) prog_22_method_59_code (5 : Nat) (Option.some Jvm.ClassFile.FieldType.int)) ∈ lw_all := lw_g (lw_at lw_m7 180 rfl) rfl
theorem q1704 : (Jvm.Cond.instanceMethod ({ cls := "WhichOneAllKnowModel", name := "taught", desc := "(II)I" } : Jvm.MethodName)) ∈ lw_all := lw_g (lw_at lw_m7 182 rfl) rfl
theorem q1705 : (Jvm.Cond.selects "WhichOneAllKnowModel" ({ cls := "WhichOneAllKnowModel", name := "taught", desc := "(II)I" } : Jvm.MethodName) ({ cls := "WhichOneAllKnowModel", name := "taught", desc := "(II)I" } : Jvm.MethodName)) ∈ lw_all := lw_g (lw_at lw_m7 183 rfl) rfl
theorem q1706 : (Jvm.Cond.code ({ cls := "WhichOneAllKnowModel", name := "taught", desc := "(II)I" } : Jvm.MethodName) prog_22_method_62_code (7 : Nat) (Option.some Jvm.ClassFile.FieldType.int)) ∈ lw_all := lw_g (lw_at lw_m7 184 rfl) rfl
theorem q1708 : (Jvm.Cond.instanceMethod ({ cls := "WhichOneAllKnowModel", name := "helps", desc := "(IIII)I" } : Jvm.MethodName)) ∈ lw_all := lw_g (lw_at lw_m7 186 rfl) rfl
theorem q1709 : (Jvm.Cond.selects "WhichOneAllKnowModel" ({ cls := "WhichOneAllKnowModel", name := "helps", desc := "(IIII)I" } : Jvm.MethodName) ({ cls := "WhichOneAllKnowModel", name := "helps", desc := "(IIII)I" } : Jvm.MethodName)) ∈ lw_all := lw_g (lw_at lw_m7 187 rfl) rfl
theorem q1710 : (Jvm.Cond.code ({ cls := "WhichOneAllKnowModel", name := "helps", desc := "(IIII)I" } : Jvm.MethodName) prog_22_method_63_code (7 : Nat) (Option.some Jvm.ClassFile.FieldType.int)) ∈ lw_all := lw_g (lw_at lw_m7 188 rfl) rfl
theorem q1712 : (Jvm.Cond.instanceMethod ({ cls := "WhichOneAllKnowModel", name := "late", desc := "(II)I" } : Jvm.MethodName)) ∈ lw_all := lw_g (lw_at lw_m7 190 rfl) rfl
theorem q1713 : (Jvm.Cond.selects "WhichOneAllKnowModel" ({ cls := "WhichOneAllKnowModel", name := "late", desc := "(II)I" } : Jvm.MethodName) ({ cls := "WhichOneAllKnowModel", name := "late", desc := "(II)I" } : Jvm.MethodName)) ∈ lw_all := lw_g (lw_at lw_m7 191 rfl) rfl
theorem q1714 : (Jvm.Cond.code ({ cls := "WhichOneAllKnowModel", name := "late", desc := "(II)I" } : Jvm.MethodName) prog_22_method_65_code (3 : Nat) (Option.some Jvm.ClassFile.FieldType.int)) ∈ lw_all := lw_g (lw_at lw_m7 192 rfl) rfl
theorem q1715 : (Jvm.Cond.methodLink "WhichOneAllKnowModel" (254 : Nat) ({ cls := "WhichOneAllKnowModel", name := "lateBy", desc := "(II)I" } : Jvm.MethodName)) ∈ lw_all := lw_g (lw_at lw_m7 193 rfl) rfl
theorem q1716 : (Jvm.Cond.privateMethod ({ cls := "WhichOneAllKnowModel", name := "lateBy", desc := "(II)I" } : Jvm.MethodName)) ∈ lw_tbl := lw_at lw_m7 194 rfl
theorem q1717 : (Jvm.Cond.instanceMethod ({ cls := "WhichOneAllKnowModel", name := "lateBy", desc := "(II)I" } : Jvm.MethodName)) ∈ lw_all := lw_g (lw_at lw_m7 195 rfl) rfl
theorem q1718 : (Jvm.Cond.code ({ cls := "WhichOneAllKnowModel", name := "lateBy", desc := "(II)I" } : Jvm.MethodName) prog_22_method_64_code (5 : Nat) (Option.some Jvm.ClassFile.FieldType.int)) ∈ lw_all := lw_g (lw_at lw_m7 196 rfl) rfl
theorem q1720 : (Jvm.Cond.instanceMethod ({ cls := "WhichOneAllKnowModel", name := "ahead", desc := "(II)I" } : Jvm.MethodName)) ∈ lw_all := lw_g (lw_at lw_m7 198 rfl) rfl
theorem q1721 : (Jvm.Cond.selects "WhichOneAllKnowModel" ({ cls := "WhichOneAllKnowModel", name := "ahead", desc := "(II)I" } : Jvm.MethodName) ({ cls := "WhichOneAllKnowModel", name := "ahead", desc := "(II)I" } : Jvm.MethodName)) ∈ lw_all := lw_g (lw_at lw_m7 199 rfl) rfl
theorem q1722 : (Jvm.Cond.code ({ cls := "WhichOneAllKnowModel", name := "ahead", desc := "(II)I" } : Jvm.MethodName) prog_22_method_66_code (4 : Nat) (Option.some Jvm.ClassFile.FieldType.int)) ∈ lw_all := lw_g (lw_at lw_m7 200 rfl) rfl
theorem q1724 : (Jvm.Cond.instanceMethod ({ cls := "WhichOneAllKnowModel", name := "fits", desc := "(III)I" } : Jvm.MethodName)) ∈ lw_all := lw_g (lw_at lw_m7 202 rfl) rfl
theorem q1725 : (Jvm.Cond.selects "WhichOneAllKnowModel" ({ cls := "WhichOneAllKnowModel", name := "fits", desc := "(III)I" } : Jvm.MethodName) ({ cls := "WhichOneAllKnowModel", name := "fits", desc := "(III)I" } : Jvm.MethodName)) ∈ lw_all := lw_g (lw_at lw_m7 203 rfl) rfl
theorem q1726 : (Jvm.Cond.code ({ cls := "WhichOneAllKnowModel", name := "fits", desc := "(III)I" } : Jvm.MethodName) prog_22_method_70_code (7 : Nat) (Option.some Jvm.ClassFile.FieldType.int)) ∈ lw_all := lw_g (lw_at lw_m7 204 rfl) rfl
theorem q1727 : (Jvm.Cond.methodLink "WhichOneAllKnowModel" (260 : Nat) ({ cls := "WhichOneAllKnowModel", name := "noTold", desc := "(IIII)I" } : Jvm.MethodName)) ∈ lw_all := lw_g (lw_at lw_m7 205 rfl) rfl
theorem q1728 : (Jvm.Cond.privateMethod ({ cls := "WhichOneAllKnowModel", name := "noTold", desc := "(IIII)I" } : Jvm.MethodName)) ∈ lw_tbl := lw_at lw_m7 206 rfl
theorem q1729 : (Jvm.Cond.instanceMethod ({ cls := "WhichOneAllKnowModel", name := "noTold", desc := "(IIII)I" } : Jvm.MethodName)) ∈ lw_all := lw_g (lw_at lw_m7 207 rfl) rfl
theorem q1730 : (Jvm.Cond.code ({ cls := "WhichOneAllKnowModel", name := "noTold", desc := "(IIII)I" } : Jvm.MethodName) prog_22_method_68_code (6 : Nat) (Option.some Jvm.ClassFile.FieldType.int)) ∈ lw_all := lw_g (lw_at lw_m7 208 rfl) rfl
theorem q1731 : (Jvm.Cond.methodLink "WhichOneAllKnowModel" (263 : Nat) ({ cls := "WhichOneAllKnowModel", name := "isFit", desc := "(IIII)Z" } : Jvm.MethodName)) ∈ lw_all := lw_g (lw_at lw_m7 209 rfl) rfl
theorem q1732 : (Jvm.Cond.privateMethod ({ cls := "WhichOneAllKnowModel", name := "isFit", desc := "(IIII)Z" } : Jvm.MethodName)) ∈ lw_tbl := lw_at lw_m7 210 rfl
theorem q1733 : (Jvm.Cond.instanceMethod ({ cls := "WhichOneAllKnowModel", name := "isFit", desc := "(IIII)Z" } : Jvm.MethodName)) ∈ lw_all := lw_g (lw_at lw_m7 211 rfl) rfl
theorem q1734 : (Jvm.Cond.code ({ cls := "WhichOneAllKnowModel", name := "isFit", desc := "(IIII)Z" } : Jvm.MethodName) prog_22_method_69_code (6 : Nat) (Option.some Jvm.ClassFile.FieldType.boolean)) ∈ lw_all := lw_g (lw_at lw_m7 212 rfl) rfl
theorem q1735 : (Jvm.Cond.methodLink "WhichOneAllKnowModel" (257 : Nat) ({ cls := "WhichOneAllKnowModel", name := "toldAt", desc := "(II)I" } : Jvm.MethodName)) ∈ lw_all := lw_g (lw_at lw_m7 213 rfl) rfl
theorem q1736 : (Jvm.Cond.privateMethod ({ cls := "WhichOneAllKnowModel", name := "toldAt", desc := "(II)I" } : Jvm.MethodName)) ∈ lw_tbl := lw_at lw_m7 214 rfl
theorem q1737 : (Jvm.Cond.instanceMethod ({ cls := "WhichOneAllKnowModel", name := "toldAt", desc := "(II)I" } : Jvm.MethodName)) ∈ lw_all := lw_g (lw_at lw_m7 215 rfl) rfl
theorem q1738 : (Jvm.Cond.code ({ cls := "WhichOneAllKnowModel", name := "toldAt", desc := "(II)I" } : Jvm.MethodName) prog_22_method_67_code (3 : Nat) (Option.some Jvm.ClassFile.FieldType.int)) ∈ lw_all := lw_g (lw_at lw_m7 216 rfl) rfl
theorem q1740 : (Jvm.Cond.instanceMethod ({ cls := "WhichOneAllKnowModel", name := "changed", desc := "(IIII)I" } : Jvm.MethodName)) ∈ lw_all := lw_g (lw_at lw_m7 218 rfl) rfl
theorem q1741 : (Jvm.Cond.selects "WhichOneAllKnowModel" ({ cls := "WhichOneAllKnowModel", name := "changed", desc := "(IIII)I" } : Jvm.MethodName) ({ cls := "WhichOneAllKnowModel", name := "changed", desc := "(IIII)I" } : Jvm.MethodName)) ∈ lw_all := lw_g (lw_at lw_m7 219 rfl) rfl
theorem q1742 : (Jvm.Cond.code ({ cls := "WhichOneAllKnowModel", name := "changed", desc := "(IIII)I" } : Jvm.MethodName) prog_22_method_72_code (9 : Nat) (Option.some Jvm.ClassFile.FieldType.int)) ∈ lw_all := lw_g (lw_at lw_m7 220 rfl) rfl
theorem q1743 : (Jvm.Cond.methodLink "WhichOneAllKnowModel" (267 : Nat) ({ cls := "WhichOneAllKnowModel", name := "change", desc := "(II)V" } : Jvm.MethodName)) ∈ lw_all := lw_g (lw_at lw_m7 221 rfl) rfl
theorem q1744 : (Jvm.Cond.privateMethod ({ cls := "WhichOneAllKnowModel", name := "change", desc := "(II)V" } : Jvm.MethodName)) ∈ lw_tbl := lw_at lw_m7 222 rfl
theorem q1745 : (Jvm.Cond.instanceMethod ({ cls := "WhichOneAllKnowModel", name := "change", desc := "(II)V" } : Jvm.MethodName)) ∈ lw_all := lw_g (lw_at lw_m7 223 rfl) rfl
theorem q1746 : (Jvm.Cond.code ({ cls := "WhichOneAllKnowModel", name := "change", desc := "(II)V" } : Jvm.MethodName) prog_22_method_71_code (4 : Nat) (Option.none : Option Jvm.ClassFile.FieldType)) ∈ lw_all := lw_g (lw_at lw_m7 224 rfl) rfl
theorem q1748 : (Jvm.Cond.instanceMethod ({ cls := "WhichOneAllKnowModel", name := "known", desc := "(II)I" } : Jvm.MethodName)) ∈ lw_all := lw_g (lw_at lw_m7 226 rfl) rfl
theorem q1749 : (Jvm.Cond.selects "WhichOneAllKnowModel" ({ cls := "WhichOneAllKnowModel", name := "known", desc := "(II)I" } : Jvm.MethodName) ({ cls := "WhichOneAllKnowModel", name := "known", desc := "(II)I" } : Jvm.MethodName)) ∈ lw_all := lw_g (lw_at lw_m7 227 rfl) rfl
theorem q1750 : (Jvm.Cond.code ({ cls := "WhichOneAllKnowModel", name := "known", desc := "(II)I" } : Jvm.MethodName) prog_22_method_75_code (5 : Nat) (Option.some Jvm.ClassFile.FieldType.int)) ∈ lw_all := lw_g (lw_at lw_m7 228 rfl) rfl
theorem q1751 : (Jvm.Cond.methodLink "WhichOneAllKnowModel" (271 : Nat) ({ cls := "WhichOneAllKnowModel", name := "knownAll", desc := "()I" } : Jvm.MethodName)) ∈ lw_all := lw_g (lw_at lw_m7 229 rfl) rfl
theorem q1752 : (Jvm.Cond.privateMethod ({ cls := "WhichOneAllKnowModel", name := "knownAll", desc := "()I" } : Jvm.MethodName)) ∈ lw_tbl := lw_at lw_m7 230 rfl
theorem q1753 : (Jvm.Cond.instanceMethod ({ cls := "WhichOneAllKnowModel", name := "knownAll", desc := "()I" } : Jvm.MethodName)) ∈ lw_all := lw_g (lw_at lw_m7 231 rfl) rfl
theorem q1754 : (Jvm.Cond.code ({ cls := "WhichOneAllKnowModel", name := "knownAll", desc := "()I" } : Jvm.MethodName) prog_22_method_73_code (3 : Nat) (Option.some Jvm.ClassFile.FieldType.int)) ∈ lw_all := lw_g (lw_at lw_m7 232 rfl) rfl
theorem q1755 : (Jvm.Cond.methodLink "WhichOneAllKnowModel" (274 : Nat) ({ cls := "WhichOneAllKnowModel", name := "whomToAsk", desc := "()I" } : Jvm.MethodName)) ∈ lw_all := lw_g (lw_at lw_m7 233 rfl) rfl
theorem q1756 : (Jvm.Cond.privateMethod ({ cls := "WhichOneAllKnowModel", name := "whomToAsk", desc := "()I" } : Jvm.MethodName)) ∈ lw_tbl := lw_at lw_m7 234 rfl
theorem q1757 : (Jvm.Cond.instanceMethod ({ cls := "WhichOneAllKnowModel", name := "whomToAsk", desc := "()I" } : Jvm.MethodName)) ∈ lw_all := lw_g (lw_at lw_m7 235 rfl) rfl
theorem q1758 : (Jvm.Cond.code ({ cls := "WhichOneAllKnowModel", name := "whomToAsk", desc := "()I" } : Jvm.MethodName) prog_22_method_74_code (6 : Nat) (Option.some Jvm.ClassFile.FieldType.int)) ∈ lw_all := lw_g (lw_at lw_m7 236 rfl) rfl
theorem q1760 : (Jvm.Cond.instanceMethod ({ cls := "WhichOneAllKnowModel", name := "judge", desc := "(II)I" } : Jvm.MethodName)) ∈ lw_all := lw_g (lw_at lw_m7 238 rfl) rfl
theorem q1761 : (Jvm.Cond.selects "WhichOneAllKnowModel" ({ cls := "WhichOneAllKnowModel", name := "judge", desc := "(II)I" } : Jvm.MethodName) ({ cls := "WhichOneAllKnowModel", name := "judge", desc := "(II)I" } : Jvm.MethodName)) ∈ lw_all := lw_g (lw_at lw_m7 239 rfl) rfl
theorem q1762 : (Jvm.Cond.code ({ cls := "WhichOneAllKnowModel", name := "judge", desc := "(II)I" } : Jvm.MethodName) prog_22_method_77_code (4 : Nat) (Option.some Jvm.ClassFile.FieldType.int)) ∈ lw_all := lw_g (lw_at lw_m8 0 rfl) rfl
theorem q1763 : (Jvm.Cond.methodLink "WhichOneAllKnowModel" (277 : Nat) ({ cls := "WhichOneAllKnowModel", name := "wrongAt", desc := "(II)I" } : Jvm.MethodName)) ∈ lw_all := lw_g (lw_at lw_m8 1 rfl) rfl
theorem q1764 : (Jvm.Cond.privateMethod ({ cls := "WhichOneAllKnowModel", name := "wrongAt", desc := "(II)I" } : Jvm.MethodName)) ∈ lw_tbl := lw_at lw_m8 2 rfl
theorem q1765 : (Jvm.Cond.instanceMethod ({ cls := "WhichOneAllKnowModel", name := "wrongAt", desc := "(II)I" } : Jvm.MethodName)) ∈ lw_all := lw_g (lw_at lw_m8 3 rfl) rfl
theorem q1766 : (Jvm.Cond.code ({ cls := "WhichOneAllKnowModel", name := "wrongAt", desc := "(II)I" } : Jvm.MethodName) prog_22_method_76_code (5 : Nat) (Option.some Jvm.ClassFile.FieldType.int)) ∈ lw_all := lw_g (lw_at lw_m8 4 rfl) rfl
theorem q1768 : (Jvm.Cond.instanceMethod ({ cls := "WhichOneAllKnowModel", name := "behind", desc := "(III)I" } : Jvm.MethodName)) ∈ lw_all := lw_g (lw_at lw_m8 6 rfl) rfl
theorem q1769 : (Jvm.Cond.selects "WhichOneAllKnowModel" ({ cls := "WhichOneAllKnowModel", name := "behind", desc := "(III)I" } : Jvm.MethodName) ({ cls := "WhichOneAllKnowModel", name := "behind", desc := "(III)I" } : Jvm.MethodName)) ∈ lw_all := lw_g (lw_at lw_m8 7 rfl) rfl
theorem q1770 : (Jvm.Cond.code ({ cls := "WhichOneAllKnowModel", name := "behind", desc := "(III)I" } : Jvm.MethodName) prog_22_method_79_code (10 : Nat) (Option.some Jvm.ClassFile.FieldType.int)) ∈ lw_all := lw_g (lw_at lw_m8 8 rfl) rfl
theorem q1771 : (Jvm.Cond.methodLink "WhichOneAllKnowModel" (283 : Nat) ({ cls := "WhichOneAllKnowModel", name := "isSung", desc := "(III)I" } : Jvm.MethodName)) ∈ lw_all := lw_g (lw_at lw_m8 9 rfl) rfl
theorem q1772 : (Jvm.Cond.privateMethod ({ cls := "WhichOneAllKnowModel", name := "isSung", desc := "(III)I" } : Jvm.MethodName)) ∈ lw_tbl := lw_at lw_m8 10 rfl
theorem q1773 : (Jvm.Cond.instanceMethod ({ cls := "WhichOneAllKnowModel", name := "isSung", desc := "(III)I" } : Jvm.MethodName)) ∈ lw_all := lw_g (lw_at lw_m8 11 rfl) rfl
theorem q1774 : (Jvm.Cond.code ({ cls := "WhichOneAllKnowModel", name := "isSung", desc := "(III)I" } : Jvm.MethodName) prog_22_method_78_code (6 : Nat) (Option.some Jvm.ClassFile.FieldType.int)) ∈ lw_all := lw_g (lw_at lw_m8 12 rfl) rfl
theorem q1776 : (Jvm.Cond.instanceMethod ({ cls := "WhichOneAllKnowModel", name := "done", desc := "(II)I" } : Jvm.MethodName)) ∈ lw_all := lw_g (lw_at lw_m8 14 rfl) rfl
theorem q1777 : (Jvm.Cond.selects "WhichOneAllKnowModel" ({ cls := "WhichOneAllKnowModel", name := "done", desc := "(II)I" } : Jvm.MethodName) ({ cls := "WhichOneAllKnowModel", name := "done", desc := "(II)I" } : Jvm.MethodName)) ∈ lw_all := lw_g (lw_at lw_m8 15 rfl) rfl
theorem q1778 : (Jvm.Cond.code ({ cls := "WhichOneAllKnowModel", name := "done", desc := "(II)I" } : Jvm.MethodName) prog_22_method_80_code (5 : Nat) (Option.some Jvm.ClassFile.FieldType.int)) ∈ lw_all := lw_g (lw_at lw_m8 16 rfl) rfl
theorem q1780 : (Jvm.Cond.instanceMethod ({ cls := "WhichOneAllKnowModel", name := "hymn", desc := "(III)I" } : Jvm.MethodName)) ∈ lw_all := lw_g (lw_at lw_m8 18 rfl) rfl
theorem q1781 : (Jvm.Cond.selects "WhichOneAllKnowModel" ({ cls := "WhichOneAllKnowModel", name := "hymn", desc := "(III)I" } : Jvm.MethodName) ({ cls := "WhichOneAllKnowModel", name := "hymn", desc := "(III)I" } : Jvm.MethodName)) ∈ lw_all := lw_g (lw_at lw_m8 19 rfl) rfl
theorem q1782 : (Jvm.Cond.code ({ cls := "WhichOneAllKnowModel", name := "hymn", desc := "(III)I" } : Jvm.MethodName) prog_22_method_81_code (4 : Nat) (Option.some Jvm.ClassFile.FieldType.int)) ∈ lw_all := lw_g (lw_at lw_m8 20 rfl) rfl
theorem q1784 : (Jvm.Cond.instanceMethod ({ cls := "WhichOneAllKnowModel", name := "years", desc := "(I)I" } : Jvm.MethodName)) ∈ lw_all := lw_g (lw_at lw_m8 22 rfl) rfl
theorem q1785 : (Jvm.Cond.selects "WhichOneAllKnowModel" ({ cls := "WhichOneAllKnowModel", name := "years", desc := "(I)I" } : Jvm.MethodName) ({ cls := "WhichOneAllKnowModel", name := "years", desc := "(I)I" } : Jvm.MethodName)) ∈ lw_all := lw_g (lw_at lw_m8 23 rfl) rfl
theorem q1786 : (Jvm.Cond.code ({ cls := "WhichOneAllKnowModel", name := "years", desc := "(I)I" } : Jvm.MethodName) prog_22_method_83_code (5 : Nat) (Option.some Jvm.ClassFile.FieldType.int)) ∈ lw_all := lw_g (lw_at lw_m8 24 rfl) rfl
theorem q1787 : (Jvm.Cond.methodLink "WhichOneAllKnowModel" (287 : Nat) ({ cls := "WhichOneAllKnowModel", name := "draw", desc := "(I)I" } : Jvm.MethodName)) ∈ lw_all := lw_g (lw_at lw_m8 25 rfl) rfl
theorem q1788 : (Jvm.Cond.privateMethod ({ cls := "WhichOneAllKnowModel", name := "draw", desc := "(I)I" } : Jvm.MethodName)) ∈ lw_tbl := lw_at lw_m8 26 rfl
theorem q1789 : (Jvm.Cond.instanceMethod ({ cls := "WhichOneAllKnowModel", name := "draw", desc := "(I)I" } : Jvm.MethodName)) ∈ lw_all := lw_g (lw_at lw_m8 27 rfl) rfl
theorem q1790 : (Jvm.Cond.code ({ cls := "WhichOneAllKnowModel", name := "draw", desc := "(I)I" } : Jvm.MethodName) prog_22_method_82_code (2 : Nat) (Option.some Jvm.ClassFile.FieldType.int)) ∈ lw_all := lw_g (lw_at lw_m8 28 rfl) rfl
theorem q1791 : (Jvm.Cond.constant "WhichOneAllKnowModel" (286 : Nat) (1103515245 : Int32)) ∈ lw_all := lw_g (lw_at lw_m8 29 rfl) rfl
theorem q1793 : (Jvm.Cond.instanceMethod ({ cls := "WhichOneAllKnowModel", name := "seed", desc := "(I)I" } : Jvm.MethodName)) ∈ lw_all := lw_g (lw_at lw_m8 31 rfl) rfl
theorem q1794 : (Jvm.Cond.selects "WhichOneAllKnowModel" ({ cls := "WhichOneAllKnowModel", name := "seed", desc := "(I)I" } : Jvm.MethodName) ({ cls := "WhichOneAllKnowModel", name := "seed", desc := "(I)I" } : Jvm.MethodName)) ∈ lw_all := lw_g (lw_at lw_m8 32 rfl) rfl
theorem q1795 : (Jvm.Cond.code ({ cls := "WhichOneAllKnowModel", name := "seed", desc := "(I)I" } : Jvm.MethodName) prog_22_method_84_code (3 : Nat) (Option.some Jvm.ClassFile.FieldType.int)) ∈ lw_all := lw_g (lw_at lw_m8 33 rfl) rfl
theorem q1797 : (Jvm.Cond.instanceMethod ({ cls := "WhichOneAllKnowModel", name := "act", desc := "(III)I" } : Jvm.MethodName)) ∈ lw_all := lw_g (lw_at lw_m8 35 rfl) rfl
theorem q1798 : (Jvm.Cond.selects "WhichOneAllKnowModel" ({ cls := "WhichOneAllKnowModel", name := "act", desc := "(III)I" } : Jvm.MethodName) ({ cls := "WhichOneAllKnowModel", name := "act", desc := "(III)I" } : Jvm.MethodName)) ∈ lw_all := lw_g (lw_at lw_m8 36 rfl) rfl
theorem q1799 : (Jvm.Cond.code ({ cls := "WhichOneAllKnowModel", name := "act", desc := "(III)I" } : Jvm.MethodName) prog_22_method_89_code (4 : Nat) (Option.some Jvm.ClassFile.FieldType.int)) ∈ lw_all := lw_g (lw_at lw_m8 37 rfl) rfl
theorem q1800 : (Jvm.Cond.methodLink "WhichOneAllKnowModel" (296 : Nat) ({ cls := "WhichOneAllKnowModel", name := "breathesBy", desc := "(II)I" } : Jvm.MethodName)) ∈ lw_all := lw_g (lw_at lw_m8 38 rfl) rfl
theorem q1801 : (Jvm.Cond.privateMethod ({ cls := "WhichOneAllKnowModel", name := "breathesBy", desc := "(II)I" } : Jvm.MethodName)) ∈ lw_tbl := lw_at lw_m8 39 rfl
theorem q1802 : (Jvm.Cond.instanceMethod ({ cls := "WhichOneAllKnowModel", name := "breathesBy", desc := "(II)I" } : Jvm.MethodName)) ∈ lw_all := lw_g (lw_at lw_m8 40 rfl) rfl
theorem q1803 : (Jvm.Cond.code ({ cls := "WhichOneAllKnowModel", name := "breathesBy", desc := "(II)I" } : Jvm.MethodName) prog_22_method_86_code (5 : Nat) (Option.some Jvm.ClassFile.FieldType.int)) ∈ lw_all := lw_g (lw_at lw_m8 41 rfl) rfl
theorem q1804 : (Jvm.Cond.methodLink "WhichOneAllKnowModel" (293 : Nat) ({ cls := "WhichOneAllKnowModel", name := "ran", desc := "(I)V" } : Jvm.MethodName)) ∈ lw_all := lw_g (lw_at lw_m8 42 rfl) rfl
theorem q1805 : (Jvm.Cond.privateMethod ({ cls := "WhichOneAllKnowModel", name := "ran", desc := "(I)V" } : Jvm.MethodName)) ∈ lw_tbl := lw_at lw_m8 43 rfl
theorem q1806 : (Jvm.Cond.instanceMethod ({ cls := "WhichOneAllKnowModel", name := "ran", desc := "(I)V" } : Jvm.MethodName)) ∈ lw_all := lw_g (lw_at lw_m8 44 rfl) rfl
theorem q1807 : (Jvm.Cond.code ({ cls := "WhichOneAllKnowModel", name := "ran", desc := "(I)V" } : Jvm.MethodName) prog_22_method_85_code (2 : Nat) (Option.none : Option Jvm.ClassFile.FieldType)) ∈ lw_all := lw_g (lw_at lw_m8 45 rfl) rfl
theorem q1808 : (Jvm.Cond.methodLink "WhichOneAllKnowModel" (299 : Nat) ({ cls := "WhichOneAllKnowModel", name := "singsBy", desc := "(II)I" } : Jvm.MethodName)) ∈ lw_all := lw_g (lw_at lw_m8 46 rfl) rfl
theorem q1809 : (Jvm.Cond.privateMethod ({ cls := "WhichOneAllKnowModel", name := "singsBy", desc := "(II)I" } : Jvm.MethodName)) ∈ lw_tbl := lw_at lw_m8 47 rfl
theorem q1810 : (Jvm.Cond.instanceMethod ({ cls := "WhichOneAllKnowModel", name := "singsBy", desc := "(II)I" } : Jvm.MethodName)) ∈ lw_all := lw_g (lw_at lw_m8 48 rfl) rfl
theorem q1811 : (Jvm.Cond.code ({ cls := "WhichOneAllKnowModel", name := "singsBy", desc := "(II)I" } : Jvm.MethodName) prog_22_method_87_code (6 : Nat) (Option.some Jvm.ClassFile.FieldType.int)) ∈ lw_all := lw_g (lw_at lw_m8 49 rfl) rfl
theorem q1812 : (Jvm.Cond.methodLink "WhichOneAllKnowModel" (302 : Nat) ({ cls := "WhichOneAllKnowModel", name := "sitsBy", desc := "(II)I" } : Jvm.MethodName)) ∈ lw_all := lw_g (lw_at lw_m8 50 rfl) rfl
theorem q1813 : (Jvm.Cond.privateMethod ({ cls := "WhichOneAllKnowModel", name := "sitsBy", desc := "(II)I" } : Jvm.MethodName)) ∈ lw_tbl := lw_at lw_m8 51 rfl
theorem q1814 : (Jvm.Cond.instanceMethod ({ cls := "WhichOneAllKnowModel", name := "sitsBy", desc := "(II)I" } : Jvm.MethodName)) ∈ lw_all := lw_g (lw_at lw_m8 52 rfl) rfl
theorem q1815 : (Jvm.Cond.code ({ cls := "WhichOneAllKnowModel", name := "sitsBy", desc := "(II)I" } : Jvm.MethodName) prog_22_method_88_code (6 : Nat) (Option.some Jvm.ClassFile.FieldType.int)) ∈ lw_all := lw_g (lw_at lw_m8 53 rfl) rfl
theorem q1817 : (Jvm.Cond.instanceMethod ({ cls := "WhichOneAllKnowModel", name := "trace", desc := "(I)I" } : Jvm.MethodName)) ∈ lw_all := lw_g (lw_at lw_m8 55 rfl) rfl
theorem q1818 : (Jvm.Cond.selects "WhichOneAllKnowModel" ({ cls := "WhichOneAllKnowModel", name := "trace", desc := "(I)I" } : Jvm.MethodName) ({ cls := "WhichOneAllKnowModel", name := "trace", desc := "(I)I" } : Jvm.MethodName)) ∈ lw_all := lw_g (lw_at lw_m8 56 rfl) rfl
theorem q1819 : (Jvm.Cond.code ({ cls := "WhichOneAllKnowModel", name := "trace", desc := "(I)I" } : Jvm.MethodName) prog_22_method_90_code (2 : Nat) (Option.some Jvm.ClassFile.FieldType.int)) ∈ lw_all := lw_g (lw_at lw_m8 57 rfl) rfl
theorem q1821 : (Jvm.Cond.instanceMethod ({ cls := "WhichOneAllKnowModel", name := "image", desc := "()I" } : Jvm.MethodName)) ∈ lw_all := lw_g (lw_at lw_m8 59 rfl) rfl
theorem q1822 : (Jvm.Cond.selects "WhichOneAllKnowModel" ({ cls := "WhichOneAllKnowModel", name := "image", desc := "()I" } : Jvm.MethodName) ({ cls := "WhichOneAllKnowModel", name := "image", desc := "()I" } : Jvm.MethodName)) ∈ lw_all := lw_g (lw_at lw_m8 60 rfl) rfl
theorem q1823 : (Jvm.Cond.code ({ cls := "WhichOneAllKnowModel", name := "image", desc := "()I" } : Jvm.MethodName) prog_22_method_93_code (1 : Nat) (Option.some Jvm.ClassFile.FieldType.int)) ∈ lw_all := lw_g (lw_at lw_m8 61 rfl) rfl
theorem q1825 : (Jvm.Cond.instanceMethod ({ cls := "WhichOneAllKnowModel", name := "restore", desc := "()I" } : Jvm.MethodName)) ∈ lw_all := lw_g (lw_at lw_m8 63 rfl) rfl
theorem q1826 : (Jvm.Cond.selects "WhichOneAllKnowModel" ({ cls := "WhichOneAllKnowModel", name := "restore", desc := "()I" } : Jvm.MethodName) ({ cls := "WhichOneAllKnowModel", name := "restore", desc := "()I" } : Jvm.MethodName)) ∈ lw_all := lw_g (lw_at lw_m8 64 rfl) rfl
theorem q1827 : (Jvm.Cond.code ({ cls := "WhichOneAllKnowModel", name := "restore", desc := "()I" } : Jvm.MethodName) prog_22_method_94_code (2 : Nat) (Option.some Jvm.ClassFile.FieldType.int)) ∈ lw_all := lw_g (lw_at lw_m8 65 rfl) rfl
theorem q1829 : (Jvm.Cond.instanceMethod ({ cls := "WhichOneAllKnowModel", name := "status", desc := "(I)I" } : Jvm.MethodName)) ∈ lw_all := lw_g (lw_at lw_m8 67 rfl) rfl
theorem q1830 : (Jvm.Cond.selects "WhichOneAllKnowModel" ({ cls := "WhichOneAllKnowModel", name := "status", desc := "(I)I" } : Jvm.MethodName) ({ cls := "WhichOneAllKnowModel", name := "status", desc := "(I)I" } : Jvm.MethodName)) ∈ lw_all := lw_g (lw_at lw_m8 68 rfl) rfl
theorem q1831 : (Jvm.Cond.code ({ cls := "WhichOneAllKnowModel", name := "status", desc := "(I)I" } : Jvm.MethodName) prog_22_method_95_code (2 : Nat) (Option.some Jvm.ClassFile.FieldType.int)) ∈ lw_all := lw_g (lw_at lw_m8 69 rfl) rfl
theorem in_X12 : ∀ w ∈ wsX120, w ∈ lw_all := lw_in wsX120 [1392, 1394, 1396, 1398, 1400, 1402, 1404, 1406, 1408, 1410, 1412, 1414, 1416, 1418, 1420, 1422, 1424, 1426, 1428, 1430, 1432, 1434, 1436, 1438, 1440, 1442, 1444, 1446, 1448] (by decide +kernel) (by decide +kernel)
