/-! WhichOneAllKnow -/
set_option maxRecDepth 100000
def RX0 : String := "WhichOneAllKnow"
def TX0 : u_T := fun k => match k with
  | 0 => ("WhichOneAllKnow", "shelves", "[LWhichOneAllKnow$Shelf;", true)
  | 1 => ("WhichOneAllKnow", "refusals", "[I", true)
  | 2 => ("WhichOneAllKnow", "ran", "LWhichOneAllKnow$Trace;", true)
  | 3 => ("WhichOneAllKnow", "tried", "LWhichOneAllKnow$Church;", true)
  | 4 => ("WhichOneAllKnow", "hymn", "LWhichOneAllKnow$Hymn;", true)
  | 5 => ("WhichOneAllKnow", "w", "LWhichOneAllKnow$Church;", false)
  | 6 => ("WhichOneAllKnow", "imaged", "LWhichOneAllKnow$Church;", false)
  | 7 => ("WhichOneAllKnow", "latestFault", "I", false)
  | 8 => ("WhichOneAllKnow", "sings", "[I", true)
  | 9 => ("WhichOneAllKnow", "leader", "LWhichOneAllKnow$Voice;", true)
  | 10 => ("WhichOneAllKnow", "leadersFirst", "I", false)
  | 11 => ("WhichOneAllKnow", "leadersSecond", "I", false)
  | 12 => ("WhichOneAllKnow", "caught", "I", false)
  | _ => ("WhichOneAllKnow", "sangRight", "I", false)
def tyX0 : Nat → FieldType := fun k => match k with
  | 0 => .array (.object "WhichOneAllKnow$Shelf")
  | 1 => .array .int
  | 2 => .object "WhichOneAllKnow$Trace"
  | 3 => .object "WhichOneAllKnow$Church"
  | 4 => .object "WhichOneAllKnow$Hymn"
  | 5 => .object "WhichOneAllKnow$Church"
  | 6 => .object "WhichOneAllKnow$Church"
  | 7 => .int
  | 8 => .array .int
  | 9 => .object "WhichOneAllKnow$Voice"
  | 10 => .int
  | 11 => .int
  | 12 => .int
  | _ => .int
abbrev wsX00 : List Cond := u_ws RX0 TX0 14
set_option maxRecDepth 100000 in
theorem nmX0 : ∀ a, a < 14 → ∀ b, b < 14 → a ≠ b → (TX0 a).2.1 ≠ (TX0 b).2.1 := by decide +kernel
set_option maxRecDepth 100000 in
theorem tyX0_ok : ∀ k, k < 14 → parseFieldDescriptor (TX0 k).2.2.1 = some (tyX0 k) := by decide +kernel
abbrev cX0_init : ByteArray := prog_1_method_5_code
def yX0_init : MethodName := ⟨RX0, "<init>", "()V"⟩
def dkwX0_init_5 : List UInt8 := [132, 1, 1, 167, 255, 234, 177]
abbrev dktX0_init_5 : List UInt8 := dkwX0_init_5 ++ []
def dkwX0_init_4 : List UInt8 := [181, 0, 102, 3, 60, 27, 16, 8, 162, 0, 22, 42, 180, 0, 59, 27, 187, 0, 57, 89, 183, 0, 106, 83]
abbrev dktX0_init_4 : List UInt8 := dkwX0_init_4 ++ dktX0_init_5
def dkwX0_init_3 : List UInt8 := [181, 0, 91, 42, 16, 6, 188, 10, 181, 0, 95, 42, 4, 16, 12, 3, 8, 16, 11, 184, 0, 98]
abbrev dktX0_init_3 : List UInt8 := dkwX0_init_3 ++ dktX0_init_4
def dkwX0_init_2 : List UInt8 := [187, 0, 81, 89, 183, 0, 83, 181, 0, 84, 42, 187, 0, 74, 89, 183, 0, 76, 181, 0, 88, 42, 2]
abbrev dktX0_init_2 : List UInt8 := dkwX0_init_2 ++ dktX0_init_3
def dkwX0_init_1 : List UInt8 := [187, 0, 67, 89, 183, 0, 69, 181, 0, 70, 42, 187, 0, 74, 89, 183, 0, 76, 181, 0, 77, 42]
abbrev dktX0_init_1 : List UInt8 := dkwX0_init_1 ++ dktX0_init_2
def dkwX0_init_0 : List UInt8 := [42, 183, 0, 50, 42, 16, 8, 189, 0, 57, 181, 0, 59, 42, 16, 8, 188, 10, 181, 0, 63, 42]
abbrev dktX0_init_0 : List UInt8 := dkwX0_init_0 ++ dktX0_init_1
theorem dksX0_init_0 : cX0_init.data.toList.drop 0 = dktX0_init_0 := by decide +kernel
theorem dksX0_init_1 : cX0_init.data.toList.drop 22 = dktX0_init_1 := dk_seg dksX0_init_0 22 rfl rfl
theorem dksX0_init_2 : cX0_init.data.toList.drop 44 = dktX0_init_2 := dk_seg dksX0_init_1 22 rfl rfl
theorem dksX0_init_3 : cX0_init.data.toList.drop 67 = dktX0_init_3 := dk_seg dksX0_init_2 23 rfl rfl
theorem dksX0_init_4 : cX0_init.data.toList.drop 89 = dktX0_init_4 := dk_seg dksX0_init_3 22 rfl rfl
theorem dksX0_init_5 : cX0_init.data.toList.drop 113 = dktX0_init_5 := dk_seg dksX0_init_4 24 rfl rfl
theorem dX0_init_0 : decode cX0_init 0 = .ok (.aload_n 0, 1) := dk_42 (dk_at dksX0_init_0 0 rfl rfl)
theorem dX0_init_1 : decode cX0_init 1 = .ok (.invokespecial 50, 3) := dk_183 0 50 (dk_at dksX0_init_0 1 rfl rfl)
theorem dX0_init_4 : decode cX0_init 4 = .ok (.aload_n 0, 1) := dk_42 (dk_at dksX0_init_0 4 rfl rfl)
theorem dX0_init_5 : decode cX0_init 5 = .ok (.bipush 8, 2) := dk_16 8 (dk_at dksX0_init_0 5 rfl rfl)
theorem dX0_init_7 : decode cX0_init 7 = .ok (.anewarray 57, 3) := dk_189 0 57 (dk_at dksX0_init_0 7 rfl rfl)
theorem dX0_init_10 : decode cX0_init 10 = .ok (.putfield 59, 3) := dk_181 0 59 (dk_at dksX0_init_0 10 rfl rfl)
theorem dX0_init_13 : decode cX0_init 13 = .ok (.aload_n 0, 1) := dk_42 (dk_at dksX0_init_0 13 rfl rfl)
theorem dX0_init_14 : decode cX0_init 14 = .ok (.bipush 8, 2) := dk_16 8 (dk_at dksX0_init_0 14 rfl rfl)
theorem dX0_init_16 : decode cX0_init 16 = .ok (.newarray .int, 2) := dk_188_10 (dk_at dksX0_init_0 16 rfl rfl)
theorem dX0_init_18 : decode cX0_init 18 = .ok (.putfield 63, 3) := dk_181 0 63 (dk_at dksX0_init_0 18 rfl rfl)
theorem dX0_init_21 : decode cX0_init 21 = .ok (.aload_n 0, 1) := dk_42 (dk_at dksX0_init_0 21 rfl rfl)
theorem dX0_init_22 : decode cX0_init 22 = .ok (.new 67, 3) := dk_187 0 67 (dk_at dksX0_init_1 0 rfl rfl)
theorem dX0_init_25 : decode cX0_init 25 = .ok (.dup, 1) := dk_89 (dk_at dksX0_init_1 3 rfl rfl)
theorem dX0_init_26 : decode cX0_init 26 = .ok (.invokespecial 69, 3) := dk_183 0 69 (dk_at dksX0_init_1 4 rfl rfl)
theorem dX0_init_29 : decode cX0_init 29 = .ok (.putfield 70, 3) := dk_181 0 70 (dk_at dksX0_init_1 7 rfl rfl)
theorem dX0_init_32 : decode cX0_init 32 = .ok (.aload_n 0, 1) := dk_42 (dk_at dksX0_init_1 10 rfl rfl)
theorem dX0_init_33 : decode cX0_init 33 = .ok (.new 74, 3) := dk_187 0 74 (dk_at dksX0_init_1 11 rfl rfl)
theorem dX0_init_36 : decode cX0_init 36 = .ok (.dup, 1) := dk_89 (dk_at dksX0_init_1 14 rfl rfl)
theorem dX0_init_37 : decode cX0_init 37 = .ok (.invokespecial 76, 3) := dk_183 0 76 (dk_at dksX0_init_1 15 rfl rfl)
theorem dX0_init_40 : decode cX0_init 40 = .ok (.putfield 77, 3) := dk_181 0 77 (dk_at dksX0_init_1 18 rfl rfl)
theorem dX0_init_43 : decode cX0_init 43 = .ok (.aload_n 0, 1) := dk_42 (dk_at dksX0_init_1 21 rfl rfl)
theorem dX0_init_44 : decode cX0_init 44 = .ok (.new 81, 3) := dk_187 0 81 (dk_at dksX0_init_2 0 rfl rfl)
theorem dX0_init_47 : decode cX0_init 47 = .ok (.dup, 1) := dk_89 (dk_at dksX0_init_2 3 rfl rfl)
theorem dX0_init_48 : decode cX0_init 48 = .ok (.invokespecial 83, 3) := dk_183 0 83 (dk_at dksX0_init_2 4 rfl rfl)
theorem dX0_init_51 : decode cX0_init 51 = .ok (.putfield 84, 3) := dk_181 0 84 (dk_at dksX0_init_2 7 rfl rfl)
theorem dX0_init_54 : decode cX0_init 54 = .ok (.aload_n 0, 1) := dk_42 (dk_at dksX0_init_2 10 rfl rfl)
theorem dX0_init_55 : decode cX0_init 55 = .ok (.new 74, 3) := dk_187 0 74 (dk_at dksX0_init_2 11 rfl rfl)
theorem dX0_init_58 : decode cX0_init 58 = .ok (.dup, 1) := dk_89 (dk_at dksX0_init_2 14 rfl rfl)
theorem dX0_init_59 : decode cX0_init 59 = .ok (.invokespecial 76, 3) := dk_183 0 76 (dk_at dksX0_init_2 15 rfl rfl)
theorem dX0_init_62 : decode cX0_init 62 = .ok (.putfield 88, 3) := dk_181 0 88 (dk_at dksX0_init_2 18 rfl rfl)
theorem dX0_init_65 : decode cX0_init 65 = .ok (.aload_n 0, 1) := dk_42 (dk_at dksX0_init_2 21 rfl rfl)
theorem dX0_init_66 : decode cX0_init 66 = .ok (.iconst (-1), 1) := dk_2 (dk_at dksX0_init_2 22 rfl rfl)
theorem dX0_init_67 : decode cX0_init 67 = .ok (.putfield 91, 3) := dk_181 0 91 (dk_at dksX0_init_3 0 rfl rfl)
theorem dX0_init_70 : decode cX0_init 70 = .ok (.aload_n 0, 1) := dk_42 (dk_at dksX0_init_3 3 rfl rfl)
theorem dX0_init_71 : decode cX0_init 71 = .ok (.bipush 6, 2) := dk_16 6 (dk_at dksX0_init_3 4 rfl rfl)
theorem dX0_init_73 : decode cX0_init 73 = .ok (.newarray .int, 2) := dk_188_10 (dk_at dksX0_init_3 6 rfl rfl)
theorem dX0_init_75 : decode cX0_init 75 = .ok (.putfield 95, 3) := dk_181 0 95 (dk_at dksX0_init_3 8 rfl rfl)
theorem dX0_init_78 : decode cX0_init 78 = .ok (.aload_n 0, 1) := dk_42 (dk_at dksX0_init_3 11 rfl rfl)
theorem dX0_init_79 : decode cX0_init 79 = .ok (.iconst 1, 1) := dk_4 (dk_at dksX0_init_3 12 rfl rfl)
theorem dX0_init_80 : decode cX0_init 80 = .ok (.bipush 12, 2) := dk_16 12 (dk_at dksX0_init_3 13 rfl rfl)
theorem dX0_init_82 : decode cX0_init 82 = .ok (.iconst 0, 1) := dk_3 (dk_at dksX0_init_3 15 rfl rfl)
theorem dX0_init_83 : decode cX0_init 83 = .ok (.iconst 5, 1) := dk_8 (dk_at dksX0_init_3 16 rfl rfl)
theorem dX0_init_84 : decode cX0_init 84 = .ok (.bipush 11, 2) := dk_16 11 (dk_at dksX0_init_3 17 rfl rfl)
theorem dX0_init_86 : decode cX0_init 86 = .ok (.invokestatic 98, 3) := dk_184 0 98 (dk_at dksX0_init_3 19 rfl rfl)
theorem dX0_init_89 : decode cX0_init 89 = .ok (.putfield 102, 3) := dk_181 0 102 (dk_at dksX0_init_4 0 rfl rfl)
theorem dX0_init_92 : decode cX0_init 92 = .ok (.iconst 0, 1) := dk_3 (dk_at dksX0_init_4 3 rfl rfl)
theorem dX0_init_93 : decode cX0_init 93 = .ok (.istore_n 1, 1) := dk_60 (dk_at dksX0_init_4 4 rfl rfl)
theorem dX0_init_94 : decode cX0_init 94 = .ok (.iload_n 1, 1) := dk_27 (dk_at dksX0_init_4 5 rfl rfl)
theorem dX0_init_95 : decode cX0_init 95 = .ok (.bipush 8, 2) := dk_16 8 (dk_at dksX0_init_4 6 rfl rfl)
theorem dX0_init_97 : decode cX0_init 97 = .ok (.if_icmp .ge 22, 3) := dk_162 0 22 (dk_at dksX0_init_4 8 rfl rfl)
theorem dX0_init_100 : decode cX0_init 100 = .ok (.aload_n 0, 1) := dk_42 (dk_at dksX0_init_4 11 rfl rfl)
theorem dX0_init_101 : decode cX0_init 101 = .ok (.getfield 59, 3) := dk_180 0 59 (dk_at dksX0_init_4 12 rfl rfl)
theorem dX0_init_104 : decode cX0_init 104 = .ok (.iload_n 1, 1) := dk_27 (dk_at dksX0_init_4 15 rfl rfl)
theorem dX0_init_105 : decode cX0_init 105 = .ok (.new 57, 3) := dk_187 0 57 (dk_at dksX0_init_4 16 rfl rfl)
theorem dX0_init_108 : decode cX0_init 108 = .ok (.dup, 1) := dk_89 (dk_at dksX0_init_4 19 rfl rfl)
theorem dX0_init_109 : decode cX0_init 109 = .ok (.invokespecial 106, 3) := dk_183 0 106 (dk_at dksX0_init_4 20 rfl rfl)
theorem dX0_init_112 : decode cX0_init 112 = .ok (.aastore, 1) := dk_83 (dk_at dksX0_init_4 23 rfl rfl)
theorem dX0_init_113 : decode cX0_init 113 = .ok (.iinc 1 1, 3) := dk_132 1 1 (dk_at dksX0_init_5 0 rfl rfl)
theorem dX0_init_116 : decode cX0_init 116 = .ok (.goto (-22), 3) := dk_167 255 234 (dk_at dksX0_init_5 3 rfl rfl)
theorem dX0_init_119 : decode cX0_init 119 = .ok (.return_, 1) := dk_177 (dk_at dksX0_init_5 6 rfl rfl)
abbrev cX0_voiceOfKind : ByteArray := prog_1_method_4_code
def yX0_voiceOfKind : MethodName := ⟨RX0, "voiceOfKind", "(IIIII)LWhichOneAllKnow$Voice;"⟩
def dkwX0_voiceOfKind_5 : List UInt8 := [28, 29, 21, 4, 183, 0, 46, 176, 187, 0, 47, 89, 27, 28, 29, 21, 4, 183, 0, 49, 176]
abbrev dktX0_voiceOfKind_5 : List UInt8 := dkwX0_voiceOfKind_5 ++ []
def dkwX0_voiceOfKind_4 : List UInt8 := [21, 4, 183, 0, 40, 176, 187, 0, 41, 89, 27, 28, 29, 21, 4, 183, 0, 43, 176, 187, 0, 44, 89, 27]
abbrev dktX0_voiceOfKind_4 : List UInt8 := dkwX0_voiceOfKind_4 ++ dktX0_voiceOfKind_5
def dkwX0_voiceOfKind_3 : List UInt8 := [183, 0, 34, 176, 187, 0, 35, 89, 27, 28, 29, 21, 4, 183, 0, 37, 176, 187, 0, 38, 89, 27, 28, 29]
abbrev dktX0_voiceOfKind_3 : List UInt8 := dkwX0_voiceOfKind_3 ++ dktX0_voiceOfKind_4
def dkwX0_voiceOfKind_2 : List UInt8 := [187, 0, 27, 89, 27, 28, 29, 21, 4, 183, 0, 29, 176, 187, 0, 32, 89, 27, 28, 29, 21, 4]
abbrev dktX0_voiceOfKind_2 : List UInt8 := dkwX0_voiceOfKind_2 ++ dktX0_voiceOfKind_3
def dkwX0_voiceOfKind_1 : List UInt8 := [170, 0, 0, 0, 0, 0, 117, 0, 0, 0, 1, 0, 0, 0, 6, 0, 0, 0, 39, 0, 0, 0, 52, 0, 0, 0, 65, 0, 0, 0, 78, 0, 0, 0, 91, 0, 0, 0, 104]
abbrev dktX0_voiceOfKind_1 : List UInt8 := dkwX0_voiceOfKind_1 ++ dktX0_voiceOfKind_2
def dkwX0_voiceOfKind_0 : List UInt8 := [26]
abbrev dktX0_voiceOfKind_0 : List UInt8 := dkwX0_voiceOfKind_0 ++ dktX0_voiceOfKind_1
theorem dksX0_voiceOfKind_0 : cX0_voiceOfKind.data.toList.drop 0 = dktX0_voiceOfKind_0 := by decide +kernel
theorem dksX0_voiceOfKind_1 : cX0_voiceOfKind.data.toList.drop 1 = dktX0_voiceOfKind_1 := dk_seg dksX0_voiceOfKind_0 1 rfl rfl
theorem dksX0_voiceOfKind_2 : cX0_voiceOfKind.data.toList.drop 40 = dktX0_voiceOfKind_2 := dk_seg dksX0_voiceOfKind_1 39 rfl rfl
theorem dksX0_voiceOfKind_3 : cX0_voiceOfKind.data.toList.drop 62 = dktX0_voiceOfKind_3 := dk_seg dksX0_voiceOfKind_2 22 rfl rfl
theorem dksX0_voiceOfKind_4 : cX0_voiceOfKind.data.toList.drop 86 = dktX0_voiceOfKind_4 := dk_seg dksX0_voiceOfKind_3 24 rfl rfl
theorem dksX0_voiceOfKind_5 : cX0_voiceOfKind.data.toList.drop 110 = dktX0_voiceOfKind_5 := dk_seg dksX0_voiceOfKind_4 24 rfl rfl
theorem dX0_voiceOfKind_0 : decode cX0_voiceOfKind 0 = .ok (.iload_n 0, 1) := dk_26 (dk_at dksX0_voiceOfKind_0 0 rfl rfl)
theorem dX0_voiceOfKind_1 : decode cX0_voiceOfKind 1 = .ok (.tableswitch 117 1 6 #[39, 52, 65, 78, 91, 104], 39) := by decide +kernel
theorem dX0_voiceOfKind_40 : decode cX0_voiceOfKind 40 = .ok (.new 27, 3) := dk_187 0 27 (dk_at dksX0_voiceOfKind_2 0 rfl rfl)
theorem dX0_voiceOfKind_43 : decode cX0_voiceOfKind 43 = .ok (.dup, 1) := dk_89 (dk_at dksX0_voiceOfKind_2 3 rfl rfl)
theorem dX0_voiceOfKind_44 : decode cX0_voiceOfKind 44 = .ok (.iload_n 1, 1) := dk_27 (dk_at dksX0_voiceOfKind_2 4 rfl rfl)
theorem dX0_voiceOfKind_45 : decode cX0_voiceOfKind 45 = .ok (.iload_n 2, 1) := dk_28 (dk_at dksX0_voiceOfKind_2 5 rfl rfl)
theorem dX0_voiceOfKind_46 : decode cX0_voiceOfKind 46 = .ok (.iload_n 3, 1) := dk_29 (dk_at dksX0_voiceOfKind_2 6 rfl rfl)
theorem dX0_voiceOfKind_47 : decode cX0_voiceOfKind 47 = .ok (.iload 4, 2) := dk_21 4 (dk_at dksX0_voiceOfKind_2 7 rfl rfl)
theorem dX0_voiceOfKind_49 : decode cX0_voiceOfKind 49 = .ok (.invokespecial 29, 3) := dk_183 0 29 (dk_at dksX0_voiceOfKind_2 9 rfl rfl)
theorem dX0_voiceOfKind_52 : decode cX0_voiceOfKind 52 = .ok (.areturn, 1) := dk_176 (dk_at dksX0_voiceOfKind_2 12 rfl rfl)
theorem dX0_voiceOfKind_53 : decode cX0_voiceOfKind 53 = .ok (.new 32, 3) := dk_187 0 32 (dk_at dksX0_voiceOfKind_2 13 rfl rfl)
theorem dX0_voiceOfKind_56 : decode cX0_voiceOfKind 56 = .ok (.dup, 1) := dk_89 (dk_at dksX0_voiceOfKind_2 16 rfl rfl)
theorem dX0_voiceOfKind_57 : decode cX0_voiceOfKind 57 = .ok (.iload_n 1, 1) := dk_27 (dk_at dksX0_voiceOfKind_2 17 rfl rfl)
theorem dX0_voiceOfKind_58 : decode cX0_voiceOfKind 58 = .ok (.iload_n 2, 1) := dk_28 (dk_at dksX0_voiceOfKind_2 18 rfl rfl)
theorem dX0_voiceOfKind_59 : decode cX0_voiceOfKind 59 = .ok (.iload_n 3, 1) := dk_29 (dk_at dksX0_voiceOfKind_2 19 rfl rfl)
theorem dX0_voiceOfKind_60 : decode cX0_voiceOfKind 60 = .ok (.iload 4, 2) := dk_21 4 (dk_at dksX0_voiceOfKind_2 20 rfl rfl)
theorem dX0_voiceOfKind_62 : decode cX0_voiceOfKind 62 = .ok (.invokespecial 34, 3) := dk_183 0 34 (dk_at dksX0_voiceOfKind_3 0 rfl rfl)
theorem dX0_voiceOfKind_65 : decode cX0_voiceOfKind 65 = .ok (.areturn, 1) := dk_176 (dk_at dksX0_voiceOfKind_3 3 rfl rfl)
theorem dX0_voiceOfKind_66 : decode cX0_voiceOfKind 66 = .ok (.new 35, 3) := dk_187 0 35 (dk_at dksX0_voiceOfKind_3 4 rfl rfl)
theorem dX0_voiceOfKind_69 : decode cX0_voiceOfKind 69 = .ok (.dup, 1) := dk_89 (dk_at dksX0_voiceOfKind_3 7 rfl rfl)
theorem dX0_voiceOfKind_70 : decode cX0_voiceOfKind 70 = .ok (.iload_n 1, 1) := dk_27 (dk_at dksX0_voiceOfKind_3 8 rfl rfl)
theorem dX0_voiceOfKind_71 : decode cX0_voiceOfKind 71 = .ok (.iload_n 2, 1) := dk_28 (dk_at dksX0_voiceOfKind_3 9 rfl rfl)
theorem dX0_voiceOfKind_72 : decode cX0_voiceOfKind 72 = .ok (.iload_n 3, 1) := dk_29 (dk_at dksX0_voiceOfKind_3 10 rfl rfl)
theorem dX0_voiceOfKind_73 : decode cX0_voiceOfKind 73 = .ok (.iload 4, 2) := dk_21 4 (dk_at dksX0_voiceOfKind_3 11 rfl rfl)
theorem dX0_voiceOfKind_75 : decode cX0_voiceOfKind 75 = .ok (.invokespecial 37, 3) := dk_183 0 37 (dk_at dksX0_voiceOfKind_3 13 rfl rfl)
theorem dX0_voiceOfKind_78 : decode cX0_voiceOfKind 78 = .ok (.areturn, 1) := dk_176 (dk_at dksX0_voiceOfKind_3 16 rfl rfl)
theorem dX0_voiceOfKind_79 : decode cX0_voiceOfKind 79 = .ok (.new 38, 3) := dk_187 0 38 (dk_at dksX0_voiceOfKind_3 17 rfl rfl)
theorem dX0_voiceOfKind_82 : decode cX0_voiceOfKind 82 = .ok (.dup, 1) := dk_89 (dk_at dksX0_voiceOfKind_3 20 rfl rfl)
theorem dX0_voiceOfKind_83 : decode cX0_voiceOfKind 83 = .ok (.iload_n 1, 1) := dk_27 (dk_at dksX0_voiceOfKind_3 21 rfl rfl)
theorem dX0_voiceOfKind_84 : decode cX0_voiceOfKind 84 = .ok (.iload_n 2, 1) := dk_28 (dk_at dksX0_voiceOfKind_3 22 rfl rfl)
theorem dX0_voiceOfKind_85 : decode cX0_voiceOfKind 85 = .ok (.iload_n 3, 1) := dk_29 (dk_at dksX0_voiceOfKind_3 23 rfl rfl)
theorem dX0_voiceOfKind_86 : decode cX0_voiceOfKind 86 = .ok (.iload 4, 2) := dk_21 4 (dk_at dksX0_voiceOfKind_4 0 rfl rfl)
theorem dX0_voiceOfKind_88 : decode cX0_voiceOfKind 88 = .ok (.invokespecial 40, 3) := dk_183 0 40 (dk_at dksX0_voiceOfKind_4 2 rfl rfl)
theorem dX0_voiceOfKind_91 : decode cX0_voiceOfKind 91 = .ok (.areturn, 1) := dk_176 (dk_at dksX0_voiceOfKind_4 5 rfl rfl)
theorem dX0_voiceOfKind_92 : decode cX0_voiceOfKind 92 = .ok (.new 41, 3) := dk_187 0 41 (dk_at dksX0_voiceOfKind_4 6 rfl rfl)
theorem dX0_voiceOfKind_95 : decode cX0_voiceOfKind 95 = .ok (.dup, 1) := dk_89 (dk_at dksX0_voiceOfKind_4 9 rfl rfl)
theorem dX0_voiceOfKind_96 : decode cX0_voiceOfKind 96 = .ok (.iload_n 1, 1) := dk_27 (dk_at dksX0_voiceOfKind_4 10 rfl rfl)
theorem dX0_voiceOfKind_97 : decode cX0_voiceOfKind 97 = .ok (.iload_n 2, 1) := dk_28 (dk_at dksX0_voiceOfKind_4 11 rfl rfl)
theorem dX0_voiceOfKind_98 : decode cX0_voiceOfKind 98 = .ok (.iload_n 3, 1) := dk_29 (dk_at dksX0_voiceOfKind_4 12 rfl rfl)
theorem dX0_voiceOfKind_99 : decode cX0_voiceOfKind 99 = .ok (.iload 4, 2) := dk_21 4 (dk_at dksX0_voiceOfKind_4 13 rfl rfl)
theorem dX0_voiceOfKind_101 : decode cX0_voiceOfKind 101 = .ok (.invokespecial 43, 3) := dk_183 0 43 (dk_at dksX0_voiceOfKind_4 15 rfl rfl)
theorem dX0_voiceOfKind_104 : decode cX0_voiceOfKind 104 = .ok (.areturn, 1) := dk_176 (dk_at dksX0_voiceOfKind_4 18 rfl rfl)
theorem dX0_voiceOfKind_105 : decode cX0_voiceOfKind 105 = .ok (.new 44, 3) := dk_187 0 44 (dk_at dksX0_voiceOfKind_4 19 rfl rfl)
theorem dX0_voiceOfKind_108 : decode cX0_voiceOfKind 108 = .ok (.dup, 1) := dk_89 (dk_at dksX0_voiceOfKind_4 22 rfl rfl)
theorem dX0_voiceOfKind_109 : decode cX0_voiceOfKind 109 = .ok (.iload_n 1, 1) := dk_27 (dk_at dksX0_voiceOfKind_4 23 rfl rfl)
theorem dX0_voiceOfKind_110 : decode cX0_voiceOfKind 110 = .ok (.iload_n 2, 1) := dk_28 (dk_at dksX0_voiceOfKind_5 0 rfl rfl)
theorem dX0_voiceOfKind_111 : decode cX0_voiceOfKind 111 = .ok (.iload_n 3, 1) := dk_29 (dk_at dksX0_voiceOfKind_5 1 rfl rfl)
theorem dX0_voiceOfKind_112 : decode cX0_voiceOfKind 112 = .ok (.iload 4, 2) := dk_21 4 (dk_at dksX0_voiceOfKind_5 2 rfl rfl)
theorem dX0_voiceOfKind_114 : decode cX0_voiceOfKind 114 = .ok (.invokespecial 46, 3) := dk_183 0 46 (dk_at dksX0_voiceOfKind_5 4 rfl rfl)
theorem dX0_voiceOfKind_117 : decode cX0_voiceOfKind 117 = .ok (.areturn, 1) := dk_176 (dk_at dksX0_voiceOfKind_5 7 rfl rfl)
theorem dX0_voiceOfKind_118 : decode cX0_voiceOfKind 118 = .ok (.new 47, 3) := dk_187 0 47 (dk_at dksX0_voiceOfKind_5 8 rfl rfl)
theorem dX0_voiceOfKind_121 : decode cX0_voiceOfKind 121 = .ok (.dup, 1) := dk_89 (dk_at dksX0_voiceOfKind_5 11 rfl rfl)
theorem dX0_voiceOfKind_122 : decode cX0_voiceOfKind 122 = .ok (.iload_n 1, 1) := dk_27 (dk_at dksX0_voiceOfKind_5 12 rfl rfl)
theorem dX0_voiceOfKind_123 : decode cX0_voiceOfKind 123 = .ok (.iload_n 2, 1) := dk_28 (dk_at dksX0_voiceOfKind_5 13 rfl rfl)
theorem dX0_voiceOfKind_124 : decode cX0_voiceOfKind 124 = .ok (.iload_n 3, 1) := dk_29 (dk_at dksX0_voiceOfKind_5 14 rfl rfl)
theorem dX0_voiceOfKind_125 : decode cX0_voiceOfKind 125 = .ok (.iload 4, 2) := dk_21 4 (dk_at dksX0_voiceOfKind_5 15 rfl rfl)
theorem dX0_voiceOfKind_127 : decode cX0_voiceOfKind 127 = .ok (.invokespecial 49, 3) := dk_183 0 49 (dk_at dksX0_voiceOfKind_5 17 rfl rfl)
theorem dX0_voiceOfKind_130 : decode cX0_voiceOfKind 130 = .ok (.areturn, 1) := dk_176 (dk_at dksX0_voiceOfKind_5 20 rfl rfl)
abbrev cX0_row : ByteArray := prog_1_method_14_code
def yX0_row : MethodName := ⟨RX0, "row", "(III)I"⟩
def dkwX0_row_3 : List UInt8 := [182, 0, 169, 172]
abbrev dktX0_row_3 : List UInt8 := dkwX0_row_3 ++ []
def dkwX0_row_2 : List UInt8 := [16, 249, 184, 0, 116, 25, 4, 28, 29, 184, 0, 165, 181, 0, 135, 4, 172, 58, 4, 42, 25, 4]
abbrev dktX0_row_2 : List UInt8 := dkwX0_row_2 ++ dktX0_row_3
def dkwX0_row_1 : List UInt8 := [20, 0, 163, 184, 0, 125, 16, 250, 184, 0, 116, 29, 17, 0, 160, 163, 0, 7, 4, 167, 0, 4, 3]
abbrev dktX0_row_1 : List UInt8 := dkwX0_row_1 ++ dktX0_row_2
def dkwX0_row_0 : List UInt8 := [42, 27, 182, 0, 159, 58, 4, 29, 155, 0, 7, 4, 167, 0, 4, 3, 16, 252, 184, 0, 116, 28, 133, 9]
abbrev dktX0_row_0 : List UInt8 := dkwX0_row_0 ++ dktX0_row_1
theorem dksX0_row_0 : cX0_row.data.toList.drop 0 = dktX0_row_0 := by decide +kernel
theorem dksX0_row_1 : cX0_row.data.toList.drop 24 = dktX0_row_1 := dk_seg dksX0_row_0 24 rfl rfl
theorem dksX0_row_2 : cX0_row.data.toList.drop 47 = dktX0_row_2 := dk_seg dksX0_row_1 23 rfl rfl
theorem dksX0_row_3 : cX0_row.data.toList.drop 69 = dktX0_row_3 := dk_seg dksX0_row_2 22 rfl rfl
theorem dX0_row_0 : decode cX0_row 0 = .ok (.aload_n 0, 1) := dk_42 (dk_at dksX0_row_0 0 rfl rfl)
theorem dX0_row_1 : decode cX0_row 1 = .ok (.iload_n 1, 1) := dk_27 (dk_at dksX0_row_0 1 rfl rfl)
theorem dX0_row_2 : decode cX0_row 2 = .ok (.invokevirtual 159, 3) := dk_182 0 159 (dk_at dksX0_row_0 2 rfl rfl)
theorem dX0_row_5 : decode cX0_row 5 = .ok (.astore 4, 2) := dk_58 4 (dk_at dksX0_row_0 5 rfl rfl)
theorem dX0_row_7 : decode cX0_row 7 = .ok (.iload_n 3, 1) := dk_29 (dk_at dksX0_row_0 7 rfl rfl)
theorem dX0_row_8 : decode cX0_row 8 = .ok (.ifCond .lt 7, 3) := dk_155 0 7 (dk_at dksX0_row_0 8 rfl rfl)
theorem dX0_row_11 : decode cX0_row 11 = .ok (.iconst 1, 1) := dk_4 (dk_at dksX0_row_0 11 rfl rfl)
theorem dX0_row_12 : decode cX0_row 12 = .ok (.goto 4, 3) := dk_167 0 4 (dk_at dksX0_row_0 12 rfl rfl)
theorem dX0_row_15 : decode cX0_row 15 = .ok (.iconst 0, 1) := dk_3 (dk_at dksX0_row_0 15 rfl rfl)
theorem dX0_row_16 : decode cX0_row 16 = .ok (.bipush (-4), 2) := dk_16 252 (dk_at dksX0_row_0 16 rfl rfl)
theorem dX0_row_18 : decode cX0_row 18 = .ok (.invokestatic 116, 3) := dk_184 0 116 (dk_at dksX0_row_0 18 rfl rfl)
theorem dX0_row_21 : decode cX0_row 21 = .ok (.iload_n 2, 1) := dk_28 (dk_at dksX0_row_0 21 rfl rfl)
theorem dX0_row_22 : decode cX0_row 22 = .ok (.i2l, 1) := dk_133 (dk_at dksX0_row_0 22 rfl rfl)
theorem dX0_row_23 : decode cX0_row 23 = .ok (.lconst 0, 1) := dk_9 (dk_at dksX0_row_0 23 rfl rfl)
theorem dX0_row_24 : decode cX0_row 24 = .ok (.ldc2_w 163, 3) := dk_20 0 163 (dk_at dksX0_row_1 0 rfl rfl)
theorem dX0_row_27 : decode cX0_row 27 = .ok (.invokestatic 125, 3) := dk_184 0 125 (dk_at dksX0_row_1 3 rfl rfl)
theorem dX0_row_30 : decode cX0_row 30 = .ok (.bipush (-6), 2) := dk_16 250 (dk_at dksX0_row_1 6 rfl rfl)
theorem dX0_row_32 : decode cX0_row 32 = .ok (.invokestatic 116, 3) := dk_184 0 116 (dk_at dksX0_row_1 8 rfl rfl)
theorem dX0_row_35 : decode cX0_row 35 = .ok (.iload_n 3, 1) := dk_29 (dk_at dksX0_row_1 11 rfl rfl)
theorem dX0_row_36 : decode cX0_row 36 = .ok (.sipush 160, 3) := dk_17 0 160 (dk_at dksX0_row_1 12 rfl rfl)
theorem dX0_row_39 : decode cX0_row 39 = .ok (.if_icmp .gt 7, 3) := dk_163 0 7 (dk_at dksX0_row_1 15 rfl rfl)
theorem dX0_row_42 : decode cX0_row 42 = .ok (.iconst 1, 1) := dk_4 (dk_at dksX0_row_1 18 rfl rfl)
theorem dX0_row_43 : decode cX0_row 43 = .ok (.goto 4, 3) := dk_167 0 4 (dk_at dksX0_row_1 19 rfl rfl)
theorem dX0_row_46 : decode cX0_row 46 = .ok (.iconst 0, 1) := dk_3 (dk_at dksX0_row_1 22 rfl rfl)
theorem dX0_row_47 : decode cX0_row 47 = .ok (.bipush (-7), 2) := dk_16 249 (dk_at dksX0_row_2 0 rfl rfl)
theorem dX0_row_49 : decode cX0_row 49 = .ok (.invokestatic 116, 3) := dk_184 0 116 (dk_at dksX0_row_2 2 rfl rfl)
theorem dX0_row_52 : decode cX0_row 52 = .ok (.aload 4, 2) := dk_25 4 (dk_at dksX0_row_2 5 rfl rfl)
theorem dX0_row_54 : decode cX0_row 54 = .ok (.iload_n 2, 1) := dk_28 (dk_at dksX0_row_2 7 rfl rfl)
theorem dX0_row_55 : decode cX0_row 55 = .ok (.iload_n 3, 1) := dk_29 (dk_at dksX0_row_2 8 rfl rfl)
theorem dX0_row_56 : decode cX0_row 56 = .ok (.invokestatic 165, 3) := dk_184 0 165 (dk_at dksX0_row_2 9 rfl rfl)
theorem dX0_row_59 : decode cX0_row 59 = .ok (.putfield 135, 3) := dk_181 0 135 (dk_at dksX0_row_2 12 rfl rfl)
theorem dX0_row_62 : decode cX0_row 62 = .ok (.iconst 1, 1) := dk_4 (dk_at dksX0_row_2 15 rfl rfl)
theorem dX0_row_63 : decode cX0_row 63 = .ok (.ireturn, 1) := dk_172 (dk_at dksX0_row_2 16 rfl rfl)
theorem dX0_row_64 : decode cX0_row 64 = .ok (.astore 4, 2) := dk_58 4 (dk_at dksX0_row_2 17 rfl rfl)
theorem dX0_row_66 : decode cX0_row 66 = .ok (.aload_n 0, 1) := dk_42 (dk_at dksX0_row_2 19 rfl rfl)
theorem dX0_row_67 : decode cX0_row 67 = .ok (.aload 4, 2) := dk_25 4 (dk_at dksX0_row_2 20 rfl rfl)
theorem dX0_row_69 : decode cX0_row 69 = .ok (.invokevirtual 169, 3) := dk_182 0 169 (dk_at dksX0_row_3 0 rfl rfl)
theorem dX0_row_72 : decode cX0_row 72 = .ok (.ireturn, 1) := dk_172 (dk_at dksX0_row_3 3 rfl rfl)
abbrev cX0_shelf : ByteArray := prog_1_method_8_code
def yX0_shelf : MethodName := ⟨RX0, "shelf", "(I)LWhichOneAllKnow$Shelf;"⟩
def dkwX0_shelf_0 : List UInt8 := [42, 180, 0, 59, 27, 50, 176, 77, 187, 0, 21, 89, 2, 183, 0, 23, 191]
abbrev dktX0_shelf_0 : List UInt8 := dkwX0_shelf_0 ++ []
theorem dksX0_shelf_0 : cX0_shelf.data.toList.drop 0 = dktX0_shelf_0 := by decide +kernel
theorem dX0_shelf_0 : decode cX0_shelf 0 = .ok (.aload_n 0, 1) := dk_42 (dk_at dksX0_shelf_0 0 rfl rfl)
theorem dX0_shelf_1 : decode cX0_shelf 1 = .ok (.getfield 59, 3) := dk_180 0 59 (dk_at dksX0_shelf_0 1 rfl rfl)
theorem dX0_shelf_4 : decode cX0_shelf 4 = .ok (.iload_n 1, 1) := dk_27 (dk_at dksX0_shelf_0 4 rfl rfl)
theorem dX0_shelf_5 : decode cX0_shelf 5 = .ok (.aaload, 1) := dk_50 (dk_at dksX0_shelf_0 5 rfl rfl)
theorem dX0_shelf_6 : decode cX0_shelf 6 = .ok (.areturn, 1) := dk_176 (dk_at dksX0_shelf_0 6 rfl rfl)
theorem dX0_shelf_7 : decode cX0_shelf 7 = .ok (.astore_n 2, 1) := dk_77 (dk_at dksX0_shelf_0 7 rfl rfl)
theorem dX0_shelf_8 : decode cX0_shelf 8 = .ok (.new 21, 3) := dk_187 0 21 (dk_at dksX0_shelf_0 8 rfl rfl)
theorem dX0_shelf_11 : decode cX0_shelf 11 = .ok (.dup, 1) := dk_89 (dk_at dksX0_shelf_0 11 rfl rfl)
theorem dX0_shelf_12 : decode cX0_shelf 12 = .ok (.iconst (-1), 1) := dk_2 (dk_at dksX0_shelf_0 12 rfl rfl)
theorem dX0_shelf_13 : decode cX0_shelf 13 = .ok (.invokespecial 23, 3) := dk_183 0 23 (dk_at dksX0_shelf_0 13 rfl rfl)
theorem dX0_shelf_16 : decode cX0_shelf 16 = .ok (.athrow, 1) := dk_191 (dk_at dksX0_shelf_0 16 rfl rfl)
abbrev cX0_need : ByteArray := prog_1_method_2_code
def yX0_need : MethodName := ⟨RX0, "need", "(ZI)V"⟩
def dkwX0_need_0 : List UInt8 := [26, 154, 0, 12, 187, 0, 21, 89, 27, 183, 0, 23, 191, 177]
abbrev dktX0_need_0 : List UInt8 := dkwX0_need_0 ++ []
theorem dksX0_need_0 : cX0_need.data.toList.drop 0 = dktX0_need_0 := by decide +kernel
theorem dX0_need_0 : decode cX0_need 0 = .ok (.iload_n 0, 1) := dk_26 (dk_at dksX0_need_0 0 rfl rfl)
theorem dX0_need_1 : decode cX0_need 1 = .ok (.ifCond .ne 12, 3) := dk_154 0 12 (dk_at dksX0_need_0 1 rfl rfl)
theorem dX0_need_4 : decode cX0_need 4 = .ok (.new 21, 3) := dk_187 0 21 (dk_at dksX0_need_0 4 rfl rfl)
theorem dX0_need_7 : decode cX0_need 7 = .ok (.dup, 1) := dk_89 (dk_at dksX0_need_0 7 rfl rfl)
theorem dX0_need_8 : decode cX0_need 8 = .ok (.iload_n 1, 1) := dk_27 (dk_at dksX0_need_0 8 rfl rfl)
theorem dX0_need_9 : decode cX0_need 9 = .ok (.invokespecial 23, 3) := dk_183 0 23 (dk_at dksX0_need_0 9 rfl rfl)
theorem dX0_need_12 : decode cX0_need 12 = .ok (.athrow, 1) := dk_191 (dk_at dksX0_need_0 12 rfl rfl)
theorem dX0_need_13 : decode cX0_need 13 = .ok (.return_, 1) := dk_177 (dk_at dksX0_need_0 13 rfl rfl)
abbrev cX0_in : ByteArray := prog_1_method_3_code
def yX0_in : MethodName := ⟨RX0, "in", "(JJJ)Z"⟩
def dkwX0_in_0 : List UInt8 := [30, 32, 148, 155, 0, 14, 30, 22, 4, 148, 157, 0, 7, 4, 167, 0, 4, 3, 172]
abbrev dktX0_in_0 : List UInt8 := dkwX0_in_0 ++ []
theorem dksX0_in_0 : cX0_in.data.toList.drop 0 = dktX0_in_0 := by decide +kernel
theorem dX0_in_0 : decode cX0_in 0 = .ok (.lload_n 0, 1) := dk_30 (dk_at dksX0_in_0 0 rfl rfl)
theorem dX0_in_1 : decode cX0_in 1 = .ok (.lload_n 2, 1) := dk_32 (dk_at dksX0_in_0 1 rfl rfl)
theorem dX0_in_2 : decode cX0_in 2 = .ok (.lcmp, 1) := dk_148 (dk_at dksX0_in_0 2 rfl rfl)
theorem dX0_in_3 : decode cX0_in 3 = .ok (.ifCond .lt 14, 3) := dk_155 0 14 (dk_at dksX0_in_0 3 rfl rfl)
theorem dX0_in_6 : decode cX0_in 6 = .ok (.lload_n 0, 1) := dk_30 (dk_at dksX0_in_0 6 rfl rfl)
theorem dX0_in_7 : decode cX0_in 7 = .ok (.lload 4, 2) := dk_22 4 (dk_at dksX0_in_0 7 rfl rfl)
theorem dX0_in_9 : decode cX0_in 9 = .ok (.lcmp, 1) := dk_148 (dk_at dksX0_in_0 9 rfl rfl)
theorem dX0_in_10 : decode cX0_in 10 = .ok (.ifCond .gt 7, 3) := dk_157 0 7 (dk_at dksX0_in_0 10 rfl rfl)
theorem dX0_in_13 : decode cX0_in 13 = .ok (.iconst 1, 1) := dk_4 (dk_at dksX0_in_0 13 rfl rfl)
theorem dX0_in_14 : decode cX0_in 14 = .ok (.goto 4, 3) := dk_167 0 4 (dk_at dksX0_in_0 14 rfl rfl)
theorem dX0_in_17 : decode cX0_in 17 = .ok (.iconst 0, 1) := dk_3 (dk_at dksX0_in_0 17 rfl rfl)
theorem dX0_in_18 : decode cX0_in 18 = .ok (.ireturn, 1) := dk_172 (dk_at dksX0_in_0 18 rfl rfl)
abbrev cX0_newRow : ByteArray := prog_1_method_13_code
def yX0_newRow : MethodName := ⟨RX0, "newRow", "(II)LWhichOneAllKnow$Row;"⟩
def dkwX0_newRow_4 : List UInt8 := [187, 0, 21, 89, 16, 252, 183, 0, 23, 191]
abbrev dktX0_newRow_4 : List UInt8 := dkwX0_newRow_4 ++ []
def dkwX0_newRow_3 : List UInt8 := [183, 0, 153, 176, 187, 0, 154, 89, 27, 183, 0, 156, 176, 187, 0, 21, 89, 16, 250, 183, 0, 23, 191, 77]
abbrev dktX0_newRow_3 : List UInt8 := dkwX0_newRow_3 ++ dktX0_newRow_4
def dkwX0_newRow_2 : List UInt8 := [187, 0, 145, 89, 27, 183, 0, 147, 176, 187, 0, 148, 89, 27, 183, 0, 150, 176, 187, 0, 151, 89, 27]
abbrev dktX0_newRow_2 : List UInt8 := dkwX0_newRow_2 ++ dktX0_newRow_3
def dkwX0_newRow_1 : List UInt8 := [170, 0, 0, 0, 0, 0, 67, 0, 0, 0, 0, 0, 0, 0, 3, 0, 0, 0, 31, 0, 0, 0, 40, 0, 0, 0, 49, 0, 0, 0, 58]
abbrev dktX0_newRow_1 : List UInt8 := dkwX0_newRow_1 ++ dktX0_newRow_2
def dkwX0_newRow_0 : List UInt8 := [26]
abbrev dktX0_newRow_0 : List UInt8 := dkwX0_newRow_0 ++ dktX0_newRow_1
theorem dksX0_newRow_0 : cX0_newRow.data.toList.drop 0 = dktX0_newRow_0 := by decide +kernel
theorem dksX0_newRow_1 : cX0_newRow.data.toList.drop 1 = dktX0_newRow_1 := dk_seg dksX0_newRow_0 1 rfl rfl
theorem dksX0_newRow_2 : cX0_newRow.data.toList.drop 32 = dktX0_newRow_2 := dk_seg dksX0_newRow_1 31 rfl rfl
theorem dksX0_newRow_3 : cX0_newRow.data.toList.drop 55 = dktX0_newRow_3 := dk_seg dksX0_newRow_2 23 rfl rfl
theorem dksX0_newRow_4 : cX0_newRow.data.toList.drop 79 = dktX0_newRow_4 := dk_seg dksX0_newRow_3 24 rfl rfl
theorem dX0_newRow_0 : decode cX0_newRow 0 = .ok (.iload_n 0, 1) := dk_26 (dk_at dksX0_newRow_0 0 rfl rfl)
theorem dX0_newRow_1 : decode cX0_newRow 1 = .ok (.tableswitch 67 0 3 #[31, 40, 49, 58], 31) := by decide +kernel
theorem dX0_newRow_32 : decode cX0_newRow 32 = .ok (.new 145, 3) := dk_187 0 145 (dk_at dksX0_newRow_2 0 rfl rfl)
theorem dX0_newRow_35 : decode cX0_newRow 35 = .ok (.dup, 1) := dk_89 (dk_at dksX0_newRow_2 3 rfl rfl)
theorem dX0_newRow_36 : decode cX0_newRow 36 = .ok (.iload_n 1, 1) := dk_27 (dk_at dksX0_newRow_2 4 rfl rfl)
theorem dX0_newRow_37 : decode cX0_newRow 37 = .ok (.invokespecial 147, 3) := dk_183 0 147 (dk_at dksX0_newRow_2 5 rfl rfl)
theorem dX0_newRow_40 : decode cX0_newRow 40 = .ok (.areturn, 1) := dk_176 (dk_at dksX0_newRow_2 8 rfl rfl)
theorem dX0_newRow_41 : decode cX0_newRow 41 = .ok (.new 148, 3) := dk_187 0 148 (dk_at dksX0_newRow_2 9 rfl rfl)
theorem dX0_newRow_44 : decode cX0_newRow 44 = .ok (.dup, 1) := dk_89 (dk_at dksX0_newRow_2 12 rfl rfl)
theorem dX0_newRow_45 : decode cX0_newRow 45 = .ok (.iload_n 1, 1) := dk_27 (dk_at dksX0_newRow_2 13 rfl rfl)
theorem dX0_newRow_46 : decode cX0_newRow 46 = .ok (.invokespecial 150, 3) := dk_183 0 150 (dk_at dksX0_newRow_2 14 rfl rfl)
theorem dX0_newRow_49 : decode cX0_newRow 49 = .ok (.areturn, 1) := dk_176 (dk_at dksX0_newRow_2 17 rfl rfl)
theorem dX0_newRow_50 : decode cX0_newRow 50 = .ok (.new 151, 3) := dk_187 0 151 (dk_at dksX0_newRow_2 18 rfl rfl)
theorem dX0_newRow_53 : decode cX0_newRow 53 = .ok (.dup, 1) := dk_89 (dk_at dksX0_newRow_2 21 rfl rfl)
theorem dX0_newRow_54 : decode cX0_newRow 54 = .ok (.iload_n 1, 1) := dk_27 (dk_at dksX0_newRow_2 22 rfl rfl)
theorem dX0_newRow_55 : decode cX0_newRow 55 = .ok (.invokespecial 153, 3) := dk_183 0 153 (dk_at dksX0_newRow_3 0 rfl rfl)
theorem dX0_newRow_58 : decode cX0_newRow 58 = .ok (.areturn, 1) := dk_176 (dk_at dksX0_newRow_3 3 rfl rfl)
theorem dX0_newRow_59 : decode cX0_newRow 59 = .ok (.new 154, 3) := dk_187 0 154 (dk_at dksX0_newRow_3 4 rfl rfl)
theorem dX0_newRow_62 : decode cX0_newRow 62 = .ok (.dup, 1) := dk_89 (dk_at dksX0_newRow_3 7 rfl rfl)
theorem dX0_newRow_63 : decode cX0_newRow 63 = .ok (.iload_n 1, 1) := dk_27 (dk_at dksX0_newRow_3 8 rfl rfl)
theorem dX0_newRow_64 : decode cX0_newRow 64 = .ok (.invokespecial 156, 3) := dk_183 0 156 (dk_at dksX0_newRow_3 9 rfl rfl)
theorem dX0_newRow_67 : decode cX0_newRow 67 = .ok (.areturn, 1) := dk_176 (dk_at dksX0_newRow_3 12 rfl rfl)
theorem dX0_newRow_68 : decode cX0_newRow 68 = .ok (.new 21, 3) := dk_187 0 21 (dk_at dksX0_newRow_3 13 rfl rfl)
theorem dX0_newRow_71 : decode cX0_newRow 71 = .ok (.dup, 1) := dk_89 (dk_at dksX0_newRow_3 16 rfl rfl)
theorem dX0_newRow_72 : decode cX0_newRow 72 = .ok (.bipush (-6), 2) := dk_16 250 (dk_at dksX0_newRow_3 17 rfl rfl)
theorem dX0_newRow_74 : decode cX0_newRow 74 = .ok (.invokespecial 23, 3) := dk_183 0 23 (dk_at dksX0_newRow_3 19 rfl rfl)
theorem dX0_newRow_77 : decode cX0_newRow 77 = .ok (.athrow, 1) := dk_191 (dk_at dksX0_newRow_3 22 rfl rfl)
theorem dX0_newRow_78 : decode cX0_newRow 78 = .ok (.astore_n 2, 1) := dk_77 (dk_at dksX0_newRow_3 23 rfl rfl)
theorem dX0_newRow_79 : decode cX0_newRow 79 = .ok (.new 21, 3) := dk_187 0 21 (dk_at dksX0_newRow_4 0 rfl rfl)
theorem dX0_newRow_82 : decode cX0_newRow 82 = .ok (.dup, 1) := dk_89 (dk_at dksX0_newRow_4 3 rfl rfl)
theorem dX0_newRow_83 : decode cX0_newRow 83 = .ok (.bipush (-4), 2) := dk_16 252 (dk_at dksX0_newRow_4 4 rfl rfl)
theorem dX0_newRow_85 : decode cX0_newRow 85 = .ok (.invokespecial 23, 3) := dk_183 0 23 (dk_at dksX0_newRow_4 6 rfl rfl)
theorem dX0_newRow_88 : decode cX0_newRow 88 = .ok (.athrow, 1) := dk_191 (dk_at dksX0_newRow_4 9 rfl rfl)
abbrev cX0_refused : ByteArray := prog_1_method_6_code
def yX0_refused : MethodName := ⟨RX0, "refused", "(LWhichOneAllKnow$Refused;)I"⟩
def dkwX0_refused_0 : List UInt8 := [42, 180, 0, 63, 43, 180, 0, 107, 116, 92, 46, 4, 96, 79, 43, 180, 0, 107, 172]
abbrev dktX0_refused_0 : List UInt8 := dkwX0_refused_0 ++ []
theorem dksX0_refused_0 : cX0_refused.data.toList.drop 0 = dktX0_refused_0 := by decide +kernel
theorem dX0_refused_0 : decode cX0_refused 0 = .ok (.aload_n 0, 1) := dk_42 (dk_at dksX0_refused_0 0 rfl rfl)
theorem dX0_refused_1 : decode cX0_refused 1 = .ok (.getfield 63, 3) := dk_180 0 63 (dk_at dksX0_refused_0 1 rfl rfl)
theorem dX0_refused_4 : decode cX0_refused 4 = .ok (.aload_n 1, 1) := dk_43 (dk_at dksX0_refused_0 4 rfl rfl)
theorem dX0_refused_5 : decode cX0_refused 5 = .ok (.getfield 107, 3) := dk_180 0 107 (dk_at dksX0_refused_0 5 rfl rfl)
theorem dX0_refused_8 : decode cX0_refused 8 = .ok (.ineg, 1) := dk_116 (dk_at dksX0_refused_0 8 rfl rfl)
theorem dX0_refused_9 : decode cX0_refused 9 = .ok (.dup2, 1) := dk_92 (dk_at dksX0_refused_0 9 rfl rfl)
theorem dX0_refused_10 : decode cX0_refused 10 = .ok (.iaload, 1) := dk_46 (dk_at dksX0_refused_0 10 rfl rfl)
theorem dX0_refused_11 : decode cX0_refused 11 = .ok (.iconst 1, 1) := dk_4 (dk_at dksX0_refused_0 11 rfl rfl)
theorem dX0_refused_12 : decode cX0_refused 12 = .ok (.iadd, 1) := dk_96 (dk_at dksX0_refused_0 12 rfl rfl)
theorem dX0_refused_13 : decode cX0_refused 13 = .ok (.iastore, 1) := dk_79 (dk_at dksX0_refused_0 13 rfl rfl)
theorem dX0_refused_14 : decode cX0_refused 14 = .ok (.aload_n 1, 1) := dk_43 (dk_at dksX0_refused_0 14 rfl rfl)
theorem dX0_refused_15 : decode cX0_refused 15 = .ok (.getfield 107, 3) := dk_180 0 107 (dk_at dksX0_refused_0 15 rfl rfl)
theorem dX0_refused_18 : decode cX0_refused 18 = .ok (.ireturn, 1) := dk_172 (dk_at dksX0_refused_0 18 rfl rfl)
abbrev cX0_set : ByteArray := prog_1_method_15_code
def yX0_set : MethodName := ⟨RX0, "set", "(IIJ)I"⟩
def dkwX0_set_1 : List UInt8 := [187, 0, 21, 89, 16, 251, 183, 0, 23, 191, 4, 172, 58, 5, 42, 25, 5, 182, 0, 169, 172]
abbrev dktX0_set_1 : List UInt8 := dkwX0_set_1 ++ []
def dkwX0_set_0 : List UInt8 := [42, 27, 182, 0, 159, 182, 0, 173, 58, 5, 25, 5, 28, 33, 182, 0, 176, 167, 0, 15, 58, 6]
abbrev dktX0_set_0 : List UInt8 := dkwX0_set_0 ++ dktX0_set_1
theorem dksX0_set_0 : cX0_set.data.toList.drop 0 = dktX0_set_0 := by decide +kernel
theorem dksX0_set_1 : cX0_set.data.toList.drop 22 = dktX0_set_1 := dk_seg dksX0_set_0 22 rfl rfl
theorem dX0_set_0 : decode cX0_set 0 = .ok (.aload_n 0, 1) := dk_42 (dk_at dksX0_set_0 0 rfl rfl)
theorem dX0_set_1 : decode cX0_set 1 = .ok (.iload_n 1, 1) := dk_27 (dk_at dksX0_set_0 1 rfl rfl)
theorem dX0_set_2 : decode cX0_set 2 = .ok (.invokevirtual 159, 3) := dk_182 0 159 (dk_at dksX0_set_0 2 rfl rfl)
theorem dX0_set_5 : decode cX0_set 5 = .ok (.invokevirtual 173, 3) := dk_182 0 173 (dk_at dksX0_set_0 5 rfl rfl)
theorem dX0_set_8 : decode cX0_set 8 = .ok (.astore 5, 2) := dk_58 5 (dk_at dksX0_set_0 8 rfl rfl)
theorem dX0_set_10 : decode cX0_set 10 = .ok (.aload 5, 2) := dk_25 5 (dk_at dksX0_set_0 10 rfl rfl)
theorem dX0_set_12 : decode cX0_set 12 = .ok (.iload_n 2, 1) := dk_28 (dk_at dksX0_set_0 12 rfl rfl)
theorem dX0_set_13 : decode cX0_set 13 = .ok (.lload_n 3, 1) := dk_33 (dk_at dksX0_set_0 13 rfl rfl)
theorem dX0_set_14 : decode cX0_set 14 = .ok (.invokevirtual 176, 3) := dk_182 0 176 (dk_at dksX0_set_0 14 rfl rfl)
theorem dX0_set_17 : decode cX0_set 17 = .ok (.goto 15, 3) := dk_167 0 15 (dk_at dksX0_set_0 17 rfl rfl)
theorem dX0_set_20 : decode cX0_set 20 = .ok (.astore 6, 2) := dk_58 6 (dk_at dksX0_set_0 20 rfl rfl)
theorem dX0_set_22 : decode cX0_set 22 = .ok (.new 21, 3) := dk_187 0 21 (dk_at dksX0_set_1 0 rfl rfl)
theorem dX0_set_25 : decode cX0_set 25 = .ok (.dup, 1) := dk_89 (dk_at dksX0_set_1 3 rfl rfl)
theorem dX0_set_26 : decode cX0_set 26 = .ok (.bipush (-5), 2) := dk_16 251 (dk_at dksX0_set_1 4 rfl rfl)
theorem dX0_set_28 : decode cX0_set 28 = .ok (.invokespecial 23, 3) := dk_183 0 23 (dk_at dksX0_set_1 6 rfl rfl)
theorem dX0_set_31 : decode cX0_set 31 = .ok (.athrow, 1) := dk_191 (dk_at dksX0_set_1 9 rfl rfl)
theorem dX0_set_32 : decode cX0_set 32 = .ok (.iconst 1, 1) := dk_4 (dk_at dksX0_set_1 10 rfl rfl)
theorem dX0_set_33 : decode cX0_set 33 = .ok (.ireturn, 1) := dk_172 (dk_at dksX0_set_1 11 rfl rfl)
theorem dX0_set_34 : decode cX0_set 34 = .ok (.astore 5, 2) := dk_58 5 (dk_at dksX0_set_1 12 rfl rfl)
theorem dX0_set_36 : decode cX0_set 36 = .ok (.aload_n 0, 1) := dk_42 (dk_at dksX0_set_1 14 rfl rfl)
theorem dX0_set_37 : decode cX0_set 37 = .ok (.aload 5, 2) := dk_25 5 (dk_at dksX0_set_1 15 rfl rfl)
theorem dX0_set_39 : decode cX0_set 39 = .ok (.invokevirtual 169, 3) := dk_182 0 169 (dk_at dksX0_set_1 17 rfl rfl)
theorem dX0_set_42 : decode cX0_set 42 = .ok (.ireturn, 1) := dk_172 (dk_at dksX0_set_1 20 rfl rfl)
abbrev cX0_copy : ByteArray := prog_1_method_16_code
def yX0_copy : MethodName := ⟨RX0, "copy", "(IIIII)I"⟩
def dkwX0_copy_6 : List UInt8 := [89, 16, 251, 183, 0, 23, 191, 4, 172, 58, 6, 42, 25, 6, 182, 0, 169, 172]
abbrev dktX0_copy_6 : List UInt8 := dkwX0_copy_6 ++ []
def dkwX0_copy_5 : List UInt8 := [182, 0, 7, 29, 25, 9, 182, 0, 7, 21, 4, 21, 5, 184, 0, 15, 167, 0, 15, 58, 10, 187, 0, 21]
abbrev dktX0_copy_5 : List UInt8 := dkwX0_copy_5 ++ dktX0_copy_6
def dkwX0_copy_4 : List UInt8 := [182, 0, 173, 58, 9, 21, 5, 155, 0, 7, 4, 167, 0, 4, 3, 16, 252, 184, 0, 116, 25, 8]
abbrev dktX0_copy_4 : List UInt8 := dkwX0_copy_4 ++ dktX0_copy_5
def dkwX0_copy_3 : List UInt8 := [160, 0, 7, 4, 167, 0, 4, 3, 16, 254, 184, 0, 116, 25, 6, 182, 0, 173, 58, 8, 25, 7]
abbrev dktX0_copy_3 : List UInt8 := dkwX0_copy_3 ++ dktX0_copy_4
def dkwX0_copy_2 : List UInt8 := [25, 7, 180, 0, 135, 198, 0, 32, 25, 6, 182, 0, 173, 182, 0, 180, 25, 7, 182, 0, 173, 182, 0, 180]
abbrev dktX0_copy_2 : List UInt8 := dkwX0_copy_2 ++ dktX0_copy_3
def dkwX0_copy_1 : List UInt8 := [182, 0, 131, 154, 0, 7, 4, 167, 0, 4, 3, 16, 254, 184, 0, 116, 25, 6, 180, 0, 135, 198, 0, 40]
abbrev dktX0_copy_1 : List UInt8 := dkwX0_copy_1 ++ dktX0_copy_2
def dkwX0_copy_0 : List UInt8 := [42, 27, 182, 0, 159, 58, 6, 42, 28, 182, 0, 159, 58, 7, 25, 6, 182, 0, 131, 154, 0, 15, 25, 7]
abbrev dktX0_copy_0 : List UInt8 := dkwX0_copy_0 ++ dktX0_copy_1
theorem dksX0_copy_0 : cX0_copy.data.toList.drop 0 = dktX0_copy_0 := by decide +kernel
theorem dksX0_copy_1 : cX0_copy.data.toList.drop 24 = dktX0_copy_1 := dk_seg dksX0_copy_0 24 rfl rfl
theorem dksX0_copy_2 : cX0_copy.data.toList.drop 48 = dktX0_copy_2 := dk_seg dksX0_copy_1 24 rfl rfl
theorem dksX0_copy_3 : cX0_copy.data.toList.drop 72 = dktX0_copy_3 := dk_seg dksX0_copy_2 24 rfl rfl
theorem dksX0_copy_4 : cX0_copy.data.toList.drop 94 = dktX0_copy_4 := dk_seg dksX0_copy_3 22 rfl rfl
theorem dksX0_copy_5 : cX0_copy.data.toList.drop 116 = dktX0_copy_5 := dk_seg dksX0_copy_4 22 rfl rfl
theorem dksX0_copy_6 : cX0_copy.data.toList.drop 140 = dktX0_copy_6 := dk_seg dksX0_copy_5 24 rfl rfl
theorem dX0_copy_0 : decode cX0_copy 0 = .ok (.aload_n 0, 1) := dk_42 (dk_at dksX0_copy_0 0 rfl rfl)
theorem dX0_copy_1 : decode cX0_copy 1 = .ok (.iload_n 1, 1) := dk_27 (dk_at dksX0_copy_0 1 rfl rfl)
theorem dX0_copy_2 : decode cX0_copy 2 = .ok (.invokevirtual 159, 3) := dk_182 0 159 (dk_at dksX0_copy_0 2 rfl rfl)
theorem dX0_copy_5 : decode cX0_copy 5 = .ok (.astore 6, 2) := dk_58 6 (dk_at dksX0_copy_0 5 rfl rfl)
theorem dX0_copy_7 : decode cX0_copy 7 = .ok (.aload_n 0, 1) := dk_42 (dk_at dksX0_copy_0 7 rfl rfl)
theorem dX0_copy_8 : decode cX0_copy 8 = .ok (.iload_n 2, 1) := dk_28 (dk_at dksX0_copy_0 8 rfl rfl)
theorem dX0_copy_9 : decode cX0_copy 9 = .ok (.invokevirtual 159, 3) := dk_182 0 159 (dk_at dksX0_copy_0 9 rfl rfl)
theorem dX0_copy_12 : decode cX0_copy 12 = .ok (.astore 7, 2) := dk_58 7 (dk_at dksX0_copy_0 12 rfl rfl)
theorem dX0_copy_14 : decode cX0_copy 14 = .ok (.aload 6, 2) := dk_25 6 (dk_at dksX0_copy_0 14 rfl rfl)
theorem dX0_copy_16 : decode cX0_copy 16 = .ok (.invokevirtual 131, 3) := dk_182 0 131 (dk_at dksX0_copy_0 16 rfl rfl)
theorem dX0_copy_19 : decode cX0_copy 19 = .ok (.ifCond .ne 15, 3) := dk_154 0 15 (dk_at dksX0_copy_0 19 rfl rfl)
theorem dX0_copy_22 : decode cX0_copy 22 = .ok (.aload 7, 2) := dk_25 7 (dk_at dksX0_copy_0 22 rfl rfl)
theorem dX0_copy_24 : decode cX0_copy 24 = .ok (.invokevirtual 131, 3) := dk_182 0 131 (dk_at dksX0_copy_1 0 rfl rfl)
theorem dX0_copy_27 : decode cX0_copy 27 = .ok (.ifCond .ne 7, 3) := dk_154 0 7 (dk_at dksX0_copy_1 3 rfl rfl)
theorem dX0_copy_30 : decode cX0_copy 30 = .ok (.iconst 1, 1) := dk_4 (dk_at dksX0_copy_1 6 rfl rfl)
theorem dX0_copy_31 : decode cX0_copy 31 = .ok (.goto 4, 3) := dk_167 0 4 (dk_at dksX0_copy_1 7 rfl rfl)
theorem dX0_copy_34 : decode cX0_copy 34 = .ok (.iconst 0, 1) := dk_3 (dk_at dksX0_copy_1 10 rfl rfl)
theorem dX0_copy_35 : decode cX0_copy 35 = .ok (.bipush (-2), 2) := dk_16 254 (dk_at dksX0_copy_1 11 rfl rfl)
theorem dX0_copy_37 : decode cX0_copy 37 = .ok (.invokestatic 116, 3) := dk_184 0 116 (dk_at dksX0_copy_1 13 rfl rfl)
theorem dX0_copy_40 : decode cX0_copy 40 = .ok (.aload 6, 2) := dk_25 6 (dk_at dksX0_copy_1 16 rfl rfl)
theorem dX0_copy_42 : decode cX0_copy 42 = .ok (.getfield 135, 3) := dk_180 0 135 (dk_at dksX0_copy_1 18 rfl rfl)
theorem dX0_copy_45 : decode cX0_copy 45 = .ok (.ifnull 40, 3) := dk_198 0 40 (dk_at dksX0_copy_1 21 rfl rfl)
theorem dX0_copy_48 : decode cX0_copy 48 = .ok (.aload 7, 2) := dk_25 7 (dk_at dksX0_copy_2 0 rfl rfl)
theorem dX0_copy_50 : decode cX0_copy 50 = .ok (.getfield 135, 3) := dk_180 0 135 (dk_at dksX0_copy_2 2 rfl rfl)
theorem dX0_copy_53 : decode cX0_copy 53 = .ok (.ifnull 32, 3) := dk_198 0 32 (dk_at dksX0_copy_2 5 rfl rfl)
theorem dX0_copy_56 : decode cX0_copy 56 = .ok (.aload 6, 2) := dk_25 6 (dk_at dksX0_copy_2 8 rfl rfl)
theorem dX0_copy_58 : decode cX0_copy 58 = .ok (.invokevirtual 173, 3) := dk_182 0 173 (dk_at dksX0_copy_2 10 rfl rfl)
theorem dX0_copy_61 : decode cX0_copy 61 = .ok (.invokevirtual 180, 3) := dk_182 0 180 (dk_at dksX0_copy_2 13 rfl rfl)
theorem dX0_copy_64 : decode cX0_copy 64 = .ok (.aload 7, 2) := dk_25 7 (dk_at dksX0_copy_2 16 rfl rfl)
theorem dX0_copy_66 : decode cX0_copy 66 = .ok (.invokevirtual 173, 3) := dk_182 0 173 (dk_at dksX0_copy_2 18 rfl rfl)
theorem dX0_copy_69 : decode cX0_copy 69 = .ok (.invokevirtual 180, 3) := dk_182 0 180 (dk_at dksX0_copy_2 21 rfl rfl)
theorem dX0_copy_72 : decode cX0_copy 72 = .ok (.if_icmp .ne 7, 3) := dk_160 0 7 (dk_at dksX0_copy_3 0 rfl rfl)
theorem dX0_copy_75 : decode cX0_copy 75 = .ok (.iconst 1, 1) := dk_4 (dk_at dksX0_copy_3 3 rfl rfl)
theorem dX0_copy_76 : decode cX0_copy 76 = .ok (.goto 4, 3) := dk_167 0 4 (dk_at dksX0_copy_3 4 rfl rfl)
theorem dX0_copy_79 : decode cX0_copy 79 = .ok (.iconst 0, 1) := dk_3 (dk_at dksX0_copy_3 7 rfl rfl)
theorem dX0_copy_80 : decode cX0_copy 80 = .ok (.bipush (-2), 2) := dk_16 254 (dk_at dksX0_copy_3 8 rfl rfl)
theorem dX0_copy_82 : decode cX0_copy 82 = .ok (.invokestatic 116, 3) := dk_184 0 116 (dk_at dksX0_copy_3 10 rfl rfl)
theorem dX0_copy_85 : decode cX0_copy 85 = .ok (.aload 6, 2) := dk_25 6 (dk_at dksX0_copy_3 13 rfl rfl)
theorem dX0_copy_87 : decode cX0_copy 87 = .ok (.invokevirtual 173, 3) := dk_182 0 173 (dk_at dksX0_copy_3 15 rfl rfl)
theorem dX0_copy_90 : decode cX0_copy 90 = .ok (.astore 8, 2) := dk_58 8 (dk_at dksX0_copy_3 18 rfl rfl)
theorem dX0_copy_92 : decode cX0_copy 92 = .ok (.aload 7, 2) := dk_25 7 (dk_at dksX0_copy_3 20 rfl rfl)
theorem dX0_copy_94 : decode cX0_copy 94 = .ok (.invokevirtual 173, 3) := dk_182 0 173 (dk_at dksX0_copy_4 0 rfl rfl)
theorem dX0_copy_97 : decode cX0_copy 97 = .ok (.astore 9, 2) := dk_58 9 (dk_at dksX0_copy_4 3 rfl rfl)
theorem dX0_copy_99 : decode cX0_copy 99 = .ok (.iload 5, 2) := dk_21 5 (dk_at dksX0_copy_4 5 rfl rfl)
theorem dX0_copy_101 : decode cX0_copy 101 = .ok (.ifCond .lt 7, 3) := dk_155 0 7 (dk_at dksX0_copy_4 7 rfl rfl)
theorem dX0_copy_104 : decode cX0_copy 104 = .ok (.iconst 1, 1) := dk_4 (dk_at dksX0_copy_4 10 rfl rfl)
theorem dX0_copy_105 : decode cX0_copy 105 = .ok (.goto 4, 3) := dk_167 0 4 (dk_at dksX0_copy_4 11 rfl rfl)
theorem dX0_copy_108 : decode cX0_copy 108 = .ok (.iconst 0, 1) := dk_3 (dk_at dksX0_copy_4 14 rfl rfl)
theorem dX0_copy_109 : decode cX0_copy 109 = .ok (.bipush (-4), 2) := dk_16 252 (dk_at dksX0_copy_4 15 rfl rfl)
theorem dX0_copy_111 : decode cX0_copy 111 = .ok (.invokestatic 116, 3) := dk_184 0 116 (dk_at dksX0_copy_4 17 rfl rfl)
theorem dX0_copy_114 : decode cX0_copy 114 = .ok (.aload 8, 2) := dk_25 8 (dk_at dksX0_copy_4 20 rfl rfl)
theorem dX0_copy_116 : decode cX0_copy 116 = .ok (.invokevirtual 7, 3) := dk_182 0 7 (dk_at dksX0_copy_5 0 rfl rfl)
theorem dX0_copy_119 : decode cX0_copy 119 = .ok (.iload_n 3, 1) := dk_29 (dk_at dksX0_copy_5 3 rfl rfl)
theorem dX0_copy_120 : decode cX0_copy 120 = .ok (.aload 9, 2) := dk_25 9 (dk_at dksX0_copy_5 4 rfl rfl)
theorem dX0_copy_122 : decode cX0_copy 122 = .ok (.invokevirtual 7, 3) := dk_182 0 7 (dk_at dksX0_copy_5 6 rfl rfl)
theorem dX0_copy_125 : decode cX0_copy 125 = .ok (.iload 4, 2) := dk_21 4 (dk_at dksX0_copy_5 9 rfl rfl)
theorem dX0_copy_127 : decode cX0_copy 127 = .ok (.iload 5, 2) := dk_21 5 (dk_at dksX0_copy_5 11 rfl rfl)
theorem dX0_copy_129 : decode cX0_copy 129 = .ok (.invokestatic 15, 3) := dk_184 0 15 (dk_at dksX0_copy_5 13 rfl rfl)
theorem dX0_copy_132 : decode cX0_copy 132 = .ok (.goto 15, 3) := dk_167 0 15 (dk_at dksX0_copy_5 16 rfl rfl)
theorem dX0_copy_135 : decode cX0_copy 135 = .ok (.astore 10, 2) := dk_58 10 (dk_at dksX0_copy_5 19 rfl rfl)
theorem dX0_copy_137 : decode cX0_copy 137 = .ok (.new 21, 3) := dk_187 0 21 (dk_at dksX0_copy_5 21 rfl rfl)
theorem dX0_copy_140 : decode cX0_copy 140 = .ok (.dup, 1) := dk_89 (dk_at dksX0_copy_6 0 rfl rfl)
theorem dX0_copy_141 : decode cX0_copy 141 = .ok (.bipush (-5), 2) := dk_16 251 (dk_at dksX0_copy_6 1 rfl rfl)
theorem dX0_copy_143 : decode cX0_copy 143 = .ok (.invokespecial 23, 3) := dk_183 0 23 (dk_at dksX0_copy_6 3 rfl rfl)
theorem dX0_copy_146 : decode cX0_copy 146 = .ok (.athrow, 1) := dk_191 (dk_at dksX0_copy_6 6 rfl rfl)
theorem dX0_copy_147 : decode cX0_copy 147 = .ok (.iconst 1, 1) := dk_4 (dk_at dksX0_copy_6 7 rfl rfl)
theorem dX0_copy_148 : decode cX0_copy 148 = .ok (.ireturn, 1) := dk_172 (dk_at dksX0_copy_6 8 rfl rfl)
theorem dX0_copy_149 : decode cX0_copy 149 = .ok (.astore 6, 2) := dk_58 6 (dk_at dksX0_copy_6 9 rfl rfl)
theorem dX0_copy_151 : decode cX0_copy 151 = .ok (.aload_n 0, 1) := dk_42 (dk_at dksX0_copy_6 11 rfl rfl)
theorem dX0_copy_152 : decode cX0_copy 152 = .ok (.aload 6, 2) := dk_25 6 (dk_at dksX0_copy_6 12 rfl rfl)
theorem dX0_copy_154 : decode cX0_copy 154 = .ok (.invokevirtual 169, 3) := dk_182 0 169 (dk_at dksX0_copy_6 14 rfl rfl)
theorem dX0_copy_157 : decode cX0_copy 157 = .ok (.ireturn, 1) := dk_172 (dk_at dksX0_copy_6 17 rfl rfl)
abbrev cX0_element : ByteArray := prog_1_method_17_code
def yX0_element : MethodName := ⟨RX0, "element", "(II)J"⟩
def dkwX0_element_0 : List UInt8 := [42, 27, 182, 0, 159, 182, 0, 173, 28, 182, 0, 185, 173, 78, 9, 173, 78, 9, 173]
abbrev dktX0_element_0 : List UInt8 := dkwX0_element_0 ++ []
theorem dksX0_element_0 : cX0_element.data.toList.drop 0 = dktX0_element_0 := by decide +kernel
theorem dX0_element_0 : decode cX0_element 0 = .ok (.aload_n 0, 1) := dk_42 (dk_at dksX0_element_0 0 rfl rfl)
theorem dX0_element_1 : decode cX0_element 1 = .ok (.iload_n 1, 1) := dk_27 (dk_at dksX0_element_0 1 rfl rfl)
theorem dX0_element_2 : decode cX0_element 2 = .ok (.invokevirtual 159, 3) := dk_182 0 159 (dk_at dksX0_element_0 2 rfl rfl)
theorem dX0_element_5 : decode cX0_element 5 = .ok (.invokevirtual 173, 3) := dk_182 0 173 (dk_at dksX0_element_0 5 rfl rfl)
theorem dX0_element_8 : decode cX0_element 8 = .ok (.iload_n 2, 1) := dk_28 (dk_at dksX0_element_0 8 rfl rfl)
theorem dX0_element_9 : decode cX0_element 9 = .ok (.invokevirtual 185, 3) := dk_182 0 185 (dk_at dksX0_element_0 9 rfl rfl)
theorem dX0_element_12 : decode cX0_element 12 = .ok (.lreturn, 1) := dk_173 (dk_at dksX0_element_0 12 rfl rfl)
theorem dX0_element_13 : decode cX0_element 13 = .ok (.astore_n 3, 1) := dk_78 (dk_at dksX0_element_0 13 rfl rfl)
theorem dX0_element_14 : decode cX0_element 14 = .ok (.lconst 0, 1) := dk_9 (dk_at dksX0_element_0 14 rfl rfl)
theorem dX0_element_15 : decode cX0_element 15 = .ok (.lreturn, 1) := dk_173 (dk_at dksX0_element_0 15 rfl rfl)
theorem dX0_element_16 : decode cX0_element 16 = .ok (.astore_n 3, 1) := dk_78 (dk_at dksX0_element_0 16 rfl rfl)
theorem dX0_element_17 : decode cX0_element 17 = .ok (.lconst 0, 1) := dk_9 (dk_at dksX0_element_0 17 rfl rfl)
theorem dX0_element_18 : decode cX0_element 18 = .ok (.lreturn, 1) := dk_173 (dk_at dksX0_element_0 18 rfl rfl)
abbrev cX0_show : ByteArray := prog_1_method_18_code
def yX0_show : MethodName := ⟨RX0, "show", "(II)I"⟩
def dkwX0_show_1 : List UInt8 := [42, 180, 0, 88, 180, 0, 141, 28, 50, 181, 0, 135, 4, 172, 78, 42, 45, 182, 0, 169, 172]
abbrev dktX0_show_1 : List UInt8 := dkwX0_show_1 ++ []
def dkwX0_show_0 : List UInt8 := [42, 27, 182, 0, 159, 78, 28, 2, 160, 0, 10, 45, 1, 181, 0, 135, 3, 172, 42, 28, 182, 0, 189, 45]
abbrev dktX0_show_0 : List UInt8 := dkwX0_show_0 ++ dktX0_show_1
theorem dksX0_show_0 : cX0_show.data.toList.drop 0 = dktX0_show_0 := by decide +kernel
theorem dksX0_show_1 : cX0_show.data.toList.drop 24 = dktX0_show_1 := dk_seg dksX0_show_0 24 rfl rfl
theorem dX0_show_0 : decode cX0_show 0 = .ok (.aload_n 0, 1) := dk_42 (dk_at dksX0_show_0 0 rfl rfl)
theorem dX0_show_1 : decode cX0_show 1 = .ok (.iload_n 1, 1) := dk_27 (dk_at dksX0_show_0 1 rfl rfl)
theorem dX0_show_2 : decode cX0_show 2 = .ok (.invokevirtual 159, 3) := dk_182 0 159 (dk_at dksX0_show_0 2 rfl rfl)
theorem dX0_show_5 : decode cX0_show 5 = .ok (.astore_n 3, 1) := dk_78 (dk_at dksX0_show_0 5 rfl rfl)
theorem dX0_show_6 : decode cX0_show 6 = .ok (.iload_n 2, 1) := dk_28 (dk_at dksX0_show_0 6 rfl rfl)
theorem dX0_show_7 : decode cX0_show 7 = .ok (.iconst (-1), 1) := dk_2 (dk_at dksX0_show_0 7 rfl rfl)
theorem dX0_show_8 : decode cX0_show 8 = .ok (.if_icmp .ne 10, 3) := dk_160 0 10 (dk_at dksX0_show_0 8 rfl rfl)
theorem dX0_show_11 : decode cX0_show 11 = .ok (.aload_n 3, 1) := dk_45 (dk_at dksX0_show_0 11 rfl rfl)
theorem dX0_show_12 : decode cX0_show 12 = .ok (.aconst_null, 1) := dk_1 (dk_at dksX0_show_0 12 rfl rfl)
theorem dX0_show_13 : decode cX0_show 13 = .ok (.putfield 135, 3) := dk_181 0 135 (dk_at dksX0_show_0 13 rfl rfl)
theorem dX0_show_16 : decode cX0_show 16 = .ok (.iconst 0, 1) := dk_3 (dk_at dksX0_show_0 16 rfl rfl)
theorem dX0_show_17 : decode cX0_show 17 = .ok (.ireturn, 1) := dk_172 (dk_at dksX0_show_0 17 rfl rfl)
theorem dX0_show_18 : decode cX0_show 18 = .ok (.aload_n 0, 1) := dk_42 (dk_at dksX0_show_0 18 rfl rfl)
theorem dX0_show_19 : decode cX0_show 19 = .ok (.iload_n 2, 1) := dk_28 (dk_at dksX0_show_0 19 rfl rfl)
theorem dX0_show_20 : decode cX0_show 20 = .ok (.invokevirtual 189, 3) := dk_182 0 189 (dk_at dksX0_show_0 20 rfl rfl)
theorem dX0_show_23 : decode cX0_show 23 = .ok (.aload_n 3, 1) := dk_45 (dk_at dksX0_show_0 23 rfl rfl)
theorem dX0_show_24 : decode cX0_show 24 = .ok (.aload_n 0, 1) := dk_42 (dk_at dksX0_show_1 0 rfl rfl)
theorem dX0_show_25 : decode cX0_show 25 = .ok (.getfield 88, 3) := dk_180 0 88 (dk_at dksX0_show_1 1 rfl rfl)
theorem dX0_show_28 : decode cX0_show 28 = .ok (.getfield 141, 3) := dk_180 0 141 (dk_at dksX0_show_1 4 rfl rfl)
theorem dX0_show_31 : decode cX0_show 31 = .ok (.iload_n 2, 1) := dk_28 (dk_at dksX0_show_1 7 rfl rfl)
theorem dX0_show_32 : decode cX0_show 32 = .ok (.aaload, 1) := dk_50 (dk_at dksX0_show_1 8 rfl rfl)
theorem dX0_show_33 : decode cX0_show 33 = .ok (.putfield 135, 3) := dk_181 0 135 (dk_at dksX0_show_1 9 rfl rfl)
theorem dX0_show_36 : decode cX0_show 36 = .ok (.iconst 1, 1) := dk_4 (dk_at dksX0_show_1 12 rfl rfl)
theorem dX0_show_37 : decode cX0_show 37 = .ok (.ireturn, 1) := dk_172 (dk_at dksX0_show_1 13 rfl rfl)
theorem dX0_show_38 : decode cX0_show 38 = .ok (.astore_n 3, 1) := dk_78 (dk_at dksX0_show_1 14 rfl rfl)
theorem dX0_show_39 : decode cX0_show 39 = .ok (.aload_n 0, 1) := dk_42 (dk_at dksX0_show_1 15 rfl rfl)
theorem dX0_show_40 : decode cX0_show 40 = .ok (.aload_n 3, 1) := dk_45 (dk_at dksX0_show_1 16 rfl rfl)
theorem dX0_show_41 : decode cX0_show 41 = .ok (.invokevirtual 169, 3) := dk_182 0 169 (dk_at dksX0_show_1 17 rfl rfl)
theorem dX0_show_44 : decode cX0_show 44 = .ok (.ireturn, 1) := dk_172 (dk_at dksX0_show_1 20 rfl rfl)
abbrev cX0_mustVoice : ByteArray := prog_1_method_9_code
def yX0_mustVoice : MethodName := ⟨RX0, "mustVoice", "(I)V"⟩
def dkwX0_mustVoice_0 : List UInt8 := [42, 180, 0, 88, 27, 182, 0, 112, 2, 184, 0, 116, 177]
abbrev dktX0_mustVoice_0 : List UInt8 := dkwX0_mustVoice_0 ++ []
theorem dksX0_mustVoice_0 : cX0_mustVoice.data.toList.drop 0 = dktX0_mustVoice_0 := by decide +kernel
theorem dX0_mustVoice_0 : decode cX0_mustVoice 0 = .ok (.aload_n 0, 1) := dk_42 (dk_at dksX0_mustVoice_0 0 rfl rfl)
theorem dX0_mustVoice_1 : decode cX0_mustVoice 1 = .ok (.getfield 88, 3) := dk_180 0 88 (dk_at dksX0_mustVoice_0 1 rfl rfl)
theorem dX0_mustVoice_4 : decode cX0_mustVoice 4 = .ok (.iload_n 1, 1) := dk_27 (dk_at dksX0_mustVoice_0 4 rfl rfl)
theorem dX0_mustVoice_5 : decode cX0_mustVoice 5 = .ok (.invokevirtual 112, 3) := dk_182 0 112 (dk_at dksX0_mustVoice_0 5 rfl rfl)
theorem dX0_mustVoice_8 : decode cX0_mustVoice 8 = .ok (.iconst (-1), 1) := dk_2 (dk_at dksX0_mustVoice_0 8 rfl rfl)
theorem dX0_mustVoice_9 : decode cX0_mustVoice 9 = .ok (.invokestatic 116, 3) := dk_184 0 116 (dk_at dksX0_mustVoice_0 9 rfl rfl)
theorem dX0_mustVoice_12 : decode cX0_mustVoice 12 = .ok (.return_, 1) := dk_177 (dk_at dksX0_mustVoice_0 12 rfl rfl)
abbrev cX0_holds : ByteArray := prog_1_method_19_code
def yX0_holds : MethodName := ⟨RX0, "holds", "(I)I"⟩
def dkwX0_holds_2 : List UInt8 := [167, 0, 13, 16, 100, 44, 192, 0, 2, 182, 0, 180, 96, 172]
abbrev dktX0_holds_2 : List UInt8 := dkwX0_holds_2 ++ []
def dkwX0_holds_1 : List UInt8 := [42, 180, 0, 59, 27, 50, 180, 0, 135, 77, 44, 193, 0, 47, 153, 0, 13, 44, 192, 0, 47, 180, 0, 138]
abbrev dktX0_holds_1 : List UInt8 := dkwX0_holds_1 ++ dktX0_holds_2
def dkwX0_holds_0 : List UInt8 := [27, 155, 0, 21, 27, 16, 8, 162, 0, 15, 42, 180, 0, 59, 27, 50, 180, 0, 135, 199, 0, 5, 2, 172]
abbrev dktX0_holds_0 : List UInt8 := dkwX0_holds_0 ++ dktX0_holds_1
theorem dksX0_holds_0 : cX0_holds.data.toList.drop 0 = dktX0_holds_0 := by decide +kernel
theorem dksX0_holds_1 : cX0_holds.data.toList.drop 24 = dktX0_holds_1 := dk_seg dksX0_holds_0 24 rfl rfl
theorem dksX0_holds_2 : cX0_holds.data.toList.drop 48 = dktX0_holds_2 := dk_seg dksX0_holds_1 24 rfl rfl
theorem dX0_holds_0 : decode cX0_holds 0 = .ok (.iload_n 1, 1) := dk_27 (dk_at dksX0_holds_0 0 rfl rfl)
theorem dX0_holds_1 : decode cX0_holds 1 = .ok (.ifCond .lt 21, 3) := dk_155 0 21 (dk_at dksX0_holds_0 1 rfl rfl)
theorem dX0_holds_4 : decode cX0_holds 4 = .ok (.iload_n 1, 1) := dk_27 (dk_at dksX0_holds_0 4 rfl rfl)
theorem dX0_holds_5 : decode cX0_holds 5 = .ok (.bipush 8, 2) := dk_16 8 (dk_at dksX0_holds_0 5 rfl rfl)
theorem dX0_holds_7 : decode cX0_holds 7 = .ok (.if_icmp .ge 15, 3) := dk_162 0 15 (dk_at dksX0_holds_0 7 rfl rfl)
theorem dX0_holds_10 : decode cX0_holds 10 = .ok (.aload_n 0, 1) := dk_42 (dk_at dksX0_holds_0 10 rfl rfl)
theorem dX0_holds_11 : decode cX0_holds 11 = .ok (.getfield 59, 3) := dk_180 0 59 (dk_at dksX0_holds_0 11 rfl rfl)
theorem dX0_holds_14 : decode cX0_holds 14 = .ok (.iload_n 1, 1) := dk_27 (dk_at dksX0_holds_0 14 rfl rfl)
theorem dX0_holds_15 : decode cX0_holds 15 = .ok (.aaload, 1) := dk_50 (dk_at dksX0_holds_0 15 rfl rfl)
theorem dX0_holds_16 : decode cX0_holds 16 = .ok (.getfield 135, 3) := dk_180 0 135 (dk_at dksX0_holds_0 16 rfl rfl)
theorem dX0_holds_19 : decode cX0_holds 19 = .ok (.ifnonnull 5, 3) := dk_199 0 5 (dk_at dksX0_holds_0 19 rfl rfl)
theorem dX0_holds_22 : decode cX0_holds 22 = .ok (.iconst (-1), 1) := dk_2 (dk_at dksX0_holds_0 22 rfl rfl)
theorem dX0_holds_23 : decode cX0_holds 23 = .ok (.ireturn, 1) := dk_172 (dk_at dksX0_holds_0 23 rfl rfl)
theorem dX0_holds_24 : decode cX0_holds 24 = .ok (.aload_n 0, 1) := dk_42 (dk_at dksX0_holds_1 0 rfl rfl)
theorem dX0_holds_25 : decode cX0_holds 25 = .ok (.getfield 59, 3) := dk_180 0 59 (dk_at dksX0_holds_1 1 rfl rfl)
theorem dX0_holds_28 : decode cX0_holds 28 = .ok (.iload_n 1, 1) := dk_27 (dk_at dksX0_holds_1 4 rfl rfl)
theorem dX0_holds_29 : decode cX0_holds 29 = .ok (.aaload, 1) := dk_50 (dk_at dksX0_holds_1 5 rfl rfl)
theorem dX0_holds_30 : decode cX0_holds 30 = .ok (.getfield 135, 3) := dk_180 0 135 (dk_at dksX0_holds_1 6 rfl rfl)
theorem dX0_holds_33 : decode cX0_holds 33 = .ok (.astore_n 2, 1) := dk_77 (dk_at dksX0_holds_1 9 rfl rfl)
theorem dX0_holds_34 : decode cX0_holds 34 = .ok (.aload_n 2, 1) := dk_44 (dk_at dksX0_holds_1 10 rfl rfl)
theorem dX0_holds_35 : decode cX0_holds 35 = .ok (.instanceof 47, 3) := dk_193 0 47 (dk_at dksX0_holds_1 11 rfl rfl)
theorem dX0_holds_38 : decode cX0_holds 38 = .ok (.ifCond .eq 13, 3) := dk_153 0 13 (dk_at dksX0_holds_1 14 rfl rfl)
theorem dX0_holds_41 : decode cX0_holds 41 = .ok (.aload_n 2, 1) := dk_44 (dk_at dksX0_holds_1 17 rfl rfl)
theorem dX0_holds_42 : decode cX0_holds 42 = .ok (.checkcast 47, 3) := dk_192 0 47 (dk_at dksX0_holds_1 18 rfl rfl)
theorem dX0_holds_45 : decode cX0_holds 45 = .ok (.getfield 138, 3) := dk_180 0 138 (dk_at dksX0_holds_1 21 rfl rfl)
theorem dX0_holds_48 : decode cX0_holds 48 = .ok (.goto 13, 3) := dk_167 0 13 (dk_at dksX0_holds_2 0 rfl rfl)
theorem dX0_holds_51 : decode cX0_holds 51 = .ok (.bipush 100, 2) := dk_16 100 (dk_at dksX0_holds_2 3 rfl rfl)
theorem dX0_holds_53 : decode cX0_holds 53 = .ok (.aload_n 2, 1) := dk_44 (dk_at dksX0_holds_2 5 rfl rfl)
theorem dX0_holds_54 : decode cX0_holds 54 = .ok (.checkcast 2, 3) := dk_192 0 2 (dk_at dksX0_holds_2 6 rfl rfl)
theorem dX0_holds_57 : decode cX0_holds 57 = .ok (.invokevirtual 180, 3) := dk_182 0 180 (dk_at dksX0_holds_2 9 rfl rfl)
theorem dX0_holds_60 : decode cX0_holds 60 = .ok (.iadd, 1) := dk_96 (dk_at dksX0_holds_2 12 rfl rfl)
theorem dX0_holds_61 : decode cX0_holds 61 = .ok (.ireturn, 1) := dk_172 (dk_at dksX0_holds_2 13 rfl rfl)
abbrev cX0_says : ByteArray := prog_1_method_20_code
def yX0_says : MethodName := ⟨RX0, "says", "(II)I"⟩
def dkwX0_says_1 : List UInt8 := [180, 0, 88, 182, 0, 194, 172, 78, 42, 45, 182, 0, 169, 172]
abbrev dktX0_says_1 : List UInt8 := dkwX0_says_1 ++ []
def dkwX0_says_0 : List UInt8 := [42, 27, 182, 0, 159, 78, 28, 133, 9, 20, 0, 192, 184, 0, 125, 2, 184, 0, 116, 45, 28, 42]
abbrev dktX0_says_0 : List UInt8 := dkwX0_says_0 ++ dktX0_says_1
theorem dksX0_says_0 : cX0_says.data.toList.drop 0 = dktX0_says_0 := by decide +kernel
theorem dksX0_says_1 : cX0_says.data.toList.drop 22 = dktX0_says_1 := dk_seg dksX0_says_0 22 rfl rfl
theorem dX0_says_0 : decode cX0_says 0 = .ok (.aload_n 0, 1) := dk_42 (dk_at dksX0_says_0 0 rfl rfl)
theorem dX0_says_1 : decode cX0_says 1 = .ok (.iload_n 1, 1) := dk_27 (dk_at dksX0_says_0 1 rfl rfl)
theorem dX0_says_2 : decode cX0_says 2 = .ok (.invokevirtual 159, 3) := dk_182 0 159 (dk_at dksX0_says_0 2 rfl rfl)
theorem dX0_says_5 : decode cX0_says 5 = .ok (.astore_n 3, 1) := dk_78 (dk_at dksX0_says_0 5 rfl rfl)
theorem dX0_says_6 : decode cX0_says 6 = .ok (.iload_n 2, 1) := dk_28 (dk_at dksX0_says_0 6 rfl rfl)
theorem dX0_says_7 : decode cX0_says 7 = .ok (.i2l, 1) := dk_133 (dk_at dksX0_says_0 7 rfl rfl)
theorem dX0_says_8 : decode cX0_says 8 = .ok (.lconst 0, 1) := dk_9 (dk_at dksX0_says_0 8 rfl rfl)
theorem dX0_says_9 : decode cX0_says 9 = .ok (.ldc2_w 192, 3) := dk_20 0 192 (dk_at dksX0_says_0 9 rfl rfl)
theorem dX0_says_12 : decode cX0_says 12 = .ok (.invokestatic 125, 3) := dk_184 0 125 (dk_at dksX0_says_0 12 rfl rfl)
theorem dX0_says_15 : decode cX0_says 15 = .ok (.iconst (-1), 1) := dk_2 (dk_at dksX0_says_0 15 rfl rfl)
theorem dX0_says_16 : decode cX0_says 16 = .ok (.invokestatic 116, 3) := dk_184 0 116 (dk_at dksX0_says_0 16 rfl rfl)
theorem dX0_says_19 : decode cX0_says 19 = .ok (.aload_n 3, 1) := dk_45 (dk_at dksX0_says_0 19 rfl rfl)
theorem dX0_says_20 : decode cX0_says 20 = .ok (.iload_n 2, 1) := dk_28 (dk_at dksX0_says_0 20 rfl rfl)
theorem dX0_says_21 : decode cX0_says 21 = .ok (.aload_n 0, 1) := dk_42 (dk_at dksX0_says_0 21 rfl rfl)
theorem dX0_says_22 : decode cX0_says 22 = .ok (.getfield 88, 3) := dk_180 0 88 (dk_at dksX0_says_1 0 rfl rfl)
theorem dX0_says_25 : decode cX0_says 25 = .ok (.invokevirtual 194, 3) := dk_182 0 194 (dk_at dksX0_says_1 3 rfl rfl)
theorem dX0_says_28 : decode cX0_says 28 = .ok (.ireturn, 1) := dk_172 (dk_at dksX0_says_1 6 rfl rfl)
theorem dX0_says_29 : decode cX0_says 29 = .ok (.astore_n 3, 1) := dk_78 (dk_at dksX0_says_1 7 rfl rfl)
theorem dX0_says_30 : decode cX0_says 30 = .ok (.aload_n 0, 1) := dk_42 (dk_at dksX0_says_1 8 rfl rfl)
theorem dX0_says_31 : decode cX0_says 31 = .ok (.aload_n 3, 1) := dk_45 (dk_at dksX0_says_1 9 rfl rfl)
theorem dX0_says_32 : decode cX0_says 32 = .ok (.invokevirtual 169, 3) := dk_182 0 169 (dk_at dksX0_says_1 10 rfl rfl)
theorem dX0_says_35 : decode cX0_says 35 = .ok (.ireturn, 1) := dk_172 (dk_at dksX0_says_1 13 rfl rfl)
abbrev cX0_tune : ByteArray := prog_1_method_21_code
def yX0_tune : MethodName := ⟨RX0, "tune", "(I)I"⟩
def dkwX0_tune_2 : List UInt8 := [180, 0, 88, 180, 0, 200, 4, 100, 172, 77, 42, 44, 182, 0, 169, 172]
abbrev dktX0_tune_2 : List UInt8 := dkwX0_tune_2 ++ []
def dkwX0_tune_1 : List UInt8 := [162, 0, 7, 4, 167, 0, 4, 3, 16, 249, 184, 0, 116, 42, 180, 0, 88, 27, 182, 0, 203, 42]
abbrev dktX0_tune_1 : List UInt8 := dkwX0_tune_1 ++ dktX0_tune_2
def dkwX0_tune_0 : List UInt8 := [27, 133, 9, 20, 0, 198, 184, 0, 125, 16, 250, 184, 0, 116, 42, 180, 0, 88, 180, 0, 200, 16, 6]
abbrev dktX0_tune_0 : List UInt8 := dkwX0_tune_0 ++ dktX0_tune_1
theorem dksX0_tune_0 : cX0_tune.data.toList.drop 0 = dktX0_tune_0 := by decide +kernel
theorem dksX0_tune_1 : cX0_tune.data.toList.drop 23 = dktX0_tune_1 := dk_seg dksX0_tune_0 23 rfl rfl
theorem dksX0_tune_2 : cX0_tune.data.toList.drop 45 = dktX0_tune_2 := dk_seg dksX0_tune_1 22 rfl rfl
theorem dX0_tune_0 : decode cX0_tune 0 = .ok (.iload_n 1, 1) := dk_27 (dk_at dksX0_tune_0 0 rfl rfl)
theorem dX0_tune_1 : decode cX0_tune 1 = .ok (.i2l, 1) := dk_133 (dk_at dksX0_tune_0 1 rfl rfl)
theorem dX0_tune_2 : decode cX0_tune 2 = .ok (.lconst 0, 1) := dk_9 (dk_at dksX0_tune_0 2 rfl rfl)
theorem dX0_tune_3 : decode cX0_tune 3 = .ok (.ldc2_w 198, 3) := dk_20 0 198 (dk_at dksX0_tune_0 3 rfl rfl)
theorem dX0_tune_6 : decode cX0_tune 6 = .ok (.invokestatic 125, 3) := dk_184 0 125 (dk_at dksX0_tune_0 6 rfl rfl)
theorem dX0_tune_9 : decode cX0_tune 9 = .ok (.bipush (-6), 2) := dk_16 250 (dk_at dksX0_tune_0 9 rfl rfl)
theorem dX0_tune_11 : decode cX0_tune 11 = .ok (.invokestatic 116, 3) := dk_184 0 116 (dk_at dksX0_tune_0 11 rfl rfl)
theorem dX0_tune_14 : decode cX0_tune 14 = .ok (.aload_n 0, 1) := dk_42 (dk_at dksX0_tune_0 14 rfl rfl)
theorem dX0_tune_15 : decode cX0_tune 15 = .ok (.getfield 88, 3) := dk_180 0 88 (dk_at dksX0_tune_0 15 rfl rfl)
theorem dX0_tune_18 : decode cX0_tune 18 = .ok (.getfield 200, 3) := dk_180 0 200 (dk_at dksX0_tune_0 18 rfl rfl)
theorem dX0_tune_21 : decode cX0_tune 21 = .ok (.bipush 6, 2) := dk_16 6 (dk_at dksX0_tune_0 21 rfl rfl)
theorem dX0_tune_23 : decode cX0_tune 23 = .ok (.if_icmp .ge 7, 3) := dk_162 0 7 (dk_at dksX0_tune_1 0 rfl rfl)
theorem dX0_tune_26 : decode cX0_tune 26 = .ok (.iconst 1, 1) := dk_4 (dk_at dksX0_tune_1 3 rfl rfl)
theorem dX0_tune_27 : decode cX0_tune 27 = .ok (.goto 4, 3) := dk_167 0 4 (dk_at dksX0_tune_1 4 rfl rfl)
theorem dX0_tune_30 : decode cX0_tune 30 = .ok (.iconst 0, 1) := dk_3 (dk_at dksX0_tune_1 7 rfl rfl)
theorem dX0_tune_31 : decode cX0_tune 31 = .ok (.bipush (-7), 2) := dk_16 249 (dk_at dksX0_tune_1 8 rfl rfl)
theorem dX0_tune_33 : decode cX0_tune 33 = .ok (.invokestatic 116, 3) := dk_184 0 116 (dk_at dksX0_tune_1 10 rfl rfl)
theorem dX0_tune_36 : decode cX0_tune 36 = .ok (.aload_n 0, 1) := dk_42 (dk_at dksX0_tune_1 13 rfl rfl)
theorem dX0_tune_37 : decode cX0_tune 37 = .ok (.getfield 88, 3) := dk_180 0 88 (dk_at dksX0_tune_1 14 rfl rfl)
theorem dX0_tune_40 : decode cX0_tune 40 = .ok (.iload_n 1, 1) := dk_27 (dk_at dksX0_tune_1 17 rfl rfl)
theorem dX0_tune_41 : decode cX0_tune 41 = .ok (.invokevirtual 203, 3) := dk_182 0 203 (dk_at dksX0_tune_1 18 rfl rfl)
theorem dX0_tune_44 : decode cX0_tune 44 = .ok (.aload_n 0, 1) := dk_42 (dk_at dksX0_tune_1 21 rfl rfl)
theorem dX0_tune_45 : decode cX0_tune 45 = .ok (.getfield 88, 3) := dk_180 0 88 (dk_at dksX0_tune_2 0 rfl rfl)
theorem dX0_tune_48 : decode cX0_tune 48 = .ok (.getfield 200, 3) := dk_180 0 200 (dk_at dksX0_tune_2 3 rfl rfl)
theorem dX0_tune_51 : decode cX0_tune 51 = .ok (.iconst 1, 1) := dk_4 (dk_at dksX0_tune_2 6 rfl rfl)
theorem dX0_tune_52 : decode cX0_tune 52 = .ok (.isub, 1) := dk_100 (dk_at dksX0_tune_2 7 rfl rfl)
theorem dX0_tune_53 : decode cX0_tune 53 = .ok (.ireturn, 1) := dk_172 (dk_at dksX0_tune_2 8 rfl rfl)
theorem dX0_tune_54 : decode cX0_tune 54 = .ok (.astore_n 2, 1) := dk_77 (dk_at dksX0_tune_2 9 rfl rfl)
theorem dX0_tune_55 : decode cX0_tune 55 = .ok (.aload_n 0, 1) := dk_42 (dk_at dksX0_tune_2 10 rfl rfl)
theorem dX0_tune_56 : decode cX0_tune 56 = .ok (.aload_n 2, 1) := dk_44 (dk_at dksX0_tune_2 11 rfl rfl)
theorem dX0_tune_57 : decode cX0_tune 57 = .ok (.invokevirtual 169, 3) := dk_182 0 169 (dk_at dksX0_tune_2 12 rfl rfl)
theorem dX0_tune_60 : decode cX0_tune 60 = .ok (.ireturn, 1) := dk_172 (dk_at dksX0_tune_2 15 rfl rfl)
abbrev cX0_voice : ByteArray := prog_1_method_22_code
def yX0_voice : MethodName := ⟨RX0, "voice", "(IIIII)I"⟩
def dkwX0_voice_5 : List UInt8 := [182, 0, 214, 42, 180, 0, 88, 180, 0, 211, 4, 100, 172, 58, 6, 42, 25, 6, 182, 0, 169, 172]
abbrev dktX0_voice_5 : List UInt8 := dkwX0_voice_5 ++ []
def dkwX0_voice_4 : List UInt8 := [184, 0, 116, 42, 180, 0, 88, 27, 42, 180, 0, 88, 180, 0, 211, 28, 21, 4, 21, 5, 184, 0, 98, 29]
abbrev dktX0_voice_4 : List UInt8 := dkwX0_voice_4 ++ dktX0_voice_5
def dkwX0_voice_3 : List UInt8 := [184, 0, 116, 42, 180, 0, 88, 180, 0, 211, 16, 12, 162, 0, 7, 4, 167, 0, 4, 3, 16, 249]
abbrev dktX0_voice_3 : List UInt8 := dkwX0_voice_3 ++ dktX0_voice_4
def dkwX0_voice_2 : List UInt8 := [153, 0, 20, 21, 5, 133, 9, 20, 0, 198, 184, 0, 125, 153, 0, 7, 4, 167, 0, 4, 3, 16, 250]
abbrev dktX0_voice_2 : List UInt8 := dkwX0_voice_2 ++ dktX0_voice_3
def dkwX0_voice_1 : List UInt8 := [153, 0, 44, 42, 180, 0, 88, 29, 182, 0, 208, 153, 0, 33, 21, 4, 133, 9, 20, 0, 123, 184, 0, 125]
abbrev dktX0_voice_1 : List UInt8 := dkwX0_voice_1 ++ dktX0_voice_2
def dkwX0_voice_0 : List UInt8 := [27, 133, 9, 20, 0, 192, 184, 0, 125, 2, 184, 0, 116, 28, 133, 9, 20, 0, 206, 184, 0, 125]
abbrev dktX0_voice_0 : List UInt8 := dkwX0_voice_0 ++ dktX0_voice_1
theorem dksX0_voice_0 : cX0_voice.data.toList.drop 0 = dktX0_voice_0 := by decide +kernel
theorem dksX0_voice_1 : cX0_voice.data.toList.drop 22 = dktX0_voice_1 := dk_seg dksX0_voice_0 22 rfl rfl
theorem dksX0_voice_2 : cX0_voice.data.toList.drop 46 = dktX0_voice_2 := dk_seg dksX0_voice_1 24 rfl rfl
theorem dksX0_voice_3 : cX0_voice.data.toList.drop 69 = dktX0_voice_3 := dk_seg dksX0_voice_2 23 rfl rfl
theorem dksX0_voice_4 : cX0_voice.data.toList.drop 91 = dktX0_voice_4 := dk_seg dksX0_voice_3 22 rfl rfl
theorem dksX0_voice_5 : cX0_voice.data.toList.drop 115 = dktX0_voice_5 := dk_seg dksX0_voice_4 24 rfl rfl
theorem dX0_voice_0 : decode cX0_voice 0 = .ok (.iload_n 1, 1) := dk_27 (dk_at dksX0_voice_0 0 rfl rfl)
theorem dX0_voice_1 : decode cX0_voice 1 = .ok (.i2l, 1) := dk_133 (dk_at dksX0_voice_0 1 rfl rfl)
theorem dX0_voice_2 : decode cX0_voice 2 = .ok (.lconst 0, 1) := dk_9 (dk_at dksX0_voice_0 2 rfl rfl)
theorem dX0_voice_3 : decode cX0_voice 3 = .ok (.ldc2_w 192, 3) := dk_20 0 192 (dk_at dksX0_voice_0 3 rfl rfl)
theorem dX0_voice_6 : decode cX0_voice 6 = .ok (.invokestatic 125, 3) := dk_184 0 125 (dk_at dksX0_voice_0 6 rfl rfl)
theorem dX0_voice_9 : decode cX0_voice 9 = .ok (.iconst (-1), 1) := dk_2 (dk_at dksX0_voice_0 9 rfl rfl)
theorem dX0_voice_10 : decode cX0_voice 10 = .ok (.invokestatic 116, 3) := dk_184 0 116 (dk_at dksX0_voice_0 10 rfl rfl)
theorem dX0_voice_13 : decode cX0_voice 13 = .ok (.iload_n 2, 1) := dk_28 (dk_at dksX0_voice_0 13 rfl rfl)
theorem dX0_voice_14 : decode cX0_voice 14 = .ok (.i2l, 1) := dk_133 (dk_at dksX0_voice_0 14 rfl rfl)
theorem dX0_voice_15 : decode cX0_voice 15 = .ok (.lconst 0, 1) := dk_9 (dk_at dksX0_voice_0 15 rfl rfl)
theorem dX0_voice_16 : decode cX0_voice 16 = .ok (.ldc2_w 206, 3) := dk_20 0 206 (dk_at dksX0_voice_0 16 rfl rfl)
theorem dX0_voice_19 : decode cX0_voice 19 = .ok (.invokestatic 125, 3) := dk_184 0 125 (dk_at dksX0_voice_0 19 rfl rfl)
theorem dX0_voice_22 : decode cX0_voice 22 = .ok (.ifCond .eq 44, 3) := dk_153 0 44 (dk_at dksX0_voice_1 0 rfl rfl)
theorem dX0_voice_25 : decode cX0_voice 25 = .ok (.aload_n 0, 1) := dk_42 (dk_at dksX0_voice_1 3 rfl rfl)
theorem dX0_voice_26 : decode cX0_voice 26 = .ok (.getfield 88, 3) := dk_180 0 88 (dk_at dksX0_voice_1 4 rfl rfl)
theorem dX0_voice_29 : decode cX0_voice 29 = .ok (.iload_n 3, 1) := dk_29 (dk_at dksX0_voice_1 7 rfl rfl)
theorem dX0_voice_30 : decode cX0_voice 30 = .ok (.invokevirtual 208, 3) := dk_182 0 208 (dk_at dksX0_voice_1 8 rfl rfl)
theorem dX0_voice_33 : decode cX0_voice 33 = .ok (.ifCond .eq 33, 3) := dk_153 0 33 (dk_at dksX0_voice_1 11 rfl rfl)
theorem dX0_voice_36 : decode cX0_voice 36 = .ok (.iload 4, 2) := dk_21 4 (dk_at dksX0_voice_1 14 rfl rfl)
theorem dX0_voice_38 : decode cX0_voice 38 = .ok (.i2l, 1) := dk_133 (dk_at dksX0_voice_1 16 rfl rfl)
theorem dX0_voice_39 : decode cX0_voice 39 = .ok (.lconst 0, 1) := dk_9 (dk_at dksX0_voice_1 17 rfl rfl)
theorem dX0_voice_40 : decode cX0_voice 40 = .ok (.ldc2_w 123, 3) := dk_20 0 123 (dk_at dksX0_voice_1 18 rfl rfl)
theorem dX0_voice_43 : decode cX0_voice 43 = .ok (.invokestatic 125, 3) := dk_184 0 125 (dk_at dksX0_voice_1 21 rfl rfl)
theorem dX0_voice_46 : decode cX0_voice 46 = .ok (.ifCond .eq 20, 3) := dk_153 0 20 (dk_at dksX0_voice_2 0 rfl rfl)
theorem dX0_voice_49 : decode cX0_voice 49 = .ok (.iload 5, 2) := dk_21 5 (dk_at dksX0_voice_2 3 rfl rfl)
theorem dX0_voice_51 : decode cX0_voice 51 = .ok (.i2l, 1) := dk_133 (dk_at dksX0_voice_2 5 rfl rfl)
theorem dX0_voice_52 : decode cX0_voice 52 = .ok (.lconst 0, 1) := dk_9 (dk_at dksX0_voice_2 6 rfl rfl)
theorem dX0_voice_53 : decode cX0_voice 53 = .ok (.ldc2_w 198, 3) := dk_20 0 198 (dk_at dksX0_voice_2 7 rfl rfl)
theorem dX0_voice_56 : decode cX0_voice 56 = .ok (.invokestatic 125, 3) := dk_184 0 125 (dk_at dksX0_voice_2 10 rfl rfl)
theorem dX0_voice_59 : decode cX0_voice 59 = .ok (.ifCond .eq 7, 3) := dk_153 0 7 (dk_at dksX0_voice_2 13 rfl rfl)
theorem dX0_voice_62 : decode cX0_voice 62 = .ok (.iconst 1, 1) := dk_4 (dk_at dksX0_voice_2 16 rfl rfl)
theorem dX0_voice_63 : decode cX0_voice 63 = .ok (.goto 4, 3) := dk_167 0 4 (dk_at dksX0_voice_2 17 rfl rfl)
theorem dX0_voice_66 : decode cX0_voice 66 = .ok (.iconst 0, 1) := dk_3 (dk_at dksX0_voice_2 20 rfl rfl)
theorem dX0_voice_67 : decode cX0_voice 67 = .ok (.bipush (-6), 2) := dk_16 250 (dk_at dksX0_voice_2 21 rfl rfl)
theorem dX0_voice_69 : decode cX0_voice 69 = .ok (.invokestatic 116, 3) := dk_184 0 116 (dk_at dksX0_voice_3 0 rfl rfl)
theorem dX0_voice_72 : decode cX0_voice 72 = .ok (.aload_n 0, 1) := dk_42 (dk_at dksX0_voice_3 3 rfl rfl)
theorem dX0_voice_73 : decode cX0_voice 73 = .ok (.getfield 88, 3) := dk_180 0 88 (dk_at dksX0_voice_3 4 rfl rfl)
theorem dX0_voice_76 : decode cX0_voice 76 = .ok (.getfield 211, 3) := dk_180 0 211 (dk_at dksX0_voice_3 7 rfl rfl)
theorem dX0_voice_79 : decode cX0_voice 79 = .ok (.bipush 12, 2) := dk_16 12 (dk_at dksX0_voice_3 10 rfl rfl)
theorem dX0_voice_81 : decode cX0_voice 81 = .ok (.if_icmp .ge 7, 3) := dk_162 0 7 (dk_at dksX0_voice_3 12 rfl rfl)
theorem dX0_voice_84 : decode cX0_voice 84 = .ok (.iconst 1, 1) := dk_4 (dk_at dksX0_voice_3 15 rfl rfl)
theorem dX0_voice_85 : decode cX0_voice 85 = .ok (.goto 4, 3) := dk_167 0 4 (dk_at dksX0_voice_3 16 rfl rfl)
theorem dX0_voice_88 : decode cX0_voice 88 = .ok (.iconst 0, 1) := dk_3 (dk_at dksX0_voice_3 19 rfl rfl)
theorem dX0_voice_89 : decode cX0_voice 89 = .ok (.bipush (-7), 2) := dk_16 249 (dk_at dksX0_voice_3 20 rfl rfl)
theorem dX0_voice_91 : decode cX0_voice 91 = .ok (.invokestatic 116, 3) := dk_184 0 116 (dk_at dksX0_voice_4 0 rfl rfl)
theorem dX0_voice_94 : decode cX0_voice 94 = .ok (.aload_n 0, 1) := dk_42 (dk_at dksX0_voice_4 3 rfl rfl)
theorem dX0_voice_95 : decode cX0_voice 95 = .ok (.getfield 88, 3) := dk_180 0 88 (dk_at dksX0_voice_4 4 rfl rfl)
theorem dX0_voice_98 : decode cX0_voice 98 = .ok (.iload_n 1, 1) := dk_27 (dk_at dksX0_voice_4 7 rfl rfl)
theorem dX0_voice_99 : decode cX0_voice 99 = .ok (.aload_n 0, 1) := dk_42 (dk_at dksX0_voice_4 8 rfl rfl)
theorem dX0_voice_100 : decode cX0_voice 100 = .ok (.getfield 88, 3) := dk_180 0 88 (dk_at dksX0_voice_4 9 rfl rfl)
theorem dX0_voice_103 : decode cX0_voice 103 = .ok (.getfield 211, 3) := dk_180 0 211 (dk_at dksX0_voice_4 12 rfl rfl)
theorem dX0_voice_106 : decode cX0_voice 106 = .ok (.iload_n 2, 1) := dk_28 (dk_at dksX0_voice_4 15 rfl rfl)
theorem dX0_voice_107 : decode cX0_voice 107 = .ok (.iload 4, 2) := dk_21 4 (dk_at dksX0_voice_4 16 rfl rfl)
theorem dX0_voice_109 : decode cX0_voice 109 = .ok (.iload 5, 2) := dk_21 5 (dk_at dksX0_voice_4 18 rfl rfl)
theorem dX0_voice_111 : decode cX0_voice 111 = .ok (.invokestatic 98, 3) := dk_184 0 98 (dk_at dksX0_voice_4 20 rfl rfl)
theorem dX0_voice_114 : decode cX0_voice 114 = .ok (.iload_n 3, 1) := dk_29 (dk_at dksX0_voice_4 23 rfl rfl)
theorem dX0_voice_115 : decode cX0_voice 115 = .ok (.invokevirtual 214, 3) := dk_182 0 214 (dk_at dksX0_voice_5 0 rfl rfl)
theorem dX0_voice_118 : decode cX0_voice 118 = .ok (.aload_n 0, 1) := dk_42 (dk_at dksX0_voice_5 3 rfl rfl)
theorem dX0_voice_119 : decode cX0_voice 119 = .ok (.getfield 88, 3) := dk_180 0 88 (dk_at dksX0_voice_5 4 rfl rfl)
theorem dX0_voice_122 : decode cX0_voice 122 = .ok (.getfield 211, 3) := dk_180 0 211 (dk_at dksX0_voice_5 7 rfl rfl)
theorem dX0_voice_125 : decode cX0_voice 125 = .ok (.iconst 1, 1) := dk_4 (dk_at dksX0_voice_5 10 rfl rfl)
theorem dX0_voice_126 : decode cX0_voice 126 = .ok (.isub, 1) := dk_100 (dk_at dksX0_voice_5 11 rfl rfl)
theorem dX0_voice_127 : decode cX0_voice 127 = .ok (.ireturn, 1) := dk_172 (dk_at dksX0_voice_5 12 rfl rfl)
theorem dX0_voice_128 : decode cX0_voice 128 = .ok (.astore 6, 2) := dk_58 6 (dk_at dksX0_voice_5 13 rfl rfl)
theorem dX0_voice_130 : decode cX0_voice 130 = .ok (.aload_n 0, 1) := dk_42 (dk_at dksX0_voice_5 15 rfl rfl)
theorem dX0_voice_131 : decode cX0_voice 131 = .ok (.aload 6, 2) := dk_25 6 (dk_at dksX0_voice_5 16 rfl rfl)
theorem dX0_voice_133 : decode cX0_voice 133 = .ok (.invokevirtual 169, 3) := dk_182 0 169 (dk_at dksX0_voice_5 18 rfl rfl)
theorem dX0_voice_136 : decode cX0_voice 136 = .ok (.ireturn, 1) := dk_172 (dk_at dksX0_voice_5 21 rfl rfl)
abbrev cX0_knows : ByteArray := prog_1_method_23_code
def yX0_knows : MethodName := ⟨RX0, "knows", "(IIZ)I"⟩
def dkwX0_knows_3 : List UInt8 := [172, 58, 4, 42, 25, 4, 182, 0, 169, 172]
abbrev dktX0_knows_3 : List UInt8 := dkwX0_knows_3 ++ []
def dkwX0_knows_2 : List UInt8 := [28, 120, 128, 167, 0, 18, 42, 180, 0, 88, 180, 0, 221, 27, 46, 4, 28, 120, 2, 130, 126, 79, 21, 4]
abbrev dktX0_knows_2 : List UInt8 := dkwX0_knows_2 ++ dktX0_knows_3
def dkwX0_knows_1 : List UInt8 := [54, 4, 42, 180, 0, 88, 180, 0, 221, 27, 29, 153, 0, 19, 42, 180, 0, 88, 180, 0, 221, 27, 46, 4]
abbrev dktX0_knows_1 : List UInt8 := dkwX0_knows_1 ++ dktX0_knows_2
def dkwX0_knows_0 : List UInt8 := [42, 27, 182, 0, 189, 42, 28, 182, 0, 218, 42, 180, 0, 88, 180, 0, 221, 27, 46, 28, 122, 4, 126]
abbrev dktX0_knows_0 : List UInt8 := dkwX0_knows_0 ++ dktX0_knows_1
theorem dksX0_knows_0 : cX0_knows.data.toList.drop 0 = dktX0_knows_0 := by decide +kernel
theorem dksX0_knows_1 : cX0_knows.data.toList.drop 23 = dktX0_knows_1 := dk_seg dksX0_knows_0 23 rfl rfl
theorem dksX0_knows_2 : cX0_knows.data.toList.drop 47 = dktX0_knows_2 := dk_seg dksX0_knows_1 24 rfl rfl
theorem dksX0_knows_3 : cX0_knows.data.toList.drop 71 = dktX0_knows_3 := dk_seg dksX0_knows_2 24 rfl rfl
theorem dX0_knows_0 : decode cX0_knows 0 = .ok (.aload_n 0, 1) := dk_42 (dk_at dksX0_knows_0 0 rfl rfl)
theorem dX0_knows_1 : decode cX0_knows 1 = .ok (.iload_n 1, 1) := dk_27 (dk_at dksX0_knows_0 1 rfl rfl)
theorem dX0_knows_2 : decode cX0_knows 2 = .ok (.invokevirtual 189, 3) := dk_182 0 189 (dk_at dksX0_knows_0 2 rfl rfl)
theorem dX0_knows_5 : decode cX0_knows 5 = .ok (.aload_n 0, 1) := dk_42 (dk_at dksX0_knows_0 5 rfl rfl)
theorem dX0_knows_6 : decode cX0_knows 6 = .ok (.iload_n 2, 1) := dk_28 (dk_at dksX0_knows_0 6 rfl rfl)
theorem dX0_knows_7 : decode cX0_knows 7 = .ok (.invokevirtual 218, 3) := dk_182 0 218 (dk_at dksX0_knows_0 7 rfl rfl)
theorem dX0_knows_10 : decode cX0_knows 10 = .ok (.aload_n 0, 1) := dk_42 (dk_at dksX0_knows_0 10 rfl rfl)
theorem dX0_knows_11 : decode cX0_knows 11 = .ok (.getfield 88, 3) := dk_180 0 88 (dk_at dksX0_knows_0 11 rfl rfl)
theorem dX0_knows_14 : decode cX0_knows 14 = .ok (.getfield 221, 3) := dk_180 0 221 (dk_at dksX0_knows_0 14 rfl rfl)
theorem dX0_knows_17 : decode cX0_knows 17 = .ok (.iload_n 1, 1) := dk_27 (dk_at dksX0_knows_0 17 rfl rfl)
theorem dX0_knows_18 : decode cX0_knows 18 = .ok (.iaload, 1) := dk_46 (dk_at dksX0_knows_0 18 rfl rfl)
theorem dX0_knows_19 : decode cX0_knows 19 = .ok (.iload_n 2, 1) := dk_28 (dk_at dksX0_knows_0 19 rfl rfl)
theorem dX0_knows_20 : decode cX0_knows 20 = .ok (.ishr, 1) := dk_122 (dk_at dksX0_knows_0 20 rfl rfl)
theorem dX0_knows_21 : decode cX0_knows 21 = .ok (.iconst 1, 1) := dk_4 (dk_at dksX0_knows_0 21 rfl rfl)
theorem dX0_knows_22 : decode cX0_knows 22 = .ok (.iand, 1) := dk_126 (dk_at dksX0_knows_0 22 rfl rfl)
theorem dX0_knows_23 : decode cX0_knows 23 = .ok (.istore 4, 2) := dk_54 4 (dk_at dksX0_knows_1 0 rfl rfl)
theorem dX0_knows_25 : decode cX0_knows 25 = .ok (.aload_n 0, 1) := dk_42 (dk_at dksX0_knows_1 2 rfl rfl)
theorem dX0_knows_26 : decode cX0_knows 26 = .ok (.getfield 88, 3) := dk_180 0 88 (dk_at dksX0_knows_1 3 rfl rfl)
theorem dX0_knows_29 : decode cX0_knows 29 = .ok (.getfield 221, 3) := dk_180 0 221 (dk_at dksX0_knows_1 6 rfl rfl)
theorem dX0_knows_32 : decode cX0_knows 32 = .ok (.iload_n 1, 1) := dk_27 (dk_at dksX0_knows_1 9 rfl rfl)
theorem dX0_knows_33 : decode cX0_knows 33 = .ok (.iload_n 3, 1) := dk_29 (dk_at dksX0_knows_1 10 rfl rfl)
theorem dX0_knows_34 : decode cX0_knows 34 = .ok (.ifCond .eq 19, 3) := dk_153 0 19 (dk_at dksX0_knows_1 11 rfl rfl)
theorem dX0_knows_37 : decode cX0_knows 37 = .ok (.aload_n 0, 1) := dk_42 (dk_at dksX0_knows_1 14 rfl rfl)
theorem dX0_knows_38 : decode cX0_knows 38 = .ok (.getfield 88, 3) := dk_180 0 88 (dk_at dksX0_knows_1 15 rfl rfl)
theorem dX0_knows_41 : decode cX0_knows 41 = .ok (.getfield 221, 3) := dk_180 0 221 (dk_at dksX0_knows_1 18 rfl rfl)
theorem dX0_knows_44 : decode cX0_knows 44 = .ok (.iload_n 1, 1) := dk_27 (dk_at dksX0_knows_1 21 rfl rfl)
theorem dX0_knows_45 : decode cX0_knows 45 = .ok (.iaload, 1) := dk_46 (dk_at dksX0_knows_1 22 rfl rfl)
theorem dX0_knows_46 : decode cX0_knows 46 = .ok (.iconst 1, 1) := dk_4 (dk_at dksX0_knows_1 23 rfl rfl)
theorem dX0_knows_47 : decode cX0_knows 47 = .ok (.iload_n 2, 1) := dk_28 (dk_at dksX0_knows_2 0 rfl rfl)
theorem dX0_knows_48 : decode cX0_knows 48 = .ok (.ishl, 1) := dk_120 (dk_at dksX0_knows_2 1 rfl rfl)
theorem dX0_knows_49 : decode cX0_knows 49 = .ok (.ior, 1) := dk_128 (dk_at dksX0_knows_2 2 rfl rfl)
theorem dX0_knows_50 : decode cX0_knows 50 = .ok (.goto 18, 3) := dk_167 0 18 (dk_at dksX0_knows_2 3 rfl rfl)
theorem dX0_knows_53 : decode cX0_knows 53 = .ok (.aload_n 0, 1) := dk_42 (dk_at dksX0_knows_2 6 rfl rfl)
theorem dX0_knows_54 : decode cX0_knows 54 = .ok (.getfield 88, 3) := dk_180 0 88 (dk_at dksX0_knows_2 7 rfl rfl)
theorem dX0_knows_57 : decode cX0_knows 57 = .ok (.getfield 221, 3) := dk_180 0 221 (dk_at dksX0_knows_2 10 rfl rfl)
theorem dX0_knows_60 : decode cX0_knows 60 = .ok (.iload_n 1, 1) := dk_27 (dk_at dksX0_knows_2 13 rfl rfl)
theorem dX0_knows_61 : decode cX0_knows 61 = .ok (.iaload, 1) := dk_46 (dk_at dksX0_knows_2 14 rfl rfl)
theorem dX0_knows_62 : decode cX0_knows 62 = .ok (.iconst 1, 1) := dk_4 (dk_at dksX0_knows_2 15 rfl rfl)
theorem dX0_knows_63 : decode cX0_knows 63 = .ok (.iload_n 2, 1) := dk_28 (dk_at dksX0_knows_2 16 rfl rfl)
theorem dX0_knows_64 : decode cX0_knows 64 = .ok (.ishl, 1) := dk_120 (dk_at dksX0_knows_2 17 rfl rfl)
theorem dX0_knows_65 : decode cX0_knows 65 = .ok (.iconst (-1), 1) := dk_2 (dk_at dksX0_knows_2 18 rfl rfl)
theorem dX0_knows_66 : decode cX0_knows 66 = .ok (.ixor, 1) := dk_130 (dk_at dksX0_knows_2 19 rfl rfl)
theorem dX0_knows_67 : decode cX0_knows 67 = .ok (.iand, 1) := dk_126 (dk_at dksX0_knows_2 20 rfl rfl)
theorem dX0_knows_68 : decode cX0_knows 68 = .ok (.iastore, 1) := dk_79 (dk_at dksX0_knows_2 21 rfl rfl)
theorem dX0_knows_69 : decode cX0_knows 69 = .ok (.iload 4, 2) := dk_21 4 (dk_at dksX0_knows_2 22 rfl rfl)
theorem dX0_knows_71 : decode cX0_knows 71 = .ok (.ireturn, 1) := dk_172 (dk_at dksX0_knows_3 0 rfl rfl)
theorem dX0_knows_72 : decode cX0_knows 72 = .ok (.astore 4, 2) := dk_58 4 (dk_at dksX0_knows_3 1 rfl rfl)
theorem dX0_knows_74 : decode cX0_knows 74 = .ok (.aload_n 0, 1) := dk_42 (dk_at dksX0_knows_3 3 rfl rfl)
theorem dX0_knows_75 : decode cX0_knows 75 = .ok (.aload 4, 2) := dk_25 4 (dk_at dksX0_knows_3 4 rfl rfl)
theorem dX0_knows_77 : decode cX0_knows 77 = .ok (.invokevirtual 169, 3) := dk_182 0 169 (dk_at dksX0_knows_3 6 rfl rfl)
theorem dX0_knows_80 : decode cX0_knows 80 = .ok (.ireturn, 1) := dk_172 (dk_at dksX0_knows_3 9 rfl rfl)
abbrev cX0_mustTune : ByteArray := prog_1_method_10_code
def yX0_mustTune : MethodName := ⟨RX0, "mustTune", "(I)V"⟩
def dkwX0_mustTune_0 : List UInt8 := [42, 180, 0, 88, 27, 182, 0, 120, 2, 184, 0, 116, 177]
abbrev dktX0_mustTune_0 : List UInt8 := dkwX0_mustTune_0 ++ []
theorem dksX0_mustTune_0 : cX0_mustTune.data.toList.drop 0 = dktX0_mustTune_0 := by decide +kernel
theorem dX0_mustTune_0 : decode cX0_mustTune 0 = .ok (.aload_n 0, 1) := dk_42 (dk_at dksX0_mustTune_0 0 rfl rfl)
theorem dX0_mustTune_1 : decode cX0_mustTune 1 = .ok (.getfield 88, 3) := dk_180 0 88 (dk_at dksX0_mustTune_0 1 rfl rfl)
theorem dX0_mustTune_4 : decode cX0_mustTune 4 = .ok (.iload_n 1, 1) := dk_27 (dk_at dksX0_mustTune_0 4 rfl rfl)
theorem dX0_mustTune_5 : decode cX0_mustTune 5 = .ok (.invokevirtual 120, 3) := dk_182 0 120 (dk_at dksX0_mustTune_0 5 rfl rfl)
theorem dX0_mustTune_8 : decode cX0_mustTune 8 = .ok (.iconst (-1), 1) := dk_2 (dk_at dksX0_mustTune_0 8 rfl rfl)
theorem dX0_mustTune_9 : decode cX0_mustTune 9 = .ok (.invokestatic 116, 3) := dk_184 0 116 (dk_at dksX0_mustTune_0 9 rfl rfl)
theorem dX0_mustTune_12 : decode cX0_mustTune 12 = .ok (.return_, 1) := dk_177 (dk_at dksX0_mustTune_0 12 rfl rfl)
abbrev cX0_move : ByteArray := prog_1_method_24_code
def yX0_move : MethodName := ⟨RX0, "move", "(II)I"⟩
def dkwX0_move_2 : List UInt8 := [172]
abbrev dktX0_move_2 : List UInt8 := dkwX0_move_2 ++ []
def dkwX0_move_1 : List UInt8 := [180, 0, 224, 27, 46, 62, 42, 180, 0, 88, 180, 0, 224, 27, 28, 79, 29, 172, 78, 42, 45, 182, 0, 169]
abbrev dktX0_move_1 : List UInt8 := dkwX0_move_1 ++ dktX0_move_2
def dkwX0_move_0 : List UInt8 := [42, 27, 182, 0, 189, 42, 180, 0, 88, 28, 182, 0, 208, 16, 250, 184, 0, 116, 42, 180, 0, 88]
abbrev dktX0_move_0 : List UInt8 := dkwX0_move_0 ++ dktX0_move_1
theorem dksX0_move_0 : cX0_move.data.toList.drop 0 = dktX0_move_0 := by decide +kernel
theorem dksX0_move_1 : cX0_move.data.toList.drop 22 = dktX0_move_1 := dk_seg dksX0_move_0 22 rfl rfl
theorem dksX0_move_2 : cX0_move.data.toList.drop 46 = dktX0_move_2 := dk_seg dksX0_move_1 24 rfl rfl
theorem dX0_move_0 : decode cX0_move 0 = .ok (.aload_n 0, 1) := dk_42 (dk_at dksX0_move_0 0 rfl rfl)
theorem dX0_move_1 : decode cX0_move 1 = .ok (.iload_n 1, 1) := dk_27 (dk_at dksX0_move_0 1 rfl rfl)
theorem dX0_move_2 : decode cX0_move 2 = .ok (.invokevirtual 189, 3) := dk_182 0 189 (dk_at dksX0_move_0 2 rfl rfl)
theorem dX0_move_5 : decode cX0_move 5 = .ok (.aload_n 0, 1) := dk_42 (dk_at dksX0_move_0 5 rfl rfl)
theorem dX0_move_6 : decode cX0_move 6 = .ok (.getfield 88, 3) := dk_180 0 88 (dk_at dksX0_move_0 6 rfl rfl)
theorem dX0_move_9 : decode cX0_move 9 = .ok (.iload_n 2, 1) := dk_28 (dk_at dksX0_move_0 9 rfl rfl)
theorem dX0_move_10 : decode cX0_move 10 = .ok (.invokevirtual 208, 3) := dk_182 0 208 (dk_at dksX0_move_0 10 rfl rfl)
theorem dX0_move_13 : decode cX0_move 13 = .ok (.bipush (-6), 2) := dk_16 250 (dk_at dksX0_move_0 13 rfl rfl)
theorem dX0_move_15 : decode cX0_move 15 = .ok (.invokestatic 116, 3) := dk_184 0 116 (dk_at dksX0_move_0 15 rfl rfl)
theorem dX0_move_18 : decode cX0_move 18 = .ok (.aload_n 0, 1) := dk_42 (dk_at dksX0_move_0 18 rfl rfl)
theorem dX0_move_19 : decode cX0_move 19 = .ok (.getfield 88, 3) := dk_180 0 88 (dk_at dksX0_move_0 19 rfl rfl)
theorem dX0_move_22 : decode cX0_move 22 = .ok (.getfield 224, 3) := dk_180 0 224 (dk_at dksX0_move_1 0 rfl rfl)
theorem dX0_move_25 : decode cX0_move 25 = .ok (.iload_n 1, 1) := dk_27 (dk_at dksX0_move_1 3 rfl rfl)
theorem dX0_move_26 : decode cX0_move 26 = .ok (.iaload, 1) := dk_46 (dk_at dksX0_move_1 4 rfl rfl)
theorem dX0_move_27 : decode cX0_move 27 = .ok (.istore_n 3, 1) := dk_62 (dk_at dksX0_move_1 5 rfl rfl)
theorem dX0_move_28 : decode cX0_move 28 = .ok (.aload_n 0, 1) := dk_42 (dk_at dksX0_move_1 6 rfl rfl)
theorem dX0_move_29 : decode cX0_move 29 = .ok (.getfield 88, 3) := dk_180 0 88 (dk_at dksX0_move_1 7 rfl rfl)
theorem dX0_move_32 : decode cX0_move 32 = .ok (.getfield 224, 3) := dk_180 0 224 (dk_at dksX0_move_1 10 rfl rfl)
theorem dX0_move_35 : decode cX0_move 35 = .ok (.iload_n 1, 1) := dk_27 (dk_at dksX0_move_1 13 rfl rfl)
theorem dX0_move_36 : decode cX0_move 36 = .ok (.iload_n 2, 1) := dk_28 (dk_at dksX0_move_1 14 rfl rfl)
theorem dX0_move_37 : decode cX0_move 37 = .ok (.iastore, 1) := dk_79 (dk_at dksX0_move_1 15 rfl rfl)
theorem dX0_move_38 : decode cX0_move 38 = .ok (.iload_n 3, 1) := dk_29 (dk_at dksX0_move_1 16 rfl rfl)
theorem dX0_move_39 : decode cX0_move 39 = .ok (.ireturn, 1) := dk_172 (dk_at dksX0_move_1 17 rfl rfl)
theorem dX0_move_40 : decode cX0_move 40 = .ok (.astore_n 3, 1) := dk_78 (dk_at dksX0_move_1 18 rfl rfl)
theorem dX0_move_41 : decode cX0_move 41 = .ok (.aload_n 0, 1) := dk_42 (dk_at dksX0_move_1 19 rfl rfl)
theorem dX0_move_42 : decode cX0_move 42 = .ok (.aload_n 3, 1) := dk_45 (dk_at dksX0_move_1 20 rfl rfl)
theorem dX0_move_43 : decode cX0_move 43 = .ok (.invokevirtual 169, 3) := dk_182 0 169 (dk_at dksX0_move_1 21 rfl rfl)
theorem dX0_move_46 : decode cX0_move 46 = .ok (.ireturn, 1) := dk_172 (dk_at dksX0_move_2 0 rfl rfl)
abbrev cX0_ask : ByteArray := prog_1_method_25_code
def yX0_ask : MethodName := ⟨RX0, "ask", "(I)I"⟩
def dkwX0_ask_1 : List UInt8 := [180, 0, 88, 27, 181, 0, 227, 28, 172, 77, 42, 44, 182, 0, 169, 172]
abbrev dktX0_ask_1 : List UInt8 := dkwX0_ask_1 ++ []
def dkwX0_ask_0 : List UInt8 := [27, 133, 9, 20, 0, 206, 184, 0, 125, 16, 250, 184, 0, 116, 42, 180, 0, 88, 180, 0, 227, 61, 42]
abbrev dktX0_ask_0 : List UInt8 := dkwX0_ask_0 ++ dktX0_ask_1
theorem dksX0_ask_0 : cX0_ask.data.toList.drop 0 = dktX0_ask_0 := by decide +kernel
theorem dksX0_ask_1 : cX0_ask.data.toList.drop 23 = dktX0_ask_1 := dk_seg dksX0_ask_0 23 rfl rfl
theorem dX0_ask_0 : decode cX0_ask 0 = .ok (.iload_n 1, 1) := dk_27 (dk_at dksX0_ask_0 0 rfl rfl)
theorem dX0_ask_1 : decode cX0_ask 1 = .ok (.i2l, 1) := dk_133 (dk_at dksX0_ask_0 1 rfl rfl)
theorem dX0_ask_2 : decode cX0_ask 2 = .ok (.lconst 0, 1) := dk_9 (dk_at dksX0_ask_0 2 rfl rfl)
theorem dX0_ask_3 : decode cX0_ask 3 = .ok (.ldc2_w 206, 3) := dk_20 0 206 (dk_at dksX0_ask_0 3 rfl rfl)
theorem dX0_ask_6 : decode cX0_ask 6 = .ok (.invokestatic 125, 3) := dk_184 0 125 (dk_at dksX0_ask_0 6 rfl rfl)
theorem dX0_ask_9 : decode cX0_ask 9 = .ok (.bipush (-6), 2) := dk_16 250 (dk_at dksX0_ask_0 9 rfl rfl)
theorem dX0_ask_11 : decode cX0_ask 11 = .ok (.invokestatic 116, 3) := dk_184 0 116 (dk_at dksX0_ask_0 11 rfl rfl)
theorem dX0_ask_14 : decode cX0_ask 14 = .ok (.aload_n 0, 1) := dk_42 (dk_at dksX0_ask_0 14 rfl rfl)
theorem dX0_ask_15 : decode cX0_ask 15 = .ok (.getfield 88, 3) := dk_180 0 88 (dk_at dksX0_ask_0 15 rfl rfl)
theorem dX0_ask_18 : decode cX0_ask 18 = .ok (.getfield 227, 3) := dk_180 0 227 (dk_at dksX0_ask_0 18 rfl rfl)
theorem dX0_ask_21 : decode cX0_ask 21 = .ok (.istore_n 2, 1) := dk_61 (dk_at dksX0_ask_0 21 rfl rfl)
theorem dX0_ask_22 : decode cX0_ask 22 = .ok (.aload_n 0, 1) := dk_42 (dk_at dksX0_ask_0 22 rfl rfl)
theorem dX0_ask_23 : decode cX0_ask 23 = .ok (.getfield 88, 3) := dk_180 0 88 (dk_at dksX0_ask_1 0 rfl rfl)
theorem dX0_ask_26 : decode cX0_ask 26 = .ok (.iload_n 1, 1) := dk_27 (dk_at dksX0_ask_1 3 rfl rfl)
theorem dX0_ask_27 : decode cX0_ask 27 = .ok (.putfield 227, 3) := dk_181 0 227 (dk_at dksX0_ask_1 4 rfl rfl)
theorem dX0_ask_30 : decode cX0_ask 30 = .ok (.iload_n 2, 1) := dk_28 (dk_at dksX0_ask_1 7 rfl rfl)
theorem dX0_ask_31 : decode cX0_ask 31 = .ok (.ireturn, 1) := dk_172 (dk_at dksX0_ask_1 8 rfl rfl)
theorem dX0_ask_32 : decode cX0_ask 32 = .ok (.astore_n 2, 1) := dk_77 (dk_at dksX0_ask_1 9 rfl rfl)
theorem dX0_ask_33 : decode cX0_ask 33 = .ok (.aload_n 0, 1) := dk_42 (dk_at dksX0_ask_1 10 rfl rfl)
theorem dX0_ask_34 : decode cX0_ask 34 = .ok (.aload_n 2, 1) := dk_44 (dk_at dksX0_ask_1 11 rfl rfl)
theorem dX0_ask_35 : decode cX0_ask 35 = .ok (.invokevirtual 169, 3) := dk_182 0 169 (dk_at dksX0_ask_1 12 rfl rfl)
theorem dX0_ask_38 : decode cX0_ask 38 = .ok (.ireturn, 1) := dk_172 (dk_at dksX0_ask_1 15 rfl rfl)
abbrev cX0_voiceOf : ByteArray := prog_1_method_26_code
def yX0_voiceOf : MethodName := ⟨RX0, "voiceOf", "(II)I"⟩
def dkwX0_voiceOf_5 : List UInt8 := [27, 46, 172, 42, 182, 0, 230, 172]
abbrev dktX0_voiceOf_5 : List UInt8 := dkwX0_voiceOf_5 ++ []
def dkwX0_voiceOf_4 : List UInt8 := [180, 0, 239, 172, 42, 180, 0, 88, 180, 0, 141, 27, 50, 180, 0, 242, 172, 42, 180, 0, 88, 180, 0, 221]
abbrev dktX0_voiceOf_4 : List UInt8 := dkwX0_voiceOf_4 ++ dktX0_voiceOf_5
def dkwX0_voiceOf_3 : List UInt8 := [180, 0, 236, 172, 42, 180, 0, 88, 180, 0, 224, 27, 46, 172, 42, 180, 0, 88, 180, 0, 141, 27, 50]
abbrev dktX0_voiceOf_3 : List UInt8 := dkwX0_voiceOf_3 ++ dktX0_voiceOf_4
def dkwX0_voiceOf_2 : List UInt8 := [42, 180, 0, 88, 180, 0, 141, 27, 50, 182, 0, 233, 172, 42, 180, 0, 88, 180, 0, 141, 27, 50]
abbrev dktX0_voiceOf_2 : List UInt8 := dkwX0_voiceOf_2 ++ dktX0_voiceOf_3
def dkwX0_voiceOf_1 : List UInt8 := [170, 0, 0, 0, 0, 0, 111, 0, 0, 0, 0, 0, 0, 0, 5, 0, 0, 0, 39, 0, 0, 0, 52, 0, 0, 0, 65, 0, 0, 0, 75, 0, 0, 0, 88, 0, 0, 0, 101]
abbrev dktX0_voiceOf_1 : List UInt8 := dkwX0_voiceOf_1 ++ dktX0_voiceOf_2
def dkwX0_voiceOf_0 : List UInt8 := [42, 180, 0, 88, 27, 182, 0, 112, 154, 0, 8, 42, 182, 0, 230, 172, 28]
abbrev dktX0_voiceOf_0 : List UInt8 := dkwX0_voiceOf_0 ++ dktX0_voiceOf_1
theorem dksX0_voiceOf_0 : cX0_voiceOf.data.toList.drop 0 = dktX0_voiceOf_0 := by decide +kernel
theorem dksX0_voiceOf_1 : cX0_voiceOf.data.toList.drop 17 = dktX0_voiceOf_1 := dk_seg dksX0_voiceOf_0 17 rfl rfl
theorem dksX0_voiceOf_2 : cX0_voiceOf.data.toList.drop 56 = dktX0_voiceOf_2 := dk_seg dksX0_voiceOf_1 39 rfl rfl
theorem dksX0_voiceOf_3 : cX0_voiceOf.data.toList.drop 78 = dktX0_voiceOf_3 := dk_seg dksX0_voiceOf_2 22 rfl rfl
theorem dksX0_voiceOf_4 : cX0_voiceOf.data.toList.drop 101 = dktX0_voiceOf_4 := dk_seg dksX0_voiceOf_3 23 rfl rfl
theorem dksX0_voiceOf_5 : cX0_voiceOf.data.toList.drop 125 = dktX0_voiceOf_5 := dk_seg dksX0_voiceOf_4 24 rfl rfl
theorem dX0_voiceOf_0 : decode cX0_voiceOf 0 = .ok (.aload_n 0, 1) := dk_42 (dk_at dksX0_voiceOf_0 0 rfl rfl)
theorem dX0_voiceOf_1 : decode cX0_voiceOf 1 = .ok (.getfield 88, 3) := dk_180 0 88 (dk_at dksX0_voiceOf_0 1 rfl rfl)
theorem dX0_voiceOf_4 : decode cX0_voiceOf 4 = .ok (.iload_n 1, 1) := dk_27 (dk_at dksX0_voiceOf_0 4 rfl rfl)
theorem dX0_voiceOf_5 : decode cX0_voiceOf 5 = .ok (.invokevirtual 112, 3) := dk_182 0 112 (dk_at dksX0_voiceOf_0 5 rfl rfl)
theorem dX0_voiceOf_8 : decode cX0_voiceOf 8 = .ok (.ifCond .ne 8, 3) := dk_154 0 8 (dk_at dksX0_voiceOf_0 8 rfl rfl)
theorem dX0_voiceOf_11 : decode cX0_voiceOf 11 = .ok (.aload_n 0, 1) := dk_42 (dk_at dksX0_voiceOf_0 11 rfl rfl)
theorem dX0_voiceOf_12 : decode cX0_voiceOf 12 = .ok (.invokevirtual 230, 3) := dk_182 0 230 (dk_at dksX0_voiceOf_0 12 rfl rfl)
theorem dX0_voiceOf_15 : decode cX0_voiceOf 15 = .ok (.ireturn, 1) := dk_172 (dk_at dksX0_voiceOf_0 15 rfl rfl)
theorem dX0_voiceOf_16 : decode cX0_voiceOf 16 = .ok (.iload_n 2, 1) := dk_28 (dk_at dksX0_voiceOf_0 16 rfl rfl)
theorem dX0_voiceOf_17 : decode cX0_voiceOf 17 = .ok (.tableswitch 111 0 5 #[39, 52, 65, 75, 88, 101], 39) := by decide +kernel
theorem dX0_voiceOf_56 : decode cX0_voiceOf 56 = .ok (.aload_n 0, 1) := dk_42 (dk_at dksX0_voiceOf_2 0 rfl rfl)
theorem dX0_voiceOf_57 : decode cX0_voiceOf 57 = .ok (.getfield 88, 3) := dk_180 0 88 (dk_at dksX0_voiceOf_2 1 rfl rfl)
theorem dX0_voiceOf_60 : decode cX0_voiceOf 60 = .ok (.getfield 141, 3) := dk_180 0 141 (dk_at dksX0_voiceOf_2 4 rfl rfl)
theorem dX0_voiceOf_63 : decode cX0_voiceOf 63 = .ok (.iload_n 1, 1) := dk_27 (dk_at dksX0_voiceOf_2 7 rfl rfl)
theorem dX0_voiceOf_64 : decode cX0_voiceOf 64 = .ok (.aaload, 1) := dk_50 (dk_at dksX0_voiceOf_2 8 rfl rfl)
theorem dX0_voiceOf_65 : decode cX0_voiceOf 65 = .ok (.invokevirtual 233, 3) := dk_182 0 233 (dk_at dksX0_voiceOf_2 9 rfl rfl)
theorem dX0_voiceOf_68 : decode cX0_voiceOf 68 = .ok (.ireturn, 1) := dk_172 (dk_at dksX0_voiceOf_2 12 rfl rfl)
theorem dX0_voiceOf_69 : decode cX0_voiceOf 69 = .ok (.aload_n 0, 1) := dk_42 (dk_at dksX0_voiceOf_2 13 rfl rfl)
theorem dX0_voiceOf_70 : decode cX0_voiceOf 70 = .ok (.getfield 88, 3) := dk_180 0 88 (dk_at dksX0_voiceOf_2 14 rfl rfl)
theorem dX0_voiceOf_73 : decode cX0_voiceOf 73 = .ok (.getfield 141, 3) := dk_180 0 141 (dk_at dksX0_voiceOf_2 17 rfl rfl)
theorem dX0_voiceOf_76 : decode cX0_voiceOf 76 = .ok (.iload_n 1, 1) := dk_27 (dk_at dksX0_voiceOf_2 20 rfl rfl)
theorem dX0_voiceOf_77 : decode cX0_voiceOf 77 = .ok (.aaload, 1) := dk_50 (dk_at dksX0_voiceOf_2 21 rfl rfl)
theorem dX0_voiceOf_78 : decode cX0_voiceOf 78 = .ok (.getfield 236, 3) := dk_180 0 236 (dk_at dksX0_voiceOf_3 0 rfl rfl)
theorem dX0_voiceOf_81 : decode cX0_voiceOf 81 = .ok (.ireturn, 1) := dk_172 (dk_at dksX0_voiceOf_3 3 rfl rfl)
theorem dX0_voiceOf_82 : decode cX0_voiceOf 82 = .ok (.aload_n 0, 1) := dk_42 (dk_at dksX0_voiceOf_3 4 rfl rfl)
theorem dX0_voiceOf_83 : decode cX0_voiceOf 83 = .ok (.getfield 88, 3) := dk_180 0 88 (dk_at dksX0_voiceOf_3 5 rfl rfl)
theorem dX0_voiceOf_86 : decode cX0_voiceOf 86 = .ok (.getfield 224, 3) := dk_180 0 224 (dk_at dksX0_voiceOf_3 8 rfl rfl)
theorem dX0_voiceOf_89 : decode cX0_voiceOf 89 = .ok (.iload_n 1, 1) := dk_27 (dk_at dksX0_voiceOf_3 11 rfl rfl)
theorem dX0_voiceOf_90 : decode cX0_voiceOf 90 = .ok (.iaload, 1) := dk_46 (dk_at dksX0_voiceOf_3 12 rfl rfl)
theorem dX0_voiceOf_91 : decode cX0_voiceOf 91 = .ok (.ireturn, 1) := dk_172 (dk_at dksX0_voiceOf_3 13 rfl rfl)
theorem dX0_voiceOf_92 : decode cX0_voiceOf 92 = .ok (.aload_n 0, 1) := dk_42 (dk_at dksX0_voiceOf_3 14 rfl rfl)
theorem dX0_voiceOf_93 : decode cX0_voiceOf 93 = .ok (.getfield 88, 3) := dk_180 0 88 (dk_at dksX0_voiceOf_3 15 rfl rfl)
theorem dX0_voiceOf_96 : decode cX0_voiceOf 96 = .ok (.getfield 141, 3) := dk_180 0 141 (dk_at dksX0_voiceOf_3 18 rfl rfl)
theorem dX0_voiceOf_99 : decode cX0_voiceOf 99 = .ok (.iload_n 1, 1) := dk_27 (dk_at dksX0_voiceOf_3 21 rfl rfl)
theorem dX0_voiceOf_100 : decode cX0_voiceOf 100 = .ok (.aaload, 1) := dk_50 (dk_at dksX0_voiceOf_3 22 rfl rfl)
theorem dX0_voiceOf_101 : decode cX0_voiceOf 101 = .ok (.getfield 239, 3) := dk_180 0 239 (dk_at dksX0_voiceOf_4 0 rfl rfl)
theorem dX0_voiceOf_104 : decode cX0_voiceOf 104 = .ok (.ireturn, 1) := dk_172 (dk_at dksX0_voiceOf_4 3 rfl rfl)
theorem dX0_voiceOf_105 : decode cX0_voiceOf 105 = .ok (.aload_n 0, 1) := dk_42 (dk_at dksX0_voiceOf_4 4 rfl rfl)
theorem dX0_voiceOf_106 : decode cX0_voiceOf 106 = .ok (.getfield 88, 3) := dk_180 0 88 (dk_at dksX0_voiceOf_4 5 rfl rfl)
theorem dX0_voiceOf_109 : decode cX0_voiceOf 109 = .ok (.getfield 141, 3) := dk_180 0 141 (dk_at dksX0_voiceOf_4 8 rfl rfl)
theorem dX0_voiceOf_112 : decode cX0_voiceOf 112 = .ok (.iload_n 1, 1) := dk_27 (dk_at dksX0_voiceOf_4 11 rfl rfl)
theorem dX0_voiceOf_113 : decode cX0_voiceOf 113 = .ok (.aaload, 1) := dk_50 (dk_at dksX0_voiceOf_4 12 rfl rfl)
theorem dX0_voiceOf_114 : decode cX0_voiceOf 114 = .ok (.getfield 242, 3) := dk_180 0 242 (dk_at dksX0_voiceOf_4 13 rfl rfl)
theorem dX0_voiceOf_117 : decode cX0_voiceOf 117 = .ok (.ireturn, 1) := dk_172 (dk_at dksX0_voiceOf_4 16 rfl rfl)
theorem dX0_voiceOf_118 : decode cX0_voiceOf 118 = .ok (.aload_n 0, 1) := dk_42 (dk_at dksX0_voiceOf_4 17 rfl rfl)
theorem dX0_voiceOf_119 : decode cX0_voiceOf 119 = .ok (.getfield 88, 3) := dk_180 0 88 (dk_at dksX0_voiceOf_4 18 rfl rfl)
theorem dX0_voiceOf_122 : decode cX0_voiceOf 122 = .ok (.getfield 221, 3) := dk_180 0 221 (dk_at dksX0_voiceOf_4 21 rfl rfl)
theorem dX0_voiceOf_125 : decode cX0_voiceOf 125 = .ok (.iload_n 1, 1) := dk_27 (dk_at dksX0_voiceOf_5 0 rfl rfl)
theorem dX0_voiceOf_126 : decode cX0_voiceOf 126 = .ok (.iaload, 1) := dk_46 (dk_at dksX0_voiceOf_5 1 rfl rfl)
theorem dX0_voiceOf_127 : decode cX0_voiceOf 127 = .ok (.ireturn, 1) := dk_172 (dk_at dksX0_voiceOf_5 2 rfl rfl)
theorem dX0_voiceOf_128 : decode cX0_voiceOf 128 = .ok (.aload_n 0, 1) := dk_42 (dk_at dksX0_voiceOf_5 3 rfl rfl)
theorem dX0_voiceOf_129 : decode cX0_voiceOf 129 = .ok (.invokevirtual 230, 3) := dk_182 0 230 (dk_at dksX0_voiceOf_5 4 rfl rfl)
theorem dX0_voiceOf_132 : decode cX0_voiceOf 132 = .ok (.ireturn, 1) := dk_172 (dk_at dksX0_voiceOf_5 7 rfl rfl)
abbrev cX0_beyond : ByteArray := prog_1_method_7_code
def yX0_beyond : MethodName := ⟨RX0, "beyond", "()I"⟩
def dkwX0_beyond_0 : List UInt8 := [42, 180, 0, 63, 8, 92, 46, 4, 96, 79, 16, 251, 172]
abbrev dktX0_beyond_0 : List UInt8 := dkwX0_beyond_0 ++ []
theorem dksX0_beyond_0 : cX0_beyond.data.toList.drop 0 = dktX0_beyond_0 := by decide +kernel
theorem dX0_beyond_0 : decode cX0_beyond 0 = .ok (.aload_n 0, 1) := dk_42 (dk_at dksX0_beyond_0 0 rfl rfl)
theorem dX0_beyond_1 : decode cX0_beyond 1 = .ok (.getfield 63, 3) := dk_180 0 63 (dk_at dksX0_beyond_0 1 rfl rfl)
theorem dX0_beyond_4 : decode cX0_beyond 4 = .ok (.iconst 5, 1) := dk_8 (dk_at dksX0_beyond_0 4 rfl rfl)
theorem dX0_beyond_5 : decode cX0_beyond 5 = .ok (.dup2, 1) := dk_92 (dk_at dksX0_beyond_0 5 rfl rfl)
theorem dX0_beyond_6 : decode cX0_beyond 6 = .ok (.iaload, 1) := dk_46 (dk_at dksX0_beyond_0 6 rfl rfl)
theorem dX0_beyond_7 : decode cX0_beyond 7 = .ok (.iconst 1, 1) := dk_4 (dk_at dksX0_beyond_0 7 rfl rfl)
theorem dX0_beyond_8 : decode cX0_beyond 8 = .ok (.iadd, 1) := dk_96 (dk_at dksX0_beyond_0 8 rfl rfl)
theorem dX0_beyond_9 : decode cX0_beyond 9 = .ok (.iastore, 1) := dk_79 (dk_at dksX0_beyond_0 9 rfl rfl)
theorem dX0_beyond_10 : decode cX0_beyond 10 = .ok (.bipush (-5), 2) := dk_16 251 (dk_at dksX0_beyond_0 10 rfl rfl)
theorem dX0_beyond_12 : decode cX0_beyond 12 = .ok (.ireturn, 1) := dk_172 (dk_at dksX0_beyond_0 12 rfl rfl)
abbrev cX0_highOf : ByteArray := prog_1_method_27_code
def yX0_highOf : MethodName := ⟨RX0, "highOf", "(I)I"⟩
def dkwX0_highOf_1 : List UInt8 := [182, 0, 230, 172]
abbrev dktX0_highOf_1 : List UInt8 := dkwX0_highOf_1 ++ []
def dkwX0_highOf_0 : List UInt8 := [42, 180, 0, 88, 27, 182, 0, 120, 153, 0, 15, 42, 180, 0, 88, 180, 0, 245, 27, 46, 167, 0, 7, 42]
abbrev dktX0_highOf_0 : List UInt8 := dkwX0_highOf_0 ++ dktX0_highOf_1
theorem dksX0_highOf_0 : cX0_highOf.data.toList.drop 0 = dktX0_highOf_0 := by decide +kernel
theorem dksX0_highOf_1 : cX0_highOf.data.toList.drop 24 = dktX0_highOf_1 := dk_seg dksX0_highOf_0 24 rfl rfl
theorem dX0_highOf_0 : decode cX0_highOf 0 = .ok (.aload_n 0, 1) := dk_42 (dk_at dksX0_highOf_0 0 rfl rfl)
theorem dX0_highOf_1 : decode cX0_highOf 1 = .ok (.getfield 88, 3) := dk_180 0 88 (dk_at dksX0_highOf_0 1 rfl rfl)
theorem dX0_highOf_4 : decode cX0_highOf 4 = .ok (.iload_n 1, 1) := dk_27 (dk_at dksX0_highOf_0 4 rfl rfl)
theorem dX0_highOf_5 : decode cX0_highOf 5 = .ok (.invokevirtual 120, 3) := dk_182 0 120 (dk_at dksX0_highOf_0 5 rfl rfl)
theorem dX0_highOf_8 : decode cX0_highOf 8 = .ok (.ifCond .eq 15, 3) := dk_153 0 15 (dk_at dksX0_highOf_0 8 rfl rfl)
theorem dX0_highOf_11 : decode cX0_highOf 11 = .ok (.aload_n 0, 1) := dk_42 (dk_at dksX0_highOf_0 11 rfl rfl)
theorem dX0_highOf_12 : decode cX0_highOf 12 = .ok (.getfield 88, 3) := dk_180 0 88 (dk_at dksX0_highOf_0 12 rfl rfl)
theorem dX0_highOf_15 : decode cX0_highOf 15 = .ok (.getfield 245, 3) := dk_180 0 245 (dk_at dksX0_highOf_0 15 rfl rfl)
theorem dX0_highOf_18 : decode cX0_highOf 18 = .ok (.iload_n 1, 1) := dk_27 (dk_at dksX0_highOf_0 18 rfl rfl)
theorem dX0_highOf_19 : decode cX0_highOf 19 = .ok (.iaload, 1) := dk_46 (dk_at dksX0_highOf_0 19 rfl rfl)
theorem dX0_highOf_20 : decode cX0_highOf 20 = .ok (.goto 7, 3) := dk_167 0 7 (dk_at dksX0_highOf_0 20 rfl rfl)
theorem dX0_highOf_23 : decode cX0_highOf 23 = .ok (.aload_n 0, 1) := dk_42 (dk_at dksX0_highOf_0 23 rfl rfl)
theorem dX0_highOf_24 : decode cX0_highOf 24 = .ok (.invokevirtual 230, 3) := dk_182 0 230 (dk_at dksX0_highOf_1 0 rfl rfl)
theorem dX0_highOf_27 : decode cX0_highOf 27 = .ok (.ireturn, 1) := dk_172 (dk_at dksX0_highOf_1 3 rfl rfl)
abbrev cX0_church : ByteArray := prog_1_method_28_code
def yX0_church : MethodName := ⟨RX0, "church", "(I)I"⟩
def dkwX0_church_3 : List UInt8 := [183, 0, 23, 191, 77, 42, 44, 182, 0, 169, 172]
abbrev dktX0_church_3 : List UInt8 := dkwX0_church_3 ++ []
def dkwX0_church_2 : List UInt8 := [181, 0, 88, 21, 4, 172, 58, 4, 42, 25, 4, 180, 1, 6, 181, 0, 91, 187, 0, 21, 89, 16, 250]
abbrev dktX0_church_2 : List UInt8 := dkwX0_church_2 ++ dktX0_church_3
def dkwX0_church_1 : List UInt8 := [180, 0, 88, 182, 0, 248, 78, 187, 0, 252, 89, 44, 45, 183, 0, 254, 182, 1, 1, 54, 4, 42, 45]
abbrev dktX0_church_1 : List UInt8 := dkwX0_church_1 ++ dktX0_church_2
def dkwX0_church_0 : List UInt8 := [42, 27, 182, 0, 159, 182, 0, 173, 77, 42, 2, 181, 0, 91, 187, 0, 74, 89, 183, 0, 76, 42]
abbrev dktX0_church_0 : List UInt8 := dkwX0_church_0 ++ dktX0_church_1
theorem dksX0_church_0 : cX0_church.data.toList.drop 0 = dktX0_church_0 := by decide +kernel
theorem dksX0_church_1 : cX0_church.data.toList.drop 22 = dktX0_church_1 := dk_seg dksX0_church_0 22 rfl rfl
theorem dksX0_church_2 : cX0_church.data.toList.drop 45 = dktX0_church_2 := dk_seg dksX0_church_1 23 rfl rfl
theorem dksX0_church_3 : cX0_church.data.toList.drop 68 = dktX0_church_3 := dk_seg dksX0_church_2 23 rfl rfl
theorem dX0_church_0 : decode cX0_church 0 = .ok (.aload_n 0, 1) := dk_42 (dk_at dksX0_church_0 0 rfl rfl)
theorem dX0_church_1 : decode cX0_church 1 = .ok (.iload_n 1, 1) := dk_27 (dk_at dksX0_church_0 1 rfl rfl)
theorem dX0_church_2 : decode cX0_church 2 = .ok (.invokevirtual 159, 3) := dk_182 0 159 (dk_at dksX0_church_0 2 rfl rfl)
theorem dX0_church_5 : decode cX0_church 5 = .ok (.invokevirtual 173, 3) := dk_182 0 173 (dk_at dksX0_church_0 5 rfl rfl)
theorem dX0_church_8 : decode cX0_church 8 = .ok (.astore_n 2, 1) := dk_77 (dk_at dksX0_church_0 8 rfl rfl)
theorem dX0_church_9 : decode cX0_church 9 = .ok (.aload_n 0, 1) := dk_42 (dk_at dksX0_church_0 9 rfl rfl)
theorem dX0_church_10 : decode cX0_church 10 = .ok (.iconst (-1), 1) := dk_2 (dk_at dksX0_church_0 10 rfl rfl)
theorem dX0_church_11 : decode cX0_church 11 = .ok (.putfield 91, 3) := dk_181 0 91 (dk_at dksX0_church_0 11 rfl rfl)
theorem dX0_church_14 : decode cX0_church 14 = .ok (.new 74, 3) := dk_187 0 74 (dk_at dksX0_church_0 14 rfl rfl)
theorem dX0_church_17 : decode cX0_church 17 = .ok (.dup, 1) := dk_89 (dk_at dksX0_church_0 17 rfl rfl)
theorem dX0_church_18 : decode cX0_church 18 = .ok (.invokespecial 76, 3) := dk_183 0 76 (dk_at dksX0_church_0 18 rfl rfl)
theorem dX0_church_21 : decode cX0_church 21 = .ok (.aload_n 0, 1) := dk_42 (dk_at dksX0_church_0 21 rfl rfl)
theorem dX0_church_22 : decode cX0_church 22 = .ok (.getfield 88, 3) := dk_180 0 88 (dk_at dksX0_church_1 0 rfl rfl)
theorem dX0_church_25 : decode cX0_church 25 = .ok (.invokevirtual 248, 3) := dk_182 0 248 (dk_at dksX0_church_1 3 rfl rfl)
theorem dX0_church_28 : decode cX0_church 28 = .ok (.astore_n 3, 1) := dk_78 (dk_at dksX0_church_1 6 rfl rfl)
theorem dX0_church_29 : decode cX0_church 29 = .ok (.new 252, 3) := dk_187 0 252 (dk_at dksX0_church_1 7 rfl rfl)
theorem dX0_church_32 : decode cX0_church 32 = .ok (.dup, 1) := dk_89 (dk_at dksX0_church_1 10 rfl rfl)
theorem dX0_church_33 : decode cX0_church 33 = .ok (.aload_n 2, 1) := dk_44 (dk_at dksX0_church_1 11 rfl rfl)
theorem dX0_church_34 : decode cX0_church 34 = .ok (.aload_n 3, 1) := dk_45 (dk_at dksX0_church_1 12 rfl rfl)
theorem dX0_church_35 : decode cX0_church 35 = .ok (.invokespecial 254, 3) := dk_183 0 254 (dk_at dksX0_church_1 13 rfl rfl)
theorem dX0_church_38 : decode cX0_church 38 = .ok (.invokevirtual 257, 3) := dk_182 1 1 (dk_at dksX0_church_1 16 rfl rfl)
theorem dX0_church_41 : decode cX0_church 41 = .ok (.istore 4, 2) := dk_54 4 (dk_at dksX0_church_1 19 rfl rfl)
theorem dX0_church_43 : decode cX0_church 43 = .ok (.aload_n 0, 1) := dk_42 (dk_at dksX0_church_1 21 rfl rfl)
theorem dX0_church_44 : decode cX0_church 44 = .ok (.aload_n 3, 1) := dk_45 (dk_at dksX0_church_1 22 rfl rfl)
theorem dX0_church_45 : decode cX0_church 45 = .ok (.putfield 88, 3) := dk_181 0 88 (dk_at dksX0_church_2 0 rfl rfl)
theorem dX0_church_48 : decode cX0_church 48 = .ok (.iload 4, 2) := dk_21 4 (dk_at dksX0_church_2 3 rfl rfl)
theorem dX0_church_50 : decode cX0_church 50 = .ok (.ireturn, 1) := dk_172 (dk_at dksX0_church_2 5 rfl rfl)
theorem dX0_church_51 : decode cX0_church 51 = .ok (.astore 4, 2) := dk_58 4 (dk_at dksX0_church_2 6 rfl rfl)
theorem dX0_church_53 : decode cX0_church 53 = .ok (.aload_n 0, 1) := dk_42 (dk_at dksX0_church_2 8 rfl rfl)
theorem dX0_church_54 : decode cX0_church 54 = .ok (.aload 4, 2) := dk_25 4 (dk_at dksX0_church_2 9 rfl rfl)
theorem dX0_church_56 : decode cX0_church 56 = .ok (.getfield 262, 3) := dk_180 1 6 (dk_at dksX0_church_2 11 rfl rfl)
theorem dX0_church_59 : decode cX0_church 59 = .ok (.putfield 91, 3) := dk_181 0 91 (dk_at dksX0_church_2 14 rfl rfl)
theorem dX0_church_62 : decode cX0_church 62 = .ok (.new 21, 3) := dk_187 0 21 (dk_at dksX0_church_2 17 rfl rfl)
theorem dX0_church_65 : decode cX0_church 65 = .ok (.dup, 1) := dk_89 (dk_at dksX0_church_2 20 rfl rfl)
theorem dX0_church_66 : decode cX0_church 66 = .ok (.bipush (-6), 2) := dk_16 250 (dk_at dksX0_church_2 21 rfl rfl)
theorem dX0_church_68 : decode cX0_church 68 = .ok (.invokespecial 23, 3) := dk_183 0 23 (dk_at dksX0_church_3 0 rfl rfl)
theorem dX0_church_71 : decode cX0_church 71 = .ok (.athrow, 1) := dk_191 (dk_at dksX0_church_3 3 rfl rfl)
theorem dX0_church_72 : decode cX0_church 72 = .ok (.astore_n 2, 1) := dk_77 (dk_at dksX0_church_3 4 rfl rfl)
theorem dX0_church_73 : decode cX0_church 73 = .ok (.aload_n 0, 1) := dk_42 (dk_at dksX0_church_3 5 rfl rfl)
theorem dX0_church_74 : decode cX0_church 74 = .ok (.aload_n 2, 1) := dk_44 (dk_at dksX0_church_3 6 rfl rfl)
theorem dX0_church_75 : decode cX0_church 75 = .ok (.invokevirtual 169, 3) := dk_182 0 169 (dk_at dksX0_church_3 7 rfl rfl)
theorem dX0_church_78 : decode cX0_church 78 = .ok (.ireturn, 1) := dk_172 (dk_at dksX0_church_3 10 rfl rfl)
abbrev cX0_fault : ByteArray := prog_1_method_29_code
def yX0_fault : MethodName := ⟨RX0, "fault", "()I"⟩
theorem dX0_fault_0 : decode cX0_fault 0 = .ok (.aload_n 0, 1) := by decide +kernel
theorem dX0_fault_1 : decode cX0_fault 1 = .ok (.getfield 91, 3) := by decide +kernel
theorem dX0_fault_4 : decode cX0_fault 4 = .ok (.ireturn, 1) := by decide +kernel
abbrev cX0_sung : ByteArray := prog_1_method_30_code
def yX0_sung : MethodName := ⟨RX0, "sung", "(IIII)I"⟩
def dkwX0_sung_4 : List UInt8 := [180, 1, 22, 29, 46, 172, 42, 180, 0, 84, 29, 182, 1, 25, 172, 58, 5, 42, 25, 5, 182, 0, 169, 172]
abbrev dktX0_sung_4 : List UInt8 := dkwX0_sung_4 ++ []
def dkwX0_sung_3 : List UInt8 := [42, 180, 0, 84, 180, 1, 16, 29, 46, 172, 42, 180, 0, 84, 180, 1, 19, 29, 46, 172, 42, 180, 0, 84]
abbrev dktX0_sung_3 : List UInt8 := dkwX0_sung_3 ++ dktX0_sung_4
def dkwX0_sung_2 : List UInt8 := [170, 0, 0, 0, 0, 56, 0, 0, 0, 0, 0, 0, 0, 2, 0, 0, 0, 26, 0, 0, 0, 36, 0, 0, 0, 46]
abbrev dktX0_sung_2 : List UInt8 := dkwX0_sung_2 ++ dktX0_sung_3
def dkwX0_sung_1 : List UInt8 := [184, 1, 8, 42, 180, 0, 84, 42, 180, 0, 88, 27, 28, 29, 182, 1, 12, 87, 21, 4]
abbrev dktX0_sung_1 : List UInt8 := dkwX0_sung_1 ++ dktX0_sung_2
def dkwX0_sung_0 : List UInt8 := [42, 27, 182, 0, 218, 21, 4, 133, 9, 20, 0, 163, 184, 0, 125, 16, 251, 184, 0, 116, 28, 29]
abbrev dktX0_sung_0 : List UInt8 := dkwX0_sung_0 ++ dktX0_sung_1
theorem dksX0_sung_0 : cX0_sung.data.toList.drop 0 = dktX0_sung_0 := by decide +kernel
theorem dksX0_sung_1 : cX0_sung.data.toList.drop 22 = dktX0_sung_1 := dk_seg dksX0_sung_0 22 rfl rfl
theorem dksX0_sung_2 : cX0_sung.data.toList.drop 42 = dktX0_sung_2 := dk_seg dksX0_sung_1 20 rfl rfl
theorem dksX0_sung_3 : cX0_sung.data.toList.drop 68 = dktX0_sung_3 := dk_seg dksX0_sung_2 26 rfl rfl
theorem dksX0_sung_4 : cX0_sung.data.toList.drop 92 = dktX0_sung_4 := dk_seg dksX0_sung_3 24 rfl rfl
theorem dX0_sung_0 : decode cX0_sung 0 = .ok (.aload_n 0, 1) := dk_42 (dk_at dksX0_sung_0 0 rfl rfl)
theorem dX0_sung_1 : decode cX0_sung 1 = .ok (.iload_n 1, 1) := dk_27 (dk_at dksX0_sung_0 1 rfl rfl)
theorem dX0_sung_2 : decode cX0_sung 2 = .ok (.invokevirtual 218, 3) := dk_182 0 218 (dk_at dksX0_sung_0 2 rfl rfl)
theorem dX0_sung_5 : decode cX0_sung 5 = .ok (.iload 4, 2) := dk_21 4 (dk_at dksX0_sung_0 5 rfl rfl)
theorem dX0_sung_7 : decode cX0_sung 7 = .ok (.i2l, 1) := dk_133 (dk_at dksX0_sung_0 7 rfl rfl)
theorem dX0_sung_8 : decode cX0_sung 8 = .ok (.lconst 0, 1) := dk_9 (dk_at dksX0_sung_0 8 rfl rfl)
theorem dX0_sung_9 : decode cX0_sung 9 = .ok (.ldc2_w 163, 3) := dk_20 0 163 (dk_at dksX0_sung_0 9 rfl rfl)
theorem dX0_sung_12 : decode cX0_sung 12 = .ok (.invokestatic 125, 3) := dk_184 0 125 (dk_at dksX0_sung_0 12 rfl rfl)
theorem dX0_sung_15 : decode cX0_sung 15 = .ok (.bipush (-5), 2) := dk_16 251 (dk_at dksX0_sung_0 15 rfl rfl)
theorem dX0_sung_17 : decode cX0_sung 17 = .ok (.invokestatic 116, 3) := dk_184 0 116 (dk_at dksX0_sung_0 17 rfl rfl)
theorem dX0_sung_20 : decode cX0_sung 20 = .ok (.iload_n 2, 1) := dk_28 (dk_at dksX0_sung_0 20 rfl rfl)
theorem dX0_sung_21 : decode cX0_sung 21 = .ok (.iload_n 3, 1) := dk_29 (dk_at dksX0_sung_0 21 rfl rfl)
theorem dX0_sung_22 : decode cX0_sung 22 = .ok (.invokestatic 264, 3) := dk_184 1 8 (dk_at dksX0_sung_1 0 rfl rfl)
theorem dX0_sung_25 : decode cX0_sung 25 = .ok (.aload_n 0, 1) := dk_42 (dk_at dksX0_sung_1 3 rfl rfl)
theorem dX0_sung_26 : decode cX0_sung 26 = .ok (.getfield 84, 3) := dk_180 0 84 (dk_at dksX0_sung_1 4 rfl rfl)
theorem dX0_sung_29 : decode cX0_sung 29 = .ok (.aload_n 0, 1) := dk_42 (dk_at dksX0_sung_1 7 rfl rfl)
theorem dX0_sung_30 : decode cX0_sung 30 = .ok (.getfield 88, 3) := dk_180 0 88 (dk_at dksX0_sung_1 8 rfl rfl)
theorem dX0_sung_33 : decode cX0_sung 33 = .ok (.iload_n 1, 1) := dk_27 (dk_at dksX0_sung_1 11 rfl rfl)
theorem dX0_sung_34 : decode cX0_sung 34 = .ok (.iload_n 2, 1) := dk_28 (dk_at dksX0_sung_1 12 rfl rfl)
theorem dX0_sung_35 : decode cX0_sung 35 = .ok (.iload_n 3, 1) := dk_29 (dk_at dksX0_sung_1 13 rfl rfl)
theorem dX0_sung_36 : decode cX0_sung 36 = .ok (.invokevirtual 268, 3) := dk_182 1 12 (dk_at dksX0_sung_1 14 rfl rfl)
theorem dX0_sung_39 : decode cX0_sung 39 = .ok (.pop, 1) := dk_87 (dk_at dksX0_sung_1 17 rfl rfl)
theorem dX0_sung_40 : decode cX0_sung 40 = .ok (.iload 4, 2) := dk_21 4 (dk_at dksX0_sung_1 18 rfl rfl)
theorem dX0_sung_42 : decode cX0_sung 42 = .ok (.tableswitch 56 0 2 #[26, 36, 46], 26) := by decide +kernel
theorem dX0_sung_68 : decode cX0_sung 68 = .ok (.aload_n 0, 1) := dk_42 (dk_at dksX0_sung_3 0 rfl rfl)
theorem dX0_sung_69 : decode cX0_sung 69 = .ok (.getfield 84, 3) := dk_180 0 84 (dk_at dksX0_sung_3 1 rfl rfl)
theorem dX0_sung_72 : decode cX0_sung 72 = .ok (.getfield 272, 3) := dk_180 1 16 (dk_at dksX0_sung_3 4 rfl rfl)
theorem dX0_sung_75 : decode cX0_sung 75 = .ok (.iload_n 3, 1) := dk_29 (dk_at dksX0_sung_3 7 rfl rfl)
theorem dX0_sung_76 : decode cX0_sung 76 = .ok (.iaload, 1) := dk_46 (dk_at dksX0_sung_3 8 rfl rfl)
theorem dX0_sung_77 : decode cX0_sung 77 = .ok (.ireturn, 1) := dk_172 (dk_at dksX0_sung_3 9 rfl rfl)
theorem dX0_sung_78 : decode cX0_sung 78 = .ok (.aload_n 0, 1) := dk_42 (dk_at dksX0_sung_3 10 rfl rfl)
theorem dX0_sung_79 : decode cX0_sung 79 = .ok (.getfield 84, 3) := dk_180 0 84 (dk_at dksX0_sung_3 11 rfl rfl)
theorem dX0_sung_82 : decode cX0_sung 82 = .ok (.getfield 275, 3) := dk_180 1 19 (dk_at dksX0_sung_3 14 rfl rfl)
theorem dX0_sung_85 : decode cX0_sung 85 = .ok (.iload_n 3, 1) := dk_29 (dk_at dksX0_sung_3 17 rfl rfl)
theorem dX0_sung_86 : decode cX0_sung 86 = .ok (.iaload, 1) := dk_46 (dk_at dksX0_sung_3 18 rfl rfl)
theorem dX0_sung_87 : decode cX0_sung 87 = .ok (.ireturn, 1) := dk_172 (dk_at dksX0_sung_3 19 rfl rfl)
theorem dX0_sung_88 : decode cX0_sung 88 = .ok (.aload_n 0, 1) := dk_42 (dk_at dksX0_sung_3 20 rfl rfl)
theorem dX0_sung_89 : decode cX0_sung 89 = .ok (.getfield 84, 3) := dk_180 0 84 (dk_at dksX0_sung_3 21 rfl rfl)
theorem dX0_sung_92 : decode cX0_sung 92 = .ok (.getfield 278, 3) := dk_180 1 22 (dk_at dksX0_sung_4 0 rfl rfl)
theorem dX0_sung_95 : decode cX0_sung 95 = .ok (.iload_n 3, 1) := dk_29 (dk_at dksX0_sung_4 3 rfl rfl)
theorem dX0_sung_96 : decode cX0_sung 96 = .ok (.iaload, 1) := dk_46 (dk_at dksX0_sung_4 4 rfl rfl)
theorem dX0_sung_97 : decode cX0_sung 97 = .ok (.ireturn, 1) := dk_172 (dk_at dksX0_sung_4 5 rfl rfl)
theorem dX0_sung_98 : decode cX0_sung 98 = .ok (.aload_n 0, 1) := dk_42 (dk_at dksX0_sung_4 6 rfl rfl)
theorem dX0_sung_99 : decode cX0_sung 99 = .ok (.getfield 84, 3) := dk_180 0 84 (dk_at dksX0_sung_4 7 rfl rfl)
theorem dX0_sung_102 : decode cX0_sung 102 = .ok (.iload_n 3, 1) := dk_29 (dk_at dksX0_sung_4 10 rfl rfl)
theorem dX0_sung_103 : decode cX0_sung 103 = .ok (.invokevirtual 281, 3) := dk_182 1 25 (dk_at dksX0_sung_4 11 rfl rfl)
theorem dX0_sung_106 : decode cX0_sung 106 = .ok (.ireturn, 1) := dk_172 (dk_at dksX0_sung_4 14 rfl rfl)
theorem dX0_sung_107 : decode cX0_sung 107 = .ok (.astore 5, 2) := dk_58 5 (dk_at dksX0_sung_4 15 rfl rfl)
theorem dX0_sung_109 : decode cX0_sung 109 = .ok (.aload_n 0, 1) := dk_42 (dk_at dksX0_sung_4 17 rfl rfl)
theorem dX0_sung_110 : decode cX0_sung 110 = .ok (.aload 5, 2) := dk_25 5 (dk_at dksX0_sung_4 18 rfl rfl)
theorem dX0_sung_112 : decode cX0_sung 112 = .ok (.invokevirtual 169, 3) := dk_182 0 169 (dk_at dksX0_sung_4 20 rfl rfl)
theorem dX0_sung_115 : decode cX0_sung 115 = .ok (.ireturn, 1) := dk_172 (dk_at dksX0_sung_4 23 rfl rfl)
abbrev cX0_mustSing : ByteArray := prog_1_method_11_code
def yX0_mustSing : MethodName := ⟨RX0, "mustSing", "(II)V"⟩
def dkwX0_mustSing_1 : List UInt8 := [4, 167, 0, 4, 3, 16, 250, 184, 0, 116, 177]
abbrev dktX0_mustSing_1 : List UInt8 := dkwX0_mustSing_1 ++ []
def dkwX0_mustSing_0 : List UInt8 := [26, 133, 9, 20, 0, 123, 184, 0, 125, 153, 0, 19, 27, 133, 9, 20, 0, 129, 184, 0, 125, 153, 0, 7]
abbrev dktX0_mustSing_0 : List UInt8 := dkwX0_mustSing_0 ++ dktX0_mustSing_1
theorem dksX0_mustSing_0 : cX0_mustSing.data.toList.drop 0 = dktX0_mustSing_0 := by decide +kernel
theorem dksX0_mustSing_1 : cX0_mustSing.data.toList.drop 24 = dktX0_mustSing_1 := dk_seg dksX0_mustSing_0 24 rfl rfl
theorem dX0_mustSing_0 : decode cX0_mustSing 0 = .ok (.iload_n 0, 1) := dk_26 (dk_at dksX0_mustSing_0 0 rfl rfl)
theorem dX0_mustSing_1 : decode cX0_mustSing 1 = .ok (.i2l, 1) := dk_133 (dk_at dksX0_mustSing_0 1 rfl rfl)
theorem dX0_mustSing_2 : decode cX0_mustSing 2 = .ok (.lconst 0, 1) := dk_9 (dk_at dksX0_mustSing_0 2 rfl rfl)
theorem dX0_mustSing_3 : decode cX0_mustSing 3 = .ok (.ldc2_w 123, 3) := dk_20 0 123 (dk_at dksX0_mustSing_0 3 rfl rfl)
theorem dX0_mustSing_6 : decode cX0_mustSing 6 = .ok (.invokestatic 125, 3) := dk_184 0 125 (dk_at dksX0_mustSing_0 6 rfl rfl)
theorem dX0_mustSing_9 : decode cX0_mustSing 9 = .ok (.ifCond .eq 19, 3) := dk_153 0 19 (dk_at dksX0_mustSing_0 9 rfl rfl)
theorem dX0_mustSing_12 : decode cX0_mustSing 12 = .ok (.iload_n 1, 1) := dk_27 (dk_at dksX0_mustSing_0 12 rfl rfl)
theorem dX0_mustSing_13 : decode cX0_mustSing 13 = .ok (.i2l, 1) := dk_133 (dk_at dksX0_mustSing_0 13 rfl rfl)
theorem dX0_mustSing_14 : decode cX0_mustSing 14 = .ok (.lconst 0, 1) := dk_9 (dk_at dksX0_mustSing_0 14 rfl rfl)
theorem dX0_mustSing_15 : decode cX0_mustSing 15 = .ok (.ldc2_w 129, 3) := dk_20 0 129 (dk_at dksX0_mustSing_0 15 rfl rfl)
theorem dX0_mustSing_18 : decode cX0_mustSing 18 = .ok (.invokestatic 125, 3) := dk_184 0 125 (dk_at dksX0_mustSing_0 18 rfl rfl)
theorem dX0_mustSing_21 : decode cX0_mustSing 21 = .ok (.ifCond .eq 7, 3) := dk_153 0 7 (dk_at dksX0_mustSing_0 21 rfl rfl)
theorem dX0_mustSing_24 : decode cX0_mustSing 24 = .ok (.iconst 1, 1) := dk_4 (dk_at dksX0_mustSing_1 0 rfl rfl)
theorem dX0_mustSing_25 : decode cX0_mustSing 25 = .ok (.goto 4, 3) := dk_167 0 4 (dk_at dksX0_mustSing_1 1 rfl rfl)
theorem dX0_mustSing_28 : decode cX0_mustSing 28 = .ok (.iconst 0, 1) := dk_3 (dk_at dksX0_mustSing_1 4 rfl rfl)
theorem dX0_mustSing_29 : decode cX0_mustSing 29 = .ok (.bipush (-6), 2) := dk_16 250 (dk_at dksX0_mustSing_1 5 rfl rfl)
theorem dX0_mustSing_31 : decode cX0_mustSing 31 = .ok (.invokestatic 116, 3) := dk_184 0 116 (dk_at dksX0_mustSing_1 7 rfl rfl)
theorem dX0_mustSing_34 : decode cX0_mustSing 34 = .ok (.return_, 1) := dk_177 (dk_at dksX0_mustSing_1 10 rfl rfl)
abbrev cX0_needs : ByteArray := prog_1_method_31_code
def yX0_needs : MethodName := ⟨RX0, "needs", "(II)I"⟩
def dkwX0_needs_1 : List UInt8 := [28, 182, 1, 29, 182, 1, 33, 172, 78, 42, 45, 182, 0, 169, 172]
abbrev dktX0_needs_1 : List UInt8 := dkwX0_needs_1 ++ []
def dkwX0_needs_0 : List UInt8 := [42, 27, 182, 0, 189, 42, 28, 182, 0, 218, 42, 180, 0, 88, 180, 0, 141, 27, 50, 42, 180, 0, 88, 27]
abbrev dktX0_needs_0 : List UInt8 := dkwX0_needs_0 ++ dktX0_needs_1
theorem dksX0_needs_0 : cX0_needs.data.toList.drop 0 = dktX0_needs_0 := by decide +kernel
theorem dksX0_needs_1 : cX0_needs.data.toList.drop 24 = dktX0_needs_1 := dk_seg dksX0_needs_0 24 rfl rfl
theorem dX0_needs_0 : decode cX0_needs 0 = .ok (.aload_n 0, 1) := dk_42 (dk_at dksX0_needs_0 0 rfl rfl)
theorem dX0_needs_1 : decode cX0_needs 1 = .ok (.iload_n 1, 1) := dk_27 (dk_at dksX0_needs_0 1 rfl rfl)
theorem dX0_needs_2 : decode cX0_needs 2 = .ok (.invokevirtual 189, 3) := dk_182 0 189 (dk_at dksX0_needs_0 2 rfl rfl)
theorem dX0_needs_5 : decode cX0_needs 5 = .ok (.aload_n 0, 1) := dk_42 (dk_at dksX0_needs_0 5 rfl rfl)
theorem dX0_needs_6 : decode cX0_needs 6 = .ok (.iload_n 2, 1) := dk_28 (dk_at dksX0_needs_0 6 rfl rfl)
theorem dX0_needs_7 : decode cX0_needs 7 = .ok (.invokevirtual 218, 3) := dk_182 0 218 (dk_at dksX0_needs_0 7 rfl rfl)
theorem dX0_needs_10 : decode cX0_needs 10 = .ok (.aload_n 0, 1) := dk_42 (dk_at dksX0_needs_0 10 rfl rfl)
theorem dX0_needs_11 : decode cX0_needs 11 = .ok (.getfield 88, 3) := dk_180 0 88 (dk_at dksX0_needs_0 11 rfl rfl)
theorem dX0_needs_14 : decode cX0_needs 14 = .ok (.getfield 141, 3) := dk_180 0 141 (dk_at dksX0_needs_0 14 rfl rfl)
theorem dX0_needs_17 : decode cX0_needs 17 = .ok (.iload_n 1, 1) := dk_27 (dk_at dksX0_needs_0 17 rfl rfl)
theorem dX0_needs_18 : decode cX0_needs 18 = .ok (.aaload, 1) := dk_50 (dk_at dksX0_needs_0 18 rfl rfl)
theorem dX0_needs_19 : decode cX0_needs 19 = .ok (.aload_n 0, 1) := dk_42 (dk_at dksX0_needs_0 19 rfl rfl)
theorem dX0_needs_20 : decode cX0_needs 20 = .ok (.getfield 88, 3) := dk_180 0 88 (dk_at dksX0_needs_0 20 rfl rfl)
theorem dX0_needs_23 : decode cX0_needs 23 = .ok (.iload_n 1, 1) := dk_27 (dk_at dksX0_needs_0 23 rfl rfl)
theorem dX0_needs_24 : decode cX0_needs 24 = .ok (.iload_n 2, 1) := dk_28 (dk_at dksX0_needs_1 0 rfl rfl)
theorem dX0_needs_25 : decode cX0_needs 25 = .ok (.invokevirtual 285, 3) := dk_182 1 29 (dk_at dksX0_needs_1 1 rfl rfl)
theorem dX0_needs_28 : decode cX0_needs 28 = .ok (.invokevirtual 289, 3) := dk_182 1 33 (dk_at dksX0_needs_1 4 rfl rfl)
theorem dX0_needs_31 : decode cX0_needs 31 = .ok (.ireturn, 1) := dk_172 (dk_at dksX0_needs_1 7 rfl rfl)
theorem dX0_needs_32 : decode cX0_needs 32 = .ok (.astore_n 3, 1) := dk_78 (dk_at dksX0_needs_1 8 rfl rfl)
theorem dX0_needs_33 : decode cX0_needs 33 = .ok (.aload_n 0, 1) := dk_42 (dk_at dksX0_needs_1 9 rfl rfl)
theorem dX0_needs_34 : decode cX0_needs 34 = .ok (.aload_n 3, 1) := dk_45 (dk_at dksX0_needs_1 10 rfl rfl)
theorem dX0_needs_35 : decode cX0_needs 35 = .ok (.invokevirtual 169, 3) := dk_182 0 169 (dk_at dksX0_needs_1 11 rfl rfl)
theorem dX0_needs_38 : decode cX0_needs 38 = .ok (.ireturn, 1) := dk_172 (dk_at dksX0_needs_1 14 rfl rfl)
abbrev cX0_verse : ByteArray := prog_1_method_32_code
def yX0_verse : MethodName := ⟨RX0, "verse", "(III)I"⟩
def dkwX0_verse_3 : List UInt8 := [42, 25, 4, 182, 0, 169, 16, 10, 100, 172]
abbrev dktX0_verse_3 : List UInt8 := dkwX0_verse_3 ++ []
def dkwX0_verse_2 : List UInt8 := [29, 154, 0, 13, 42, 180, 0, 84, 182, 1, 37, 167, 0, 10, 42, 180, 0, 84, 182, 1, 40, 172, 58, 4]
abbrev dktX0_verse_2 : List UInt8 := dkwX0_verse_2 ++ dktX0_verse_3
def dkwX0_verse_1 : List UInt8 := [184, 0, 125, 16, 250, 184, 0, 116, 42, 180, 0, 84, 42, 180, 0, 88, 27, 28, 16, 43, 182, 1, 12, 87]
abbrev dktX0_verse_1 : List UInt8 := dkwX0_verse_1 ++ dktX0_verse_2
def dkwX0_verse_0 : List UInt8 := [42, 27, 182, 0, 218, 29, 133, 9, 10, 184, 0, 125, 16, 251, 184, 0, 116, 28, 133, 9, 20, 0, 123]
abbrev dktX0_verse_0 : List UInt8 := dkwX0_verse_0 ++ dktX0_verse_1
theorem dksX0_verse_0 : cX0_verse.data.toList.drop 0 = dktX0_verse_0 := by decide +kernel
theorem dksX0_verse_1 : cX0_verse.data.toList.drop 23 = dktX0_verse_1 := dk_seg dksX0_verse_0 23 rfl rfl
theorem dksX0_verse_2 : cX0_verse.data.toList.drop 47 = dktX0_verse_2 := dk_seg dksX0_verse_1 24 rfl rfl
theorem dksX0_verse_3 : cX0_verse.data.toList.drop 71 = dktX0_verse_3 := dk_seg dksX0_verse_2 24 rfl rfl
theorem dX0_verse_0 : decode cX0_verse 0 = .ok (.aload_n 0, 1) := dk_42 (dk_at dksX0_verse_0 0 rfl rfl)
theorem dX0_verse_1 : decode cX0_verse 1 = .ok (.iload_n 1, 1) := dk_27 (dk_at dksX0_verse_0 1 rfl rfl)
theorem dX0_verse_2 : decode cX0_verse 2 = .ok (.invokevirtual 218, 3) := dk_182 0 218 (dk_at dksX0_verse_0 2 rfl rfl)
theorem dX0_verse_5 : decode cX0_verse 5 = .ok (.iload_n 3, 1) := dk_29 (dk_at dksX0_verse_0 5 rfl rfl)
theorem dX0_verse_6 : decode cX0_verse 6 = .ok (.i2l, 1) := dk_133 (dk_at dksX0_verse_0 6 rfl rfl)
theorem dX0_verse_7 : decode cX0_verse 7 = .ok (.lconst 0, 1) := dk_9 (dk_at dksX0_verse_0 7 rfl rfl)
theorem dX0_verse_8 : decode cX0_verse 8 = .ok (.lconst 1, 1) := dk_10 (dk_at dksX0_verse_0 8 rfl rfl)
theorem dX0_verse_9 : decode cX0_verse 9 = .ok (.invokestatic 125, 3) := dk_184 0 125 (dk_at dksX0_verse_0 9 rfl rfl)
theorem dX0_verse_12 : decode cX0_verse 12 = .ok (.bipush (-5), 2) := dk_16 251 (dk_at dksX0_verse_0 12 rfl rfl)
theorem dX0_verse_14 : decode cX0_verse 14 = .ok (.invokestatic 116, 3) := dk_184 0 116 (dk_at dksX0_verse_0 14 rfl rfl)
theorem dX0_verse_17 : decode cX0_verse 17 = .ok (.iload_n 2, 1) := dk_28 (dk_at dksX0_verse_0 17 rfl rfl)
theorem dX0_verse_18 : decode cX0_verse 18 = .ok (.i2l, 1) := dk_133 (dk_at dksX0_verse_0 18 rfl rfl)
theorem dX0_verse_19 : decode cX0_verse 19 = .ok (.lconst 0, 1) := dk_9 (dk_at dksX0_verse_0 19 rfl rfl)
theorem dX0_verse_20 : decode cX0_verse 20 = .ok (.ldc2_w 123, 3) := dk_20 0 123 (dk_at dksX0_verse_0 20 rfl rfl)
theorem dX0_verse_23 : decode cX0_verse 23 = .ok (.invokestatic 125, 3) := dk_184 0 125 (dk_at dksX0_verse_1 0 rfl rfl)
theorem dX0_verse_26 : decode cX0_verse 26 = .ok (.bipush (-6), 2) := dk_16 250 (dk_at dksX0_verse_1 3 rfl rfl)
theorem dX0_verse_28 : decode cX0_verse 28 = .ok (.invokestatic 116, 3) := dk_184 0 116 (dk_at dksX0_verse_1 5 rfl rfl)
theorem dX0_verse_31 : decode cX0_verse 31 = .ok (.aload_n 0, 1) := dk_42 (dk_at dksX0_verse_1 8 rfl rfl)
theorem dX0_verse_32 : decode cX0_verse 32 = .ok (.getfield 84, 3) := dk_180 0 84 (dk_at dksX0_verse_1 9 rfl rfl)
theorem dX0_verse_35 : decode cX0_verse 35 = .ok (.aload_n 0, 1) := dk_42 (dk_at dksX0_verse_1 12 rfl rfl)
theorem dX0_verse_36 : decode cX0_verse 36 = .ok (.getfield 88, 3) := dk_180 0 88 (dk_at dksX0_verse_1 13 rfl rfl)
theorem dX0_verse_39 : decode cX0_verse 39 = .ok (.iload_n 1, 1) := dk_27 (dk_at dksX0_verse_1 16 rfl rfl)
theorem dX0_verse_40 : decode cX0_verse 40 = .ok (.iload_n 2, 1) := dk_28 (dk_at dksX0_verse_1 17 rfl rfl)
theorem dX0_verse_41 : decode cX0_verse 41 = .ok (.bipush 43, 2) := dk_16 43 (dk_at dksX0_verse_1 18 rfl rfl)
theorem dX0_verse_43 : decode cX0_verse 43 = .ok (.invokevirtual 268, 3) := dk_182 1 12 (dk_at dksX0_verse_1 20 rfl rfl)
theorem dX0_verse_46 : decode cX0_verse 46 = .ok (.pop, 1) := dk_87 (dk_at dksX0_verse_1 23 rfl rfl)
theorem dX0_verse_47 : decode cX0_verse 47 = .ok (.iload_n 3, 1) := dk_29 (dk_at dksX0_verse_2 0 rfl rfl)
theorem dX0_verse_48 : decode cX0_verse 48 = .ok (.ifCond .ne 13, 3) := dk_154 0 13 (dk_at dksX0_verse_2 1 rfl rfl)
theorem dX0_verse_51 : decode cX0_verse 51 = .ok (.aload_n 0, 1) := dk_42 (dk_at dksX0_verse_2 4 rfl rfl)
theorem dX0_verse_52 : decode cX0_verse 52 = .ok (.getfield 84, 3) := dk_180 0 84 (dk_at dksX0_verse_2 5 rfl rfl)
theorem dX0_verse_55 : decode cX0_verse 55 = .ok (.invokevirtual 293, 3) := dk_182 1 37 (dk_at dksX0_verse_2 8 rfl rfl)
theorem dX0_verse_58 : decode cX0_verse 58 = .ok (.goto 10, 3) := dk_167 0 10 (dk_at dksX0_verse_2 11 rfl rfl)
theorem dX0_verse_61 : decode cX0_verse 61 = .ok (.aload_n 0, 1) := dk_42 (dk_at dksX0_verse_2 14 rfl rfl)
theorem dX0_verse_62 : decode cX0_verse 62 = .ok (.getfield 84, 3) := dk_180 0 84 (dk_at dksX0_verse_2 15 rfl rfl)
theorem dX0_verse_65 : decode cX0_verse 65 = .ok (.invokevirtual 296, 3) := dk_182 1 40 (dk_at dksX0_verse_2 18 rfl rfl)
theorem dX0_verse_68 : decode cX0_verse 68 = .ok (.ireturn, 1) := dk_172 (dk_at dksX0_verse_2 21 rfl rfl)
theorem dX0_verse_69 : decode cX0_verse 69 = .ok (.astore 4, 2) := dk_58 4 (dk_at dksX0_verse_2 22 rfl rfl)
theorem dX0_verse_71 : decode cX0_verse 71 = .ok (.aload_n 0, 1) := dk_42 (dk_at dksX0_verse_3 0 rfl rfl)
theorem dX0_verse_72 : decode cX0_verse 72 = .ok (.aload 4, 2) := dk_25 4 (dk_at dksX0_verse_3 1 rfl rfl)
theorem dX0_verse_74 : decode cX0_verse 74 = .ok (.invokevirtual 169, 3) := dk_182 0 169 (dk_at dksX0_verse_3 3 rfl rfl)
theorem dX0_verse_77 : decode cX0_verse 77 = .ok (.bipush 10, 2) := dk_16 10 (dk_at dksX0_verse_3 6 rfl rfl)
theorem dX0_verse_79 : decode cX0_verse 79 = .ok (.isub, 1) := dk_100 (dk_at dksX0_verse_3 8 rfl rfl)
theorem dX0_verse_80 : decode cX0_verse 80 = .ok (.ireturn, 1) := dk_172 (dk_at dksX0_verse_3 9 rfl rfl)
abbrev cX0_best : ByteArray := prog_1_method_33_code
def yX0_best : MethodName := ⟨RX0, "best", "(II)I"⟩
def dkwX0_best_4 : List UInt8 := [167, 255, 197, 29, 172, 78, 42, 45, 182, 0, 169, 172]
abbrev dktX0_best_4 : List UInt8 := dkwX0_best_4 ++ []
def dkwX0_best_3 : List UInt8 := [164, 0, 8, 21, 5, 167, 0, 4, 29, 62, 21, 4, 21, 6, 184, 1, 46, 54, 4, 132, 5, 1]
abbrev dktX0_best_3 : List UInt8 := dkwX0_best_3 ++ dktX0_best_4
def dkwX0_best_2 : List UInt8 := [180, 0, 84, 42, 180, 0, 88, 21, 5, 27, 28, 182, 1, 12, 28, 182, 1, 43, 54, 6, 21, 6, 21, 4]
abbrev dktX0_best_2 : List UInt8 := dkwX0_best_2 ++ dktX0_best_3
def dkwX0_best_1 : List UInt8 := [184, 1, 8, 3, 62, 2, 54, 4, 3, 54, 5, 21, 5, 42, 180, 0, 88, 180, 0, 200, 162, 0, 53, 42]
abbrev dktX0_best_1 : List UInt8 := dkwX0_best_1 ++ dktX0_best_2
def dkwX0_best_0 : List UInt8 := [42, 180, 0, 88, 180, 0, 200, 158, 0, 7, 4, 167, 0, 4, 3, 16, 251, 184, 0, 116, 27, 28]
abbrev dktX0_best_0 : List UInt8 := dkwX0_best_0 ++ dktX0_best_1
theorem dksX0_best_0 : cX0_best.data.toList.drop 0 = dktX0_best_0 := by decide +kernel
theorem dksX0_best_1 : cX0_best.data.toList.drop 22 = dktX0_best_1 := dk_seg dksX0_best_0 22 rfl rfl
theorem dksX0_best_2 : cX0_best.data.toList.drop 46 = dktX0_best_2 := dk_seg dksX0_best_1 24 rfl rfl
theorem dksX0_best_3 : cX0_best.data.toList.drop 70 = dktX0_best_3 := dk_seg dksX0_best_2 24 rfl rfl
theorem dksX0_best_4 : cX0_best.data.toList.drop 92 = dktX0_best_4 := dk_seg dksX0_best_3 22 rfl rfl
theorem dX0_best_0 : decode cX0_best 0 = .ok (.aload_n 0, 1) := dk_42 (dk_at dksX0_best_0 0 rfl rfl)
theorem dX0_best_1 : decode cX0_best 1 = .ok (.getfield 88, 3) := dk_180 0 88 (dk_at dksX0_best_0 1 rfl rfl)
theorem dX0_best_4 : decode cX0_best 4 = .ok (.getfield 200, 3) := dk_180 0 200 (dk_at dksX0_best_0 4 rfl rfl)
theorem dX0_best_7 : decode cX0_best 7 = .ok (.ifCond .le 7, 3) := dk_158 0 7 (dk_at dksX0_best_0 7 rfl rfl)
theorem dX0_best_10 : decode cX0_best 10 = .ok (.iconst 1, 1) := dk_4 (dk_at dksX0_best_0 10 rfl rfl)
theorem dX0_best_11 : decode cX0_best 11 = .ok (.goto 4, 3) := dk_167 0 4 (dk_at dksX0_best_0 11 rfl rfl)
theorem dX0_best_14 : decode cX0_best 14 = .ok (.iconst 0, 1) := dk_3 (dk_at dksX0_best_0 14 rfl rfl)
theorem dX0_best_15 : decode cX0_best 15 = .ok (.bipush (-5), 2) := dk_16 251 (dk_at dksX0_best_0 15 rfl rfl)
theorem dX0_best_17 : decode cX0_best 17 = .ok (.invokestatic 116, 3) := dk_184 0 116 (dk_at dksX0_best_0 17 rfl rfl)
theorem dX0_best_20 : decode cX0_best 20 = .ok (.iload_n 1, 1) := dk_27 (dk_at dksX0_best_0 20 rfl rfl)
theorem dX0_best_21 : decode cX0_best 21 = .ok (.iload_n 2, 1) := dk_28 (dk_at dksX0_best_0 21 rfl rfl)
theorem dX0_best_22 : decode cX0_best 22 = .ok (.invokestatic 264, 3) := dk_184 1 8 (dk_at dksX0_best_1 0 rfl rfl)
theorem dX0_best_25 : decode cX0_best 25 = .ok (.iconst 0, 1) := dk_3 (dk_at dksX0_best_1 3 rfl rfl)
theorem dX0_best_26 : decode cX0_best 26 = .ok (.istore_n 3, 1) := dk_62 (dk_at dksX0_best_1 4 rfl rfl)
theorem dX0_best_27 : decode cX0_best 27 = .ok (.iconst (-1), 1) := dk_2 (dk_at dksX0_best_1 5 rfl rfl)
theorem dX0_best_28 : decode cX0_best 28 = .ok (.istore 4, 2) := dk_54 4 (dk_at dksX0_best_1 6 rfl rfl)
theorem dX0_best_30 : decode cX0_best 30 = .ok (.iconst 0, 1) := dk_3 (dk_at dksX0_best_1 8 rfl rfl)
theorem dX0_best_31 : decode cX0_best 31 = .ok (.istore 5, 2) := dk_54 5 (dk_at dksX0_best_1 9 rfl rfl)
theorem dX0_best_33 : decode cX0_best 33 = .ok (.iload 5, 2) := dk_21 5 (dk_at dksX0_best_1 11 rfl rfl)
theorem dX0_best_35 : decode cX0_best 35 = .ok (.aload_n 0, 1) := dk_42 (dk_at dksX0_best_1 13 rfl rfl)
theorem dX0_best_36 : decode cX0_best 36 = .ok (.getfield 88, 3) := dk_180 0 88 (dk_at dksX0_best_1 14 rfl rfl)
theorem dX0_best_39 : decode cX0_best 39 = .ok (.getfield 200, 3) := dk_180 0 200 (dk_at dksX0_best_1 17 rfl rfl)
theorem dX0_best_42 : decode cX0_best 42 = .ok (.if_icmp .ge 53, 3) := dk_162 0 53 (dk_at dksX0_best_1 20 rfl rfl)
theorem dX0_best_45 : decode cX0_best 45 = .ok (.aload_n 0, 1) := dk_42 (dk_at dksX0_best_1 23 rfl rfl)
theorem dX0_best_46 : decode cX0_best 46 = .ok (.getfield 84, 3) := dk_180 0 84 (dk_at dksX0_best_2 0 rfl rfl)
theorem dX0_best_49 : decode cX0_best 49 = .ok (.aload_n 0, 1) := dk_42 (dk_at dksX0_best_2 3 rfl rfl)
theorem dX0_best_50 : decode cX0_best 50 = .ok (.getfield 88, 3) := dk_180 0 88 (dk_at dksX0_best_2 4 rfl rfl)
theorem dX0_best_53 : decode cX0_best 53 = .ok (.iload 5, 2) := dk_21 5 (dk_at dksX0_best_2 7 rfl rfl)
theorem dX0_best_55 : decode cX0_best 55 = .ok (.iload_n 1, 1) := dk_27 (dk_at dksX0_best_2 9 rfl rfl)
theorem dX0_best_56 : decode cX0_best 56 = .ok (.iload_n 2, 1) := dk_28 (dk_at dksX0_best_2 10 rfl rfl)
theorem dX0_best_57 : decode cX0_best 57 = .ok (.invokevirtual 268, 3) := dk_182 1 12 (dk_at dksX0_best_2 11 rfl rfl)
theorem dX0_best_60 : decode cX0_best 60 = .ok (.iload_n 2, 1) := dk_28 (dk_at dksX0_best_2 14 rfl rfl)
theorem dX0_best_61 : decode cX0_best 61 = .ok (.invokevirtual 299, 3) := dk_182 1 43 (dk_at dksX0_best_2 15 rfl rfl)
theorem dX0_best_64 : decode cX0_best 64 = .ok (.istore 6, 2) := dk_54 6 (dk_at dksX0_best_2 18 rfl rfl)
theorem dX0_best_66 : decode cX0_best 66 = .ok (.iload 6, 2) := dk_21 6 (dk_at dksX0_best_2 20 rfl rfl)
theorem dX0_best_68 : decode cX0_best 68 = .ok (.iload 4, 2) := dk_21 4 (dk_at dksX0_best_2 22 rfl rfl)
theorem dX0_best_70 : decode cX0_best 70 = .ok (.if_icmp .le 8, 3) := dk_164 0 8 (dk_at dksX0_best_3 0 rfl rfl)
theorem dX0_best_73 : decode cX0_best 73 = .ok (.iload 5, 2) := dk_21 5 (dk_at dksX0_best_3 3 rfl rfl)
theorem dX0_best_75 : decode cX0_best 75 = .ok (.goto 4, 3) := dk_167 0 4 (dk_at dksX0_best_3 5 rfl rfl)
theorem dX0_best_78 : decode cX0_best 78 = .ok (.iload_n 3, 1) := dk_29 (dk_at dksX0_best_3 8 rfl rfl)
theorem dX0_best_79 : decode cX0_best 79 = .ok (.istore_n 3, 1) := dk_62 (dk_at dksX0_best_3 9 rfl rfl)
theorem dX0_best_80 : decode cX0_best 80 = .ok (.iload 4, 2) := dk_21 4 (dk_at dksX0_best_3 10 rfl rfl)
theorem dX0_best_82 : decode cX0_best 82 = .ok (.iload 6, 2) := dk_21 6 (dk_at dksX0_best_3 12 rfl rfl)
theorem dX0_best_84 : decode cX0_best 84 = .ok (.invokestatic 302, 3) := dk_184 1 46 (dk_at dksX0_best_3 14 rfl rfl)
theorem dX0_best_87 : decode cX0_best 87 = .ok (.istore 4, 2) := dk_54 4 (dk_at dksX0_best_3 17 rfl rfl)
theorem dX0_best_89 : decode cX0_best 89 = .ok (.iinc 5 1, 3) := dk_132 5 1 (dk_at dksX0_best_3 19 rfl rfl)
theorem dX0_best_92 : decode cX0_best 92 = .ok (.goto (-59), 3) := dk_167 255 197 (dk_at dksX0_best_4 0 rfl rfl)
theorem dX0_best_95 : decode cX0_best 95 = .ok (.iload_n 3, 1) := dk_29 (dk_at dksX0_best_4 3 rfl rfl)
theorem dX0_best_96 : decode cX0_best 96 = .ok (.ireturn, 1) := dk_172 (dk_at dksX0_best_4 4 rfl rfl)
theorem dX0_best_97 : decode cX0_best 97 = .ok (.astore_n 3, 1) := dk_78 (dk_at dksX0_best_4 5 rfl rfl)
theorem dX0_best_98 : decode cX0_best 98 = .ok (.aload_n 0, 1) := dk_42 (dk_at dksX0_best_4 6 rfl rfl)
theorem dX0_best_99 : decode cX0_best 99 = .ok (.aload_n 3, 1) := dk_45 (dk_at dksX0_best_4 7 rfl rfl)
theorem dX0_best_100 : decode cX0_best 100 = .ok (.invokevirtual 169, 3) := dk_182 0 169 (dk_at dksX0_best_4 8 rfl rfl)
theorem dX0_best_103 : decode cX0_best 103 = .ok (.ireturn, 1) := dk_172 (dk_at dksX0_best_4 11 rfl rfl)
abbrev cX0_pitch : ByteArray := prog_1_method_34_code
def yX0_pitch : MethodName := ⟨RX0, "pitch", "(II)I"⟩
def dkwX0_pitch_3 : List UInt8 := [184, 1, 46, 54, 4, 132, 5, 1, 167, 255, 203, 29, 172, 78, 42, 45, 182, 0, 169, 172]
abbrev dktX0_pitch_3 : List UInt8 := dkwX0_pitch_3 ++ []
def dkwX0_pitch_2 : List UInt8 := [28, 182, 1, 43, 54, 6, 21, 6, 21, 4, 161, 0, 8, 21, 5, 167, 0, 4, 29, 62, 21, 4, 21, 6]
abbrev dktX0_pitch_2 : List UInt8 := dkwX0_pitch_2 ++ dktX0_pitch_3
def dkwX0_pitch_1 : List UInt8 := [3, 54, 5, 21, 5, 8, 163, 0, 53, 42, 180, 0, 84, 42, 180, 0, 88, 27, 21, 5, 28, 182, 1, 12]
abbrev dktX0_pitch_1 : List UInt8 := dkwX0_pitch_1 ++ dktX0_pitch_2
def dkwX0_pitch_0 : List UInt8 := [42, 27, 182, 0, 218, 28, 133, 9, 20, 0, 129, 184, 0, 125, 16, 250, 184, 0, 116, 3, 62, 2, 54, 4]
abbrev dktX0_pitch_0 : List UInt8 := dkwX0_pitch_0 ++ dktX0_pitch_1
theorem dksX0_pitch_0 : cX0_pitch.data.toList.drop 0 = dktX0_pitch_0 := by decide +kernel
theorem dksX0_pitch_1 : cX0_pitch.data.toList.drop 24 = dktX0_pitch_1 := dk_seg dksX0_pitch_0 24 rfl rfl
theorem dksX0_pitch_2 : cX0_pitch.data.toList.drop 48 = dktX0_pitch_2 := dk_seg dksX0_pitch_1 24 rfl rfl
theorem dksX0_pitch_3 : cX0_pitch.data.toList.drop 72 = dktX0_pitch_3 := dk_seg dksX0_pitch_2 24 rfl rfl
theorem dX0_pitch_0 : decode cX0_pitch 0 = .ok (.aload_n 0, 1) := dk_42 (dk_at dksX0_pitch_0 0 rfl rfl)
theorem dX0_pitch_1 : decode cX0_pitch 1 = .ok (.iload_n 1, 1) := dk_27 (dk_at dksX0_pitch_0 1 rfl rfl)
theorem dX0_pitch_2 : decode cX0_pitch 2 = .ok (.invokevirtual 218, 3) := dk_182 0 218 (dk_at dksX0_pitch_0 2 rfl rfl)
theorem dX0_pitch_5 : decode cX0_pitch 5 = .ok (.iload_n 2, 1) := dk_28 (dk_at dksX0_pitch_0 5 rfl rfl)
theorem dX0_pitch_6 : decode cX0_pitch 6 = .ok (.i2l, 1) := dk_133 (dk_at dksX0_pitch_0 6 rfl rfl)
theorem dX0_pitch_7 : decode cX0_pitch 7 = .ok (.lconst 0, 1) := dk_9 (dk_at dksX0_pitch_0 7 rfl rfl)
theorem dX0_pitch_8 : decode cX0_pitch 8 = .ok (.ldc2_w 129, 3) := dk_20 0 129 (dk_at dksX0_pitch_0 8 rfl rfl)
theorem dX0_pitch_11 : decode cX0_pitch 11 = .ok (.invokestatic 125, 3) := dk_184 0 125 (dk_at dksX0_pitch_0 11 rfl rfl)
theorem dX0_pitch_14 : decode cX0_pitch 14 = .ok (.bipush (-6), 2) := dk_16 250 (dk_at dksX0_pitch_0 14 rfl rfl)
theorem dX0_pitch_16 : decode cX0_pitch 16 = .ok (.invokestatic 116, 3) := dk_184 0 116 (dk_at dksX0_pitch_0 16 rfl rfl)
theorem dX0_pitch_19 : decode cX0_pitch 19 = .ok (.iconst 0, 1) := dk_3 (dk_at dksX0_pitch_0 19 rfl rfl)
theorem dX0_pitch_20 : decode cX0_pitch 20 = .ok (.istore_n 3, 1) := dk_62 (dk_at dksX0_pitch_0 20 rfl rfl)
theorem dX0_pitch_21 : decode cX0_pitch 21 = .ok (.iconst (-1), 1) := dk_2 (dk_at dksX0_pitch_0 21 rfl rfl)
theorem dX0_pitch_22 : decode cX0_pitch 22 = .ok (.istore 4, 2) := dk_54 4 (dk_at dksX0_pitch_0 22 rfl rfl)
theorem dX0_pitch_24 : decode cX0_pitch 24 = .ok (.iconst 0, 1) := dk_3 (dk_at dksX0_pitch_1 0 rfl rfl)
theorem dX0_pitch_25 : decode cX0_pitch 25 = .ok (.istore 5, 2) := dk_54 5 (dk_at dksX0_pitch_1 1 rfl rfl)
theorem dX0_pitch_27 : decode cX0_pitch 27 = .ok (.iload 5, 2) := dk_21 5 (dk_at dksX0_pitch_1 3 rfl rfl)
theorem dX0_pitch_29 : decode cX0_pitch 29 = .ok (.iconst 5, 1) := dk_8 (dk_at dksX0_pitch_1 5 rfl rfl)
theorem dX0_pitch_30 : decode cX0_pitch 30 = .ok (.if_icmp .gt 53, 3) := dk_163 0 53 (dk_at dksX0_pitch_1 6 rfl rfl)
theorem dX0_pitch_33 : decode cX0_pitch 33 = .ok (.aload_n 0, 1) := dk_42 (dk_at dksX0_pitch_1 9 rfl rfl)
theorem dX0_pitch_34 : decode cX0_pitch 34 = .ok (.getfield 84, 3) := dk_180 0 84 (dk_at dksX0_pitch_1 10 rfl rfl)
theorem dX0_pitch_37 : decode cX0_pitch 37 = .ok (.aload_n 0, 1) := dk_42 (dk_at dksX0_pitch_1 13 rfl rfl)
theorem dX0_pitch_38 : decode cX0_pitch 38 = .ok (.getfield 88, 3) := dk_180 0 88 (dk_at dksX0_pitch_1 14 rfl rfl)
theorem dX0_pitch_41 : decode cX0_pitch 41 = .ok (.iload_n 1, 1) := dk_27 (dk_at dksX0_pitch_1 17 rfl rfl)
theorem dX0_pitch_42 : decode cX0_pitch 42 = .ok (.iload 5, 2) := dk_21 5 (dk_at dksX0_pitch_1 18 rfl rfl)
theorem dX0_pitch_44 : decode cX0_pitch 44 = .ok (.iload_n 2, 1) := dk_28 (dk_at dksX0_pitch_1 20 rfl rfl)
theorem dX0_pitch_45 : decode cX0_pitch 45 = .ok (.invokevirtual 268, 3) := dk_182 1 12 (dk_at dksX0_pitch_1 21 rfl rfl)
theorem dX0_pitch_48 : decode cX0_pitch 48 = .ok (.iload_n 2, 1) := dk_28 (dk_at dksX0_pitch_2 0 rfl rfl)
theorem dX0_pitch_49 : decode cX0_pitch 49 = .ok (.invokevirtual 299, 3) := dk_182 1 43 (dk_at dksX0_pitch_2 1 rfl rfl)
theorem dX0_pitch_52 : decode cX0_pitch 52 = .ok (.istore 6, 2) := dk_54 6 (dk_at dksX0_pitch_2 4 rfl rfl)
theorem dX0_pitch_54 : decode cX0_pitch 54 = .ok (.iload 6, 2) := dk_21 6 (dk_at dksX0_pitch_2 6 rfl rfl)
theorem dX0_pitch_56 : decode cX0_pitch 56 = .ok (.iload 4, 2) := dk_21 4 (dk_at dksX0_pitch_2 8 rfl rfl)
theorem dX0_pitch_58 : decode cX0_pitch 58 = .ok (.if_icmp .lt 8, 3) := dk_161 0 8 (dk_at dksX0_pitch_2 10 rfl rfl)
theorem dX0_pitch_61 : decode cX0_pitch 61 = .ok (.iload 5, 2) := dk_21 5 (dk_at dksX0_pitch_2 13 rfl rfl)
theorem dX0_pitch_63 : decode cX0_pitch 63 = .ok (.goto 4, 3) := dk_167 0 4 (dk_at dksX0_pitch_2 15 rfl rfl)
theorem dX0_pitch_66 : decode cX0_pitch 66 = .ok (.iload_n 3, 1) := dk_29 (dk_at dksX0_pitch_2 18 rfl rfl)
theorem dX0_pitch_67 : decode cX0_pitch 67 = .ok (.istore_n 3, 1) := dk_62 (dk_at dksX0_pitch_2 19 rfl rfl)
theorem dX0_pitch_68 : decode cX0_pitch 68 = .ok (.iload 4, 2) := dk_21 4 (dk_at dksX0_pitch_2 20 rfl rfl)
theorem dX0_pitch_70 : decode cX0_pitch 70 = .ok (.iload 6, 2) := dk_21 6 (dk_at dksX0_pitch_2 22 rfl rfl)
theorem dX0_pitch_72 : decode cX0_pitch 72 = .ok (.invokestatic 302, 3) := dk_184 1 46 (dk_at dksX0_pitch_3 0 rfl rfl)
theorem dX0_pitch_75 : decode cX0_pitch 75 = .ok (.istore 4, 2) := dk_54 4 (dk_at dksX0_pitch_3 3 rfl rfl)
theorem dX0_pitch_77 : decode cX0_pitch 77 = .ok (.iinc 5 1, 3) := dk_132 5 1 (dk_at dksX0_pitch_3 5 rfl rfl)
theorem dX0_pitch_80 : decode cX0_pitch 80 = .ok (.goto (-53), 3) := dk_167 255 203 (dk_at dksX0_pitch_3 8 rfl rfl)
theorem dX0_pitch_83 : decode cX0_pitch 83 = .ok (.iload_n 3, 1) := dk_29 (dk_at dksX0_pitch_3 11 rfl rfl)
theorem dX0_pitch_84 : decode cX0_pitch 84 = .ok (.ireturn, 1) := dk_172 (dk_at dksX0_pitch_3 12 rfl rfl)
theorem dX0_pitch_85 : decode cX0_pitch 85 = .ok (.astore_n 3, 1) := dk_78 (dk_at dksX0_pitch_3 13 rfl rfl)
theorem dX0_pitch_86 : decode cX0_pitch 86 = .ok (.aload_n 0, 1) := dk_42 (dk_at dksX0_pitch_3 14 rfl rfl)
theorem dX0_pitch_87 : decode cX0_pitch 87 = .ok (.aload_n 3, 1) := dk_45 (dk_at dksX0_pitch_3 15 rfl rfl)
theorem dX0_pitch_88 : decode cX0_pitch 88 = .ok (.invokevirtual 169, 3) := dk_182 0 169 (dk_at dksX0_pitch_3 16 rfl rfl)
theorem dX0_pitch_91 : decode cX0_pitch 91 = .ok (.ireturn, 1) := dk_172 (dk_at dksX0_pitch_3 19 rfl rfl)
abbrev cX0_two : ByteArray := prog_1_method_35_code
def yX0_two : MethodName := ⟨RX0, "two", "(I)I"⟩
def dkwX0_two_7 : List UInt8 := [16, 10, 100, 172]
abbrev dktX0_two_7 : List UInt8 := dkwX0_two_7 ++ []
def dkwX0_two_6 : List UInt8 := [184, 1, 46, 62, 132, 5, 1, 167, 255, 195, 132, 4, 1, 167, 255, 171, 28, 172, 77, 42, 44, 182, 0, 169]
abbrev dktX0_two_6 : List UInt8 := dkwX0_two_6 ++ dktX0_two_7
def dkwX0_two_5 : List UInt8 := [21, 6, 29, 164, 0, 14, 16, 10, 21, 4, 104, 21, 5, 96, 167, 0, 4, 28, 61, 29, 21, 6]
abbrev dktX0_two_5 : List UInt8 := dkwX0_two_5 ++ dktX0_two_6
def dkwX0_two_4 : List UInt8 := [162, 0, 55, 42, 180, 0, 95, 21, 4, 46, 42, 180, 0, 95, 21, 5, 46, 128, 184, 1, 52, 54, 6]
abbrev dktX0_two_4 : List UInt8 := dkwX0_two_4 ++ dktX0_two_5
def dkwX0_two_3 : List UInt8 := [180, 0, 88, 180, 0, 200, 162, 0, 79, 21, 4, 4, 96, 54, 5, 21, 5, 42, 180, 0, 88, 180, 0, 200]
abbrev dktX0_two_3 : List UInt8 := dkwX0_two_3 ++ dktX0_two_4
def dkwX0_two_2 : List UInt8 := [180, 1, 16, 27, 46, 79, 132, 2, 1, 167, 255, 217, 2, 61, 2, 62, 3, 54, 4, 21, 4, 42]
abbrev dktX0_two_2 : List UInt8 := dkwX0_two_2 ++ dktX0_two_3
def dkwX0_two_1 : List UInt8 := [162, 0, 34, 42, 180, 0, 95, 28, 42, 180, 0, 84, 42, 180, 0, 88, 28, 3, 27, 182, 1, 12]
abbrev dktX0_two_1 : List UInt8 := dkwX0_two_1 ++ dktX0_two_2
def dkwX0_two_0 : List UInt8 := [27, 133, 9, 20, 0, 129, 184, 0, 125, 16, 250, 184, 0, 116, 3, 61, 28, 42, 180, 0, 88, 180, 0, 200]
abbrev dktX0_two_0 : List UInt8 := dkwX0_two_0 ++ dktX0_two_1
theorem dksX0_two_0 : cX0_two.data.toList.drop 0 = dktX0_two_0 := by decide +kernel
theorem dksX0_two_1 : cX0_two.data.toList.drop 24 = dktX0_two_1 := dk_seg dksX0_two_0 24 rfl rfl
theorem dksX0_two_2 : cX0_two.data.toList.drop 46 = dktX0_two_2 := dk_seg dksX0_two_1 22 rfl rfl
theorem dksX0_two_3 : cX0_two.data.toList.drop 68 = dktX0_two_3 := dk_seg dksX0_two_2 22 rfl rfl
theorem dksX0_two_4 : cX0_two.data.toList.drop 92 = dktX0_two_4 := dk_seg dksX0_two_3 24 rfl rfl
theorem dksX0_two_5 : cX0_two.data.toList.drop 115 = dktX0_two_5 := dk_seg dksX0_two_4 23 rfl rfl
theorem dksX0_two_6 : cX0_two.data.toList.drop 137 = dktX0_two_6 := dk_seg dksX0_two_5 22 rfl rfl
theorem dksX0_two_7 : cX0_two.data.toList.drop 161 = dktX0_two_7 := dk_seg dksX0_two_6 24 rfl rfl
theorem dX0_two_0 : decode cX0_two 0 = .ok (.iload_n 1, 1) := dk_27 (dk_at dksX0_two_0 0 rfl rfl)
theorem dX0_two_1 : decode cX0_two 1 = .ok (.i2l, 1) := dk_133 (dk_at dksX0_two_0 1 rfl rfl)
theorem dX0_two_2 : decode cX0_two 2 = .ok (.lconst 0, 1) := dk_9 (dk_at dksX0_two_0 2 rfl rfl)
theorem dX0_two_3 : decode cX0_two 3 = .ok (.ldc2_w 129, 3) := dk_20 0 129 (dk_at dksX0_two_0 3 rfl rfl)
theorem dX0_two_6 : decode cX0_two 6 = .ok (.invokestatic 125, 3) := dk_184 0 125 (dk_at dksX0_two_0 6 rfl rfl)
theorem dX0_two_9 : decode cX0_two 9 = .ok (.bipush (-6), 2) := dk_16 250 (dk_at dksX0_two_0 9 rfl rfl)
theorem dX0_two_11 : decode cX0_two 11 = .ok (.invokestatic 116, 3) := dk_184 0 116 (dk_at dksX0_two_0 11 rfl rfl)
theorem dX0_two_14 : decode cX0_two 14 = .ok (.iconst 0, 1) := dk_3 (dk_at dksX0_two_0 14 rfl rfl)
theorem dX0_two_15 : decode cX0_two 15 = .ok (.istore_n 2, 1) := dk_61 (dk_at dksX0_two_0 15 rfl rfl)
theorem dX0_two_16 : decode cX0_two 16 = .ok (.iload_n 2, 1) := dk_28 (dk_at dksX0_two_0 16 rfl rfl)
theorem dX0_two_17 : decode cX0_two 17 = .ok (.aload_n 0, 1) := dk_42 (dk_at dksX0_two_0 17 rfl rfl)
theorem dX0_two_18 : decode cX0_two 18 = .ok (.getfield 88, 3) := dk_180 0 88 (dk_at dksX0_two_0 18 rfl rfl)
theorem dX0_two_21 : decode cX0_two 21 = .ok (.getfield 200, 3) := dk_180 0 200 (dk_at dksX0_two_0 21 rfl rfl)
theorem dX0_two_24 : decode cX0_two 24 = .ok (.if_icmp .ge 34, 3) := dk_162 0 34 (dk_at dksX0_two_1 0 rfl rfl)
theorem dX0_two_27 : decode cX0_two 27 = .ok (.aload_n 0, 1) := dk_42 (dk_at dksX0_two_1 3 rfl rfl)
theorem dX0_two_28 : decode cX0_two 28 = .ok (.getfield 95, 3) := dk_180 0 95 (dk_at dksX0_two_1 4 rfl rfl)
theorem dX0_two_31 : decode cX0_two 31 = .ok (.iload_n 2, 1) := dk_28 (dk_at dksX0_two_1 7 rfl rfl)
theorem dX0_two_32 : decode cX0_two 32 = .ok (.aload_n 0, 1) := dk_42 (dk_at dksX0_two_1 8 rfl rfl)
theorem dX0_two_33 : decode cX0_two 33 = .ok (.getfield 84, 3) := dk_180 0 84 (dk_at dksX0_two_1 9 rfl rfl)
theorem dX0_two_36 : decode cX0_two 36 = .ok (.aload_n 0, 1) := dk_42 (dk_at dksX0_two_1 12 rfl rfl)
theorem dX0_two_37 : decode cX0_two 37 = .ok (.getfield 88, 3) := dk_180 0 88 (dk_at dksX0_two_1 13 rfl rfl)
theorem dX0_two_40 : decode cX0_two 40 = .ok (.iload_n 2, 1) := dk_28 (dk_at dksX0_two_1 16 rfl rfl)
theorem dX0_two_41 : decode cX0_two 41 = .ok (.iconst 0, 1) := dk_3 (dk_at dksX0_two_1 17 rfl rfl)
theorem dX0_two_42 : decode cX0_two 42 = .ok (.iload_n 1, 1) := dk_27 (dk_at dksX0_two_1 18 rfl rfl)
theorem dX0_two_43 : decode cX0_two 43 = .ok (.invokevirtual 268, 3) := dk_182 1 12 (dk_at dksX0_two_1 19 rfl rfl)
theorem dX0_two_46 : decode cX0_two 46 = .ok (.getfield 272, 3) := dk_180 1 16 (dk_at dksX0_two_2 0 rfl rfl)
theorem dX0_two_49 : decode cX0_two 49 = .ok (.iload_n 1, 1) := dk_27 (dk_at dksX0_two_2 3 rfl rfl)
theorem dX0_two_50 : decode cX0_two 50 = .ok (.iaload, 1) := dk_46 (dk_at dksX0_two_2 4 rfl rfl)
theorem dX0_two_51 : decode cX0_two 51 = .ok (.iastore, 1) := dk_79 (dk_at dksX0_two_2 5 rfl rfl)
theorem dX0_two_52 : decode cX0_two 52 = .ok (.iinc 2 1, 3) := dk_132 2 1 (dk_at dksX0_two_2 6 rfl rfl)
theorem dX0_two_55 : decode cX0_two 55 = .ok (.goto (-39), 3) := dk_167 255 217 (dk_at dksX0_two_2 9 rfl rfl)
theorem dX0_two_58 : decode cX0_two 58 = .ok (.iconst (-1), 1) := dk_2 (dk_at dksX0_two_2 12 rfl rfl)
theorem dX0_two_59 : decode cX0_two 59 = .ok (.istore_n 2, 1) := dk_61 (dk_at dksX0_two_2 13 rfl rfl)
theorem dX0_two_60 : decode cX0_two 60 = .ok (.iconst (-1), 1) := dk_2 (dk_at dksX0_two_2 14 rfl rfl)
theorem dX0_two_61 : decode cX0_two 61 = .ok (.istore_n 3, 1) := dk_62 (dk_at dksX0_two_2 15 rfl rfl)
theorem dX0_two_62 : decode cX0_two 62 = .ok (.iconst 0, 1) := dk_3 (dk_at dksX0_two_2 16 rfl rfl)
theorem dX0_two_63 : decode cX0_two 63 = .ok (.istore 4, 2) := dk_54 4 (dk_at dksX0_two_2 17 rfl rfl)
theorem dX0_two_65 : decode cX0_two 65 = .ok (.iload 4, 2) := dk_21 4 (dk_at dksX0_two_2 19 rfl rfl)
theorem dX0_two_67 : decode cX0_two 67 = .ok (.aload_n 0, 1) := dk_42 (dk_at dksX0_two_2 21 rfl rfl)
theorem dX0_two_68 : decode cX0_two 68 = .ok (.getfield 88, 3) := dk_180 0 88 (dk_at dksX0_two_3 0 rfl rfl)
theorem dX0_two_71 : decode cX0_two 71 = .ok (.getfield 200, 3) := dk_180 0 200 (dk_at dksX0_two_3 3 rfl rfl)
theorem dX0_two_74 : decode cX0_two 74 = .ok (.if_icmp .ge 79, 3) := dk_162 0 79 (dk_at dksX0_two_3 6 rfl rfl)
theorem dX0_two_77 : decode cX0_two 77 = .ok (.iload 4, 2) := dk_21 4 (dk_at dksX0_two_3 9 rfl rfl)
theorem dX0_two_79 : decode cX0_two 79 = .ok (.iconst 1, 1) := dk_4 (dk_at dksX0_two_3 11 rfl rfl)
theorem dX0_two_80 : decode cX0_two 80 = .ok (.iadd, 1) := dk_96 (dk_at dksX0_two_3 12 rfl rfl)
theorem dX0_two_81 : decode cX0_two 81 = .ok (.istore 5, 2) := dk_54 5 (dk_at dksX0_two_3 13 rfl rfl)
theorem dX0_two_83 : decode cX0_two 83 = .ok (.iload 5, 2) := dk_21 5 (dk_at dksX0_two_3 15 rfl rfl)
theorem dX0_two_85 : decode cX0_two 85 = .ok (.aload_n 0, 1) := dk_42 (dk_at dksX0_two_3 17 rfl rfl)
theorem dX0_two_86 : decode cX0_two 86 = .ok (.getfield 88, 3) := dk_180 0 88 (dk_at dksX0_two_3 18 rfl rfl)
theorem dX0_two_89 : decode cX0_two 89 = .ok (.getfield 200, 3) := dk_180 0 200 (dk_at dksX0_two_3 21 rfl rfl)
theorem dX0_two_92 : decode cX0_two 92 = .ok (.if_icmp .ge 55, 3) := dk_162 0 55 (dk_at dksX0_two_4 0 rfl rfl)
theorem dX0_two_95 : decode cX0_two 95 = .ok (.aload_n 0, 1) := dk_42 (dk_at dksX0_two_4 3 rfl rfl)
theorem dX0_two_96 : decode cX0_two 96 = .ok (.getfield 95, 3) := dk_180 0 95 (dk_at dksX0_two_4 4 rfl rfl)
theorem dX0_two_99 : decode cX0_two 99 = .ok (.iload 4, 2) := dk_21 4 (dk_at dksX0_two_4 7 rfl rfl)
theorem dX0_two_101 : decode cX0_two 101 = .ok (.iaload, 1) := dk_46 (dk_at dksX0_two_4 9 rfl rfl)
theorem dX0_two_102 : decode cX0_two 102 = .ok (.aload_n 0, 1) := dk_42 (dk_at dksX0_two_4 10 rfl rfl)
theorem dX0_two_103 : decode cX0_two 103 = .ok (.getfield 95, 3) := dk_180 0 95 (dk_at dksX0_two_4 11 rfl rfl)
theorem dX0_two_106 : decode cX0_two 106 = .ok (.iload 5, 2) := dk_21 5 (dk_at dksX0_two_4 14 rfl rfl)
theorem dX0_two_108 : decode cX0_two 108 = .ok (.iaload, 1) := dk_46 (dk_at dksX0_two_4 16 rfl rfl)
theorem dX0_two_109 : decode cX0_two 109 = .ok (.ior, 1) := dk_128 (dk_at dksX0_two_4 17 rfl rfl)
theorem dX0_two_110 : decode cX0_two 110 = .ok (.invokestatic 308, 3) := dk_184 1 52 (dk_at dksX0_two_4 18 rfl rfl)
theorem dX0_two_113 : decode cX0_two 113 = .ok (.istore 6, 2) := dk_54 6 (dk_at dksX0_two_4 21 rfl rfl)
theorem dX0_two_115 : decode cX0_two 115 = .ok (.iload 6, 2) := dk_21 6 (dk_at dksX0_two_5 0 rfl rfl)
theorem dX0_two_117 : decode cX0_two 117 = .ok (.iload_n 3, 1) := dk_29 (dk_at dksX0_two_5 2 rfl rfl)
theorem dX0_two_118 : decode cX0_two 118 = .ok (.if_icmp .le 14, 3) := dk_164 0 14 (dk_at dksX0_two_5 3 rfl rfl)
theorem dX0_two_121 : decode cX0_two 121 = .ok (.bipush 10, 2) := dk_16 10 (dk_at dksX0_two_5 6 rfl rfl)
theorem dX0_two_123 : decode cX0_two 123 = .ok (.iload 4, 2) := dk_21 4 (dk_at dksX0_two_5 8 rfl rfl)
theorem dX0_two_125 : decode cX0_two 125 = .ok (.imul, 1) := dk_104 (dk_at dksX0_two_5 10 rfl rfl)
theorem dX0_two_126 : decode cX0_two 126 = .ok (.iload 5, 2) := dk_21 5 (dk_at dksX0_two_5 11 rfl rfl)
theorem dX0_two_128 : decode cX0_two 128 = .ok (.iadd, 1) := dk_96 (dk_at dksX0_two_5 13 rfl rfl)
theorem dX0_two_129 : decode cX0_two 129 = .ok (.goto 4, 3) := dk_167 0 4 (dk_at dksX0_two_5 14 rfl rfl)
theorem dX0_two_132 : decode cX0_two 132 = .ok (.iload_n 2, 1) := dk_28 (dk_at dksX0_two_5 17 rfl rfl)
theorem dX0_two_133 : decode cX0_two 133 = .ok (.istore_n 2, 1) := dk_61 (dk_at dksX0_two_5 18 rfl rfl)
theorem dX0_two_134 : decode cX0_two 134 = .ok (.iload_n 3, 1) := dk_29 (dk_at dksX0_two_5 19 rfl rfl)
theorem dX0_two_135 : decode cX0_two 135 = .ok (.iload 6, 2) := dk_21 6 (dk_at dksX0_two_5 20 rfl rfl)
theorem dX0_two_137 : decode cX0_two 137 = .ok (.invokestatic 302, 3) := dk_184 1 46 (dk_at dksX0_two_6 0 rfl rfl)
theorem dX0_two_140 : decode cX0_two 140 = .ok (.istore_n 3, 1) := dk_62 (dk_at dksX0_two_6 3 rfl rfl)
theorem dX0_two_141 : decode cX0_two 141 = .ok (.iinc 5 1, 3) := dk_132 5 1 (dk_at dksX0_two_6 4 rfl rfl)
theorem dX0_two_144 : decode cX0_two 144 = .ok (.goto (-61), 3) := dk_167 255 195 (dk_at dksX0_two_6 7 rfl rfl)
theorem dX0_two_147 : decode cX0_two 147 = .ok (.iinc 4 1, 3) := dk_132 4 1 (dk_at dksX0_two_6 10 rfl rfl)
theorem dX0_two_150 : decode cX0_two 150 = .ok (.goto (-85), 3) := dk_167 255 171 (dk_at dksX0_two_6 13 rfl rfl)
theorem dX0_two_153 : decode cX0_two 153 = .ok (.iload_n 2, 1) := dk_28 (dk_at dksX0_two_6 16 rfl rfl)
theorem dX0_two_154 : decode cX0_two 154 = .ok (.ireturn, 1) := dk_172 (dk_at dksX0_two_6 17 rfl rfl)
theorem dX0_two_155 : decode cX0_two 155 = .ok (.astore_n 2, 1) := dk_77 (dk_at dksX0_two_6 18 rfl rfl)
theorem dX0_two_156 : decode cX0_two 156 = .ok (.aload_n 0, 1) := dk_42 (dk_at dksX0_two_6 19 rfl rfl)
theorem dX0_two_157 : decode cX0_two 157 = .ok (.aload_n 2, 1) := dk_44 (dk_at dksX0_two_6 20 rfl rfl)
theorem dX0_two_158 : decode cX0_two 158 = .ok (.invokevirtual 169, 3) := dk_182 0 169 (dk_at dksX0_two_6 21 rfl rfl)
theorem dX0_two_161 : decode cX0_two 161 = .ok (.bipush 10, 2) := dk_16 10 (dk_at dksX0_two_7 0 rfl rfl)
theorem dX0_two_163 : decode cX0_two 163 = .ok (.isub, 1) := dk_100 (dk_at dksX0_two_7 2 rfl rfl)
theorem dX0_two_164 : decode cX0_two 164 = .ok (.ireturn, 1) := dk_172 (dk_at dksX0_two_7 3 rfl rfl)
abbrev cX0_leaders : ByteArray := prog_1_method_39_code
def yX0_leaders : MethodName := ⟨RX0, "leaders", "(IIIII)I"⟩
def dkwX0_leaders_4 : List UInt8 := [167, 0, 7, 42, 180, 1, 67, 172, 58, 6, 42, 25, 6, 182, 0, 169, 172]
abbrev dktX0_leaders_4 : List UInt8 := dkwX0_leaders_4 ++ []
def dkwX0_leaders_3 : List UInt8 := [54, 7, 21, 5, 2, 160, 0, 8, 21, 7, 167, 0, 19, 21, 5, 154, 0, 10, 42, 180, 1, 64]
abbrev dktX0_leaders_3 : List UInt8 := dkwX0_leaders_3 ++ dktX0_leaders_4
def dkwX0_leaders_2 : List UInt8 := [184, 0, 116, 21, 6, 16, 250, 184, 0, 116, 28, 29, 184, 1, 8, 42, 27, 28, 29, 21, 4, 182, 1, 74]
abbrev dktX0_leaders_2 : List UInt8 := dkwX0_leaders_2 ++ dktX0_leaders_3
def dkwX0_leaders_1 : List UInt8 := [133, 20, 1, 72, 21, 4, 4, 100, 133, 184, 0, 125, 153, 0, 7, 4, 167, 0, 4, 3, 16, 251]
abbrev dktX0_leaders_1 : List UInt8 := dkwX0_leaders_1 ++ dktX0_leaders_2
def dkwX0_leaders_0 : List UInt8 := [42, 27, 182, 0, 218, 21, 4, 133, 10, 20, 1, 70, 184, 0, 125, 54, 6, 21, 6, 153, 0, 20, 21, 5]
abbrev dktX0_leaders_0 : List UInt8 := dkwX0_leaders_0 ++ dktX0_leaders_1
theorem dksX0_leaders_0 : cX0_leaders.data.toList.drop 0 = dktX0_leaders_0 := by decide +kernel
theorem dksX0_leaders_1 : cX0_leaders.data.toList.drop 24 = dktX0_leaders_1 := dk_seg dksX0_leaders_0 24 rfl rfl
theorem dksX0_leaders_2 : cX0_leaders.data.toList.drop 46 = dktX0_leaders_2 := dk_seg dksX0_leaders_1 22 rfl rfl
theorem dksX0_leaders_3 : cX0_leaders.data.toList.drop 70 = dktX0_leaders_3 := dk_seg dksX0_leaders_2 24 rfl rfl
theorem dksX0_leaders_4 : cX0_leaders.data.toList.drop 92 = dktX0_leaders_4 := dk_seg dksX0_leaders_3 22 rfl rfl
theorem dX0_leaders_0 : decode cX0_leaders 0 = .ok (.aload_n 0, 1) := dk_42 (dk_at dksX0_leaders_0 0 rfl rfl)
theorem dX0_leaders_1 : decode cX0_leaders 1 = .ok (.iload_n 1, 1) := dk_27 (dk_at dksX0_leaders_0 1 rfl rfl)
theorem dX0_leaders_2 : decode cX0_leaders 2 = .ok (.invokevirtual 218, 3) := dk_182 0 218 (dk_at dksX0_leaders_0 2 rfl rfl)
theorem dX0_leaders_5 : decode cX0_leaders 5 = .ok (.iload 4, 2) := dk_21 4 (dk_at dksX0_leaders_0 5 rfl rfl)
theorem dX0_leaders_7 : decode cX0_leaders 7 = .ok (.i2l, 1) := dk_133 (dk_at dksX0_leaders_0 7 rfl rfl)
theorem dX0_leaders_8 : decode cX0_leaders 8 = .ok (.lconst 1, 1) := dk_10 (dk_at dksX0_leaders_0 8 rfl rfl)
theorem dX0_leaders_9 : decode cX0_leaders 9 = .ok (.ldc2_w 326, 3) := dk_20 1 70 (dk_at dksX0_leaders_0 9 rfl rfl)
theorem dX0_leaders_12 : decode cX0_leaders 12 = .ok (.invokestatic 125, 3) := dk_184 0 125 (dk_at dksX0_leaders_0 12 rfl rfl)
theorem dX0_leaders_15 : decode cX0_leaders 15 = .ok (.istore 6, 2) := dk_54 6 (dk_at dksX0_leaders_0 15 rfl rfl)
theorem dX0_leaders_17 : decode cX0_leaders 17 = .ok (.iload 6, 2) := dk_21 6 (dk_at dksX0_leaders_0 17 rfl rfl)
theorem dX0_leaders_19 : decode cX0_leaders 19 = .ok (.ifCond .eq 20, 3) := dk_153 0 20 (dk_at dksX0_leaders_0 19 rfl rfl)
theorem dX0_leaders_22 : decode cX0_leaders 22 = .ok (.iload 5, 2) := dk_21 5 (dk_at dksX0_leaders_0 22 rfl rfl)
theorem dX0_leaders_24 : decode cX0_leaders 24 = .ok (.i2l, 1) := dk_133 (dk_at dksX0_leaders_1 0 rfl rfl)
theorem dX0_leaders_25 : decode cX0_leaders 25 = .ok (.ldc2_w 328, 3) := dk_20 1 72 (dk_at dksX0_leaders_1 1 rfl rfl)
theorem dX0_leaders_28 : decode cX0_leaders 28 = .ok (.iload 4, 2) := dk_21 4 (dk_at dksX0_leaders_1 4 rfl rfl)
theorem dX0_leaders_30 : decode cX0_leaders 30 = .ok (.iconst 1, 1) := dk_4 (dk_at dksX0_leaders_1 6 rfl rfl)
theorem dX0_leaders_31 : decode cX0_leaders 31 = .ok (.isub, 1) := dk_100 (dk_at dksX0_leaders_1 7 rfl rfl)
theorem dX0_leaders_32 : decode cX0_leaders 32 = .ok (.i2l, 1) := dk_133 (dk_at dksX0_leaders_1 8 rfl rfl)
theorem dX0_leaders_33 : decode cX0_leaders 33 = .ok (.invokestatic 125, 3) := dk_184 0 125 (dk_at dksX0_leaders_1 9 rfl rfl)
theorem dX0_leaders_36 : decode cX0_leaders 36 = .ok (.ifCond .eq 7, 3) := dk_153 0 7 (dk_at dksX0_leaders_1 12 rfl rfl)
theorem dX0_leaders_39 : decode cX0_leaders 39 = .ok (.iconst 1, 1) := dk_4 (dk_at dksX0_leaders_1 15 rfl rfl)
theorem dX0_leaders_40 : decode cX0_leaders 40 = .ok (.goto 4, 3) := dk_167 0 4 (dk_at dksX0_leaders_1 16 rfl rfl)
theorem dX0_leaders_43 : decode cX0_leaders 43 = .ok (.iconst 0, 1) := dk_3 (dk_at dksX0_leaders_1 19 rfl rfl)
theorem dX0_leaders_44 : decode cX0_leaders 44 = .ok (.bipush (-5), 2) := dk_16 251 (dk_at dksX0_leaders_1 20 rfl rfl)
theorem dX0_leaders_46 : decode cX0_leaders 46 = .ok (.invokestatic 116, 3) := dk_184 0 116 (dk_at dksX0_leaders_2 0 rfl rfl)
theorem dX0_leaders_49 : decode cX0_leaders 49 = .ok (.iload 6, 2) := dk_21 6 (dk_at dksX0_leaders_2 3 rfl rfl)
theorem dX0_leaders_51 : decode cX0_leaders 51 = .ok (.bipush (-6), 2) := dk_16 250 (dk_at dksX0_leaders_2 5 rfl rfl)
theorem dX0_leaders_53 : decode cX0_leaders 53 = .ok (.invokestatic 116, 3) := dk_184 0 116 (dk_at dksX0_leaders_2 7 rfl rfl)
theorem dX0_leaders_56 : decode cX0_leaders 56 = .ok (.iload_n 2, 1) := dk_28 (dk_at dksX0_leaders_2 10 rfl rfl)
theorem dX0_leaders_57 : decode cX0_leaders 57 = .ok (.iload_n 3, 1) := dk_29 (dk_at dksX0_leaders_2 11 rfl rfl)
theorem dX0_leaders_58 : decode cX0_leaders 58 = .ok (.invokestatic 264, 3) := dk_184 1 8 (dk_at dksX0_leaders_2 12 rfl rfl)
theorem dX0_leaders_61 : decode cX0_leaders 61 = .ok (.aload_n 0, 1) := dk_42 (dk_at dksX0_leaders_2 15 rfl rfl)
theorem dX0_leaders_62 : decode cX0_leaders 62 = .ok (.iload_n 1, 1) := dk_27 (dk_at dksX0_leaders_2 16 rfl rfl)
theorem dX0_leaders_63 : decode cX0_leaders 63 = .ok (.iload_n 2, 1) := dk_28 (dk_at dksX0_leaders_2 17 rfl rfl)
theorem dX0_leaders_64 : decode cX0_leaders 64 = .ok (.iload_n 3, 1) := dk_29 (dk_at dksX0_leaders_2 18 rfl rfl)
theorem dX0_leaders_65 : decode cX0_leaders 65 = .ok (.iload 4, 2) := dk_21 4 (dk_at dksX0_leaders_2 19 rfl rfl)
theorem dX0_leaders_67 : decode cX0_leaders 67 = .ok (.invokevirtual 330, 3) := dk_182 1 74 (dk_at dksX0_leaders_2 21 rfl rfl)
theorem dX0_leaders_70 : decode cX0_leaders 70 = .ok (.istore 7, 2) := dk_54 7 (dk_at dksX0_leaders_3 0 rfl rfl)
theorem dX0_leaders_72 : decode cX0_leaders 72 = .ok (.iload 5, 2) := dk_21 5 (dk_at dksX0_leaders_3 2 rfl rfl)
theorem dX0_leaders_74 : decode cX0_leaders 74 = .ok (.iconst (-1), 1) := dk_2 (dk_at dksX0_leaders_3 4 rfl rfl)
theorem dX0_leaders_75 : decode cX0_leaders 75 = .ok (.if_icmp .ne 8, 3) := dk_160 0 8 (dk_at dksX0_leaders_3 5 rfl rfl)
theorem dX0_leaders_78 : decode cX0_leaders 78 = .ok (.iload 7, 2) := dk_21 7 (dk_at dksX0_leaders_3 8 rfl rfl)
theorem dX0_leaders_80 : decode cX0_leaders 80 = .ok (.goto 19, 3) := dk_167 0 19 (dk_at dksX0_leaders_3 10 rfl rfl)
theorem dX0_leaders_83 : decode cX0_leaders 83 = .ok (.iload 5, 2) := dk_21 5 (dk_at dksX0_leaders_3 13 rfl rfl)
theorem dX0_leaders_85 : decode cX0_leaders 85 = .ok (.ifCond .ne 10, 3) := dk_154 0 10 (dk_at dksX0_leaders_3 15 rfl rfl)
theorem dX0_leaders_88 : decode cX0_leaders 88 = .ok (.aload_n 0, 1) := dk_42 (dk_at dksX0_leaders_3 18 rfl rfl)
theorem dX0_leaders_89 : decode cX0_leaders 89 = .ok (.getfield 320, 3) := dk_180 1 64 (dk_at dksX0_leaders_3 19 rfl rfl)
theorem dX0_leaders_92 : decode cX0_leaders 92 = .ok (.goto 7, 3) := dk_167 0 7 (dk_at dksX0_leaders_4 0 rfl rfl)
theorem dX0_leaders_95 : decode cX0_leaders 95 = .ok (.aload_n 0, 1) := dk_42 (dk_at dksX0_leaders_4 3 rfl rfl)
theorem dX0_leaders_96 : decode cX0_leaders 96 = .ok (.getfield 323, 3) := dk_180 1 67 (dk_at dksX0_leaders_4 4 rfl rfl)
theorem dX0_leaders_99 : decode cX0_leaders 99 = .ok (.ireturn, 1) := dk_172 (dk_at dksX0_leaders_4 7 rfl rfl)
theorem dX0_leaders_100 : decode cX0_leaders 100 = .ok (.astore 6, 2) := dk_58 6 (dk_at dksX0_leaders_4 8 rfl rfl)
theorem dX0_leaders_102 : decode cX0_leaders 102 = .ok (.aload_n 0, 1) := dk_42 (dk_at dksX0_leaders_4 10 rfl rfl)
theorem dX0_leaders_103 : decode cX0_leaders 103 = .ok (.aload 6, 2) := dk_25 6 (dk_at dksX0_leaders_4 11 rfl rfl)
theorem dX0_leaders_105 : decode cX0_leaders 105 = .ok (.invokevirtual 169, 3) := dk_182 0 169 (dk_at dksX0_leaders_4 13 rfl rfl)
theorem dX0_leaders_108 : decode cX0_leaders 108 = .ok (.ireturn, 1) := dk_172 (dk_at dksX0_leaders_4 16 rfl rfl)
abbrev cX0_bestLeaders : ByteArray := prog_1_method_38_code
def yX0_bestLeaders : MethodName := ⟨RX0, "bestLeaders", "(IIII)I"⟩
def dkwX0_bestLeaders_7 : List UInt8 := [21, 5, 21, 8, 184, 1, 46, 54, 5, 132, 7, 1, 167, 255, 124, 132, 6, 1, 167, 255, 94, 21, 5, 172]
abbrev dktX0_bestLeaders_7 : List UInt8 := dkwX0_bestLeaders_7 ++ []
def dkwX0_bestLeaders_6 : List UInt8 := [181, 1, 64, 42, 21, 8, 21, 5, 164, 0, 8, 21, 7, 167, 0, 7, 42, 180, 1, 67, 181, 1, 67]
abbrev dktX0_bestLeaders_6 : List UInt8 := dkwX0_bestLeaders_6 ++ dktX0_bestLeaders_7
def dkwX0_bestLeaders_5 : List UInt8 := [29, 182, 1, 60, 54, 8, 42, 21, 8, 21, 5, 164, 0, 8, 21, 6, 167, 0, 7, 42, 180, 1, 64]
abbrev dktX0_bestLeaders_5 : List UInt8 := dkwX0_bestLeaders_5 ++ dktX0_bestLeaders_6
def dkwX0_bestLeaders_4 : List UInt8 := [21, 4, 5, 160, 0, 18, 42, 42, 180, 0, 88, 180, 0, 211, 4, 96, 21, 7, 182, 1, 57, 42, 27, 28]
abbrev dktX0_bestLeaders_4 : List UInt8 := dkwX0_bestLeaders_4 ++ dktX0_bestLeaders_5
def dkwX0_bestLeaders_3 : List UInt8 := [180, 0, 88, 21, 7, 182, 0, 208, 153, 0, 95, 42, 42, 180, 0, 88, 180, 0, 211, 21, 6, 182, 1, 57]
abbrev dktX0_bestLeaders_3 : List UInt8 := dkwX0_bestLeaders_3 ++ dktX0_bestLeaders_4
def dkwX0_bestLeaders_2 : List UInt8 := [162, 0, 131, 42, 180, 0, 88, 21, 6, 182, 0, 208, 153, 0, 119, 21, 4, 4, 159, 0, 15, 42]
abbrev dktX0_bestLeaders_2 : List UInt8 := dkwX0_bestLeaders_2 ++ dktX0_bestLeaders_3
def dkwX0_bestLeaders_1 : List UInt8 := [162, 0, 161, 21, 4, 4, 160, 0, 8, 16, 23, 167, 0, 7, 21, 6, 4, 96, 54, 7, 21, 7, 16, 24]
abbrev dktX0_bestLeaders_1 : List UInt8 := dkwX0_bestLeaders_1 ++ dktX0_bestLeaders_2
def dkwX0_bestLeaders_0 : List UInt8 := [2, 54, 5, 42, 180, 0, 77, 42, 180, 0, 88, 182, 0, 248, 87, 3, 54, 6, 21, 6, 16, 24]
abbrev dktX0_bestLeaders_0 : List UInt8 := dkwX0_bestLeaders_0 ++ dktX0_bestLeaders_1
theorem dksX0_bestLeaders_0 : cX0_bestLeaders.data.toList.drop 0 = dktX0_bestLeaders_0 := by decide +kernel
theorem dksX0_bestLeaders_1 : cX0_bestLeaders.data.toList.drop 22 = dktX0_bestLeaders_1 := dk_seg dksX0_bestLeaders_0 22 rfl rfl
theorem dksX0_bestLeaders_2 : cX0_bestLeaders.data.toList.drop 46 = dktX0_bestLeaders_2 := dk_seg dksX0_bestLeaders_1 24 rfl rfl
theorem dksX0_bestLeaders_3 : cX0_bestLeaders.data.toList.drop 68 = dktX0_bestLeaders_3 := dk_seg dksX0_bestLeaders_2 22 rfl rfl
theorem dksX0_bestLeaders_4 : cX0_bestLeaders.data.toList.drop 92 = dktX0_bestLeaders_4 := dk_seg dksX0_bestLeaders_3 24 rfl rfl
theorem dksX0_bestLeaders_5 : cX0_bestLeaders.data.toList.drop 116 = dktX0_bestLeaders_5 := dk_seg dksX0_bestLeaders_4 24 rfl rfl
theorem dksX0_bestLeaders_6 : cX0_bestLeaders.data.toList.drop 139 = dktX0_bestLeaders_6 := dk_seg dksX0_bestLeaders_5 23 rfl rfl
theorem dksX0_bestLeaders_7 : cX0_bestLeaders.data.toList.drop 162 = dktX0_bestLeaders_7 := dk_seg dksX0_bestLeaders_6 23 rfl rfl
theorem dX0_bestLeaders_0 : decode cX0_bestLeaders 0 = .ok (.iconst (-1), 1) := dk_2 (dk_at dksX0_bestLeaders_0 0 rfl rfl)
theorem dX0_bestLeaders_1 : decode cX0_bestLeaders 1 = .ok (.istore 5, 2) := dk_54 5 (dk_at dksX0_bestLeaders_0 1 rfl rfl)
theorem dX0_bestLeaders_3 : decode cX0_bestLeaders 3 = .ok (.aload_n 0, 1) := dk_42 (dk_at dksX0_bestLeaders_0 3 rfl rfl)
theorem dX0_bestLeaders_4 : decode cX0_bestLeaders 4 = .ok (.getfield 77, 3) := dk_180 0 77 (dk_at dksX0_bestLeaders_0 4 rfl rfl)
theorem dX0_bestLeaders_7 : decode cX0_bestLeaders 7 = .ok (.aload_n 0, 1) := dk_42 (dk_at dksX0_bestLeaders_0 7 rfl rfl)
theorem dX0_bestLeaders_8 : decode cX0_bestLeaders 8 = .ok (.getfield 88, 3) := dk_180 0 88 (dk_at dksX0_bestLeaders_0 8 rfl rfl)
theorem dX0_bestLeaders_11 : decode cX0_bestLeaders 11 = .ok (.invokevirtual 248, 3) := dk_182 0 248 (dk_at dksX0_bestLeaders_0 11 rfl rfl)
theorem dX0_bestLeaders_14 : decode cX0_bestLeaders 14 = .ok (.pop, 1) := dk_87 (dk_at dksX0_bestLeaders_0 14 rfl rfl)
theorem dX0_bestLeaders_15 : decode cX0_bestLeaders 15 = .ok (.iconst 0, 1) := dk_3 (dk_at dksX0_bestLeaders_0 15 rfl rfl)
theorem dX0_bestLeaders_16 : decode cX0_bestLeaders 16 = .ok (.istore 6, 2) := dk_54 6 (dk_at dksX0_bestLeaders_0 16 rfl rfl)
theorem dX0_bestLeaders_18 : decode cX0_bestLeaders 18 = .ok (.iload 6, 2) := dk_21 6 (dk_at dksX0_bestLeaders_0 18 rfl rfl)
theorem dX0_bestLeaders_20 : decode cX0_bestLeaders 20 = .ok (.bipush 24, 2) := dk_16 24 (dk_at dksX0_bestLeaders_0 20 rfl rfl)
theorem dX0_bestLeaders_22 : decode cX0_bestLeaders 22 = .ok (.if_icmp .ge 161, 3) := dk_162 0 161 (dk_at dksX0_bestLeaders_1 0 rfl rfl)
theorem dX0_bestLeaders_25 : decode cX0_bestLeaders 25 = .ok (.iload 4, 2) := dk_21 4 (dk_at dksX0_bestLeaders_1 3 rfl rfl)
theorem dX0_bestLeaders_27 : decode cX0_bestLeaders 27 = .ok (.iconst 1, 1) := dk_4 (dk_at dksX0_bestLeaders_1 5 rfl rfl)
theorem dX0_bestLeaders_28 : decode cX0_bestLeaders 28 = .ok (.if_icmp .ne 8, 3) := dk_160 0 8 (dk_at dksX0_bestLeaders_1 6 rfl rfl)
theorem dX0_bestLeaders_31 : decode cX0_bestLeaders 31 = .ok (.bipush 23, 2) := dk_16 23 (dk_at dksX0_bestLeaders_1 9 rfl rfl)
theorem dX0_bestLeaders_33 : decode cX0_bestLeaders 33 = .ok (.goto 7, 3) := dk_167 0 7 (dk_at dksX0_bestLeaders_1 11 rfl rfl)
theorem dX0_bestLeaders_36 : decode cX0_bestLeaders 36 = .ok (.iload 6, 2) := dk_21 6 (dk_at dksX0_bestLeaders_1 14 rfl rfl)
theorem dX0_bestLeaders_38 : decode cX0_bestLeaders 38 = .ok (.iconst 1, 1) := dk_4 (dk_at dksX0_bestLeaders_1 16 rfl rfl)
theorem dX0_bestLeaders_39 : decode cX0_bestLeaders 39 = .ok (.iadd, 1) := dk_96 (dk_at dksX0_bestLeaders_1 17 rfl rfl)
theorem dX0_bestLeaders_40 : decode cX0_bestLeaders 40 = .ok (.istore 7, 2) := dk_54 7 (dk_at dksX0_bestLeaders_1 18 rfl rfl)
theorem dX0_bestLeaders_42 : decode cX0_bestLeaders 42 = .ok (.iload 7, 2) := dk_21 7 (dk_at dksX0_bestLeaders_1 20 rfl rfl)
theorem dX0_bestLeaders_44 : decode cX0_bestLeaders 44 = .ok (.bipush 24, 2) := dk_16 24 (dk_at dksX0_bestLeaders_1 22 rfl rfl)
theorem dX0_bestLeaders_46 : decode cX0_bestLeaders 46 = .ok (.if_icmp .ge 131, 3) := dk_162 0 131 (dk_at dksX0_bestLeaders_2 0 rfl rfl)
theorem dX0_bestLeaders_49 : decode cX0_bestLeaders 49 = .ok (.aload_n 0, 1) := dk_42 (dk_at dksX0_bestLeaders_2 3 rfl rfl)
theorem dX0_bestLeaders_50 : decode cX0_bestLeaders 50 = .ok (.getfield 88, 3) := dk_180 0 88 (dk_at dksX0_bestLeaders_2 4 rfl rfl)
theorem dX0_bestLeaders_53 : decode cX0_bestLeaders 53 = .ok (.iload 6, 2) := dk_21 6 (dk_at dksX0_bestLeaders_2 7 rfl rfl)
theorem dX0_bestLeaders_55 : decode cX0_bestLeaders 55 = .ok (.invokevirtual 208, 3) := dk_182 0 208 (dk_at dksX0_bestLeaders_2 9 rfl rfl)
theorem dX0_bestLeaders_58 : decode cX0_bestLeaders 58 = .ok (.ifCond .eq 119, 3) := dk_153 0 119 (dk_at dksX0_bestLeaders_2 12 rfl rfl)
theorem dX0_bestLeaders_61 : decode cX0_bestLeaders 61 = .ok (.iload 4, 2) := dk_21 4 (dk_at dksX0_bestLeaders_2 15 rfl rfl)
theorem dX0_bestLeaders_63 : decode cX0_bestLeaders 63 = .ok (.iconst 1, 1) := dk_4 (dk_at dksX0_bestLeaders_2 17 rfl rfl)
theorem dX0_bestLeaders_64 : decode cX0_bestLeaders 64 = .ok (.if_icmp .eq 15, 3) := dk_159 0 15 (dk_at dksX0_bestLeaders_2 18 rfl rfl)
theorem dX0_bestLeaders_67 : decode cX0_bestLeaders 67 = .ok (.aload_n 0, 1) := dk_42 (dk_at dksX0_bestLeaders_2 21 rfl rfl)
theorem dX0_bestLeaders_68 : decode cX0_bestLeaders 68 = .ok (.getfield 88, 3) := dk_180 0 88 (dk_at dksX0_bestLeaders_3 0 rfl rfl)
theorem dX0_bestLeaders_71 : decode cX0_bestLeaders 71 = .ok (.iload 7, 2) := dk_21 7 (dk_at dksX0_bestLeaders_3 3 rfl rfl)
theorem dX0_bestLeaders_73 : decode cX0_bestLeaders 73 = .ok (.invokevirtual 208, 3) := dk_182 0 208 (dk_at dksX0_bestLeaders_3 5 rfl rfl)
theorem dX0_bestLeaders_76 : decode cX0_bestLeaders 76 = .ok (.ifCond .eq 95, 3) := dk_153 0 95 (dk_at dksX0_bestLeaders_3 8 rfl rfl)
theorem dX0_bestLeaders_79 : decode cX0_bestLeaders 79 = .ok (.aload_n 0, 1) := dk_42 (dk_at dksX0_bestLeaders_3 11 rfl rfl)
theorem dX0_bestLeaders_80 : decode cX0_bestLeaders 80 = .ok (.aload_n 0, 1) := dk_42 (dk_at dksX0_bestLeaders_3 12 rfl rfl)
theorem dX0_bestLeaders_81 : decode cX0_bestLeaders 81 = .ok (.getfield 88, 3) := dk_180 0 88 (dk_at dksX0_bestLeaders_3 13 rfl rfl)
theorem dX0_bestLeaders_84 : decode cX0_bestLeaders 84 = .ok (.getfield 211, 3) := dk_180 0 211 (dk_at dksX0_bestLeaders_3 16 rfl rfl)
theorem dX0_bestLeaders_87 : decode cX0_bestLeaders 87 = .ok (.iload 6, 2) := dk_21 6 (dk_at dksX0_bestLeaders_3 19 rfl rfl)
theorem dX0_bestLeaders_89 : decode cX0_bestLeaders 89 = .ok (.invokevirtual 313, 3) := dk_182 1 57 (dk_at dksX0_bestLeaders_3 21 rfl rfl)
theorem dX0_bestLeaders_92 : decode cX0_bestLeaders 92 = .ok (.iload 4, 2) := dk_21 4 (dk_at dksX0_bestLeaders_4 0 rfl rfl)
theorem dX0_bestLeaders_94 : decode cX0_bestLeaders 94 = .ok (.iconst 2, 1) := dk_5 (dk_at dksX0_bestLeaders_4 2 rfl rfl)
theorem dX0_bestLeaders_95 : decode cX0_bestLeaders 95 = .ok (.if_icmp .ne 18, 3) := dk_160 0 18 (dk_at dksX0_bestLeaders_4 3 rfl rfl)
theorem dX0_bestLeaders_98 : decode cX0_bestLeaders 98 = .ok (.aload_n 0, 1) := dk_42 (dk_at dksX0_bestLeaders_4 6 rfl rfl)
theorem dX0_bestLeaders_99 : decode cX0_bestLeaders 99 = .ok (.aload_n 0, 1) := dk_42 (dk_at dksX0_bestLeaders_4 7 rfl rfl)
theorem dX0_bestLeaders_100 : decode cX0_bestLeaders 100 = .ok (.getfield 88, 3) := dk_180 0 88 (dk_at dksX0_bestLeaders_4 8 rfl rfl)
theorem dX0_bestLeaders_103 : decode cX0_bestLeaders 103 = .ok (.getfield 211, 3) := dk_180 0 211 (dk_at dksX0_bestLeaders_4 11 rfl rfl)
theorem dX0_bestLeaders_106 : decode cX0_bestLeaders 106 = .ok (.iconst 1, 1) := dk_4 (dk_at dksX0_bestLeaders_4 14 rfl rfl)
theorem dX0_bestLeaders_107 : decode cX0_bestLeaders 107 = .ok (.iadd, 1) := dk_96 (dk_at dksX0_bestLeaders_4 15 rfl rfl)
theorem dX0_bestLeaders_108 : decode cX0_bestLeaders 108 = .ok (.iload 7, 2) := dk_21 7 (dk_at dksX0_bestLeaders_4 16 rfl rfl)
theorem dX0_bestLeaders_110 : decode cX0_bestLeaders 110 = .ok (.invokevirtual 313, 3) := dk_182 1 57 (dk_at dksX0_bestLeaders_4 18 rfl rfl)
theorem dX0_bestLeaders_113 : decode cX0_bestLeaders 113 = .ok (.aload_n 0, 1) := dk_42 (dk_at dksX0_bestLeaders_4 21 rfl rfl)
theorem dX0_bestLeaders_114 : decode cX0_bestLeaders 114 = .ok (.iload_n 1, 1) := dk_27 (dk_at dksX0_bestLeaders_4 22 rfl rfl)
theorem dX0_bestLeaders_115 : decode cX0_bestLeaders 115 = .ok (.iload_n 2, 1) := dk_28 (dk_at dksX0_bestLeaders_4 23 rfl rfl)
theorem dX0_bestLeaders_116 : decode cX0_bestLeaders 116 = .ok (.iload_n 3, 1) := dk_29 (dk_at dksX0_bestLeaders_5 0 rfl rfl)
theorem dX0_bestLeaders_117 : decode cX0_bestLeaders 117 = .ok (.invokevirtual 316, 3) := dk_182 1 60 (dk_at dksX0_bestLeaders_5 1 rfl rfl)
theorem dX0_bestLeaders_120 : decode cX0_bestLeaders 120 = .ok (.istore 8, 2) := dk_54 8 (dk_at dksX0_bestLeaders_5 4 rfl rfl)
theorem dX0_bestLeaders_122 : decode cX0_bestLeaders 122 = .ok (.aload_n 0, 1) := dk_42 (dk_at dksX0_bestLeaders_5 6 rfl rfl)
theorem dX0_bestLeaders_123 : decode cX0_bestLeaders 123 = .ok (.iload 8, 2) := dk_21 8 (dk_at dksX0_bestLeaders_5 7 rfl rfl)
theorem dX0_bestLeaders_125 : decode cX0_bestLeaders 125 = .ok (.iload 5, 2) := dk_21 5 (dk_at dksX0_bestLeaders_5 9 rfl rfl)
theorem dX0_bestLeaders_127 : decode cX0_bestLeaders 127 = .ok (.if_icmp .le 8, 3) := dk_164 0 8 (dk_at dksX0_bestLeaders_5 11 rfl rfl)
theorem dX0_bestLeaders_130 : decode cX0_bestLeaders 130 = .ok (.iload 6, 2) := dk_21 6 (dk_at dksX0_bestLeaders_5 14 rfl rfl)
theorem dX0_bestLeaders_132 : decode cX0_bestLeaders 132 = .ok (.goto 7, 3) := dk_167 0 7 (dk_at dksX0_bestLeaders_5 16 rfl rfl)
theorem dX0_bestLeaders_135 : decode cX0_bestLeaders 135 = .ok (.aload_n 0, 1) := dk_42 (dk_at dksX0_bestLeaders_5 19 rfl rfl)
theorem dX0_bestLeaders_136 : decode cX0_bestLeaders 136 = .ok (.getfield 320, 3) := dk_180 1 64 (dk_at dksX0_bestLeaders_5 20 rfl rfl)
theorem dX0_bestLeaders_139 : decode cX0_bestLeaders 139 = .ok (.putfield 320, 3) := dk_181 1 64 (dk_at dksX0_bestLeaders_6 0 rfl rfl)
theorem dX0_bestLeaders_142 : decode cX0_bestLeaders 142 = .ok (.aload_n 0, 1) := dk_42 (dk_at dksX0_bestLeaders_6 3 rfl rfl)
theorem dX0_bestLeaders_143 : decode cX0_bestLeaders 143 = .ok (.iload 8, 2) := dk_21 8 (dk_at dksX0_bestLeaders_6 4 rfl rfl)
theorem dX0_bestLeaders_145 : decode cX0_bestLeaders 145 = .ok (.iload 5, 2) := dk_21 5 (dk_at dksX0_bestLeaders_6 6 rfl rfl)
theorem dX0_bestLeaders_147 : decode cX0_bestLeaders 147 = .ok (.if_icmp .le 8, 3) := dk_164 0 8 (dk_at dksX0_bestLeaders_6 8 rfl rfl)
theorem dX0_bestLeaders_150 : decode cX0_bestLeaders 150 = .ok (.iload 7, 2) := dk_21 7 (dk_at dksX0_bestLeaders_6 11 rfl rfl)
theorem dX0_bestLeaders_152 : decode cX0_bestLeaders 152 = .ok (.goto 7, 3) := dk_167 0 7 (dk_at dksX0_bestLeaders_6 13 rfl rfl)
theorem dX0_bestLeaders_155 : decode cX0_bestLeaders 155 = .ok (.aload_n 0, 1) := dk_42 (dk_at dksX0_bestLeaders_6 16 rfl rfl)
theorem dX0_bestLeaders_156 : decode cX0_bestLeaders 156 = .ok (.getfield 323, 3) := dk_180 1 67 (dk_at dksX0_bestLeaders_6 17 rfl rfl)
theorem dX0_bestLeaders_159 : decode cX0_bestLeaders 159 = .ok (.putfield 323, 3) := dk_181 1 67 (dk_at dksX0_bestLeaders_6 20 rfl rfl)
theorem dX0_bestLeaders_162 : decode cX0_bestLeaders 162 = .ok (.iload 5, 2) := dk_21 5 (dk_at dksX0_bestLeaders_7 0 rfl rfl)
theorem dX0_bestLeaders_164 : decode cX0_bestLeaders 164 = .ok (.iload 8, 2) := dk_21 8 (dk_at dksX0_bestLeaders_7 2 rfl rfl)
theorem dX0_bestLeaders_166 : decode cX0_bestLeaders 166 = .ok (.invokestatic 302, 3) := dk_184 1 46 (dk_at dksX0_bestLeaders_7 4 rfl rfl)
theorem dX0_bestLeaders_169 : decode cX0_bestLeaders 169 = .ok (.istore 5, 2) := dk_54 5 (dk_at dksX0_bestLeaders_7 7 rfl rfl)
theorem dX0_bestLeaders_171 : decode cX0_bestLeaders 171 = .ok (.iinc 7 1, 3) := dk_132 7 1 (dk_at dksX0_bestLeaders_7 9 rfl rfl)
theorem dX0_bestLeaders_174 : decode cX0_bestLeaders 174 = .ok (.goto (-132), 3) := dk_167 255 124 (dk_at dksX0_bestLeaders_7 12 rfl rfl)
theorem dX0_bestLeaders_177 : decode cX0_bestLeaders 177 = .ok (.iinc 6 1, 3) := dk_132 6 1 (dk_at dksX0_bestLeaders_7 15 rfl rfl)
theorem dX0_bestLeaders_180 : decode cX0_bestLeaders 180 = .ok (.goto (-162), 3) := dk_167 255 94 (dk_at dksX0_bestLeaders_7 18 rfl rfl)
theorem dX0_bestLeaders_183 : decode cX0_bestLeaders 183 = .ok (.iload 5, 2) := dk_21 5 (dk_at dksX0_bestLeaders_7 21 rfl rfl)
theorem dX0_bestLeaders_185 : decode cX0_bestLeaders 185 = .ok (.ireturn, 1) := dk_172 (dk_at dksX0_bestLeaders_7 23 rfl rfl)
abbrev cX0_leads : ByteArray := prog_1_method_37_code
def yX0_leads : MethodName := ⟨RX0, "leads", "(II)V"⟩
def dkwX0_leads_1 : List UInt8 := [180, 0, 221, 27, 4, 42, 180, 0, 88, 180, 0, 200, 120, 4, 100, 79, 177]
abbrev dktX0_leads_1 : List UInt8 := dkwX0_leads_1 ++ []
def dkwX0_leads_0 : List UInt8 := [42, 180, 0, 77, 27, 181, 0, 211, 42, 180, 0, 77, 42, 180, 0, 102, 28, 182, 0, 214, 42, 180, 0, 77]
abbrev dktX0_leads_0 : List UInt8 := dkwX0_leads_0 ++ dktX0_leads_1
theorem dksX0_leads_0 : cX0_leads.data.toList.drop 0 = dktX0_leads_0 := by decide +kernel
theorem dksX0_leads_1 : cX0_leads.data.toList.drop 24 = dktX0_leads_1 := dk_seg dksX0_leads_0 24 rfl rfl
theorem dX0_leads_0 : decode cX0_leads 0 = .ok (.aload_n 0, 1) := dk_42 (dk_at dksX0_leads_0 0 rfl rfl)
theorem dX0_leads_1 : decode cX0_leads 1 = .ok (.getfield 77, 3) := dk_180 0 77 (dk_at dksX0_leads_0 1 rfl rfl)
theorem dX0_leads_4 : decode cX0_leads 4 = .ok (.iload_n 1, 1) := dk_27 (dk_at dksX0_leads_0 4 rfl rfl)
theorem dX0_leads_5 : decode cX0_leads 5 = .ok (.putfield 211, 3) := dk_181 0 211 (dk_at dksX0_leads_0 5 rfl rfl)
theorem dX0_leads_8 : decode cX0_leads 8 = .ok (.aload_n 0, 1) := dk_42 (dk_at dksX0_leads_0 8 rfl rfl)
theorem dX0_leads_9 : decode cX0_leads 9 = .ok (.getfield 77, 3) := dk_180 0 77 (dk_at dksX0_leads_0 9 rfl rfl)
theorem dX0_leads_12 : decode cX0_leads 12 = .ok (.aload_n 0, 1) := dk_42 (dk_at dksX0_leads_0 12 rfl rfl)
theorem dX0_leads_13 : decode cX0_leads 13 = .ok (.getfield 102, 3) := dk_180 0 102 (dk_at dksX0_leads_0 13 rfl rfl)
theorem dX0_leads_16 : decode cX0_leads 16 = .ok (.iload_n 2, 1) := dk_28 (dk_at dksX0_leads_0 16 rfl rfl)
theorem dX0_leads_17 : decode cX0_leads 17 = .ok (.invokevirtual 214, 3) := dk_182 0 214 (dk_at dksX0_leads_0 17 rfl rfl)
theorem dX0_leads_20 : decode cX0_leads 20 = .ok (.aload_n 0, 1) := dk_42 (dk_at dksX0_leads_0 20 rfl rfl)
theorem dX0_leads_21 : decode cX0_leads 21 = .ok (.getfield 77, 3) := dk_180 0 77 (dk_at dksX0_leads_0 21 rfl rfl)
theorem dX0_leads_24 : decode cX0_leads 24 = .ok (.getfield 221, 3) := dk_180 0 221 (dk_at dksX0_leads_1 0 rfl rfl)
theorem dX0_leads_27 : decode cX0_leads 27 = .ok (.iload_n 1, 1) := dk_27 (dk_at dksX0_leads_1 3 rfl rfl)
theorem dX0_leads_28 : decode cX0_leads 28 = .ok (.iconst 1, 1) := dk_4 (dk_at dksX0_leads_1 4 rfl rfl)
theorem dX0_leads_29 : decode cX0_leads 29 = .ok (.aload_n 0, 1) := dk_42 (dk_at dksX0_leads_1 5 rfl rfl)
theorem dX0_leads_30 : decode cX0_leads 30 = .ok (.getfield 88, 3) := dk_180 0 88 (dk_at dksX0_leads_1 6 rfl rfl)
theorem dX0_leads_33 : decode cX0_leads 33 = .ok (.getfield 200, 3) := dk_180 0 200 (dk_at dksX0_leads_1 9 rfl rfl)
theorem dX0_leads_36 : decode cX0_leads 36 = .ok (.ishl, 1) := dk_120 (dk_at dksX0_leads_1 12 rfl rfl)
theorem dX0_leads_37 : decode cX0_leads 37 = .ok (.iconst 1, 1) := dk_4 (dk_at dksX0_leads_1 13 rfl rfl)
theorem dX0_leads_38 : decode cX0_leads 38 = .ok (.isub, 1) := dk_100 (dk_at dksX0_leads_1 14 rfl rfl)
theorem dX0_leads_39 : decode cX0_leads 39 = .ok (.iastore, 1) := dk_79 (dk_at dksX0_leads_1 15 rfl rfl)
theorem dX0_leads_40 : decode cX0_leads 40 = .ok (.return_, 1) := dk_177 (dk_at dksX0_leads_1 16 rfl rfl)
abbrev cX0_othersRight : ByteArray := prog_1_method_36_code
def yX0_othersRight : MethodName := ⟨RX0, "othersRight", "(III)I"⟩
def dkwX0_othersRight_1 : List UInt8 := [180, 0, 211, 120, 4, 100, 126, 184, 1, 52, 172]
abbrev dktX0_othersRight_1 : List UInt8 := dkwX0_othersRight_1 ++ []
def dkwX0_othersRight_0 : List UInt8 := [42, 180, 0, 84, 42, 180, 0, 77, 27, 28, 29, 182, 1, 12, 180, 1, 16, 29, 46, 4, 42, 180, 0, 88]
abbrev dktX0_othersRight_0 : List UInt8 := dkwX0_othersRight_0 ++ dktX0_othersRight_1
theorem dksX0_othersRight_0 : cX0_othersRight.data.toList.drop 0 = dktX0_othersRight_0 := by decide +kernel
theorem dksX0_othersRight_1 : cX0_othersRight.data.toList.drop 24 = dktX0_othersRight_1 := dk_seg dksX0_othersRight_0 24 rfl rfl
theorem dX0_othersRight_0 : decode cX0_othersRight 0 = .ok (.aload_n 0, 1) := dk_42 (dk_at dksX0_othersRight_0 0 rfl rfl)
theorem dX0_othersRight_1 : decode cX0_othersRight 1 = .ok (.getfield 84, 3) := dk_180 0 84 (dk_at dksX0_othersRight_0 1 rfl rfl)
theorem dX0_othersRight_4 : decode cX0_othersRight 4 = .ok (.aload_n 0, 1) := dk_42 (dk_at dksX0_othersRight_0 4 rfl rfl)
theorem dX0_othersRight_5 : decode cX0_othersRight 5 = .ok (.getfield 77, 3) := dk_180 0 77 (dk_at dksX0_othersRight_0 5 rfl rfl)
theorem dX0_othersRight_8 : decode cX0_othersRight 8 = .ok (.iload_n 1, 1) := dk_27 (dk_at dksX0_othersRight_0 8 rfl rfl)
theorem dX0_othersRight_9 : decode cX0_othersRight 9 = .ok (.iload_n 2, 1) := dk_28 (dk_at dksX0_othersRight_0 9 rfl rfl)
theorem dX0_othersRight_10 : decode cX0_othersRight 10 = .ok (.iload_n 3, 1) := dk_29 (dk_at dksX0_othersRight_0 10 rfl rfl)
theorem dX0_othersRight_11 : decode cX0_othersRight 11 = .ok (.invokevirtual 268, 3) := dk_182 1 12 (dk_at dksX0_othersRight_0 11 rfl rfl)
theorem dX0_othersRight_14 : decode cX0_othersRight 14 = .ok (.getfield 272, 3) := dk_180 1 16 (dk_at dksX0_othersRight_0 14 rfl rfl)
theorem dX0_othersRight_17 : decode cX0_othersRight 17 = .ok (.iload_n 3, 1) := dk_29 (dk_at dksX0_othersRight_0 17 rfl rfl)
theorem dX0_othersRight_18 : decode cX0_othersRight 18 = .ok (.iaload, 1) := dk_46 (dk_at dksX0_othersRight_0 18 rfl rfl)
theorem dX0_othersRight_19 : decode cX0_othersRight 19 = .ok (.iconst 1, 1) := dk_4 (dk_at dksX0_othersRight_0 19 rfl rfl)
theorem dX0_othersRight_20 : decode cX0_othersRight 20 = .ok (.aload_n 0, 1) := dk_42 (dk_at dksX0_othersRight_0 20 rfl rfl)
theorem dX0_othersRight_21 : decode cX0_othersRight 21 = .ok (.getfield 88, 3) := dk_180 0 88 (dk_at dksX0_othersRight_0 21 rfl rfl)
theorem dX0_othersRight_24 : decode cX0_othersRight 24 = .ok (.getfield 211, 3) := dk_180 0 211 (dk_at dksX0_othersRight_1 0 rfl rfl)
theorem dX0_othersRight_27 : decode cX0_othersRight 27 = .ok (.ishl, 1) := dk_120 (dk_at dksX0_othersRight_1 3 rfl rfl)
theorem dX0_othersRight_28 : decode cX0_othersRight 28 = .ok (.iconst 1, 1) := dk_4 (dk_at dksX0_othersRight_1 4 rfl rfl)
theorem dX0_othersRight_29 : decode cX0_othersRight 29 = .ok (.isub, 1) := dk_100 (dk_at dksX0_othersRight_1 5 rfl rfl)
theorem dX0_othersRight_30 : decode cX0_othersRight 30 = .ok (.iand, 1) := dk_126 (dk_at dksX0_othersRight_1 6 rfl rfl)
theorem dX0_othersRight_31 : decode cX0_othersRight 31 = .ok (.invokestatic 308, 3) := dk_184 1 52 (dk_at dksX0_othersRight_1 7 rfl rfl)
theorem dX0_othersRight_34 : decode cX0_othersRight 34 = .ok (.ireturn, 1) := dk_172 (dk_at dksX0_othersRight_1 10 rfl rfl)
abbrev cX0_taught : ByteArray := prog_1_method_42_code
def yX0_taught : MethodName := ⟨RX0, "taught", "(II)I"⟩
def dkwX0_taught_1 : List UInt8 := [182, 1, 82, 172, 78, 42, 45, 182, 0, 169, 16, 10, 100, 172]
abbrev dktX0_taught_1 : List UInt8 := dkwX0_taught_1 ++ []
def dkwX0_taught_0 : List UInt8 := [42, 27, 182, 0, 218, 28, 133, 9, 20, 0, 123, 184, 0, 125, 16, 250, 184, 0, 116, 42, 27, 28]
abbrev dktX0_taught_0 : List UInt8 := dkwX0_taught_0 ++ dktX0_taught_1
theorem dksX0_taught_0 : cX0_taught.data.toList.drop 0 = dktX0_taught_0 := by decide +kernel
theorem dksX0_taught_1 : cX0_taught.data.toList.drop 22 = dktX0_taught_1 := dk_seg dksX0_taught_0 22 rfl rfl
theorem dX0_taught_0 : decode cX0_taught 0 = .ok (.aload_n 0, 1) := dk_42 (dk_at dksX0_taught_0 0 rfl rfl)
theorem dX0_taught_1 : decode cX0_taught 1 = .ok (.iload_n 1, 1) := dk_27 (dk_at dksX0_taught_0 1 rfl rfl)
theorem dX0_taught_2 : decode cX0_taught 2 = .ok (.invokevirtual 218, 3) := dk_182 0 218 (dk_at dksX0_taught_0 2 rfl rfl)
theorem dX0_taught_5 : decode cX0_taught 5 = .ok (.iload_n 2, 1) := dk_28 (dk_at dksX0_taught_0 5 rfl rfl)
theorem dX0_taught_6 : decode cX0_taught 6 = .ok (.i2l, 1) := dk_133 (dk_at dksX0_taught_0 6 rfl rfl)
theorem dX0_taught_7 : decode cX0_taught 7 = .ok (.lconst 0, 1) := dk_9 (dk_at dksX0_taught_0 7 rfl rfl)
theorem dX0_taught_8 : decode cX0_taught 8 = .ok (.ldc2_w 123, 3) := dk_20 0 123 (dk_at dksX0_taught_0 8 rfl rfl)
theorem dX0_taught_11 : decode cX0_taught 11 = .ok (.invokestatic 125, 3) := dk_184 0 125 (dk_at dksX0_taught_0 11 rfl rfl)
theorem dX0_taught_14 : decode cX0_taught 14 = .ok (.bipush (-6), 2) := dk_16 250 (dk_at dksX0_taught_0 14 rfl rfl)
theorem dX0_taught_16 : decode cX0_taught 16 = .ok (.invokestatic 116, 3) := dk_184 0 116 (dk_at dksX0_taught_0 16 rfl rfl)
theorem dX0_taught_19 : decode cX0_taught 19 = .ok (.aload_n 0, 1) := dk_42 (dk_at dksX0_taught_0 19 rfl rfl)
theorem dX0_taught_20 : decode cX0_taught 20 = .ok (.iload_n 1, 1) := dk_27 (dk_at dksX0_taught_0 20 rfl rfl)
theorem dX0_taught_21 : decode cX0_taught 21 = .ok (.iload_n 2, 1) := dk_28 (dk_at dksX0_taught_0 21 rfl rfl)
theorem dX0_taught_22 : decode cX0_taught 22 = .ok (.invokevirtual 338, 3) := dk_182 1 82 (dk_at dksX0_taught_1 0 rfl rfl)
theorem dX0_taught_25 : decode cX0_taught 25 = .ok (.ireturn, 1) := dk_172 (dk_at dksX0_taught_1 3 rfl rfl)
theorem dX0_taught_26 : decode cX0_taught 26 = .ok (.astore_n 3, 1) := dk_78 (dk_at dksX0_taught_1 4 rfl rfl)
theorem dX0_taught_27 : decode cX0_taught 27 = .ok (.aload_n 0, 1) := dk_42 (dk_at dksX0_taught_1 5 rfl rfl)
theorem dX0_taught_28 : decode cX0_taught 28 = .ok (.aload_n 3, 1) := dk_45 (dk_at dksX0_taught_1 6 rfl rfl)
theorem dX0_taught_29 : decode cX0_taught 29 = .ok (.invokevirtual 169, 3) := dk_182 0 169 (dk_at dksX0_taught_1 7 rfl rfl)
theorem dX0_taught_32 : decode cX0_taught 32 = .ok (.bipush 10, 2) := dk_16 10 (dk_at dksX0_taught_1 10 rfl rfl)
theorem dX0_taught_34 : decode cX0_taught 34 = .ok (.isub, 1) := dk_100 (dk_at dksX0_taught_1 12 rfl rfl)
theorem dX0_taught_35 : decode cX0_taught 35 = .ok (.ireturn, 1) := dk_172 (dk_at dksX0_taught_1 13 rfl rfl)
abbrev cX0_fewestTaught : ByteArray := prog_1_method_41_code
def yX0_fewestTaught : MethodName := ⟨RX0, "fewestTaught", "(II)I"⟩
def dkwX0_fewestTaught_2 : List UInt8 := [132, 4, 1, 167, 255, 216, 132, 3, 1, 167, 255, 202, 2, 172]
abbrev dktX0_fewestTaught_2 : List UInt8 := dkwX0_fewestTaught_2 ++ []
def dkwX0_fewestTaught_1 : List UInt8 := [21, 4, 184, 1, 52, 29, 160, 0, 17, 42, 21, 4, 27, 28, 182, 1, 78, 153, 0, 6, 21, 4, 172]
abbrev dktX0_fewestTaught_1 : List UInt8 := dkwX0_fewestTaught_1 ++ dktX0_fewestTaught_2
def dkwX0_fewestTaught_0 : List UInt8 := [3, 62, 29, 6, 163, 0, 55, 3, 54, 4, 21, 4, 4, 42, 180, 0, 88, 180, 0, 211, 120, 162, 0, 32]
abbrev dktX0_fewestTaught_0 : List UInt8 := dkwX0_fewestTaught_0 ++ dktX0_fewestTaught_1
theorem dksX0_fewestTaught_0 : cX0_fewestTaught.data.toList.drop 0 = dktX0_fewestTaught_0 := by decide +kernel
theorem dksX0_fewestTaught_1 : cX0_fewestTaught.data.toList.drop 24 = dktX0_fewestTaught_1 := dk_seg dksX0_fewestTaught_0 24 rfl rfl
theorem dksX0_fewestTaught_2 : cX0_fewestTaught.data.toList.drop 47 = dktX0_fewestTaught_2 := dk_seg dksX0_fewestTaught_1 23 rfl rfl
theorem dX0_fewestTaught_0 : decode cX0_fewestTaught 0 = .ok (.iconst 0, 1) := dk_3 (dk_at dksX0_fewestTaught_0 0 rfl rfl)
theorem dX0_fewestTaught_1 : decode cX0_fewestTaught 1 = .ok (.istore_n 3, 1) := dk_62 (dk_at dksX0_fewestTaught_0 1 rfl rfl)
theorem dX0_fewestTaught_2 : decode cX0_fewestTaught 2 = .ok (.iload_n 3, 1) := dk_29 (dk_at dksX0_fewestTaught_0 2 rfl rfl)
theorem dX0_fewestTaught_3 : decode cX0_fewestTaught 3 = .ok (.iconst 3, 1) := dk_6 (dk_at dksX0_fewestTaught_0 3 rfl rfl)
theorem dX0_fewestTaught_4 : decode cX0_fewestTaught 4 = .ok (.if_icmp .gt 55, 3) := dk_163 0 55 (dk_at dksX0_fewestTaught_0 4 rfl rfl)
theorem dX0_fewestTaught_7 : decode cX0_fewestTaught 7 = .ok (.iconst 0, 1) := dk_3 (dk_at dksX0_fewestTaught_0 7 rfl rfl)
theorem dX0_fewestTaught_8 : decode cX0_fewestTaught 8 = .ok (.istore 4, 2) := dk_54 4 (dk_at dksX0_fewestTaught_0 8 rfl rfl)
theorem dX0_fewestTaught_10 : decode cX0_fewestTaught 10 = .ok (.iload 4, 2) := dk_21 4 (dk_at dksX0_fewestTaught_0 10 rfl rfl)
theorem dX0_fewestTaught_12 : decode cX0_fewestTaught 12 = .ok (.iconst 1, 1) := dk_4 (dk_at dksX0_fewestTaught_0 12 rfl rfl)
theorem dX0_fewestTaught_13 : decode cX0_fewestTaught 13 = .ok (.aload_n 0, 1) := dk_42 (dk_at dksX0_fewestTaught_0 13 rfl rfl)
theorem dX0_fewestTaught_14 : decode cX0_fewestTaught 14 = .ok (.getfield 88, 3) := dk_180 0 88 (dk_at dksX0_fewestTaught_0 14 rfl rfl)
theorem dX0_fewestTaught_17 : decode cX0_fewestTaught 17 = .ok (.getfield 211, 3) := dk_180 0 211 (dk_at dksX0_fewestTaught_0 17 rfl rfl)
theorem dX0_fewestTaught_20 : decode cX0_fewestTaught 20 = .ok (.ishl, 1) := dk_120 (dk_at dksX0_fewestTaught_0 20 rfl rfl)
theorem dX0_fewestTaught_21 : decode cX0_fewestTaught 21 = .ok (.if_icmp .ge 32, 3) := dk_162 0 32 (dk_at dksX0_fewestTaught_0 21 rfl rfl)
theorem dX0_fewestTaught_24 : decode cX0_fewestTaught 24 = .ok (.iload 4, 2) := dk_21 4 (dk_at dksX0_fewestTaught_1 0 rfl rfl)
theorem dX0_fewestTaught_26 : decode cX0_fewestTaught 26 = .ok (.invokestatic 308, 3) := dk_184 1 52 (dk_at dksX0_fewestTaught_1 2 rfl rfl)
theorem dX0_fewestTaught_29 : decode cX0_fewestTaught 29 = .ok (.iload_n 3, 1) := dk_29 (dk_at dksX0_fewestTaught_1 5 rfl rfl)
theorem dX0_fewestTaught_30 : decode cX0_fewestTaught 30 = .ok (.if_icmp .ne 17, 3) := dk_160 0 17 (dk_at dksX0_fewestTaught_1 6 rfl rfl)
theorem dX0_fewestTaught_33 : decode cX0_fewestTaught 33 = .ok (.aload_n 0, 1) := dk_42 (dk_at dksX0_fewestTaught_1 9 rfl rfl)
theorem dX0_fewestTaught_34 : decode cX0_fewestTaught 34 = .ok (.iload 4, 2) := dk_21 4 (dk_at dksX0_fewestTaught_1 10 rfl rfl)
theorem dX0_fewestTaught_36 : decode cX0_fewestTaught 36 = .ok (.iload_n 1, 1) := dk_27 (dk_at dksX0_fewestTaught_1 12 rfl rfl)
theorem dX0_fewestTaught_37 : decode cX0_fewestTaught 37 = .ok (.iload_n 2, 1) := dk_28 (dk_at dksX0_fewestTaught_1 13 rfl rfl)
theorem dX0_fewestTaught_38 : decode cX0_fewestTaught 38 = .ok (.invokevirtual 334, 3) := dk_182 1 78 (dk_at dksX0_fewestTaught_1 14 rfl rfl)
theorem dX0_fewestTaught_41 : decode cX0_fewestTaught 41 = .ok (.ifCond .eq 6, 3) := dk_153 0 6 (dk_at dksX0_fewestTaught_1 17 rfl rfl)
theorem dX0_fewestTaught_44 : decode cX0_fewestTaught 44 = .ok (.iload 4, 2) := dk_21 4 (dk_at dksX0_fewestTaught_1 20 rfl rfl)
theorem dX0_fewestTaught_46 : decode cX0_fewestTaught 46 = .ok (.ireturn, 1) := dk_172 (dk_at dksX0_fewestTaught_1 22 rfl rfl)
theorem dX0_fewestTaught_47 : decode cX0_fewestTaught 47 = .ok (.iinc 4 1, 3) := dk_132 4 1 (dk_at dksX0_fewestTaught_2 0 rfl rfl)
theorem dX0_fewestTaught_50 : decode cX0_fewestTaught 50 = .ok (.goto (-40), 3) := dk_167 255 216 (dk_at dksX0_fewestTaught_2 3 rfl rfl)
theorem dX0_fewestTaught_53 : decode cX0_fewestTaught 53 = .ok (.iinc 3 1, 3) := dk_132 3 1 (dk_at dksX0_fewestTaught_2 6 rfl rfl)
theorem dX0_fewestTaught_56 : decode cX0_fewestTaught 56 = .ok (.goto (-54), 3) := dk_167 255 202 (dk_at dksX0_fewestTaught_2 9 rfl rfl)
theorem dX0_fewestTaught_59 : decode cX0_fewestTaught 59 = .ok (.iconst (-1), 1) := dk_2 (dk_at dksX0_fewestTaught_2 12 rfl rfl)
theorem dX0_fewestTaught_60 : decode cX0_fewestTaught 60 = .ok (.ireturn, 1) := dk_172 (dk_at dksX0_fewestTaught_2 13 rfl rfl)
abbrev cX0_catchesWith : ByteArray := prog_1_method_40_code
def yX0_catchesWith : MethodName := ⟨RX0, "catchesWith", "(III)Z"⟩
def dkwX0_catchesWith_3 : List UInt8 := [2, 159, 0, 7, 4, 167, 0, 4, 3, 172]
abbrev dktX0_catchesWith_3 : List UInt8 := dkwX0_catchesWith_3 ++ []
def dkwX0_catchesWith_2 : List UInt8 := [132, 4, 1, 167, 255, 220, 42, 180, 0, 84, 42, 180, 0, 77, 28, 29, 16, 43, 182, 1, 12, 182, 1, 37]
abbrev dktX0_catchesWith_2 : List UInt8 := dkwX0_catchesWith_2 ++ dktX0_catchesWith_3
def dkwX0_catchesWith_1 : List UInt8 := [162, 0, 30, 42, 180, 0, 77, 180, 0, 221, 21, 4, 92, 46, 27, 21, 4, 122, 4, 126, 28, 120, 128, 79]
abbrev dktX0_catchesWith_1 : List UInt8 := dkwX0_catchesWith_1 ++ dktX0_catchesWith_2
def dkwX0_catchesWith_0 : List UInt8 := [42, 180, 0, 77, 42, 180, 0, 88, 182, 0, 248, 87, 3, 54, 4, 21, 4, 42, 180, 0, 88, 180, 0, 211]
abbrev dktX0_catchesWith_0 : List UInt8 := dkwX0_catchesWith_0 ++ dktX0_catchesWith_1
theorem dksX0_catchesWith_0 : cX0_catchesWith.data.toList.drop 0 = dktX0_catchesWith_0 := by decide +kernel
theorem dksX0_catchesWith_1 : cX0_catchesWith.data.toList.drop 24 = dktX0_catchesWith_1 := dk_seg dksX0_catchesWith_0 24 rfl rfl
theorem dksX0_catchesWith_2 : cX0_catchesWith.data.toList.drop 48 = dktX0_catchesWith_2 := dk_seg dksX0_catchesWith_1 24 rfl rfl
theorem dksX0_catchesWith_3 : cX0_catchesWith.data.toList.drop 72 = dktX0_catchesWith_3 := dk_seg dksX0_catchesWith_2 24 rfl rfl
theorem dX0_catchesWith_0 : decode cX0_catchesWith 0 = .ok (.aload_n 0, 1) := dk_42 (dk_at dksX0_catchesWith_0 0 rfl rfl)
theorem dX0_catchesWith_1 : decode cX0_catchesWith 1 = .ok (.getfield 77, 3) := dk_180 0 77 (dk_at dksX0_catchesWith_0 1 rfl rfl)
theorem dX0_catchesWith_4 : decode cX0_catchesWith 4 = .ok (.aload_n 0, 1) := dk_42 (dk_at dksX0_catchesWith_0 4 rfl rfl)
theorem dX0_catchesWith_5 : decode cX0_catchesWith 5 = .ok (.getfield 88, 3) := dk_180 0 88 (dk_at dksX0_catchesWith_0 5 rfl rfl)
theorem dX0_catchesWith_8 : decode cX0_catchesWith 8 = .ok (.invokevirtual 248, 3) := dk_182 0 248 (dk_at dksX0_catchesWith_0 8 rfl rfl)
theorem dX0_catchesWith_11 : decode cX0_catchesWith 11 = .ok (.pop, 1) := dk_87 (dk_at dksX0_catchesWith_0 11 rfl rfl)
theorem dX0_catchesWith_12 : decode cX0_catchesWith 12 = .ok (.iconst 0, 1) := dk_3 (dk_at dksX0_catchesWith_0 12 rfl rfl)
theorem dX0_catchesWith_13 : decode cX0_catchesWith 13 = .ok (.istore 4, 2) := dk_54 4 (dk_at dksX0_catchesWith_0 13 rfl rfl)
theorem dX0_catchesWith_15 : decode cX0_catchesWith 15 = .ok (.iload 4, 2) := dk_21 4 (dk_at dksX0_catchesWith_0 15 rfl rfl)
theorem dX0_catchesWith_17 : decode cX0_catchesWith 17 = .ok (.aload_n 0, 1) := dk_42 (dk_at dksX0_catchesWith_0 17 rfl rfl)
theorem dX0_catchesWith_18 : decode cX0_catchesWith 18 = .ok (.getfield 88, 3) := dk_180 0 88 (dk_at dksX0_catchesWith_0 18 rfl rfl)
theorem dX0_catchesWith_21 : decode cX0_catchesWith 21 = .ok (.getfield 211, 3) := dk_180 0 211 (dk_at dksX0_catchesWith_0 21 rfl rfl)
theorem dX0_catchesWith_24 : decode cX0_catchesWith 24 = .ok (.if_icmp .ge 30, 3) := dk_162 0 30 (dk_at dksX0_catchesWith_1 0 rfl rfl)
theorem dX0_catchesWith_27 : decode cX0_catchesWith 27 = .ok (.aload_n 0, 1) := dk_42 (dk_at dksX0_catchesWith_1 3 rfl rfl)
theorem dX0_catchesWith_28 : decode cX0_catchesWith 28 = .ok (.getfield 77, 3) := dk_180 0 77 (dk_at dksX0_catchesWith_1 4 rfl rfl)
theorem dX0_catchesWith_31 : decode cX0_catchesWith 31 = .ok (.getfield 221, 3) := dk_180 0 221 (dk_at dksX0_catchesWith_1 7 rfl rfl)
theorem dX0_catchesWith_34 : decode cX0_catchesWith 34 = .ok (.iload 4, 2) := dk_21 4 (dk_at dksX0_catchesWith_1 10 rfl rfl)
theorem dX0_catchesWith_36 : decode cX0_catchesWith 36 = .ok (.dup2, 1) := dk_92 (dk_at dksX0_catchesWith_1 12 rfl rfl)
theorem dX0_catchesWith_37 : decode cX0_catchesWith 37 = .ok (.iaload, 1) := dk_46 (dk_at dksX0_catchesWith_1 13 rfl rfl)
theorem dX0_catchesWith_38 : decode cX0_catchesWith 38 = .ok (.iload_n 1, 1) := dk_27 (dk_at dksX0_catchesWith_1 14 rfl rfl)
theorem dX0_catchesWith_39 : decode cX0_catchesWith 39 = .ok (.iload 4, 2) := dk_21 4 (dk_at dksX0_catchesWith_1 15 rfl rfl)
theorem dX0_catchesWith_41 : decode cX0_catchesWith 41 = .ok (.ishr, 1) := dk_122 (dk_at dksX0_catchesWith_1 17 rfl rfl)
theorem dX0_catchesWith_42 : decode cX0_catchesWith 42 = .ok (.iconst 1, 1) := dk_4 (dk_at dksX0_catchesWith_1 18 rfl rfl)
theorem dX0_catchesWith_43 : decode cX0_catchesWith 43 = .ok (.iand, 1) := dk_126 (dk_at dksX0_catchesWith_1 19 rfl rfl)
theorem dX0_catchesWith_44 : decode cX0_catchesWith 44 = .ok (.iload_n 2, 1) := dk_28 (dk_at dksX0_catchesWith_1 20 rfl rfl)
theorem dX0_catchesWith_45 : decode cX0_catchesWith 45 = .ok (.ishl, 1) := dk_120 (dk_at dksX0_catchesWith_1 21 rfl rfl)
theorem dX0_catchesWith_46 : decode cX0_catchesWith 46 = .ok (.ior, 1) := dk_128 (dk_at dksX0_catchesWith_1 22 rfl rfl)
theorem dX0_catchesWith_47 : decode cX0_catchesWith 47 = .ok (.iastore, 1) := dk_79 (dk_at dksX0_catchesWith_1 23 rfl rfl)
theorem dX0_catchesWith_48 : decode cX0_catchesWith 48 = .ok (.iinc 4 1, 3) := dk_132 4 1 (dk_at dksX0_catchesWith_2 0 rfl rfl)
theorem dX0_catchesWith_51 : decode cX0_catchesWith 51 = .ok (.goto (-36), 3) := dk_167 255 220 (dk_at dksX0_catchesWith_2 3 rfl rfl)
theorem dX0_catchesWith_54 : decode cX0_catchesWith 54 = .ok (.aload_n 0, 1) := dk_42 (dk_at dksX0_catchesWith_2 6 rfl rfl)
theorem dX0_catchesWith_55 : decode cX0_catchesWith 55 = .ok (.getfield 84, 3) := dk_180 0 84 (dk_at dksX0_catchesWith_2 7 rfl rfl)
theorem dX0_catchesWith_58 : decode cX0_catchesWith 58 = .ok (.aload_n 0, 1) := dk_42 (dk_at dksX0_catchesWith_2 10 rfl rfl)
theorem dX0_catchesWith_59 : decode cX0_catchesWith 59 = .ok (.getfield 77, 3) := dk_180 0 77 (dk_at dksX0_catchesWith_2 11 rfl rfl)
theorem dX0_catchesWith_62 : decode cX0_catchesWith 62 = .ok (.iload_n 2, 1) := dk_28 (dk_at dksX0_catchesWith_2 14 rfl rfl)
theorem dX0_catchesWith_63 : decode cX0_catchesWith 63 = .ok (.iload_n 3, 1) := dk_29 (dk_at dksX0_catchesWith_2 15 rfl rfl)
theorem dX0_catchesWith_64 : decode cX0_catchesWith 64 = .ok (.bipush 43, 2) := dk_16 43 (dk_at dksX0_catchesWith_2 16 rfl rfl)
theorem dX0_catchesWith_66 : decode cX0_catchesWith 66 = .ok (.invokevirtual 268, 3) := dk_182 1 12 (dk_at dksX0_catchesWith_2 18 rfl rfl)
theorem dX0_catchesWith_69 : decode cX0_catchesWith 69 = .ok (.invokevirtual 293, 3) := dk_182 1 37 (dk_at dksX0_catchesWith_2 21 rfl rfl)
theorem dX0_catchesWith_72 : decode cX0_catchesWith 72 = .ok (.iconst (-1), 1) := dk_2 (dk_at dksX0_catchesWith_3 0 rfl rfl)
theorem dX0_catchesWith_73 : decode cX0_catchesWith 73 = .ok (.if_icmp .eq 7, 3) := dk_159 0 7 (dk_at dksX0_catchesWith_3 1 rfl rfl)
theorem dX0_catchesWith_76 : decode cX0_catchesWith 76 = .ok (.iconst 1, 1) := dk_4 (dk_at dksX0_catchesWith_3 4 rfl rfl)
theorem dX0_catchesWith_77 : decode cX0_catchesWith 77 = .ok (.goto 4, 3) := dk_167 0 4 (dk_at dksX0_catchesWith_3 5 rfl rfl)
theorem dX0_catchesWith_80 : decode cX0_catchesWith 80 = .ok (.iconst 0, 1) := dk_3 (dk_at dksX0_catchesWith_3 8 rfl rfl)
theorem dX0_catchesWith_81 : decode cX0_catchesWith 81 = .ok (.ireturn, 1) := dk_172 (dk_at dksX0_catchesWith_3 9 rfl rfl)
abbrev cX0_helps : ByteArray := prog_1_method_43_code
def yX0_helps : MethodName := ⟨RX0, "helps", "(IIII)I"⟩
def dkwX0_helps_4 : List UInt8 := [100, 172]
abbrev dktX0_helps_4 : List UInt8 := dkwX0_helps_4 ++ []
def dkwX0_helps_3 : List UInt8 := [180, 1, 16, 21, 4, 46, 21, 5, 126, 184, 1, 52, 100, 172, 58, 5, 42, 25, 5, 182, 0, 169, 16, 100]
abbrev dktX0_helps_3 : List UInt8 := dkwX0_helps_3 ++ dktX0_helps_4
def dkwX0_helps_2 : List UInt8 := [184, 1, 52, 54, 6, 21, 6, 42, 180, 0, 84, 42, 180, 0, 88, 28, 29, 21, 4, 27, 182, 1, 85]
abbrev dktX0_helps_2 : List UInt8 := dkwX0_helps_2 ++ dktX0_helps_3
def dkwX0_helps_1 : List UInt8 := [180, 0, 84, 42, 180, 0, 88, 28, 29, 21, 4, 182, 1, 12, 180, 1, 16, 21, 4, 46, 21, 5, 126]
abbrev dktX0_helps_1 : List UInt8 := dkwX0_helps_1 ++ dktX0_helps_2
def dkwX0_helps_0 : List UInt8 := [42, 27, 182, 0, 189, 42, 28, 182, 0, 218, 29, 21, 4, 184, 1, 8, 4, 27, 120, 2, 130, 54, 5, 42]
abbrev dktX0_helps_0 : List UInt8 := dkwX0_helps_0 ++ dktX0_helps_1
theorem dksX0_helps_0 : cX0_helps.data.toList.drop 0 = dktX0_helps_0 := by decide +kernel
theorem dksX0_helps_1 : cX0_helps.data.toList.drop 24 = dktX0_helps_1 := dk_seg dksX0_helps_0 24 rfl rfl
theorem dksX0_helps_2 : cX0_helps.data.toList.drop 47 = dktX0_helps_2 := dk_seg dksX0_helps_1 23 rfl rfl
theorem dksX0_helps_3 : cX0_helps.data.toList.drop 70 = dktX0_helps_3 := dk_seg dksX0_helps_2 23 rfl rfl
theorem dksX0_helps_4 : cX0_helps.data.toList.drop 94 = dktX0_helps_4 := dk_seg dksX0_helps_3 24 rfl rfl
theorem dX0_helps_0 : decode cX0_helps 0 = .ok (.aload_n 0, 1) := dk_42 (dk_at dksX0_helps_0 0 rfl rfl)
theorem dX0_helps_1 : decode cX0_helps 1 = .ok (.iload_n 1, 1) := dk_27 (dk_at dksX0_helps_0 1 rfl rfl)
theorem dX0_helps_2 : decode cX0_helps 2 = .ok (.invokevirtual 189, 3) := dk_182 0 189 (dk_at dksX0_helps_0 2 rfl rfl)
theorem dX0_helps_5 : decode cX0_helps 5 = .ok (.aload_n 0, 1) := dk_42 (dk_at dksX0_helps_0 5 rfl rfl)
theorem dX0_helps_6 : decode cX0_helps 6 = .ok (.iload_n 2, 1) := dk_28 (dk_at dksX0_helps_0 6 rfl rfl)
theorem dX0_helps_7 : decode cX0_helps 7 = .ok (.invokevirtual 218, 3) := dk_182 0 218 (dk_at dksX0_helps_0 7 rfl rfl)
theorem dX0_helps_10 : decode cX0_helps 10 = .ok (.iload_n 3, 1) := dk_29 (dk_at dksX0_helps_0 10 rfl rfl)
theorem dX0_helps_11 : decode cX0_helps 11 = .ok (.iload 4, 2) := dk_21 4 (dk_at dksX0_helps_0 11 rfl rfl)
theorem dX0_helps_13 : decode cX0_helps 13 = .ok (.invokestatic 264, 3) := dk_184 1 8 (dk_at dksX0_helps_0 13 rfl rfl)
theorem dX0_helps_16 : decode cX0_helps 16 = .ok (.iconst 1, 1) := dk_4 (dk_at dksX0_helps_0 16 rfl rfl)
theorem dX0_helps_17 : decode cX0_helps 17 = .ok (.iload_n 1, 1) := dk_27 (dk_at dksX0_helps_0 17 rfl rfl)
theorem dX0_helps_18 : decode cX0_helps 18 = .ok (.ishl, 1) := dk_120 (dk_at dksX0_helps_0 18 rfl rfl)
theorem dX0_helps_19 : decode cX0_helps 19 = .ok (.iconst (-1), 1) := dk_2 (dk_at dksX0_helps_0 19 rfl rfl)
theorem dX0_helps_20 : decode cX0_helps 20 = .ok (.ixor, 1) := dk_130 (dk_at dksX0_helps_0 20 rfl rfl)
theorem dX0_helps_21 : decode cX0_helps 21 = .ok (.istore 5, 2) := dk_54 5 (dk_at dksX0_helps_0 21 rfl rfl)
theorem dX0_helps_23 : decode cX0_helps 23 = .ok (.aload_n 0, 1) := dk_42 (dk_at dksX0_helps_0 23 rfl rfl)
theorem dX0_helps_24 : decode cX0_helps 24 = .ok (.getfield 84, 3) := dk_180 0 84 (dk_at dksX0_helps_1 0 rfl rfl)
theorem dX0_helps_27 : decode cX0_helps 27 = .ok (.aload_n 0, 1) := dk_42 (dk_at dksX0_helps_1 3 rfl rfl)
theorem dX0_helps_28 : decode cX0_helps 28 = .ok (.getfield 88, 3) := dk_180 0 88 (dk_at dksX0_helps_1 4 rfl rfl)
theorem dX0_helps_31 : decode cX0_helps 31 = .ok (.iload_n 2, 1) := dk_28 (dk_at dksX0_helps_1 7 rfl rfl)
theorem dX0_helps_32 : decode cX0_helps 32 = .ok (.iload_n 3, 1) := dk_29 (dk_at dksX0_helps_1 8 rfl rfl)
theorem dX0_helps_33 : decode cX0_helps 33 = .ok (.iload 4, 2) := dk_21 4 (dk_at dksX0_helps_1 9 rfl rfl)
theorem dX0_helps_35 : decode cX0_helps 35 = .ok (.invokevirtual 268, 3) := dk_182 1 12 (dk_at dksX0_helps_1 11 rfl rfl)
theorem dX0_helps_38 : decode cX0_helps 38 = .ok (.getfield 272, 3) := dk_180 1 16 (dk_at dksX0_helps_1 14 rfl rfl)
theorem dX0_helps_41 : decode cX0_helps 41 = .ok (.iload 4, 2) := dk_21 4 (dk_at dksX0_helps_1 17 rfl rfl)
theorem dX0_helps_43 : decode cX0_helps 43 = .ok (.iaload, 1) := dk_46 (dk_at dksX0_helps_1 19 rfl rfl)
theorem dX0_helps_44 : decode cX0_helps 44 = .ok (.iload 5, 2) := dk_21 5 (dk_at dksX0_helps_1 20 rfl rfl)
theorem dX0_helps_46 : decode cX0_helps 46 = .ok (.iand, 1) := dk_126 (dk_at dksX0_helps_1 22 rfl rfl)
theorem dX0_helps_47 : decode cX0_helps 47 = .ok (.invokestatic 308, 3) := dk_184 1 52 (dk_at dksX0_helps_2 0 rfl rfl)
theorem dX0_helps_50 : decode cX0_helps 50 = .ok (.istore 6, 2) := dk_54 6 (dk_at dksX0_helps_2 3 rfl rfl)
theorem dX0_helps_52 : decode cX0_helps 52 = .ok (.iload 6, 2) := dk_21 6 (dk_at dksX0_helps_2 5 rfl rfl)
theorem dX0_helps_54 : decode cX0_helps 54 = .ok (.aload_n 0, 1) := dk_42 (dk_at dksX0_helps_2 7 rfl rfl)
theorem dX0_helps_55 : decode cX0_helps 55 = .ok (.getfield 84, 3) := dk_180 0 84 (dk_at dksX0_helps_2 8 rfl rfl)
theorem dX0_helps_58 : decode cX0_helps 58 = .ok (.aload_n 0, 1) := dk_42 (dk_at dksX0_helps_2 11 rfl rfl)
theorem dX0_helps_59 : decode cX0_helps 59 = .ok (.getfield 88, 3) := dk_180 0 88 (dk_at dksX0_helps_2 12 rfl rfl)
theorem dX0_helps_62 : decode cX0_helps 62 = .ok (.iload_n 2, 1) := dk_28 (dk_at dksX0_helps_2 15 rfl rfl)
theorem dX0_helps_63 : decode cX0_helps 63 = .ok (.iload_n 3, 1) := dk_29 (dk_at dksX0_helps_2 16 rfl rfl)
theorem dX0_helps_64 : decode cX0_helps 64 = .ok (.iload 4, 2) := dk_21 4 (dk_at dksX0_helps_2 17 rfl rfl)
theorem dX0_helps_66 : decode cX0_helps 66 = .ok (.iload_n 1, 1) := dk_27 (dk_at dksX0_helps_2 19 rfl rfl)
theorem dX0_helps_67 : decode cX0_helps 67 = .ok (.invokevirtual 341, 3) := dk_182 1 85 (dk_at dksX0_helps_2 20 rfl rfl)
theorem dX0_helps_70 : decode cX0_helps 70 = .ok (.getfield 272, 3) := dk_180 1 16 (dk_at dksX0_helps_3 0 rfl rfl)
theorem dX0_helps_73 : decode cX0_helps 73 = .ok (.iload 4, 2) := dk_21 4 (dk_at dksX0_helps_3 3 rfl rfl)
theorem dX0_helps_75 : decode cX0_helps 75 = .ok (.iaload, 1) := dk_46 (dk_at dksX0_helps_3 5 rfl rfl)
theorem dX0_helps_76 : decode cX0_helps 76 = .ok (.iload 5, 2) := dk_21 5 (dk_at dksX0_helps_3 6 rfl rfl)
theorem dX0_helps_78 : decode cX0_helps 78 = .ok (.iand, 1) := dk_126 (dk_at dksX0_helps_3 8 rfl rfl)
theorem dX0_helps_79 : decode cX0_helps 79 = .ok (.invokestatic 308, 3) := dk_184 1 52 (dk_at dksX0_helps_3 9 rfl rfl)
theorem dX0_helps_82 : decode cX0_helps 82 = .ok (.isub, 1) := dk_100 (dk_at dksX0_helps_3 12 rfl rfl)
theorem dX0_helps_83 : decode cX0_helps 83 = .ok (.ireturn, 1) := dk_172 (dk_at dksX0_helps_3 13 rfl rfl)
theorem dX0_helps_84 : decode cX0_helps 84 = .ok (.astore 5, 2) := dk_58 5 (dk_at dksX0_helps_3 14 rfl rfl)
theorem dX0_helps_86 : decode cX0_helps 86 = .ok (.aload_n 0, 1) := dk_42 (dk_at dksX0_helps_3 16 rfl rfl)
theorem dX0_helps_87 : decode cX0_helps 87 = .ok (.aload 5, 2) := dk_25 5 (dk_at dksX0_helps_3 17 rfl rfl)
theorem dX0_helps_89 : decode cX0_helps 89 = .ok (.invokevirtual 169, 3) := dk_182 0 169 (dk_at dksX0_helps_3 19 rfl rfl)
theorem dX0_helps_92 : decode cX0_helps 92 = .ok (.bipush 100, 2) := dk_16 100 (dk_at dksX0_helps_3 22 rfl rfl)
theorem dX0_helps_94 : decode cX0_helps 94 = .ok (.isub, 1) := dk_100 (dk_at dksX0_helps_4 0 rfl rfl)
theorem dX0_helps_95 : decode cX0_helps 95 = .ok (.ireturn, 1) := dk_172 (dk_at dksX0_helps_4 1 rfl rfl)
abbrev cX0_late : ByteArray := prog_1_method_45_code
def yX0_late : MethodName := ⟨RX0, "late", "(II)I"⟩
def dkwX0_late_2 : List UInt8 := [182, 0, 169, 172]
abbrev dktX0_late_2 : List UInt8 := dkwX0_late_2 ++ []
def dkwX0_late_1 : List UInt8 := [153, 0, 7, 4, 167, 0, 4, 3, 16, 250, 184, 0, 116, 42, 27, 28, 182, 1, 90, 172, 78, 42, 45]
abbrev dktX0_late_1 : List UInt8 := dkwX0_late_1 ++ dktX0_late_2
def dkwX0_late_0 : List UInt8 := [27, 133, 9, 20, 1, 88, 184, 0, 125, 153, 0, 21, 28, 133, 20, 1, 72, 20, 0, 206, 184, 0, 125]
abbrev dktX0_late_0 : List UInt8 := dkwX0_late_0 ++ dktX0_late_1
theorem dksX0_late_0 : cX0_late.data.toList.drop 0 = dktX0_late_0 := by decide +kernel
theorem dksX0_late_1 : cX0_late.data.toList.drop 23 = dktX0_late_1 := dk_seg dksX0_late_0 23 rfl rfl
theorem dksX0_late_2 : cX0_late.data.toList.drop 46 = dktX0_late_2 := dk_seg dksX0_late_1 23 rfl rfl
theorem dX0_late_0 : decode cX0_late 0 = .ok (.iload_n 1, 1) := dk_27 (dk_at dksX0_late_0 0 rfl rfl)
theorem dX0_late_1 : decode cX0_late 1 = .ok (.i2l, 1) := dk_133 (dk_at dksX0_late_0 1 rfl rfl)
theorem dX0_late_2 : decode cX0_late 2 = .ok (.lconst 0, 1) := dk_9 (dk_at dksX0_late_0 2 rfl rfl)
theorem dX0_late_3 : decode cX0_late 3 = .ok (.ldc2_w 344, 3) := dk_20 1 88 (dk_at dksX0_late_0 3 rfl rfl)
theorem dX0_late_6 : decode cX0_late 6 = .ok (.invokestatic 125, 3) := dk_184 0 125 (dk_at dksX0_late_0 6 rfl rfl)
theorem dX0_late_9 : decode cX0_late 9 = .ok (.ifCond .eq 21, 3) := dk_153 0 21 (dk_at dksX0_late_0 9 rfl rfl)
theorem dX0_late_12 : decode cX0_late 12 = .ok (.iload_n 2, 1) := dk_28 (dk_at dksX0_late_0 12 rfl rfl)
theorem dX0_late_13 : decode cX0_late 13 = .ok (.i2l, 1) := dk_133 (dk_at dksX0_late_0 13 rfl rfl)
theorem dX0_late_14 : decode cX0_late 14 = .ok (.ldc2_w 328, 3) := dk_20 1 72 (dk_at dksX0_late_0 14 rfl rfl)
theorem dX0_late_17 : decode cX0_late 17 = .ok (.ldc2_w 206, 3) := dk_20 0 206 (dk_at dksX0_late_0 17 rfl rfl)
theorem dX0_late_20 : decode cX0_late 20 = .ok (.invokestatic 125, 3) := dk_184 0 125 (dk_at dksX0_late_0 20 rfl rfl)
theorem dX0_late_23 : decode cX0_late 23 = .ok (.ifCond .eq 7, 3) := dk_153 0 7 (dk_at dksX0_late_1 0 rfl rfl)
theorem dX0_late_26 : decode cX0_late 26 = .ok (.iconst 1, 1) := dk_4 (dk_at dksX0_late_1 3 rfl rfl)
theorem dX0_late_27 : decode cX0_late 27 = .ok (.goto 4, 3) := dk_167 0 4 (dk_at dksX0_late_1 4 rfl rfl)
theorem dX0_late_30 : decode cX0_late 30 = .ok (.iconst 0, 1) := dk_3 (dk_at dksX0_late_1 7 rfl rfl)
theorem dX0_late_31 : decode cX0_late 31 = .ok (.bipush (-6), 2) := dk_16 250 (dk_at dksX0_late_1 8 rfl rfl)
theorem dX0_late_33 : decode cX0_late 33 = .ok (.invokestatic 116, 3) := dk_184 0 116 (dk_at dksX0_late_1 10 rfl rfl)
theorem dX0_late_36 : decode cX0_late 36 = .ok (.aload_n 0, 1) := dk_42 (dk_at dksX0_late_1 13 rfl rfl)
theorem dX0_late_37 : decode cX0_late 37 = .ok (.iload_n 1, 1) := dk_27 (dk_at dksX0_late_1 14 rfl rfl)
theorem dX0_late_38 : decode cX0_late 38 = .ok (.iload_n 2, 1) := dk_28 (dk_at dksX0_late_1 15 rfl rfl)
theorem dX0_late_39 : decode cX0_late 39 = .ok (.invokevirtual 346, 3) := dk_182 1 90 (dk_at dksX0_late_1 16 rfl rfl)
theorem dX0_late_42 : decode cX0_late 42 = .ok (.ireturn, 1) := dk_172 (dk_at dksX0_late_1 19 rfl rfl)
theorem dX0_late_43 : decode cX0_late 43 = .ok (.astore_n 3, 1) := dk_78 (dk_at dksX0_late_1 20 rfl rfl)
theorem dX0_late_44 : decode cX0_late 44 = .ok (.aload_n 0, 1) := dk_42 (dk_at dksX0_late_1 21 rfl rfl)
theorem dX0_late_45 : decode cX0_late 45 = .ok (.aload_n 3, 1) := dk_45 (dk_at dksX0_late_1 22 rfl rfl)
theorem dX0_late_46 : decode cX0_late 46 = .ok (.invokevirtual 169, 3) := dk_182 0 169 (dk_at dksX0_late_2 0 rfl rfl)
theorem dX0_late_49 : decode cX0_late 49 = .ok (.ireturn, 1) := dk_172 (dk_at dksX0_late_2 3 rfl rfl)
abbrev cX0_lateBy : ByteArray := prog_1_method_44_code
def yX0_lateBy : MethodName := ⟨RX0, "lateBy", "(II)I"⟩
def dkwX0_lateBy_0 : List UInt8 := [3, 42, 180, 0, 88, 180, 0, 227, 3, 28, 184, 1, 46, 100, 184, 1, 46, 27, 104, 172]
abbrev dktX0_lateBy_0 : List UInt8 := dkwX0_lateBy_0 ++ []
theorem dksX0_lateBy_0 : cX0_lateBy.data.toList.drop 0 = dktX0_lateBy_0 := by decide +kernel
theorem dX0_lateBy_0 : decode cX0_lateBy 0 = .ok (.iconst 0, 1) := dk_3 (dk_at dksX0_lateBy_0 0 rfl rfl)
theorem dX0_lateBy_1 : decode cX0_lateBy 1 = .ok (.aload_n 0, 1) := dk_42 (dk_at dksX0_lateBy_0 1 rfl rfl)
theorem dX0_lateBy_2 : decode cX0_lateBy 2 = .ok (.getfield 88, 3) := dk_180 0 88 (dk_at dksX0_lateBy_0 2 rfl rfl)
theorem dX0_lateBy_5 : decode cX0_lateBy 5 = .ok (.getfield 227, 3) := dk_180 0 227 (dk_at dksX0_lateBy_0 5 rfl rfl)
theorem dX0_lateBy_8 : decode cX0_lateBy 8 = .ok (.iconst 0, 1) := dk_3 (dk_at dksX0_lateBy_0 8 rfl rfl)
theorem dX0_lateBy_9 : decode cX0_lateBy 9 = .ok (.iload_n 2, 1) := dk_28 (dk_at dksX0_lateBy_0 9 rfl rfl)
theorem dX0_lateBy_10 : decode cX0_lateBy 10 = .ok (.invokestatic 302, 3) := dk_184 1 46 (dk_at dksX0_lateBy_0 10 rfl rfl)
theorem dX0_lateBy_13 : decode cX0_lateBy 13 = .ok (.isub, 1) := dk_100 (dk_at dksX0_lateBy_0 13 rfl rfl)
theorem dX0_lateBy_14 : decode cX0_lateBy 14 = .ok (.invokestatic 302, 3) := dk_184 1 46 (dk_at dksX0_lateBy_0 14 rfl rfl)
theorem dX0_lateBy_17 : decode cX0_lateBy 17 = .ok (.iload_n 1, 1) := dk_27 (dk_at dksX0_lateBy_0 17 rfl rfl)
theorem dX0_lateBy_18 : decode cX0_lateBy 18 = .ok (.imul, 1) := dk_104 (dk_at dksX0_lateBy_0 18 rfl rfl)
theorem dX0_lateBy_19 : decode cX0_lateBy 19 = .ok (.ireturn, 1) := dk_172 (dk_at dksX0_lateBy_0 19 rfl rfl)
abbrev cX0_ahead : ByteArray := prog_1_method_46_code
def yX0_ahead : MethodName := ⟨RX0, "ahead", "(II)I"⟩
def dkwX0_ahead_3 : List UInt8 := [45, 182, 0, 169, 16, 10, 100, 172]
abbrev dktX0_ahead_3 : List UInt8 := dkwX0_ahead_3 ++ []
def dkwX0_ahead_2 : List UInt8 := [28, 164, 0, 9, 132, 3, 1, 167, 255, 237, 29, 16, 9, 163, 0, 7, 29, 167, 0, 4, 2, 172, 78, 42]
abbrev dktX0_ahead_2 : List UInt8 := dkwX0_ahead_2 ++ dktX0_ahead_3
def dkwX0_ahead_1 : List UInt8 := [4, 167, 0, 4, 3, 16, 250, 184, 0, 116, 3, 62, 29, 16, 9, 163, 0, 19, 42, 27, 29, 182, 1, 90]
abbrev dktX0_ahead_1 : List UInt8 := dkwX0_ahead_1 ++ dktX0_ahead_2
def dkwX0_ahead_0 : List UInt8 := [27, 133, 9, 20, 1, 88, 184, 0, 125, 153, 0, 19, 28, 133, 9, 20, 1, 88, 184, 0, 125, 153, 0, 7]
abbrev dktX0_ahead_0 : List UInt8 := dkwX0_ahead_0 ++ dktX0_ahead_1
theorem dksX0_ahead_0 : cX0_ahead.data.toList.drop 0 = dktX0_ahead_0 := by decide +kernel
theorem dksX0_ahead_1 : cX0_ahead.data.toList.drop 24 = dktX0_ahead_1 := dk_seg dksX0_ahead_0 24 rfl rfl
theorem dksX0_ahead_2 : cX0_ahead.data.toList.drop 48 = dktX0_ahead_2 := dk_seg dksX0_ahead_1 24 rfl rfl
theorem dksX0_ahead_3 : cX0_ahead.data.toList.drop 72 = dktX0_ahead_3 := dk_seg dksX0_ahead_2 24 rfl rfl
theorem dX0_ahead_0 : decode cX0_ahead 0 = .ok (.iload_n 1, 1) := dk_27 (dk_at dksX0_ahead_0 0 rfl rfl)
theorem dX0_ahead_1 : decode cX0_ahead 1 = .ok (.i2l, 1) := dk_133 (dk_at dksX0_ahead_0 1 rfl rfl)
theorem dX0_ahead_2 : decode cX0_ahead 2 = .ok (.lconst 0, 1) := dk_9 (dk_at dksX0_ahead_0 2 rfl rfl)
theorem dX0_ahead_3 : decode cX0_ahead 3 = .ok (.ldc2_w 344, 3) := dk_20 1 88 (dk_at dksX0_ahead_0 3 rfl rfl)
theorem dX0_ahead_6 : decode cX0_ahead 6 = .ok (.invokestatic 125, 3) := dk_184 0 125 (dk_at dksX0_ahead_0 6 rfl rfl)
theorem dX0_ahead_9 : decode cX0_ahead 9 = .ok (.ifCond .eq 19, 3) := dk_153 0 19 (dk_at dksX0_ahead_0 9 rfl rfl)
theorem dX0_ahead_12 : decode cX0_ahead 12 = .ok (.iload_n 2, 1) := dk_28 (dk_at dksX0_ahead_0 12 rfl rfl)
theorem dX0_ahead_13 : decode cX0_ahead 13 = .ok (.i2l, 1) := dk_133 (dk_at dksX0_ahead_0 13 rfl rfl)
theorem dX0_ahead_14 : decode cX0_ahead 14 = .ok (.lconst 0, 1) := dk_9 (dk_at dksX0_ahead_0 14 rfl rfl)
theorem dX0_ahead_15 : decode cX0_ahead 15 = .ok (.ldc2_w 344, 3) := dk_20 1 88 (dk_at dksX0_ahead_0 15 rfl rfl)
theorem dX0_ahead_18 : decode cX0_ahead 18 = .ok (.invokestatic 125, 3) := dk_184 0 125 (dk_at dksX0_ahead_0 18 rfl rfl)
theorem dX0_ahead_21 : decode cX0_ahead 21 = .ok (.ifCond .eq 7, 3) := dk_153 0 7 (dk_at dksX0_ahead_0 21 rfl rfl)
theorem dX0_ahead_24 : decode cX0_ahead 24 = .ok (.iconst 1, 1) := dk_4 (dk_at dksX0_ahead_1 0 rfl rfl)
theorem dX0_ahead_25 : decode cX0_ahead 25 = .ok (.goto 4, 3) := dk_167 0 4 (dk_at dksX0_ahead_1 1 rfl rfl)
theorem dX0_ahead_28 : decode cX0_ahead 28 = .ok (.iconst 0, 1) := dk_3 (dk_at dksX0_ahead_1 4 rfl rfl)
theorem dX0_ahead_29 : decode cX0_ahead 29 = .ok (.bipush (-6), 2) := dk_16 250 (dk_at dksX0_ahead_1 5 rfl rfl)
theorem dX0_ahead_31 : decode cX0_ahead 31 = .ok (.invokestatic 116, 3) := dk_184 0 116 (dk_at dksX0_ahead_1 7 rfl rfl)
theorem dX0_ahead_34 : decode cX0_ahead 34 = .ok (.iconst 0, 1) := dk_3 (dk_at dksX0_ahead_1 10 rfl rfl)
theorem dX0_ahead_35 : decode cX0_ahead 35 = .ok (.istore_n 3, 1) := dk_62 (dk_at dksX0_ahead_1 11 rfl rfl)
theorem dX0_ahead_36 : decode cX0_ahead 36 = .ok (.iload_n 3, 1) := dk_29 (dk_at dksX0_ahead_1 12 rfl rfl)
theorem dX0_ahead_37 : decode cX0_ahead 37 = .ok (.bipush 9, 2) := dk_16 9 (dk_at dksX0_ahead_1 13 rfl rfl)
theorem dX0_ahead_39 : decode cX0_ahead 39 = .ok (.if_icmp .gt 19, 3) := dk_163 0 19 (dk_at dksX0_ahead_1 15 rfl rfl)
theorem dX0_ahead_42 : decode cX0_ahead 42 = .ok (.aload_n 0, 1) := dk_42 (dk_at dksX0_ahead_1 18 rfl rfl)
theorem dX0_ahead_43 : decode cX0_ahead 43 = .ok (.iload_n 1, 1) := dk_27 (dk_at dksX0_ahead_1 19 rfl rfl)
theorem dX0_ahead_44 : decode cX0_ahead 44 = .ok (.iload_n 3, 1) := dk_29 (dk_at dksX0_ahead_1 20 rfl rfl)
theorem dX0_ahead_45 : decode cX0_ahead 45 = .ok (.invokevirtual 346, 3) := dk_182 1 90 (dk_at dksX0_ahead_1 21 rfl rfl)
theorem dX0_ahead_48 : decode cX0_ahead 48 = .ok (.iload_n 2, 1) := dk_28 (dk_at dksX0_ahead_2 0 rfl rfl)
theorem dX0_ahead_49 : decode cX0_ahead 49 = .ok (.if_icmp .le 9, 3) := dk_164 0 9 (dk_at dksX0_ahead_2 1 rfl rfl)
theorem dX0_ahead_52 : decode cX0_ahead 52 = .ok (.iinc 3 1, 3) := dk_132 3 1 (dk_at dksX0_ahead_2 4 rfl rfl)
theorem dX0_ahead_55 : decode cX0_ahead 55 = .ok (.goto (-19), 3) := dk_167 255 237 (dk_at dksX0_ahead_2 7 rfl rfl)
theorem dX0_ahead_58 : decode cX0_ahead 58 = .ok (.iload_n 3, 1) := dk_29 (dk_at dksX0_ahead_2 10 rfl rfl)
theorem dX0_ahead_59 : decode cX0_ahead 59 = .ok (.bipush 9, 2) := dk_16 9 (dk_at dksX0_ahead_2 11 rfl rfl)
theorem dX0_ahead_61 : decode cX0_ahead 61 = .ok (.if_icmp .gt 7, 3) := dk_163 0 7 (dk_at dksX0_ahead_2 13 rfl rfl)
theorem dX0_ahead_64 : decode cX0_ahead 64 = .ok (.iload_n 3, 1) := dk_29 (dk_at dksX0_ahead_2 16 rfl rfl)
theorem dX0_ahead_65 : decode cX0_ahead 65 = .ok (.goto 4, 3) := dk_167 0 4 (dk_at dksX0_ahead_2 17 rfl rfl)
theorem dX0_ahead_68 : decode cX0_ahead 68 = .ok (.iconst (-1), 1) := dk_2 (dk_at dksX0_ahead_2 20 rfl rfl)
theorem dX0_ahead_69 : decode cX0_ahead 69 = .ok (.ireturn, 1) := dk_172 (dk_at dksX0_ahead_2 21 rfl rfl)
theorem dX0_ahead_70 : decode cX0_ahead 70 = .ok (.astore_n 3, 1) := dk_78 (dk_at dksX0_ahead_2 22 rfl rfl)
theorem dX0_ahead_71 : decode cX0_ahead 71 = .ok (.aload_n 0, 1) := dk_42 (dk_at dksX0_ahead_2 23 rfl rfl)
theorem dX0_ahead_72 : decode cX0_ahead 72 = .ok (.aload_n 3, 1) := dk_45 (dk_at dksX0_ahead_3 0 rfl rfl)
theorem dX0_ahead_73 : decode cX0_ahead 73 = .ok (.invokevirtual 169, 3) := dk_182 0 169 (dk_at dksX0_ahead_3 1 rfl rfl)
theorem dX0_ahead_76 : decode cX0_ahead 76 = .ok (.bipush 10, 2) := dk_16 10 (dk_at dksX0_ahead_3 4 rfl rfl)
theorem dX0_ahead_78 : decode cX0_ahead 78 = .ok (.isub, 1) := dk_100 (dk_at dksX0_ahead_3 6 rfl rfl)
theorem dX0_ahead_79 : decode cX0_ahead 79 = .ok (.ireturn, 1) := dk_172 (dk_at dksX0_ahead_3 7 rfl rfl)
abbrev cX0_fits : ByteArray := prog_1_method_49_code
def yX0_fits : MethodName := ⟨RX0, "fits", "(III)I"⟩
def dkwX0_fits_4 : List UInt8 := [167, 255, 211, 21, 5, 172, 58, 4, 42, 25, 4, 182, 0, 169, 172]
abbrev dktX0_fits_4 : List UInt8 := dkwX0_fits_4 ++ []
def dkwX0_fits_3 : List UInt8 := [21, 6, 29, 182, 1, 102, 153, 0, 10, 4, 21, 6, 120, 167, 0, 4, 3, 128, 54, 5, 132, 6, 1]
abbrev dktX0_fits_3 : List UInt8 := dkwX0_fits_3 ++ dktX0_fits_4
def dkwX0_fits_2 : List UInt8 := [54, 6, 21, 6, 42, 180, 0, 88, 180, 0, 200, 162, 0, 39, 21, 5, 42, 42, 180, 0, 88, 25, 4, 28]
abbrev dktX0_fits_2 : List UInt8 := dkwX0_fits_2 ++ dktX0_fits_3
def dkwX0_fits_1 : List UInt8 := [20, 0, 123, 184, 0, 125, 153, 0, 7, 4, 167, 0, 4, 3, 16, 250, 184, 0, 116, 3, 54, 5, 3]
abbrev dktX0_fits_1 : List UInt8 := dkwX0_fits_1 ++ dktX0_fits_2
def dkwX0_fits_0 : List UInt8 := [42, 27, 28, 182, 1, 99, 58, 4, 28, 133, 10, 20, 0, 129, 184, 0, 125, 153, 0, 19, 29, 133, 9]
abbrev dktX0_fits_0 : List UInt8 := dkwX0_fits_0 ++ dktX0_fits_1
theorem dksX0_fits_0 : cX0_fits.data.toList.drop 0 = dktX0_fits_0 := by decide +kernel
theorem dksX0_fits_1 : cX0_fits.data.toList.drop 23 = dktX0_fits_1 := dk_seg dksX0_fits_0 23 rfl rfl
theorem dksX0_fits_2 : cX0_fits.data.toList.drop 46 = dktX0_fits_2 := dk_seg dksX0_fits_1 23 rfl rfl
theorem dksX0_fits_3 : cX0_fits.data.toList.drop 70 = dktX0_fits_3 := dk_seg dksX0_fits_2 24 rfl rfl
theorem dksX0_fits_4 : cX0_fits.data.toList.drop 93 = dktX0_fits_4 := dk_seg dksX0_fits_3 23 rfl rfl
theorem dX0_fits_0 : decode cX0_fits 0 = .ok (.aload_n 0, 1) := dk_42 (dk_at dksX0_fits_0 0 rfl rfl)
theorem dX0_fits_1 : decode cX0_fits 1 = .ok (.iload_n 1, 1) := dk_27 (dk_at dksX0_fits_0 1 rfl rfl)
theorem dX0_fits_2 : decode cX0_fits 2 = .ok (.iload_n 2, 1) := dk_28 (dk_at dksX0_fits_0 2 rfl rfl)
theorem dX0_fits_3 : decode cX0_fits 3 = .ok (.invokevirtual 355, 3) := dk_182 1 99 (dk_at dksX0_fits_0 3 rfl rfl)
theorem dX0_fits_6 : decode cX0_fits 6 = .ok (.astore 4, 2) := dk_58 4 (dk_at dksX0_fits_0 6 rfl rfl)
theorem dX0_fits_8 : decode cX0_fits 8 = .ok (.iload_n 2, 1) := dk_28 (dk_at dksX0_fits_0 8 rfl rfl)
theorem dX0_fits_9 : decode cX0_fits 9 = .ok (.i2l, 1) := dk_133 (dk_at dksX0_fits_0 9 rfl rfl)
theorem dX0_fits_10 : decode cX0_fits 10 = .ok (.lconst 1, 1) := dk_10 (dk_at dksX0_fits_0 10 rfl rfl)
theorem dX0_fits_11 : decode cX0_fits 11 = .ok (.ldc2_w 129, 3) := dk_20 0 129 (dk_at dksX0_fits_0 11 rfl rfl)
theorem dX0_fits_14 : decode cX0_fits 14 = .ok (.invokestatic 125, 3) := dk_184 0 125 (dk_at dksX0_fits_0 14 rfl rfl)
theorem dX0_fits_17 : decode cX0_fits 17 = .ok (.ifCond .eq 19, 3) := dk_153 0 19 (dk_at dksX0_fits_0 17 rfl rfl)
theorem dX0_fits_20 : decode cX0_fits 20 = .ok (.iload_n 3, 1) := dk_29 (dk_at dksX0_fits_0 20 rfl rfl)
theorem dX0_fits_21 : decode cX0_fits 21 = .ok (.i2l, 1) := dk_133 (dk_at dksX0_fits_0 21 rfl rfl)
theorem dX0_fits_22 : decode cX0_fits 22 = .ok (.lconst 0, 1) := dk_9 (dk_at dksX0_fits_0 22 rfl rfl)
theorem dX0_fits_23 : decode cX0_fits 23 = .ok (.ldc2_w 123, 3) := dk_20 0 123 (dk_at dksX0_fits_1 0 rfl rfl)
theorem dX0_fits_26 : decode cX0_fits 26 = .ok (.invokestatic 125, 3) := dk_184 0 125 (dk_at dksX0_fits_1 3 rfl rfl)
theorem dX0_fits_29 : decode cX0_fits 29 = .ok (.ifCond .eq 7, 3) := dk_153 0 7 (dk_at dksX0_fits_1 6 rfl rfl)
theorem dX0_fits_32 : decode cX0_fits 32 = .ok (.iconst 1, 1) := dk_4 (dk_at dksX0_fits_1 9 rfl rfl)
theorem dX0_fits_33 : decode cX0_fits 33 = .ok (.goto 4, 3) := dk_167 0 4 (dk_at dksX0_fits_1 10 rfl rfl)
theorem dX0_fits_36 : decode cX0_fits 36 = .ok (.iconst 0, 1) := dk_3 (dk_at dksX0_fits_1 13 rfl rfl)
theorem dX0_fits_37 : decode cX0_fits 37 = .ok (.bipush (-6), 2) := dk_16 250 (dk_at dksX0_fits_1 14 rfl rfl)
theorem dX0_fits_39 : decode cX0_fits 39 = .ok (.invokestatic 116, 3) := dk_184 0 116 (dk_at dksX0_fits_1 16 rfl rfl)
theorem dX0_fits_42 : decode cX0_fits 42 = .ok (.iconst 0, 1) := dk_3 (dk_at dksX0_fits_1 19 rfl rfl)
theorem dX0_fits_43 : decode cX0_fits 43 = .ok (.istore 5, 2) := dk_54 5 (dk_at dksX0_fits_1 20 rfl rfl)
theorem dX0_fits_45 : decode cX0_fits 45 = .ok (.iconst 0, 1) := dk_3 (dk_at dksX0_fits_1 22 rfl rfl)
theorem dX0_fits_46 : decode cX0_fits 46 = .ok (.istore 6, 2) := dk_54 6 (dk_at dksX0_fits_2 0 rfl rfl)
theorem dX0_fits_48 : decode cX0_fits 48 = .ok (.iload 6, 2) := dk_21 6 (dk_at dksX0_fits_2 2 rfl rfl)
theorem dX0_fits_50 : decode cX0_fits 50 = .ok (.aload_n 0, 1) := dk_42 (dk_at dksX0_fits_2 4 rfl rfl)
theorem dX0_fits_51 : decode cX0_fits 51 = .ok (.getfield 88, 3) := dk_180 0 88 (dk_at dksX0_fits_2 5 rfl rfl)
theorem dX0_fits_54 : decode cX0_fits 54 = .ok (.getfield 200, 3) := dk_180 0 200 (dk_at dksX0_fits_2 8 rfl rfl)
theorem dX0_fits_57 : decode cX0_fits 57 = .ok (.if_icmp .ge 39, 3) := dk_162 0 39 (dk_at dksX0_fits_2 11 rfl rfl)
theorem dX0_fits_60 : decode cX0_fits 60 = .ok (.iload 5, 2) := dk_21 5 (dk_at dksX0_fits_2 14 rfl rfl)
theorem dX0_fits_62 : decode cX0_fits 62 = .ok (.aload_n 0, 1) := dk_42 (dk_at dksX0_fits_2 16 rfl rfl)
theorem dX0_fits_63 : decode cX0_fits 63 = .ok (.aload_n 0, 1) := dk_42 (dk_at dksX0_fits_2 17 rfl rfl)
theorem dX0_fits_64 : decode cX0_fits 64 = .ok (.getfield 88, 3) := dk_180 0 88 (dk_at dksX0_fits_2 18 rfl rfl)
theorem dX0_fits_67 : decode cX0_fits 67 = .ok (.aload 4, 2) := dk_25 4 (dk_at dksX0_fits_2 21 rfl rfl)
theorem dX0_fits_69 : decode cX0_fits 69 = .ok (.iload_n 2, 1) := dk_28 (dk_at dksX0_fits_2 23 rfl rfl)
theorem dX0_fits_70 : decode cX0_fits 70 = .ok (.iload 6, 2) := dk_21 6 (dk_at dksX0_fits_3 0 rfl rfl)
theorem dX0_fits_72 : decode cX0_fits 72 = .ok (.iload_n 3, 1) := dk_29 (dk_at dksX0_fits_3 2 rfl rfl)
theorem dX0_fits_73 : decode cX0_fits 73 = .ok (.invokevirtual 358, 3) := dk_182 1 102 (dk_at dksX0_fits_3 3 rfl rfl)
theorem dX0_fits_76 : decode cX0_fits 76 = .ok (.ifCond .eq 10, 3) := dk_153 0 10 (dk_at dksX0_fits_3 6 rfl rfl)
theorem dX0_fits_79 : decode cX0_fits 79 = .ok (.iconst 1, 1) := dk_4 (dk_at dksX0_fits_3 9 rfl rfl)
theorem dX0_fits_80 : decode cX0_fits 80 = .ok (.iload 6, 2) := dk_21 6 (dk_at dksX0_fits_3 10 rfl rfl)
theorem dX0_fits_82 : decode cX0_fits 82 = .ok (.ishl, 1) := dk_120 (dk_at dksX0_fits_3 12 rfl rfl)
theorem dX0_fits_83 : decode cX0_fits 83 = .ok (.goto 4, 3) := dk_167 0 4 (dk_at dksX0_fits_3 13 rfl rfl)
theorem dX0_fits_86 : decode cX0_fits 86 = .ok (.iconst 0, 1) := dk_3 (dk_at dksX0_fits_3 16 rfl rfl)
theorem dX0_fits_87 : decode cX0_fits 87 = .ok (.ior, 1) := dk_128 (dk_at dksX0_fits_3 17 rfl rfl)
theorem dX0_fits_88 : decode cX0_fits 88 = .ok (.istore 5, 2) := dk_54 5 (dk_at dksX0_fits_3 18 rfl rfl)
theorem dX0_fits_90 : decode cX0_fits 90 = .ok (.iinc 6 1, 3) := dk_132 6 1 (dk_at dksX0_fits_3 20 rfl rfl)
theorem dX0_fits_93 : decode cX0_fits 93 = .ok (.goto (-45), 3) := dk_167 255 211 (dk_at dksX0_fits_4 0 rfl rfl)
theorem dX0_fits_96 : decode cX0_fits 96 = .ok (.iload 5, 2) := dk_21 5 (dk_at dksX0_fits_4 3 rfl rfl)
theorem dX0_fits_98 : decode cX0_fits 98 = .ok (.ireturn, 1) := dk_172 (dk_at dksX0_fits_4 5 rfl rfl)
theorem dX0_fits_99 : decode cX0_fits 99 = .ok (.astore 4, 2) := dk_58 4 (dk_at dksX0_fits_4 6 rfl rfl)
theorem dX0_fits_101 : decode cX0_fits 101 = .ok (.aload_n 0, 1) := dk_42 (dk_at dksX0_fits_4 8 rfl rfl)
theorem dX0_fits_102 : decode cX0_fits 102 = .ok (.aload 4, 2) := dk_25 4 (dk_at dksX0_fits_4 9 rfl rfl)
theorem dX0_fits_104 : decode cX0_fits 104 = .ok (.invokevirtual 169, 3) := dk_182 0 169 (dk_at dksX0_fits_4 11 rfl rfl)
theorem dX0_fits_107 : decode cX0_fits 107 = .ok (.ireturn, 1) := dk_172 (dk_at dksX0_fits_4 14 rfl rfl)
abbrev cX0_toldAt : ByteArray := prog_1_method_47_code
def yX0_toldAt : MethodName := ⟨RX0, "toldAt", "(II)LWhichOneAllKnow$Row;"⟩
def dkwX0_toldAt_1 : List UInt8 := [45, 182, 0, 11, 163, 0, 7, 4, 167, 0, 4, 3, 16, 251, 184, 0, 116, 45, 176]
abbrev dktX0_toldAt_1 : List UInt8 := dkwX0_toldAt_1 ++ []
def dkwX0_toldAt_0 : List UInt8 := [42, 27, 182, 0, 159, 182, 0, 173, 78, 28, 155, 0, 7, 4, 167, 0, 4, 3, 16, 252, 184, 0, 116, 28]
abbrev dktX0_toldAt_0 : List UInt8 := dkwX0_toldAt_0 ++ dktX0_toldAt_1
theorem dksX0_toldAt_0 : cX0_toldAt.data.toList.drop 0 = dktX0_toldAt_0 := by decide +kernel
theorem dksX0_toldAt_1 : cX0_toldAt.data.toList.drop 24 = dktX0_toldAt_1 := dk_seg dksX0_toldAt_0 24 rfl rfl
theorem dX0_toldAt_0 : decode cX0_toldAt 0 = .ok (.aload_n 0, 1) := dk_42 (dk_at dksX0_toldAt_0 0 rfl rfl)
theorem dX0_toldAt_1 : decode cX0_toldAt 1 = .ok (.iload_n 1, 1) := dk_27 (dk_at dksX0_toldAt_0 1 rfl rfl)
theorem dX0_toldAt_2 : decode cX0_toldAt 2 = .ok (.invokevirtual 159, 3) := dk_182 0 159 (dk_at dksX0_toldAt_0 2 rfl rfl)
theorem dX0_toldAt_5 : decode cX0_toldAt 5 = .ok (.invokevirtual 173, 3) := dk_182 0 173 (dk_at dksX0_toldAt_0 5 rfl rfl)
theorem dX0_toldAt_8 : decode cX0_toldAt 8 = .ok (.astore_n 3, 1) := dk_78 (dk_at dksX0_toldAt_0 8 rfl rfl)
theorem dX0_toldAt_9 : decode cX0_toldAt 9 = .ok (.iload_n 2, 1) := dk_28 (dk_at dksX0_toldAt_0 9 rfl rfl)
theorem dX0_toldAt_10 : decode cX0_toldAt 10 = .ok (.ifCond .lt 7, 3) := dk_155 0 7 (dk_at dksX0_toldAt_0 10 rfl rfl)
theorem dX0_toldAt_13 : decode cX0_toldAt 13 = .ok (.iconst 1, 1) := dk_4 (dk_at dksX0_toldAt_0 13 rfl rfl)
theorem dX0_toldAt_14 : decode cX0_toldAt 14 = .ok (.goto 4, 3) := dk_167 0 4 (dk_at dksX0_toldAt_0 14 rfl rfl)
theorem dX0_toldAt_17 : decode cX0_toldAt 17 = .ok (.iconst 0, 1) := dk_3 (dk_at dksX0_toldAt_0 17 rfl rfl)
theorem dX0_toldAt_18 : decode cX0_toldAt 18 = .ok (.bipush (-4), 2) := dk_16 252 (dk_at dksX0_toldAt_0 18 rfl rfl)
theorem dX0_toldAt_20 : decode cX0_toldAt 20 = .ok (.invokestatic 116, 3) := dk_184 0 116 (dk_at dksX0_toldAt_0 20 rfl rfl)
theorem dX0_toldAt_23 : decode cX0_toldAt 23 = .ok (.iload_n 2, 1) := dk_28 (dk_at dksX0_toldAt_0 23 rfl rfl)
theorem dX0_toldAt_24 : decode cX0_toldAt 24 = .ok (.aload_n 3, 1) := dk_45 (dk_at dksX0_toldAt_1 0 rfl rfl)
theorem dX0_toldAt_25 : decode cX0_toldAt 25 = .ok (.invokevirtual 11, 3) := dk_182 0 11 (dk_at dksX0_toldAt_1 1 rfl rfl)
theorem dX0_toldAt_28 : decode cX0_toldAt 28 = .ok (.if_icmp .gt 7, 3) := dk_163 0 7 (dk_at dksX0_toldAt_1 4 rfl rfl)
theorem dX0_toldAt_31 : decode cX0_toldAt 31 = .ok (.iconst 1, 1) := dk_4 (dk_at dksX0_toldAt_1 7 rfl rfl)
theorem dX0_toldAt_32 : decode cX0_toldAt 32 = .ok (.goto 4, 3) := dk_167 0 4 (dk_at dksX0_toldAt_1 8 rfl rfl)
theorem dX0_toldAt_35 : decode cX0_toldAt 35 = .ok (.iconst 0, 1) := dk_3 (dk_at dksX0_toldAt_1 11 rfl rfl)
theorem dX0_toldAt_36 : decode cX0_toldAt 36 = .ok (.bipush (-5), 2) := dk_16 251 (dk_at dksX0_toldAt_1 12 rfl rfl)
theorem dX0_toldAt_38 : decode cX0_toldAt 38 = .ok (.invokestatic 116, 3) := dk_184 0 116 (dk_at dksX0_toldAt_1 14 rfl rfl)
theorem dX0_toldAt_41 : decode cX0_toldAt 41 = .ok (.aload_n 3, 1) := dk_45 (dk_at dksX0_toldAt_1 17 rfl rfl)
theorem dX0_toldAt_42 : decode cX0_toldAt 42 = .ok (.areturn, 1) := dk_176 (dk_at dksX0_toldAt_1 18 rfl rfl)
abbrev cX0_isHeard : ByteArray := prog_1_method_48_code
def yX0_isHeard : MethodName := ⟨RX0, "isHeard", "(LWhichOneAllKnow$Church;LWhichOneAllKnow$Row;III)Z"⟩
def dkwX0_isHeard_2 : List UInt8 := [132, 6, 1, 167, 255, 227, 4, 172]
abbrev dktX0_isHeard_2 : List UInt8 := dkwX0_isHeard_2 ++ []
def dkwX0_isHeard_1 : List UInt8 := [162, 0, 29, 42, 180, 0, 84, 21, 6, 182, 1, 93, 44, 21, 6, 182, 1, 96, 159, 0, 5, 3, 172]
abbrev dktX0_isHeard_1 : List UInt8 := dkwX0_isHeard_1 ++ dktX0_isHeard_2
def dkwX0_isHeard_0 : List UInt8 := [42, 180, 0, 84, 43, 21, 4, 21, 5, 29, 4, 100, 182, 1, 12, 87, 3, 54, 6, 21, 6, 29]
abbrev dktX0_isHeard_0 : List UInt8 := dkwX0_isHeard_0 ++ dktX0_isHeard_1
theorem dksX0_isHeard_0 : cX0_isHeard.data.toList.drop 0 = dktX0_isHeard_0 := by decide +kernel
theorem dksX0_isHeard_1 : cX0_isHeard.data.toList.drop 22 = dktX0_isHeard_1 := dk_seg dksX0_isHeard_0 22 rfl rfl
theorem dksX0_isHeard_2 : cX0_isHeard.data.toList.drop 45 = dktX0_isHeard_2 := dk_seg dksX0_isHeard_1 23 rfl rfl
theorem dX0_isHeard_0 : decode cX0_isHeard 0 = .ok (.aload_n 0, 1) := dk_42 (dk_at dksX0_isHeard_0 0 rfl rfl)
theorem dX0_isHeard_1 : decode cX0_isHeard 1 = .ok (.getfield 84, 3) := dk_180 0 84 (dk_at dksX0_isHeard_0 1 rfl rfl)
theorem dX0_isHeard_4 : decode cX0_isHeard 4 = .ok (.aload_n 1, 1) := dk_43 (dk_at dksX0_isHeard_0 4 rfl rfl)
theorem dX0_isHeard_5 : decode cX0_isHeard 5 = .ok (.iload 4, 2) := dk_21 4 (dk_at dksX0_isHeard_0 5 rfl rfl)
theorem dX0_isHeard_7 : decode cX0_isHeard 7 = .ok (.iload 5, 2) := dk_21 5 (dk_at dksX0_isHeard_0 7 rfl rfl)
theorem dX0_isHeard_9 : decode cX0_isHeard 9 = .ok (.iload_n 3, 1) := dk_29 (dk_at dksX0_isHeard_0 9 rfl rfl)
theorem dX0_isHeard_10 : decode cX0_isHeard 10 = .ok (.iconst 1, 1) := dk_4 (dk_at dksX0_isHeard_0 10 rfl rfl)
theorem dX0_isHeard_11 : decode cX0_isHeard 11 = .ok (.isub, 1) := dk_100 (dk_at dksX0_isHeard_0 11 rfl rfl)
theorem dX0_isHeard_12 : decode cX0_isHeard 12 = .ok (.invokevirtual 268, 3) := dk_182 1 12 (dk_at dksX0_isHeard_0 12 rfl rfl)
theorem dX0_isHeard_15 : decode cX0_isHeard 15 = .ok (.pop, 1) := dk_87 (dk_at dksX0_isHeard_0 15 rfl rfl)
theorem dX0_isHeard_16 : decode cX0_isHeard 16 = .ok (.iconst 0, 1) := dk_3 (dk_at dksX0_isHeard_0 16 rfl rfl)
theorem dX0_isHeard_17 : decode cX0_isHeard 17 = .ok (.istore 6, 2) := dk_54 6 (dk_at dksX0_isHeard_0 17 rfl rfl)
theorem dX0_isHeard_19 : decode cX0_isHeard 19 = .ok (.iload 6, 2) := dk_21 6 (dk_at dksX0_isHeard_0 19 rfl rfl)
theorem dX0_isHeard_21 : decode cX0_isHeard 21 = .ok (.iload_n 3, 1) := dk_29 (dk_at dksX0_isHeard_0 21 rfl rfl)
theorem dX0_isHeard_22 : decode cX0_isHeard 22 = .ok (.if_icmp .ge 29, 3) := dk_162 0 29 (dk_at dksX0_isHeard_1 0 rfl rfl)
theorem dX0_isHeard_25 : decode cX0_isHeard 25 = .ok (.aload_n 0, 1) := dk_42 (dk_at dksX0_isHeard_1 3 rfl rfl)
theorem dX0_isHeard_26 : decode cX0_isHeard 26 = .ok (.getfield 84, 3) := dk_180 0 84 (dk_at dksX0_isHeard_1 4 rfl rfl)
theorem dX0_isHeard_29 : decode cX0_isHeard 29 = .ok (.iload 6, 2) := dk_21 6 (dk_at dksX0_isHeard_1 7 rfl rfl)
theorem dX0_isHeard_31 : decode cX0_isHeard 31 = .ok (.invokevirtual 349, 3) := dk_182 1 93 (dk_at dksX0_isHeard_1 9 rfl rfl)
theorem dX0_isHeard_34 : decode cX0_isHeard 34 = .ok (.aload_n 2, 1) := dk_44 (dk_at dksX0_isHeard_1 12 rfl rfl)
theorem dX0_isHeard_35 : decode cX0_isHeard 35 = .ok (.iload 6, 2) := dk_21 6 (dk_at dksX0_isHeard_1 13 rfl rfl)
theorem dX0_isHeard_37 : decode cX0_isHeard 37 = .ok (.invokevirtual 352, 3) := dk_182 1 96 (dk_at dksX0_isHeard_1 15 rfl rfl)
theorem dX0_isHeard_40 : decode cX0_isHeard 40 = .ok (.if_icmp .eq 5, 3) := dk_159 0 5 (dk_at dksX0_isHeard_1 18 rfl rfl)
theorem dX0_isHeard_43 : decode cX0_isHeard 43 = .ok (.iconst 0, 1) := dk_3 (dk_at dksX0_isHeard_1 21 rfl rfl)
theorem dX0_isHeard_44 : decode cX0_isHeard 44 = .ok (.ireturn, 1) := dk_172 (dk_at dksX0_isHeard_1 22 rfl rfl)
theorem dX0_isHeard_45 : decode cX0_isHeard 45 = .ok (.iinc 6 1, 3) := dk_132 6 1 (dk_at dksX0_isHeard_2 0 rfl rfl)
theorem dX0_isHeard_48 : decode cX0_isHeard 48 = .ok (.goto (-29), 3) := dk_167 255 227 (dk_at dksX0_isHeard_2 3 rfl rfl)
theorem dX0_isHeard_51 : decode cX0_isHeard 51 = .ok (.iconst 1, 1) := dk_4 (dk_at dksX0_isHeard_2 6 rfl rfl)
theorem dX0_isHeard_52 : decode cX0_isHeard 52 = .ok (.ireturn, 1) := dk_172 (dk_at dksX0_isHeard_2 7 rfl rfl)
abbrev cX0_changed : ByteArray := prog_1_method_51_code
def yX0_changed : MethodName := ⟨RX0, "changed", "(IIII)I"⟩
def dkwX0_changed_3 : List UInt8 := [58, 5, 42, 25, 5, 182, 0, 169, 16, 10, 100, 172]
abbrev dktX0_changed_3 : List UInt8 := dkwX0_changed_3 ++ []
def dkwX0_changed_2 : List UInt8 := [153, 0, 7, 4, 167, 0, 4, 3, 16, 250, 184, 0, 116, 42, 25, 6, 28, 29, 21, 4, 182, 1, 106, 172]
abbrev dktX0_changed_2 : List UInt8 := dkwX0_changed_2 ++ dktX0_changed_3
def dkwX0_changed_1 : List UInt8 := [58, 6, 28, 133, 10, 20, 0, 129, 184, 0, 125, 153, 0, 20, 21, 4, 133, 9, 20, 0, 123, 184, 0, 125]
abbrev dktX0_changed_1 : List UInt8 := dkwX0_changed_1 ++ dktX0_changed_2
def dkwX0_changed_0 : List UInt8 := [42, 27, 182, 0, 159, 58, 5, 42, 29, 182, 0, 218, 25, 5, 182, 0, 173, 87, 42, 27, 28, 182, 1, 99]
abbrev dktX0_changed_0 : List UInt8 := dkwX0_changed_0 ++ dktX0_changed_1
theorem dksX0_changed_0 : cX0_changed.data.toList.drop 0 = dktX0_changed_0 := by decide +kernel
theorem dksX0_changed_1 : cX0_changed.data.toList.drop 24 = dktX0_changed_1 := dk_seg dksX0_changed_0 24 rfl rfl
theorem dksX0_changed_2 : cX0_changed.data.toList.drop 48 = dktX0_changed_2 := dk_seg dksX0_changed_1 24 rfl rfl
theorem dksX0_changed_3 : cX0_changed.data.toList.drop 72 = dktX0_changed_3 := dk_seg dksX0_changed_2 24 rfl rfl
theorem dX0_changed_0 : decode cX0_changed 0 = .ok (.aload_n 0, 1) := dk_42 (dk_at dksX0_changed_0 0 rfl rfl)
theorem dX0_changed_1 : decode cX0_changed 1 = .ok (.iload_n 1, 1) := dk_27 (dk_at dksX0_changed_0 1 rfl rfl)
theorem dX0_changed_2 : decode cX0_changed 2 = .ok (.invokevirtual 159, 3) := dk_182 0 159 (dk_at dksX0_changed_0 2 rfl rfl)
theorem dX0_changed_5 : decode cX0_changed 5 = .ok (.astore 5, 2) := dk_58 5 (dk_at dksX0_changed_0 5 rfl rfl)
theorem dX0_changed_7 : decode cX0_changed 7 = .ok (.aload_n 0, 1) := dk_42 (dk_at dksX0_changed_0 7 rfl rfl)
theorem dX0_changed_8 : decode cX0_changed 8 = .ok (.iload_n 3, 1) := dk_29 (dk_at dksX0_changed_0 8 rfl rfl)
theorem dX0_changed_9 : decode cX0_changed 9 = .ok (.invokevirtual 218, 3) := dk_182 0 218 (dk_at dksX0_changed_0 9 rfl rfl)
theorem dX0_changed_12 : decode cX0_changed 12 = .ok (.aload 5, 2) := dk_25 5 (dk_at dksX0_changed_0 12 rfl rfl)
theorem dX0_changed_14 : decode cX0_changed 14 = .ok (.invokevirtual 173, 3) := dk_182 0 173 (dk_at dksX0_changed_0 14 rfl rfl)
theorem dX0_changed_17 : decode cX0_changed 17 = .ok (.pop, 1) := dk_87 (dk_at dksX0_changed_0 17 rfl rfl)
theorem dX0_changed_18 : decode cX0_changed 18 = .ok (.aload_n 0, 1) := dk_42 (dk_at dksX0_changed_0 18 rfl rfl)
theorem dX0_changed_19 : decode cX0_changed 19 = .ok (.iload_n 1, 1) := dk_27 (dk_at dksX0_changed_0 19 rfl rfl)
theorem dX0_changed_20 : decode cX0_changed 20 = .ok (.iload_n 2, 1) := dk_28 (dk_at dksX0_changed_0 20 rfl rfl)
theorem dX0_changed_21 : decode cX0_changed 21 = .ok (.invokevirtual 355, 3) := dk_182 1 99 (dk_at dksX0_changed_0 21 rfl rfl)
theorem dX0_changed_24 : decode cX0_changed 24 = .ok (.astore 6, 2) := dk_58 6 (dk_at dksX0_changed_1 0 rfl rfl)
theorem dX0_changed_26 : decode cX0_changed 26 = .ok (.iload_n 2, 1) := dk_28 (dk_at dksX0_changed_1 2 rfl rfl)
theorem dX0_changed_27 : decode cX0_changed 27 = .ok (.i2l, 1) := dk_133 (dk_at dksX0_changed_1 3 rfl rfl)
theorem dX0_changed_28 : decode cX0_changed 28 = .ok (.lconst 1, 1) := dk_10 (dk_at dksX0_changed_1 4 rfl rfl)
theorem dX0_changed_29 : decode cX0_changed 29 = .ok (.ldc2_w 129, 3) := dk_20 0 129 (dk_at dksX0_changed_1 5 rfl rfl)
theorem dX0_changed_32 : decode cX0_changed 32 = .ok (.invokestatic 125, 3) := dk_184 0 125 (dk_at dksX0_changed_1 8 rfl rfl)
theorem dX0_changed_35 : decode cX0_changed 35 = .ok (.ifCond .eq 20, 3) := dk_153 0 20 (dk_at dksX0_changed_1 11 rfl rfl)
theorem dX0_changed_38 : decode cX0_changed 38 = .ok (.iload 4, 2) := dk_21 4 (dk_at dksX0_changed_1 14 rfl rfl)
theorem dX0_changed_40 : decode cX0_changed 40 = .ok (.i2l, 1) := dk_133 (dk_at dksX0_changed_1 16 rfl rfl)
theorem dX0_changed_41 : decode cX0_changed 41 = .ok (.lconst 0, 1) := dk_9 (dk_at dksX0_changed_1 17 rfl rfl)
theorem dX0_changed_42 : decode cX0_changed 42 = .ok (.ldc2_w 123, 3) := dk_20 0 123 (dk_at dksX0_changed_1 18 rfl rfl)
theorem dX0_changed_45 : decode cX0_changed 45 = .ok (.invokestatic 125, 3) := dk_184 0 125 (dk_at dksX0_changed_1 21 rfl rfl)
theorem dX0_changed_48 : decode cX0_changed 48 = .ok (.ifCond .eq 7, 3) := dk_153 0 7 (dk_at dksX0_changed_2 0 rfl rfl)
theorem dX0_changed_51 : decode cX0_changed 51 = .ok (.iconst 1, 1) := dk_4 (dk_at dksX0_changed_2 3 rfl rfl)
theorem dX0_changed_52 : decode cX0_changed 52 = .ok (.goto 4, 3) := dk_167 0 4 (dk_at dksX0_changed_2 4 rfl rfl)
theorem dX0_changed_55 : decode cX0_changed 55 = .ok (.iconst 0, 1) := dk_3 (dk_at dksX0_changed_2 7 rfl rfl)
theorem dX0_changed_56 : decode cX0_changed 56 = .ok (.bipush (-6), 2) := dk_16 250 (dk_at dksX0_changed_2 8 rfl rfl)
theorem dX0_changed_58 : decode cX0_changed 58 = .ok (.invokestatic 116, 3) := dk_184 0 116 (dk_at dksX0_changed_2 10 rfl rfl)
theorem dX0_changed_61 : decode cX0_changed 61 = .ok (.aload_n 0, 1) := dk_42 (dk_at dksX0_changed_2 13 rfl rfl)
theorem dX0_changed_62 : decode cX0_changed 62 = .ok (.aload 6, 2) := dk_25 6 (dk_at dksX0_changed_2 14 rfl rfl)
theorem dX0_changed_64 : decode cX0_changed 64 = .ok (.iload_n 2, 1) := dk_28 (dk_at dksX0_changed_2 16 rfl rfl)
theorem dX0_changed_65 : decode cX0_changed 65 = .ok (.iload_n 3, 1) := dk_29 (dk_at dksX0_changed_2 17 rfl rfl)
theorem dX0_changed_66 : decode cX0_changed 66 = .ok (.iload 4, 2) := dk_21 4 (dk_at dksX0_changed_2 18 rfl rfl)
theorem dX0_changed_68 : decode cX0_changed 68 = .ok (.invokevirtual 362, 3) := dk_182 1 106 (dk_at dksX0_changed_2 20 rfl rfl)
theorem dX0_changed_71 : decode cX0_changed 71 = .ok (.ireturn, 1) := dk_172 (dk_at dksX0_changed_2 23 rfl rfl)
theorem dX0_changed_72 : decode cX0_changed 72 = .ok (.astore 5, 2) := dk_58 5 (dk_at dksX0_changed_3 0 rfl rfl)
theorem dX0_changed_74 : decode cX0_changed 74 = .ok (.aload_n 0, 1) := dk_42 (dk_at dksX0_changed_3 2 rfl rfl)
theorem dX0_changed_75 : decode cX0_changed 75 = .ok (.aload 5, 2) := dk_25 5 (dk_at dksX0_changed_3 3 rfl rfl)
theorem dX0_changed_77 : decode cX0_changed 77 = .ok (.invokevirtual 169, 3) := dk_182 0 169 (dk_at dksX0_changed_3 5 rfl rfl)
theorem dX0_changed_80 : decode cX0_changed 80 = .ok (.bipush 10, 2) := dk_16 10 (dk_at dksX0_changed_3 8 rfl rfl)
theorem dX0_changed_82 : decode cX0_changed 82 = .ok (.isub, 1) := dk_100 (dk_at dksX0_changed_3 10 rfl rfl)
theorem dX0_changed_83 : decode cX0_changed 83 = .ok (.ireturn, 1) := dk_172 (dk_at dksX0_changed_3 11 rfl rfl)
abbrev cX0_firstChanged : ByteArray := prog_1_method_50_code
def yX0_firstChanged : MethodName := ⟨RX0, "firstChanged", "(LWhichOneAllKnow$Row;III)I"⟩
def dkwX0_firstChanged_5 : List UInt8 := [132, 5, 1, 167, 255, 140, 2, 172]
abbrev dktX0_firstChanged_5 : List UInt8 := dkwX0_firstChanged_5 ++ []
def dkwX0_firstChanged_4 : List UInt8 := [21, 4, 182, 1, 102, 153, 0, 12, 16, 20, 21, 5, 104, 21, 6, 96, 172, 132, 6, 1, 167, 255, 164]
abbrev dktX0_firstChanged_4 : List UInt8 := dkwX0_firstChanged_4 ++ dktX0_firstChanged_5
def dkwX0_firstChanged_3 : List UInt8 := [180, 0, 224, 21, 6, 42, 180, 0, 88, 180, 0, 224, 21, 5, 46, 79, 42, 42, 180, 0, 77, 43, 28, 29]
abbrev dktX0_firstChanged_3 : List UInt8 := dkwX0_firstChanged_3 ++ dktX0_firstChanged_4
def dkwX0_firstChanged_2 : List UInt8 := [180, 0, 77, 180, 0, 224, 21, 5, 42, 180, 0, 88, 180, 0, 224, 21, 6, 46, 79, 42, 180, 0, 77]
abbrev dktX0_firstChanged_2 : List UInt8 := dkwX0_firstChanged_2 ++ dktX0_firstChanged_3
def dkwX0_firstChanged_1 : List UInt8 := [180, 0, 88, 180, 0, 211, 162, 0, 86, 42, 180, 0, 77, 42, 180, 0, 88, 182, 0, 248, 87, 42]
abbrev dktX0_firstChanged_1 : List UInt8 := dkwX0_firstChanged_1 ++ dktX0_firstChanged_2
def dkwX0_firstChanged_0 : List UInt8 := [3, 54, 5, 21, 5, 42, 180, 0, 88, 180, 0, 211, 162, 0, 110, 21, 5, 4, 96, 54, 6, 21, 6, 42]
abbrev dktX0_firstChanged_0 : List UInt8 := dkwX0_firstChanged_0 ++ dktX0_firstChanged_1
theorem dksX0_firstChanged_0 : cX0_firstChanged.data.toList.drop 0 = dktX0_firstChanged_0 := by decide +kernel
theorem dksX0_firstChanged_1 : cX0_firstChanged.data.toList.drop 24 = dktX0_firstChanged_1 := dk_seg dksX0_firstChanged_0 24 rfl rfl
theorem dksX0_firstChanged_2 : cX0_firstChanged.data.toList.drop 46 = dktX0_firstChanged_2 := dk_seg dksX0_firstChanged_1 22 rfl rfl
theorem dksX0_firstChanged_3 : cX0_firstChanged.data.toList.drop 69 = dktX0_firstChanged_3 := dk_seg dksX0_firstChanged_2 23 rfl rfl
theorem dksX0_firstChanged_4 : cX0_firstChanged.data.toList.drop 93 = dktX0_firstChanged_4 := dk_seg dksX0_firstChanged_3 24 rfl rfl
theorem dksX0_firstChanged_5 : cX0_firstChanged.data.toList.drop 116 = dktX0_firstChanged_5 := dk_seg dksX0_firstChanged_4 23 rfl rfl
theorem dX0_firstChanged_0 : decode cX0_firstChanged 0 = .ok (.iconst 0, 1) := dk_3 (dk_at dksX0_firstChanged_0 0 rfl rfl)
theorem dX0_firstChanged_1 : decode cX0_firstChanged 1 = .ok (.istore 5, 2) := dk_54 5 (dk_at dksX0_firstChanged_0 1 rfl rfl)
theorem dX0_firstChanged_3 : decode cX0_firstChanged 3 = .ok (.iload 5, 2) := dk_21 5 (dk_at dksX0_firstChanged_0 3 rfl rfl)
theorem dX0_firstChanged_5 : decode cX0_firstChanged 5 = .ok (.aload_n 0, 1) := dk_42 (dk_at dksX0_firstChanged_0 5 rfl rfl)
theorem dX0_firstChanged_6 : decode cX0_firstChanged 6 = .ok (.getfield 88, 3) := dk_180 0 88 (dk_at dksX0_firstChanged_0 6 rfl rfl)
theorem dX0_firstChanged_9 : decode cX0_firstChanged 9 = .ok (.getfield 211, 3) := dk_180 0 211 (dk_at dksX0_firstChanged_0 9 rfl rfl)
theorem dX0_firstChanged_12 : decode cX0_firstChanged 12 = .ok (.if_icmp .ge 110, 3) := dk_162 0 110 (dk_at dksX0_firstChanged_0 12 rfl rfl)
theorem dX0_firstChanged_15 : decode cX0_firstChanged 15 = .ok (.iload 5, 2) := dk_21 5 (dk_at dksX0_firstChanged_0 15 rfl rfl)
theorem dX0_firstChanged_17 : decode cX0_firstChanged 17 = .ok (.iconst 1, 1) := dk_4 (dk_at dksX0_firstChanged_0 17 rfl rfl)
theorem dX0_firstChanged_18 : decode cX0_firstChanged 18 = .ok (.iadd, 1) := dk_96 (dk_at dksX0_firstChanged_0 18 rfl rfl)
theorem dX0_firstChanged_19 : decode cX0_firstChanged 19 = .ok (.istore 6, 2) := dk_54 6 (dk_at dksX0_firstChanged_0 19 rfl rfl)
theorem dX0_firstChanged_21 : decode cX0_firstChanged 21 = .ok (.iload 6, 2) := dk_21 6 (dk_at dksX0_firstChanged_0 21 rfl rfl)
theorem dX0_firstChanged_23 : decode cX0_firstChanged 23 = .ok (.aload_n 0, 1) := dk_42 (dk_at dksX0_firstChanged_0 23 rfl rfl)
theorem dX0_firstChanged_24 : decode cX0_firstChanged 24 = .ok (.getfield 88, 3) := dk_180 0 88 (dk_at dksX0_firstChanged_1 0 rfl rfl)
theorem dX0_firstChanged_27 : decode cX0_firstChanged 27 = .ok (.getfield 211, 3) := dk_180 0 211 (dk_at dksX0_firstChanged_1 3 rfl rfl)
theorem dX0_firstChanged_30 : decode cX0_firstChanged 30 = .ok (.if_icmp .ge 86, 3) := dk_162 0 86 (dk_at dksX0_firstChanged_1 6 rfl rfl)
theorem dX0_firstChanged_33 : decode cX0_firstChanged 33 = .ok (.aload_n 0, 1) := dk_42 (dk_at dksX0_firstChanged_1 9 rfl rfl)
theorem dX0_firstChanged_34 : decode cX0_firstChanged 34 = .ok (.getfield 77, 3) := dk_180 0 77 (dk_at dksX0_firstChanged_1 10 rfl rfl)
theorem dX0_firstChanged_37 : decode cX0_firstChanged 37 = .ok (.aload_n 0, 1) := dk_42 (dk_at dksX0_firstChanged_1 13 rfl rfl)
theorem dX0_firstChanged_38 : decode cX0_firstChanged 38 = .ok (.getfield 88, 3) := dk_180 0 88 (dk_at dksX0_firstChanged_1 14 rfl rfl)
theorem dX0_firstChanged_41 : decode cX0_firstChanged 41 = .ok (.invokevirtual 248, 3) := dk_182 0 248 (dk_at dksX0_firstChanged_1 17 rfl rfl)
theorem dX0_firstChanged_44 : decode cX0_firstChanged 44 = .ok (.pop, 1) := dk_87 (dk_at dksX0_firstChanged_1 20 rfl rfl)
theorem dX0_firstChanged_45 : decode cX0_firstChanged 45 = .ok (.aload_n 0, 1) := dk_42 (dk_at dksX0_firstChanged_1 21 rfl rfl)
theorem dX0_firstChanged_46 : decode cX0_firstChanged 46 = .ok (.getfield 77, 3) := dk_180 0 77 (dk_at dksX0_firstChanged_2 0 rfl rfl)
theorem dX0_firstChanged_49 : decode cX0_firstChanged 49 = .ok (.getfield 224, 3) := dk_180 0 224 (dk_at dksX0_firstChanged_2 3 rfl rfl)
theorem dX0_firstChanged_52 : decode cX0_firstChanged 52 = .ok (.iload 5, 2) := dk_21 5 (dk_at dksX0_firstChanged_2 6 rfl rfl)
theorem dX0_firstChanged_54 : decode cX0_firstChanged 54 = .ok (.aload_n 0, 1) := dk_42 (dk_at dksX0_firstChanged_2 8 rfl rfl)
theorem dX0_firstChanged_55 : decode cX0_firstChanged 55 = .ok (.getfield 88, 3) := dk_180 0 88 (dk_at dksX0_firstChanged_2 9 rfl rfl)
theorem dX0_firstChanged_58 : decode cX0_firstChanged 58 = .ok (.getfield 224, 3) := dk_180 0 224 (dk_at dksX0_firstChanged_2 12 rfl rfl)
theorem dX0_firstChanged_61 : decode cX0_firstChanged 61 = .ok (.iload 6, 2) := dk_21 6 (dk_at dksX0_firstChanged_2 15 rfl rfl)
theorem dX0_firstChanged_63 : decode cX0_firstChanged 63 = .ok (.iaload, 1) := dk_46 (dk_at dksX0_firstChanged_2 17 rfl rfl)
theorem dX0_firstChanged_64 : decode cX0_firstChanged 64 = .ok (.iastore, 1) := dk_79 (dk_at dksX0_firstChanged_2 18 rfl rfl)
theorem dX0_firstChanged_65 : decode cX0_firstChanged 65 = .ok (.aload_n 0, 1) := dk_42 (dk_at dksX0_firstChanged_2 19 rfl rfl)
theorem dX0_firstChanged_66 : decode cX0_firstChanged 66 = .ok (.getfield 77, 3) := dk_180 0 77 (dk_at dksX0_firstChanged_2 20 rfl rfl)
theorem dX0_firstChanged_69 : decode cX0_firstChanged 69 = .ok (.getfield 224, 3) := dk_180 0 224 (dk_at dksX0_firstChanged_3 0 rfl rfl)
theorem dX0_firstChanged_72 : decode cX0_firstChanged 72 = .ok (.iload 6, 2) := dk_21 6 (dk_at dksX0_firstChanged_3 3 rfl rfl)
theorem dX0_firstChanged_74 : decode cX0_firstChanged 74 = .ok (.aload_n 0, 1) := dk_42 (dk_at dksX0_firstChanged_3 5 rfl rfl)
theorem dX0_firstChanged_75 : decode cX0_firstChanged 75 = .ok (.getfield 88, 3) := dk_180 0 88 (dk_at dksX0_firstChanged_3 6 rfl rfl)
theorem dX0_firstChanged_78 : decode cX0_firstChanged 78 = .ok (.getfield 224, 3) := dk_180 0 224 (dk_at dksX0_firstChanged_3 9 rfl rfl)
theorem dX0_firstChanged_81 : decode cX0_firstChanged 81 = .ok (.iload 5, 2) := dk_21 5 (dk_at dksX0_firstChanged_3 12 rfl rfl)
theorem dX0_firstChanged_83 : decode cX0_firstChanged 83 = .ok (.iaload, 1) := dk_46 (dk_at dksX0_firstChanged_3 14 rfl rfl)
theorem dX0_firstChanged_84 : decode cX0_firstChanged 84 = .ok (.iastore, 1) := dk_79 (dk_at dksX0_firstChanged_3 15 rfl rfl)
theorem dX0_firstChanged_85 : decode cX0_firstChanged 85 = .ok (.aload_n 0, 1) := dk_42 (dk_at dksX0_firstChanged_3 16 rfl rfl)
theorem dX0_firstChanged_86 : decode cX0_firstChanged 86 = .ok (.aload_n 0, 1) := dk_42 (dk_at dksX0_firstChanged_3 17 rfl rfl)
theorem dX0_firstChanged_87 : decode cX0_firstChanged 87 = .ok (.getfield 77, 3) := dk_180 0 77 (dk_at dksX0_firstChanged_3 18 rfl rfl)
theorem dX0_firstChanged_90 : decode cX0_firstChanged 90 = .ok (.aload_n 1, 1) := dk_43 (dk_at dksX0_firstChanged_3 21 rfl rfl)
theorem dX0_firstChanged_91 : decode cX0_firstChanged 91 = .ok (.iload_n 2, 1) := dk_28 (dk_at dksX0_firstChanged_3 22 rfl rfl)
theorem dX0_firstChanged_92 : decode cX0_firstChanged 92 = .ok (.iload_n 3, 1) := dk_29 (dk_at dksX0_firstChanged_3 23 rfl rfl)
theorem dX0_firstChanged_93 : decode cX0_firstChanged 93 = .ok (.iload 4, 2) := dk_21 4 (dk_at dksX0_firstChanged_4 0 rfl rfl)
theorem dX0_firstChanged_95 : decode cX0_firstChanged 95 = .ok (.invokevirtual 358, 3) := dk_182 1 102 (dk_at dksX0_firstChanged_4 2 rfl rfl)
theorem dX0_firstChanged_98 : decode cX0_firstChanged 98 = .ok (.ifCond .eq 12, 3) := dk_153 0 12 (dk_at dksX0_firstChanged_4 5 rfl rfl)
theorem dX0_firstChanged_101 : decode cX0_firstChanged 101 = .ok (.bipush 20, 2) := dk_16 20 (dk_at dksX0_firstChanged_4 8 rfl rfl)
theorem dX0_firstChanged_103 : decode cX0_firstChanged 103 = .ok (.iload 5, 2) := dk_21 5 (dk_at dksX0_firstChanged_4 10 rfl rfl)
theorem dX0_firstChanged_105 : decode cX0_firstChanged 105 = .ok (.imul, 1) := dk_104 (dk_at dksX0_firstChanged_4 12 rfl rfl)
theorem dX0_firstChanged_106 : decode cX0_firstChanged 106 = .ok (.iload 6, 2) := dk_21 6 (dk_at dksX0_firstChanged_4 13 rfl rfl)
theorem dX0_firstChanged_108 : decode cX0_firstChanged 108 = .ok (.iadd, 1) := dk_96 (dk_at dksX0_firstChanged_4 15 rfl rfl)
theorem dX0_firstChanged_109 : decode cX0_firstChanged 109 = .ok (.ireturn, 1) := dk_172 (dk_at dksX0_firstChanged_4 16 rfl rfl)
theorem dX0_firstChanged_110 : decode cX0_firstChanged 110 = .ok (.iinc 6 1, 3) := dk_132 6 1 (dk_at dksX0_firstChanged_4 17 rfl rfl)
theorem dX0_firstChanged_113 : decode cX0_firstChanged 113 = .ok (.goto (-92), 3) := dk_167 255 164 (dk_at dksX0_firstChanged_4 20 rfl rfl)
theorem dX0_firstChanged_116 : decode cX0_firstChanged 116 = .ok (.iinc 5 1, 3) := dk_132 5 1 (dk_at dksX0_firstChanged_5 0 rfl rfl)
theorem dX0_firstChanged_119 : decode cX0_firstChanged 119 = .ok (.goto (-116), 3) := dk_167 255 140 (dk_at dksX0_firstChanged_5 3 rfl rfl)
theorem dX0_firstChanged_122 : decode cX0_firstChanged 122 = .ok (.iconst (-1), 1) := dk_2 (dk_at dksX0_firstChanged_5 6 rfl rfl)
theorem dX0_firstChanged_123 : decode cX0_firstChanged 123 = .ok (.ireturn, 1) := dk_172 (dk_at dksX0_firstChanged_5 7 rfl rfl)
abbrev cX0_known : ByteArray := prog_1_method_55_code
def yX0_known : MethodName := ⟨RX0, "known", "(II)I"⟩
def dkwX0_known_4 : List UInt8 := [182, 1, 122, 172, 78, 42, 45, 182, 0, 169, 172]
abbrev dktX0_known_4 : List UInt8 := dkwX0_known_4 ++ []
def dkwX0_known_3 : List UInt8 := [42, 180, 0, 88, 27, 182, 1, 113, 172, 42, 180, 0, 88, 182, 1, 116, 172, 42, 182, 1, 119, 172, 42]
abbrev dktX0_known_3 : List UInt8 := dkwX0_known_3 ++ dktX0_known_4
def dkwX0_known_2 : List UInt8 := [170, 0, 0, 0, 47, 0, 0, 0, 0, 0, 0, 0, 2, 0, 0, 0, 25, 0, 0, 0, 34, 0, 0, 0, 42]
abbrev dktX0_known_2 : List UInt8 := dkwX0_known_2 ++ dktX0_known_3
def dkwX0_known_1 : List UInt8 := [28, 133, 9, 20, 0, 163, 184, 0, 125, 16, 251, 184, 0, 116, 28]
abbrev dktX0_known_1 : List UInt8 := dkwX0_known_1 ++ dktX0_known_2
def dkwX0_known_0 : List UInt8 := [28, 154, 0, 14, 42, 180, 0, 88, 27, 182, 0, 112, 153, 0, 7, 4, 167, 0, 4, 3, 2, 184, 0, 116]
abbrev dktX0_known_0 : List UInt8 := dkwX0_known_0 ++ dktX0_known_1
theorem dksX0_known_0 : cX0_known.data.toList.drop 0 = dktX0_known_0 := by decide +kernel
theorem dksX0_known_1 : cX0_known.data.toList.drop 24 = dktX0_known_1 := dk_seg dksX0_known_0 24 rfl rfl
theorem dksX0_known_2 : cX0_known.data.toList.drop 39 = dktX0_known_2 := dk_seg dksX0_known_1 15 rfl rfl
theorem dksX0_known_3 : cX0_known.data.toList.drop 64 = dktX0_known_3 := dk_seg dksX0_known_2 25 rfl rfl
theorem dksX0_known_4 : cX0_known.data.toList.drop 87 = dktX0_known_4 := dk_seg dksX0_known_3 23 rfl rfl
theorem dX0_known_0 : decode cX0_known 0 = .ok (.iload_n 2, 1) := dk_28 (dk_at dksX0_known_0 0 rfl rfl)
theorem dX0_known_1 : decode cX0_known 1 = .ok (.ifCond .ne 14, 3) := dk_154 0 14 (dk_at dksX0_known_0 1 rfl rfl)
theorem dX0_known_4 : decode cX0_known 4 = .ok (.aload_n 0, 1) := dk_42 (dk_at dksX0_known_0 4 rfl rfl)
theorem dX0_known_5 : decode cX0_known 5 = .ok (.getfield 88, 3) := dk_180 0 88 (dk_at dksX0_known_0 5 rfl rfl)
theorem dX0_known_8 : decode cX0_known 8 = .ok (.iload_n 1, 1) := dk_27 (dk_at dksX0_known_0 8 rfl rfl)
theorem dX0_known_9 : decode cX0_known 9 = .ok (.invokevirtual 112, 3) := dk_182 0 112 (dk_at dksX0_known_0 9 rfl rfl)
theorem dX0_known_12 : decode cX0_known 12 = .ok (.ifCond .eq 7, 3) := dk_153 0 7 (dk_at dksX0_known_0 12 rfl rfl)
theorem dX0_known_15 : decode cX0_known 15 = .ok (.iconst 1, 1) := dk_4 (dk_at dksX0_known_0 15 rfl rfl)
theorem dX0_known_16 : decode cX0_known 16 = .ok (.goto 4, 3) := dk_167 0 4 (dk_at dksX0_known_0 16 rfl rfl)
theorem dX0_known_19 : decode cX0_known 19 = .ok (.iconst 0, 1) := dk_3 (dk_at dksX0_known_0 19 rfl rfl)
theorem dX0_known_20 : decode cX0_known 20 = .ok (.iconst (-1), 1) := dk_2 (dk_at dksX0_known_0 20 rfl rfl)
theorem dX0_known_21 : decode cX0_known 21 = .ok (.invokestatic 116, 3) := dk_184 0 116 (dk_at dksX0_known_0 21 rfl rfl)
theorem dX0_known_24 : decode cX0_known 24 = .ok (.iload_n 2, 1) := dk_28 (dk_at dksX0_known_1 0 rfl rfl)
theorem dX0_known_25 : decode cX0_known 25 = .ok (.i2l, 1) := dk_133 (dk_at dksX0_known_1 1 rfl rfl)
theorem dX0_known_26 : decode cX0_known 26 = .ok (.lconst 0, 1) := dk_9 (dk_at dksX0_known_1 2 rfl rfl)
theorem dX0_known_27 : decode cX0_known 27 = .ok (.ldc2_w 163, 3) := dk_20 0 163 (dk_at dksX0_known_1 3 rfl rfl)
theorem dX0_known_30 : decode cX0_known 30 = .ok (.invokestatic 125, 3) := dk_184 0 125 (dk_at dksX0_known_1 6 rfl rfl)
theorem dX0_known_33 : decode cX0_known 33 = .ok (.bipush (-5), 2) := dk_16 251 (dk_at dksX0_known_1 9 rfl rfl)
theorem dX0_known_35 : decode cX0_known 35 = .ok (.invokestatic 116, 3) := dk_184 0 116 (dk_at dksX0_known_1 11 rfl rfl)
theorem dX0_known_38 : decode cX0_known 38 = .ok (.iload_n 2, 1) := dk_28 (dk_at dksX0_known_1 14 rfl rfl)
theorem dX0_known_39 : decode cX0_known 39 = .ok (.tableswitch 47 0 2 #[25, 34, 42], 25) := by decide +kernel
theorem dX0_known_64 : decode cX0_known 64 = .ok (.aload_n 0, 1) := dk_42 (dk_at dksX0_known_3 0 rfl rfl)
theorem dX0_known_65 : decode cX0_known 65 = .ok (.getfield 88, 3) := dk_180 0 88 (dk_at dksX0_known_3 1 rfl rfl)
theorem dX0_known_68 : decode cX0_known 68 = .ok (.iload_n 1, 1) := dk_27 (dk_at dksX0_known_3 4 rfl rfl)
theorem dX0_known_69 : decode cX0_known 69 = .ok (.invokevirtual 369, 3) := dk_182 1 113 (dk_at dksX0_known_3 5 rfl rfl)
theorem dX0_known_72 : decode cX0_known 72 = .ok (.ireturn, 1) := dk_172 (dk_at dksX0_known_3 8 rfl rfl)
theorem dX0_known_73 : decode cX0_known 73 = .ok (.aload_n 0, 1) := dk_42 (dk_at dksX0_known_3 9 rfl rfl)
theorem dX0_known_74 : decode cX0_known 74 = .ok (.getfield 88, 3) := dk_180 0 88 (dk_at dksX0_known_3 10 rfl rfl)
theorem dX0_known_77 : decode cX0_known 77 = .ok (.invokevirtual 372, 3) := dk_182 1 116 (dk_at dksX0_known_3 13 rfl rfl)
theorem dX0_known_80 : decode cX0_known 80 = .ok (.ireturn, 1) := dk_172 (dk_at dksX0_known_3 16 rfl rfl)
theorem dX0_known_81 : decode cX0_known 81 = .ok (.aload_n 0, 1) := dk_42 (dk_at dksX0_known_3 17 rfl rfl)
theorem dX0_known_82 : decode cX0_known 82 = .ok (.invokevirtual 375, 3) := dk_182 1 119 (dk_at dksX0_known_3 18 rfl rfl)
theorem dX0_known_85 : decode cX0_known 85 = .ok (.ireturn, 1) := dk_172 (dk_at dksX0_known_3 21 rfl rfl)
theorem dX0_known_86 : decode cX0_known 86 = .ok (.aload_n 0, 1) := dk_42 (dk_at dksX0_known_3 22 rfl rfl)
theorem dX0_known_87 : decode cX0_known 87 = .ok (.invokevirtual 378, 3) := dk_182 1 122 (dk_at dksX0_known_4 0 rfl rfl)
theorem dX0_known_90 : decode cX0_known 90 = .ok (.ireturn, 1) := dk_172 (dk_at dksX0_known_4 3 rfl rfl)
theorem dX0_known_91 : decode cX0_known 91 = .ok (.astore_n 3, 1) := dk_78 (dk_at dksX0_known_4 4 rfl rfl)
theorem dX0_known_92 : decode cX0_known 92 = .ok (.aload_n 0, 1) := dk_42 (dk_at dksX0_known_4 5 rfl rfl)
theorem dX0_known_93 : decode cX0_known 93 = .ok (.aload_n 3, 1) := dk_45 (dk_at dksX0_known_4 6 rfl rfl)
theorem dX0_known_94 : decode cX0_known 94 = .ok (.invokevirtual 169, 3) := dk_182 0 169 (dk_at dksX0_known_4 7 rfl rfl)
theorem dX0_known_97 : decode cX0_known 97 = .ok (.ireturn, 1) := dk_172 (dk_at dksX0_known_4 10 rfl rfl)
abbrev cX0_knownByAll : ByteArray := prog_1_method_52_code
def yX0_knownByAll : MethodName := ⟨RX0, "knownByAll", "()I"⟩
def dkwX0_knownByAll_1 : List UInt8 := [162, 0, 21, 27, 42, 180, 0, 88, 180, 0, 221, 28, 46, 126, 60, 132, 2, 1, 167, 255, 230, 27, 172]
abbrev dktX0_knownByAll_1 : List UInt8 := dkwX0_knownByAll_1 ++ []
def dkwX0_knownByAll_0 : List UInt8 := [4, 42, 180, 0, 88, 180, 0, 200, 120, 4, 100, 60, 3, 61, 28, 42, 180, 0, 88, 180, 0, 211]
abbrev dktX0_knownByAll_0 : List UInt8 := dkwX0_knownByAll_0 ++ dktX0_knownByAll_1
theorem dksX0_knownByAll_0 : cX0_knownByAll.data.toList.drop 0 = dktX0_knownByAll_0 := by decide +kernel
theorem dksX0_knownByAll_1 : cX0_knownByAll.data.toList.drop 22 = dktX0_knownByAll_1 := dk_seg dksX0_knownByAll_0 22 rfl rfl
theorem dX0_knownByAll_0 : decode cX0_knownByAll 0 = .ok (.iconst 1, 1) := dk_4 (dk_at dksX0_knownByAll_0 0 rfl rfl)
theorem dX0_knownByAll_1 : decode cX0_knownByAll 1 = .ok (.aload_n 0, 1) := dk_42 (dk_at dksX0_knownByAll_0 1 rfl rfl)
theorem dX0_knownByAll_2 : decode cX0_knownByAll 2 = .ok (.getfield 88, 3) := dk_180 0 88 (dk_at dksX0_knownByAll_0 2 rfl rfl)
theorem dX0_knownByAll_5 : decode cX0_knownByAll 5 = .ok (.getfield 200, 3) := dk_180 0 200 (dk_at dksX0_knownByAll_0 5 rfl rfl)
theorem dX0_knownByAll_8 : decode cX0_knownByAll 8 = .ok (.ishl, 1) := dk_120 (dk_at dksX0_knownByAll_0 8 rfl rfl)
theorem dX0_knownByAll_9 : decode cX0_knownByAll 9 = .ok (.iconst 1, 1) := dk_4 (dk_at dksX0_knownByAll_0 9 rfl rfl)
theorem dX0_knownByAll_10 : decode cX0_knownByAll 10 = .ok (.isub, 1) := dk_100 (dk_at dksX0_knownByAll_0 10 rfl rfl)
theorem dX0_knownByAll_11 : decode cX0_knownByAll 11 = .ok (.istore_n 1, 1) := dk_60 (dk_at dksX0_knownByAll_0 11 rfl rfl)
theorem dX0_knownByAll_12 : decode cX0_knownByAll 12 = .ok (.iconst 0, 1) := dk_3 (dk_at dksX0_knownByAll_0 12 rfl rfl)
theorem dX0_knownByAll_13 : decode cX0_knownByAll 13 = .ok (.istore_n 2, 1) := dk_61 (dk_at dksX0_knownByAll_0 13 rfl rfl)
theorem dX0_knownByAll_14 : decode cX0_knownByAll 14 = .ok (.iload_n 2, 1) := dk_28 (dk_at dksX0_knownByAll_0 14 rfl rfl)
theorem dX0_knownByAll_15 : decode cX0_knownByAll 15 = .ok (.aload_n 0, 1) := dk_42 (dk_at dksX0_knownByAll_0 15 rfl rfl)
theorem dX0_knownByAll_16 : decode cX0_knownByAll 16 = .ok (.getfield 88, 3) := dk_180 0 88 (dk_at dksX0_knownByAll_0 16 rfl rfl)
theorem dX0_knownByAll_19 : decode cX0_knownByAll 19 = .ok (.getfield 211, 3) := dk_180 0 211 (dk_at dksX0_knownByAll_0 19 rfl rfl)
theorem dX0_knownByAll_22 : decode cX0_knownByAll 22 = .ok (.if_icmp .ge 21, 3) := dk_162 0 21 (dk_at dksX0_knownByAll_1 0 rfl rfl)
theorem dX0_knownByAll_25 : decode cX0_knownByAll 25 = .ok (.iload_n 1, 1) := dk_27 (dk_at dksX0_knownByAll_1 3 rfl rfl)
theorem dX0_knownByAll_26 : decode cX0_knownByAll 26 = .ok (.aload_n 0, 1) := dk_42 (dk_at dksX0_knownByAll_1 4 rfl rfl)
theorem dX0_knownByAll_27 : decode cX0_knownByAll 27 = .ok (.getfield 88, 3) := dk_180 0 88 (dk_at dksX0_knownByAll_1 5 rfl rfl)
theorem dX0_knownByAll_30 : decode cX0_knownByAll 30 = .ok (.getfield 221, 3) := dk_180 0 221 (dk_at dksX0_knownByAll_1 8 rfl rfl)
theorem dX0_knownByAll_33 : decode cX0_knownByAll 33 = .ok (.iload_n 2, 1) := dk_28 (dk_at dksX0_knownByAll_1 11 rfl rfl)
theorem dX0_knownByAll_34 : decode cX0_knownByAll 34 = .ok (.iaload, 1) := dk_46 (dk_at dksX0_knownByAll_1 12 rfl rfl)
theorem dX0_knownByAll_35 : decode cX0_knownByAll 35 = .ok (.iand, 1) := dk_126 (dk_at dksX0_knownByAll_1 13 rfl rfl)
theorem dX0_knownByAll_36 : decode cX0_knownByAll 36 = .ok (.istore_n 1, 1) := dk_60 (dk_at dksX0_knownByAll_1 14 rfl rfl)
theorem dX0_knownByAll_37 : decode cX0_knownByAll 37 = .ok (.iinc 2 1, 3) := dk_132 2 1 (dk_at dksX0_knownByAll_1 15 rfl rfl)
theorem dX0_knownByAll_40 : decode cX0_knownByAll 40 = .ok (.goto (-26), 3) := dk_167 255 230 (dk_at dksX0_knownByAll_1 18 rfl rfl)
theorem dX0_knownByAll_43 : decode cX0_knownByAll 43 = .ok (.iload_n 1, 1) := dk_27 (dk_at dksX0_knownByAll_1 21 rfl rfl)
theorem dX0_knownByAll_44 : decode cX0_knownByAll 44 = .ok (.ireturn, 1) := dk_172 (dk_at dksX0_knownByAll_1 22 rfl rfl)
abbrev cX0_whomToAsk : ByteArray := prog_1_method_54_code
def yX0_whomToAsk : MethodName := ⟨RX0, "whomToAsk", "()I"⟩
def dkwX0_whomToAsk_2 : List UInt8 := [28, 167, 0, 4, 27, 60, 132, 2, 1, 167, 255, 223, 27, 172]
abbrev dktX0_whomToAsk_2 : List UInt8 := dkwX0_whomToAsk_2 ++ []
def dkwX0_whomToAsk_1 : List UInt8 := [28, 42, 180, 0, 88, 180, 0, 211, 162, 0, 28, 42, 28, 182, 1, 110, 42, 27, 182, 1, 110, 164, 0, 7]
abbrev dktX0_whomToAsk_1 : List UInt8 := dkwX0_whomToAsk_1 ++ dktX0_whomToAsk_2
def dkwX0_whomToAsk_0 : List UInt8 := [42, 180, 0, 88, 180, 0, 211, 158, 0, 7, 4, 167, 0, 4, 3, 16, 251, 184, 0, 116, 3, 60, 4, 61]
abbrev dktX0_whomToAsk_0 : List UInt8 := dkwX0_whomToAsk_0 ++ dktX0_whomToAsk_1
theorem dksX0_whomToAsk_0 : cX0_whomToAsk.data.toList.drop 0 = dktX0_whomToAsk_0 := by decide +kernel
theorem dksX0_whomToAsk_1 : cX0_whomToAsk.data.toList.drop 24 = dktX0_whomToAsk_1 := dk_seg dksX0_whomToAsk_0 24 rfl rfl
theorem dksX0_whomToAsk_2 : cX0_whomToAsk.data.toList.drop 48 = dktX0_whomToAsk_2 := dk_seg dksX0_whomToAsk_1 24 rfl rfl
theorem dX0_whomToAsk_0 : decode cX0_whomToAsk 0 = .ok (.aload_n 0, 1) := dk_42 (dk_at dksX0_whomToAsk_0 0 rfl rfl)
theorem dX0_whomToAsk_1 : decode cX0_whomToAsk 1 = .ok (.getfield 88, 3) := dk_180 0 88 (dk_at dksX0_whomToAsk_0 1 rfl rfl)
theorem dX0_whomToAsk_4 : decode cX0_whomToAsk 4 = .ok (.getfield 211, 3) := dk_180 0 211 (dk_at dksX0_whomToAsk_0 4 rfl rfl)
theorem dX0_whomToAsk_7 : decode cX0_whomToAsk 7 = .ok (.ifCond .le 7, 3) := dk_158 0 7 (dk_at dksX0_whomToAsk_0 7 rfl rfl)
theorem dX0_whomToAsk_10 : decode cX0_whomToAsk 10 = .ok (.iconst 1, 1) := dk_4 (dk_at dksX0_whomToAsk_0 10 rfl rfl)
theorem dX0_whomToAsk_11 : decode cX0_whomToAsk 11 = .ok (.goto 4, 3) := dk_167 0 4 (dk_at dksX0_whomToAsk_0 11 rfl rfl)
theorem dX0_whomToAsk_14 : decode cX0_whomToAsk 14 = .ok (.iconst 0, 1) := dk_3 (dk_at dksX0_whomToAsk_0 14 rfl rfl)
theorem dX0_whomToAsk_15 : decode cX0_whomToAsk 15 = .ok (.bipush (-5), 2) := dk_16 251 (dk_at dksX0_whomToAsk_0 15 rfl rfl)
theorem dX0_whomToAsk_17 : decode cX0_whomToAsk 17 = .ok (.invokestatic 116, 3) := dk_184 0 116 (dk_at dksX0_whomToAsk_0 17 rfl rfl)
theorem dX0_whomToAsk_20 : decode cX0_whomToAsk 20 = .ok (.iconst 0, 1) := dk_3 (dk_at dksX0_whomToAsk_0 20 rfl rfl)
theorem dX0_whomToAsk_21 : decode cX0_whomToAsk 21 = .ok (.istore_n 1, 1) := dk_60 (dk_at dksX0_whomToAsk_0 21 rfl rfl)
theorem dX0_whomToAsk_22 : decode cX0_whomToAsk 22 = .ok (.iconst 1, 1) := dk_4 (dk_at dksX0_whomToAsk_0 22 rfl rfl)
theorem dX0_whomToAsk_23 : decode cX0_whomToAsk 23 = .ok (.istore_n 2, 1) := dk_61 (dk_at dksX0_whomToAsk_0 23 rfl rfl)
theorem dX0_whomToAsk_24 : decode cX0_whomToAsk 24 = .ok (.iload_n 2, 1) := dk_28 (dk_at dksX0_whomToAsk_1 0 rfl rfl)
theorem dX0_whomToAsk_25 : decode cX0_whomToAsk 25 = .ok (.aload_n 0, 1) := dk_42 (dk_at dksX0_whomToAsk_1 1 rfl rfl)
theorem dX0_whomToAsk_26 : decode cX0_whomToAsk 26 = .ok (.getfield 88, 3) := dk_180 0 88 (dk_at dksX0_whomToAsk_1 2 rfl rfl)
theorem dX0_whomToAsk_29 : decode cX0_whomToAsk 29 = .ok (.getfield 211, 3) := dk_180 0 211 (dk_at dksX0_whomToAsk_1 5 rfl rfl)
theorem dX0_whomToAsk_32 : decode cX0_whomToAsk 32 = .ok (.if_icmp .ge 28, 3) := dk_162 0 28 (dk_at dksX0_whomToAsk_1 8 rfl rfl)
theorem dX0_whomToAsk_35 : decode cX0_whomToAsk 35 = .ok (.aload_n 0, 1) := dk_42 (dk_at dksX0_whomToAsk_1 11 rfl rfl)
theorem dX0_whomToAsk_36 : decode cX0_whomToAsk 36 = .ok (.iload_n 2, 1) := dk_28 (dk_at dksX0_whomToAsk_1 12 rfl rfl)
theorem dX0_whomToAsk_37 : decode cX0_whomToAsk 37 = .ok (.invokevirtual 366, 3) := dk_182 1 110 (dk_at dksX0_whomToAsk_1 13 rfl rfl)
theorem dX0_whomToAsk_40 : decode cX0_whomToAsk 40 = .ok (.aload_n 0, 1) := dk_42 (dk_at dksX0_whomToAsk_1 16 rfl rfl)
theorem dX0_whomToAsk_41 : decode cX0_whomToAsk 41 = .ok (.iload_n 1, 1) := dk_27 (dk_at dksX0_whomToAsk_1 17 rfl rfl)
theorem dX0_whomToAsk_42 : decode cX0_whomToAsk 42 = .ok (.invokevirtual 366, 3) := dk_182 1 110 (dk_at dksX0_whomToAsk_1 18 rfl rfl)
theorem dX0_whomToAsk_45 : decode cX0_whomToAsk 45 = .ok (.if_icmp .le 7, 3) := dk_164 0 7 (dk_at dksX0_whomToAsk_1 21 rfl rfl)
theorem dX0_whomToAsk_48 : decode cX0_whomToAsk 48 = .ok (.iload_n 2, 1) := dk_28 (dk_at dksX0_whomToAsk_2 0 rfl rfl)
theorem dX0_whomToAsk_49 : decode cX0_whomToAsk 49 = .ok (.goto 4, 3) := dk_167 0 4 (dk_at dksX0_whomToAsk_2 1 rfl rfl)
theorem dX0_whomToAsk_52 : decode cX0_whomToAsk 52 = .ok (.iload_n 1, 1) := dk_27 (dk_at dksX0_whomToAsk_2 4 rfl rfl)
theorem dX0_whomToAsk_53 : decode cX0_whomToAsk 53 = .ok (.istore_n 1, 1) := dk_60 (dk_at dksX0_whomToAsk_2 5 rfl rfl)
theorem dX0_whomToAsk_54 : decode cX0_whomToAsk 54 = .ok (.iinc 2 1, 3) := dk_132 2 1 (dk_at dksX0_whomToAsk_2 6 rfl rfl)
theorem dX0_whomToAsk_57 : decode cX0_whomToAsk 57 = .ok (.goto (-33), 3) := dk_167 255 223 (dk_at dksX0_whomToAsk_2 9 rfl rfl)
theorem dX0_whomToAsk_60 : decode cX0_whomToAsk 60 = .ok (.iload_n 1, 1) := dk_27 (dk_at dksX0_whomToAsk_2 12 rfl rfl)
theorem dX0_whomToAsk_61 : decode cX0_whomToAsk 61 = .ok (.ireturn, 1) := dk_172 (dk_at dksX0_whomToAsk_2 13 rfl rfl)
abbrev cX0_alike : ByteArray := prog_1_method_53_code
def yX0_alike : MethodName := ⟨RX0, "alike", "(I)I"⟩
def dkwX0_alike_2 : List UInt8 := [3, 96, 61, 132, 3, 1, 167, 255, 208, 28, 172]
abbrev dktX0_alike_2 : List UInt8 := dkwX0_alike_2 ++ []
def dkwX0_alike_1 : List UInt8 := [180, 0, 88, 180, 0, 221, 29, 46, 42, 180, 0, 88, 180, 0, 221, 27, 46, 160, 0, 7, 4, 167, 0, 4]
abbrev dktX0_alike_1 : List UInt8 := dkwX0_alike_1 ++ dktX0_alike_2
def dkwX0_alike_0 : List UInt8 := [3, 61, 3, 62, 29, 42, 180, 0, 88, 180, 0, 211, 162, 0, 43, 28, 29, 27, 159, 0, 28, 42]
abbrev dktX0_alike_0 : List UInt8 := dkwX0_alike_0 ++ dktX0_alike_1
theorem dksX0_alike_0 : cX0_alike.data.toList.drop 0 = dktX0_alike_0 := by decide +kernel
theorem dksX0_alike_1 : cX0_alike.data.toList.drop 22 = dktX0_alike_1 := dk_seg dksX0_alike_0 22 rfl rfl
theorem dksX0_alike_2 : cX0_alike.data.toList.drop 46 = dktX0_alike_2 := dk_seg dksX0_alike_1 24 rfl rfl
theorem dX0_alike_0 : decode cX0_alike 0 = .ok (.iconst 0, 1) := dk_3 (dk_at dksX0_alike_0 0 rfl rfl)
theorem dX0_alike_1 : decode cX0_alike 1 = .ok (.istore_n 2, 1) := dk_61 (dk_at dksX0_alike_0 1 rfl rfl)
theorem dX0_alike_2 : decode cX0_alike 2 = .ok (.iconst 0, 1) := dk_3 (dk_at dksX0_alike_0 2 rfl rfl)
theorem dX0_alike_3 : decode cX0_alike 3 = .ok (.istore_n 3, 1) := dk_62 (dk_at dksX0_alike_0 3 rfl rfl)
theorem dX0_alike_4 : decode cX0_alike 4 = .ok (.iload_n 3, 1) := dk_29 (dk_at dksX0_alike_0 4 rfl rfl)
theorem dX0_alike_5 : decode cX0_alike 5 = .ok (.aload_n 0, 1) := dk_42 (dk_at dksX0_alike_0 5 rfl rfl)
theorem dX0_alike_6 : decode cX0_alike 6 = .ok (.getfield 88, 3) := dk_180 0 88 (dk_at dksX0_alike_0 6 rfl rfl)
theorem dX0_alike_9 : decode cX0_alike 9 = .ok (.getfield 211, 3) := dk_180 0 211 (dk_at dksX0_alike_0 9 rfl rfl)
theorem dX0_alike_12 : decode cX0_alike 12 = .ok (.if_icmp .ge 43, 3) := dk_162 0 43 (dk_at dksX0_alike_0 12 rfl rfl)
theorem dX0_alike_15 : decode cX0_alike 15 = .ok (.iload_n 2, 1) := dk_28 (dk_at dksX0_alike_0 15 rfl rfl)
theorem dX0_alike_16 : decode cX0_alike 16 = .ok (.iload_n 3, 1) := dk_29 (dk_at dksX0_alike_0 16 rfl rfl)
theorem dX0_alike_17 : decode cX0_alike 17 = .ok (.iload_n 1, 1) := dk_27 (dk_at dksX0_alike_0 17 rfl rfl)
theorem dX0_alike_18 : decode cX0_alike 18 = .ok (.if_icmp .eq 28, 3) := dk_159 0 28 (dk_at dksX0_alike_0 18 rfl rfl)
theorem dX0_alike_21 : decode cX0_alike 21 = .ok (.aload_n 0, 1) := dk_42 (dk_at dksX0_alike_0 21 rfl rfl)
theorem dX0_alike_22 : decode cX0_alike 22 = .ok (.getfield 88, 3) := dk_180 0 88 (dk_at dksX0_alike_1 0 rfl rfl)
theorem dX0_alike_25 : decode cX0_alike 25 = .ok (.getfield 221, 3) := dk_180 0 221 (dk_at dksX0_alike_1 3 rfl rfl)
theorem dX0_alike_28 : decode cX0_alike 28 = .ok (.iload_n 3, 1) := dk_29 (dk_at dksX0_alike_1 6 rfl rfl)
theorem dX0_alike_29 : decode cX0_alike 29 = .ok (.iaload, 1) := dk_46 (dk_at dksX0_alike_1 7 rfl rfl)
theorem dX0_alike_30 : decode cX0_alike 30 = .ok (.aload_n 0, 1) := dk_42 (dk_at dksX0_alike_1 8 rfl rfl)
theorem dX0_alike_31 : decode cX0_alike 31 = .ok (.getfield 88, 3) := dk_180 0 88 (dk_at dksX0_alike_1 9 rfl rfl)
theorem dX0_alike_34 : decode cX0_alike 34 = .ok (.getfield 221, 3) := dk_180 0 221 (dk_at dksX0_alike_1 12 rfl rfl)
theorem dX0_alike_37 : decode cX0_alike 37 = .ok (.iload_n 1, 1) := dk_27 (dk_at dksX0_alike_1 15 rfl rfl)
theorem dX0_alike_38 : decode cX0_alike 38 = .ok (.iaload, 1) := dk_46 (dk_at dksX0_alike_1 16 rfl rfl)
theorem dX0_alike_39 : decode cX0_alike 39 = .ok (.if_icmp .ne 7, 3) := dk_160 0 7 (dk_at dksX0_alike_1 17 rfl rfl)
theorem dX0_alike_42 : decode cX0_alike 42 = .ok (.iconst 1, 1) := dk_4 (dk_at dksX0_alike_1 20 rfl rfl)
theorem dX0_alike_43 : decode cX0_alike 43 = .ok (.goto 4, 3) := dk_167 0 4 (dk_at dksX0_alike_1 21 rfl rfl)
theorem dX0_alike_46 : decode cX0_alike 46 = .ok (.iconst 0, 1) := dk_3 (dk_at dksX0_alike_2 0 rfl rfl)
theorem dX0_alike_47 : decode cX0_alike 47 = .ok (.iadd, 1) := dk_96 (dk_at dksX0_alike_2 1 rfl rfl)
theorem dX0_alike_48 : decode cX0_alike 48 = .ok (.istore_n 2, 1) := dk_61 (dk_at dksX0_alike_2 2 rfl rfl)
theorem dX0_alike_49 : decode cX0_alike 49 = .ok (.iinc 3 1, 3) := dk_132 3 1 (dk_at dksX0_alike_2 3 rfl rfl)
theorem dX0_alike_52 : decode cX0_alike 52 = .ok (.goto (-48), 3) := dk_167 255 208 (dk_at dksX0_alike_2 6 rfl rfl)
theorem dX0_alike_55 : decode cX0_alike 55 = .ok (.iload_n 2, 1) := dk_28 (dk_at dksX0_alike_2 9 rfl rfl)
theorem dX0_alike_56 : decode cX0_alike 56 = .ok (.ireturn, 1) := dk_172 (dk_at dksX0_alike_2 10 rfl rfl)
abbrev cX0_judge : ByteArray := prog_1_method_58_code
def yX0_judge : MethodName := ⟨RX0, "judge", "(II)I"⟩
def dkwX0_judge_1 : List UInt8 := [45, 28, 182, 1, 138, 172, 78, 42, 45, 182, 0, 169, 16, 10, 100, 172]
abbrev dktX0_judge_1 : List UInt8 := dkwX0_judge_1 ++ []
def dkwX0_judge_0 : List UInt8 := [42, 27, 28, 182, 1, 99, 78, 28, 16, 40, 163, 0, 7, 4, 167, 0, 4, 3, 16, 250, 184, 0, 116, 42]
abbrev dktX0_judge_0 : List UInt8 := dkwX0_judge_0 ++ dktX0_judge_1
theorem dksX0_judge_0 : cX0_judge.data.toList.drop 0 = dktX0_judge_0 := by decide +kernel
theorem dksX0_judge_1 : cX0_judge.data.toList.drop 24 = dktX0_judge_1 := dk_seg dksX0_judge_0 24 rfl rfl
theorem dX0_judge_0 : decode cX0_judge 0 = .ok (.aload_n 0, 1) := dk_42 (dk_at dksX0_judge_0 0 rfl rfl)
theorem dX0_judge_1 : decode cX0_judge 1 = .ok (.iload_n 1, 1) := dk_27 (dk_at dksX0_judge_0 1 rfl rfl)
theorem dX0_judge_2 : decode cX0_judge 2 = .ok (.iload_n 2, 1) := dk_28 (dk_at dksX0_judge_0 2 rfl rfl)
theorem dX0_judge_3 : decode cX0_judge 3 = .ok (.invokevirtual 355, 3) := dk_182 1 99 (dk_at dksX0_judge_0 3 rfl rfl)
theorem dX0_judge_6 : decode cX0_judge 6 = .ok (.astore_n 3, 1) := dk_78 (dk_at dksX0_judge_0 6 rfl rfl)
theorem dX0_judge_7 : decode cX0_judge 7 = .ok (.iload_n 2, 1) := dk_28 (dk_at dksX0_judge_0 7 rfl rfl)
theorem dX0_judge_8 : decode cX0_judge 8 = .ok (.bipush 40, 2) := dk_16 40 (dk_at dksX0_judge_0 8 rfl rfl)
theorem dX0_judge_10 : decode cX0_judge 10 = .ok (.if_icmp .gt 7, 3) := dk_163 0 7 (dk_at dksX0_judge_0 10 rfl rfl)
theorem dX0_judge_13 : decode cX0_judge 13 = .ok (.iconst 1, 1) := dk_4 (dk_at dksX0_judge_0 13 rfl rfl)
theorem dX0_judge_14 : decode cX0_judge 14 = .ok (.goto 4, 3) := dk_167 0 4 (dk_at dksX0_judge_0 14 rfl rfl)
theorem dX0_judge_17 : decode cX0_judge 17 = .ok (.iconst 0, 1) := dk_3 (dk_at dksX0_judge_0 17 rfl rfl)
theorem dX0_judge_18 : decode cX0_judge 18 = .ok (.bipush (-6), 2) := dk_16 250 (dk_at dksX0_judge_0 18 rfl rfl)
theorem dX0_judge_20 : decode cX0_judge 20 = .ok (.invokestatic 116, 3) := dk_184 0 116 (dk_at dksX0_judge_0 20 rfl rfl)
theorem dX0_judge_23 : decode cX0_judge 23 = .ok (.aload_n 0, 1) := dk_42 (dk_at dksX0_judge_0 23 rfl rfl)
theorem dX0_judge_24 : decode cX0_judge 24 = .ok (.aload_n 3, 1) := dk_45 (dk_at dksX0_judge_1 0 rfl rfl)
theorem dX0_judge_25 : decode cX0_judge 25 = .ok (.iload_n 2, 1) := dk_28 (dk_at dksX0_judge_1 1 rfl rfl)
theorem dX0_judge_26 : decode cX0_judge 26 = .ok (.invokevirtual 394, 3) := dk_182 1 138 (dk_at dksX0_judge_1 2 rfl rfl)
theorem dX0_judge_29 : decode cX0_judge 29 = .ok (.ireturn, 1) := dk_172 (dk_at dksX0_judge_1 5 rfl rfl)
theorem dX0_judge_30 : decode cX0_judge 30 = .ok (.astore_n 3, 1) := dk_78 (dk_at dksX0_judge_1 6 rfl rfl)
theorem dX0_judge_31 : decode cX0_judge 31 = .ok (.aload_n 0, 1) := dk_42 (dk_at dksX0_judge_1 7 rfl rfl)
theorem dX0_judge_32 : decode cX0_judge 32 = .ok (.aload_n 3, 1) := dk_45 (dk_at dksX0_judge_1 8 rfl rfl)
theorem dX0_judge_33 : decode cX0_judge 33 = .ok (.invokevirtual 169, 3) := dk_182 0 169 (dk_at dksX0_judge_1 9 rfl rfl)
theorem dX0_judge_36 : decode cX0_judge 36 = .ok (.bipush 10, 2) := dk_16 10 (dk_at dksX0_judge_1 12 rfl rfl)
theorem dX0_judge_38 : decode cX0_judge 38 = .ok (.isub, 1) := dk_100 (dk_at dksX0_judge_1 14 rfl rfl)
theorem dX0_judge_39 : decode cX0_judge 39 = .ok (.ireturn, 1) := dk_172 (dk_at dksX0_judge_1 15 rfl rfl)
abbrev cX0_wrongIn : ByteArray := prog_1_method_57_code
def yX0_wrongIn : MethodName := ⟨RX0, "wrongIn", "(LWhichOneAllKnow$Row;I)I"⟩
def dkwX0_wrongIn_5 : List UInt8 := [87, 132, 3, 1, 167, 255, 160, 2, 172]
abbrev dktX0_wrongIn_5 : List UInt8 := dkwX0_wrongIn_5 ++ []
def dkwX0_wrongIn_4 : List UInt8 := [180, 0, 77, 21, 4, 16, 100, 108, 21, 4, 16, 10, 108, 16, 10, 112, 21, 4, 16, 10, 112, 182, 1, 134]
abbrev dktX0_wrongIn_4 : List UInt8 := dkwX0_wrongIn_4 ++ dktX0_wrongIn_5
def dkwX0_wrongIn_3 : List UInt8 := [16, 10, 112, 158, 0, 7, 4, 167, 0, 4, 3, 54, 5, 21, 5, 154, 0, 5, 29, 172, 42, 42]
abbrev dktX0_wrongIn_3 : List UInt8 := dkwX0_wrongIn_3 ++ dktX0_wrongIn_4
def dkwX0_wrongIn_2 : List UInt8 := [16, 100, 108, 182, 0, 120, 153, 0, 27, 21, 4, 16, 10, 108, 16, 10, 112, 8, 163, 0, 15, 21, 4]
abbrev dktX0_wrongIn_2 : List UInt8 := dkwX0_wrongIn_2 ++ dktX0_wrongIn_3
def dkwX0_wrongIn_1 : List UInt8 := [29, 28, 162, 0, 97, 43, 29, 182, 1, 96, 54, 4, 21, 4, 155, 0, 42, 42, 180, 0, 88, 21, 4]
abbrev dktX0_wrongIn_1 : List UInt8 := dkwX0_wrongIn_1 ++ dktX0_wrongIn_2
def dkwX0_wrongIn_0 : List UInt8 := [42, 180, 0, 77, 42, 180, 0, 88, 182, 0, 248, 87, 42, 3, 181, 1, 128, 42, 3, 181, 1, 131, 3, 62]
abbrev dktX0_wrongIn_0 : List UInt8 := dkwX0_wrongIn_0 ++ dktX0_wrongIn_1
theorem dksX0_wrongIn_0 : cX0_wrongIn.data.toList.drop 0 = dktX0_wrongIn_0 := by decide +kernel
theorem dksX0_wrongIn_1 : cX0_wrongIn.data.toList.drop 24 = dktX0_wrongIn_1 := dk_seg dksX0_wrongIn_0 24 rfl rfl
theorem dksX0_wrongIn_2 : cX0_wrongIn.data.toList.drop 47 = dktX0_wrongIn_2 := dk_seg dksX0_wrongIn_1 23 rfl rfl
theorem dksX0_wrongIn_3 : cX0_wrongIn.data.toList.drop 70 = dktX0_wrongIn_3 := dk_seg dksX0_wrongIn_2 23 rfl rfl
theorem dksX0_wrongIn_4 : cX0_wrongIn.data.toList.drop 92 = dktX0_wrongIn_4 := dk_seg dksX0_wrongIn_3 22 rfl rfl
theorem dksX0_wrongIn_5 : cX0_wrongIn.data.toList.drop 116 = dktX0_wrongIn_5 := dk_seg dksX0_wrongIn_4 24 rfl rfl
theorem dX0_wrongIn_0 : decode cX0_wrongIn 0 = .ok (.aload_n 0, 1) := dk_42 (dk_at dksX0_wrongIn_0 0 rfl rfl)
theorem dX0_wrongIn_1 : decode cX0_wrongIn 1 = .ok (.getfield 77, 3) := dk_180 0 77 (dk_at dksX0_wrongIn_0 1 rfl rfl)
theorem dX0_wrongIn_4 : decode cX0_wrongIn 4 = .ok (.aload_n 0, 1) := dk_42 (dk_at dksX0_wrongIn_0 4 rfl rfl)
theorem dX0_wrongIn_5 : decode cX0_wrongIn 5 = .ok (.getfield 88, 3) := dk_180 0 88 (dk_at dksX0_wrongIn_0 5 rfl rfl)
theorem dX0_wrongIn_8 : decode cX0_wrongIn 8 = .ok (.invokevirtual 248, 3) := dk_182 0 248 (dk_at dksX0_wrongIn_0 8 rfl rfl)
theorem dX0_wrongIn_11 : decode cX0_wrongIn 11 = .ok (.pop, 1) := dk_87 (dk_at dksX0_wrongIn_0 11 rfl rfl)
theorem dX0_wrongIn_12 : decode cX0_wrongIn 12 = .ok (.aload_n 0, 1) := dk_42 (dk_at dksX0_wrongIn_0 12 rfl rfl)
theorem dX0_wrongIn_13 : decode cX0_wrongIn 13 = .ok (.iconst 0, 1) := dk_3 (dk_at dksX0_wrongIn_0 13 rfl rfl)
theorem dX0_wrongIn_14 : decode cX0_wrongIn 14 = .ok (.putfield 384, 3) := dk_181 1 128 (dk_at dksX0_wrongIn_0 14 rfl rfl)
theorem dX0_wrongIn_17 : decode cX0_wrongIn 17 = .ok (.aload_n 0, 1) := dk_42 (dk_at dksX0_wrongIn_0 17 rfl rfl)
theorem dX0_wrongIn_18 : decode cX0_wrongIn 18 = .ok (.iconst 0, 1) := dk_3 (dk_at dksX0_wrongIn_0 18 rfl rfl)
theorem dX0_wrongIn_19 : decode cX0_wrongIn 19 = .ok (.putfield 387, 3) := dk_181 1 131 (dk_at dksX0_wrongIn_0 19 rfl rfl)
theorem dX0_wrongIn_22 : decode cX0_wrongIn 22 = .ok (.iconst 0, 1) := dk_3 (dk_at dksX0_wrongIn_0 22 rfl rfl)
theorem dX0_wrongIn_23 : decode cX0_wrongIn 23 = .ok (.istore_n 3, 1) := dk_62 (dk_at dksX0_wrongIn_0 23 rfl rfl)
theorem dX0_wrongIn_24 : decode cX0_wrongIn 24 = .ok (.iload_n 3, 1) := dk_29 (dk_at dksX0_wrongIn_1 0 rfl rfl)
theorem dX0_wrongIn_25 : decode cX0_wrongIn 25 = .ok (.iload_n 2, 1) := dk_28 (dk_at dksX0_wrongIn_1 1 rfl rfl)
theorem dX0_wrongIn_26 : decode cX0_wrongIn 26 = .ok (.if_icmp .ge 97, 3) := dk_162 0 97 (dk_at dksX0_wrongIn_1 2 rfl rfl)
theorem dX0_wrongIn_29 : decode cX0_wrongIn 29 = .ok (.aload_n 1, 1) := dk_43 (dk_at dksX0_wrongIn_1 5 rfl rfl)
theorem dX0_wrongIn_30 : decode cX0_wrongIn 30 = .ok (.iload_n 3, 1) := dk_29 (dk_at dksX0_wrongIn_1 6 rfl rfl)
theorem dX0_wrongIn_31 : decode cX0_wrongIn 31 = .ok (.invokevirtual 352, 3) := dk_182 1 96 (dk_at dksX0_wrongIn_1 7 rfl rfl)
theorem dX0_wrongIn_34 : decode cX0_wrongIn 34 = .ok (.istore 4, 2) := dk_54 4 (dk_at dksX0_wrongIn_1 10 rfl rfl)
theorem dX0_wrongIn_36 : decode cX0_wrongIn 36 = .ok (.iload 4, 2) := dk_21 4 (dk_at dksX0_wrongIn_1 12 rfl rfl)
theorem dX0_wrongIn_38 : decode cX0_wrongIn 38 = .ok (.ifCond .lt 42, 3) := dk_155 0 42 (dk_at dksX0_wrongIn_1 14 rfl rfl)
theorem dX0_wrongIn_41 : decode cX0_wrongIn 41 = .ok (.aload_n 0, 1) := dk_42 (dk_at dksX0_wrongIn_1 17 rfl rfl)
theorem dX0_wrongIn_42 : decode cX0_wrongIn 42 = .ok (.getfield 88, 3) := dk_180 0 88 (dk_at dksX0_wrongIn_1 18 rfl rfl)
theorem dX0_wrongIn_45 : decode cX0_wrongIn 45 = .ok (.iload 4, 2) := dk_21 4 (dk_at dksX0_wrongIn_1 21 rfl rfl)
theorem dX0_wrongIn_47 : decode cX0_wrongIn 47 = .ok (.bipush 100, 2) := dk_16 100 (dk_at dksX0_wrongIn_2 0 rfl rfl)
theorem dX0_wrongIn_49 : decode cX0_wrongIn 49 = .ok (.idiv, 1) := dk_108 (dk_at dksX0_wrongIn_2 2 rfl rfl)
theorem dX0_wrongIn_50 : decode cX0_wrongIn 50 = .ok (.invokevirtual 120, 3) := dk_182 0 120 (dk_at dksX0_wrongIn_2 3 rfl rfl)
theorem dX0_wrongIn_53 : decode cX0_wrongIn 53 = .ok (.ifCond .eq 27, 3) := dk_153 0 27 (dk_at dksX0_wrongIn_2 6 rfl rfl)
theorem dX0_wrongIn_56 : decode cX0_wrongIn 56 = .ok (.iload 4, 2) := dk_21 4 (dk_at dksX0_wrongIn_2 9 rfl rfl)
theorem dX0_wrongIn_58 : decode cX0_wrongIn 58 = .ok (.bipush 10, 2) := dk_16 10 (dk_at dksX0_wrongIn_2 11 rfl rfl)
theorem dX0_wrongIn_60 : decode cX0_wrongIn 60 = .ok (.idiv, 1) := dk_108 (dk_at dksX0_wrongIn_2 13 rfl rfl)
theorem dX0_wrongIn_61 : decode cX0_wrongIn 61 = .ok (.bipush 10, 2) := dk_16 10 (dk_at dksX0_wrongIn_2 14 rfl rfl)
theorem dX0_wrongIn_63 : decode cX0_wrongIn 63 = .ok (.irem, 1) := dk_112 (dk_at dksX0_wrongIn_2 16 rfl rfl)
theorem dX0_wrongIn_64 : decode cX0_wrongIn 64 = .ok (.iconst 5, 1) := dk_8 (dk_at dksX0_wrongIn_2 17 rfl rfl)
theorem dX0_wrongIn_65 : decode cX0_wrongIn 65 = .ok (.if_icmp .gt 15, 3) := dk_163 0 15 (dk_at dksX0_wrongIn_2 18 rfl rfl)
theorem dX0_wrongIn_68 : decode cX0_wrongIn 68 = .ok (.iload 4, 2) := dk_21 4 (dk_at dksX0_wrongIn_2 21 rfl rfl)
theorem dX0_wrongIn_70 : decode cX0_wrongIn 70 = .ok (.bipush 10, 2) := dk_16 10 (dk_at dksX0_wrongIn_3 0 rfl rfl)
theorem dX0_wrongIn_72 : decode cX0_wrongIn 72 = .ok (.irem, 1) := dk_112 (dk_at dksX0_wrongIn_3 2 rfl rfl)
theorem dX0_wrongIn_73 : decode cX0_wrongIn 73 = .ok (.ifCond .le 7, 3) := dk_158 0 7 (dk_at dksX0_wrongIn_3 3 rfl rfl)
theorem dX0_wrongIn_76 : decode cX0_wrongIn 76 = .ok (.iconst 1, 1) := dk_4 (dk_at dksX0_wrongIn_3 6 rfl rfl)
theorem dX0_wrongIn_77 : decode cX0_wrongIn 77 = .ok (.goto 4, 3) := dk_167 0 4 (dk_at dksX0_wrongIn_3 7 rfl rfl)
theorem dX0_wrongIn_80 : decode cX0_wrongIn 80 = .ok (.iconst 0, 1) := dk_3 (dk_at dksX0_wrongIn_3 10 rfl rfl)
theorem dX0_wrongIn_81 : decode cX0_wrongIn 81 = .ok (.istore 5, 2) := dk_54 5 (dk_at dksX0_wrongIn_3 11 rfl rfl)
theorem dX0_wrongIn_83 : decode cX0_wrongIn 83 = .ok (.iload 5, 2) := dk_21 5 (dk_at dksX0_wrongIn_3 13 rfl rfl)
theorem dX0_wrongIn_85 : decode cX0_wrongIn 85 = .ok (.ifCond .ne 5, 3) := dk_154 0 5 (dk_at dksX0_wrongIn_3 15 rfl rfl)
theorem dX0_wrongIn_88 : decode cX0_wrongIn 88 = .ok (.iload_n 3, 1) := dk_29 (dk_at dksX0_wrongIn_3 18 rfl rfl)
theorem dX0_wrongIn_89 : decode cX0_wrongIn 89 = .ok (.ireturn, 1) := dk_172 (dk_at dksX0_wrongIn_3 19 rfl rfl)
theorem dX0_wrongIn_90 : decode cX0_wrongIn 90 = .ok (.aload_n 0, 1) := dk_42 (dk_at dksX0_wrongIn_3 20 rfl rfl)
theorem dX0_wrongIn_91 : decode cX0_wrongIn 91 = .ok (.aload_n 0, 1) := dk_42 (dk_at dksX0_wrongIn_3 21 rfl rfl)
theorem dX0_wrongIn_92 : decode cX0_wrongIn 92 = .ok (.getfield 77, 3) := dk_180 0 77 (dk_at dksX0_wrongIn_4 0 rfl rfl)
theorem dX0_wrongIn_95 : decode cX0_wrongIn 95 = .ok (.iload 4, 2) := dk_21 4 (dk_at dksX0_wrongIn_4 3 rfl rfl)
theorem dX0_wrongIn_97 : decode cX0_wrongIn 97 = .ok (.bipush 100, 2) := dk_16 100 (dk_at dksX0_wrongIn_4 5 rfl rfl)
theorem dX0_wrongIn_99 : decode cX0_wrongIn 99 = .ok (.idiv, 1) := dk_108 (dk_at dksX0_wrongIn_4 7 rfl rfl)
theorem dX0_wrongIn_100 : decode cX0_wrongIn 100 = .ok (.iload 4, 2) := dk_21 4 (dk_at dksX0_wrongIn_4 8 rfl rfl)
theorem dX0_wrongIn_102 : decode cX0_wrongIn 102 = .ok (.bipush 10, 2) := dk_16 10 (dk_at dksX0_wrongIn_4 10 rfl rfl)
theorem dX0_wrongIn_104 : decode cX0_wrongIn 104 = .ok (.idiv, 1) := dk_108 (dk_at dksX0_wrongIn_4 12 rfl rfl)
theorem dX0_wrongIn_105 : decode cX0_wrongIn 105 = .ok (.bipush 10, 2) := dk_16 10 (dk_at dksX0_wrongIn_4 13 rfl rfl)
theorem dX0_wrongIn_107 : decode cX0_wrongIn 107 = .ok (.irem, 1) := dk_112 (dk_at dksX0_wrongIn_4 15 rfl rfl)
theorem dX0_wrongIn_108 : decode cX0_wrongIn 108 = .ok (.iload 4, 2) := dk_21 4 (dk_at dksX0_wrongIn_4 16 rfl rfl)
theorem dX0_wrongIn_110 : decode cX0_wrongIn 110 = .ok (.bipush 10, 2) := dk_16 10 (dk_at dksX0_wrongIn_4 18 rfl rfl)
theorem dX0_wrongIn_112 : decode cX0_wrongIn 112 = .ok (.irem, 1) := dk_112 (dk_at dksX0_wrongIn_4 20 rfl rfl)
theorem dX0_wrongIn_113 : decode cX0_wrongIn 113 = .ok (.invokevirtual 390, 3) := dk_182 1 134 (dk_at dksX0_wrongIn_4 21 rfl rfl)
theorem dX0_wrongIn_116 : decode cX0_wrongIn 116 = .ok (.pop, 1) := dk_87 (dk_at dksX0_wrongIn_5 0 rfl rfl)
theorem dX0_wrongIn_117 : decode cX0_wrongIn 117 = .ok (.iinc 3 1, 3) := dk_132 3 1 (dk_at dksX0_wrongIn_5 1 rfl rfl)
theorem dX0_wrongIn_120 : decode cX0_wrongIn 120 = .ok (.goto (-96), 3) := dk_167 255 160 (dk_at dksX0_wrongIn_5 4 rfl rfl)
theorem dX0_wrongIn_123 : decode cX0_wrongIn 123 = .ok (.iconst (-1), 1) := dk_2 (dk_at dksX0_wrongIn_5 7 rfl rfl)
theorem dX0_wrongIn_124 : decode cX0_wrongIn 124 = .ok (.ireturn, 1) := dk_172 (dk_at dksX0_wrongIn_5 8 rfl rfl)
abbrev cX0_goesHymn : ByteArray := prog_1_method_56_code
def yX0_goesHymn : MethodName := ⟨RX0, "goesHymn", "(LWhichOneAllKnow$Church;III)I"⟩
def dkwX0_goesHymn_5 : List UInt8 := [184, 1, 52, 172]
abbrev dktX0_goesHymn_5 : List UInt8 := dkwX0_goesHymn_5 ++ []
def dkwX0_goesHymn_4 : List UInt8 := [167, 0, 4, 3, 96, 181, 1, 128, 42, 89, 180, 1, 131, 21, 5, 184, 1, 52, 96, 181, 1, 131, 21, 5]
abbrev dktX0_goesHymn_4 : List UInt8 := dkwX0_goesHymn_4 ++ dktX0_goesHymn_5
def dkwX0_goesHymn_3 : List UInt8 := [96, 181, 1, 125, 42, 89, 180, 1, 128, 5, 21, 5, 184, 1, 52, 104, 43, 180, 0, 211, 161, 0, 7, 4]
abbrev dktX0_goesHymn_3 : List UInt8 := dkwX0_goesHymn_3 ++ dktX0_goesHymn_4
def dkwX0_goesHymn_2 : List UInt8 := [46, 21, 5, 21, 6, 122, 4, 126, 28, 120, 128, 79, 132, 6, 1, 167, 255, 225, 43, 89, 180, 1, 125, 4]
abbrev dktX0_goesHymn_2 : List UInt8 := dkwX0_goesHymn_2 ++ dktX0_goesHymn_3
def dkwX0_goesHymn_1 : List UInt8 := [4, 100, 46, 54, 5, 3, 54, 6, 21, 6, 43, 180, 0, 211, 162, 0, 28, 43, 180, 0, 221, 21, 6, 92]
abbrev dktX0_goesHymn_1 : List UInt8 := dkwX0_goesHymn_1 ++ dktX0_goesHymn_2
def dkwX0_goesHymn_0 : List UInt8 := [42, 180, 0, 84, 43, 28, 29, 21, 4, 4, 100, 182, 1, 12, 87, 42, 180, 0, 84, 180, 1, 16, 21, 4]
abbrev dktX0_goesHymn_0 : List UInt8 := dkwX0_goesHymn_0 ++ dktX0_goesHymn_1
theorem dksX0_goesHymn_0 : cX0_goesHymn.data.toList.drop 0 = dktX0_goesHymn_0 := by decide +kernel
theorem dksX0_goesHymn_1 : cX0_goesHymn.data.toList.drop 24 = dktX0_goesHymn_1 := dk_seg dksX0_goesHymn_0 24 rfl rfl
theorem dksX0_goesHymn_2 : cX0_goesHymn.data.toList.drop 48 = dktX0_goesHymn_2 := dk_seg dksX0_goesHymn_1 24 rfl rfl
theorem dksX0_goesHymn_3 : cX0_goesHymn.data.toList.drop 72 = dktX0_goesHymn_3 := dk_seg dksX0_goesHymn_2 24 rfl rfl
theorem dksX0_goesHymn_4 : cX0_goesHymn.data.toList.drop 96 = dktX0_goesHymn_4 := dk_seg dksX0_goesHymn_3 24 rfl rfl
theorem dksX0_goesHymn_5 : cX0_goesHymn.data.toList.drop 120 = dktX0_goesHymn_5 := dk_seg dksX0_goesHymn_4 24 rfl rfl
theorem dX0_goesHymn_0 : decode cX0_goesHymn 0 = .ok (.aload_n 0, 1) := dk_42 (dk_at dksX0_goesHymn_0 0 rfl rfl)
theorem dX0_goesHymn_1 : decode cX0_goesHymn 1 = .ok (.getfield 84, 3) := dk_180 0 84 (dk_at dksX0_goesHymn_0 1 rfl rfl)
theorem dX0_goesHymn_4 : decode cX0_goesHymn 4 = .ok (.aload_n 1, 1) := dk_43 (dk_at dksX0_goesHymn_0 4 rfl rfl)
theorem dX0_goesHymn_5 : decode cX0_goesHymn 5 = .ok (.iload_n 2, 1) := dk_28 (dk_at dksX0_goesHymn_0 5 rfl rfl)
theorem dX0_goesHymn_6 : decode cX0_goesHymn 6 = .ok (.iload_n 3, 1) := dk_29 (dk_at dksX0_goesHymn_0 6 rfl rfl)
theorem dX0_goesHymn_7 : decode cX0_goesHymn 7 = .ok (.iload 4, 2) := dk_21 4 (dk_at dksX0_goesHymn_0 7 rfl rfl)
theorem dX0_goesHymn_9 : decode cX0_goesHymn 9 = .ok (.iconst 1, 1) := dk_4 (dk_at dksX0_goesHymn_0 9 rfl rfl)
theorem dX0_goesHymn_10 : decode cX0_goesHymn 10 = .ok (.isub, 1) := dk_100 (dk_at dksX0_goesHymn_0 10 rfl rfl)
theorem dX0_goesHymn_11 : decode cX0_goesHymn 11 = .ok (.invokevirtual 268, 3) := dk_182 1 12 (dk_at dksX0_goesHymn_0 11 rfl rfl)
theorem dX0_goesHymn_14 : decode cX0_goesHymn 14 = .ok (.pop, 1) := dk_87 (dk_at dksX0_goesHymn_0 14 rfl rfl)
theorem dX0_goesHymn_15 : decode cX0_goesHymn 15 = .ok (.aload_n 0, 1) := dk_42 (dk_at dksX0_goesHymn_0 15 rfl rfl)
theorem dX0_goesHymn_16 : decode cX0_goesHymn 16 = .ok (.getfield 84, 3) := dk_180 0 84 (dk_at dksX0_goesHymn_0 16 rfl rfl)
theorem dX0_goesHymn_19 : decode cX0_goesHymn 19 = .ok (.getfield 272, 3) := dk_180 1 16 (dk_at dksX0_goesHymn_0 19 rfl rfl)
theorem dX0_goesHymn_22 : decode cX0_goesHymn 22 = .ok (.iload 4, 2) := dk_21 4 (dk_at dksX0_goesHymn_0 22 rfl rfl)
theorem dX0_goesHymn_24 : decode cX0_goesHymn 24 = .ok (.iconst 1, 1) := dk_4 (dk_at dksX0_goesHymn_1 0 rfl rfl)
theorem dX0_goesHymn_25 : decode cX0_goesHymn 25 = .ok (.isub, 1) := dk_100 (dk_at dksX0_goesHymn_1 1 rfl rfl)
theorem dX0_goesHymn_26 : decode cX0_goesHymn 26 = .ok (.iaload, 1) := dk_46 (dk_at dksX0_goesHymn_1 2 rfl rfl)
theorem dX0_goesHymn_27 : decode cX0_goesHymn 27 = .ok (.istore 5, 2) := dk_54 5 (dk_at dksX0_goesHymn_1 3 rfl rfl)
theorem dX0_goesHymn_29 : decode cX0_goesHymn 29 = .ok (.iconst 0, 1) := dk_3 (dk_at dksX0_goesHymn_1 5 rfl rfl)
theorem dX0_goesHymn_30 : decode cX0_goesHymn 30 = .ok (.istore 6, 2) := dk_54 6 (dk_at dksX0_goesHymn_1 6 rfl rfl)
theorem dX0_goesHymn_32 : decode cX0_goesHymn 32 = .ok (.iload 6, 2) := dk_21 6 (dk_at dksX0_goesHymn_1 8 rfl rfl)
theorem dX0_goesHymn_34 : decode cX0_goesHymn 34 = .ok (.aload_n 1, 1) := dk_43 (dk_at dksX0_goesHymn_1 10 rfl rfl)
theorem dX0_goesHymn_35 : decode cX0_goesHymn 35 = .ok (.getfield 211, 3) := dk_180 0 211 (dk_at dksX0_goesHymn_1 11 rfl rfl)
theorem dX0_goesHymn_38 : decode cX0_goesHymn 38 = .ok (.if_icmp .ge 28, 3) := dk_162 0 28 (dk_at dksX0_goesHymn_1 14 rfl rfl)
theorem dX0_goesHymn_41 : decode cX0_goesHymn 41 = .ok (.aload_n 1, 1) := dk_43 (dk_at dksX0_goesHymn_1 17 rfl rfl)
theorem dX0_goesHymn_42 : decode cX0_goesHymn 42 = .ok (.getfield 221, 3) := dk_180 0 221 (dk_at dksX0_goesHymn_1 18 rfl rfl)
theorem dX0_goesHymn_45 : decode cX0_goesHymn 45 = .ok (.iload 6, 2) := dk_21 6 (dk_at dksX0_goesHymn_1 21 rfl rfl)
theorem dX0_goesHymn_47 : decode cX0_goesHymn 47 = .ok (.dup2, 1) := dk_92 (dk_at dksX0_goesHymn_1 23 rfl rfl)
theorem dX0_goesHymn_48 : decode cX0_goesHymn 48 = .ok (.iaload, 1) := dk_46 (dk_at dksX0_goesHymn_2 0 rfl rfl)
theorem dX0_goesHymn_49 : decode cX0_goesHymn 49 = .ok (.iload 5, 2) := dk_21 5 (dk_at dksX0_goesHymn_2 1 rfl rfl)
theorem dX0_goesHymn_51 : decode cX0_goesHymn 51 = .ok (.iload 6, 2) := dk_21 6 (dk_at dksX0_goesHymn_2 3 rfl rfl)
theorem dX0_goesHymn_53 : decode cX0_goesHymn 53 = .ok (.ishr, 1) := dk_122 (dk_at dksX0_goesHymn_2 5 rfl rfl)
theorem dX0_goesHymn_54 : decode cX0_goesHymn 54 = .ok (.iconst 1, 1) := dk_4 (dk_at dksX0_goesHymn_2 6 rfl rfl)
theorem dX0_goesHymn_55 : decode cX0_goesHymn 55 = .ok (.iand, 1) := dk_126 (dk_at dksX0_goesHymn_2 7 rfl rfl)
theorem dX0_goesHymn_56 : decode cX0_goesHymn 56 = .ok (.iload_n 2, 1) := dk_28 (dk_at dksX0_goesHymn_2 8 rfl rfl)
theorem dX0_goesHymn_57 : decode cX0_goesHymn 57 = .ok (.ishl, 1) := dk_120 (dk_at dksX0_goesHymn_2 9 rfl rfl)
theorem dX0_goesHymn_58 : decode cX0_goesHymn 58 = .ok (.ior, 1) := dk_128 (dk_at dksX0_goesHymn_2 10 rfl rfl)
theorem dX0_goesHymn_59 : decode cX0_goesHymn 59 = .ok (.iastore, 1) := dk_79 (dk_at dksX0_goesHymn_2 11 rfl rfl)
theorem dX0_goesHymn_60 : decode cX0_goesHymn 60 = .ok (.iinc 6 1, 3) := dk_132 6 1 (dk_at dksX0_goesHymn_2 12 rfl rfl)
theorem dX0_goesHymn_63 : decode cX0_goesHymn 63 = .ok (.goto (-31), 3) := dk_167 255 225 (dk_at dksX0_goesHymn_2 15 rfl rfl)
theorem dX0_goesHymn_66 : decode cX0_goesHymn 66 = .ok (.aload_n 1, 1) := dk_43 (dk_at dksX0_goesHymn_2 18 rfl rfl)
theorem dX0_goesHymn_67 : decode cX0_goesHymn 67 = .ok (.dup, 1) := dk_89 (dk_at dksX0_goesHymn_2 19 rfl rfl)
theorem dX0_goesHymn_68 : decode cX0_goesHymn 68 = .ok (.getfield 381, 3) := dk_180 1 125 (dk_at dksX0_goesHymn_2 20 rfl rfl)
theorem dX0_goesHymn_71 : decode cX0_goesHymn 71 = .ok (.iconst 1, 1) := dk_4 (dk_at dksX0_goesHymn_2 23 rfl rfl)
theorem dX0_goesHymn_72 : decode cX0_goesHymn 72 = .ok (.iadd, 1) := dk_96 (dk_at dksX0_goesHymn_3 0 rfl rfl)
theorem dX0_goesHymn_73 : decode cX0_goesHymn 73 = .ok (.putfield 381, 3) := dk_181 1 125 (dk_at dksX0_goesHymn_3 1 rfl rfl)
theorem dX0_goesHymn_76 : decode cX0_goesHymn 76 = .ok (.aload_n 0, 1) := dk_42 (dk_at dksX0_goesHymn_3 4 rfl rfl)
theorem dX0_goesHymn_77 : decode cX0_goesHymn 77 = .ok (.dup, 1) := dk_89 (dk_at dksX0_goesHymn_3 5 rfl rfl)
theorem dX0_goesHymn_78 : decode cX0_goesHymn 78 = .ok (.getfield 384, 3) := dk_180 1 128 (dk_at dksX0_goesHymn_3 6 rfl rfl)
theorem dX0_goesHymn_81 : decode cX0_goesHymn 81 = .ok (.iconst 2, 1) := dk_5 (dk_at dksX0_goesHymn_3 9 rfl rfl)
theorem dX0_goesHymn_82 : decode cX0_goesHymn 82 = .ok (.iload 5, 2) := dk_21 5 (dk_at dksX0_goesHymn_3 10 rfl rfl)
theorem dX0_goesHymn_84 : decode cX0_goesHymn 84 = .ok (.invokestatic 308, 3) := dk_184 1 52 (dk_at dksX0_goesHymn_3 12 rfl rfl)
theorem dX0_goesHymn_87 : decode cX0_goesHymn 87 = .ok (.imul, 1) := dk_104 (dk_at dksX0_goesHymn_3 15 rfl rfl)
theorem dX0_goesHymn_88 : decode cX0_goesHymn 88 = .ok (.aload_n 1, 1) := dk_43 (dk_at dksX0_goesHymn_3 16 rfl rfl)
theorem dX0_goesHymn_89 : decode cX0_goesHymn 89 = .ok (.getfield 211, 3) := dk_180 0 211 (dk_at dksX0_goesHymn_3 17 rfl rfl)
theorem dX0_goesHymn_92 : decode cX0_goesHymn 92 = .ok (.if_icmp .lt 7, 3) := dk_161 0 7 (dk_at dksX0_goesHymn_3 20 rfl rfl)
theorem dX0_goesHymn_95 : decode cX0_goesHymn 95 = .ok (.iconst 1, 1) := dk_4 (dk_at dksX0_goesHymn_3 23 rfl rfl)
theorem dX0_goesHymn_96 : decode cX0_goesHymn 96 = .ok (.goto 4, 3) := dk_167 0 4 (dk_at dksX0_goesHymn_4 0 rfl rfl)
theorem dX0_goesHymn_99 : decode cX0_goesHymn 99 = .ok (.iconst 0, 1) := dk_3 (dk_at dksX0_goesHymn_4 3 rfl rfl)
theorem dX0_goesHymn_100 : decode cX0_goesHymn 100 = .ok (.iadd, 1) := dk_96 (dk_at dksX0_goesHymn_4 4 rfl rfl)
theorem dX0_goesHymn_101 : decode cX0_goesHymn 101 = .ok (.putfield 384, 3) := dk_181 1 128 (dk_at dksX0_goesHymn_4 5 rfl rfl)
theorem dX0_goesHymn_104 : decode cX0_goesHymn 104 = .ok (.aload_n 0, 1) := dk_42 (dk_at dksX0_goesHymn_4 8 rfl rfl)
theorem dX0_goesHymn_105 : decode cX0_goesHymn 105 = .ok (.dup, 1) := dk_89 (dk_at dksX0_goesHymn_4 9 rfl rfl)
theorem dX0_goesHymn_106 : decode cX0_goesHymn 106 = .ok (.getfield 387, 3) := dk_180 1 131 (dk_at dksX0_goesHymn_4 10 rfl rfl)
theorem dX0_goesHymn_109 : decode cX0_goesHymn 109 = .ok (.iload 5, 2) := dk_21 5 (dk_at dksX0_goesHymn_4 13 rfl rfl)
theorem dX0_goesHymn_111 : decode cX0_goesHymn 111 = .ok (.invokestatic 308, 3) := dk_184 1 52 (dk_at dksX0_goesHymn_4 15 rfl rfl)
theorem dX0_goesHymn_114 : decode cX0_goesHymn 114 = .ok (.iadd, 1) := dk_96 (dk_at dksX0_goesHymn_4 18 rfl rfl)
theorem dX0_goesHymn_115 : decode cX0_goesHymn 115 = .ok (.putfield 387, 3) := dk_181 1 131 (dk_at dksX0_goesHymn_4 19 rfl rfl)
theorem dX0_goesHymn_118 : decode cX0_goesHymn 118 = .ok (.iload 5, 2) := dk_21 5 (dk_at dksX0_goesHymn_4 22 rfl rfl)
theorem dX0_goesHymn_120 : decode cX0_goesHymn 120 = .ok (.invokestatic 308, 3) := dk_184 1 52 (dk_at dksX0_goesHymn_5 0 rfl rfl)
theorem dX0_goesHymn_123 : decode cX0_goesHymn 123 = .ok (.ireturn, 1) := dk_172 (dk_at dksX0_goesHymn_5 3 rfl rfl)
abbrev cX0_behind : ByteArray := prog_1_method_59_code
def yX0_behind : MethodName := ⟨RX0, "behind", "(III)I"⟩
def dkwX0_behind_5 : List UInt8 := [25, 4, 182, 0, 169, 172]
abbrev dktX0_behind_5 : List UInt8 := dkwX0_behind_5 ++ []
def dkwX0_behind_4 : List UInt8 := [167, 0, 19, 29, 4, 160, 0, 10, 42, 180, 1, 131, 167, 0, 7, 42, 180, 1, 128, 172, 58, 4, 42]
abbrev dktX0_behind_4 : List UInt8 := dkwX0_behind_4 ++ dktX0_behind_5
def dkwX0_behind_3 : List UInt8 := [160, 0, 7, 4, 167, 0, 4, 3, 16, 250, 184, 0, 116, 29, 154, 0, 13, 42, 180, 0, 77, 182, 1, 116]
abbrev dktX0_behind_3 : List UInt8 := dkwX0_behind_3 ++ dktX0_behind_4
def dkwX0_behind_2 : List UInt8 := [167, 0, 4, 3, 16, 251, 184, 0, 116, 28, 16, 40, 163, 0, 18, 42, 25, 4, 28, 182, 1, 138, 2]
abbrev dktX0_behind_2 : List UInt8 := dkwX0_behind_2 ++ dktX0_behind_3
def dkwX0_behind_1 : List UInt8 := [28, 25, 4, 182, 0, 11, 163, 0, 19, 29, 133, 9, 20, 1, 70, 184, 0, 125, 153, 0, 7, 4]
abbrev dktX0_behind_1 : List UInt8 := dkwX0_behind_1 ++ dktX0_behind_2
def dkwX0_behind_0 : List UInt8 := [42, 27, 182, 0, 159, 182, 0, 173, 58, 4, 28, 155, 0, 7, 4, 167, 0, 4, 3, 16, 252, 184, 0, 116]
abbrev dktX0_behind_0 : List UInt8 := dkwX0_behind_0 ++ dktX0_behind_1
theorem dksX0_behind_0 : cX0_behind.data.toList.drop 0 = dktX0_behind_0 := by decide +kernel
theorem dksX0_behind_1 : cX0_behind.data.toList.drop 24 = dktX0_behind_1 := dk_seg dksX0_behind_0 24 rfl rfl
theorem dksX0_behind_2 : cX0_behind.data.toList.drop 46 = dktX0_behind_2 := dk_seg dksX0_behind_1 22 rfl rfl
theorem dksX0_behind_3 : cX0_behind.data.toList.drop 69 = dktX0_behind_3 := dk_seg dksX0_behind_2 23 rfl rfl
theorem dksX0_behind_4 : cX0_behind.data.toList.drop 93 = dktX0_behind_4 := dk_seg dksX0_behind_3 24 rfl rfl
theorem dksX0_behind_5 : cX0_behind.data.toList.drop 116 = dktX0_behind_5 := dk_seg dksX0_behind_4 23 rfl rfl
theorem dX0_behind_0 : decode cX0_behind 0 = .ok (.aload_n 0, 1) := dk_42 (dk_at dksX0_behind_0 0 rfl rfl)
theorem dX0_behind_1 : decode cX0_behind 1 = .ok (.iload_n 1, 1) := dk_27 (dk_at dksX0_behind_0 1 rfl rfl)
theorem dX0_behind_2 : decode cX0_behind 2 = .ok (.invokevirtual 159, 3) := dk_182 0 159 (dk_at dksX0_behind_0 2 rfl rfl)
theorem dX0_behind_5 : decode cX0_behind 5 = .ok (.invokevirtual 173, 3) := dk_182 0 173 (dk_at dksX0_behind_0 5 rfl rfl)
theorem dX0_behind_8 : decode cX0_behind 8 = .ok (.astore 4, 2) := dk_58 4 (dk_at dksX0_behind_0 8 rfl rfl)
theorem dX0_behind_10 : decode cX0_behind 10 = .ok (.iload_n 2, 1) := dk_28 (dk_at dksX0_behind_0 10 rfl rfl)
theorem dX0_behind_11 : decode cX0_behind 11 = .ok (.ifCond .lt 7, 3) := dk_155 0 7 (dk_at dksX0_behind_0 11 rfl rfl)
theorem dX0_behind_14 : decode cX0_behind 14 = .ok (.iconst 1, 1) := dk_4 (dk_at dksX0_behind_0 14 rfl rfl)
theorem dX0_behind_15 : decode cX0_behind 15 = .ok (.goto 4, 3) := dk_167 0 4 (dk_at dksX0_behind_0 15 rfl rfl)
theorem dX0_behind_18 : decode cX0_behind 18 = .ok (.iconst 0, 1) := dk_3 (dk_at dksX0_behind_0 18 rfl rfl)
theorem dX0_behind_19 : decode cX0_behind 19 = .ok (.bipush (-4), 2) := dk_16 252 (dk_at dksX0_behind_0 19 rfl rfl)
theorem dX0_behind_21 : decode cX0_behind 21 = .ok (.invokestatic 116, 3) := dk_184 0 116 (dk_at dksX0_behind_0 21 rfl rfl)
theorem dX0_behind_24 : decode cX0_behind 24 = .ok (.iload_n 2, 1) := dk_28 (dk_at dksX0_behind_1 0 rfl rfl)
theorem dX0_behind_25 : decode cX0_behind 25 = .ok (.aload 4, 2) := dk_25 4 (dk_at dksX0_behind_1 1 rfl rfl)
theorem dX0_behind_27 : decode cX0_behind 27 = .ok (.invokevirtual 11, 3) := dk_182 0 11 (dk_at dksX0_behind_1 3 rfl rfl)
theorem dX0_behind_30 : decode cX0_behind 30 = .ok (.if_icmp .gt 19, 3) := dk_163 0 19 (dk_at dksX0_behind_1 6 rfl rfl)
theorem dX0_behind_33 : decode cX0_behind 33 = .ok (.iload_n 3, 1) := dk_29 (dk_at dksX0_behind_1 9 rfl rfl)
theorem dX0_behind_34 : decode cX0_behind 34 = .ok (.i2l, 1) := dk_133 (dk_at dksX0_behind_1 10 rfl rfl)
theorem dX0_behind_35 : decode cX0_behind 35 = .ok (.lconst 0, 1) := dk_9 (dk_at dksX0_behind_1 11 rfl rfl)
theorem dX0_behind_36 : decode cX0_behind 36 = .ok (.ldc2_w 326, 3) := dk_20 1 70 (dk_at dksX0_behind_1 12 rfl rfl)
theorem dX0_behind_39 : decode cX0_behind 39 = .ok (.invokestatic 125, 3) := dk_184 0 125 (dk_at dksX0_behind_1 15 rfl rfl)
theorem dX0_behind_42 : decode cX0_behind 42 = .ok (.ifCond .eq 7, 3) := dk_153 0 7 (dk_at dksX0_behind_1 18 rfl rfl)
theorem dX0_behind_45 : decode cX0_behind 45 = .ok (.iconst 1, 1) := dk_4 (dk_at dksX0_behind_1 21 rfl rfl)
theorem dX0_behind_46 : decode cX0_behind 46 = .ok (.goto 4, 3) := dk_167 0 4 (dk_at dksX0_behind_2 0 rfl rfl)
theorem dX0_behind_49 : decode cX0_behind 49 = .ok (.iconst 0, 1) := dk_3 (dk_at dksX0_behind_2 3 rfl rfl)
theorem dX0_behind_50 : decode cX0_behind 50 = .ok (.bipush (-5), 2) := dk_16 251 (dk_at dksX0_behind_2 4 rfl rfl)
theorem dX0_behind_52 : decode cX0_behind 52 = .ok (.invokestatic 116, 3) := dk_184 0 116 (dk_at dksX0_behind_2 6 rfl rfl)
theorem dX0_behind_55 : decode cX0_behind 55 = .ok (.iload_n 2, 1) := dk_28 (dk_at dksX0_behind_2 9 rfl rfl)
theorem dX0_behind_56 : decode cX0_behind 56 = .ok (.bipush 40, 2) := dk_16 40 (dk_at dksX0_behind_2 10 rfl rfl)
theorem dX0_behind_58 : decode cX0_behind 58 = .ok (.if_icmp .gt 18, 3) := dk_163 0 18 (dk_at dksX0_behind_2 12 rfl rfl)
theorem dX0_behind_61 : decode cX0_behind 61 = .ok (.aload_n 0, 1) := dk_42 (dk_at dksX0_behind_2 15 rfl rfl)
theorem dX0_behind_62 : decode cX0_behind 62 = .ok (.aload 4, 2) := dk_25 4 (dk_at dksX0_behind_2 16 rfl rfl)
theorem dX0_behind_64 : decode cX0_behind 64 = .ok (.iload_n 2, 1) := dk_28 (dk_at dksX0_behind_2 18 rfl rfl)
theorem dX0_behind_65 : decode cX0_behind 65 = .ok (.invokevirtual 394, 3) := dk_182 1 138 (dk_at dksX0_behind_2 19 rfl rfl)
theorem dX0_behind_68 : decode cX0_behind 68 = .ok (.iconst (-1), 1) := dk_2 (dk_at dksX0_behind_2 22 rfl rfl)
theorem dX0_behind_69 : decode cX0_behind 69 = .ok (.if_icmp .ne 7, 3) := dk_160 0 7 (dk_at dksX0_behind_3 0 rfl rfl)
theorem dX0_behind_72 : decode cX0_behind 72 = .ok (.iconst 1, 1) := dk_4 (dk_at dksX0_behind_3 3 rfl rfl)
theorem dX0_behind_73 : decode cX0_behind 73 = .ok (.goto 4, 3) := dk_167 0 4 (dk_at dksX0_behind_3 4 rfl rfl)
theorem dX0_behind_76 : decode cX0_behind 76 = .ok (.iconst 0, 1) := dk_3 (dk_at dksX0_behind_3 7 rfl rfl)
theorem dX0_behind_77 : decode cX0_behind 77 = .ok (.bipush (-6), 2) := dk_16 250 (dk_at dksX0_behind_3 8 rfl rfl)
theorem dX0_behind_79 : decode cX0_behind 79 = .ok (.invokestatic 116, 3) := dk_184 0 116 (dk_at dksX0_behind_3 10 rfl rfl)
theorem dX0_behind_82 : decode cX0_behind 82 = .ok (.iload_n 3, 1) := dk_29 (dk_at dksX0_behind_3 13 rfl rfl)
theorem dX0_behind_83 : decode cX0_behind 83 = .ok (.ifCond .ne 13, 3) := dk_154 0 13 (dk_at dksX0_behind_3 14 rfl rfl)
theorem dX0_behind_86 : decode cX0_behind 86 = .ok (.aload_n 0, 1) := dk_42 (dk_at dksX0_behind_3 17 rfl rfl)
theorem dX0_behind_87 : decode cX0_behind 87 = .ok (.getfield 77, 3) := dk_180 0 77 (dk_at dksX0_behind_3 18 rfl rfl)
theorem dX0_behind_90 : decode cX0_behind 90 = .ok (.invokevirtual 372, 3) := dk_182 1 116 (dk_at dksX0_behind_3 21 rfl rfl)
theorem dX0_behind_93 : decode cX0_behind 93 = .ok (.goto 19, 3) := dk_167 0 19 (dk_at dksX0_behind_4 0 rfl rfl)
theorem dX0_behind_96 : decode cX0_behind 96 = .ok (.iload_n 3, 1) := dk_29 (dk_at dksX0_behind_4 3 rfl rfl)
theorem dX0_behind_97 : decode cX0_behind 97 = .ok (.iconst 1, 1) := dk_4 (dk_at dksX0_behind_4 4 rfl rfl)
theorem dX0_behind_98 : decode cX0_behind 98 = .ok (.if_icmp .ne 10, 3) := dk_160 0 10 (dk_at dksX0_behind_4 5 rfl rfl)
theorem dX0_behind_101 : decode cX0_behind 101 = .ok (.aload_n 0, 1) := dk_42 (dk_at dksX0_behind_4 8 rfl rfl)
theorem dX0_behind_102 : decode cX0_behind 102 = .ok (.getfield 387, 3) := dk_180 1 131 (dk_at dksX0_behind_4 9 rfl rfl)
theorem dX0_behind_105 : decode cX0_behind 105 = .ok (.goto 7, 3) := dk_167 0 7 (dk_at dksX0_behind_4 12 rfl rfl)
theorem dX0_behind_108 : decode cX0_behind 108 = .ok (.aload_n 0, 1) := dk_42 (dk_at dksX0_behind_4 15 rfl rfl)
theorem dX0_behind_109 : decode cX0_behind 109 = .ok (.getfield 384, 3) := dk_180 1 128 (dk_at dksX0_behind_4 16 rfl rfl)
theorem dX0_behind_112 : decode cX0_behind 112 = .ok (.ireturn, 1) := dk_172 (dk_at dksX0_behind_4 19 rfl rfl)
theorem dX0_behind_113 : decode cX0_behind 113 = .ok (.astore 4, 2) := dk_58 4 (dk_at dksX0_behind_4 20 rfl rfl)
theorem dX0_behind_115 : decode cX0_behind 115 = .ok (.aload_n 0, 1) := dk_42 (dk_at dksX0_behind_4 22 rfl rfl)
theorem dX0_behind_116 : decode cX0_behind 116 = .ok (.aload 4, 2) := dk_25 4 (dk_at dksX0_behind_5 0 rfl rfl)
theorem dX0_behind_118 : decode cX0_behind 118 = .ok (.invokevirtual 169, 3) := dk_182 0 169 (dk_at dksX0_behind_5 2 rfl rfl)
theorem dX0_behind_121 : decode cX0_behind 121 = .ok (.ireturn, 1) := dk_172 (dk_at dksX0_behind_5 5 rfl rfl)
abbrev cX0_done : ByteArray := prog_1_method_60_code
def yX0_done : MethodName := ⟨RX0, "done", "(II)I"⟩
def dkwX0_done_2 : List UInt8 := [180, 0, 88, 180, 1, 125, 172, 78, 42, 45, 182, 0, 169, 172]
abbrev dktX0_done_2 : List UInt8 := dkwX0_done_2 ++ []
def dkwX0_done_1 : List UInt8 := [167, 0, 4, 3, 16, 250, 184, 0, 116, 42, 180, 0, 88, 42, 180, 0, 77, 182, 0, 248, 87, 42]
abbrev dktX0_done_1 : List UInt8 := dkwX0_done_1 ++ dktX0_done_2
def dkwX0_done_0 : List UInt8 := [42, 27, 28, 182, 1, 99, 78, 28, 16, 40, 163, 0, 17, 42, 45, 28, 182, 1, 138, 2, 160, 0, 7, 4]
abbrev dktX0_done_0 : List UInt8 := dkwX0_done_0 ++ dktX0_done_1
theorem dksX0_done_0 : cX0_done.data.toList.drop 0 = dktX0_done_0 := by decide +kernel
theorem dksX0_done_1 : cX0_done.data.toList.drop 24 = dktX0_done_1 := dk_seg dksX0_done_0 24 rfl rfl
theorem dksX0_done_2 : cX0_done.data.toList.drop 46 = dktX0_done_2 := dk_seg dksX0_done_1 22 rfl rfl
theorem dX0_done_0 : decode cX0_done 0 = .ok (.aload_n 0, 1) := dk_42 (dk_at dksX0_done_0 0 rfl rfl)
theorem dX0_done_1 : decode cX0_done 1 = .ok (.iload_n 1, 1) := dk_27 (dk_at dksX0_done_0 1 rfl rfl)
theorem dX0_done_2 : decode cX0_done 2 = .ok (.iload_n 2, 1) := dk_28 (dk_at dksX0_done_0 2 rfl rfl)
theorem dX0_done_3 : decode cX0_done 3 = .ok (.invokevirtual 355, 3) := dk_182 1 99 (dk_at dksX0_done_0 3 rfl rfl)
theorem dX0_done_6 : decode cX0_done 6 = .ok (.astore_n 3, 1) := dk_78 (dk_at dksX0_done_0 6 rfl rfl)
theorem dX0_done_7 : decode cX0_done 7 = .ok (.iload_n 2, 1) := dk_28 (dk_at dksX0_done_0 7 rfl rfl)
theorem dX0_done_8 : decode cX0_done 8 = .ok (.bipush 40, 2) := dk_16 40 (dk_at dksX0_done_0 8 rfl rfl)
theorem dX0_done_10 : decode cX0_done 10 = .ok (.if_icmp .gt 17, 3) := dk_163 0 17 (dk_at dksX0_done_0 10 rfl rfl)
theorem dX0_done_13 : decode cX0_done 13 = .ok (.aload_n 0, 1) := dk_42 (dk_at dksX0_done_0 13 rfl rfl)
theorem dX0_done_14 : decode cX0_done 14 = .ok (.aload_n 3, 1) := dk_45 (dk_at dksX0_done_0 14 rfl rfl)
theorem dX0_done_15 : decode cX0_done 15 = .ok (.iload_n 2, 1) := dk_28 (dk_at dksX0_done_0 15 rfl rfl)
theorem dX0_done_16 : decode cX0_done 16 = .ok (.invokevirtual 394, 3) := dk_182 1 138 (dk_at dksX0_done_0 16 rfl rfl)
theorem dX0_done_19 : decode cX0_done 19 = .ok (.iconst (-1), 1) := dk_2 (dk_at dksX0_done_0 19 rfl rfl)
theorem dX0_done_20 : decode cX0_done 20 = .ok (.if_icmp .ne 7, 3) := dk_160 0 7 (dk_at dksX0_done_0 20 rfl rfl)
theorem dX0_done_23 : decode cX0_done 23 = .ok (.iconst 1, 1) := dk_4 (dk_at dksX0_done_0 23 rfl rfl)
theorem dX0_done_24 : decode cX0_done 24 = .ok (.goto 4, 3) := dk_167 0 4 (dk_at dksX0_done_1 0 rfl rfl)
theorem dX0_done_27 : decode cX0_done 27 = .ok (.iconst 0, 1) := dk_3 (dk_at dksX0_done_1 3 rfl rfl)
theorem dX0_done_28 : decode cX0_done 28 = .ok (.bipush (-6), 2) := dk_16 250 (dk_at dksX0_done_1 4 rfl rfl)
theorem dX0_done_30 : decode cX0_done 30 = .ok (.invokestatic 116, 3) := dk_184 0 116 (dk_at dksX0_done_1 6 rfl rfl)
theorem dX0_done_33 : decode cX0_done 33 = .ok (.aload_n 0, 1) := dk_42 (dk_at dksX0_done_1 9 rfl rfl)
theorem dX0_done_34 : decode cX0_done 34 = .ok (.getfield 88, 3) := dk_180 0 88 (dk_at dksX0_done_1 10 rfl rfl)
theorem dX0_done_37 : decode cX0_done 37 = .ok (.aload_n 0, 1) := dk_42 (dk_at dksX0_done_1 13 rfl rfl)
theorem dX0_done_38 : decode cX0_done 38 = .ok (.getfield 77, 3) := dk_180 0 77 (dk_at dksX0_done_1 14 rfl rfl)
theorem dX0_done_41 : decode cX0_done 41 = .ok (.invokevirtual 248, 3) := dk_182 0 248 (dk_at dksX0_done_1 17 rfl rfl)
theorem dX0_done_44 : decode cX0_done 44 = .ok (.pop, 1) := dk_87 (dk_at dksX0_done_1 20 rfl rfl)
theorem dX0_done_45 : decode cX0_done 45 = .ok (.aload_n 0, 1) := dk_42 (dk_at dksX0_done_1 21 rfl rfl)
theorem dX0_done_46 : decode cX0_done 46 = .ok (.getfield 88, 3) := dk_180 0 88 (dk_at dksX0_done_2 0 rfl rfl)
theorem dX0_done_49 : decode cX0_done 49 = .ok (.getfield 381, 3) := dk_180 1 125 (dk_at dksX0_done_2 3 rfl rfl)
theorem dX0_done_52 : decode cX0_done 52 = .ok (.ireturn, 1) := dk_172 (dk_at dksX0_done_2 6 rfl rfl)
theorem dX0_done_53 : decode cX0_done 53 = .ok (.astore_n 3, 1) := dk_78 (dk_at dksX0_done_2 7 rfl rfl)
theorem dX0_done_54 : decode cX0_done 54 = .ok (.aload_n 0, 1) := dk_42 (dk_at dksX0_done_2 8 rfl rfl)
theorem dX0_done_55 : decode cX0_done 55 = .ok (.aload_n 3, 1) := dk_45 (dk_at dksX0_done_2 9 rfl rfl)
theorem dX0_done_56 : decode cX0_done 56 = .ok (.invokevirtual 169, 3) := dk_182 0 169 (dk_at dksX0_done_2 10 rfl rfl)
theorem dX0_done_59 : decode cX0_done 59 = .ok (.ireturn, 1) := dk_172 (dk_at dksX0_done_2 13 rfl rfl)
abbrev cX0_hymn : ByteArray := prog_1_method_61_code
def yX0_hymn : MethodName := ⟨RX0, "hymn", "(III)I"⟩
def dkwX0_hymn_2 : List UInt8 := [182, 1, 134, 172, 58, 4, 42, 25, 4, 182, 0, 169, 172]
abbrev dktX0_hymn_2 : List UInt8 := dkwX0_hymn_2 ++ []
def dkwX0_hymn_1 : List UInt8 := [184, 0, 125, 153, 0, 7, 4, 167, 0, 4, 3, 16, 250, 184, 0, 116, 42, 42, 180, 0, 88, 27, 28, 29]
abbrev dktX0_hymn_1 : List UInt8 := dkwX0_hymn_1 ++ dktX0_hymn_2
def dkwX0_hymn_0 : List UInt8 := [42, 27, 182, 0, 218, 28, 133, 9, 20, 0, 123, 184, 0, 125, 153, 0, 19, 29, 133, 10, 20, 0, 206]
abbrev dktX0_hymn_0 : List UInt8 := dkwX0_hymn_0 ++ dktX0_hymn_1
theorem dksX0_hymn_0 : cX0_hymn.data.toList.drop 0 = dktX0_hymn_0 := by decide +kernel
theorem dksX0_hymn_1 : cX0_hymn.data.toList.drop 23 = dktX0_hymn_1 := dk_seg dksX0_hymn_0 23 rfl rfl
theorem dksX0_hymn_2 : cX0_hymn.data.toList.drop 47 = dktX0_hymn_2 := dk_seg dksX0_hymn_1 24 rfl rfl
theorem dX0_hymn_0 : decode cX0_hymn 0 = .ok (.aload_n 0, 1) := dk_42 (dk_at dksX0_hymn_0 0 rfl rfl)
theorem dX0_hymn_1 : decode cX0_hymn 1 = .ok (.iload_n 1, 1) := dk_27 (dk_at dksX0_hymn_0 1 rfl rfl)
theorem dX0_hymn_2 : decode cX0_hymn 2 = .ok (.invokevirtual 218, 3) := dk_182 0 218 (dk_at dksX0_hymn_0 2 rfl rfl)
theorem dX0_hymn_5 : decode cX0_hymn 5 = .ok (.iload_n 2, 1) := dk_28 (dk_at dksX0_hymn_0 5 rfl rfl)
theorem dX0_hymn_6 : decode cX0_hymn 6 = .ok (.i2l, 1) := dk_133 (dk_at dksX0_hymn_0 6 rfl rfl)
theorem dX0_hymn_7 : decode cX0_hymn 7 = .ok (.lconst 0, 1) := dk_9 (dk_at dksX0_hymn_0 7 rfl rfl)
theorem dX0_hymn_8 : decode cX0_hymn 8 = .ok (.ldc2_w 123, 3) := dk_20 0 123 (dk_at dksX0_hymn_0 8 rfl rfl)
theorem dX0_hymn_11 : decode cX0_hymn 11 = .ok (.invokestatic 125, 3) := dk_184 0 125 (dk_at dksX0_hymn_0 11 rfl rfl)
theorem dX0_hymn_14 : decode cX0_hymn 14 = .ok (.ifCond .eq 19, 3) := dk_153 0 19 (dk_at dksX0_hymn_0 14 rfl rfl)
theorem dX0_hymn_17 : decode cX0_hymn 17 = .ok (.iload_n 3, 1) := dk_29 (dk_at dksX0_hymn_0 17 rfl rfl)
theorem dX0_hymn_18 : decode cX0_hymn 18 = .ok (.i2l, 1) := dk_133 (dk_at dksX0_hymn_0 18 rfl rfl)
theorem dX0_hymn_19 : decode cX0_hymn 19 = .ok (.lconst 1, 1) := dk_10 (dk_at dksX0_hymn_0 19 rfl rfl)
theorem dX0_hymn_20 : decode cX0_hymn 20 = .ok (.ldc2_w 206, 3) := dk_20 0 206 (dk_at dksX0_hymn_0 20 rfl rfl)
theorem dX0_hymn_23 : decode cX0_hymn 23 = .ok (.invokestatic 125, 3) := dk_184 0 125 (dk_at dksX0_hymn_1 0 rfl rfl)
theorem dX0_hymn_26 : decode cX0_hymn 26 = .ok (.ifCond .eq 7, 3) := dk_153 0 7 (dk_at dksX0_hymn_1 3 rfl rfl)
theorem dX0_hymn_29 : decode cX0_hymn 29 = .ok (.iconst 1, 1) := dk_4 (dk_at dksX0_hymn_1 6 rfl rfl)
theorem dX0_hymn_30 : decode cX0_hymn 30 = .ok (.goto 4, 3) := dk_167 0 4 (dk_at dksX0_hymn_1 7 rfl rfl)
theorem dX0_hymn_33 : decode cX0_hymn 33 = .ok (.iconst 0, 1) := dk_3 (dk_at dksX0_hymn_1 10 rfl rfl)
theorem dX0_hymn_34 : decode cX0_hymn 34 = .ok (.bipush (-6), 2) := dk_16 250 (dk_at dksX0_hymn_1 11 rfl rfl)
theorem dX0_hymn_36 : decode cX0_hymn 36 = .ok (.invokestatic 116, 3) := dk_184 0 116 (dk_at dksX0_hymn_1 13 rfl rfl)
theorem dX0_hymn_39 : decode cX0_hymn 39 = .ok (.aload_n 0, 1) := dk_42 (dk_at dksX0_hymn_1 16 rfl rfl)
theorem dX0_hymn_40 : decode cX0_hymn 40 = .ok (.aload_n 0, 1) := dk_42 (dk_at dksX0_hymn_1 17 rfl rfl)
theorem dX0_hymn_41 : decode cX0_hymn 41 = .ok (.getfield 88, 3) := dk_180 0 88 (dk_at dksX0_hymn_1 18 rfl rfl)
theorem dX0_hymn_44 : decode cX0_hymn 44 = .ok (.iload_n 1, 1) := dk_27 (dk_at dksX0_hymn_1 21 rfl rfl)
theorem dX0_hymn_45 : decode cX0_hymn 45 = .ok (.iload_n 2, 1) := dk_28 (dk_at dksX0_hymn_1 22 rfl rfl)
theorem dX0_hymn_46 : decode cX0_hymn 46 = .ok (.iload_n 3, 1) := dk_29 (dk_at dksX0_hymn_1 23 rfl rfl)
theorem dX0_hymn_47 : decode cX0_hymn 47 = .ok (.invokevirtual 390, 3) := dk_182 1 134 (dk_at dksX0_hymn_2 0 rfl rfl)
theorem dX0_hymn_50 : decode cX0_hymn 50 = .ok (.ireturn, 1) := dk_172 (dk_at dksX0_hymn_2 3 rfl rfl)
theorem dX0_hymn_51 : decode cX0_hymn 51 = .ok (.astore 4, 2) := dk_58 4 (dk_at dksX0_hymn_2 4 rfl rfl)
theorem dX0_hymn_53 : decode cX0_hymn 53 = .ok (.aload_n 0, 1) := dk_42 (dk_at dksX0_hymn_2 6 rfl rfl)
theorem dX0_hymn_54 : decode cX0_hymn 54 = .ok (.aload 4, 2) := dk_25 4 (dk_at dksX0_hymn_2 7 rfl rfl)
theorem dX0_hymn_56 : decode cX0_hymn 56 = .ok (.invokevirtual 169, 3) := dk_182 0 169 (dk_at dksX0_hymn_2 9 rfl rfl)
theorem dX0_hymn_59 : decode cX0_hymn 59 = .ok (.ireturn, 1) := dk_172 (dk_at dksX0_hymn_2 12 rfl rfl)
abbrev cX0_years : ByteArray := prog_1_method_62_code
def yX0_years : MethodName := ⟨RX0, "years", "(I)I"⟩
def dkwX0_years_4 : List UInt8 := [167, 255, 199, 42, 180, 0, 88, 182, 1, 116, 172, 77, 42, 44, 182, 0, 169, 172]
abbrev dktX0_years_4 : List UInt8 := dkwX0_years_4 ++ []
def dkwX0_years_3 : List UInt8 := [180, 0, 88, 29, 21, 4, 4, 42, 180, 0, 88, 16, 9, 182, 1, 144, 96, 182, 1, 134, 87, 132, 2, 1]
abbrev dktX0_years_3 : List UInt8 := dkwX0_years_3 ++ dktX0_years_4
def dkwX0_years_2 : List UInt8 := [180, 0, 88, 180, 0, 200, 182, 1, 144, 62, 42, 180, 0, 88, 16, 6, 182, 1, 144, 54, 4, 42, 42]
abbrev dktX0_years_2 : List UInt8 := dkwX0_years_2 ++ dktX0_years_3
def dkwX0_years_1 : List UInt8 := [20, 1, 142, 184, 0, 125, 16, 250, 184, 0, 116, 3, 61, 28, 27, 162, 0, 58, 42, 180, 0, 88, 42]
abbrev dktX0_years_1 : List UInt8 := dkwX0_years_1 ++ dktX0_years_2
def dkwX0_years_0 : List UInt8 := [42, 180, 0, 88, 180, 0, 200, 158, 0, 7, 4, 167, 0, 4, 3, 16, 251, 184, 0, 116, 27, 133, 10]
abbrev dktX0_years_0 : List UInt8 := dkwX0_years_0 ++ dktX0_years_1
theorem dksX0_years_0 : cX0_years.data.toList.drop 0 = dktX0_years_0 := by decide +kernel
theorem dksX0_years_1 : cX0_years.data.toList.drop 23 = dktX0_years_1 := dk_seg dksX0_years_0 23 rfl rfl
theorem dksX0_years_2 : cX0_years.data.toList.drop 46 = dktX0_years_2 := dk_seg dksX0_years_1 23 rfl rfl
theorem dksX0_years_3 : cX0_years.data.toList.drop 69 = dktX0_years_3 := dk_seg dksX0_years_2 23 rfl rfl
theorem dksX0_years_4 : cX0_years.data.toList.drop 93 = dktX0_years_4 := dk_seg dksX0_years_3 24 rfl rfl
theorem dX0_years_0 : decode cX0_years 0 = .ok (.aload_n 0, 1) := dk_42 (dk_at dksX0_years_0 0 rfl rfl)
theorem dX0_years_1 : decode cX0_years 1 = .ok (.getfield 88, 3) := dk_180 0 88 (dk_at dksX0_years_0 1 rfl rfl)
theorem dX0_years_4 : decode cX0_years 4 = .ok (.getfield 200, 3) := dk_180 0 200 (dk_at dksX0_years_0 4 rfl rfl)
theorem dX0_years_7 : decode cX0_years 7 = .ok (.ifCond .le 7, 3) := dk_158 0 7 (dk_at dksX0_years_0 7 rfl rfl)
theorem dX0_years_10 : decode cX0_years 10 = .ok (.iconst 1, 1) := dk_4 (dk_at dksX0_years_0 10 rfl rfl)
theorem dX0_years_11 : decode cX0_years 11 = .ok (.goto 4, 3) := dk_167 0 4 (dk_at dksX0_years_0 11 rfl rfl)
theorem dX0_years_14 : decode cX0_years 14 = .ok (.iconst 0, 1) := dk_3 (dk_at dksX0_years_0 14 rfl rfl)
theorem dX0_years_15 : decode cX0_years 15 = .ok (.bipush (-5), 2) := dk_16 251 (dk_at dksX0_years_0 15 rfl rfl)
theorem dX0_years_17 : decode cX0_years 17 = .ok (.invokestatic 116, 3) := dk_184 0 116 (dk_at dksX0_years_0 17 rfl rfl)
theorem dX0_years_20 : decode cX0_years 20 = .ok (.iload_n 1, 1) := dk_27 (dk_at dksX0_years_0 20 rfl rfl)
theorem dX0_years_21 : decode cX0_years 21 = .ok (.i2l, 1) := dk_133 (dk_at dksX0_years_0 21 rfl rfl)
theorem dX0_years_22 : decode cX0_years 22 = .ok (.lconst 1, 1) := dk_10 (dk_at dksX0_years_0 22 rfl rfl)
theorem dX0_years_23 : decode cX0_years 23 = .ok (.ldc2_w 398, 3) := dk_20 1 142 (dk_at dksX0_years_1 0 rfl rfl)
theorem dX0_years_26 : decode cX0_years 26 = .ok (.invokestatic 125, 3) := dk_184 0 125 (dk_at dksX0_years_1 3 rfl rfl)
theorem dX0_years_29 : decode cX0_years 29 = .ok (.bipush (-6), 2) := dk_16 250 (dk_at dksX0_years_1 6 rfl rfl)
theorem dX0_years_31 : decode cX0_years 31 = .ok (.invokestatic 116, 3) := dk_184 0 116 (dk_at dksX0_years_1 8 rfl rfl)
theorem dX0_years_34 : decode cX0_years 34 = .ok (.iconst 0, 1) := dk_3 (dk_at dksX0_years_1 11 rfl rfl)
theorem dX0_years_35 : decode cX0_years 35 = .ok (.istore_n 2, 1) := dk_61 (dk_at dksX0_years_1 12 rfl rfl)
theorem dX0_years_36 : decode cX0_years 36 = .ok (.iload_n 2, 1) := dk_28 (dk_at dksX0_years_1 13 rfl rfl)
theorem dX0_years_37 : decode cX0_years 37 = .ok (.iload_n 1, 1) := dk_27 (dk_at dksX0_years_1 14 rfl rfl)
theorem dX0_years_38 : decode cX0_years 38 = .ok (.if_icmp .ge 58, 3) := dk_162 0 58 (dk_at dksX0_years_1 15 rfl rfl)
theorem dX0_years_41 : decode cX0_years 41 = .ok (.aload_n 0, 1) := dk_42 (dk_at dksX0_years_1 18 rfl rfl)
theorem dX0_years_42 : decode cX0_years 42 = .ok (.getfield 88, 3) := dk_180 0 88 (dk_at dksX0_years_1 19 rfl rfl)
theorem dX0_years_45 : decode cX0_years 45 = .ok (.aload_n 0, 1) := dk_42 (dk_at dksX0_years_1 22 rfl rfl)
theorem dX0_years_46 : decode cX0_years 46 = .ok (.getfield 88, 3) := dk_180 0 88 (dk_at dksX0_years_2 0 rfl rfl)
theorem dX0_years_49 : decode cX0_years 49 = .ok (.getfield 200, 3) := dk_180 0 200 (dk_at dksX0_years_2 3 rfl rfl)
theorem dX0_years_52 : decode cX0_years 52 = .ok (.invokevirtual 400, 3) := dk_182 1 144 (dk_at dksX0_years_2 6 rfl rfl)
theorem dX0_years_55 : decode cX0_years 55 = .ok (.istore_n 3, 1) := dk_62 (dk_at dksX0_years_2 9 rfl rfl)
theorem dX0_years_56 : decode cX0_years 56 = .ok (.aload_n 0, 1) := dk_42 (dk_at dksX0_years_2 10 rfl rfl)
theorem dX0_years_57 : decode cX0_years 57 = .ok (.getfield 88, 3) := dk_180 0 88 (dk_at dksX0_years_2 11 rfl rfl)
theorem dX0_years_60 : decode cX0_years 60 = .ok (.bipush 6, 2) := dk_16 6 (dk_at dksX0_years_2 14 rfl rfl)
theorem dX0_years_62 : decode cX0_years 62 = .ok (.invokevirtual 400, 3) := dk_182 1 144 (dk_at dksX0_years_2 16 rfl rfl)
theorem dX0_years_65 : decode cX0_years 65 = .ok (.istore 4, 2) := dk_54 4 (dk_at dksX0_years_2 19 rfl rfl)
theorem dX0_years_67 : decode cX0_years 67 = .ok (.aload_n 0, 1) := dk_42 (dk_at dksX0_years_2 21 rfl rfl)
theorem dX0_years_68 : decode cX0_years 68 = .ok (.aload_n 0, 1) := dk_42 (dk_at dksX0_years_2 22 rfl rfl)
theorem dX0_years_69 : decode cX0_years 69 = .ok (.getfield 88, 3) := dk_180 0 88 (dk_at dksX0_years_3 0 rfl rfl)
theorem dX0_years_72 : decode cX0_years 72 = .ok (.iload_n 3, 1) := dk_29 (dk_at dksX0_years_3 3 rfl rfl)
theorem dX0_years_73 : decode cX0_years 73 = .ok (.iload 4, 2) := dk_21 4 (dk_at dksX0_years_3 4 rfl rfl)
theorem dX0_years_75 : decode cX0_years 75 = .ok (.iconst 1, 1) := dk_4 (dk_at dksX0_years_3 6 rfl rfl)
theorem dX0_years_76 : decode cX0_years 76 = .ok (.aload_n 0, 1) := dk_42 (dk_at dksX0_years_3 7 rfl rfl)
theorem dX0_years_77 : decode cX0_years 77 = .ok (.getfield 88, 3) := dk_180 0 88 (dk_at dksX0_years_3 8 rfl rfl)
theorem dX0_years_80 : decode cX0_years 80 = .ok (.bipush 9, 2) := dk_16 9 (dk_at dksX0_years_3 11 rfl rfl)
theorem dX0_years_82 : decode cX0_years 82 = .ok (.invokevirtual 400, 3) := dk_182 1 144 (dk_at dksX0_years_3 13 rfl rfl)
theorem dX0_years_85 : decode cX0_years 85 = .ok (.iadd, 1) := dk_96 (dk_at dksX0_years_3 16 rfl rfl)
theorem dX0_years_86 : decode cX0_years 86 = .ok (.invokevirtual 390, 3) := dk_182 1 134 (dk_at dksX0_years_3 17 rfl rfl)
theorem dX0_years_89 : decode cX0_years 89 = .ok (.pop, 1) := dk_87 (dk_at dksX0_years_3 20 rfl rfl)
theorem dX0_years_90 : decode cX0_years 90 = .ok (.iinc 2 1, 3) := dk_132 2 1 (dk_at dksX0_years_3 21 rfl rfl)
theorem dX0_years_93 : decode cX0_years 93 = .ok (.goto (-57), 3) := dk_167 255 199 (dk_at dksX0_years_4 0 rfl rfl)
theorem dX0_years_96 : decode cX0_years 96 = .ok (.aload_n 0, 1) := dk_42 (dk_at dksX0_years_4 3 rfl rfl)
theorem dX0_years_97 : decode cX0_years 97 = .ok (.getfield 88, 3) := dk_180 0 88 (dk_at dksX0_years_4 4 rfl rfl)
theorem dX0_years_100 : decode cX0_years 100 = .ok (.invokevirtual 372, 3) := dk_182 1 116 (dk_at dksX0_years_4 7 rfl rfl)
theorem dX0_years_103 : decode cX0_years 103 = .ok (.ireturn, 1) := dk_172 (dk_at dksX0_years_4 10 rfl rfl)
theorem dX0_years_104 : decode cX0_years 104 = .ok (.astore_n 2, 1) := dk_77 (dk_at dksX0_years_4 11 rfl rfl)
theorem dX0_years_105 : decode cX0_years 105 = .ok (.aload_n 0, 1) := dk_42 (dk_at dksX0_years_4 12 rfl rfl)
theorem dX0_years_106 : decode cX0_years 106 = .ok (.aload_n 2, 1) := dk_44 (dk_at dksX0_years_4 13 rfl rfl)
theorem dX0_years_107 : decode cX0_years 107 = .ok (.invokevirtual 169, 3) := dk_182 0 169 (dk_at dksX0_years_4 14 rfl rfl)
theorem dX0_years_110 : decode cX0_years 110 = .ok (.ireturn, 1) := dk_172 (dk_at dksX0_years_4 17 rfl rfl)
abbrev cX0_seed : ByteArray := prog_1_method_63_code
def yX0_seed : MethodName := ⟨RX0, "seed", "(I)I"⟩
def dkwX0_seed_0 : List UInt8 := [42, 180, 0, 88, 180, 1, 147, 61, 42, 180, 0, 88, 27, 181, 1, 147, 28, 172]
abbrev dktX0_seed_0 : List UInt8 := dkwX0_seed_0 ++ []
theorem dksX0_seed_0 : cX0_seed.data.toList.drop 0 = dktX0_seed_0 := by decide +kernel
theorem dX0_seed_0 : decode cX0_seed 0 = .ok (.aload_n 0, 1) := dk_42 (dk_at dksX0_seed_0 0 rfl rfl)
theorem dX0_seed_1 : decode cX0_seed 1 = .ok (.getfield 88, 3) := dk_180 0 88 (dk_at dksX0_seed_0 1 rfl rfl)
theorem dX0_seed_4 : decode cX0_seed 4 = .ok (.getfield 403, 3) := dk_180 1 147 (dk_at dksX0_seed_0 4 rfl rfl)
theorem dX0_seed_7 : decode cX0_seed 7 = .ok (.istore_n 2, 1) := dk_61 (dk_at dksX0_seed_0 7 rfl rfl)
theorem dX0_seed_8 : decode cX0_seed 8 = .ok (.aload_n 0, 1) := dk_42 (dk_at dksX0_seed_0 8 rfl rfl)
theorem dX0_seed_9 : decode cX0_seed 9 = .ok (.getfield 88, 3) := dk_180 0 88 (dk_at dksX0_seed_0 9 rfl rfl)
theorem dX0_seed_12 : decode cX0_seed 12 = .ok (.iload_n 1, 1) := dk_27 (dk_at dksX0_seed_0 12 rfl rfl)
theorem dX0_seed_13 : decode cX0_seed 13 = .ok (.putfield 403, 3) := dk_181 1 147 (dk_at dksX0_seed_0 13 rfl rfl)
theorem dX0_seed_16 : decode cX0_seed 16 = .ok (.iload_n 2, 1) := dk_28 (dk_at dksX0_seed_0 16 rfl rfl)
theorem dX0_seed_17 : decode cX0_seed 17 = .ok (.ireturn, 1) := dk_172 (dk_at dksX0_seed_0 17 rfl rfl)
abbrev cX0_act : ByteArray := prog_1_method_64_code
def yX0_act : MethodName := ⟨RX0, "act", "(III)I"⟩
def dkwX0_act_4 : List UInt8 := [29, 42, 180, 0, 70, 182, 1, 158, 172, 3, 172]
abbrev dktX0_act_4 : List UInt8 := dkwX0_act_4 ++ []
def dkwX0_act_3 : List UInt8 := [25, 4, 29, 42, 180, 0, 70, 182, 1, 151, 172, 25, 4, 29, 42, 180, 0, 70, 182, 1, 155, 172, 25, 4]
abbrev dktX0_act_3 : List UInt8 := dkwX0_act_3 ++ dktX0_act_4
def dkwX0_act_2 : List UInt8 := [170, 0, 0, 0, 0, 0, 60, 0, 0, 0, 0, 0, 0, 0, 2, 0, 0, 0, 27, 0, 0, 0, 38, 0, 0, 0, 49]
abbrev dktX0_act_2 : List UInt8 := dkwX0_act_2 ++ dktX0_act_3
def dkwX0_act_1 : List UInt8 := [180, 0, 88, 180, 0, 141, 27, 50, 58, 4, 28]
abbrev dktX0_act_1 : List UInt8 := dkwX0_act_1 ++ dktX0_act_2
def dkwX0_act_0 : List UInt8 := [42, 180, 0, 70, 3, 181, 1, 150, 42, 180, 0, 88, 27, 182, 0, 112, 154, 0, 5, 3, 172, 42]
abbrev dktX0_act_0 : List UInt8 := dkwX0_act_0 ++ dktX0_act_1
theorem dksX0_act_0 : cX0_act.data.toList.drop 0 = dktX0_act_0 := by decide +kernel
theorem dksX0_act_1 : cX0_act.data.toList.drop 22 = dktX0_act_1 := dk_seg dksX0_act_0 22 rfl rfl
theorem dksX0_act_2 : cX0_act.data.toList.drop 33 = dktX0_act_2 := dk_seg dksX0_act_1 11 rfl rfl
theorem dksX0_act_3 : cX0_act.data.toList.drop 60 = dktX0_act_3 := dk_seg dksX0_act_2 27 rfl rfl
theorem dksX0_act_4 : cX0_act.data.toList.drop 84 = dktX0_act_4 := dk_seg dksX0_act_3 24 rfl rfl
theorem dX0_act_0 : decode cX0_act 0 = .ok (.aload_n 0, 1) := dk_42 (dk_at dksX0_act_0 0 rfl rfl)
theorem dX0_act_1 : decode cX0_act 1 = .ok (.getfield 70, 3) := dk_180 0 70 (dk_at dksX0_act_0 1 rfl rfl)
theorem dX0_act_4 : decode cX0_act 4 = .ok (.iconst 0, 1) := dk_3 (dk_at dksX0_act_0 4 rfl rfl)
theorem dX0_act_5 : decode cX0_act 5 = .ok (.putfield 406, 3) := dk_181 1 150 (dk_at dksX0_act_0 5 rfl rfl)
theorem dX0_act_8 : decode cX0_act 8 = .ok (.aload_n 0, 1) := dk_42 (dk_at dksX0_act_0 8 rfl rfl)
theorem dX0_act_9 : decode cX0_act 9 = .ok (.getfield 88, 3) := dk_180 0 88 (dk_at dksX0_act_0 9 rfl rfl)
theorem dX0_act_12 : decode cX0_act 12 = .ok (.iload_n 1, 1) := dk_27 (dk_at dksX0_act_0 12 rfl rfl)
theorem dX0_act_13 : decode cX0_act 13 = .ok (.invokevirtual 112, 3) := dk_182 0 112 (dk_at dksX0_act_0 13 rfl rfl)
theorem dX0_act_16 : decode cX0_act 16 = .ok (.ifCond .ne 5, 3) := dk_154 0 5 (dk_at dksX0_act_0 16 rfl rfl)
theorem dX0_act_19 : decode cX0_act 19 = .ok (.iconst 0, 1) := dk_3 (dk_at dksX0_act_0 19 rfl rfl)
theorem dX0_act_20 : decode cX0_act 20 = .ok (.ireturn, 1) := dk_172 (dk_at dksX0_act_0 20 rfl rfl)
theorem dX0_act_21 : decode cX0_act 21 = .ok (.aload_n 0, 1) := dk_42 (dk_at dksX0_act_0 21 rfl rfl)
theorem dX0_act_22 : decode cX0_act 22 = .ok (.getfield 88, 3) := dk_180 0 88 (dk_at dksX0_act_1 0 rfl rfl)
theorem dX0_act_25 : decode cX0_act 25 = .ok (.getfield 141, 3) := dk_180 0 141 (dk_at dksX0_act_1 3 rfl rfl)
theorem dX0_act_28 : decode cX0_act 28 = .ok (.iload_n 1, 1) := dk_27 (dk_at dksX0_act_1 6 rfl rfl)
theorem dX0_act_29 : decode cX0_act 29 = .ok (.aaload, 1) := dk_50 (dk_at dksX0_act_1 7 rfl rfl)
theorem dX0_act_30 : decode cX0_act 30 = .ok (.astore 4, 2) := dk_58 4 (dk_at dksX0_act_1 8 rfl rfl)
theorem dX0_act_32 : decode cX0_act 32 = .ok (.iload_n 2, 1) := dk_28 (dk_at dksX0_act_1 10 rfl rfl)
theorem dX0_act_33 : decode cX0_act 33 = .ok (.tableswitch 60 0 2 #[27, 38, 49], 27) := by decide +kernel
theorem dX0_act_60 : decode cX0_act 60 = .ok (.aload 4, 2) := dk_25 4 (dk_at dksX0_act_3 0 rfl rfl)
theorem dX0_act_62 : decode cX0_act 62 = .ok (.iload_n 3, 1) := dk_29 (dk_at dksX0_act_3 2 rfl rfl)
theorem dX0_act_63 : decode cX0_act 63 = .ok (.aload_n 0, 1) := dk_42 (dk_at dksX0_act_3 3 rfl rfl)
theorem dX0_act_64 : decode cX0_act 64 = .ok (.getfield 70, 3) := dk_180 0 70 (dk_at dksX0_act_3 4 rfl rfl)
theorem dX0_act_67 : decode cX0_act 67 = .ok (.invokevirtual 407, 3) := dk_182 1 151 (dk_at dksX0_act_3 7 rfl rfl)
theorem dX0_act_70 : decode cX0_act 70 = .ok (.ireturn, 1) := dk_172 (dk_at dksX0_act_3 10 rfl rfl)
theorem dX0_act_71 : decode cX0_act 71 = .ok (.aload 4, 2) := dk_25 4 (dk_at dksX0_act_3 11 rfl rfl)
theorem dX0_act_73 : decode cX0_act 73 = .ok (.iload_n 3, 1) := dk_29 (dk_at dksX0_act_3 13 rfl rfl)
theorem dX0_act_74 : decode cX0_act 74 = .ok (.aload_n 0, 1) := dk_42 (dk_at dksX0_act_3 14 rfl rfl)
theorem dX0_act_75 : decode cX0_act 75 = .ok (.getfield 70, 3) := dk_180 0 70 (dk_at dksX0_act_3 15 rfl rfl)
theorem dX0_act_78 : decode cX0_act 78 = .ok (.invokevirtual 411, 3) := dk_182 1 155 (dk_at dksX0_act_3 18 rfl rfl)
theorem dX0_act_81 : decode cX0_act 81 = .ok (.ireturn, 1) := dk_172 (dk_at dksX0_act_3 21 rfl rfl)
theorem dX0_act_82 : decode cX0_act 82 = .ok (.aload 4, 2) := dk_25 4 (dk_at dksX0_act_3 22 rfl rfl)
theorem dX0_act_84 : decode cX0_act 84 = .ok (.iload_n 3, 1) := dk_29 (dk_at dksX0_act_4 0 rfl rfl)
theorem dX0_act_85 : decode cX0_act 85 = .ok (.aload_n 0, 1) := dk_42 (dk_at dksX0_act_4 1 rfl rfl)
theorem dX0_act_86 : decode cX0_act 86 = .ok (.getfield 70, 3) := dk_180 0 70 (dk_at dksX0_act_4 2 rfl rfl)
theorem dX0_act_89 : decode cX0_act 89 = .ok (.invokevirtual 414, 3) := dk_182 1 158 (dk_at dksX0_act_4 5 rfl rfl)
theorem dX0_act_92 : decode cX0_act 92 = .ok (.ireturn, 1) := dk_172 (dk_at dksX0_act_4 8 rfl rfl)
theorem dX0_act_93 : decode cX0_act 93 = .ok (.iconst 0, 1) := dk_3 (dk_at dksX0_act_4 9 rfl rfl)
theorem dX0_act_94 : decode cX0_act 94 = .ok (.ireturn, 1) := dk_172 (dk_at dksX0_act_4 10 rfl rfl)
abbrev cX0_trace : ByteArray := prog_1_method_65_code
def yX0_trace : MethodName := ⟨RX0, "trace", "(I)I"⟩
def dkwX0_trace_1 : List UInt8 := [42, 180, 0, 70, 180, 1, 164, 27, 46, 167, 0, 4, 2, 172]
abbrev dktX0_trace_1 : List UInt8 := dkwX0_trace_1 ++ []
def dkwX0_trace_0 : List UInt8 := [27, 133, 9, 42, 180, 0, 70, 180, 1, 150, 16, 20, 184, 1, 161, 4, 100, 133, 184, 0, 125, 153, 0, 15]
abbrev dktX0_trace_0 : List UInt8 := dkwX0_trace_0 ++ dktX0_trace_1
theorem dksX0_trace_0 : cX0_trace.data.toList.drop 0 = dktX0_trace_0 := by decide +kernel
theorem dksX0_trace_1 : cX0_trace.data.toList.drop 24 = dktX0_trace_1 := dk_seg dksX0_trace_0 24 rfl rfl
theorem dX0_trace_0 : decode cX0_trace 0 = .ok (.iload_n 1, 1) := dk_27 (dk_at dksX0_trace_0 0 rfl rfl)
theorem dX0_trace_1 : decode cX0_trace 1 = .ok (.i2l, 1) := dk_133 (dk_at dksX0_trace_0 1 rfl rfl)
theorem dX0_trace_2 : decode cX0_trace 2 = .ok (.lconst 0, 1) := dk_9 (dk_at dksX0_trace_0 2 rfl rfl)
theorem dX0_trace_3 : decode cX0_trace 3 = .ok (.aload_n 0, 1) := dk_42 (dk_at dksX0_trace_0 3 rfl rfl)
theorem dX0_trace_4 : decode cX0_trace 4 = .ok (.getfield 70, 3) := dk_180 0 70 (dk_at dksX0_trace_0 4 rfl rfl)
theorem dX0_trace_7 : decode cX0_trace 7 = .ok (.getfield 406, 3) := dk_180 1 150 (dk_at dksX0_trace_0 7 rfl rfl)
theorem dX0_trace_10 : decode cX0_trace 10 = .ok (.bipush 20, 2) := dk_16 20 (dk_at dksX0_trace_0 10 rfl rfl)
theorem dX0_trace_12 : decode cX0_trace 12 = .ok (.invokestatic 417, 3) := dk_184 1 161 (dk_at dksX0_trace_0 12 rfl rfl)
theorem dX0_trace_15 : decode cX0_trace 15 = .ok (.iconst 1, 1) := dk_4 (dk_at dksX0_trace_0 15 rfl rfl)
theorem dX0_trace_16 : decode cX0_trace 16 = .ok (.isub, 1) := dk_100 (dk_at dksX0_trace_0 16 rfl rfl)
theorem dX0_trace_17 : decode cX0_trace 17 = .ok (.i2l, 1) := dk_133 (dk_at dksX0_trace_0 17 rfl rfl)
theorem dX0_trace_18 : decode cX0_trace 18 = .ok (.invokestatic 125, 3) := dk_184 0 125 (dk_at dksX0_trace_0 18 rfl rfl)
theorem dX0_trace_21 : decode cX0_trace 21 = .ok (.ifCond .eq 15, 3) := dk_153 0 15 (dk_at dksX0_trace_0 21 rfl rfl)
theorem dX0_trace_24 : decode cX0_trace 24 = .ok (.aload_n 0, 1) := dk_42 (dk_at dksX0_trace_1 0 rfl rfl)
theorem dX0_trace_25 : decode cX0_trace 25 = .ok (.getfield 70, 3) := dk_180 0 70 (dk_at dksX0_trace_1 1 rfl rfl)
theorem dX0_trace_28 : decode cX0_trace 28 = .ok (.getfield 420, 3) := dk_180 1 164 (dk_at dksX0_trace_1 4 rfl rfl)
theorem dX0_trace_31 : decode cX0_trace 31 = .ok (.iload_n 1, 1) := dk_27 (dk_at dksX0_trace_1 7 rfl rfl)
theorem dX0_trace_32 : decode cX0_trace 32 = .ok (.iaload, 1) := dk_46 (dk_at dksX0_trace_1 8 rfl rfl)
theorem dX0_trace_33 : decode cX0_trace 33 = .ok (.goto 4, 3) := dk_167 0 4 (dk_at dksX0_trace_1 9 rfl rfl)
theorem dX0_trace_36 : decode cX0_trace 36 = .ok (.iconst (-1), 1) := dk_2 (dk_at dksX0_trace_1 12 rfl rfl)
theorem dX0_trace_37 : decode cX0_trace 37 = .ok (.ireturn, 1) := dk_172 (dk_at dksX0_trace_1 13 rfl rfl)
abbrev cX0_image : ByteArray := prog_1_method_66_code
def yX0_image : MethodName := ⟨RX0, "image", "()I"⟩
def dkwX0_image_1 : List UInt8 := [180, 0, 211, 172]
abbrev dktX0_image_1 : List UInt8 := dkwX0_image_1 ++ []
def dkwX0_image_0 : List UInt8 := [42, 187, 0, 74, 89, 183, 0, 76, 42, 180, 0, 88, 182, 0, 248, 181, 1, 167, 42, 180, 0, 88]
abbrev dktX0_image_0 : List UInt8 := dkwX0_image_0 ++ dktX0_image_1
theorem dksX0_image_0 : cX0_image.data.toList.drop 0 = dktX0_image_0 := by decide +kernel
theorem dksX0_image_1 : cX0_image.data.toList.drop 22 = dktX0_image_1 := dk_seg dksX0_image_0 22 rfl rfl
theorem dX0_image_0 : decode cX0_image 0 = .ok (.aload_n 0, 1) := dk_42 (dk_at dksX0_image_0 0 rfl rfl)
theorem dX0_image_1 : decode cX0_image 1 = .ok (.new 74, 3) := dk_187 0 74 (dk_at dksX0_image_0 1 rfl rfl)
theorem dX0_image_4 : decode cX0_image 4 = .ok (.dup, 1) := dk_89 (dk_at dksX0_image_0 4 rfl rfl)
theorem dX0_image_5 : decode cX0_image 5 = .ok (.invokespecial 76, 3) := dk_183 0 76 (dk_at dksX0_image_0 5 rfl rfl)
theorem dX0_image_8 : decode cX0_image 8 = .ok (.aload_n 0, 1) := dk_42 (dk_at dksX0_image_0 8 rfl rfl)
theorem dX0_image_9 : decode cX0_image 9 = .ok (.getfield 88, 3) := dk_180 0 88 (dk_at dksX0_image_0 9 rfl rfl)
theorem dX0_image_12 : decode cX0_image 12 = .ok (.invokevirtual 248, 3) := dk_182 0 248 (dk_at dksX0_image_0 12 rfl rfl)
theorem dX0_image_15 : decode cX0_image 15 = .ok (.putfield 423, 3) := dk_181 1 167 (dk_at dksX0_image_0 15 rfl rfl)
theorem dX0_image_18 : decode cX0_image 18 = .ok (.aload_n 0, 1) := dk_42 (dk_at dksX0_image_0 18 rfl rfl)
theorem dX0_image_19 : decode cX0_image 19 = .ok (.getfield 88, 3) := dk_180 0 88 (dk_at dksX0_image_0 19 rfl rfl)
theorem dX0_image_22 : decode cX0_image 22 = .ok (.getfield 211, 3) := dk_180 0 211 (dk_at dksX0_image_1 0 rfl rfl)
theorem dX0_image_25 : decode cX0_image 25 = .ok (.ireturn, 1) := dk_172 (dk_at dksX0_image_1 3 rfl rfl)
abbrev cX0_restore : ByteArray := prog_1_method_67_code
def yX0_restore : MethodName := ⟨RX0, "restore", "()I"⟩
def dkwX0_restore_2 : List UInt8 := [172, 76, 42, 43, 182, 0, 169, 172]
abbrev dktX0_restore_2 : List UInt8 := dkwX0_restore_2 ++ []
def dkwX0_restore_1 : List UInt8 := [183, 0, 76, 42, 180, 1, 167, 182, 0, 248, 181, 0, 88, 42, 182, 1, 170, 42, 180, 0, 88, 180, 0, 211]
abbrev dktX0_restore_1 : List UInt8 := dkwX0_restore_1 ++ dktX0_restore_2
def dkwX0_restore_0 : List UInt8 := [42, 180, 1, 167, 198, 0, 7, 4, 167, 0, 4, 3, 16, 250, 184, 0, 116, 42, 187, 0, 74, 89]
abbrev dktX0_restore_0 : List UInt8 := dkwX0_restore_0 ++ dktX0_restore_1
theorem dksX0_restore_0 : cX0_restore.data.toList.drop 0 = dktX0_restore_0 := by decide +kernel
theorem dksX0_restore_1 : cX0_restore.data.toList.drop 22 = dktX0_restore_1 := dk_seg dksX0_restore_0 22 rfl rfl
theorem dksX0_restore_2 : cX0_restore.data.toList.drop 46 = dktX0_restore_2 := dk_seg dksX0_restore_1 24 rfl rfl
theorem dX0_restore_0 : decode cX0_restore 0 = .ok (.aload_n 0, 1) := dk_42 (dk_at dksX0_restore_0 0 rfl rfl)
theorem dX0_restore_1 : decode cX0_restore 1 = .ok (.getfield 423, 3) := dk_180 1 167 (dk_at dksX0_restore_0 1 rfl rfl)
theorem dX0_restore_4 : decode cX0_restore 4 = .ok (.ifnull 7, 3) := dk_198 0 7 (dk_at dksX0_restore_0 4 rfl rfl)
theorem dX0_restore_7 : decode cX0_restore 7 = .ok (.iconst 1, 1) := dk_4 (dk_at dksX0_restore_0 7 rfl rfl)
theorem dX0_restore_8 : decode cX0_restore 8 = .ok (.goto 4, 3) := dk_167 0 4 (dk_at dksX0_restore_0 8 rfl rfl)
theorem dX0_restore_11 : decode cX0_restore 11 = .ok (.iconst 0, 1) := dk_3 (dk_at dksX0_restore_0 11 rfl rfl)
theorem dX0_restore_12 : decode cX0_restore 12 = .ok (.bipush (-6), 2) := dk_16 250 (dk_at dksX0_restore_0 12 rfl rfl)
theorem dX0_restore_14 : decode cX0_restore 14 = .ok (.invokestatic 116, 3) := dk_184 0 116 (dk_at dksX0_restore_0 14 rfl rfl)
theorem dX0_restore_17 : decode cX0_restore 17 = .ok (.aload_n 0, 1) := dk_42 (dk_at dksX0_restore_0 17 rfl rfl)
theorem dX0_restore_18 : decode cX0_restore 18 = .ok (.new 74, 3) := dk_187 0 74 (dk_at dksX0_restore_0 18 rfl rfl)
theorem dX0_restore_21 : decode cX0_restore 21 = .ok (.dup, 1) := dk_89 (dk_at dksX0_restore_0 21 rfl rfl)
theorem dX0_restore_22 : decode cX0_restore 22 = .ok (.invokespecial 76, 3) := dk_183 0 76 (dk_at dksX0_restore_1 0 rfl rfl)
theorem dX0_restore_25 : decode cX0_restore 25 = .ok (.aload_n 0, 1) := dk_42 (dk_at dksX0_restore_1 3 rfl rfl)
theorem dX0_restore_26 : decode cX0_restore 26 = .ok (.getfield 423, 3) := dk_180 1 167 (dk_at dksX0_restore_1 4 rfl rfl)
theorem dX0_restore_29 : decode cX0_restore 29 = .ok (.invokevirtual 248, 3) := dk_182 0 248 (dk_at dksX0_restore_1 7 rfl rfl)
theorem dX0_restore_32 : decode cX0_restore 32 = .ok (.putfield 88, 3) := dk_181 0 88 (dk_at dksX0_restore_1 10 rfl rfl)
theorem dX0_restore_35 : decode cX0_restore 35 = .ok (.aload_n 0, 1) := dk_42 (dk_at dksX0_restore_1 13 rfl rfl)
theorem dX0_restore_36 : decode cX0_restore 36 = .ok (.invokevirtual 426, 3) := dk_182 1 170 (dk_at dksX0_restore_1 14 rfl rfl)
theorem dX0_restore_39 : decode cX0_restore 39 = .ok (.aload_n 0, 1) := dk_42 (dk_at dksX0_restore_1 17 rfl rfl)
theorem dX0_restore_40 : decode cX0_restore 40 = .ok (.getfield 88, 3) := dk_180 0 88 (dk_at dksX0_restore_1 18 rfl rfl)
theorem dX0_restore_43 : decode cX0_restore 43 = .ok (.getfield 211, 3) := dk_180 0 211 (dk_at dksX0_restore_1 21 rfl rfl)
theorem dX0_restore_46 : decode cX0_restore 46 = .ok (.ireturn, 1) := dk_172 (dk_at dksX0_restore_2 0 rfl rfl)
theorem dX0_restore_47 : decode cX0_restore 47 = .ok (.astore_n 1, 1) := dk_76 (dk_at dksX0_restore_2 1 rfl rfl)
theorem dX0_restore_48 : decode cX0_restore 48 = .ok (.aload_n 0, 1) := dk_42 (dk_at dksX0_restore_2 2 rfl rfl)
theorem dX0_restore_49 : decode cX0_restore 49 = .ok (.aload_n 1, 1) := dk_43 (dk_at dksX0_restore_2 3 rfl rfl)
theorem dX0_restore_50 : decode cX0_restore 50 = .ok (.invokevirtual 169, 3) := dk_182 0 169 (dk_at dksX0_restore_2 4 rfl rfl)
theorem dX0_restore_53 : decode cX0_restore 53 = .ok (.ireturn, 1) := dk_172 (dk_at dksX0_restore_2 7 rfl rfl)
abbrev cX0_shelvesFollow : ByteArray := prog_1_method_12_code
def yX0_shelvesFollow : MethodName := ⟨RX0, "shelvesFollow", "()V"⟩
def dkwX0_shelvesFollow_3 : List UInt8 := [1, 181, 0, 135, 132, 3, 1, 167, 255, 191, 177]
abbrev dktX0_shelvesFollow_3 : List UInt8 := dkwX0_shelvesFollow_3 ++ []
def dkwX0_shelvesFollow_2 : List UInt8 := [180, 0, 88, 21, 5, 182, 0, 112, 153, 0, 16, 42, 180, 0, 88, 180, 0, 141, 21, 5, 50, 167, 0, 4]
abbrev dktX0_shelvesFollow_2 : List UInt8 := dkwX0_shelvesFollow_2 ++ dktX0_shelvesFollow_3
def dkwX0_shelvesFollow_1 : List UInt8 := [182, 0, 131, 153, 0, 47, 25, 4, 180, 0, 135, 192, 0, 47, 180, 0, 138, 54, 5, 25, 4, 42]
abbrev dktX0_shelvesFollow_1 : List UInt8 := dkwX0_shelvesFollow_1 ++ dktX0_shelvesFollow_2
def dkwX0_shelvesFollow_0 : List UInt8 := [42, 180, 0, 59, 76, 43, 190, 61, 3, 62, 29, 28, 162, 0, 66, 43, 29, 50, 58, 4, 25, 4]
abbrev dktX0_shelvesFollow_0 : List UInt8 := dkwX0_shelvesFollow_0 ++ dktX0_shelvesFollow_1
theorem dksX0_shelvesFollow_0 : cX0_shelvesFollow.data.toList.drop 0 = dktX0_shelvesFollow_0 := by decide +kernel
theorem dksX0_shelvesFollow_1 : cX0_shelvesFollow.data.toList.drop 22 = dktX0_shelvesFollow_1 := dk_seg dksX0_shelvesFollow_0 22 rfl rfl
theorem dksX0_shelvesFollow_2 : cX0_shelvesFollow.data.toList.drop 44 = dktX0_shelvesFollow_2 := dk_seg dksX0_shelvesFollow_1 22 rfl rfl
theorem dksX0_shelvesFollow_3 : cX0_shelvesFollow.data.toList.drop 68 = dktX0_shelvesFollow_3 := dk_seg dksX0_shelvesFollow_2 24 rfl rfl
theorem dX0_shelvesFollow_0 : decode cX0_shelvesFollow 0 = .ok (.aload_n 0, 1) := dk_42 (dk_at dksX0_shelvesFollow_0 0 rfl rfl)
theorem dX0_shelvesFollow_1 : decode cX0_shelvesFollow 1 = .ok (.getfield 59, 3) := dk_180 0 59 (dk_at dksX0_shelvesFollow_0 1 rfl rfl)
theorem dX0_shelvesFollow_4 : decode cX0_shelvesFollow 4 = .ok (.astore_n 1, 1) := dk_76 (dk_at dksX0_shelvesFollow_0 4 rfl rfl)
theorem dX0_shelvesFollow_5 : decode cX0_shelvesFollow 5 = .ok (.aload_n 1, 1) := dk_43 (dk_at dksX0_shelvesFollow_0 5 rfl rfl)
theorem dX0_shelvesFollow_6 : decode cX0_shelvesFollow 6 = .ok (.arraylength, 1) := dk_190 (dk_at dksX0_shelvesFollow_0 6 rfl rfl)
theorem dX0_shelvesFollow_7 : decode cX0_shelvesFollow 7 = .ok (.istore_n 2, 1) := dk_61 (dk_at dksX0_shelvesFollow_0 7 rfl rfl)
theorem dX0_shelvesFollow_8 : decode cX0_shelvesFollow 8 = .ok (.iconst 0, 1) := dk_3 (dk_at dksX0_shelvesFollow_0 8 rfl rfl)
theorem dX0_shelvesFollow_9 : decode cX0_shelvesFollow 9 = .ok (.istore_n 3, 1) := dk_62 (dk_at dksX0_shelvesFollow_0 9 rfl rfl)
theorem dX0_shelvesFollow_10 : decode cX0_shelvesFollow 10 = .ok (.iload_n 3, 1) := dk_29 (dk_at dksX0_shelvesFollow_0 10 rfl rfl)
theorem dX0_shelvesFollow_11 : decode cX0_shelvesFollow 11 = .ok (.iload_n 2, 1) := dk_28 (dk_at dksX0_shelvesFollow_0 11 rfl rfl)
theorem dX0_shelvesFollow_12 : decode cX0_shelvesFollow 12 = .ok (.if_icmp .ge 66, 3) := dk_162 0 66 (dk_at dksX0_shelvesFollow_0 12 rfl rfl)
theorem dX0_shelvesFollow_15 : decode cX0_shelvesFollow 15 = .ok (.aload_n 1, 1) := dk_43 (dk_at dksX0_shelvesFollow_0 15 rfl rfl)
theorem dX0_shelvesFollow_16 : decode cX0_shelvesFollow 16 = .ok (.iload_n 3, 1) := dk_29 (dk_at dksX0_shelvesFollow_0 16 rfl rfl)
theorem dX0_shelvesFollow_17 : decode cX0_shelvesFollow 17 = .ok (.aaload, 1) := dk_50 (dk_at dksX0_shelvesFollow_0 17 rfl rfl)
theorem dX0_shelvesFollow_18 : decode cX0_shelvesFollow 18 = .ok (.astore 4, 2) := dk_58 4 (dk_at dksX0_shelvesFollow_0 18 rfl rfl)
theorem dX0_shelvesFollow_20 : decode cX0_shelvesFollow 20 = .ok (.aload 4, 2) := dk_25 4 (dk_at dksX0_shelvesFollow_0 20 rfl rfl)
theorem dX0_shelvesFollow_22 : decode cX0_shelvesFollow 22 = .ok (.invokevirtual 131, 3) := dk_182 0 131 (dk_at dksX0_shelvesFollow_1 0 rfl rfl)
theorem dX0_shelvesFollow_25 : decode cX0_shelvesFollow 25 = .ok (.ifCond .eq 47, 3) := dk_153 0 47 (dk_at dksX0_shelvesFollow_1 3 rfl rfl)
theorem dX0_shelvesFollow_28 : decode cX0_shelvesFollow 28 = .ok (.aload 4, 2) := dk_25 4 (dk_at dksX0_shelvesFollow_1 6 rfl rfl)
theorem dX0_shelvesFollow_30 : decode cX0_shelvesFollow 30 = .ok (.getfield 135, 3) := dk_180 0 135 (dk_at dksX0_shelvesFollow_1 8 rfl rfl)
theorem dX0_shelvesFollow_33 : decode cX0_shelvesFollow 33 = .ok (.checkcast 47, 3) := dk_192 0 47 (dk_at dksX0_shelvesFollow_1 11 rfl rfl)
theorem dX0_shelvesFollow_36 : decode cX0_shelvesFollow 36 = .ok (.getfield 138, 3) := dk_180 0 138 (dk_at dksX0_shelvesFollow_1 14 rfl rfl)
theorem dX0_shelvesFollow_39 : decode cX0_shelvesFollow 39 = .ok (.istore 5, 2) := dk_54 5 (dk_at dksX0_shelvesFollow_1 17 rfl rfl)
theorem dX0_shelvesFollow_41 : decode cX0_shelvesFollow 41 = .ok (.aload 4, 2) := dk_25 4 (dk_at dksX0_shelvesFollow_1 19 rfl rfl)
theorem dX0_shelvesFollow_43 : decode cX0_shelvesFollow 43 = .ok (.aload_n 0, 1) := dk_42 (dk_at dksX0_shelvesFollow_1 21 rfl rfl)
theorem dX0_shelvesFollow_44 : decode cX0_shelvesFollow 44 = .ok (.getfield 88, 3) := dk_180 0 88 (dk_at dksX0_shelvesFollow_2 0 rfl rfl)
theorem dX0_shelvesFollow_47 : decode cX0_shelvesFollow 47 = .ok (.iload 5, 2) := dk_21 5 (dk_at dksX0_shelvesFollow_2 3 rfl rfl)
theorem dX0_shelvesFollow_49 : decode cX0_shelvesFollow 49 = .ok (.invokevirtual 112, 3) := dk_182 0 112 (dk_at dksX0_shelvesFollow_2 5 rfl rfl)
theorem dX0_shelvesFollow_52 : decode cX0_shelvesFollow 52 = .ok (.ifCond .eq 16, 3) := dk_153 0 16 (dk_at dksX0_shelvesFollow_2 8 rfl rfl)
theorem dX0_shelvesFollow_55 : decode cX0_shelvesFollow 55 = .ok (.aload_n 0, 1) := dk_42 (dk_at dksX0_shelvesFollow_2 11 rfl rfl)
theorem dX0_shelvesFollow_56 : decode cX0_shelvesFollow 56 = .ok (.getfield 88, 3) := dk_180 0 88 (dk_at dksX0_shelvesFollow_2 12 rfl rfl)
theorem dX0_shelvesFollow_59 : decode cX0_shelvesFollow 59 = .ok (.getfield 141, 3) := dk_180 0 141 (dk_at dksX0_shelvesFollow_2 15 rfl rfl)
theorem dX0_shelvesFollow_62 : decode cX0_shelvesFollow 62 = .ok (.iload 5, 2) := dk_21 5 (dk_at dksX0_shelvesFollow_2 18 rfl rfl)
theorem dX0_shelvesFollow_64 : decode cX0_shelvesFollow 64 = .ok (.aaload, 1) := dk_50 (dk_at dksX0_shelvesFollow_2 20 rfl rfl)
theorem dX0_shelvesFollow_65 : decode cX0_shelvesFollow 65 = .ok (.goto 4, 3) := dk_167 0 4 (dk_at dksX0_shelvesFollow_2 21 rfl rfl)
theorem dX0_shelvesFollow_68 : decode cX0_shelvesFollow 68 = .ok (.aconst_null, 1) := dk_1 (dk_at dksX0_shelvesFollow_3 0 rfl rfl)
theorem dX0_shelvesFollow_69 : decode cX0_shelvesFollow 69 = .ok (.putfield 135, 3) := dk_181 0 135 (dk_at dksX0_shelvesFollow_3 1 rfl rfl)
theorem dX0_shelvesFollow_72 : decode cX0_shelvesFollow 72 = .ok (.iinc 3 1, 3) := dk_132 3 1 (dk_at dksX0_shelvesFollow_3 4 rfl rfl)
theorem dX0_shelvesFollow_75 : decode cX0_shelvesFollow 75 = .ok (.goto (-65), 3) := dk_167 255 191 (dk_at dksX0_shelvesFollow_3 7 rfl rfl)
theorem dX0_shelvesFollow_78 : decode cX0_shelvesFollow 78 = .ok (.return_, 1) := dk_177 (dk_at dksX0_shelvesFollow_3 10 rfl rfl)
abbrev cX0_status : ByteArray := prog_1_method_68_code
def yX0_status : MethodName := ⟨RX0, "status", "(I)I"⟩
def dkwX0_status_6 : List UInt8 := [2, 172]
abbrev dktX0_status_6 : List UInt8 := dkwX0_status_6 ++ []
def dkwX0_status_5 : List UInt8 := [20, 0, 198, 20, 1, 173, 184, 0, 125, 153, 0, 15, 42, 180, 0, 63, 27, 16, 10, 100, 46, 167, 0, 4]
abbrev dktX0_status_5 : List UInt8 := dkwX0_status_5 ++ dktX0_status_6
def dkwX0_status_4 : List UInt8 := [180, 0, 211, 100, 172, 42, 180, 0, 88, 180, 1, 147, 172, 42, 180, 0, 70, 180, 1, 150, 172, 27, 133]
abbrev dktX0_status_4 : List UInt8 := dkwX0_status_4 ++ dktX0_status_5
def dkwX0_status_3 : List UInt8 := [42, 180, 0, 88, 180, 0, 227, 172, 42, 180, 0, 88, 182, 1, 116, 172, 16, 24, 42, 180, 0, 88]
abbrev dktX0_status_3 : List UInt8 := dkwX0_status_3 ++ dktX0_status_4
def dkwX0_status_2 : List UInt8 := [42, 180, 0, 88, 180, 0, 211, 172, 42, 180, 0, 88, 180, 0, 200, 172, 42, 180, 0, 88, 180, 1, 125, 172]
abbrev dktX0_status_2 : List UInt8 := dkwX0_status_2 ++ dktX0_status_3
def dkwX0_status_1 : List UInt8 := [170, 0, 0, 0, 0, 0, 114, 0, 0, 0, 0, 0, 0, 0, 7, 0, 0, 0, 47, 0, 0, 0, 55, 0, 0, 0, 63, 0, 0, 0, 71, 0, 0, 0, 79, 0, 0, 0, 87, 0, 0, 0, 98, 0, 0, 0, 106]
abbrev dktX0_status_1 : List UInt8 := dkwX0_status_1 ++ dktX0_status_2
def dkwX0_status_0 : List UInt8 := [27]
abbrev dktX0_status_0 : List UInt8 := dkwX0_status_0 ++ dktX0_status_1
theorem dksX0_status_0 : cX0_status.data.toList.drop 0 = dktX0_status_0 := by decide +kernel
theorem dksX0_status_1 : cX0_status.data.toList.drop 1 = dktX0_status_1 := dk_seg dksX0_status_0 1 rfl rfl
theorem dksX0_status_2 : cX0_status.data.toList.drop 48 = dktX0_status_2 := dk_seg dksX0_status_1 47 rfl rfl
theorem dksX0_status_3 : cX0_status.data.toList.drop 72 = dktX0_status_3 := dk_seg dksX0_status_2 24 rfl rfl
theorem dksX0_status_4 : cX0_status.data.toList.drop 94 = dktX0_status_4 := dk_seg dksX0_status_3 22 rfl rfl
theorem dksX0_status_5 : cX0_status.data.toList.drop 117 = dktX0_status_5 := dk_seg dksX0_status_4 23 rfl rfl
theorem dksX0_status_6 : cX0_status.data.toList.drop 141 = dktX0_status_6 := dk_seg dksX0_status_5 24 rfl rfl
theorem dX0_status_0 : decode cX0_status 0 = .ok (.iload_n 1, 1) := dk_27 (dk_at dksX0_status_0 0 rfl rfl)
theorem dX0_status_1 : decode cX0_status 1 = .ok (.tableswitch 114 0 7 #[47, 55, 63, 71, 79, 87, 98, 106], 47) := by decide +kernel
theorem dX0_status_48 : decode cX0_status 48 = .ok (.aload_n 0, 1) := dk_42 (dk_at dksX0_status_2 0 rfl rfl)
theorem dX0_status_49 : decode cX0_status 49 = .ok (.getfield 88, 3) := dk_180 0 88 (dk_at dksX0_status_2 1 rfl rfl)
theorem dX0_status_52 : decode cX0_status 52 = .ok (.getfield 211, 3) := dk_180 0 211 (dk_at dksX0_status_2 4 rfl rfl)
theorem dX0_status_55 : decode cX0_status 55 = .ok (.ireturn, 1) := dk_172 (dk_at dksX0_status_2 7 rfl rfl)
theorem dX0_status_56 : decode cX0_status 56 = .ok (.aload_n 0, 1) := dk_42 (dk_at dksX0_status_2 8 rfl rfl)
theorem dX0_status_57 : decode cX0_status 57 = .ok (.getfield 88, 3) := dk_180 0 88 (dk_at dksX0_status_2 9 rfl rfl)
theorem dX0_status_60 : decode cX0_status 60 = .ok (.getfield 200, 3) := dk_180 0 200 (dk_at dksX0_status_2 12 rfl rfl)
theorem dX0_status_63 : decode cX0_status 63 = .ok (.ireturn, 1) := dk_172 (dk_at dksX0_status_2 15 rfl rfl)
theorem dX0_status_64 : decode cX0_status 64 = .ok (.aload_n 0, 1) := dk_42 (dk_at dksX0_status_2 16 rfl rfl)
theorem dX0_status_65 : decode cX0_status 65 = .ok (.getfield 88, 3) := dk_180 0 88 (dk_at dksX0_status_2 17 rfl rfl)
theorem dX0_status_68 : decode cX0_status 68 = .ok (.getfield 381, 3) := dk_180 1 125 (dk_at dksX0_status_2 20 rfl rfl)
theorem dX0_status_71 : decode cX0_status 71 = .ok (.ireturn, 1) := dk_172 (dk_at dksX0_status_2 23 rfl rfl)
theorem dX0_status_72 : decode cX0_status 72 = .ok (.aload_n 0, 1) := dk_42 (dk_at dksX0_status_3 0 rfl rfl)
theorem dX0_status_73 : decode cX0_status 73 = .ok (.getfield 88, 3) := dk_180 0 88 (dk_at dksX0_status_3 1 rfl rfl)
theorem dX0_status_76 : decode cX0_status 76 = .ok (.getfield 227, 3) := dk_180 0 227 (dk_at dksX0_status_3 4 rfl rfl)
theorem dX0_status_79 : decode cX0_status 79 = .ok (.ireturn, 1) := dk_172 (dk_at dksX0_status_3 7 rfl rfl)
theorem dX0_status_80 : decode cX0_status 80 = .ok (.aload_n 0, 1) := dk_42 (dk_at dksX0_status_3 8 rfl rfl)
theorem dX0_status_81 : decode cX0_status 81 = .ok (.getfield 88, 3) := dk_180 0 88 (dk_at dksX0_status_3 9 rfl rfl)
theorem dX0_status_84 : decode cX0_status 84 = .ok (.invokevirtual 372, 3) := dk_182 1 116 (dk_at dksX0_status_3 12 rfl rfl)
theorem dX0_status_87 : decode cX0_status 87 = .ok (.ireturn, 1) := dk_172 (dk_at dksX0_status_3 15 rfl rfl)
theorem dX0_status_88 : decode cX0_status 88 = .ok (.bipush 24, 2) := dk_16 24 (dk_at dksX0_status_3 16 rfl rfl)
theorem dX0_status_90 : decode cX0_status 90 = .ok (.aload_n 0, 1) := dk_42 (dk_at dksX0_status_3 18 rfl rfl)
theorem dX0_status_91 : decode cX0_status 91 = .ok (.getfield 88, 3) := dk_180 0 88 (dk_at dksX0_status_3 19 rfl rfl)
theorem dX0_status_94 : decode cX0_status 94 = .ok (.getfield 211, 3) := dk_180 0 211 (dk_at dksX0_status_4 0 rfl rfl)
theorem dX0_status_97 : decode cX0_status 97 = .ok (.isub, 1) := dk_100 (dk_at dksX0_status_4 3 rfl rfl)
theorem dX0_status_98 : decode cX0_status 98 = .ok (.ireturn, 1) := dk_172 (dk_at dksX0_status_4 4 rfl rfl)
theorem dX0_status_99 : decode cX0_status 99 = .ok (.aload_n 0, 1) := dk_42 (dk_at dksX0_status_4 5 rfl rfl)
theorem dX0_status_100 : decode cX0_status 100 = .ok (.getfield 88, 3) := dk_180 0 88 (dk_at dksX0_status_4 6 rfl rfl)
theorem dX0_status_103 : decode cX0_status 103 = .ok (.getfield 403, 3) := dk_180 1 147 (dk_at dksX0_status_4 9 rfl rfl)
theorem dX0_status_106 : decode cX0_status 106 = .ok (.ireturn, 1) := dk_172 (dk_at dksX0_status_4 12 rfl rfl)
theorem dX0_status_107 : decode cX0_status 107 = .ok (.aload_n 0, 1) := dk_42 (dk_at dksX0_status_4 13 rfl rfl)
theorem dX0_status_108 : decode cX0_status 108 = .ok (.getfield 70, 3) := dk_180 0 70 (dk_at dksX0_status_4 14 rfl rfl)
theorem dX0_status_111 : decode cX0_status 111 = .ok (.getfield 406, 3) := dk_180 1 150 (dk_at dksX0_status_4 17 rfl rfl)
theorem dX0_status_114 : decode cX0_status 114 = .ok (.ireturn, 1) := dk_172 (dk_at dksX0_status_4 20 rfl rfl)
theorem dX0_status_115 : decode cX0_status 115 = .ok (.iload_n 1, 1) := dk_27 (dk_at dksX0_status_4 21 rfl rfl)
theorem dX0_status_116 : decode cX0_status 116 = .ok (.i2l, 1) := dk_133 (dk_at dksX0_status_4 22 rfl rfl)
theorem dX0_status_117 : decode cX0_status 117 = .ok (.ldc2_w 198, 3) := dk_20 0 198 (dk_at dksX0_status_5 0 rfl rfl)
theorem dX0_status_120 : decode cX0_status 120 = .ok (.ldc2_w 429, 3) := dk_20 1 173 (dk_at dksX0_status_5 3 rfl rfl)
theorem dX0_status_123 : decode cX0_status 123 = .ok (.invokestatic 125, 3) := dk_184 0 125 (dk_at dksX0_status_5 6 rfl rfl)
theorem dX0_status_126 : decode cX0_status 126 = .ok (.ifCond .eq 15, 3) := dk_153 0 15 (dk_at dksX0_status_5 9 rfl rfl)
theorem dX0_status_129 : decode cX0_status 129 = .ok (.aload_n 0, 1) := dk_42 (dk_at dksX0_status_5 12 rfl rfl)
theorem dX0_status_130 : decode cX0_status 130 = .ok (.getfield 63, 3) := dk_180 0 63 (dk_at dksX0_status_5 13 rfl rfl)
theorem dX0_status_133 : decode cX0_status 133 = .ok (.iload_n 1, 1) := dk_27 (dk_at dksX0_status_5 16 rfl rfl)
theorem dX0_status_134 : decode cX0_status 134 = .ok (.bipush 10, 2) := dk_16 10 (dk_at dksX0_status_5 17 rfl rfl)
theorem dX0_status_136 : decode cX0_status 136 = .ok (.isub, 1) := dk_100 (dk_at dksX0_status_5 19 rfl rfl)
theorem dX0_status_137 : decode cX0_status 137 = .ok (.iaload, 1) := dk_46 (dk_at dksX0_status_5 20 rfl rfl)
theorem dX0_status_138 : decode cX0_status 138 = .ok (.goto 4, 3) := dk_167 0 4 (dk_at dksX0_status_5 21 rfl rfl)
theorem dX0_status_141 : decode cX0_status 141 = .ok (.iconst (-1), 1) := dk_2 (dk_at dksX0_status_6 0 rfl rfl)
theorem dX0_status_142 : decode cX0_status 142 = .ok (.ireturn, 1) := dk_172 (dk_at dksX0_status_6 1 rfl rfl)
theorem q83 : (Jvm.Cond.initialized "WhichOneAllKnow") ∈ lw_all := lw_g (lw_at lw_m1 1 rfl) rfl
theorem q119 : (Jvm.Cond.instantiable "WhichOneAllKnow" (14 : Nat)) ∈ lw_all := lw_g (lw_at lw_m1 37 rfl) rfl
theorem q121 : (Jvm.Cond.instanceMethod ({ cls := "WhichOneAllKnow", name := "<init>", desc := "()V" } : Jvm.MethodName)) ∈ lw_all := lw_g (lw_at lw_m1 39 rfl) rfl
theorem q122 : (Jvm.Cond.code ({ cls := "WhichOneAllKnow", name := "<init>", desc := "()V" } : Jvm.MethodName) prog_1_method_5_code (2 : Nat) (Option.none : Option Jvm.ClassFile.FieldType)) ∈ lw_all := lw_g (lw_at lw_m1 40 rfl) rfl
theorem q123 : (Jvm.Cond.methodLink "WhichOneAllKnow" (50 : Nat) ({ cls := "java/lang/Object", name := "<init>", desc := "()V" } : Jvm.MethodName)) ∈ lw_all := lw_g (lw_at lw_m1 41 rfl) rfl
theorem q126 : (Jvm.Cond.classLink "WhichOneAllKnow" (57 : Nat) "WhichOneAllKnow$Shelf") ∈ lw_all := lw_g (lw_at lw_m1 44 rfl) rfl
theorem q128 : (Jvm.Cond.classLink "WhichOneAllKnow" (67 : Nat) "WhichOneAllKnow$Trace") ∈ lw_all := lw_g (lw_at lw_m1 46 rfl) rfl
theorem q130 : (Jvm.Cond.methodLink "WhichOneAllKnow" (69 : Nat) ({ cls := "WhichOneAllKnow$Trace", name := "<init>", desc := "()V" } : Jvm.MethodName)) ∈ lw_all := lw_g (lw_at lw_m1 48 rfl) rfl
theorem q135 : (Jvm.Cond.fieldLink "WhichOneAllKnow" (420 : Nat) "WhichOneAllKnow$Trace" "bodies" "[I") ∈ lw_all := lw_g (lw_at lw_m1 53 rfl) rfl
theorem q137 : (Jvm.Cond.fieldLink "WhichOneAllKnow" (406 : Nat) "WhichOneAllKnow$Trace" "many" "I") ∈ lw_all := lw_g (lw_at lw_m1 55 rfl) rfl
theorem q144 : (Jvm.Cond.classLink "WhichOneAllKnow" (74 : Nat) "WhichOneAllKnow$Church") ∈ lw_all := lw_g (lw_at lw_m1 62 rfl) rfl
theorem q146 : (Jvm.Cond.methodLink "WhichOneAllKnow" (76 : Nat) ({ cls := "WhichOneAllKnow$Church", name := "<init>", desc := "()V" } : Jvm.MethodName)) ∈ lw_all := lw_g (lw_at lw_m1 64 rfl) rfl
theorem q155 : (Jvm.Cond.fieldLink "WhichOneAllKnow" (211 : Nat) "WhichOneAllKnow$Church" "many" "I") ∈ lw_all := lw_g (lw_at lw_m1 73 rfl) rfl
theorem q158 : (Jvm.Cond.fieldLink "WhichOneAllKnow" (200 : Nat) "WhichOneAllKnow$Church" "tunes" "I") ∈ lw_all := lw_g (lw_at lw_m1 76 rfl) rfl
theorem q161 : (Jvm.Cond.fieldLink "WhichOneAllKnow" (227 : Nat) "WhichOneAllKnow$Church" "wait" "I") ∈ lw_all := lw_g (lw_at lw_m1 79 rfl) rfl
theorem q163 : (Jvm.Cond.fieldLink "WhichOneAllKnow" (381 : Nat) "WhichOneAllKnow$Church" "hymns" "I") ∈ lw_all := lw_g (lw_at lw_m1 81 rfl) rfl
theorem q165 : (Jvm.Cond.fieldLink "WhichOneAllKnow" (403 : Nat) "WhichOneAllKnow$Church" "seed" "I") ∈ lw_all := lw_g (lw_at lw_m1 83 rfl) rfl
theorem q168 : (Jvm.Cond.fieldLink "WhichOneAllKnow" (245 : Nat) "WhichOneAllKnow$Church" "high" "[I") ∈ lw_all := lw_g (lw_at lw_m1 86 rfl) rfl
theorem q171 : (Jvm.Cond.fieldLink "WhichOneAllKnow" (141 : Nat) "WhichOneAllKnow$Church" "voices" "[LWhichOneAllKnow$Voice;") ∈ lw_all := lw_g (lw_at lw_m1 89 rfl) rfl
theorem q175 : (Jvm.Cond.fieldLink "WhichOneAllKnow" (224 : Nat) "WhichOneAllKnow$Church" "place" "[I") ∈ lw_all := lw_g (lw_at lw_m1 93 rfl) rfl
theorem q178 : (Jvm.Cond.fieldLink "WhichOneAllKnow" (221 : Nat) "WhichOneAllKnow$Church" "knows" "[I") ∈ lw_all := lw_g (lw_at lw_m1 96 rfl) rfl
theorem q198 : (Jvm.Cond.classLink "WhichOneAllKnow" (81 : Nat) "WhichOneAllKnow$Hymn") ∈ lw_all := lw_g (lw_at lw_m1 116 rfl) rfl
theorem q200 : (Jvm.Cond.methodLink "WhichOneAllKnow" (83 : Nat) ({ cls := "WhichOneAllKnow$Hymn", name := "<init>", desc := "()V" } : Jvm.MethodName)) ∈ lw_all := lw_g (lw_at lw_m1 118 rfl) rfl
theorem q205 : (Jvm.Cond.fieldLink "WhichOneAllKnow" (272 : Nat) "WhichOneAllKnow$Hymn" "right" "[I") ∈ lw_all := lw_g (lw_at lw_m1 123 rfl) rfl
theorem q207 : (Jvm.Cond.fieldLink "WhichOneAllKnow" (275 : Nat) "WhichOneAllKnow$Hymn" "wrong" "[I") ∈ lw_all := lw_g (lw_at lw_m1 125 rfl) rfl
theorem q209 : (Jvm.Cond.fieldLink "WhichOneAllKnow" (278 : Nat) "WhichOneAllKnow$Hymn" "miming" "[I") ∈ lw_all := lw_g (lw_at lw_m1 127 rfl) rfl
theorem q232 : (Jvm.Cond.methodLink "WhichOneAllKnow" (98 : Nat) ({ cls := "WhichOneAllKnow", name := "voiceOfKind", desc := "(IIIII)LWhichOneAllKnow$Voice;" } : Jvm.MethodName)) ∈ lw_all := lw_g (lw_at lw_m1 150 rfl) rfl
theorem q233 : (Jvm.Cond.static ({ cls := "WhichOneAllKnow", name := "voiceOfKind", desc := "(IIIII)LWhichOneAllKnow$Voice;" } : Jvm.MethodName)) ∈ lw_all := lw_g (lw_at lw_m1 151 rfl) rfl
theorem q234 : (Jvm.Cond.code ({ cls := "WhichOneAllKnow", name := "voiceOfKind", desc := "(IIIII)LWhichOneAllKnow$Voice;" } : Jvm.MethodName) prog_1_method_4_code (5 : Nat) (Option.some (Jvm.ClassFile.FieldType.object "WhichOneAllKnow$Voice"))) ∈ lw_all := lw_g (lw_at lw_m1 152 rfl) rfl
theorem q235 : (Jvm.Cond.classLink "WhichOneAllKnow" (27 : Nat) "WhichOneAllKnow$Leading") ∈ lw_all := lw_g (lw_at lw_m1 153 rfl) rfl
theorem q237 : (Jvm.Cond.methodLink "WhichOneAllKnow" (29 : Nat) ({ cls := "WhichOneAllKnow$Leading", name := "<init>", desc := "(IIII)V" } : Jvm.MethodName)) ∈ lw_all := lw_g (lw_at lw_m1 155 rfl) rfl
theorem q251 : (Jvm.Cond.fieldLink "WhichOneAllKnow" (138 : Nat) "WhichOneAllKnow$Voice" "index" "I") ∈ lw_all := lw_g (lw_at lw_m1 169 rfl) rfl
theorem q262 : (Jvm.Cond.fieldLink "WhichOneAllKnow" (236 : Nat) "WhichOneAllKnow$Voice" "by" "I") ∈ lw_all := lw_g (lw_at lw_m1 180 rfl) rfl
theorem q264 : (Jvm.Cond.fieldLink "WhichOneAllKnow" (239 : Nat) "WhichOneAllKnow$Voice" "bold" "I") ∈ lw_all := lw_g (lw_at lw_m1 182 rfl) rfl
theorem q271 : (Jvm.Cond.fieldLink "WhichOneAllKnow" (242 : Nat) "WhichOneAllKnow$Voice" "top" "I") ∈ lw_all := lw_g (lw_at lw_m1 189 rfl) rfl
theorem q281 : (Jvm.Cond.classLink "WhichOneAllKnow" (32 : Nat) "WhichOneAllKnow$Joining") ∈ lw_all := lw_g (lw_at lw_m1 199 rfl) rfl
theorem q283 : (Jvm.Cond.methodLink "WhichOneAllKnow" (34 : Nat) ({ cls := "WhichOneAllKnow$Joining", name := "<init>", desc := "(IIII)V" } : Jvm.MethodName)) ∈ lw_all := lw_g (lw_at lw_m1 201 rfl) rfl
theorem q292 : (Jvm.Cond.classLink "WhichOneAllKnow" (35 : Nat) "WhichOneAllKnow$Boomer") ∈ lw_all := lw_g (lw_at lw_m1 210 rfl) rfl
theorem q294 : (Jvm.Cond.methodLink "WhichOneAllKnow" (37 : Nat) ({ cls := "WhichOneAllKnow$Boomer", name := "<init>", desc := "(IIII)V" } : Jvm.MethodName)) ∈ lw_all := lw_g (lw_at lw_m1 212 rfl) rfl
theorem q303 : (Jvm.Cond.classLink "WhichOneAllKnow" (38 : Nat) "WhichOneAllKnow$Astray") ∈ lw_all := lw_g (lw_at lw_m1 221 rfl) rfl
theorem q305 : (Jvm.Cond.methodLink "WhichOneAllKnow" (40 : Nat) ({ cls := "WhichOneAllKnow$Astray", name := "<init>", desc := "(IIII)V" } : Jvm.MethodName)) ∈ lw_all := lw_g (lw_at lw_m1 223 rfl) rfl
theorem q314 : (Jvm.Cond.classLink "WhichOneAllKnow" (41 : Nat) "WhichOneAllKnow$Mime") ∈ lw_all := lw_g (lw_at lw_m1 232 rfl) rfl
theorem q316 : (Jvm.Cond.methodLink "WhichOneAllKnow" (43 : Nat) ({ cls := "WhichOneAllKnow$Mime", name := "<init>", desc := "(IIII)V" } : Jvm.MethodName)) ∈ lw_all := lw_g (lw_at lw_m1 234 rfl) rfl
theorem q325 : (Jvm.Cond.classLink "WhichOneAllKnow" (44 : Nat) "WhichOneAllKnow$Dragger") ∈ lw_all := lw_g (lw_at lw_m2 3 rfl) rfl
theorem q327 : (Jvm.Cond.methodLink "WhichOneAllKnow" (46 : Nat) ({ cls := "WhichOneAllKnow$Dragger", name := "<init>", desc := "(IIII)V" } : Jvm.MethodName)) ∈ lw_all := lw_g (lw_at lw_m2 5 rfl) rfl
theorem q336 : (Jvm.Cond.classLink "WhichOneAllKnow" (47 : Nat) "WhichOneAllKnow$Voice") ∈ lw_all := lw_g (lw_at lw_m2 14 rfl) rfl
theorem q338 : (Jvm.Cond.methodLink "WhichOneAllKnow" (49 : Nat) ({ cls := "WhichOneAllKnow$Voice", name := "<init>", desc := "(IIII)V" } : Jvm.MethodName)) ∈ lw_all := lw_g (lw_at lw_m2 16 rfl) rfl
theorem q345 : (Jvm.Cond.methodLink "WhichOneAllKnow" (106 : Nat) ({ cls := "WhichOneAllKnow$Shelf", name := "<init>", desc := "()V" } : Jvm.MethodName)) ∈ lw_all := lw_g (lw_at lw_m2 23 rfl) rfl
theorem q350 : (Jvm.Cond.fieldLink "WhichOneAllKnow" (135 : Nat) "WhichOneAllKnow$Shelf" "held" "Ljava/lang/Object;") ∈ lw_all := lw_g (lw_at lw_m2 28 rfl) rfl
theorem q354 : (Jvm.Cond.fieldLink "WhichOneAllKnow" (59 : Nat) "WhichOneAllKnow" "shelves" "[LWhichOneAllKnow$Shelf;") ∈ lw_all := lw_g (lw_at lw_m2 32 rfl) rfl
theorem q355 : (Jvm.Cond.fieldLink "WhichOneAllKnow" (63 : Nat) "WhichOneAllKnow" "refusals" "[I") ∈ lw_all := lw_g (lw_at lw_m2 33 rfl) rfl
theorem q356 : (Jvm.Cond.fieldLink "WhichOneAllKnow" (70 : Nat) "WhichOneAllKnow" "ran" "LWhichOneAllKnow$Trace;") ∈ lw_all := lw_g (lw_at lw_m2 34 rfl) rfl
theorem q357 : (Jvm.Cond.fieldLink "WhichOneAllKnow" (77 : Nat) "WhichOneAllKnow" "tried" "LWhichOneAllKnow$Church;") ∈ lw_all := lw_g (lw_at lw_m2 35 rfl) rfl
theorem q358 : (Jvm.Cond.fieldLink "WhichOneAllKnow" (84 : Nat) "WhichOneAllKnow" "hymn" "LWhichOneAllKnow$Hymn;") ∈ lw_all := lw_g (lw_at lw_m2 36 rfl) rfl
theorem q359 : (Jvm.Cond.fieldLink "WhichOneAllKnow" (88 : Nat) "WhichOneAllKnow" "w" "LWhichOneAllKnow$Church;") ∈ lw_all := lw_g (lw_at lw_m2 37 rfl) rfl
theorem q360 : (Jvm.Cond.fieldLink "WhichOneAllKnow" (423 : Nat) "WhichOneAllKnow" "imaged" "LWhichOneAllKnow$Church;") ∈ lw_all := lw_g (lw_at lw_m2 38 rfl) rfl
theorem q361 : (Jvm.Cond.fieldLink "WhichOneAllKnow" (91 : Nat) "WhichOneAllKnow" "latestFault" "I") ∈ lw_all := lw_g (lw_at lw_m2 39 rfl) rfl
theorem q362 : (Jvm.Cond.fieldLink "WhichOneAllKnow" (95 : Nat) "WhichOneAllKnow" "sings" "[I") ∈ lw_all := lw_g (lw_at lw_m2 40 rfl) rfl
theorem q363 : (Jvm.Cond.fieldLink "WhichOneAllKnow" (102 : Nat) "WhichOneAllKnow" "leader" "LWhichOneAllKnow$Voice;") ∈ lw_all := lw_g (lw_at lw_m2 41 rfl) rfl
theorem q364 : (Jvm.Cond.fieldLink "WhichOneAllKnow" (320 : Nat) "WhichOneAllKnow" "leadersFirst" "I") ∈ lw_all := lw_g (lw_at lw_m2 42 rfl) rfl
theorem q365 : (Jvm.Cond.fieldLink "WhichOneAllKnow" (323 : Nat) "WhichOneAllKnow" "leadersSecond" "I") ∈ lw_all := lw_g (lw_at lw_m2 43 rfl) rfl
theorem q366 : (Jvm.Cond.fieldLink "WhichOneAllKnow" (384 : Nat) "WhichOneAllKnow" "caught" "I") ∈ lw_all := lw_g (lw_at lw_m2 44 rfl) rfl
theorem q367 : (Jvm.Cond.fieldLink "WhichOneAllKnow" (387 : Nat) "WhichOneAllKnow" "sangRight" "I") ∈ lw_all := lw_g (lw_at lw_m2 45 rfl) rfl
theorem q368 : (Jvm.Cond.laysFinal "WhichOneAllKnow" "WhichOneAllKnow" "shelves" "[LWhichOneAllKnow$Shelf;") ∈ lw_all := lw_g (lw_at lw_m2 46 rfl) rfl
theorem q369 : (Jvm.Cond.soleField "WhichOneAllKnow" "shelves") ∈ lw_all := lw_g (lw_at lw_m2 47 rfl) rfl
theorem q370 : (Jvm.Cond.laysFinal "WhichOneAllKnow" "WhichOneAllKnow" "refusals" "[I") ∈ lw_all := lw_g (lw_at lw_m2 48 rfl) rfl
theorem q371 : (Jvm.Cond.soleField "WhichOneAllKnow" "refusals") ∈ lw_all := lw_g (lw_at lw_m2 49 rfl) rfl
theorem q372 : (Jvm.Cond.laysFinal "WhichOneAllKnow" "WhichOneAllKnow" "ran" "LWhichOneAllKnow$Trace;") ∈ lw_all := lw_g (lw_at lw_m2 50 rfl) rfl
theorem q373 : (Jvm.Cond.soleField "WhichOneAllKnow" "ran") ∈ lw_all := lw_g (lw_at lw_m2 51 rfl) rfl
theorem q374 : (Jvm.Cond.laysFinal "WhichOneAllKnow" "WhichOneAllKnow" "tried" "LWhichOneAllKnow$Church;") ∈ lw_all := lw_g (lw_at lw_m2 52 rfl) rfl
theorem q375 : (Jvm.Cond.soleField "WhichOneAllKnow" "tried") ∈ lw_all := lw_g (lw_at lw_m2 53 rfl) rfl
theorem q376 : (Jvm.Cond.laysFinal "WhichOneAllKnow" "WhichOneAllKnow" "hymn" "LWhichOneAllKnow$Hymn;") ∈ lw_all := lw_g (lw_at lw_m2 54 rfl) rfl
theorem q377 : (Jvm.Cond.soleField "WhichOneAllKnow" "hymn") ∈ lw_all := lw_g (lw_at lw_m2 55 rfl) rfl
theorem q378 : (Jvm.Cond.lays "WhichOneAllKnow" "WhichOneAllKnow" "w" "LWhichOneAllKnow$Church;") ∈ lw_all := lw_g (lw_at lw_m2 56 rfl) rfl
theorem q379 : (Jvm.Cond.soleField "WhichOneAllKnow" "w") ∈ lw_all := lw_g (lw_at lw_m2 57 rfl) rfl
theorem q380 : (Jvm.Cond.lays "WhichOneAllKnow" "WhichOneAllKnow" "imaged" "LWhichOneAllKnow$Church;") ∈ lw_all := lw_g (lw_at lw_m2 58 rfl) rfl
theorem q381 : (Jvm.Cond.soleField "WhichOneAllKnow" "imaged") ∈ lw_all := lw_g (lw_at lw_m2 59 rfl) rfl
theorem q382 : (Jvm.Cond.lays "WhichOneAllKnow" "WhichOneAllKnow" "latestFault" "I") ∈ lw_all := lw_g (lw_at lw_m2 60 rfl) rfl
theorem q383 : (Jvm.Cond.soleField "WhichOneAllKnow" "latestFault") ∈ lw_all := lw_g (lw_at lw_m2 61 rfl) rfl
theorem q384 : (Jvm.Cond.laysFinal "WhichOneAllKnow" "WhichOneAllKnow" "sings" "[I") ∈ lw_all := lw_g (lw_at lw_m2 62 rfl) rfl
theorem q385 : (Jvm.Cond.soleField "WhichOneAllKnow" "sings") ∈ lw_all := lw_g (lw_at lw_m2 63 rfl) rfl
theorem q386 : (Jvm.Cond.laysFinal "WhichOneAllKnow" "WhichOneAllKnow" "leader" "LWhichOneAllKnow$Voice;") ∈ lw_all := lw_g (lw_at lw_m2 64 rfl) rfl
theorem q387 : (Jvm.Cond.soleField "WhichOneAllKnow" "leader") ∈ lw_all := lw_g (lw_at lw_m2 65 rfl) rfl
theorem q388 : (Jvm.Cond.lays "WhichOneAllKnow" "WhichOneAllKnow" "leadersFirst" "I") ∈ lw_all := lw_g (lw_at lw_m2 66 rfl) rfl
theorem q389 : (Jvm.Cond.soleField "WhichOneAllKnow" "leadersFirst") ∈ lw_all := lw_g (lw_at lw_m2 67 rfl) rfl
theorem q390 : (Jvm.Cond.lays "WhichOneAllKnow" "WhichOneAllKnow" "leadersSecond" "I") ∈ lw_all := lw_g (lw_at lw_m2 68 rfl) rfl
theorem q391 : (Jvm.Cond.soleField "WhichOneAllKnow" "leadersSecond") ∈ lw_all := lw_g (lw_at lw_m2 69 rfl) rfl
theorem q392 : (Jvm.Cond.lays "WhichOneAllKnow" "WhichOneAllKnow" "caught" "I") ∈ lw_all := lw_g (lw_at lw_m2 70 rfl) rfl
theorem q393 : (Jvm.Cond.soleField "WhichOneAllKnow" "caught") ∈ lw_all := lw_g (lw_at lw_m2 71 rfl) rfl
theorem q394 : (Jvm.Cond.lays "WhichOneAllKnow" "WhichOneAllKnow" "sangRight" "I") ∈ lw_all := lw_g (lw_at lw_m2 72 rfl) rfl
theorem q395 : (Jvm.Cond.soleField "WhichOneAllKnow" "sangRight") ∈ lw_all := lw_g (lw_at lw_m2 73 rfl) rfl
theorem q396 : (Jvm.Cond.superclass "WhichOneAllKnow" "java/lang/Object") ∈ lw_all := lw_g (lw_at lw_m2 74 rfl) rfl
theorem q398 : (Jvm.Cond.instanceMethod ({ cls := "WhichOneAllKnow", name := "row", desc := "(III)I" } : Jvm.MethodName)) ∈ lw_all := lw_g (lw_at lw_m2 76 rfl) rfl
theorem q399 : (Jvm.Cond.selects "WhichOneAllKnow" ({ cls := "WhichOneAllKnow", name := "row", desc := "(III)I" } : Jvm.MethodName) ({ cls := "WhichOneAllKnow", name := "row", desc := "(III)I" } : Jvm.MethodName)) ∈ lw_all := lw_g (lw_at lw_m2 77 rfl) rfl
theorem q400 : (Jvm.Cond.codeWith ({ cls := "WhichOneAllKnow", name := "row", desc := "(III)I" } : Jvm.MethodName) prog_1_method_14_code (5 : Nat) (Option.some Jvm.ClassFile.FieldType.int) [((0 : Nat), (63 : Nat), (64 : Nat), (21 : Nat))]) ∈ lw_all := lw_g (lw_at lw_m2 78 rfl) rfl
theorem q401 : (Jvm.Cond.classLink "WhichOneAllKnow" (21 : Nat) "WhichOneAllKnow$Refused") ∈ lw_all := lw_g (lw_at lw_m2 79 rfl) rfl
theorem q402 : (Jvm.Cond.methodLink "WhichOneAllKnow" (159 : Nat) ({ cls := "WhichOneAllKnow", name := "shelf", desc := "(I)LWhichOneAllKnow$Shelf;" } : Jvm.MethodName)) ∈ lw_all := lw_g (lw_at lw_m2 80 rfl) rfl
theorem q403 : (Jvm.Cond.privateMethod ({ cls := "WhichOneAllKnow", name := "shelf", desc := "(I)LWhichOneAllKnow$Shelf;" } : Jvm.MethodName)) ∈ lw_tbl := lw_at lw_m2 81 rfl
theorem q404 : (Jvm.Cond.instanceMethod ({ cls := "WhichOneAllKnow", name := "shelf", desc := "(I)LWhichOneAllKnow$Shelf;" } : Jvm.MethodName)) ∈ lw_all := lw_g (lw_at lw_m2 82 rfl) rfl
theorem q405 : (Jvm.Cond.codeWith ({ cls := "WhichOneAllKnow", name := "shelf", desc := "(I)LWhichOneAllKnow$Shelf;" } : Jvm.MethodName) prog_1_method_8_code (3 : Nat) (Option.some (Jvm.ClassFile.FieldType.object "WhichOneAllKnow$Shelf")) [((0 : Nat), (6 : Nat), (7 : Nat), (110 : Nat))]) ∈ lw_all := lw_g (lw_at lw_m2 83 rfl) rfl
theorem q406 : (Jvm.Cond.classLink "WhichOneAllKnow" (110 : Nat) "java/lang/ArrayIndexOutOfBoundsException") ∈ lw_all := lw_g (lw_at lw_m2 84 rfl) rfl
theorem q492 : (Jvm.Cond.methodLink "WhichOneAllKnow" (23 : Nat) ({ cls := "WhichOneAllKnow$Refused", name := "<init>", desc := "(I)V" } : Jvm.MethodName)) ∈ lw_all := lw_g (lw_at lw_m2 170 rfl) rfl
theorem q502 : (Jvm.Cond.fieldLink "WhichOneAllKnow" (107 : Nat) "WhichOneAllKnow$Refused" "why" "I") ∈ lw_all := lw_g (lw_at lw_m2 180 rfl) rfl
theorem q507 : (Jvm.Cond.methodLink "WhichOneAllKnow" (116 : Nat) ({ cls := "WhichOneAllKnow", name := "need", desc := "(ZI)V" } : Jvm.MethodName)) ∈ lw_all := lw_g (lw_at lw_m2 185 rfl) rfl
theorem q508 : (Jvm.Cond.static ({ cls := "WhichOneAllKnow", name := "need", desc := "(ZI)V" } : Jvm.MethodName)) ∈ lw_all := lw_g (lw_at lw_m2 186 rfl) rfl
theorem q509 : (Jvm.Cond.code ({ cls := "WhichOneAllKnow", name := "need", desc := "(ZI)V" } : Jvm.MethodName) prog_1_method_2_code (2 : Nat) (Option.none : Option Jvm.ClassFile.FieldType)) ∈ lw_all := lw_g (lw_at lw_m2 187 rfl) rfl
theorem q510 : (Jvm.Cond.constantLong "WhichOneAllKnow" (163 : Nat) (3 : Int64)) ∈ lw_all := lw_g (lw_at lw_m2 188 rfl) rfl
theorem q511 : (Jvm.Cond.methodLink "WhichOneAllKnow" (125 : Nat) ({ cls := "WhichOneAllKnow", name := "in", desc := "(JJJ)Z" } : Jvm.MethodName)) ∈ lw_all := lw_g (lw_at lw_m2 189 rfl) rfl
theorem q512 : (Jvm.Cond.static ({ cls := "WhichOneAllKnow", name := "in", desc := "(JJJ)Z" } : Jvm.MethodName)) ∈ lw_all := lw_g (lw_at lw_m2 190 rfl) rfl
theorem q513 : (Jvm.Cond.code ({ cls := "WhichOneAllKnow", name := "in", desc := "(JJJ)Z" } : Jvm.MethodName) prog_1_method_3_code (6 : Nat) (Option.some Jvm.ClassFile.FieldType.boolean)) ∈ lw_all := lw_g (lw_at lw_m2 191 rfl) rfl
theorem q514 : (Jvm.Cond.methodLink "WhichOneAllKnow" (165 : Nat) ({ cls := "WhichOneAllKnow", name := "newRow", desc := "(II)LWhichOneAllKnow$Row;" } : Jvm.MethodName)) ∈ lw_all := lw_g (lw_at lw_m2 192 rfl) rfl
theorem q515 : (Jvm.Cond.static ({ cls := "WhichOneAllKnow", name := "newRow", desc := "(II)LWhichOneAllKnow$Row;" } : Jvm.MethodName)) ∈ lw_all := lw_g (lw_at lw_m2 193 rfl) rfl
theorem q516 : (Jvm.Cond.codeWith ({ cls := "WhichOneAllKnow", name := "newRow", desc := "(II)LWhichOneAllKnow$Row;" } : Jvm.MethodName) prog_1_method_13_code (3 : Nat) (Option.some (Jvm.ClassFile.FieldType.object "WhichOneAllKnow$Row")) [((0 : Nat), (40 : Nat), (78 : Nat), (157 : Nat)), ((41 : Nat), (49 : Nat), (78 : Nat), (157 : Nat)), ((50 : Nat), (58 : Nat), (78 : Nat), (157 : Nat)), ((59 : Nat), (67 : Nat), (78 : Nat), (157 : Nat)), ((68 : Nat), (78 : Nat), (78 : Nat), (157 : Nat))]) ∈ lw_all := lw_g (lw_at lw_m2 194 rfl) rfl
theorem q517 : (Jvm.Cond.classLink "WhichOneAllKnow" (157 : Nat) "java/lang/NegativeArraySizeException") ∈ lw_all := lw_g (lw_at lw_m2 195 rfl) rfl
theorem q531 : (Jvm.Cond.classLink "WhichOneAllKnow" (145 : Nat) "WhichOneAllKnow$Bytes") ∈ lw_all := lw_g (lw_at lw_m2 209 rfl) rfl
theorem q533 : (Jvm.Cond.methodLink "WhichOneAllKnow" (147 : Nat) ({ cls := "WhichOneAllKnow$Bytes", name := "<init>", desc := "(I)V" } : Jvm.MethodName)) ∈ lw_all := lw_g (lw_at lw_m2 211 rfl) rfl
theorem q544 : (Jvm.Cond.classLink "WhichOneAllKnow" (148 : Nat) "WhichOneAllKnow$Shorts") ∈ lw_all := lw_g (lw_at lw_m2 222 rfl) rfl
theorem q546 : (Jvm.Cond.methodLink "WhichOneAllKnow" (150 : Nat) ({ cls := "WhichOneAllKnow$Shorts", name := "<init>", desc := "(I)V" } : Jvm.MethodName)) ∈ lw_all := lw_g (lw_at lw_m2 224 rfl) rfl
theorem q555 : (Jvm.Cond.classLink "WhichOneAllKnow" (151 : Nat) "WhichOneAllKnow$Ints") ∈ lw_all := lw_g (lw_at lw_m2 233 rfl) rfl
theorem q557 : (Jvm.Cond.methodLink "WhichOneAllKnow" (153 : Nat) ({ cls := "WhichOneAllKnow$Ints", name := "<init>", desc := "(I)V" } : Jvm.MethodName)) ∈ lw_all := lw_g (lw_at lw_m2 235 rfl) rfl
theorem q565 : (Jvm.Cond.classLink "WhichOneAllKnow" (154 : Nat) "WhichOneAllKnow$Longs") ∈ lw_all := lw_g (lw_at lw_m3 3 rfl) rfl
theorem q567 : (Jvm.Cond.methodLink "WhichOneAllKnow" (156 : Nat) ({ cls := "WhichOneAllKnow$Longs", name := "<init>", desc := "(I)V" } : Jvm.MethodName)) ∈ lw_all := lw_g (lw_at lw_m3 5 rfl) rfl
theorem q576 : (Jvm.Cond.methodLink "WhichOneAllKnow" (169 : Nat) ({ cls := "WhichOneAllKnow", name := "refused", desc := "(LWhichOneAllKnow$Refused;)I" } : Jvm.MethodName)) ∈ lw_all := lw_g (lw_at lw_m3 14 rfl) rfl
theorem q577 : (Jvm.Cond.privateMethod ({ cls := "WhichOneAllKnow", name := "refused", desc := "(LWhichOneAllKnow$Refused;)I" } : Jvm.MethodName)) ∈ lw_tbl := lw_at lw_m3 15 rfl
theorem q578 : (Jvm.Cond.instanceMethod ({ cls := "WhichOneAllKnow", name := "refused", desc := "(LWhichOneAllKnow$Refused;)I" } : Jvm.MethodName)) ∈ lw_all := lw_g (lw_at lw_m3 16 rfl) rfl
theorem q579 : (Jvm.Cond.code ({ cls := "WhichOneAllKnow", name := "refused", desc := "(LWhichOneAllKnow$Refused;)I" } : Jvm.MethodName) prog_1_method_6_code (2 : Nat) (Option.some Jvm.ClassFile.FieldType.int)) ∈ lw_all := lw_g (lw_at lw_m3 17 rfl) rfl
theorem q581 : (Jvm.Cond.instanceMethod ({ cls := "WhichOneAllKnow", name := "set", desc := "(IIJ)I" } : Jvm.MethodName)) ∈ lw_all := lw_g (lw_at lw_m3 19 rfl) rfl
theorem q582 : (Jvm.Cond.selects "WhichOneAllKnow" ({ cls := "WhichOneAllKnow", name := "set", desc := "(IIJ)I" } : Jvm.MethodName) ({ cls := "WhichOneAllKnow", name := "set", desc := "(IIJ)I" } : Jvm.MethodName)) ∈ lw_all := lw_g (lw_at lw_m3 20 rfl) rfl
theorem q583 : (Jvm.Cond.codeWith ({ cls := "WhichOneAllKnow", name := "set", desc := "(IIJ)I" } : Jvm.MethodName) prog_1_method_15_code (7 : Nat) (Option.some Jvm.ClassFile.FieldType.int) [((10 : Nat), (17 : Nat), (20 : Nat), (110 : Nat)), ((0 : Nat), (33 : Nat), (34 : Nat), (21 : Nat))]) ∈ lw_all := lw_g (lw_at lw_m3 21 rfl) rfl
theorem q584 : (Jvm.Cond.methodLink "WhichOneAllKnow" (173 : Nat) ({ cls := "WhichOneAllKnow$Shelf", name := "row", desc := "()LWhichOneAllKnow$Row;" } : Jvm.MethodName)) ∈ lw_all := lw_g (lw_at lw_m3 22 rfl) rfl
theorem q606 : (Jvm.Cond.methodLink "WhichOneAllKnow" (176 : Nat) ({ cls := "WhichOneAllKnow$Row", name := "put", desc := "(IJ)V" } : Jvm.MethodName)) ∈ lw_all := lw_g (lw_at lw_m3 44 rfl) rfl
theorem q622 : (Jvm.Cond.instanceMethod ({ cls := "WhichOneAllKnow", name := "copy", desc := "(IIIII)I" } : Jvm.MethodName)) ∈ lw_all := lw_g (lw_at lw_m3 60 rfl) rfl
theorem q623 : (Jvm.Cond.selects "WhichOneAllKnow" ({ cls := "WhichOneAllKnow", name := "copy", desc := "(IIIII)I" } : Jvm.MethodName) ({ cls := "WhichOneAllKnow", name := "copy", desc := "(IIIII)I" } : Jvm.MethodName)) ∈ lw_all := lw_g (lw_at lw_m3 61 rfl) rfl
theorem q624 : (Jvm.Cond.codeWith ({ cls := "WhichOneAllKnow", name := "copy", desc := "(IIIII)I" } : Jvm.MethodName) prog_1_method_16_code (11 : Nat) (Option.some Jvm.ClassFile.FieldType.int) [((114 : Nat), (132 : Nat), (135 : Nat), (183 : Nat)), ((0 : Nat), (148 : Nat), (149 : Nat), (21 : Nat))]) ∈ lw_all := lw_g (lw_at lw_m3 62 rfl) rfl
theorem q625 : (Jvm.Cond.classLink "WhichOneAllKnow" (183 : Nat) "java/lang/IndexOutOfBoundsException") ∈ lw_all := lw_g (lw_at lw_m3 63 rfl) rfl
theorem q626 : (Jvm.Cond.methodLink "WhichOneAllKnow" (131 : Nat) ({ cls := "WhichOneAllKnow$Shelf", name := "holdsVoice", desc := "()Z" } : Jvm.MethodName)) ∈ lw_all := lw_g (lw_at lw_m3 64 rfl) rfl
theorem q631 : (Jvm.Cond.methodLink "WhichOneAllKnow" (180 : Nat) ({ cls := "WhichOneAllKnow$Row", name := "sort", desc := "()I" } : Jvm.MethodName)) ∈ lw_all := lw_g (lw_at lw_m3 69 rfl) rfl
theorem q646 : (Jvm.Cond.methodLink "WhichOneAllKnow" (7 : Nat) ({ cls := "WhichOneAllKnow$Row", name := "held", desc := "()Ljava/lang/Object;" } : Jvm.MethodName)) ∈ lw_all := lw_g (lw_at lw_m3 84 rfl) rfl
theorem q661 : (Jvm.Cond.methodLink "WhichOneAllKnow" (15 : Nat) ({ cls := "java/lang/System", name := "arraycopy", desc := "(Ljava/lang/Object;ILjava/lang/Object;II)V" } : Jvm.MethodName)) ∈ lw_all := lw_g (lw_at lw_m3 99 rfl) rfl
theorem q665 : (Jvm.Cond.instanceMethod ({ cls := "WhichOneAllKnow", name := "element", desc := "(II)J" } : Jvm.MethodName)) ∈ lw_all := lw_g (lw_at lw_m3 103 rfl) rfl
theorem q666 : (Jvm.Cond.selects "WhichOneAllKnow" ({ cls := "WhichOneAllKnow", name := "element", desc := "(II)J" } : Jvm.MethodName) ({ cls := "WhichOneAllKnow", name := "element", desc := "(II)J" } : Jvm.MethodName)) ∈ lw_all := lw_g (lw_at lw_m3 104 rfl) rfl
theorem q667 : (Jvm.Cond.codeWith ({ cls := "WhichOneAllKnow", name := "element", desc := "(II)J" } : Jvm.MethodName) prog_1_method_17_code (4 : Nat) (Option.some Jvm.ClassFile.FieldType.long) [((0 : Nat), (12 : Nat), (13 : Nat), (21 : Nat)), ((0 : Nat), (12 : Nat), (16 : Nat), (110 : Nat))]) ∈ lw_all := lw_g (lw_at lw_m3 105 rfl) rfl
theorem q668 : (Jvm.Cond.methodLink "WhichOneAllKnow" (185 : Nat) ({ cls := "WhichOneAllKnow$Row", name := "get", desc := "(I)J" } : Jvm.MethodName)) ∈ lw_all := lw_g (lw_at lw_m3 106 rfl) rfl
theorem q684 : (Jvm.Cond.instanceMethod ({ cls := "WhichOneAllKnow", name := "show", desc := "(II)I" } : Jvm.MethodName)) ∈ lw_all := lw_g (lw_at lw_m3 122 rfl) rfl
theorem q685 : (Jvm.Cond.selects "WhichOneAllKnow" ({ cls := "WhichOneAllKnow", name := "show", desc := "(II)I" } : Jvm.MethodName) ({ cls := "WhichOneAllKnow", name := "show", desc := "(II)I" } : Jvm.MethodName)) ∈ lw_all := lw_g (lw_at lw_m3 123 rfl) rfl
theorem q686 : (Jvm.Cond.codeWith ({ cls := "WhichOneAllKnow", name := "show", desc := "(II)I" } : Jvm.MethodName) prog_1_method_18_code (4 : Nat) (Option.some Jvm.ClassFile.FieldType.int) [((0 : Nat), (17 : Nat), (38 : Nat), (21 : Nat)), ((18 : Nat), (37 : Nat), (38 : Nat), (21 : Nat))]) ∈ lw_all := lw_g (lw_at lw_m3 124 rfl) rfl
theorem q687 : (Jvm.Cond.methodLink "WhichOneAllKnow" (189 : Nat) ({ cls := "WhichOneAllKnow", name := "mustVoice", desc := "(I)V" } : Jvm.MethodName)) ∈ lw_all := lw_g (lw_at lw_m3 125 rfl) rfl
theorem q688 : (Jvm.Cond.privateMethod ({ cls := "WhichOneAllKnow", name := "mustVoice", desc := "(I)V" } : Jvm.MethodName)) ∈ lw_tbl := lw_at lw_m3 126 rfl
theorem q689 : (Jvm.Cond.instanceMethod ({ cls := "WhichOneAllKnow", name := "mustVoice", desc := "(I)V" } : Jvm.MethodName)) ∈ lw_all := lw_g (lw_at lw_m3 127 rfl) rfl
theorem q690 : (Jvm.Cond.code ({ cls := "WhichOneAllKnow", name := "mustVoice", desc := "(I)V" } : Jvm.MethodName) prog_1_method_9_code (2 : Nat) (Option.none : Option Jvm.ClassFile.FieldType)) ∈ lw_all := lw_g (lw_at lw_m3 128 rfl) rfl
theorem q691 : (Jvm.Cond.methodLink "WhichOneAllKnow" (112 : Nat) ({ cls := "WhichOneAllKnow$Church", name := "isVoice", desc := "(I)Z" } : Jvm.MethodName)) ∈ lw_all := lw_g (lw_at lw_m3 129 rfl) rfl
theorem q696 : (Jvm.Cond.instanceMethod ({ cls := "WhichOneAllKnow", name := "holds", desc := "(I)I" } : Jvm.MethodName)) ∈ lw_all := lw_g (lw_at lw_m3 134 rfl) rfl
theorem q697 : (Jvm.Cond.selects "WhichOneAllKnow" ({ cls := "WhichOneAllKnow", name := "holds", desc := "(I)I" } : Jvm.MethodName) ({ cls := "WhichOneAllKnow", name := "holds", desc := "(I)I" } : Jvm.MethodName)) ∈ lw_all := lw_g (lw_at lw_m3 135 rfl) rfl
theorem q698 : (Jvm.Cond.code ({ cls := "WhichOneAllKnow", name := "holds", desc := "(I)I" } : Jvm.MethodName) prog_1_method_19_code (3 : Nat) (Option.some Jvm.ClassFile.FieldType.int)) ∈ lw_all := lw_g (lw_at lw_m3 136 rfl) rfl
theorem q699 : (Jvm.Cond.classLink "WhichOneAllKnow" (2 : Nat) "WhichOneAllKnow$Row") ∈ lw_all := lw_g (lw_at lw_m3 137 rfl) rfl
theorem q701 : (Jvm.Cond.instanceMethod ({ cls := "WhichOneAllKnow", name := "says", desc := "(II)I" } : Jvm.MethodName)) ∈ lw_all := lw_g (lw_at lw_m3 139 rfl) rfl
theorem q702 : (Jvm.Cond.selects "WhichOneAllKnow" ({ cls := "WhichOneAllKnow", name := "says", desc := "(II)I" } : Jvm.MethodName) ({ cls := "WhichOneAllKnow", name := "says", desc := "(II)I" } : Jvm.MethodName)) ∈ lw_all := lw_g (lw_at lw_m3 140 rfl) rfl
theorem q703 : (Jvm.Cond.codeWith ({ cls := "WhichOneAllKnow", name := "says", desc := "(II)I" } : Jvm.MethodName) prog_1_method_20_code (4 : Nat) (Option.some Jvm.ClassFile.FieldType.int) [((0 : Nat), (28 : Nat), (29 : Nat), (21 : Nat))]) ∈ lw_all := lw_g (lw_at lw_m3 141 rfl) rfl
theorem q704 : (Jvm.Cond.constantLong "WhichOneAllKnow" (192 : Nat) (6 : Int64)) ∈ lw_all := lw_g (lw_at lw_m3 142 rfl) rfl
theorem q705 : (Jvm.Cond.methodLink "WhichOneAllKnow" (194 : Nat) ({ cls := "WhichOneAllKnow$Shelf", name := "says", desc := "(ILWhichOneAllKnow$Church;)I" } : Jvm.MethodName)) ∈ lw_all := lw_g (lw_at lw_m3 143 rfl) rfl
theorem q726 : (Jvm.Cond.instanceMethod ({ cls := "WhichOneAllKnow", name := "tune", desc := "(I)I" } : Jvm.MethodName)) ∈ lw_all := lw_g (lw_at lw_m3 164 rfl) rfl
theorem q727 : (Jvm.Cond.selects "WhichOneAllKnow" ({ cls := "WhichOneAllKnow", name := "tune", desc := "(I)I" } : Jvm.MethodName) ({ cls := "WhichOneAllKnow", name := "tune", desc := "(I)I" } : Jvm.MethodName)) ∈ lw_all := lw_g (lw_at lw_m3 165 rfl) rfl
theorem q728 : (Jvm.Cond.codeWith ({ cls := "WhichOneAllKnow", name := "tune", desc := "(I)I" } : Jvm.MethodName) prog_1_method_21_code (3 : Nat) (Option.some Jvm.ClassFile.FieldType.int) [((0 : Nat), (53 : Nat), (54 : Nat), (21 : Nat))]) ∈ lw_all := lw_g (lw_at lw_m3 166 rfl) rfl
theorem q729 : (Jvm.Cond.constantLong "WhichOneAllKnow" (198 : Nat) (11 : Int64)) ∈ lw_all := lw_g (lw_at lw_m3 167 rfl) rfl
theorem q730 : (Jvm.Cond.methodLink "WhichOneAllKnow" (203 : Nat) ({ cls := "WhichOneAllKnow$Church", name := "addTune", desc := "(I)V" } : Jvm.MethodName)) ∈ lw_all := lw_g (lw_at lw_m3 168 rfl) rfl
theorem q735 : (Jvm.Cond.instanceMethod ({ cls := "WhichOneAllKnow", name := "voice", desc := "(IIIII)I" } : Jvm.MethodName)) ∈ lw_all := lw_g (lw_at lw_m3 173 rfl) rfl
theorem q736 : (Jvm.Cond.selects "WhichOneAllKnow" ({ cls := "WhichOneAllKnow", name := "voice", desc := "(IIIII)I" } : Jvm.MethodName) ({ cls := "WhichOneAllKnow", name := "voice", desc := "(IIIII)I" } : Jvm.MethodName)) ∈ lw_all := lw_g (lw_at lw_m3 174 rfl) rfl
theorem q737 : (Jvm.Cond.codeWith ({ cls := "WhichOneAllKnow", name := "voice", desc := "(IIIII)I" } : Jvm.MethodName) prog_1_method_22_code (7 : Nat) (Option.some Jvm.ClassFile.FieldType.int) [((0 : Nat), (127 : Nat), (128 : Nat), (21 : Nat))]) ∈ lw_all := lw_g (lw_at lw_m3 175 rfl) rfl
theorem q738 : (Jvm.Cond.constantLong "WhichOneAllKnow" (206 : Nat) (9 : Int64)) ∈ lw_all := lw_g (lw_at lw_m3 176 rfl) rfl
theorem q739 : (Jvm.Cond.methodLink "WhichOneAllKnow" (208 : Nat) ({ cls := "WhichOneAllKnow$Church", name := "isFree", desc := "(I)Z" } : Jvm.MethodName)) ∈ lw_all := lw_g (lw_at lw_m3 177 rfl) rfl
theorem q743 : (Jvm.Cond.constantLong "WhichOneAllKnow" (123 : Nat) (5 : Int64)) ∈ lw_all := lw_g (lw_at lw_m3 181 rfl) rfl
theorem q744 : (Jvm.Cond.methodLink "WhichOneAllKnow" (214 : Nat) ({ cls := "WhichOneAllKnow$Church", name := "addVoice", desc := "(LWhichOneAllKnow$Voice;I)V" } : Jvm.MethodName)) ∈ lw_all := lw_g (lw_at lw_m3 182 rfl) rfl
theorem q749 : (Jvm.Cond.instanceMethod ({ cls := "WhichOneAllKnow", name := "knows", desc := "(IIZ)I" } : Jvm.MethodName)) ∈ lw_all := lw_g (lw_at lw_m3 187 rfl) rfl
theorem q750 : (Jvm.Cond.selects "WhichOneAllKnow" ({ cls := "WhichOneAllKnow", name := "knows", desc := "(IIZ)I" } : Jvm.MethodName) ({ cls := "WhichOneAllKnow", name := "knows", desc := "(IIZ)I" } : Jvm.MethodName)) ∈ lw_all := lw_g (lw_at lw_m3 188 rfl) rfl
theorem q751 : (Jvm.Cond.codeWith ({ cls := "WhichOneAllKnow", name := "knows", desc := "(IIZ)I" } : Jvm.MethodName) prog_1_method_23_code (5 : Nat) (Option.some Jvm.ClassFile.FieldType.int) [((0 : Nat), (71 : Nat), (72 : Nat), (21 : Nat))]) ∈ lw_all := lw_g (lw_at lw_m3 189 rfl) rfl
theorem q752 : (Jvm.Cond.methodLink "WhichOneAllKnow" (218 : Nat) ({ cls := "WhichOneAllKnow", name := "mustTune", desc := "(I)V" } : Jvm.MethodName)) ∈ lw_all := lw_g (lw_at lw_m3 190 rfl) rfl
theorem q753 : (Jvm.Cond.privateMethod ({ cls := "WhichOneAllKnow", name := "mustTune", desc := "(I)V" } : Jvm.MethodName)) ∈ lw_tbl := lw_at lw_m3 191 rfl
theorem q754 : (Jvm.Cond.instanceMethod ({ cls := "WhichOneAllKnow", name := "mustTune", desc := "(I)V" } : Jvm.MethodName)) ∈ lw_all := lw_g (lw_at lw_m3 192 rfl) rfl
theorem q755 : (Jvm.Cond.code ({ cls := "WhichOneAllKnow", name := "mustTune", desc := "(I)V" } : Jvm.MethodName) prog_1_method_10_code (2 : Nat) (Option.none : Option Jvm.ClassFile.FieldType)) ∈ lw_all := lw_g (lw_at lw_m3 193 rfl) rfl
theorem q756 : (Jvm.Cond.methodLink "WhichOneAllKnow" (120 : Nat) ({ cls := "WhichOneAllKnow$Church", name := "isTune", desc := "(I)Z" } : Jvm.MethodName)) ∈ lw_all := lw_g (lw_at lw_m3 194 rfl) rfl
theorem q761 : (Jvm.Cond.instanceMethod ({ cls := "WhichOneAllKnow", name := "move", desc := "(II)I" } : Jvm.MethodName)) ∈ lw_all := lw_g (lw_at lw_m3 199 rfl) rfl
theorem q762 : (Jvm.Cond.selects "WhichOneAllKnow" ({ cls := "WhichOneAllKnow", name := "move", desc := "(II)I" } : Jvm.MethodName) ({ cls := "WhichOneAllKnow", name := "move", desc := "(II)I" } : Jvm.MethodName)) ∈ lw_all := lw_g (lw_at lw_m3 200 rfl) rfl
theorem q763 : (Jvm.Cond.codeWith ({ cls := "WhichOneAllKnow", name := "move", desc := "(II)I" } : Jvm.MethodName) prog_1_method_24_code (4 : Nat) (Option.some Jvm.ClassFile.FieldType.int) [((0 : Nat), (39 : Nat), (40 : Nat), (21 : Nat))]) ∈ lw_all := lw_g (lw_at lw_m3 201 rfl) rfl
theorem q765 : (Jvm.Cond.instanceMethod ({ cls := "WhichOneAllKnow", name := "ask", desc := "(I)I" } : Jvm.MethodName)) ∈ lw_all := lw_g (lw_at lw_m3 203 rfl) rfl
theorem q766 : (Jvm.Cond.selects "WhichOneAllKnow" ({ cls := "WhichOneAllKnow", name := "ask", desc := "(I)I" } : Jvm.MethodName) ({ cls := "WhichOneAllKnow", name := "ask", desc := "(I)I" } : Jvm.MethodName)) ∈ lw_all := lw_g (lw_at lw_m3 204 rfl) rfl
theorem q767 : (Jvm.Cond.codeWith ({ cls := "WhichOneAllKnow", name := "ask", desc := "(I)I" } : Jvm.MethodName) prog_1_method_25_code (3 : Nat) (Option.some Jvm.ClassFile.FieldType.int) [((0 : Nat), (31 : Nat), (32 : Nat), (21 : Nat))]) ∈ lw_all := lw_g (lw_at lw_m3 205 rfl) rfl
theorem q769 : (Jvm.Cond.instanceMethod ({ cls := "WhichOneAllKnow", name := "voiceOf", desc := "(II)I" } : Jvm.MethodName)) ∈ lw_all := lw_g (lw_at lw_m3 207 rfl) rfl
theorem q770 : (Jvm.Cond.selects "WhichOneAllKnow" ({ cls := "WhichOneAllKnow", name := "voiceOf", desc := "(II)I" } : Jvm.MethodName) ({ cls := "WhichOneAllKnow", name := "voiceOf", desc := "(II)I" } : Jvm.MethodName)) ∈ lw_all := lw_g (lw_at lw_m3 208 rfl) rfl
theorem q771 : (Jvm.Cond.code ({ cls := "WhichOneAllKnow", name := "voiceOf", desc := "(II)I" } : Jvm.MethodName) prog_1_method_26_code (3 : Nat) (Option.some Jvm.ClassFile.FieldType.int)) ∈ lw_all := lw_g (lw_at lw_m3 209 rfl) rfl
theorem q772 : (Jvm.Cond.methodLink "WhichOneAllKnow" (230 : Nat) ({ cls := "WhichOneAllKnow", name := "beyond", desc := "()I" } : Jvm.MethodName)) ∈ lw_all := lw_g (lw_at lw_m3 210 rfl) rfl
theorem q773 : (Jvm.Cond.privateMethod ({ cls := "WhichOneAllKnow", name := "beyond", desc := "()I" } : Jvm.MethodName)) ∈ lw_tbl := lw_at lw_m3 211 rfl
theorem q774 : (Jvm.Cond.instanceMethod ({ cls := "WhichOneAllKnow", name := "beyond", desc := "()I" } : Jvm.MethodName)) ∈ lw_all := lw_g (lw_at lw_m3 212 rfl) rfl
theorem q775 : (Jvm.Cond.code ({ cls := "WhichOneAllKnow", name := "beyond", desc := "()I" } : Jvm.MethodName) prog_1_method_7_code (1 : Nat) (Option.some Jvm.ClassFile.FieldType.int)) ∈ lw_all := lw_g (lw_at lw_m3 213 rfl) rfl
theorem q776 : (Jvm.Cond.methodLink "WhichOneAllKnow" (233 : Nat) ({ cls := "WhichOneAllKnow$Voice", name := "kind", desc := "()I" } : Jvm.MethodName)) ∈ lw_all := lw_g (lw_at lw_m3 214 rfl) rfl
theorem q800 : (Jvm.Cond.instanceMethod ({ cls := "WhichOneAllKnow", name := "highOf", desc := "(I)I" } : Jvm.MethodName)) ∈ lw_all := lw_g (lw_at lw_m3 238 rfl) rfl
theorem q801 : (Jvm.Cond.selects "WhichOneAllKnow" ({ cls := "WhichOneAllKnow", name := "highOf", desc := "(I)I" } : Jvm.MethodName) ({ cls := "WhichOneAllKnow", name := "highOf", desc := "(I)I" } : Jvm.MethodName)) ∈ lw_all := lw_g (lw_at lw_m3 239 rfl) rfl
theorem q802 : (Jvm.Cond.code ({ cls := "WhichOneAllKnow", name := "highOf", desc := "(I)I" } : Jvm.MethodName) prog_1_method_27_code (2 : Nat) (Option.some Jvm.ClassFile.FieldType.int)) ∈ lw_all := lw_g (lw_at lw_m4 0 rfl) rfl
theorem q804 : (Jvm.Cond.instanceMethod ({ cls := "WhichOneAllKnow", name := "church", desc := "(I)I" } : Jvm.MethodName)) ∈ lw_all := lw_g (lw_at lw_m4 2 rfl) rfl
theorem q805 : (Jvm.Cond.selects "WhichOneAllKnow" ({ cls := "WhichOneAllKnow", name := "church", desc := "(I)I" } : Jvm.MethodName) ({ cls := "WhichOneAllKnow", name := "church", desc := "(I)I" } : Jvm.MethodName)) ∈ lw_all := lw_g (lw_at lw_m4 3 rfl) rfl
theorem q806 : (Jvm.Cond.codeWith ({ cls := "WhichOneAllKnow", name := "church", desc := "(I)I" } : Jvm.MethodName) prog_1_method_28_code (5 : Nat) (Option.some Jvm.ClassFile.FieldType.int) [((29 : Nat), (50 : Nat), (51 : Nat), (260 : Nat)), ((0 : Nat), (50 : Nat), (72 : Nat), (21 : Nat)), ((51 : Nat), (72 : Nat), (72 : Nat), (21 : Nat))]) ∈ lw_all := lw_g (lw_at lw_m4 4 rfl) rfl
theorem q807 : (Jvm.Cond.classLink "WhichOneAllKnow" (260 : Nat) "WhichOneAllKnow$Faulty") ∈ lw_all := lw_g (lw_at lw_m4 5 rfl) rfl
theorem q808 : (Jvm.Cond.methodLink "WhichOneAllKnow" (248 : Nat) ({ cls := "WhichOneAllKnow$Church", name := "take", desc := "(LWhichOneAllKnow$Church;)LWhichOneAllKnow$Church;" } : Jvm.MethodName)) ∈ lw_all := lw_g (lw_at lw_m4 6 rfl) rfl
theorem q813 : (Jvm.Cond.classLink "WhichOneAllKnow" (252 : Nat) "WhichOneAllKnow$Reader") ∈ lw_all := lw_g (lw_at lw_m4 11 rfl) rfl
theorem q815 : (Jvm.Cond.methodLink "WhichOneAllKnow" (254 : Nat) ({ cls := "WhichOneAllKnow$Reader", name := "<init>", desc := "(LWhichOneAllKnow$Row;LWhichOneAllKnow$Church;)V" } : Jvm.MethodName)) ∈ lw_all := lw_g (lw_at lw_m4 13 rfl) rfl
theorem q832 : (Jvm.Cond.methodLink "WhichOneAllKnow" (257 : Nat) ({ cls := "WhichOneAllKnow$Reader", name := "items", desc := "()I" } : Jvm.MethodName)) ∈ lw_all := lw_g (lw_at lw_m4 30 rfl) rfl
theorem q943 : (Jvm.Cond.fieldLink "WhichOneAllKnow" (262 : Nat) "WhichOneAllKnow$Faulty" "place" "I") ∈ lw_all := lw_g (lw_at lw_m4 141 rfl) rfl
theorem q978 : (Jvm.Cond.instanceMethod ({ cls := "WhichOneAllKnow", name := "fault", desc := "()I" } : Jvm.MethodName)) ∈ lw_all := lw_g (lw_at lw_m4 176 rfl) rfl
theorem q979 : (Jvm.Cond.selects "WhichOneAllKnow" ({ cls := "WhichOneAllKnow", name := "fault", desc := "()I" } : Jvm.MethodName) ({ cls := "WhichOneAllKnow", name := "fault", desc := "()I" } : Jvm.MethodName)) ∈ lw_all := lw_g (lw_at lw_m4 177 rfl) rfl
theorem q980 : (Jvm.Cond.code ({ cls := "WhichOneAllKnow", name := "fault", desc := "()I" } : Jvm.MethodName) prog_1_method_29_code (1 : Nat) (Option.some Jvm.ClassFile.FieldType.int)) ∈ lw_all := lw_g (lw_at lw_m4 178 rfl) rfl
theorem q982 : (Jvm.Cond.instanceMethod ({ cls := "WhichOneAllKnow", name := "sung", desc := "(IIII)I" } : Jvm.MethodName)) ∈ lw_all := lw_g (lw_at lw_m4 180 rfl) rfl
theorem q983 : (Jvm.Cond.selects "WhichOneAllKnow" ({ cls := "WhichOneAllKnow", name := "sung", desc := "(IIII)I" } : Jvm.MethodName) ({ cls := "WhichOneAllKnow", name := "sung", desc := "(IIII)I" } : Jvm.MethodName)) ∈ lw_all := lw_g (lw_at lw_m4 181 rfl) rfl
theorem q984 : (Jvm.Cond.codeWith ({ cls := "WhichOneAllKnow", name := "sung", desc := "(IIII)I" } : Jvm.MethodName) prog_1_method_30_code (6 : Nat) (Option.some Jvm.ClassFile.FieldType.int) [((0 : Nat), (77 : Nat), (107 : Nat), (21 : Nat)), ((78 : Nat), (87 : Nat), (107 : Nat), (21 : Nat)), ((88 : Nat), (97 : Nat), (107 : Nat), (21 : Nat)), ((98 : Nat), (106 : Nat), (107 : Nat), (21 : Nat))]) ∈ lw_all := lw_g (lw_at lw_m4 182 rfl) rfl
theorem q985 : (Jvm.Cond.methodLink "WhichOneAllKnow" (264 : Nat) ({ cls := "WhichOneAllKnow", name := "mustSing", desc := "(II)V" } : Jvm.MethodName)) ∈ lw_all := lw_g (lw_at lw_m4 183 rfl) rfl
theorem q986 : (Jvm.Cond.static ({ cls := "WhichOneAllKnow", name := "mustSing", desc := "(II)V" } : Jvm.MethodName)) ∈ lw_all := lw_g (lw_at lw_m4 184 rfl) rfl
theorem q987 : (Jvm.Cond.code ({ cls := "WhichOneAllKnow", name := "mustSing", desc := "(II)V" } : Jvm.MethodName) prog_1_method_11_code (2 : Nat) (Option.none : Option Jvm.ClassFile.FieldType)) ∈ lw_all := lw_g (lw_at lw_m4 185 rfl) rfl
theorem q988 : (Jvm.Cond.constantLong "WhichOneAllKnow" (129 : Nat) (40 : Int64)) ∈ lw_all := lw_g (lw_at lw_m4 186 rfl) rfl
theorem q989 : (Jvm.Cond.methodLink "WhichOneAllKnow" (268 : Nat) ({ cls := "WhichOneAllKnow$Hymn", name := "of", desc := "(LWhichOneAllKnow$Church;III)LWhichOneAllKnow$Hymn;" } : Jvm.MethodName)) ∈ lw_all := lw_g (lw_at lw_m4 187 rfl) rfl
theorem q1076 : (Jvm.Cond.methodLink "WhichOneAllKnow" (281 : Nat) ({ cls := "WhichOneAllKnow$Hymn", name := "besideRight", desc := "(I)I" } : Jvm.MethodName)) ∈ lw_all := lw_g (lw_at lw_m5 34 rfl) rfl
theorem q1081 : (Jvm.Cond.instanceMethod ({ cls := "WhichOneAllKnow", name := "needs", desc := "(II)I" } : Jvm.MethodName)) ∈ lw_all := lw_g (lw_at lw_m5 39 rfl) rfl
theorem q1082 : (Jvm.Cond.selects "WhichOneAllKnow" ({ cls := "WhichOneAllKnow", name := "needs", desc := "(II)I" } : Jvm.MethodName) ({ cls := "WhichOneAllKnow", name := "needs", desc := "(II)I" } : Jvm.MethodName)) ∈ lw_all := lw_g (lw_at lw_m5 40 rfl) rfl
theorem q1083 : (Jvm.Cond.codeWith ({ cls := "WhichOneAllKnow", name := "needs", desc := "(II)I" } : Jvm.MethodName) prog_1_method_31_code (4 : Nat) (Option.some Jvm.ClassFile.FieldType.int) [((0 : Nat), (31 : Nat), (32 : Nat), (21 : Nat))]) ∈ lw_all := lw_g (lw_at lw_m5 41 rfl) rfl
theorem q1084 : (Jvm.Cond.methodLink "WhichOneAllKnow" (285 : Nat) ({ cls := "WhichOneAllKnow$Church", name := "isKnown", desc := "(II)Z" } : Jvm.MethodName)) ∈ lw_all := lw_g (lw_at lw_m5 42 rfl) rfl
theorem q1085 : (Jvm.Cond.methodLink "WhichOneAllKnow" (289 : Nat) ({ cls := "WhichOneAllKnow$Voice", name := "needs", desc := "(Z)I" } : Jvm.MethodName)) ∈ lw_all := lw_g (lw_at lw_m5 43 rfl) rfl
theorem q1087 : (Jvm.Cond.instanceMethod ({ cls := "WhichOneAllKnow", name := "verse", desc := "(III)I" } : Jvm.MethodName)) ∈ lw_all := lw_g (lw_at lw_m5 45 rfl) rfl
theorem q1088 : (Jvm.Cond.selects "WhichOneAllKnow" ({ cls := "WhichOneAllKnow", name := "verse", desc := "(III)I" } : Jvm.MethodName) ({ cls := "WhichOneAllKnow", name := "verse", desc := "(III)I" } : Jvm.MethodName)) ∈ lw_all := lw_g (lw_at lw_m5 46 rfl) rfl
theorem q1089 : (Jvm.Cond.codeWith ({ cls := "WhichOneAllKnow", name := "verse", desc := "(III)I" } : Jvm.MethodName) prog_1_method_32_code (5 : Nat) (Option.some Jvm.ClassFile.FieldType.int) [((0 : Nat), (68 : Nat), (69 : Nat), (21 : Nat))]) ∈ lw_all := lw_g (lw_at lw_m5 47 rfl) rfl
theorem q1090 : (Jvm.Cond.methodLink "WhichOneAllKnow" (293 : Nat) ({ cls := "WhichOneAllKnow$Hymn", name := "catches", desc := "()I" } : Jvm.MethodName)) ∈ lw_all := lw_g (lw_at lw_m5 48 rfl) rfl
theorem q1098 : (Jvm.Cond.methodLink "WhichOneAllKnow" (296 : Nat) ({ cls := "WhichOneAllKnow$Hymn", name := "settles", desc := "()I" } : Jvm.MethodName)) ∈ lw_all := lw_g (lw_at lw_m5 56 rfl) rfl
theorem q1107 : (Jvm.Cond.instanceMethod ({ cls := "WhichOneAllKnow", name := "best", desc := "(II)I" } : Jvm.MethodName)) ∈ lw_all := lw_g (lw_at lw_m5 65 rfl) rfl
theorem q1108 : (Jvm.Cond.selects "WhichOneAllKnow" ({ cls := "WhichOneAllKnow", name := "best", desc := "(II)I" } : Jvm.MethodName) ({ cls := "WhichOneAllKnow", name := "best", desc := "(II)I" } : Jvm.MethodName)) ∈ lw_all := lw_g (lw_at lw_m5 66 rfl) rfl
theorem q1109 : (Jvm.Cond.codeWith ({ cls := "WhichOneAllKnow", name := "best", desc := "(II)I" } : Jvm.MethodName) prog_1_method_33_code (7 : Nat) (Option.some Jvm.ClassFile.FieldType.int) [((0 : Nat), (96 : Nat), (97 : Nat), (21 : Nat))]) ∈ lw_all := lw_g (lw_at lw_m5 67 rfl) rfl
theorem q1110 : (Jvm.Cond.methodLink "WhichOneAllKnow" (299 : Nat) ({ cls := "WhichOneAllKnow$Hymn", name := "manyRight", desc := "(I)I" } : Jvm.MethodName)) ∈ lw_all := lw_g (lw_at lw_m5 68 rfl) rfl
theorem q1111 : (Jvm.Cond.methodLink "WhichOneAllKnow" (302 : Nat) ({ cls := "java/lang/Math", name := "max", desc := "(II)I" } : Jvm.MethodName)) ∈ lw_all := lw_g (lw_at lw_m5 69 rfl) rfl
theorem q1113 : (Jvm.Cond.instanceMethod ({ cls := "WhichOneAllKnow", name := "pitch", desc := "(II)I" } : Jvm.MethodName)) ∈ lw_all := lw_g (lw_at lw_m5 71 rfl) rfl
theorem q1114 : (Jvm.Cond.selects "WhichOneAllKnow" ({ cls := "WhichOneAllKnow", name := "pitch", desc := "(II)I" } : Jvm.MethodName) ({ cls := "WhichOneAllKnow", name := "pitch", desc := "(II)I" } : Jvm.MethodName)) ∈ lw_all := lw_g (lw_at lw_m5 72 rfl) rfl
theorem q1115 : (Jvm.Cond.codeWith ({ cls := "WhichOneAllKnow", name := "pitch", desc := "(II)I" } : Jvm.MethodName) prog_1_method_34_code (7 : Nat) (Option.some Jvm.ClassFile.FieldType.int) [((0 : Nat), (84 : Nat), (85 : Nat), (21 : Nat))]) ∈ lw_all := lw_g (lw_at lw_m5 73 rfl) rfl
theorem q1117 : (Jvm.Cond.instanceMethod ({ cls := "WhichOneAllKnow", name := "two", desc := "(I)I" } : Jvm.MethodName)) ∈ lw_all := lw_g (lw_at lw_m5 75 rfl) rfl
theorem q1118 : (Jvm.Cond.selects "WhichOneAllKnow" ({ cls := "WhichOneAllKnow", name := "two", desc := "(I)I" } : Jvm.MethodName) ({ cls := "WhichOneAllKnow", name := "two", desc := "(I)I" } : Jvm.MethodName)) ∈ lw_all := lw_g (lw_at lw_m5 76 rfl) rfl
theorem q1119 : (Jvm.Cond.codeWith ({ cls := "WhichOneAllKnow", name := "two", desc := "(I)I" } : Jvm.MethodName) prog_1_method_35_code (7 : Nat) (Option.some Jvm.ClassFile.FieldType.int) [((0 : Nat), (154 : Nat), (155 : Nat), (21 : Nat))]) ∈ lw_all := lw_g (lw_at lw_m5 77 rfl) rfl
theorem q1120 : (Jvm.Cond.methodLink "WhichOneAllKnow" (308 : Nat) ({ cls := "java/lang/Integer", name := "bitCount", desc := "(I)I" } : Jvm.MethodName)) ∈ lw_all := lw_g (lw_at lw_m5 78 rfl) rfl
theorem q1122 : (Jvm.Cond.instanceMethod ({ cls := "WhichOneAllKnow", name := "leaders", desc := "(IIIII)I" } : Jvm.MethodName)) ∈ lw_all := lw_g (lw_at lw_m5 80 rfl) rfl
theorem q1123 : (Jvm.Cond.selects "WhichOneAllKnow" ({ cls := "WhichOneAllKnow", name := "leaders", desc := "(IIIII)I" } : Jvm.MethodName) ({ cls := "WhichOneAllKnow", name := "leaders", desc := "(IIIII)I" } : Jvm.MethodName)) ∈ lw_all := lw_g (lw_at lw_m5 81 rfl) rfl
theorem q1124 : (Jvm.Cond.codeWith ({ cls := "WhichOneAllKnow", name := "leaders", desc := "(IIIII)I" } : Jvm.MethodName) prog_1_method_39_code (8 : Nat) (Option.some Jvm.ClassFile.FieldType.int) [((0 : Nat), (99 : Nat), (100 : Nat), (21 : Nat))]) ∈ lw_all := lw_g (lw_at lw_m5 82 rfl) rfl
theorem q1125 : (Jvm.Cond.constantLong "WhichOneAllKnow" (326 : Nat) (2 : Int64)) ∈ lw_all := lw_g (lw_at lw_m5 83 rfl) rfl
theorem q1126 : (Jvm.Cond.constantLong "WhichOneAllKnow" (328 : Nat) (-1 : Int64)) ∈ lw_all := lw_g (lw_at lw_m5 84 rfl) rfl
theorem q1127 : (Jvm.Cond.methodLink "WhichOneAllKnow" (330 : Nat) ({ cls := "WhichOneAllKnow", name := "bestLeaders", desc := "(IIII)I" } : Jvm.MethodName)) ∈ lw_all := lw_g (lw_at lw_m5 85 rfl) rfl
theorem q1128 : (Jvm.Cond.privateMethod ({ cls := "WhichOneAllKnow", name := "bestLeaders", desc := "(IIII)I" } : Jvm.MethodName)) ∈ lw_tbl := lw_at lw_m5 86 rfl
theorem q1129 : (Jvm.Cond.instanceMethod ({ cls := "WhichOneAllKnow", name := "bestLeaders", desc := "(IIII)I" } : Jvm.MethodName)) ∈ lw_all := lw_g (lw_at lw_m5 87 rfl) rfl
theorem q1130 : (Jvm.Cond.code ({ cls := "WhichOneAllKnow", name := "bestLeaders", desc := "(IIII)I" } : Jvm.MethodName) prog_1_method_38_code (9 : Nat) (Option.some Jvm.ClassFile.FieldType.int)) ∈ lw_all := lw_g (lw_at lw_m5 88 rfl) rfl
theorem q1131 : (Jvm.Cond.methodLink "WhichOneAllKnow" (313 : Nat) ({ cls := "WhichOneAllKnow", name := "leads", desc := "(II)V" } : Jvm.MethodName)) ∈ lw_all := lw_g (lw_at lw_m5 89 rfl) rfl
theorem q1132 : (Jvm.Cond.privateMethod ({ cls := "WhichOneAllKnow", name := "leads", desc := "(II)V" } : Jvm.MethodName)) ∈ lw_tbl := lw_at lw_m5 90 rfl
theorem q1133 : (Jvm.Cond.instanceMethod ({ cls := "WhichOneAllKnow", name := "leads", desc := "(II)V" } : Jvm.MethodName)) ∈ lw_all := lw_g (lw_at lw_m5 91 rfl) rfl
theorem q1134 : (Jvm.Cond.code ({ cls := "WhichOneAllKnow", name := "leads", desc := "(II)V" } : Jvm.MethodName) prog_1_method_37_code (3 : Nat) (Option.none : Option Jvm.ClassFile.FieldType)) ∈ lw_all := lw_g (lw_at lw_m5 92 rfl) rfl
theorem q1135 : (Jvm.Cond.methodLink "WhichOneAllKnow" (316 : Nat) ({ cls := "WhichOneAllKnow", name := "othersRight", desc := "(III)I" } : Jvm.MethodName)) ∈ lw_all := lw_g (lw_at lw_m5 93 rfl) rfl
theorem q1136 : (Jvm.Cond.privateMethod ({ cls := "WhichOneAllKnow", name := "othersRight", desc := "(III)I" } : Jvm.MethodName)) ∈ lw_tbl := lw_at lw_m5 94 rfl
theorem q1137 : (Jvm.Cond.instanceMethod ({ cls := "WhichOneAllKnow", name := "othersRight", desc := "(III)I" } : Jvm.MethodName)) ∈ lw_all := lw_g (lw_at lw_m5 95 rfl) rfl
theorem q1138 : (Jvm.Cond.code ({ cls := "WhichOneAllKnow", name := "othersRight", desc := "(III)I" } : Jvm.MethodName) prog_1_method_36_code (4 : Nat) (Option.some Jvm.ClassFile.FieldType.int)) ∈ lw_all := lw_g (lw_at lw_m5 96 rfl) rfl
theorem q1140 : (Jvm.Cond.instanceMethod ({ cls := "WhichOneAllKnow", name := "taught", desc := "(II)I" } : Jvm.MethodName)) ∈ lw_all := lw_g (lw_at lw_m5 98 rfl) rfl
theorem q1141 : (Jvm.Cond.selects "WhichOneAllKnow" ({ cls := "WhichOneAllKnow", name := "taught", desc := "(II)I" } : Jvm.MethodName) ({ cls := "WhichOneAllKnow", name := "taught", desc := "(II)I" } : Jvm.MethodName)) ∈ lw_all := lw_g (lw_at lw_m5 99 rfl) rfl
theorem q1142 : (Jvm.Cond.codeWith ({ cls := "WhichOneAllKnow", name := "taught", desc := "(II)I" } : Jvm.MethodName) prog_1_method_42_code (4 : Nat) (Option.some Jvm.ClassFile.FieldType.int) [((0 : Nat), (25 : Nat), (26 : Nat), (21 : Nat))]) ∈ lw_all := lw_g (lw_at lw_m5 100 rfl) rfl
theorem q1143 : (Jvm.Cond.methodLink "WhichOneAllKnow" (338 : Nat) ({ cls := "WhichOneAllKnow", name := "fewestTaught", desc := "(II)I" } : Jvm.MethodName)) ∈ lw_all := lw_g (lw_at lw_m5 101 rfl) rfl
theorem q1144 : (Jvm.Cond.privateMethod ({ cls := "WhichOneAllKnow", name := "fewestTaught", desc := "(II)I" } : Jvm.MethodName)) ∈ lw_tbl := lw_at lw_m5 102 rfl
theorem q1145 : (Jvm.Cond.instanceMethod ({ cls := "WhichOneAllKnow", name := "fewestTaught", desc := "(II)I" } : Jvm.MethodName)) ∈ lw_all := lw_g (lw_at lw_m5 103 rfl) rfl
theorem q1146 : (Jvm.Cond.code ({ cls := "WhichOneAllKnow", name := "fewestTaught", desc := "(II)I" } : Jvm.MethodName) prog_1_method_41_code (5 : Nat) (Option.some Jvm.ClassFile.FieldType.int)) ∈ lw_all := lw_g (lw_at lw_m5 104 rfl) rfl
theorem q1147 : (Jvm.Cond.methodLink "WhichOneAllKnow" (334 : Nat) ({ cls := "WhichOneAllKnow", name := "catchesWith", desc := "(III)Z" } : Jvm.MethodName)) ∈ lw_all := lw_g (lw_at lw_m5 105 rfl) rfl
theorem q1148 : (Jvm.Cond.privateMethod ({ cls := "WhichOneAllKnow", name := "catchesWith", desc := "(III)Z" } : Jvm.MethodName)) ∈ lw_tbl := lw_at lw_m5 106 rfl
theorem q1149 : (Jvm.Cond.instanceMethod ({ cls := "WhichOneAllKnow", name := "catchesWith", desc := "(III)Z" } : Jvm.MethodName)) ∈ lw_all := lw_g (lw_at lw_m5 107 rfl) rfl
theorem q1150 : (Jvm.Cond.code ({ cls := "WhichOneAllKnow", name := "catchesWith", desc := "(III)Z" } : Jvm.MethodName) prog_1_method_40_code (5 : Nat) (Option.some Jvm.ClassFile.FieldType.boolean)) ∈ lw_all := lw_g (lw_at lw_m5 108 rfl) rfl
theorem q1152 : (Jvm.Cond.instanceMethod ({ cls := "WhichOneAllKnow", name := "helps", desc := "(IIII)I" } : Jvm.MethodName)) ∈ lw_all := lw_g (lw_at lw_m5 110 rfl) rfl
theorem q1153 : (Jvm.Cond.selects "WhichOneAllKnow" ({ cls := "WhichOneAllKnow", name := "helps", desc := "(IIII)I" } : Jvm.MethodName) ({ cls := "WhichOneAllKnow", name := "helps", desc := "(IIII)I" } : Jvm.MethodName)) ∈ lw_all := lw_g (lw_at lw_m5 111 rfl) rfl
theorem q1154 : (Jvm.Cond.codeWith ({ cls := "WhichOneAllKnow", name := "helps", desc := "(IIII)I" } : Jvm.MethodName) prog_1_method_43_code (7 : Nat) (Option.some Jvm.ClassFile.FieldType.int) [((0 : Nat), (83 : Nat), (84 : Nat), (21 : Nat))]) ∈ lw_all := lw_g (lw_at lw_m5 112 rfl) rfl
theorem q1155 : (Jvm.Cond.methodLink "WhichOneAllKnow" (341 : Nat) ({ cls := "WhichOneAllKnow$Hymn", name := "of", desc := "(LWhichOneAllKnow$Church;IIII)LWhichOneAllKnow$Hymn;" } : Jvm.MethodName)) ∈ lw_all := lw_g (lw_at lw_m5 113 rfl) rfl
theorem q1157 : (Jvm.Cond.instanceMethod ({ cls := "WhichOneAllKnow", name := "late", desc := "(II)I" } : Jvm.MethodName)) ∈ lw_all := lw_g (lw_at lw_m5 115 rfl) rfl
theorem q1158 : (Jvm.Cond.selects "WhichOneAllKnow" ({ cls := "WhichOneAllKnow", name := "late", desc := "(II)I" } : Jvm.MethodName) ({ cls := "WhichOneAllKnow", name := "late", desc := "(II)I" } : Jvm.MethodName)) ∈ lw_all := lw_g (lw_at lw_m5 116 rfl) rfl
theorem q1159 : (Jvm.Cond.codeWith ({ cls := "WhichOneAllKnow", name := "late", desc := "(II)I" } : Jvm.MethodName) prog_1_method_45_code (4 : Nat) (Option.some Jvm.ClassFile.FieldType.int) [((0 : Nat), (42 : Nat), (43 : Nat), (21 : Nat))]) ∈ lw_all := lw_g (lw_at lw_m5 117 rfl) rfl
theorem q1160 : (Jvm.Cond.constantLong "WhichOneAllKnow" (344 : Nat) (99 : Int64)) ∈ lw_all := lw_g (lw_at lw_m5 118 rfl) rfl
theorem q1161 : (Jvm.Cond.methodLink "WhichOneAllKnow" (346 : Nat) ({ cls := "WhichOneAllKnow", name := "lateBy", desc := "(II)I" } : Jvm.MethodName)) ∈ lw_all := lw_g (lw_at lw_m5 119 rfl) rfl
theorem q1162 : (Jvm.Cond.privateMethod ({ cls := "WhichOneAllKnow", name := "lateBy", desc := "(II)I" } : Jvm.MethodName)) ∈ lw_tbl := lw_at lw_m5 120 rfl
theorem q1163 : (Jvm.Cond.instanceMethod ({ cls := "WhichOneAllKnow", name := "lateBy", desc := "(II)I" } : Jvm.MethodName)) ∈ lw_all := lw_g (lw_at lw_m5 121 rfl) rfl
theorem q1164 : (Jvm.Cond.code ({ cls := "WhichOneAllKnow", name := "lateBy", desc := "(II)I" } : Jvm.MethodName) prog_1_method_44_code (3 : Nat) (Option.some Jvm.ClassFile.FieldType.int)) ∈ lw_all := lw_g (lw_at lw_m5 122 rfl) rfl
theorem q1166 : (Jvm.Cond.instanceMethod ({ cls := "WhichOneAllKnow", name := "ahead", desc := "(II)I" } : Jvm.MethodName)) ∈ lw_all := lw_g (lw_at lw_m5 124 rfl) rfl
theorem q1167 : (Jvm.Cond.selects "WhichOneAllKnow" ({ cls := "WhichOneAllKnow", name := "ahead", desc := "(II)I" } : Jvm.MethodName) ({ cls := "WhichOneAllKnow", name := "ahead", desc := "(II)I" } : Jvm.MethodName)) ∈ lw_all := lw_g (lw_at lw_m5 125 rfl) rfl
theorem q1168 : (Jvm.Cond.codeWith ({ cls := "WhichOneAllKnow", name := "ahead", desc := "(II)I" } : Jvm.MethodName) prog_1_method_46_code (4 : Nat) (Option.some Jvm.ClassFile.FieldType.int) [((0 : Nat), (69 : Nat), (70 : Nat), (21 : Nat))]) ∈ lw_all := lw_g (lw_at lw_m5 126 rfl) rfl
theorem q1170 : (Jvm.Cond.instanceMethod ({ cls := "WhichOneAllKnow", name := "fits", desc := "(III)I" } : Jvm.MethodName)) ∈ lw_all := lw_g (lw_at lw_m5 128 rfl) rfl
theorem q1171 : (Jvm.Cond.selects "WhichOneAllKnow" ({ cls := "WhichOneAllKnow", name := "fits", desc := "(III)I" } : Jvm.MethodName) ({ cls := "WhichOneAllKnow", name := "fits", desc := "(III)I" } : Jvm.MethodName)) ∈ lw_all := lw_g (lw_at lw_m5 129 rfl) rfl
theorem q1172 : (Jvm.Cond.codeWith ({ cls := "WhichOneAllKnow", name := "fits", desc := "(III)I" } : Jvm.MethodName) prog_1_method_49_code (7 : Nat) (Option.some Jvm.ClassFile.FieldType.int) [((0 : Nat), (98 : Nat), (99 : Nat), (21 : Nat))]) ∈ lw_all := lw_g (lw_at lw_m5 130 rfl) rfl
theorem q1173 : (Jvm.Cond.methodLink "WhichOneAllKnow" (355 : Nat) ({ cls := "WhichOneAllKnow", name := "toldAt", desc := "(II)LWhichOneAllKnow$Row;" } : Jvm.MethodName)) ∈ lw_all := lw_g (lw_at lw_m5 131 rfl) rfl
theorem q1174 : (Jvm.Cond.privateMethod ({ cls := "WhichOneAllKnow", name := "toldAt", desc := "(II)LWhichOneAllKnow$Row;" } : Jvm.MethodName)) ∈ lw_tbl := lw_at lw_m5 132 rfl
theorem q1175 : (Jvm.Cond.instanceMethod ({ cls := "WhichOneAllKnow", name := "toldAt", desc := "(II)LWhichOneAllKnow$Row;" } : Jvm.MethodName)) ∈ lw_all := lw_g (lw_at lw_m5 133 rfl) rfl
theorem q1176 : (Jvm.Cond.code ({ cls := "WhichOneAllKnow", name := "toldAt", desc := "(II)LWhichOneAllKnow$Row;" } : Jvm.MethodName) prog_1_method_47_code (4 : Nat) (Option.some (Jvm.ClassFile.FieldType.object "WhichOneAllKnow$Row"))) ∈ lw_all := lw_g (lw_at lw_m5 134 rfl) rfl
theorem q1177 : (Jvm.Cond.methodLink "WhichOneAllKnow" (11 : Nat) ({ cls := "WhichOneAllKnow$Row", name := "length", desc := "()I" } : Jvm.MethodName)) ∈ lw_all := lw_g (lw_at lw_m5 135 rfl) rfl
theorem q1178 : (Jvm.Cond.methodLink "WhichOneAllKnow" (358 : Nat) ({ cls := "WhichOneAllKnow", name := "isHeard", desc := "(LWhichOneAllKnow$Church;LWhichOneAllKnow$Row;III)Z" } : Jvm.MethodName)) ∈ lw_all := lw_g (lw_at lw_m5 136 rfl) rfl
theorem q1179 : (Jvm.Cond.privateMethod ({ cls := "WhichOneAllKnow", name := "isHeard", desc := "(LWhichOneAllKnow$Church;LWhichOneAllKnow$Row;III)Z" } : Jvm.MethodName)) ∈ lw_tbl := lw_at lw_m5 137 rfl
theorem q1180 : (Jvm.Cond.instanceMethod ({ cls := "WhichOneAllKnow", name := "isHeard", desc := "(LWhichOneAllKnow$Church;LWhichOneAllKnow$Row;III)Z" } : Jvm.MethodName)) ∈ lw_all := lw_g (lw_at lw_m5 138 rfl) rfl
theorem q1181 : (Jvm.Cond.code ({ cls := "WhichOneAllKnow", name := "isHeard", desc := "(LWhichOneAllKnow$Church;LWhichOneAllKnow$Row;III)Z" } : Jvm.MethodName) prog_1_method_48_code (7 : Nat) (Option.some Jvm.ClassFile.FieldType.boolean)) ∈ lw_all := lw_g (lw_at lw_m5 139 rfl) rfl
theorem q1182 : (Jvm.Cond.methodLink "WhichOneAllKnow" (349 : Nat) ({ cls := "WhichOneAllKnow$Hymn", name := "manyHeard", desc := "(I)I" } : Jvm.MethodName)) ∈ lw_all := lw_g (lw_at lw_m5 140 rfl) rfl
theorem q1186 : (Jvm.Cond.methodLink "WhichOneAllKnow" (352 : Nat) ({ cls := "WhichOneAllKnow$Row", name := "asInt", desc := "(I)I" } : Jvm.MethodName)) ∈ lw_all := lw_g (lw_at lw_m5 144 rfl) rfl
theorem q1188 : (Jvm.Cond.instanceMethod ({ cls := "WhichOneAllKnow", name := "changed", desc := "(IIII)I" } : Jvm.MethodName)) ∈ lw_all := lw_g (lw_at lw_m5 146 rfl) rfl
theorem q1189 : (Jvm.Cond.selects "WhichOneAllKnow" ({ cls := "WhichOneAllKnow", name := "changed", desc := "(IIII)I" } : Jvm.MethodName) ({ cls := "WhichOneAllKnow", name := "changed", desc := "(IIII)I" } : Jvm.MethodName)) ∈ lw_all := lw_g (lw_at lw_m5 147 rfl) rfl
theorem q1190 : (Jvm.Cond.codeWith ({ cls := "WhichOneAllKnow", name := "changed", desc := "(IIII)I" } : Jvm.MethodName) prog_1_method_51_code (7 : Nat) (Option.some Jvm.ClassFile.FieldType.int) [((0 : Nat), (71 : Nat), (72 : Nat), (21 : Nat))]) ∈ lw_all := lw_g (lw_at lw_m5 148 rfl) rfl
theorem q1191 : (Jvm.Cond.methodLink "WhichOneAllKnow" (362 : Nat) ({ cls := "WhichOneAllKnow", name := "firstChanged", desc := "(LWhichOneAllKnow$Row;III)I" } : Jvm.MethodName)) ∈ lw_all := lw_g (lw_at lw_m5 149 rfl) rfl
theorem q1192 : (Jvm.Cond.privateMethod ({ cls := "WhichOneAllKnow", name := "firstChanged", desc := "(LWhichOneAllKnow$Row;III)I" } : Jvm.MethodName)) ∈ lw_tbl := lw_at lw_m5 150 rfl
theorem q1193 : (Jvm.Cond.instanceMethod ({ cls := "WhichOneAllKnow", name := "firstChanged", desc := "(LWhichOneAllKnow$Row;III)I" } : Jvm.MethodName)) ∈ lw_all := lw_g (lw_at lw_m5 151 rfl) rfl
theorem q1194 : (Jvm.Cond.code ({ cls := "WhichOneAllKnow", name := "firstChanged", desc := "(LWhichOneAllKnow$Row;III)I" } : Jvm.MethodName) prog_1_method_50_code (7 : Nat) (Option.some Jvm.ClassFile.FieldType.int)) ∈ lw_all := lw_g (lw_at lw_m5 152 rfl) rfl
theorem q1196 : (Jvm.Cond.instanceMethod ({ cls := "WhichOneAllKnow", name := "known", desc := "(II)I" } : Jvm.MethodName)) ∈ lw_all := lw_g (lw_at lw_m5 154 rfl) rfl
theorem q1197 : (Jvm.Cond.selects "WhichOneAllKnow" ({ cls := "WhichOneAllKnow", name := "known", desc := "(II)I" } : Jvm.MethodName) ({ cls := "WhichOneAllKnow", name := "known", desc := "(II)I" } : Jvm.MethodName)) ∈ lw_all := lw_g (lw_at lw_m5 155 rfl) rfl
theorem q1198 : (Jvm.Cond.codeWith ({ cls := "WhichOneAllKnow", name := "known", desc := "(II)I" } : Jvm.MethodName) prog_1_method_55_code (4 : Nat) (Option.some Jvm.ClassFile.FieldType.int) [((0 : Nat), (72 : Nat), (91 : Nat), (21 : Nat)), ((73 : Nat), (80 : Nat), (91 : Nat), (21 : Nat)), ((81 : Nat), (85 : Nat), (91 : Nat), (21 : Nat)), ((86 : Nat), (90 : Nat), (91 : Nat), (21 : Nat))]) ∈ lw_all := lw_g (lw_at lw_m5 156 rfl) rfl
theorem q1199 : (Jvm.Cond.methodLink "WhichOneAllKnow" (369 : Nat) ({ cls := "WhichOneAllKnow$Church", name := "manyKnown", desc := "(I)I" } : Jvm.MethodName)) ∈ lw_all := lw_g (lw_at lw_m5 157 rfl) rfl
theorem q1200 : (Jvm.Cond.methodLink "WhichOneAllKnow" (372 : Nat) ({ cls := "WhichOneAllKnow$Church", name := "knownTogether", desc := "()I" } : Jvm.MethodName)) ∈ lw_all := lw_g (lw_at lw_m5 158 rfl) rfl
theorem q1205 : (Jvm.Cond.methodLink "WhichOneAllKnow" (375 : Nat) ({ cls := "WhichOneAllKnow", name := "knownByAll", desc := "()I" } : Jvm.MethodName)) ∈ lw_all := lw_g (lw_at lw_m5 163 rfl) rfl
theorem q1206 : (Jvm.Cond.privateMethod ({ cls := "WhichOneAllKnow", name := "knownByAll", desc := "()I" } : Jvm.MethodName)) ∈ lw_tbl := lw_at lw_m5 164 rfl
theorem q1207 : (Jvm.Cond.instanceMethod ({ cls := "WhichOneAllKnow", name := "knownByAll", desc := "()I" } : Jvm.MethodName)) ∈ lw_all := lw_g (lw_at lw_m5 165 rfl) rfl
theorem q1208 : (Jvm.Cond.code ({ cls := "WhichOneAllKnow", name := "knownByAll", desc := "()I" } : Jvm.MethodName) prog_1_method_52_code (3 : Nat) (Option.some Jvm.ClassFile.FieldType.int)) ∈ lw_all := lw_g (lw_at lw_m5 166 rfl) rfl
theorem q1209 : (Jvm.Cond.methodLink "WhichOneAllKnow" (378 : Nat) ({ cls := "WhichOneAllKnow", name := "whomToAsk", desc := "()I" } : Jvm.MethodName)) ∈ lw_all := lw_g (lw_at lw_m5 167 rfl) rfl
theorem q1210 : (Jvm.Cond.privateMethod ({ cls := "WhichOneAllKnow", name := "whomToAsk", desc := "()I" } : Jvm.MethodName)) ∈ lw_tbl := lw_at lw_m5 168 rfl
theorem q1211 : (Jvm.Cond.instanceMethod ({ cls := "WhichOneAllKnow", name := "whomToAsk", desc := "()I" } : Jvm.MethodName)) ∈ lw_all := lw_g (lw_at lw_m5 169 rfl) rfl
theorem q1212 : (Jvm.Cond.code ({ cls := "WhichOneAllKnow", name := "whomToAsk", desc := "()I" } : Jvm.MethodName) prog_1_method_54_code (3 : Nat) (Option.some Jvm.ClassFile.FieldType.int)) ∈ lw_all := lw_g (lw_at lw_m5 170 rfl) rfl
theorem q1213 : (Jvm.Cond.methodLink "WhichOneAllKnow" (366 : Nat) ({ cls := "WhichOneAllKnow", name := "alike", desc := "(I)I" } : Jvm.MethodName)) ∈ lw_all := lw_g (lw_at lw_m5 171 rfl) rfl
theorem q1214 : (Jvm.Cond.privateMethod ({ cls := "WhichOneAllKnow", name := "alike", desc := "(I)I" } : Jvm.MethodName)) ∈ lw_tbl := lw_at lw_m5 172 rfl
theorem q1215 : (Jvm.Cond.instanceMethod ({ cls := "WhichOneAllKnow", name := "alike", desc := "(I)I" } : Jvm.MethodName)) ∈ lw_all := lw_g (lw_at lw_m5 173 rfl) rfl
theorem q1216 : (Jvm.Cond.code ({ cls := "WhichOneAllKnow", name := "alike", desc := "(I)I" } : Jvm.MethodName) prog_1_method_53_code (4 : Nat) (Option.some Jvm.ClassFile.FieldType.int)) ∈ lw_all := lw_g (lw_at lw_m5 174 rfl) rfl
theorem q1218 : (Jvm.Cond.instanceMethod ({ cls := "WhichOneAllKnow", name := "judge", desc := "(II)I" } : Jvm.MethodName)) ∈ lw_all := lw_g (lw_at lw_m5 176 rfl) rfl
theorem q1219 : (Jvm.Cond.selects "WhichOneAllKnow" ({ cls := "WhichOneAllKnow", name := "judge", desc := "(II)I" } : Jvm.MethodName) ({ cls := "WhichOneAllKnow", name := "judge", desc := "(II)I" } : Jvm.MethodName)) ∈ lw_all := lw_g (lw_at lw_m5 177 rfl) rfl
theorem q1220 : (Jvm.Cond.codeWith ({ cls := "WhichOneAllKnow", name := "judge", desc := "(II)I" } : Jvm.MethodName) prog_1_method_58_code (4 : Nat) (Option.some Jvm.ClassFile.FieldType.int) [((0 : Nat), (29 : Nat), (30 : Nat), (21 : Nat))]) ∈ lw_all := lw_g (lw_at lw_m5 178 rfl) rfl
theorem q1221 : (Jvm.Cond.methodLink "WhichOneAllKnow" (394 : Nat) ({ cls := "WhichOneAllKnow", name := "wrongIn", desc := "(LWhichOneAllKnow$Row;I)I" } : Jvm.MethodName)) ∈ lw_all := lw_g (lw_at lw_m5 179 rfl) rfl
theorem q1222 : (Jvm.Cond.privateMethod ({ cls := "WhichOneAllKnow", name := "wrongIn", desc := "(LWhichOneAllKnow$Row;I)I" } : Jvm.MethodName)) ∈ lw_tbl := lw_at lw_m5 180 rfl
theorem q1223 : (Jvm.Cond.instanceMethod ({ cls := "WhichOneAllKnow", name := "wrongIn", desc := "(LWhichOneAllKnow$Row;I)I" } : Jvm.MethodName)) ∈ lw_all := lw_g (lw_at lw_m5 181 rfl) rfl
theorem q1224 : (Jvm.Cond.code ({ cls := "WhichOneAllKnow", name := "wrongIn", desc := "(LWhichOneAllKnow$Row;I)I" } : Jvm.MethodName) prog_1_method_57_code (6 : Nat) (Option.some Jvm.ClassFile.FieldType.int)) ∈ lw_all := lw_g (lw_at lw_m5 182 rfl) rfl
theorem q1225 : (Jvm.Cond.methodLink "WhichOneAllKnow" (390 : Nat) ({ cls := "WhichOneAllKnow", name := "goesHymn", desc := "(LWhichOneAllKnow$Church;III)I" } : Jvm.MethodName)) ∈ lw_all := lw_g (lw_at lw_m5 183 rfl) rfl
theorem q1226 : (Jvm.Cond.privateMethod ({ cls := "WhichOneAllKnow", name := "goesHymn", desc := "(LWhichOneAllKnow$Church;III)I" } : Jvm.MethodName)) ∈ lw_tbl := lw_at lw_m5 184 rfl
theorem q1227 : (Jvm.Cond.instanceMethod ({ cls := "WhichOneAllKnow", name := "goesHymn", desc := "(LWhichOneAllKnow$Church;III)I" } : Jvm.MethodName)) ∈ lw_all := lw_g (lw_at lw_m5 185 rfl) rfl
theorem q1228 : (Jvm.Cond.code ({ cls := "WhichOneAllKnow", name := "goesHymn", desc := "(LWhichOneAllKnow$Church;III)I" } : Jvm.MethodName) prog_1_method_56_code (7 : Nat) (Option.some Jvm.ClassFile.FieldType.int)) ∈ lw_all := lw_g (lw_at lw_m5 186 rfl) rfl
theorem q1230 : (Jvm.Cond.instanceMethod ({ cls := "WhichOneAllKnow", name := "behind", desc := "(III)I" } : Jvm.MethodName)) ∈ lw_all := lw_g (lw_at lw_m5 188 rfl) rfl
theorem q1231 : (Jvm.Cond.selects "WhichOneAllKnow" ({ cls := "WhichOneAllKnow", name := "behind", desc := "(III)I" } : Jvm.MethodName) ({ cls := "WhichOneAllKnow", name := "behind", desc := "(III)I" } : Jvm.MethodName)) ∈ lw_all := lw_g (lw_at lw_m5 189 rfl) rfl
theorem q1232 : (Jvm.Cond.codeWith ({ cls := "WhichOneAllKnow", name := "behind", desc := "(III)I" } : Jvm.MethodName) prog_1_method_59_code (5 : Nat) (Option.some Jvm.ClassFile.FieldType.int) [((0 : Nat), (112 : Nat), (113 : Nat), (21 : Nat))]) ∈ lw_all := lw_g (lw_at lw_m5 190 rfl) rfl
theorem q1234 : (Jvm.Cond.instanceMethod ({ cls := "WhichOneAllKnow", name := "done", desc := "(II)I" } : Jvm.MethodName)) ∈ lw_all := lw_g (lw_at lw_m5 192 rfl) rfl
theorem q1235 : (Jvm.Cond.selects "WhichOneAllKnow" ({ cls := "WhichOneAllKnow", name := "done", desc := "(II)I" } : Jvm.MethodName) ({ cls := "WhichOneAllKnow", name := "done", desc := "(II)I" } : Jvm.MethodName)) ∈ lw_all := lw_g (lw_at lw_m5 193 rfl) rfl
theorem q1236 : (Jvm.Cond.codeWith ({ cls := "WhichOneAllKnow", name := "done", desc := "(II)I" } : Jvm.MethodName) prog_1_method_60_code (4 : Nat) (Option.some Jvm.ClassFile.FieldType.int) [((0 : Nat), (52 : Nat), (53 : Nat), (21 : Nat))]) ∈ lw_all := lw_g (lw_at lw_m5 194 rfl) rfl
theorem q1238 : (Jvm.Cond.instanceMethod ({ cls := "WhichOneAllKnow", name := "hymn", desc := "(III)I" } : Jvm.MethodName)) ∈ lw_all := lw_g (lw_at lw_m5 196 rfl) rfl
theorem q1239 : (Jvm.Cond.selects "WhichOneAllKnow" ({ cls := "WhichOneAllKnow", name := "hymn", desc := "(III)I" } : Jvm.MethodName) ({ cls := "WhichOneAllKnow", name := "hymn", desc := "(III)I" } : Jvm.MethodName)) ∈ lw_all := lw_g (lw_at lw_m5 197 rfl) rfl
theorem q1240 : (Jvm.Cond.codeWith ({ cls := "WhichOneAllKnow", name := "hymn", desc := "(III)I" } : Jvm.MethodName) prog_1_method_61_code (5 : Nat) (Option.some Jvm.ClassFile.FieldType.int) [((0 : Nat), (50 : Nat), (51 : Nat), (21 : Nat))]) ∈ lw_all := lw_g (lw_at lw_m5 198 rfl) rfl
theorem q1242 : (Jvm.Cond.instanceMethod ({ cls := "WhichOneAllKnow", name := "years", desc := "(I)I" } : Jvm.MethodName)) ∈ lw_all := lw_g (lw_at lw_m5 200 rfl) rfl
theorem q1243 : (Jvm.Cond.selects "WhichOneAllKnow" ({ cls := "WhichOneAllKnow", name := "years", desc := "(I)I" } : Jvm.MethodName) ({ cls := "WhichOneAllKnow", name := "years", desc := "(I)I" } : Jvm.MethodName)) ∈ lw_all := lw_g (lw_at lw_m5 201 rfl) rfl
theorem q1244 : (Jvm.Cond.codeWith ({ cls := "WhichOneAllKnow", name := "years", desc := "(I)I" } : Jvm.MethodName) prog_1_method_62_code (5 : Nat) (Option.some Jvm.ClassFile.FieldType.int) [((0 : Nat), (103 : Nat), (104 : Nat), (21 : Nat))]) ∈ lw_all := lw_g (lw_at lw_m5 202 rfl) rfl
theorem q1245 : (Jvm.Cond.constantLong "WhichOneAllKnow" (398 : Nat) (60 : Int64)) ∈ lw_all := lw_g (lw_at lw_m5 203 rfl) rfl
theorem q1246 : (Jvm.Cond.methodLink "WhichOneAllKnow" (400 : Nat) ({ cls := "WhichOneAllKnow$Church", name := "draw", desc := "(I)I" } : Jvm.MethodName)) ∈ lw_all := lw_g (lw_at lw_m5 204 rfl) rfl
theorem q1252 : (Jvm.Cond.instanceMethod ({ cls := "WhichOneAllKnow", name := "seed", desc := "(I)I" } : Jvm.MethodName)) ∈ lw_all := lw_g (lw_at lw_m5 210 rfl) rfl
theorem q1253 : (Jvm.Cond.selects "WhichOneAllKnow" ({ cls := "WhichOneAllKnow", name := "seed", desc := "(I)I" } : Jvm.MethodName) ({ cls := "WhichOneAllKnow", name := "seed", desc := "(I)I" } : Jvm.MethodName)) ∈ lw_all := lw_g (lw_at lw_m5 211 rfl) rfl
theorem q1254 : (Jvm.Cond.code ({ cls := "WhichOneAllKnow", name := "seed", desc := "(I)I" } : Jvm.MethodName) prog_1_method_63_code (3 : Nat) (Option.some Jvm.ClassFile.FieldType.int)) ∈ lw_all := lw_g (lw_at lw_m5 212 rfl) rfl
theorem q1256 : (Jvm.Cond.instanceMethod ({ cls := "WhichOneAllKnow", name := "act", desc := "(III)I" } : Jvm.MethodName)) ∈ lw_all := lw_g (lw_at lw_m5 214 rfl) rfl
theorem q1257 : (Jvm.Cond.selects "WhichOneAllKnow" ({ cls := "WhichOneAllKnow", name := "act", desc := "(III)I" } : Jvm.MethodName) ({ cls := "WhichOneAllKnow", name := "act", desc := "(III)I" } : Jvm.MethodName)) ∈ lw_all := lw_g (lw_at lw_m5 215 rfl) rfl
theorem q1258 : (Jvm.Cond.code ({ cls := "WhichOneAllKnow", name := "act", desc := "(III)I" } : Jvm.MethodName) prog_1_method_64_code (5 : Nat) (Option.some Jvm.ClassFile.FieldType.int)) ∈ lw_all := lw_g (lw_at lw_m5 216 rfl) rfl
theorem q1259 : (Jvm.Cond.methodLink "WhichOneAllKnow" (407 : Nat) ({ cls := "WhichOneAllKnow$Voice", name := "breathing", desc := "(ILWhichOneAllKnow$Trace;)I" } : Jvm.MethodName)) ∈ lw_all := lw_g (lw_at lw_m5 217 rfl) rfl
theorem q1286 : (Jvm.Cond.methodLink "WhichOneAllKnow" (411 : Nat) ({ cls := "WhichOneAllKnow$Voice", name := "singing", desc := "(ILWhichOneAllKnow$Trace;)I" } : Jvm.MethodName)) ∈ lw_all := lw_g (lw_at lw_m6 4 rfl) rfl
theorem q1312 : (Jvm.Cond.methodLink "WhichOneAllKnow" (414 : Nat) ({ cls := "WhichOneAllKnow$Voice", name := "sitting", desc := "(ILWhichOneAllKnow$Trace;)I" } : Jvm.MethodName)) ∈ lw_all := lw_g (lw_at lw_m6 30 rfl) rfl
theorem q1334 : (Jvm.Cond.instanceMethod ({ cls := "WhichOneAllKnow", name := "trace", desc := "(I)I" } : Jvm.MethodName)) ∈ lw_all := lw_g (lw_at lw_m6 52 rfl) rfl
theorem q1335 : (Jvm.Cond.selects "WhichOneAllKnow" ({ cls := "WhichOneAllKnow", name := "trace", desc := "(I)I" } : Jvm.MethodName) ({ cls := "WhichOneAllKnow", name := "trace", desc := "(I)I" } : Jvm.MethodName)) ∈ lw_all := lw_g (lw_at lw_m6 53 rfl) rfl
theorem q1336 : (Jvm.Cond.code ({ cls := "WhichOneAllKnow", name := "trace", desc := "(I)I" } : Jvm.MethodName) prog_1_method_65_code (2 : Nat) (Option.some Jvm.ClassFile.FieldType.int)) ∈ lw_all := lw_g (lw_at lw_m6 54 rfl) rfl
theorem q1337 : (Jvm.Cond.methodLink "WhichOneAllKnow" (417 : Nat) ({ cls := "java/lang/Math", name := "min", desc := "(II)I" } : Jvm.MethodName)) ∈ lw_all := lw_g (lw_at lw_m6 55 rfl) rfl
theorem q1341 : (Jvm.Cond.instanceMethod ({ cls := "WhichOneAllKnow", name := "image", desc := "()I" } : Jvm.MethodName)) ∈ lw_all := lw_g (lw_at lw_m6 59 rfl) rfl
theorem q1342 : (Jvm.Cond.selects "WhichOneAllKnow" ({ cls := "WhichOneAllKnow", name := "image", desc := "()I" } : Jvm.MethodName) ({ cls := "WhichOneAllKnow", name := "image", desc := "()I" } : Jvm.MethodName)) ∈ lw_all := lw_g (lw_at lw_m6 60 rfl) rfl
theorem q1343 : (Jvm.Cond.code ({ cls := "WhichOneAllKnow", name := "image", desc := "()I" } : Jvm.MethodName) prog_1_method_66_code (1 : Nat) (Option.some Jvm.ClassFile.FieldType.int)) ∈ lw_all := lw_g (lw_at lw_m6 61 rfl) rfl
theorem q1345 : (Jvm.Cond.instanceMethod ({ cls := "WhichOneAllKnow", name := "restore", desc := "()I" } : Jvm.MethodName)) ∈ lw_all := lw_g (lw_at lw_m6 63 rfl) rfl
theorem q1346 : (Jvm.Cond.selects "WhichOneAllKnow" ({ cls := "WhichOneAllKnow", name := "restore", desc := "()I" } : Jvm.MethodName) ({ cls := "WhichOneAllKnow", name := "restore", desc := "()I" } : Jvm.MethodName)) ∈ lw_all := lw_g (lw_at lw_m6 64 rfl) rfl
theorem q1347 : (Jvm.Cond.codeWith ({ cls := "WhichOneAllKnow", name := "restore", desc := "()I" } : Jvm.MethodName) prog_1_method_67_code (2 : Nat) (Option.some Jvm.ClassFile.FieldType.int) [((0 : Nat), (46 : Nat), (47 : Nat), (21 : Nat))]) ∈ lw_all := lw_g (lw_at lw_m6 65 rfl) rfl
theorem q1348 : (Jvm.Cond.methodLink "WhichOneAllKnow" (426 : Nat) ({ cls := "WhichOneAllKnow", name := "shelvesFollow", desc := "()V" } : Jvm.MethodName)) ∈ lw_all := lw_g (lw_at lw_m6 66 rfl) rfl
theorem q1349 : (Jvm.Cond.privateMethod ({ cls := "WhichOneAllKnow", name := "shelvesFollow", desc := "()V" } : Jvm.MethodName)) ∈ lw_tbl := lw_at lw_m6 67 rfl
theorem q1350 : (Jvm.Cond.instanceMethod ({ cls := "WhichOneAllKnow", name := "shelvesFollow", desc := "()V" } : Jvm.MethodName)) ∈ lw_all := lw_g (lw_at lw_m6 68 rfl) rfl
theorem q1351 : (Jvm.Cond.code ({ cls := "WhichOneAllKnow", name := "shelvesFollow", desc := "()V" } : Jvm.MethodName) prog_1_method_12_code (6 : Nat) (Option.none : Option Jvm.ClassFile.FieldType)) ∈ lw_all := lw_g (lw_at lw_m6 69 rfl) rfl
theorem q1353 : (Jvm.Cond.instanceMethod ({ cls := "WhichOneAllKnow", name := "status", desc := "(I)I" } : Jvm.MethodName)) ∈ lw_all := lw_g (lw_at lw_m6 71 rfl) rfl
theorem q1354 : (Jvm.Cond.selects "WhichOneAllKnow" ({ cls := "WhichOneAllKnow", name := "status", desc := "(I)I" } : Jvm.MethodName) ({ cls := "WhichOneAllKnow", name := "status", desc := "(I)I" } : Jvm.MethodName)) ∈ lw_all := lw_g (lw_at lw_m6 72 rfl) rfl
theorem q1355 : (Jvm.Cond.code ({ cls := "WhichOneAllKnow", name := "status", desc := "(I)I" } : Jvm.MethodName) prog_1_method_68_code (2 : Nat) (Option.some Jvm.ClassFile.FieldType.int)) ∈ lw_all := lw_g (lw_at lw_m6 73 rfl) rfl
theorem q1356 : (Jvm.Cond.constantLong "WhichOneAllKnow" (429 : Nat) (17 : Int64)) ∈ lw_all := lw_g (lw_at lw_m6 74 rfl) rfl
theorem in_X0 : ∀ w ∈ wsX00, w ∈ lw_all := lw_in wsX00 [368, 370, 372, 374, 376, 378, 380, 382, 384, 386, 388, 390, 392, 394] (by decide +kernel) (by decide +kernel)
